/-! a refusal -/
set_option maxRecDepth 100000
section Must
variable {G : Gx} {d : Nat} {h : AH}
/-- a demand: it holds, or a refusal is thrown -/
theorem k_must {x w : Int32} {Q : AH → Prop} {E : Nat → AH → Prop} (hd : 8 ≤ d) (yes : ¬ x = 0 → Q h) (no : x = 0 → ∀ h' y, Thr 21 noP 1 7 h h' y → h'.i 21006 y = w → E y h') : Cw G mX1_must d 0 [vI x, vI w] h (kV Q E) := by
  obtain ⟨d, rfl⟩ : ∃ d', d = d' + 2 := ⟨d - 2, by omega⟩
  refine eX1_must h x w (fun _ => sX1_must_0 h x w ⟨yes, fun c q2 e2 _ h3 e3 => ?_⟩)
  subst e2
  have k3 : h3.kd h.z = 21 := by rw [e3, AH.kd_nw, if_pos rfl]
  have r3 : h3.r 21004 h.z = 0 := by rw [e3, AH.r_nw, if_pos rfl]
  refine eX21_init (d := d) h3 h.z w (fun _ => sX21_init_0 (t := h.z) h3 h.z w ⟨k3, r3, by omega, fun h4 e4 h6 e6 => no c h6 h.z ⟨?_, ?_, ?_, ?_⟩ ?_⟩)
  · rw [e6]
    show h4.kd h.z = 21
    rw [e4, exH_kd]
    exact k3
  · rw [e6, e4, e3]
    exact ((Same.rf.new _ _ _ _ _).exH 21 (Or.inr (Nat.le_refl _))).pi _ _ (Or.inr (Nat.le_refl _))
  · rw [e6]
    show h4.z ≤ _
    rw [e4, exH_z, e3]
    exact Nat.le_refl _
  · rw [e6]
    show h4.s ≤ _
    rw [e4, exH_s, e3]
    exact Nat.le_refl _
  · rw [e6, AH.i_pi, if_pos ⟨rfl, rfl⟩]
end Must

/-! small methods -/
set_option maxRecDepth 100000
section Small
variable {G : Gx} {d : Nat} {h : AH}
theorem Ring_modulus_spec {R : Nat} (hd : 1 ≤ d) (hR : RingS h R) : Cw G mX4_modulus d 0 [vR R] h (kR (fun x h' => x = R + 1 ∧ h' = h) nE) := by
  obtain ⟨d, rfl⟩ : ∃ d', d = d' + 1 := ⟨d - 1, by omega⟩
  exact eX4_modulus h R (fun _ => sX4_modulus_0 h R ⟨hR.1, fun r2 e2 => ⟨e2.trans hR.2.1, rfl⟩⟩)
theorem minL_spec (hd : 1 ≤ d) (x y : Int64) : Cw G mJ0_min d 0 [vJ x, vJ y] h (kJ (fun z h' => z = (if y < x then y else x) ∧ h' = h) nE) := by
  obtain ⟨d, rfl⟩ : ∃ d', d = d' + 1 := ⟨d - 1, by omega⟩
  exact eJ0_min h x y (fun _ => sJ0_min_0 h x y ⟨fun c => ⟨by rw [if_pos c], rfl⟩, fun c => ⟨by rw [if_neg c], rfl⟩⟩)
theorem maxL_spec (hd : 1 ≤ d) (x y : Int64) : Cw G mJ0_max d 0 [vJ x, vJ y] h (kJ (fun z h' => z = (if x < y then y else x) ∧ h' = h) nE) := by
  obtain ⟨d, rfl⟩ : ∃ d', d = d' + 1 := ⟨d - 1, by omega⟩
  exact eJ0_max h x y (fun _ => sJ0_max_0 h x y ⟨fun c => ⟨by rw [if_pos c], rfl⟩, fun c => ⟨by rw [if_neg c], rfl⟩⟩)
theorem absL_spec (hd : 1 ≤ d) (x : Int64) : Cw G mJ0_abs d 0 [vJ x] h (kJ (fun z h' => z = (if 0 ≤ x then x else -x) ∧ h' = h) nE) := by
  obtain ⟨d, rfl⟩ : ∃ d', d = d' + 1 := ⟨d - 1, by omega⟩
  exact eJ0_abs h x (fun _ => sJ0_abs_0 h x ⟨fun c => ⟨by rw [if_pos c], rfl⟩, fun c => ⟨by rw [if_neg c], rfl⟩⟩)
theorem MD_shortest_spec {a at_ n : Nat} (hd : 1 ≤ d) (ka : h.kd a = 101) (la : at_ + n ≤ (h.ai a).length) (hn0 : 0 < n) (hn : n < 2 ^ 31) (la2 : (h.ai a).length < 2 ^ 31) : Cw G mX24_shortest d 0 [vR a, vI (nI at_), vI (nI n)] h (kI (fun x h' => x = (if (h.ai a).getD at_ 0 < 0 then 0 else if n = 1 then 1 else if ¬ (h.ai a).getD at_ 0 = 0 then 1 else if 0 ≤ (h.ai a).getD (at_ + 1) 0 then 0 else 1) ∧ h' = h) nE) := by
  obtain ⟨d, rfl⟩ : ∃ d', d = d' + 1 := ⟨d - 1, by omega⟩
  refine eX24_shortest h a (nI at_) (nI n) (fun _ => sX24_shortest_0 h a (nI at_) (nI n) ⟨ka, ?_⟩)
  rw [pk_cl at_ rfl (by omega), nI_1, pk_cl (at_ + 1) rfl (by omega)]
  refine ⟨pk_in at_ _ (by omega), fun c => ⟨by rw [if_pos c], rfl⟩, fun c => pk_eq n 1 (fun e => ⟨by rw [if_neg c, if_pos e], rfl⟩) (fun e => ⟨pk_in at_ _ (by omega), fun c2 => ⟨by rw [if_neg c, if_neg e, if_pos c2], rfl⟩, fun c2 => ⟨pk_in (at_ + 1) _ (by omega), fun c3 => ⟨by rw [if_neg c, if_neg e, if_neg (fun q => q c2), if_pos c3], rfl⟩, fun c3 => ⟨by rw [if_neg c, if_neg e, if_neg (fun q => q c2), if_neg c3], rfl⟩⟩⟩)⟩
end Small

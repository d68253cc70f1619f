/-! operations that never are; the form of a signature that is asked for -/
set_option maxRecDepth 100000
def nvP (op : Nat) : Prop := (126 ≤ op ∧ op ≤ 129) ∨ (131 ≤ op ∧ op ≤ 134) ∨ op = 141 ∨ op = 142 ∨ (149 ≤ op ∧ op ≤ 153) ∨ op = 101 ∨ op = 102
theorem nvP_def (op : Nat) : nvP op ↔ ((126 ≤ op ∧ op ≤ 129) ∨ (131 ≤ op ∧ op ≤ 134) ∨ op = 141 ∨ op = 142 ∨ (149 ≤ op ∧ op ≤ 153) ∨ op = 101 ∨ op = 102) := Iff.rfl
section Never
variable {G : Gx} {d : Nat} {h : AH}
theorem never_27 {op : Nat} (hop : op < 256) (c1 : ¬ (126 ≤ op ∧ op ≤ 129)) (c2 : ¬ (131 ≤ op ∧ op ≤ 134)) : Aw G mX7_never (d + 1) 0 h (kI (fun x h' => ((x = 1 ∧ nvP op) ∨ (x = 0 ∧ ¬ nvP op)) ∧ h' = h) nE) 27 [vI (nI op)] [] h := by
  have yes : nvP op → (kI (fun x h' => ((x = 1 ∧ nvP op) ∨ (x = 0 ∧ ¬ nvP op)) ∧ h' = h) nE) (.inl (some (vI 1))) h := fun z => ⟨Or.inl ⟨rfl, z⟩, rfl⟩
  have no : ¬ nvP op → (kI (fun x h' => ((x = 1 ∧ nvP op) ∨ (x = 0 ∧ ¬ nvP op)) ∧ h' = h) nE) (.inl (some (vI 0))) h := fun z => ⟨Or.inr ⟨rfl, z⟩, rfl⟩
  have last : ¬ (op = 141 ∨ op = 142 ∨ (149 ≤ op ∧ op ≤ 153)) → ((nI op = 101 → (kI (fun x h' => ((x = 1 ∧ nvP op) ∨ (x = 0 ∧ ¬ nvP op)) ∧ h' = h) nE) (.inl (some (vI 1))) h) ∧ (¬ nI op = 101 → ((¬ nI op = 102 → (kI (fun x h' => ((x = 1 ∧ nvP op) ∨ (x = 0 ∧ ¬ nvP op)) ∧ h' = h) nE) (.inl (some (vI 0))) h) ∧ (nI op = 102 → (kI (fun x h' => ((x = 1 ∧ nvP op) ∨ (x = 0 ∧ ¬ nvP op)) ∧ h' = h) nE) (.inl (some (vI 1))) h)))) := fun c => by
    refine pk_eq op 101 (fun z => yes ((nvP_def op).mpr (by omega))) (fun z => pk_eq' op 102 (fun z2 => no (fun q => ?_)) (fun z2 => yes ((nvP_def op).mpr (by omega))) rfl rfl (by omega) (by omega))
    rw [nvP_def] at q
    omega
  exact sX7_never_27 h (nI op) (pk_eq op 141 (fun z => yes ((nvP_def op).mpr (by omega))) (fun z => pk_eq op 142 (fun z2 => yes ((nvP_def op).mpr (by omega))) (fun z2 => pk_lt op 149 (fun z3 => last (by omega)) (fun z3 => pk_le op 153 (fun z4 => yes ((nvP_def op).mpr (by omega))) (fun z4 => last (by omega))))))
theorem Mc_never_spec {op : Nat} (hd : 1 ≤ d) (hop : op < 256) : Cw G mX7_never d 0 [vI (nI op)] h (kI (fun x h' => ((x = 1 ∧ nvP op) ∨ (x = 0 ∧ ¬ nvP op)) ∧ h' = h) nE) := by
  obtain ⟨d, rfl⟩ : ∃ d', d = d' + 1 := ⟨d - 1, by omega⟩
  have yes : nvP op → (kI (fun x h' => ((x = 1 ∧ nvP op) ∨ (x = 0 ∧ ¬ nvP op)) ∧ h' = h) nE) (.inl (some (vI 1))) h := fun z => ⟨Or.inl ⟨rfl, z⟩, rfl⟩
  refine eX7_never h (nI op) (fun _ => sX7_never_0 h (nI op) ?_)
  exact pk_lt op 126 (fun z => pk_lt op 131 (fun z2 => never_27 hop (by omega) (by omega)) (fun z2 => absurd z2 (by omega))) (fun z => pk_le op 129 (fun z2 => yes ((nvP_def op).mpr (by omega))) (fun z2 => pk_lt op 131 (fun z3 => never_27 hop (by omega) (by omega)) (fun z3 => pk_le op 134 (fun z4 => yes ((nvP_def op).mpr (by omega))) (fun z4 => never_27 hop (by omega) (by omega)))))
/-- a signature is empty or in strict form -/
theorem Mc_encoded_spec {e : Nat} {l : List Int32} (hd : 6 ≤ d) (E : ElAt h e l) : Cw G mX7_encoded d 0 [vR e] h (kV (fun h' => (l.length = 0 ∨ strictP (h.ai (e + 1)) 0 l.length = true) ∧ h' = h) (fun y h' => ¬ (l.length = 0 ∨ strictP (h.ai (e + 1)) 0 l.length = true) ∧ Thr 17 noP 1 6 h h' y)) := by
  obtain ⟨d, rfl⟩ : ∃ d', d = d' + 1 := ⟨d - 1, by omega⟩
  obtain ⟨⟨k1, k2, k3, k4⟩, k5, k6, k7⟩ := E
  refine eX7_encoded h e (fun wf => sX7_encoded_0 h e ⟨k1, ?_⟩)
  rw [k5]
  refine pk_le l.length 0 (fun c => ⟨Or.inl (by omega), rfl⟩) (fun c r3 e3 => ?_)
  have e3' : r3 = e + 1 := e3.trans k2
  subst e3'
  refine (Cv_strict_spec (o := 0) (by omega) k3 (by omega) (by omega)).nI (fun x4 h5 Q => ?_)
  obtain ⟨rfl, rfl⟩ := Q
  by_cases z : strictP (h5.ai (e + 1)) 0 l.length = true
  · rw [if_pos z]
    exact ⟨fun _ => ⟨Or.inr z, rfl⟩, fun q => absurd q (by decide)⟩
  · rw [if_neg z]
    exact ⟨fun q => absurd rfl q, fun _ q7 e7 _ h8 e8 => ⟨by omega, fun h11 e11 => ⟨fun q => q.elim (fun q => absurd c (by omega)) z, Thr.nw Same.rf e7 e8 (Nat.le_refl _) (Nat.le_refl _) e11⟩⟩⟩
end Never

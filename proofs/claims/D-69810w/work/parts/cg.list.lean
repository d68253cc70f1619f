/-! lists of the JDK: size, get -/
set_option maxRecDepth 100000
/-- a list a whose row e holds these -/
def AlAt (h : AH) (a e : Nat) (l : List Nat) : Prop := h.kd a = 29 ∧ h.i 29002 a = nI l.length ∧ h.r 29001 a = e ∧ h.kd e = 113 ∧ (l.length ≤ (h.ar e).length ∧ (h.ar e).length < 2 ^ 24) ∧ ∀ i, i < l.length → (h.ar e).getD i 0 = l.getD i 0
section List_
variable {G : Gx} {d : Nat} {h : AH} {a e i : Nat} {l : List Nat}
theorem AL_size_spec (hd : 1 ≤ d) (k : h.kd a = 29) : Cw G mJ13_size d 0 [vR a] h (kI (fun x h' => x = h.i 29002 a ∧ h' = h) nE) := by
  obtain ⟨d, rfl⟩ : ∃ d', d = d' + 1 := ⟨d - 1, by omega⟩
  exact eJ13_size h a (fun _ => sJ13_size_0 h a ⟨k, rfl, rfl⟩)
theorem AL_data_spec (hd : 1 ≤ d) (A : AlAt h a e l) (hi : i < l.length) : Cw G mJ13_elementData d 0 [vR a, vI (nI i)] h (kR (fun x h' => x = l.getD i 0 ∧ h' = h) nE) := by
  obtain ⟨d, rfl⟩ : ∃ d', d = d' + 1 := ⟨d - 1, by omega⟩
  obtain ⟨a1, a2, a3, a4, ⟨a5, a6⟩, a7⟩ := A
  refine eJ13_elementData h a (nI i) (fun _ => sJ13_elementData_0 h a (nI i) ⟨a1, fun r2 e2 => ?_⟩)
  rw [show r2 = e from e2.trans a3, pk_cl i rfl (by omega)]
  exact ⟨a4, pk_in i (h.ar e).length (by omega), fun r5 e5 => ⟨e5.trans (a7 i hi), rfl⟩⟩
theorem J3_check_spec {n : Nat} (hd : 1 ≤ d) (hi : i < n) (hn : n < 2 ^ 31) : Cw G mJ3_checkIndex d 0 [vI (nI i), vI (nI n), vR 0] h (kI (fun x h' => x = nI i ∧ h' = h) nE) := by
  obtain ⟨d, rfl⟩ : ∃ d', d = d' + 1 := ⟨d - 1, by omega⟩
  exact eJ3_checkIndex h (nI i) (nI n) 0 (fun _ => sJ3_checkIndex_0 h (nI i) (nI n) 0 (pk_lt i 0 (fun q => absurd q (Nat.not_lt_zero _)) (fun _ => pk_lt i n (fun _ => ⟨rfl, rfl⟩) (fun q => absurd hi (by omega)))))
theorem J16_check_spec {n : Nat} (hd : 2 ≤ d) (hi : i < n) (hn : n < 2 ^ 31) : Cw G mJ16_checkIndex d 0 [vI (nI i), vI (nI n)] h (kI (fun x h' => x = nI i ∧ h' = h) nE) := by
  obtain ⟨d, rfl⟩ : ∃ d', d = d' + 1 := ⟨d - 1, by omega⟩
  exact eJ16_checkIndex h (nI i) (nI n) (fun _ => sJ16_checkIndex_0 h (nI i) (nI n) ((J3_check_spec (by omega) hi hn).nI (fun x1 h2 Q => Q)))
theorem AL_get_spec (hd : 3 ≤ d) (A : AlAt h a e l) (hi : i < l.length) : Cw G mJ13_get d 0 [vR a, vI (nI i)] h (kR (fun x h' => x = l.getD i 0 ∧ h' = h) nE) := by
  obtain ⟨d, rfl⟩ : ∃ d', d = d' + 1 := ⟨d - 1, by omega⟩
  have A' := A
  obtain ⟨a1, a2, a3, a4, ⟨a5, a6⟩, a7⟩ := A
  refine eJ13_get h a (nI i) (fun _ => sJ13_get_0 h a (nI i) ⟨a1, ?_⟩)
  rw [a2]
  refine (J16_check_spec (by omega) hi (by omega)).nI (fun x2 h3 Q => ?_)
  rw [Q.2]
  exact (AL_data_spec (by omega) A' hi).nR (fun x4 h5 Q => Q)
end List_

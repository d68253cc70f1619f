/-! whether a transaction is the last of its kind, the component; the subsidy -/
set_option maxRecDepth 100000
section Last
variable {G : Gx} {d : Nat} {h : AH} {tx ir n lk ht tm : Nat} {sf : Nat → Nat} {ob : Nat → Nat}
/-- all sequences are the highest -/
def lastB (n lk ht tm : Nat) (sf : Nat → Nat) : Bool := decide (lk = 0 ∨ (lk < 500000000 ∧ lk < ht) ∨ (500000000 ≤ lk ∧ lk < tm)) || (List.range n).all (fun i => decide (sf i = 4294967295))
theorem X1_last_spec (hd : 1 ≤ d) (kt : h.kd tx = 18) (l4 : h.l 18004 tx = lN lk) (r5 : h.r 18005 tx = ir) (ki : h.kd ir = 111) (li : (h.ar ir).length = n) (hn : n < 2 ^ 16) (hi : ∀ i, i < n → (h.ar ir).getD i 0 = ob i ∧ h.kd (ob i) = 19 ∧ h.l 19004 (ob i) = lN (sf i) ∧ sf i < 4294967296) (hlk : lk < 4294967296) (hht : ht < 2 ^ 31) (htm : tm < 4294967296) :
    Cw G mX1_last d 0 [vR tx, vI (nI ht), vJ (lN tm)] h (kI (fun x h' => x = bB (lastB n lk ht tm sf) ∧ h' = h) nE) := by
  obtain ⟨d, rfl⟩ : ∃ d', d = d' + 1 := ⟨d - 1, by omega⟩
  have loop : ¬ (lk = 0 ∨ (lk < 500000000 ∧ lk < ht) ∨ (500000000 ≤ lk ∧ lk < tm)) → Aw G mX1_last (d + 1) 0 h (kI (fun x h' => x = bB (lastB n lk ht tm sf) ∧ h' = h) nE) 50 [vU, vU, vU, vU, vR ir, vI (nI n), vI 0, vU] [] h := fun q => by
    refine loop_uc (n := n) (P := fun k (_ : Unit) => Aw G mX1_last (d + 1) 0 h (kI (fun x h' => x = bB (lastB n lk ht tm sf) ∧ h' = h) nE) 50 [vU, vU, vU, vU, vR ir, vI (nI n), vI (nI k), vU] [] h) (fun k _ => ∀ i, i < k → sf i = 4294967295) (fun k _ hk hI ih => ?_) 0 () (Nat.zero_le _) (fun i hi => absurd hi (Nat.not_lt_zero _))
    refine sX1_last_50 h ir (nI n) (nI k) (pk_le n k (fun z => ⟨?_, rfl⟩) (fun z => ⟨ki, ?_⟩))
    · unfold lastB
      rw [decide_eq_false q, Bool.false_or, List.all_eq_true.mpr (fun i hi => decide_eq_true (hI i (by have := List.mem_range.mp hi; omega)))]
      rfl
    · obtain ⟨b1, b2, b3, b4⟩ := hi k z
      rw [li, pk_cl k rfl (by omega), b1, nI_1]
      refine ⟨pk_in k n z, fun r4 e4 => ?_⟩
      rw [e4, b3, show lN (sf k) = 4294967295 ↔ sf k = 4294967295 from lN_eq63 (b := 4294967295) (by omega) (by decide)]
      refine ⟨b2, fun c => ih z () (fun i hi => ?_), fun c => ⟨?_, rfl⟩⟩
      · by_cases e : i = k
        · rw [e]; exact c
        · exact hI i (by omega)
      · have : (List.range n).all (fun i => decide (sf i = 4294967295)) = false := by
          rw [Bool.eq_false_iff]
          intro w
          exact c (of_decide_eq_true (List.all_eq_true.mp w k (List.mem_range.mpr z)))
        unfold lastB
        rw [decide_eq_false q, Bool.false_or, this]
        rfl
  have yes : (lk = 0 ∨ (lk < 500000000 ∧ lk < ht) ∨ (500000000 ≤ lk ∧ lk < tm)) → (kI (fun x h' => x = bB (lastB n lk ht tm sf) ∧ h' = h) nE) (.inl (some (vI 1))) h := fun q => ⟨by
    unfold lastB
    rw [decide_eq_true q, Bool.true_or]
    rfl, rfl⟩
  refine eX1_last h tx (nI ht) (lN tm) (fun _ => sX1_last_0 h tx (nI ht) (lN tm) ⟨kt, ?_⟩)
  have z0 : lN lk = 0 ↔ lk = 0 := lN_0 (by omega)
  have z5 : (500000000 : Int64) ≤ lN lk ↔ 500000000 ≤ lk := lN_le63 (a := 500000000) (by decide) (by omega)
  have zt : lN tm ≤ lN lk ↔ tm ≤ lk := lN_le63 (by omega) (by omega)
  have zh : (nI ht).toInt64 ≤ lN lk ↔ ht ≤ lk := by rw [nI_l (by omega)]; exact lN_le63 (by omega) (by omega)
  rw [l4, z0, z5, zt, zh]
  refine ⟨fun c => yes (Or.inl c), fun c => ⟨fun c5 => ⟨fun c6 r5' e5 => ?_, fun c6 => yes (by omega)⟩, fun c5 => ⟨fun c6 r8 e8 => ?_, fun c6 => yes (by omega)⟩⟩⟩
  · rw [show r5' = ir from e5.trans r5, li]
    exact ⟨ki, loop (by omega)⟩
  · rw [show r8 = ir from e8.trans r5, li]
    exact ⟨ki, loop (by omega)⟩
end Last

/-! an ancestor of a block, the component -/
set_option maxRecDepth 100000
section Anc
variable {G : Gx} {d : Nat} {h : AH} {ht k : Nat} {c : Nat → Nat}
/-- the blocks of a path, by their height -/
def PthC (h : AH) (ht : Nat) (c : Nat → Nat) : Prop := ∀ i, i ≤ ht → h.kd (c i) = 15 ∧ h.i 15005 (c i) = nI i ∧ (0 < i → h.r 15004 (c i) = c (i - 1)) ∧ (i = 0 → h.r 15004 (c i) = 0)
theorem X1_ancestor_spec (hd : 1 ≤ d) (P : PthC h ht c) (hk : k ≤ ht) (hh : ht < 2 ^ 16) : Cw G mX1_ancestor d 0 [vR (c ht), vI (nI k)] h (kR (fun x h' => x = c k ∧ h' = h) nE) := by
  obtain ⟨d, rfl⟩ : ∃ d', d = d' + 1 := ⟨d - 1, by omega⟩
  refine eX1_ancestor h (c ht) (nI k) (fun _ => sX1_ancestor_0 h (c ht) (nI k) ?_)
  have key : ∀ m i, i = k + m → i ≤ ht → Aw G mX1_ancestor (d + 1) 0 h (kR (fun x h' => x = c k ∧ h' = h) nE) 2 [vU, vI (nI k), vR (c i)] [] h := by
    intro m
    induction m with
    | zero =>
      intro i ei hi
      obtain ⟨p1, p2, p3, p4⟩ := P i hi
      refine sX1_ancestor_2 h (nI k) (c i) ⟨p1, ?_⟩
      rw [p2]
      exact pk_le i k (fun _ => ⟨by rw [ei]; rfl, rfl⟩) (fun z => absurd z (by omega))
    | succ m ih =>
      intro i ei hi
      obtain ⟨p1, p2, p3, p4⟩ := P i hi
      refine sX1_ancestor_2 h (nI k) (c i) ⟨p1, ?_⟩
      rw [p2]
      refine pk_le i k (fun z => absurd z (by omega)) (fun z r3 e3 => ?_)
      rw [show r3 = c (i - 1) from e3.trans (p3 (by omega))]
      exact ih (i - 1) (by omega) (by omega)
  exact key (ht - k) ht (by omega) (Nat.le_refl _)
end Anc

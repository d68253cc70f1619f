/-! a block that is known, the component -/
set_option maxRecDepth 100000
section Known
variable {G : Gx} {d : Nat} {h : AH} {J Bl ba off n : Nat} {bf : Nat → Nat} {hs : Nat → List Int32} {id : List Int32}
theorem X1_known_spec (hd : 1 ≤ d) (kJ : h.kd J = 1) (r5 : h.r 1005 J = Bl) (i6 : h.i 1006 J = nI n) (kB : h.kd Bl = 106) (lB : n ≤ (h.ar Bl).length) (lB2 : (h.ar Bl).length < 2 ^ 31) (hb : ∀ k, k < n → (h.ar Bl).getD k 0 = bf k ∧ h.kd (bf k) = 15 ∧ h.kd (h.r 15003 (bf k)) = 101 ∧ h.ai (h.r 15003 (bf k)) = hs k ∧ (hs k).length = 32) (ka : h.kd ba = 101) (hl : off + 32 ≤ (h.ai ba).length) (hl2 : (h.ai ba).length < 2 ^ 31) (ei : sub_ (h.ai ba) off 32 = id) :
    Cw G mX1_known d 0 [vR J, vR ba, vI (nI off)] h (kR (fun x h' => h' = h ∧ ((∃ k, k < n ∧ hs k = id ∧ (∀ q, q < k → hs q ≠ id) ∧ x = bf k) ∨ ((∀ k, k < n → hs k ≠ id) ∧ x = 0))) nE) := by
  obtain ⟨d, rfl⟩ : ∃ d', d = d' + 1 := ⟨d - 1, by omega⟩
  have lid : id.length = 32 := by rw [← ei, sub_len]
  have gid : ∀ i, i < 32 → id.getD i 0 = (h.ai ba).getD (off + i) 0 := fun i hi => by rw [← ei, sub_getD hi]
  refine eX1_known h J ba (nI off) (fun _ => sX1_known_0 h J ba (nI off) ?_)
  refine loop_uc (n := n) (P := fun k (_ : Unit) => Aw G mX1_known (d + 1) 0 h (kR (fun x h' => h' = h ∧ ((∃ k, k < n ∧ hs k = id ∧ (∀ q, q < k → hs q ≠ id) ∧ x = bf k) ∨ ((∀ k, k < n → hs k ≠ id) ∧ x = 0))) nE) 2 [vR J, vR ba, vI (nI off), vI (nI k), vU, vU] [] h) (fun k _ => ∀ q, q < k → hs q ≠ id) (fun k _ hk hI ih => ?_) 0 () (Nat.zero_le _) (fun q hq => absurd hq (Nat.not_lt_zero _))
  refine sX1_known_2 h J ba (nI off) (nI k) ⟨kJ, ?_⟩
  rw [i6]
  refine pk_le n k (fun z => ⟨rfl, Or.inr ⟨fun q hq => hI q (by omega), rfl⟩⟩) (fun z => ?_)
  obtain ⟨b1, b2, b3, b4, b5⟩ := hb k z
  have nxt : hs k ≠ id → Aw G mX1_known (d + 1) 0 h (kR (fun x h' => h' = h ∧ ((∃ k, k < n ∧ hs k = id ∧ (∀ q, q < k → hs q ≠ id) ∧ x = bf k) ∨ ((∀ k, k < n → hs k ≠ id) ∧ x = 0))) nE) 2 [vR J, vR ba, vI (nI off), vI (nI (k + 1)), vU, vU] [] h := fun w => ih z () (fun q hq => by
    by_cases e : q = k
    · rw [e]; exact w
    · exact hI q (by omega))
  have key := loop_uc (n := 32) (P := fun i (s : Bool) => Aw G mX1_known (d + 1) 0 h (kR (fun x h' => h' = h ∧ ((∃ k, k < n ∧ hs k = id ∧ (∀ q, q < k → hs q ≠ id) ∧ x = bf k) ∨ ((∀ k, k < n → hs k ≠ id) ∧ x = 0))) nE) 16 [vR J, vR ba, vI (nI off), vI (nI k), vI (bB s), vI (nI i)] [] h) (fun i s => (s = true ∧ ∀ q, q < i → (hs k).getD q 0 = id.getD q 0) ∨ (s = false ∧ hs k ≠ id)) (fun i s hi hS ih2 => ?_) 0 true (Nat.zero_le _) (Or.inl ⟨rfl, fun q hq => absurd hq (Nat.not_lt_zero _)⟩)
  · exact key
  · refine sX1_known_16 h J ba (nI off) (nI k) (bB s) (nI i) ?_
    rw [nI_1]
    rcases hS with ⟨e, hS⟩ | ⟨e, hS⟩
    · rw [e]
      refine pk_le 32 i (fun z2 => ⟨fun q => absurd q (by decide), fun _ => ⟨kJ, fun r4 e4 => ?_⟩⟩) (fun z2 => ⟨fun q => absurd q (by decide), fun _ => ⟨kJ, fun r16 e16 => ?_⟩⟩)
      · rw [show r4 = Bl from e4.trans r5, pk_cl k rfl (by omega), b1]
        refine ⟨kB, pk_in k (h.ar Bl).length (by omega), fun r7 e7 => ⟨rfl, Or.inl ⟨k, z, ext_getD (z := 0) (by rw [b5, lid]) (fun q hq => hS q (by omega)), hI, e7⟩⟩⟩
      · rw [show r16 = Bl from e16.trans r5, pk_cl k rfl (by omega), b1]
        refine ⟨kB, pk_in k (h.ar Bl).length (by omega), fun r19 e19 => ?_⟩
        rw [e19]
        refine ⟨b2, fun r21 e21 => ?_⟩
        rw [e21, b4, b5, nI_add, pk_cl i rfl (by omega), pk_cl (off + i) rfl (by omega), ← gid i z2, nI_1]
        refine ⟨b3, pk_in i 32 (by omega), ka, pk_in (off + i) (h.ai ba).length (by omega), fun c => ih2 z2 false (Or.inr ⟨rfl, fun w => c (by rw [w])⟩), fun c => ih2 z2 true (Or.inl ⟨rfl, fun q hq => ?_⟩)⟩
        by_cases w : q = i
        · rw [w]; exact c
        · exact hS q (by omega)
    · rw [e]
      exact pk_le 32 i (fun z2 => ⟨fun _ => nxt hS, fun q => absurd rfl q⟩) (fun z2 => ⟨fun _ => ⟨fun _ => nxt hS, fun q => absurd rfl q⟩, fun q => absurd rfl q⟩)
end Known

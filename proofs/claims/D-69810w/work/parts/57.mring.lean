/-! the reference's Ring: rows of eight digits, numbers standing times 2^256 -/
set_option maxRecDepth 100000
def RowAt (h : AH) (w : Nat) : Prop := h.kd w = 100 ∧ (h.ai w).length = 8
theorem RowAt.mod {P : Nat → Prop} {h h' : AH} {w : Nat} (H : RowAt h w) (m : Mod P h h') : RowAt h' w := by
  unfold RowAt
  rw [m.kd, m.len]
  exact H
section MRow
variable {G : Gx} {d : Nat} {h : AH} {t a b : Nat}
theorem Row_copy_spec (hd : 1 ≤ d) (ha : RowAt h a) (ht : RowAt h t) : Cw G mX27_copy d 0 [vR a, vR t] h (kV (fun h' => h' = h.wi t (h.ai a)) nE) := by
  obtain ⟨d, rfl⟩ : ∃ d', d = d' + 1 := ⟨d - 1, by omega⟩
  obtain ⟨t3, t4⟩ := ht
  obtain ⟨a3, a4⟩ := ha
  refine eX27_copy h a t (fun w => sX27_copy_0 h a t ?_)
  have key := loop_uc (n := 8) (P := fun k T => Aw G mX27_copy (d + 1) 0 h (kV (fun h' => h' = h.wi t (h.ai a)) nE) 2 [vR a, vR t, vI (nI k)] [] (h.wi t T))
    (fun k T => T.length = 8 ∧ (∀ i, i < k → T.getD i 0 = (h.ai a).getD i 0) ∧ ∀ i, k ≤ i → T.getD i 0 = (h.ai t).getD i 0) (fun k T hk hI ih => ?_) 0 (h.ai t) (by omega) ⟨t4, fun i hi => absurd hi (by omega), fun _ _ => rfl⟩
  · rw [AH.wi_self] at key; exact key
  · obtain ⟨l, z, z2⟩ := hI
    refine sX27_copy_2 _ a t (nI k) (pk_le 8 k (fun hk8 => ?_) (fun hk8 => ?_))
    · show _ = _
      rw [ext_getD (a := T) (b := h.ai a) (z := 0) (by omega) (fun i hi => z i (by omega))]
    · rw [AH.wi_wi, ln_wi (x := a) (l.trans t4.symm), ln_wi (x := t) (l.trans t4.symm), a4, t4, pk_cl k, rd_wi (x := a) (z2 k (Nat.le_refl _)), AH.ai_wiS]
      refine ⟨a3, pk_in k 8 hk8, t3, pk_in k 8 hk8, fun h6 e6 => ?_⟩
      rw [e6, nI_1]
      refine ih hk8 _ ⟨by rw [List.length_set, l], fun i hi => ?_, fun i hi => ?_⟩
      · rw [getD_sif]
        by_cases e : i = k
        · rw [if_pos ⟨e, by omega⟩, e]
        · rw [if_neg (fun q => e q.1)]; exact z i (by omega)
      · rw [getD_set_ne (by omega)]; exact z2 i (by omega)
theorem Row_compare_spec (hd : 1 ≤ d) (ht : RowAt h t) (ha : RowAt h a) : Cw G mX27_compare d 0 [vR t, vR a] h (kI (fun x h' => x = cmpI (bv h t) (bv h a) ∧ h' = h) nE) := by
  obtain ⟨d, rfl⟩ : ∃ d', d = d' + 1 := ⟨d - 1, by omega⟩
  obtain ⟨t3, t4⟩ := ht
  obtain ⟨a3, a4⟩ := ha
  refine eX27_compare h t a (fun w => sX27_compare_0 h t a ?_)
  refine loop_dn (P := fun k (_ : Unit) => k ≤ 8 → Aw G mX27_compare (d + 1) 0 h (kI (fun x h' => x = cmpI (bv h t) (bv h a) ∧ h' = h) nE) 3 [vR t, vR a, vI (dI k)] [] h)
    (fun k _ => ∀ i, k ≤ i → i < 8 → (h.ai t).getD i 0 = (h.ai a).getD i 0) (fun k _ hI ih hk8 => ?_) (fun _ hI _ => ?_) 8 () (fun i h1 h2 => absurd h1 (by omega)) (by omega)
  · rw [dI_succ]
    refine sX27_compare_3 _ t a (nI k) ⟨fun q => absurd q (nI_pos (by omega)), fun _ => ?_⟩
    rw [t4, pk_cl k, a4]
    refine ⟨t3, pk_in k 8 (by omega), a3, pk_in k 8 (by omega), fun e => ih () (fun i h1 h2 => ?_) (by omega), fun e => ⟨pk_in k 8 (by omega), pk_in k 8 (by omega), ?_⟩⟩
    · by_cases q : i = k
      · rw [q]; exact e
      · exact hI i (by omega) h2
    · rw [and_low, and_low, lN_le63 (by have := u32_lt ((h.ai a).getD k 0); omega) (by have := u32_lt ((h.ai t).getD k 0); omega)]
      have hne : dg (h.ai t) k ≠ dg (h.ai a) k := fun q => e (u32_inj q)
      refine ⟨fun q => ⟨?_, rfl⟩, fun q => ⟨?_, rfl⟩⟩
      · have : bv h a < bv h t := va_cmp (k := k) (by unfold dg at hne ⊢; omega) 8 (by omega) (fun i h1 h2 => by unfold dg; rw [hI i (by omega) h2])
        unfold cmpI
        rw [if_neg (by omega), if_neg (by omega)]
      · have : bv h t < bv h a := va_cmp (k := k) (by unfold dg at hne ⊢; omega) 8 (by omega) (fun i h1 h2 => by unfold dg; rw [hI i (by omega) h2])
        unfold cmpI
        rw [if_pos this]
  · refine sX27_compare_3 _ t a (dI 0) ⟨fun _ => ⟨?_, rfl⟩, fun q => absurd (by decide) q⟩
    have : h.ai t = h.ai a := ext_getD (z := 0) (by omega) (fun i hi => hI i (by omega) (by omega))
    unfold cmpI bv
    rw [this, if_neg (by omega), if_pos rfl]
theorem Row_same_spec (hd : 2 ≤ d) (ht : RowAt h t) (ha : RowAt h a) : Cw G mX27_same d 0 [vR t, vR a] h (kI (fun x h' => x = (if bv h t = bv h a then 1 else 0) ∧ h' = h) nE) := by
  obtain ⟨d, rfl⟩ : ∃ d', d = d' + 1 := ⟨d - 1, by omega⟩
  refine eX27_same h t a (fun w => sX27_same_0 h t a ((Row_compare_spec (by omega) ht ha).nI (fun x h2 q => ?_)))
  obtain ⟨rfl, rfl⟩ := q
  rw [cmpI_eq]
  exact ⟨fun e => ⟨by rw [if_neg e], rfl⟩, fun e => ⟨by rw [if_pos e], rfl⟩⟩
theorem or_zero_iff {x y : Int32} : x ||| y = 0 ↔ x = 0 ∧ y = 0 := by
  constructor
  · intro h
    have h1 := congrArg Int32.toBitVec h
    rw [Int32.toBitVec_or] at h1
    have h2 : x.toBitVec ||| y.toBitVec = 0#32 := h1
    have h3 := BitVec.or_eq_zero_iff.mp h2
    exact ⟨Int32.toBitVec_inj.mp h3.1, Int32.toBitVec_inj.mp h3.2⟩
  · intro ⟨h1, h2⟩
    rw [h1, h2]
    rfl
theorem Row_isZero_spec (hd : 1 ≤ d) (ht : RowAt h t) : Cw G mX27_isZero d 0 [vR t] h (kI (fun x h' => x = (if bv h t = 0 then 1 else 0) ∧ h' = h) nE) := by
  obtain ⟨d, rfl⟩ : ∃ d', d = d' + 1 := ⟨d - 1, by omega⟩
  obtain ⟨t3, t4⟩ := ht
  refine eX27_isZero h t (fun w => sX27_isZero_0 h t ?_)
  refine loop_uc (n := 8) (P := fun k (x : Int32) => Aw G mX27_isZero (d + 1) 0 h (kI (fun x h' => x = (if bv h t = 0 then 1 else 0) ∧ h' = h) nE) 4 [vR t, vI x, vI (nI k)] [] h)
    (fun k x => x = 0 ↔ ∀ i, i < k → (h.ai t).getD i 0 = 0) (fun k x hk hI ih => ?_) 0 0 (by omega) ⟨fun _ i hi => absurd hi (by omega), fun _ => rfl⟩
  refine sX27_isZero_4 _ t x (nI k) (pk_le 8 k (fun hk8 => ?_) (fun hk8 => ?_))
  · have : k = 8 := by omega
    subst this
    refine ⟨fun e => ⟨?_, rfl⟩, fun e => ⟨?_, rfl⟩⟩
    · rw [if_neg (fun q => e (hI.mpr (va_eq0 q)))]
    · rw [if_pos (va_0 (hI.mp e))]
  · rw [t4, pk_cl k]
    refine ⟨t3, pk_in k 8 hk8, fun u5 e5 => ?_⟩
    rw [nI_1, e5]
    refine ih hk8 _ ?_
    rw [or_zero_iff, hI]
    constructor
    · intro ⟨q1, q2⟩ i hi
      by_cases e : i = k
      · rw [e]; exact q2
      · exact q1 i (by omega)
    · intro q
      exact ⟨fun i hi => q i (by omega), q k (by omega)⟩
theorem Row_plus_spec (hd : 1 ≤ d) (ha : RowAt h a) (hb : RowAt h b) (ht : RowAt h t) : Cw G mX27_plus d 0 [vR a, vR b, vR t] h (kJ (fun x h' => x = lN ((bv h a + bv h b) / 4294967296 ^ 8) ∧ h' = h.wi t (lb (bv h a + bv h b))) nE) := by
  obtain ⟨d, rfl⟩ : ∃ d', d = d' + 1 := ⟨d - 1, by omega⟩
  obtain ⟨t3, t4⟩ := ht
  obtain ⟨a3, a4⟩ := ha
  obtain ⟨b3, b4⟩ := hb
  refine eX27_plus h a b t (fun w => sX27_plus_0 h a b t ?_)
  have key := loop_uc (n := 8) (P := fun k (x : List Int32 × Nat) => Aw G mX27_plus (d + 1) 0 h (kJ (fun x h' => x = lN ((bv h a + bv h b) / 4294967296 ^ 8) ∧ h' = h.wi t (lb (bv h a + bv h b))) nE) 5 [vR a, vR b, vR t, vJ (lN x.2), vU, vI (nI k)] [] (h.wi t x.1))
    (fun k x => x.1.length = 8 ∧ x.2 ≤ 1 ∧ (∀ i, k ≤ i → x.1.getD i 0 = (h.ai t).getD i 0) ∧ va x.1 k + x.2 * 4294967296 ^ k = va (h.ai a) k + va (h.ai b) k) (fun k x hk hI ih => ?_) 0 (h.ai t, 0) (by omega) ⟨t4, by omega, fun _ _ => rfl, rfl⟩
  · rw [AH.wi_self] at key; exact key
  · obtain ⟨T, c⟩ := x
    obtain ⟨l, hc, z, hv⟩ := hI
    dsimp only at l hc z hv
    refine sX27_plus_5 _ a b t (lN c) (nI k) (pk_le 8 k (fun hk8 => ?_) (fun hk8 => ?_))
    · have e : k = 8 := by omega
      subst e
      have h1 := va_lt T 8
      have h2 : (bv h a + bv h b) / 4294967296 ^ 8 = c := by
        unfold bv
        rw [← hv, Nat.add_mul_div_right _ _ (by omega), Nat.div_eq_of_lt h1, Nat.zero_add]
      rw [h2]
      refine ⟨rfl, ?_⟩
      rw [lb_eq (L := T) (n := bv h a + bv h b) l]
      unfold bv
      rw [← hv, Nat.add_mul_mod_self_right, Nat.mod_eq_of_lt h1]
    · rw [ln_wi (x := a) (l.trans t4.symm), a4, pk_cl k, ln_wi (x := b) (l.trans t4.symm), b4, AH.ai_wiS, l]
      refine ⟨a3, pk_in k 8 hk8, b3, pk_in k 8 hk8, fun u10 e10 => ⟨t3, pk_in k 8 hk8, fun h15 e15 => ?_⟩⟩
      rw [AH.wi_wi] at e15
      rw [rd_wi (z k (Nat.le_refl _)), rd_wi (z k (Nat.le_refl _)), and_low, and_low, lN_add, lN_add] at e10
      have ha := u32_lt ((h.ai a).getD k 0)
      have hb := u32_lt ((h.ai b).getD k 0)
      rw [e15, e10, nI_1, lN_ushr (by omega), lN_i]
      refine ih hk8 (_, (c + (u32 ((h.ai a).getD k 0) + u32 ((h.ai b).getD k 0))) / 4294967296) ⟨by rw [List.length_set, l], ?_, fun i hi => ?_, ?_⟩
      · show _ / _ ≤ 1
        omega
      · show (T.set _ _).getD _ _ = _
        rw [getD_set_ne (by omega)]
        exact z i (by omega)
      · dsimp only
        rw [va_set (by omega), va_succ, va_succ, u32_nI]
        unfold dg
        generalize u32 ((h.ai a).getD k 0) = x at *
        generalize u32 ((h.ai b).getD k 0) = y at *
        have e : (c + (x + y)) % 4294967296 + (c + (x + y)) / 4294967296 * 4294967296 = c + (x + y) := by omega
        have e2 := congrArg (· * 4294967296 ^ k) e
        rw [Nat.pow_succ]
        generalize (c + (x + y)) % 4294967296 = m at *
        generalize (c + (x + y)) / 4294967296 = q at *
        rw [Nat.add_mul, Nat.add_mul, Nat.add_mul, Nat.mul_assoc, Nat.mul_comm 4294967296] at e2
        omega
theorem lZ_nn (n : Nat) : lN n = lZ (n : Int) := lZ_n n
theorem Row_less_spec (hd : 1 ≤ d) (ha : RowAt h a) (hb : RowAt h b) (ht : RowAt h t) : Cw G mX27_less d 0 [vR a, vR b, vR t] h (kJ (fun x h' => x = lN (if bv h a < bv h b then 1 else 0) ∧ h' = h.wi t (lb (bv h a + 4294967296 ^ 8 - bv h b))) nE) := by
  obtain ⟨d, rfl⟩ : ∃ d', d = d' + 1 := ⟨d - 1, by omega⟩
  obtain ⟨t3, t4⟩ := ht
  obtain ⟨a3, a4⟩ := ha
  obtain ⟨b3, b4⟩ := hb
  refine eX27_less h a b t (fun w => sX27_less_0 h a b t ?_)
  have key := loop_uc (n := 8) (P := fun k (x : List Int32 × Nat) => Aw G mX27_less (d + 1) 0 h (kJ (fun x h' => x = lN (if bv h a < bv h b then 1 else 0) ∧ h' = h.wi t (lb (bv h a + 4294967296 ^ 8 - bv h b))) nE) 5 [vR a, vR b, vR t, vJ (lN x.2), vU, vI (nI k), vU, vU] [] (h.wi t x.1))
    (fun k x => x.1.length = 8 ∧ x.2 ≤ 1 ∧ (∀ i, k ≤ i → x.1.getD i 0 = (h.ai t).getD i 0) ∧ va x.1 k + va (h.ai b) k = va (h.ai a) k + x.2 * 4294967296 ^ k) (fun k x hk hI ih => ?_) 0 (h.ai t, 0) (by omega) ⟨t4, by omega, fun _ _ => rfl, rfl⟩
  · rw [AH.wi_self] at key; exact key
  · obtain ⟨T, c⟩ := x
    obtain ⟨l, hc, z, hv⟩ := hI
    dsimp only at l hc z hv
    refine sX27_less_5 _ a b t (lN c) (nI k) (pk_le 8 k (fun hk8 => ?_) (fun hk8 => ?_))
    · have e : k = 8 := by omega
      subst e
      have h1 := va_lt T 8
      have h2 := va_lt (h.ai a) 8
      have h3 := va_lt (h.ai b) 8
      have hc2 : c = 0 ∨ c = 1 := by omega
      rw [lb_eq (L := T) (n := bv h a + 4294967296 ^ 8 - bv h b) l]
      · refine ⟨?_, rfl⟩
        unfold bv
        rcases hc2 with hc2 | hc2
        · subst hc2; rw [if_neg (by omega)]
        · subst hc2; rw [if_pos (by omega)]
      · unfold bv
        rcases hc2 with hc2 | hc2
        · subst hc2
          have e : va (h.ai a) 8 + 4294967296 ^ 8 - va (h.ai b) 8 = va T 8 + 1 * 4294967296 ^ 8 := by omega
          rw [e, Nat.add_mul_mod_self_right, Nat.mod_eq_of_lt h1]
        · subst hc2
          have e : va (h.ai a) 8 + 4294967296 ^ 8 - va (h.ai b) 8 = va T 8 := by omega
          rw [e, Nat.mod_eq_of_lt h1]
    · rw [ln_wi (x := a) (l.trans t4.symm), a4, pk_cl k, ln_wi (x := b) (l.trans t4.symm), b4, AH.ai_wiS, l]
      refine ⟨a3, pk_in k 8 hk8, b3, pk_in k 8 hk8, fun u10 e10 => ⟨t3, pk_in k 8 hk8, fun h15 e15 => ?_⟩⟩
      rw [AH.wi_wi] at e15
      rw [rd_wi (z k (Nat.le_refl _)), rd_wi (z k (Nat.le_refl _)), and_low, and_low, lZ_nn, lZ_nn, lZ_nn, lZ_sub, lZ_sub] at e10
      have ha := u32_lt ((h.ai a).getD k 0)
      have hb := u32_lt ((h.ai b).getD k 0)
      rw [e15, nI_1]
      have hst : ∀ c' : Nat, c' ≤ 1 → (u32 ((h.ai a).getD k 0) : Int) - (u32 ((h.ai b).getD k 0) : Int) - (c : Int) < (if c' = 1 then 0 else 4294967296) → (if c' = 1 then -(4294967296 : Int) else 0) ≤ (u32 ((h.ai a).getD k 0) : Int) - (u32 ((h.ai b).getD k 0) : Int) - (c : Int) → Aw G mX27_less (d + 1) 0 h (kJ (fun x h' => x = lN (if bv h a < bv h b then 1 else 0) ∧ h' = h.wi t (lb (bv h a + 4294967296 ^ 8 - bv h b))) nE) 5 [vR a, vR b, vR t, vJ (lN c'), vU, vI (nI (k + 1)), vU, vU] [] (h.wi t (T.set k u10.toInt32)) := by
        intro c' hc' hl1 hl2
        refine ih hk8 (_, c') ⟨by rw [List.length_set, l], hc', fun i hi => ?_, ?_⟩
        · show (T.set _ _).getD _ _ = _
          rw [getD_set_ne (by omega)]
          exact z i (by omega)
        · dsimp only
          rw [e10, lZ_i, va_set (by omega), va_succ, va_succ, u32_ofInt]
          unfold dg
          generalize u32 ((h.ai a).getD k 0) = x at *
          generalize u32 ((h.ai b).getD k 0) = y at *
          have e : (((x : Int) - (y : Int) - (c : Int)) % 4294967296).toNat + y + c = x + c' * 4294967296 := by
            have : c' = 0 ∨ c' = 1 := by omega
            rcases this with q | q
            · subst q; rw [if_neg (by decide)] at hl1 hl2; omega
            · subst q; rw [if_pos rfl] at hl1 hl2; omega
          generalize (((x : Int) - (y : Int) - (c : Int)) % 4294967296).toNat = m at *
          have e2 := congrArg (· * 4294967296 ^ k) e
          rw [Nat.pow_succ]
          rw [Nat.add_mul, Nat.add_mul, Nat.add_mul, Nat.mul_assoc, Nat.mul_comm 4294967296] at e2
          omega
      have hu : u10.toInt = (u32 ((h.ai a).getD k 0) : Int) - (u32 ((h.ai b).getD k 0) : Int) - (c : Int) := by
        rw [e10]
        exact lZ_toInt (by omega) (by omega)
      have h00 : (0 : Int64).toInt = 0 := rfl
      refine ⟨fun q => hst 0 (by omega) ?_ ?_, fun q => hst 1 (by omega) ?_ ?_⟩
      · rw [if_neg (by decide)]; omega
      · rw [Int64.le_iff_toInt_le, hu, h00] at q
        rw [if_neg (by decide)]; omega
      · rw [Int64.le_iff_toInt_le, hu, h00] at q
        rw [if_pos rfl]; omega
      · rw [if_pos rfl]; omega
end MRow

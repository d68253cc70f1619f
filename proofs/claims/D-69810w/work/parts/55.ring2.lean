/-! Ring: the operations -/
set_option maxRecDepth 100000
theorem cmpI_lt {a b : Nat} : cmpI a b < 0 ↔ a < b := by
  unfold cmpI
  by_cases e : a < b
  · rw [if_pos e]; exact ⟨fun _ => e, fun _ => by decide⟩
  · rw [if_neg e]
    split
    · exact ⟨fun q => absurd q (by decide), fun q => absurd q e⟩
    · exact ⟨fun q => absurd q (by decide), fun q => absurd q e⟩
theorem cmpI_ge {a b : Nat} : 0 ≤ cmpI a b ↔ b ≤ a := by
  unfold cmpI
  by_cases e : a < b
  · rw [if_pos e]; exact ⟨fun q => absurd q (by decide), fun q => absurd q (by omega)⟩
  · rw [if_neg e]
    split
    · exact ⟨fun _ => by omega, fun _ => by decide⟩
    · exact ⟨fun _ => by omega, fun _ => by decide⟩
theorem cmpI_gt {a b : Nat} : 0 < cmpI a b ↔ b < a := by
  unfold cmpI
  by_cases e : a < b
  · rw [if_pos e]; exact ⟨fun q => absurd q (by decide), fun q => absurd q (by omega)⟩
  · rw [if_neg e]
    split
    · exact ⟨fun q => absurd q (by decide), fun q => by omega⟩
    · exact ⟨fun _ => by omega, fun _ => by decide⟩
theorem cmpI_le {a b : Nat} : cmpI a b ≤ 0 ↔ a ≤ b := by
  unfold cmpI
  by_cases e : a < b
  · rw [if_pos e]; exact ⟨fun _ => by omega, fun _ => by decide⟩
  · rw [if_neg e]
    split
    · exact ⟨fun _ => by omega, fun _ => by decide⟩
    · exact ⟨fun q => absurd q (by decide), fun q => absurd q (by omega)⟩
theorem cmpI_eq {a b : Nat} : cmpI a b = 0 ↔ a = b := by
  unfold cmpI
  by_cases e : a < b
  · rw [if_pos e]; exact ⟨fun q => absurd q (by decide), fun q => absurd q (by omega)⟩
  · rw [if_neg e]
    split
    · rename_i q; exact ⟨fun _ => q, fun _ => rfl⟩
    · rename_i q; exact ⟨fun q => absurd q (by decide), fun p => absurd p q⟩
/-- a ring at R as its constructor lays it, with the modulus m -/
def RingS (h : AH) (R : Nat) : Prop := h.kd R = 4 ∧ h.r 4000 R = R + 1 ∧ h.r 4001 R = R + 3 ∧ h.r 4002 R = R + 5 ∧ h.r 4003 R = R + 6 ∧ h.r 4004 R = R + 7 ∧ h.r 4005 R = R + 9 ∧ h.r 4006 R = R + 11 ∧ h.r 4007 R = R + 13 ∧ h.r 4008 R = R + 15 ∧
  BigAt h (R + 1) (R + 2) ∧ BigAt h (R + 3) (R + 4) ∧ (h.kd (R + 5) = 100 ∧ (h.ai (R + 5)).length = 16) ∧ (h.kd (R + 6) = 100 ∧ (h.ai (R + 6)).length = 16) ∧ BigAt h (R + 7) (R + 8) ∧ BigAt h (R + 9) (R + 10) ∧ BigAt h (R + 11) (R + 12) ∧ BigAt h (R + 13) (R + 14) ∧ BigAt h (R + 15) (R + 16)
def RingAt (h : AH) (R m : Nat) : Prop := RingS h R ∧ bv h (R + 2) = m ∧ bv h (R + 4) = 4294967296 ^ 8 - m ∧ 0 < m
theorem RingS.mod {P : Nat → Prop} {h h' : AH} {R : Nat} (m : Mod P h h') (H : RingS h R) : RingS h' R := by
  unfold RingS at H ⊢
  obtain ⟨c1, c2, c3, c4, c5, c6, c7, c8, c9, c10, c11, c12, c13, c14, c15, c16, c17, c18, c19⟩ := H
  rw [m.kd, m.r, m.len, m.len]
  exact ⟨c1, c2, c3, c4, c5, c6, c7, c8, c9, c10, c11.mod m, c12.mod m, c13, c14, c15.mod m, c16.mod m, c17.mod m, c18.mod m, c19.mod m⟩
theorem RingAt.mod {P : Nat → Prop} {h h' : AH} {R q : Nat} (m : Mod P h h') (H : RingAt h R q) (h1 : ¬ P (R + 2)) (h2 : ¬ P (R + 4)) : RingAt h' R q :=
  ⟨H.1.mod m, by rw [m.bv h1]; exact H.2.1, by rw [m.bv h2]; exact H.2.2.1, H.2.2.2⟩
section Ring2
variable {G : Gx} {d : Nat} {h : AH} {R m : Nat}
theorem Ring_high_spec (hd : 1 ≤ d) (hR : RingS h R) : Cw G mX4_high d 0 [vR R] h (kI (fun x h' => x = (if va (h.ai (R + 5)) 16 < 4294967296 ^ 8 then 0 else 1) ∧ h' = h) nE) := by
  obtain ⟨d, rfl⟩ : ∃ d', d = d' + 1 := ⟨d - 1, by omega⟩
  obtain ⟨c1, c2, c3, c4, c5, c6, c7, c8, c9, c10, c11, c12, c13, c14, c15, c16, c17, c18, c19⟩ := hR
  refine eX4_high h R (fun w => sX4_high_0 h R ?_)
  refine loop_uc (n := 16) (P := fun k (_ : Unit) => Aw G mX4_high (d + 1) 0 h (kI (fun x h' => x = (if va (h.ai (R + 5)) 16 < 4294967296 ^ 8 then 0 else 1) ∧ h' = h) nE) 3 [vR R, vI (nI k)] [] h)
    (fun k _ => 8 ≤ k ∧ ∀ i, 8 ≤ i → i < k → (h.ai (R + 5)).getD i 0 = 0) (fun k _ hk hI ih => ?_) 8 () (by omega) ⟨by omega, fun i h1 h2 => absurd h1 (by omega)⟩
  obtain ⟨hk8, hz⟩ := hI
  refine sX4_high_3 _ R (nI k) (pk_le 16 k (fun h16 => ⟨?_, rfl⟩) (fun h16 => ⟨c1, fun r3 e3 => ?_⟩))
  · rw [if_pos]
    rw [va_hi0 (m := 8) (by omega) (fun i h1 h2 => hz i h1 (by omega))]
    exact va_lt _ _
  · rw [e3.trans c4, c13.2, pk_cl k, nI_1]
    refine ⟨c13.1, pk_in k 16 h16, fun e => ih h16 () ⟨by omega, fun i h1 h2 => ?_⟩, fun e => ⟨?_, rfl⟩⟩
    · by_cases q : i = k
      · rw [q]; exact e
      · exact hz i h1 (by omega)
    · rw [if_neg]
      intro q
      refine e ?_
      have h1 : va (h.ai (R + 5)) 16 / 4294967296 ^ k % 4294967296 = dg (h.ai (R + 5)) k := (dg_va h16).symm
      have h2 : 4294967296 ^ 8 ≤ 4294967296 ^ k := Nat.pow_le_pow_right (by omega) hk8
      rw [Nat.div_eq_of_lt (by omega)] at h1
      exact u32_inj (y := 0) h1.symm
/-- a row copied digit by digit: what stands behind k of them -/
def cpD (S T : List Int32) (k : Nat) : List Int32 := putB T 0 k (fun i => S.getD i 0)
theorem multiply_140 {t tw V : Nat} {Φ : Out → AH → Prop} (hd : 1 ≤ d) (hR : RingAt h R m) (ht : BigAt h t tw) (ht2 : tw ≠ R + 2 ∧ tw ≠ R + 4 ∧ tw ≠ R + 5 ∧ tw ≠ R + 6 ∧ tw ≠ R + 12) (hΦ : ∀ h1, Mod (fun x => x = R + 5 ∨ x = R + 6 ∨ x = R + 12 ∨ x = tw) h h1 → h1.ai tw = lb (V % m) → Φ (.inl none) h1) : ∀ h1 : AH, (Mod (fun x => x = R + 5 ∨ x = R + 6 ∨ x = R + 12 ∨ x = tw) h h1 ∧ bv h1 tw % m = V % m) → Aw G mX4_multiply (d + 1) 0 h Φ 140 [vR R, vR t, vU, vU, vU] [] h1 := by
  refine loop_wf (fun h1 => bv h1 tw) _ (fun h1 hI ih => ?_)
  obtain ⟨hM, hv1⟩ := hI
  have hR1 : RingAt h1 R m := hR.mod hM (by omega) (by omega)
  have ht1 := ht.mod hM
  obtain ⟨⟨d1, d2, d3, d4, d5, d6, d7, d8, d9, d10, d11, d12, d13, d14, d15, d16, d17, d18, d19⟩, n1, n2, n3⟩ := hR1
  refine sX4_multiply_140 _ R t ⟨d1, fun r2 e2 => ⟨ht1.1, ?_⟩⟩
  rw [e2.trans d2]
  refine (Big_compare_spec (by omega) ht1 d11).nI (fun x3 h4 q => ?_)
  obtain ⟨rfl, rfl⟩ := q
  rw [n1, cmpI_lt]
  refine ⟨fun q => ?_, fun q => ?_⟩
  · refine hΦ _ hM ?_
    rw [ai_lb ht1.2.2.2, ← hv1, Nat.mod_eq_of_lt q]
  · refine (Big_subtract_spec (by omega) ht1 ht1 d11).nR (fun x h5 q => ?_)
    obtain ⟨rfl, rfl⟩ := q
    have hb2 := bv_lt h4 tw
    have e3 : bv (h4.wi tw (lb (bv h4 tw + 4294967296 ^ 8 - bv h4 (R + 2)))) tw = bv h4 tw - m := by
      rw [bv_wiS, n1, show bv h4 tw + 4294967296 ^ 8 - m = bv h4 tw - m + 1 * 4294967296 ^ 8 by omega, Nat.add_mul_mod_self_right, Nat.mod_eq_of_lt (by omega)]
    refine ih _ ⟨hM.trans (Mod.wi (by rw [lb_len, ht1.2.2.2]) (by omega)), ?_⟩ ?_
    · rw [e3, ← hv1, ← Nat.mod_eq_sub_mod (by omega)]
    · rw [e3]
      omega
theorem multiply_113 {t tw V : Nat} {Φ : Out → AH → Prop} (hd : 1 ≤ d) (hR : RingAt h R m) (ht : BigAt h t tw) (ht2 : tw ≠ R + 2 ∧ tw ≠ R + 4 ∧ tw ≠ R + 5 ∧ tw ≠ R + 6 ∧ tw ≠ R + 12) (hΦ : ∀ h1, Mod (fun x => x = R + 5 ∨ x = R + 6 ∨ x = R + 12 ∨ x = tw) h h1 → h1.ai tw = lb (V % m) → Φ (.inl none) h1) : ∀ h1 : AH, (Mod (fun x => x = R + 5 ∨ x = R + 6 ∨ x = R + 12 ∨ x = tw) h h1 ∧ va (h1.ai (R + 5)) 16 < 4294967296 ^ 8 ∧ va (h1.ai (R + 5)) 16 % m = V % m) → Aw G mX4_multiply (d + 1) 0 h Φ 113 [vR R, vR t, vU, vU, vI 0] [] h1 := by
  have n5 : R + 5 ≠ tw := by omega
  intro h1 ⟨hM, hlt, hv1⟩
  have ht1 := ht.mod hM
  have hR1 : RingAt h1 R m := hR.mod hM (by omega) (by omega)
  obtain ⟨⟨d1, d2, d3, d4, d5, d6, d7, d8, d9, d10, d11, d12, d13, d14, d15, d16, d17, d18, d19⟩, n1, n2, n3⟩ := hR1
  have key := loop_uc (n := 8) (P := fun k (_ : Unit) => Aw G mX4_multiply (d + 1) 0 h Φ 113 [vR R, vR t, vU, vU, vI (nI k)] [] (h1.wi tw (cpD (h1.ai (R + 5)) (h1.ai tw) k))) (fun _ _ => True) (fun k _ hk _ ih => ?_) 0 () (by omega) trivial
  · unfold cpD at key; rw [putB_0, AH.wi_self] at key; exact key
  · refine sX4_multiply_113 _ R t (nI k) (pk_le 8 k (fun h8 => ?_) (fun h8 => ⟨ht1.1, fun r3 e3 => ⟨d1, fun r5 e5 => ?_⟩⟩))
    · have : k = 8 := by omega
      subst this
      refine multiply_140 hd hR ht ht2 hΦ _ ⟨hM.trans (Mod.wi (by unfold cpD; rw [putB_len]) (by omega)), ?_⟩
      rw [← hv1]
      congr 1
      unfold bv
      rw [AH.ai_wiS]
      have e1 : va (h1.ai (R + 5)) 16 = va (h1.ai (R + 5)) 8 := by
        refine va_hi0 (by omega) (fun i q1 q2 => ?_)
        have h3 : va (h1.ai (R + 5)) 16 / 4294967296 ^ i % 4294967296 = dg (h1.ai (R + 5)) i := (dg_va q2).symm
        have h2 : 4294967296 ^ 8 ≤ 4294967296 ^ i := Nat.pow_le_pow_right (by omega) q1
        rw [Nat.div_eq_of_lt (Nat.lt_of_lt_of_le hlt h2)] at h3
        exact u32_inj (y := 0) h3.symm
      rw [e1]
      refine dv_congr (fun i hi => ?_)
      unfold dg cpD
      rw [putB_getD _ _ _ _ (by rw [ht1.2.2.2]; exact hi), if_pos (by omega)]
      rfl
    · rw [e3.trans ht1.2.1, e5.trans d4, AH.ai_wiN n5, AH.ai_wiS, AH.wi_wi, d13.2, nI_1, pk_cl k]
      unfold cpD
      rw [putB_len, ht1.2.2.2]
      refine ⟨d13.1, pk_in k 16 (by omega), ht1.2.2.1, pk_in k 8 h8, fun h10 e10 => ?_⟩
      have e := putB_succ (L := h1.ai tw) (off := 0) (n := k) (g := fun i => (h1.ai (R + 5)).getD i 0) (x := (h1.ai (R + 5)).getD k 0) (by rw [ht1.2.2.2]; omega) rfl
      rw [Nat.zero_add] at e
      rw [e10, e]
      exact ih h8 () trivial
/-- the lower eight of sixteen digits, and the upper ones -/
theorem dv_add (f : Nat → Nat) (m : Nat) : ∀ n, dv f (m + n) = dv f m + dv (fun i => f (m + i)) n * 4294967296 ^ m
  | 0 => by rw [Nat.add_zero, dv, Nat.zero_mul, Nat.add_zero]
  | n + 1 => by
    rw [← Nat.add_assoc, dv, dv_add f m n, dv, Nat.add_mul, Nat.pow_add]
    have : f (m + n) * 4294967296 ^ n * 4294967296 ^ m = f (m + n) * (4294967296 ^ m * 4294967296 ^ n) := by ac_rfl
    omega
theorem va16 (L : List Int32) : va L 16 = va L 8 + dv (fun i => dg L (8 + i)) 8 * 4294967296 ^ 8 := dv_add (dg L) 8 8
theorem multiply_80 {t tw V : Nat} {Φ : Out → AH → Prop} (hd : 1 ≤ d) (hR : RingAt h R m) (ht : BigAt h t tw) (ht2 : tw ≠ R + 2 ∧ tw ≠ R + 4 ∧ tw ≠ R + 5 ∧ tw ≠ R + 6 ∧ tw ≠ R + 12) (hΦ : ∀ h1, Mod (fun x => x = R + 5 ∨ x = R + 6 ∨ x = R + 12 ∨ x = tw) h h1 → h1.ai tw = lb (V % m) → Φ (.inl none) h1) (h3 : AH) (T : List Int32) (hR3 : RingS h3 R) (hM : Mod (fun x => x = R + 5 ∨ x = R + 6 ∨ x = R + 12 ∨ x = tw) h h3) (l : T.length = 16)
    (ih : ∀ h1, Mod (fun x => x = R + 5 ∨ x = R + 6 ∨ x = R + 12 ∨ x = tw) h h1 → h1.ai (R + 5) = T → Aw G mX4_multiply (d + 1) 0 h Φ 15 [vR R, vR t, vU, vU, vU] [] h1) : Aw G mX4_multiply (d + 1) 0 h Φ 80 [vR R, vR t, vU, vU, vI 0] [] (h3.wi (R + 6) T) := by
  have n56 : R + 5 ≠ R + 6 := by omega
  have n65 : R + 6 ≠ R + 5 := by omega
  obtain ⟨f1, f2, f3, f4, f5, f6, f7, f8, f9, f10, f11, f12, f13, f14, f15, f16, f17, f18, f19⟩ := hR3
  have key2 := loop_uc (n := 16) (P := fun k (_ : Unit) => Aw G mX4_multiply (d + 1) 0 h Φ 80 [vR R, vR t, vU, vU, vI (nI k)] [] ((h3.wi (R + 6) T).wi (R + 5) (cpD T (h3.ai (R + 5)) k))) (fun _ _ => True) (fun k _ hk _ ih3 => ?_) 0 () (by omega) trivial
  · unfold cpD at key2
    rw [putB_0] at key2
    have e9 : (h3.wi (R + 6) T).wi (R + 5) (h3.ai (R + 5)) = h3.wi (R + 6) T := by
      have := AH.wi_self (h3.wi (R + 6) T) (R + 5)
      rw [AH.ai_wiN n56] at this
      exact this
    rw [e9] at key2
    exact key2
  · refine sX4_multiply_80 _ R t (nI k) (pk_le 16 k (fun h16 => ?_) (fun h16 => ⟨f1, fun r3 e3 r4 e4 => ?_⟩))
    · have : k = 16 := by omega
      subst this
      have eT : cpD T (h3.ai (R + 5)) 16 = T := by
        unfold cpD
        refine ext_getD (z := 0) (by rw [putB_len, f13.2, l]) (fun i hi => ?_)
        rw [putB_len, f13.2] at hi
        rw [putB_getD _ _ _ _ (by rw [f13.2]; exact hi), if_pos (by omega)]
        rfl
      rw [eT]
      exact ih _ (hM.trans ((Mod.wi (by rw [l, f14.2]) (Or.inr (Or.inl rfl))).trans (Mod.wi (by rw [AH.ai_wiN n56, l, f13.2]) (Or.inl rfl)))) (AH.ai_wiS _ _ _)
    · rw [e3.trans f4, e4.trans f5, AH.ai_wiN n65, AH.ai_wiS, AH.ai_wiS, AH.wi_wi, l, nI_1, pk_cl k]
      unfold cpD
      rw [putB_len, f13.2]
      refine ⟨f14.1, pk_in k 16 h16, f13.1, pk_in k 16 h16, fun h10 e10 => ?_⟩
      have e := putB_succ (L := h3.ai (R + 5)) (off := 0) (n := k) (g := fun i => T.getD i 0) (x := T.getD k 0) (by rw [f13.2]; omega) rfl
      rw [Nat.zero_add] at e
      rw [e10, e]
      exact ih3 h16 () trivial
theorem fold_val {V q m T lo : Nat} (hm : m ≤ 4294967296 ^ 8) (h1 : V = lo + q * 4294967296 ^ 8) (hT : T = lo + q * (4294967296 ^ 8 - m)) : T + m * q = V := by
  have e9 : q * (4294967296 ^ 8 - m) + m * q = q * 4294967296 ^ 8 := by
    rw [Nat.mul_comm m, ← Nat.mul_add, show 4294967296 ^ 8 - m + m = 4294967296 ^ 8 by omega]
  omega
theorem multiply_15 {t tw V : Nat} {Φ : Out → AH → Prop} (hd : 1 ≤ d) (hR : RingAt h R m) (ht : BigAt h t tw) (ht2 : tw ≠ R + 2 ∧ tw ≠ R + 4 ∧ tw ≠ R + 5 ∧ tw ≠ R + 6 ∧ tw ≠ R + 12) (hΦ : ∀ h1, Mod (fun x => x = R + 5 ∨ x = R + 6 ∨ x = R + 12 ∨ x = tw) h h1 → h1.ai tw = lb (V % m) → Φ (.inl none) h1) : ∀ h1 : AH, (Mod (fun x => x = R + 5 ∨ x = R + 6 ∨ x = R + 12 ∨ x = tw) h h1 ∧ va (h1.ai (R + 5)) 16 % m = V % m) → Aw G mX4_multiply (d + 1) 0 h Φ 15 [vR R, vR t, vU, vU, vU] [] h1 := by
  have n512 : R + 5 ≠ R + 12 := by omega
  refine loop_wf (fun h1 => va (h1.ai (R + 5)) 16) _ (fun h1 hI ih => ?_)
  obtain ⟨hM, hv1⟩ := hI
  have hR1 : RingAt h1 R m := hR.mod hM (by omega) (by omega)
  have hR1' := hR1
  obtain ⟨⟨d1, d2, d3, d4, d5, d6, d7, d8, d9, d10, d11, d12, d13, d14, d15, d16, d17, d18, d19⟩, n1, n2, n3⟩ := hR1
  refine sX4_multiply_15 _ R t ⟨d1, (Ring_high_spec (by omega) hR1'.1).nI (fun x1 h2 q => ?_)⟩
  obtain ⟨rfl, rfl⟩ := q
  refine ⟨fun q => ?_, fun q => ?_⟩
  · refine multiply_113 hd hR ht ht2 hΦ _ ⟨hM, ?_, hv1⟩
    by_cases e : va (h2.ai (R + 5)) 16 < 4294967296 ^ 8
    · exact e
    · rw [if_neg e] at q; exact absurd q (by decide)
  · have hge : ¬ va (h2.ai (R + 5)) 16 < 4294967296 ^ 8 := fun e => by
      rw [if_pos e] at q; exact absurd rfl q
    have key := loop_uc (n := 8) (P := fun k (_ : Unit) => Aw G mX4_multiply (d + 1) 0 h Φ 25 [vR R, vR t, vU, vU, vI (nI k)] [] (h2.wi (R + 12) (cpD (h2.ai (R + 5)) (h2.ai (R + 12)) k))) (fun _ _ => True) (fun k _ hk _ ih2 => ?_) 0 () (by omega) trivial
    · unfold cpD at key; rw [putB_0, AH.wi_self] at key; exact key
    · refine sX4_multiply_25 _ R t (nI k) (pk_le 8 k (fun h8 => ⟨d1, fun r3 e3 r4 e4 r5 e5 r6 e6 => ?_⟩) (fun h8 => ⟨d1, fun r10 e10 => ?_⟩))
      · have : k = 8 := by omega
        subst this
        have hM3 : Mod (fun x => x = R + 5 ∨ x = R + 6 ∨ x = R + 12 ∨ x = tw) h2 (h2.wi (R + 12) (cpD (h2.ai (R + 5)) (h2.ai (R + 12)) 8)) := Mod.wi (by unfold cpD; rw [putB_len]) (Or.inr (Or.inr (Or.inl rfl)))
        have a5 : (h2.wi (R + 12) (cpD (h2.ai (R + 5)) (h2.ai (R + 12)) 8)).ai (R + 5) = h2.ai (R + 5) := AH.ai_wiN n512
        have a12 : bv (h2.wi (R + 12) (cpD (h2.ai (R + 5)) (h2.ai (R + 12)) 8)) (R + 12) = va (h2.ai (R + 5)) 8 := by
          unfold bv
          rw [AH.ai_wiS]
          refine dv_congr (fun i hi => ?_)
          unfold dg cpD
          rw [putB_getD _ _ _ _ (by rw [d17.2.2.2]; exact hi), if_pos (by omega)]
          rfl
        generalize h2.wi (R + 12) (cpD (h2.ai (R + 5)) (h2.ai (R + 12)) 8) = h3 at *
        have hR3 : RingAt h3 R m := hR1'.mod hM3 (by omega) (by omega)
        have hR3' := hR3.1
        obtain ⟨⟨f1, f2, f3, f4, f5, f6, f7, f8, f9, f10, f11, f12, f13, f14, f15, f16, f17, f18, f19⟩, o1, o2, o3⟩ := hR3
        rw [e3.trans f5, e4.trans f4, e5.trans f3, e6.trans f8]
        have hp := Ring_product_spec (G := G) (d := d) (h := h3) (R := R) (to := R + 6) (av := R + 5) (fr := 8) (b := R + 3) (bw := R + 4) (p := R + 11) (pv := bv h3 (R + 12)) (by omega) f14.2 f14.1 f13.1 (by omega) (by omega) f12 (by omega) (by omega) (bv_lt _ _) (Or.inr ⟨by omega, R + 12, f17, rfl, by omega⟩)
        refine hp.nV (fun h8 q => ?_)
        obtain ⟨T, rfl, l, hv3⟩ := q
        refine multiply_80 hd hR ht ht2 hΦ h3 T hR3' (hM.trans hM3) l (fun h9 hM9 e9 => ?_)
        have hml : m ≤ 4294967296 ^ 8 := by rw [← o1]; exact Nat.le_of_lt (bv_lt _ _)
        rw [a5, o2, a12] at hv3
        have hV := fold_val hml (va16 (h2.ai (R + 5))) hv3
        have hq : 1 ≤ dv (fun i => dg (h2.ai (R + 5)) (8 + i)) 8 := by
          by_cases e : dv (fun i => dg (h2.ai (R + 5)) (8 + i)) 8 = 0
          · exfalso
            apply hge
            rw [va16, e, Nat.zero_mul, Nat.add_zero]
            exact va_lt _ _
          · omega
        have hmq : 1 ≤ m * dv (fun i => dg (h2.ai (R + 5)) (8 + i)) 8 := Nat.le_trans (by omega) (Nat.mul_le_mul n3 hq)
        generalize dv (fun i => dg (h2.ai (R + 5)) (8 + i)) 8 = Q at *
        refine ih _ ⟨hM9, ?_⟩ ?_
        · rw [e9, ← hv1, ← hV, Nat.add_mul_mod_self_left]
        · rw [e9]
          omega
      · rw [e10.trans d8]
        refine ⟨d17.1, fun r12 e12 r13 e13 => ?_⟩
        rw [e12.trans d17.2.1, e13.trans d4, AH.ai_wiN n512, AH.ai_wiS, AH.wi_wi, d13.2, nI_1, pk_cl k]
        unfold cpD
        rw [putB_len, d17.2.2.2]
        refine ⟨d13.1, pk_in k 16 (by omega), d17.2.2.1, pk_in k 8 h8, fun h10 e10 => ?_⟩
        have e := putB_succ (L := h2.ai (R + 12)) (off := 0) (n := k) (g := fun i => (h2.ai (R + 5)).getD i 0) (x := (h2.ai (R + 5)).getD k 0) (by rw [d17.2.2.2]; omega) rfl
        rw [Nat.zero_add] at e
        rw [e10, e]
        exact ih2 h8 () trivial
theorem Ring_multiply_spec {t tw a aw b bw : Nat} (hd : 2 ≤ d) (hR : RingAt h R m) (ht : BigAt h t tw) (ha : BigAt h a aw) (hb : BigAt h b bw) (ht2 : tw ≠ R + 2 ∧ tw ≠ R + 4 ∧ tw ≠ R + 5 ∧ tw ≠ R + 6 ∧ tw ≠ R + 12) (ha2 : aw ≠ R + 5) (hb2 : bw ≠ R + 5) :
    Cw G mX4_multiply d 0 [vR R, vR t, vR a, vR b] h (kV (fun h' => Mod (fun x => x = R + 5 ∨ x = R + 6 ∨ x = R + 12 ∨ x = tw) h h' ∧ h'.ai tw = lb (bv h aw * bv h bw % m)) nE) := by
  obtain ⟨d, rfl⟩ : ∃ d', d = d' + 1 := ⟨d - 1, by omega⟩
  have hR' := hR
  obtain ⟨⟨c1, c2, c3, c4, c5, c6, c7, c8, c9, c10, c11, c12, c13, c14, c15, c16, c17, c18, c19⟩, m1, m2, m3⟩ := hR
  refine eX4_multiply h R t a b (fun w => sX4_multiply_0 h R t a b ⟨c1, fun r2 e2 => ⟨ha.1, fun r4 e4 => ?_⟩⟩)
  rw [e2.trans c4, e4.trans ha.2.1]
  have hal := ha.2.2.2
  have hp := Ring_product_spec (G := G) (d := d) (h := h) (R := R) (to := R + 5) (av := aw) (fr := 0) (b := b) (bw := bw) (p := 0) (pv := 0) (by omega) c13.2 c13.1 ha.2.2.1 (by omega) (by omega) hb ha2 hb2 (by omega) (Or.inl ⟨rfl, rfl⟩)
  refine hp.nV (fun h6 q => ?_)
  obtain ⟨T, rfl, l, hv⟩ := q
  refine multiply_15 (V := bv h aw * bv h bw) (by omega) hR' ht ht2 (fun h1 a b => ⟨a, b⟩) _ ⟨Mod.wi (by rw [l, c13.2]) (Or.inl rfl), ?_⟩
  rw [AH.ai_wiS, hv, Nat.zero_add]
  have e0 : dv (fun i => dg (h.ai aw) (0 + i)) 8 = bv h aw := dv_congr (fun i _ => by rw [Nat.zero_add])
  rw [e0]
end Ring2

/-! targets by their short form, both sides -/
set_option maxRecDepth 100000
theorem nI_and (a b : Nat) : nI a &&& nI b = nI (a &&& b) := by
  apply Int32.toBitVec_inj.mp
  rw [Int32.toBitVec_and, nI_bv, nI_bv, nI_bv]
  apply BitVec.eq_of_toNat_eq
  simp [Nat.and_mod_two_pow]
theorem and_b23 (v : Nat) : v &&& 8388608 = 0 ↔ v / 2 ^ 23 % 2 = 0 := by
  have e : v.testBit 23 = decide (v / 2 ^ 23 % 2 = 1) := Nat.testBit_eq_decide_div_mod_eq
  constructor
  · intro h
    have h1 : (v &&& 2 ^ 23).testBit 23 = false := by
      rw [show (2 : Nat) ^ 23 = 8388608 by decide, h]
      exact Nat.zero_testBit 23
    rw [Nat.testBit_and, Nat.testBit_two_pow_self, Bool.and_true, e] at h1
    have := of_decide_eq_false h1
    omega
  · intro h
    apply Nat.eq_of_testBit_eq
    intro i
    rw [show (8388608 : Nat) = 2 ^ 23 by decide, Nat.testBit_and, Nat.testBit_two_pow, Nat.zero_testBit]
    by_cases c : 23 = i
    · rw [← c, e, decide_eq_false (by omega)]
      rfl
    · rw [decide_eq_false c, Bool.and_false]
theorem and_23 {v : Nat} : nI v &&& 8388608 = 0 ↔ v / 2 ^ 23 % 2 = 0 := by
  have e1 : nI v &&& 8388608 = nI (v &&& 8388608) := nI_and v 8388608
  have hle : v &&& 8388608 ≤ 8388608 := Nat.and_le_right
  rw [e1, ← and_b23]
  exact nI_eq (b := 0) (by omega) (by decide)
/-- the target of a short form; 0 if it is none -/
def tgN (v : Nat) : Nat := if v / 2 ^ 23 % 2 = 1 ∨ 32 < v / 2 ^ 24 then 0 else v % 2 ^ 23 * 256 ^ (v / 2 ^ 24) / 256 ^ 3
theorem p256_le {a b : Nat} (h : a ≤ b) : 256 ^ a ≤ 256 ^ b := Nat.pow_le_pow_right (by decide) h
theorem tg_mul {w s : Nat} (h : 3 ≤ s) : w * 256 ^ s / 256 ^ 3 = w * 256 ^ (s - 3) := by
  rw [show s = (s - 3) + 3 by omega, Nat.pow_add, ← Nat.mul_assoc, Nat.mul_div_cancel _ (by decide), show s - 3 + 3 - 3 = s - 3 by omega]
theorem tg_div {w s : Nat} (h : s ≤ 3) : w * 256 ^ s / 256 ^ 3 = w / 256 ^ (3 - s) := by
  rw [show (256 : Nat) ^ 3 = 256 ^ (3 - s) * 256 ^ s by rw [← Nat.pow_add]; congr 1; omega]
  exact Nat.mul_div_mul_right _ _ (Nat.pow_pos (by decide))
/-- one byte more of the word -/
theorem w_more (w k : Nat) : w % 256 ^ (k + 1) = w % 256 ^ k + w / 256 ^ k % 256 * 256 ^ k := by
  rw [Nat.pow_succ, Nat.mod_mul, Nat.mul_comm (256 ^ k)]
theorem tgN_lt (v : Nat) : tgN v < 4294967296 ^ 8 := by
  unfold tgN
  split
  · decide
  · rename_i c
    have c2 : v / 2 ^ 24 ≤ 32 := by omega
    have h1 : v % 2 ^ 23 < 256 ^ 3 := by have := Nat.mod_lt v (show 0 < 2 ^ 23 by decide); have : (2 : Nat) ^ 23 < 256 ^ 3 := by decide
                                         omega
    have h2 := p256_le c2
    have h3 : v % 2 ^ 23 * 256 ^ (v / 2 ^ 24) < 256 ^ 3 * 256 ^ 32 := Nat.lt_of_lt_of_le (Nat.mul_lt_mul_of_pos_right h1 (Nat.pow_pos (by decide))) (Nat.mul_le_mul_left _ h2)
    rw [show 4294967296 ^ 8 = 256 ^ 32 from rfl]
    exact Nat.div_lt_of_lt_mul h3
theorem sm_neg : ∀ s, s < 3 → ∀ k, k < 3 → s + k < 3 → ((nI s - 3 : Int32) + nI k) < 0 := by decide
theorem sm_add (s k c : Nat) : nI s - nI c + nI k = nI s + nI k - nI c := by
  rw [Int32.sub_eq_add_neg, Int32.sub_eq_add_neg, Int32.add_assoc, Int32.add_comm (-nI c), ← Int32.add_assoc]
section Tgt
variable {G : Gx} {d : Nat} {h : AH} {t tw r v : Nat}
theorem X1_targetOf_spec (hd : 3 ≤ d) (hv : v < 4294967296) (ht : BigAt h t tw) : Cw G mX1_targetOf d 0 [vI (nI v), vR t] h (kR (fun x h' => x = t ∧ h' = h.wi tw (lb (tgN v))) nE) := by
  obtain ⟨d, rfl⟩ : ∃ d', d = d' + 1 := ⟨d - 1, by omega⟩
  have ht' := ht
  obtain ⟨t1, t2, t3, t4⟩ := ht
  have es : jushr (nI v) 24 = nI (v / 2 ^ 24) := jushr_n (s := 24) hv (by decide)
  have ew : (nI v &&& 8388607).toInt64 = lN (v % 2 ^ 23) := by
    rw [show nI v &&& 8388607 = nI (v % 2 ^ 23) from pk_andN hv 23 (by decide), nI_l (by have := Nat.mod_lt v (show 0 < 2 ^ 23 by decide); omega)]
  have hs : v / 2 ^ 24 < 256 := by omega
  have hw : v % 2 ^ 23 < 2 ^ 23 := Nat.mod_lt _ (by decide)
  refine eX1_targetOf h (nI v) t (fun _ => sX1_targetOf_0 h (nI v) t ⟨t1, (Big_zero_spec (by omega) ht').nR (fun x1 h2 Q => ?_)⟩)
  obtain ⟨_, e2⟩ := Q
  rw [es, ew]
  have b2 : BigAt h2 t tw := by rw [e2]; exact ⟨t1, t2, t3, by rw [AH.ai_wiS, lb_len]⟩
  refine ⟨fun c => ⟨rfl, ?_⟩, fun c => pk_le (v / 2 ^ 24) 32 (fun c2 => pk_lt 3 (v / 2 ^ 24) (fun c3 => ?_) (fun c3 => ?_)) (fun c2 => ⟨rfl, ?_⟩)⟩
  · have : ¬ v / 2 ^ 23 % 2 = 0 := fun q => c (and_23.mpr q)
    rw [e2]
    unfold tgN
    rw [if_pos (Or.inl (by omega))]
  · have c0 := and_23.mp c
    have eT : tgN v = v % 2 ^ 23 * 256 ^ (v / 2 ^ 24 - 3) := by
      unfold tgN
      rw [if_neg (by omega), tg_mul (by omega)]
    rw [eT]
    generalize v % 2 ^ 23 = w at *
    generalize v / 2 ^ 24 = s at *
    have key := loop_uc (n := 3) (P := fun k (_ : Unit) => Aw G mX1_targetOf (d + 1) 0 h (kR (fun x h' => x = t ∧ h' = h.wi tw (lb (w * 256 ^ (s - 3)))) nE) 52 [vU, vR t, vI (nI s), vJ (lN w), vU, vI (nI k), vU, vU] [] (h.wi tw (lb (w % 256 ^ k * 256 ^ (s - 3))))) (fun _ _ => True) (fun k _ hk _ ih => ?_) 0 () (Nat.zero_le _) trivial
    · rw [Nat.pow_zero, Nat.mod_one, Nat.zero_mul] at key
      rw [e2]
      exact key
    · refine sX1_targetOf_52 _ t (nI s) (lN w) (nI k) (pk_le 3 k (fun z => ?_) (fun z u2 e3 => ?_))
      · obtain rfl : k = 3 := by omega
        refine ⟨rfl, ?_⟩
        rw [Nat.mod_eq_of_lt (show w < 256 ^ 3 by have : (2 : Nat) ^ 23 < 256 ^ 3 := by decide
                                                  omega)]
      · have e8 : (8 : Int32) * nI k = nI (8 * k) := by rw [show (8 : Int32) = nI 8 from rfl, pk_mul]
        have eu : u2 = nI (w / 256 ^ k % 256) := by
          rw [e3, e8, Jushr_n (by omega) (by omega), lN_i, and_255, u32_nI, p256]
          congr 1
          have : w / 2 ^ (8 * k) ≤ w := Nat.div_le_self _ _
          omega
        have ej : (nI s - 3 : Int32) + nI k = nI (s - 3 + k) := by rw [show (3 : Int32) = nI 3 from rfl, pk_sub (by omega), nI_add]
        refine ⟨t1, fun r4 e4 => ?_⟩
        rw [show r4 = tw from e4.trans t2, AH.ai_wiS, AH.wi_wi, lb_len, ej, jshr_2 (by omega), pk_cl ((s - 3 + k) / 4) rfl (by omega), and_3 (by omega), eu, jshl_byte _ (by omega), nI_1]
        have hb : w / 256 ^ k % 256 < 256 := Nat.mod_lt _ (by decide)
        have h1 : w % 256 ^ k < 256 ^ k := Nat.mod_lt _ (Nat.pow_pos (by decide))
        have h2' : w % 256 ^ k * 256 ^ (s - 3) < 256 ^ (s - 3 + k) := by
          rw [Nat.pow_add, Nat.mul_comm (256 ^ (s - 3))]
          exact Nat.mul_lt_mul_of_pos_right h1 (Nat.pow_pos (by decide))
        have h3 := p256_le (show s - 3 + k ≤ 32 by omega)
        refine ⟨t3, pk_in ((s - 3 + k) / 4) 8 (by omega), pk_in ((s - 3 + k) / 4) 8 (by omega), fun h8 e8' => ?_⟩
        rw [e8', lb_orB (X := w / 256 ^ k % 256) (j := s - 3 + k) (by rw [show 4294967296 ^ 8 = 256 ^ 32 from rfl]; omega) (by omega) (by rw [Nat.div_eq_of_lt h2']) hb rfl]
        have := ih (by omega) () trivial
        rw [w_more, Nat.add_mul, Nat.mul_assoc, ← Nat.pow_add, Nat.add_comm k (s - 3)] at this
        exact this
  · have c0 := and_23.mp c
    have e3 : (3 : Int32) - nI (v / 2 ^ 24) = nI (3 - v / 2 ^ 24) := by rw [show (3 : Int32) = nI 3 from rfl, pk_sub (by omega)]
    have eT : tgN v = v % 2 ^ 23 / 256 ^ (3 - v / 2 ^ 24) := by
      unfold tgN
      rw [if_neg (by omega), tg_div (by omega)]
    have hq : v % 2 ^ 23 / 2 ^ (8 * (3 - v / 2 ^ 24)) ≤ v % 2 ^ 23 := Nat.div_le_self _ _
    rw [e3, show (8 : Int32) = nI 8 from rfl, pk_mul, Jushr_n (by omega) (by omega)]
    refine (Big_small_spec (by omega) (by omega) b2).nR (fun x7 h8 Q => ?_)
    obtain ⟨e7, e8⟩ := Q
    refine ⟨e7, ?_⟩
    rw [e8, e2, AH.wi_wi, eT, p256]
  · rw [e2]
    unfold tgN
    rw [if_pos (Or.inr c2)]
set_option maxHeartbeats 1000000 in
theorem MD_target_spec (hd : 1 ≤ d) (hv : v < 4294967296) (hr : RowAt h r) : Cw G mX24_target d 0 [vI (nI v), vR r] h (kI (fun x h' => x = bB (decide (tgN v ≠ 0)) ∧ h' = h.wi r (lb (tgN v))) nE) := by
  obtain ⟨d, rfl⟩ : ∃ d', d = d' + 1 := ⟨d - 1, by omega⟩
  obtain ⟨r1, r2⟩ := hr
  have es : jushr (nI v) 24 = nI (v / 2 ^ 24) := jushr_n (s := 24) hv (by decide)
  have ew : nI v &&& 8388607 = nI (v % 2 ^ 23) := pk_andN hv 23 (by decide)
  have hs : v / 2 ^ 24 < 256 := by omega
  have hw : v % 2 ^ 23 < 2 ^ 23 := Nat.mod_lt _ (by decide)
  refine eX24_target h (nI v) r (fun _ => sX24_target_0 h (nI v) r ?_)
  rw [es, ew]
  have z0 : ∀ L : List Int32, L.length = 8 → (∀ i, i < 8 → L.getD i 0 = 0) → L = lb 0 := fun L l g => ext_getD (z := 0) (by rw [lb_len, l]) (fun i hi => by
    rw [g i (by omega), lb_getD _ (by omega), Nat.zero_div]
    rfl)
  have key := loop_uc (n := 8) (P := fun k (T : List Int32) => Aw G mX24_target (d + 1) 0 h (kI (fun x h' => x = bB (decide (tgN v ≠ 0)) ∧ h' = h.wi r (lb (tgN v))) nE) 14 [vI (nI v), vR r, vI (nI (v / 2 ^ 24)), vI (nI (v % 2 ^ 23)), vI (nI k), vU, vU, vU] [] (h.wi r T)) (fun k T => T.length = 8 ∧ ∀ i, i < k → T.getD i 0 = 0) (fun k T hk hI ih => ?_) 0 (h.ai r) (Nat.zero_le _) ⟨r2, fun i hi => absurd hi (Nat.not_lt_zero _)⟩
  · rw [AH.wi_self] at key
    exact key
  · obtain ⟨lT, gT⟩ := hI
    refine sX24_target_14 _ (nI v) r (nI (v / 2 ^ 24)) (nI (v % 2 ^ 23)) (nI k) (pk_le 8 k (fun z => ?_) (fun z => ?_))
    · obtain rfl : k = 8 := by omega
      rw [z0 T lT gT]
      refine ⟨fun c => ?_, fun c => pk_le (v / 2 ^ 24) 32 (fun c2 => ?_) (fun c2 => ?_)⟩
      · have : ¬ v / 2 ^ 23 % 2 = 0 := fun q => c (and_23.mpr q)
        have e0 : tgN v = 0 := by
          unfold tgN
          rw [if_pos (Or.inl (by omega))]
        rw [e0]
        exact ⟨rfl, rfl⟩
      · have c0 := and_23.mp c
        have eT : tgN v = v % 2 ^ 23 * 256 ^ (v / 2 ^ 24) / 256 ^ 3 := by
          unfold tgN
          rw [if_neg (by omega)]
        rw [eT]
        generalize v % 2 ^ 23 = w at *
        generalize v / 2 ^ 24 = s at *
        have key := loop_uc (n := 3) (P := fun k (a : Nat) => Aw G mX24_target (d + 1) 0 h (kI (fun x h' => x = bB (decide (w * 256 ^ s / 256 ^ 3 ≠ 0)) ∧ h' = h.wi r (lb (w * 256 ^ s / 256 ^ 3))) nE) 54 [vU, vR r, vI (nI s), vI (nI w), vI (nI a), vI (nI k), vU, vU] [] (h.wi r (lb (w % 256 ^ k * 256 ^ s / 256 ^ 3)))) (fun k a => a < 256 ∧ (a = 0 ↔ w % 256 ^ k * 256 ^ s / 256 ^ 3 = 0)) (fun k a hk hI ih => ?_) 0 0 (Nat.zero_le _) ⟨by decide, ⟨fun _ => by rw [Nat.pow_zero, Nat.mod_one, Nat.zero_mul, Nat.zero_div], fun _ => rfl⟩⟩
        · rw [Nat.pow_zero, Nat.mod_one, Nat.zero_mul, Nat.zero_div] at key
          exact key
        · obtain ⟨ha, hz⟩ := hI
          have hwm := w_more w k
          have h1 : w % 256 ^ k < 256 ^ k := Nat.mod_lt _ (Nat.pow_pos (by decide))
          have hb : w / 256 ^ k % 256 < 256 := Nat.mod_lt _ (by decide)
          have hA : w % 256 ^ k * 256 ^ s < 256 ^ (s + k) := by
            rw [Nat.pow_add, Nat.mul_comm (256 ^ s)]
            exact Nat.mul_lt_mul_of_pos_right h1 (Nat.pow_pos (by decide))
          refine sX24_target_54 _ r (nI s) (nI w) (nI a) (nI k) (pk_le 3 k (fun y => ?_) (fun y => ?_))
          · obtain rfl : k = 3 := by omega
            rw [Nat.mod_eq_of_lt (show w < 256 ^ 3 by have : (2 : Nat) ^ 23 < 256 ^ 3 := by decide
                                                      omega)] at hz ⊢
            refine pk_eq a 0 (fun q => ⟨?_, rfl⟩) (fun q => ⟨?_, rfl⟩)
            · rw [decide_eq_false (show ¬ w * 256 ^ s / 256 ^ 3 ≠ 0 from fun y => y (hz.mp q))]
              rfl
            · rw [decide_eq_true (show w * 256 ^ s / 256 ^ 3 ≠ 0 from fun y => q (hz.mpr y))]
              rfl
          · have e8 : (8 : Int32) * nI k = nI (8 * k) := by rw [show (8 : Int32) = nI 8 from rfl, pk_mul]
            have eu : jushr (nI w) (8 * nI k) &&& 255 = nI (w / 256 ^ k % 256) := by
              rw [e8, jushr_n (by omega) (by omega), and_255, u32_nI, p256]
              congr 1
              have : w / 2 ^ (8 * k) ≤ w := Nat.div_le_self _ _
              omega
            -- the next value
            have nx0 : (s + k < 3 ∨ w / 256 ^ k % 256 = 0) → w % 256 ^ (k + 1) * 256 ^ s / 256 ^ 3 = w % 256 ^ k * 256 ^ s / 256 ^ 3 := fun q => by
              rcases q with q | q
              · have h5 := p256_le (show s + k + 1 ≤ 3 by omega)
                have h6 := p256_le (show s + k ≤ 3 by omega)
                have h7 : w % 256 ^ (k + 1) * 256 ^ s < 256 ^ (s + k + 1) := by
                  rw [show s + k + 1 = (k + 1) + s by omega, Nat.pow_add 256 (k + 1) s]
                  exact Nat.mul_lt_mul_of_pos_right (Nat.mod_lt _ (Nat.pow_pos (show 0 < 256 by decide))) (Nat.pow_pos (show 0 < 256 by decide))
                rw [Nat.div_eq_of_lt (Nat.lt_of_lt_of_le h7 h5), Nat.div_eq_of_lt (Nat.lt_of_lt_of_le hA h6)]
              · rw [hwm, q, Nat.zero_mul, Nat.add_zero]
            have nx1 : 3 ≤ s + k → w % 256 ^ (k + 1) * 256 ^ s / 256 ^ 3 = w % 256 ^ k * 256 ^ s / 256 ^ 3 + w / 256 ^ k % 256 * 256 ^ (s + k - 3) := fun q => by
              rw [hwm, Nat.add_mul, Nat.mul_assoc, ← Nat.pow_add, show k + s = (s + k - 3) + 3 by omega, Nat.pow_add, ← Nat.mul_assoc, Nat.add_mul_div_right _ _ (by decide)]
            rw [eu, nI_1]
            by_cases c3 : s + k < 3
            · have ej : ((nI s - 3 : Int32) + nI k) < 0 := by
                have hs3 : s < 3 := by omega
                have hk3 : k < 3 := by omega
                exact sm_neg s hs3 k hk3 c3
              refine ⟨fun _ => ?_, fun q => absurd ej q⟩
              have := ih (by omega) a ⟨ha, by rw [nx0 (Or.inl c3)]; exact hz⟩
              rw [nx0 (Or.inl c3)] at this
              exact this
            · have ej : (nI s - 3 : Int32) + nI k = nI (s + k - 3) := by
                rw [show (3 : Int32) = nI 3 from rfl, sm_add s k 3]
                rw [nI_add, pk_sub (by omega)]
              rw [ej]
              refine pk_lt (s + k - 3) 0 (fun q => absurd q (Nat.not_lt_zero _)) (fun _ => pk_eq' (w / 256 ^ k % 256) 0 (fun q => pk_le (s + k - 3) 31 (fun _ => ?_) (fun z => absurd z (by omega))) (fun q => ?_))
              · rw [AH.ai_wiS, AH.wi_wi, lb_len, show (4 : Int32) = nI 4 from rfl, pk_div (by omega) (by decide) (by decide), pk_cl ((s + k - 3) / 4) rfl (by omega), jrem_n (by omega) (by decide) (by decide), jshl_byte _ (by omega)]
                refine ⟨r1, pk_in ((s + k - 3) / 4) 8 (by omega), pk_in ((s + k - 3) / 4) 8 (by omega), fun h9 e9 u10 e10 => ?_⟩
                have h5 := p256_le (show s + k - 3 ≤ 32 by omega)
                have hB : w % 256 ^ k * 256 ^ s / 256 ^ 3 < 256 ^ (s + k - 3) := by
                  apply Nat.div_lt_of_lt_mul
                  rw [← Nat.pow_add, show 3 + (s + k - 3) = s + k by omega]
                  exact hA
                rw [e9, lb_orB (X := w / 256 ^ k % 256) (j := s + k - 3) (by rw [show 4294967296 ^ 8 = 256 ^ 32 from rfl]; omega) (by omega) (by rw [Nat.div_eq_of_lt hB]) hb rfl, e10, nI_or]
                have ho : a ||| w / 256 ^ k % 256 < 256 := Nat.or_lt_two_pow (n := 8) ha hb
                have hne : a ||| w / 256 ^ k % 256 ≠ 0 := fun y => q (by
                  have := Nat.right_le_or (n := a) (m := w / 256 ^ k % 256)
                  omega)
                have := ih (by omega) (a ||| w / 256 ^ k % 256) ⟨ho, ⟨fun y => absurd y hne, fun y => by
                  rw [nx1 (by omega)] at y
                  have : 0 < w / 256 ^ k % 256 * 256 ^ (s + k - 3) := Nat.mul_pos (by omega) (Nat.pow_pos (by decide))
                  omega⟩⟩
                rw [nx1 (by omega)] at this
                exact this
              · have := ih (by omega) a ⟨ha, by rw [nx0 (Or.inr q)]; exact hz⟩
                rw [nx0 (Or.inr q)] at this
                exact this
      · have e0 : tgN v = 0 := by
          unfold tgN
          rw [if_pos (Or.inr c2)]
        rw [e0]
        exact ⟨rfl, rfl⟩
    · rw [AH.ai_wiS, lT, AH.wi_wi, pk_cl k rfl (by omega), nI_1]
      refine ⟨r1, pk_in k 8 (by omega), fun h6 e6 => ?_⟩
      rw [e6]
      refine ih (by omega) _ ⟨by rw [List.length_set]; exact lT, fun i hi => ?_⟩
      by_cases c : i = k
      · rw [c, getD_set_eq (by omega)]
      · rw [getD_set_ne c]
        exact gT i (by omega)
end Tgt

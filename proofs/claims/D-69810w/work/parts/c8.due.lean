/-! the target that is due: the reckoning, the component -/
set_option maxRecDepth 100000
theorem AH.wl_wl (h : AH) (a : Nat) (u v : List Int64) : (h.wl a u).wl a v = h.wl a v := by
  unfold AH.wl
  congr 1
  funext x
  show (if x = a then v else if x = a then u else h.al x) = if x = a then v else h.al x
  by_cases e : x = a
  · rw [if_pos e, if_pos e]
  · rw [if_neg e, if_neg e, if_neg e]
theorem AH.wl_self (h : AH) (a : Nat) : h.wl a (h.al a) = h := by
  have : up1 h.al a (h.al a) = h.al := by
    funext x
    show (if x = a then h.al a else h.al x) = h.al x
    by_cases e : x = a
    · rw [if_pos e, e]
    · rw [if_neg e]
  unfold AH.wl
  rw [this]
  rfl
theorem lN_and (a b : Nat) : lN a &&& lN b = lN (a &&& b) := by
  apply Int64.toBitVec_inj.mp
  rw [Int64.toBitVec_and, lN_bv, lN_bv, lN_bv]
  apply BitVec.eq_of_toNat_eq
  simp [Nat.and_mod_two_pow]
theorem lN_low (n : Nat) : lN n &&& 4294967295 = lN (n % 4294967296) := by
  have e : lN n &&& 4294967295 = lN (n &&& (2 ^ 32 - 1)) := lN_and n 4294967295
  rw [e, Nat.and_two_pow_sub_one_eq_mod]
theorem bits_es : bitsN esN = 545259519 := by
  have e : esN = 8388607 * 256 ^ 29 := by decide +kernel
  have h1 : byL esN = 32 := byL_eq (by rw [e]; decide +kernel) (fun _ => by rw [e]; decide +kernel)
  have w3 : wdN esN 3 = 8388607 := by
    unfold wdN wdN wdN wdN byP
    rw [h1, e]
    decide +kernel
  unfold bitsN
  rw [w3, h1]
  decide
section Due
variable {G : Gx} {d : Nat} {h h0 : AH} {tb tw pl T t : Nat}
set_option maxHeartbeats 1000000 in
theorem due_89 (hd : 4 ≤ d) (kb : BigAt h tb tw) (eT : h.ai tw = lb T) (kp : h.kd pl = 103) (lp : (h.al pl).length = 9) (zz : tb < h.z ∧ tw < h.z ∧ pl < h.z) (hT : T < 4294967296 ^ 8) (ht : 0 < t ∧ t ≤ 19200) :
    Aw G mX1_due (d + 1) 0 h0 (kI (fun x h' => x = nI (dueN T t) ∧ Same (fun y => y = pl ∨ y = tw) h h' ∧ h'.z = h.z + 2 ∧ h'.s = h.s + 9) nE) 89 [vU, vU, vJ (lN t), vU, vJ 4800, vU, vR tb, vR pl, vJ 0, vU, vI 0, vU, vU, vU, vU] [] h := by
  have hd1 : 1 ≤ d := by omega
  have hd3 : 3 ≤ d := by omega
  have hN : T * t < 4294967296 ^ 9 := by
    have h1 : T * t ≤ T * 19200 := Nat.mul_le_mul_left _ ht.2
    have h2 : T * 19200 < 4294967296 ^ 8 * 19200 := Nat.mul_lt_mul_of_pos_right hT (by decide)
    have h3 : 4294967296 ^ 8 * 19200 ≤ 4294967296 ^ 9 := by decide
    omega
  have tp : tw ≠ pl := fun e => by
    have := kb.2.2.1
    rw [e, kp] at this
    exact absurd this (by decide)
  -- the answer
  have c212 : ∀ (P : List Int64) (g : AH), P.length = 9 → (∀ i, i < 9 → P.getD i 0 = lN (T * t / 4800 / 4294967296 ^ i % 4294967296)) → NB (h.wl pl P) g → ∀ x7 h8, x7 = h.z → h8 = g.wi (h.z + 1) (lb esN) → Aw G mX1_due (d + 1) 0 h0 (kI (fun x h' => x = nI (dueN T t) ∧ Same (fun y => y = pl ∨ y = tw) h h' ∧ h'.z = h.z + 2 ∧ h'.s = h.s + 9) nE) 212 [vU, vU, vU, vU, vU, vU, vR tb, vR pl, vU, vU, vU, vU, vR x7, vI 0, vU] [] h8 := fun P g lP gP NBg x7 h8 e7 e8 => by
    obtain ⟨b1, b2, b3, b4, b5⟩ := NBg
    have bz : (h.wl pl P).z = h.z := rfl
    rw [bz] at b1 b2
    have z4 : g.z = h.z + 2 := b4
    have s5 : g.s = h.s + 9 := b5
    have l1 : (g.ai (h.z + 1)).length = 8 := b1.2.2.2
    have B8 : BigAt h8 h.z (h.z + 1) := by rw [e8]; exact b1.wi (by rw [lb_len, l1])
    have a8 : h8.ai (h.z + 1) = lb esN := by rw [e8, AH.ai_wiS]
    have S8 : Same (fun y => y = pl ∨ y = tw) h h8 := by
      rw [e8]
      refine Same.wi (Same.trans (Same.rf.wl P (by rw [lP, lp]) (Or.inl (Or.inl rfl))) b3 (fun y _ q => q.elim)) _ (by rw [lb_len, l1]) (Or.inr (by omega))
    have eqs : ∀ y, y < h.z → eqAt (h.wl pl P) h8 y := fun y hy => by
      have q1 := b3.2.2 y hy id
      rw [e8]
      exact ⟨q1.1, q1.2.1, q1.2.2.1, q1.2.2.2.1, by rw [AH.ai_wiN (by omega)]; exact q1.2.2.2.2.1, q1.2.2.2.2.2.1, q1.2.2.2.2.2.2⟩
    have t8 : BigAt h8 tb tw := BigAt.eqc (h := h.wl pl P) kb (eqs _ zz.1) (eqs _ zz.2.1)
    have p8 : h8.al pl = P := ((eqs _ zz.2.2).2.2.2.2.2.1).trans (if_pos rfl)
    have k8 : h8.kd pl = 103 := (eqs _ zz.2.2).1.trans kp
    have z8 : h8.z = h.z + 2 := by rw [e8]; exact z4
    have s8 : h8.s = h.s + 9 := by rw [e8]; exact s5
    clear e8 b1 b2 b3 b4 b5
    rw [e7]
    have key := loop_uc (n := 8) (P := fun k (L : List Int32) => Aw G mX1_due (d + 1) 0 h0 (kI (fun x h' => x = nI (dueN T t) ∧ Same (fun y => y = pl ∨ y = tw) h h' ∧ h'.z = h.z + 2 ∧ h'.s = h.s + 9) nE) 212 [vU, vU, vU, vU, vU, vU, vR tb, vR pl, vU, vU, vU, vU, vR h.z, vI (nI k), vU] [] (h8.wi tw L)) (fun k L => L.length = 8 ∧ ∀ i, i < k → L.getD i 0 = nI (T * t / 4800 / 4294967296 ^ i)) (fun k L hk hI ih => ?_) 0 (h8.ai tw) (Nat.zero_le _) ⟨t8.2.2.2, fun i hi => absurd hi (Nat.not_lt_zero _)⟩
    · rw [AH.wi_self] at key
      exact key
    · obtain ⟨lL, gL⟩ := hI
      have fr : Same (fun y => y = pl ∨ y = tw) h (h8.wi tw L) ∧ (h8.wi tw L).z = h.z + 2 ∧ (h8.wi tw L).s = h.s + 9 := ⟨S8.wi _ (by rw [lL]; exact t8.2.2.2.symm) (Or.inl (Or.inr rfl)), z8, s8⟩
      refine sX1_due_212 _ tb pl h.z (nI k) (pk_le 8 k (fun z => ⟨k8, ?_⟩) (fun z => ⟨t8.1, fun r12 e12 => ?_⟩))
      · obtain rfl : k = 8 := by omega
        have eL : L = lb (T * t / 4800) := ext_getD (z := 0) (by rw [lL, lb_len]) (fun i hi => by rw [gL i (by omega), lb_getD _ (by omega)])
        have q8 : T * t / 4800 / 4294967296 ^ 8 < 4294967296 := by
          have : T * t / 4800 / 4294967296 ^ 8 < 19201 := by
            apply Nat.div_lt_of_lt_mul
            have h1 : T * t ≤ T * 19200 := Nat.mul_le_mul_left _ ht.2
            have h2 : T * 19200 < 4294967296 ^ 8 * 19200 := Nat.mul_lt_mul_of_pos_right hT (by decide)
            have h3 : T * t / 4800 ≤ T * t := Nat.div_le_self _ _
            omega
          omega
        rw [show (h8.wi tw L).al pl = P from p8, lP, show (8 : Int32).toNatClampNeg = 8 from rfl, gP 8 (by decide), Nat.mod_eq_of_lt q8]
        have hard : ¬ T * t / 4800 ≤ esN → (kI (fun x h' => x = nI (dueN T t) ∧ Same (fun y => y = pl ∨ y = tw) h h' ∧ h'.z = h.z + 2 ∧ h'.s = h.s + 9) nE) (.inl (some (vI 545259519))) (h8.wi tw L) := fun q => by
          refine ⟨?_, fr⟩
          unfold dueN
          rw [if_neg q, bits_es]
          rfl
        have z0 : lN (T * t / 4800 / 4294967296 ^ 8) = 0 ↔ T * t / 4800 / 4294967296 ^ 8 = 0 := lN_0 (by omega)
        rw [z0]
        refine ⟨pk_in 8 9 (by decide), fun q => hard (fun y => q ?_), fun q => ⟨t8.1, ?_⟩⟩
        · have := es_lt
          exact Nat.div_eq_of_lt (by omega)
        · have q9 : T * t / 4800 < 4294967296 ^ 8 := by
            rcases Nat.lt_or_ge (T * t / 4800) (4294967296 ^ 8) with w | w
            · exact w
            · have := Nat.div_pos w (Nat.pow_pos (show 0 < 4294967296 by decide))
              omega
          have tL : BigAt (h8.wi tw L) tb tw := t8.wi (by rw [lL]; exact t8.2.2.2.symm)
          have zL : BigAt (h8.wi tw L) h.z (h.z + 1) := B8.wi (by rw [lL]; exact t8.2.2.2.symm)
          have vt : bv (h8.wi tw L) tw = T * t / 4800 := bv_of (by rw [AH.ai_wiS]; exact eL) q9
          have ve : bv (h8.wi tw L) (h.z + 1) = esN := bv_of (by rw [AH.ai_wiN (by omega)]; exact a8) es_lt
          refine (Big_compare_spec hd1 tL zL).nI (fun x5 h6 Q => ?_)
          obtain ⟨e5, e6⟩ := Q
          rw [vt, ve] at e5
          rw [e6, e5, cmpI_le]
          refine ⟨fun y => (X1_bitsOf_spec hd3 tL).nI (fun x9 h10 Q => ?_), fun y => hard y⟩
          obtain ⟨e9, e10⟩ := Q
          rw [vt] at e9
          rw [e10]
          refine ⟨?_, fr⟩
          rw [e9]
          unfold dueN
          rw [if_pos y]
      · rw [show r12 = tw from e12.trans t8.2.1, show (h8.wi tw L).al pl = P from p8, lP, AH.ai_wiS, lL, AH.wi_wi, pk_cl k rfl (by omega), gP k (by omega), lN_i, nI_wmod, nI_1]
        refine ⟨k8, pk_in k 9 (by omega), t8.2.2.1, pk_in k 8 (by omega), fun h17 e17 => ?_⟩
        rw [e17]
        refine ih (by omega) _ ⟨by rw [List.length_set]; exact lL, fun i hi => ?_⟩
        by_cases c : i = k
        · rw [c, getD_set_eq (by omega)]
        · rw [getD_set_ne c]
          exact gL i (by omega)
  -- the division
  have c154 : ∀ (k : Nat) (P : List Int64), k ≤ 9 → P.length = 9 → (∀ i, i < 9 → P.getD i 0 = if i < k then lN (T * t / 4294967296 ^ i % 4294967296) else lN (T * t / 4800 / 4294967296 ^ i % 4294967296)) → Aw G mX1_due (d + 1) 0 h0 (kI (fun x h' => x = nI (dueN T t) ∧ Same (fun y => y = pl ∨ y = tw) h h' ∧ h'.z = h.z + 2 ∧ h'.s = h.s + 9) nE) 154 [vU, vU, vU, vU, vJ 4800, vU, vR tb, vR pl, vU, vU, vJ (lN (T * t / 4294967296 ^ k % 4800)), vU, vI (dI k), vU, vU] [] (h.wl pl P) := by
    intro k
    induction k with
    | zero =>
      intro P _ lP gP
      refine sX1_due_154 _ 4800 tb pl (lN (T * t / 4294967296 ^ 0 % 4800)) (dI 0) ⟨fun _ q2 eq2 _ h3 e3 => k_newBig hd1 eq2 e3 (fun h6 N6 => ?_), fun q => absurd (by decide) q⟩
      have N6' := N6
      have eq2' : q2 = h.z := eq2
      have n1 : BigAt h6 h.z (h.z + 1) := N6.1
      rw [eq2']
      refine (X1_targetOf_spec (v := 545259519) hd3 (by decide) n1).nR (fun x7 h8 Q => ?_)
      obtain ⟨e7, e8⟩ := Q
      exact c212 P h6 lP (fun i hi => by rw [gP i hi, if_neg (Nat.not_lt_zero _)]) N6' x7 h8 e7 e8
    | succ k ih =>
      intro P hk lP gP
      have hlt := dq_lt (T * t) k (c := 4800) (by decide)
      rw [dI_succ]
      refine sX1_due_154 _ 4800 tb pl (lN (T * t / 4294967296 ^ (k + 1) % 4800)) (nI k) (pk_lt k 0 (fun q => absurd q (Nat.not_lt_zero _)) (fun _ => ⟨kp, ?_⟩))
      rw [show (h.wl pl P).al pl = P from if_pos rfl, lP, pk_cl k rfl (by omega), gP k (by omega), if_pos (Nat.lt_succ_self _)]
      refine ⟨pk_in k 9 (by omega), fun u11 e11 => ⟨by decide, pk_in k 9 (by omega), fun h14 e14 => ⟨by decide, ?_⟩⟩⟩
      have hdg : T * t / 4294967296 ^ k % 4294967296 < 2 ^ 32 := Nat.mod_lt _ (by decide)
      have eu : u11 = lN (T * t / 4294967296 ^ (k + 1) % 4800 * 4294967296 + T * t / 4294967296 ^ k % 4294967296) := by
        rw [e11, show (32 : Int32) = nI 32 from rfl, Jshl_n _ (by decide), lN_or, or_8 hdg]
      have ed : u11 / 4800 = lN (T * t / 4800 / 4294967296 ^ k % 4294967296) := by
        rw [eu, show (4800 : Int64) = lN 4800 from rfl, lN_div (by omega) (by decide), dq_q _ _ (by decide)]
      have er : Jrem u11 4800 = lN (T * t / 4294967296 ^ k % 4800) := by
        rw [eu, show (4800 : Int64) = lN 4800 from rfl, Jrem_N (by omega) (by decide), dq_r]
      rw [AH.wl_wl, ed] at e14
      rw [er, show nI k + -1 = dI k from rfl, e14]
      refine ih _ (by omega) (by rw [List.length_set]; exact lP) (fun i hi => ?_)
      by_cases c : i = k
      · rw [c, getD_set_eq (by omega), if_neg (Nat.lt_irrefl _)]
      · rw [getD_set_ne c, gP i hi]
        by_cases c2 : i < k
        · rw [if_pos c2, if_pos (by omega)]
        · rw [if_neg c2, if_neg (by omega)]
  -- the product
  have key := loop_uc (n := 8) (P := fun k (P : List Int64) => Aw G mX1_due (d + 1) 0 h0 (kI (fun x h' => x = nI (dueN T t) ∧ Same (fun y => y = pl ∨ y = tw) h h' ∧ h'.z = h.z + 2 ∧ h'.s = h.s + 9) nE) 89 [vU, vU, vJ (lN t), vU, vJ 4800, vU, vR tb, vR pl, vJ (lN (T % 4294967296 ^ k * t / 4294967296 ^ k)), vU, vI (nI k), vU, vU, vU, vU] [] (h.wl pl P)) (fun k P => P.length = 9 ∧ ∀ i, i < k → P.getD i 0 = lN (T * t / 4294967296 ^ i % 4294967296)) (fun k P hk hI ih => ?_) 0 (h.al pl) (Nat.zero_le _) ⟨lp, fun i hi => absurd hi (Nat.not_lt_zero _)⟩
  · rw [AH.wl_self, Nat.pow_zero, Nat.mod_one, Nat.zero_mul, Nat.zero_div] at key
    exact key
  · obtain ⟨lP, gP⟩ := hI
    have hc := mu_lt (T := T) (t := t) (k := k) ht.1
    refine sX1_due_89 _ (lN t) 4800 tb pl (lN (T % 4294967296 ^ k * t / 4294967296 ^ k)) (nI k) (pk_le 8 k (fun z => ⟨kp, ?_⟩) (fun z => ⟨kb.1, fun r6 e6 => ?_⟩))
    · obtain rfl : k = 8 := by omega
      rw [show (h.wl pl P).al pl = P from if_pos rfl, lP, AH.wl_wl, show (8 : Int32).toNatClampNeg = 8 from rfl, Nat.mod_eq_of_lt hT]
      refine ⟨pk_in 8 9 (by decide), fun h4 e4 => ?_⟩
      rw [e4]
      have q8 : T * t / 4294967296 ^ 8 < 4294967296 := by
        apply Nat.div_lt_of_lt_mul
        rw [show 4294967296 ^ 8 * 4294967296 = 4294967296 ^ 9 from rfl]
        exact hN
      have := c154 9 (P.set 8 (lN (T * t / 4294967296 ^ 8))) (Nat.le_refl _) (by rw [List.length_set]; exact lP) (fun i hi => by
        rw [if_pos hi]
        by_cases c : i = 8
        · rw [c, getD_set_eq (by omega), Nat.mod_eq_of_lt q8]
        · rw [getD_set_ne c]
          exact gP i (by omega))
      rw [Nat.div_eq_of_lt hN] at this
      exact this
    · have hw : T / 4294967296 ^ k % 4294967296 < 4294967296 := Nat.mod_lt _ (by decide)
      rw [show r6 = tw from e6.trans kb.2.1, show (h.wl pl P).ai tw = lb T from eT, lb_len, pk_cl k rfl (by omega), lb_getD _ (by omega), and_low, u32_nI, lN_mulN, lN_addN, mu_u, nI_1]
      refine ⟨kb.2.2.1, pk_in k 8 (by omega), fun u9 e9 => ⟨kp, ?_⟩⟩
      have hmul : T / 4294967296 ^ k % 4294967296 * t ≤ 4294967296 * 19200 := Nat.mul_le_mul (Nat.le_of_lt hw) ht.2
      have hu : T % 4294967296 ^ (k + 1) * t / 4294967296 ^ k < 2 ^ 64 := by
        rw [← mu_u]
        omega
      rw [show (h.wl pl P).al pl = P from if_pos rfl, lP, AH.wl_wl, e9, lN_low, mu_lo, lN_ushr hu, mu_hi]
      refine ⟨pk_in k 9 (by omega), fun h12 e12 => ?_⟩
      rw [e12]
      refine ih (by omega) _ ⟨by rw [List.length_set]; exact lP, fun i hi => ?_⟩
      by_cases c : i = k
      · rw [c, getD_set_eq (by omega)]
      · rw [getD_set_ne c]
        exact gP i (by omega)
end Due

/-! the reference's stack machine: a number is pushed -/
set_option maxRecDepth 100000
section MPn
variable {G : Gx} {d : Nat} {hB h h' h0 : AH} {M Z : Nat} {st alt : List (List Int32)} {fl : Bool}
/-- the sign is set, and the bytes are pushed -/
theorem pn_71 {i : Int} {T L : List Int32} {k : Nat} {Q : AH → Prop} {E : Nat → AH → Prop} (hd : 2 ≤ d) (hi : i.natAbs < 2 ^ 48) (I : QI hB h M Z fl st alt) (lT : T.length = 9) (hk : k = L.length) (k9 : k ≤ 7) (gT : ∀ j, j < k → T.getD j 0 = L.getD j 0)
    (hL : (0 ≤ i ∧ encI i = L) ∨ (i < 0 ∧ 0 < k ∧ 0 ≤ T.getD (k - 1) 0 ∧ encI i = L.set (k - 1) (i2b (i2b (L.getD (k - 1) 0 ||| (-128))))))
    (yes : st.length ≤ 1000 → ∀ h', QI hB h' M Z fl (st ++ [encI i]) alt → Q h') (no : 1000 < st.length → ∀ h', QI hB h' M Z true st alt → Q h') :
    Aw G mX24_pushNumber (d + 1) 0 h0 (kV Q E) 71 [vR M, vJ (lZ i), vU, vU, vU, vI (nI k)] [] (h.wi (Z + 6) T) := by
  have Hs := I.1.1.1
  have l6 : (h.ai (Z + 6)).length = 9 := Hs.2.2.2.1.2.2.2.2.2.2.1
  have zi : (0 : Int64) ≤ lZ i ↔ 0 ≤ i := lZ_le (a := 0) (by decide) (by omega)
  refine sX24_pushNumber_71 _ M (lZ i) (nI k) ?_
  rw [zi]
  rcases hL with ⟨z, eL⟩ | ⟨z, k0, g0, eL⟩
  · refine ⟨fun _ => ⟨Hs.1, fun r3 e3 => ?_⟩, fun q => absurd z q⟩
    rw [show r3 = Z + 6 from e3.trans Hs.2.1.2.2.2.2.2.2.1]
    subst hk
    refine m_push (l := L) (by omega) (I.fix (Or.inl rfl) (by rw [lT, l6])) (Or.inl rfl) (by rw [AH.ai_wiS]; omega) (by omega) (fun j hj => by rw [AH.ai_wiS]; exact gT j hj) (fun c h5 J => yes c h5 ?_) no
    rw [eL]
    exact J
  · refine ⟨fun q => absurd q (by omega), fun _ => ⟨Hs.1, fun r7 e7 => ?_⟩⟩
    rw [show r7 = Z + 6 from e7.trans Hs.2.1.2.2.2.2.2.2.1, AH.ai_wiS, lT, show nI k - 1 = nI (k - 1) by rw [show (1 : Int32) = nI 1 from rfl, pk_sub (by omega)], pk_cl (k - 1) rfl (by omega), AH.wi_wi]
    refine ⟨Hs.2.2.1.2.2.2.2.2.2.1, pk_in (k - 1) 9 (by omega), pk_in (k - 1) 9 (by omega), fun h11 e11 => ?_⟩
    rw [e11]
    have lL : (encI i).length = k := by rw [eL, List.length_set, hk]
    have gk := gT (k - 1) (by omega)
    have := m_push (G := G) (d := d) (l := encI i) (E := E) (Q := Q) (by omega) (I.fix (T := T.set (k - 1) (i2b (i2b (T.getD (k - 1) 0 ||| (-128))))) (Or.inl rfl) (by rw [List.length_set, lT, l6])) (Or.inl rfl) (by rw [AH.ai_wiS, List.length_set]; omega) (by omega) (fun j hj => by
      rw [AH.ai_wiS, eL]
      by_cases c : j = k - 1
      · rw [c, getD_set_eq (by omega), getD_set_eq (by omega), gk]
      · rw [getD_set_ne c, getD_set_ne c]
        exact gT j (by omega)) yes no
    rw [lL] at this
    exact this
theorem m_pn {i : Int} {Q : AH → Prop} {E : Nat → AH → Prop} (hd : 3 ≤ d) (hi : i.natAbs < 2 ^ 48) (I : QI hB h M Z fl st alt)
    (yes : st.length ≤ 1000 → ∀ h', QI hB h' M Z fl (st ++ [encI i]) alt → Q h') (no : 1000 < st.length → ∀ h', QI hB h' M Z true st alt → Q h') : Cw G mX24_pushNumber d 0 [vR M, vJ (lZ i)] h (kV Q E) := by
  obtain ⟨d, rfl⟩ : ∃ d', d = d' + 1 := ⟨d - 1, by omega⟩
  have Hs := I.1.1.1
  have l6 : (h.ai (Z + 6)).length = 9 := Hs.2.2.2.1.2.2.2.2.2.2.1
  have zi : (0 : Int64) ≤ lZ i ↔ 0 ≤ i := lZ_le (a := 0) (by decide) (by omega)
  obtain ⟨m, hm⟩ : ∃ m, m = i.natAbs := ⟨_, rfl⟩
  rw [← hm] at hi
  have hl6 : (digs m).length ≤ 6 := digs_len 6 m (by rw [show (256 : Nat) ^ 6 = 2 ^ 48 by decide]; exact hi)
  have eE : encI i = beL m (decide (i < 0)) := by unfold encI; rw [hm]
  have start : Aw G mX24_pushNumber (d + 1) 0 h (kV Q E) 16 [vR M, vJ (lZ i), vU, vJ (lN m), vU, vI 0] [] h := by
    have key := loop_up (n := (digs m).length) (P := fun k (T : List Int32) => Aw G mX24_pushNumber (d + 1) 0 h (kV Q E) 16 [vR M, vJ (lZ i), vU, vJ (lN (m / 256 ^ k)), vU, vI (nI k)] [] (h.wi (Z + 6) T))
      (fun k T => T = putB (h.ai (Z + 6)) 0 k (fun i => bI (m / 256 ^ i))) (fun k T hk hI ih => ?_) (fun T hI => ?_) 0 (h.ai (Z + 6)) (Nat.zero_le _) (putB_0 _ _ _).symm
    · rw [Nat.pow_zero, Nat.div_one, AH.wi_self] at key
      exact key
    · have hdiv : m / 256 ^ k ≤ m := Nat.div_le_self _ _
      have hne := (digs_ex k m).1.mp hk
      have lT : T.length = 9 := by rw [hI, putB_len]; exact l6
      refine sX24_pushNumber_16 _ M (lZ i) (lN (m / 256 ^ k)) (nI k) ⟨fun c => absurd ((lN_eq63 (b := 0) (by omega) (by decide)).mp c) hne, fun _ => ⟨Hs.1, fun r11 e11 => ?_⟩⟩
      rw [show r11 = Z + 6 from e11.trans Hs.2.1.2.2.2.2.2.2.1, AH.ai_wiS, AH.wi_wi, lT, pk_cl k rfl (by omega), lN_i, i2b_i2b]
      refine ⟨Hs.2.2.1.2.2.2.2.2.2.1, pk_in k 9 (by omega), fun h14 e14 => ?_⟩
      rw [e14, nI_1, show (8 : Int32) = nI 8 from rfl, Jushr_n (by omega) (by decide), Nat.div_div_eq_div_mul, show (256 : Nat) ^ k * 2 ^ 8 = 256 ^ (k + 1) by rw [Nat.pow_succ 256 k]]
      refine ih _ ?_
      have := putB_succ (L := h.ai (Z + 6)) (off := 0) (n := k) (g := fun i => bI (m / 256 ^ i)) (x := i2b (nI (m / 256 ^ k))) (by omega) rfl
      rw [Nat.zero_add] at this
      rw [hI]
      exact this
    · generalize hN : (digs m).length = N at *
      have hz : m / 256 ^ N = 0 := by
        have := (digs_ex N m).1
        omega
      have lT : T.length = 9 := by rw [hI, putB_len]; exact l6
      have gT : ∀ i, i < N → T.getD i 0 = bI ((digs m).getD i 0) := fun i hi => by
        rw [hI, putB_getD _ _ _ _ (by omega), if_pos ⟨Nat.zero_le _, by omega⟩, (digs_ex i m).2 (by omega), bI_mod]
        rfl
      have lmap : ((digs m).map bI).length = N := by rw [List.length_map, hN]
      have gmap : ∀ i, i < N → T.getD i 0 = ((digs m).map bI).getD i 0 := fun i hi => by
        rw [gT i hi, List.getD_eq_getElem?_getD, List.getD_eq_getElem?_getD, List.getElem?_map, List.getElem?_eq_getElem (by omega)]
        rfl
      rw [hz]
      refine sX24_pushNumber_16 _ M (lZ i) (lN 0) (nI N) ⟨fun _ => pk_le N 0 (fun c => ?_) (fun c => ⟨Hs.1, fun r4 e4 => ?_⟩), fun c => absurd rfl c⟩
      · have hN0 : N = 0 := by omega
        have m0 : m = 0 := by
          have := (digs_ex 0 m).1
          rw [Nat.pow_zero, Nat.div_one, hN, hN0] at this
          by_cases q : m = 0
          · exact q
          · exact absurd (this.mpr q) (by omega)
        refine pn_71 (L := []) (by omega) (by omega) I lT hN0 (by omega) (fun j hj => absurd hj (by omega)) (Or.inl ⟨by omega, ?_⟩) yes no
        rw [eE]
        unfold beL
        rw [if_pos m0]
      · have m0 : m ≠ 0 := fun q => by
          rw [q, digs_0] at hN
          exact absurd hN.symm (by
            show ¬ N = 0
            omega)
        rw [show r4 = Z + 6 from e4.trans Hs.2.1.2.2.2.2.2.2.1, AH.ai_wiS, AH.wi_wi, lT, show nI N - 1 = nI (N - 1) by rw [show (1 : Int32) = nI 1 from rfl, pk_sub (by omega)], pk_cl (N - 1) rfl (by omega), pk_cl N rfl (by omega), nI_1]
        have hlast : (digs m).getD (N - 1) 0 < 256 := by rw [(digs_ex (N - 1) m).2 (by omega)]; exact Nat.mod_lt _ (by decide)
        have hb0 : 0 ≤ T.getD (N - 1) 0 ↔ (digs m).getD (N - 1) 0 < 128 := by
          rw [gT (N - 1) (by omega)]
          exact bI_nn _ hlast
        have gl := gmap (N - 1) (by omega)
        have gl2 := gT (N - 1) (by omega)
        refine ⟨Hs.2.2.1.2.2.2.2.2.2.1, pk_in (N - 1) 9 (by omega), fun c1 => ?_, fun c1 => ⟨pk_in N 9 (by omega), fun h9 e9 => ?_⟩⟩
        · have c1' := hb0.mp c1
          refine pn_71 (L := (digs m).map bI) (by omega) (by omega) I lT lmap.symm (by omega) gmap ?_ yes no
          by_cases z : 0 ≤ i
          · refine Or.inl ⟨z, ?_⟩
            rw [eE, decide_eq_false (by omega)]
            unfold beL
            rw [if_neg m0, hN, if_neg (by omega)]
            rfl
          · refine Or.inr ⟨by omega, by omega, c1, ?_⟩
            rw [eE, decide_eq_true (show i < 0 by omega), ← gl, gl2]
            have hx : i2b (i2b (bI ((digs m).getD (N - 1) 0) ||| (-128))) = bI ((digs m).getD (N - 1) 0 + 128) := by
              have : ∀ n, n < 128 → i2b (i2b (bI n ||| (-128))) = bI (n + 128) := by decide +kernel
              exact this _ c1'
            rw [hx]
            unfold beL
            rw [if_neg m0, hN, if_neg (by omega)]
            rfl
        · have c1' : ¬ (digs m).getD (N - 1) 0 < 128 := fun q => c1 (hb0.mpr q)
          rw [e9]
          have gs : ∀ j, j < N + 1 → (T.set N (i2b 0)).getD j 0 = ((digs m).map bI ++ [(0 : Int32)]).getD j 0 := fun j hj => by
            rw [getD_snoc, lmap]
            by_cases q : j = N
            · rw [if_pos q, q, getD_set_eq (by omega)]
              decide
            · rw [if_neg q, getD_set_ne q]
              exact gmap j (by omega)
          refine pn_71 (L := (digs m).map bI ++ [(0 : Int32)]) (by omega) (by omega) I (by rw [List.length_set]; exact lT) (by rw [List.length_append, lmap]; rfl) (by omega) gs ?_ yes no
          by_cases z : 0 ≤ i
          · refine Or.inl ⟨z, ?_⟩
            rw [eE, decide_eq_false (by omega)]
            unfold beL
            rw [if_neg m0, hN, if_pos (by omega)]
            rfl
          · refine Or.inr ⟨by omega, by omega, ?_, ?_⟩
            · rw [Nat.add_sub_cancel, gs N (by omega), getD_snoc, lmap, if_pos rfl]
              decide
            · rw [eE, decide_eq_true (show i < 0 by omega), Nat.add_sub_cancel, getD_snoc, lmap, if_pos rfl]
              unfold beL
              rw [if_neg m0, hN, if_pos (by omega)]
              refine ext_getD (z := 0) (by rw [List.length_set, List.length_append, List.length_append]; rfl) (fun j hj => ?_)
              rw [List.length_append, lmap] at hj
              have hj' : j < N + 1 := hj
              rw [getD_snoc, lmap]
              by_cases q : j = N
              · rw [if_pos q, q, getD_set_eq (by rw [List.length_append, lmap]; exact Nat.lt_succ_self N)]
                decide
              · rw [if_neg q, getD_set_ne q, getD_snoc, lmap, if_neg q]
  refine eX24_pushNumber h M (lZ i) (fun _ => sX24_pushNumber_0 h M (lZ i) ?_)
  rw [zi]
  refine ⟨fun c => ?_, fun c => ?_⟩
  · have : lZ i = lN m := by rw [lZ_n, hm]; congr 1; omega
    rw [this] at start ⊢
    exact start
  · have : -(lZ i) = lN m := by rw [lZ_neg, lZ_n, hm]; congr 1; omega
    rw [this]
    exact start
theorem m_pt {b : Bool} {Q : AH → Prop} {E : Nat → AH → Prop} (hd : 4 ≤ d) (I : QI hB h M Z fl st alt)
    (yes : st.length ≤ 1000 → ∀ h', QI hB h' M Z fl (st ++ [tv b]) alt → Q h') (no : 1000 < st.length → ∀ h', QI hB h' M Z true st alt → Q h') : Cw G mX24_pushTruth d 0 [vR M, vI (bB b)] h (kV Q E) := by
  obtain ⟨d, rfl⟩ : ∃ d', d = d' + 1 := ⟨d - 1, by omega⟩
  have e0 : encI 0 = tv false := by
    unfold encI beL
    rfl
  have e1 : encI 1 = tv true := by
    unfold encI
    show beL 1 false = [1]
    unfold beL
    rw [if_neg (by decide), digs_s (by decide), show 1 / 256 = 0 by decide, digs_0]
    decide
  refine eX24_pushTruth h M (bB b) (fun _ => sX24_pushTruth_0 h M (bB b) ⟨fun c => ⟨I.1.1.1.1, ?_⟩, fun c => ⟨I.1.1.1.1, ?_⟩⟩)
  · rw [(bB_0 b).mp c, ← e0] at yes
    exact m_pn (i := 0) (by omega) (by decide) I yes no
  · have : b = true := by
      cases b with
      | true => rfl
      | false => exact absurd rfl c
    rw [this, ← e1] at yes
    exact m_pn (i := 1) (by omega) (by decide) I yes no
end MPn

/-! numbers of elements -/
set_option maxRecDepth 100000
theorem s_J : ∀ n, n < 64 → (((nI n).toInt64 &&& 63).toBitVec.smod 64).toNat = n := by decide +kernel
theorem Jshl_n (n : Nat) {s : Nat} (hs : s < 64) : Jshl (lN n) (nI s) = lN (n * 2 ^ s) := by
  unfold Jshl
  apply Int64.toBitVec_inj.mp
  rw [Int64.toBitVec_shiftLeft, BitVec.shiftLeft_eq', s_J s hs, lN_bv, lN_bv]
  apply BitVec.eq_of_toNat_eq
  rw [BitVec.toNat_shiftLeft, Nat.shiftLeft_eq, BitVec.toNat_ofNat, BitVec.toNat_ofNat, Nat.mod_mul_mod]
theorem lN_or (a b : Nat) : lN a ||| lN b = lN (a ||| b) := by
  apply Int64.toBitVec_inj.mp
  rw [Int64.toBitVec_or, lN_bv, lN_bv, lN_bv]
  apply BitVec.eq_of_toNat_eq
  simp [Nat.or_mod_two_pow]
theorem s_Ju : ∀ n, n < 64 → (((nI n).toInt64.toUInt64 &&& Int64.toUInt64 63).toBitVec % 64).toNat = n := by decide +kernel
theorem Jushr_n {n s : Nat} (hn : n < 2 ^ 64) (hs : s < 64) : Jushr (lN n) (nI s) = lN (n / 2 ^ s) := by
  unfold Jushr
  apply Int64.toBitVec_inj.mp
  rw [lN_bv]
  have h1 : ((lN n).toUInt64 >>> ((nI s).toInt64.toUInt64 &&& Int64.toUInt64 63)).toInt64.toBitVec = (BitVec.ofNat 64 n) >>> s := by
    show ((lN n).toUInt64 >>> ((nI s).toInt64.toUInt64 &&& Int64.toUInt64 63)).toBitVec = _
    rw [UInt64.toBitVec_shiftRight, BitVec.ushiftRight_eq', s_Ju s hs]
    show (lN n).toBitVec >>> s = _
    rw [lN_bv]
  rw [h1]
  apply BitVec.eq_of_toNat_eq
  rw [BitVec.toNat_ushiftRight, Nat.shiftRight_eq_div_pow, BitVec.toNat_ofNat, BitVec.toNat_ofNat, Nat.mod_eq_of_lt hn]
  exact (Nat.mod_eq_of_lt (Nat.lt_of_le_of_lt (Nat.div_le_self _ _) hn)).symm
theorem and_127 (x : Int32) : x &&& 127 = nI (u32 x % 128) := pk_and x 7 (by decide)
theorem lt0_u32 (x : Int32) (hx : i2b x = x) : x < 0 ↔ 128 ≤ u32 x % 256 := by
  have h1 : ∀ n, n < 256 → (bI n < 0 ↔ 128 ≤ n) := by decide +kernel
  have h2 := h1 (u32 x % 256) (Nat.mod_lt _ (by decide))
  rw [bI_mod, ← bI_x, hx] at h2
  exact h2
theorem getD_ge {l : List Int32} {i : Nat} (h : l.length ≤ i) : l.getD i 0 = 0 := by
  rw [List.getD_eq_getElem?_getD, List.getElem?_eq_none h]
  rfl
section Elem2
variable {G : Gx} {d : Nat} {h : AH} {e : Nat} {l : List Int32}
theorem El_number_spec {m : Nat} (hm : m ≤ 7) (hd : 6 ≤ d) (H : ElAt h e l) : Cw G mX22_number d 0 [vR e, vI (nI m)] h (kJ (fun x h' => l.length ≤ m ∧ x = numP l ∧ h' = h) (fun x h' => m < l.length ∧ Thr 17 noP 1 6 h h' x)) := by
  obtain ⟨d, rfl⟩ : ∃ d', d = d' + 1 := ⟨d - 1, by omega⟩
  obtain ⟨⟨k1, k2, k3, k4⟩, k5, k6, k7⟩ := H
  refine eX22_number h e (nI m) (fun _ => sX22_number_0 h e (nI m) ⟨k1, ?_⟩)
  rw [k5]
  refine pk_le l.length m (fun c => ?_) (fun c q3 e3 _ h4 e4 => ⟨by omega, fun h7 e7 => ⟨c, Thr.nw Same.rf e3 e4 (Nat.le_refl _) (Nat.le_refl _) e7⟩⟩)
  have hlt : ∀ k, (if k = l.length - 1 then ub l k % 128 else ub l k) < 256 := fun k => by
    have := ub_lt l k
    split <;> omega
  refine loop_uc (n := l.length) (P := fun k (v : Nat) => Aw G mX22_number (d + 1) 0 h (kJ (fun x h' => l.length ≤ m ∧ x = numP l ∧ h' = h) (fun x h' => m < l.length ∧ Thr 17 noP 1 6 h h' x)) 21 [vR e, vU, vJ (lN v), vU, vI (nI k)] [] h)
    (fun k v => v = dv8 (fun k => if k = l.length - 1 then ub l k % 128 else ub l k) k) (fun k v hk hI ih => ?_) 0 0 (Nat.zero_le _) rfl
  refine sX22_number_21 h e (lN v) (nI k) ⟨k1, ?_⟩
  rw [k5, nI_sub1]
  refine pk_le l.length k (fun c2 => ?_) (fun c2 r8 e8 => ?_)
  · have ek : k = l.length := by omega
    subst ek
    have em : v = mg l := hI
    refine pk_le l.length 0 (fun c3 => ⟨c, ?_, rfl⟩) (fun c3 r4 e4 => ?_)
    · unfold numP
      rw [if_neg (fun q => by omega), em]
    · have e4' : r4 = e + 1 := e4.trans k2
      subst e4'
      have ed : dI l.length = nI (l.length - 1) := by
        obtain ⟨j, hj⟩ : ∃ j, l.length = j + 1 := ⟨l.length - 1, by omega⟩
        rw [hj, dI_succ]; rfl
      rw [ed, pk_cl (l.length - 1) rfl (by omega), k4, k7 (l.length - 1) (by omega)]
      refine ⟨k3, pk_in (l.length - 1) 520 (by omega), fun c4 => ⟨c, ?_, rfl⟩, fun c4 => ⟨c, ?_, rfl⟩⟩
      · unfold numP
        rw [if_neg (fun q => absurd c4 (Int32.not_le.mpr q.2)), em]
      · unfold numP
        rw [if_pos ⟨c3, Int32.not_le.mp c4⟩, em]
  · have e8' : r8 = e + 1 := e8.trans k2
    subst e8'
    have ed : dI l.length = nI (l.length - 1) := by
      obtain ⟨j, hj⟩ : ∃ j, l.length = j + 1 := ⟨l.length - 1, by omega⟩
      rw [hj, dI_succ]; rfl
    have hv : v < 2 ^ (8 * k) := by
      rw [hI, ← p256]
      exact dv8_lt (fun i _ => hlt i)
    have hor : ∀ b, b < 256 → lN v ||| Jshl (lN b) (8 * nI k) = lN (v + b * 256 ^ k) := fun b hb => by
      rw [show (8 : Int32) = nI 8 from rfl, pk_mul, Jshl_n _ (by omega), lN_or, or_add (c := 8) (by rw [Nat.div_eq_of_lt hv]) hb, p256]
    have hu := ub_lt l k
    rw [ed, k4, pk_cl k rfl (by omega), k7 k c2, and_ub, and_127, nI_l (by omega), nI_l (by have : u32 (l.getD k 0) % 128 < 128 := Nat.mod_lt _ (by decide); omega), nI_1]
    have e128 : u32 (l.getD k 0) % 128 = ub l k % 128 := by unfold ub; omega
    rw [e128, hor _ hu, hor _ (by omega)]
    refine ⟨k3, pk_in k 520 (by omega), pk_eq' k (l.length - 1) (fun c3 u12 e12 => ?_) (fun c3 u12 e12 => ?_)⟩
    · rw [e12]
      refine ih c2 _ ?_
      rw [dv8, ← hI, if_neg c3]
    · rw [e12]
      refine ih c2 _ ?_
      rw [dv8, ← hI, if_pos c3]
/-- the element's heap while a number is told -/
def elH (h : AH) (e : Nat) (T : List Int32) (k : Nat) : AH := (h.wi (e + 1) T).pi 22001 e (nI k)
theorem elH_wi (h : AH) (e k : Nat) (T T' : List Int32) : (elH h e T k).wi (e + 1) T' = elH h e T' k := by
  show ((h.wi (e + 1) T).wi (e + 1) T').pi 22001 e (nI k) = _
  rw [AH.wi_wi]
  rfl
theorem elH_pi (h : AH) (e k k' : Nat) (T : List Int32) : (elH h e T k).pi 22001 e (nI k') = elH h e T k' := by
  unfold elH
  rw [AH.pi_pi]
theorem digs_ex : ∀ (k m : Nat), (k < (digs m).length ↔ m / 256 ^ k ≠ 0) ∧ (k < (digs m).length → (digs m).getD k 0 = m / 256 ^ k % 256)
  | 0, m => by
    by_cases c : m = 0
    · rw [c, digs_0]; simp
    · rw [digs_s c]; simp [c]
  | k + 1, m => by
    by_cases c : m = 0
    · rw [c, digs_0]; simp
    · rw [digs_s c]
      have := digs_ex k (m / 256)
      rw [Nat.div_div_eq_div_mul, Nat.mul_comm, ← Nat.pow_succ] at this
      simpa using this
theorem El_be_spec {v : Int64} {m : Nat} {ng : Bool} (hv : v = if ng then -(lN m) else lN m) (hm : m < 2 ^ 48) (hd : 1 ≤ d) (H : ElS h e) : Cw G mX22_be d 0 [vR e, vJ v] h (kV (fun h' => ElAt h' e (beL m ng) ∧ ∃ T k, h' = elH h e T k ∧ T.length = 520) nE) := by
  obtain ⟨d, rfl⟩ : ∃ d', d = d' + 1 := ⟨d - 1, by omega⟩
  obtain ⟨k1, k2, k3, k4⟩ := H
  have hl6 : (digs m).length ≤ 6 := digs_len 6 m (by rw [show (256 : Nat) ^ 6 = 2 ^ 48 by decide]; exact hm)
  have v0 : v = 0 ↔ m = 0 := by
    rw [hv]
    cases ng
    · exact lN_eq63 (b := 0) (by omega) (by decide)
    · show -(lN m) = 0 ↔ _
      refine ⟨fun q => ?_, fun q => by rw [q]; decide⟩
      have h2 : - -(lN m) = -(0 : Int64) := by rw [q]
      rw [Int64.neg_neg] at h2
      exact (lN_eq63 (b := 0) (by omega) (by decide)).mp (h2.trans (by decide))
  have vn : 0 ≤ v ↔ (ng = false ∨ m = 0) := by
    rw [hv]
    cases ng
    · refine ⟨fun _ => Or.inl rfl, fun _ => ?_⟩
      exact (lN_le63 (a := 0) (by decide) (by omega)).mpr (Nat.zero_le _)
    · show 0 ≤ -(lN m) ↔ _
      rw [Int64.le_iff_toInt_le, Int64.toInt_neg, lN_toInt63 (by omega)]
      have h0 : (0 : Int64).toInt = 0 := by decide
      have hb : (-(m : Int)).bmod (2 ^ 64) = -(m : Int) := by
        rw [Int.bmod_eq_of_le]
        · omega
        · omega
      rw [h0, hb]
      constructor
      · intro q; exact Or.inr (by omega)
      · intro q
        rcases q with q | q
        · cases q
        · omega
  have start : Aw G mX22_be (d + 1) 0 h (kV (fun h' => ElAt h' e (beL m ng) ∧ ∃ T k, h' = elH h e T k ∧ T.length = 520) nE) 18 [vR e, vJ v, vU, vJ (lN m), vU] [] (h.pi 22001 e 0) := by
    have key := loop_up (n := (digs m).length) (P := fun k (T : List Int32) => Aw G mX22_be (d + 1) 0 h (kV (fun h' => ElAt h' e (beL m ng) ∧ ∃ T k, h' = elH h e T k ∧ T.length = 520) nE) 18 [vR e, vJ v, vU, vJ (lN (m / 256 ^ k)), vU] [] (elH h e T k))
      (fun k T => T = putB (h.ai (e + 1)) 0 k (fun i => bI (m / 256 ^ i))) (fun k T hk hI ih => ?_) (fun T hI => ?_) 0 (h.ai (e + 1)) (Nat.zero_le _) (putB_0 _ _ _).symm
    · rw [Nat.pow_zero, Nat.div_one] at key
      have e0 : elH h e (h.ai (e + 1)) 0 = h.pi 22001 e 0 := by
        unfold elH
        rw [AH.wi_self]
        rfl
      rw [e0] at key
      exact key
    · have hdiv : m / 256 ^ k ≤ m := Nat.div_le_self _ _
      have hne := (digs_ex k m).1.mp hk
      have ei : (elH h e T k).i 22001 e = nI k := by
        show (if _ then _ else _) = _
        rw [if_pos ⟨rfl, rfl⟩]
      have ea : (elH h e T k).ai (e + 1) = T := AH.ai_wiS _ _ _
      have lT : T.length = 520 := by rw [hI, putB_len]; exact k4
      refine sX22_be_18 (elH h e T k) e v (lN (m / 256 ^ k)) ⟨fun c => absurd ((lN_eq63 (b := 0) (by omega) (by decide)).mp c) hne, fun _ => ⟨k1, fun r26 e26 => ?_⟩⟩
      have e26' : r26 = e + 1 := e26.trans k2
      subst e26'
      rw [ei, ea, lT, pk_cl k rfl (by omega), lN_i, i2b_i2b, elH_wi]
      refine ⟨k3, pk_in k 520 (by omega), fun h29 e29 h33 e33 => ?_⟩
      rw [e33, e29, nI_1, elH_pi, show (8 : Int32) = nI 8 from rfl, Jushr_n (by omega) (by decide), Nat.div_div_eq_div_mul, show (256 : Nat) ^ k * 2 ^ 8 = 256 ^ (k + 1) by rw [Nat.pow_succ 256 k]]
      refine ih _ ?_
      have := putB_succ (L := h.ai (e + 1)) (off := 0) (n := k) (g := fun i => bI (m / 256 ^ i)) (x := i2b (nI (m / 256 ^ k))) (by omega) rfl
      rw [Nat.zero_add] at this
      rw [hI]
      exact this
    · generalize hN : (digs m).length = N at *
      have hz : m / 256 ^ N = 0 := by
        have := (digs_ex N m).1
        omega
      have ei : (elH h e T N).i 22001 e = nI N := by
        show (if _ then _ else _) = _
        rw [if_pos ⟨rfl, rfl⟩]
      have ea : (elH h e T N).ai (e + 1) = T := AH.ai_wiS _ _ _
      have lT : T.length = 520 := by rw [hI, putB_len]; exact k4
      have gT : ∀ i, i < N → T.getD i 0 = bI ((digs m).getD i 0) := fun i hi => by
        rw [hI, putB_getD _ _ _ _ (by omega), if_pos ⟨Nat.zero_le _, by omega⟩, (digs_ex i m).2 (by omega), bI_mod]
        rfl
      have mk : ∀ (T' : List Int32) (k' : Nat) (L : List Int32), T'.length = 520 → L = beL m ng → L.length = k' → k' ≤ 7 → (∀ i, i < k' → T'.getD i 0 = L.getD i 0) → ElAt (elH h e T' k') e (beL m ng) ∧ ∃ T k, elH h e T' k' = elH h e T k ∧ T.length = 520 := fun T' k' L t1 t2 t3 t4 t5 => by
        subst t2
        refine ⟨⟨⟨k1, k2, k3, ?_⟩, ?_, by omega, fun i hi => ?_⟩, T', k', rfl, t1⟩
        · show ((h.wi (e + 1) T').ai (e + 1)).length = 520
          rw [AH.ai_wiS]; exact t1
        · show (if _ then _ else _) = _
          rw [if_pos ⟨rfl, rfl⟩, t3]
        · show ((h.wi (e + 1) T').ai (e + 1)).getD i 0 = _
          rw [AH.ai_wiS]; exact t5 i (by omega)
      refine sX22_be_18 (elH h e T N) e v (lN (m / 256 ^ N)) ⟨fun _ => ⟨fun c => ⟨k1, fun r4 e4 => ?_⟩, fun c => ?_⟩, fun c => absurd (by rw [hz]; rfl) c⟩
      · have m0 : m ≠ 0 := fun q => c (v0.mpr q)
        have hN0 : 0 < N := by
          have := (digs_ex 0 m).1
          rw [Nat.pow_zero, Nat.div_one, hN] at this
          exact this.mpr m0
        have e4' : r4 = e + 1 := e4.trans k2
        subst e4'
        have ed : nI N - 1 = nI (N - 1) := by rw [show (1 : Int32) = nI 1 from rfl, pk_sub (by omega)]
        have hlast : (digs m).getD (N - 1) 0 < 256 := by rw [(digs_ex (N - 1) m).2 (by omega)]; exact Nat.mod_lt _ (by decide)
        have hb0 : 0 ≤ bI ((digs m).getD (N - 1) 0) ↔ (digs m).getD (N - 1) 0 < 128 := by
          have : ∀ n, n < 256 → (0 ≤ bI n ↔ n < 128) := by decide +kernel
          exact this _ hlast
        rw [ei, ea, lT, ed, pk_cl (N - 1) rfl (by omega), pk_cl N rfl (by omega), gT (N - 1) (by omega), hb0, vn]
        have lmap : ((digs m).map bI).length = N := by rw [List.length_map, hN]
        have gmap : ∀ i, i < N → ((digs m).map bI).getD i 0 = T.getD i 0 := fun i hi => by
          rw [gT i hi, List.getD_eq_getElem?_getD, List.getElem?_map, List.getD_eq_getElem?_getD, List.getElem?_eq_getElem (by omega)]
          rfl
        refine ⟨k3, pk_in (N - 1) 520 (by omega), fun c1 => ⟨fun c2 => ?_, fun c2 => ⟨pk_in (N - 1) 520 (by omega), pk_in (N - 1) 520 (by omega), fun h11 e11 => ?_⟩⟩, fun c1 => ⟨fun c2 => ⟨pk_in N 520 (by omega), fun h14 e14 h18 e18 => ?_⟩, fun c2 => ⟨pk_in N 520 (by omega), fun h20 e20 h24 e24 => ?_⟩⟩⟩
        · refine mk T N ((digs m).map bI) lT ?_ lmap (by omega) (fun i hi => (gmap i hi).symm)
          have hng : ng = false := by
            rcases c2 with q | q
            · exact q
            · exact absurd q m0
          unfold beL
          rw [if_neg m0, hN, if_neg (by omega), hng]
          rfl
        · rw [e11, elH_wi]
          have hng : ng = true := by
            cases ng
            · exact absurd (Or.inl rfl) c2
            · rfl
          refine mk _ N (((digs m).map bI).set (N - 1) (bI ((digs m).getD (N - 1) 0 + 128))) (by rw [List.length_set, lT]) ?_ (by rw [List.length_set, lmap]) (by omega) (fun i hi => ?_)
          · unfold beL
            rw [if_neg m0, hN, if_neg (by omega), hng]
            rfl
          · have hx : i2b (i2b (bI ((digs m).getD (N - 1) 0) ||| (-128))) = bI ((digs m).getD (N - 1) 0 + 128) := by
              have : ∀ n, n < 128 → i2b (i2b (bI n ||| (-128))) = bI (n + 128) := by decide +kernel
              exact this _ c1
            rw [hx, getD_sif, getD_sif, lT, lmap]
            by_cases q : i = N - 1
            · rw [if_pos ⟨q, by omega⟩, if_pos ⟨q, by omega⟩]
            · rw [if_neg (fun z => q z.1), if_neg (fun z => q z.1), gmap i hi]
        · rw [e18, e14, elH_wi, nI_1, elH_pi]
          have hng : ng = false := by
            rcases c2 with q | q
            · exact q
            · exact absurd q m0
          refine mk _ (N + 1) ((digs m).map bI ++ [bI 0]) (by rw [List.length_set, lT]) ?_ (by rw [List.length_append, lmap]; rfl) (by omega) (fun i hi => ?_)
          · unfold beL
            rw [if_neg m0, hN, if_pos (by omega), hng]
            rfl
          · rw [getD_sif, getD_snoc, lT, lmap, i2b_i2b]
            by_cases q : i = N
            · rw [if_pos ⟨q, by omega⟩, if_pos q]; rfl
            · rw [if_neg (fun z => q z.1), if_neg q, gmap i (by omega)]
        · rw [e24, e20, elH_wi, nI_1, elH_pi]
          have hng : ng = true := by
            cases ng
            · exact absurd (Or.inl rfl) c2
            · rfl
          refine mk _ (N + 1) ((digs m).map bI ++ [bI 128]) (by rw [List.length_set, lT]) ?_ (by rw [List.length_append, lmap]; rfl) (by omega) (fun i hi => ?_)
          · unfold beL
            rw [if_neg m0, hN, if_pos (by omega), hng]
            rfl
          · rw [getD_sif, getD_snoc, lT, lmap, i2b_i2b]
            by_cases q : i = N
            · rw [if_pos ⟨q, by omega⟩, if_pos q]; rfl
            · rw [if_neg (fun z => q z.1), if_neg q, gmap i (by omega)]
      · have m0 := v0.mp c
        have hN0 : N = 0 := by rw [← hN, m0, digs_0]; rfl
        refine mk T N [] lT ?_ hN0.symm (by omega) (fun i hi => absurd hi (by omega))
        unfold beL
        rw [if_pos m0]
  refine eX22_be h e v (fun _ => sX22_be_0 h e v ⟨k1, fun h2 e2 => ?_⟩)
  rw [e2, vn]
  refine ⟨fun c => ?_, fun c => ?_⟩
  · have : v = lN m := by
      rw [hv]
      rcases c with q | q
      · rw [q]; rfl
      · rw [q]; cases ng <;> decide
    rw [this] at start ⊢
    exact start
  · have : -v = lN m := by
      rw [hv]
      cases ng
      · exact absurd (Or.inl rfl) c
      · exact Int64.neg_neg
    rw [this]
    exact start
end Elem2

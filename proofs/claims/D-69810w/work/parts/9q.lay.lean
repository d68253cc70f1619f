/-! the reference: bytes that are signed are laid behind one another -/
set_option maxRecDepth 100000
def hsH (h : AH) (M ga : Nat) (W : List Int32) (n : Nat) : AH := (h.wi ga W).pi 24091 M (nI n)
def HsB (h : AH) (M ga : Nat) : Prop := h.kd M = 24 ∧ h.r 24090 M = ga ∧ h.kd ga = 101
def HsR (W acc : List Int32) : Prop := W.length = 16384 ∧ acc.length ≤ 16384 ∧ sub_ W 0 acc.length = acc
theorem hsH_W {h : AH} {M ga : Nat} {W : List Int32} {n : Nat} : (hsH h M ga W n).ai ga = W := AH.ai_wiS _ _ _
theorem hsH_N {h : AH} {M ga a : Nat} {W : List Int32} {n : Nat} (e : a ≠ ga) : (hsH h M ga W n).ai a = h.ai a := by
  show (h.wi ga W).ai a = _
  exact AH.ai_wiN e
theorem hsH_i {h : AH} {M ga : Nat} {W : List Int32} {n : Nat} : (hsH h M ga W n).i 24091 M = nI n := by
  unfold hsH
  rw [AH.i_pi, if_pos ⟨rfl, rfl⟩]
theorem hsH_w {h : AH} {M ga : Nat} {W V : List Int32} {n m : Nat} : ((hsH h M ga W n).wi ga V).pi 24091 M (nI m) = hsH h M ga V m := by
  have : (hsH h M ga W n).wi ga V = ((h.wi ga W).wi ga V).pi 24091 M (nI n) := rfl
  rw [this, AH.wi_wi, AH.pi_pi]
  rfl
theorem HsR.put {W acc : List Int32} (H : HsR W acc) {n : Nat} {f : Nat → Int32} (hn : acc.length + n ≤ 16384) : HsR (putB W acc.length n f) (acc ++ (List.range n).map f) := by
  obtain ⟨l1, l2, l3⟩ := H
  have la : (acc ++ (List.range n).map f).length = acc.length + n := by rw [List.length_append, mapR_len]
  exact ⟨by rw [putB_len]; exact l1, by omega, by rw [la]; exact sub_put l3 (by omega) rfl⟩
section Lay
variable {G : Gx} {d : Nat} {h : AH} {M ga : Nat} {W acc : List Int32}
theorem MD_lay2_spec {v k : Nat} (hd : 1 ≤ d) (B : HsB h M ga) (R : HsR W acc) (hv : v < 2 ^ 64) (hk : k ≤ 8) (hn : acc.length + k ≤ 16384) : Cw G mX24_lay_2 d 0 [vR M, vJ (lN v), vI (nI k)] (hsH h M ga W acc.length) (kV (fun h' => ∃ V, HsR V (acc ++ lay v k) ∧ h' = hsH h M ga V (acc ++ lay v k).length) nE) := by
  obtain ⟨d, rfl⟩ : ∃ d', d = d' + 1 := ⟨d - 1, by omega⟩
  obtain ⟨b1, b2, b3⟩ := B
  have R' := R
  obtain ⟨l1, l2, l3⟩ := R
  refine eX24_lay_2 (hsH h M ga W acc.length) M (lN v) (nI k) (fun w => sX24_lay_2_0 _ M (lN v) (nI k) ?_)
  have key := loop_uc (n := k) (P := fun j (T : List Int32) => Aw G mX24_lay_2 (d + 1) 0 (hsH h M ga W acc.length) (kV (fun h' => ∃ V, HsR V (acc ++ lay v k) ∧ h' = hsH h M ga V (acc ++ lay v k).length) nE) 3 [vR M, vJ (lN v), vU, vI (nI k), vI (nI j)] [] (hsH h M ga T (acc.length + j)))
    (fun j T => T = putB W acc.length j (fun i => bI (v / 256 ^ i))) (fun j T hj hI ih => ?_) 0 W (Nat.zero_le _) (putB_0 _ _ _).symm
  · exact key
  · subst hI
    refine sX24_lay_2_3 _ M (lN v) (nI k) (nI j) (pk_le k j (fun c => ?_) (fun c => ⟨b1, fun r3 e3 => ?_⟩))
    · obtain rfl : j = k := by omega
      refine ⟨_, R'.put hn, ?_⟩
      rw [List.length_append, lay_len]
    · have e3' : r3 = ga := e3.trans b2
      subst e3'
      have eb : i2b (Jushr (lN v) (nI (8 * j))).toInt32 = bI (v / 256 ^ j) := by
        rw [Jushr_n hv (by omega), lN_i, Nat.pow_mul]
        rfl
      rw [hsH_W, hsH_i, putB_len, l1, pk_cl (acc.length + j) rfl (by omega), i2b_i2b, show (8 : Int32) = nI 8 from rfl, pk_mul, eb, nI_1, nI_1]
      refine ⟨b3, pk_in (acc.length + j) 16384 (by omega), fun h6 e6 h10 e10 => ?_⟩
      rw [e10, e6, hsH_w]
      exact ih c _ (putB_succ (by omega) rfl)
theorem MD_layCount_spec {n : Nat} (hd : 2 ≤ d) (B : HsB h M ga) (R : HsR W acc) (hv : n < 65536) (hn : acc.length + (cntB n).length ≤ 16384) : Cw G mX24_layCount d 0 [vR M, vJ (lN n)] (hsH h M ga W acc.length) (kV (fun h' => ∃ V, HsR V (acc ++ cntB n) ∧ h' = hsH h M ga V (acc ++ cntB n).length) nE) := by
  obtain ⟨d, rfl⟩ : ∃ d', d = d' + 1 := ⟨d - 1, by omega⟩
  have b1 := B.1
  refine eX24_layCount (hsH h M ga W acc.length) M (lN n) (fun w => sX24_layCount_0 _ M (lN n) ?_)
  have le : (253 : Int64) ≤ lN n ↔ 253 ≤ n := lN_le63 (a := 253) (by decide) (by omega)
  rw [le]
  refine ⟨fun c => ⟨b1, ?_⟩, fun c => ⟨b1, ?_⟩⟩
  · have ec : cntB n = lay 253 1 ++ lay n 2 := by unfold cntB; rw [if_neg (by omega)]
    rw [ec] at hn ⊢
    rw [List.length_append, lay_len, lay_len] at hn
    refine (MD_lay2_spec (v := 253) (k := 1) (by omega) B R (by decide) (by omega) (by omega)).nV (fun h3 Q => ?_)
    obtain ⟨V, RV, rfl⟩ := Q
    refine (MD_lay2_spec (v := n) (k := 2) (by omega) B RV (by omega) (by omega) (by rw [List.length_append, lay_len]; omega)).nV (fun h3 Q => ?_)
    rw [List.append_assoc] at Q
    exact Q
  · have ec : cntB n = lay n 1 := by unfold cntB; rw [if_pos (by omega)]
    rw [ec] at hn ⊢
    rw [lay_len] at hn
    exact (MD_lay2_spec (v := n) (k := 1) (by omega) B R (by omega) (by omega) (by omega)).nV (fun h3 Q => Q)
theorem MD_lay_spec {a off n : Nat} (hd : 1 ≤ d) (B : HsB h M ga) (R : HsR W acc) (ka : h.kd a = 101) (na : a ≠ ga) (hl : off + n ≤ (h.ai a).length) (hl2 : (h.ai a).length < 2 ^ 31) (hn : acc.length + n ≤ 16384) : Cw G mX24_lay d 0 [vR M, vR a, vI (nI off), vI (nI n)] (hsH h M ga W acc.length) (kV (fun h' => ∃ V, HsR V (acc ++ sub_ (h.ai a) off n) ∧ h' = hsH h M ga V (acc ++ sub_ (h.ai a) off n).length) nE) := by
  obtain ⟨d, rfl⟩ : ∃ d', d = d' + 1 := ⟨d - 1, by omega⟩
  obtain ⟨b1, b2, b3⟩ := B
  have R' := R
  obtain ⟨l1, l2, l3⟩ := R
  refine eX24_lay (hsH h M ga W acc.length) M a (nI off) (nI n) (fun w => sX24_lay_0 _ M a (nI off) (nI n) ?_)
  have hB : isB (h.ai a) := by
    have := w.isB (a := a) ka
    rw [hsH_N na] at this
    exact this
  have key := loop_uc (n := n) (P := fun j (T : List Int32) => Aw G mX24_lay (d + 1) 0 (hsH h M ga W acc.length) (kV (fun h' => ∃ V, HsR V (acc ++ sub_ (h.ai a) off n) ∧ h' = hsH h M ga V (acc ++ sub_ (h.ai a) off n).length) nE) 3 [vR M, vR a, vI (nI off), vI (nI n), vI (nI j)] [] (hsH h M ga T (acc.length + j)))
    (fun j T => T = putB W acc.length j (fun i => (h.ai a).getD (off + i) 0)) (fun j T hj hI ih => ?_) 0 W (Nat.zero_le _) (putB_0 _ _ _).symm
  · exact key
  · subst hI
    refine sX24_lay_3 _ M a (nI off) (nI n) (nI j) (pk_le n j (fun c => ?_) (fun c => ⟨b1, fun r3 e3 => ?_⟩))
    · obtain rfl : j = n := by omega
      refine ⟨_, R'.put hn, ?_⟩
      rw [List.length_append, sub_len]
    · have e3' : r3 = ga := e3.trans b2
      subst e3'
      rw [hsH_N na, hsH_W, hsH_i, putB_len, l1, nI_add, pk_cl (off + j) rfl (by omega), pk_cl (acc.length + j) rfl (by omega), hB, nI_1, nI_1]
      refine ⟨ka, pk_in (off + j) _ (by omega), b3, pk_in (acc.length + j) 16384 (by omega), fun h8 e8 h12 e12 => ?_⟩
      rw [e12, e8, hsH_w]
      exact ih c _ (putB_succ (by omega) rfl)
end Lay

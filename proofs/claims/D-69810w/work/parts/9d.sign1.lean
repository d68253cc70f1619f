/-! what is signed, by the component: bytes are laid behind one another -/
set_option maxRecDepth 100000
theorem lN_self (x : Int64) : lN x.toBitVec.toNat = x := by
  apply Int64.toBitVec_inj.mp
  rw [lN_bv]
  apply BitVec.eq_of_toNat_eq
  rw [BitVec.toNat_ofNat]
  exact Nat.mod_eq_of_lt x.toBitVec.isLt
theorem Jshr_byte {n i : Nat} (hn : n < 2 ^ 64) (hi : i < 8) : i2b ((Jshr (lN n) (nI (8 * i))).toInt32) = bI (n / 256 ^ i) := by
  have e1 : (Jshr (lN n) (nI (8 * i))).toBitVec = (BitVec.ofNat 64 n).sshiftRight (8 * i) := by
    unfold Jshr
    rw [Int64.toBitVec_shiftRight, BitVec.sshiftRight_eq', s_J (8 * i) (by omega), lN_bv]
  have e2 : ((BitVec.ofNat 64 n).sshiftRight (8 * i)).setWidth 8 = ((BitVec.ofNat 64 n) >>> (8 * i)).setWidth 8 := by
    apply BitVec.eq_of_getLsbD_eq
    intro j hj
    simp only [BitVec.getLsbD_setWidth, BitVec.getLsbD_sshiftRight, BitVec.getLsbD_ushiftRight]
    have h1 : ¬ (64 ≤ j) := by omega
    have h2 : 8 * i + j < 64 := by omega
    simp [h1, h2]
  have e3 := congrArg BitVec.toNat e2
  rw [BitVec.toNat_setWidth, BitVec.toNat_setWidth, ← e1, BitVec.toNat_ushiftRight, Nat.shiftRight_eq_div_pow, BitVec.toNat_ofNat, Nat.mod_eq_of_lt hn, Nat.pow_mul] at e3
  rw [← lN_self (Jshr (lN n) (nI (8 * i))), lN_i, bI_x, u32_nI]
  apply bI_eqI
  have e4 : (2 : Nat) ^ 8 = 256 := by decide
  rw [e4] at e3
  omega
/-- k bytes of a number, the lowest first -/
def lay (v k : Nat) : List Int32 := (List.range k).map (fun i => bI (v / 256 ^ i))
theorem lay_len (v k : Nat) : (lay v k).length = k := mapR_len _ _
theorem lay_leV {L : List Int32} (hB : isB L) (o k : Nat) : lay (leV L o k) k = sub_ L o k := by
  refine ext_getD (z := 0) (by rw [lay_len, sub_len]) (fun i hi => ?_)
  rw [lay_len] at hi
  unfold lay
  rw [mapR_getD hi, sub_getD hi, gb hB]
  apply bI_eqI
  have h1 := leV_split L o i (k - i)
  rw [show i + (k - i) = k by omega] at h1
  have h2 : leV L o i < 256 ^ i := leV_lt L o i
  have h3 := leV_low L (o + i) (k - i - 1)
  rw [show k - i - 1 + 1 = k - i by omega] at h3
  rw [h1, Nat.add_mul_div_left _ _ (by have := Nat.pow_pos (n := i) (show 0 < 256 by decide); omega), Nat.div_eq_of_lt h2, Nat.zero_add, h3]
  omega
theorem lay_eqI {a b k : Nat} (h : a % 256 ^ k = b % 256 ^ k) : lay a k = lay b k := by
  refine ext_getD (z := 0) (by rw [lay_len, lay_len]) (fun i hi => ?_)
  rw [lay_len] at hi
  unfold lay
  rw [mapR_getD hi, mapR_getD hi]
  apply bI_eqI
  have e : ∀ x : Nat, x / 256 ^ i % 256 = x % 256 ^ k / 256 ^ i % 256 := fun x => by
    obtain ⟨c, rfl⟩ : ∃ c, k = i + 1 + c := ⟨k - i - 1, by omega⟩
    have h1 : 256 ^ (i + 1 + c) = 256 ^ i * (256 * 256 ^ c) := by rw [Nat.pow_add, Nat.pow_add, Nat.pow_one, Nat.mul_assoc]
    rw [h1, Nat.mod_mul_right_div_self, Nat.mod_mul_right_mod]
  rw [e a, e b, h]
/-- a count as it is laid -/
def cntB (n : Nat) : List Int32 := if n < 253 then lay n 1 else lay 253 1 ++ lay n 2
def sgH (h : AH) (Sg : Nat) (W : List Int32) (n : Nat) : AH := (h.wi (Sg + 1) W).pi 8003 Sg (nI n)
def SgB (h : AH) (Sg : Nat) : Prop := h.kd Sg = 8 ∧ h.r 8002 Sg = Sg + 1 ∧ h.kd (Sg + 1) = 101
def SgR (W acc : List Int32) : Prop := W.length = 6400 ∧ acc.length ≤ 6400 ∧ sub_ W 0 acc.length = acc
theorem sgH_W {h : AH} {Sg : Nat} {W : List Int32} {n : Nat} : (sgH h Sg W n).ai (Sg + 1) = W := AH.ai_wiS _ _ _
theorem sgH_N {h : AH} {Sg a : Nat} {W : List Int32} {n : Nat} (e : a ≠ Sg + 1) : (sgH h Sg W n).ai a = h.ai a := by
  show (h.wi (Sg + 1) W).ai a = _
  exact AH.ai_wiN e
theorem sgH_i {h : AH} {Sg : Nat} {W : List Int32} {n : Nat} : (sgH h Sg W n).i 8003 Sg = nI n := by
  unfold sgH
  rw [AH.i_pi, if_pos ⟨rfl, rfl⟩]
theorem sgH_in {h : AH} {Sg k o : Nat} {W : List Int32} {n : Nat} (e : k ≠ 8003) : (sgH h Sg W n).i k o = h.i k o := by
  unfold sgH
  rw [AH.i_pi, if_neg (fun q => e q.1)]
  rfl
theorem sgH_w {h : AH} {Sg : Nat} {W V : List Int32} {n m : Nat} : ((sgH h Sg W n).wi (Sg + 1) V).pi 8003 Sg (nI m) = sgH h Sg V m := by
  have : (sgH h Sg W n).wi (Sg + 1) V = ((h.wi (Sg + 1) W).wi (Sg + 1) V).pi 8003 Sg (nI n) := rfl
  rw [this, AH.wi_wi, AH.pi_pi]
  rfl
theorem SgR.put {W acc : List Int32} (H : SgR W acc) {n : Nat} {f : Nat → Int32} (hn : acc.length + n ≤ 6400) : SgR (putB W acc.length n f) (acc ++ (List.range n).map f) := by
  obtain ⟨l1, l2, l3⟩ := H
  have la : (acc ++ (List.range n).map f).length = acc.length + n := by rw [List.length_append, mapR_len]
  exact ⟨by rw [putB_len]; exact l1, by omega, by rw [la]; exact sub_put l3 (by omega) rfl⟩
section Sig1
variable {G : Gx} {d : Nat} {h : AH} {Sg : Nat} {W acc : List Int32}
--def SGK(x) kV (fun h' => ∃ V, SgR V (acc ++ x) ∧ h' = sgH h Sg V (acc ++ x).length) nE
theorem Sg_put_spec {v k : Nat} (hd : 1 ≤ d) (B : SgB h Sg) (R : SgR W acc) (hv : v < 2 ^ 64) (hk : k ≤ 8) (hn : acc.length + k ≤ 6400) : Cw G mX8_put d 0 [vR Sg, vJ (lN v), vI (nI k)] (sgH h Sg W acc.length) (kV (fun h' => ∃ V, SgR V (acc ++ lay v k) ∧ h' = sgH h Sg V (acc ++ lay v k).length) nE) := by
  obtain ⟨d, rfl⟩ : ∃ d', d = d' + 1 := ⟨d - 1, by omega⟩
  obtain ⟨b1, b2, b3⟩ := B
  have R' := R
  obtain ⟨l1, l2, l3⟩ := R
  refine eX8_put (sgH h Sg W acc.length) Sg (lN v) (nI k) (fun w => sX8_put_0 _ Sg (lN v) (nI k) ?_)
  have key := loop_uc (n := k) (P := fun j (T : List Int32) => Aw G mX8_put (d + 1) 0 (sgH h Sg W acc.length) (kV (fun h' => ∃ V, SgR V (acc ++ lay v k) ∧ h' = sgH h Sg V (acc ++ lay v k).length) nE) 3 [vR Sg, vJ (lN v), vU, vI (nI k), vI (nI j)] [] (sgH h Sg T (acc.length + j)))
    (fun j T => T = putB W acc.length j (fun i => bI (v / 256 ^ i))) (fun j T hj hI ih => ?_) 0 W (Nat.zero_le _) (putB_0 _ _ _).symm
  · exact key
  · subst hI
    refine sX8_put_3 _ Sg (lN v) (nI k) (nI j) (pk_le k j (fun c => ?_) (fun c => ⟨b1, fun r3 e3 => ?_⟩))
    · obtain rfl : j = k := by omega
      refine ⟨_, R'.put hn, ?_⟩
      rw [List.length_append, lay_len]
    · have e3' : r3 = Sg + 1 := e3.trans b2
      subst e3'
      rw [sgH_W, sgH_i, putB_len, l1, pk_cl (acc.length + j) rfl (by omega), i2b_i2b, show (8 : Int32) = nI 8 from rfl, pk_mul, Jshr_byte hv (by omega), nI_1, nI_1]
      refine ⟨b3, pk_in (acc.length + j) 6400 (by omega), fun h6 e6 h10 e10 => ?_⟩
      rw [e10, e6, sgH_w]
      exact ih c _ (putB_succ (by omega) rfl)
theorem Sg_count_spec {n : Nat} (hd : 2 ≤ d) (B : SgB h Sg) (R : SgR W acc) (hv : n < 65536) (hn : acc.length + (cntB n).length ≤ 6400) : Cw G mX8_count d 0 [vR Sg, vI (nI n)] (sgH h Sg W acc.length) (kV (fun h' => ∃ V, SgR V (acc ++ cntB n) ∧ h' = sgH h Sg V (acc ++ cntB n).length) nE) := by
  obtain ⟨d, rfl⟩ : ∃ d', d = d' + 1 := ⟨d - 1, by omega⟩
  have b1 := B.1
  refine eX8_count (sgH h Sg W acc.length) Sg (nI n) (fun w => sX8_count_0 _ Sg (nI n) ?_)
  rw [nI_l (by omega)]
  refine pk_le 253 n (fun c => ⟨b1, ?_⟩) (fun c => ⟨b1, ?_⟩)
  · have ec : cntB n = lay 253 1 ++ lay n 2 := by unfold cntB; rw [if_neg (by omega)]
    rw [ec] at hn ⊢
    rw [List.length_append, lay_len, lay_len] at hn
    refine (Sg_put_spec (v := 253) (k := 1) (by omega) B R (by decide) (by omega) (by omega)).nV (fun h3 Q => ?_)
    obtain ⟨V, RV, rfl⟩ := Q
    refine (Sg_put_spec (v := n) (k := 2) (by omega) B RV (by omega) (by omega) (by rw [List.length_append, lay_len]; omega)).nV (fun h3 Q => ?_)
    rw [List.append_assoc] at Q
    exact Q
  · have ec : cntB n = lay n 1 := by unfold cntB; rw [if_pos (by omega)]
    rw [ec] at hn ⊢
    rw [lay_len] at hn
    exact (Sg_put_spec (v := n) (k := 1) (by omega) B R (by omega) (by omega) (by omega)).nV (fun h3 Q => Q)
theorem Sg_copy_spec {a off n : Nat} (hd : 1 ≤ d) (B : SgB h Sg) (R : SgR W acc) (ka : h.kd a = 101) (na : a ≠ Sg + 1) (hl : off + n ≤ (h.ai a).length) (hl2 : (h.ai a).length < 2 ^ 31) (hn : acc.length + n ≤ 6400) : Cw G mX8_copy d 0 [vR Sg, vR a, vI (nI off), vI (nI n)] (sgH h Sg W acc.length) (kV (fun h' => ∃ V, SgR V (acc ++ sub_ (h.ai a) off n) ∧ h' = sgH h Sg V (acc ++ sub_ (h.ai a) off n).length) nE) := by
  obtain ⟨d, rfl⟩ : ∃ d', d = d' + 1 := ⟨d - 1, by omega⟩
  obtain ⟨b1, b2, b3⟩ := B
  have R' := R
  obtain ⟨l1, l2, l3⟩ := R
  refine eX8_copy (sgH h Sg W acc.length) Sg a (nI off) (nI n) (fun w => sX8_copy_0 _ Sg a (nI off) (nI n) ⟨b1, fun r2 e2 => ?_⟩)
  have e2' : r2 = Sg + 1 := e2.trans b2
  subst e2'
  have cp := lcp_putB (s := h.ai a) (t := W) (sp := off) (dp := acc.length) (n := n) hl (by omega) hl2 (by omega)
  rw [sgH_W, sgH_i, sgH_N na, cp.2, nI_add]
  refine ⟨ka, b3, cp.1, fun h6 e6 h10 e10 => ⟨_, R'.put (n := n) (f := fun i => (h.ai a).getD (off + i) 0) hn, ?_⟩⟩
  rw [e10, e6, sgH_w, List.length_append, sub_len]
end Sig1

/-! the work of a target, the component -/
set_option maxRecDepth 100000
/-- 2^256 by one more than the target -/
def wkN (T : Nat) : Nat := (4294967296 ^ 8 - 1 - T) / (T + 1) + 1
theorem xor_m1 {n : Nat} (hn : n < 4294967296) : nI n ^^^ (-1) = nI (4294967296 - 1 - n) := by
  apply Int32.toBitVec_inj.mp
  rw [Int32.toBitVec_xor, nI_bv, nI_bv, show (-1 : Int32).toBitVec = BitVec.allOnes 32 from rfl, BitVec.xor_allOnes]
  apply BitVec.eq_of_toNat_eq
  rw [BitVec.toNat_not, BitVec.toNat_ofNat, BitVec.toNat_ofNat]
  omega
theorem va_not {L L' : List Int32} : ∀ k, (∀ i, i < k → dg L' i + dg L i = 4294967296 - 1) → va L' k + va L k + 1 = 4294967296 ^ k
  | 0, _ => rfl
  | k + 1, h => by
    have h1 := va_not k (fun i hi => h i (Nat.lt_succ_of_lt hi))
    have h2 := h k (Nat.lt_succ_self _)
    have e1 : va L' (k + 1) = va L' k + dg L' k * 4294967296 ^ k := rfl
    have e2 : va L (k + 1) = va L k + dg L k * 4294967296 ^ k := rfl
    have e3 : dg L' k * 4294967296 ^ k + dg L k * 4294967296 ^ k = (4294967296 - 1) * 4294967296 ^ k := by rw [← Nat.add_mul, h2]
    rw [e1, e2, Nat.pow_succ]
    generalize 4294967296 ^ k = p at *
    generalize dg L' k * p = x at *
    generalize dg L k * p = y at *
    omega
theorem lb_not {T : Nat} (hT : T < 4294967296 ^ 8) {L : List Int32} (l : L.length = 8) (g : ∀ i, i < 8 → L.getD i 0 = (lb T).getD i 0 ^^^ (-1)) : L = lb (4294967296 ^ 8 - 1 - T) := by
  have h1 := va_not (L := lb T) (L' := L) 8 (fun i hi => by
    have hd := dg_lt (lb T) i
    have e : dg L i = u32 (L.getD i 0) := rfl
    have e2 : dg (lb T) i = u32 ((lb T).getD i 0) := rfl
    rw [e, g i hi, ← nI_u32 ((lb T).getD i 0), xor_m1 (u32_lt _), u32_nIs (by omega), e2]
    have := u32_lt ((lb T).getD i 0)
    omega)
  rw [va_lb8 hT] at h1
  have h2 : va L 8 = 4294967296 ^ 8 - 1 - T := by omega
  have := lb_va l
  rw [h2] at this
  exact this.symm
section Work
variable {G : Gx} {d : Nat} {h : AH} {J ob ow v : Nat}
set_option maxHeartbeats 1000000 in
theorem X1_workOf_spec (hd : 4 ≤ d) (hv : v < 4294967296) (kJ : h.kd J = 1) (r15 : h.r 1015 J = ob) (hb : BigAt h ob ow) (b1 : h.ai ow = lb 1) (zo : J < h.z ∧ ob < h.z ∧ ow < h.z) (hT : tgN v + 1 < 4294967296 ^ 8) :
    Cw G mX1_workOf d 0 [vR J, vI (nI v)] h (kR (fun x h' => x = h.z ∧ BigAt h' h.z (h.z + 1) ∧ h'.ai (h.z + 1) = lb (wkN (tgN v)) ∧ Same noP h h' ∧ h'.z = h.z + 8 ∧ h'.s = h.s + 36) nE) := by
  obtain ⟨d, rfl⟩ : ∃ d', d = d' + 1 := ⟨d - 1, by omega⟩
  have hd1 : 1 ≤ d := by omega
  have hd3 : 3 ≤ d := by omega
  refine eX1_workOf h J (nI v) (fun _ => sX1_workOf_0 h J (nI v) (fun q1 eq1 _ h2 e2 => k_newBig hd1 eq1 e2 (fun h5 N5 => ?_)))
  obtain ⟨n1, n2, n3, n4, n5⟩ := N5
  subst eq1
  refine (X1_targetOf_spec hd3 hv n1).nR (fun x6 h7 Q => ?_)
  obtain ⟨e6, e7⟩ := Q
  generalize tgN v = T at *
  rw [e6]
  have B7 : BigAt h7 h.z (h.z + 1) := by rw [e7]; exact n1.wi (by rw [lb_len]; exact n1.2.2.2.symm)
  have a7 : h7.ai (h.z + 1) = lb T := by rw [e7, AH.ai_wiS]
  have z7 : h7.z = h.z + 2 := by rw [e7]; exact n4
  have s7 : h7.s = h.s + 9 := by rw [e7]; exact n5
  have S7 : Same noP h h7 := by rw [e7]; exact n3.wi _ (by rw [lb_len]; exact n1.2.2.2.symm) (Or.inr (by omega))
  clear e7 n1 n2 n3 n4 n5 e2
  refine fun q8 eq8 _ h9 e9 => k_newBig hd1 eq8 e9 (fun h12 N12 => ?_)
  obtain ⟨m1, m2, m3, m4, m5⟩ := N12
  rw [z7] at m1 m2 m4
  have q8e : q8 = h.z + 2 := eq8.trans z7
  have S12 : Same noP h h12 := S7.trans m3 (fun _ _ q => q)
  have old : ∀ y, y < h.z → eqAt h h12 y := fun y hy => S12.2.2 y hy id
  have B12 : BigAt h12 h.z (h.z + 1) := B7.eqc (m3.2.2 _ (by omega) id) (m3.2.2 _ (by omega) id)
  have a12 : h12.ai (h.z + 1) = lb T := (m3.2.2 _ (by omega) id).2.2.2.2.1.trans a7
  have o12 : BigAt h12 ob ow := hb.eqc (old _ zo.2.1) (old _ zo.2.2)
  have c12 : h12.ai ow = lb 1 := (old _ zo.2.2).2.2.2.2.1.trans b1
  refine ⟨(old _ zo.1).1.trans kJ, fun r14 e14 => ?_⟩
  rw [show r14 = ob from e14.trans (((old _ zo.1).2.1 _).trans r15), q8e]
  refine (Big_add_spec hd1 m1 B12 o12).nI (fun x15 h16 Q => ?_)
  obtain ⟨_, e16⟩ := Q
  rw [bv_of a12 (by omega), bv_of c12 (by decide)] at e16
  have l3 : (h12.ai (h.z + 3)).length = 8 := m1.2.2.2
  have B16 : ∀ {x w : Nat}, BigAt h12 x w → BigAt h16 x w := fun H => by rw [e16]; exact H.wi (by rw [lb_len, l3])
  have a16 : h16.ai (h.z + 1) = lb T := by rw [e16, AH.ai_wiN (by omega)]; exact a12
  have b16 : h16.ai (h.z + 3) = lb (T + 1) := by rw [e16, AH.ai_wiS]
  have c16 : h16.ai ow = lb 1 := by rw [e16, AH.ai_wiN (by omega)]; exact c12
  have S16 : Same noP h h16 := by rw [e16]; exact S12.wi _ (by rw [lb_len, l3]) (Or.inr (by omega))
  have z16 : h16.z = h.z + 4 := by rw [e16]; show h12.z = _; omega
  have s16 : h16.s = h.s + 18 := by rw [e16]; show h12.s = _; omega
  have k16 : h16.kd J = 1 := (S16.kd zo.1).trans kJ
  have r16 : h16.r 1015 J = ob := (S16.r zo.1 id 1015).trans r15
  have t16 := B16 B12
  have m16 := B16 m1
  have o16 := B16 o12
  clear e16 m2 m3 m4 m5 S12 old B12 a12 o12 c12 l3 B16 B7 a7 z7 s7 S7 e9 e14 m1
  have key := loop_uc (n := 8) (P := fun k (L : List Int32) => Aw G mX1_workOf (d + 1) 0 h (kR (fun x h' => x = h.z ∧ BigAt h' h.z (h.z + 1) ∧ h'.ai (h.z + 1) = lb (wkN T) ∧ Same noP h h' ∧ h'.z = h.z + 8 ∧ h'.s = h.s + 36) nE) 34 [vR J, vU, vR h.z, vR (h.z + 2), vU, vI (nI k)] [] (h16.wi (h.z + 1) L))
    (fun k L => L.length = 8 ∧ ∀ i, i < 8 → L.getD i 0 = if i < k then (lb T).getD i 0 ^^^ (-1) else (lb T).getD i 0) (fun k L hk hI ih => ?_) 0 (lb T) (Nat.zero_le _) ⟨lb_len _, fun i _ => by rw [if_neg (Nat.not_lt_zero _)]⟩
  · rw [← a16, AH.wi_self] at key
    exact key
  · obtain ⟨lL, gL⟩ := hI
    have tw : BigAt (h16.wi (h.z + 1) L) h.z (h.z + 1) := t16.wi (by rw [lL]; exact t16.2.2.2.symm)
    refine sX1_workOf_34 _ J h.z (h.z + 2) (nI k) (pk_le 8 k (fun z => ⟨t16.1, ?_⟩) (fun z => ⟨t16.1, fun r11 e11 => ?_⟩))
    · obtain rfl : k = 8 := by omega
      have eL : L = lb (4294967296 ^ 8 - 1 - T) := lb_not (by omega) lL (fun i hi => by rw [gL i hi, if_pos hi])
      have mw : BigAt (h16.wi (h.z + 1) L) (h.z + 2) (h.z + 3) := m16.wi (by rw [lL]; exact t16.2.2.2.symm)
      have vA : bv (h16.wi (h.z + 1) L) (h.z + 1) = 4294967296 ^ 8 - 1 - T := bv_of (by rw [AH.ai_wiS]; exact eL) (by omega)
      have vB : bv (h16.wi (h.z + 1) L) (h.z + 3) = T + 1 := bv_of (by rw [AH.ai_wiN (by omega)]; exact b16) hT
      have zg : (h16.wi (h.z + 1) L).z = h.z + 4 := z16
      refine (Big_divide_spec hd3 tw tw mw ⟨by omega, by omega⟩ ⟨by omega, by omega⟩ ⟨by omega, by omega⟩ (by rw [vB]; omega)).nR (fun x2 h3 Q => ?_)
      obtain ⟨_, S3, a3, z3, s3⟩ := Q
      rw [vA, vB] at a3
      have Sg : Same noP h (h16.wi (h.z + 1) L) := S16.wi _ (by rw [lL]; exact t16.2.2.2.symm) (Or.inr (by omega))
      have S3' : Same noP h h3 := Sg.trans (S3.mono (Q := fun y => h.z ≤ y) (fun y _ q => by show h.z ≤ y; omega)) (fun y hy q => absurd q (by show ¬ h.z ≤ y; omega))
      have t3 : BigAt h3 h.z (h.z + 1) := ⟨(S3.kd (by omega)).trans tw.1, (S3.r (by omega) (by omega) _).trans tw.2.1, (S3.kd (by omega)).trans tw.2.2.1, by rw [a3, lb_len]⟩
      have o3 : BigAt h3 ob ow := hb.eqc (S3'.2.2 _ zo.2.1 id) (S3'.2.2 _ zo.2.2 id)
      have c3 : h3.ai ow = lb 1 := (S3'.2.2 _ zo.2.2 id).2.2.2.2.1.trans b1
      refine ⟨(S3'.kd zo.1).trans kJ, fun r6 e6' => ?_⟩
      rw [show r6 = ob from e6'.trans ((S3'.r zo.1 id 1015).trans r15)]
      have hq : (4294967296 ^ 8 - 1 - T) / (T + 1) < 4294967296 ^ 8 := Nat.lt_of_le_of_lt (Nat.div_le_self _ _) (by omega)
      refine (Big_add_spec hd1 t3 t3 o3).nI (fun x7 h8 Q => ?_)
      obtain ⟨_, e8⟩ := Q
      rw [bv_of a3 hq, bv_of c3 (by decide)] at e8
      refine ⟨rfl, by rw [e8]; exact t3.wi (by rw [lb_len, a3, lb_len]), by rw [e8, AH.ai_wiS]; rfl, by rw [e8]; exact S3'.wi _ (by rw [lb_len, a3, lb_len]) (Or.inr (by omega)), by rw [e8]; show h3.z = _; rw [z3]; show h16.z + 4 = _; omega, by rw [e8]; show h3.s = _; rw [s3]; show h16.s + 18 = _; omega⟩
    · rw [show r11 = h.z + 1 from e11.trans t16.2.1, AH.ai_wiS, AH.wi_wi, lL, pk_cl k rfl (by omega), nI_1]
      refine ⟨t16.2.2.1, pk_in k 8 (by omega), pk_in k 8 (by omega), fun h15 e15 => ?_⟩
      rw [e15]
      refine ih (by omega) _ ⟨by rw [List.length_set]; exact lL, fun i hi => ?_⟩
      by_cases c : i = k
      · rw [c, getD_set_eq (by omega), gL k (by omega), if_neg (Nat.lt_irrefl _), if_pos (Nat.lt_succ_self _)]
      · rw [getD_set_ne c, gL i hi]
        by_cases c2 : i < k
        · rw [if_pos c2, if_pos (by omega)]
        · rw [if_neg c2, if_neg (by omega)]
end Work

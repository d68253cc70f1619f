/-! the reference's Ring: its operations -/
set_option maxRecDepth 100000
def MRingS (h : AH) (R : Nat) : Prop := h.kd R = 27 ∧ h.r 27000 R = R + 1 ∧ h.r 27002 R = R + 2 ∧ h.r 27003 R = R + 3 ∧ h.r 27004 R = R + 4 ∧ h.r 27005 R = R + 5 ∧ h.r 27006 R = R + 6 ∧ h.r 27007 R = R + 7 ∧
  RowAt h (R + 1) ∧ RowAt h (R + 2) ∧ RowAt h (R + 3) ∧ RowAt h (R + 4) ∧ (h.kd (R + 5) = 100 ∧ (h.ai (R + 5)).length = 10) ∧ RowAt h (R + 6) ∧ RowAt h (R + 7)
/-- the modulus stands, and what makes the lowest digit 0 -/
def MRing0 (h : AH) (R m : Nat) : Prop := MRingS h R ∧ bv h (R + 1) = m ∧ (u32 (h.i 27001 R) * m + 1) % 4294967296 = 0 ∧ 2 < m
/-- a ring with the modulus m, where I is the inverse of 2^256 -/
def MRingAt (h : AH) (R m I : Nat) : Prop := MRing0 h R m ∧ 4294967296 ^ 8 * I % m = 1 ∧ bv h (R + 2) = 4294967296 ^ 8 % m ∧ bv h (R + 3) = 4294967296 ^ 8 * 4294967296 ^ 8 % m ∧ bv h (R + 4) = 1
theorem MRingS.mod {P : Nat → Prop} {h h' : AH} {R : Nat} (H : MRingS h R) (m : Mod P h h') : MRingS h' R := by
  unfold MRingS at H ⊢
  obtain ⟨c1, c2, c3, c4, c5, c6, c7, c8, c9, c10, c11, c12, c13, c14, c15⟩ := H
  rw [m.kd, m.r, m.len]
  exact ⟨c1, c2, c3, c4, c5, c6, c7, c8, c9.mod m, c10.mod m, c11.mod m, c12.mod m, c13, c14.mod m, c15.mod m⟩
theorem MRing0.mod {P : Nat → Prop} {h h' : AH} {R q : Nat} (H : MRing0 h R q) (m : Mod P h h') (h1 : ¬ P (R + 1)) : MRing0 h' R q :=
  ⟨H.1.mod m, by rw [m.bv h1]; exact H.2.1, by rw [m.i]; exact H.2.2.1, H.2.2.2⟩
theorem MRingAt.mod {P : Nat → Prop} {h h' : AH} {R q I : Nat} (H : MRingAt h R q I) (m : Mod P h h') (h1 : ¬ P (R + 1)) (h2 : ¬ P (R + 2)) (h3 : ¬ P (R + 3)) (h4 : ¬ P (R + 4)) : MRingAt h' R q I :=
  ⟨H.1.mod m h1, H.2.1, by rw [m.bv h2]; exact H.2.2.1, by rw [m.bv h3]; exact H.2.2.2.1, by rw [m.bv h4]; exact H.2.2.2.2⟩
section MRing
variable {G : Gx} {d : Nat} {h : AH} {R m I : Nat} {t a b : Nat}
theorem lN_0 {n : Nat} (hn : n < 2 ^ 63) : lN n = 0 ↔ n = 0 := by
  constructor
  · intro e
    have := congrArg Int64.toInt e
    rw [lN_toInt63 hn] at this
    have h0 : (0 : Int64).toInt = 0 := rfl
    omega
  · intro e; rw [e]; rfl
theorem MRing_add_spec (hd : 2 ≤ d) (hR : MRing0 h R m) (ha : RowAt h a) (hb : RowAt h b) (ht : RowAt h t) (ht2 : t ≠ R + 1) (la : bv h a < m) (lb_ : bv h b < m) :
    Cw G mX27_add d 0 [vR R, vR a, vR b, vR t] h (kV (fun h' => h' = h.wi t (lb ((bv h a + bv h b) % m))) nE) := by
  obtain ⟨d, rfl⟩ : ∃ d', d = d' + 1 := ⟨d - 1, by omega⟩
  obtain ⟨⟨c1, c2, c3, c4, c5, c6, c7, c8, c9, c10, c11, c12, c13, c14, c15⟩, m1, m2, m3⟩ := hR
  have hmlt : m < 4294967296 ^ 8 := by rw [← m1]; exact bv_lt _ _
  refine eX27_add h R a b t (fun w => sX27_add_0 h R a b t ((Row_plus_spec (by omega) ha hb ht).nJ (fun x h2 q => ?_)))
  obtain ⟨rfl, rfl⟩ := q
  generalize bv h a = A at *
  generalize bv h b = B at *
  have hM : Mod (fun x => x = t) h (h.wi t (lb (A + B))) := Mod.wi (by rw [lb_len, ht.2]) rfl
  have hbt : bv (h.wi t (lb (A + B))) t = (A + B) % 4294967296 ^ 8 := bv_wiS _ _ _
  have hbm : bv (h.wi t (lb (A + B))) (R + 1) = m := by rw [bv_wiN (by omega)]; exact m1
  have hd2 : (A + B) / 4294967296 ^ 8 < 2 := by rw [Nat.div_lt_iff_lt_mul (by omega)]; omega
  have hsub : ∀ x, x = ((A + B) % 4294967296 ^ 8 + 4294967296 ^ 8 - m) → m ≤ A + B → lb x = lb ((A + B) % m) := by
    intro x hx hge
    have e1 : (A + B) % m = A + B - m := by rw [Nat.mod_eq_sub_mod hge, Nat.mod_eq_of_lt (by omega)]
    rw [e1, hx]
    apply lb_congr
    have := Nat.div_add_mod (A + B) (4294967296 ^ 8)
    omega
  rw [lN_0 (by omega)]
  refine ⟨fun q => ⟨c1, fun r6 e6 => ?_⟩, fun q => ⟨c1, fun r11 e11 => ?_⟩⟩
  · rw [e6.trans c2]
    refine (Row_less_spec (by omega) (ht.mod hM) (c9.mod hM) (ht.mod hM)).nJ (fun x h8 q8 => ?_)
    obtain ⟨_, rfl⟩ := q8
    show _ = _
    rw [AH.wi_wi, hbt, hbm, hsub _ rfl]
    have : 4294967296 ^ 8 ≤ A + B := by
      by_cases e : A + B < 4294967296 ^ 8
      · exact absurd (Nat.div_eq_of_lt e) q
      · omega
    omega
  · rw [e11.trans c2]
    have hlt : A + B < 4294967296 ^ 8 := by
      by_cases e : A + B < 4294967296 ^ 8
      · exact e
      · exfalso
        have : 1 ≤ (A + B) / 4294967296 ^ 8 := by rw [Nat.le_div_iff_mul_le (by omega)]; omega
        omega
    refine (Row_compare_spec (by omega) (ht.mod hM) (c9.mod hM)).nI (fun x h8 q8 => ?_)
    obtain ⟨rfl, rfl⟩ := q8
    rw [hbt, hbm, cmpI_lt, Nat.mod_eq_of_lt hlt]
    refine ⟨fun q2 => ?_, fun q2 => ?_⟩
    · show _ = _
      rw [Nat.mod_eq_of_lt q2]
    · refine (Row_less_spec (by omega) (ht.mod hM) (c9.mod hM) (ht.mod hM)).nJ (fun x h8 q8 => ?_)
      obtain ⟨_, rfl⟩ := q8
      show _ = _
      rw [AH.wi_wi, hbt, hbm, hsub _ rfl (by omega)]
theorem MRing_subtract_spec (hd : 2 ≤ d) (hR : MRing0 h R m) (ha : RowAt h a) (hb : RowAt h b) (ht : RowAt h t) (ht2 : t ≠ R + 1) (la : bv h a < m) (lb_ : bv h b < m) :
    Cw G mX27_subtract d 0 [vR R, vR a, vR b, vR t] h (kV (fun h' => h' = h.wi t (lb ((bv h a + m - bv h b) % m))) nE) := by
  obtain ⟨d, rfl⟩ : ∃ d', d = d' + 1 := ⟨d - 1, by omega⟩
  obtain ⟨⟨c1, c2, c3, c4, c5, c6, c7, c8, c9, c10, c11, c12, c13, c14, c15⟩, m1, m2, m3⟩ := hR
  have hmlt : m < 4294967296 ^ 8 := by rw [← m1]; exact bv_lt _ _
  refine eX27_subtract h R a b t (fun w => sX27_subtract_0 h R a b t ((Row_less_spec (by omega) ha hb ht).nJ (fun x h2 q => ?_)))
  obtain ⟨rfl, rfl⟩ := q
  generalize bv h a = A at *
  generalize bv h b = B at *
  have hM : Mod (fun x => x = t) h (h.wi t (lb (A + 4294967296 ^ 8 - B))) := Mod.wi (by rw [lb_len, ht.2]) rfl
  have hbt : bv (h.wi t (lb (A + 4294967296 ^ 8 - B))) t = (A + 4294967296 ^ 8 - B) % 4294967296 ^ 8 := bv_wiS _ _ _
  have hbm : bv (h.wi t (lb (A + 4294967296 ^ 8 - B))) (R + 1) = m := by rw [bv_wiN (by omega)]; exact m1
  rw [lN_0 (by split <;> omega)]
  refine ⟨fun q => ?_, fun q => ⟨c1, fun r5 e5 => ?_⟩⟩
  · have hge : ¬ A < B := fun e => by rw [if_pos e] at q; omega
    show _ = _
    have e1 : (A + m - B) % m = A - B := by
      rw [show A + m - B = A - B + m by omega, Nat.add_mod_right, Nat.mod_eq_of_lt (by omega)]
    rw [e1, lb_congr (a := A + 4294967296 ^ 8 - B) (b := A - B)]
    omega
  · have hge : A < B := by
      by_cases e : A < B
      · exact e
      · rw [if_neg e] at q; exact absurd rfl q
    rw [e5.trans c2]
    refine (Row_plus_spec (by omega) (ht.mod hM) (c9.mod hM) (ht.mod hM)).nJ (fun x h8 q8 => ?_)
    obtain ⟨_, rfl⟩ := q8
    show _ = _
    rw [AH.wi_wi, hbt, hbm, Nat.mod_eq_of_lt (show A + m - B < m by omega)]
    rw [lb_congr (b := A + m - B)]
    omega
/-- a word times a number comes to the row -/
theorem MRing_put_spec {x : Int32} (hd : 1 ≤ d) (hR : MRingS h R) (hb : RowAt h b) (hb2 : b ≠ R + 5) (hlt : va (h.ai (R + 5)) 10 + u32 x * bv h b < 4294967296 ^ 10) :
    Cw G mX27_put d 0 [vR R, vI x, vR b] h (kV (fun h' => ∃ T, h' = h.wi (R + 5) T ∧ T.length = 10 ∧ va T 10 = va (h.ai (R + 5)) 10 + u32 x * bv h b) nE) := by
  obtain ⟨d, rfl⟩ : ∃ d', d = d' + 1 := ⟨d - 1, by omega⟩
  obtain ⟨c1, c2, c3, c4, c5, c6, c7, c8, c9, c10, c11, c12, ⟨c13, c13l⟩, c14, c15⟩ := hR
  have hx := u32_lt x
  refine eX27_put h R x b (fun w => sX27_put_0 h R x b ?_)
  generalize hV : va (h.ai (R + 5)) 10 = V at *
  generalize hX : u32 x = X at *
  have key := loop_uc (n := 8) (P := fun k (y : List Int32 × Nat) => Aw G mX27_put (d + 1) 0 h (kV (fun h' => ∃ T, h' = h.wi (R + 5) T ∧ T.length = 10 ∧ va T 10 = V + X * bv h b) nE) 5 [vR R, vI x, vR b, vJ (lN y.2), vU, vI (nI k)] [] (h.wi (R + 5) y.1))
    (fun k y => y.1.length = 10 ∧ y.2 < 4294967296 ∧ va y.1 10 + y.2 * 4294967296 ^ k = V + X * va (h.ai b) k) (fun k y hk hI ih => ?_) 0 (h.ai (R + 5), 0) (by omega) ⟨c13l, by dsimp only; omega, by dsimp only; rw [hV, va_zero, Nat.mul_zero, Nat.zero_mul]⟩
  · rw [AH.wi_self] at key; exact key
  · obtain ⟨T, c⟩ := y
    obtain ⟨l, hc, hv⟩ := hI
    dsimp only at l hc hv ⊢
    refine sX27_put_5 _ R x b (lN c) (nI k) (pk_le 8 k (fun hk8 => ⟨c1, fun r3 e3 => ?_⟩) (fun hk8 => ?_))
    · have e : k = 8 := by omega
      subst e
      rw [e3.trans c6, AH.ai_wiS, l, pk_cl 8, pk_cl 9, and_low, lN_add]
      refine ⟨c13, pk_in 8 10 (by omega), fun u6 e6 => ⟨pk_in 8 10 (by omega), fun h8 e8 => ?_⟩⟩
      rw [AH.wi_wi] at e8
      subst e8
      rw [AH.ai_wiS, AH.wi_wi, List.length_set, l]
      refine ⟨pk_in 9 10 (by omega), pk_in 9 10 (by omega), fun h15 e15 => ⟨_, e15, by rw [List.length_set, List.length_set, l], ?_⟩⟩
      have ht := u32_lt (T.getD 8 0)
      rw [e6, lN_i, lN_ushr (by omega), lN_i, getD_set_ne (by omega)]
      have s1 := carry_step (T := T) (q := 8) (u := c + u32 (T.getD 8 0)) (c' := (c + u32 (T.getD 8 0)) / 4294967296) (m := (c + u32 (T.getD 8 0)) % 4294967296) (N := 10) (by omega) (by omega) (by omega) (by omega) (V + X * va (h.ai b) 8) (by
        show _ = _ + u32 (T.getD 8 0) * _
        rw [← hv, Nat.add_mul, Nat.add_assoc])
      generalize hT' : T.set 8 (nI (c + u32 (T.getD 8 0))) = T' at *
      have l' : T'.length = 10 := by rw [← hT', List.length_set, l]
      have e9 : T.getD 9 0 = T'.getD 9 0 := by rw [← hT', getD_set_ne (by omega)]
      generalize (c + u32 (T.getD 8 0)) / 4294967296 = q at *
      have s2 := va_mid (L := T') (q := 9) (x := T.getD 9 0 + nI q) (by omega) (n := 10) (by omega)
      have hq : u32 (T'.getD 9 0) + q < 4294967296 := by
        have h9 : va T' 10 = va T' 9 + u32 (T'.getD 9 0) * 4294967296 ^ 9 := rfl
        rw [show bv h b = va (h.ai b) 8 from rfl] at hlt
        have h10 : (u32 (T'.getD 9 0) + q) * 4294967296 ^ 9 < 4294967296 * 4294967296 ^ 9 := by
          rw [Nat.add_mul]
          omega
        exact Nat.lt_of_mul_lt_mul_right h10
      have hu : u32 (T.getD 9 0 + nI q) = u32 (T'.getD 9 0) + q := by
        rw [e9, ← nI_u32 (T'.getD 9 0), nI_add, u32_nIs, u32_nIs]
        · exact u32_lt _
        · exact hq
      rw [hu, Nat.add_mul] at s2
      have h11 : dg T' 9 = u32 (T'.getD 9 0) := rfl
      rw [h11] at s2
      show va (T'.set 9 _) 10 = V + X * va (h.ai b) 8
      omega
    · rw [AH.ai_wiN hb2, hb.2, pk_cl k]
      refine ⟨hb.1, pk_in k 8 hk8, c1, fun r19 e19 => ?_⟩
      rw [e19.trans c6, AH.ai_wiS, l, and_low, and_low, and_low, lN_mul, lN_add, lN_add, hX]
      refine ⟨c13, pk_in k 10 (by omega), fun u22 e22 => ⟨pk_in k 10 (by omega), fun h24 e24 => ?_⟩⟩
      rw [AH.wi_wi] at e24
      have ht := u32_lt (T.getD k 0)
      have hbj := u32_lt ((h.ai b).getD k 0)
      have hprod : X * u32 ((h.ai b).getD k 0) ≤ 4294967295 * 4294967295 := Nat.mul_le_mul (by omega) (by omega)
      rw [e24, e22, lN_i, lN_ushr (by omega), nI_1]
      refine ih hk8 (_, (c + (X * u32 ((h.ai b).getD k 0) + u32 (T.getD k 0))) / 4294967296) ⟨by rw [List.length_set, l], by dsimp only; omega, ?_⟩
      dsimp only
      refine carry_step (m := (c + (X * u32 ((h.ai b).getD k 0) + u32 (T.getD k 0))) % 4294967296) (by omega) (by omega) (by omega) (by omega) _ ?_
      have e9 : X * va (h.ai b) (k + 1) = X * va (h.ai b) k + X * u32 ((h.ai b).getD k 0) * 4294967296 ^ k := by
        rw [va_succ, Nat.mul_add, ← Nat.mul_assoc]
        rfl
      rw [e9, Nat.add_mul, Nat.add_mul]
      show _ = _ + u32 (T.getD k 0) * _
      omega
theorem dv_low (f : Nat → Nat) : ∀ n, dv f (n + 1) = f 0 + 4294967296 * dv (fun i => f (i + 1)) n
  | 0 => by
    show 0 + f 0 * 4294967296 ^ 0 = f 0 + 4294967296 * 0
    omega
  | n + 1 => by
    rw [dv, dv_low f n, dv, Nat.pow_succ, Nat.mul_add]
    have : f (n + 1) * (4294967296 ^ n * 4294967296) = 4294967296 * (f (n + 1) * 4294967296 ^ n) := by ac_rfl
    omega
theorem mont_end {V A B I W8 m : Nat} (h1 : V * W8 % m = A * B % m) (h2 : W8 * I % m = 1) (hm : 1 < m) : V % m = A * B * I % m := by
  rw [Nat.mul_mod (A * B), ← h1, ← Nat.mul_mod, Nat.mul_assoc, Nat.mul_mod, h2, Nat.mul_one, Nat.mod_mod]
/-- one word of a: what the row tells behind it -/
theorem mont_step {V V3 ai B u m Wi D A' : Nat} (h1 : V3 * 4294967296 = V + ai * B + u * m) (h2 : V * Wi % m = D * B % m) (hA : A' = D + ai * Wi) : V3 * (Wi * 4294967296) % m = A' * B % m := by
  have e1 : V3 * (Wi * 4294967296) = V * Wi + ai * B * Wi + m * (u * Wi) := by
    rw [Nat.mul_comm Wi, ← Nat.mul_assoc, h1, Nat.add_mul, Nat.add_mul]
    have : u * m * Wi = m * (u * Wi) := by ac_rfl
    rw [this]
  rw [e1, Nat.add_mul_mod_self_left, hA, Nat.add_mul, Nat.add_mod, h2, ← Nat.add_mod]
  have : ai * B * Wi = ai * Wi * B := by ac_rfl
  rw [this]
theorem mont_low {V1 mn m : Nat} (h : (mn * m + 1) % 4294967296 = 0) : (V1 + (V1 % 4294967296 * mn) % 4294967296 * m) % 4294967296 = 0 := by
  rw [Nat.add_mod, Nat.mul_mod, Nat.mod_mod, ← Nat.mul_mod, ← Nat.add_mod, Nat.add_mod, Nat.mul_assoc, Nat.mul_mod, Nat.mod_mod, ← Nat.mul_mod, ← Nat.add_mod]
  rw [show V1 + V1 * (mn * m) = V1 * (mn * m + 1) by rw [Nat.mul_add, Nat.mul_one, Nat.add_comm], Nat.mul_mod, h, Nat.mul_zero, Nat.zero_mod]
theorem mmul_128 {Φ : Out → AH → Prop} {V : Nat} (hd : 1 ≤ d) (hR : MRing0 h R m) (ht : RowAt h t) (ht2 : t ≠ R + 1 ∧ t ≠ R + 5) (hΦ : ∀ h1, Mod (fun x => x = R + 5 ∨ x = t) h h1 → h1.ai t = lb (V % m) → Φ (.inl none) h1) (hV : V < 2 * m) (h1 : AH) (hM : Mod (fun x => x = R + 5 ∨ x = t) h h1) (hv : va (h1.ai (R + 5)) 10 = V) :
    Aw G mX27_multiply (d + 1) 0 h Φ 128 [vR R, vU, vU, vR t, vI (if V < 4294967296 ^ 8 then 0 else 1), vI 0] [] h1 := by
  have n5 : R + 5 ≠ t := by omega
  have x1 : ¬ (R + 1 = R + 5 ∨ R + 1 = t) := by omega
  have hR1 : MRing0 h1 R m := hR.mod hM x1
  have ht1 := ht.mod hM
  obtain ⟨⟨c1, c2, c3, c4, c5, c6, c7, c8, c9, c10, c11, c12, ⟨c13, c13l⟩, c14, c15⟩, m1, m2, m3⟩ := hR1
  have hmlt : m < 4294967296 ^ 8 := by rw [← m1]; exact bv_lt _ _
  have hlo : va (h1.ai (R + 5)) 8 = V % 4294967296 ^ 8 := by
    have e := dv_add (dg (h1.ai (R + 5))) 8 2
    have e2 : va (h1.ai (R + 5)) 10 = va (h1.ai (R + 5)) 8 + dv (fun i => dg (h1.ai (R + 5)) (8 + i)) 2 * 4294967296 ^ 8 := e
    rw [← hv, e2, Nat.add_mul_mod_self_right, Nat.mod_eq_of_lt (va_lt _ _)]
  have key := loop_uc (n := 8) (P := fun k (_ : Unit) => Aw G mX27_multiply (d + 1) 0 h Φ 128 [vR R, vU, vU, vR t, vI (if V < 4294967296 ^ 8 then 0 else 1), vI (nI k)] [] (h1.wi t (cpD (h1.ai (R + 5)) (h1.ai t) k))) (fun _ _ => True) (fun k _ hk _ ih => ?_) 0 () (by omega) trivial
  · unfold cpD at key; rw [putB_0, AH.wi_self] at key; exact key
  · refine sX27_multiply_128 _ R t _ (nI k) (pk_le 8 k (fun h8 => ?_) (fun h8 => ⟨c1, fun r18 e18 => ?_⟩))
    · have : k = 8 := by omega
      subst this
      have hl : cpD (h1.ai (R + 5)) (h1.ai t) 8 = lb V := by
        refine lb_eq (by unfold cpD; rw [putB_len, ht1.2]) ?_
        rw [← hlo]
        refine dv_congr (fun i hi => ?_)
        unfold dg cpD
        rw [putB_getD _ _ _ _ (by rw [ht1.2]; exact hi), if_pos (by omega)]
        rfl
      rw [hl]
      have hM2 : Mod (fun x => x = R + 5 ∨ x = t) h1 (h1.wi t (lb V)) := Mod.wi (by rw [lb_len, ht1.2]) (Or.inr rfl)
      have hbt : bv (h1.wi t (lb V)) t = V % 4294967296 ^ 8 := bv_wiS _ _ _
      have hbm : bv (h1.wi t (lb V)) (R + 1) = m := by rw [bv_wiN (fun e => ht2.1 e.symm)]; exact m1
      have hfin : ∀ x, x = V % 4294967296 ^ 8 + 4294967296 ^ 8 - m → m ≤ V → Φ (.inl none) ((h1.wi t (lb V)).wi t (lb x)) := by
        intro x hx hge
        refine hΦ _ ((hM.trans hM2).trans (Mod.wi (by rw [lb_len, AH.ai_wiS, lb_len]) (Or.inr rfl))) ?_
        rw [AH.ai_wiS]
        have e1 : V % m = V - m := by rw [Nat.mod_eq_sub_mod hge, Nat.mod_eq_of_lt (by omega)]
        rw [e1, hx]
        apply lb_congr
        have := Nat.div_add_mod V (4294967296 ^ 8)
        omega
      refine ⟨fun q => ⟨c1, fun r4 e4 => ?_⟩, fun q => ⟨c1, fun r8 e8 => ?_⟩⟩
      · rw [e4.trans c2]
        refine (Row_less_spec hd (ht1.mod hM2) (c9.mod hM2) (ht1.mod hM2)).nJ (fun x h8 q8 => ?_)
        obtain ⟨_, rfl⟩ := q8
        rw [hbt, hbm]
        refine hfin _ rfl ?_
        by_cases e : V < 4294967296 ^ 8
        · rw [if_pos e] at q; exact absurd rfl q
        · omega
      · have hlt : V < 4294967296 ^ 8 := by
          by_cases e : V < 4294967296 ^ 8
          · exact e
          · rw [if_neg e] at q; exact absurd q (by decide)
        rw [e8.trans c2]
        refine (Row_compare_spec hd (ht1.mod hM2) (c9.mod hM2)).nI (fun x h8 q8 => ?_)
        obtain ⟨rfl, rfl⟩ := q8
        rw [hbt, hbm, cmpI_lt, Nat.mod_eq_of_lt hlt]
        refine ⟨fun q2 => ?_, fun q2 => ?_⟩
        · refine hΦ _ (hM.trans hM2) ?_
          rw [AH.ai_wiS, Nat.mod_eq_of_lt q2]
        · refine (Row_less_spec hd (ht1.mod hM2) (c9.mod hM2) (ht1.mod hM2)).nJ (fun x h8 q8 => ?_)
          obtain ⟨_, rfl⟩ := q8
          rw [hbt, hbm]
          exact hfin _ rfl (by omega)
    · rw [e18.trans c6, AH.ai_wiN n5, AH.ai_wiS, AH.wi_wi, c13l, nI_1, pk_cl k]
      unfold cpD
      rw [putB_len, ht1.2]
      refine ⟨c13, pk_in k 10 (by omega), ht1.1, pk_in k 8 h8, fun h10 e10 => ?_⟩
      have e := putB_succ (L := h1.ai t) (off := 0) (n := k) (g := fun i => (h1.ai (R + 5)).getD i 0) (x := (h1.ai (R + 5)).getD k 0) (by rw [ht1.2]; omega) rfl
      rw [Nat.zero_add] at e
      rw [e10, e]
      exact ih h8 () trivial
/-- the row moves down by one digit -/
theorem mmul_65 {Φ : Out → AH → Prop} {i : Nat} (h1 : AH) (hS : MRingS h1 R) (ih : ∀ T, T.length = 10 → va T 10 = va (h1.ai (R + 5)) 10 / 4294967296 → Aw G mX27_multiply (d + 1) 0 h Φ 27 [vR R, vR a, vR b, vR t, vI (nI (i + 1)), vU] [] (h1.wi (R + 5) T)) :
    Aw G mX27_multiply (d + 1) 0 h Φ 65 [vR R, vR a, vR b, vR t, vI (nI i), vI 0] [] h1 := by
  obtain ⟨c1, c2, c3, c4, c5, c6, c7, c8, c9, c10, c11, c12, ⟨c13, c13l⟩, c14, c15⟩ := hS
  have key := loop_uc (n := 9) (P := fun k (_ : Unit) => Aw G mX27_multiply (d + 1) 0 h Φ 65 [vR R, vR a, vR b, vR t, vI (nI i), vI (nI k)] [] (h1.wi (R + 5) (putB (h1.ai (R + 5)) 0 k (fun j => (h1.ai (R + 5)).getD (j + 1) 0)))) (fun _ _ => True) (fun k _ hk _ ih2 => ?_) 0 () (by omega) trivial
  · rw [putB_0, AH.wi_self] at key; exact key
  · refine sX27_multiply_65 _ R a b t (nI i) (nI k) (pk_le 9 k (fun h8 => ⟨c1, fun r3 e3 => ?_⟩) (fun h8 => ⟨c1, fun r8 e8 => ?_⟩))
    · have : k = 9 := by omega
      subst this
      rw [e3.trans c6, AH.ai_wiS, AH.wi_wi, putB_len, c13l, pk_cl 9, nI_1]
      refine ⟨c13, pk_in 9 10 (by omega), fun h6 e6 => ?_⟩
      rw [e6]
      refine ih _ (by rw [List.length_set, putB_len, c13l]) ?_
      have e1 : va (h1.ai (R + 5)) 10 = dg (h1.ai (R + 5)) 0 + 4294967296 * dv (fun j => dg (h1.ai (R + 5)) (j + 1)) 9 := dv_low _ 9
      have h0 := dg_lt (h1.ai (R + 5)) 0
      have e2 : va (h1.ai (R + 5)) 10 / 4294967296 = dv (fun j => dg (h1.ai (R + 5)) (j + 1)) 9 := by
        rw [e1, Nat.add_mul_div_left _ _ (by omega), Nat.div_eq_of_lt h0, Nat.zero_add]
      rw [e2, va_set (by rw [putB_len, c13l]; omega), show u32 (0 : Int32) = 0 from rfl, Nat.zero_mul, Nat.add_zero]
      refine dv_congr (fun j hj => ?_)
      unfold dg
      rw [putB_getD _ _ _ _ (by rw [c13l]; omega), if_pos (by omega)]
      rfl
    · rw [e8.trans c6, AH.ai_wiS, AH.wi_wi, putB_len, c13l, nI_1, pk_cl k, pk_cl (k + 1)]
      refine ⟨c13, pk_in (k + 1) 10 (by omega), pk_in k 10 (by omega), fun h12 e12 => ?_⟩
      have e := putB_succ (L := h1.ai (R + 5)) (off := 0) (n := k) (g := fun j => (h1.ai (R + 5)).getD (j + 1) 0) (x := (putB (h1.ai (R + 5)) 0 k (fun j => (h1.ai (R + 5)).getD (j + 1) 0)).getD (k + 1) 0) (by rw [c13l]; omega) (by rw [putB_getD _ _ _ _ (by rw [c13l]; omega), if_neg (by omega)])
      rw [Nat.zero_add] at e
      rw [e12, e]
      exact ih2 h8 () trivial
theorem mont_lt {V V3 ai B u m : Nat} (h1 : V3 * 4294967296 ≤ V + ai * B + u * m) (hV : V < m + B) (ha : ai < 4294967296) (hu : u < 4294967296) : V3 < m + B := by
  have e1 : ai * B ≤ 4294967295 * B := Nat.mul_le_mul_right _ (by omega)
  have e2 : u * m ≤ 4294967295 * m := Nat.mul_le_mul_right _ (by omega)
  omega
theorem MRing_multiply_spec (hd : 2 ≤ d) (hR : MRing0 h R m) (hI : 4294967296 ^ 8 * I % m = 1) (ha : RowAt h a) (hb : RowAt h b) (ht : RowAt h t) (ht2 : t ≠ R + 1 ∧ t ≠ R + 5) (ha2 : a ≠ R + 5) (hb2 : b ≠ R + 5) (hbm : bv h b < m) :
    Cw G mX27_multiply d 0 [vR R, vR a, vR b, vR t] h (kV (fun h' => Mod (fun x => x = R + 5 ∨ x = t) h h' ∧ h'.ai t = lb (bv h a * bv h b * I % m)) nE) := by
  obtain ⟨d, rfl⟩ : ∃ d', d = d' + 1 := ⟨d - 1, by omega⟩
  have hd1 : 1 ≤ d := by omega
  have x1 : ¬ (R + 1 = R + 5 ∨ R + 1 = t) := by omega
  have n15 : R + 1 ≠ R + 5 := by omega
  have hR' := hR
  have hmlt : m < 4294967296 ^ 8 := by rw [← hR.2.1]; exact bv_lt _ _
  refine eX27_multiply h R a b t (fun w => sX27_multiply_0 h R a b t ?_)
  generalize hΦ : kV (fun h' => Mod (fun x => x = R + 5 ∨ x = t) h h' ∧ h'.ai t = lb (bv h a * bv h b * I % m)) nE = Φ
  have k27 : ∀ i (h1 : AH), i ≤ 8 → (Mod (fun x => x = R + 5) h h1 ∧ va (h1.ai (R + 5)) 10 < m + bv h b ∧ va (h1.ai (R + 5)) 10 * 4294967296 ^ i % m = va (h.ai a) i * bv h b % m) → Aw G mX27_multiply (d + 1) 0 h Φ 27 [vR R, vR a, vR b, vR t, vI (nI i), vU] [] h1 := by
    refine loop_uc (n := 8) (P := fun i h1 => Aw G mX27_multiply (d + 1) 0 h Φ 27 [vR R, vR a, vR b, vR t, vI (nI i), vU] [] h1) _ (fun i h1 hi hJ ih => ?_)
    obtain ⟨hM, hlt, hv⟩ := hJ
    have hR1 : MRing0 h1 R m := hR'.mod hM n15
    have hR1' := hR1
    obtain ⟨⟨c1, c2, c3, c4, c5, c6, c7, c8, c9, c10, c11, c12, ⟨c13, c13l⟩, c14, c15⟩, m1, m2, m3⟩ := hR1
    refine sX27_multiply_27 _ R a b t (nI i) (pk_le 8 i (fun h8 => ⟨c1, fun r3 e3 => ?_⟩) (fun h8 => ?_))
    · have : i = 8 := by omega
      subst this
      rw [e3.trans c6, c13l, pk_cl 8]
      refine ⟨c13, pk_in 8 10 (by omega), ?_⟩
      generalize hV : va (h1.ai (R + 5)) 10 = V at *
      have hd8 : u32 ((h1.ai (R + 5)).getD 8 0) = V / 4294967296 ^ 8 % 4294967296 := by rw [← hV]; exact dg_va (n := 10) (by omega)
      have hend := mmul_128 (G := G) (d := d) (t := t) (Φ := Φ) (V := V) hd1 hR' ht ht2 (fun h2 a1 a2 => by
        rw [← hΦ]
        refine ⟨a1, ?_⟩
        rw [a2, mont_end hv hI (by omega)]) (by omega) h1 (hM.mono (fun x hx => Or.inl hx)) hV
      refine ⟨fun q => ?_, fun q => ?_⟩
      · have hlt8 : V < 4294967296 ^ 8 := by
          rw [q] at hd8
          have h0 : u32 (0 : Int32) = 0 := rfl
          rw [h0] at hd8
          have h2 : V / 4294967296 ^ 8 < 2 := by rw [Nat.div_lt_iff_lt_mul (by omega)]; omega
          rw [Nat.mod_eq_of_lt (by omega)] at hd8
          by_cases e : V < 4294967296 ^ 8
          · exact e
          · have : 1 ≤ V / 4294967296 ^ 8 := by rw [Nat.le_div_iff_mul_le (by omega)]; omega
            omega
        rw [if_pos hlt8] at hend
        exact hend
      · have hlt8 : ¬ V < 4294967296 ^ 8 := fun e => by
          rw [Nat.div_eq_of_lt e] at hd8
          exact q (u32_inj (y := 0) hd8)
        rw [if_neg hlt8] at hend
        exact hend
    · have hai : h1.ai a = h.ai a := hM.ai ha2
      have hbi : bv h1 b = bv h b := hM.bv hb2
      rw [hai, ha.2, pk_cl i]
      have hal := u32_lt ((h.ai a).getD i 0)
      have hprod : u32 ((h.ai a).getD i 0) * bv h b ≤ 4294967295 * 4294967296 ^ 8 := Nat.mul_le_mul (by omega) (by omega)
      refine ⟨by rw [hM.kd]; exact ha.1, pk_in i 8 h8, c1, (MRing_put_spec hd1 hR1'.1 (hb.mod hM) hb2 (by rw [hbi]; omega)).nV (fun h10 q => ?_)⟩
      obtain ⟨T, rfl, l, hT⟩ := q
      have M2 : Mod (fun x => x = R + 5) h1 (h1.wi (R + 5) T) := Mod.wi (by rw [l, c13l]) rfl
      intro r13 e13
      rw [e13.trans c6, AH.ai_wiS, l, pk_cl 0]
      refine ⟨c13, pk_in 0 10 (by omega), fun r16 e16 => ?_⟩
      rw [e16.trans c2]
      have hR2 : MRing0 (h1.wi (R + 5) T) R m := hR1'.mod M2 n15
      have hu : u32 (T.getD 0 0 * h1.i 27001 R) = va T 10 % 4294967296 * u32 (h1.i 27001 R) % 4294967296 := by
        have hd0 : u32 (T.getD 0 0) = va T 10 / 4294967296 ^ 0 % 4294967296 := dg_va (L := T) (n := 10) (by omega)
        rw [Nat.pow_zero, Nat.div_one] at hd0
        rw [← nI_u32 (T.getD 0 0), ← nI_u32 (h1.i 27001 R), pk_mul, u32_nI, hd0, u32_nIs (u32_lt _)]
      have hul := u32_lt (T.getD 0 0 * h1.i 27001 R)
      have hprod2 : u32 (T.getD 0 0 * h1.i 27001 R) * m ≤ 4294967295 * 4294967296 ^ 8 := Nat.mul_le_mul (by omega) (by omega)
      have hT' := hT
      rw [hbi] at hT'
      have hput := MRing_put_spec (G := G) (d := d) (x := T.getD 0 0 * h1.i 27001 R) (b := R + 1) hd1 hR2.1 hR2.1.2.2.2.2.2.2.2.2.1 n15 (by rw [AH.ai_wiS, hR2.2.1]; omega)
      rw [AH.ai_wiS, hR2.2.1] at hput
      refine hput.nV (fun h18 q => ?_)
      obtain ⟨T2, rfl, l2, hT2⟩ := q
      have M3 : Mod (fun x => x = R + 5) (h1.wi (R + 5) T) ((h1.wi (R + 5) T).wi (R + 5) T2) := Mod.wi (by rw [l2, AH.ai_wiS, l]) rfl
      refine mmul_65 _ (hR2.1.mod M3) (fun T3 l3 hT3 => ?_)
      rw [AH.ai_wiS] at hT3
      have hdiv : va T2 10 % 4294967296 = 0 := by
        rw [hT2, hu]
        exact mont_low m2
      have h3 : va T3 10 * 4294967296 = va (h1.ai (R + 5)) 10 + u32 ((h.ai a).getD i 0) * bv h b + u32 (T.getD 0 0 * h1.i 27001 R) * m := by
        rw [hT3, ← hT', ← hT2]
        omega
      refine ih h8 _ ⟨(hM.trans M2).trans (M3.trans (Mod.wi (by rw [l3, AH.ai_wiS, l2]) rfl)), ?_, ?_⟩
      · rw [AH.ai_wiS]
        exact mont_lt (Nat.le_of_eq h3) hlt hal hul
      · rw [AH.ai_wiS, Nat.pow_succ]
        exact mont_step h3 hv (va_succ _ _)
  have key := loop_uc (n := 10) (P := fun k T => Aw G mX27_multiply (d + 1) 0 h Φ 3 [vR R, vR a, vR b, vR t, vI (nI k), vU] [] (h.wi (R + 5) T))
    (fun k T => T.length = 10 ∧ ∀ i, i < k → T.getD i 0 = 0) (fun k T hk hJ ih => ?_) 0 (h.ai (R + 5)) (by omega) ⟨hR'.1.2.2.2.2.2.2.2.2.2.2.2.2.1.2, fun i hi => absurd hi (by omega)⟩
  · rw [AH.wi_self] at key; exact key
  · obtain ⟨l, z⟩ := hJ
    obtain ⟨⟨c1, c2, c3, c4, c5, c6, c7, c8, c9, c10, c11, c12, ⟨c13, c13l⟩, c14, c15⟩, m1, m2, m3⟩ := hR'
    refine sX27_multiply_3 _ R a b t (nI k) (pk_le 10 k (fun hk8 => ?_) (fun hk8 => ⟨c1, fun r3 e3 => ?_⟩))
    · have hz : va T 10 = 0 := va_0 (fun i hi => z i (by omega))
      refine k27 0 _ (by omega) ⟨Mod.wi (by rw [l, c13l]) rfl, ?_, ?_⟩
      · rw [AH.ai_wiS, hz]; omega
      · rw [AH.ai_wiS, hz, va_zero, Nat.zero_mul, Nat.zero_mul]
    · rw [e3.trans c6, AH.ai_wiS, AH.wi_wi, l, pk_cl k]
      refine ⟨c13, pk_in k 10 hk8, fun h6 e6 => ?_⟩
      rw [e6, nI_1]
      refine ih hk8 _ ⟨by rw [List.length_set, l], fun i hi => ?_⟩
      rw [getD_sif]
      by_cases e : i = k
      · rw [if_pos ⟨e, by omega⟩]
      · rw [if_neg (fun q => e q.1)]; exact z i (by omega)
end MRing

/-! what is signed, by the component -/
set_option maxRecDepth 100000
def catU (f : Nat → List Int32) : Nat → List Int32
  | 0 => []
  | k + 1 => catU f k ++ f k
theorem catU_le (f : Nat → List Int32) : ∀ {n k : Nat}, k ≤ n → (catU f k).length ≤ (catU f n).length
  | 0, k, h => by rw [show k = 0 by omega]; exact Nat.le_refl _
  | n + 1, k, h => by
    by_cases c : k = n + 1
    · rw [c]; exact Nat.le_refl _
    · have := catU_le f (n := n) (k := k) (by omega)
      rw [catU, List.length_append]
      omega
/-- what is laid of an input -/
def inB (L : List Int32) (ins : List P3) (inp bs al : Nat) (c : List Int32) (k : Nat) : List Int32 :=
  if al ≠ 0 ∧ k ≠ inp then [] else sub_ L (ins.getD k p0).1 32 ++ (lay (leV L ((ins.getD k p0).1 + 32) 4) 4 ++ ((if k = inp then cntB c.length ++ c else lay 0 1) ++ lay (if k ≠ inp ∧ (bs = 2 ∨ bs = 3) then 0 else leV L ((ins.getD k p0).2.1 + (ins.getD k p0).2.2) 4) 4))
/-- what is laid of an output -/
def outB (L : List Int32) (outs : List P3) (inp bs : Nat) (k : Nat) : List Int32 :=
  if bs = 3 ∧ k < inp then lay 18446744073709551615 8 ++ cntB 0 else lay (leV L (outs.getD k p0).1 8) 8 ++ (cntB (outs.getD k p0).2.2 ++ sub_ L (outs.getD k p0).2.1 (outs.getD k p0).2.2)
def nOut (t : TxP) (inp bs : Nat) : Nat := if bs = 2 then 0 else if bs = 3 then inp + 1 else t.2.2.2.length
/-- all that is signed -/
def sgdP (L : List Int32) (t : TxP) (inp ty : Nat) (c : List Int32) : List Int32 :=
  lay (leV L t.1 4) 4 ++ cntB (if ty / 128 % 2 ≠ 0 then 1 else t.2.2.1.length) ++ catU (inB L t.2.2.1 inp (ty % 32) (ty / 128 % 2) c) t.2.2.1.length ++ cntB (nOut t inp (ty % 32)) ++ catU (outB L t.2.2.2 inp (ty % 32)) (nOut t inp (ty % 32)) ++ lay (lkV L t) 4 ++ lay ty 4
/-- the digest that is signed -/
def mkP (K B L : List Int32) (t : TxP) (inp ty : Nat) (c : List Int32) : List Int32 :=
  if ty % 32 = 3 ∧ t.2.2.2.length ≤ inp then (List.range 32).map (fun i => if i = 0 then 1 else 0) else (List.range 32).map (dshD K B (sgdP L t inp ty c).length (sl (sgdP L t inp ty c) 0))
def oSz (l : List P3) : Nat → Nat
  | 0 => 0
  | k + 1 => oSz l k + (11 + (l.getD k p0).2.2)
theorem oSz_le (l : List P3) : ∀ {n k : Nat}, k ≤ n → oSz l k ≤ oSz l n
  | 0, k, h => by rw [show k = 0 by omega]; exact Nat.le_refl _
  | n + 1, k, h => by
    by_cases c : k = n + 1
    · rw [c]; exact Nat.le_refl _
    · have := oSz_le l (n := n) (k := k) (by omega)
      rw [oSz]
      omega
theorem outB_len (L : List Int32) (outs : List P3) (inp bs k : Nat) : (outB L outs inp bs k).length ≤ 11 + (outs.getD k p0).2.2 := by
  unfold outB
  split
  · have := cntB_len 0
    rw [List.length_append, lay_len]
    omega
  · have := cntB_len (outs.getD k p0).2.2
    rw [List.length_append, List.length_append, lay_len, sub_len]
    omega
theorem outs_len (L : List Int32) (outs : List P3) (inp bs : Nat) : ∀ k, (catU (outB L outs inp bs) k).length ≤ oSz outs k
  | 0 => Nat.le_refl _
  | k + 1 => by
    have h1 := outs_len L outs inp bs k
    have h2 := outB_len L outs inp bs k
    rw [catU, List.length_append, oSz]
    omega
theorem inB_len (L : List Int32) (ins : List P3) (inp bs al : Nat) (c : List Int32) (k : Nat) : (inB L ins inp bs al c k).length ≤ 41 + (if k = inp then 2 + c.length else 0) := by
  unfold inB
  split
  · rw [List.length_nil]; omega
  · have := cntB_len c.length
    rw [List.length_append, List.length_append, List.length_append, lay_len, lay_len, sub_len]
    split
    · rw [List.length_append]; omega
    · rw [lay_len]; omega
theorem ins_len (L : List Int32) (ins : List P3) (inp bs al : Nat) (c : List Int32) : ∀ k, (catU (inB L ins inp bs al c) k).length ≤ 41 * k + (if inp < k then 2 + c.length else 0)
  | 0 => by rw [catU, List.length_nil]; omega
  | k + 1 => by
    have h1 := ins_len L ins inp bs al c k
    have h2 := inB_len L ins inp bs al c k
    rw [catU, List.length_append]
    by_cases c1 : k = inp
    · rw [if_pos c1] at h2
      rw [if_neg (by omega)] at h1
      rw [if_pos (by omega)]
      omega
    · rw [if_neg c1] at h2
      by_cases c2 : inp < k
      · rw [if_pos c2] at h1
        rw [if_pos (by omega)]
        omega
      · rw [if_neg c2] at h1
        rw [if_neg (by omega)]
        omega
/-- the places of a transaction lie in the row -/
def TxIn (L : List Int32) (t : TxP) : Prop := L.length < 65536 ∧ (∀ j, j < t.2.2.1.length → (t.2.2.1.getD j p0).1 + 32 ≤ L.length) ∧ (∀ j, j < t.2.2.2.length → (t.2.2.2.getD j p0).2.1 + (t.2.2.2.getD j p0).2.2 ≤ L.length) ∧ 41 * t.2.2.1.length ≤ 1600 ∧ oSz t.2.2.2 t.2.2.2.length ≤ 2000 ∧ t.2.2.2.length ≤ 200
theorem leV_b64 (L : List Int32) (o : Nat) {k : Nat} (hk : k ≤ 8) : leV L o k < 2 ^ 64 := Nat.lt_of_lt_of_le (leV_lt L o k) (by
  have : (256 : Nat) ^ k ≤ 256 ^ 8 := Nat.pow_le_pow_right (by decide) hk
  exact this)
theorem nI_injS {a b : Nat} (ha : a < 4294967296) (hb : b < 4294967296) (h : nI a = nI b) : a = b := by
  have := congrArg u32 h
  rw [u32_nIs ha, u32_nIs hb] at this
  exact this
theorem lay_long (x : Nat) : lay (nI x).toInt64.toBitVec.toNat 4 = lay x 4 := by
  apply lay_eqI
  have h1 : (nI x).toInt64.toInt32 = nI x := Int32.toInt32_toInt64 _
  rw [← lN_self (nI x).toInt64, lN_i] at h1
  have h2 := congrArg u32 h1
  rw [u32_nI, u32_nI] at h2
  exact h2
section Mk
variable {G : Gx} {d : Nat} {h h0 : AH} {Sg q inp D a ty : Nat} {L W acc c : List Int32} {t : TxP} {F : AH → Prop}
set_option maxHeartbeats 1000000 in
theorem mk_294 {m : Nat} (hd : 4 ≤ d) (B : SgB h Sg) (T : SgT h Sg q L t inp) (TI : TxIn L t) (e0 : h.r 8000 Sg = D) (kD : h.kd D = 2) (e4 : h.r 8004 Sg = Sg + 2) (e5 : h.r 8005 Sg = a) (ka : h.kd a = 101) (na : a ≠ Sg + 1) (eL : h.ai a = L) (hty : ty < 256)
    (hm : m ≤ t.2.2.2.length) (R : SgR W acc) (hn : acc.length + 2008 ≤ 6400) (hF : ∀ V z, SgR V z → z = acc ++ catU (outB L t.2.2.2 inp (ty % 32)) m ++ (lay (lkV L t) 4 ++ lay ty 4) → Cw G mX2_twice d 0 [vR D, vR (Sg + 1), vI 0, vI (nI z.length), vR (Sg + 2), vI 0] (sgH h Sg V z.length) (kV F nE)) :
    Aw G mX8_make (d + 1) 0 h0 (kV F nE) 294 [vR Sg, vI (nI ty), vU, vU, vU, vI (nI (ty % 32)), vU, vI (nI m), vI 0, vU, vU] [] (sgH h Sg W acc.length) := by
  obtain ⟨k1, k2, k3, TT, k4, k5⟩ := T
  obtain ⟨l1, l2, l3, l4, l5, l6⟩ := TI
  have kO := TT.2.2.2.2.2.1
  have rO := TT.2.2.2.2.2.2.1
  have oO := TT.2.2.2.2.2.2.2
  have oS := outs_len L t.2.2.2 inp (ty % 32)
  have lem := oSz_le t.2.2.2 hm
  refine loop_uc (n := m) (P := fun j (y : List Int32 × List Int32) => Aw G mX8_make (d + 1) 0 h0 (kV F nE) 294 [vR Sg, vI (nI ty), vU, vU, vU, vI (nI (ty % 32)), vU, vI (nI m), vI (nI j), vU, vU] [] (sgH h Sg y.1 y.2.length))
    (fun j y => SgR y.1 y.2 ∧ y.2 = acc ++ catU (outB L t.2.2.2 inp (ty % 32)) j) (fun j y hj hI ih => ?_) 0 (W, acc) (Nat.zero_le _) ⟨R, (List.append_nil acc).symm⟩
  obtain ⟨V, x⟩ := y
  obtain ⟨RV, ex⟩ := hI
  dsimp only at RV ex ih ⊢
  have xl : x.length = acc.length + (catU (outB L t.2.2.2 inp (ty % 32)) j).length := by rw [ex, List.length_append]
  have osj := oS j
  have lej := oSz_le t.2.2.2 (n := t.2.2.2.length) (k := j) (by omega)
  refine sX8_make_294 _ Sg (nI ty) (nI (ty % 32)) (nI m) (nI j) (pk_le m j (fun c1 => ⟨k1, fun r3 e3 => ?_⟩) (fun c1 => ⟨k1, fun r18 e18 => ?_⟩))
  · obtain rfl : j = m := by omega
    have e3' : r3 = q := e3.trans k2
    subst e3'
    have el : (sgH h Sg V x.length).l 18004 r3 = lN (lkV L t) := TT.2.2.2.1
    rw [el]
    refine ⟨TT.1.1, (Sg_put_spec (k := 4) (d := d) (by omega) B RV (leV_b64 _ _ (by decide)) (by decide) (by omega)).nV (fun h6 Q => ?_)⟩
    obtain ⟨V6, R6, rfl⟩ := Q
    rw [nI_l (by omega)]
    refine (Sg_put_spec (k := 4) (d := d) (v := ty) (by omega) B R6 (by omega) (by decide) (by rw [List.length_append, lay_len]; omega)).nV (fun h8 Q => ?_)
    obtain ⟨V8, R8, rfl⟩ := Q
    intro r11 e11 r12 e12 r13 e13
    have e11' : r11 = D := e11.trans e0
    have e12' : r12 = Sg + 1 := e12.trans B.2.1
    have e13' : r13 = Sg + 2 := e13.trans e4
    subst e11' e12' e13'
    rw [sgH_i]
    refine ⟨kD, (hF V8 _ R8 (by rw [ex, List.append_assoc]; rfl)).nV (fun h15 Q => Q)⟩
  · have e18' : r18 = q := e18.trans k2
    subst e18'
    refine ⟨TT.1.1, fun r20 e20 => ?_⟩
    have e20' : r20 = r18 + 3 + t.2.2.1.length := e20.trans TT.2.2.2.2.1
    subst e20'
    have er : (sgH h Sg V x.length).ar (r18 + 3 + t.2.2.1.length) = rowF (fun j => r18 + 3 + t.2.2.1.length + 1 + j) t.2.2.2.length t.2.2.2.length := rO
    rw [er, rowF_len, pk_cl j rfl (by omega), rowF_getD (by omega) (by omega)]
    refine ⟨kO, pk_in j _ (by omega), fun r23 e23 => ?_⟩
    subst e23
    have oj := oO j (by omega)
    have stp : ∀ V2 z, SgR V2 z → z = x ++ outB L t.2.2.2 inp (ty % 32) j → Aw G mX8_make (d + 1) 0 h0 (kV F nE) 294 [vR Sg, vI (nI ty), vU, vU, vU, vI (nI (ty % 32)), vU, vI (nI m), vI (nI j + 1), vU, vU] [] (sgH h Sg V2 z.length) := fun V2 z R2 e2 => by
      rw [nI_1]
      exact ih c1 (V2, z) ⟨R2, by dsimp only; rw [e2, ex, catU, List.append_assoc]⟩
    have hno : ¬ (ty % 32 = 3 ∧ j < inp) → Aw G mX8_make (d + 1) 0 h0 (kV F nE) 332 [vR Sg, vI (nI ty), vU, vU, vU, vI (nI (ty % 32)), vU, vI (nI m), vI (nI j), vR (r18 + 3 + t.2.2.1.length + 1 + j), vU] [] (sgH h Sg V x.length) := fun hb => by
      have eo : outB L t.2.2.2 inp (ty % 32) j = lay (leV L (t.2.2.2.getD j p0).1 8) 8 ++ (cntB (t.2.2.2.getD j p0).2.2 ++ sub_ L (t.2.2.2.getD j p0).2.1 (t.2.2.2.getD j p0).2.2) := by unfold outB; rw [if_neg hb]
      have o1 : h.l 20000 (r18 + 3 + t.2.2.1.length + 1 + j) = lN (leV L (t.2.2.2.getD j p0).1 8) := oj.2.1
      have o2 : h.i 20001 (r18 + 3 + t.2.2.1.length + 1 + j) = nI (t.2.2.2.getD j p0).2.1 := oj.2.2.1
      have o3 : h.i 20002 (r18 + 3 + t.2.2.1.length + 1 + j) = nI (t.2.2.2.getD j p0).2.2 := oj.2.2.2
      have o4 := l3 j (by omega)
      have o5 : oSz t.2.2.2 (j + 1) = oSz t.2.2.2 j + (11 + (t.2.2.2.getD j p0).2.2) := rfl
      have o6 := oSz_le t.2.2.2 (n := t.2.2.2.length) (k := j + 1) (by omega)
      generalize t.2.2.2.getD j p0 = w at *
      have lc := cntB_len w.2.2
      refine sX8_make_332 _ Sg (nI ty) (nI (ty % 32)) (nI m) (nI j) (r18 + 3 + t.2.2.1.length + 1 + j) ⟨fun _ => ⟨oj.1, k1, ?_⟩, fun c => absurd (by decide) c⟩
      have el : (sgH h Sg V x.length).l 20000 (r18 + 3 + t.2.2.1.length + 1 + j) = lN (leV L w.1 8) := o1
      rw [el]
      refine (Sg_put_spec (k := 8) (d := d) (by omega) B RV (leV_b64 _ _ (by decide)) (by decide) (by omega)).nV (fun h4 Q => ?_)
      obtain ⟨V4, R4, rfl⟩ := Q
      refine ⟨fun _ => ?_, fun c => absurd (by decide) c⟩
      rw [sgH_in (by decide), o3]
      refine (Sg_count_spec (d := d) (by omega) B R4 (by omega) (by rw [List.length_append, lay_len]; omega)).nV (fun h9 Q => ?_)
      obtain ⟨V9, R9, rfl⟩ := Q
      refine ⟨fun c => absurd (by decide) c, fun _ r13 e13 => ?_⟩
      have e13' : r13 = a := e13.trans e5
      subst e13'
      rw [sgH_in (by decide), o2]
      have cp := Sg_copy_spec (G := G) (d := d) (off := w.2.1) (n := w.2.2) (by omega) B R9 ka na (by rw [eL]; exact o4) (by rw [eL]; omega) (by rw [List.length_append, List.length_append, lay_len]; omega)
      rw [eL] at cp
      refine cp.nV (fun h18 Q => ?_)
      obtain ⟨V18, R18, rfl⟩ := Q
      exact stp V18 _ R18 (by rw [eo, List.append_assoc, List.append_assoc])
    refine ⟨fun c2 => ?_, fun c2 => ?_⟩
    · refine hno (fun z => c2 ?_)
      rw [z.1]
      rfl
    · have c2' : ty % 32 = 3 := nI_injS (by omega) (by decide) c2
      rw [sgH_in (by decide), k3]
      refine pk_le inp j (fun c3 => hno (by omega)) (fun c3 => ⟨fun c => absurd c (by decide), fun _ => ?_⟩)
      have eo : outB L t.2.2.2 inp (ty % 32) j = lay 18446744073709551615 8 ++ cntB 0 := by unfold outB; rw [if_pos ⟨c2', by omega⟩]
      have o5 : oSz t.2.2.2 (j + 1) = oSz t.2.2.2 j + (11 + (t.2.2.2.getD j p0).2.2) := rfl
      have o6 := oSz_le t.2.2.2 (n := t.2.2.2.length) (k := j + 1) (by omega)
      have lc := cntB_len 0
      rw [show (-1 : Int64) = lN 18446744073709551615 by decide]
      refine (Sg_put_spec (k := 8) (d := d) (by omega) B RV (by decide) (by decide) (by omega)).nV (fun h54 Q => ?_)
      obtain ⟨V54, R54, rfl⟩ := Q
      refine ⟨fun c => absurd c (by decide), fun _ => ?_⟩
      refine (Sg_count_spec (n := 0) (d := d) (by omega) B R54 (by omega) (by rw [List.length_append, lay_len]; omega)).nV (fun h69 Q => ?_)
      obtain ⟨V69, R69, rfl⟩ := Q
      refine ⟨fun _ => ?_, fun c => absurd c (by decide)⟩
      exact stp V69 _ R69 (by rw [eo, List.append_assoc])
/-- one input is laid -/
theorem mk_145 (hd : 5 ≤ d) (B : SgB h Sg) (T : SgT h Sg q L t inp) (TI : TxIn L t) (e0 : h.r 8000 Sg = D) (kD : h.kd D = 2) (e4 : h.r 8004 Sg = Sg + 2) (e5 : h.r 8005 Sg = a) (ka : h.kd a = 101) (na : a ≠ Sg + 1) (eL : h.ai a = L) (hty : ty < 256) {sa so sn : Nat} (ks : h.kd sa = 101) (ns : sa ≠ Sg + 1) (hs : so + sn ≤ (h.ai sa).length) (hs2 : (h.ai sa).length < 2 ^ 16) (hsn : sn ≤ 1600) (ec : c = unmP (h.ai sa) (so + sn) so) {j : Nat} (hj : j < t.2.2.1.length) (R : SgR W acc) (hn : acc.length + 2000 ≤ 6400) (al : Nat) (hal : ¬ (al ≠ 0 ∧ j ≠ inp))
    (hK : ∀ V, SgR V (acc ++ inB L t.2.2.1 inp (ty % 32) al c j) → Aw G mX8_make (d + 1) 0 h0 (kV F nE) 115 [vR Sg, vI (nI ty), vR sa, vI (nI so), vI (nI sn), vI (nI (ty % 32)), vI (nI al), vI (nI (j + 1)), vU, vU, vU] [] (sgH h Sg V (acc ++ inB L t.2.2.1 inp (ty % 32) al c j).length)) :
    Aw G mX8_make (d + 1) 0 h0 (kV F nE) 145 [vR Sg, vI (nI ty), vR sa, vI (nI so), vI (nI sn), vI (nI (ty % 32)), vI (nI al), vI (nI j), vU, vU, vU] [] (sgH h Sg W acc.length) := by
  obtain ⟨k1, k2, k3, TT, k4, k5⟩ := T
  obtain ⟨l1, l2, l3, l4, l5, l6⟩ := TI
  have lc : c.length ≤ 1600 := by
    have := unmP_len (h.ai sa) (so + sn) (so + sn - so) so (Nat.le_refl _)
    rw [ec]
    omega
  have lcB := cntB_len c.length
  have o0 := l2 j hj
  have oj := TT.2.1.2.2 j hj
  have rO := TT.2.1.2.1
  have eI : inB L t.2.2.1 inp (ty % 32) al c j = sub_ L (t.2.2.1.getD j p0).1 32 ++ (lay (leV L ((t.2.2.1.getD j p0).1 + 32) 4) 4 ++ ((if j = inp then cntB c.length ++ c else lay 0 1) ++ lay (if j ≠ inp ∧ (ty % 32 = 2 ∨ ty % 32 = 3) then 0 else leV L ((t.2.2.1.getD j p0).2.1 + (t.2.2.1.getD j p0).2.2) 4) 4)) := by unfold inB; rw [if_neg hal]
  have i0 : h.i 19000 (q + 2 + 1 + j) = nI (t.2.2.1.getD j p0).1 := oj.2.1
  have i1 : h.i 19001 (q + 2 + 1 + j) = nI (leV L ((t.2.2.1.getD j p0).1 + 32) 4) := oj.2.2.1
  have i4 : h.l 19004 (q + 2 + 1 + j) = lN (leV L ((t.2.2.1.getD j p0).2.1 + (t.2.2.1.getD j p0).2.2) 4) := oj.2.2.2.2.2
  have ki := oj.1
  generalize inB L t.2.2.1 inp (ty % 32) al c j = I at *
  generalize t.2.2.1.getD j p0 = w at *
  refine sX8_make_145 _ Sg (nI ty) sa (nI so) (nI sn) (nI (ty % 32)) (nI al) (nI j) ⟨k1, fun r2 e2 => ?_⟩
  have e2' : r2 = q := e2.trans k2
  subst e2'
  refine ⟨TT.1.1, fun r4 e4 => ?_⟩
  have e4' : r4 = r2 + 2 := e4.trans TT.1.2.2.2.2.2.2
  subst e4'
  have er : (sgH h Sg W acc.length).ar (r2 + 2) = rowF (fun j => r2 + 2 + 1 + j) t.2.2.1.length t.2.2.1.length := rO
  rw [er, rowF_len, pk_cl j rfl (by omega), rowF_getD hj hj]
  refine ⟨TT.2.1.1, pk_in j _ hj, fun r7 e7 r8 e8 => ?_⟩
  have e8' : r8 = a := e8.trans e5
  subst e7 e8'
  rw [sgH_in (by decide), i0]
  have cp := Sg_copy_spec (G := G) (d := d) (off := w.1) (n := 32) (by omega) B R ka na (by rw [eL]; exact o0) (by rw [eL]; omega) (by omega)
  rw [eL] at cp
  refine ⟨ki, cp.nV (fun h11 Q => ?_)⟩
  obtain ⟨V1, R1, rfl⟩ := Q
  have x1 : (acc ++ sub_ L w.1 32).length = acc.length + 32 := by rw [List.length_append, sub_len]
  have pt := Sg_put_spec (G := G) (h := h) (Sg := Sg) (k := 4) (d := d) (v := (nI (leV L (w.1 + 32) 4)).toInt64.toBitVec.toNat) (by omega) B R1 (BitVec.isLt _) (by decide) (by omega)
  rw [lay_long, lN_self] at pt
  rw [sgH_in (by decide), i1]
  refine pt.nV (fun h14 Q => ?_)
  obtain ⟨V2, R2, rfl⟩ := Q
  generalize hx2 : acc ++ sub_ L w.1 32 ++ lay (leV L (w.1 + 32) 4) 4 = x2 at *
  have l2' : x2.length = acc.length + 36 := by rw [← hx2, List.length_append, lay_len]; omega
  have fin : ∀ V3 x3, SgR V3 x3 → x3 = x2 ++ (if j = inp then cntB c.length ++ c else lay 0 1) → Aw G mX8_make (d + 1) 0 h0 (kV F nE) 209 [vR Sg, vI (nI ty), vR sa, vI (nI so), vI (nI sn), vI (nI (ty % 32)), vI (nI al), vI (nI j), vR (r2 + 2 + 1 + j), vU, vU] [] (sgH h Sg V3 x3.length) := fun V3 x3 R3 ex3 => by
    have l3' : x3.length ≤ acc.length + 1700 := by
      rw [ex3, List.length_append]
      split
      · rw [List.length_append]; omega
      · rw [lay_len]; omega
    have nxt : ∀ s, (s = if j ≠ inp ∧ (ty % 32 = 2 ∨ ty % 32 = 3) then 0 else leV L (w.2.1 + w.2.2) 4) → Cw G mX8_put d 0 [vR Sg, vJ (lN s), vI (nI 4)] (sgH h Sg V3 x3.length) (kV (fun h5 => Aw G mX8_make (d + 1) 0 h0 (kV F nE) 115 [vR Sg, vI (nI ty), vR sa, vI (nI so), vI (nI sn), vI (nI (ty % 32)), vI (nI al), vI (nI j + 1), vU, vU, vU] [] h5) (fun x h => kV F nE (.inr x) h)) := fun s es => by
      have hs64 : s < 2 ^ 64 := by
        rw [es]
        split
        · decide
        · exact leV_b64 _ _ (by decide)
      refine (Sg_put_spec (k := 4) (d := d) (by omega) B R3 hs64 (by decide) (by omega)).nV (fun h5 Q => ?_)
      obtain ⟨V5, R5, rfl⟩ := Q
      have : x3 ++ lay s 4 = acc ++ I := by rw [eI, ex3, es, ← hx2, List.append_assoc, List.append_assoc, List.append_assoc]
      rw [this] at R5 ⊢
      rw [nI_1]
      exact hK V5 R5
    have el : (sgH h Sg V3 x3.length).l 19004 (r2 + 2 + 1 + j) = lN (leV L (w.2.1 + w.2.2) 4) := i4
    refine sX8_make_209 _ Sg (nI ty) sa (nI so) (nI sn) (nI (ty % 32)) (nI al) (nI j) (r2 + 2 + 1 + j) ⟨k1, ?_⟩
    rw [sgH_in (by decide), k3, el]
    refine pk_eq' j inp (fun z => ?_) (fun z => ⟨ki, nxt _ (by rw [if_neg (by omega)])⟩) rfl rfl (by omega) (by omega) |>.symm
    refine pk_eq' (ty % 32) 2 (fun z2 => ?_) (fun z2 => nxt 0 (by rw [if_pos ⟨z, Or.inl z2⟩])) rfl rfl (by omega) (by omega) |>.symm
    exact pk_eq' (ty % 32) 3 (fun z3 => ⟨ki, nxt _ (by rw [if_neg (by omega)])⟩) (fun z3 => nxt 0 (by rw [if_pos ⟨z, Or.inr z3⟩])) rfl rfl (by omega) (by omega)
  rw [sgH_in (by decide), k3]
  refine pk_eq' j inp (fun z => ?_) (fun z => ?_) rfl rfl (by omega) (by omega)
  · refine (Sg_put_spec (k := 1) (d := d) (v := 0) (by omega) B R2 (by decide) (by decide) (by omega)).nV (fun h19 Q => ?_)
    obtain ⟨V3, R3, rfl⟩ := Q
    exact fin V3 _ R3 (by rw [if_neg z])
  · have cd := Sg_code_spec (G := G) (d := d) (by omega) B R2 ks ns hs hs2 (by omega)
    rw [← ec] at cd
    refine cd.nV (fun h21 Q => ?_)
    obtain ⟨V3, R3, rfl⟩ := Q
    exact fin V3 _ R3 (by rw [if_pos z])
end Mk

/-! the reference: what is signed -/
set_option maxRecDepth 100000
def hxH (h : AH) (M ga : Nat) (u v : Int32) (W : List Int32) (n : Nat) : AH := hsH (scH h M u v) M ga W n
theorem hx_sc {h : AH} {M ga : Nat} {u v u' v' : Int32} {W : List Int32} {n : Nat} : scH (hxH h M ga u v W n) M u' v' = hxH h M ga u' v' W n := by
  have e1 : scH (hxH h M ga u v W n) M u' v' = (scH ((scH h M u v).wi ga W) M u' v').pi 24091 M (nI n) := by
    show ((((scH h M u v).wi ga W).pi 24091 M (nI n)).pi 24041 M u').pi 24040 M v' = (((((scH h M u v).wi ga W).pi 24041 M u').pi 24040 M v')).pi 24091 M (nI n)
    rw [AH.pi_comm ((scH h M u v).wi ga W) _ _ (Or.inl (by decide)), AH.pi_comm (((scH h M u v).wi ga W).pi 24041 M u') _ _ (Or.inl (by decide))]
  have e2 : scH ((scH h M u v).wi ga W) M u' v' = (scH (scH h M u v) M u' v').wi ga W := rfl
  rw [e1, e2, scH_sc]
  rfl
theorem hx_i {h : AH} {M ga : Nat} {u v : Int32} {W : List Int32} {n k x : Nat} (h1 : k ≠ 24040) (h2 : k ≠ 24041) (h3 : k ≠ 24091) : (hxH h M ga u v W n).i k x = h.i k x := by
  show ((((h.pi 24041 M u).pi 24040 M v).wi ga W).pi 24091 M (nI n)).i k x = _
  rw [AH.i_pi, if_neg (fun q => h3 q.1)]
  show ((h.pi 24041 M u).pi 24040 M v).i k x = _
  rw [AH.i_pi, if_neg (fun q => h1 q.1), AH.i_pi, if_neg (fun q => h2 q.1)]
theorem hx_a {h : AH} {M ga : Nat} {u v : Int32} {W : List Int32} {n x : Nat} (hx : x ≠ ga) : (hxH h M ga u v W n).ai x = h.ai x := hsH_N hx
theorem PrS.ai {h h' : AH} {p : Nat} (H : PrS h p) (k : h'.kd = h.kd) (r : h'.r = h.r) (e : ∀ q, p + 1 ≤ q → q ≤ p + 7 → h'.ai q = h.ai q) : PrS h' p := by
  unfold PrS at H ⊢
  rw [k, r, e (p + 1) (by omega) (by omega), e (p + 2) (by omega) (by omega), e (p + 3) (by omega) (by omega), e (p + 4) (by omega) (by omega), e (p + 5) (by omega) (by omega), e (p + 6) (by omega) (by omega), e (p + 7) (by omega) (by omega)]
  exact H
theorem sub_eq {L : List Int32} (o a b c : Nat) {q n : Nat} (hq : q = o + a + b) (hn : n = a + b + c) : sub_ L o n = sub_ L o a ++ (sub_ L (o + a) b ++ sub_ L q c) := by
  rw [hq, hn, sub_app, sub_app]
  congr 1
  omega
section Hash
variable {G : Gx} {d : Nat} {h h0 : AH} {M ga p a n j inp ty cu le : Nat} {K B L c : List Int32} {t : TxP} {F : AH → Prop}
/-- what the laying stands on -/
theorem hx_P {u v : Int32} {W : List Int32} {m : Nat} (P : PrS h p) (np : ∀ q, p + 1 ≤ q → q ≤ p + 7 → q ≠ ga) : PrS (hxH h M ga u v W m) p := P.ai rfl rfl (fun q h1 h2 => hx_a (np q h1 h2))
theorem hx_T {u v : Int32} {W : List Int32} {m : Nat} (T : PrT h p K B L j t) (np : ∀ q, p + 1 ≤ q → q ≤ p + 7 → q ≠ ga) : PrT (hxH h M ga u v W m) p K B L j t := T.eq (fun q h1 h2 => by rw [hx_a (np q h1 (by omega))]) (fun i _ => by rw [hx_a (np (p + 7) (by omega) (by omega))])
/-- bytes are laid -/
theorem hx_lay {u v : Int32} {Wr acc : List Int32} {b off m : Nat} {Q : AH → Prop} {E : Nat → AH → Prop} (hd : 1 ≤ d) (Hs : HsB h M ga) (kb : h.kd b = 101) (nb : b ≠ ga) (R : HsR Wr acc) (hl : off + m ≤ (h.ai b).length) (hl2 : (h.ai b).length < 2 ^ 31) (hn : acc.length + m ≤ 16384) (k : ∀ V, HsR V (acc ++ sub_ (h.ai b) off m) → Q (hxH h M ga u v V (acc ++ sub_ (h.ai b) off m).length)) :
    Cw G mX24_lay d 0 [vR M, vR b, vI (nI off), vI (nI m)] (hxH h M ga u v Wr acc.length) (kV Q E) :=
  (MD_lay_spec (h := scH h M u v) hd Hs R kb nb hl hl2 hn).nV (fun h' q => by
    obtain ⟨V, RV, e⟩ := q
    rw [e]
    exact k V RV)
theorem hx_num {u v : Int32} {Wr acc : List Int32} {x m : Nat} {Q : AH → Prop} {E : Nat → AH → Prop} (hd : 1 ≤ d) (Hs : HsB h M ga) (R : HsR Wr acc) (hv : x < 2 ^ 64) (hm : m ≤ 8) (hn : acc.length + m ≤ 16384) (k : ∀ V, HsR V (acc ++ lay x m) → Q (hxH h M ga u v V (acc ++ lay x m).length)) :
    Cw G mX24_lay_2 d 0 [vR M, vJ (lN x), vI (nI m)] (hxH h M ga u v Wr acc.length) (kV Q E) :=
  (MD_lay2_spec (h := scH h M u v) hd Hs R hv hm hn).nV (fun h' q => by
    obtain ⟨V, RV, e⟩ := q
    rw [e]
    exact k V RV)
theorem hx_cnt {u v : Int32} {Wr acc : List Int32} {m : Nat} {Q : AH → Prop} {E : Nat → AH → Prop} (hd : 2 ≤ d) (Hs : HsB h M ga) (R : HsR Wr acc) (hv : m < 65536) (hn : acc.length + 3 ≤ 16384) (k : ∀ V, HsR V (acc ++ cntB m) → Q (hxH h M ga u v V (acc ++ cntB m).length)) :
    Cw G mX24_layCount d 0 [vR M, vJ (lN m)] (hxH h M ga u v Wr acc.length) (kV Q E) :=
  (MD_layCount_spec (h := scH h M u v) hd Hs R hv (by have := cntB_len m; omega)).nV (fun h' q => by
    obtain ⟨V, RV, e⟩ := q
    rw [e]
    exact k V RV)
theorem hx_scr {u v : Int32} {Wr : List Int32} {m i sz b : Nat} {Q : Int32 → AH → Prop} {E : Nat → AH → Prop} (hd : 2 ≤ d) (kM : h.kd M = 24) (ka : h.kd a = 101) (eL : h.ai a = L) (na : a ≠ ga) (W : TxW L n t) (hc : cntP L n i = some (sz, b)) (hb : b + sz ≤ n) (k : Q (nI (b + sz)) (hxH h M ga (nI sz) (nI b) Wr m)) :
    Cw G mX24_script d 0 [vR M, vR a, vI (nI i)] (hxH h M ga u v Wr m) (kI Q E) :=
  (MD_script_spec (h := hxH h M ga u v Wr m) hd kM ka ((hx_a na).trans eL) W.1.1 W.1.2 hc hb).nI (fun x h' q => by
    obtain ⟨ex, eh⟩ := q
    rw [ex, eh, hx_sc]
    exact k)
/-- the sequence of an input, or none -/
theorem hs_221 {u v : Int32} {Wr acc : List Int32} {k : Nat} {al : Int32} (hd : 4 ≤ d) (kM : h.kd M = 24) (Hs : HsB h M ga) (P : PrS h p) (rp : h.r 26000 p = a) (ka : h.kd a = 101) (eL : h.ai a = L) (BL : isB L) (W : TxW L n t) (T : PrT h p K B L j t) (hj : j < 12) (na : a ≠ ga) (np : ∀ q, p + 1 ≤ q → q ≤ p + 7 → q ≠ ga) (C : CutAt h M cu le c) (nc : cu ≠ ga) (TI : TxIn L t) (hinp : inp < t.2.2.1.length) (hty : ty < 256) (hk : k < t.2.2.1.length) (R : HsR Wr acc) (hn : acc.length + 4 ≤ 16384)
    (ih : ∀ V, HsR V (acc ++ lay (if k ≠ inp ∧ (ty % 32 = 2 ∨ ty % 32 = 3) then 0 else leV L ((t.2.2.1.getD k p0).2.1 + (t.2.2.1.getD k p0).2.2) 4) 4) → Aw G mX24_hashed (d + 1) 0 h0 (kV F nE) 121 [vR M, vR p, vI (nI j), vI (nI inp), vI (nI ty), vI (nI (ty % 32)), vI al, vI (nI (k + 1)), vU, vU, vU] [] (hxH h M ga u v V (acc ++ lay (if k ≠ inp ∧ (ty % 32 = 2 ∨ ty % 32 = 3) then 0 else leV L ((t.2.2.1.getD k p0).2.1 + (t.2.2.1.getD k p0).2.2) 4) 4).length)) :
    Aw G mX24_hashed (d + 1) 0 h0 (kV F nE) 221 [vR M, vR p, vI (nI j), vI (nI inp), vI (nI ty), vI (nI (ty % 32)), vI al, vI (nI k), vU, vI (nI ((t.2.2.1.getD k p0).2.1 + (t.2.2.1.getD k p0).2.2)), vU] [] (hxH h M ga u v Wr acc.length) := by
  have l40 : t.2.2.1.length ≤ 40 := by have := TI.2.2.2.1; omega
  have iw := (W.2.2.1 k hk).1
  obtain ⟨w1, w2, w3⟩ := iw
  have hL := W.1
  have num : (if k ≠ inp ∧ (ty % 32 = 2 ∨ ty % 32 = 3) then 0 else leV L ((t.2.2.1.getD k p0).2.1 + (t.2.2.1.getD k p0).2.2) 4) = leV L ((t.2.2.1.getD k p0).2.1 + (t.2.2.1.getD k p0).2.2) 4 → ∀ r3 : Nat, r3 = a → Cw G mX24_number d 0 [vR M, vR r3, vI (nI ((t.2.2.1.getD k p0).2.1 + (t.2.2.1.getD k p0).2.2)), vI 4] (hxH h M ga u v Wr acc.length) (kJ (fun x4 h5 => Cw G mX24_lay_2 d 0 [vR M, vJ x4, vI 4] h5 (kV (fun h8 => Aw G mX24_hashed (d + 1) 0 h0 (kV F nE) 121 [vR M, vR p, vI (nI j), vI (nI inp), vI (nI ty), vI (nI (ty % 32)), vI al, vI (nI (k + 1)), vU, vU, vU] [] h8) (fun x h => (kV F nE) (.inr x) h))) (fun x h => (kV F nE) (.inr x) h)) := fun e r3 e3 => by
    subst e3
    rw [e] at ih
    refine (MD_number_spec (h := hxH h M ga u v Wr acc.length) (k := 4) (by decide) (by omega) ka (by rw [hx_a na, eL]; omega) (by rw [hx_a na, eL]; omega)).nJ (fun x4 h5 Q => ?_)
    obtain ⟨ex, eh⟩ := Q
    rw [ex, eh, hx_a na, eL]
    exact hx_num (by omega) Hs R (leV_b64 _ _ (by decide)) (by decide) (by omega) ih
  have zero : (if k ≠ inp ∧ (ty % 32 = 2 ∨ ty % 32 = 3) then 0 else leV L ((t.2.2.1.getD k p0).2.1 + (t.2.2.1.getD k p0).2.2) 4) = 0 → Cw G mX24_lay_2 d 0 [vR M, vJ 0, vI 4] (hxH h M ga u v Wr acc.length) (kV (fun h8 => Aw G mX24_hashed (d + 1) 0 h0 (kV F nE) 121 [vR M, vR p, vI (nI j), vI (nI inp), vI (nI ty), vI (nI (ty % 32)), vI al, vI (nI (k + 1)), vU, vU, vU] [] h8) (fun x h => (kV F nE) (.inr x) h)) := fun e => by
    rw [e] at ih
    exact hx_num (x := 0) (m := 4) (by omega) Hs R (by decide) (by decide) (by omega) ih
  refine sX24_hashed_221 _ M p (nI j) (nI inp) (nI ty) (nI (ty % 32)) al (nI k) (nI ((t.2.2.1.getD k p0).2.1 + (t.2.2.1.getD k p0).2.2)) ?_
  rw [nI_1]
  refine pk_eq k inp (fun z => ⟨P.1, fun r3 e3 => ⟨kM, num (by rw [if_neg (by omega)]) r3 (e3.trans rp)⟩⟩) (fun z => pk_eq (ty % 32) 2 (fun z2 => ⟨kM, zero (by rw [if_pos (by omega)])⟩) (fun z2 => pk_eq' (ty % 32) 3 (fun z3 => ⟨P.1, fun r3 e3 => ⟨kM, num (by rw [if_neg (by omega)]) r3 (e3.trans rp)⟩⟩) (fun z3 => ⟨kM, zero (by rw [if_pos (by omega)])⟩)))
/-- one input -/
theorem hs_146 {u v : Int32} {Wr acc : List Int32} {k : Nat} {al : Int32} (hd : 4 ≤ d) (kM : h.kd M = 24) (Hs : HsB h M ga) (P : PrS h p) (rp : h.r 26000 p = a) (ka : h.kd a = 101) (eL : h.ai a = L) (BL : isB L) (W : TxW L n t) (T : PrT h p K B L j t) (hj : j < 12) (na : a ≠ ga) (np : ∀ q, p + 1 ≤ q → q ≤ p + 7 → q ≠ ga) (C : CutAt h M cu le c) (nc : cu ≠ ga) (TI : TxIn L t) (hinp : inp < t.2.2.1.length) (hty : ty < 256) (hk : k < t.2.2.1.length) (R : HsR Wr acc) (hn : acc.length + 1650 ≤ 16384) (alN : Nat) (hal : ¬ (alN ≠ 0 ∧ k ≠ inp))
    (ih : ∀ u v V, HsR V (acc ++ inB L t.2.2.1 inp (ty % 32) alN c k) → Aw G mX24_hashed (d + 1) 0 h0 (kV F nE) 121 [vR M, vR p, vI (nI j), vI (nI inp), vI (nI ty), vI (nI (ty % 32)), vI al, vI (nI (k + 1)), vU, vU, vU] [] (hxH h M ga u v V (acc ++ inB L t.2.2.1 inp (ty % 32) alN c k).length)) :
    Aw G mX24_hashed (d + 1) 0 h0 (kV F nE) 146 [vR M, vR p, vI (nI j), vI (nI inp), vI (nI ty), vI (nI (ty % 32)), vI al, vI (nI k), vU, vU, vU] [] (hxH h M ga u v Wr acc.length) := by
  have l40 : t.2.2.1.length ≤ 40 := by have := TI.2.2.2.1; omega
  have iw := (W.2.2.1 k hk).1
  obtain ⟨w1, w2, w3⟩ := iw
  have hL := W.1
  have cl : c.length ≤ 1600 := C.2.2.2.2.2.2.2.2.2.1
  have eB : inB L t.2.2.1 inp (ty % 32) alN c k = sub_ L (t.2.2.1.getD k p0).1 36 ++ ((if k = inp then cntB c.length ++ c else cntB 0) ++ lay (if k ≠ inp ∧ (ty % 32 = 2 ∨ ty % 32 = 3) then 0 else leV L ((t.2.2.1.getD k p0).2.1 + (t.2.2.1.getD k p0).2.2) 4) 4) := by
    unfold inB
    rw [if_neg hal, lay_leV BL, ← List.append_assoc, show sub_ L (t.2.2.1.getD k p0).1 36 = sub_ L (t.2.2.1.getD k p0).1 (32 + 4) from rfl, ← sub_app]
    rfl
  rw [eB] at ih
  refine sX24_hashed_146 _ M p (nI j) (nI inp) (nI ty) (nI (ty % 32)) al (nI k) ⟨kM, ?_⟩
  refine (MD_input_spec (h := hxH h M ga u v Wr acc.length) (by omega) kM (hx_P P np) rp ka ((hx_a na).trans eL) W (hx_T T np) hj hk (by omega)).nI (fun x1 h2 Q => ?_)
  obtain ⟨ex, u1, v1, eh⟩ := Q
  rw [hx_sc] at eh
  rw [ex, eh]
  clear ex eh
  refine ⟨P.1, fun r5 e5 => ?_⟩
  rw [show r5 = a from e5.trans rp]
  refine hx_lay (m := 36) (by omega) Hs ka na R (by rw [eL]; omega) (by rw [eL]; omega) (by omega) (fun V1 R1 => ?_)
  rw [eL] at R1 ⊢
  have len1 : (acc ++ sub_ L (t.2.2.1.getD k p0).1 36).length = acc.length + 36 := by rw [List.length_append, sub_len]
  rw [show (36 : Int32) = nI 36 from rfl, nI_add]
  refine hx_scr (by omega) kM ka eL na W w2 (by omega) ?_
  generalize hA1 : acc ++ sub_ L (t.2.2.1.getD k p0).1 36 = A1 at R1 len1 ⊢
  have ic : (hxH h M ga (nI (t.2.2.1.getD k p0).2.2) (nI (t.2.2.1.getD k p0).2.1) V1 A1.length).i 24089 M = nI c.length := (hx_i (by decide) (by decide) (by decide)).trans C.2.2.2.2.2.2.2.2.1
  rw [ic, nI_l (by omega)]
  refine pk_eq' k inp (fun z => ?_) (fun z => ?_)
  · rw [if_neg z] at ih
    refine hx_cnt (m := 0) (by omega) Hs R1 (by decide) (by omega) (fun V2 R2 => ?_)
    refine pk_eq' k inp (fun _ => ?_) (fun z2 => absurd z2 z)
    have len2 := cntB_len 0
    refine hs_221 hd kM Hs P rp ka eL BL W T hj na np C nc TI hinp hty hk R2 (by rw [List.length_append]; omega) (fun V3 R3 => ?_)
    rw [← hA1, List.append_assoc, List.append_assoc] at R3 ⊢
    exact ih _ _ V3 R3
  · rw [if_pos z] at ih
    refine hx_cnt (m := c.length) (by omega) Hs R1 (by omega) (by omega) (fun V2 R2 => ?_)
    refine pk_eq' k inp (fun z2 => absurd z z2) (fun _ r29 e29 => ?_)
    rw [show r29 = cu from e29.trans C.2.1]
    have len2 := cntB_len c.length
    have lc : (h.ai cu).length = 1700 := C.2.2.2.2.2.2.1
    have len3 : (A1 ++ cntB c.length).length ≤ A1.length + 3 := by rw [List.length_append]; omega
    refine hx_lay (off := 0) (m := c.length) (by omega) Hs C.2.2.2.2.1 nc R2 (by omega) (by omega) (by omega) (fun V3 R3 => ?_)
    have es : sub_ (h.ai cu) 0 c.length = c := by
      rw [sub_cg C.2.2.2.2.2.2.2.2.2.2 (by omega)]
      exact subF c
    rw [es] at R3 ⊢
    refine hs_221 hd kM Hs P rp ka eL BL W T hj na np C nc TI hinp hty hk R3 (by rw [List.length_append]; omega) (fun V4 R4 => ?_)
    rw [← hA1, List.append_assoc, List.append_assoc, List.append_assoc, ← List.append_assoc (cntB c.length)] at R4 ⊢
    exact ih _ _ V4 R4
/-- all inputs -/
theorem hs_121 {Wr acc : List Int32} {u v : Int32} (hd : 4 ≤ d) (kM : h.kd M = 24) (Hs : HsB h M ga) (P : PrS h p) (rp : h.r 26000 p = a) (ka : h.kd a = 101) (eL : h.ai a = L) (BL : isB L) (W : TxW L n t) (T : PrT h p K B L j t) (hj : j < 12) (na : a ≠ ga) (np : ∀ q, p + 1 ≤ q → q ≤ p + 7 → q ≠ ga) (C : CutAt h M cu le c) (nc : cu ≠ ga) (TI : TxIn L t) (hinp : inp < t.2.2.1.length) (hty : ty < 256) (R : HsR Wr acc) (hn : acc.length ≤ 7) (h3 : ty % 32 = 3 → inp < t.2.2.2.length)
    (ih : ∀ u v V A, HsR V A → A = acc ++ catU (inB L t.2.2.1 inp (ty % 32) (ty / 128 % 2) c) t.2.2.1.length ++ cntB (nOut t inp (ty % 32)) → Aw G mX24_hashed (d + 1) 0 h0 (kV F nE) 305 [vR M, vR p, vI (nI j), vI (nI inp), vI (nI ty), vI (nI (ty % 32)), vU, vI (nI (nOut t inp (ty % 32))), vI 0, vU, vU] [] (hxH h M ga u v V A.length)) :
    Aw G mX24_hashed (d + 1) 0 h0 (kV F nE) 121 [vR M, vR p, vI (nI j), vI (nI inp), vI (nI ty), vI (nI (ty % 32)), vI (nI (ty / 128 % 2)), vI 0, vU, vU, vU] [] (hxH h M ga u v Wr acc.length) := by
  have iS := ins_len L t.2.2.1 inp (ty % 32) (ty / 128 % 2) c
  have cl : c.length ≤ 1600 := C.2.2.2.2.2.2.2.2.2.1
  have l4 := TI.2.2.2.1
  have l6 := TI.2.2.2.2.2
  refine loop_uc (n := t.2.2.1.length) (P := fun k (y : List Int32 × List Int32 × Int32 × Int32) => Aw G mX24_hashed (d + 1) 0 h0 (kV F nE) 121 [vR M, vR p, vI (nI j), vI (nI inp), vI (nI ty), vI (nI (ty % 32)), vI (nI (ty / 128 % 2)), vI (nI k), vU, vU, vU] [] (hxH h M ga y.2.2.1 y.2.2.2 y.1 y.2.1.length))
    (fun k y => HsR y.1 y.2.1 ∧ y.2.1 = acc ++ catU (inB L t.2.2.1 inp (ty % 32) (ty / 128 % 2) c) k) (fun k y hk hI ihk => ?_) 0 (Wr, acc, u, v) (Nat.zero_le _) ⟨R, (List.append_nil acc).symm⟩
  obtain ⟨V, A, u1, v1⟩ := y
  obtain ⟨RV, eA⟩ := hI
  dsimp only at RV eA ihk ⊢
  have isk := iS k
  have Al : A.length = acc.length + (catU (inB L t.2.2.1 inp (ty % 32) (ty / 128 % 2) c) k).length := by rw [eA, List.length_append]
  have Ab : A.length ≤ 3300 := by
    have : (if inp < k then 2 + c.length else 0) ≤ 1602 := by split <;> omega
    omega
  refine sX24_hashed_121 _ M p (nI j) (nI inp) (nI ty) (nI (ty % 32)) (nI (ty / 128 % 2)) (nI k) ⟨P.1, fun r2 e2 => ?_⟩
  have e2' : r2 = p + 3 := e2.trans P.2.1.2.2.1
  subst e2'
  rw [hx_a (np (p + 3) (by omega) (by omega)), P.2.2.2.2.2.1, pk_cl j rfl (by omega), T.2.2.1]
  refine ⟨P.2.2.1.2.2.1, pk_in j 12 hj, pk_le t.2.2.1.length k (fun z => ?_) (fun z => ?_)⟩
  · obtain rfl : k = t.2.2.1.length := by omega
    have go : ∀ m, m = nOut t inp (ty % 32) → m ≤ t.2.2.2.length → Cw G mX24_layCount d 0 [vR M, vJ (lN m)] (hxH h M ga u1 v1 V A.length) (kV (fun h13 => Aw G mX24_hashed (d + 1) 0 h0 (kV F nE) 305 [vR M, vR p, vI (nI j), vI (nI inp), vI (nI ty), vI (nI (ty % 32)), vU, vI (nI m), vI 0, vU, vU] [] h13) (fun x h => (kV F nE) (.inr x) h)) := fun m em hm => by
      refine hx_cnt (by omega) Hs RV (by omega) (by omega) (fun V2 R2 => ?_)
      rw [em] at R2 ⊢
      exact ih u1 v1 V2 _ R2 (by rw [eA])
    refine pk_eq' (ty % 32) 2 (fun z2 => pk_eq' (ty % 32) 3 (fun z3 r8 e8 => ?_) (fun z3 => ⟨kM, ?_⟩)) (fun z2 => ⟨kM, ?_⟩)
    · have e8' : r8 = p + 4 := e8.trans P.2.1.2.2.2.1
      subst e8'
      rw [hx_a (np (p + 4) (by omega) (by omega)), P.2.2.2.2.2.2.1, T.2.2.2.1]
      refine ⟨P.2.2.1.2.2.2.1, pk_in j 12 hj, fun u11 e11 => ⟨kM, ?_⟩⟩
      subst e11
      rw [nI_l (by omega)]
      exact go _ (by unfold nOut; rw [if_neg z2, if_neg z3]) (Nat.le_refl _)
    · have := h3 z3
      rw [nI_1, nI_l (by omega)]
      exact go _ (by unfold nOut; rw [if_neg z2, if_pos z3]) (by omega)
    · exact go 0 (by unfold nOut; rw [if_pos z2]) (Nat.zero_le _)
  · have one : ¬ (ty / 128 % 2 ≠ 0 ∧ k ≠ inp) → Aw G mX24_hashed (d + 1) 0 h0 (kV F nE) 146 [vR M, vR p, vI (nI j), vI (nI inp), vI (nI ty), vI (nI (ty % 32)), vI (nI (ty / 128 % 2)), vI (nI k), vU, vU, vU] [] (hxH h M ga u1 v1 V A.length) := fun hal => by
      refine hs_146 hd kM Hs P rp ka eL BL W T hj na np C nc TI hinp hty (by omega) RV (by omega) (ty / 128 % 2) hal (fun u2 v2 V2 R2 => ?_)
      refine ihk (by omega) (V2, A ++ inB L t.2.2.1 inp (ty % 32) (ty / 128 % 2) c k, u2, v2) ⟨R2, ?_⟩
      dsimp only
      rw [eA, List.append_assoc]
      rfl
    refine pk_eq (ty / 128 % 2) 0 (fun z2 => one (fun q => q.1 z2)) (fun z2 => pk_eq k inp (fun z3 => one (fun q => q.2 z3)) (fun z3 => ?_))
    rw [nI_1]
    refine ihk (by omega) (V, A, u1, v1) ⟨RV, ?_⟩
    dsimp only
    rw [eA]
    have : inB L t.2.2.1 inp (ty % 32) (ty / 128 % 2) c k = [] := by unfold inB; rw [if_pos ⟨z2, z3⟩]
    show _ = acc ++ (catU (inB L t.2.2.1 inp (ty % 32) (ty / 128 % 2) c) k ++ inB L t.2.2.1 inp (ty % 32) (ty / 128 % 2) c k)
    rw [this, List.append_nil]
/-- an output as it stands -/
theorem out_raw {x : P3} (BL : isB L) (W : TxW L n t) (w : outW L n x) : sub_ L x.1 (x.2.1 + x.2.2 - x.1) = lay (leV L x.1 8) 8 ++ (cntB x.2.2 ++ sub_ L x.2.1 x.2.2) := by
  obtain ⟨w1, w2, w3⟩ := w
  have ci := cntP_inv w2
  have hL := W.1
  rw [lay_leV BL, ← cnt_raw BL (by omega) w2 w3, sub_eq (q := x.2.1) x.1 8 (x.2.1 - (x.1 + 8)) x.2.2 (by omega) (by omega)]
/-- the outputs and what is behind them -/
theorem hs_305 {Wr acc : List Int32} {u v : Int32} {m : Nat} (hd : 5 ≤ d) (kM : h.kd M = 24) (Hs : HsB h M ga) (P : PrS h p) (rp : h.r 26000 p = a) (ka : h.kd a = 101) (eL : h.ai a = L) (BL : isB L) (W : TxW L n t) (T : PrT h p K B L j t) (hj : j < 12) (na : a ≠ ga) (np : ∀ q, p + 1 ≤ q → q ≤ p + 7 → q ≠ ga) (C : CutAt h M cu le c) (nc : cu ≠ ga) (TI : TxIn L t) (hinp : inp < t.2.2.1.length) (hty : ty < 256) (R : HsR Wr acc) (hn : acc.length ≤ 4000) (hm : m ≤ t.2.2.2.length)
    (ih : ∀ u v V A, HsR V A → A = acc ++ catU (outB L t.2.2.2 inp (ty % 32)) m ++ lay (lkV L t) 4 ++ lay ty 4 → A.length ≤ 6100 → ∀ r14 : Nat, r14 = ga → ∀ r15 : Nat, r15 = (h.r 24035 M) → Cw G mX24_again d 0 [vR M, vR r14, vI 0, vI (nI A.length), vR r15, vI 0] (hxH h M ga u v V A.length) (kV (fun h17 => F h17) (fun x h => (kV F nE) (.inr x) h))) :
    Aw G mX24_hashed (d + 1) 0 h0 (kV F nE) 305 [vR M, vR p, vI (nI j), vI (nI inp), vI (nI ty), vI (nI (ty % 32)), vU, vI (nI m), vI 0, vU, vU] [] (hxH h M ga u v Wr acc.length) := by
  have oS := outs_len L t.2.2.2 inp (ty % 32)
  have l4 := TI.2.2.2.1
  have l5 := TI.2.2.2.2.1
  have l6 := TI.2.2.2.2.2
  have hL := W.1
  have hE := W.2.1
  refine loop_uc (n := m) (P := fun k (y : List Int32 × List Int32 × Int32 × Int32) => Aw G mX24_hashed (d + 1) 0 h0 (kV F nE) 305 [vR M, vR p, vI (nI j), vI (nI inp), vI (nI ty), vI (nI (ty % 32)), vU, vI (nI m), vI (nI k), vU, vU] [] (hxH h M ga y.2.2.1 y.2.2.2 y.1 y.2.1.length))
    (fun k y => HsR y.1 y.2.1 ∧ y.2.1 = acc ++ catU (outB L t.2.2.2 inp (ty % 32)) k) (fun k y hk hI ihk => ?_) 0 (Wr, acc, u, v) (Nat.zero_le _) ⟨R, (List.append_nil acc).symm⟩
  obtain ⟨V, A, u1, v1⟩ := y
  obtain ⟨RV, eA⟩ := hI
  dsimp only at RV eA ihk ⊢
  have osk := oS k
  have osm := oSz_le t.2.2.2 (show k ≤ t.2.2.2.length by omega)
  have Al : A.length = acc.length + (catU (outB L t.2.2.2 inp (ty % 32)) k).length := by rw [eA, List.length_append]
  refine sX24_hashed_305 _ M p (nI j) (nI inp) (nI ty) (nI (ty % 32)) (nI m) (nI k) (pk_le m k (fun z => ⟨P.1, fun r3 e3 r4 e4 => ?_⟩) (fun z => ⟨kM, ?_⟩))
  · obtain rfl : k = m := by omega
    have e4' : r4 = p + 2 := e4.trans P.2.1.2.1
    subst e4'
    rw [show r3 = a from e3.trans rp, hx_a (np (p + 2) (by omega) (by omega)), P.2.2.2.2.1, pk_cl j rfl (by omega), T.2.1, show (4 : Int32) = nI 4 from rfl, pk_sub hE.2.1]
    refine ⟨P.2.2.1.2.1, pk_in j 12 hj, kM, hx_lay (by omega) Hs ka na RV (by rw [eL]; omega) (by rw [eL]; omega) (by omega) (fun V2 R2 => ?_)⟩
    rw [eL, ← lay_leV BL] at R2 ⊢
    rw [nI_l (by omega)]
    have len2 : (A ++ lay (leV L (t.2.1 - 4) 4) 4).length = A.length + 4 := by rw [List.length_append, lay_len]
    refine hx_num (m := 4) (by omega) Hs R2 (by omega) (by decide) (by omega) (fun V3 R3 r14 e14 r15 e15 => ?_)
    have i91 : (hxH h M ga u1 v1 V3 (A ++ lay (leV L (t.2.1 - 4) 4) 4 ++ lay ty 4).length).i 24091 M = nI (A ++ lay (leV L (t.2.1 - 4) 4) 4 ++ lay ty 4).length := hsH_i
    rw [i91]
    exact ih u1 v1 V3 _ R3 (by rw [eA]; rfl) (by rw [List.length_append, lay_len]; omega) r14 (e14.trans Hs.2.1) r15 e15
  · obtain ⟨ow, _⟩ := W.2.2.2 k (by omega)
    have ow' := ow
    obtain ⟨w1, w2, w3⟩ := ow
    have ci := cntP_inv w2
    have osk1 : oSz t.2.2.2 k + (11 + (t.2.2.2.getD k p0).2.2) ≤ oSz t.2.2.2 t.2.2.2.length := oSz_le t.2.2.2 (n := t.2.2.2.length) (k := k + 1) (by omega)
    refine (MD_output_spec (h := hxH h M ga u1 v1 V A.length) (by omega) kM (hx_P P np) rp ka ((hx_a na).trans eL) W (hx_T T np) hj (by omega) (by omega)).nI (fun x1 h2 Q => ?_)
    obtain ⟨ex, u2, v2, eh⟩ := Q
    rw [hx_sc] at eh
    rw [ex, eh]
    clear ex eh
    refine ⟨P.1, fun r5 e5 => ?_⟩
    rw [show r5 = a from e5.trans rp, show (8 : Int32) = nI 8 from rfl, nI_add]
    refine hx_scr (by omega) kM ka eL na W w2 (by omega) ?_
    rw [pk_sub (by omega), nI_1]
    have nx : ∀ V2 u3 v3, HsR V2 (A ++ outB L t.2.2.2 inp (ty % 32) k) → Aw G mX24_hashed (d + 1) 0 h0 (kV F nE) 305 [vR M, vR p, vI (nI j), vI (nI inp), vI (nI ty), vI (nI (ty % 32)), vU, vI (nI m), vI (nI (k + 1)), vU, vU] [] (hxH h M ga u3 v3 V2 (A ++ outB L t.2.2.2 inp (ty % 32) k).length) := fun V2 u3 v3 R2 => by
      refine ihk (by omega) (V2, A ++ outB L t.2.2.2 inp (ty % 32) k, u3, v3) ⟨R2, ?_⟩
      dsimp only
      rw [eA, List.append_assoc]
      rfl
    have raw : ¬ (ty % 32 = 3 ∧ k < inp) → ∀ u3 v3, Cw G mX24_lay d 0 [vR M, vR a, vI (nI (t.2.2.2.getD k p0).1), vI (nI ((t.2.2.2.getD k p0).2.1 + (t.2.2.2.getD k p0).2.2 - (t.2.2.2.getD k p0).1))] (hxH h M ga u3 v3 V A.length) (kV (fun h31 => Aw G mX24_hashed (d + 1) 0 h0 (kV F nE) 305 [vR M, vR p, vI (nI j), vI (nI inp), vI (nI ty), vI (nI (ty % 32)), vU, vI (nI m), vI (nI (k + 1)), vU, vU] [] h31) (fun x h => (kV F nE) (.inr x) h)) := fun c3 u3 v3 => by
      have eo : outB L t.2.2.2 inp (ty % 32) k = sub_ L (t.2.2.2.getD k p0).1 ((t.2.2.2.getD k p0).2.1 + (t.2.2.2.getD k p0).2.2 - (t.2.2.2.getD k p0).1) := by
        rw [out_raw BL W ow']
        unfold outB
        rw [if_neg c3]
      have lo := outB_len L t.2.2.2 inp (ty % 32) k
      rw [eo, sub_len] at lo
      refine hx_lay (by omega) Hs ka na RV (by rw [eL]; omega) (by rw [eL]; omega) (by omega) (fun V2 R2 => ?_)
      rw [eL, ← eo] at R2 ⊢
      exact nx V2 u3 v3 R2
    refine pk_eq' (ty % 32) 3 (fun z2 => raw (fun q => z2 q.1) _ _) (fun z2 => pk_le inp k (fun z3 => raw (fun q => by omega) _ _) (fun z3 => ?_))
    have eo : outB L t.2.2.2 inp (ty % 32) k = lay 18446744073709551615 8 ++ cntB 0 := by unfold outB; rw [if_pos ⟨z2, z3⟩]
    refine hx_num (x := 18446744073709551615) (m := 8) (by omega) Hs RV (by decide) (by decide) (by omega) (fun V2 R2 => ?_)
    have len2 : (A ++ lay 18446744073709551615 8).length = A.length + 8 := by rw [List.length_append, lay_len]
    refine hx_cnt (m := 0) (by omega) Hs R2 (by decide) (by omega) (fun V3 R3 => ?_)
    rw [List.append_assoc, ← eo] at R3 ⊢
    exact nx V3 _ _ R3
end Hash

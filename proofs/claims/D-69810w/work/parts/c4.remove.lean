/-! the component's table of coins: remove -/
set_option maxRecDepth 100000
theorem cz_z : ∀ {l : List Nat} {i : Nat}, i < l.length → cz (l.set i 0) = cz l + (if l.getD i 0 = 0 then 0 else 1)
  | [], i, h => by simp at h
  | y :: r, 0, _ => by
    show (if (0 : Nat) = 0 then 1 else 0) + cz r = (if y = 0 then 1 else 0) + cz r + (if y = 0 then 0 else 1)
    rw [if_pos rfl]
    split <;> omega
  | y :: r, i + 1, h => by
    have := cz_z (l := r) (i := i) (by simpa using h)
    show (if y = 0 then 1 else 0) + cz (r.set i 0) = (if y = 0 then 1 else 0) + cz r + (if r.getD i 0 = 0 then 0 else 1)
    omega
theorem sub_and {a b : Nat} (ha : a < 1024) (hb : b < 1024) : (nI a - nI b) &&& 1023 = nI (cyc b a) := by
  have e : nI a - nI b = nI (a + 4294967296 - b) := by
    have e1 : nI a = nI (a + 4294967296) := nI_eqI (by omega)
    rw [e1, pk_sub (by omega)]
  rw [e, show ∀ x : Int32, x &&& 1023 = nI (u32 x % 2 ^ 10) from fun x => pk_and x 10 (by decide), u32_nI]
  congr 1
  unfold cyc
  omega
section Rem
variable {G : Gx} {d : Nat} {h h' : AH} {Co ia off : Nat} {v : Int32} {id : List Int32}
theorem tb_wr {R X : List Nat} {n : Int32} {w : Int64} : (tbH h Co R n w).wr (Co + 1) X = tbH h Co X n w := by
  show (((h.wr (Co + 1) R).wr (Co + 1) X).pi 9001 Co n).pl 9002 Co w = _
  rw [AH.wr_wr]
  rfl
theorem ofK_in {k : CK} {x : Nat} : ofK h Co k x ↔ (x = 0 ∧ ∀ e, inTb (tbT h Co) e → kyC h e ≠ k) ∨ (inTb (tbT h Co) x ∧ kyC h x = k) := by
  refine ⟨fun q => ?_, fun q => ?_⟩
  · rcases q with ⟨q1, q2⟩ | ⟨q1, p, hp, q2, q3⟩
    · exact Or.inl ⟨q1, fun e ⟨e0, p, hp, ep⟩ w => q2 p hp (by rw [ep]; exact e0) (by rw [ep]; exact w)⟩
    · exact Or.inr ⟨⟨q1, p, hp, q2⟩, q3⟩
  · rcases q with ⟨q1, q2⟩ | ⟨⟨q1, p, hp, q2⟩, q3⟩
    · exact Or.inl ⟨q1, fun p hp h0 w => q2 _ ⟨h0, p, hp, rfl⟩ w⟩
    · exact Or.inr ⟨q1, p, hp, q2, q3⟩
/-- a coin has gone -/
def RemP (h h' : AH) (Co : Nat) (k : CK) : Prop := CoinsAt h' Co ∧ Same (fun y => y = Co ∨ y = Co + 1) h h' ∧ (h'.z = h.z ∧ h'.s = h.s) ∧ (∀ k' x, ofK h' Co k' x ↔ if k' = k then x = 0 else ofK h Co k' x) ∧ ∃ old, ofK h Co k old ∧ cz (h'.ar (Co + 1)) = cz (h.ar (Co + 1)) + (if old = 0 then 0 else 1)
/-- the table while things come nearer -/
def RmI (h : AH) (Co p : Nat) (R : List Nat) (k j ep : Nat) : Prop := TbH (kyC h) sfC (fun q => R.getD q 0) k j ∧ R.length = 1024 ∧ (∀ q, q < 1024 → R.getD q 0 ≠ 0 → CnOk h (R.getD q 0)) ∧ (∀ e, inTb (fun q => R.getD q 0) e ↔ inTb (tbT h Co) e ∧ e ≠ tbT h Co p) ∧ (cz R = cz (h.ar (Co + 1)) + 1 ∧ svL (vlC h) R = h.l 9002 Co - vlC h (tbT h Co p)) ∧ (k < 1024 ∧ j < 1024 ∧ 0 < cyc k j ∧ cyc k j ≤ cyc k ep ∧ R.getD ep 0 = 0)
set_option maxHeartbeats 1000000 in
theorem rem_59 {p ep : Nat} {n : Int32} {w : Int64} (hd : 1 ≤ d) (C : CoinsAt h Co) (hz0 : Co + 1 < h.z) (hp : p < 1024) (n0 : tbT h Co p ≠ 0) (ek : kyC h (tbT h Co p) = (id, v)) (hep : ep < 1024) (hn : n = nI (1024 - (cz (h.ar (Co + 1)) + 1))) (hw : w = h.l 9002 Co - vlC h (tbT h Co p)) :
    ∀ (m : Nat) (R : List Nat) (k j0 : Nat), j0 < 1024 → cyc ((j0 + 1) % 1024) ep = m → RmI h Co p R k ((j0 + 1) % 1024) ep → Aw G mX9_remove (d + 1) 0 h (kV (fun h' => RemP h h' Co (id, v)) nE) 59 [vR Co, vU, vU, vU, vI (nI k), vI (nI j0), vU] [] (tbH h Co R n w) := by
  intro m
  induction m using Nat.strongRecOn with
  | ind m ih =>
    intro R k j0 hj0 hm I1
    have C' := C
    obtain ⟨⟨⟨t1, t2, t3, t4⟩, ok, IT, hz⟩, cn, vl⟩ := C
    generalize hj : (j0 + 1) % 1024 = j at *
    obtain ⟨TH, lR, okR, ct, ⟨cR, sR⟩, hk, hj1, c0, c1, z0⟩ := I1
    have ej : (nI j0 + 1) &&& 1023 = nI j := by
      rw [nI_1, show nI (j0 + 1) &&& 1023 = nI ((j0 + 1) % 2 ^ 10) from pk_andN (by omega) 10 (by decide), show (j0 + 1) % 2 ^ 10 = j from hj]
    have kj : k ≠ j := fun e => by
      rw [e] at c0
      unfold cyc at c0
      omega
    have gar : (tbH h Co R n w).ar (Co + 1) = R := tb_ar
    refine sX9_remove_59 (tbH h Co R n w) Co (nI k) (nI j0) ⟨t1, fun r2 e2 => ?_⟩
    rw [show r2 = Co + 1 from e2.trans t2, ej, gar, lR, pk_cl j rfl (by omega)]
    refine ⟨t3, pk_in j 1024 hj1, fun r5 e5 => ⟨fun h5 => ⟨pk_in j 1024 hj1, fun r8 e8 => ?_⟩, fun h5 => ?_⟩⟩
    · have nj : R.getD j 0 ≠ 0 := fun q => h5 (e5.trans q)
      have kc := okR j hj1 nj
      have jep : j ≠ ep := fun e => nj (by rw [e]; exact z0)
      have eqc : ∀ y, h.kd y = 23 ∨ h.kd y = 18 ∨ h.kd y = 101 ∨ h.kd y = 112 ∨ h.kd y = 20 → eqAt h (tbH h Co R n w) y := fun y hy => tb_eq (cn_ne C' hy).1 (cn_ne C' hy).2
      have i23 : (tbH h Co R n w).i 23002 (R.getD j 0) = h.i 23002 (R.getD j 0) := (eqc _ (Or.inl kc.1)).2.2.1 _
      rw [e8]
      refine ⟨kc.1, fun r10 e10 => ?_⟩
      rw [e10]
      refine ⟨kc.2.1, fun r12 e12 => ⟨pk_in j 1024 hj1, fun r14 e14 => ?_⟩⟩
      rw [e12, e14]
      refine ⟨kc.1, (X9_start_spec (h := tbH h Co R n w) (off := 0) hd kc.2.2.1.1 (by show 0 + 32 ≤ (h.ai _).length; rw [kc.2.2.1.2]; decide) (by show (h.ai _).length < _; rw [kc.2.2.1.2]; decide) (show sub_ (h.ai (h.r 18002 (h.r 23001 (R.getD j 0)))) 0 32 = h.ai (h.r 18002 (h.r 23001 (R.getD j 0))) from ky_id kc)).nI (fun x16 h17 Q => ?_)⟩
      obtain ⟨e16, e17⟩ := Q
      rw [i23] at e16
      have e16' : x16 = nI (sfC (kyC h (R.getD j 0))) := e16
      have hs := sfC_lt (kyC h (R.getD j 0))
      rw [e17, e16', sub_and hj1 hk, sub_and hj1 hs, gar, lR]
      have l1 := cyc_lt k j
      have l2 := cyc_lt (sfC (kyC h (R.getD j 0))) j
      have cje : cyc ((j + 1) % 1024) ep < m := by
        rw [← hm]
        unfold cyc
        omega
      refine pk_le (cyc k j) (cyc (sfC (kyC h (R.getD j 0))) j) (fun q => ⟨pk_in j 1024 hj1, fun r24 e24 => ⟨pk_in k 1024 hk, Or.inr (by rw [e24]; exact kc.1), fun h27 e27 => ?_⟩⟩) (fun q => ?_)
      · rw [tb_wr, pk_cl k rfl (by omega), e24] at e27
        have a27 : h27.ar (Co + 1) = R.set k (R.getD j 0) := by rw [e27]; exact tb_ar
        rw [a27, List.length_set, lR]
        refine ⟨pk_in j 1024 hj1, fun h32 e32 => ?_⟩
        rw [e27, tb_wr] at e32
        rw [e32]
        have g1 := row_set (L := R) (q := k) (c := R.getD j 0) lR hk
        have l1' : (R.set k (R.getD j 0)).length = 1024 := by rw [List.length_set]; exact lR
        have g2 := row_set (L := R.set k (R.getD j 0)) (q := j) (c := 0) l1' hj1
        have g : ∀ q, q < 1024 → ((R.set k (R.getD j 0)).set j 0).getD q 0 = if q = j then 0 else if q = k then R.getD j 0 else R.getD q 0 := fun q hq => by rw [g2 q hq, g1 q hq]
        have zk : R.getD k 0 = 0 := TH.1
        have TH2 := tbh_move TH sfC_lt hk hj1 kj nj (by omega) g
        refine ih _ cje _ j j hj1 rfl ⟨TH2, by rw [List.length_set]; exact l1', fun q hq h0 => ?_, fun e => ?_, ⟨?_, ?_⟩, hj1, Nat.mod_lt _ (by decide), ?_, ?_, ?_⟩
        · rw [g q hq] at h0 ⊢
          by_cases w1 : q = j
          · rw [if_pos w1] at h0
            exact absurd rfl h0
          · rw [if_neg w1] at h0 ⊢
            by_cases w2 : q = k
            · rw [if_pos w2]
              exact kc
            · rw [if_neg w2] at h0 ⊢
              exact okR q hq h0
        · exact (inTb_move (T := fun q => R.getD q 0) (T' := fun q => ((R.set k (R.getD j 0)).set j 0).getD q 0) hk hj1 kj zk g e).trans (ct e)
        · have c2 := cz_set (l := R) (i := k) (x := R.getD j 0) (by rw [lR]; exact hk) nj
          have c3 := cz_z (l := R.set k (R.getD j 0)) (i := j) (by rw [l1']; exact hj1)
          rw [zk, if_pos rfl] at c2
          rw [g1 j hj1, if_neg (show ¬ j = k from fun e => kj e.symm), if_neg nj] at c3
          omega
        · rw [svL_set _ _ (by rw [l1']; exact hj1), svL_set _ _ (by rw [lR]; exact hk), g1 j hj1, if_neg (fun e => kj e.symm), zk, show vlC h 0 = 0 from if_pos rfl, Int64.sub_zero, Int64.add_zero, Int64.add_sub_cancel]
          exact sR
        · unfold cyc
          omega
        · unfold cyc
          omega
        · rw [g ep hep, if_neg (fun e => jep e.symm), if_neg (fun e => by
            rw [e] at c1
            unfold cyc at c0 c1
            omega)]
          exact z0
      · have cle : cyc k j < cyc k ep := by
          unfold cyc at *
          omega
        have l3 := cyc_lt k ep
        refine ih _ cje _ k j hj1 rfl ⟨tbh_skip TH hk hj1 nj (by omega) (by omega), lR, okR, ct, ⟨cR, sR⟩, hk, Nat.mod_lt _ (by decide), ?_, ?_, z0⟩
        · unfold cyc at *
          omega
        · unfold cyc at *
          omega
    · have zj : R.getD j 0 = 0 := e5.symm.trans h5
      have IE := tbh_end TH sfC_lt hk hj1 kj zj
      have cl := cz_le (h.ar (Co + 1))
      obtain ⟨u1, u2, u3⟩ := CoinsAt.upd C' hz0 lR okR IE (by omega) (n := n) (w := w) (by rw [hn, cR]) (by rw [hw, sR])
      have eT : ∀ q, tbT (tbH h Co R n w) Co q = R.getD q 0 := fun q => by unfold tbT; rw [gar]
      have it : ∀ e, inTb (tbT (tbH h Co R n w) Co) e ↔ inTb (tbT h Co) e ∧ e ≠ tbT h Co p := fun e => by
        have : tbT (tbH h Co R n w) Co = fun q => R.getD q 0 := funext eT
        rw [this]
        exact ct e
      have ky : ∀ e, inTb (tbT h Co) e → kyC (tbH h Co R n w) e = kyC h e := fun e ⟨e0, q, hq, eq_⟩ => (u3 e (by rw [← eq_]; exact ok q hq (by rw [eq_]; exact e0))).2.1
      have un : ∀ e, inTb (tbT h Co) e → kyC h e = (id, v) → e = tbT h Co p := fun e ⟨e0, q, hq, eq_⟩ w1 => by
        rw [← eq_] at w1 e0 ⊢
        rw [IT.2 q p hq hp e0 n0 (w1.trans ek.symm)]
      refine ⟨u1, u2, ⟨rfl, rfl⟩, fun k' x => ?_, tbT h Co p, Or.inr ⟨n0, p, hp, rfl, ek⟩, by rw [gar, cR, if_neg n0]⟩
      rw [ofK_in, ofK_in]
      by_cases z : k' = (id, v)
      · rw [if_pos z]
        refine ⟨fun q => ?_, fun q => Or.inl ⟨q, fun e he w1 => ?_⟩⟩
        · rcases q with ⟨q, _⟩ | ⟨q1, q2⟩
          · exact q
          · have y := (it x).mp q1
            rw [ky x y.1, z] at q2
            exact absurd (un x y.1 q2) y.2
        · have y := (it e).mp he
          rw [ky e y.1, z] at w1
          exact y.2 (un e y.1 w1)
      · rw [if_neg z]
        refine ⟨fun q => ?_, fun q => ?_⟩
        · rcases q with ⟨q1, q2⟩ | ⟨q1, q2⟩
          · refine Or.inl ⟨q1, fun e he w1 => ?_⟩
            have ne : e ≠ tbT h Co p := fun y => z (by rw [← w1, y]; exact ek)
            have := q2 e ((it e).mpr ⟨he, ne⟩)
            rw [ky e he] at this
            exact this w1
          · have y := (it x).mp q1
            rw [ky x y.1] at q2
            exact Or.inr ⟨y.1, q2⟩
        · rcases q with ⟨q1, q2⟩ | ⟨q1, q2⟩
          · refine Or.inl ⟨q1, fun e he w1 => ?_⟩
            have y := (it e).mp he
            rw [ky e y.1] at w1
            exact q2 e y.1 w1
          · have ne : x ≠ tbT h Co p := fun y => z (by rw [← q2, y]; exact ek)
            exact Or.inr ⟨(it x).mpr ⟨q1, ne⟩, by rw [ky x q1]; exact q2⟩
theorem X9_remove_spec (hd : 4 ≤ d) (C : CoinsAt h Co) (hz0 : Co + 1 < h.z) (ka : h.kd ia = 101) (hl : off + 32 ≤ (h.ai ia).length) (hl2 : (h.ai ia).length < 2 ^ 31) (ei : sub_ (h.ai ia) off 32 = id) : Cw G mX9_remove d 0 [vR Co, vR ia, vI (nI off), vI v] h (kV (fun h' => RemP h h' Co (id, v)) nE) := by
  obtain ⟨d, rfl⟩ : ∃ d', d = d' + 1 := ⟨d - 1, by omega⟩
  have C' := C
  obtain ⟨⟨⟨t1, t2, t3, t4⟩, ok, IT, hz⟩, cn, vl⟩ := C
  have hd1 : 1 ≤ d := by omega
  refine eX9_remove h Co ia (nI off) v (fun _ => sX9_remove_0 h Co ia (nI off) v ⟨t1, (X9_find_spec (by omega) C'.1 ka hl hl2 ei).nI (fun x1 h2 Q => ?_)⟩)
  obtain ⟨e2, Q⟩ := Q
  rw [e2]
  rcases Q with ⟨p, hp, n0, ek, ex⟩ | ⟨hn, i, hi, h0, hb, ex⟩
  · have kc := ok p hp n0
    rw [ex]
    refine pk_le 0 p (fun _ r6 e6 => ?_) (fun q => absurd q (by omega))
    rw [show r6 = Co + 1 from e6.trans t2, t4, pk_cl p rfl (by omega)]
    refine ⟨t3, pk_in p 1024 hp, fun r9 e9 => ?_⟩
    have er : r9 = tbT h Co p := e9
    rw [er]
    refine ⟨kc.1, (X23_output_spec hd1 kc).nR (fun x10 h11 O10 => ?_)⟩
    obtain ⟨e10, k10, e11⟩ := O10
    rw [e11, e10]
    refine ⟨k10, fun h15 e15 h17 e17 => ?_⟩
    have ev : vlC h (tbT h Co p) = h.l 20000 (ouC h (tbT h Co p)) := if_neg n0
    have a17 : h17.ar = h.ar := by rw [e17, e15]; rfl
    have i15 : h15.i 9001 Co = h.i 9001 Co := by rw [e15]; rfl
    rw [a17, t4]
    refine ⟨pk_in p 1024 hp, fun h27 e27 => ?_⟩
    obtain ⟨ep, hep, hz1⟩ := cz_pos hz
    rw [t4] at hep
    have pe : p ≠ ep := fun e => n0 (by rw [e]; exact hz1)
    have cl := cz_le (h.ar (Co + 1))
    have cz0 := cz_z (l := h.ar (Co + 1)) (i := p) (by rw [t4]; exact hp)
    rw [show (h.ar (Co + 1)).getD p 0 = tbT h Co p from rfl, if_neg n0] at cz0
    have cl2 := cz_le ((h.ar (Co + 1)).set p 0)
    rw [List.length_set, t4] at cl2
    have eh : h27 = tbH h Co ((h.ar (Co + 1)).set p 0) (nI (1024 - (cz (h.ar (Co + 1)) + 1))) (h.l 9002 Co - vlC h (tbT h Co p)) := by
      rw [e27, e17, i15, e15, ev, cn, show (1 : Int32) = nI 1 from rfl, pk_sub (by omega), show 1024 - (cz (h.ar (Co + 1)) + 1) = 1024 - cz (h.ar (Co + 1)) - 1 by omega]
      rfl
    rw [eh]
    have g := row_set (L := h.ar (Co + 1)) (q := p) (c := 0) t4 hp
    have lR : ((h.ar (Co + 1)).set p 0).length = 1024 := by rw [List.length_set]; exact t4
    have ep1 : cyc p ((p + 1) % 1024) = 1 := by unfold cyc; omega
    refine rem_59 hd1 C' hz0 hp n0 ek hep rfl rfl _ _ p p hp rfl ⟨tbh_start IT hp g, lR, fun q hq h0 => ?_, fun e => ⟨fun ⟨e0, q, hq, w1⟩ => ?_, fun ⟨⟨e0, q, hq, w1⟩, w2⟩ => ⟨e0, q, hq, ?_⟩⟩, ⟨cz0, ?_⟩, hp, Nat.mod_lt _ (by decide), by omega, ?_, ?_⟩
    · rw [g q hq] at h0 ⊢
      by_cases w1 : q = p
      · rw [if_pos w1] at h0
        exact absurd rfl h0
      · rw [if_neg w1] at h0 ⊢
        exact ok q hq h0
    · have w1' : (if q = p then 0 else tbT h Co q) = e := (g q hq).symm.trans w1
      by_cases y : q = p
      · rw [if_pos y] at w1'
        exact absurd w1'.symm e0
      · rw [if_neg y] at w1'
        refine ⟨⟨e0, q, hq, w1'⟩, fun y2 => y ?_⟩
        have hk2 : kyC h (tbT h Co q) = kyC h (tbT h Co p) := by rw [w1', y2]
        exact IT.2 q p hq hp (by rw [w1']; exact e0) n0 hk2
    · show ((h.ar (Co + 1)).set p 0).getD q 0 = e
      rw [g q hq, if_neg (fun y => w2 (by rw [← w1, y]))]
      exact w1
    · rw [svL_set _ _ (by rw [t4]; exact hp), show (h.ar (Co + 1)).getD p 0 = tbT h Co p from rfl, show vlC h 0 = 0 from if_pos rfl, Int64.add_zero, vl]
    · rw [ep1]
      unfold cyc
      omega
    · rw [g ep hep, if_neg (fun y => pe y.symm)]
      exact hz1
  · have hq : (sfC (id, v) + i) % 1024 < 1024 := Nat.mod_lt _ (by decide)
    rw [ex]
    refine ⟨fun q => absurd q (neg_p _ hq), fun _ => ⟨C', Same.rf, ⟨rfl, rfl⟩, fun k' x => ?_, 0, Or.inl ⟨rfl, hn⟩, rfl⟩⟩
    by_cases z : k' = (id, v)
    · rw [if_pos z, z]
      refine ⟨fun q => ?_, fun q => Or.inl ⟨q, hn⟩⟩
      rcases q with ⟨q, _⟩ | ⟨q1, p, hp, q2, q3⟩
      · exact q
      · exact absurd (by rw [q2]; exact q3) (hn p hp (by rw [q2]; exact q1))
    · rw [if_neg z]
end Rem

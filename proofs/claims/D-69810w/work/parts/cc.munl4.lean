/-! the reference: unlocks -/
set_option maxRecDepth 100000
section MUnl4
variable {G : Gx} {d : Nat} {hB h h' h0 : AH} {M Z F O p N I J pp a n j inp : Nat} {K B L : List Int32} {t : TxP} {Bp : Pt} {st alt : List (List Int32)} {fl : Bool} {Q0 : List Int32} {pq ao nq row m Bk k0 : Nat} {tq : TxP} {cs pf : Nat → Nat} {idf : Nat → List Int32}
theorem MkS.pr76 (H : MkS h M Z) (v : Nat) : MkS (h.pr 24076 M v) M Z := by
  obtain ⟨a1, ⟨r1, r2, r3, r4, r5, r6, r7, r8, r9, r10, r11⟩, k, l, e8, hM, hz⟩ := H
  have R : ∀ q, q ≠ 24076 → (h.pr 24076 M v).r q M = h.r q M := fun q hq => by rw [AH.r_pr, if_neg (fun w => hq w.1)]
  exact ⟨a1, ⟨(R _ (by decide)).trans r1, (R _ (by decide)).trans r2, (R _ (by decide)).trans r3, (R _ (by decide)).trans r4, (R _ (by decide)).trans r5, (R _ (by decide)).trans r6, (R _ (by decide)).trans r7, (R _ (by decide)).trans r8, (R _ (by decide)).trans r9, (R _ (by decide)).trans r10, (R _ (by decide)).trans r11⟩, k, l, e8, hM, hz⟩
/-- the other stack stays where a stack is saved -/
theorem KsF.alts (x : KsF h h' M Z) (W : MWk h M Z) (ha : alt.length ≤ 1001) (S2 : StM h Z 1002 (Z + 3) alt) : StM h' Z 1002 (Z + 3) alt := by
  have hz := W.1.2.2.2.2.2
  have noS : ∀ i, i < 2004 → rwA h Z i ≠ 0 → ¬ inS h Z (rwA h Z i) := fun i hi h0 q => by
    obtain ⟨k, hk, q1, q2⟩ := q
    have := (W.2.1 k hk.2 q1).2 i (by omega) q2.symm
    omega
  refine S2.keep (by omega) (fun i hi => ?_)
  have s := (S2 i hi).1
  have t1 := (W.2.1 _ (by omega) s).1
  have n3 : ¬ ksP h M Z (Z + 3) := fun q => by
    rcases q with q | q | q | q
    · omega
    · omega
    · omega
    · obtain ⟨k, hk, q1, q2⟩ := q
      have := (W.2.1 k hk.2 q1).1.1
      omega
  refine ⟨x.2.2.1 _ (by omega), x.1.ai t1.2.1 (fun q => ?_), by rw [x.1.ai (by omega) n3]⟩
  rcases q with q | q | q | q
  · omega
  · omega
  · omega
  · exact noS _ (by omega) s q
set_option maxHeartbeats 2000000 in
theorem MD_unlocks_spec (hd : 23 ≤ d) (W0 : MWk h M Z) (sv : ∀ y, inS h Z y → O + 7 < y) (T0 : MdT h M) (E : MEnv (((h.pr 24076 M pp).pi 24077 M (nI j)).pi 24078 M (nI inp)) M Z F O p N I J pp a n j inp K B L t Bp) (P1 : PrS h pp) (P2 : h.r 26000 pp = a) (P3 : PrT h pp K B L j t) (ka : h.kd a = 101) (eL : h.ai a = L)
    (r51 : h.r 24051 M = row) (i52 : h.i 24052 M = nI m) (r46 : h.r 24046 M = Bk) (kB : h.kd Bk = 114) (lB : (h.ar Bk).length = 61) (kr : h.kd row = 100) (lr : m ≤ (h.ai row).length) (lr2 : (h.ai row).length < 2 ^ 31) (hc : ∀ k, k < m → (h.ai row).getD k 0 = nI (cs k) ∧ CoA h Bk (cs k) (pf (cs k)) (idf (cs k)))
    (hk0 : k0 < m) (enm : (idf (cs k0), cs k0 % 256) = (sub_ L (t.2.2.1.getD inp p0).1 32, leV L ((t.2.2.1.getD inp p0).1 + 32) 4)) (fst : ∀ i, i < k0 → (idf (cs i), cs i % 256) ≠ (sub_ L (t.2.2.1.getD inp p0).1 32, leV L ((t.2.2.1.getD inp p0).1 + 32) 4))
    (hq : pq = pf (cs k0)) (rq : h.r 26000 pq = ao) (kao : h.kd ao = 101) (eQ : h.ai ao = Q0) (Wq : TxW Q0 nq tq) (Tq : PrT h pq K B Q0 (cs k0 / 256 % 12) tq) (ho : cs k0 % 256 < tq.2.2.2.length) (ho2 : tq.2.2.2.length < 2 ^ 20) (qO : O + 7 < pq ∧ pq < h.z) (aO : O + 7 < ao ∧ ao < h.z) (l5 : Q0.length ≠ 520) (n16 : n ≤ 1600 ∧ nq ≤ 1600) :
    Cw G mX24_unlocks d 0 [vR M, vR pp, vI (nI j), vI (nI inp)] h (kI (fun x h' => x = bB (unP p N Bp K B L t inp L (t.2.2.1.getD inp p0).2.1 (t.2.2.1.getD inp p0).2.2 Q0 (tq.2.2.2.getD (cs k0 % 256) p0).2.1 (tq.2.2.2.getD (cs k0 % 256) p0).2.2) ∧ UnG h h' M Z F O ∧ MWk h' M Z ∧ MdT h' M ∧ (∀ y, inS h' Z y → O + 7 < y) ∧ MEnv h' M Z F O p N I J pp a n j inp K B L t Bp) nE) := by
  obtain ⟨d, rfl⟩ : ∃ d', d = d' + 1 := ⟨d - 1, by omega⟩
  have hM := E.1.1
  have kM := W0.1.1
  obtain ⟨W, TI, hinp, hj⟩ := E.1.2.2.1
  have w1 := W.1
  have wq := Wq.1
  have hlen := TI.2.2.2.1
  obtain ⟨v1, v2, v3⟩ := (W.2.2.1 inp hinp).1
  obtain ⟨⟨o1, o2, o3⟩, _⟩ := Wq.2.2.2 (cs k0 % 256) ho
  obtain ⟨_, c2, c3, c4, c5, c6⟩ := hc k0 hk0
  rw [← hq] at c4 c5 c6
  have cb : cs k0 / 3072 < 61 := by omega
  have et : cs k0 / 256 % 12 < 12 := Nat.mod_lt _ (by decide)
  have hd3 : 3 ≤ d := by omega
  have hd2 : 2 ≤ d := by omega
  have hd1 : 1 ≤ d := by omega
  refine eX24_unlocks h M pp (nI j) (nI inp) (fun wf => sX24_unlocks_0 h M pp (nI j) (nI inp) ⟨kM, (MD_input_spec hd3 kM P1 P2 ka eL W P3 hj hinp (by omega)).nI (fun x1 h2 Q => ?_)⟩)
  have Bq : isB Q0 := by rw [← eQ]; exact wf.isB kao
  obtain ⟨e1, u1, w1', e2⟩ := Q
  intro r5 e5
  rw [e2] at e5
  rw [e1, e2, show r5 = row from e5.trans r51]
  refine ⟨P1.1, fun r7 e7 => ?_⟩
  rw [show r7 = a from e7.trans P2, show (32 : Int32) = nI 32 from rfl, nI_add]
  refine (MD_number_spec (h := scH h M u1 w1') (k := 4) (by decide) hd1 ka (by show _ ≤ (h.ai a).length; rw [eL]; omega) (by show (h.ai a).length < _; rw [eL]; omega)).nJ (fun x8 h9 Q => ?_)
  obtain ⟨e8, e9⟩ := Q
  have e8' : x8 = lN (leV L ((t.2.2.1.getD inp p0).1 + 32) 4) := by
    rw [e8]
    show lN (leV (h.ai a) _ 4) = _
    rw [eL]
  have hx : leV L ((t.2.2.1.getD inp p0).1 + 32) 4 < 4294967296 := by
    have := leV_lt L ((t.2.2.1.getD inp p0).1 + 32) 4
    rw [show (256 : Nat) ^ 4 = 4294967296 by decide] at this
    exact this
  have i52' : (scH h M u1 w1').i 24052 M = nI m := by
    unfold scH
    rw [AH.i_pi, if_neg (fun q => absurd q.1 (by decide)), AH.i_pi, if_neg (fun q => absurd q.1 (by decide))]
    exact i52
  rw [e9, e8', i52']
  refine (MD_findCoin_spec (h := scH h M u1 w1') (cs := cs) (pf := pf) (idf := idf) (id := sub_ L (t.2.2.1.getD inp p0).1 32) hd2 kM r46 kB lB kr lr lr2 hc ka (by show _ ≤ (h.ai a).length; rw [eL]; omega) (by show (h.ai a).length < _; rw [eL]; omega) (by show sub_ (h.ai a) _ _ = _; rw [eL]) hx).nI (fun x13 h14 Q => ?_)
  obtain ⟨e14, Q⟩ := Q
  have ex13 : x13 = nI k0 := by
    rcases Q with ⟨k, hk, q1, q2, q3⟩ | ⟨q1, _⟩
    · rcases Nat.lt_trichotomy k k0 with w | w | w
      · exact absurd q1 (fst k w)
      · rw [q3, w]
      · exact absurd enm (q2 k0 w)
    · exact absurd enm (q1 k0 hk0)
  rw [e14, ex13, show (scH h M u1 w1').ai row = h.ai row from rfl, pk_cl k0 rfl (by omega), (hc k0 hk0).1]
  refine ⟨kr, pk_in k0 _ (by omega), fun u17 e17 r19 e19 => ?_⟩
  subst e17
  rw [show r19 = Bk from e19.trans r46, show (scH h M u1 w1').ar Bk = h.ar Bk from rfl, lB, show (3072 : Int32) = nI 3072 from rfl, pk_div (by omega) (by decide) (by decide), pk_cl (cs k0 / 3072) rfl (by omega)]
  refine ⟨kB, pk_in (cs k0 / 3072) 61 cb, fun r22 e22 => ?_⟩
  rw [e22]
  refine ⟨c3, fun r24 e24 => ?_⟩
  rw [show r24 = pq from e24.trans c4]
  refine ⟨c5.1, fun r26 e26 => ?_⟩
  rw [show r26 = ao from e26.trans rq, show (256 : Int32) = nI 256 from rfl, pk_div (by omega) (by decide) (by decide), show (12 : Int32) = nI 12 from rfl, jrem_n (by omega) (by decide) (by decide), and_255, u32_nI, show cs k0 % 4294967296 % 256 = cs k0 % 256 by omega]
  refine (MD_output_spec (h := scH h M u1 w1') hd3 kM c5 rq kao eQ Wq Tq et ho ho2).nI (fun x27 h28 Q => ?_)
  obtain ⟨e27, u2, w2, e28⟩ := Q
  rw [scH_sc] at e28
  rw [e27, e28, show (8 : Int32) = nI 8 from rfl, nI_add]
  refine (MD_script_spec (h := scH h M u2 w2) hd2 kM kao eQ wq.1 wq.2 o2 (by omega)).nI (fun x29 h30 Q => ?_)
  obtain ⟨e29, e30⟩ := Q
  rw [scH_sc] at e30
  have i40 : ∀ u v : Int32, (scH h M u v).i 24040 M = v ∧ (scH h M u v).i 24041 M = u := fun u v => by
    unfold scH
    exact ⟨by rw [AH.i_pi, if_pos ⟨rfl, rfl⟩], by rw [AH.i_pi, if_neg (fun q => absurd q.1 (by decide)), AH.i_pi, if_pos ⟨rfl, rfl⟩]⟩
  rw [e30, (i40 _ _).1, (i40 _ _).2, show (36 : Int32) = nI 36 from rfl, nI_add]
  refine (MD_script_spec (h := scH h M (nI (tq.2.2.2.getD (cs k0 % 256) p0).2.2) (nI (tq.2.2.2.getD (cs k0 % 256) p0).2.1)) hd2 kM ka eL w1.1 w1.2 v2 (by omega)).nI (fun x42 h43 Q => ?_)
  obtain ⟨e42, e43⟩ := Q
  rw [scH_sc] at e43
  rw [e43, (i40 _ _).1, (i40 _ _).2]
  intro h45 e45 h47 e47 h49 e49 h51 e51
  have e49' : h49 = scH (((h.pr 24076 M pp).pi 24077 M (nI j)).pi 24078 M (nI inp)) M (nI (t.2.2.1.getD inp p0).2.2) (nI (t.2.2.1.getD inp p0).2.1) := by rw [e49, e47, e45]; exact set_sc _ _
  have E49 : MEnv h49 M Z F O p N I J pp a n j inp K B L t Bp := by rw [e49']; exact (E.pj _ (Or.inr (Or.inl rfl))).pj _ (Or.inl rfl)
  have W49 : MWk h49 M Z := by
    rw [e49']
    exact (((MWk.pi (h := (h.pr 24076 M pp)) ⟨W0.1.pr76 pp, W0.2⟩ _ _).pi _ _).pi _ _).pi _ _
  have E51 : MEnv h51 M Z F O p N I J pp a n j inp K B L t Bp := by rw [e51]; exact E49.pk W49 0 (by decide)
  have W51 : MWk h51 M Z := by rw [e51]; exact W49.pi _ _
  have a51 : h51.ai = h.ai := by rw [e51, e49']; rfl
  have k51 : h51.kd = h.kd := by rw [e51, e49']; rfl
  have ar51 : h51.ar = h.ar := by rw [e51, e49']; rfl
  have z51 : h51.z = h.z := by rw [e51, e49']; rfl
  have s51 : h51.s = h.s := by rw [e51, e49']; rfl
  have S51 : Same (fun y => y = M) h h51 := by
    rw [e51, e49']
    unfold scH
    exact ((((((Same.rf (P := fun y => y = M)).pr _ _ (Or.inl rfl)).pi _ _ (Or.inl rfl)).pi _ _ (Or.inl rfl)).pi _ _ (Or.inl rfl)).pi _ _ (Or.inl rfl)).pi _ _ (Or.inl rfl)
  have K51 : Kp unK M h h51 := by
    rw [e51, e49']
    unfold scH
    exact (((((Kp.rf.pr _ _ (Or.inl (by decide))).pi _ _ (Or.inl (by decide))).pi _ _ (Or.inl (by decide))).pi _ _ (Or.inl (by decide))).pi _ _ (Or.inl (by decide))).pi _ _ (Or.inl (by decide))
  have i51 : h51.i 24067 M = nI 0 := by
    rw [e51, AH.i_pi, if_pos ⟨rfl, rfl⟩]
    rfl
  clear e51 e49 e47 e45 e49'
  have G51 : UnG h h51 M Z F O := UnG.fld S51 ar51 z51 s51 K51
  have T51 : MdT h51 M := ⟨by rw [a51]; exact T0.1, by rw [a51]; exact T0.2.1, by rw [a51]; exact T0.2.2⟩
  have sv51 : ∀ y, inS h51 Z y → O + 7 < y := fun y q => sv y (by
    unfold inS rwA at q ⊢
    rw [ar51] at q
    exact q)
  have aO' := E.1.2.2.2.2.1
  have l52 := E.1.2.2.2.2.2
  have az : a < h.z := E.2.2.2.2.2.2.2.1.2.1
  have tb51 := E51.2.2.2.2.2.2.2.2
  have z7 := E51.2.2.2.2.2.2.2.1.1
  have nTa : ¬ inT h51 Z a := tb_no W51.2.1 (Or.inr (by rw [a51, eL]; exact l52))
  refine (MD_run_spec (S := L) (off := (t.2.2.1.getD inp p0).2.1) (sz := (t.2.2.1.getD inp p0).2.2) (st := []) (by omega) E51 T51 ⟨W51, ⟨i51, Nat.zero_le _⟩, fun i hi => absurd hi (Nat.not_lt_zero _)⟩ (by rw [k51]; exact ka) (by rw [a51]; exact eL) ⟨aO', by rw [z51]; exact az⟩ nTa (by omega) (by omega) (by omega) rfl).nI (fun x62 h63 Q => ?_)
  obtain ⟨Qr, W63, R63, E63, T63⟩ := Q
  have G63 : UnG h h63 M Z F O := G51.trans (R63.u hM tb51 z7)
  have sv63 := (sv_rn R63 hM tb51 z7 W51.2.1 sv51).1
  have pq51 : ¬ inT h51 Z pq := tb_no W51.2.1 (Or.inl (by rw [k51, c5.1]; decide))
  have ao51 : ¬ inT h51 Z ao := tb_no W51.2.1 (Or.inr (by rw [a51, eQ]; exact l5))
  have eqP := S51.2.2 pq qO.2 (by omega)
  have kpq := (R63.keep hM qO.1 (by rw [z51]; exact qO.2) pq51).1
  have kao' := (R63.keep hM aO.1 (by rw [z51]; exact aO.2) ao51).1
  have zq : pq < h63.z ∧ ao < h63.z := ⟨(R63.keep hM qO.1 (by rw [z51]; exact qO.2) pq51).2.2, (R63.keep hM aO.1 (by rw [z51]; exact aO.2) ao51).2.2⟩
  have kq63 : h63.kd pq = 26 := kpq.1.trans (eqP.1.trans c5.1)
  have rq63 : h63.r 26000 pq = ao := (kpq.2.1 _).trans ((eqP.2.1 _).trans rq)
  have ka63 : h63.kd ao = 101 := kao'.1.trans (by rw [k51]; exact kao)
  have eQ63 : h63.ai ao = Q0 := kao'.2.2.2.2.1.trans (by rw [a51]; exact eQ)
  rcases Qr with ⟨st1, eR, ex, l1, alt1, m1⟩ | ⟨eR, ex⟩
  · have hun : unP p N Bp K B L t inp L (t.2.2.1.getD inp p0).2.1 (t.2.2.1.getD inp p0).2.2 Q0 (tq.2.2.2.getD (cs k0 % 256) p0).2.1 (tq.2.2.2.getD (cs k0 % 256) p0).2.2 = (match runP p N Bp K B L t inp Q0 (tq.2.2.2.getD (cs k0 % 256) p0).2.1 ((tq.2.2.2.getD (cs k0 % 256) p0).2.1 + (tq.2.2.2.getD (cs k0 % 256) p0).2.2) st1 with | none => false | some st2 => if topT st2 = false then false else if nestB Q0 (tq.2.2.2.getD (cs k0 % 256) p0).2.1 (tq.2.2.2.getD (cs k0 % 256) p0).2.2 = false then true else if (pushesF L ((t.2.2.1.getD inp p0).2.1 + (t.2.2.1.getD inp p0).2.2) (t.2.2.1.getD inp p0).2.2 (t.2.2.1.getD inp p0).2.1 && decide (0 < st1.length)) = false then false else (match runP p N Bp K B L t inp (tp st1 0) 0 (tp st1 0).length (dr st1 1) with | none => false | some st3 => topT st3)) := by
      unfold unP
      rw [eR]
      rfl
    have l3 := m1.2.1.2.2.1
    have U0 : UnT h63 h63 M Z F O p N I J pp a n j inp K B L t Bp := ⟨W63, RnG.rf, E63, T63, sv63⟩
    have plain : nestB Q0 (tq.2.2.2.getD (cs k0 % 256) p0).2.1 (tq.2.2.2.getD (cs k0 % 256) p0).2.2 = false → Aw G mX24_unlocks (d + 1) 0 h (kI (fun x h' => x = bB (unP p N Bp K B L t inp L (t.2.2.1.getD inp p0).2.1 (t.2.2.1.getD inp p0).2.2 Q0 (tq.2.2.2.getD (cs k0 % 256) p0).2.1 (tq.2.2.2.getD (cs k0 % 256) p0).2.2) ∧ UnG h h' M Z F O ∧ MWk h' M Z ∧ MdT h' M ∧ (∀ y, inS h' Z y → O + 7 < y) ∧ MEnv h' M Z F O p N I J pp a n j inp K B L t Bp) nE) 240 [vR M, vR pp, vU, vU, vU, vU, vR pq, vI (nI (tq.2.2.2.getD (cs k0 % 256) p0).2.1), vI (nI (tq.2.2.2.getD (cs k0 % 256) p0).2.2), vI (nI (t.2.2.1.getD inp p0).2.1), vI (nI (t.2.2.1.getD inp p0).2.2), vI 0, vU] [] h63 := fun nf => by
      have key := un_240 (G := G) (d := d) (h0 := h) (pq := pq) (ao := ao) (Q0 := Q0) (oo := (tq.2.2.2.getD (cs k0 % 256) p0).2.1) (osz := (tq.2.2.2.getD (cs k0 % 256) p0).2.2) (io := (t.2.2.1.getD inp p0).2.1) (isz := (t.2.2.1.getD inp p0).2.2) (by omega) U0 m1 l1 (fun q => absurd (nf.symm.trans q) (by decide)) kq63 rq63 ⟨qO.1, zq.1⟩ ka63 eQ63 ⟨aO.1, zq.2⟩ l5 (by omega) (by omega) (by omega) (by omega) hun
      rw [nf] at key
      refine key.monoI (fun x h' Q => ?_)
      obtain ⟨q1, q2⟩ := Q
      exact ⟨q1, G63.trans (q2.2.1.u hM E63.2.2.2.2.2.2.2.2 E63.2.2.2.2.2.2.2.1.1), q2.1, q2.2.2.2.1, q2.2.2.2.2, q2.2.2.1⟩
    have nested : nestB Q0 (tq.2.2.2.getD (cs k0 % 256) p0).2.1 (tq.2.2.2.getD (cs k0 % 256) p0).2.2 = true → Cw G mX24_keepStack d 0 [vR M] h63 (kV (fun h69 => Aw G mX24_unlocks (d + 1) 0 h (kI (fun x h' => x = bB (unP p N Bp K B L t inp L (t.2.2.1.getD inp p0).2.1 (t.2.2.1.getD inp p0).2.2 Q0 (tq.2.2.2.getD (cs k0 % 256) p0).2.1 (tq.2.2.2.getD (cs k0 % 256) p0).2.2) ∧ UnG h h' M Z F O ∧ MWk h' M Z ∧ MdT h' M ∧ (∀ y, inS h' Z y → O + 7 < y) ∧ MEnv h' M Z F O p N I J pp a n j inp K B L t Bp) nE) 240 [vR M, vR pp, vU, vU, vU, vU, vR pq, vI (nI (tq.2.2.2.getD (cs k0 % 256) p0).2.1), vI (nI (tq.2.2.2.getD (cs k0 % 256) p0).2.2), vI (nI (t.2.2.1.getD inp p0).2.1), vI (nI (t.2.2.1.getD inp p0).2.2), vI 1, vU] [] h69) (fun x h => (kI (fun x h' => x = bB (unP p N Bp K B L t inp L (t.2.2.1.getD inp p0).2.1 (t.2.2.1.getD inp p0).2.2 Q0 (tq.2.2.2.getD (cs k0 % 256) p0).2.1 (tq.2.2.2.getD (cs k0 % 256) p0).2.2) ∧ UnG h h' M Z F O ∧ MWk h' M Z ∧ MdT h' M ∧ (∀ y, inS h' Z y → O + 7 < y) ∧ MEnv h' M Z F O p N I J pp a n j inp K B L t Bp) nE) (.inr x) h)) := fun nt => by
      refine (MD_keepStack_spec hd2 W63 m1.2.1.1 m1.2.2.1 l3).nV (fun h69 KI => ?_)
      obtain ⟨⟨W69, i67, s69⟩, S2, KF, i73⟩ := KI
      rw [List.take_length] at S2
      obtain ⟨E69, sv69, mt⟩ := KF.env E63 W63.2.1 sv63 W63.1.2.2.2.2.2.2
      have m69 : MOm h69 M Z st1 alt1 := ⟨W69, ⟨i67, (KF.2.2.2.2.2 24070 (by decide)).2.1.trans m1.2.1.2.1, l3, m1.2.1.2.2.2⟩, s69, KF.alts W63 m1.2.1.2.2.2 m1.2.2.2⟩
      have noK : ∀ y, O + 7 < y → (h63.kd y ≠ 101 ∨ (h63.ai y).length ≠ 520) → ¬ ksP h63 M Z y := fun y hy hk q => by
        rcases q with q | q | q | q
        · omega
        · omega
        · omega
        · obtain ⟨i, hi, q1, q2⟩ := q
          have t1 := (W63.2.1 i hi.2 q1).1
          rw [q2] at t1
          rcases hk with hk | hk
          · exact hk t1.2.2.1
          · exact hk t1.2.2.2.1
      have ep := KF.1.2.2 pq zq.1 (noK pq qO.1 (Or.inl (by rw [kq63]; decide)))
      have eo := KF.1.2.2 ao zq.2 (noK ao aO.1 (Or.inr (by rw [eQ63]; exact l5)))
      have z69 := KF.1.1
      have key := un_240 (G := G) (d := d) (h0 := h) (pq := pq) (ao := ao) (Q0 := Q0) (oo := (tq.2.2.2.getD (cs k0 % 256) p0).2.1) (osz := (tq.2.2.2.getD (cs k0 % 256) p0).2.2) (io := (t.2.2.1.getD inp p0).2.1) (isz := (t.2.2.1.getD inp p0).2.2) (by omega) ⟨W69, RnG.rf, E69, mt T63, sv69⟩ m69 l1 (fun _ => ⟨S2, i73⟩) (ep.1.trans kq63) ((ep.2.1 _).trans rq63) ⟨qO.1, by omega⟩ (eo.1.trans ka63) (eo.2.2.2.2.1.trans eQ63) ⟨aO.1, by omega⟩ l5 (by omega) (by omega) (by omega) (by omega) hun
      rw [nt] at key
      refine key.monoI (fun x h' Q => ?_)
      obtain ⟨q1, q2⟩ := Q
      exact ⟨q1, (G63.trans KF.u).trans (q2.2.1.u hM E69.2.2.2.2.2.2.2.2 E69.2.2.2.2.2.2.2.1.1), q2.1, q2.2.2.2.1, q2.2.2.2.2, q2.2.2.1⟩
    rw [ex]
    have bb : ∀ i (v : Int32) (b : Nat), i < Q0.length → b < 256 → v = bI b → v.toInt8.toInt32 = v → (Q0.getD i 0 = v ↔ ub Q0 i = b) := fun i v b hi hb hv hvb => byte_eq (Bq _) hb hv hvb
    have nsf : ¬ ((tq.2.2.2.getD (cs k0 % 256) p0).2.2 = 23 ∧ ub Q0 (tq.2.2.2.getD (cs k0 % 256) p0).2.1 = 169 ∧ ub Q0 ((tq.2.2.2.getD (cs k0 % 256) p0).2.1 + 1) = 20 ∧ ub Q0 ((tq.2.2.2.getD (cs k0 % 256) p0).2.1 + 22) = 135) → nestB Q0 (tq.2.2.2.getD (cs k0 % 256) p0).2.1 (tq.2.2.2.getD (cs k0 % 256) p0).2.2 = false := fun q => decide_eq_false q
    refine ⟨fun _ => pk_eq' (tq.2.2.2.getD (cs k0 % 256) p0).2.2 23 (fun z => ⟨fun _ => plain (nsf (fun w => z w.1)), fun q => absurd rfl q⟩) (fun z => ?_), fun q => absurd q (by decide)⟩
    rw [eQ63, nI_1, show (22 : Int32) = nI 22 from rfl, nI_add, pk_cl (tq.2.2.2.getD (cs k0 % 256) p0).2.1 rfl (by omega), pk_cl ((tq.2.2.2.getD (cs k0 % 256) p0).2.1 + 1) rfl (by omega), pk_cl ((tq.2.2.2.getD (cs k0 % 256) p0).2.1 + 22) rfl (by omega), bb (tq.2.2.2.getD (cs k0 % 256) p0).2.1 (-87) 169 (by omega) (by decide) (by decide) (by decide), bb ((tq.2.2.2.getD (cs k0 % 256) p0).2.1 + 1) 20 20 (by omega) (by decide) (by decide) (by decide), bb ((tq.2.2.2.getD (cs k0 % 256) p0).2.1 + 22) (-121) 135 (by omega) (by decide) (by decide) (by decide)]
    exact ⟨ka63, pk_in (tq.2.2.2.getD (cs k0 % 256) p0).2.1 Q0.length (by omega), fun q1 => ⟨fun _ => plain (nsf (fun w => q1 w.2.1)), fun q => absurd rfl q⟩, fun q1 => ⟨pk_in ((tq.2.2.2.getD (cs k0 % 256) p0).2.1 + 1) Q0.length (by omega), fun q2 => ⟨fun _ => plain (nsf (fun w => q2 w.2.2.1)), fun q => absurd rfl q⟩, fun q2 => ⟨pk_in ((tq.2.2.2.getD (cs k0 % 256) p0).2.1 + 22) Q0.length (by omega), fun q3 => ⟨fun _ => plain (nsf (fun w => q3 w.2.2.2)), fun q => absurd rfl q⟩, fun q3 => ⟨fun q => absurd q (by decide), fun _ => nested (decide_eq_true ⟨z, q1, q2, q3⟩)⟩⟩⟩⟩
  · rw [ex]
    refine ⟨fun q => absurd rfl q, fun _ => ⟨?_, G63, W63, T63, sv63, E63⟩⟩
    unfold unP
    rw [eR]
    rfl
end MUnl4

/-! the reference: one operation -/
set_option maxRecDepth 100000
section MAct
variable {G : Gx} {d : Nat} {hB h h' h0 : AH} {M Z F O p N I J pp a n j inp : Nat} {K B L : List Int32} {t : TxP} {Bp : Pt} {st alt : List (List Int32)} {fl : Bool} {S : List Int32} {op i b e ops sa : Nat} {br : List Bool}
theorem Aw.monoV {X : Mx} {D t' pc : Nat} {lv sv : List AV} {P Q : AH → Prop} (k : Aw G X D t' h0 (kV P nE) pc lv sv h) (f : ∀ h', P h' → Q h') : Aw G X D t' h0 (kV Q nE) pc lv sv h := k.mono (fun o h' q => by
  cases o with
  | inl v =>
    cases v with
    | none => exact f h' q
    | some v => exact False.elim q
  | inr x => exact q)
theorem opSz_0 (h : 78 < ub S i) : opSz S i = 0 := by
  unfold opSz opHd
  rw [if_neg (by omega), if_neg (by omega), if_neg (by omega), if_neg (by omega)]
  rfl
theorem opLen_1 (h : 78 < ub S i) (h0 : opLen S i e ≠ 0) : opLen S i e = 1 := by
  rw [opLen_eq h0, opSz_0 h]
  unfold opHd
  rw [if_neg (by omega), if_neg (by omega), if_neg (by omega)]
theorem actP_push (hu : ub S i ≤ 78) (hT : allT br = true) : actP p N Bp K B L t inp S e i (b, ops, st, alt, br) = some (b, ops, st ++ [sub_ S (i + opHd (ub S i)) (opSz S i)], alt, br) := by
  unfold actP
  rw [if_pos hu, if_pos (show allT br = true from hT)]
/-- two elements are the same -/
theorem eqN_sub {R1 R2 x y : List Int32} (l : x.length = y.length) (q1 : eqN x.length R1 x) (q2 : eqN y.length R2 y) : sub_ R1 0 x.length = sub_ R2 0 x.length ↔ x = y := by
  have e1 : sub_ R1 0 x.length = x := by rw [sub_cg q1 (by omega), subF]
  have e2 : sub_ R2 0 x.length = y := by rw [l, sub_cg q2 (by omega), subF]
  rw [e1, e2]
/-- the answer of a comparison -/
theorem eq_end {β : Bool} {X : Nat → AH → Prop} {v : Int32} (hd : 5 ≤ d) (I1 : QI h h M Z false st alt) (h2 : 2 ≤ st.length) (hs : st.length ≤ 1000) (he : op = 135 ∨ op = 136) (hβ : β = decide (tp st 0 = tp st 1)) {g : AH} (eg : g = h.pi 24067 M (h.i 24067 M - 2)) (ev : v = bB β) :
    ((¬ nI op = 136 → Cw G mX24_answer d 0 [vR M, vI v, vI 0] g (kV (fun h' => OkQ h h' M Z (movP op st alt)) X)) ∧ (nI op = 136 → Cw G mX24_answer d 0 [vR M, vI v, vI 1] g (kV (fun h' => OkQ h h' M Z (movP op st alt)) X))) := by
  have J1 := I1.dr1 (n := 2) h2 eg
  have ld := dr_len st 2
  rw [ev]
  rcases he with rfl | rfl
  · refine ⟨fun _ => ?_, fun q => absurd q (by decide)⟩
    have eP : movP 135 st alt = some (dr st 2 ++ [tv β], alt) := by
      rw [hβ]
      exact if_neg (show ¬ st.length < 2 by omega)
    rw [eP]
    exact m_answer (vf := false) hd J1 (by omega) (fun _ h' J2 => OkQ.ok J2 rfl) (fun z => absurd z (by decide))
  · refine ⟨fun q => absurd rfl q, fun _ => ?_⟩
    have eP : movP 136 st alt = if st.length < 2 ∨ ¬ tp st 0 = tp st 1 then none else some (dr st 2, alt) := rfl
    refine m_answer (vf := true) hd J1 (by omega) (fun z => absurd z (by decide)) (fun _ h' J2 => ?_)
    cases hb : β with
    | true =>
      rw [hb] at J2 hβ
      have := of_decide_eq_true hβ.symm
      exact OkQ.ok J2 (by rw [eP, if_neg (fun q => q.elim (fun q => by omega) (fun q => q this))])
    | false =>
      rw [hb] at J2 hβ
      have := of_decide_eq_false hβ.symm
      exact OkQ.no J2 (by rw [eP, if_pos (Or.inr this)])
set_option maxHeartbeats 1000000 in
/-- operations that compare two elements -/
theorem act_144 (hd : 5 ≤ d) (H : MOm h M Z st alt) (F0 : h.i 24074 M = 0) (hs : st.length ≤ 1000) (he : op = 135 ∨ op = 136) :
    Aw G mX24_act (d + 1) 0 h (kV (fun h' => OkQ h h' M Z (movP op st alt)) nE) 144 [vR M, vI (nI op), vU, vU, vU] [] h := by
  have I0 := QI.rf H F0
  have Hs := H.1.1
  have hd1 : 1 ≤ d := by omega
  refine sX24_act_144 h M (nI op) ⟨Hs.1, m_need (n := 2) hd1 (by decide) I0 (fun g1 => ⟨fun _ r6 e6 => ?_, fun q => absurd q (by decide)⟩) (fun g1 h2 J1 => ⟨fun q => absurd rfl q, fun _ => OkQ.no J1 ?_⟩)⟩
  · obtain ⟨a1, a2, a3, a4, a5, a6, a7, a8, _⟩ := H.elt (k := 0) (by omega)
    obtain ⟨b1, b2, b3, b4, b5, b6, b7, b8, _⟩ := H.elt (k := 1) (by omega)
    rw [Nat.sub_zero] at a1 a2 a4 a5 a6 a7 a8
    rw [show st.length - 1 - 1 = st.length - 2 by omega] at b1 b2 b4 b5 b6 b7 b8
    have e1 : h.i 24067 M - 1 = nI (st.length - 1) := by rw [H.2.1.1, show (1 : Int32) = nI 1 from rfl, pk_sub (by omega)]
    have e2 : h.i 24067 M - 2 = nI (st.length - 2) := by rw [H.2.1.1, show (2 : Int32) = nI 2 from rfl, pk_sub (by omega)]
    have p1 : st.length - 1 < 1002 := by omega
    have p2 : st.length - 2 < 1002 := by omega
    have e2' : h.i 24067 M - 2 = h.i 24067 M - 2 := rfl
    have c1 : (h.i 24067 M - 1).toNatClampNeg = st.length - 1 := by rw [e1, pk_cl (st.length - 1) rfl (by omega)]
    have c2 : (h.i 24067 M - 2).toNatClampNeg = st.length - 2 := by rw [e2, pk_cl (st.length - 2) rfl (by omega)]
    have v1 : vp_in (h.i 24067 M - 1) 1002 := by rw [e1]; exact pk_in _ 1002 p1
    have v2 : vp_in (h.i 24067 M - 2) 1002 := by rw [e2]; exact pk_in _ 1002 p2
    have no : ¬ tp st 0 = tp st 1 → Aw G mX24_act (d + 1) 0 h (kV (fun h' => OkQ h h' M Z (movP op st alt)) nE) 223 [vR M, vI (nI op), vU, vU, vU] [] h := fun z =>
      sX24_act_223 h M (nI op) ⟨Hs.1, fun h2 e2 => eq_end (β := false) hd I0 g1 hs he (by rw [decide_eq_false z]) e2 rfl⟩
    rw [show r6 = Z + 1 from e6.trans Hs.2.1.2.1, c1, c2, Hs.2.2.2.1.2.1, a2, b2]
    refine ⟨Hs.2.2.1.2.1, v1, v2, pk_eq' (tp st 0).length (tp st 1).length (fun z => no (fun q => z (by rw [q]))) (fun z r11 e11 => ?_)⟩
    rw [show r11 = Z from e11.trans Hs.2.1.1, Hs.2.2.2.1.1, a5, b5]
    refine ⟨Hs.2.2.1.1, v1, fun r14 e14 => ⟨v2, fun r16 e16 => ⟨v1, ?_⟩⟩⟩
    rw [e14, e16]
    refine (MD_alike_spec (i := 0) (k := 0) (n := (tp st 0).length) hd1 a6 b6 (by omega) (by omega) (by omega) (by omega)).nI (fun x18 h19 Q => ?_)
    obtain ⟨ex, eh⟩ := Q
    have eqv := eqN_sub z a4 b4
    rw [eh]
    refine ⟨fun q => no (fun y => ?_), fun q h24 e24 => ?_⟩
    · rw [ex, decide_eq_true (eqv.mpr y)] at q
      exact absurd q (by decide)
    · have y : tp st 0 = tp st 1 := by
        by_cases y : tp st 0 = tp st 1
        · exact y
        · rw [ex, decide_eq_false (fun w => y (eqv.mp w))] at q
          exact absurd rfl q
      exact eq_end (β := true) hd I0 g1 hs he (by rw [decide_eq_true y]) e24 rfl
  · rcases he with rfl | rfl
    · exact if_pos (show st.length < 2 from g1)
    · exact if_pos (Or.inl g1)
set_option maxHeartbeats 1000000 in
theorem MD_act_spec (hd : 14 ≤ d) (h2 : op < 99 ∨ 104 < op) (h3 : nvB op = false) (hu : ub S i = op) (hT : allT br = true) (E : MEnv h M Z F O p N I J pp a n j inp K B L t Bp) (T : MdT h M) (H : MOm h M Z st alt) (F0 : h.i 24074 M = 0) (hsa : st.length + alt.length ≤ 1000) (hops : ops ≤ 201) (c1 : h.r 24079 M = sa) (c2 : h.i 24080 M = nI b) (c3 : h.i 24081 M = nI e) (o1 : h.i 24082 M = nI ops) (B1 : BrM h M Z br) (ks : h.kd sa = 101) (eS : h.ai sa = S) (sO : O + 7 < sa ∧ sa < h.z) (hbe : b ≤ e) (hl : e ≤ S.length) (hl2 : S.length < 2 ^ 16) (hn : e - b ≤ 1600) (hie : i < e) (h0 : opLen S i e ≠ 0) (h52 : op ≤ 78 → opSz S i ≤ 520) (f63 : h.i 24063 M = nI (opSz S i)) (nT : ¬ inT h Z sa) :
    Cw G mX24_act d 0 [vR M, vI (nI op), vR sa, vI (nI (i + opLen S i e))] h (kV (fun h' => OkA h h' M Z F O p N I J pp a n j inp K B L t Bp (actP p N Bp K B L t inp S e i (b, ops, st, alt, br))) nE) := by
  obtain ⟨d, rfl⟩ : ∃ d', d = d' + 1 := ⟨d - 1, by omega⟩
  have Hs := H.1.1
  have kM := Hs.1
  have I0 := QI.rf H F0
  have hd1 : 1 ≤ d := by omega
  have hd2 : 2 ≤ d := by omega
  have hd3 : 3 ≤ d := by omega
  have hd5 : 5 ≤ d := by omega
  have hd6 : 6 ≤ d := by omega
  have hdC : 12 ≤ d := by omega
  have hs : st.length ≤ 1000 := by omega
  have ho : op < 256 := by rw [← hu]; exact ub_lt S i
  have l3 := H.2.1.2.2.1
  have okq : ∀ {g : AH} {R : Option (List (List Int32) × List (List Int32))}, (78 < op ∧ (op < 171 ∨ 175 < op)) → OkQ h g M Z R → stepP K B (lkV L t) (sqV L t inp) op st alt = R → OkA h g M Z F O p N I J pp a n j inp K B L t Bp (actP p N Bp K B L t inp S e i (b, ops, st, alt, br)) := fun q x e_ => (x.m E H.1).act c2 o1 B1 (by rw [actP_stp hu q.1 h2 q.2 hT, e_])
  have oc : ∀ {n : Nat}, n < 256 → nI op = nI n → op = n := fun hn q => (nI_eq (by omega) (by omega)).mp q
  have pnum : (op = 79 ∨ (81 ≤ op ∧ op ≤ 96)) → Cw G mX24_pushNumber d 0 [vR M, vJ ((nI op - 80).toInt64)] h (kV (fun h' => OkA h h' M Z F O p N I J pp a n j inp K B L t Bp (actP p N Bp K B L t inp S e i (b, ops, st, alt, br))) nE) := fun q => by
    have en : (nI op - 80).toInt64 = lZ ((op : Int) - 80) := by
      rcases q with q | q
      · rw [q]
        decide
      · rw [show (80 : Int32) = nI 80 from rfl, pk_sub (by omega), nI_l (by omega), lZ_n]
        congr 1
        omega
    rw [en]
    refine m_pn hd3 (by omega) I0 (fun _ h' J1 => okq (by omega) (OkQ.ok J1 rfl) ?_) (fun z => absurd z (by omega))
    unfold stepP
    rw [if_pos q]
  have s96 : (op = 80 ∨ (97 ≤ op ∧ op < 105) ∨ op = 106 ∨ (125 < op ∧ op < 139)) → Aw G mX24_act (d + 1) 0 h (kV (fun h' => OkA h h' M Z F O p N I J pp a n j inp K B L t Bp (actP p N Bp K B L t inp S e i (b, ops, st, alt, br))) nE) 96 [vR M, vI (nI op), vU, vU, vU] [] h := fun q0 => by
    have mv : op = 97 ∨ stepP K B (lkV L t) (sqV L t inp) op st alt = movP op st alt := by
      by_cases z : op = 97
      · exact Or.inl z
      · exact Or.inr (stepP_mov (by omega))
    have c144 : (op = 135 ∨ op = 136) → Aw G mX24_act (d + 1) 0 h (kV (fun h' => OkA h h' M Z F O p N I J pp a n j inp K B L t Bp (actP p N Bp K B L t inp S e i (b, ops, st, alt, br))) nE) 144 [vR M, vI (nI op), vU, vU, vU] [] h := fun q => (act_144 hd5 H F0 hs q).monoV (fun h' Q => okq (by omega) Q (mv.resolve_left (by omega)))
    refine sX24_act_96 h M (nI op) (pk_eq' op 130 (fun q1 => pk_eq op 135 (fun q2 => c144 (Or.inl q2)) (fun q2 => pk_eq' op 136 (fun q3 => pk_eq op 97 (fun q4 => ?_) (fun q4 => ⟨kM, fun h6 e6 => ?_⟩)) (fun q3 => c144 (Or.inr q3)))) (fun q1 => ⟨kM, ?_⟩))
    · exact okq (by omega) (OkQ.ok I0 rfl) (stepP_nop (Or.inl q4))
    · refine okq (by omega) (OkQ.no (st := st) (alt := alt) (by rw [e6]; exact I0.fail) rfl) ((mv.resolve_left q4).trans (movP_no (by omega)))
    · have eP : stepP K B (lkV L t) (sqV L t inp) op st alt = if st.length < 1 then none else some (st ++ [encI (tp st 0).length], alt) := by
        subst q1
        rfl
      refine m_need (n := 1) hd1 (by decide) I0 (fun g1 => ⟨fun q => absurd q (by decide), fun _ r12 e12 => ?_⟩) (fun g1 h8 J1 => ⟨fun _ => okq (by omega) (OkQ.no J1 rfl) (by rw [eP, if_pos g1]), fun q => absurd rfl q⟩)
      obtain ⟨a1, a2, a3, a4, a5, a6, a7, a8, _⟩ := H.elt (k := 0) (by omega)
      rw [Nat.sub_zero] at a2
      have p1 : st.length - 1 < 1002 := by omega
      rw [show r12 = Z + 1 from e12.trans Hs.2.1.2.1, H.2.1.1, show (1 : Int32) = nI 1 from rfl, pk_sub g1, pk_cl (st.length - 1) rfl (by omega), Hs.2.2.2.1.2.1, a2, nI_l (by omega), lZ_n]
      exact ⟨Hs.2.2.1.2.1, pk_in _ 1002 p1, m_pn hd3 (by omega) I0 (fun _ h' J1 => okq (by omega) (OkQ.ok J1 rfl) (by rw [eP, if_neg (by omega)])) (fun z => absurd z (by omega))⟩
  have s54 : (op = 80 ∨ 97 ≤ op) → Aw G mX24_act (d + 1) 0 h (kV (fun h' => OkA h h' M Z F O p N I J pp a n j inp K B L t Bp (actP p N Bp K B L t inp S e i (b, ops, st, alt, br))) nE) 54 [vR M, vI (nI op), vU, vI (nI (i + opLen S i e)), vU] [] h := fun q0 => by
    refine sX24_act_54 h M (nI op) (nI (i + opLen S i e)) (pk_lt op 139 (fun q1 => pk_lt op 105 (fun q2 => s96 (by omega)) (fun q2 => pk_lt 125 op (fun q3 => s96 (by omega)) (fun q3 => pk_eq op 106 (fun q4 => s96 (by omega)) (fun q4 => ⟨kM, ?_⟩)))) (fun q1 => ⟨kM, ?_⟩))
    · exact (MD_move_spec hd6 H F0 (by omega) (by omega) q4 hsa).nV (fun h6 Q => okq (by omega) Q (stepP_mov (by omega)))
    · rw [opLen_1 (by omega) h0]
      exact MD_work_spec hdC (by omega) ho h3 hu hT E T H F0 hsa hops c1 c2 c3 o1 B1 ks eS sO hbe hl hl2 hn
  refine eX24_act h M (nI op) sa (nI (i + opLen S i e)) (fun _ => sX24_act_0 h M (nI op) sa (nI (i + opLen S i e)) (pk_lt 78 op (fun q1 => pk_eq op 79 (fun q2 => ⟨kM, pnum (Or.inl q2)⟩) (fun q2 => pk_lt op 81 (fun q3 => s54 (by omega)) (fun q3 => pk_lt 96 op (fun q4 => s54 (by omega)) (fun q4 => ⟨kM, pnum (Or.inr (by omega))⟩)))) (fun q1 => ⟨kM, ?_⟩)))
  have hL := opLen_eq h0
  have hL2 := opLen_le (L := S) (i := i) (e := e)
  have h5 := h52 (by omega)
  rw [f63, pk_sub (by omega), show i + opLen S i e - opSz S i = i + opHd (ub S i) by omega]
  refine (MD_push_spec (L := S) (off := i + opHd (ub S i)) (n := opSz S i) hd2 H ks eS (by omega) (by omega) h5 hs sO.2 (fun q => ?_)).nV (fun h13 R => ?_)
  · by_cases z : rwA h Z st.length = 0
    · omega
    · exact nT ⟨st.length, by omega, z, q.symm⟩
  · have J1 := I0.push R
    refine (OkQ.m (R := some (st ++ [sub_ S (i + opHd (ub S i)) (opSz S i)], alt)) E H.1 (OkQ.ok J1 rfl)).act c2 o1 B1 ?_
    rw [actP_push (by omega) hT]
    rfl
end MAct

/-! whether an input may take an output, by the component: the whole -/
set_option maxRecDepth 100000
section Unl3
variable {G : Gx} {d : Nat} {hB h h' h0 : AH} {Mc D b0 Sg q a C p N inp : Nat} {Bp : Pt} {K B L : List Int32} {t : TxP} {st alt : List (List Int32)} {I O : List Int32} {ia io isz oa oo osz : Nat} {st1 : List (List Int32)}
/-- the stack is kept, one more element -/
theorem un_keep {j : Nat} (hd : 18 ≤ d) (hl2 : st1.length ≤ 1000) (hj : j < st1.length) (wf : WF G h) (hI : MOk h Mc D b0 st1 alt ∧ StAt h Mc 2008 (st1.take j) ∧ REnv h Mc D b0 Sg q a C p N Bp K B L t inp ∧ UFr hB h Mc D Sg C ∧ h.i 7006 Mc = nI st1.length) {K_ : AH → Prop} {X Y : Nat → AH → Prop}
    (hK : ∀ h', MOk h' Mc D b0 st1 alt ∧ StAt h' Mc 2008 (st1.take (j + 1)) ∧ REnv h' Mc D b0 Sg q a C p N Bp K B L t inp ∧ UFr hB h' Mc D Sg C ∧ h'.i 7006 Mc = nI st1.length → K_ h') :
    ∀ r48 : Nat, r48 = (h.r 7003 Mc) → Cw G mX7_at d 0 [vR r48, vI (nI j)] h (kR (fun x49 h50 => ∀ r52 : Nat, r52 = (h50.r 7001 Mc) → h50.kd r52 = 104 ∧ vp_in (nI j) (h50.ar r52).length ∧ ∀ r55 : Nat, r55 = ((h50.ar r52).getD ((nI j).toNatClampNeg) 0) → h50.kd r55 = 22 ∧ ∀ r57 : Nat, r57 = (h50.r 22000 r55) → vp_in (nI j) (h50.ar r52).length ∧ ∀ r59 : Nat, r59 = ((h50.ar r52).getD ((nI j).toNatClampNeg) 0) → h50.kd r59 = 22 ∧ h50.kd x49 = 22 ∧ Cw G mX22_set d 0 [vR x49, vR r57, vI 0, vI (h50.i 22001 r59)] h50 (kR (fun x61 h62 => K_ h62) X)) Y) := by
  obtain ⟨H, Sk, E, F, i6⟩ := hI
  have H0 := H
  obtain ⟨H1, T, hb, hb2, ⟨i1, i2, i3, i4⟩, S1, S2⟩ := H
  have r := E.1.1
  intro r48 e48
  have e48' : r48 = Mc + 1 + 2 := e48.trans H1.2.1.2.2.2.1
  subst e48'
  refine (Mc_at_spec (w := 2) (k := j) (by omega) H1 T hb (by decide) (by omega)).toR (fun x49 h50 _ w50 Q => ?_) (fun _ _ _ _ q => q.elim)
  obtain ⟨x0, xe, H7, T7, F7, K7, en, eo, eq7⟩ := Q
  have sj := S1 j hj
  rw [Nat.zero_add] at sj
  have jb := (T j (by omega) sj.1).1
  have jz := T.lt wf (show j < 3012 by omega) sj.1
  have e7j : elA h50 Mc j = elA h Mc j := en j (by omega) sj.1
  have ex7 : ElAt h50 (elA h Mc j) (st1.getD j []) := sj.2.eq (eq7 _ jz.1 (fun v hv e => by omega)) (eq7 _ jz.2 (fun v hv e => by omega))
  have e0 : elA h50 Mc (1004 * 2 + j) ≠ 0 := by rw [← xe]; exact x0
  have es : ElS h50 x49 := by rw [xe]; exact (T7 _ (by omega) e0).2.1
  have hne : elA h Mc j ≠ x49 := fun e => by
    have := (T7 (1004 * 2 + j) (by omega) e0).2.2 j (by omega) (by rw [e7j, ← xe]; exact e)
    omega
  intro r52 e52
  have e52' : r52 = Mc + 1 := e52.trans H7.2.1.2.1
  subst e52'
  have gj : (h50.ar (Mc + 1)).getD j 0 = elA h Mc j := by
    have := elA_w (h := h50) (Mc := Mc) (w := 0) (k := j) (by omega)
    rw [Nat.mul_zero, Nat.zero_add, Nat.add_zero] at this
    rw [← this, e7j]
  rw [H7.2.2.2.1, pk_cl j rfl (by omega), gj]
  refine ⟨H7.2.2.1.1, pk_in j 1004 (by omega), fun r55 e55 => ?_⟩
  subst e55
  refine ⟨ex7.1.1, fun r57 e57 => ⟨pk_in j 1004 (by omega), fun r59 e59 => ?_⟩⟩
  subst e59
  have e57' : r57 = elA h Mc j + 1 := e57.trans ex7.1.2.1
  subst e57'
  refine ⟨ex7.1.1, es.1, ?_⟩
  rw [ex7.2.1]
  refine (El_set_spec (off := 0) (by omega) es ex7.1.2.2.1 (by rw [ex7.1.2.2.2, Nat.zero_add]; exact ex7.2.2.1) (by rw [ex7.1.2.2.2]; decide) ex7.2.2.1 (by omega)).nR (fun y h62 Q => ?_)
  obtain ⟨ey, e62⟩ := Q
  have E62 : ElAt h62 x49 (st1.getD j []) := by
    rw [e62]
    exact ElAt.set es ex7.2.2.1 (fun i hi => by rw [Nat.zero_add]; exact (ex7.2.2.2 i hi).symm) rfl
  have S62 : Same (fun z => z = x49 ∨ z = x49 + 1) h50 h62 := by rw [e62]; exact Same.el (by rw [putB_len])
  have z62 : h62.z = h50.z ∧ h62.s = h50.s := by rw [e62]; exact ⟨rfl, rfl⟩
  have bz : b0 ≤ h50.z := Nat.le_trans hb F7.1.1
  have kx : h50.kd x49 = 22 := es.1
  have kx1 : h50.kd (x49 + 1) = 101 := es.2.2.1
  obtain ⟨u1, u2, _, u4, u5, u6⟩ := el_upd (p := 1004 * 2 + j) H7 T7 w50 hb2 bz (by omega) xe x0 S62 z62.1 z62.2 E62.1
  clear e62
  have ce : ∀ i, i < 3012 → i ≠ 1004 * 2 + j → elA h Mc i ≠ 0 → elA h62 Mc i = elA h Mc i ∧ eqAt h h62 (elA h Mc i) ∧ eqAt h h62 (elA h Mc i + 1) := fun i hi hne2 hi0 => by
    have tb := (T i hi hi0).1
    obtain ⟨tz, tz1⟩ := T.lt wf hi hi0
    have e7 := en i hi hi0
    have c1 := u6 i hi hne2 (by rw [e7]; exact hi0)
    rw [e7] at c1
    exact ⟨(u5 i hi).trans e7, (eq7 _ tz (fun v hv e => by omega)).trans c1.1, (eq7 _ tz1 (fun v hv e => by omega)).trans c1.2⟩
  have E50 : REnv h50 Mc D b0 Sg q a C p N Bp K B L t inp := E.mach F7.1 (fun y _ m => Or.inl (Or.inl ⟨by omega, by omega⟩))
  have F50 : UFr hB h50 Mc D Sg C := F.go F7.1 (fun y _ m => Or.inl (Or.inl ⟨by omega, by omega⟩)) F7.2.1 F7.2.2.1
  have hP : ∀ y, y < h50.z → (y = x49 ∨ y = x49 + 1) → mQ h50 Mc y := fun y _ m => by
    rcases m with m | m
    · exact Or.inr (Or.inl (by rw [m]; exact kx))
    · exact Or.inr (Or.inr (by rw [m, Nat.add_sub_cancel]; exact ⟨kx1, kx⟩))
  have xb := (T7 _ (show 1004 * 2 + j < 3012 by omega) e0).1
  rw [← xe] at xb
  have hn : nul h62 Mc = nul h50 Mc := nul_eq (fun v hv => S62.ar (by omega) (by omega))
  refine hK h62 ⟨⟨u1, u2, by omega, hb2, ⟨?_, ?_, i3, i4⟩, S1.keep (by omega) (fun i hi => ce _ (by omega) (by omega) (S1 i hi).1), S2.keep (by omega) (fun i hi => ce _ (by omega) (by omega) (S2 i hi).1)⟩, fun i hi => ?_, E50.mach S62 (fun y hy m => Or.inl (hP y hy m)), F50.go S62 (fun y hy m => Or.inl (hP y hy m)) (by rw [z62.1, hn]) (by rw [z62.2, hn]), ?_⟩
  · rw [u4.2.2.1, (K7 7004 (by simp)).2.1]; exact i1
  · rw [u4.2.2.1, (K7 7005 (by simp)).2.1]; exact i2
  · rw [List.length_take] at hi
    have eg : (st1.take (j + 1)).getD i [] = st1.getD i [] := by
      rw [List.getD_eq_getElem?_getD, List.getElem?_take, if_pos (by omega), List.getD_eq_getElem?_getD]
    rw [eg]
    by_cases c : i = j
    · rw [c, show 2008 + j = 1004 * 2 + j from rfl, u5 _ (by omega), ← xe]
      exact ⟨x0, E62⟩
    · have s1 := Sk i (by rw [List.length_take]; omega)
      have eg2 : (st1.take j).getD i [] = st1.getD i [] := by
        rw [List.getD_eq_getElem?_getD, List.getElem?_take, if_pos (by omega), List.getD_eq_getElem?_getD]
      rw [eg2] at s1
      have := ce (2008 + i) (by omega) (by omega) s1.1
      rw [this.1]
      exact ⟨s1.1, s1.2.eq this.2.1 this.2.2⟩
  · rw [u4.2.2.1, (K7 7006 (by simp)).2.1]; exact i6
set_option maxHeartbeats 1000000 in
theorem un_25 (hd : 18 ≤ d) (z1 : ia < hB.z) (n1 : ¬ unQ hB Mc D Sg C ia) (k1 : hB.kd ia = 101) (e1 : hB.ai ia = I) (b1 : hB.kd (ia - 1) ≠ 22) (l1 : io + isz ≤ I.length) (m1 : I.length < 2 ^ 16) (s1 : isz ≤ 1600) (z2 : oa < hB.z) (n2 : ¬ unQ hB Mc D Sg C oa) (k2 : hB.kd oa = 101) (e2 : hB.ai oa = O) (b2 : hB.kd (oa - 1) ≠ 22) (l2 : oo + osz ≤ O.length) (m2 : O.length < 2 ^ 16) (s2 : osz ≤ 1600) (hl2 : st1.length ≤ 1000) (hR1 : runP p N Bp K B L t inp I io (io + isz) [] = some st1) : ∀ (j : Nat) (h : AH), j ≤ st1.length → (MOk h Mc D b0 st1 alt ∧ StAt h Mc 2008 (st1.take j) ∧ REnv h Mc D b0 Sg q a C p N Bp K B L t inp ∧ UFr hB h Mc D Sg C ∧ h.i 7006 Mc = nI st1.length) → Aw G mX7_unlocks (d + 1) 0 h0 (kI (fun x h' => x = bB (unP p N Bp K B L t inp I io isz O oo osz) ∧ UEnd hB h' Mc D b0 Sg q a C p N Bp K B L t inp) nE) 25 [vR Mc, vR ia, vI (nI io), vI (nI isz), vR oa, vI (nI oo), vI (nI osz), vR Sg, vI (nI j), vU, vU, vU] [] h := by
  refine loop_uc (n := st1.length) (P := fun j h => Aw G mX7_unlocks (d + 1) 0 h0 (kI (fun x h' => x = bB (unP p N Bp K B L t inp I io isz O oo osz) ∧ UEnd hB h' Mc D b0 Sg q a C p N Bp K B L t inp) nE) 25 [vR Mc, vR ia, vI (nI io), vI (nI isz), vR oa, vI (nI oo), vI (nI osz), vR Sg, vI (nI j), vU, vU, vU] [] h) (fun j h => MOk h Mc D b0 st1 alt ∧ StAt h Mc 2008 (st1.take j) ∧ REnv h Mc D b0 Sg q a C p N Bp K B L t inp ∧ UFr hB h Mc D Sg C ∧ h.i 7006 Mc = nI st1.length) (fun j h hj hI ih => Aw.wf (fun wf => ?_))
  have H := hI.1
  have i1 := H.2.2.2.2.1.1
  refine sX7_unlocks_25 h Mc ia (nI io) (nI isz) oa (nI oo) (nI osz) Sg (nI j) ⟨H.1.1, ?_⟩
  rw [i1]
  refine pk_le st1.length j (fun z => ?_) (fun z => ?_)
  · obtain rfl : j = st1.length := by omega
    obtain ⟨_, Sk, E, F, i6⟩ := hI
    rw [List.take_length] at Sk
    have U0 : unP p N Bp K B L t inp I io isz O oo osz = match runP p N Bp K B L t inp O oo (oo + osz) st1 with
        | none => false
        | some st2 => if topT st2 = false then false else if nestB O oo osz = false then true else if (pushesF I (io + isz) isz io && decide (0 < st1.length)) = false then false else
          match runP p N Bp K B L t inp (tp st1 0) 0 (tp st1 0).length (dr st1 1) with
          | none => false
          | some st3 => topT st3 := by
      unfold unP
      rw [hR1]
      rfl
    obtain ⟨y1, y2, y3, y4, y5⟩ := un_row F z2 n2 k2 e2 b2
    refine (Mc_run_spec (S := O) (off := oo) (sz := osz) (by omega) y1 y2 y3 y4 l2 m2 y5 s2 H.s E hl2 rfl).toV (fun h4 _ w4 Q => ?_) (fun y h4 _ _ Q => ?_)
    · obtain ⟨st2, es2, ⟨alt2, M4⟩, l4, E4, G4, K4⟩ := Q
      rw [es2] at U0
      dsimp only at U0
      have F4 := F.run G4
      have kept4 := G4.kept H.2.1 wf E.1 (by omega) Sk
      have nn4 : ∀ i, i < st1.length → elA h4 Mc i ≠ 0 := fun i hi => G4.2.2.2 i (by omega) (by
        have := (H.2.2.2.2.2.1 i hi).1
        rw [Nat.zero_add] at this
        exact this)
      have i64 : h4.i 7006 Mc = nI st1.length := (K4 7006 (by decide)).2.1.trans i6
      have fin0 : ∀ {b : Bool}, unP p N Bp K B L t inp I io isz O oo osz = b → (kI (fun x h' => x = bB (unP p N Bp K B L t inp I io isz O oo osz) ∧ UEnd hB h' Mc D b0 Sg q a C p N Bp K B L t inp) nE) (.inl (some (vI (bB b)))) h4 := fun e => ⟨by rw [e], F4.fin M4.1 M4.2.1 E4⟩
      rw [M4.2.2.2.2.1.1]
      refine pk_eq st2.length 0 (fun c => fin0 (b := false) ?_) (fun c => ?_)
      · rw [U0, if_pos (by unfold topT; rw [decide_eq_false (by omega), Bool.false_and])]
      refine k_top (k := 0) (by omega) (by decide) (MI.rf M4) (fun c0 x7 hx7 ex7 => ⟨ex7.1.1, k_isT (by omega) ex7 ?_⟩) (fun c0 => absurd c0 (by omega))
      have tt : topT st2 = isT (tp st2 0) := by
        unfold topT
        rw [decide_eq_true c0, Bool.true_and]
      rw [tt] at U0
      cases hT : isT (tp st2 0) with
      | false =>
        rw [hT, if_pos rfl] at U0
        exact ⟨fun w => absurd rfl w, fun _ => fin0 (b := false) U0⟩
      | true =>
        rw [hT, if_neg (by decide)] at U0
        refine ⟨fun _ => ?_, fun w => absurd w (by decide)⟩
        obtain ⟨v1, v2, v3, v4, v5⟩ := un_row F4 z2 n2 k2 e2 b2
        obtain ⟨u1, u2, u3, u4, u5⟩ := un_row F4 z1 n1 k1 e1 b1
        have no : nestB O oo osz = false → Aw G mX7_unlocks (d + 1) 0 h0 (kI (fun x h' => x = bB (unP p N Bp K B L t inp I io isz O oo osz) ∧ UEnd hB h' Mc D b0 Sg q a C p N Bp K B L t inp) nE) 162 [vR Mc, vR ia, vI (nI io), vI (nI isz), vU, vU, vU, vR Sg, vU, vU, vU, vU] [] h4 := fun e => by
          rw [if_pos e] at U0
          exact sX7_unlocks_162 h4 Mc ia (nI io) (nI isz) Sg ⟨fun w => absurd rfl w, fun _ => fin0 (b := true) U0⟩
        have nb : ∀ {P : Prop}, ¬ P → ((osz = 23 ∧ ub O oo = 169 ∧ ub O (oo + 1) = 20 ∧ ub O (oo + 22) = 135) → P) → nestB O oo osz = false := fun hp f => by
          unfold nestB
          exact decide_eq_false (fun z => hp (f z))
        have BO : isB O := by rw [← v4]; exact w4.isB v3
        refine pk_eq' osz 23 (fun c1 => no (nb c1 (fun z => z.1))) (fun c1 => ⟨v3, ?_⟩)
        have hu0 := ub_lt O oo
        have hu1 := ub_lt O (oo + 1)
        have hu2 := ub_lt O (oo + 22)
        rw [v4, nI_1, show (22 : Int32) = nI 22 from rfl, nI_add, pk_cl oo rfl (by omega), pk_cl (oo + 1) rfl (by omega), pk_cl (oo + 22) rfl (by omega), and_ub, and_ub]
        refine ⟨pk_in oo O.length (by omega), pk_eq' (ub O oo) 169 (fun c2 => no (nb c2 (fun z => z.2.1))) (fun c2 => ⟨pk_in (oo + 1) O.length (by omega), ?_⟩)⟩
        have b20 : O.getD (oo + 1) 0 = 20 ↔ ub O (oo + 1) = 20 := by
          rw [gb BO (oo + 1)]
          exact bI_ne _ hu1 20 (by decide)
        rw [b20]
        refine ⟨fun c3 => no (nb c3 (fun z => z.2.2.1)), fun c3 => ⟨pk_in (oo + 22) O.length (by omega), pk_eq' (ub O (oo + 22)) 135 (fun c4 => no (nb c4 (fun z => z.2.2.2))) (fun c4 => ⟨fun _ => ?_, fun w => absurd w (by decide)⟩)⟩⟩
        have yes : nestB O oo osz = true := decide_eq_true ⟨c1, c2, c3, c4⟩
        rw [if_neg (by rw [yes]; decide)] at U0
        refine (Mc_pushes_spec (by omega) u3 (by rw [u4]; exact l1) (by rw [u4]; omega)).nI (fun x22 h23 Q => ?_)
        obtain ⟨ex, eh⟩ := Q
        rw [eh]
        rw [u4] at ex
        clear eh
        have bad : (pushesF I (io + isz) isz io && decide (0 < st1.length)) = false → ∀ {pc : Nat} {a0 a1 a2 a3 a4 a5 a6 a7 a8 a9 a10 a11 : AV} {K_ : AH → Prop}, cChain mX7_unlocks RX17 pc 342 mX7_unlocks.hs → Cw G mX7_need d 0 [vR Mc, vI 0] h4 (kV K_ (fun x h => Tw G mX7_unlocks (d + 1) 0 h0 (kI (fun x h' => x = bB (unP p N Bp K B L t inp I io isz O oo osz) ∧ UEnd hB h' Mc D b0 Sg q a C p N Bp K B L t inp) nE) pc [a0, a1, a2, a3, a4, a5, a6, a7, a8, a9, a10, a11] [] x h)) := fun e _ _ _ _ _ _ _ _ _ _ _ _ _ _ ch => by
          rw [if_pos e] at U0
          exact k_need (by omega) (MI.rf M4) (fun w => absurd rfl w) (fun _ y h' T => un_catch ch T.1 ⟨by rw [U0]; rfl, F4.thrM E4 T⟩)
        cases hp : pushesF I (io + isz) isz io with
        | false =>
          rw [hp, if_neg (by decide)] at ex
          rw [ex]
          exact ⟨fun _ => bad (by rw [hp]; rfl) (un_c3 rfl rfl rfl), fun w => absurd rfl w⟩
        | true =>
          rw [hp, if_pos rfl] at ex
          rw [ex]
          refine ⟨fun w => absurd w (by decide), fun _ => ?_⟩
          rw [i64]
          refine pk_le st1.length 0 (fun c5 => bad (by rw [hp, decide_eq_false (by omega)]; rfl) (un_c3 rfl rfl rfl)) (fun c5 => k_need (by omega) (MI.rf M4) (fun _ h47 e47 => ?_) (fun w => absurd w (by decide)))
          rw [if_neg (by rw [hp, decide_eq_true (show 0 < st1.length by omega)]; decide)] at U0
          have r := E4.1.1
          have T4 := M4.2.1
          have S47 : Same (fun y => y = Mc) h4 h47 := by
            rw [e47]
            exact Same.rf.pi _ _ (Or.inl rfl)
          have eo : ∀ y, y ≠ Mc → eqAt h4 h47 y := fun y hy => by rw [e47]; exact eqAt.pi _ _ _ hy
          have el : ∀ i, elA h47 Mc i = elA h4 Mc i := fun i => by rw [e47]; rfl
          have ek : ∀ i, i < 3012 → elA h4 Mc i ≠ 0 → elA h47 Mc i = elA h4 Mc i ∧ eqAt h4 h47 (elA h4 Mc i) ∧ eqAt h4 h47 (elA h4 Mc i + 1) := fun i hi hi0 => by
            have tb := (T4 i hi hi0).1
            exact ⟨el i, eo _ (by omega), eo _ (by omega)⟩
          refine un_208 (alt := alt2) hd (by omega) hl2 M4.2.2.2.2.1.2.2.2 U0 0 h47 (Nat.zero_le _) ⟨by rw [e47]; exact M4.1, by rw [e47]; exact T4, fun i hi => absurd hi (by rw [List.length_take]; omega), kept4.keep (by omega) (fun i hi => ek _ (by omega) (kept4 i hi).1), M4.2.2.2.2.2.2.keep (by have := M4.2.2.2.2.1.2.2.2; omega) (fun i hi => ek _ (by have := M4.2.2.2.2.1.2.2.2; omega) (M4.2.2.2.2.2.2 i hi).1), ⟨?_, ?_⟩, fun i hi => by rw [el i]; exact nn4 i hi, E4.mach S47 (fun y _ m => Or.inl (Or.inl ⟨by omega, by omega⟩)), F4.go S47 (fun y _ m => Or.inl (Or.inl ⟨by omega, by omega⟩)) (by rw [e47]; rfl) (by rw [e47]; rfl)⟩
          · rw [e47, AH.i_pi, if_pos ⟨rfl, rfl⟩]
          · rw [e47, AH.i_pi, if_neg (fun w => absurd w.1 (by decide))]
            exact M4.2.2.2.2.1.2.1
    · refine un_catch (un_c1 rfl) Q.2.1 ⟨?_, F.thr Q.2⟩
      rw [Q.1] at U0
      rw [U0]
      rfl
  · rw [nI_1]
    exact un_keep hd hl2 (by omega) wf hI (fun h' J => ih (by omega) h' J)
/-- the machine's answer -/
theorem Mc_unlocks_spec (hd : 19 ≤ d) (z1 : ia < hB.z) (n1 : ¬ unQ hB Mc D Sg C ia) (k1 : hB.kd ia = 101) (e1 : hB.ai ia = I) (b1 : hB.kd (ia - 1) ≠ 22) (l1 : io + isz ≤ I.length) (m1 : I.length < 2 ^ 16) (s1 : isz ≤ 1600) (z2 : oa < hB.z) (n2 : ¬ unQ hB Mc D Sg C oa) (k2 : hB.kd oa = 101) (e2 : hB.ai oa = O) (b2 : hB.kd (oa - 1) ≠ 22) (l2 : oo + osz ≤ O.length) (m2 : O.length < 2 ^ 16) (s2 : osz ≤ 1600) (H : MchS hB Mc D) (T : ElTb hB Mc b0) (E : REnv hB Mc D b0 Sg q a C p N Bp K B L t inp) : Cw G mX7_unlocks d 0 [vR Mc, vR ia, vI (nI io), vI (nI isz), vR oa, vI (nI oo), vI (nI osz), vR Sg] hB (kI (fun x h' => x = bB (unP p N Bp K B L t inp I io isz O oo osz) ∧ UEnd hB h' Mc D b0 Sg q a C p N Bp K B L t inp) nE) := by
  obtain ⟨d, rfl⟩ : ∃ d', d = d' + 1 := ⟨d - 1, by omega⟩
  have r := E.1.1
  refine eX7_unlocks hB Mc ia (nI io) (nI isz) oa (nI oo) (nI osz) Sg (fun wf => sX7_unlocks_0 hB Mc ia (nI io) (nI isz) oa (nI oo) (nI osz) Sg ⟨H.1, fun h2 eh2 => ?_⟩)
  have S2 : Same (fun y => y = Mc) hB h2 := by
    rw [eh2]
    exact Same.rf.pi _ _ (Or.inl rfl)
  have F2 : UFr hB h2 Mc D Sg C := UFr.rf.go S2 (fun y _ m => Or.inl (Or.inl ⟨by omega, by omega⟩)) (by rw [eh2]; rfl) (by rw [eh2]; rfl)
  have E2 : REnv h2 Mc D b0 Sg q a C p N Bp K B L t inp := E.mach S2 (fun y _ m => Or.inl (Or.inl ⟨by omega, by omega⟩))
  have M2 : MOs h2 Mc D b0 [] := by
    refine ⟨by rw [eh2]; exact H, by rw [eh2]; exact T, by rw [eh2]; exact r.2.2.2.2, by omega, ⟨?_, by decide⟩, fun j hj => absurd hj (Nat.not_lt_zero _)⟩
    rw [eh2, AH.i_pi, if_pos ⟨rfl, rfl⟩]
    rfl
  obtain ⟨y1, y2, y3, y4, y5⟩ := un_row F2 z1 n1 k1 e1 b1
  refine (Mc_run_spec (S := I) (off := io) (sz := isz) (by omega) y1 y2 y3 y4 l1 m1 y5 s1 M2 E2 (by decide) rfl).toV (fun h4 _ _ Q h7 e7 => ?_) (fun y h4 _ _ Q => ?_)
  · obtain ⟨st1, es, ⟨alt1, M4⟩, l4, E4, G4, K4⟩ := Q
    have F4 := F2.run G4
    have S7 : Same (fun y => y = Mc) h4 h7 := by
      rw [e7]
      exact Same.rf.pi _ _ (Or.inl rfl)
    have i4 := M4.2.2.2.2.1.1
    rw [i4] at e7
    have ie : ∀ k x, k ≠ 7006 → h7.i k x = h4.i k x := fun k x hk => by rw [e7, AH.i_pi, if_neg (fun w => hk w.1)]
    have M7 : MOk h7 Mc D b0 st1 alt1 := by
      obtain ⟨c1, c2, c3, c4, ⟨c5, c6, c7, c8⟩, c9, c10⟩ := M4
      refine ⟨by rw [e7]; exact c1, by rw [e7]; exact c2, by rw [e7]; exact c3, c4, ⟨by rw [ie _ _ (by decide)]; exact c5, by rw [ie _ _ (by decide)]; exact c6, c7, c8⟩, fun j hj => ?_, fun j hj => ?_⟩
      · have el : elA h7 Mc (0 + j) = elA h4 Mc (0 + j) := by rw [e7]; rfl
        rw [el]
        obtain ⟨w1, w2, w3, w4⟩ := c9 j hj
        exact ⟨w1, by rw [e7]; exact w2, by rw [ie _ _ (by decide)]; exact w3, by rw [e7]; exact w4⟩
      · have el : elA h7 Mc (1004 + j) = elA h4 Mc (1004 + j) := by rw [e7]; rfl
        rw [el]
        obtain ⟨w1, w2, w3, w4⟩ := c10 j hj
        exact ⟨w1, by rw [e7]; exact w2, by rw [ie _ _ (by decide)]; exact w3, by rw [e7]; exact w4⟩
    exact un_25 (by omega) z1 n1 k1 e1 b1 l1 m1 s1 z2 n2 k2 e2 b2 l2 m2 s2 l4 es 0 h7 (Nat.zero_le _) ⟨M7, fun i hi => absurd hi (by rw [List.length_take]; omega), E4.mach S7 (fun y _ m => Or.inl (Or.inl ⟨by omega, by omega⟩)), F4.go S7 (fun y _ m => Or.inl (Or.inl ⟨by omega, by omega⟩)) (by rw [e7]; rfl) (by rw [e7]; rfl), by rw [e7, AH.i_pi, if_pos ⟨rfl, rfl⟩]⟩
  · refine un_catch (un_c1 rfl) Q.2.1 ⟨?_, F2.thr Q.2⟩
    unfold unP
    rw [Q.1]
    rfl
end Unl3

/-! the reference: whether a signature is good -/
set_option maxRecDepth 100000
theorem MRingAt.eqc {h h' : AH} {R m I : Nat} (H : MRingAt h R m I) (e : ∀ y, R ≤ y → y ≤ R + 7 → eqAt h h' y) : MRingAt h' R m I := by
  have e0 := e R (by omega) (by omega)
  have e1 := e (R + 1) (by omega) (by omega)
  have e2 := e (R + 2) (by omega) (by omega)
  have e3 := e (R + 3) (by omega) (by omega)
  have e4 := e (R + 4) (by omega) (by omega)
  have e5 := e (R + 5) (by omega) (by omega)
  have e6 := e (R + 6) (by omega) (by omega)
  have e7 := e (R + 7) (by omega) (by omega)
  unfold MRingAt MRing0 MRingS RowAt bv at H ⊢
  simp only [e0.1, e0.2.1, e0.2.2.1, e1.1, e2.1, e3.1, e4.1, e5.1, e6.1, e7.1, e1.2.2.2.2.1, e2.2.2.2.2.1, e3.2.2.2.2.1, e4.2.2.2.2.1, e5.2.2.2.2.1, e6.2.2.2.2.1, e7.2.2.2.2.1]
  exact H
theorem MPtS.eqc {h h' : AH} {q : Nat} (H : MPtS h q) (e : eqAt h h' q) : MPtS h' q := ⟨e.1.trans H.1, (e.2.1 _).trans H.2.1, (e.2.1 _).trans H.2.2.1, (e.2.1 _).trans H.2.2.2⟩
theorem MCr.eqc {h h' : AH} {M F O p N I J : Nat} {f : Nat → Nat} (H : MCr h M F O p N I J f) (k0 : h'.kd M = h.kd M) (r0 : ∀ k, k < 24036 → h'.r k M = h.r k M) (eM : ∀ y, M + 16 ≤ y → y ≤ M + 45 → eqAt h h' y) (k46 : h'.kd (M + 46) = h.kd (M + 46)) (l46 : (h'.ai (M + 46)).length = (h.ai (M + 46)).length) (eF : ∀ y, F ≤ y → y ≤ F + 7 → eqAt h h' y) (eO : ∀ y, O ≤ y → y ≤ O + 7 → eqAt h h' y) : MCr h' M F O p N I J f := by
  obtain ⟨⟨⟨a1, a2, a3, a4, a5, a6, a7, a8⟩, ⟨b1, b2, b3, b4, b5, b6⟩, ⟨c1, c2, c3, c4, c5, c6, c7, c8⟩, p1, p2, p3, p4⟩, ⟨R, V⟩, RO, rows, hF, m1, m2⟩ := H
  have r : ∀ {k x : Nat}, k < 24036 → h.r k M = x → h'.r k M = x := fun hk q => (r0 _ hk).trans q
  refine ⟨⟨⟨k0.trans a1, r (by decide) a2, r (by decide) a3, r (by decide) a4, r (by decide) a5, r (by decide) a6, r (by decide) a7, r (by decide) a8⟩, ⟨r (by decide) b1, r (by decide) b2, r (by decide) b3, r (by decide) b4, r (by decide) b5, r (by decide) b6⟩, ⟨r (by decide) c1, r (by decide) c2, r (by decide) c3, r (by decide) c4, r (by decide) c5, r (by decide) c6, r (by decide) c7, r (by decide) c8⟩, p1.eqc (eM _ (Nat.add_le_add_left (by decide) M) (Nat.add_le_add_left (by decide) M)), p2.eqc (eM _ (Nat.add_le_add_left (by decide) M) (Nat.add_le_add_left (by decide) M)), p3.eqc (eM _ (Nat.add_le_add_left (by decide) M) (Nat.add_le_add_left (by decide) M)), p4.eqc (eM _ (Nat.add_le_add_left (by decide) M) (Nat.add_le_add_left (by decide) M))⟩, ⟨R.eqc eF, fun i hi => ?_⟩, RO.eqc eO, fun k h1 h2 => ?_, hF, k46.trans m1, l46.trans m2⟩
  · have ai := adG_in M hi
    have e := eM (adG M i) ai.1 (Nat.le_trans ai.2 (Nat.add_le_add_left (by decide) M))
    obtain ⟨v1, v2, v3⟩ := V i hi
    exact ⟨⟨e.1.trans v1.1, by rw [e.2.2.2.2.1]; exact v1.2⟩, by rw [bv_eqc e]; exact v2, v3⟩
  · have e := eM (M + k) (Nat.add_le_add_left (Nat.le_trans (by decide) h1) M) (Nat.add_le_add_left h2 M)
    have v := rows k h1 h2
    exact ⟨e.1.trans v.1, by rw [e.2.2.2.2.1]; exact v.2⟩
theorem CutAt.mod {P : Nat → Prop} {h h' : AH} {M cu le : Nat} {c : List Int32} (H : CutAt h M cu le c) (m : Mod P h h') (h1 : ¬ P cu) (h2 : ¬ P le) : CutAt h' M cu le c := by
  unfold CutAt at H ⊢
  rw [m.kd, m.r, m.i, m.ai h1, m.ai h2]
  exact H
theorem okB_cg {C C' : List Int32} {p N n r s m : Nat} {Bp : Pt} (h : eqN n C C') : okB p N Bp C n r s m = okB p N Bp C' n r s m := by
  unfold okB
  rw [keyF_cg h]
theorem sig_rows {S g : List Int32} (q : eqN g.length S g) (hs : strictP g 0 g.length = true) : sgV S 4 (ub S 3) = sgV g 4 (ub g 3) ∧ sgV S (6 + ub S 3) (ub S (5 + ub S 3)) = sgV g (6 + ub g 3) (ub g (5 + ub g 3)) ∧ 6 + ub S 3 + ub S (5 + ub S 3) ≤ g.length ∧ ub S (g.length - 1) = ub g (g.length - 1) := by
  obtain ⟨p1, p2, p3, p4, p5, p6⟩ := strictP_in hs
  have u3 : ub S 3 = ub g 3 := q.ub (by omega)
  rw [u3]
  have u5 : ub S (5 + ub g 3) = ub g (5 + ub g 3) := q.ub (by omega)
  rw [u5]
  exact ⟨sgV_cg q (by omega), sgV_cg q (by omega), by omega, q.ub (by omega)⟩
section MGood2
variable {G : Gx} {d : Nat} {hB h h' h0 : AH} {M Z F O p N I J pp a n j inp : Nat} {K B L : List Int32} {t : TxP} {Bp : Pt} {st alt : List (List Int32)} {fl : Bool} {gr kr cu le : Nat} {g k c : List Int32}
theorem cu_no {y : Nat} (hM : M + 46 < Z ∧ Z + 12 < F ∧ F + 7 < O) (hy : Z + 10 ≤ y ∧ y ≤ Z + 12 ∨ O + 7 < y) : ¬ cuP M F O y := fun z => by
  unfold cuP at z
  omega
theorem go_no {y : Nat} (hM : M + 46 < Z ∧ Z + 12 < F ∧ F + 7 < O) (hy : O + 7 < y) : ¬ goQ M Z F O y := fun z => by
  have := (go_rng hM z).1
  omega
/-- what stays through a signature's judgement -/
theorem GoF.env (E : MEnv h M Z F O p N I J pp a n j inp K B L t Bp) (x : GoF h h' M Z F O) (m1 : ∃ f, MCr h' M F O p N I J f ∧ f 0 = 7 ∧ Bp = (f 1, f 2, f 3)) (m2 : McA h' M K B) (m3 : ∃ c cu le, ((cu = Z + 10 ∧ le = Z + 11) ∨ (cu = Z + 11 ∧ le = Z + 10)) ∧ CutAt h' M cu le c) (tb : ∀ y, inT h' Z y → O + 7 < y) : MEnv h' M Z F O p N I J pp a n j inp K B L t Bp := by
  obtain ⟨E1, E2, E3, E4, ⟨P1, P2, P3⟩, ⟨ka, eL⟩, ⟨f1, f2, f3⟩, ⟨z1, z2, z3⟩, tb0⟩ := E
  have hM := E1.1
  have hi : ∀ y, O + 7 < y → y < h.z → eqAt h h' y := fun y h1 h2 => x.1.2.2 y h2 (go_no hM h1)
  have ep : ∀ q, pp ≤ q → q ≤ pp + 7 → eqAt h h' q := fun q h1 h2 => hi q (E1.2.2.2.1 q h1 h2) (by omega)
  have ea := hi a E1.2.2.2.2.1 z2
  have kk := x.2.2.2
  have zz := x.2.1
  exact ⟨E1, m1, m2, m3, ⟨P1.eqc ep, (ep pp (by omega) (by omega)).2.1 _ |>.trans P2, P3.eqc ep⟩, ⟨ea.1.trans ka, ea.2.2.2.2.1.trans eL⟩, ⟨(kk 24076 (by decide)).1.trans f1, (kk 24077 (by decide)).2.1.trans f2, (kk 24078 (by decide)).2.1.trans f3⟩, ⟨by rw [zz]; exact z1, by rw [zz]; exact z2, by rw [zz]; exact z3⟩, tb⟩
set_option maxHeartbeats 1000000 in
theorem MD_isGood_spec (hd : 8 ≤ d) (E : MEnv h M Z F O p N I J pp a n j inp K B L t Bp) (Hs : MkS h M Z) (hc : (cu = Z + 10 ∧ le = Z + 11) ∨ (cu = Z + 11 ∧ le = Z + 10)) (C : CutAt h M cu le c) (kg : h.kd gr = 101) (lg : (h.ai gr).length = 520) (g5 : g.length ≤ 520) (qg : eqN g.length (h.ai gr) g) (gO : O + 7 < gr ∧ gr < h.z) (kk : h.kd kr = 101) (lk : (h.ai kr).length = 520) (k5 : k.length ≤ 520) (qk : eqN k.length (h.ai kr) k) (kO : O + 7 < kr ∧ kr < h.z) (tb : ∀ y, inT h Z y → O + 7 < y) (H : MOm h M Z st alt) :
    Cw G mX24_isGood d 0 [vR M, vR gr, vI (nI g.length), vR kr, vI (nI k.length)] h (kI (fun x h' => (g.length = 0 ∧ x = 0 ∧ h' = h) ∨ (0 < g.length ∧ encB g = false ∧ x = 0 ∧ h' = h.pi 24074 M 1) ∨ (0 < g.length ∧ encB g = true ∧ x = bB (sigB p N Bp K B L t inp g k c) ∧ GoF h h' M Z F O ∧ MEnv h' M Z F O p N I J pp a n j inp K B L t Bp)) nE) := by
  obtain ⟨d, rfl⟩ : ∃ d', d = d' + 2 := ⟨d - 2, by omega⟩
  have hd6 : 6 ≤ d + 1 := by omega
  have hd5 : 5 ≤ d := by omega
  have hd2 : 2 ≤ d + 1 := by omega
  have hn1 : 0 < g.length → nI g.length - 1 = nI (g.length - 1) := fun q => by rw [show (1 : Int32) = nI 1 from rfl, pk_sub (by omega)]
  have hn2 : 0 < g.length → g.length - 1 < 520 := fun q => by omega
  have hn3 : g.length - 1 < 2 ^ 31 := by omega
  have hn4 : g.length < 2 ^ 31 := by omega
  have E' := E
  obtain ⟨E1, ⟨f, E2, f7, hB⟩, E3, _, ⟨P1, P2, P3⟩, ⟨ka, eL⟩, ⟨i1, i2, i3⟩, ⟨z1, z2, z3⟩, tb0⟩ := E
  obtain ⟨hM, ⟨hp1, hp3, hp2, hN2, hpN⟩, ⟨W, TI, hinp, hj⟩, hpp, hao, _⟩ := E1
  have sA : M + 46 < cu ∧ M + 46 < le ∧ M + 46 < Z + 12 ∧ cu ≠ Z + 12 ∧ le ≠ Z + 12 ∧ cu < h.z ∧ le < h.z ∧ Z + 12 < h.z ∧ M + 46 < h.z := by omega
  have en : encB g = strictP g 0 g.length ∨ g.length = 0 := by
    by_cases z : g.length = 0
    · exact Or.inr z
    · left
      unfold encB
      rw [decide_eq_false z, Bool.false_or]
  refine eX24_isGood h M gr (nI g.length) kr (nI k.length) (fun _ => sX24_isGood_0 h M gr (nI g.length) kr (nI k.length) (pk_eq' g.length 0 (fun z => ⟨Hs.1, ?_⟩) (fun z => Or.inl ⟨z, rfl, rfl⟩) rfl rfl hn4 (by decide)))
  have g0 : 0 < g.length := Nat.pos_of_ne_zero z
  have en' : encB g = strictP g 0 g.length := en.resolve_right z
  refine (MD_isDer_spec (M := M) (h := h) (ga := gr) (n := g.length) hd2 kg (by rw [lg]; exact g5) (by rw [lg]; decide)).nI (fun x2 h3 Q => ?_)
  obtain ⟨ex, eh⟩ := Q
  rw [strictP_cg qg] at ex
  rw [eh, ex]
  clear eh ex
  refine ⟨fun w => ?_, fun w h17 e17 => Or.inr (Or.inl ⟨g0, en'.trans ((bB_0 _).mp w), rfl, e17⟩)⟩
  have hs : strictP g 0 g.length = true := by
    cases q : strictP g 0 g.length with
    | true => rfl
    | false => rw [q] at w; exact absurd rfl w
  obtain ⟨v1, v2, v3, v4⟩ := sig_rows qg hs
  intro r7 e7
  rw [show r7 = pp from e7.trans i1, i2, i3, hn1 g0, lg, pk_cl (g.length - 1) rfl hn3, and_ub]
  refine ⟨kg, pk_in (g.length - 1) 520 (hn2 g0), ?_⟩
  have hty := ub_lt (h.ai gr) (g.length - 1)
  rw [v4] at hty ⊢
  have r35 : h.r 24035 M = M + 46 := E2.1.2.2.1.2.2.2.2.2.2.2
  have HB : HsB h M (Z + 12) := ⟨Hs.1, Hs.2.1.2.2.2.2.2.2.2.2.2.2, Hs.2.2.1.2.2.2.2.2.2.2.2.2.2⟩
  have nHa : ∀ q, O + 7 < q → ¬ HaQ M cu le (Z + 12) q := fun q hq y => go_no hM hq (ha_go hc y)
  refine (MD_hashed_spec (p := pp) (ga := Z + 12) hd6 C E3 r35 E2.2.2.2.2.2.1 E2.2.2.2.2.2.2 HB Hs.2.2.2.1.2.2.2.2.2.2.2.2.2 P1 P2 ka eL W P3 hj TI hinp hty ⟨sA.1, sA.2.1, sA.2.2.1, sA.2.2.2.1, sA.2.2.2.2.1⟩ (nHa a hao) (fun q q1 q2 => ⟨nHa q (hpp q q1 q2), Nat.lt_of_le_of_lt q2 z3⟩) ⟨z2, sA.2.2.2.2.2.1, sA.2.2.2.2.2.2.1, sA.2.2.2.2.2.2.2.1, sA.2.2.2.2.2.2.2.2⟩).nV (fun h11 Q => ?_)
  obtain ⟨m46, C11, S11, z11, s11, K11⟩ := Q
  have G11 : GoF h h11 M Z F O := ⟨S11.mono (fun y _ q => ha_go hc q), z11, s11, K11⟩
  have nH2 : ∀ y, (M + 16 ≤ y ∧ y ≤ M + 45) ∨ (F ≤ y ∧ y ≤ F + 7) ∨ (O ≤ y ∧ y ≤ O + 7) ∨ y = M + 4 ∨ y = M + 5 → ¬ HaQ M cu le (Z + 12) y := fun y hy q => by
    rcases q with q | q | q | q | q | q
    · omega
    · omega
    · omega
    · omega
    · omega
    · have := md_rng q
      omega
  have eq11 : ∀ y, y < h.z → ¬ HaQ M cu le (Z + 12) y → eqAt h h11 y := fun y h1 h2 => S11.2.2 y h1 h2
  have lz : ∀ y, y ≤ O + 7 → y < h.z := fun y hy => Nat.lt_of_le_of_lt hy z1
  have mle : M + 46 ≤ O + 7 ∧ F + 7 ≤ O + 7 := by omega
  have kM11 : h11.kd M = h.kd M := S11.kd (lz M (by omega))
  have MC11 : MCr h11 M F O p N I J f := E2.eqc kM11 (fun k hk => (K11 k (fun q => by
    rcases List.mem_cons.mp q with q | q
    · omega
    · rcases List.mem_cons.mp q with q | q
      · omega
      · rcases List.mem_cons.mp q with q | q
        · omega
        · rcases List.mem_cons.mp q with q | q
          · omega
          · rcases List.mem_cons.mp q with q | q
            · omega
            · rcases List.mem_cons.mp q with q | q
              · omega
              · have := List.mem_singleton.mp q
                omega)).1) (fun y a b => eq11 y (lz y (by omega)) (nH2 y (Or.inl ⟨a, b⟩))) (S11.kd (lz _ mle.1)) (S11.len (lz _ mle.1)) (fun y a b => eq11 y (lz y (by omega)) (nH2 y (Or.inr (Or.inl ⟨a, b⟩)))) (fun y a b => eq11 y (lz y b) (nH2 y (Or.inr (Or.inr (Or.inl ⟨a, b⟩)))))
  have eg := eq11 gr gO.2 (nHa gr gO.1)
  have ek := eq11 kr kO.2 (nHa kr kO.1)
  have ag : h11.ai gr = h.ai gr := eg.2.2.2.2.1
  have ak : h11.ai kr = h.ai kr := ek.2.2.2.2.1
  have Md11 : McA h11 M K B := by
    refine ⟨E3.1.kp (ks := [24040, 24041, 24063, 24087, 24088, 24089, 24091]) kM11 K11 (fun k hk q => ?_) (fun q q1 q2 => ⟨S11.kd (lz q (by omega)), S11.len (lz q (by omega))⟩), ?_, ?_⟩
    · rcases List.mem_cons.mp q with q | q
      · omega
      · rcases List.mem_cons.mp q with q | q
        · omega
        · rcases List.mem_cons.mp q with q | q
          · omega
          · rcases List.mem_cons.mp q with q | q
            · omega
            · rcases List.mem_cons.mp q with q | q
              · omega
              · rcases List.mem_cons.mp q with q | q
                · omega
                · have := List.mem_singleton.mp q
                  omega
    · rw [(eq11 (M + 5) (lz _ (by omega)) (nH2 _ (Or.inr (Or.inr (Or.inr (Or.inr rfl)))))).2.2.2.2.1]; exact E3.2.1
    · rw [(eq11 (M + 4) (lz _ (by omega)) (nH2 _ (Or.inr (Or.inr (Or.inr (Or.inl rfl)))))).2.2.2.2.1]; exact E3.2.2
  refine (MD_isRight_spec (Bp := Bp) (Kb := h.ai kr) (S := h.ai gr) (n := k.length) hd5 MC11 f7 hB hp1 hp3 hp2 hN2 hpN (ek.1.trans kk) (cu_no hM (Or.inr kO.1)) ak (by rw [lk]; exact k5) (by rw [lk]; decide) (eg.1.trans kg) (cu_no hM (Or.inr gO.1)) ag (Nat.le_trans v3 (by rw [lg]; exact g5)) (by rw [lg]; decide)).nI (fun x12 h13 Q => ?_)
  obtain ⟨f', MC13, M13, f03, ex⟩ := Q
  rw [okB_cg qk, v1, v2, m46] at ex
  have G13 : GoF h11 h13 M Z F O := ⟨Same.rf.mod M13 (fun _ _ q => cu_go q), M13.z, M13.s, fun j _ => ⟨by rw [M13.r], by rw [M13.i], by rw [M13.l]⟩⟩
  have GG := G11.trans G13
  have tb13 := (GG.mom hM H tb).2
  have ncu : ¬ cuP M F O cu := cu_no hM (Or.inl (by omega))
  have nle : ¬ cuP M F O le := cu_no hM (Or.inl (by omega))
  have n45 : ¬ cuP M F O (M + 5) ∧ ¬ cuP M F O (M + 4) := ⟨fun z => by unfold cuP at z; omega, fun z => by unfold cuP at z; omega⟩
  refine ⟨by rw [ex]; exact bB_01 _, Or.inr (Or.inr ⟨g0, en'.trans hs, ex, GG, GG.env E' ⟨f', MC13, (f03 0 (by decide)).trans f7, by rw [hB, f03 1 (by decide), f03 2 (by decide), f03 3 (by decide)]⟩ (Md11.mod M13 n45.1 n45.2) ⟨unmP c c.length 0, le, cu, by omega, C11.mod M13 nle ncu⟩ tb13⟩)⟩
end MGood2

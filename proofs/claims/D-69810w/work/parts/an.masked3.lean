/-! the reference: asked -/
set_option maxRecDepth 100000
section MAsk3
variable {G : Gx} {d : Nat} {hB h h' h0 : AH} {M Z F O p N I J pp a n j inp : Nat} {K B L : List Int32} {t : TxP} {Bp : Pt} {st alt : List (List Int32)} {fl : Bool} {S : List Int32}
/-- what no operation on the stacks changes -/
def OpK (h h' : AH) (M Z : Nat) : Prop := (h'.i 24080 M = h.i 24080 M ∧ h'.i 24082 M = h.i 24082 M ∧ h'.i 24084 M = h.i 24084 M) ∧ h'.ai (Z + 7) = h.ai (Z + 7)
theorem OpK.trans {h2 : AH} (x : OpK h h' M Z) (y : OpK h' h2 M Z) : OpK h h2 M Z := ⟨⟨y.1.1.trans x.1.1, y.1.2.1.trans x.1.2.1, y.1.2.2.trans x.1.2.2⟩, y.2.trans x.2⟩
theorem GoF.op (x : GoF h h' M Z F O) (hM : M + 46 < Z ∧ Z + 12 < F ∧ F + 7 < O) (hz : Z + 12 < h.z) : OpK h h' M Z := ⟨⟨(x.2.2.2 24080 (by decide)).2.1, (x.2.2.2 24082 (by decide)).2.1, (x.2.2.2 24084 (by decide)).2.1⟩, x.1.ai (by omega) (fun q => (go_rng hM q).2.1 ⟨by omega, by omega⟩)⟩
theorem QI.op (Q : QI hB h M Z fl st alt) (H : MWk hB M Z) (hM : M + 46 < Z) : OpK hB h M Z := ⟨⟨(Q.2.2.2.1 24080 (by decide)).2.1, (Q.2.2.2.1 24082 (by decide)).2.1, (Q.2.2.2.1 24084 (by decide)).2.1⟩, Q.2.2.1.1.ai (by have := H.1.2.2.2.2.2.2; omega) (fun q => by
  rcases q with q | q | q
  · omega
  · omega
  · obtain ⟨i, hi, h1, h2⟩ := q
    have t := (H.2.1 i (by omega) h1).1.1
    omega)⟩
/-- what an operation leaves: its stacks, or that it failed -/
def OkM (h h' : AH) (M Z F O p N I J pp a n j inp : Nat) (K B L : List Int32) (t : TxP) (Bp : Pt) (R : Option (List (List Int32) × List (List Int32))) : Prop :=
  ((∃ s, R = some s ∧ MOm h' M Z s.1 s.2 ∧ h'.i 24074 M = 0) ∨ ((R = none ∨ ∃ s, R = some s ∧ 1000 < s.1.length + s.2.length) ∧ h'.i 24074 M = 1 ∧ MWk h' M Z)) ∧ RnF h h' M Z F O ∧ MEnv h' M Z F O p N I J pp a n j inp K B L t Bp ∧ OpK h h' M Z
theorem GoF.i74 (x : GoF h h' M Z F O) : h'.i 24074 M = h.i 24074 M := (x.2.2.2 24074 (by decide)).2.1
/-- the stacks' part of an operation, behind a signature's judgement -/
theorem OkM.qi {h2 : AH} {R : Option (List (List Int32) × List (List Int32))} {st' alt' : List (List Int32)} (x : GoF h h2 M Z F O) (E2 : MEnv h2 M Z F O p N I J pp a n j inp K B L t Bp) (H2 : MWk h2 M Z) (Q : QI h2 h' M Z fl st' alt') (hR : (fl = false ∧ R = some (st', alt')) ∨ (fl = true ∧ (R = none ∨ ∃ s, R = some s ∧ 1000 < s.1.length + s.2.length))) : OkM h h' M Z F O p N I J pp a n j inp K B L t Bp R := by
  have hM := E2.1.1
  have hz : Z + 12 < h.z := by rw [← x.2.1]; exact H2.1.2.2.2.2.2.2
  refine ⟨?_, (x.rn hM hz).trans (Q.2.2.1.rn Q.2.2.2.1), E2.sk H2 Q.2.2.1 Q.2.2.2.1, (x.op hM hz).trans (Q.op H2 (by omega))⟩
  rcases hR with ⟨q, e⟩ | ⟨q, e⟩
  · exact Or.inl ⟨_, e, Q.1, by rw [Q.2.1, q]; rfl⟩
  · exact Or.inr ⟨e, by rw [Q.2.1, q]; rfl, Q.1.1⟩
/-- a truth is answered -/
theorem m_ans {h2 : AH} {b vf : Bool} {X : Nat → AH → Prop} {alt' : List (List Int32)} (hd : 5 ≤ d) (x : GoF h h2 M Z F O) (E2 : MEnv h2 M Z F O p N I J pp a n j inp K B L t Bp) (Q : QI h2 h' M Z false st alt') (H2 : MWk h2 M Z) (hs : st.length ≤ 1000) {R : Option (List (List Int32))} (hR : R = endP vf b st) :
    Cw G mX24_answer d 0 [vR M, vI (bB b), vI (bB vf)] h' (kV (fun h9 => OkM h h9 M Z F O p N I J pp a n j inp K B L t Bp (R.map (fun s => (s, alt')))) X) := by
  refine m_answer hd Q hs (fun z h9 J => OkM.qi x E2 H2 J (Or.inl ⟨rfl, ?_⟩)) (fun z h9 J => OkM.qi x E2 H2 J ?_)
  · rw [hR, z]
    rfl
  · rw [hR, z]
    cases b with
    | true => exact Or.inl ⟨rfl, rfl⟩
    | false => exact Or.inr ⟨rfl, Or.inl rfl⟩
set_option maxHeartbeats 1000000 in
theorem MD_asked_spec {op : Nat} (hd : 10 ≤ d) (hop : op < 256) (E : MEnv h M Z F O p N I J pp a n j inp K B L t Bp) (H : MOm h M Z st alt) (F0 : h.i 24074 M = 0) (h2 : 2 ≤ st.length) (hs : st.length ≤ 1000) {sa b e : Nat} (c1 : h.r 24079 M = sa) (c2 : h.i 24080 M = nI b) (c3 : h.i 24081 M = nI e) (ks : h.kd sa = 101) (eS : h.ai sa = S) (sO : O + 7 < sa) (hbe : b ≤ e) (hl : e ≤ S.length) (hl2 : S.length < 2 ^ 16) (hn : e - b ≤ 1600) :
    Cw G mX24_asked d 0 [vR M, vI (nI op)] h (kV (fun h' => OkM h h' M Z F O p N I J pp a n j inp K B L t Bp ((sinP p N Bp K B L t inp S b e op st).map (fun s => (s, alt)))) nE) := by
  obtain ⟨d, rfl⟩ : ∃ d', d = d' + 1 := ⟨d - 1, by omega⟩
  have Hs := H.1.1
  have hM := E.1.1
  have tb := E.2.2.2.2.2.2.2.2
  have hZz := Hs.2.2.2.2.2.2
  have K0 := H.elt (k := 0) (by omega)
  have K1 := H.elt (k := 1) (by omega)
  rw [Nat.sub_zero] at K0
  rw [show st.length - 1 - 1 = st.length - 2 by omega] at K1
  have l3 := H.2.1.2.2.1
  have t0 : O + 7 < rwA h Z (st.length - 1) := tb _ ⟨st.length - 1, by omega, K0.1, rfl⟩
  have t1 : O + 7 < rwA h Z (st.length - 2) := tb _ ⟨st.length - 2, by omega, K1.1, rfl⟩
  have e1 : h.i 24067 M - 1 = nI (st.length - 1) := by rw [H.2.1.1, show (1 : Int32) = nI 1 from rfl, pk_sub (by omega)]
  have e2 : h.i 24067 M - 2 = nI (st.length - 2) := by rw [H.2.1.1, show (2 : Int32) = nI 2 from rfl, pk_sub (by omega)]
  have p1 : st.length - 1 < 1002 := by omega
  have p2 : st.length - 2 < 1002 := by omega
  have q1 : st.length - 1 < 2 ^ 31 := by omega
  have q2 : st.length - 2 < 2 ^ 31 := by omega
  have hd1 : 1 ≤ d := by omega
  have hd3 : 3 ≤ d := by omega
  have hd5 : 5 ≤ d := by omega
  have hd8 : 8 ≤ d := by omega
  have few : ¬ st.length < 2 := by omega
  have ld := dr_len st 2
  have ld2 : (dr st 2).length ≤ 1000 := by omega
  obtain ⟨g, hg⟩ : ∃ g, g = tp st 1 := ⟨_, rfl⟩
  obtain ⟨k, hk⟩ : ∃ k, k = tp st 0 := ⟨_, rfl⟩
  rw [← hk] at K0
  rw [← hg] at K1
  obtain ⟨a1, a2, a3, a4, a5, a6, a7, a8, _⟩ := K0
  obtain ⟨b1, b2, b3, b4, b5, b6, b7, b8, _⟩ := K1
  obtain ⟨cc, hcc⟩ : ∃ cc, cc = clnP (sub_ S b (e - b)) (e - b) g := ⟨_, rfl⟩
  have hP : sinP p N Bp K B L t inp S b e op st = if encB g = false then none else endP (decide (op = 173)) (decide (0 < g.length) && sigB p N Bp K B L t inp g k cc) (dr st 2) := by
    unfold sinP
    rw [if_neg few, ← hg, ← hk, hcc]
  refine eX24_asked h M (nI op) (fun _ => sX24_asked_0 h M (nI op) ⟨Hs.1, fun r2 e2' => ?_⟩)
  rw [show r2 = Z from e2'.trans Hs.2.1.1, e1, e2, Hs.2.2.2.1.1, pk_cl (st.length - 1) rfl q1, pk_cl (st.length - 2) rfl q2, a5, b5]
  refine ⟨Hs.2.2.1.1, pk_in _ 1002 p1, fun r5 e5 => ⟨pk_in _ 1002 p2, fun r7 e7 r8 e8 => ?_⟩⟩
  rw [show r8 = Z + 1 from e8.trans Hs.2.1.2.1, Hs.2.2.2.1.2.1, a2, b2, e5, e7]
  refine ⟨Hs.2.2.1.2.1, pk_in _ 1002 p1, fun u11 e11 => ⟨pk_in _ 1002 p2, fun u13 e13 r14 e14 => ?_⟩⟩
  rw [e11, e13, show r14 = sa from e14.trans c1, c2, c3, pk_sub hbe]
  refine m_load (S := S) hd1 E H ks eS sO (by omega) (by omega) hn (fun h16 G16 E16 H16 C16 => ?_)
  obtain ⟨cu, le, hc, C16⟩ := C16
  have n16 : ∀ y, O + 7 < y → y < h.z → eqAt h h16 y := fun y h1 h2 => G16.1.2.2 y h2 (go_no hM h1)
  have s16 := n16 _ t1 b8
  have s16k := n16 _ t0 a8
  refine m_without (g := g) hd3 E16 H16 hc C16 (s16.1.trans b6) t1 (by rw [s16.2.2.2.2.1]; exact b7) b3 (by rw [s16.2.2.2.2.1]; exact b4) (fun h18 G18 E18 H18 C18 => ?_)
  obtain ⟨cu2, le2, hc2, C18⟩ := C18
  rw [sub_len, ← hcc] at C18
  have z16 := G16.2.1
  have z18 := G18.2.1
  have n18 : ∀ y, O + 7 < y → y < h.z → eqAt h16 h18 y := fun y h1 h2 => G18.1.2.2 y (by rw [z16]; exact h2) (go_no hM h1)
  have g18 := s16.trans (n18 _ t1 b8)
  have k18 := s16k.trans (n18 _ t0 a8)
  have tb18 := E18.2.2.2.2.2.2.2.2
  have GG := G16.trans G18
  refine (MD_isGood_spec (g := g) (k := k) hd8 E18 H18.1.1 hc2 C18 (g18.1.trans b6) (by rw [g18.2.2.2.2.1]; exact b7) b3 (by rw [g18.2.2.2.2.1]; exact b4) ⟨t1, by rw [z18, z16]; exact b8⟩ (k18.1.trans a6) (by rw [k18.2.2.2.2.1]; exact a7) a3 (by rw [k18.2.2.2.2.1]; exact a4) ⟨t0, by rw [z18, z16]; exact a8⟩ tb18 H18).nI (fun x20 h21 Q => ?_)
  have F18 : h18.i 24074 M = 0 := GG.i74.trans F0
  -- the answer, from a state that has not failed
  have fin : ∀ (ok : Bool) (h21 : AH), x20 = bB ok → GoF h h21 M Z F O → MEnv h21 M Z F O p N I J pp a n j inp K B L t Bp → MOm h21 M Z st alt → sinP p N Bp K B L t inp S b e op st = endP (decide (op = 173)) ok (dr st 2) → ∀ h28 : AH, h28 = h21.pi 24067 M (nI (st.length - 2)) → ((¬ (h28.i 24074 M) = 0 → OkM h h28 M Z F O p N I J pp a n j inp K B L t Bp ((sinP p N Bp K B L t inp S b e op st).map (fun s => (s, alt)))) ∧ ((h28.i 24074 M) = 0 → ((¬ nI op = nI 173 → Cw G mX24_answer d 0 [vR M, vI x20, vI 0] h28 (kV (fun h33 => OkM h h33 M Z F O p N I J pp a n j inp K B L t Bp ((sinP p N Bp K B L t inp S b e op st).map (fun s => (s, alt)))) nE)) ∧ (nI op = nI 173 → Cw G mX24_answer d 0 [vR M, vI x20, vI 1] h28 (kV (fun h35 => OkM h h35 M Z F O p N I J pp a n j inp K B L t Bp ((sinP p N Bp K B L t inp S b e op st).map (fun s => (s, alt)))) nE))))) := fun ok h21 ex G21 E21 H21 eP h28 e28 => by
    have F21 : h21.i 24074 M = 0 := G21.i74.trans F0
    have I21 : QI h21 h21 M Z false st alt := ⟨H21, F21, SkF.rf, Kp.rf, fun _ _ q => q⟩
    have JJ := I21.drop (n := 2) h2
    have F28 : h28.i 24074 M = 0 := by rw [e28]; exact JJ.2.1
    rw [← e28] at JJ
    refine ⟨fun q => absurd F28 q, fun _ => pk_eq' op 173 (fun z => ?_) (fun z => ?_) rfl rfl (by omega) (by decide)⟩
    · rw [ex]
      exact m_ans (vf := false) hd5 G21 E21 JJ H21.1 ld2 (by rw [eP, decide_eq_false z])
    · rw [ex]
      exact m_ans (vf := true) hd5 G21 E21 JJ H21.1 ld2 (by rw [eP, decide_eq_true z])
  rcases Q with ⟨w1, w2, w3⟩ | ⟨w1, w2, w3, w4⟩ | ⟨w1, w2, w3, w4, w5⟩
  · rw [w3]
    refine fin false h18 w2 GG E18 H18 ?_
    have eg : encB g = true := by unfold encB; rw [decide_eq_true w1]; rfl
    rw [hP, if_neg (by rw [eg]; decide), decide_eq_false (show ¬ 0 < g.length by omega), Bool.false_and]
  · intro h28 e28
    have I18 : QI h18 h18 M Z false st alt := ⟨H18, F18, SkF.rf, Kp.rf, fun _ _ q => q⟩
    have JJ := (I18.fail).drop (n := 2) h2
    rw [w4] at e28
    rw [← e28] at JJ
    have ok : OkM h h28 M Z F O p N I J pp a n j inp K B L t Bp ((sinP p N Bp K B L t inp S b e op st).map (fun s => (s, alt))) := OkM.qi GG E18 H18.1 JJ (Or.inr ⟨rfl, Or.inl (by rw [hP, if_pos w2]; rfl)⟩)
    have f1 : h28.i 24074 M = 1 := JJ.2.1
    exact ⟨fun _ => ok, fun q => absurd (f1.symm.trans q) (by decide)⟩
  · have G21 := GG.trans w4
    have H21 := (w4.mom hM H18 tb18).1
    refine fin _ h21 w3 G21 w5 H21 ?_
    rw [hP, if_neg (by rw [w2]; decide), decide_eq_true w1, Bool.true_and]
end MAsk3

/-! a signature in a script -/
set_option maxRecDepth 100000
theorem tv_v (ok : Bool) : (if bB ok = 0 then ([] : List Int32) else [1]) = tv ok := by
  cases ok
  · exact if_pos rfl
  · exact if_neg (by decide)
theorem isT_tv (ok : Bool) : isT (tv ok) = ok := by
  cases ok
  · rfl
  · decide
theorem dr_snoc (st : List (List Int32)) (l : List Int32) : dr (st ++ [l]) 1 = st ∧ tp (st ++ [l]) 0 = l := by
  constructor
  · unfold dr
    rw [List.length_append]
    show (st ++ [l]).take (_ + 1 - 1) = _
    rw [Nat.add_sub_cancel, List.take_append_of_le_length (Nat.le_refl _), List.take_length]
  · unfold tp
    rw [getD_snoc, if_pos (by rw [List.length_append]; rfl)]
/-- a truth is pushed, or asked for -/
def endP (vf ok : Bool) (st : List (List Int32)) : Option (List (List Int32)) := if vf = true then (if ok = true then some st else none) else some (st ++ [tv ok])
section Single
variable {G : Gx} {d : Nat} {hB h h' h0 : AH} {Mc D b0 Sg q a C p N inp : Nat} {Bp : Pt} {K B L : List Int32} {t : TxP} {st alt : List (List Int32)}
theorem ThrM.of {y : Nat} (H : MOk h Mc D b0 st alt) (wf : WF G h) (T : Thr 17 noP 1 6 h h' y) : ThrM h h' Mc D b0 y := by
  have S := T.2.1
  have hMz : Mc + 8 < h.z := by have := H.2.2.1; have := H.2.2.2.1; omega
  have ea : ∀ v, v < 3 → h'.ar (Mc + 1 + v) = h.ar (Mc + 1 + v) := fun v hv => S.ar (by omega) id
  have hn : nul h' Mc = nul h Mc := nul_eq ea
  refine ⟨T.1, H.1.same S hMz (fun k => S.r (by omega) id k), fun j hj hj0 => ?_, S.mono (fun _ _ q => q.elim), by have := T.2.2.1; omega, by have := T.2.2.2; omega⟩
  rw [elA_eq ea hj] at hj0 ⊢
  obtain ⟨t1, t2, t3⟩ := H.2.1 j hj hj0
  obtain ⟨tz, tz1⟩ := H.2.1.lt wf hj hj0
  exact ⟨t1, t2.eq (S.2.2 _ tz id) (S.2.1.2 _ tz1), fun i hi e => t3 i hi (by rw [← elA_eq ea hi]; exact e)⟩
/-- an element of the stack -/
theorem RI.el {k : Nat} (I : RI hB h Mc D b0 Sg q a C p N Bp K B L t inp st alt) (hk : k < st.length) : ElAt h (elA h Mc (st.length - 1 - k)) (tp st k) ∧ b0 ≤ elA h Mc (st.length - 1 - k) := by
  have s := I.1.2.2.2.2.2.1 (st.length - 1 - k) (by omega)
  rw [Nat.zero_add] at s
  have l := I.1.2.2.2.2.1.2.2.1
  exact ⟨s.2, (I.1.2.1 _ (by omega) s.1).1⟩
theorem q_code {sa b e : Nat} {S : List Int32} {F : Int32 → AH → Prop} {X : Nat → AH → Prop} (hd : 1 ≤ d) (I : RI hB h Mc D b0 Sg q a C p N Bp K B L t inp st alt) (ks : h.kd sa = 101) (eS : h.ai sa = S) (ns : sa ≠ Mc + 5) (hbe : b ≤ e) (hl : e ≤ S.length) (hl2 : S.length < 2 ^ 31) (hn : e - b ≤ 1600)
    (hK : ∀ h', RI hB h' Mc D b0 Sg q a C p N Bp K B L t inp st alt → (∀ j, j < 3012 → elA h' Mc j = elA h Mc j) → eqN (e - b) (h'.ai (Mc + 5)) (sub_ S b (e - b)) → F (nI (e - b)) h') : Cw G mX7_code d 0 [vR Mc, vR sa, vI (nI b), vI (nI e)] h (kI F X) := by
  refine (Mc_code_spec (D := D) hd I.1.1 ks ns hbe (by rw [eS]; exact hl) (by rw [eS]; exact hl2) hn).nI (fun x h' Q => ?_)
  obtain ⟨ex, eh⟩ := Q
  rw [ex]
  have l5 : (h.ai (Mc + 5)).length = 1600 := I.1.1.2.2.2.2.2.2.2.1
  have M : Mod (fun y => y = Mc + 5) h h' := by
    rw [eh]
    exact Mod.wi (putB_len _ _ _ _) rfl
  refine hK h' (I.mod M (fun y p => Or.inl (by omega))) (fun j hj => elA_eq (fun v _ => by rw [M.ar]) hj) (fun i hi => ?_)
  rw [eh, AH.ai_wiS, sub_getD hi, eS, putB_getD _ _ _ _ (by omega)]
  rw [if_pos (by omega), Nat.sub_zero]
theorem q_cleaned {x n : Nat} {g C0 : List Int32} {F : Int32 → AH → Prop} {X : Nat → AH → Prop} (hd : 2 ≤ d) (I : RI hB h Mc D b0 Sg q a C p N Bp K B L t inp st alt) (ex : ElAt h x g) (hx : b0 ≤ x) (hn : n ≤ 1600) (hC : eqN n (h.ai (Mc + 5)) C0)
    (hK : ∀ h', RI hB h' Mc D b0 Sg q a C p N Bp K B L t inp st alt → (∀ j, j < 3012 → elA h' Mc j = elA h Mc j) → eqN (clnP C0 n g).length (h'.ai (Mc + 5)) (clnP C0 n g) → F (nI (clnP C0 n g).length) h') : Cw G mX7_cleaned d 0 [vR Mc, vR (Mc + 5), vI (nI n), vR x] h (kI F X) := by
  have hb := I.1.2.2.2.1
  refine (Mc_cleaned_spec hd I.1.1 ex (by omega) hn).nI (fun r h' Q => ?_)
  rw [clnP_cg hC] at Q
  obtain ⟨er, M, es⟩ := Q
  rw [er]
  refine hK h' (I.mod M (fun y p => Or.inl (by omega))) (fun j hj => elA_eq (fun v _ => by rw [M.ar]) hj) (fun i hi => ?_)
  have := congrArg (fun l => l.getD i 0) es
  try dsimp only at this
  rw [sub_getD hi, Nat.zero_add] at this
  exact this
theorem q_encoded {x : Nat} {g : List Int32} {F : AH → Prop} {X : Nat → AH → Prop} (hd : 6 ≤ d) (I : RI hB h Mc D b0 Sg q a C p N Bp K B L t inp st alt) (ex : ElAt h x g) (hK : encB g = true → F h) (hE : encB g = false → ∀ y h', ThrR hB h' Mc D b0 Sg q a C p N Bp K B L t inp y → X y h') : Cw G mX7_encoded d 0 [vR x] h (kV F X) := by
  intro wf
  have e0 : strictP (h.ai (x + 1)) 0 g.length = strictP g 0 g.length := strictP_cg (fun i hi => ex.2.2.2 i hi)
  have ee : encB g = true ↔ (g.length = 0 ∨ strictP (h.ai (x + 1)) 0 g.length = true) := by
    unfold encB
    rw [e0, Bool.or_eq_true, decide_eq_true_eq]
  refine (Mc_encoded_spec hd ex).toV (fun h' _ _ Q => ?_) (fun y h' _ _ Q => ?_) wf
  · rw [Q.2]
    exact hK (ee.mpr Q.1)
  · exact hE (by
      cases z : encB g with
      | false => rfl
      | true => exact absurd (ee.mp z) Q.1) y h' (I.thr (ThrM.of I.1 wf Q.2))
theorem q_signed {x1 x2 n : Nat} {g k c : List Int32} {F : Int32 → AH → Prop} {X : Nat → AH → Prop} (hd : 9 ≤ d) (I : RI hB h Mc D b0 Sg q a C p N Bp K B L t inp st alt) (E1 : ElAt h x1 g) (E2 : ElAt h x2 k) (b1 : b0 ≤ x1) (b2 : b0 ≤ x2) (hg : 0 < g.length) (he : encB g = true) (hc : eqN c.length (h.ai (Mc + 5)) c) (hn : n = c.length) (hn2 : n ≤ 1600)
    (hK : ∀ h', RI hB h' Mc D b0 Sg q a C p N Bp K B L t inp st alt → (∀ j, j < 3012 → elA h' Mc j = elA h Mc j) → h'.ai (Mc + 5) = h.ai (Mc + 5) → F (bB (sigB p N Bp K B L t inp g k c)) h') : Cw G mX8_signed d 0 [vR Sg, vR x1, vR x2, vR (Mc + 5), vI 0, vI (nI n)] h (kI F X) := by
  intro wf
  subst hn
  have R := I.2.1.1
  obtain ⟨⟨r1, r2, r3, r4, r5⟩, r6, ⟨r7, r8, r9⟩, r10, r11⟩ := I.2.1.1
  obtain ⟨_, A, eC, DA, T, ka, eL, CG, TI⟩ := I.2.1
  have hs : strictP g 0 g.length = true := by
    unfold encB at he
    rcases (Bool.or_eq_true _ _).mp he with z | z
    · exact absurd (of_decide_eq_true z) (by omega)
    · exact z
  obtain ⟨p1, p2, p3, p4, p5, p6⟩ := strictP_in hs
  have q1 : eqN g.length (h.ai (x1 + 1)) g := fun i hi => E1.2.2.2 i hi
  have q2 : eqN k.length (h.ai (x2 + 1)) k := fun i hi => E2.2.2.2 i hi
  have B1 := wf.isB E1.1.2.2.1
  have s1 : (h.ai (x1 + 1)).getD 3 0 = nI (ub g 3) := by
    rw [gb B1 3, q1.ub (by omega), bI_sm _ p3]
  have s2 : (h.ai (x1 + 1)).getD (5 + ub g 3) 0 = nI (ub g (5 + ub g 3)) := by
    rw [gb B1 (5 + ub g 3), q1.ub (by omega), bI_sm _ p5]
  have z1 : x1 + 1 < h.z := (wf.2.2.1 _ (by rw [E1.1.2.2.1]; decide)).2.1
  have z2 : x2 + 1 < h.z := (wf.2.2.1 _ (by rw [E2.1.2.2.1]; decide)).2.1
  have ns : ∀ y, Sg + 2 < y → ¬ sgQ Sg D y := fun y hy m => by
    have := (sd_rng R (Or.inl m)).1
    omega
  have sep : ∀ y, C ≤ y → y ≤ C + 91 → y < h.z ∧ ¬ sgQ Sg D y := fun y h1 h2 => ⟨by omega, fun m => by
    rcases m with m | m | m | m
    · omega
    · omega
    · omega
    · have := dg_rng m
      omega⟩
  have k5 : h.kd (Mc + 5) = 101 := I.1.1.2.2.1.2.2.2.2.1
  have l5 : (h.ai (Mc + 5)).length = 1600 := I.1.1.2.2.2.2.2.2.2.1
  refine (Sg_signed_spec (so := 0) (sn := c.length) (n1 := ub g 3) (n2 := ub g (5 + ub g 3)) hd A eC DA T TI (by omega) ka (by omega) (by omega) eL k5 (by omega) (by omega) (by rw [l5]; omega) (by rw [l5]; decide) hn2 CG sep (by omega) E1 E2 ⟨z1, ns _ (by omega), ns _ (by omega)⟩ ⟨z2, ns _ (by omega), ns _ (by omega)⟩ hg s1 p3 s2 p5).nI (fun x h' Q => ?_) wf
  obtain ⟨S, hz, hs', Kk, CG', dj⟩ := Q
  have nm : ∀ y, Mc ≤ y → y ≤ Mc + 8 → eqAt h h' y := fun y h1 h2 => S.2.2 y (by omega) (fun m => (sd_rng R m).2.1 ⟨h1, h2⟩)
  have a5 : h'.ai (Mc + 5) = h.ai (Mc + 5) := (nm (Mc + 5) (by omega) (by omega)).2.2.2.2.1
  have ar : (∀ j, j < 3012 → elA h' Mc j = elA h Mc j) := fun j hj => elA_eq (fun v hv => (nm (Mc + 1 + v) (by omega) (by omega)).2.2.2.2.2.2) hj
  have fin := hK h' (I.sig wf S hz hs' Kk CG') ar a5
  have key : sigB p N Bp K B L t inp g k c = true ↔ okS p N Bp (h.ai (x2 + 1)) k.length (sgV (h.ai (x1 + 1)) 4 (ub g 3)) (sgV (h.ai (x1 + 1)) (6 + ub g 3) (ub g (5 + ub g 3))) (beV (mkP K B L t inp (ub (h.ai (x1 + 1)) (g.length - 1)) (unmP (h.ai (Mc + 5)) (0 + c.length) 0)) 0 32) := by
    unfold sigB
    rw [okB_iff, okS_cg q2, sgV_cg (i := 4) q1 (by omega), sgV_cg (i := 6 + ub g 3) q1 (by omega), q1.ub (show g.length - 1 < g.length by omega), Nat.zero_add, unmP_cg hc]
  rcases dj with ⟨rfl, o⟩ | ⟨rfl, o⟩
  · rw [key.mpr o] at fin
    exact fin
  · have : sigB p N Bp K B L t inp g k c = false := by
      cases z : sigB p N Bp K B L t inp g k c with
      | false => rfl
      | true => exact absurd (key.mp z) o
    rw [this] at fin
    exact fin
theorem q_end {n op w : Nat} {ok : Bool} {v : Int32} {F : AH → Prop} {X : Nat → AH → Prop} (hd : 11 ≤ d) (I : RI hB h Mc D b0 Sg q a C p N Bp K B L t inp st alt) (hn : n ≤ st.length) (h1 : 1 ≤ n) (hs : st.length + alt.length ≤ 1000) (hv : v = bB ok) (ho : op < 256) (hw : w < 256)
    (hF : ∀ st', endP (decide (op = w)) ok (dr st n) = some st' → ∀ h', RI hB h' Mc D b0 Sg q a C p N Bp K B L t inp st' alt → F h') (hX : endP (decide (op = w)) ok (dr st n) = none → ∀ y h', ThrR hB h' Mc D b0 Sg q a C p N Bp K B L t inp y → X y h') :
    Cw G mX7_drop d 0 [vR Mc, vI (nI n)] h (kV (fun h2 => Cw G mX7_truth d 0 [vR Mc, vI v] h2 (kV (fun h5 => ((¬ nI op = nI w → F h5) ∧ (nI op = nI w → Cw G mX7_verify d 0 [vR Mc] h5 (kV (fun h9 => F h9) X)))) X)) X) := by
  subst hv
  refine q_drop (by omega) (by omega) I (fun c2 h2 I2 => ?_) (fun c2 => absurd c2 (by omega))
  have ld := dr_len st n
  refine q_truth (by omega) (by omega) I2 (fun h5 I5 => ?_)
  rw [tv_v] at I5
  refine pk_eq' op w (fun z => ?_) (fun z => ?_)
  · exact hF _ (by unfold endP; rw [if_neg (by rw [decide_eq_true_eq]; exact z)]) h5 I5
  · have e : endP (decide (op = w)) ok (dr st n) = if ok = true then some (dr st n) else none := by
      unfold endP
      rw [if_pos (by rw [decide_eq_true_eq]; exact z)]
    refine q_verify hd I5 (fun c5 c6 h9 I9 => ?_) (fun c5 y h' T => hX ?_ y h' T)
    · rw [(dr_snoc _ _).2, isT_tv] at c6
      rw [(dr_snoc _ _).1] at I9
      exact hF _ (by rw [e, if_pos c6]) h9 I9
    · rcases c5 with c5 | c5
      · rw [List.length_append] at c5
        simp at c5
      · rw [(dr_snoc _ _).2, isT_tv] at c5
        rw [e, if_neg (by rw [c5]; decide)]
/-- what an operation with one signature leaves -/
def sinP (p N : Nat) (Bp : Pt) (K B L : List Int32) (t : TxP) (inp : Nat) (S : List Int32) (b e op : Nat) (st : List (List Int32)) : Option (List (List Int32)) :=
  if st.length < 2 then none else if encB (tp st 1) = false then none else
  endP (decide (op = 173)) (decide (0 < (tp st 1).length) && sigB p N Bp K B L t inp (tp st 1) (tp st 0) (clnP (sub_ S b (e - b)) (e - b) (tp st 1))) (dr st 2)
theorem Mc_single_spec {op sa b e : Nat} {S : List Int32} (hd : 13 ≤ d) (hop : op < 256) (H : MOk h Mc D b0 st alt) (E : REnv h Mc D b0 Sg q a C p N Bp K B L t inp) (hs : st.length + alt.length ≤ 1000) (ks : h.kd sa = 101) (eS : h.ai sa = S) (ns : sa ≠ Mc + 5) (hbe : b ≤ e) (hl : e ≤ S.length) (hl2 : S.length < 2 ^ 31) (hn : e - b ≤ 1600) : Cw G mX7_single d 0 [vR Mc, vI (nI op), vR Sg, vR sa, vI (nI b), vI (nI e)] h (kV (fun h' => ∃ st', sinP p N Bp K B L t inp S b e op st = some st' ∧ RI h h' Mc D b0 Sg q a C p N Bp K B L t inp st' alt) (fun y h' => sinP p N Bp K B L t inp S b e op st = none ∧ ThrR h h' Mc D b0 Sg q a C p N Bp K B L t inp y)) := by
  obtain ⟨d, rfl⟩ : ∃ d', d = d' + 1 := ⟨d - 1, by omega⟩
  have I : RI h h Mc D b0 Sg q a C p N Bp K B L t inp st alt := ⟨H, E, RFr.rf, Kp.rf, rfl⟩
  refine eX7_single h Mc (nI op) Sg sa (nI b) (nI e) (fun wf => sX7_single_0 h Mc (nI op) Sg sa (nI b) (nI e) ⟨H.1.1, ?_⟩)
  have few : st.length < 2 → sinP p N Bp K B L t inp S b e op st = none := fun z => by unfold sinP; rw [if_pos z]
  refine q_top (k := 1) (by omega) (by decide) I (fun c1 x1 hx1 ex1 => ?_) (fun c1 y h' T => ⟨few (by omega), T⟩)
  refine q_top (k := 0) (by omega) (by decide) I (fun c0 x4 hx4 ex4 => ?_) (fun c0 y h' T => ⟨few (by omega), T⟩)
  intro r8 e8
  have e8' : r8 = Mc + 5 := e8.trans H.1.2.1.2.2.2.2.2.1
  subst e8'
  refine q_code (by omega) I ks eS ns hbe hl hl2 hn (fun h10 I10 ar10 q10 => ?_)
  have l3 := H.2.2.2.2.1.2.2.1
  have y1 := I10.el c1
  rw [ar10 _ (by omega), ← hx1] at y1
  refine q_cleaned (by omega) I10 y1.1 y1.2 hn q10 (fun h12 I12 ar12 q12 => ?_)
  have y1b := I12.el c1
  rw [ar12 _ (by omega), ar10 _ (by omega), ← hx1] at y1b
  have y4 := I12.el c0
  rw [ar12 _ (by omega), ar10 _ (by omega), ← hx4] at y4
  refine q_encoded (by omega) I12 y1b.1 (fun he => ?_) (fun he y h' T => ⟨by unfold sinP; rw [if_neg (by omega), if_pos he], T⟩)
  have hP : sinP p N Bp K B L t inp S b e op st = endP (decide (op = 173)) (decide (0 < (tp st 1).length) && sigB p N Bp K B L t inp (tp st 1) (tp st 0) (clnP (sub_ S b (e - b)) (e - b) (tp st 1))) (dr st 2) := by
    unfold sinP
    rw [if_neg (by omega), if_neg (by rw [he]; decide)]
  refine ⟨y1b.1.1.1, ?_⟩
  rw [y1b.1.2.1]
  have en : ∀ {ok : Bool} {v : Int32} {h' : AH}, RI h h' Mc D b0 Sg q a C p N Bp K B L t inp st alt → v = bB ok → sinP p N Bp K B L t inp S b e op st = endP (decide (op = 173)) ok (dr st 2) →
      Cw G mX7_drop d 0 [vR Mc, vI (nI 2)] h' (kV (fun h2 => Cw G mX7_truth d 0 [vR Mc, vI v] h2 (kV (fun h5 => ((¬ nI op = nI 173 → (kV (fun h' => ∃ st', sinP p N Bp K B L t inp S b e op st = some st' ∧ RI h h' Mc D b0 Sg q a C p N Bp K B L t inp st' alt) (fun y h' => sinP p N Bp K B L t inp S b e op st = none ∧ ThrR h h' Mc D b0 Sg q a C p N Bp K B L t inp y)) (.inl none) h5) ∧ (nI op = nI 173 → Cw G mX7_verify d 0 [vR Mc] h5 (kV (fun h9 => (kV (fun h' => ∃ st', sinP p N Bp K B L t inp S b e op st = some st' ∧ RI h h' Mc D b0 Sg q a C p N Bp K B L t inp st' alt) (fun y h' => sinP p N Bp K B L t inp S b e op st = none ∧ ThrR h h' Mc D b0 Sg q a C p N Bp K B L t inp y)) (.inl none) h9) (fun x h_1 => (kV (fun h' => ∃ st', sinP p N Bp K B L t inp S b e op st = some st' ∧ RI h h' Mc D b0 Sg q a C p N Bp K B L t inp st' alt) (fun y h' => sinP p N Bp K B L t inp S b e op st = none ∧ ThrR h h' Mc D b0 Sg q a C p N Bp K B L t inp y)) (.inr x) h_1))))) (fun x h_1 => (kV (fun h' => ∃ st', sinP p N Bp K B L t inp S b e op st = some st' ∧ RI h h' Mc D b0 Sg q a C p N Bp K B L t inp st' alt) (fun y h' => sinP p N Bp K B L t inp S b e op st = none ∧ ThrR h h' Mc D b0 Sg q a C p N Bp K B L t inp y)) (.inr x) h_1))) (fun x h_1 => (kV (fun h' => ∃ st', sinP p N Bp K B L t inp S b e op st = some st' ∧ RI h h' Mc D b0 Sg q a C p N Bp K B L t inp st' alt) (fun y h' => sinP p N Bp K B L t inp S b e op st = none ∧ ThrR h h' Mc D b0 Sg q a C p N Bp K B L t inp y)) (.inr x) h_1)) := fun {ok v h'} I' hv hP' =>
    q_end (op := op) (w := 173) (ok := ok) (by omega) I' (by omega) (by decide) hs hv hop (by decide) (fun st' es h9 I9 => ⟨st', hP'.trans es, I9⟩) (fun es y h9 T9 => ⟨hP'.trans es, T9⟩)
  have gl := y1b.1.2.2.1
  refine pk_le (tp st 1).length 0 (fun z => ?_) (fun z => ⟨I12.2.1.2.1.1.1, ?_⟩)
  · refine sX7_single_72 _ Mc (nI op) ⟨I12.1.1.1, en (ok := false) I12 rfl ?_⟩
    rw [hP, decide_eq_false (show ¬ 0 < (tp st 1).length by omega), Bool.false_and]
  · have cl := clnF_len (sub_ S b (e - b)) (e - b) (tp st 1) (e - b) 0 (Nat.zero_le _)
    refine q_signed (by omega) I12 y1b.1 y4.1 y1b.2 y4.2 (by omega) he q12 rfl (Nat.le_trans cl (by omega)) (fun h25 I25 ar25 _ => ?_)
    rw [decide_eq_true (show 0 < (tp st 1).length by omega), Bool.true_and] at hP
    refine ⟨fun w => ?_, fun w => ?_⟩
    · refine sX7_single_72 _ Mc (nI op) ⟨I25.1.1.1, en (ok := false) I25 rfl ?_⟩
      rw [hP, (bB_0 _).mp w]
    · refine en (ok := true) I25 rfl ?_
      rw [hP]
      cases z2 : sigB p N Bp K B L t inp (tp st 1) (tp st 0) (clnP (sub_ S b (e - b)) (e - b) (tp st 1)) with
      | true => rfl
      | false => rw [z2] at w; exact absurd rfl w
end Single

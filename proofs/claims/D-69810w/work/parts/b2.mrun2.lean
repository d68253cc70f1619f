/-! the reference: the whole run -/
set_option maxRecDepth 100000
section MRun2
variable {G : Gx} {d : Nat} {hB h h' h0 : AH} {M Z F O p N I J pp a n j inp : Nat} {K B L : List Int32} {t : TxP} {Bp : Pt} {st alt : List (List Int32)} {fl : Bool} {S : List Int32} {sa e off : Nat} {R : Option (List (List Int32))}
theorem Aw.monoI {X : Mx} {D t' pc : Nat} {lv sv : List AV} {P Q : Int32 → AH → Prop} (k : Aw G X D t' h0 (kI P nE) pc lv sv h) (f : ∀ x h', P x h' → Q x h') : Aw G X D t' h0 (kI Q nE) pc lv sv h := k.mono (fun o h' q => by
  match o, q with
  | .inl none, q => exact False.elim q
  | .inl (some (.inl x)), q => exact f x h' q
  | .inl (some (.inr _)), q => exact False.elim q
  | .inr x, q => exact q)
set_option maxHeartbeats 1000000 in
theorem mrun_40 (hd : 16 ≤ d) (C : CdA hB M Z O sa e S) (T : MdT hB M) (EB : MEnv hB M Z F O p N I J pp a n j inp K B L t Bp) (hl : e ≤ S.length) (hl2 : S.length < 2 ^ 16) (hoff : e - off ≤ 1600) : ∀ (k i : Nat) (s : RSt) (h : AH), e - i < k → off ≤ i → i ≤ e → RL2 hB h M Z F O p N I J pp a n j inp K B L t Bp s → off ≤ s.1 → s.1 ≤ e → s.2.1 ≤ 201 → s.2.2.2.2.length ≤ s.2.1 → s.2.2.1.length + s.2.2.2.1.length ≤ 1000 → runF p N Bp K B L t inp S e k i s = R →
    Aw G mX24_run (d + 1) 0 h0 (kI (fun x h' => RnE hB h' M Z F O p N I J pp a n j inp K B L t Bp R x) nE) 40 [vR M, vR sa, vU, vU, vI (nI i), vU, vU, vU, vU] [] h := by
  intro k
  induction k with
  | zero => intro i s h hk; exact absurd hk (Nat.not_lt_zero _)
  | succ k ih =>
    intro i s h hk hi0 hie I1 b1 b2 b3 b4 b5 hR
    obtain ⟨bg, ops, st, alt, br⟩ := s
    dsimp only at b1 b2 b3 b4 b5 ⊢
    have hM := EB.1.1
    have zB := EB.2.2.2.2.2.2.2.1.1
    have tbB := EB.2.2.2.2.2.2.2.2
    have Ch := C.rn I1.2.1 hM
    have Br : BrM h M Z br := I1.1.2.2.2.2
    unfold runF at hR
    dsimp only at hR
    refine sX24_run_40 h M sa (nI i) ⟨I1.w.1.1, ?_⟩
    rw [Ch.2.1, Br.1]
    refine pk_le e i (fun z => ?_) (fun z => ?_)
    · rw [if_pos z] at hR
      exact pk_eq' br.length 0 (fun w => I1.no (by rw [← hR, if_neg w])) (fun w => ⟨Or.inl ⟨st, by rw [← hR, if_pos w], rfl, by omega, alt, I1.1.1⟩, I1.w, I1.2⟩)
    · rw [if_neg (by omega)] at hR
      have hu := ub_lt S i
      rw [Ch.2.2.2.1, pk_cl i rfl (by omega), and_ub]
      refine ⟨Ch.2.2.1, pk_in i S.length (by omega), fun u6 e6 => ?_⟩
      subst e6
      refine (MD_behind_spec (L := S) (by omega) I1.w.1.1 Ch.2.2.1 Ch.2.2.2.1 (by omega) hl (by omega)).nI (fun x7 h8 Q => ?_)
      obtain ⟨ex, e8⟩ := Q
      have I8 := I1.pi (q := 24063) (nI (if opLen S i e = 0 then 0 else opSz S i)) rfl
      rw [← e8] at I8
      have f63 : h8.i 24063 M = nI (if opLen S i e = 0 then 0 else opSz S i) := by rw [e8, AH.i_pi, if_pos ⟨rfl, rfl⟩]
      clear e8
      by_cases n0 : opLen S i e = 0
      · rw [ex, if_pos n0]
        refine ⟨fun _ => I8.no ?_, fun q => absurd (by decide) q⟩
        rw [← hR]
        unfold oneP
        rw [if_pos n0]
      · rw [if_neg n0] at f63
        rw [ex, if_neg n0, f63]
        have ol := opLen_le (L := S) (i := i) (e := e)
        have oe := opLen_eq n0
        have hp := opHd_pos (ub S i)
        have hp5 := opHd_le (ub S i)
        have one : oneP p N Bp K B L t inp S e i (bg, ops, st, alt, br) = if ub S i ≤ 78 ∧ 520 < opSz S i then none else if 201 < opsC (ub S i) ops ∨ nvB (ub S i) = true then none
            else match actP p N Bp K B L t inp S e i (bg, opsC (ub S i) ops, st, alt, br) with
            | none => none
            | some r => if 1000 < r.2.2.1.length + r.2.2.2.1.length then none else some r := by
          unfold oneP
          rw [if_neg n0]
          rfl
        have oC : opsC (ub S i) ops ≤ ops + 1 ∧ ops ≤ opsC (ub S i) ops := by
          unfold opsC
          split <;> omega
        have body : opSz S i ≤ 520 → ∀ hx, RL2 hB hx M Z F O p N I J pp a n j inp K B L t Bp (bg, opsC (ub S i) ops, st, alt, br) → hx.i 24063 M = nI (opSz S i) → Aw G mX24_run (d + 1) 0 h0 (kI (fun x h' => RnE hB h' M Z F O p N I J pp a n j inp K B L t Bp R x) nE) 106 [vR M, vR sa, vU, vU, vU, vI (nI (ub S i)), vI (nI (i + opLen S i e)), vU, vU] [] hx := fun c5 hx Ix g63 => by
          rw [if_neg (by omega)] at one
          have io : hx.i 24082 M = nI (opsC (ub S i) ops) := Ix.1.2.2.2.1
          refine sX24_run_106 hx M sa (nI (ub S i)) (nI (i + opLen S i e)) ⟨Ix.w.1.1, ?_⟩
          rw [io]
          refine pk_lt 201 (opsC (ub S i) ops) (fun q => Ix.no (by rw [← hR, one, if_pos (Or.inl q)])) (fun q => (MD_never_spec (by omega) hu).nI (fun x3 h4 Q => ?_))
          obtain ⟨ex3, eh⟩ := Q
          rw [eh, ex3]
          cases nv : nvB (ub S i) with
          | true => exact ⟨fun z => absurd z (by decide), fun _ => Ix.no (by rw [← hR, one, if_pos (Or.inr nv)])⟩
          | false =>
            refine ⟨fun _ => ?_, fun z => absurd rfl z⟩
            rw [if_neg (fun w => w.elim (fun w => by omega) (fun w => by rw [nv] at w; exact absurd w (by decide)))] at one
            refine mrun_132 (op := ub S i) (b := bg) (ops := opsC (ub S i) ops) (st := st) (alt := alt) (br := br) (i := i) (nx := i + opLen S i e) (by omega) (C.rn Ix.2.1 hM) (T.rn Ix.2.1 hM tbB zB) Ix g63 rfl nv (by omega) n0 (fun _ => c5) b5 (by omega) (by omega) b2 hl hl2 (by omega) rfl (fun h' OA => ?_)
            refine mrun_212 (nx := i + opLen S i e) Ix.2.1 OA (fun bad => ?_) (fun r er z rl => ?_)
            · rcases bad with bad | ⟨r, er, z⟩
              · rw [← hR, one, bad]
              · rw [er] at one
                dsimp only at one
                rw [if_pos z] at one
                rw [← hR, one]
            · have bd := actP_bd (off := off) er (by omega) b1 b2 hi0 (by dsimp only; omega) (by dsimp only; omega) (fun q => by
                dsimp only
                have : opsC (ub S i) ops = ops + 1 := by unfold opsC; rw [if_neg (by omega)]
                omega)
              rw [er] at one
              dsimp only at one
              rw [if_neg (by omega)] at one
              rw [one] at hR
              dsimp only at hR
              exact ih (i + opLen S i e) r h' (by omega) (by omega) (by omega) rl bd.1 bd.2.1 bd.2.2.1 bd.2.2.2 z hR
        refine pk_lt (i + opLen S i e) 0 (fun q => absurd q (Nat.not_lt_zero _)) (fun _ => pk_le (opSz S i) 520 (fun z5 => pk_le (ub S i) 96 (fun z6 => ?_) (fun z6 h13 e13 => ?_)) (fun z5 => I8.no ?_))
        · refine body z5 h8 ?_ f63
          have : opsC (ub S i) ops = ops := by unfold opsC; rw [if_pos z6]
          rw [this]
          exact I8
        · have eo : opsC (ub S i) ops = ops + 1 := by unfold opsC; rw [if_neg (by omega)]
          have i82 : h8.i 24082 M = nI ops := I8.1.2.2.2.1
          rw [i82, nI_1] at e13
          refine body z5 h13 ?_ ?_
          · rw [eo, e13]
            exact I8.cnt rfl
          · rw [e13, AH.i_pi, if_neg (fun q => absurd q.1 (by decide))]
            exact f63
        · have u78 : ub S i ≤ 78 := by
            rcases Nat.lt_or_ge 78 (ub S i) with w | w
            · have := opSz_0 w
              omega
            · exact w
          rw [← hR, one, if_pos ⟨u78, z5⟩]
/-- the stack alone -/
def MSt (h : AH) (M Z : Nat) (st : List (List Int32)) : Prop := MWk h M Z ∧ (h.i 24067 M = nI st.length ∧ st.length ≤ 1000) ∧ StM h Z 0 (Z + 1) st
def rnK2 : List Nat := 24079 :: 24081 :: rnK
/-- the frame of a whole run -/
def RnG (h h' : AH) (M Z F O : Nat) : Prop := Same (rmP h M Z F O) h h' ∧ (∀ y, y < h.z → inT h' Z y → inT h Z y) ∧ h'.z + nulM h' Z = h.z + nulM h Z ∧ h'.s + 520 * nulM h' Z = h.s + 520 * nulM h Z ∧ Kp rnK2 M h h'
theorem RnG.rf : RnG h h M Z F O := ⟨Same.rf, fun _ _ q => q, rfl, rfl, Kp.rf⟩
theorem RnG.trans {h2 : AH} (x : RnG h h' M Z F O) (y : RnG h' h2 M Z F O) : RnG h h2 M Z F O :=
  ⟨x.1.trans y.1 (fun q hq p => by
    rcases p with p | p
    · rcases p with p | p | p
      · exact Or.inl (Or.inl p)
      · exact Or.inl (Or.inr (Or.inl p))
      · exact Or.inl (Or.inr (Or.inr (x.2.1 q hq p)))
    · exact Or.inr p), fun q hq p => x.2.1 q hq (y.2.1 q (Nat.lt_of_lt_of_le hq x.1.1) p), y.2.2.1.trans x.2.2.1, y.2.2.2.1.trans x.2.2.2.1, x.2.2.2.2.trans y.2.2.2.2 (fun _ q => q)⟩
theorem RnF.g (x : RnF h h' M Z F O) : RnG h h' M Z F O := ⟨x.1, x.2.1, x.2.2.1, x.2.2.2.1, fun k hk => x.2.2.2.2 k (fun q => hk (List.mem_cons_of_mem _ (List.mem_cons_of_mem _ q)))⟩
theorem MkS.pr79 (H : MkS h M Z) (v : Nat) : MkS (h.pr 24079 M v) M Z := by
  obtain ⟨a1, ⟨r1, r2, r3, r4, r5, r6, r7, r8, r9, r10, r11⟩, k, l, e8, hM, hz⟩ := H
  have R : ∀ q, q ≠ 24079 → (h.pr 24079 M v).r q M = h.r q M := fun q hq => by rw [AH.r_pr, if_neg (fun w => hq w.1)]
  exact ⟨a1, ⟨(R _ (by decide)).trans r1, (R _ (by decide)).trans r2, (R _ (by decide)).trans r3, (R _ (by decide)).trans r4, (R _ (by decide)).trans r5, (R _ (by decide)).trans r6, (R _ (by decide)).trans r7, (R _ (by decide)).trans r8, (R _ (by decide)).trans r9, (R _ (by decide)).trans r10, (R _ (by decide)).trans r11⟩, k, l, e8, hM, hz⟩
/-- fields have been set -/
def FlS (h h1 : AH) (M Z F O p N I J pp a n j inp : Nat) (K B L : List Int32) (t : TxP) (Bp : Pt) (st : List (List Int32)) : Prop := MSt h1 M Z st ∧ MEnv h1 M Z F O p N I J pp a n j inp K B L t Bp ∧ RnG h h1 M Z F O ∧ (h1.kd = h.kd ∧ h1.ai = h.ai ∧ h1.ar = h.ar ∧ h1.z = h.z)
theorem FlS.pi {h1 : AH} (x : FlS h h1 M Z F O p N I J pp a n j inp K B L t Bp st) {q : Nat} (v : Int32) (q1 : q ≠ 24067) (q2 : q ∈ skK) (q3 : q ∈ rnK2) : FlS h (h1.pi q M v) M Z F O p N I J pp a n j inp K B L t Bp st := by
  obtain ⟨⟨w, ⟨i1, i2⟩, s1⟩, E1, G1, ⟨k1, k2, k3, k4⟩⟩ := x
  refine ⟨⟨w.pi q v, ⟨by rw [AH.i_pi, if_neg (fun w => q1 w.1.symm)]; exact i1, i2⟩, s1⟩, E1.pk w v q2, G1.trans ⟨Same.rf.pi q v (Or.inl (Or.inl (Or.inl rfl))), fun _ _ p => p, rfl, rfl, Kp.rf.pi _ _ (Or.inl q3)⟩, ⟨k1, k2, k3, k4⟩⟩
theorem FlS.pr79 (w : MSt h M Z st) (E1 : MEnv h M Z F O p N I J pp a n j inp K B L t Bp) (v : Nat) : FlS h (h.pr 24079 M v) M Z F O p N I J pp a n j inp K B L t Bp st := by
  have S1 : Same (skP h M Z) h (h.pr 24079 M v) := Same.rf.pr 24079 v (Or.inl (Or.inl rfl))
  refine ⟨⟨⟨w.1.1.pr79 v, w.1.2⟩, w.2⟩, E1.skb w.1 ⟨S1.mono (fun _ _ q => Or.inl q), fun _ _ p => p, rfl, rfl⟩ (Kp.rf.pr _ _ (Or.inl (by decide))), ⟨S1.mono (fun _ _ q => Or.inl q), fun _ _ p => p, rfl, rfl, Kp.rf.pr _ _ (Or.inl (by decide))⟩, ⟨rfl, rfl, rfl, rfl⟩⟩
/-- what a whole run leaves -/
def RnR (h h' : AH) (M Z F O p N I J pp a n j inp : Nat) (K B L : List Int32) (t : TxP) (Bp : Pt) (R : Option (List (List Int32))) (x : Int32) : Prop :=
  ((∃ st', R = some st' ∧ x = 1 ∧ st'.length ≤ 1000 ∧ ∃ alt', MOm h' M Z st' alt') ∨ (R = none ∧ x = 0)) ∧ MWk h' M Z ∧ RnG h h' M Z F O ∧ MEnv h' M Z F O p N I J pp a n j inp K B L t Bp ∧ MdT h' M
set_option maxHeartbeats 1000000 in
theorem MD_run_spec {sz : Nat} (hd : 18 ≤ d) (E : MEnv h M Z F O p N I J pp a n j inp K B L t Bp) (T : MdT h M) (H : MSt h M Z st) (ks : h.kd sa = 101) (eS : h.ai sa = S) (sO : O + 7 < sa ∧ sa < h.z) (nT : ¬ inT h Z sa) (hl : off + sz ≤ S.length) (hl2 : S.length < 2 ^ 16) (hsz : sz ≤ 1600) (hR : R = runP p N Bp K B L t inp S off (off + sz) st) :
    Cw G mX24_run d 0 [vR M, vR sa, vI (nI off), vI (nI sz)] h (kI (fun x h' => RnR h h' M Z F O p N I J pp a n j inp K B L t Bp R x) nE) := by
  obtain ⟨d, rfl⟩ : ∃ d', d = d' + 1 := ⟨d - 1, by omega⟩
  have hM := E.1.1
  have zz := E.2.2.2.2.2.2.2.1.1
  have tb := E.2.2.2.2.2.2.2.2
  refine eX24_run h M sa (nI off) (nI sz) (fun _ => sX24_run_0 h M sa (nI off) (nI sz) ⟨H.1.1.1, fun h2 e2 h4 e4 h6 e6 h8 e8 h10 e10 h12 e12 h14 e14 => ?_⟩)
  rw [nI_add] at e6
  have y2 : FlS h h2 M Z F O p N I J pp a n j inp K B L t Bp st := by rw [e2]; exact FlS.pr79 H E sa
  have y4 : FlS h h4 M Z F O p N I J pp a n j inp K B L t Bp st := by rw [e4]; exact y2.pi _ (by decide) (by decide) (by decide)
  have y6 : FlS h h6 M Z F O p N I J pp a n j inp K B L t Bp st := by rw [e6]; exact y4.pi _ (by decide) (by decide) (by decide)
  have y8 : FlS h h8 M Z F O p N I J pp a n j inp K B L t Bp st := by rw [e8]; exact y6.pi _ (by decide) (by decide) (by decide)
  have y10 : FlS h h10 M Z F O p N I J pp a n j inp K B L t Bp st := by rw [e10]; exact y8.pi _ (by decide) (by decide) (by decide)
  have y12 : FlS h h12 M Z F O p N I J pp a n j inp K B L t Bp st := by rw [e12]; exact y10.pi _ (by decide) (by decide) (by decide)
  have y14 : FlS h h14 M Z F O p N I J pp a n j inp K B L t Bp st := by rw [e14]; exact y12.pi _ (by decide) (by decide) (by decide)
  have r79 : h14.r 24079 M = sa := by
    rw [e14, e12, e10, e8, e6, e4]
    show h2.r 24079 M = sa
    rw [e2, AH.r_pr, if_pos ⟨rfl, rfl⟩]
  have i80 : h14.i 24080 M = nI off := by rw [e14, AH.i_pi, if_neg (fun q => absurd q.1 (by decide)), e12, AH.i_pi, if_neg (fun q => absurd q.1 (by decide)), e10, AH.i_pi, if_neg (fun q => absurd q.1 (by decide)), e8, AH.i_pi, if_neg (fun q => absurd q.1 (by decide)), e6, AH.i_pi, if_neg (fun q => absurd q.1 (by decide)), e4, AH.i_pi, if_pos ⟨rfl, rfl⟩]
  have i81 : h14.i 24081 M = nI (off + sz) := by rw [e14, AH.i_pi, if_neg (fun q => absurd q.1 (by decide)), e12, AH.i_pi, if_neg (fun q => absurd q.1 (by decide)), e10, AH.i_pi, if_neg (fun q => absurd q.1 (by decide)), e8, AH.i_pi, if_neg (fun q => absurd q.1 (by decide)), e6, AH.i_pi, if_pos ⟨rfl, rfl⟩]
  have i82 : h14.i 24082 M = nI 0 := by
    rw [e14, AH.i_pi, if_neg (fun q => absurd q.1 (by decide)), e12, AH.i_pi, if_neg (fun q => absurd q.1 (by decide)), e10, AH.i_pi, if_neg (fun q => absurd q.1 (by decide)), e8, AH.i_pi, if_pos ⟨rfl, rfl⟩]
    rfl
  have i70 : h14.i 24070 M = nI 0 := by
    rw [e14, AH.i_pi, if_neg (fun q => absurd q.1 (by decide)), e12, AH.i_pi, if_neg (fun q => absurd q.1 (by decide)), e10, AH.i_pi, if_pos ⟨rfl, rfl⟩]
    rfl
  have i84 : h14.i 24084 M = nI 0 := by
    rw [e14, AH.i_pi, if_neg (fun q => absurd q.1 (by decide)), e12, AH.i_pi, if_pos ⟨rfl, rfl⟩]
    rfl
  have i74 : h14.i 24074 M = 0 := by rw [e14, AH.i_pi, if_pos ⟨rfl, rfl⟩]
  clear e2 e4 e6 e8 e10 e12 e14 y2 y4 y6 y8 y10 y12
  obtain ⟨⟨w, ⟨w1, w2⟩, w3⟩, E14, G14, ⟨k1, k2, k3, k4⟩⟩ := y14
  have C14 : CdA h14 M Z O sa (off + sz) S := ⟨r79, i81, by rw [k1]; exact ks, by rw [k2]; exact eS, ⟨sO.1, by rw [k4]; exact sO.2⟩, fun q => nT (by
    unfold inT rwA at q ⊢
    rw [k3] at q
    exact q)⟩
  have T14 : MdT h14 M := ⟨by rw [k2]; exact T.1, by rw [k2]; exact T.2.1, by rw [k2]; exact T.2.2⟩
  have I14 : RL2 h14 h14 M Z F O p N I J pp a n j inp K B L t Bp (off, 0, st, [], []) := ⟨⟨⟨w, ⟨w1, i70, by dsimp only; omega, Nat.zero_le _⟩, w3, fun j hj => absurd hj (Nat.not_lt_zero _)⟩, i74, i80, i82, ⟨i84, fun j hj => absurd hj (Nat.not_lt_zero _)⟩⟩, RnF.rf, E14⟩
  refine (mrun_40 (off := off) (e := off + sz) (by omega) C14 T14 E14 hl hl2 (by omega) (off + sz - off + 1) off (off, 0, st, [], []) h14 (by omega) (Nat.le_refl _) (by omega) I14 (Nat.le_refl _) (by dsimp only; omega) (Nat.zero_le _) (Nat.zero_le _) (by dsimp only; rw [List.length_nil]; omega) hR.symm).monoI (fun x h' Q => ?_)
  obtain ⟨q1, q2, q3, q4⟩ := Q
  exact ⟨q1, q2, G14.trans q3.g, q4, T14.rn q3 hM E14.2.2.2.2.2.2.2.2 E14.2.2.2.2.2.2.2.1.1⟩
theorem MOm.mst (H : MOm h M Z st alt) (hs : st.length ≤ 1000) : MSt h M Z st := ⟨H.1, ⟨H.2.1.1, hs⟩, H.2.2.1⟩
end MRun2

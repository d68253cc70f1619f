/-! what a run of a script stands on -/
set_option maxRecDepth 100000
def REs (h : AH) (Mc D b0 Sg q a C : Nat) (t : TxP) : Prop := (D + 15 < C ∧ C + 91 < Mc ∧ Mc + 8 < Sg ∧ Sg + 2 < b0 ∧ b0 ≤ h.z) ∧ (∀ y, y < b0 → h.kd y ≠ 22) ∧ (Sg + 2 < a ∧ a < h.z ∧ h.kd (a - 1) ≠ 22) ∧ Sg + 2 < q ∧ q + txSz t ≤ h.z
def REnv (h : AH) (Mc D b0 Sg q a C p N : Nat) (Bp : Pt) (K B L : List Int32) (t : TxP) (inp : Nat) : Prop := REs h Mc D b0 Sg q a C t ∧ SgA h Sg D a ∧ h.r 8001 Sg = C ∧ DgA h D K B ∧ SgT h Sg q L t inp ∧ h.kd a = 101 ∧ h.ai a = L ∧ CvG h C p N Bp ∧ TxIn L t
/-- what a run may change -/
def rnP (h : AH) (Mc D Sg C y : Nat) : Prop := mP h Mc y ∨ (Mc + 4 ≤ y ∧ y ≤ Mc + 7) ∨ sdQ Sg D C y
/-- what the machine alone may change in it -/
def moP (h : AH) (Mc D y : Nat) : Prop := mQ h Mc y ∨ (Mc + 4 ≤ y ∧ y ≤ Mc + 8) ∨ dgQ D y
theorem vf_rng {C y : Nat} (p : vfP C y) : C + 6 ≤ y ∧ y ≤ C + 91 := by
  simp only [vfP] at p
  omega
theorem dg_rng {D y : Nat} (p : dgQ D y) : D + 3 ≤ y ∧ y ≤ D + 9 := p
section Env
variable {G : Gx} {d : Nat} {hB h h' h0 : AH} {Mc D b0 Sg q a C p N inp : Nat} {Bp : Pt} {K B L : List Int32} {t : TxP} {st alt : List (List Int32)}
theorem mP_low (hn : ∀ y, y < b0 → h.kd y ≠ 22) {y : Nat} (hy : y < b0) (m : mQ h Mc y) : Mc ≤ y ∧ y ≤ Mc + 3 := by
  rcases m with m | m | m
  · exact m
  · exact absurd m (hn y hy)
  · exact absurd m.2 (hn (y - 1) (by omega))
theorem sd_rng (R : REs h Mc D b0 Sg q a C t) {y : Nat} (m : sdQ Sg D C y) : y ≤ Sg + 2 ∧ ¬ (Mc ≤ y ∧ y ≤ Mc + 8) ∧ (D ≤ y → y ≤ D + 15 → dgQ D y) := by
  obtain ⟨⟨r1, r2, r3, r4, r5⟩, _, _, _, _⟩ := R
  rcases m with m | m
  · rcases m with m | m | m | m
    · exact ⟨by omega, by omega, by omega⟩
    · exact ⟨by omega, by omega, by omega⟩
    · exact ⟨by omega, by omega, by omega⟩
    · have := dg_rng m
      exact ⟨by omega, by omega, fun _ _ => m⟩
  · have := vf_rng m
    exact ⟨by omega, by omega, by omega⟩
theorem REs.same {P : Nat → Prop} (R : REs h Mc D b0 Sg q a C t) (S : Same P h h') : REs h' Mc D b0 Sg q a C t := by
  obtain ⟨⟨r1, r2, r3, r4, r5⟩, r6, ⟨r7, r8, r9⟩, r10, r11⟩ := R
  have := S.1
  exact ⟨⟨r1, r2, r3, r4, by omega⟩, fun y hy => by rw [S.kd (by omega)]; exact r6 y hy, ⟨r7, by omega, by rw [S.kd (by omega)]; exact r9⟩, r10, by omega⟩
/-- the kinds of a transaction's cells -/
theorem TxAt.kds (T : TxAt h q L t) {y : Nat} (h1 : q ≤ y) (h2 : y < q + txSz t) : h.kd y ≠ 22 ∧ ¬ (h.kd y = 101 ∧ h.kd (y - 1) = 22) := by
  obtain ⟨⟨a1, a2, a3, a4, a5, a6, a7⟩, ⟨b1, b2, b3⟩, c1, c2, c3, e1, e2, e3⟩ := T
  unfold txSz at h2
  by_cases z0 : y = q
  · rw [z0, a1]
    exact ⟨by decide, fun z => absurd z.1 (by decide)⟩
  by_cases z1 : y = q + 1
  · rw [z1, a5, Nat.add_sub_cancel, a1]
    exact ⟨by decide, fun z => absurd z.2 (by decide)⟩
  by_cases z2 : y = q + 2
  · rw [z2, b1]
    exact ⟨by decide, fun z => absurd z.1 (by decide)⟩
  by_cases z3 : y < q + 3 + t.2.2.1.length
  · have k := (b3 (y - (q + 3)) (by omega)).1
    rw [show q + 2 + 1 + (y - (q + 3)) = y by omega] at k
    rw [k]
    exact ⟨by decide, fun z => absurd z.1 (by decide)⟩
  by_cases z4 : y = q + 3 + t.2.2.1.length
  · rw [z4, e1]
    exact ⟨by decide, fun z => absurd z.1 (by decide)⟩
  · have k := (e3 (y - (q + 3 + t.2.2.1.length + 1)) (by omega)).1
    rw [show q + 3 + t.2.2.1.length + 1 + (y - (q + 3 + t.2.2.1.length + 1)) = y by omega] at k
    rw [k]
    exact ⟨by decide, fun z => absurd z.1 (by decide)⟩
/-- cells behind the objects that are no elements -/
theorem out_hi (R : REs h Mc D b0 Sg q a C t) {y : Nat} (hy : Sg + 2 < y) (k1 : h.kd y ≠ 22) (k2 : ¬ (h.kd y = 101 ∧ h.kd (y - 1) = 22)) : ¬ mQ h Mc y ∧ ¬ (Mc + 4 ≤ y ∧ y ≤ Mc + 8) ∧ ¬ sdQ Sg D C y := by
  have r := R.1
  refine ⟨fun m => ?_, by omega, fun m => by have := (sd_rng R m).1; omega⟩
  rcases m with m | m | m
  · omega
  · exact k1 m
  · exact k2 m
theorem SgT.eqc (T : SgT h Sg q L t inp) (k : h'.kd Sg = h.kd Sg) (r6 : h'.r 8006 Sg = h.r 8006 Sg) (i7 : h'.i 8007 Sg = h.i 8007 Sg) (e : ∀ y, q ≤ y → y < q + txSz t → eqAt h h' y) : SgT h' Sg q L t inp := by
  obtain ⟨t1, t2, t3, t4, t5⟩ := T
  exact ⟨k.trans t1, r6.trans t2, i7.trans t3, t4.eq e, t5⟩
/-- the machine alone has worked -/
theorem REnv.mach {P : Nat → Prop} (E : REnv h Mc D b0 Sg q a C p N Bp K B L t inp) (S : Same P h h') (hP : ∀ y, y < h.z → P y → moP h Mc D y) : REnv h' Mc D b0 Sg q a C p N Bp K B L t inp := by
  obtain ⟨R, A, eC, DA, T, ka, eL, CG, TI⟩ := E
  have R' := R
  obtain ⟨⟨r1, r2, r3, r4, r5⟩, r6, ⟨r7, r8, r9⟩, r10, r11⟩ := R'
  have low : ∀ y, y < b0 → ¬ (Mc ≤ y ∧ y ≤ Mc + 8) → ¬ dgQ D y → eqAt h h' y := fun y hy h1 h2 => S.2.2 y (by omega) (fun p => by
    rcases hP y (by omega) p with m | m | m
    · have := mP_low r6 hy m
      omega
    · omega
    · exact h2 m)
  have hi : ∀ y, Sg + 2 < y → y < h.z → h.kd y ≠ 22 → ¬ (h.kd y = 101 ∧ h.kd (y - 1) = 22) → eqAt h h' y := fun y h0 hz h1 h2 => S.2.2 y hz (fun p => by
    have o := out_hi R h0 h1 h2
    rcases hP y hz p with m | m | m
    · exact o.1 m
    · exact o.2.1 m
    · exact o.2.2 (Or.inl (Or.inr (Or.inr (Or.inr m)))))
  have nd : ∀ y, D + 15 < y → ¬ dgQ D y := fun y hy m => by have := dg_rng m; omega
  have s0 := low Sg (by omega) (by omega) (nd _ (by omega))
  have s1 := low (Sg + 1) (by omega) (by omega) (nd _ (by omega))
  have s2 := low (Sg + 2) (by omega) (by omega) (nd _ (by omega))
  have ea := hi a r7 r8 (by rw [ka]; decide) (fun z => r9 z.2)
  refine ⟨R.same S, ?_, (s0.2.1 _).trans eC, ?_, ?_, ea.1.trans ka, ea.2.2.2.2.1.trans eL, CG.eqc (fun y h1 h2 => low y (by omega) (by omega) (nd _ (by omega))), TI⟩
  · obtain ⟨⟨a1, a2, a3, a4, a5⟩, a6, a7, a8, a9⟩ := A
    exact ⟨⟨s0.1.trans a1, (s0.2.1 _).trans a2, (s0.2.1 _).trans a3, (s0.2.1 _).trans a4, (s0.2.1 _).trans a5⟩, s1.1.trans a6, s2.1.trans a7, by rw [s1.2.2.2.2.1]; exact a8, by rw [s2.2.2.2.2.1]; exact a9⟩
  · refine DA.same (P := fun y => P y ∧ y < h.z) (S.mono (fun y hy p => ⟨p, hy⟩)) (fun x px h1 h2 => ?_)
    rcases hP x px.2 px.1 with m | m | m
    · have := mP_low r6 (show x < b0 by omega) m
      omega
    · omega
    · exact m
  · exact T.eqc s0.1 (s0.2.1 _) (s0.2.2.1 _) (fun y h1 h2 => by
      have k := T.2.2.2.1.kds h1 h2
      exact hi y (by omega) (by omega) k.1 k.2)
/-- a signature was judged -/
theorem REnv.sig (E : REnv h Mc D b0 Sg q a C p N Bp K B L t inp) (S : Same (sdQ Sg D C) h h') (Kk : Kp [8003] Sg h h') (CG' : CvG h' C p N Bp) : REnv h' Mc D b0 Sg q a C p N Bp K B L t inp := by
  obtain ⟨R, A, eC, DA, T, ka, eL, CG, TI⟩ := E
  have R' := R
  obtain ⟨⟨r1, r2, r3, r4, r5⟩, r6, ⟨r7, r8, r9⟩, r10, r11⟩ := R'
  have hi : ∀ y, Sg + 2 < y → y < h.z → eqAt h h' y := fun y h0 hz => S.2.2 y hz (fun p => by have := (sd_rng R p).1; omega)
  have ea := hi a r7 r8
  have k0 : h'.kd Sg = h.kd Sg := S.kd (by omega)
  have k1 : h'.kd (Sg + 1) = h.kd (Sg + 1) := S.kd (by omega)
  have k2 : h'.kd (Sg + 2) = h.kd (Sg + 2) := S.kd (by omega)
  refine ⟨R.same S, ?_, ((Kk 8001 (by decide)).1).trans eC, DA.same S (fun x px h1 h2 => (sd_rng R px).2.2 h1 h2), ?_, ea.1.trans ka, ea.2.2.2.2.1.trans eL, CG', TI⟩
  · obtain ⟨⟨a1, a2, a3, a4, a5⟩, a6, a7, a8, a9⟩ := A
    exact ⟨⟨k0.trans a1, ((Kk 8000 (by decide)).1).trans a2, ((Kk 8002 (by decide)).1).trans a3, ((Kk 8004 (by decide)).1).trans a4, ((Kk 8005 (by decide)).1).trans a5⟩, k1.trans a6, k2.trans a7, (S.len (by omega)).trans a8, (S.len (by omega)).trans a9⟩
  · exact T.eqc k0 (Kk 8006 (by decide)).1 (Kk 8007 (by decide)).2.1 (fun y h1 h2 => hi y (by omega) (by omega))
/-- the frame of a run -/
def RFr (h h' : AH) (Mc D Sg C : Nat) : Prop := Same (rnP h Mc D Sg C) h h' ∧ h'.z + 2 * nul h' Mc = h.z + 2 * nul h Mc ∧ h'.s + 522 * nul h' Mc = h.s + 522 * nul h Mc ∧ nnM h h' Mc
theorem RFr.rf : RFr h h Mc D Sg C := ⟨Same.rf, rfl, rfl, fun _ _ q => q⟩
theorem rnP_back {P : Nat → Prop} (S : Same P h h') (e3 : Mc + 3 < h.z → h'.ar (Mc + 3) = h.ar (Mc + 3)) {y : Nat} (hy : y < h.z) (m : rnP h' Mc D Sg C y) : rnP h Mc D Sg C y := by
  rcases m with m | m | m
  · exact Or.inl (mP_back S e3 hy m)
  · exact Or.inr (Or.inl m)
  · exact Or.inr (Or.inr m)
theorem RFr.e3 (F : RFr h h' Mc D Sg C) (hm : ¬ sdQ Sg D C (Mc + 3)) : Mc + 3 < h.z → h'.ar (Mc + 3) = h.ar (Mc + 3) := fun hz => F.1.ar hz (fun m => by
  rcases m with m | m | m
  · exact mP3 hz m
  · omega
  · exact hm m)
theorem sd_3 (R : REs h Mc D b0 Sg q a C t) : ¬ sdQ Sg D C (Mc + 3) := fun m => (sd_rng R m).2.1 ⟨by omega, by omega⟩
/-- an exception of a run -/
def ThrR (h h' : AH) (Mc D b0 Sg q a C p N : Nat) (Bp : Pt) (K B L : List Int32) (t : TxP) (inp : Nat) (x : Nat) : Prop := h'.kd x = 17 ∧ MchS h' Mc D ∧ ElTb h' Mc b0 ∧ REnv h' Mc D b0 Sg q a C p N Bp K B L t inp ∧ Same (rnP h Mc D Sg C) h h' ∧ h'.z + 2 * nul h' Mc ≤ h.z + 2 * nul h Mc + 1 ∧ h'.s + 522 * nul h' Mc ≤ h.s + 522 * nul h Mc + 6
/-- the branches are as they were -/
def KB (hB h : AH) (Mc : Nat) : Prop := Kp [7004, 7005] Mc hB h ∧ h.ai (Mc + 4) = hB.ai (Mc + 4)
theorem KB.trans {h2 : AH} (a : KB hB h Mc) (b : KB h h2 Mc) : KB hB h2 Mc := ⟨a.1.trans b.1 (fun _ q => q), b.2.trans a.2⟩
/-- the machine in a run since hB -/
def RI (hB h : AH) (Mc D b0 Sg q a C p N : Nat) (Bp : Pt) (K B L : List Int32) (t : TxP) (inp : Nat) (st alt : List (List Int32)) : Prop := MOk h Mc D b0 st alt ∧ REnv h Mc D b0 Sg q a C p N Bp K B L t inp ∧ RFr hB h Mc D Sg C ∧ KB hB h Mc
/-- what the machine alone changes in a run -/
def muP (h : AH) (Mc D y : Nat) : Prop := mP h Mc y ∨ (Mc + 4 ≤ y ∧ y ≤ Mc + 7) ∨ dgQ D y
theorem mu_mo {y : Nat} (m : muP h Mc D y) : moP h Mc D y := by
  rcases m with m | m | m
  · exact Or.inl m.q
  · exact Or.inr (Or.inl ⟨m.1, by omega⟩)
  · exact Or.inr (Or.inr m)
theorem mu_rn {y : Nat} (m : muP h Mc D y) : rnP h Mc D Sg C y := by
  rcases m with m | m | m
  · exact Or.inl m
  · exact Or.inr (Or.inl m)
  · exact Or.inr (Or.inr (Or.inl (Or.inr (Or.inr (Or.inr m)))))
theorem RFr.mu {P : Nat → Prop} (F : RFr hB h Mc D Sg C) (hm : ¬ sdQ Sg D C (Mc + 3)) (S : Same P h h') (hP : ∀ y, y < h.z → P y → muP h Mc D y) (hz : h'.z + 2 * nul h' Mc = h.z + 2 * nul h Mc) (hs : h'.s + 522 * nul h' Mc = h.s + 522 * nul h Mc ∧ nnM h h' Mc) : RFr hB h' Mc D Sg C :=
  ⟨F.1.trans (S.mono (Q := rnP h Mc D Sg C) (fun y hy p => mu_rn (hP y hy p))) (fun y hy m => rnP_back F.1 (F.e3 hm) hy m), hz.trans F.2.1, hs.1.trans F.2.2.1, fun j hj q => hs.2 j hj (F.2.2.2 j hj q)⟩
theorem RI.go {P : Nat → Prop} {st' alt' : List (List Int32)} (I : RI hB h Mc D b0 Sg q a C p N Bp K B L t inp st alt) (H : MOk h' Mc D b0 st' alt') (S : Same P h h') (hP : ∀ y, y < h.z → P y → muP h Mc D y) (hz : h'.z + 2 * nul h' Mc = h.z + 2 * nul h Mc) (hs : h'.s + 522 * nul h' Mc = h.s + 522 * nul h Mc ∧ nnM h h' Mc) (kb : KB h h' Mc) : RI hB h' Mc D b0 Sg q a C p N Bp K B L t inp st' alt' :=
  ⟨H, I.2.1.mach S (fun y hy p => mu_mo (hP y hy p)), I.2.2.1.mu (sd_3 I.2.1.1) S hP hz hs, I.2.2.2.trans kb⟩
theorem mach4 {P : Nat → Prop} (H : MOk h Mc D b0 st alt) (S : Same P h h') (hP : ∀ y, P y → mP h Mc y ∨ y = Mc + 7 ∨ dgQ D y) (hDM : D + 15 < Mc) : h'.ai (Mc + 4) = h.ai (Mc + 4) := by
  have hz : Mc + 8 < h.z := Nat.lt_of_lt_of_le H.2.2.2.1 H.2.2.1
  have k4 := H.1.2.2.1.2.2.2.1
  refine S.ai (by omega) (fun p => ?_)
  rcases hP _ p with p | p | p
  · rcases p with p | p | p
    · omega
    · rw [k4] at p; exact absurd p.1 (by decide)
    · rw [k4] at p; exact absurd p.1 (by decide)
  · omega
  · have := dg_rng p
    omega
theorem RI.mi {st' alt' : List (List Int32)} (I : RI hB h Mc D b0 Sg q a C p N Bp K B L t inp st alt) (J : MI h h' Mc D b0 st' alt') : RI hB h' Mc D b0 Sg q a C p N Bp K B L t inp st' alt' :=
  I.go J.1 J.2.1.1 (fun _ _ m => Or.inl m) J.2.1.2.1 J.2.1.2.2 ⟨J.2.2, mach4 I.1 J.2.1.1 (fun _ m => Or.inl m) (by have := I.2.1.1.1; omega)⟩
theorem RI.thr {x : Nat} (I : RI hB h Mc D b0 Sg q a C p N Bp K B L t inp st alt) (T : ThrM h h' Mc D b0 x) : ThrR hB h' Mc D b0 Sg q a C p N Bp K B L t inp x := by
  obtain ⟨t1, t2, t3, t4, t5, t6⟩ := T
  have f := I.2.2.1
  exact ⟨t1, t2, t3, I.2.1.mach t4 (fun _ _ m => Or.inl m.q), f.1.trans (t4.mono (Q := rnP h Mc D Sg C) (fun _ _ m => Or.inl m)) (fun y hy m => rnP_back f.1 (f.e3 (sd_3 I.2.1.1)) hy m), by have := f.2.1; omega, by have := f.2.2.1; omega⟩
/-- rows of the machine change -/
theorem RI.mod {P : Nat → Prop} (I : RI hB h Mc D b0 Sg q a C p N Bp K B L t inp st alt) (M : Mod P h h') (hP : ∀ y, P y → (Mc + 5 ≤ y ∧ y ≤ Mc + 7) ∨ dgQ D y) : RI hB h' Mc D b0 Sg q a C p N Bp K B L t inp st alt := by
  have r := I.2.1.1.1
  have hb := I.1.2.2.2.1
  have H' := I.1.mod0 M (fun y p => by
    rcases hP y p with m | m
    · omega
    · have := dg_rng m
      omega)
  have ea : ∀ v, v < 3 → h'.ar (Mc + 1 + v) = h.ar (Mc + 1 + v) := fun v _ => by rw [M.ar]
  have hn := nul_eq ea
  exact I.go H' (Same.rf.mod M (Q := P) (P := P) (fun _ _ p => p)) (fun y _ p => Or.inr ((hP y p).elim (fun m => Or.inl ⟨by omega, m.2⟩) Or.inr)) (by rw [M.z, hn]) ⟨by rw [M.s, hn], fun j hj q => by rw [elA_eq ea (by omega)]; exact q⟩ ⟨fun k _ => ⟨by rw [M.r], by rw [M.i], by rw [M.l]⟩, M.ai (fun p => by
    rcases hP _ p with m | m
    · omega
    · have := dg_rng m
      omega)⟩
/-- a signature was judged -/
theorem RI.sig (I : RI hB h Mc D b0 Sg q a C p N Bp K B L t inp st alt) (wf : WF G h) (S : Same (sdQ Sg D C) h h') (hz : h'.z = h.z) (hs : h'.s = h.s) (Kk : Kp [8003] Sg h h') (CG' : CvG h' C p N Bp) : RI hB h' Mc D b0 Sg q a C p N Bp K B L t inp st alt := by
  obtain ⟨⟨H1, T, hb, hb2, hi, S1, S2⟩, E, F, kb⟩ := I
  have R := E.1
  have r := R.1
  have nm : ∀ y, Mc ≤ y → y ≤ Mc + 8 → eqAt h h' y := fun y h1 h2 => S.2.2 y (by omega) (fun m => (sd_rng R m).2.1 ⟨h1, h2⟩)
  have hgh : ∀ y, Sg + 2 < y → y < h.z → eqAt h h' y := fun y h0 hy => S.2.2 y hy (fun m => by have := (sd_rng R m).1; omega)
  have ea : ∀ v, v < 3 → h'.ar (Mc + 1 + v) = h.ar (Mc + 1 + v) := fun v hv => (nm _ (by omega) (by omega)).2.2.2.2.2.2
  have hn := nul_eq ea
  have ce : ∀ j, j < 3012 → elA h Mc j ≠ 0 → eqAt h h' (elA h Mc j) ∧ eqAt h h' (elA h Mc j + 1) := fun j hj hj0 => by
    have tb := (T j hj hj0).1
    obtain ⟨tz, tz1⟩ := T.lt wf hj hj0
    exact ⟨hgh _ (by omega) tz, hgh _ (by omega) tz1⟩
  have eM := nm Mc (by omega) (by omega)
  refine ⟨⟨H1.same S (by omega) (fun k => eM.2.1 k), fun j hj hj0 => ?_, by rw [hz]; exact hb, hb2, by rw [eM.2.2.1, eM.2.2.1]; exact hi, S1.keep (by have := hi.2.2.1; omega) (fun j hj => ⟨elA_eq ea (by have := hi.2.2.1; omega), ce _ (by have := hi.2.2.1; omega) (S1 j hj).1⟩), S2.keep (by have := hi.2.2.2; omega) (fun j hj => ⟨elA_eq ea (by have := hi.2.2.2; omega), ce _ (by have := hi.2.2.2; omega) (S2 j hj).1⟩)⟩, E.sig S Kk CG', ⟨F.1.trans (S.mono (Q := rnP h Mc D Sg C) (fun _ _ m => Or.inr (Or.inr m))) (fun y hy m => rnP_back F.1 (F.e3 (sd_3 R)) hy m), ⟨by rw [hz, hn]; exact F.2.1, by rw [hs, hn]; exact F.2.2.1, fun j hj q => by rw [elA_eq ea (by omega)]; exact F.2.2.2 j hj q⟩⟩, kb.trans ⟨Kp.eq eM, (nm (Mc + 4) (by omega) (by omega)).2.2.2.2.1⟩⟩
  rw [elA_eq ea hj] at hj0 ⊢
  obtain ⟨t1, t2, t3⟩ := T j hj hj0
  have := ce j hj hj0
  exact ⟨t1, t2.eq this.1 this.2.ln, fun i hi e => t3 i hi (by rw [← elA_eq ea hi]; exact e)⟩
/-- the small steps in a run -/
theorem q_need {x : Int32} {F : AH → Prop} {X : Nat → AH → Prop} (hd : 10 ≤ d) (I : RI hB h Mc D b0 Sg q a C p N Bp K B L t inp st alt) (hK : ¬ x = 0 → F h) (hE : x = 0 → ∀ y h', ThrR hB h' Mc D b0 Sg q a C p N Bp K B L t inp y → X y h') : Cw G mX7_need d 0 [vR Mc, vI x] h (kV F X) :=
  k_need hd (MI.rf I.1) hK (fun c y h' T => hE c y h' (I.thr T))
theorem q_top {k : Nat} {F : Nat → AH → Prop} {X : Nat → AH → Prop} (hd : 10 ≤ d) (hk : k < 2000) (I : RI hB h Mc D b0 Sg q a C p N Bp K B L t inp st alt) (hK : k < st.length → ∀ x, x = elA h Mc (st.length - 1 - k) → ElAt h x (tp st k) → F x h) (hE : st.length ≤ k → ∀ y h', ThrR hB h' Mc D b0 Sg q a C p N Bp K B L t inp y → X y h') : Cw G mX7_top d 0 [vR Mc, vI (nI k)] h (kR F X) :=
  k_top hd hk (MI.rf I.1) hK (fun c y h' T => hE c y h' (I.thr T))
theorem q_num {x m : Nat} {l : List Int32} {F : Int64 → AH → Prop} {X : Nat → AH → Prop} (hd : 10 ≤ d) (hm : m ≤ 7) (I : RI hB h Mc D b0 Sg q a C p N Bp K B L t inp st alt) (hx : ElAt h x l) (hK : l.length ≤ m → F (lZ (numI l)) h) (hE : m < l.length → ∀ y h', ThrR hB h' Mc D b0 Sg q a C p N Bp K B L t inp y → X y h') : Cw G mX22_number d 0 [vR x, vI (nI m)] h (kJ F X) :=
  k_num hd hm (MI.rf I.1) hx hK (fun c y h' T => hE c y h' (I.thr T))
theorem q_drop {k : Nat} {F : AH → Prop} {X : Nat → AH → Prop} (hd : 10 ≤ d) (hk : k < 2000) (I : RI hB h Mc D b0 Sg q a C p N Bp K B L t inp st alt) (hK : k ≤ st.length → ∀ h', RI hB h' Mc D b0 Sg q a C p N Bp K B L t inp (dr st k) alt → F h') (hE : st.length < k → ∀ y h', ThrR hB h' Mc D b0 Sg q a C p N Bp K B L t inp y → X y h') : Cw G mX7_drop d 0 [vR Mc, vI (nI k)] h (kV F X) :=
  k_drop hd hk (MI.rf I.1) (fun c h' J => hK c h' (I.mi J)) (fun c y h' T => hE c y h' (I.thr T))
theorem q_truth {v : Int32} {F : AH → Prop} {X : Nat → AH → Prop} (hd : 10 ≤ d) (hs : st.length + alt.length < 1003) (I : RI hB h Mc D b0 Sg q a C p N Bp K B L t inp st alt) (hK : ∀ h', RI hB h' Mc D b0 Sg q a C p N Bp K B L t inp (st ++ [if v = 0 then [] else [1]]) alt → F h') : Cw G mX7_truth d 0 [vR Mc, vI v] h (kV F X) :=
  k_truth hd hs (MI.rf I.1) (fun h' J => hK h' (I.mi J))
theorem q_verify {F : AH → Prop} {X : Nat → AH → Prop} (hd : 11 ≤ d) (I : RI hB h Mc D b0 Sg q a C p N Bp K B L t inp st alt) (hK : 0 < st.length → isT (tp st 0) = true → ∀ h', RI hB h' Mc D b0 Sg q a C p N Bp K B L t inp (dr st 1) alt → F h') (hE : (st.length = 0 ∨ isT (tp st 0) = false) → ∀ y h', ThrR hB h' Mc D b0 Sg q a C p N Bp K B L t inp y → X y h') : Cw G mX7_verify d 0 [vR Mc] h (kV F X) :=
  k_verify hd (MI.rf I.1) (fun c1 c2 h' J => hK c1 c2 h' (I.mi J)) (fun c y h' T => hE c y h' (I.thr T))
end Env

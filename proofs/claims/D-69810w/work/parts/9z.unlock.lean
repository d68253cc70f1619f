/-! whether an input may take an output, by the component -/
set_option maxRecDepth 100000
def unQ (h : AH) (Mc D Sg C y : Nat) : Prop := mQ h Mc y ∨ (Mc + 4 ≤ y ∧ y ≤ Mc + 8) ∨ sdQ Sg D C y
/-- the frame of it -/
def UFr (h h' : AH) (Mc D Sg C : Nat) : Prop := Same (unQ h Mc D Sg C) h h' ∧ h'.z + 2 * nul h' Mc = h.z + 2 * nul h Mc ∧ h'.s + 522 * nul h' Mc = h.s + 522 * nul h Mc
/-- what it leaves -/
def UEnd (h h' : AH) (Mc D b0 Sg q a C p N : Nat) (Bp : Pt) (K B L : List Int32) (t : TxP) (inp : Nat) : Prop := MchS h' Mc D ∧ ElTb h' Mc b0 ∧ REnv h' Mc D b0 Sg q a C p N Bp K B L t inp ∧ Same (unQ h Mc D Sg C) h h' ∧ h'.z + 2 * nul h' Mc ≤ h.z + 2 * nul h Mc + 1 ∧ h'.s + 522 * nul h' Mc ≤ h.s + 522 * nul h Mc + 6
theorem rn_un {h : AH} {Mc D Sg C y : Nat} (m : rnP h Mc D Sg C y) : unQ h Mc D Sg C y := by
  rcases m with m | m | m
  · exact Or.inl m.q
  · exact Or.inr (Or.inl ⟨m.1, by omega⟩)
  · exact Or.inr (Or.inr m)
section Unl
variable {G : Gx} {d : Nat} {hB h h' h0 : AH} {Mc D b0 Sg q a C p N inp : Nat} {Bp : Pt} {K B L : List Int32} {t : TxP} {st alt : List (List Int32)}
theorem unQ_back {P : Nat → Prop} (S : Same P h h') {y : Nat} (hy : y < h.z) (m : unQ h' Mc D Sg C y) : unQ h Mc D Sg C y := by
  rcases m with m | m | m
  · exact Or.inl (mQ_back S hy m)
  · exact Or.inr (Or.inl m)
  · exact Or.inr (Or.inr m)
theorem UFr.rf : UFr h h Mc D Sg C := ⟨Same.rf, rfl, rfl⟩
theorem UFr.go {P : Nat → Prop} (F : UFr hB h Mc D Sg C) (S : Same P h h') (hP : ∀ y, y < h.z → P y → unQ h Mc D Sg C y) (hz : h'.z + 2 * nul h' Mc = h.z + 2 * nul h Mc) (hs : h'.s + 522 * nul h' Mc = h.s + 522 * nul h Mc) : UFr hB h' Mc D Sg C :=
  ⟨F.1.trans (S.mono hP) (fun y hy m => unQ_back F.1 hy m), hz.trans F.2.1, hs.trans F.2.2⟩
theorem UFr.run (F : UFr hB h Mc D Sg C) (G_ : RFr h h' Mc D Sg C) : UFr hB h' Mc D Sg C := F.go G_.1 (fun _ _ m => rn_un m) G_.2.1 G_.2.2.1
theorem UFr.fin (F : UFr hB h Mc D Sg C) (H : MchS h Mc D) (T : ElTb h Mc b0) (E : REnv h Mc D b0 Sg q a C p N Bp K B L t inp) : UEnd hB h Mc D b0 Sg q a C p N Bp K B L t inp := ⟨H, T, E, F.1, by have := F.2.1; omega, by have := F.2.2; omega⟩
theorem UFr.thr {x : Nat} (F : UFr hB h Mc D Sg C) (T : ThrR h h' Mc D b0 Sg q a C p N Bp K B L t inp x) : UEnd hB h' Mc D b0 Sg q a C p N Bp K B L t inp := by
  obtain ⟨t1, t2, t3, t4, t5, t6, t7⟩ := T
  exact ⟨t2, t3, t4, F.1.trans t5 (fun y hy m => unQ_back F.1 hy (rn_un m)), by have := F.2.1; omega, by have := F.2.2; omega⟩
theorem UFr.thrM {x : Nat} (F : UFr hB h Mc D Sg C) (E : REnv h Mc D b0 Sg q a C p N Bp K B L t inp) (T : ThrM h h' Mc D b0 x) : UEnd hB h' Mc D b0 Sg q a C p N Bp K B L t inp := by
  obtain ⟨t1, t2, t3, t4, t5, t6⟩ := T
  exact ⟨t2, t3, E.mach t4 (fun _ _ m => Or.inl m.q), F.1.trans t4 (fun y hy m => unQ_back F.1 hy (Or.inl m.q)), by have := F.2.1; omega, by have := F.2.2; omega⟩
/-- a script's row through all of it -/
theorem un_row {sa : Nat} {S : List Int32} (F : UFr hB h Mc D Sg C) (hz : sa < hB.z) (hn : ¬ unQ hB Mc D Sg C sa) (ks : hB.kd sa = 101) (eS : hB.ai sa = S) (hb : hB.kd (sa - 1) ≠ 22) : sa < h.z ∧ ¬ rnP h Mc D Sg C sa ∧ h.kd sa = 101 ∧ h.ai sa = S ∧ h.kd (sa - 1) ≠ 22 :=
  ⟨by have := F.1.1; omega, fun m => hn (unQ_back F.1 hz (rn_un m)), (F.1.kd hz).trans ks, (F.1.ai hz hn).trans eS, by rw [F.1.kd (by omega)]; exact hb⟩
/-- what is kept stays in a run -/
theorem RFr.kept {l : List (List Int32)} (F : RFr h h' Mc D Sg C) (T : ElTb h Mc b0) (wf : WF G h) (R : REs h Mc D b0 Sg q a C t) (hl : l.length ≤ 1003) (k : StAt h Mc 2008 l) : StAt h' Mc 2008 l := by
  have r := R.1
  refine k.keep (by omega) (fun j hj => ?_)
  have k0 := (k j hj).1
  have tb := (T _ (by omega) k0).1
  obtain ⟨tz, tz1⟩ := T.lt wf (show 2008 + j < 3012 by omega) k0
  have no : ∀ y, (y = elA h Mc (2008 + j) ∨ y = elA h Mc (2008 + j) + 1) → ¬ rnP h Mc D Sg C y := fun y hy m => by
    have kc : keptC h Mc y := ⟨2008 + j, by omega, by omega, k0, hy⟩
    rcases m with m | m | m
    · rcases m with m | m | m
      · omega
      · exact (m.2 (by omega)).2 kc
      · exact (m.2.2 (by omega)).2 kc
    · omega
    · have := (sd_rng R m).1
      omega
  exact ⟨elA_3 (F.e3 (sd_3 R) (by omega)) (by omega) (by omega), F.1.2.2 _ tz (no _ (Or.inl rfl)), F.1.2.2 _ tz1 (no _ (Or.inr rfl))⟩
theorem StAt.take {o j : Nat} {l : List (List Int32)} (k : StAt h Mc o l) : StAt h Mc o (l.take j) := fun i hi => by
  rw [List.length_take] at hi
  have := k i (by omega)
  have eg : (l.take j).getD i [] = l.getD i [] := by
    rw [List.getD_eq_getElem?_getD, List.getElem?_take, if_pos (by omega), List.getD_eq_getElem?_getD]
  rw [eg]
  exact this
/-- an exception is caught -/
theorem un_catch {d t : Nat} {Φ : Out → AH → Prop} {pc x : Nat} {a0 a1 a2 a3 a4 a5 a6 a7 a8 a9 a10 a11 : AV} {sk : List AV} (hch : cChain mX7_unlocks RX17 pc 342 mX7_unlocks.hs) (hk : h.kd x = 17) (K : Φ (.inl (some (vI 0))) h) :
    Tw G mX7_unlocks (d + 1) t h0 Φ pc [a0, a1, a2, a3, a4, a5, a6, a7, a8, a9, a10, a11] sk x h :=
  Tw.catch 17 hk rfl kc17 hch (r_mask [false, false, false, false, false, false, false, false, false, false, false, false] rfl (sX7_unlocks_342 h x K))
theorem un_c1 {pc : Nat} (h : (Nat.ble 5 pc && Nat.blt pc 105) = true) : cChain mX7_unlocks RX17 pc 342 mX7_unlocks.hs := Or.inr ⟨by rw [h]; rfl, _, q1264, Or.inr ⟨q1038, rfl⟩⟩
theorem un_c3 {pc : Nat} (h : (Nat.ble 5 pc && Nat.blt pc 105) = false) (h2 : (Nat.ble 106 pc && Nat.blt pc 171) = false) (h3 : (Nat.ble 172 pc && Nat.blt pc 341) = true) : cChain mX7_unlocks RX17 pc 342 mX7_unlocks.hs := Or.inl ⟨h, Or.inl ⟨h2, Or.inr ⟨by rw [h3]; rfl, _, q1264, Or.inr ⟨q1038, rfl⟩⟩⟩⟩
end Unl
section Unl2
variable {G : Gx} {d : Nat} {hB h h' h0 : AH} {Mc D b0 Sg q a C p N inp : Nat} {Bp : Pt} {K B L : List Int32} {t : TxP} {st alt : List (List Int32)} {I O : List Int32} {ia io isz oa oo osz : Nat} {st1 : List (List Int32)}
/-- the inner script is run -/
theorem un_272 {x : Nat} (hd : 18 ≤ d) (hl : 0 < st1.length) (hl2 : st1.length ≤ 1000) (hU : unP p N Bp K B L t inp I io isz O oo osz = match runP p N Bp K B L t inp (tp st1 0) 0 (tp st1 0).length (dr st1 1) with
      | none => false
      | some st3 => topT st3) : ∀ (j : Nat) (h : AH), j ≤ (tp st1 0).length → (MOk h Mc D b0 st1 alt ∧ REnv h Mc D b0 Sg q a C p N Bp K B L t inp ∧ UFr hB h Mc D Sg C ∧ x = elA h Mc (st1.length - 1) ∧ eqN j (h.ai (Mc + 8)) (tp st1 0)) →
    Aw G mX7_unlocks (d + 1) 0 h0 (kI (fun x h' => x = bB (unP p N Bp K B L t inp I io isz O oo osz) ∧ UEnd hB h' Mc D b0 Sg q a C p N Bp K B L t inp) nE) 272 [vR Mc, vU, vU, vU, vU, vU, vU, vR Sg, vU, vR x, vI (nI (tp st1 0).length), vI (nI j)] [] h := by
  refine loop_uc (n := (tp st1 0).length) (P := fun j h => Aw G mX7_unlocks (d + 1) 0 h0 (kI (fun x h' => x = bB (unP p N Bp K B L t inp I io isz O oo osz) ∧ UEnd hB h' Mc D b0 Sg q a C p N Bp K B L t inp) nE) 272 [vR Mc, vU, vU, vU, vU, vU, vU, vR Sg, vU, vR x, vI (nI (tp st1 0).length), vI (nI j)] [] h) (fun j h => MOk h Mc D b0 st1 alt ∧ REnv h Mc D b0 Sg q a C p N Bp K B L t inp ∧ UFr hB h Mc D Sg C ∧ x = elA h Mc (st1.length - 1) ∧ eqN j (h.ai (Mc + 8)) (tp st1 0)) (fun j h hj hI ih => ?_)
  obtain ⟨H, E, F, hx, qn⟩ := hI
  have r := E.1.1
  have sl := H.2.2.2.2.2.1 (st1.length - 1) (by omega)
  rw [Nat.zero_add] at sl
  have ex : ElAt h x (tp st1 0) := by
    rw [hx]
    exact sl.2
  have xb : b0 ≤ x := by
    rw [hx]
    exact (H.2.1 _ (by omega) sl.1).1
  have tl := ex.2.2.1
  have l8 : (h.ai (Mc + 8)).length = 520 := H.1.2.2.2.2.2.2.2.2.2.2
  have k8 : h.kd (Mc + 8) = 101 := H.1.2.2.1.2.2.2.2.2.2.2
  have r8 : h.r 7012 Mc = Mc + 8 := H.1.2.1.2.2.2.2.2.2.2.2
  refine sX7_unlocks_272 h Mc Sg x (nI (tp st1 0).length) (nI j) (pk_le (tp st1 0).length j (fun z => ⟨H.1.1, ?_⟩) (fun z => ⟨H.1.1, fun r18 e18 => ⟨ex.1.1, fun r20 e20 => ?_⟩⟩))
  · obtain rfl : j = (tp st1 0).length := by omega
    refine (Mc_drop_spec (k := 1) (by omega) (by decide) H).toV (fun h3 _ _ Q => ?_) (fun y h3 _ _ Q => absurd Q.1 (by omega))
    obtain ⟨_, e3, M3⟩ := Q
    have S3 : Same (fun y => y = Mc) h h3 := by
      rw [e3]
      exact Same.rf.pi _ _ (Or.inl rfl)
    have hP : ∀ y, y < h.z → y = Mc → unQ h Mc D Sg C y := fun y _ m => Or.inl (Or.inl ⟨by omega, by omega⟩)
    have E3 : REnv h3 Mc D b0 Sg q a C p N Bp K B L t inp := E.mach S3 (fun y _ m => Or.inl (Or.inl ⟨by omega, by omega⟩))
    have F3 : UFr hB h3 Mc D Sg C := F.go S3 hP (by rw [e3]; rfl) (by rw [e3]; rfl)
    intro r6 e6
    have e6' : r6 = Mc + 8 := e6.trans (by rw [e3]; exact r8)
    subst e6'
    have a8 : h3.ai (Mc + 8) = h.ai (Mc + 8) := by rw [e3]; rfl
    have n8 : ¬ rnP h3 Mc D Sg C (Mc + 8) := fun m => by
      have k8' : h3.kd (Mc + 8) = 101 := by rw [e3]; exact k8
      have k7' : h3.kd (Mc + 7) = 101 := by rw [e3]; exact H.1.2.2.1.2.2.2.2.2.2.1
      rcases m with m | m | m
      · rcases m with m | m | m
        · omega
        · rw [k8'] at m; exact absurd m.1 (by decide)
        · have := m.2.1
          rw [show Mc + 8 - 1 = Mc + 7 from rfl, k7'] at this
          exact absurd this (by decide)
      · omega
      · have := (sd_rng E.1 m).2.1
        omega
    refine (Mc_run_spec (S := h.ai (Mc + 8)) (off := 0) (sz := (tp st1 0).length) (by omega) (by have := F3.1.1; have := E3.1.1; omega) n8 (by rw [e3]; exact k8) a8 (by omega) (by rw [l8]; decide) (by
      rw [show Mc + 8 - 1 = Mc + 7 from rfl, e3]
      show h.kd (Mc + 7) ≠ 22
      rw [H.1.2.2.1.2.2.2.2.2.2.1]; decide) (by omega) M3.s E3 (by have := dr_len st1 1; unfold dr at this; omega) rfl).toV (fun h8 _ _ Q => ?_) (fun y h8 _ _ Q => ?_)
    · obtain ⟨st3, es, ⟨alt3, M8⟩, l3, E8, G8, _⟩ := Q
      have F8 := F3.run G8
      have hU' : unP p N Bp K B L t inp I io isz O oo osz = topT st3 := by
        rw [Nat.zero_add, runP_cg qn] at es
        rw [hU]
        unfold dr
        rw [es]
      have i4 := M8.2.2.2.2.1.1
      rw [i4]
      refine pk_le st3.length 0 (fun z2 => ⟨?_, F8.fin M8.1 M8.2.1 E8⟩) (fun z2 => ?_)
      · rw [hU']
        unfold topT
        rw [decide_eq_false (by omega), Bool.false_and]
        rfl
      · refine k_top (k := 0) (by omega) (by decide) (MI.rf M8) (fun c0 x11 hx11 ex11 => ⟨ex11.1.1, k_isT (by omega) ex11 ?_⟩) (fun c0 => absurd c0 (by omega))
        have tt : topT st3 = isT (tp st3 0) := by
          unfold topT
          rw [decide_eq_true c0, Bool.true_and]
        refine ⟨fun z3 => ⟨?_, F8.fin M8.1 M8.2.1 E8⟩, fun z3 => ⟨?_, F8.fin M8.1 M8.2.1 E8⟩⟩
        · rw [hU', tt]
          cases w : isT (tp st3 0) with
          | false => rfl
          | true => rw [w] at z3; exact absurd z3 (by decide)
        · rw [hU', tt]
          cases w : isT (tp st3 0) with
          | true => rfl
          | false => rw [w] at z3; exact absurd rfl z3
    · refine un_catch (un_c3 rfl rfl rfl) Q.2.1 ⟨?_, F3.thr Q.2⟩
      have := Q.1
      rw [Nat.zero_add, runP_cg qn] at this
      rw [hU]
      unfold dr
      rw [this]
      rfl
  · have e18' : r18 = Mc + 8 := e18.trans r8
    have e20' : r20 = x + 1 := e20.trans ex.1.2.1
    subst e18'
    subst e20'
    rw [l8, ex.1.2.2.2, pk_cl j rfl (by omega)]
    refine ⟨ex.1.2.2.1, pk_in j 520 (by omega), k8, pk_in j 520 (by omega), fun h25 e25 => ?_⟩
    rw [nI_1]
    refine Aw.wf (fun wf25 => ?_)
    have M : Mod (fun y => y = Mc + 8) h h25 := by
      rw [e25]
      exact Mod.wi (List.length_set ..) rfl
    have S25 : Same (fun y => y = Mc + 8) h h25 := Same.rf.mod M (fun _ _ p => p)
    have ea : ∀ v, v < 3 → h25.ar (Mc + 1 + v) = h.ar (Mc + 1 + v) := fun v _ => by rw [M.ar]
    have hn := nul_eq ea
    refine ih (by omega) h25 ⟨H.mod0 M (fun y p => by omega), E.mach S25 (fun y _ m => Or.inr (Or.inl (by omega))), F.go S25 (fun y _ m => Or.inr (Or.inl (by omega))) (by rw [M.z, hn]) (by rw [M.s, hn]), by rw [hx, elA_eq ea (by omega)], fun i hi => ?_⟩
    have g8 : h25.ai (Mc + 8) = (h.ai (Mc + 8)).set j (i2b ((h.ai (x + 1)).getD j 0)) := by rw [e25, AH.ai_wiS]
    by_cases c : i = j
    · have bb : i2b ((h25.ai (Mc + 8)).getD j 0) = (h25.ai (Mc + 8)).getD j 0 := wf25.isB (by rw [M.kd]; exact k8) j
      rw [c, g8, getD_set_eq (by omega)]
      have x1 : (h25.ai (x + 1)).getD j 0 = (h.ai (x + 1)).getD j 0 := by
        rw [M.ai (by omega)]
      have bx : i2b ((h.ai (x + 1)).getD j 0) = (h.ai (x + 1)).getD j 0 := by
        rw [← x1]
        exact wf25.isB (by rw [M.kd]; exact ex.1.2.2.1) j
      rw [bx]
      exact ex.2.2.2 j (by omega)
    · rw [g8, getD_set_ne c]
      exact qn i (by omega)
/-- the kept elements come back -/
theorem un_208 (hd : 18 ≤ d) (hl : 0 < st1.length) (hl2 : st1.length ≤ 1000) (ha : alt.length ≤ 1003) (hU : unP p N Bp K B L t inp I io isz O oo osz = match runP p N Bp K B L t inp (tp st1 0) 0 (tp st1 0).length (dr st1 1) with
      | none => false
      | some st3 => topT st3) : ∀ (j : Nat) (h : AH), j ≤ st1.length → (MchS h Mc D ∧ ElTb h Mc b0 ∧ StAt h Mc 0 (st1.take j) ∧ StAt h Mc 2008 st1 ∧ StAt h Mc 1004 alt ∧ (h.i 7004 Mc = nI st1.length ∧ h.i 7005 Mc = nI alt.length) ∧ (∀ i, i < st1.length → elA h Mc i ≠ 0) ∧ REnv h Mc D b0 Sg q a C p N Bp K B L t inp ∧ UFr hB h Mc D Sg C) →
    Aw G mX7_unlocks (d + 1) 0 h0 (kI (fun x h' => x = bB (unP p N Bp K B L t inp I io isz O oo osz) ∧ UEnd hB h' Mc D b0 Sg q a C p N Bp K B L t inp) nE) 208 [vR Mc, vU, vU, vU, vU, vU, vU, vR Sg, vU, vI (nI j), vU, vU] [] h := by
  refine loop_uc (n := st1.length) (P := fun j h => Aw G mX7_unlocks (d + 1) 0 h0 (kI (fun x h' => x = bB (unP p N Bp K B L t inp I io isz O oo osz) ∧ UEnd hB h' Mc D b0 Sg q a C p N Bp K B L t inp) nE) 208 [vR Mc, vU, vU, vU, vU, vU, vU, vR Sg, vU, vI (nI j), vU, vU] [] h) (fun j h => MchS h Mc D ∧ ElTb h Mc b0 ∧ StAt h Mc 0 (st1.take j) ∧ StAt h Mc 2008 st1 ∧ StAt h Mc 1004 alt ∧ (h.i 7004 Mc = nI st1.length ∧ h.i 7005 Mc = nI alt.length) ∧ (∀ i, i < st1.length → elA h Mc i ≠ 0) ∧ REnv h Mc D b0 Sg q a C p N Bp K B L t inp ∧ UFr hB h Mc D Sg C) (fun j h hj hI ih => ?_)
  obtain ⟨H, T, S1, Sk, S2, ⟨i4, i5⟩, nn, E, F⟩ := hI
  have r := E.1.1
  refine sX7_unlocks_208 h Mc Sg (nI j) ⟨H.1, ?_⟩
  rw [i4]
  refine pk_le st1.length j (fun z => ?_) (fun z r6 e6 => ?_)
  · obtain rfl : j = st1.length := by omega
    rw [List.take_length] at S1
    have M : MOk h Mc D b0 st1 alt := ⟨H, T, by omega, by omega, ⟨i4, i5, by omega, ha⟩, S1, S2⟩
    refine k_top (k := 0) (by omega) (by decide) (MI.rf M) (fun c0 x3 hx3 ex3 => ⟨ex3.1.1, ?_⟩) (fun c0 => absurd c0 (by omega))
    rw [ex3.2.1]
    exact un_272 hd hl hl2 hU 0 h (Nat.zero_le _) ⟨M, E, F, by rw [hx3, Nat.sub_zero], fun i hi => absurd hi (Nat.not_lt_zero _)⟩
  · have e6' : r6 = Mc + 1 := e6.trans H.2.1.2.1
    subst e6'
    have k0 := (Sk j (by omega)).1
    have xk := (Sk j (by omega)).2
    have s0 := nn j (by omega)
    rw [H.2.2.2.1, pk_cl j rfl (by omega)]
    refine ⟨H.2.2.1.1, pk_in j 1004 (by omega), fun r9 e9 r10 e10 => ?_⟩
    have e9' : r9 = elA h Mc j := by
      have := elA_w (h := h) (Mc := Mc) (w := 0) (k := j) (by omega)
      rw [Nat.mul_zero, Nat.zero_add, Nat.add_zero] at this
      rw [e9, this]
    have e10' : r10 = Mc + 3 := e10.trans H.2.1.2.2.2.1
    subst e10'
    have g3 : (h.ar (Mc + 3)).getD j 0 = elA h Mc (2008 + j) := (elA_w (h := h) (Mc := Mc) (w := 2) (k := j) (by omega)).symm
    rw [H.2.2.2.2.2.1, g3]
    refine ⟨H.2.2.1.2.2.1, pk_in j 1004 (by omega), fun r13 e13 => ?_⟩
    subst e13
    refine ⟨xk.1.1, fun r15 e15 => ⟨pk_in j 1004 (by omega), fun r17 e17 => ?_⟩⟩
    subst e17
    have e15' : r15 = elA h Mc (2008 + j) + 1 := e15.trans xk.1.2.1
    subst e15'
    subst e9'
    have tj := T j (by omega) s0
    have ne := El_ne T (show 2008 + j < 3012 by omega) (show j < 3012 by omega) s0 k0 (by omega)
    refine ⟨xk.1.1, tj.2.1.1, ?_⟩
    rw [xk.2.1]
    refine Cw.nR (K := fun x h' => x = elA h Mc j ∧ h' = (h.wi (elA h Mc j + 1) (putB (h.ai (elA h Mc j + 1)) 0 (st1.getD j []).length (fun i => (h.ai (elA h Mc (2008 + j) + 1)).getD (0 + i) 0))).pi 22001 (elA h Mc j) (nI (st1.getD j []).length)) (El_set_spec (off := 0) (by omega) tj.2.1 xk.1.2.2.1 (by rw [xk.1.2.2.2, Nat.zero_add]; exact xk.2.2.1) (by rw [xk.1.2.2.2]; decide) xk.2.2.1 (by omega)) (fun y h20 Q => ?_)
    obtain ⟨ey, e20⟩ := Q
    refine Aw.wf (fun wf20 => ?_)
    have E20 : ElAt h20 (elA h Mc j) (st1.getD j []) := by
      rw [e20]
      exact ElAt.set tj.2.1 xk.2.2.1 (fun i hi => by rw [Nat.zero_add]; exact (xk.2.2.2 i hi).symm) rfl
    have S20 : Same (fun z => z = elA h Mc j ∨ z = elA h Mc j + 1) h h20 := by rw [e20]; exact Same.el (by rw [putB_len])
    have z20 : h20.z = h.z ∧ h20.s = h.s := by rw [e20]; exact ⟨rfl, rfl⟩
    have tl : ∀ i, i < 3012 → elA h Mc i ≠ 0 → elA h Mc i < h.z ∧ elA h Mc i + 1 < h.z := fun i hi hi0 => by
      have w0 := wf20.2.2.1 (elA h Mc i) (by
        have : h20.kd (elA h Mc i) = h.kd (elA h Mc i) := by rw [e20]; rfl
        rw [this, (T i hi hi0).2.1.1]; decide)
      have w1 := wf20.2.2.1 (elA h Mc i + 1) (by
        have : h20.kd (elA h Mc i + 1) = h.kd (elA h Mc i + 1) := by rw [e20]; rfl
        rw [this, (T i hi hi0).2.1.2.2.1]; decide)
      rw [z20.1] at w0 w1
      exact ⟨w0.2.1, w1.2.1⟩
    have ea : ∀ v, v < 3 → h20.ar (Mc + 1 + v) = h.ar (Mc + 1 + v) := fun v _ => by rw [e20]; rfl
    have eMc : eqAt h h20 Mc := S20.2.2 Mc (by omega) (by omega)
    have ce : ∀ i, i < 3012 → i ≠ j → elA h Mc i ≠ 0 → elA h20 Mc i = elA h Mc i ∧ eqAt h h20 (elA h Mc i) ∧ eqAt h h20 (elA h Mc i + 1) := fun i hi hne hi0 => by
      have n2 := El_ne T hi (show j < 3012 by omega) s0 hi0 hne
      have t2 := tl i hi hi0
      exact ⟨elA_eq ea hi, S20.2.2 _ t2.1 (by omega), S20.2.2 _ t2.2 (by omega)⟩
    have hn := nul_eq ea
    have hP : ∀ y, y < h.z → (y = elA h Mc j ∨ y = elA h Mc j + 1) → mQ h Mc y := fun y _ m => by
      rcases m with m | m
      · exact Or.inr (Or.inl (by rw [m]; exact tj.2.1.1))
      · exact Or.inr (Or.inr (by rw [m, Nat.add_sub_cancel]; exact ⟨tj.2.1.2.2.1, tj.2.1.1⟩))
    rw [nI_1]
    refine ih (by omega) h20 ⟨H.same S20 (by omega) (fun k => eMc.2.1 k), fun i hi hi0 => ?_, fun i hi => ?_, Sk.keep (by omega) (fun i hi => ce _ (by omega) (by omega) (Sk i hi).1), S2.keep (by omega) (fun i hi => ce _ (by omega) (by omega) (S2 i hi).1), ⟨by rw [eMc.2.2.1]; exact i4, by rw [eMc.2.2.1]; exact i5⟩, fun i hi => by rw [elA_eq ea (by omega)]; exact nn i hi, E.mach S20 (fun y hy m => Or.inl (hP y hy m)), F.go S20 (fun y hy m => Or.inl (hP y hy m)) (by rw [z20.1, hn]) (by rw [z20.2, hn])⟩
    · rw [elA_eq ea hi] at hi0 ⊢
      obtain ⟨t1, t2, t3⟩ := T i hi hi0
      refine ⟨t1, ?_, fun i' hi' e => t3 i' hi' (by rw [← elA_eq ea hi']; exact e)⟩
      by_cases c : i = j
      · rw [c]; exact E20.1
      · have := ce i hi c hi0
        exact t2.eq this.2.1 this.2.2.ln
    · rw [List.length_take] at hi
      have eg : (st1.take (j + 1)).getD i [] = st1.getD i [] := by
        rw [List.getD_eq_getElem?_getD, List.getElem?_take, if_pos (by omega), List.getD_eq_getElem?_getD]
      rw [eg, Nat.zero_add]
      by_cases c : i = j
      · rw [c, elA_eq ea (by omega)]
        exact ⟨s0, E20⟩
      · have s1 := S1 i (by rw [List.length_take]; omega)
        have eg2 : (st1.take j).getD i [] = st1.getD i [] := by
          rw [List.getD_eq_getElem?_getD, List.getElem?_take, if_pos (by omega), List.getD_eq_getElem?_getD]
        rw [eg2, Nat.zero_add] at s1
        have := ce i (by omega) c s1.1
        rw [this.1]
        exact ⟨s1.1, s1.2.eq this.2.1 this.2.2⟩
end Unl2

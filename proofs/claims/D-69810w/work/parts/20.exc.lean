/-! the constructors of throwables (no traces are made) -/
set_option maxRecDepth 100000
def hand (w : Cond) : Prop := w ∈ lw_all ∨ (w ∈ lw_tbl ∧ (nwOk w && w.onTables) = true) ∨ w = .laysStatic "java/lang/Throwable" "UNASSIGNED_STACK" "[Ljava/lang/StackTraceElement;" ∨ w = .laysStatic "java/lang/Throwable" "SUPPRESSED_SENTINEL" "Ljava/util/List;"
theorem hand.at {G : Gx} {w : Cond} {args : Array Value} {s : State} (hw : hand w) (C9 : ∀ w ∈ lw_all, w.before args s = true) (C10 : KN G s) : w.before args s = true := by
  rcases hw with q | ⟨q, n⟩ | q | q
  · exact C9 _ q
  · simp only [Bool.and_eq_true] at n
    exact va_Nw.use n.2 (C10.2.1 _ q n.1)
  · rw [q]; exact va_LS.use C10.2.2.2.2.2.2.2.2.2.2.2.2.1 C10.2.2.2.2.2.2.2.2.2.2.2.1
  · rw [q]; exact va_LS.use C10.2.2.2.2.2.2.2.2.2.2.2.2.2 C10.2.2.2.2.2.2.2.2.2.2.2.1
def exAtoms (cls : String) (names : List String) (Cn : String) : List Cond :=
  Bundle.throwableAtoms ++ Bundle.chain0Atoms cls names ++
  [.selects Cn Bundle.tFill0 Bundle.tFill0, .selects Cn Bundle.tFill Bundle.tFill, .fieldLink Bundle.tN 198 Bundle.tN "backtrace" "Ljava/lang/Object;", .lays Bundle.tN Bundle.tN "backtrace" "Ljava/lang/Object;"]
/-- what a throwable's constructor leaves -/
def exH (G : Gx) (k a : Nat) (h : AH) : AH := (((h.pr (1000 * k) a a).pr (1000 * k + 1) a (G.2.2.2.2 2)).pr (1000 * k + 2) a (G.2.2.2.2 3)).pr (1000 * k + 1) a (G.2.2.2.2 2)
def exT (T : u_T) (N : Nat) : Bool := Nat.ble 5 N && T 0 == (Bundle.tN, "cause", "Ljava/lang/Throwable;", false) && T 1 == (Bundle.tN, "stackTrace", Bundle.steD, false) && T 2 == (Bundle.tN, "suppressedExceptions", Bundle.listD, false) && T 4 == (Bundle.tN, "backtrace", "Ljava/lang/Object;", false)
def vrV (r : Nat) : RefV := ⟨vr r, by cases r <;> rfl⟩
section Exc
variable {G : Gx} {X : Mx} {d t : Nat} {h0 h h1 : AH} {Φ : Out → AH → Prop} {pc n a k N : Nat} {lv st : List AV} {Cn cls : String} {T : u_T} {names : List String}
theorem Rel.putr {H H' : Heap} {cell : Cell} {r j : Nat} (hr : Rel G h H) (hk : h.kd a = k) (hlt : k < 100) (hc : kcl[k]? = some (Cn, T, N)) (hj : j < N) (ht : tg (T j).2.2.1 = 2) (hap : ∀ x y, x < N → y < N → x ≠ y → G.2.1.2 k x ≠ G.2.1.2 k y)
    (e0 : H[a]? = some cell) (hk0 : k ≠ 0) (e1 : H'[a]? = some (cell.setSlot (G.2.1.2 k j) (vr r))) (e2 : H'.size = H.size) (e3 : ∀ q, q ≠ a → H'[q]? = H[q]?) (hb : gB G ≤ a) : Rel G (h.pr (1000 * k + j) a r) H' := by
  obtain ⟨cell', c1, c2, c3, c4⟩ := hr.obj hk hk0 hlt hc
  cases e0.symm.trans c1
  exact hr.put hk hlt hc hj hap c2 c3 c4 e1 e2 e3 hb rfl rfl rfl rfl rfl (fun q x hq => ⟨rfl, rfl, up2_ne hq⟩) (by rw [fv_r ht]; exact congrArg vr up2_eq)
theorem zs_at {C n d : String} {s : State} {i cf fi aS : Nat} {kf : Class} {f : Field} (K : KN G s) (hq : (i, C, n, d) ∈ zs_tbl) (hf : s.fieldFound? C n d = some (cf, kf, fi, f)) (hs : kf.statics = some aS) : ∃ cell : Cell, G.2.2.2.1[aS]? = some cell ∧ cell.vm.isStatics = true ∧ cell.slots[f.slot]? = some (vr (G.2.2.2.2 i)) := by
  obtain ⟨cf', kf', fi', f', aS', cell, z1, z2, z3, z4, z5, z6, z7, -⟩ := K.2.2.2.2.2.1 _ hq
  cases hf.symm.trans z1
  cases hs.symm.trans z4
  exact ⟨cell, z5, z6, z7⟩
set_option maxHeartbeats 2000000 in
theorem r_exInit (k : Nat) (names : List String) (hd : 5 ≤ d) (hk : h.kd a = k) (hback : h.r (1000 * k + 4) a = 0) (hf : a = t ∨ h0.z ≤ a) (hc : kcl[k]? = some (Cn, T, N)) (hT : (exT T N && k != 0 && k.blt 100 && !exK k && (names.length).ble 2 && Bundle.fit cls && names.all Bundle.fit) = true)
    (hat : ∀ w ∈ exAtoms cls names Cn, hand w) (q1 : Cond.methodLink X.y.cls n (Bundle.init0 cls) ∈ lw_all ∨ ∃ host, Cond.methodLinkNest X.y.cls n (Bundle.init0 cls) host ∈ lw_tbl) (dg : decode X.cc pc = .ok (.invokespecial n, 3)) (hroom : Nat.ble ((st.map ct).sum + 80) 392 = true)
    (kk : Aw G X (d + 1) t h0 Φ (pc + 3) lv st (exH G k a h)) : Aw G X (d + 1) t h0 Φ pc lv (vR a :: st) h := by
  simp only [Bool.and_eq_true, bne_iff_ne, Bool.not_eq_true'] at hT
  obtain ⟨⟨⟨⟨⟨⟨hT, hk0⟩, hlt⟩, hex⟩, hnl⟩, hfit⟩, hfits⟩ := hT
  have hlt : k < 100 := Nat.le_of_ble_eq_true hlt
  have hnl : names.length ≤ 2 := Nat.le_of_ble_eq_true hnl
  unfold exT at hT
  simp only [Bool.and_eq_true, beq_iff_eq] at hT
  obtain ⟨⟨⟨⟨hN, t0⟩, t1⟩, t2⟩, t4⟩ := hT
  have hN : 5 ≤ N := Nat.le_of_ble_eq_true hN
  refine Aw.step (h1 := exH G k a h) rfl rfl (fun w => w) (fun w0 w ex => ?_) (fun p e R s m args below meth c H locs cells slots Q ls C hl w hr hL kk => ?_) kk
  · unfold exH
    have p1 : Ext X.fp t h0 (h.pr (1000 * k) a a) := Ext.fld (k := 1000 * k) (a := a) w0 ex (Or.inr hf) rfl rfl rfl rfl rfl rfl (fun q x hq => ⟨rfl, rfl, up2_ne hq⟩)
    have p2 := Ext.fld (h1 := (h.pr (1000 * k) a a).pr (1000 * k + 1) a (G.2.2.2.2 2)) (k := 1000 * k + 1) (a := a) w0 p1 (Or.inr hf) rfl rfl rfl rfl rfl rfl (fun q x hq => ⟨rfl, rfl, up2_ne hq⟩)
    have p3 := Ext.fld (h1 := ((h.pr (1000 * k) a a).pr (1000 * k + 1) a (G.2.2.2.2 2)).pr (1000 * k + 2) a (G.2.2.2.2 3)) (k := 1000 * k + 2) (a := a) w0 p2 (Or.inr hf) rfl rfl rfl rfl rfl rfl (fun q x hq => ⟨rfl, rfl, up2_ne hq⟩)
    exact Ext.fld (k := 1000 * k + 1) (a := a) w0 p3 (Or.inr hf) rfl rfl rfl rfl rfl rfl (fun q x hq => ⟨rfl, rfl, up2_ne hq⟩)
  obtain ⟨C1, C2, C3, C4, C5, C6, C7, C8, C9, C10, C11, C12⟩ := C
  have A : ∀ w, w ∈ exAtoms cls names Cn → w.before args s = true := fun w hw => (hat w hw).at C9 C10
  obtain ⟨cell, e1, e2, e3, e4⟩ := hr.obj hk hk0 hlt hc
  have hmon : cell.vm = .none ∧ cell.monitor.owner = none ∧ cell.monitor.count = 0 := by
    rcases e3 with q | q
    · exact q
    · rw [hex] at q; cases q.1
  obtain ⟨hin, ⟨ty0, hty⟩, hnm⟩ := kcl_in k Cn T N hc
  have hap := va_apart (own := X.y.cls) C9 hin ty0 hty hnm C10.1 hc
  obtain ⟨hS, hfc, kC, hkC, hkind⟩ := C10.1.1 k _ hc
  have hba := (w.2.2.1 a (by rw [hk]; exact hk0)).1 ⟨by omega, by rw [hk]; intro e; rw [e] at hex; cases hex⟩
  have ha0 : a ≠ 0 := w.ne hk hk0
  show W p G.1 e R s m args below meth c H locs cells slots Q (F0 m pc ls (vr a :: st.map cv))
  rw [vr_pos ha0]
  intro T' hT' S
  have hadm := S.admits.platform
  have howns : e.platform.frameOwnsMonitors = true := by rw [hadm]
  have hfin : e.platform.finalization = false := by rw [hadm]
  have hpl : e.platform.magicAccessors = ({} : Platform).magicAccessors := by rw [hadm]
  have htr : e.platform.stackTraces = false := by rw [hadm]; exact C10.2.2.2.2.1
  obtain ⟨Tc, Z, L, LZ, Y⟩ := ThrowableC.of_atoms (args := args) (s := s) (pl := e.platform) howns hfin hpl (fun x hx => A x (by simp [exAtoms, hx]))
  obtain ⟨P1, Ps, hlen, L1, hLP, hP1m, hlink1, hlink⟩ := Bundle.chain0 (args := args) hpl Y.init0 names cls hfit (fun x hx => List.all_eq_true.mp hfits x hx) (fun x hx => A x (by simp [exAtoms, hx]))
  have hsel : ∀ (fm : MethodName) (mi : MethodId), (Cond.selects Cn fm fm).before args s = true → s.methodNamed? fm = some mi → (fm.cls ≠ "java/lang/invoke/MethodHandle" ∧ fm.cls ≠ "java/lang/invoke/VarHandle") → selectMethod e.platform s.vm cell.cls mi = .method mi := by
    intro fm mi hs hn hne
    obtain ⟨c2, r2, m2, z1, z2, z3, z4, -⟩ := Cond.selects_spec hs
    cases Option.some.inj (z1.symm.trans hfc)
    cases Option.some.inj (z2.symm.trans (State.methodFound?_of_named hn hne))
    cases Option.some.inj (z3.symm.trans hn)
    rw [e2, Launch.admits_selectMethod S.admits]; exact z4
  have hsel0 := hsel Bundle.tFill0 Tc.fill0 (A _ (by simp [exAtoms])) Y.fill0 (by decide)
  have hselF := hsel Bundle.tFill Tc.fill (A _ (by simp [exAtoms])) Y.fill (by decide)
  obtain ⟨cellS, hcS, hiss, hu0⟩ := zs_at C10 (i := 2) (by decide) Y.unassigned L.statics
  obtain ⟨cellS2, hcS2, -, hsen⟩ := zs_at C10 (i := 3) (by decide) Y.sentinel L.statics
  cases hcS.symm.trans hcS2
  have hltS : Tc.aS < gB G := (Array.getElem?_eq_some_iff.mp hcS).1
  have hcellS : T'.heap[Tc.aS]? = some cellS := by rw [hT', hr.2.1 _ hltS]; exact hcS
  have hknownS : cellS.vm ≠ .unknown := by intro hu; rw [hu] at hiss; cases hiss
  have hneS : Tc.aS ≠ a := Nat.ne_of_lt (Nat.lt_of_lt_of_le hltS hba)
  obtain ⟨ci198, i198, fB, hk198, hg198, ha198, hsB, -, hnB, htB, hffB⟩ := Cond.ownField (t := .object "java/lang/Object") Y.found L.cls (by decide +kernel) (A (.fieldLink Bundle.tN 198 Bundle.tN "backtrace" "Ljava/lang/Object;") (by simp [exAtoms])) (A (.lays Bundle.tN Bundle.tN "backtrace" "Ljava/lang/Object;") (by simp [exAtoms])) e.platform hpl
  have slot : ∀ j, j < N → ∀ {cf kf fi f}, s.fieldFound? (T j).1 (T j).2.1 (T j).2.2.1 = some (cf, kf, fi, f) → f.slot = G.2.1.2 k j := by
    intro j hj cf kf fi f hff
    obtain ⟨cf', kf', fi', f', hi, hsl⟩ := hS j hj
    cases hff.symm.trans hi
    exact hsl
  have sC : Tc.fCause.slot = G.2.1.2 k 0 := slot 0 (by omega) (by rw [t0]; exact Y.cause)
  have sS : Tc.fStack.slot = G.2.1.2 k 1 := slot 1 (by omega) (by rw [t1]; exact Y.stack)
  have sP : Tc.fSupp.slot = G.2.1.2 k 2 := slot 2 (by omega) (by rw [t2]; exact Y.supp)
  have sB : fB.slot = G.2.1.2 k 4 := slot 4 (by omega) (by rw [t4]; exact hffB)
  have tgs : ∀ j, (j = 0 ∨ j = 1 ∨ j = 2 ∨ j = 4) → tg (T j).2.2.1 = 2 := by
    intro j hj
    rcases hj with e | e | e | e <;> subst e
    · rw [t0]; decide
    · rw [t1]; decide
    · rw [t2]; decide
    · rw [t4]; decide
  have hapC : G.2.1.2 k 0 ≠ G.2.1.2 k 4 := hap _ _ (by omega) (by omega) (by decide)
  have hapS : G.2.1.2 k 1 ≠ G.2.1.2 k 4 := hap _ _ (by omega) (by omega) (by decide)
  have hapP : G.2.1.2 k 2 ≠ G.2.1.2 k 4 := hap _ _ (by omega) (by omega) (by decide)
  have hbn : cell.slots[G.2.1.2 k 4]? = some .null := by
    rw [e4 4 (by omega), fv_r (tgs 4 (by decide)), hback]; rfl
  have hskip : SkipFacts Tc e.platform s (fun u => u) (vrV (G.2.2.2.2 2)) ((preparedCellV Tc.toThrowableT cell a (vrV (G.2.2.2.2 2)) (vrV (G.2.2.2.2 3))).withEntry T'.cur) :=
    ⟨{ ci198 := ci198, i198 := i198, fBack := fB }, ⟨hk198, hg198, ha198, hsB⟩, by
      show ((preparedCellV Tc.toThrowableT cell a (vrV (G.2.2.2.2 2)) (vrV (G.2.2.2.2 3))).withEntry T'.cur).slots[fB.slot]? = some .null
      rw [sB]
      simp only [preparedCellV, Cell.setSlot, Cell.withEntry, sC, sS, sP]
      rw [Array.getElem?_setIfInBounds_ne hapP, Array.getElem?_setIfInBounds_ne hapS, Array.getElem?_setIfInBounds_ne hapC]
      exact hbn, fun _ _ => rfl⟩
  have takes : ∀ j, j < N → (T j).2.2.2 = false → ∀ {f : Field} {ty : FieldType} {v : Value}, s.fieldFound? (T j).1 (T j).2.1 (T j).2.2.1 = some (Tc.cT, Tc.kT, (0 : Nat), f) ∨ (∃ i, s.fieldFound? (T j).1 (T j).2.1 (T j).2.2.1 = some (Tc.cT, Tc.kT, i, f)) → parseFieldDescriptor (T j).2.2.1 = some ty → narrow ty v = v → fits ty v = true → Takes s cell f v := by
    intro j hj hfin f ty v hff hd hn hv
    obtain ⟨i, hff⟩ : ∃ i, s.fieldFound? (T j).1 (T j).2.1 (T j).2.2.1 = some (Tc.cT, Tc.kT, i, f) := by
      rcases hff with q | q
      · exact ⟨0, q⟩
      · exact q
    have hlay := C9 _ (hin _ (u_in_lay hj))
    unfold u_lay at hlay
    rw [if_neg (by rw [hfin]; decide)] at hlay
    refine ⟨by rw [slot j hj hff]; exact k2_hasslot (e4 j hj), ?_⟩
    rw [e2, hmon.1]
    exact (u_fits hfc hkC hkind (Or.inl hlay) hff hd hn hv).2
  have tkC : Takes s cell Tc.fCause (.ref a) := takes 0 (by omega) (by rw [t0]) (ty := .object Bundle.tN) (Or.inr ⟨_, by rw [t0]; exact Y.cause⟩) (by rw [t0]; decide +kernel) rfl rfl
  have tkS : Takes s cell Tc.fStack (vrV (G.2.2.2.2 2)).v := takes 1 (by omega) (by rw [t1]) (ty := .array (.object "java/lang/StackTraceElement")) (Or.inr ⟨_, by rw [t1]; exact Y.stack⟩) (by rw [t1]; decide +kernel) (nar_r rfl _).1 (nar_r rfl _).2
  have tkP : Takes s cell Tc.fSupp (vrV (G.2.2.2.2 3)).v := takes 2 (by omega) (by rw [t2]) (ty := .object "java/util/List") (Or.inr ⟨_, by rw [t2]; exact Y.supp⟩) (by rw [t2]; decide +kernel) (nar_r rfl _).1 (nar_r rfl _).2
  have hgs : ls.size = c.maxLocals := by rw [C3]; exact hl.1
  have hdg : decode c.code (F0 m pc ls (.ref a :: st.map cv)).pc = .ok (.invokespecial n, 3) := by rw [C2]; exact dg
  have hini : (Cond.instanceMethod (Bundle.init0 cls)).before args s = true := A (.instanceMethod (Bundle.init0 cls)) (by cases names <;> simp [exAtoms, Bundle.chain0Atoms, Bundle.passAtoms])
  have hcod : (Cond.code (Bundle.init0 cls) Bundle.five 1 none).before args s = true := A (.code (Bundle.init0 cls) Bundle.five 1 none) (by cases names <;> simp [exAtoms, Bundle.chain0Atoms, Bundle.passAtoms])
  have key : ∃ tm vm₁, s.methodNamed? (Bundle.init0 cls) = some tm ∧ s.WarmedH vm₁ ∧ ∀ target, (∀ acts, Steps p.tables e below (doInvoke e ((T'.setVm vm₁).setTop (F0 m pc ls (st.map cv))) acts tm #[.ref a]).1 target) → Steps p.tables e below (T'.setTop (F0 m pc ls (.ref a :: st.map cv))) target := by
    rcases q1 with q1 | ⟨host, q1⟩
    · obtain ⟨tm, methC, cdC, kC', vm₁, hnC, -, -, -, -, -, -, -, hW₁, st1⟩ := Steps.initCold (tb := p.tables) (e := e) (below := below) (s := s) (U := T') S.here C1 S.warmed hpl C6 (t := Bundle.init0 cls) rfl rfl (Bundle.fit_spec hfit).2
        (C9 _ q1) hini (bytes := Bundle.five) (maxL := 1) hcod (f := F0 m pc ls (.ref a :: st.map cv)) rfl (a := a) (rest := st.map cv) rfl hdg
      exact ⟨tm, vm₁, hnC, hW₁, st1⟩
    · obtain ⟨tm, methC, cdC, kC', vm₁, hnC, -, -, -, -, -, -, -, hW₁, st1⟩ := Steps.initColdArgsNest (e := e) S.here C1 S.warmed hpl C6 (t := Bundle.init0 cls) rfl (Bundle.fit_spec hfit).2 (va_Nw.use rfl (C10.2.1 _ q1 rfl)) hini hcod (f := F0 m pc ls (.ref a :: st.map cv)) rfl (argsL := []) (rest := st.map cv) (by
          intro sig hs
          have e0 : parseMethodDescriptor (Bundle.init0 cls).desc = parseMethodDescriptor "()V" := rfl
          rw [e0] at hs
          have e1 : (parseMethodDescriptor "()V").map (fun d => d.parameters.length) = some 0 := by decide +kernel
          rw [hs] at e1
          simpa using e1.symm) rfl hdg
      exact ⟨tm, vm₁, hnC, hW₁, fun target hh => st1 target (fun acts => hh acts)⟩
  obtain ⟨tm, vm₁, hnC, hW₁, st1⟩ := key
  cases Option.some.inj (hnC.symm.trans hP1m)
  have S₁ := S.noted hW₁
  have hcat : ∀ l : List AV, ((l.map cv).map fun v => v.category).sum = (l.map ct).sum := by
    intro l
    induction l with
    | nil => rfl
    | cons a l ih => simp only [List.map_cons, List.sum_cons, ih, ct_cv]
  have hroom := Nat.le_of_ble_eq_true hroom
  obtain ⟨vm₂, S₂, st2⟩ := S₁.ctorPlainOffV C1 (g := F0 m pc ls (st.map cv)) rfl hgs Tc L Z LZ (P1 :: Ps)
    (fun P hP => by rcases List.mem_cons.mp hP with rfl | hP; exact L1; exact hLP P hP) ⟨hlink1, hlink⟩ (u0 := vrV (G.2.2.2.2 2)) (sen := vrV (G.2.2.2.2 3)) (self := a) (cell := cell) (cellS := cellS)
    (by show T'.heap[a]? = some cell; rw [hT']; exact e1) (fun _ q => by rw [hmon.1] at q; cases q) (fun q => by rw [hmon.1] at q; cases q) hmon.2.1 hmon.2.2 hsel0 hselF hcellS hneS hknownS hu0 hsen
    tkC tkS tkP Y.objLocals hskip htr [] hdg
    (by simp only [List.length_cons, hlen]; omega) (by
      show 2 * 0 + ((st.map cv).map fun v => v.category).sum + _ ≤ _
      rw [hcat]
      simp only [List.length_cons, hlen]
      omega)
  have hlb : a < H.size := (Array.getElem?_eq_some_iff.mp e1).1
  have oth : ∀ (x : Cell) (q : Nat), q ≠ a → (H.setIfInBounds a x)[q]? = H[q]? := fun x q hq => by simp [Array.getElem?_setIfInBounds, Ne.symm hq]
  have own : ∀ x : Cell, (H.setIfInBounds a x)[a]? = some x := fun x => by simp [Array.getElem?_setIfInBounds, hlb]
  rw [show preparedCellV Tc.toThrowableT cell a (vrV (G.2.2.2.2 2)) (vrV (G.2.2.2.2 3)) = ((cell.setSlot (G.2.1.2 k 0) (vr a)).setSlot (G.2.1.2 k 1) (vr (G.2.2.2.2 2))).setSlot (G.2.1.2 k 2) (vr (G.2.2.2.2 3)) by simp only [preparedCellV, sC, sS, sP, vr_pos ha0]; rfl, sS] at S₂ st2
  have r1 := Rel.putr (H' := H.setIfInBounds a (cell.setSlot (G.2.1.2 k 0) (vr a))) (r := a) hr hk hlt hc (by omega) (tgs 0 (by decide)) hap e1 hk0 (own _) (by simp) (oth _) hba
  have r2 := Rel.putr (H' := H.setIfInBounds a ((cell.setSlot (G.2.1.2 k 0) (vr a)).setSlot (G.2.1.2 k 1) (vr (G.2.2.2.2 2)))) (r := G.2.2.2.2 2) r1 hk hlt hc (by omega) (tgs 1 (by decide)) hap (own _) hk0 (own _) (by simp) (fun q hq => (oth _ q hq).trans (oth _ q hq).symm) hba
  have r3 := Rel.putr (H' := H.setIfInBounds a (((cell.setSlot (G.2.1.2 k 0) (vr a)).setSlot (G.2.1.2 k 1) (vr (G.2.2.2.2 2))).setSlot (G.2.1.2 k 2) (vr (G.2.2.2.2 3)))) (r := G.2.2.2.2 3) r2 hk hlt hc (by omega) (tgs 2 (by decide)) hap (own _) hk0 (own _) (by simp) (fun q hq => (oth _ q hq).trans (oth _ q hq).symm) hba
  have r4 := Rel.putr (H' := H.setIfInBounds a ((((cell.setSlot (G.2.1.2 k 0) (vr a)).setSlot (G.2.1.2 k 1) (vr (G.2.2.2.2 2))).setSlot (G.2.1.2 k 2) (vr (G.2.2.2.2 3))).setSlot (G.2.1.2 k 1) (vr (G.2.2.2.2 2)))) (r := G.2.2.2.2 2) r3 hk hlt hc (by omega) (tgs 1 (by decide)) hap (own _) hk0 (own _) (by simp) (fun q hq => (oth _ q hq).trans (oth _ q hq).symm) hba
  obtain ⟨tt, s1, s2⟩ := kk _ _ r4 (fun q hq => by
      rcases List.mem_append.mp hq with h | h
      · exact hL q h
      · simp only [List.mem_cons, List.not_mem_nil, or_false] at h
        rcases h with h | h | h | h <;> rw [h] <;> exact hba) _ (by rw [← hT']; rfl) S₂
  exact ⟨tt, st1 tt (fun acts => by rw [doInvoke_state]; exact st2 tt s1), s2⟩
end Exc

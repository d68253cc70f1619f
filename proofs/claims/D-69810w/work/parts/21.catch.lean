/-! handlers: the class that is caught may be not yet resolved -/
set_option maxRecDepth 100000
def FindsT (e : Env) (s : State) (f : JFrame) (a : Addr) (h : Handler) (vm' : Vm) : Prop :=
  ∀ (Q : Handler → Pre) (E : CtlPost) (d : Bool) (acts : List Action), wp (findHandler f a) Q E e d acts s ↔ Q h d acts (s.setVm vm')
theorem stepThrowing_catchT {e : Env} {s : State} {a : Addr} {f : JFrame} {r : List Frame} {pc : Nat} {vm' : Vm} (hfind : FindsT e s f a (.found pc) vm') :
    (stepThrowing e s a (.java f :: r)).Is ((s.setVm vm').setFrames (.java { f with pc := pc, stack := [.ref a] } :: r)) [] := by
  simp only [stepThrowing, searchFrame, vmDo]
  generalize hr : Sem.go _ e false [] s = res
  obtain ⟨as, rfl, ha⟩ := Sem.eq_ok_of hr (a := Handler.found pc) (s' := s.setVm vm') (acts' := []) (by simp [hfind _ _ _ _])
  exact ⟨rfl, ha⟩
theorem caughtT {tb : Tables} {e : Env} {below : List Frame} {s target : State} {g : JFrame} {c : Code} {a : Addr} (h : At s g.method c below) {pc : Nat} {vm' : Vm} (hfind : FindsT e ((s.setTop g).pushFrame (.throwing a)) g a (.found pc) vm')
    (hrest : Steps tb e below ((s.setVm vm').setTop { g with pc := pc, stack := [.ref a] }) target) :
    Steps tb e below ((s.setTop g).pushFrame (.throwing a)) target := by
  obtain ⟨hgo, hw⟩ := h.throwing a
  refine Steps.head hgo hw ?_
  rw [stepThread_throwing (frames_entered h.top _), (stepThrowing_catchT (s := (s.setTop g).pushFrame (.throwing a)) hfind).1]
  obtain ⟨g₀, hg⟩ := Option.isSome_iff_exists.mp h.top
  obtain ⟨r, hr⟩ := State.topJava?_eq_some.mp hg
  have hr' : (s.setVm vm').frames = .java g₀ :: r := hr
  rw [State.setTop_of_frames _ hr'] at hrest
  rw [State.pushFrame, State.setTop_of_frames _ hr]
  have e1 : (((s.setFrames (.java g :: r)).setFrames (.throwing a :: (s.setFrames (.java g :: r)).frames)).setVm vm').setFrames (.java { g with pc := pc, stack := [.ref a] } :: s.frames.tail) = (s.setVm vm').setFrames (.java { g with pc := pc, stack := [.ref a] } :: r) := by
    rw [hr]
    show ((((s.setVm vm').setFrames (.java g :: r)).setFrames (.throwing a :: (s.setFrames (.java g :: r)).frames))).setFrames (.java { g with pc := pc, stack := [.ref a] } :: r) = _
    rw [State.setFrames_setFrames, State.setFrames_setFrames]
  rw [e1]
  exact hrest
theorem go_classT {E : CtlPost} {e : Env} {d : Bool} {acts : List Action} {s : State} {f : JFrame} {a : Addr} {Q : Handler → Pre} {x : ExceptionTableEntry} {t : List ExceptionTableEntry} {c : ClassId} {cell : Cell} {vm' : Vm} (hx : covers x f.pc = true) (h0 : x.catchType ≠ 0)
    (hg : (Jvm.resolveClass f.method.cls x.catchType).Gives e.toSetting s.vm (.ok c) vm') (hsz : vm'.classes.size ≤ s.vm.classes.size) (hcell : s.heap[a]? = some cell) (hobj : ∀ k, cell.vm ≠ .statics k)
    (hk : ∃ k, vm'.classes[cell.cls]? = some k) (hc : ∃ k, vm'.classes[c]? = some k) :
    wp (findHandler.go f a (x :: t)) Q E e d acts s ↔
      if vm'.assignable cell.cls c = true then Q (.found x.handlerPc) d acts (s.setVm vm') else wp (findHandler.go f a t) Q E e d acts (s.setVm vm') := by
  simp only [covers] at hx
  obtain ⟨o1, o2⟩ : (VmOp.resolveClass f.method.cls x.catchType).answer e s.vm = .ok c ∧ (VmOp.resolveClass f.method.cls x.catchType).tables e s.vm = vm' := hg.op rfl
  have hl : (VmOp.resolveClass f.method.cls x.catchType).lands e s = .done (s.setVm vm') := by
    rw [VmOp.lands_same (by rw [o2]; exact hsz), o2]
  cases hfit : vm'.assignable cell.cls c <;>
    simp [findHandler.go, hx, h0, o1, hl, hcell, hobj, hk, hc, hfit, VmOp.dirties, VmOp.acts]
/-- the way of a throwable of class Cn through the handlers to the one at tgt -/
def cChain (X : Mx) (Cn : String) (pc tgt : Nat) : List (Nat × Nat × Nat × Nat) → Prop
  | [] => False
  | q :: r => ((Nat.ble q.1 pc && Nat.blt pc q.2.1) = false ∧ cChain X Cn pc tgt r) ∨
      ((Nat.ble q.1 pc && Nat.blt pc q.2.1 && q.2.2.2 != 0) = true ∧ ∃ nm, Cond.classLink X.y.cls q.2.2.2 nm ∈ lw_all ∧ (((Cn, nm) ∈ nc_tbl ∧ cChain X Cn pc tgt r) ∨ (Cond.castable Cn nm ∈ lw_tbl ∧ q.2.2.1 = tgt)))
section Catch
variable {G : Gx} {X : Mx} {d t : Nat} {h0 h h1 : AH} {Φ : Out → AH → Prop} {pc tgt k N x : Nat} {lv st : List AV} {Cn : String} {T : u_T}
theorem chain_go {p : Program} {e : Env} {R : Room} {s : State} {m : MethodId} {args : Array Value} {meth : Method} {c : Code} (C : CxOk G X d p R s m args meth c) (hpl : e.platform.magicAccessors = ({} : Platform).magicAccessors) (hfc : s.vm.findClass Cn = some (G.2.1.1 k)) {cell : Cell} (hcls : cell.cls = G.2.1.1 k) (hobj : ∀ q, cell.vm ≠ .statics q) {f : JFrame} (hf : f.method = m) (hpc : f.pc = pc) {s0 : State} (hcell : s0.heap[x]? = some cell) :
    ∀ (es : List ExceptionTableEntry), cChain X Cn pc tgt (es.map (fun x => (x.startPc, x.endPc, x.handlerPc, x.catchType))) → ∀ vm0, s.WarmedH vm0 →
      ∃ vm', s.WarmedH vm' ∧ ∀ (Q : Handler → Pre) (E : CtlPost) (d : Bool) (acts : List Action), wp (findHandler.go f x es) Q E e d acts (s0.setVm vm0) ↔ Q (.found tgt) d acts (s0.setVm vm') := by
  obtain ⟨C1, C2, C3, C4, C5, C6, C7, C8, C9, C10, C11, C12⟩ := C
  intro es
  induction es with
  | nil => intro hc; exact hc.elim
  | cons y es ih =>
    intro hc vm0 hW
    rcases hc with ⟨hn, hc⟩ | ⟨hy, nm, q1, hc⟩
    · obtain ⟨vm', hW', hh⟩ := ih hc vm0 hW
      refine ⟨vm', hW', fun Q E d acts => ?_⟩
      rw [W.findHandler_go_skip (by
        subst hpc
        unfold covers
        simp only [Bool.and_eq_false_iff] at hn ⊢
        simp only [decide_eq_false_iff_not]
        rcases hn with hn | hn
        · left; intro q; rw [Nat.ble_eq_true_of_le q] at hn; cases hn
        · right; intro q
          have : Nat.blt f.pc y.endPc = true := Nat.ble_eq_true_of_le q
          rw [this] at hn; cases hn)]
      exact hh Q E d acts
    · simp only [Bool.and_eq_true, bne_iff_ne] at hy
      obtain ⟨⟨y1, y2⟩, y3⟩ := hy
      have hcov : covers y f.pc = true := by
        subst hpc
        unfold covers
        simp only [Bool.and_eq_true, decide_eq_true_eq]
        exact ⟨Nat.le_of_ble_eq_true y1, Nat.le_of_ble_eq_true y2⟩
      obtain ⟨cN, f1, hl⟩ := Cond.classLink_spec C6 (C9 _ q1) e.platform hpl
      obtain ⟨g1, g2, g3⟩ := State.classEntry (e := e) hW hl
      have hsz : (vm0.noted m.cls y.catchType (.cls cN)).classes.size ≤ vm0.classes.size := by rw [Vm.size_noted]; exact Nat.le_refl _
      have hal := g2.alike
      obtain ⟨kx, hkx⟩ : ∃ k0, s.vm.classes[G.2.1.1 k]? = some k0 := Vm.classAt_of_findClass hfc
      obtain ⟨kn, hkn⟩ : ∃ k0, s.vm.classes[cN]? = some k0 := Vm.classAt_of_findClass f1
      have e1 : ∃ k0, (vm0.noted m.cls y.catchType (.cls cN)).classes[cell.cls]? = some k0 := by
        rw [hcls]; obtain ⟨k', hk', -⟩ := hal.2.2 _ _ hkx; exact ⟨k', hk'⟩
      have e2 : ∃ k0, (vm0.noted m.cls y.catchType (.cls cN)).classes[cN]? = some k0 := by
        obtain ⟨k', hk', -⟩ := hal.2.2 _ _ hkn; exact ⟨k', hk'⟩
      have eas : (vm0.noted m.cls y.catchType (.cls cN)).assignable cell.cls cN = s.vm.assignable (G.2.1.1 k) cN := by rw [hcls]; exact hal.assignable ..
      have key : ∀ (Q : Handler → Pre) (E : CtlPost) (d : Bool) (acts : List Action), wp (findHandler.go f x (y :: es)) Q E e d acts (s0.setVm vm0) ↔ if s.vm.assignable (G.2.1.1 k) cN = true then Q (.found y.handlerPc) d acts (s0.setVm (vm0.noted m.cls y.catchType (.cls cN))) else wp (findHandler.go f x es) Q E e d acts (s0.setVm (vm0.noted m.cls y.catchType (.cls cN))) := by
        intro Q E d acts
        rw [go_classT (s := s0.setVm vm0) (c := cN) (cell := cell) (vm' := vm0.noted m.cls y.catchType (.cls cN)) hcov y3 (by rw [hf]; exact g1) hsz hcell hobj e1 e2, eas]
        exact Iff.rfl
      rcases hc with ⟨hno, hc⟩ | ⟨hyes, ht⟩
      · obtain ⟨c0, t0, z1, z2, z3⟩ := C10.2.2.2.2.2.2.2.1 _ hno
        cases hfc.symm.trans z1
        cases f1.symm.trans z2
        obtain ⟨vm', hW', hh⟩ := ih hc _ g2
        refine ⟨vm', hW', fun Q E d acts => ?_⟩
        rw [key, if_neg (by rw [z3]; decide)]
        exact hh Q E d acts
      · obtain ⟨c0, t0, z1, z2, z3⟩ := Cond.castable_spec (va_Nw.use (A := args) rfl (C10.2.1 _ hyes rfl))
        cases hfc.symm.trans z1
        cases f1.symm.trans z2
        refine ⟨_, g2, fun Q E d acts => ?_⟩
        rw [key, if_pos z3]
        have : y.handlerPc = tgt := ht
        rw [this]
theorem Tw.catch (k : Nat) (hk : h.kd x = k) (hk0 : (k != 0 && k.blt 100) = true) (hc : kcl[k]? = some (Cn, T, N)) (hch : cChain X Cn pc tgt X.hs) (kk : Aw G X d t h0 Φ tgt lv [vR x] h) : Tw G X d t h0 Φ pc lv st x h := by
  intro w0 w ex
  obtain ⟨o, h', a, b, cc, z1, z2, z3⟩ := kk w0 w ex
  refine ⟨o, h', a, b, cc, z1, z2, fun p e R s m args below meth c C T' locs ls cells slots q1 q2 hr hL hl S => ?_⟩
  have C' := C
  obtain ⟨C1, C2, C3, C4, C5, C6, C7, C8, C9, C10, C11, C12⟩ := C
  obtain ⟨cell, r1, r2, r3, kB, r4⟩ := recv C10 hr hk hk0 hc
  simp only [Bool.and_eq_true, bne_iff_ne] at hk0
  obtain ⟨hS, hfc, -⟩ := C10.1.1 k _ hc
  have hcls : cell.cls = G.2.1.1 k := Option.some.inj (r3.symm.trans hfc)
  have hpl : e.platform.magicAccessors = ({} : Platform).magicAccessors := by rw [S.admits.platform]
  have hobj : ∀ q, cell.vm ≠ .statics q := fun q hq => by rw [hq] at r2; cases r2
  obtain ⟨vm', hW', hh⟩ := chain_go (x := x) (tgt := tgt) C' hpl hfc hcls hobj (f := F0 m pc ls (st.map cv)) rfl rfl (s0 := (T'.setTop (F0 m pc ls (st.map cv))).pushFrame (.throwing x)) (by rw [Stand.throwing_heap]; exact r1) c.exceptionTable.toList (by rw [C8]; exact hch) _ S.warmed
  have S2 := S.noted hW'
  obtain ⟨tt, s1, s2⟩ := z3 p e R s m args below meth c C' (T'.setVm vm').heap locs ls cells slots q1 q2 hr hL hl (T'.setVm vm') rfl S2
  refine ⟨tt, ?_, s2⟩
  have s1 : Steps p.tables e below ((T'.setVm vm').setTop (F0 m tgt ls [vr x])) tt := s1
  rw [vr_pos (w.ne hk hk0.1)] at s1
  refine caughtT (g := F0 m pc ls (st.map cv)) S.here (vm' := vm') (fun Q E d acts => ?_) s1
  rw [W.findHandler_eq (by rw [Stand.throwing_vm]; exact S.method') S.code]
  have hself : ((T'.setTop (F0 m pc ls (st.map cv))).pushFrame (.throwing x)).setVm T'.vm = (T'.setTop (F0 m pc ls (st.map cv))).pushFrame (.throwing x) := by
    rw [← Stand.throwing_vm T' (F0 m pc ls (st.map cv)) x]
    simp [State.setVm_self]
  have := hh Q E d acts
  rw [hself] at this
  exact this
end Catch

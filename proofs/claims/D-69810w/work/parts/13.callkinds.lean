/-! rows of calls by kind of invocation and of answer (printed by gen/callrows.py) -/
set_option maxRecDepth 100000
section Kinds
variable {G : Gx} {X Y : Mx} {d t : Nat} {h0 h h1 : AH} {Φ : Out → AH → Prop} {pc n k N b : Nat} {lv st stk vs : List AV} {Cn host : String} {T : u_T}
theorem stk_map (hst : stk = vs.reverse ++ vR b :: st) (hb : b ≠ 0) : stk.map cv = (vs.map cv).reverse ++ .ref b :: st.map cv := by
  subst hst
  simp only [List.map_append, List.map_cons, List.map_reverse]
  rw [show cv (vR b) = .ref b from vr_pos hb]
theorem arg_map (hb : b ≠ 0) : ((vR b :: vs).map cv).toArray = (Value.ref b :: vs.map cv).toArray := by
  rw [List.map_cons, show cv (vR b) = .ref b from vr_pos hb]
def pN (y : MethodName) (n : Nat) : Bool := (parseMethodDescriptor y.desc).map (fun d => d.parameters.length) == some n
theorem pN.spec {y : MethodName} {n : Nat} (h : pN y n = true) : ∀ sig, parseMethodDescriptor y.desc = some sig → n = sig.parameters.length := by
  intro sig hs
  unfold pN at h
  rw [hs] at h
  have h2 : sig.parameters.length = n := by simpa using h
  exact h2.symm
/-- the receiver's class -/
theorem recv {H : Heap} {s : State} (K : KN G s) (hr : Rel G h H) (hk : h.kd b = k) (hk0 : (k != 0 && k.blt 100) = true) (hc : kcl[k]? = some (Cn, T, N)) : ∃ cell : Cell, H[b]? = some cell ∧ cell.vm.isStatics = false ∧ s.vm.findClass Cn = some cell.cls ∧ ∃ kB, s.vm.classes[cell.cls]? = some kB := by
  simp only [Bool.and_eq_true, bne_iff_ne] at hk0
  obtain ⟨cell, e1, e2, e3, e4⟩ := hr.obj hk hk0.1 (Nat.le_of_ble_eq_true hk0.2) hc
  obtain ⟨hS, hfc, kC, hkC, hkind⟩ := K.1.1 k _ hc
  refine ⟨cell, e1, e3.notS, by rw [e2]; exact hfc, kC, by rw [e2]; exact hkC⟩
theorem f_V (hkd : h.kd b = k) (hk0 : (k != 0 && k.blt 100) = true) (hc : kcl[k]? = some (Cn, T, N)) (q1 : Cond.methodLink X.y.cls n Y.y ∈ lw_all) (q2 : Cond.instanceMethod Y.y ∈ lw_all) (q3 : Cond.selects Cn Y.y Y.y ∈ lw_all) (hcd : cdOk Y) (hy : Y.y.cls ≠ "java/lang/invoke/MethodHandle" ∧ Y.y.cls ≠ "java/lang/invoke/VarHandle") (hp : pN Y.y vs.length = true) (dg : decode X.cc pc = .ok (.invokevirtual n, 3)) (hst : stk = vs.reverse ++ vR b :: st) :
    ∀ (p : Program) (e : Env) (R : Room) (s : State) (m mk : MethodId) (args : Array Value) (below : List Frame) (meth : Method) (c : Code) (T : State) (locs : List Loc) (cells slots : Nat) (ls : Array Slot), CxOk G X (d + 1) p R s m args meth c → ls.size = X.nL → WF G h → Rel G h T.heap → Stand p G.1 e R s m args below meth c T locs cells slots → s.methodNamed? Y.y = some mk →
      ∃ vm₁, Stand p G.1 e R s m args below meth c (T.setVm vm₁) locs cells slots ∧ ∀ tg, Steps p.tables e below (doInvoke e ((T.setVm vm₁).setTop (F0 m pc ls (st.map cv))) [] mk ((vR b :: vs).map cv).toArray).1 tg → Steps p.tables e below (T.setTop (F0 m pc ls (stk.map cv))) tg := by
  intro p e R s m mk args below meth c U locs cells slots ls C hls w hr S hmk
  obtain ⟨C1, C2, C3, C4, C5, C6, C7, C8, C9, C10, C11, C12⟩ := C
  have hb : b ≠ 0 := w.ne hkd (by simp only [Bool.and_eq_true, bne_iff_ne] at hk0; exact hk0.1)
  obtain ⟨cell, r1, r2, r3, kB, r4⟩ := recv C10 hr hkd hk0 hc
  obtain ⟨mk0, methM, hnamed, hmethM, hstM, habM⟩ := Cond.instanceMethod_spec (C9 _ q2)
  cases hmk.symm.trans hnamed
  obtain ⟨mk1, meth1, c1, n1, n2, n3, n4, n5, n6, n7, n8, n9⟩ := hcd.spec C9
  cases hmk.symm.trans n1
  cases hmethM.symm.trans n2
  obtain ⟨c2, r2', m2, z1, z2, z3, z4, kP, hkP, hkPi⟩ := Cond.selects_spec (C9 _ q3)
  cases r3.symm.trans z1
  cases (State.methodFound?_of_named hmk hy).symm.trans z2
  cases hmk.symm.trans z3
  have hselP : selectMethod e.platform s.vm cell.cls mk = .method mk := by rw [Launch.admits_selectMethod S.admits]; exact z4
  obtain ⟨vm₁, X₁, hstep₁⟩ := S.invokevirtual C1 C6 (C9 _ q1) hmk hmethM hstM hkP hkPi hy (a := b) (cell := cell) r1
    (fun z h => by rw [h] at r2; cases r2) hselP hmethM habM hkP hkPi (g := F0 m pc ls (stk.map cv)) rfl (argsL := vs.map cv) (rest := st.map cv) (by rw [List.length_map]; exact pN.spec hp _ n9) (stk_map hst hb) (by rw [C2]; exact dg)
  exact ⟨vm₁, X₁, fun tg h9 => hstep₁ _ fun acts => by rw [doInvoke_state]; rw [arg_map hb] at h9; exact h9⟩
theorem f_VN (hkd : h.kd b = k) (hk0 : (k != 0 && k.blt 100) = true) (hc : kcl[k]? = some (Cn, T, N)) (q1 : Cond.methodLinkNest X.y.cls n Y.y host ∈ lw_tbl) (q2 : Cond.instanceMethod Y.y ∈ lw_all) (q3 : Cond.selects Cn Y.y Y.y ∈ lw_all) (hcd : cdOk Y) (hy : Y.y.cls ≠ "java/lang/invoke/MethodHandle" ∧ Y.y.cls ≠ "java/lang/invoke/VarHandle") (hp : pN Y.y vs.length = true) (dg : decode X.cc pc = .ok (.invokevirtual n, 3)) (hst : stk = vs.reverse ++ vR b :: st) :
    ∀ (p : Program) (e : Env) (R : Room) (s : State) (m mk : MethodId) (args : Array Value) (below : List Frame) (meth : Method) (c : Code) (T : State) (locs : List Loc) (cells slots : Nat) (ls : Array Slot), CxOk G X (d + 1) p R s m args meth c → ls.size = X.nL → WF G h → Rel G h T.heap → Stand p G.1 e R s m args below meth c T locs cells slots → s.methodNamed? Y.y = some mk →
      ∃ vm₁, Stand p G.1 e R s m args below meth c (T.setVm vm₁) locs cells slots ∧ ∀ tg, Steps p.tables e below (doInvoke e ((T.setVm vm₁).setTop (F0 m pc ls (st.map cv))) [] mk ((vR b :: vs).map cv).toArray).1 tg → Steps p.tables e below (T.setTop (F0 m pc ls (stk.map cv))) tg := by
  intro p e R s m mk args below meth c U locs cells slots ls C hls w hr S hmk
  obtain ⟨C1, C2, C3, C4, C5, C6, C7, C8, C9, C10, C11, C12⟩ := C
  have hb : b ≠ 0 := w.ne hkd (by simp only [Bool.and_eq_true, bne_iff_ne] at hk0; exact hk0.1)
  obtain ⟨cell, r1, r2, r3, kB, r4⟩ := recv C10 hr hkd hk0 hc
  obtain ⟨mk0, methM, hnamed, hmethM, hstM, habM⟩ := Cond.instanceMethod_spec (C9 _ q2)
  cases hmk.symm.trans hnamed
  obtain ⟨mk1, meth1, c1, n1, n2, n3, n4, n5, n6, n7, n8, n9⟩ := hcd.spec C9
  cases hmk.symm.trans n1
  cases hmethM.symm.trans n2
  obtain ⟨c2, r2', m2, z1, z2, z3, z4, kP, hkP, hkPi⟩ := Cond.selects_spec (C9 _ q3)
  cases r3.symm.trans z1
  cases (State.methodFound?_of_named hmk hy).symm.trans z2
  cases hmk.symm.trans z3
  have hselP : selectMethod e.platform s.vm cell.cls mk = .method mk := by rw [Launch.admits_selectMethod S.admits]; exact z4
  obtain ⟨vm₁, X₁, hstep₁⟩ := S.invokevirtualNest C1 C6 (va_Nw.use rfl (C10.2.1 _ q1 rfl)) hmk hmethM hstM hkP hkPi hy (a := b) (cell := cell) r1
    (fun z h => by rw [h] at r2; cases r2) hselP hmethM habM hkP hkPi (g := F0 m pc ls (stk.map cv)) rfl (argsL := vs.map cv) (rest := st.map cv) (by rw [List.length_map]; exact pN.spec hp _ n9) (stk_map hst hb) (by rw [C2]; exact dg)
  exact ⟨vm₁, X₁, fun tg h9 => hstep₁ _ fun acts => by rw [doInvoke_state]; rw [arg_map hb] at h9; exact h9⟩
theorem f_S (q1 : Cond.methodLink X.y.cls n Y.y ∈ lw_all) (q2 : Cond.static Y.y ∈ lw_all) (q3 : Cond.initialized Y.y.cls ∈ lw_all) (hcd : cdOk Y) (hy : Y.y.cls ≠ "java/lang/invoke/MethodHandle" ∧ Y.y.cls ≠ "java/lang/invoke/VarHandle") (hp : pN Y.y vs.length = true) (dg : decode X.cc pc = .ok (.invokestatic n, 3)) (hst : stk = vs.reverse ++ st) :
    ∀ (p : Program) (e : Env) (R : Room) (s : State) (m mk : MethodId) (args : Array Value) (below : List Frame) (meth : Method) (c : Code) (T : State) (locs : List Loc) (cells slots : Nat) (ls : Array Slot), CxOk G X (d + 1) p R s m args meth c → ls.size = X.nL → WF G h → Rel G h T.heap → Stand p G.1 e R s m args below meth c T locs cells slots → s.methodNamed? Y.y = some mk →
      ∃ vm₁, Stand p G.1 e R s m args below meth c (T.setVm vm₁) locs cells slots ∧ ∀ tg, Steps p.tables e below (doInvoke e ((T.setVm vm₁).setTop (F0 m pc ls (st.map cv))) [] mk (vs.map cv).toArray).1 tg → Steps p.tables e below (T.setTop (F0 m pc ls (stk.map cv))) tg := by
  intro p e R s m mk args below meth c U locs cells slots ls C hls w hr S hmk
  obtain ⟨C1, C2, C3, C4, C5, C6, C7, C8, C9, C10, C11, C12⟩ := C
  obtain ⟨mk1, methM, c1, n1, hmethM, n3, n4, n5, n6, n7, n8, n9⟩ := hcd.spec C9
  cases hmk.symm.trans n1
  have hstatic : methM.isStatic = true := Cond.static_spec hmk hmethM (C9 _ q2)
  obtain ⟨kP, hkP, -⟩ := className_of_methodNamed hmk
  have hinitP : kP.init = .initialized := Cond.initialized_spec (findClass_of_methodNamed hmk) hkP (C9 _ q3)
  obtain ⟨vm₁, X₁, hstep₁⟩ := S.invokestatic C1 C6 (C9 _ q1) hmk hmethM hstatic hkP hinitP hy (g := F0 m pc ls (stk.map cv)) rfl (argsL := vs.map cv) (rest := st.map cv) (by rw [List.length_map]; exact pN.spec hp _ n9) (by rw [hst]; simp) (by rw [C2]; exact dg)
  exact ⟨vm₁, X₁, fun tg h9 => hstep₁ _ fun acts => by rw [doInvoke_state]; exact h9⟩
theorem f_SN (q1 : Cond.methodLinkNest X.y.cls n Y.y host ∈ lw_tbl) (q2 : Cond.static Y.y ∈ lw_all) (q3 : Cond.initialized Y.y.cls ∈ lw_all) (hcd : cdOk Y) (hy : Y.y.cls ≠ "java/lang/invoke/MethodHandle" ∧ Y.y.cls ≠ "java/lang/invoke/VarHandle") (hp : pN Y.y vs.length = true) (dg : decode X.cc pc = .ok (.invokestatic n, 3)) (hst : stk = vs.reverse ++ st) :
    ∀ (p : Program) (e : Env) (R : Room) (s : State) (m mk : MethodId) (args : Array Value) (below : List Frame) (meth : Method) (c : Code) (T : State) (locs : List Loc) (cells slots : Nat) (ls : Array Slot), CxOk G X (d + 1) p R s m args meth c → ls.size = X.nL → WF G h → Rel G h T.heap → Stand p G.1 e R s m args below meth c T locs cells slots → s.methodNamed? Y.y = some mk →
      ∃ vm₁, Stand p G.1 e R s m args below meth c (T.setVm vm₁) locs cells slots ∧ ∀ tg, Steps p.tables e below (doInvoke e ((T.setVm vm₁).setTop (F0 m pc ls (st.map cv))) [] mk (vs.map cv).toArray).1 tg → Steps p.tables e below (T.setTop (F0 m pc ls (stk.map cv))) tg := by
  intro p e R s m mk args below meth c U locs cells slots ls C hls w hr S hmk
  obtain ⟨C1, C2, C3, C4, C5, C6, C7, C8, C9, C10, C11, C12⟩ := C
  obtain ⟨mk1, methM, c1, n1, hmethM, n3, n4, n5, n6, n7, n8, n9⟩ := hcd.spec C9
  cases hmk.symm.trans n1
  have hstatic : methM.isStatic = true := Cond.static_spec hmk hmethM (C9 _ q2)
  obtain ⟨kP, hkP, -⟩ := className_of_methodNamed hmk
  have hinitP : kP.init = .initialized := Cond.initialized_spec (findClass_of_methodNamed hmk) hkP (C9 _ q3)
  obtain ⟨vm₁, X₁, hstep₁⟩ := S.invokestaticNest C1 C6 (va_Nw.use rfl (C10.2.1 _ q1 rfl)) hmk hmethM hstatic hkP hinitP hy (g := F0 m pc ls (stk.map cv)) rfl (argsL := vs.map cv) (rest := st.map cv) (by rw [List.length_map]; exact pN.spec hp _ n9) (by rw [hst]; simp) (by rw [C2]; exact dg)
  exact ⟨vm₁, X₁, fun tg h9 => hstep₁ _ fun acts => by rw [doInvoke_state]; exact h9⟩
theorem f_I (hb : h.kd b ≠ 0) (q1 : Cond.methodLink X.y.cls n Y.y ∈ lw_all) (q2 : Cond.instanceMethod Y.y ∈ lw_all) (q3 : Cond.code Y.y Y.cc Y.nL none ∈ lw_all) (hy : Y.y.cls ≠ "java/lang/invoke/MethodHandle" ∧ Y.y.cls ≠ "java/lang/invoke/VarHandle") (hi : Y.y.name = "<init>") (hp : pN Y.y vs.length = true) (dg : decode X.cc pc = .ok (.invokespecial n, 3)) (hst : stk = vs.reverse ++ vR b :: st) :
    ∀ (p : Program) (e : Env) (R : Room) (s : State) (m mk : MethodId) (args : Array Value) (below : List Frame) (meth : Method) (c : Code) (T : State) (locs : List Loc) (cells slots : Nat) (ls : Array Slot), CxOk G X (d + 1) p R s m args meth c → ls.size = X.nL → WF G h → Rel G h T.heap → Stand p G.1 e R s m args below meth c T locs cells slots → s.methodNamed? Y.y = some mk →
      ∃ vm₁, Stand p G.1 e R s m args below meth c (T.setVm vm₁) locs cells slots ∧ ∀ tg, Steps p.tables e below (doInvoke e ((T.setVm vm₁).setTop (F0 m pc ls (st.map cv))) [] mk ((vR b :: vs).map cv).toArray).1 tg → Steps p.tables e below (T.setTop (F0 m pc ls (stk.map cv))) tg := by
  intro p e R s m mk args below meth c U locs cells slots ls C hls w hr S hmk
  obtain ⟨C1, C2, C3, C4, C5, C6, C7, C8, C9, C10, C11, C12⟩ := C
  have hb : b ≠ 0 := w.ne rfl hb
  have hpl : e.platform.magicAccessors = ({} : Platform).magicAccessors := by rw [S.admits.platform]
  obtain ⟨mk0, methM, cM, kP, vm₁, hnamed, hmethM, hcodeM, -, hlocalsM, -, hkP, -, hW₁, hstep₁⟩ := Steps.initColdArgs (e := e) S.here C1 S.warmed hpl C6 hi hy (C9 _ q1) (C9 _ q2) (C9 _ q3) (f := F0 m pc ls (stk.map cv)) rfl (argsL := vs.map cv) (rest := st.map cv) (by rw [List.length_map]; exact pN.spec hp) (stk_map hst hb) (by rw [C2]; exact dg)
  cases hmk.symm.trans hnamed
  exact ⟨vm₁, S.noted hW₁, fun tg h9 => hstep₁ _ fun acts => by rw [doInvoke_state]; rw [arg_map hb] at h9; exact h9⟩
theorem f_IN (hb : h.kd b ≠ 0) (q1 : Cond.methodLinkNest X.y.cls n Y.y host ∈ lw_tbl) (q2 : Cond.instanceMethod Y.y ∈ lw_all) (q3 : Cond.code Y.y Y.cc Y.nL none ∈ lw_all) (hy : Y.y.cls ≠ "java/lang/invoke/MethodHandle" ∧ Y.y.cls ≠ "java/lang/invoke/VarHandle") (hi : Y.y.name = "<init>") (hp : pN Y.y vs.length = true) (dg : decode X.cc pc = .ok (.invokespecial n, 3)) (hst : stk = vs.reverse ++ vR b :: st) :
    ∀ (p : Program) (e : Env) (R : Room) (s : State) (m mk : MethodId) (args : Array Value) (below : List Frame) (meth : Method) (c : Code) (T : State) (locs : List Loc) (cells slots : Nat) (ls : Array Slot), CxOk G X (d + 1) p R s m args meth c → ls.size = X.nL → WF G h → Rel G h T.heap → Stand p G.1 e R s m args below meth c T locs cells slots → s.methodNamed? Y.y = some mk →
      ∃ vm₁, Stand p G.1 e R s m args below meth c (T.setVm vm₁) locs cells slots ∧ ∀ tg, Steps p.tables e below (doInvoke e ((T.setVm vm₁).setTop (F0 m pc ls (st.map cv))) [] mk ((vR b :: vs).map cv).toArray).1 tg → Steps p.tables e below (T.setTop (F0 m pc ls (stk.map cv))) tg := by
  intro p e R s m mk args below meth c U locs cells slots ls C hls w hr S hmk
  obtain ⟨C1, C2, C3, C4, C5, C6, C7, C8, C9, C10, C11, C12⟩ := C
  have hb : b ≠ 0 := w.ne rfl hb
  have hpl : e.platform.magicAccessors = ({} : Platform).magicAccessors := by rw [S.admits.platform]
  obtain ⟨mk0, methM, cM, kP, vm₁, hnamed, hmethM, hcodeM, -, hlocalsM, -, hkP, -, hW₁, hstep₁⟩ := Steps.initColdArgsNest (e := e) S.here C1 S.warmed hpl C6 hi hy (va_Nw.use rfl (C10.2.1 _ q1 rfl)) (C9 _ q2) (C9 _ q3) (f := F0 m pc ls (stk.map cv)) rfl (argsL := vs.map cv) (rest := st.map cv) (by rw [List.length_map]; exact pN.spec hp) (stk_map hst hb) (by rw [C2]; exact dg)
  cases hmk.symm.trans hnamed
  exact ⟨vm₁, S.noted hW₁, fun tg h9 => hstep₁ _ fun acts => by rw [doInvoke_state]; rw [arg_map hb] at h9; exact h9⟩
theorem f_F (hkd : h.kd b = k) (hk0 : (k != 0 && k.blt 100) = true) (hc : kcl[k]? = some (Cn, T, N)) {x : MethodName} {cnt : Nat} (q0 : (Cn, x, Y.y) ∈ lw_faces) (q1 : Cond.methodLink X.y.cls n x ∈ lw_all) (q2 : Cond.instanceMethod Y.y ∈ lw_all) (q3 : Cond.selects Cn x Y.y ∈ lw_all) (hx : x.cls ≠ "java/lang/invoke/MethodHandle" ∧ x.cls ≠ "java/lang/invoke/VarHandle") (hp : pN x vs.length = true) (dg : decode X.cc pc = .ok (.invokeinterface n cnt, 5)) (hst : stk = vs.reverse ++ vR b :: st) :
    ∀ (p : Program) (e : Env) (R : Room) (s : State) (m mk : MethodId) (args : Array Value) (below : List Frame) (meth : Method) (c : Code) (T : State) (locs : List Loc) (cells slots : Nat) (ls : Array Slot), CxOk G X (d + 1) p R s m args meth c → ls.size = X.nL → WF G h → Rel G h T.heap → Stand p G.1 e R s m args below meth c T locs cells slots → s.methodNamed? Y.y = some mk →
      ∃ vm₁, Stand p G.1 e R s m args below meth c (T.setVm vm₁) locs cells slots ∧ ∀ tg, Steps p.tables e below (doInvoke e ((T.setVm vm₁).setTop (F0 m pc ls (st.map cv))) [] mk ((vR b :: vs).map cv).toArray).1 tg → Steps p.tables e below (T.setTop (F0 m pc ls (stk.map cv))) tg := by
  intro p e R s m mk args below meth c U locs cells slots ls C hls w hr S hmk
  obtain ⟨C1, C2, C3, C4, C5, C6, C7, C8, C9, C10, C11, C12⟩ := C
  have hb : b ≠ 0 := w.ne hkd (by simp only [Bool.and_eq_true, bne_iff_ne] at hk0; exact hk0.1)
  obtain ⟨cell, r1, r2, r3, kB, r4⟩ := recv C10 hr hkd hk0 hc
  obtain ⟨f1, f2, f3, f4, f5⟩ := C10.2.2.1 _ q0
  obtain ⟨r0, r, hn, hrm, hstR, hsigR⟩ := Cond.declares_spec f1
  obtain ⟨cL, kL, r1', hcL, hkL, hiL, hfoundL, hn1⟩ := Cond.interfaceMethod_spec f2
  cases hn.symm.trans hn1
  have hr0cls : r0.cls = cL := Option.some.inj ((findClass_of_methodNamed hn).symm.trans hcL)
  obtain ⟨hnameR, hdescR⟩ := name_of_methodNamed hn hrm
  obtain ⟨mk0, methM, hnamed, hmethM, -, habM⟩ := Cond.instanceMethod_spec (C9 _ q2)
  cases hmk.symm.trans hnamed
  obtain ⟨c2, r2', m2, z1, z2, z3, z4, -⟩ := Cond.selects_spec (C9 _ q3)
  cases r3.symm.trans z1
  cases hfoundL.symm.trans z2
  cases hmk.symm.trans z3
  have hselP : selectMethod e.platform s.vm cell.cls r0 = .method mk := by rw [Launch.admits_selectMethod S.admits]; exact z4
  have hpubM : hasFlag methM.accessFlags Acc.public_ = true := Cond.publicMethod_spec hmk hmethM f3
  have hway : ((cell.cls :: s.vm.superclasses cell.cls).any fun k => (declaredIn s.vm r.name r.desc k).any fun (_, z) => z.isPrivate || z.isStatic) = false := by
    rw [hnameR, hdescR]; exact Cond.unhidden_spec r3 f4
  obtain ⟨c3, t3, w1, w2, w3⟩ := Cond.castable_spec f5
  cases r3.symm.trans w1
  cases hcL.symm.trans w2
  obtain ⟨vm₁, X₁, hstep₁⟩ := S.invokeinterface C1 C6 (C9 _ q1) hn hrm hstR (by rw [hr0cls]; exact hkL) hiL hx (a := b) (cell := cell) (kcell := kB) r1
    (fun z h => by rw [h] at r2; cases r2) r4 (by rw [hr0cls]; exact w3) hselP hmethM hway hpubM habM (g := F0 m pc ls (stk.map cv)) rfl (argsL := vs.map cv) (rest := st.map cv) (by rw [List.length_map]; exact pN.spec hp _ hsigR) (stk_map hst hb) (by rw [C2]; exact dg)
  exact ⟨vm₁, X₁, fun tg h9 => hstep₁ _ fun acts => by rw [doInvoke_state]; rw [arg_map hb] at h9; exact h9⟩
theorem r_callV_I {K : Int32 → AH → Prop} {E : Nat → AH → Prop} (hkd : h.kd b = k) (hk0 : (k != 0 && k.blt 100) = true) (hc : kcl[k]? = some (Cn, T, N)) (q1 : Cond.methodLink X.y.cls n Y.y ∈ lw_all) (q2 : Cond.instanceMethod Y.y ∈ lw_all) (q3 : Cond.selects Cn Y.y Y.y ∈ lw_all) (dg : decode X.cc pc = .ok (.invokevirtual n, 3)) (hst : stk = vs.reverse ++ vR b :: st) (hcd : cdOk Y) (hs : cOk Y (vR b :: vs) st = true) (hp : pN Y.y vs.length = true) (hfp : ∀ k, k ∈ Y.fp → k ∈ X.fp) (kk : Cw G Y d 0 (vR b :: vs) h (kI K E)) (hK : ∀ x h1, Ext Y.fp 0 h h1 → WF G h1 → K x h1 → Aw G X (d + 1) t h0 Φ (pc + 3) lv (vI x :: st) h1) (hE : ∀ x h1, Ext Y.fp 0 h h1 → WF G h1 → E x h1 → Tw G X (d + 1) t h0 Φ pc lv st x h1) : Aw G X (d + 1) t h0 Φ pc lv stk h := by
  obtain ⟨s1, s2, s3, s4⟩ := cOk.spec hs
  refine Aw.call dg hcd s1 hfp (Or.inr (Or.inr rfl)) s2 s3 (f_V hkd hk0 hc q1 q2 q3 hcd s4 hp dg hst) (kk.mono fun o h1 ex w hk => ?_)
  rcases o with (_ | (x | x | x | x)) | x
  all_goals first | exact hE x h1 ex w hk | exact hK x h1 ex w hk | exact hK h1 ex w hk | exact False.elim hk
theorem r_callV_J {K : Int64 → AH → Prop} {E : Nat → AH → Prop} (hkd : h.kd b = k) (hk0 : (k != 0 && k.blt 100) = true) (hc : kcl[k]? = some (Cn, T, N)) (q1 : Cond.methodLink X.y.cls n Y.y ∈ lw_all) (q2 : Cond.instanceMethod Y.y ∈ lw_all) (q3 : Cond.selects Cn Y.y Y.y ∈ lw_all) (dg : decode X.cc pc = .ok (.invokevirtual n, 3)) (hst : stk = vs.reverse ++ vR b :: st) (hcd : cdOk Y) (hs : cOk Y (vR b :: vs) st = true) (hp : pN Y.y vs.length = true) (hfp : ∀ k, k ∈ Y.fp → k ∈ X.fp) (kk : Cw G Y d 0 (vR b :: vs) h (kJ K E)) (hK : ∀ x h1, Ext Y.fp 0 h h1 → WF G h1 → K x h1 → Aw G X (d + 1) t h0 Φ (pc + 3) lv (vJ x :: st) h1) (hE : ∀ x h1, Ext Y.fp 0 h h1 → WF G h1 → E x h1 → Tw G X (d + 1) t h0 Φ pc lv st x h1) : Aw G X (d + 1) t h0 Φ pc lv stk h := by
  obtain ⟨s1, s2, s3, s4⟩ := cOk.spec hs
  refine Aw.call dg hcd s1 hfp (Or.inr (Or.inr rfl)) s2 s3 (f_V hkd hk0 hc q1 q2 q3 hcd s4 hp dg hst) (kk.mono fun o h1 ex w hk => ?_)
  rcases o with (_ | (x | x | x | x)) | x
  all_goals first | exact hE x h1 ex w hk | exact hK x h1 ex w hk | exact hK h1 ex w hk | exact False.elim hk
theorem r_callV_R {K : Nat → AH → Prop} {E : Nat → AH → Prop} (hkd : h.kd b = k) (hk0 : (k != 0 && k.blt 100) = true) (hc : kcl[k]? = some (Cn, T, N)) (q1 : Cond.methodLink X.y.cls n Y.y ∈ lw_all) (q2 : Cond.instanceMethod Y.y ∈ lw_all) (q3 : Cond.selects Cn Y.y Y.y ∈ lw_all) (dg : decode X.cc pc = .ok (.invokevirtual n, 3)) (hst : stk = vs.reverse ++ vR b :: st) (hcd : cdOk Y) (hs : cOk Y (vR b :: vs) st = true) (hp : pN Y.y vs.length = true) (hfp : ∀ k, k ∈ Y.fp → k ∈ X.fp) (kk : Cw G Y d 0 (vR b :: vs) h (kR K E)) (hK : ∀ x h1, Ext Y.fp 0 h h1 → WF G h1 → K x h1 → Aw G X (d + 1) t h0 Φ (pc + 3) lv (vR x :: st) h1) (hE : ∀ x h1, Ext Y.fp 0 h h1 → WF G h1 → E x h1 → Tw G X (d + 1) t h0 Φ pc lv st x h1) : Aw G X (d + 1) t h0 Φ pc lv stk h := by
  obtain ⟨s1, s2, s3, s4⟩ := cOk.spec hs
  refine Aw.call dg hcd s1 hfp (Or.inr (Or.inr rfl)) s2 s3 (f_V hkd hk0 hc q1 q2 q3 hcd s4 hp dg hst) (kk.mono fun o h1 ex w hk => ?_)
  rcases o with (_ | (x | x | x | x)) | x
  all_goals first | exact hE x h1 ex w hk | exact hK x h1 ex w hk | exact hK h1 ex w hk | exact False.elim hk
theorem r_callV_V {K : AH → Prop} {E : Nat → AH → Prop} (hkd : h.kd b = k) (hk0 : (k != 0 && k.blt 100) = true) (hc : kcl[k]? = some (Cn, T, N)) (q1 : Cond.methodLink X.y.cls n Y.y ∈ lw_all) (q2 : Cond.instanceMethod Y.y ∈ lw_all) (q3 : Cond.selects Cn Y.y Y.y ∈ lw_all) (dg : decode X.cc pc = .ok (.invokevirtual n, 3)) (hst : stk = vs.reverse ++ vR b :: st) (hcd : cdOk Y) (hs : cOk Y (vR b :: vs) st = true) (hp : pN Y.y vs.length = true) (hfp : ∀ k, k ∈ Y.fp → k ∈ X.fp) (kk : Cw G Y d 0 (vR b :: vs) h (kV K E)) (hK : ∀ h1, Ext Y.fp 0 h h1 → WF G h1 → K h1 → Aw G X (d + 1) t h0 Φ (pc + 3) lv st h1) (hE : ∀ x h1, Ext Y.fp 0 h h1 → WF G h1 → E x h1 → Tw G X (d + 1) t h0 Φ pc lv st x h1) : Aw G X (d + 1) t h0 Φ pc lv stk h := by
  obtain ⟨s1, s2, s3, s4⟩ := cOk.spec hs
  refine Aw.call dg hcd s1 hfp (Or.inr (Or.inr rfl)) s2 s3 (f_V hkd hk0 hc q1 q2 q3 hcd s4 hp dg hst) (kk.mono fun o h1 ex w hk => ?_)
  rcases o with (_ | (x | x | x | x)) | x
  all_goals first | exact hE x h1 ex w hk | exact hK x h1 ex w hk | exact hK h1 ex w hk | exact False.elim hk
theorem r_callVN_I {K : Int32 → AH → Prop} {E : Nat → AH → Prop} (hkd : h.kd b = k) (hk0 : (k != 0 && k.blt 100) = true) (hc : kcl[k]? = some (Cn, T, N)) (q1 : Cond.methodLinkNest X.y.cls n Y.y host ∈ lw_tbl) (q2 : Cond.instanceMethod Y.y ∈ lw_all) (q3 : Cond.selects Cn Y.y Y.y ∈ lw_all) (dg : decode X.cc pc = .ok (.invokevirtual n, 3)) (hst : stk = vs.reverse ++ vR b :: st) (hcd : cdOk Y) (hs : cOk Y (vR b :: vs) st = true) (hp : pN Y.y vs.length = true) (hfp : ∀ k, k ∈ Y.fp → k ∈ X.fp) (kk : Cw G Y d 0 (vR b :: vs) h (kI K E)) (hK : ∀ x h1, Ext Y.fp 0 h h1 → WF G h1 → K x h1 → Aw G X (d + 1) t h0 Φ (pc + 3) lv (vI x :: st) h1) (hE : ∀ x h1, Ext Y.fp 0 h h1 → WF G h1 → E x h1 → Tw G X (d + 1) t h0 Φ pc lv st x h1) : Aw G X (d + 1) t h0 Φ pc lv stk h := by
  obtain ⟨s1, s2, s3, s4⟩ := cOk.spec hs
  refine Aw.call dg hcd s1 hfp (Or.inr (Or.inr rfl)) s2 s3 (f_VN hkd hk0 hc q1 q2 q3 hcd s4 hp dg hst) (kk.mono fun o h1 ex w hk => ?_)
  rcases o with (_ | (x | x | x | x)) | x
  all_goals first | exact hE x h1 ex w hk | exact hK x h1 ex w hk | exact hK h1 ex w hk | exact False.elim hk
theorem r_callVN_J {K : Int64 → AH → Prop} {E : Nat → AH → Prop} (hkd : h.kd b = k) (hk0 : (k != 0 && k.blt 100) = true) (hc : kcl[k]? = some (Cn, T, N)) (q1 : Cond.methodLinkNest X.y.cls n Y.y host ∈ lw_tbl) (q2 : Cond.instanceMethod Y.y ∈ lw_all) (q3 : Cond.selects Cn Y.y Y.y ∈ lw_all) (dg : decode X.cc pc = .ok (.invokevirtual n, 3)) (hst : stk = vs.reverse ++ vR b :: st) (hcd : cdOk Y) (hs : cOk Y (vR b :: vs) st = true) (hp : pN Y.y vs.length = true) (hfp : ∀ k, k ∈ Y.fp → k ∈ X.fp) (kk : Cw G Y d 0 (vR b :: vs) h (kJ K E)) (hK : ∀ x h1, Ext Y.fp 0 h h1 → WF G h1 → K x h1 → Aw G X (d + 1) t h0 Φ (pc + 3) lv (vJ x :: st) h1) (hE : ∀ x h1, Ext Y.fp 0 h h1 → WF G h1 → E x h1 → Tw G X (d + 1) t h0 Φ pc lv st x h1) : Aw G X (d + 1) t h0 Φ pc lv stk h := by
  obtain ⟨s1, s2, s3, s4⟩ := cOk.spec hs
  refine Aw.call dg hcd s1 hfp (Or.inr (Or.inr rfl)) s2 s3 (f_VN hkd hk0 hc q1 q2 q3 hcd s4 hp dg hst) (kk.mono fun o h1 ex w hk => ?_)
  rcases o with (_ | (x | x | x | x)) | x
  all_goals first | exact hE x h1 ex w hk | exact hK x h1 ex w hk | exact hK h1 ex w hk | exact False.elim hk
theorem r_callVN_R {K : Nat → AH → Prop} {E : Nat → AH → Prop} (hkd : h.kd b = k) (hk0 : (k != 0 && k.blt 100) = true) (hc : kcl[k]? = some (Cn, T, N)) (q1 : Cond.methodLinkNest X.y.cls n Y.y host ∈ lw_tbl) (q2 : Cond.instanceMethod Y.y ∈ lw_all) (q3 : Cond.selects Cn Y.y Y.y ∈ lw_all) (dg : decode X.cc pc = .ok (.invokevirtual n, 3)) (hst : stk = vs.reverse ++ vR b :: st) (hcd : cdOk Y) (hs : cOk Y (vR b :: vs) st = true) (hp : pN Y.y vs.length = true) (hfp : ∀ k, k ∈ Y.fp → k ∈ X.fp) (kk : Cw G Y d 0 (vR b :: vs) h (kR K E)) (hK : ∀ x h1, Ext Y.fp 0 h h1 → WF G h1 → K x h1 → Aw G X (d + 1) t h0 Φ (pc + 3) lv (vR x :: st) h1) (hE : ∀ x h1, Ext Y.fp 0 h h1 → WF G h1 → E x h1 → Tw G X (d + 1) t h0 Φ pc lv st x h1) : Aw G X (d + 1) t h0 Φ pc lv stk h := by
  obtain ⟨s1, s2, s3, s4⟩ := cOk.spec hs
  refine Aw.call dg hcd s1 hfp (Or.inr (Or.inr rfl)) s2 s3 (f_VN hkd hk0 hc q1 q2 q3 hcd s4 hp dg hst) (kk.mono fun o h1 ex w hk => ?_)
  rcases o with (_ | (x | x | x | x)) | x
  all_goals first | exact hE x h1 ex w hk | exact hK x h1 ex w hk | exact hK h1 ex w hk | exact False.elim hk
theorem r_callVN_V {K : AH → Prop} {E : Nat → AH → Prop} (hkd : h.kd b = k) (hk0 : (k != 0 && k.blt 100) = true) (hc : kcl[k]? = some (Cn, T, N)) (q1 : Cond.methodLinkNest X.y.cls n Y.y host ∈ lw_tbl) (q2 : Cond.instanceMethod Y.y ∈ lw_all) (q3 : Cond.selects Cn Y.y Y.y ∈ lw_all) (dg : decode X.cc pc = .ok (.invokevirtual n, 3)) (hst : stk = vs.reverse ++ vR b :: st) (hcd : cdOk Y) (hs : cOk Y (vR b :: vs) st = true) (hp : pN Y.y vs.length = true) (hfp : ∀ k, k ∈ Y.fp → k ∈ X.fp) (kk : Cw G Y d 0 (vR b :: vs) h (kV K E)) (hK : ∀ h1, Ext Y.fp 0 h h1 → WF G h1 → K h1 → Aw G X (d + 1) t h0 Φ (pc + 3) lv st h1) (hE : ∀ x h1, Ext Y.fp 0 h h1 → WF G h1 → E x h1 → Tw G X (d + 1) t h0 Φ pc lv st x h1) : Aw G X (d + 1) t h0 Φ pc lv stk h := by
  obtain ⟨s1, s2, s3, s4⟩ := cOk.spec hs
  refine Aw.call dg hcd s1 hfp (Or.inr (Or.inr rfl)) s2 s3 (f_VN hkd hk0 hc q1 q2 q3 hcd s4 hp dg hst) (kk.mono fun o h1 ex w hk => ?_)
  rcases o with (_ | (x | x | x | x)) | x
  all_goals first | exact hE x h1 ex w hk | exact hK x h1 ex w hk | exact hK h1 ex w hk | exact False.elim hk
theorem r_callS_I {K : Int32 → AH → Prop} {E : Nat → AH → Prop} (q1 : Cond.methodLink X.y.cls n Y.y ∈ lw_all) (q2 : Cond.static Y.y ∈ lw_all) (q3 : Cond.initialized Y.y.cls ∈ lw_all) (dg : decode X.cc pc = .ok (.invokestatic n, 3)) (hst : stk = vs.reverse ++ st) (hcd : cdOk Y) (hs : cOk Y vs st = true) (hp : pN Y.y vs.length = true) (hfp : ∀ k, k ∈ Y.fp → k ∈ X.fp) (kk : Cw G Y d 0 vs h (kI K E)) (hK : ∀ x h1, Ext Y.fp 0 h h1 → WF G h1 → K x h1 → Aw G X (d + 1) t h0 Φ (pc + 3) lv (vI x :: st) h1) (hE : ∀ x h1, Ext Y.fp 0 h h1 → WF G h1 → E x h1 → Tw G X (d + 1) t h0 Φ pc lv st x h1) : Aw G X (d + 1) t h0 Φ pc lv stk h := by
  obtain ⟨s1, s2, s3, s4⟩ := cOk.spec hs
  refine Aw.call dg hcd s1 hfp (Or.inr (Or.inr rfl)) s2 s3 (f_S q1 q2 q3 hcd s4 hp dg hst) (kk.mono fun o h1 ex w hk => ?_)
  rcases o with (_ | (x | x | x | x)) | x
  all_goals first | exact hE x h1 ex w hk | exact hK x h1 ex w hk | exact hK h1 ex w hk | exact False.elim hk
theorem r_callS_J {K : Int64 → AH → Prop} {E : Nat → AH → Prop} (q1 : Cond.methodLink X.y.cls n Y.y ∈ lw_all) (q2 : Cond.static Y.y ∈ lw_all) (q3 : Cond.initialized Y.y.cls ∈ lw_all) (dg : decode X.cc pc = .ok (.invokestatic n, 3)) (hst : stk = vs.reverse ++ st) (hcd : cdOk Y) (hs : cOk Y vs st = true) (hp : pN Y.y vs.length = true) (hfp : ∀ k, k ∈ Y.fp → k ∈ X.fp) (kk : Cw G Y d 0 vs h (kJ K E)) (hK : ∀ x h1, Ext Y.fp 0 h h1 → WF G h1 → K x h1 → Aw G X (d + 1) t h0 Φ (pc + 3) lv (vJ x :: st) h1) (hE : ∀ x h1, Ext Y.fp 0 h h1 → WF G h1 → E x h1 → Tw G X (d + 1) t h0 Φ pc lv st x h1) : Aw G X (d + 1) t h0 Φ pc lv stk h := by
  obtain ⟨s1, s2, s3, s4⟩ := cOk.spec hs
  refine Aw.call dg hcd s1 hfp (Or.inr (Or.inr rfl)) s2 s3 (f_S q1 q2 q3 hcd s4 hp dg hst) (kk.mono fun o h1 ex w hk => ?_)
  rcases o with (_ | (x | x | x | x)) | x
  all_goals first | exact hE x h1 ex w hk | exact hK x h1 ex w hk | exact hK h1 ex w hk | exact False.elim hk
theorem r_callS_R {K : Nat → AH → Prop} {E : Nat → AH → Prop} (q1 : Cond.methodLink X.y.cls n Y.y ∈ lw_all) (q2 : Cond.static Y.y ∈ lw_all) (q3 : Cond.initialized Y.y.cls ∈ lw_all) (dg : decode X.cc pc = .ok (.invokestatic n, 3)) (hst : stk = vs.reverse ++ st) (hcd : cdOk Y) (hs : cOk Y vs st = true) (hp : pN Y.y vs.length = true) (hfp : ∀ k, k ∈ Y.fp → k ∈ X.fp) (kk : Cw G Y d 0 vs h (kR K E)) (hK : ∀ x h1, Ext Y.fp 0 h h1 → WF G h1 → K x h1 → Aw G X (d + 1) t h0 Φ (pc + 3) lv (vR x :: st) h1) (hE : ∀ x h1, Ext Y.fp 0 h h1 → WF G h1 → E x h1 → Tw G X (d + 1) t h0 Φ pc lv st x h1) : Aw G X (d + 1) t h0 Φ pc lv stk h := by
  obtain ⟨s1, s2, s3, s4⟩ := cOk.spec hs
  refine Aw.call dg hcd s1 hfp (Or.inr (Or.inr rfl)) s2 s3 (f_S q1 q2 q3 hcd s4 hp dg hst) (kk.mono fun o h1 ex w hk => ?_)
  rcases o with (_ | (x | x | x | x)) | x
  all_goals first | exact hE x h1 ex w hk | exact hK x h1 ex w hk | exact hK h1 ex w hk | exact False.elim hk
theorem r_callS_V {K : AH → Prop} {E : Nat → AH → Prop} (q1 : Cond.methodLink X.y.cls n Y.y ∈ lw_all) (q2 : Cond.static Y.y ∈ lw_all) (q3 : Cond.initialized Y.y.cls ∈ lw_all) (dg : decode X.cc pc = .ok (.invokestatic n, 3)) (hst : stk = vs.reverse ++ st) (hcd : cdOk Y) (hs : cOk Y vs st = true) (hp : pN Y.y vs.length = true) (hfp : ∀ k, k ∈ Y.fp → k ∈ X.fp) (kk : Cw G Y d 0 vs h (kV K E)) (hK : ∀ h1, Ext Y.fp 0 h h1 → WF G h1 → K h1 → Aw G X (d + 1) t h0 Φ (pc + 3) lv st h1) (hE : ∀ x h1, Ext Y.fp 0 h h1 → WF G h1 → E x h1 → Tw G X (d + 1) t h0 Φ pc lv st x h1) : Aw G X (d + 1) t h0 Φ pc lv stk h := by
  obtain ⟨s1, s2, s3, s4⟩ := cOk.spec hs
  refine Aw.call dg hcd s1 hfp (Or.inr (Or.inr rfl)) s2 s3 (f_S q1 q2 q3 hcd s4 hp dg hst) (kk.mono fun o h1 ex w hk => ?_)
  rcases o with (_ | (x | x | x | x)) | x
  all_goals first | exact hE x h1 ex w hk | exact hK x h1 ex w hk | exact hK h1 ex w hk | exact False.elim hk
theorem r_callSN_I {K : Int32 → AH → Prop} {E : Nat → AH → Prop} (q1 : Cond.methodLinkNest X.y.cls n Y.y host ∈ lw_tbl) (q2 : Cond.static Y.y ∈ lw_all) (q3 : Cond.initialized Y.y.cls ∈ lw_all) (dg : decode X.cc pc = .ok (.invokestatic n, 3)) (hst : stk = vs.reverse ++ st) (hcd : cdOk Y) (hs : cOk Y vs st = true) (hp : pN Y.y vs.length = true) (hfp : ∀ k, k ∈ Y.fp → k ∈ X.fp) (kk : Cw G Y d 0 vs h (kI K E)) (hK : ∀ x h1, Ext Y.fp 0 h h1 → WF G h1 → K x h1 → Aw G X (d + 1) t h0 Φ (pc + 3) lv (vI x :: st) h1) (hE : ∀ x h1, Ext Y.fp 0 h h1 → WF G h1 → E x h1 → Tw G X (d + 1) t h0 Φ pc lv st x h1) : Aw G X (d + 1) t h0 Φ pc lv stk h := by
  obtain ⟨s1, s2, s3, s4⟩ := cOk.spec hs
  refine Aw.call dg hcd s1 hfp (Or.inr (Or.inr rfl)) s2 s3 (f_SN q1 q2 q3 hcd s4 hp dg hst) (kk.mono fun o h1 ex w hk => ?_)
  rcases o with (_ | (x | x | x | x)) | x
  all_goals first | exact hE x h1 ex w hk | exact hK x h1 ex w hk | exact hK h1 ex w hk | exact False.elim hk
theorem r_callSN_J {K : Int64 → AH → Prop} {E : Nat → AH → Prop} (q1 : Cond.methodLinkNest X.y.cls n Y.y host ∈ lw_tbl) (q2 : Cond.static Y.y ∈ lw_all) (q3 : Cond.initialized Y.y.cls ∈ lw_all) (dg : decode X.cc pc = .ok (.invokestatic n, 3)) (hst : stk = vs.reverse ++ st) (hcd : cdOk Y) (hs : cOk Y vs st = true) (hp : pN Y.y vs.length = true) (hfp : ∀ k, k ∈ Y.fp → k ∈ X.fp) (kk : Cw G Y d 0 vs h (kJ K E)) (hK : ∀ x h1, Ext Y.fp 0 h h1 → WF G h1 → K x h1 → Aw G X (d + 1) t h0 Φ (pc + 3) lv (vJ x :: st) h1) (hE : ∀ x h1, Ext Y.fp 0 h h1 → WF G h1 → E x h1 → Tw G X (d + 1) t h0 Φ pc lv st x h1) : Aw G X (d + 1) t h0 Φ pc lv stk h := by
  obtain ⟨s1, s2, s3, s4⟩ := cOk.spec hs
  refine Aw.call dg hcd s1 hfp (Or.inr (Or.inr rfl)) s2 s3 (f_SN q1 q2 q3 hcd s4 hp dg hst) (kk.mono fun o h1 ex w hk => ?_)
  rcases o with (_ | (x | x | x | x)) | x
  all_goals first | exact hE x h1 ex w hk | exact hK x h1 ex w hk | exact hK h1 ex w hk | exact False.elim hk
theorem r_callSN_R {K : Nat → AH → Prop} {E : Nat → AH → Prop} (q1 : Cond.methodLinkNest X.y.cls n Y.y host ∈ lw_tbl) (q2 : Cond.static Y.y ∈ lw_all) (q3 : Cond.initialized Y.y.cls ∈ lw_all) (dg : decode X.cc pc = .ok (.invokestatic n, 3)) (hst : stk = vs.reverse ++ st) (hcd : cdOk Y) (hs : cOk Y vs st = true) (hp : pN Y.y vs.length = true) (hfp : ∀ k, k ∈ Y.fp → k ∈ X.fp) (kk : Cw G Y d 0 vs h (kR K E)) (hK : ∀ x h1, Ext Y.fp 0 h h1 → WF G h1 → K x h1 → Aw G X (d + 1) t h0 Φ (pc + 3) lv (vR x :: st) h1) (hE : ∀ x h1, Ext Y.fp 0 h h1 → WF G h1 → E x h1 → Tw G X (d + 1) t h0 Φ pc lv st x h1) : Aw G X (d + 1) t h0 Φ pc lv stk h := by
  obtain ⟨s1, s2, s3, s4⟩ := cOk.spec hs
  refine Aw.call dg hcd s1 hfp (Or.inr (Or.inr rfl)) s2 s3 (f_SN q1 q2 q3 hcd s4 hp dg hst) (kk.mono fun o h1 ex w hk => ?_)
  rcases o with (_ | (x | x | x | x)) | x
  all_goals first | exact hE x h1 ex w hk | exact hK x h1 ex w hk | exact hK h1 ex w hk | exact False.elim hk
theorem r_callSN_V {K : AH → Prop} {E : Nat → AH → Prop} (q1 : Cond.methodLinkNest X.y.cls n Y.y host ∈ lw_tbl) (q2 : Cond.static Y.y ∈ lw_all) (q3 : Cond.initialized Y.y.cls ∈ lw_all) (dg : decode X.cc pc = .ok (.invokestatic n, 3)) (hst : stk = vs.reverse ++ st) (hcd : cdOk Y) (hs : cOk Y vs st = true) (hp : pN Y.y vs.length = true) (hfp : ∀ k, k ∈ Y.fp → k ∈ X.fp) (kk : Cw G Y d 0 vs h (kV K E)) (hK : ∀ h1, Ext Y.fp 0 h h1 → WF G h1 → K h1 → Aw G X (d + 1) t h0 Φ (pc + 3) lv st h1) (hE : ∀ x h1, Ext Y.fp 0 h h1 → WF G h1 → E x h1 → Tw G X (d + 1) t h0 Φ pc lv st x h1) : Aw G X (d + 1) t h0 Φ pc lv stk h := by
  obtain ⟨s1, s2, s3, s4⟩ := cOk.spec hs
  refine Aw.call dg hcd s1 hfp (Or.inr (Or.inr rfl)) s2 s3 (f_SN q1 q2 q3 hcd s4 hp dg hst) (kk.mono fun o h1 ex w hk => ?_)
  rcases o with (_ | (x | x | x | x)) | x
  all_goals first | exact hE x h1 ex w hk | exact hK x h1 ex w hk | exact hK h1 ex w hk | exact False.elim hk
theorem r_callI_V {K : AH → Prop} {E : Nat → AH → Prop} (hb : h.kd b ≠ 0) (q1 : Cond.methodLink X.y.cls n Y.y ∈ lw_all) (q2 : Cond.instanceMethod Y.y ∈ lw_all) (q3 : Cond.code Y.y Y.cc Y.nL none ∈ lw_all) (hr0 : Y.rt = none) (hh : Y.hs = []) (hi : Y.y.name = "<init>") (dg : decode X.cc pc = .ok (.invokespecial n, 3)) (hst : stk = vs.reverse ++ vR b :: st) (htt : b = t ∨ h0.z ≤ b) (hs : cOk Y (vR b :: vs) st = true) (hp : pN Y.y vs.length = true) (hfp : ∀ k, k ∈ Y.fp → k ∈ X.fp) (kk : Cw G Y d b (vR b :: vs) h (kV K E)) (hK : ∀ h1, Ext Y.fp b h h1 → WF G h1 → K h1 → Aw G X (d + 1) t h0 Φ (pc + 3) lv st h1) (hE : ∀ x h1, Ext Y.fp b h h1 → WF G h1 → E x h1 → Tw G X (d + 1) t h0 Φ pc lv st x h1) : Aw G X (d + 1) t h0 Φ pc lv stk h := by
  obtain ⟨s1, s2, s3, s4⟩ := cOk.spec hs
  have hcd : cdOk Y := Or.inl ⟨hh, by rw [hr0]; exact q3⟩
  refine Aw.call dg hcd s1 hfp (by rcases htt with q | q; exact Or.inl q; exact Or.inr (Or.inl q)) s2 s3 (f_I hb q1 q2 q3 s4 hi hp dg hst) (kk.mono fun o h1 ex w hk => ?_)
  rcases o with (_ | (x | x | x | x)) | x
  all_goals first | exact hE x h1 ex w hk | exact hK x h1 ex w hk | exact hK h1 ex w hk | exact False.elim hk
theorem r_callIN_V {K : AH → Prop} {E : Nat → AH → Prop} (hb : h.kd b ≠ 0) (q1 : Cond.methodLinkNest X.y.cls n Y.y host ∈ lw_tbl) (q2 : Cond.instanceMethod Y.y ∈ lw_all) (q3 : Cond.code Y.y Y.cc Y.nL none ∈ lw_all) (hr0 : Y.rt = none) (hh : Y.hs = []) (hi : Y.y.name = "<init>") (dg : decode X.cc pc = .ok (.invokespecial n, 3)) (hst : stk = vs.reverse ++ vR b :: st) (htt : b = t ∨ h0.z ≤ b) (hs : cOk Y (vR b :: vs) st = true) (hp : pN Y.y vs.length = true) (hfp : ∀ k, k ∈ Y.fp → k ∈ X.fp) (kk : Cw G Y d b (vR b :: vs) h (kV K E)) (hK : ∀ h1, Ext Y.fp b h h1 → WF G h1 → K h1 → Aw G X (d + 1) t h0 Φ (pc + 3) lv st h1) (hE : ∀ x h1, Ext Y.fp b h h1 → WF G h1 → E x h1 → Tw G X (d + 1) t h0 Φ pc lv st x h1) : Aw G X (d + 1) t h0 Φ pc lv stk h := by
  obtain ⟨s1, s2, s3, s4⟩ := cOk.spec hs
  have hcd : cdOk Y := Or.inl ⟨hh, by rw [hr0]; exact q3⟩
  refine Aw.call dg hcd s1 hfp (by rcases htt with q | q; exact Or.inl q; exact Or.inr (Or.inl q)) s2 s3 (f_IN hb q1 q2 q3 s4 hi hp dg hst) (kk.mono fun o h1 ex w hk => ?_)
  rcases o with (_ | (x | x | x | x)) | x
  all_goals first | exact hE x h1 ex w hk | exact hK x h1 ex w hk | exact hK h1 ex w hk | exact False.elim hk
theorem r_callF_I {K : Int32 → AH → Prop} {E : Nat → AH → Prop} (hkd : h.kd b = k) (hk0 : (k != 0 && k.blt 100) = true) (hc : kcl[k]? = some (Cn, T, N)) {x : MethodName} {cnt : Nat} (q0 : (Cn, x, Y.y) ∈ lw_faces) (q1 : Cond.methodLink X.y.cls n x ∈ lw_all) (q2 : Cond.instanceMethod Y.y ∈ lw_all) (q3 : Cond.selects Cn x Y.y ∈ lw_all) (hx : x.cls ≠ "java/lang/invoke/MethodHandle" ∧ x.cls ≠ "java/lang/invoke/VarHandle") (dg : decode X.cc pc = .ok (.invokeinterface n cnt, 5)) (hst : stk = vs.reverse ++ vR b :: st) (hcd : cdOk Y) (hs : cOk Y (vR b :: vs) st = true) (hp : pN x vs.length = true) (hfp : ∀ k, k ∈ Y.fp → k ∈ X.fp) (kk : Cw G Y d 0 (vR b :: vs) h (kI K E)) (hK : ∀ x h1, Ext Y.fp 0 h h1 → WF G h1 → K x h1 → Aw G X (d + 1) t h0 Φ (pc + 5) lv (vI x :: st) h1) (hE : ∀ x h1, Ext Y.fp 0 h h1 → WF G h1 → E x h1 → Tw G X (d + 1) t h0 Φ pc lv st x h1) : Aw G X (d + 1) t h0 Φ pc lv stk h := by
  obtain ⟨s1, s2, s3, s4⟩ := cOk.spec hs
  refine Aw.call dg hcd s1 hfp (Or.inr (Or.inr rfl)) s2 s3 (f_F hkd hk0 hc q0 q1 q2 q3 hx hp dg hst) (kk.mono fun o h1 ex w hk => ?_)
  rcases o with (_ | (x | x | x | x)) | x
  all_goals first | exact hE x h1 ex w hk | exact hK x h1 ex w hk | exact hK h1 ex w hk | exact False.elim hk
theorem r_callF_J {K : Int64 → AH → Prop} {E : Nat → AH → Prop} (hkd : h.kd b = k) (hk0 : (k != 0 && k.blt 100) = true) (hc : kcl[k]? = some (Cn, T, N)) {x : MethodName} {cnt : Nat} (q0 : (Cn, x, Y.y) ∈ lw_faces) (q1 : Cond.methodLink X.y.cls n x ∈ lw_all) (q2 : Cond.instanceMethod Y.y ∈ lw_all) (q3 : Cond.selects Cn x Y.y ∈ lw_all) (hx : x.cls ≠ "java/lang/invoke/MethodHandle" ∧ x.cls ≠ "java/lang/invoke/VarHandle") (dg : decode X.cc pc = .ok (.invokeinterface n cnt, 5)) (hst : stk = vs.reverse ++ vR b :: st) (hcd : cdOk Y) (hs : cOk Y (vR b :: vs) st = true) (hp : pN x vs.length = true) (hfp : ∀ k, k ∈ Y.fp → k ∈ X.fp) (kk : Cw G Y d 0 (vR b :: vs) h (kJ K E)) (hK : ∀ x h1, Ext Y.fp 0 h h1 → WF G h1 → K x h1 → Aw G X (d + 1) t h0 Φ (pc + 5) lv (vJ x :: st) h1) (hE : ∀ x h1, Ext Y.fp 0 h h1 → WF G h1 → E x h1 → Tw G X (d + 1) t h0 Φ pc lv st x h1) : Aw G X (d + 1) t h0 Φ pc lv stk h := by
  obtain ⟨s1, s2, s3, s4⟩ := cOk.spec hs
  refine Aw.call dg hcd s1 hfp (Or.inr (Or.inr rfl)) s2 s3 (f_F hkd hk0 hc q0 q1 q2 q3 hx hp dg hst) (kk.mono fun o h1 ex w hk => ?_)
  rcases o with (_ | (x | x | x | x)) | x
  all_goals first | exact hE x h1 ex w hk | exact hK x h1 ex w hk | exact hK h1 ex w hk | exact False.elim hk
theorem r_callF_R {K : Nat → AH → Prop} {E : Nat → AH → Prop} (hkd : h.kd b = k) (hk0 : (k != 0 && k.blt 100) = true) (hc : kcl[k]? = some (Cn, T, N)) {x : MethodName} {cnt : Nat} (q0 : (Cn, x, Y.y) ∈ lw_faces) (q1 : Cond.methodLink X.y.cls n x ∈ lw_all) (q2 : Cond.instanceMethod Y.y ∈ lw_all) (q3 : Cond.selects Cn x Y.y ∈ lw_all) (hx : x.cls ≠ "java/lang/invoke/MethodHandle" ∧ x.cls ≠ "java/lang/invoke/VarHandle") (dg : decode X.cc pc = .ok (.invokeinterface n cnt, 5)) (hst : stk = vs.reverse ++ vR b :: st) (hcd : cdOk Y) (hs : cOk Y (vR b :: vs) st = true) (hp : pN x vs.length = true) (hfp : ∀ k, k ∈ Y.fp → k ∈ X.fp) (kk : Cw G Y d 0 (vR b :: vs) h (kR K E)) (hK : ∀ x h1, Ext Y.fp 0 h h1 → WF G h1 → K x h1 → Aw G X (d + 1) t h0 Φ (pc + 5) lv (vR x :: st) h1) (hE : ∀ x h1, Ext Y.fp 0 h h1 → WF G h1 → E x h1 → Tw G X (d + 1) t h0 Φ pc lv st x h1) : Aw G X (d + 1) t h0 Φ pc lv stk h := by
  obtain ⟨s1, s2, s3, s4⟩ := cOk.spec hs
  refine Aw.call dg hcd s1 hfp (Or.inr (Or.inr rfl)) s2 s3 (f_F hkd hk0 hc q0 q1 q2 q3 hx hp dg hst) (kk.mono fun o h1 ex w hk => ?_)
  rcases o with (_ | (x | x | x | x)) | x
  all_goals first | exact hE x h1 ex w hk | exact hK x h1 ex w hk | exact hK h1 ex w hk | exact False.elim hk
theorem r_callF_V {K : AH → Prop} {E : Nat → AH → Prop} (hkd : h.kd b = k) (hk0 : (k != 0 && k.blt 100) = true) (hc : kcl[k]? = some (Cn, T, N)) {x : MethodName} {cnt : Nat} (q0 : (Cn, x, Y.y) ∈ lw_faces) (q1 : Cond.methodLink X.y.cls n x ∈ lw_all) (q2 : Cond.instanceMethod Y.y ∈ lw_all) (q3 : Cond.selects Cn x Y.y ∈ lw_all) (hx : x.cls ≠ "java/lang/invoke/MethodHandle" ∧ x.cls ≠ "java/lang/invoke/VarHandle") (dg : decode X.cc pc = .ok (.invokeinterface n cnt, 5)) (hst : stk = vs.reverse ++ vR b :: st) (hcd : cdOk Y) (hs : cOk Y (vR b :: vs) st = true) (hp : pN x vs.length = true) (hfp : ∀ k, k ∈ Y.fp → k ∈ X.fp) (kk : Cw G Y d 0 (vR b :: vs) h (kV K E)) (hK : ∀ h1, Ext Y.fp 0 h h1 → WF G h1 → K h1 → Aw G X (d + 1) t h0 Φ (pc + 5) lv st h1) (hE : ∀ x h1, Ext Y.fp 0 h h1 → WF G h1 → E x h1 → Tw G X (d + 1) t h0 Φ pc lv st x h1) : Aw G X (d + 1) t h0 Φ pc lv stk h := by
  obtain ⟨s1, s2, s3, s4⟩ := cOk.spec hs
  refine Aw.call dg hcd s1 hfp (Or.inr (Or.inr rfl)) s2 s3 (f_F hkd hk0 hc q0 q1 q2 q3 hx hp dg hst) (kk.mono fun o h1 ex w hk => ?_)
  rcases o with (_ | (x | x | x | x)) | x
  all_goals first | exact hE x h1 ex w hk | exact hK x h1 ex w hk | exact hK h1 ex w hk | exact False.elim hk
end Kinds

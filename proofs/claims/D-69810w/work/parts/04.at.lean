/-! the judgement of a frame (Aw) and of a call (Cw) -/
set_option maxRecDepth 100000
/-- the method; its code; its locals; its answer; its handlers; the keys it may write -/
abbrev Mx : Type := MethodName × ByteArray × Nat × Option FieldType × List (Nat × Nat × Nat × Nat) × List Nat
abbrev Mx.y (X : Mx) : MethodName := X.1
abbrev Mx.cc (X : Mx) : ByteArray := X.2.1
abbrev Mx.nL (X : Mx) : Nat := X.2.2.1
abbrev Mx.rt (X : Mx) : Option FieldType := X.2.2.2.1
abbrev Mx.hs (X : Mx) : List (Nat × Nat × Nat × Nat) := X.2.2.2.2.1
abbrev Mx.fp (X : Mx) : List Nat := X.2.2.2.2.2
abbrev Out : Type := Option AV ⊕ Nat
def kTys (G : Gx) : List (ClassId × FieldType) := (List.range 16).map (fun j => (G.2.2.1 (100 + j), aty (100 + j)))
def nwOk (w : Cond) : Bool := match w with
  | .fieldLinkNest .. => true
  | .methodLinkNest .. => true
  | .castable .. => true
  | .declares .. => true
  | .publicMethod .. => true
  | .unhidden .. => true
  | _ => false
/-- the calls through interfaces: the object's class, the method that is named, the method that is run -/
def lw_faces : List (String × MethodName × MethodName) := [
  ("java/util/ArrayList", ⟨"java/util/List", "clear", "()V"⟩, ⟨"java/util/ArrayList", "clear", "()V"⟩),
  ("CoinJudge$Signing", ⟨"CoinJudge$Signed", "signed", "(LCoinJudge$Element;LCoinJudge$Element;[BII)Z"⟩, ⟨"CoinJudge$Signing", "signed", "(LCoinJudge$Element;LCoinJudge$Element;[BII)Z"⟩),
  ("CoinJudge$Signing", ⟨"CoinJudge$Signed", "lock", "()J"⟩, ⟨"CoinJudge$Signing", "lock", "()J"⟩),
  ("CoinJudge$Signing", ⟨"CoinJudge$Signed", "sequence", "()J"⟩, ⟨"CoinJudge$Signing", "sequence", "()J"⟩),
  ("java/util/ArrayList", ⟨"java/util/List", "add", "(Ljava/lang/Object;)Z"⟩, ⟨"java/util/ArrayList", "add", "(Ljava/lang/Object;)Z"⟩),
  ("java/util/ArrayList", ⟨"java/util/List", "size", "()I"⟩, ⟨"java/util/ArrayList", "size", "()I"⟩),
  ("java/util/ArrayList", ⟨"java/util/List", "get", "(I)Ljava/lang/Object;"⟩, ⟨"java/util/ArrayList", "get", "(I)Ljava/lang/Object;"⟩)]
def aoOk (ty : FieldType) (U : State) : Prop := (Cond.arrayOver ty).before #[] U = true
/-- statics that hold references, by their number in the table of the start -/
def zs_tbl : List (Nat × String × String × String) := [(2, "java/lang/Throwable", "UNASSIGNED_STACK", "[Ljava/lang/StackTraceElement;"), (3, "java/lang/Throwable", "SUPPRESSED_SENTINEL", "Ljava/util/List;"),
  (10, "CoinJudge$State", "STORED", "LCoinJudge$State;"), (11, "CoinJudge$State", "BEST", "LCoinJudge$State;"), (12, "CoinJudge$State", "BAD", "LCoinJudge$State;"),
  (13, "java/util/ArrayList", "DEFAULTCAPACITY_EMPTY_ELEMENTDATA", "[Ljava/lang/Object;"), (14, "jdk/internal/util/Preconditions", "SIOOBE_FORMATTER", "Ljava/util/function/BiFunction;")]
abbrev nA : Nat → Prop := fun _ => False
/-- what can't be cast: of the throwables -/
def nc_tbl : List (String × String) := [("java/lang/IndexOutOfBoundsException", "java/lang/IllegalArgumentException"), ("java/lang/IndexOutOfBoundsException", "java/lang/IllegalStateException"), ("java/lang/IndexOutOfBoundsException", "java/lang/UnsupportedOperationException"),
  ("java/lang/IllegalStateException", "java/lang/IllegalArgumentException"), ("CoinJudge$Refused", "CoinJudge$Broken")]
/-- the constants of strings: place, text, number in the table -/
def st_tbl : List (Nat × String × Nat) := [(12, "FFFFFFFFFFFFFFFFFFFFFFFFFFFFFFFFFFFFFFFFFFFFFFFFFFFFFFFEFFFFFC2F", 15), (27, "FFFFFFFFFFFFFFFFFFFFFFFFFFFFFFFEBAAEDCE6AF48A03BBFD25E8CD0364141", 16), (88, "79BE667EF9DCBBAC55A06295CE870B07029BFCDB2DCE28D959F2815B16F81798", 17), (93, "483ADA7726A3C4655DA4FBFC0E1108A8FD17B448A68554199C47D08FFB10D4B8", 18)]
def OrdAt (G : Gx) (U : State) : Prop := (∃ f : Field, (∃ c k i, U.fieldFound? "java/lang/Enum" "ordinal" "I" = some (c, k, i, f)) ∧ f.isStatic = false ∧ f.slot = G.2.2.2.2 1) ∧ ClassAt U "CoinJudge$State" (G.2.2.2.2 0)
theorem OrdAt.moved {G : Gx} {u U : State} (hvm : u.vm.Alike U.vm) (h : OrdAt G u) : OrdAt G U := by
  obtain ⟨⟨f, ⟨c, k, i, h1⟩, h2, h3⟩, h4⟩ := h
  obtain ⟨k', hi', he⟩ := State.fieldFound?_setVm hvm h1
  exact ⟨⟨f, ⟨c, k', i, hi'⟩, h2, h3⟩, classAt_moved hvm h4⟩
def va_LS (C n d : String) (U : State) (H : Heap) : Prop := ∃ (c : ClassId) (k : Class) (i : Nat) (f : Field) (a : Nat) (cell : Cell), U.vm.findClass C = some c ∧ U.fieldFound? C n d = some (c, k, i, f) ∧ k.statics = some a ∧ H[a]? = some cell ∧
  (f.isStatic && cell.vm.isStatics && cell.cls == c && decide (f.slot < cell.slots.size) && decide (k.staticTypes[f.slot]? = some f.type)) = true
theorem va_LS.moved {C n d : String} {u U : State} {H : Heap} (hvm : u.vm.Alike U.vm) (h : va_LS C n d u H) : va_LS C n d U H := by
  obtain ⟨c, k, i, f, a, cell, h1, h2, h3, h4, h5⟩ := h
  obtain ⟨k', hi', he⟩ := State.fieldFound?_setVm hvm h2
  exact ⟨c, k', i, f, a, cell, by rw [hvm.findClass]; exact h1, hi', by rw [he]; exact h3, h4, by rw [he]; exact h5⟩
theorem va_LS.use {C n d : String} {U : State} {H : Heap} {args : Array Value} (h : va_LS C n d U H) (hh : ∀ q, q < H.size → U.heap[q]? = H[q]?) : (Cond.laysStatic C n d).before args U = true := by
  obtain ⟨c, k, i, f, a, cell, h1, h2, h3, h4, h5⟩ := h
  have hc : U.heap[a]? = some cell := (hh a (Array.getElem?_eq_some_iff.mp h4).1).trans h4
  simp only [Bool.and_eq_true] at h5
  obtain ⟨⟨⟨⟨g1, g2⟩, g3⟩, g4⟩, g5⟩ := h5
  simp only [Cond.before, Cond.holds, Cond.value, h1, h2, h3, Option.bind_some, hc, Option.map_some, g1, g2, g3, g4, g5, beq_self_eq_true, Bool.and_self]
theorem va_LS.of {C n d : String} {s : State} {args : Array Value} (h : (Cond.laysStatic C n d).before args s = true) : va_LS C n d s s.heap := by
  simp only [Cond.before, Cond.holds, Cond.value] at h
  cases h1 : s.vm.findClass C with
  | none => simp [h1] at h
  | some c =>
    cases h2 : s.fieldFound? C n d with
    | none => simp [h1, h2] at h
    | some x =>
      obtain ⟨c', k, i, f⟩ := x
      cases h3 : k.statics with
      | none => simp [h1, h2, h3] at h
      | some a =>
        cases h4 : s.heap[a]? with
        | none => simp [h1, h2, h3, h4] at h
        | some cell =>
          simp only [h1, h2, h3, h4, Option.bind_some, Option.map_some, beq_iff_eq, Option.some.injEq, Bool.and_eq_true] at h
          obtain ⟨⟨⟨⟨⟨g1, g0⟩, g2⟩, g3⟩, g4⟩, g5⟩ := h
          subst g0
          exact ⟨c, k, i, f, a, cell, h1, h2, h3, h4, by simp only [g1, g2, g3, g4, g5, beq_self_eq_true, Bool.and_self]⟩
def KN (G : Gx) (U : State) : Prop := va_K G.2.1 kcl (kTys G) U ∧ (∀ w ∈ lw_tbl, nwOk w = true → va_Nw w U) ∧ (∀ q ∈ lw_faces, va_Fw q.1 q.2.1 q.2.2 U) ∧ (∀ j, j < 12 → aoOk (aty (104 + j)) U) ∧
  G.1.stackTraces = false ∧ (∀ q ∈ zs_tbl, va_Z q.2.1 q.2.2.1 q.2.2.2 (vr (G.2.2.2.2 q.1)) nA U G.2.2.2.1) ∧ va_Z "java/lang/String" "COMPACT_STRINGS" "Z" (.int 1) nA U G.2.2.2.1 ∧ (∀ q ∈ nc_tbl, va_Nc q.1 q.2 U) ∧
  OrdAt G U ∧ va_Mi "[Ljava/lang/Object;" (G.2.2.2.2 19) U ∧ (∀ q ∈ st_tbl, vk_R "CoinJudge$Curve" q.1 q.2.1 (G.2.2.2.2 q.2.2) U) ∧
  (∀ q, q < gB G → U.heap[q]? = G.2.2.2.1[q]?) ∧ va_LS "java/lang/Throwable" "UNASSIGNED_STACK" "[Ljava/lang/StackTraceElement;" U G.2.2.2.1 ∧ va_LS "java/lang/Throwable" "SUPPRESSED_SENTINEL" "Ljava/util/List;" U G.2.2.2.1
theorem nw_warm {w : Cond} (h : nwOk w = true) {s U : State} (hW : s.WarmedH U.vm) (hz : va_Nw w s) : va_Nw w U := by
  match w, h, hz with
  | .fieldLinkNest .., _, hz => exact va_Nw.warmF hW hz
  | .methodLinkNest .., _, hz => exact va_Nw.warmM hW hz
  | .castable .., _, hz => exact va_Nw.warmC hW hz
  | .declares .., _, hz => exact va_Nw.warmD hW hz
  | .publicMethod .., _, hz => exact va_tabs rfl (rfl : (s.setVm U.vm).vm = U.vm) (by rw [Cond.publicMethod_setVm hW.alike]; exact hz)
  | .unhidden .., _, hz => exact va_tabs rfl (rfl : (s.setVm U.vm).vm = U.vm) (by rw [Cond.unhidden_setVm hW.alike]; exact hz)
theorem ao_moved {ty : FieldType} (hty : (∃ C, ty = .object C) ∨ ∃ t, ty = .array t) {u U : State} (hvm : u.vm.Alike U.vm) (h : aoOk ty u) : aoOk ty U := by
  rcases hty with ⟨C, rfl⟩ | ⟨t, rfl⟩
  · exact va_AO.moved hvm h
  · obtain ⟨comp, c, k, h1, h2, h3, h4, h5⟩ := arrayOverA_spec h
    obtain ⟨k', hk', he⟩ := hvm.2.2 _ _ h3
    have hi : (U.vm.classes.findIdx? fun (x : Class) => match x.kind with | .array component _ => component == comp | _ => false) = some c := by
      rw [hvm.findIdx?_eq _ (fun _ => rfl)]
      exact h2
    have hkind : k'.kind = .array comp (.array t) := by rw [he]; exact h4
    have f1 : U.vm.findClass (FieldType.array t).toString = some comp := by rw [hvm.findClass]; exact h1
    have f2 : U.vm.findClass ("[" ++ (FieldType.array t).toString) = some c := by rw [hvm.findClass]; exact h5
    unfold aoOk Cond.before Cond.holds
    simp only [Cond.value]
    rw [f1, Option.bind_some]
    refine (congrArg (fun o : Option Nat => (o.bind (fun c => (U.vm.classes[c]?).map fun (k : Class) => match k.kind with | .array _ ty => decide (ty = FieldType.array t) && decide (U.vm.findClass ("[" ++ (FieldType.array t).toString) = some c) | _ => false) == some true)) hi).trans ?_
    simp [hk', hkind, f2]
theorem KN.warm {G : Gx} {s U : State} (hW : s.WarmedH U.vm) (hh : ∀ q, q < gB G → U.heap[q]? = G.2.2.2.1[q]?) (h : KN G s) : KN G U :=
  ⟨va_K.moved hW.alike h.1, fun w hw hn => nw_warm hn hW (h.2.1 w hw hn), fun q hq => va_Fw.moved (by
    have : ∀ q ∈ lw_faces, q.2.1.cls ≠ "java/lang/invoke/MethodHandle" ∧ q.2.1.cls ≠ "java/lang/invoke/VarHandle" := by decide +kernel
    exact this q hq) hW.alike (h.2.2.1 q hq), fun j hj => ao_moved (by
    match j, hj with
    | 0, _ => exact Or.inl ⟨_, rfl⟩
    | 1, _ => exact Or.inl ⟨_, rfl⟩
    | 2, _ => exact Or.inl ⟨_, rfl⟩
    | 3, _ => exact Or.inl ⟨_, rfl⟩
    | 4, _ => exact Or.inl ⟨_, rfl⟩
    | 5, _ => exact Or.inl ⟨_, rfl⟩
    | 6, _ => exact Or.inl ⟨_, rfl⟩
    | 7, _ => exact Or.inl ⟨_, rfl⟩
    | 8, _ => exact Or.inl ⟨_, rfl⟩
    | 9, _ => exact Or.inl ⟨_, rfl⟩
    | 10, _ => exact Or.inl ⟨_, rfl⟩
    | 11, _ => exact Or.inr ⟨_, rfl⟩) hW.alike (h.2.2.2.1 j hj), h.2.2.2.2.1, fun q hq => va_Z.moved hW.alike (h.2.2.2.2.2.1 q hq), va_Z.moved hW.alike h.2.2.2.2.2.2.1, fun q hq => va_Nc.moved hW.alike (h.2.2.2.2.2.2.2.1 q hq), OrdAt.moved hW.alike h.2.2.2.2.2.2.2.2.1, va_Mi.moved hW.alike h.2.2.2.2.2.2.2.2.2.1, fun q hq => vk_R.warm hW (h.2.2.2.2.2.2.2.2.2.2.1 q hq), hh, va_LS.moved hW.alike h.2.2.2.2.2.2.2.2.2.2.2.2.1, va_LS.moved hW.alike h.2.2.2.2.2.2.2.2.2.2.2.2.2⟩
def CxOk (G : Gx) (X : Mx) (d : Nat) (p : Program) (R : Room) (s : State) (m : MethodId) (args : Array Value) (meth : Method) (c : Code) : Prop :=
  p.tables.exec = Jvm.exec ∧ c.code = X.cc ∧ c.maxLocals = X.nL ∧ meth.sig.returnType = X.rt ∧ meth.locks = false ∧ s.vm.findClass X.y.cls = some m.cls ∧ meth.name = X.y.name ∧
  c.exceptionTable.toList.map (fun x => (x.startPc, x.endPc, x.handlerPc, x.catchType)) = X.hs ∧ (∀ w ∈ lw_all, w.before args s = true) ∧ KN G s ∧ d ≤ R.frames ∧ 392 * d ≤ R.locals
def oc_ (o : Out) : Outcome := match o with
  | .inl v => .returned (v.map cv)
  | .inr a => .threw a
def Fin_ (G : Gx) (s : State) (below : List Frame) (o : Out) (h' : AH) (n k : Nat) (t : State) : Prop := ∃ L : List Loc, t.status = .running ∧ Ended t below (oc_ o) ∧ Rel G h' t.heap ∧ s.WarmedH t.vm ∧ s.sameButNew ({ t with vm := s.vm } : State) L n k ∧ ∀ q ∈ L, gB G ≤ q.base
def At_ (G : Gx) (X : Mx) (d : Nat) (o : Out) (h' : AH) (pc : Nat) (lv st : List AV) (h : AH) : Prop :=
  h.z ≤ h'.z ∧ h.s ≤ h'.s ∧ ∀ (p : Program) (e : Env) (R : Room) (s : State) (m : MethodId) (args : Array Value) (below : List Frame) (meth : Method) (c : Code), CxOk G X d p R s m args meth c →
    ∀ (H : Heap) (locs : List Loc) (ls : Array Slot) (cells slots : Nat), cells + (h'.z - h.z) ≤ R.cells → slots + (h'.s - h.s) ≤ R.slots → Rel G h H → (∀ q ∈ locs, gB G ≤ q.base) → LV ls X.nL lv →
    W p G.1 e R s m args below meth c H locs cells slots (Fin_ G s below o h' (cells + (h'.z - h.z)) (slots + (h'.s - h.s))) (F0 m pc ls (st.map cv))
/-- the frame of X stands at pc with these locals and this stack in h; h0: the heap at its start; t: the object that it makes (0: none): it comes to an end, with Φ -/
def Aw (G : Gx) (X : Mx) (d t : Nat) (h0 : AH) (Φ : Out → AH → Prop) (pc : Nat) (lv st : List AV) (h : AH) : Prop :=
  WF G h0 → WF G h → Ext X.fp t h0 h → ∃ (o : Out) (h' : AH), Φ o h' ∧ Ext X.fp t h0 h' ∧ WF G h' ∧ At_ G X d o h' pc lv st h
def ent (vs : List AV) : List AV := match vs with
  | [] => []
  | .inr (.inl x) :: r => vJ x :: vU :: ent r
  | v :: r => v :: ent r
/-- a call of X with vs in h comes to an end, with Φ -/
def Cw (G : Gx) (X : Mx) (d t : Nat) (vs : List AV) (h : AH) (Φ : Out → AH → Prop) : Prop :=
  WF G h → ∃ (o : Out) (h' : AH), Φ o h' ∧ Ext X.fp t h h' ∧ WF G h' ∧ At_ G X d o h' 0 (ent vs ++ List.replicate (X.nL - (ent vs).length) vU) [] h
theorem Cw.mono {G : Gx} {X : Mx} {d t : Nat} {vs : List AV} {h : AH} {Φ Ψ : Out → AH → Prop} (k : Cw G X d t vs h Φ) (f : ∀ o h', Ext X.fp t h h' → WF G h' → Φ o h' → Ψ o h') : Cw G X d t vs h Ψ := by
  intro w
  obtain ⟨o, h', a, b, c, z⟩ := k w
  exact ⟨o, h', f o h' b c a, b, c, z⟩
theorem Aw.mono {G : Gx} {X : Mx} {d t : Nat} {h0 h : AH} {pc : Nat} {lv st : List AV} {Φ Ψ : Out → AH → Prop} (k : Aw G X d t h0 Φ pc lv st h) (f : ∀ o h', Φ o h' → Ψ o h') : Aw G X d t h0 Ψ pc lv st h := by
  intro w w2 e
  obtain ⟨o, h', a, b, c, z⟩ := k w w2 e
  exact ⟨o, h', f o h' a, b, c, z⟩
theorem Cw.of {G : Gx} {X : Mx} {d t : Nat} {vs lv : List AV} {h : AH} {Φ : Out → AH → Prop} (hl : ent vs ++ List.replicate (X.nL - (ent vs).length) vU = lv) (k : WF G h → Aw G X d t h Φ 0 lv [] h) : Cw G X d t vs h Φ := by
  intro w
  subst hl
  exact k w w w Ext.rf
/-- more frames do no harm -/
theorem At_.up {G : Gx} {X : Mx} {d d' : Nat} {o : Out} {h' h : AH} {pc : Nat} {lv st : List AV} (hd : d ≤ d') (k : At_ G X d o h' pc lv st h) : At_ G X d' o h' pc lv st h := by
  refine ⟨k.1, k.2.1, fun p e R s m args below meth c C => k.2.2 p e R s m args below meth c ?_⟩
  obtain ⟨c1, c2, c3, c4, c5, c6, c7, c8, c9, c10, c11, c12⟩ := C
  exact ⟨c1, c2, c3, c4, c5, c6, c7, c8, c9, c10, by omega, by omega⟩
theorem Cw.up {G : Gx} {X : Mx} {d d' t : Nat} {vs : List AV} {h : AH} {Φ : Out → AH → Prop} (hd : d ≤ d') (k : Cw G X d t vs h Φ) : Cw G X d' t vs h Φ := by
  intro w
  obtain ⟨o, h', a, b, c, z⟩ := k w
  exact ⟨o, h', a, b, c, z.up hd⟩
section Pure
variable {G : Gx} {X : Mx} {d t : Nat} {h0 h : AH} {Φ : Out → AH → Prop} {pc pc' : Nat} {lv lv' st st' : List AV}
/-- a step that leaves the heap -/
theorem Aw.pure (f : ∀ (p : Program) (e : Env) (R : Room) (s : State) (m : MethodId) (args : Array Value) (below : List Frame) (meth : Method) (c : Code) (H : Heap) (locs : List Loc) (cells slots : Nat) (Q : State → Prop) (ls : Array Slot), CxOk G X d p R s m args meth c → LV ls X.nL lv → WF G h → Rel G h H →
      (∀ ls', LV ls' X.nL lv' → W p G.1 e R s m args below meth c H locs cells slots Q (F0 m pc' ls' (st'.map cv))) → W p G.1 e R s m args below meth c H locs cells slots Q (F0 m pc ls (st.map cv)))
    (k : Aw G X d t h0 Φ pc' lv' st' h) : Aw G X d t h0 Φ pc lv st h := by
  intro w w2 ex
  obtain ⟨o, h', a, b, c, z1, z2, z3⟩ := k w w2 ex
  refine ⟨o, h', a, b, c, z1, z2, fun p e R s m args below meth cd C H locs ls cells slots q1 q2 hr hL hl => ?_⟩
  exact f p e R s m args below meth cd H locs cells slots _ ls C hl w2 hr (fun ls' hl' => z3 p e R s m args below meth cd C H locs ls' cells slots q1 q2 hr hL hl')
/-- a step that leaves the heap and the locals -/
theorem Aw.pure1 (f : ∀ (p : Program) (e : Env) (R : Room) (s : State) (m : MethodId) (args : Array Value) (below : List Frame) (meth : Method) (c : Code) (H : Heap) (locs : List Loc) (cells slots : Nat) (Q : State → Prop) (ls : Array Slot), CxOk G X d p R s m args meth c → LV ls X.nL lv → WF G h → Rel G h H →
      W p G.1 e R s m args below meth c H locs cells slots Q (F0 m pc' ls (st'.map cv)) → W p G.1 e R s m args below meth c H locs cells slots Q (F0 m pc ls (st.map cv)))
    (k : Aw G X d t h0 Φ pc' lv st' h) : Aw G X d t h0 Φ pc lv st h :=
  Aw.pure (lv' := lv) (fun p e R s m args below meth c H locs cells slots Q ls C hl w hr kk => f p e R s m args below meth c H locs cells slots Q ls C hl w hr (kk ls hl)) k
/-- a branch -/
theorem Aw.br {P : Prop} {pt pf : Nat} (f : ∀ (p : Program) (e : Env) (R : Room) (s : State) (m : MethodId) (args : Array Value) (below : List Frame) (meth : Method) (c : Code) (H : Heap) (locs : List Loc) (cells slots : Nat) (Q : State → Prop) (ls : Array Slot), CxOk G X d p R s m args meth c →
      (P → W p G.1 e R s m args below meth c H locs cells slots Q (F0 m pt ls (st'.map cv))) → (¬ P → W p G.1 e R s m args below meth c H locs cells slots Q (F0 m pf ls (st'.map cv))) → W p G.1 e R s m args below meth c H locs cells slots Q (F0 m pc ls (st.map cv)))
    (kt : P → Aw G X d t h0 Φ pt lv st' h) (kf : ¬ P → Aw G X d t h0 Φ pf lv st' h) : Aw G X d t h0 Φ pc lv st h := by
  by_cases hP : P
  · exact Aw.pure1 (pc' := pt) (fun p e R s m args below meth c H locs cells slots Q ls C _ _ _ k => f p e R s m args below meth c H locs cells slots Q ls C (fun _ => k) (fun q => absurd hP q)) (kt hP)
  · exact Aw.pure1 (pc' := pf) (fun p e R s m args below meth c H locs cells slots Q ls C _ _ _ k => f p e R s m args below meth c H locs cells slots Q ls C (fun q => absurd q hP) (fun _ => k)) (kf hP)
theorem r_mask (mk : List Bool) (hm : lmask mk lv = lv') (k : Aw G X d t h0 Φ pc lv' st h) : Aw G X d t h0 Φ pc lv st h := by
  subst hm
  exact Aw.pure (fun p e R s m args below meth c H locs cells slots Q ls C hl _ _ kk => kk ls (hl.mask mk)) k
theorem r_pc {q : Nat} (e : pc = q) (k : Aw G X d t h0 Φ q lv st h) : Aw G X d t h0 Φ pc lv st h := e ▸ k
variable {x y : Int32} {a b : Int64} {u v : AV}
theorem r_iconst {n : Int} (dg : decode X.cc pc = .ok (.iconst n, 1)) (hv : Int32.ofInt n = x) (k : Aw G X d t h0 Φ (pc + 1) lv (vI x :: st) h) : Aw G X d t h0 Φ pc lv st h :=
  Aw.pure1 (fun p e R s m args below meth c H locs cells slots Q ls C hl _ _ kk => lv_iconst C.1 C.2.1 dg hv kk) k
theorem r_bipush {n : Int} (dg : decode X.cc pc = .ok (.bipush n, 2)) (hv : (Int8.ofInt n).toInt32 = x) (k : Aw G X d t h0 Φ (pc + 2) lv (vI x :: st) h) : Aw G X d t h0 Φ pc lv st h :=
  Aw.pure1 (fun p e R s m args below meth c H locs cells slots Q ls C hl _ _ kk => lv_bipush C.1 C.2.1 dg hv kk) k
theorem r_sipush {n : Int} (dg : decode X.cc pc = .ok (.sipush n, 3)) (hv : (Int16.ofInt n).toInt32 = x) (k : Aw G X d t h0 Φ (pc + 3) lv (vI x :: st) h) : Aw G X d t h0 Φ pc lv st h :=
  Aw.pure1 (fun p e R s m args below meth c H locs cells slots Q ls C hl _ _ kk => lv_sipush C.1 C.2.1 dg hv kk) k
theorem r_lconst {n : Fin 2} (dg : decode X.cc pc = .ok (.lconst n, 1)) (hv : Int64.ofNat (n : Nat) = a) (k : Aw G X d t h0 Φ (pc + 1) lv (vJ a :: st) h) : Aw G X d t h0 Φ pc lv st h :=
  Aw.pure1 (fun p e R s m args below meth c H locs cells slots Q ls C hl _ _ kk => lv_lconst C.1 C.2.1 dg hv kk) k
theorem r_iload_n {n : Fin 4} (dg : decode X.cc pc = .ok (.iload_n n, 1)) (hl : lv[(n : Nat)]? = some (vI x)) (k : Aw G X d t h0 Φ (pc + 1) lv (vI x :: st) h) : Aw G X d t h0 Φ pc lv st h :=
  Aw.pure1 (fun p e R s m args below meth c H locs cells slots Q ls C hL _ _ kk => lv_iload_n C.1 C.2.1 dg rfl (hL.2.2 _ _ hl (fun q => by cases q)) kk) k
theorem r_iload {n : Nat} (dg : decode X.cc pc = .ok (.iload n, 2)) (hl : lv[n]? = some (vI x)) (k : Aw G X d t h0 Φ (pc + 2) lv (vI x :: st) h) : Aw G X d t h0 Φ pc lv st h :=
  Aw.pure1 (fun p e R s m args below meth c H locs cells slots Q ls C hL _ _ kk => lv_iload C.1 C.2.1 dg (hL.2.2 _ _ hl (fun q => by cases q)) kk) k
theorem r_lload_n {n : Fin 4} (dg : decode X.cc pc = .ok (.lload_n n, 1)) (hl : lv[(n : Nat)]? = some (vJ a)) (k : Aw G X d t h0 Φ (pc + 1) lv (vJ a :: st) h) : Aw G X d t h0 Φ pc lv st h :=
  Aw.pure1 (fun p e R s m args below meth c H locs cells slots Q ls C hL _ _ kk => lv_lload_n C.1 C.2.1 dg rfl (hL.2.2 _ _ hl (fun q => by cases q)) kk) k
theorem r_lload {n : Nat} (dg : decode X.cc pc = .ok (.lload n, 2)) (hl : lv[n]? = some (vJ a)) (k : Aw G X d t h0 Φ (pc + 2) lv (vJ a :: st) h) : Aw G X d t h0 Φ pc lv st h :=
  Aw.pure1 (fun p e R s m args below meth c H locs cells slots Q ls C hL _ _ kk => lv_lload C.1 C.2.1 dg (hL.2.2 _ _ hl (fun q => by cases q)) kk) k
theorem r_aload_n {n : Fin 4} {r : Nat} (dg : decode X.cc pc = .ok (.aload_n n, 1)) (hl : lv[(n : Nat)]? = some (vR r)) (k : Aw G X d t h0 Φ (pc + 1) lv (vR r :: st) h) : Aw G X d t h0 Φ pc lv st h :=
  Aw.pure1 (fun p e R s m args below meth c H locs cells slots Q ls C hL _ _ kk => by
    have hq := hL.2.2 _ _ hl (fun q => by cases q)
    cases r with
    | zero => exact lv_aload_nN C.1 C.2.1 dg rfl hq kk
    | succ r => exact lv_aload_n C.1 C.2.1 dg rfl hq kk) k
theorem r_aload {n r : Nat} (dg : decode X.cc pc = .ok (.aload n, 2)) (hl : lv[n]? = some (vR r)) (k : Aw G X d t h0 Φ (pc + 2) lv (vR r :: st) h) : Aw G X d t h0 Φ pc lv st h :=
  Aw.pure1 (fun p e R s m args below meth c H locs cells slots Q ls C hL _ _ kk => by
    have hq := hL.2.2 _ _ hl (fun q => by cases q)
    cases r with
    | zero => exact lv_aloadN C.1 C.2.1 dg hq kk
    | succ r => exact lv_aload C.1 C.2.1 dg hq kk) k
end Pure

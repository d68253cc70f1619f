/-! rows of calls -/
set_option maxRecDepth 100000
section CallRow
variable {G : Gx} {X Y : Mx} {d t t' : Nat} {h0 h h1 : AH} {Φ : Out → AH → Prop} {pc pc' n : Nat} {lv st stk vs : List AV}
/-- the frame at pc has got the throwable x -/
def Th_ (G : Gx) (X : Mx) (d : Nat) (o : Out) (h' : AH) (pc : Nat) (lv st : List AV) (x : Nat) (h : AH) : Prop :=
  h.z ≤ h'.z ∧ h.s ≤ h'.s ∧ ∀ (p : Program) (e : Env) (R : Room) (s : State) (m : MethodId) (args : Array Value) (below : List Frame) (meth : Method) (c : Code), CxOk G X d p R s m args meth c →
    ∀ (T : State) (locs : List Loc) (ls : Array Slot) (cells slots : Nat), cells + (h'.z - h.z) ≤ R.cells → slots + (h'.s - h.s) ≤ R.slots → Rel G h T.heap → (∀ q ∈ locs, gB G ≤ q.base) → LV ls X.nL lv → Stand p G.1 e R s m args below meth c T locs cells slots →
    ∃ tt, Steps p.tables e below ((T.setTop (F0 m pc ls (st.map cv))).pushFrame (.throwing x)) tt ∧ Fin_ G s below o h' (cells + (h'.z - h.z)) (slots + (h'.s - h.s)) tt
def Tw (G : Gx) (X : Mx) (d t : Nat) (h0 : AH) (Φ : Out → AH → Prop) (pc : Nat) (lv st : List AV) (x : Nat) (h : AH) : Prop :=
  WF G h0 → WF G h → Ext X.fp t h0 h → ∃ (o : Out) (h' : AH), Φ o h' ∧ Ext X.fp t h0 h' ∧ WF G h' ∧ Th_ G X d o h' pc lv st x h
/-- no handler covers pc -/
def noH (X : Mx) (pc : Nat) : Bool := X.hs.all (fun q => !(Nat.ble q.1 pc && Nat.blt pc q.2.1))
theorem Tw.out {x : Nat} (hn : noH X pc = true) (hΦ : Φ (.inr x) h) : Tw G X d t h0 Φ pc lv st x h := by
  intro w0 w ex
  refine ⟨.inr x, h, hΦ, ex, w, Nat.le_refl _, Nat.le_refl _, fun p e R s m args below meth c C T locs ls cells slots q1 q2 hr hL hl S => ?_⟩
  obtain ⟨C1, C2, C3, C4, C5, C6, C7, C8, C9, C10, C11, C12⟩ := C
  obtain ⟨a1, a2, a3, a4, a5⟩ := S.leaveThrown x (g := F0 m pc ls (st.map cv)) rfl rfl rfl (fun y hy => by
    have h2 : (y.startPc, y.endPc, y.handlerPc, y.catchType) ∈ X.hs := by rw [← C8]; exact List.mem_map.mpr ⟨y, hy, rfl⟩
    have h3 := List.all_eq_true.mp hn _ h2
    simp only [Bool.not_eq_true', Bool.and_eq_false_iff] at h3
    unfold covers
    simp only [decide_eq_false_iff_not, Bool.and_eq_false_iff]
    rcases h3 with h3 | h3
    · left
      intro q
      rw [Nat.ble_eq_true_of_le q] at h3
      cases h3
    · right
      intro q
      have : Nat.blt pc y.endPc = true := Nat.ble_eq_true_of_le q
      rw [this] at h3
      cases h3)
  refine ⟨_, a1, locs, a2, a3, hr, a4, by simpa using a5, hL⟩
theorem Aw.call {ig : Instr} {len : Nat} (hdg : decode X.cc pc = .ok (ig, len)) (hcd : cdOk Y) (hpl : plainFor Y.y = true) (hfp : ∀ k, k ∈ Y.fp → k ∈ X.fp) (ht : t' = t ∨ h0.z ≤ t' ∨ t' = 0) (hroom : (st.map ct).sum + Y.nL + 11 ≤ 392) (hlen : (ent vs).length ≤ Y.nL)
    (f : ∀ (p : Program) (e : Env) (R : Room) (s : State) (m mk : MethodId) (args : Array Value) (below : List Frame) (meth : Method) (c : Code) (T : State) (locs : List Loc) (cells slots : Nat) (ls : Array Slot), CxOk G X (d + 1) p R s m args meth c → ls.size = X.nL → WF G h → Rel G h T.heap → Stand p G.1 e R s m args below meth c T locs cells slots → s.methodNamed? Y.y = some mk →
      ∃ vm₁, Stand p G.1 e R s m args below meth c (T.setVm vm₁) locs cells slots ∧ ∀ tg, Steps p.tables e below (doInvoke e ((T.setVm vm₁).setTop (F0 m pc ls (st.map cv))) [] mk (vs.map cv).toArray).1 tg → Steps p.tables e below (T.setTop (F0 m pc ls (stk.map cv))) tg)
    (k : Cw G Y d t' vs h (fun o h1 => match o with
      | .inl v => Aw G X (d + 1) t h0 Φ (pc + len) lv (v.toList ++ st) h1
      | .inr x => Tw G X (d + 1) t h0 Φ pc lv st x h1)) : Aw G X (d + 1) t h0 Φ pc lv stk h := by
  intro w0 w ex
  obtain ⟨o, h1, hk, ex1, w1, hA⟩ := k w
  have ht' : t' = t ∨ h0.kd t' = 0 := by
    rcases ht with q | q | q
    · exact Or.inl q
    · right
      by_cases z : h0.kd t' = 0
      · exact z
      · have := (w0.2.2.1 t' z).2.1
        omega
    · right
      by_cases z : h0.kd t' = 0
      · exact z
      · have := (w0.2.2.1 t' z).2.2
        have := w0.1
        omega
  have ex2 : Ext X.fp t h0 h1 := ex.trans ex1 hfp ht'
  have hcat : ∀ l : List AV, ((l.map cv).map fun v => v.category).sum = (l.map ct).sum := by
    intro l
    induction l with
    | nil => rfl
    | cons a l ih => simp only [List.map_cons, List.sum_cons, ih, ct_cv]
  cases o with
  | inl v =>
    obtain ⟨o, h', a, b, cc, z1, z2, z3⟩ := hk w0 w1 ex2
    have y1 := hA.1
    have y2 := hA.2.1
    refine ⟨o, h', a, b, cc, by omega, by omega, fun p e R s m args below meth cd C H locs ls cells slots q1 q2 hr hL hl => ?_⟩
    intro T hT S
    obtain ⟨mk, methY, cY, n1, -⟩ := hcd.spec C.2.2.2.2.2.2.2.2.1
    obtain ⟨vm₁, S1, hst⟩ := f p e R s m mk args below meth cd T locs cells slots ls C hl.1 w (by rw [hT]; exact hr) S n1
    obtain ⟨T', L, S2, hr2, hL2, hsteps⟩ := w_enter S1 C (g := F0 m pc ls (st.map cv)) rfl (by rw [C.2.2.1]; exact hl.1) rfl (by rw [C.2.1]; exact hdg) hcd hpl n1 hA (by show Rel G h T.heap; rw [hT]; exact hr) (by show ((st.map cv).map fun v => v.category).sum + Y.nL + 11 ≤ 392; rw [hcat]; exact hroom) hlen (by omega) (by omega)
    have e1 : cells + (h1.z - h.z) + (h'.z - h1.z) = cells + (h'.z - h.z) := by omega
    have e2 : slots + (h1.s - h.s) + (h'.s - h1.s) = slots + (h'.s - h.s) := by omega
    have hK := z3 p e R s m args below meth cd C T'.heap (locs ++ L) ls (cells + (h1.z - h.z)) (slots + (h1.s - h.s)) (by omega) (by omega) hr2 (fun q hq => by
      rcases List.mem_append.mp hq with q1 | q1
      · exact hL q q1
      · exact hL2 q q1) hl
    rw [e1, e2] at hK
    obtain ⟨tt, s1, s2⟩ := hK T' rfl S2
    refine ⟨tt, hst tt (hsteps tt ?_), s2⟩
    have : (v.toList ++ st).map cv = (v.map cv).toList ++ st.map cv := by cases v <;> simp
    rw [this] at s1
    exact s1
  | inr x =>
    obtain ⟨o, h', a, b, cc, z1, z2, z3⟩ := hk w0 w1 ex2
    have y1 := hA.1
    have y2 := hA.2.1
    refine ⟨o, h', a, b, cc, by omega, by omega, fun p e R s m args below meth cd C H locs ls cells slots q1 q2 hr hL hl => ?_⟩
    intro T hT S
    obtain ⟨mk, methY, cY, n1, -⟩ := hcd.spec C.2.2.2.2.2.2.2.2.1
    obtain ⟨vm₁, S1, hst⟩ := f p e R s m mk args below meth cd T locs cells slots ls C hl.1 w (by rw [hT]; exact hr) S n1
    obtain ⟨T', L, S2, hr2, hL2, hsteps⟩ := w_enter S1 C (g := F0 m pc ls (st.map cv)) rfl (by rw [C.2.2.1]; exact hl.1) rfl (by rw [C.2.1]; exact hdg) hcd hpl n1 hA (by show Rel G h T.heap; rw [hT]; exact hr) (by show ((st.map cv).map fun v => v.category).sum + Y.nL + 11 ≤ 392; rw [hcat]; exact hroom) hlen (by omega) (by omega)
    have e1 : cells + (h1.z - h.z) + (h'.z - h1.z) = cells + (h'.z - h.z) := by omega
    have e2 : slots + (h1.s - h.s) + (h'.s - h1.s) = slots + (h'.s - h.s) := by omega
    obtain ⟨tt, s1, s2⟩ := z3 p e R s m args below meth cd C T' (locs ++ L) ls (cells + (h1.z - h.z)) (slots + (h1.s - h.s)) (by omega) (by omega) hr2 (fun q hq => by
      rcases List.mem_append.mp hq with q1 | q1
      · exact hL q q1
      · exact hL2 q q1) hl S2
    rw [e1, e2] at s2
    exact ⟨tt, hst tt (hsteps tt s1), s2⟩
/-- typed continuations: of an int, a long, a reference, nothing; E: behind a throw -/
def kI (K : Int32 → AH → Prop) (E : Nat → AH → Prop) : Out → AH → Prop := fun o h1 => match o with
  | .inl (some (.inl x)) => K x h1
  | .inr x => E x h1
  | _ => False
def kJ (K : Int64 → AH → Prop) (E : Nat → AH → Prop) : Out → AH → Prop := fun o h1 => match o with
  | .inl (some (.inr (.inl x))) => K x h1
  | .inr x => E x h1
  | _ => False
def kR (K : Nat → AH → Prop) (E : Nat → AH → Prop) : Out → AH → Prop := fun o h1 => match o with
  | .inl (some (.inr (.inr (.inl x)))) => K x h1
  | .inr x => E x h1
  | _ => False
def kV (K : AH → Prop) (E : Nat → AH → Prop) : Out → AH → Prop := fun o h1 => match o with
  | .inl none => K h1
  | .inr x => E x h1
  | _ => False
/-- what is asked of a callee by a look at literals -/
def cOk (Y : Mx) (vs st : List AV) : Bool := plainFor Y.y && Nat.ble ((st.map ct).sum + Y.nL + 11) 392 && Nat.ble (ent vs).length Y.nL && Y.y.cls != "java/lang/invoke/MethodHandle" && Y.y.cls != "java/lang/invoke/VarHandle"
def cOk' (Y : Mx) (vs st : List AV) : Bool := Nat.ble ((st.map ct).sum + Y.nL + 11) 392 && Nat.ble (ent vs).length Y.nL && Y.y.cls != "java/lang/invoke/MethodHandle" && Y.y.cls != "java/lang/invoke/VarHandle"
theorem cOk_of (h1 : plainFor Y.y = true) (h2 : cOk' Y vs st = true) : cOk Y vs st = true := by
  unfold cOk
  rw [h1, Bool.true_and]
  exact h2
theorem cOk.spec (h : cOk Y vs st = true) : plainFor Y.y = true ∧ (st.map ct).sum + Y.nL + 11 ≤ 392 ∧ (ent vs).length ≤ Y.nL ∧ Y.y.cls ≠ "java/lang/invoke/MethodHandle" ∧ Y.y.cls ≠ "java/lang/invoke/VarHandle" := by
  unfold cOk at h
  simp only [Bool.and_eq_true, bne_iff_ne] at h
  obtain ⟨⟨⟨⟨a1, a2⟩, a3⟩, a4⟩, a5⟩ := h
  exact ⟨a1, Nat.le_of_ble_eq_true a2, Nat.le_of_ble_eq_true a3, a4, a5⟩
end CallRow

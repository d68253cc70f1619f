/-! rows of new cells, and of ends -/
set_option maxRecDepth 100000
section New
variable {G : Gx} {X : Mx} {d t : Nat} {h0 h h1 : AH} {Φ : Out → AH → Prop} {pc pc' : Nat} {lv st st' : List AV} {a k j n N key : Nat} {Cn host : String} {T : u_T} {i x : Int32}
theorem Aw.alloc (hz : h1.z = h.z + 1) (hs : h1.s = h.s + n) (hw : WF G h → WF G h1) (hx : WF G h0 → WF G h → Ext X.fp t h0 h → Ext X.fp t h0 h1)
    (f : ∀ (p : Program) (e : Env) (R : Room) (s : State) (m : MethodId) (args : Array Value) (below : List Frame) (meth : Method) (c : Code) (H : Heap) (locs : List Loc) (cells slots : Nat) (Q : State → Prop) (ls : Array Slot), CxOk G X d p R s m args meth c → LV ls X.nL lv → WF G h → Rel G h H → cells + 1 ≤ R.cells → slots + n ≤ R.slots →
      (∀ (H1 : Heap), Rel G h1 H1 → W p G.1 e R s m args below meth c H1 locs (cells + 1) (slots + n) Q (F0 m pc' ls (st'.map cv))) → W p G.1 e R s m args below meth c H locs cells slots Q (F0 m pc ls (st.map cv)))
    (k : Aw G X d t h0 Φ pc' lv st' h1) : Aw G X d t h0 Φ pc lv st h := by
  intro w w2 ex
  obtain ⟨o, h', a, b, c, z1, z2, z3⟩ := k w (hw w2) (hx w w2 ex)
  refine ⟨o, h', a, b, c, by omega, by omega, fun p e R s m args below meth cd C H locs ls cells slots q1 q2 hr hL hl => ?_⟩
  refine f p e R s m args below meth cd H locs cells slots _ ls C hl w2 hr (by omega) (by omega) (fun H1 hr1 => ?_)
  have e1 : cells + 1 + (h'.z - h1.z) = cells + (h'.z - h.z) := by omega
  have e2 : slots + n + (h'.s - h1.s) = slots + (h'.s - h.s) := by omega
  have := z3 p e R s m args below meth cd C H1 locs ls (cells + 1) (slots + n) (by omega) (by omega) hr1 hL hl
  rw [e1, e2] at this
  exact this
theorem WF.new {k n : Nat} {ai : List Int32} {al : List Int64} {ar : List Nat} (hai : ∀ x ∈ ai, x = 0) (w : WF G h) : WF G (h.new k n ai al ar) := by
  have aux : ∀ b x, x ∈ (h.new k n ai al ar).ai b → (b = h.z ∧ x = 0) ∨ (b ≠ h.z ∧ x ∈ h.ai b) := by
    intro b x hx
    have hx : x ∈ up1 h.ai h.z ai b := hx
    by_cases e : b = h.z
    · subst e; rw [up1_eq] at hx; exact Or.inl ⟨rfl, hai x hx⟩
    · rw [up1_ne e] at hx; exact Or.inr ⟨e, hx⟩
  refine ⟨w.1, Nat.le_succ_of_le w.2.1, fun x hx => ?_, fun b hb x hx => ?_, fun b hb x hx => ?_⟩
  rotate_left
  · rcases aux b x hx with ⟨-, e⟩ | ⟨e, hx⟩
    · rw [e]; decide
    · exact w.2.2.2.1 b (by rw [← hb]; exact (up1_ne e).symm) x hx
  · rcases aux b x hx with ⟨-, e⟩ | ⟨e, hx⟩
    · exact Or.inl e
    · exact w.2.2.2.2 b (by rw [← hb]; exact (up1_ne e).symm) x hx
  show (_ → gB G ≤ x) ∧ x < h.z + 1 ∧ 0 < x
  by_cases e : x = h.z
  · have := w.2.1; have := w.1; exact ⟨fun _ => by omega, by omega, by omega⟩
  · have hx : up1 h.kd h.z k x ≠ 0 := hx
    rw [up1_ne e] at hx
    have := w.2.2.1 x hx
    refine ⟨fun q => this.1 ?_, by omega, this.2.2⟩
    have e2 : (h.new k n ai al ar).kd x = h.kd x := up1_ne e
    rw [e2] at q
    exact q
theorem Ext.new {fp : List Nat} {k n : Nat} {ai : List Int32} {al : List Int64} {ar : List Nat} (w : WF G h) (ex : Ext fp t h0 h) : Ext fp t h0 (h.new k n ai al ar) := by
  refine ⟨Nat.le_succ_of_le ex.1, Nat.le_trans ex.2.1 (Nat.le_add_right _ _), fun x hx => ?_⟩
  obtain ⟨a1, a2, a3, a4, a5, a6⟩ := ex.2.2 x hx
  have hn : x ≠ h.z := fun e => by
    have := (w.2.2.1 x (by rw [a1]; exact hx)).2.1
    omega
  have f1 : (h.new k n ai al ar).kd x = h.kd x := up1_ne hn
  have f2 : (h.new k n ai al ar).ai x = h.ai x := up1_ne hn
  have f3 : (h.new k n ai al ar).al x = h.al x := up1_ne hn
  have f4 : (h.new k n ai al ar).ar x = h.ar x := up1_ne hn
  have f5 : ∀ q, (h.new k n ai al ar).i q x = h.i q x := fun q => if_neg hn
  have f6 : ∀ q, (h.new k n ai al ar).l q x = h.l q x := fun q => if_neg hn
  have f7 : ∀ q, (h.new k n ai al ar).r q x = h.r q x := fun q => if_neg hn
  refine ⟨f1.trans a1, by rw [f2]; exact a2, by rw [f3]; exact a3, by rw [f4]; exact a4, fun hn q hq => ?_, by rw [f2, f3, f4]; exact a6⟩
  rw [f5, f6, f7]
  exact a5 hn q hq
theorem Rel.new {H H' : Heap} {k n : Nat} {ai : List Int32} {al : List Int64} {ar : List Nat} (w : WF G h) (hr : Rel G h H) (z1 : H'.size = H.size + 1) (o1 : ∀ q, q < H.size → H'[q]? = H[q]?) (ho : ObjAt G (h.new k n ai al ar) h.z H') : Rel G (h.new k n ai al ar) H' := by
  refine ⟨by rw [z1, hr.1]; rfl, fun q hq => (o1 q (by rw [hr.1]; have := w.2.1; omega)).trans (hr.2.1 q hq), fun x hx => ?_⟩
  by_cases hn : x = h.z
  · subst hn; exact ho
  · have f1 : (h.new k n ai al ar).kd x = h.kd x := up1_ne hn
    rw [f1] at hx
    exact ObjAt.same f1 (fun q => ⟨if_neg hn, if_neg hn, if_neg hn⟩) ⟨up1_ne hn, up1_ne hn, up1_ne hn⟩ (o1 x (by rw [hr.1]; exact (w.2.2.1 x hx).2.1)) (hr.2.2 x hx)
def dvt (g : Nat) : Value := match g with
  | 0 => .int 0
  | 1 => .long 0
  | _ => .null
theorem kcl_dv0 : kcl.all (fun q => (List.range q.2.2).all (fun j => (parseFieldDescriptor (q.2.1 j).2.2.1).map defaultValue == some (dvt (tg (q.2.1 j).2.2.1)))) = true := by decide +kernel
theorem kcl_dv (hc : kcl[k]? = some (Cn, T, N)) (hj : j < N) {ty : FieldType} (hd : parseFieldDescriptor (T j).2.2.1 = some ty) : defaultValue ty = dvt (tg (T j).2.2.1) := by
  have h1 := List.all_eq_true.mp kcl_dv0 _ (List.mem_of_getElem? hc)
  have h2 := List.all_eq_true.mp h1 j (List.mem_range.mpr hj)
  rw [hd] at h2
  simpa using h2
theorem fv_new {k n j : Nat} {ai : List Int32} {al : List Int64} {ar : List Nat} : fv (h.new k n ai al ar) T k j h.z = dvt (tg (T j).2.2.1) := by
  have f5 : ∀ q, (h.new k n ai al ar).i q h.z = 0 := fun q => if_pos rfl
  have f6 : ∀ q, (h.new k n ai al ar).l q h.z = 0 := fun q => if_pos rfl
  have f7 : ∀ q, (h.new k n ai al ar).r q h.z = 0 := fun q => if_pos rfl
  unfold fv
  rw [f5, f6, f7]
  by_cases e0 : tg (T j).2.2.1 = 0
  · rw [if_pos e0, e0]; rfl
  · rw [if_neg e0]
    by_cases e1 : tg (T j).2.2.1 = 1
    · rw [if_pos e1, e1]; rfl
    · rw [if_neg e1]
      unfold dvt
      split
      · contradiction
      · contradiction
      · rfl
/-- a new object; q: where it is -/
theorem r_new (k : Nat) (hc : kcl[k]? = some (Cn, T, N)) (hs : (k != 0 && k.blt 100) = true) (q1 : Cond.classLink X.y.cls n Cn ∈ lw_all) (q2 : Cond.instantiable Cn N ∈ lw_all) (q3 : Cond.initialized Cn ∈ lw_all) (dg : decode X.cc pc = .ok (.new n, 3))
    (kk : ∀ q, q = h.z → h0.z ≤ q → WF G h → Aw G X d t h0 Φ (pc + 3) lv (vR q :: st) (h.new k N [] [] [])) : Aw G X d t h0 Φ pc lv st h := by
  simp only [Bool.and_eq_true, bne_iff_ne] at hs
  have hlt : k < 100 := Nat.le_of_ble_eq_true hs.2
  intro w0 w ex
  refine Aw.alloc (h1 := h.new k N [] [] []) (n := N) rfl rfl (WF.new (fun _ hx => by cases hx)) (fun _ w ex => Ext.new w ex) (fun p e R s m args below meth c H locs cells slots Q ls C hL w hr c1 c2 kk => ?_) (kk h.z rfl ex.1 w) w0 w ex
  obtain ⟨C1, C2, C3, C4, C5, C6, C7, C8, C9, C10, -⟩ := C
  have hKn := C10.1.1 k _ hc
  obtain ⟨hin, ⟨ty0, hty⟩, hnm⟩ := kcl_in k Cn T N hc
  refine W.newcK C1 C2 C6 (C9 _ q1) (C9 _ q2) (C9 _ q3) rfl dg c1 c2 hKn.2.1 (h := h.z) hr.1 fun H1 kC hkC e1 z1 o1 => ?_
  have hb := u_born ty0 C9 hin hKn hkC e1 hty
  have hz : (vR h.z) = vR h.z := rfl
  have kk2 := kk H1 (Rel.new w hr (by rw [z1, hr.1]) (fun q hq => o1 q (by rw [← hr.1]; exact hq)) ⟨fun _ => ?_, fun q => ?_, fun q => ?_⟩)
  · have ee : cv (vR h.z) = .ref h.z := vr_pos (by have := w.1; have := w.2.1; omega)
    have kk3 : W p G.1 e R s m args below meth c H1 locs (cells + 1) (slots + N) Q (F0 m (pc + 3) ls (cv (vR h.z) :: st.map cv)) := kk2
    rw [ee] at kk3
    exact kk3
  · have f1 : (h.new k N [] [] []).kd h.z = k := up1_eq
    rw [f1]
    obtain ⟨cell, b1, b2, b3, b4⟩ := hb
    have hbl : cell = blank (G.2.1.1 k) kC := Option.some.inj (b1.symm.trans e1)
    refine ⟨Cn, T, N, hc, cell, b1, b2, Or.inl ⟨b3, by rw [hbl]; exact ⟨rfl, rfl⟩⟩, fun j hj => ?_⟩
    rw [b4 j hj, fv_new]
    exact congrArg some (kcl_dv hc hj (hty j hj))
  · have f1 : (h.new k N [] [] []).kd h.z = k := up1_eq
    rw [f1] at q
    omega
  · have f1 : (h.new k N [] [] []).kd h.z = k := up1_eq
    rw [f1] at q
    omega
end New

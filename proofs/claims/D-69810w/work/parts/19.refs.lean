/-! rows of stores of references and of casts -/
set_option maxRecDepth 100000
section Refs
variable {G : Gx} {X : Mx} {d t : Nat} {h0 h h1 : AH} {Φ : Out → AH → Prop} {pc n a v N M : Nat} {lv st : List AV} {i : Int32} {Cn Ce : String} {T : u_T}
theorem arr_assign {s : State} (cA : ClassId) : s.vm.assignable cA cA = true := by
  show (cA == cA || _) = true
  rw [beq_self_eq_true, Bool.true_or]
/-- a reference is stored: the machine's side given -/
theorem aast_core (k : Nat) (hk : h.kd a = k) (hk1 : 104 ≤ k) (hk2 : k < 116) (hi : vp_in i (h.ar a).length) (hf : 100000 + k ∈ X.fp ∨ h0.z ≤ a)
    (f : ∀ (p : Program) (e : Env) (R : Room) (s : State) (m : MethodId) (args : Array Value) (below : List Frame) (meth : Method) (c : Code) (H : Heap) (locs : List Loc) (cells slots : Nat) (Q : State → Prop) (ls : Array Slot), CxOk G X d p R s m args meth c → WF G h → Rel G h H → k < 116 → H[a]? = some (arrV (G.2.2.1 k) (h.ar a).length (fun j => vr ((h.ar a).getD j 0))) →
      (∀ H' : Heap, H'[a]? = some ((arrV (G.2.2.1 k) (h.ar a).length (fun j => vr ((h.ar a).getD j 0))).setSlot i.toNatClampNeg (vr v)) → H'.size = H.size → (∀ q, q ≠ a → H'[q]? = H[q]?) → W p G.1 e R s m args below meth c H' (locs ++ [⟨a, i.toNatClampNeg⟩]) cells slots Q (F0 m (pc + 1) ls (st.map cv))) → W p G.1 e R s m args below meth c H locs cells slots Q (F0 m pc ls (vr v :: .int i :: .ref a :: st.map cv)))
    (kk : Aw G X d t h0 Φ (pc + 1) lv st (h.wr a ((h.ar a).set i.toNatClampNeg v))) : Aw G X d t h0 Φ pc lv (vR v :: vI i :: vR a :: st) h := by
  refine Aw.step (h1 := h.wr a ((h.ar a).set i.toNatClampNeg v)) rfl rfl (fun w => w) (fun w0 w ex => Ext.arr (a := a) w0 ex (by rw [hk]; exact hf) rfl rfl rfl rfl rfl rfl (fun x hx => ⟨rfl, rfl, up1_ne hx⟩) ⟨rfl, rfl, (congrArg List.length up1_eq).trans (by simp)⟩) (fun p e R s m args below meth c H locs cells slots Q ls C hl w hr hL kk => ?_) kk
  obtain ⟨q1, q2⟩ := hr.arr hk (by omega) hk2
  rw [alen_r (by omega), aval_r (by omega)] at q2
  have hb := (w.2.2.1 a (by omega)).1 ⟨by omega, by omega⟩
  show W p G.1 e R s m args below meth c H locs cells slots Q (F0 m pc ls (vr v :: .int i :: vr a :: st.map cv))
  rw [vr_pos (w.ne hk (by omega))]
  refine f p e R s m args below meth c H locs cells slots Q ls C w hr q1 q2 (fun H1 e1 e2 e3 => kk H1 _ ?_ (locs_put hL hb))
  refine hr.wr (by omega) (by omega) e1 e2 e3 hb ?_ rfl rfl rfl rfl rfl (fun z hz => ⟨rfl, rfl, up1_ne hz⟩)
  rw [arr_stR, alen_r (show 104 ≤ (h.wr a _).kd a by show 104 ≤ h.kd a; omega), aval_r (show 104 ≤ (h.wr a _).kd a by show 104 ≤ h.kd a; omega), hk]
  show _ = arrV _ (up1 h.ar a _ a).length (fun j => vr ((up1 h.ar a _ a).getD j 0))
  rw [up1_eq]
theorem w_aastN {p : Program} {l : Launch} {e : Env} {R : Room} {s : State} {m : MethodId} {args : Array Value} {below : List Frame} {meth : Method} {c : Code} {H : Heap} {locs : List Loc} {cells slots : Nat} {Q : State → Prop} {cc : ByteArray} (hexec : p.tables.exec = Jvm.exec) (hb : c.code = cc) {cell : Cell} {ty : FieldType} (hty : ty.isReference = true) {j : Int32} (hcell : H[a]? = some cell) (harr : s.isArrayOf cell ty) (hknown : cell.vm ≠ .unknown) (hin : ¬ (j < 0 ∨ cell.slots.size ≤ j.toNatClampNeg))
    {g : JFrame} (hg : g.method = m) {rest : List Value} (hstack : g.stack = .null :: .int j :: .ref a :: rest) (hdg : decode cc g.pc = .ok (.aastore, 1))
    (kk : ∀ H' : Heap, H'[a]? = some (cell.setSlot j.toNatClampNeg .null) → H'.size = H.size → (∀ q, q ≠ a → H'[q]? = H[q]?) → W p l e R s m args below meth c H' (locs ++ [⟨a, j.toNatClampNeg⟩]) cells slots Q { g with pc := g.pc + 1, stack := rest }) :
    W p l e R s m args below meth c H locs cells slots Q g := by
  intro T hT X
  have hT' : T.heap[a]? = some cell := by rw [hT]; exact hcell
  have hTa := State.isArrayOf_alike X.warmed.alike harr
  have hfit : T.fitsSlot cell.cls cell.vm j.toNatClampNeg .null = true := by
    obtain ⟨hobj, k, hk, comp, hkind⟩ := hTa
    cases ty <;> first | (cases hty; done) | (cases hvm : cell.vm <;> first | exact absurd hvm (hobj _) | simp [State.fitsSlot, State.slotType?, hk, hkind, fits])
  have hlt : a < T.heap.size := (Array.getElem?_eq_some_iff.mp hT').1
  obtain ⟨t', a1, b1⟩ := kk _ (heapAt_setCell_self _ hlt) (by rw [size_setCell, hT]) (fun q hq => by rw [heapAt_setCell_ne _ (Ne.symm hq), hT]) (T.setCell a (cell.setSlot j.toNatClampNeg .null)) rfl (X.stored hT' _ _)
  refine ⟨t', ?_, b1⟩
  subst hg
  subst hb
  jvm_step X.here [hexec, hdg]
  refine aastore.wp_of_null (c := cell) (t := ty) X.here.top hstack hT' hTa hin hknown (Nat.not_le.mp fun q => hin (Or.inr q)) hfit ?_
  intro acts
  rw [afterInstr_ok]
  exact a1
theorem r_aastN {k : Nat} (hk : h.kd a = k) (hkk : (Nat.ble 104 k && k.blt 116) = true) (hi : vp_in i (h.ar a).length) (hf : 100000 + k ∈ X.fp ∨ h0.z ≤ a) (dg : decode X.cc pc = .ok (.aastore, 1)) (kk : Aw G X d t h0 Φ (pc + 1) lv st (h.wr a ((h.ar a).set i.toNatClampNeg 0))) : Aw G X d t h0 Φ pc lv (vR 0 :: vI i :: vR a :: st) h := by
  simp only [Bool.and_eq_true] at hkk
  have hk1 : 104 ≤ k := Nat.le_of_ble_eq_true hkk.1
  have hk2 : k < 116 := Nat.le_of_ble_eq_true hkk.2
  refine aast_core k hk hk1 hk2 hi hf (fun p e R s m args below meth c H locs cells slots Q ls C w hr q1 q2 kk => ?_) kk
  exact w_aastN C.1 C.2.1 (aty_ref hk1) q2 ((C.2.2.2.2.2.2.2.2.2.1.arr (by omega) q1).1 _ _) (fun q => by cases q) (not_in hi) rfl rfl dg kk
/-- what may be stored: null, or an object of a class that can be assigned to the array's -/
theorem r_aastG (k ek : Nat) (hk : h.kd a = k) (hty : aty k = .object Ce) (hkk : (Nat.ble 104 k && k.blt 116 && ek != 0 && ek.blt 100) = true) (hc : kcl[ek]? = some (Cn, T, N)) (hi : vp_in i (h.ar a).length) (hv : v = 0 ∨ h.kd v = ek) (hf : 100000 + k ∈ X.fp ∨ h0.z ≤ a) (hca : Cn = Ce ∨ Cond.castable Cn Ce ∈ lw_tbl) (dg : decode X.cc pc = .ok (.aastore, 1)) (kk : Aw G X d t h0 Φ (pc + 1) lv st (h.wr a ((h.ar a).set i.toNatClampNeg v))) : Aw G X d t h0 Φ pc lv (vR v :: vI i :: vR a :: st) h := by
  simp only [Bool.and_eq_true, bne_iff_ne] at hkk
  obtain ⟨⟨⟨k1, k1b⟩, k2⟩, k3⟩ := hkk
  have hk1 : 104 ≤ k := Nat.le_of_ble_eq_true k1
  have hk2 : k < 116 := Nat.le_of_ble_eq_true k1b
  have k3 : ek < 100 := Nat.le_of_ble_eq_true k3
  by_cases hv0 : v = 0
  · subst hv0; exact r_aastN hk (by rw [k1, k1b]; rfl) hi hf dg kk
  have hv : h.kd v = ek := by rcases hv with q | q; exact absurd q hv0; exact q
  refine aast_core k hk hk1 hk2 hi hf (fun p e R s m args below meth c H locs cells slots Q ls C w hr q1 q2 kk => ?_) kk
  obtain ⟨C1, C2, C3, C4, C5, C6, C7, C8, C9, C10, C11, C12⟩ := C
  have hA := C10.arr (k := k) (by omega) q1
  rw [hty] at hA
  obtain ⟨kA, comp, g1, g2, g3, g4⟩ := hA.2
  obtain ⟨cv0, e1, e2, e3, e4⟩ := hr.obj hv k2 k3 hc
  have hcls := (C10.1.1 ek _ hc).2
  obtain ⟨hfc, kC, hkC, hkind⟩ := id hcls
  obtain ⟨kcomp, hkcomp⟩ : ∃ kc, s.vm.classes[comp]? = some kc := Vm.classAt_of_findClass g3
  rw [vr_pos hv0] at kk ⊢
  have hass : s.vm.assignable (G.2.1.1 ek) comp = true := by
    rcases hca with q | q
    · rw [← q] at g3
      have : G.2.1.1 ek = comp := Option.some.inj (hfc.symm.trans g3)
      rw [← this]
      exact va_assign hcls
    · obtain ⟨c0, t0, f1, f2, f3⟩ := Cond.castable_spec (va_Nw.use (A := args) rfl (C10.2.1 _ q rfl))
      have a1 : G.2.1.1 ek = c0 := Option.some.inj (hfc.symm.trans f1)
      have a2 : comp = t0 := Option.some.inj (g3.symm.trans f2)
      rw [a1, a2]; exact f3
  exact W.aast C1 C2 q2 (fun q h => by cases h) (fun h => by cases h) g1 g2 rfl hkcomp ⟨fun q => hi (Or.inl q), by rw [arrV_size]; exact in_lt hi⟩ e1 (fun q h => by have := e3.notS; rw [h] at this; cases this) (by rw [e2]; exact hkC) (by rw [e2]; exact hass) rfl rfl dg kk
theorem r_aastore (k ek : Nat) (hk : h.kd a = k) (hty : aty k = .object Cn) (hc : kcl[ek]? = some (Cn, T, N)) (hi : vp_in i (h.ar a).length) (hv : v = 0 ∨ h.kd v = ek) (hf : 100000 + k ∈ X.fp ∨ h0.z ≤ a) (dg : decode X.cc pc = .ok (.aastore, 1)) (hkk : (Nat.ble 104 k && k.blt 116 && ek != 0 && ek.blt 100) = true) (kk : Aw G X d t h0 Φ (pc + 1) lv st (h.wr a ((h.ar a).set i.toNatClampNeg v))) : Aw G X d t h0 Φ pc lv (vR v :: vI i :: vR a :: st) h :=
  r_aastG k ek hk hty hkk hc hi hv hf (Or.inl rfl) dg kk
/-- into an array of rows of bytes -/
theorem r_aastoreB (hk : h.kd a = 115) (hi : vp_in i (h.ar a).length) (hv : v = 0 ∨ h.kd v = 101) (hf : 100115 ∈ X.fp ∨ h0.z ≤ a) (dg : decode X.cc pc = .ok (.aastore, 1)) (kk : Aw G X d t h0 Φ (pc + 1) lv st (h.wr a ((h.ar a).set i.toNatClampNeg v))) : Aw G X d t h0 Φ pc lv (vR v :: vI i :: vR a :: st) h := by
  by_cases hv0 : v = 0
  · subst hv0; exact r_aastN hk rfl hi hf dg kk
  have hv : h.kd v = 101 := by rcases hv with q | q; exact absurd q hv0; exact q
  refine aast_core 115 hk (by decide) (by decide) hi hf (fun p e R s m args below meth c H locs cells slots Q ls C w hr q1 q2 kk => ?_) kk
  obtain ⟨C1, C2, C3, C4, C5, C6, C7, C8, C9, C10, C11, C12⟩ := C
  have hA := C10.arr (k := 115) (by omega) (by omega)
  have hB := C10.arr (k := 101) (by omega) (by omega)
  obtain ⟨comp, cA, kA, g1, -, g3, g4, g5⟩ := arrayOverA_spec (C10.2.2.2.1 11 (by decide))
  have hcA : cA = G.2.2.1 115 := Option.some.inj (g5.symm.trans hA.2)
  subst hcA
  have hcomp : comp = G.2.2.1 101 := Option.some.inj (g1.symm.trans hB.2)
  subst hcomp
  obtain ⟨q3, q4⟩ := hr.arr hv (by decide) (by decide)
  obtain ⟨-, kB, hkB, -⟩ := hB.1 0 (fun _ => .null)
  rw [vr_pos hv0] at kk ⊢
  exact W.aast C1 C2 q2 (fun q h => by cases h) (fun h => by cases h) g3 g4 rfl hkB ⟨fun q => hi (Or.inl q), by rw [arrV_size]; exact in_lt hi⟩ q4 (fun q h => by cases h) hkB (arr_assign _) rfl rfl dg kk
theorem r_cast (k : Nat) (hv : v = 0 ∨ h.kd v = k) (hk0 : (k != 0 && k.blt 100) = true) (hc : kcl[k]? = some (Cn, T, N)) (q1 : Cond.classLink X.y.cls n Cn ∈ lw_all) (q2 : Cond.castable Cn Cn ∈ lw_tbl) (dg : decode X.cc pc = .ok (.checkcast n, 3)) (kk : Aw G X d t h0 Φ (pc + 3) lv (vR v :: st) h) : Aw G X d t h0 Φ pc lv (vR v :: st) h := by
  refine Aw.pure1 (fun p e R s m args below meth c H locs cells slots Q ls C hL w hr kk => ?_) kk
  by_cases hv0 : v = 0
  · subst hv0; exact lv_castN C.1 C.2.1 dg kk
  · have hv : h.kd v = k := by rcases hv with q | q; exact absurd q hv0; exact q
    obtain ⟨cell, r1, r2, r3, kB, r4⟩ := recv C.2.2.2.2.2.2.2.2.2.1 hr hv hk0 hc
    have kk : W p G.1 e R s m args below meth c H locs cells slots Q (F0 m (pc + 3) ls (vr v :: st.map cv)) := kk
    show W p G.1 e R s m args below meth c H locs cells slots Q (F0 m pc ls (vr v :: st.map cv))
    rw [vr_pos hv0] at kk ⊢
    exact va_castY C.1 C.2.1 C.2.2.2.2.2.1 (C.2.2.2.2.2.2.2.2.1 _ q1) (C.2.2.2.2.2.2.2.2.2.1.2.1 _ q2 rfl) ⟨cell, r1, r2, r3⟩ dg kk
end Refs

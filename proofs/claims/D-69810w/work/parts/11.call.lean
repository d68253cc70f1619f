/-! calls -/
set_option maxRecDepth 100000
def cdOk (Y : Mx) : Prop := (Y.hs = [] ∧ Cond.code Y.y Y.cc Y.nL Y.rt ∈ lw_all) ∨ Cond.codeWith Y.y Y.cc Y.nL Y.rt Y.hs ∈ lw_all
theorem cdOk.spec {Y : Mx} {args : Array Value} {s : State} (hts : ∀ w ∈ lw_all, w.before args s = true) (h : cdOk Y) : ∃ mk meth c, s.methodNamed? Y.y = some mk ∧ s.vm.method? mk = some meth ∧ meth.code = some c ∧ c.code = Y.cc ∧ c.maxLocals = Y.nL ∧
    c.exceptionTable.toList.map (fun x => (x.startPc, x.endPc, x.handlerPc, x.catchType)) = Y.hs ∧ meth.sig.returnType = Y.rt ∧ meth.locks = false ∧ parseMethodDescriptor Y.y.desc = some meth.sig := by
  rcases h with ⟨h1, h⟩ | h
  · have hc := hts _ h
    obtain ⟨mk, hn⟩ := Cond.code_named hc
    obtain ⟨meth, c, a1, a2, a3, a4, a5, a6, a7, a8⟩ := Cond.code_spec hn hc
    refine ⟨mk, meth, c, hn, a1, a2, a3, a4, ?_, a5, a6, a8⟩
    rw [h1]
    have : c.exceptionTable = #[] := by simpa using a7
    rw [this]
    rfl
  · exact Cond.codeWith_spec (hts _ h)
theorem ent_len : ∀ vs : List AV, (lg_sl (vs.map cv)).length = (ent vs).length
  | [] => rfl
  | .inr (.inl x) :: r => by
    have := ent_len r
    simp [lg_sl, ent, cv, Value.category] at this ⊢
    omega
  | .inl x :: r => by
    have := ent_len r
    simp [lg_sl, ent, cv, Value.category] at this ⊢
    omega
  | .inr (.inr (.inl x)) :: r => by
    have := ent_len r
    simp [lg_sl, ent, cv, vr_cat] at this ⊢
    omega
  | .inr (.inr (.inr x)) :: r => by
    have := ent_len r
    simp [lg_sl, ent, cv, Value.category] at this ⊢
    omega
theorem ent_in : ∀ (vs : List AV) (i k : Nat) (v : AV), (ent vs)[k]? = some v → v ≠ vU → (i + k, cv v) ∈ lv_args i (vs.map cv)
  | [], i, k, v => by intro h; simp [ent] at h
  | .inr (.inl x) :: r, i, k, v => by
    intro h hn
    have e2 : lv_args i ((.inr (.inl x) :: r : List AV).map cv) = (i, .long x) :: lv_args (i + 2) (r.map cv) := by simp [lv_args, cv, Value.category]
    rw [e2]
    match k, h with
    | 0, h => simp [ent] at h; subst h; exact List.mem_cons_self
    | 1, h => simp [ent] at h; exact absurd h.symm hn
    | k + 2, h =>
      simp only [ent, List.getElem?_cons_succ] at h
      have := ent_in r (i + 2) k v h hn
      rw [show i + (k + 2) = i + 2 + k by omega]
      exact List.mem_cons_of_mem _ this
  | .inl x :: r, i, k, v => by
    intro h hn
    have e2 : lv_args i ((.inl x :: r : List AV).map cv) = (i, .int x) :: lv_args (i + 1) (r.map cv) := by simp [lv_args, cv, Value.category]
    rw [e2]
    match k, h with
    | 0, h => simp [ent] at h; subst h; exact List.mem_cons_self
    | k + 1, h =>
      simp only [ent, List.getElem?_cons_succ] at h
      have := ent_in r (i + 1) k v h hn
      rw [show i + (k + 1) = i + 1 + k by omega]
      exact List.mem_cons_of_mem _ this
  | .inr (.inr (.inl x)) :: r, i, k, v => by
    intro h hn
    have e2 : lv_args i ((.inr (.inr (.inl x)) :: r : List AV).map cv) = (i, vr x) :: lv_args (i + 1) (r.map cv) := by simp [lv_args, cv, vr_cat]
    rw [e2]
    match k, h with
    | 0, h => simp [ent] at h; subst h; exact List.mem_cons_self
    | k + 1, h =>
      simp only [ent, List.getElem?_cons_succ] at h
      have := ent_in r (i + 1) k v h hn
      rw [show i + (k + 1) = i + 1 + k by omega]
      exact List.mem_cons_of_mem _ this
  | .inr (.inr (.inr x)) :: r, i, k, v => by
    intro h hn
    have e2 : lv_args i ((.inr (.inr (.inr x)) :: r : List AV).map cv) = (i, .null) :: lv_args (i + 1) (r.map cv) := by simp [lv_args, cv, Value.category]
    rw [e2]
    match k, h with
    | 0, h => simp [ent] at h; exact absurd h.symm hn
    | k + 1, h =>
      simp only [ent, List.getElem?_cons_succ] at h
      have := ent_in r (i + 1) k v h hn
      rw [show i + (k + 1) = i + 1 + k by omega]
      exact List.mem_cons_of_mem _ this
theorem LV.entry {vs : List AV} {n : Nat} (hn : (ent vs).length ≤ n) : LV ((lg_sl (vs.map cv) ++ List.replicate (n - (lg_sl (vs.map cv)).length) Slot.unset).toArray) n (ent vs ++ List.replicate (n - (ent vs).length) vU) := by
  have h := lv_entry (vs.map cv) (n := n) (by rw [ent_len]; exact hn)
  refine ⟨h.1, h.2.1, fun k v hk hv => ?_⟩
  by_cases hlt : k < (ent vs).length
  · rw [List.getElem?_append_left hlt] at hk
    have := h.2.2 _ (ent_in vs 0 k v hk hv)
    simpa using this
  · rw [List.getElem?_append_right (by omega), List.getElem?_replicate] at hk
    split at hk
    · exact absurd (Option.some.inj hk).symm hv
    · cases hk
section Enter
variable {G : Gx} {X Y : Mx} {d t t' : Nat} {h0 h h1 : AH} {Φ : Out → AH → Prop} {o : Out}
variable {p : Program} {e : Env} {R : Room} {s : State} {m mk : MethodId} {args : Array Value} {below : List Frame} {meth : Method} {c : Code} {T1 : State} {locs : List Loc} {cells slots : Nat} {Q : State → Prop} {g : JFrame} {ig : Instr} {len : Nat}
theorem w_enter (S1 : Stand p G.1 e R s m args below meth c T1 locs cells slots) (C : CxOk G X (d + 1) p R s m args meth c) (hg : g.method = m) (hsize : g.locals.size = c.maxLocals) (hmr : g.monitorRoom = 0) (hdg : decode c.code g.pc = .ok (ig, len))
    (hcd : cdOk Y) (hpl : plainFor Y.y = true) (hmk : s.methodNamed? Y.y = some mk) {vs : List AV} (hA : At_ G Y d o h1 0 (ent vs ++ List.replicate (Y.nL - (ent vs).length) vU) [] h) (hr : Rel G h T1.heap)
    (hroom : (g.stack.map fun v => v.category).sum + Y.nL + 11 ≤ 392) (hlen : (ent vs).length ≤ Y.nL) (hc : cells + (h1.z - h.z) ≤ R.cells) (hs : slots + (h1.s - h.s) ≤ R.slots) :
    ∃ (T' : State) (L : List Loc), Stand p G.1 e R s m args below meth c T' (locs ++ L) (cells + (h1.z - h.z)) (slots + (h1.s - h.s)) ∧ Rel G h1 T'.heap ∧ (∀ q ∈ L, gB G ≤ q.base) ∧
      match o with
      | .inl v => ∀ tg, Steps p.tables e below (T'.setTop { g with pc := g.pc + len, stack := (v.map cv).toList ++ g.stack }) tg → Steps p.tables e below (doInvoke e (T1.setTop g) [] mk (vs.map cv).toArray).1 tg
      | .inr x => ∀ tg, Steps p.tables e below ((T'.setTop g).pushFrame (.throwing x)) tg → Steps p.tables e below (doInvoke e (T1.setTop g) [] mk (vs.map cv).toArray).1 tg := by
  obtain ⟨C1, C2, C3, C4, C5, C6, C7, C8, C9, C10, C11, C12⟩ := C
  obtain ⟨mk', methY, cY, n1, n2, n3, n4, n5, n6, n7, n8, n9⟩ := hcd.spec C9
  cases hmk.symm.trans n1
  have hal := S1.warmed.alike
  have m1 : T1.vm.method? mk = some methY := by rw [hal.method?]; exact n2
  have hnT : T1.methodNamed? Y.y = some mk := S1.named n1
  have hpk : T1.plainMethod mk := State.plainMethod.of_named hpl hnT m1
  obtain ⟨Y0, hin⟩ := S1.into hg hsize hdg (vs.map cv).toArray (R' := { frames := d, cells := h1.z - h.z, slots := h1.s - h.s, locals := 392 * d }) m1 n3 n8 hpk
    (by show d + 1 ≤ R.frames; omega) (by rw [hmr, n5]; show 2 * 0 + _ + _ + 392 * d ≤ R.locals; omega) hc hs
  have hW1 : s.WarmedH (T1.calling g mk (vs.map cv).toArray).vm := S1.warmed
  have CY : CxOk G Y d p { frames := d, cells := h1.z - h.z, slots := h1.s - h.s, locals := 392 * d } (T1.calling g mk (vs.map cv).toArray) mk (vs.map cv).toArray methY cY := by
    refine ⟨C1, n4, n5, n7, n8, ?_, ?_, n6, fun w hw => ?_, KN.warm hW1 (fun q hq => hr.2.1 q hq) C10, Nat.le_refl _, Nat.le_refl _⟩
    · show T1.vm.findClass Y.y.cls = some mk.cls
      exact findClass_of_methodNamed hnT
    · exact (name_of_methodNamed n1 n2).1
    · exact word_at hW1 (good_of_word (List.mem_filter.mp hw).2) (C9 w hw)
  have hWk := hA.2.2 p e _ _ mk _ (.java g :: below) methY cY CY T1.heap [] _ 0 0 (by show 0 + _ ≤ h1.z - h.z; omega) (by show 0 + _ ≤ h1.s - h.s; omega) hr (fun q hq => by cases hq) (LV.entry hlen)
  obtain ⟨tt, st, L, f1, f2, f3, f4, f5, f6⟩ := hWk ((T1.setTop g).pushFrame (.java (entryFrame mk (vs.map cv).toArray cY.maxLocals))) rfl Y0
  have st' : Steps p.tables e below (doInvoke e (T1.setTop g) [] mk (vs.map cv).toArray).1 tt := by
    rw [hin []]
    refine Steps.weaken (mid := [.java g]) ?_
    have e0 : entryFrame mk (vs.map cv).toArray cY.maxLocals = F0 mk 0 ((lg_sl (vs.map cv) ++ List.replicate (Y.nL - (lg_sl (vs.map cv)).length) Slot.unset).toArray) [] := by rw [n5, lg_entry_eq]
    rw [List.map_nil, ← e0] at st
    exact st
  rw [Nat.zero_add, Nat.zero_add] at f5
  cases o with
  | inl v =>
    obtain ⟨T', X', hW', hB', ht⟩ := S1.outOf hg hdg f2 f4 f5
    refine ⟨T', L, X', ?_, f6, fun tg h9 => st'.trans (by rw [ht]; exact h9)⟩
    have hh : T'.heap = tt.heap := by rw [ht]; simp
    rw [hh]
    exact f3
  | inr x =>
    obtain ⟨T', X', hW', hB', ht⟩ := S1.outOfThrown hg f2 f4 f5
    refine ⟨T', L, X', ?_, f6, fun tg h9 => st'.trans (by rw [ht]; exact h9)⟩
    have hh : T'.heap = tt.heap := by rw [ht]; exact (throwing_heap T' g x).symm
    rw [hh]
    exact f3
end Enter

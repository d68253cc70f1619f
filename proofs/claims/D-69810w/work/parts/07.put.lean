/-! rows of putfield and of arrays -/
set_option maxRecDepth 100000
section Put
variable {G : Gx} {X : Mx} {d t : Nat} {h0 h h1 : AH} {Φ : Out → AH → Prop} {pc pc' : Nat} {lv st st' : List AV} {a k j n N key : Nat} {Cn host : String} {T : u_T}
theorem ObjAt.same {b : Nat} {H H' : Heap} (hkd : h1.kd b = h.kd b) (hf : ∀ q, h1.i q b = h.i q b ∧ h1.l q b = h.l q b ∧ h1.r q b = h.r q b) (ha : h1.ai b = h.ai b ∧ h1.al b = h.al b ∧ h1.ar b = h.ar b) (hH : H'[b]? = H[b]?) (o : ObjAt G h b H) : ObjAt G h1 b H' := by
  obtain ⟨o1, o2, o3⟩ := o
  refine ⟨fun q => ?_, fun q q' => ?_, fun q => ?_⟩
  · rw [hkd] at q ⊢
    obtain ⟨C, T, N, c1, cell, c2, c3, c4, c5⟩ := o1 q
    exact ⟨C, T, N, c1, cell, hH.trans c2, c3, c4, fun j hj => by rw [c5 j hj, fv_same (h1 := h1) (h := h) (hf _)]⟩
  · rw [hkd] at q q'
    have q2 := o2 q q'
    rw [hH, q2, hkd]
    have e1 : alen h1 b = alen h b := by unfold alen; rw [hkd, ha.1, ha.2.1, ha.2.2]
    have e2 : aval h1 b = aval h b := by unfold aval; rw [hkd, ha.1, ha.2.1, ha.2.2]
    rw [e1, e2]
  · rw [hkd] at q ⊢
    rw [(hf 117000).1, ha.1]
    exact o3 q
theorem Rel.put {H H' : Heap} {cell : Cell} {v : Value} (hr : Rel G h H) (hk : h.kd a = k) (hlt : k < 100) (hc : kcl[k]? = some (Cn, T, N)) (hj : j < N) (hap : ∀ x y, x < N → y < N → x ≠ y → G.2.1.2 k x ≠ G.2.1.2 k y)
    (c2 : cell.cls = G.2.1.1 k) (c3 : vmOk k cell) (c4 : ∀ j, j < N → cell.slots[G.2.1.2 k j]? = some (fv h T k j a))
    (e1 : H'[a]? = some (cell.setSlot (G.2.1.2 k j) v)) (e2 : H'.size = H.size) (e3 : ∀ q, q ≠ a → H'[q]? = H[q]?) (hb : gB G ≤ a)
    (hkd : h1.kd = h.kd) (hz : h1.z = h.z) (hai : h1.ai = h.ai) (hal : h1.al = h.al) (har : h1.ar = h.ar)
    (hf : ∀ q x, (q ≠ 1000 * k + j ∨ x ≠ a) → h1.i q x = h.i q x ∧ h1.l q x = h.l q x ∧ h1.r q x = h.r q x) (hv : fv h1 T k j a = v) : Rel G h1 H' := by
  refine ⟨by rw [e2, hz]; exact hr.1, fun q hq => (e3 q (by omega)).trans (hr.2.1 q hq), fun b hb0 => ?_⟩
  rw [hkd] at hb0
  by_cases e : b = a
  · subst e
    refine ⟨fun _ => ?_, fun q => by rw [hkd, hk] at q; omega, fun q => by rw [hkd, hk] at q; omega⟩
    rw [hkd, hk]
    refine ⟨Cn, T, N, hc, _, e1, c2, c3, fun i hi => ?_⟩
    rw [t_set c4 hap hj v i hi]
    unfold updV
    by_cases ei : i = j
    · subst ei; rw [if_pos rfl, hv]
    · rw [if_neg ei, fv_same (h1 := h1) (h := h) (hf _ _ (Or.inl (by omega)))]
  · exact ObjAt.same (by rw [hkd]) (fun q => hf q b (Or.inr e)) ⟨by rw [hai], by rw [hal], by rw [har]⟩ (e3 b e) (hr.2.2 b hb0)
/-- which way a field is linked: a plain link, or a nest mate's -/
def fLk (own : String) (n : Nat) (T : u_T) (j : Nat) : Prop := Cond.fieldLink own n (T j).1 (T j).2.1 (T j).2.2.1 ∈ lw_all ∨ (∃ host, Cond.fieldLinkNest own n (T j).1 (T j).2.1 (T j).2.2.1 host ∈ lw_tbl) ∨ ∃ ref, Cond.fieldLink own n ref (T j).2.1 (T j).2.2.1 ∈ lw_all ∧ Cond.sameField ref (T j).1 (T j).2.1 (T j).2.2.1 ∈ lw_all
theorem w_put {p : Program} {e : Env} {R : Room} {s : State} {m : MethodId} {args : Array Value} {below : List Frame} {meth : Method} {c : Code} {H : Heap} {locs : List Loc} {cells slots : Nat} {Q : State → Prop} {ls : Array Slot} {rest : List Value} {v : Value} {ty : FieldType} (C : CxOk G X d p R s m args meth c) (w : WF G h) (hr : Rel G h H) (hL : ∀ q ∈ locs, gB G ≤ q.base) (hk : h.kd a = k) (hk0 : k ≠ 0) (hlt : k < 100) (hex : exK k = false) (hc : kcl[k]? = some (Cn, T, N)) (hj : j < N)
    (dg : decode X.cc pc = .ok (.putfield n, 3)) (q : fLk X.y.cls n T j) (hfin : (T j).2.2.2 = false ∨ ((T j).2.2.2 = true ∧ X.y.name = "<init>" ∧ X.y.cls = (T j).1 ∧ Cond.fieldLink X.y.cls n (T j).1 (T j).2.1 (T j).2.2.1 ∈ lw_all))
    (hd : parseFieldDescriptor (T j).2.2.1 = some ty) (hn : narrow ty v = v) (hfit : fits ty v = true)
    (hkd : h1.kd = h.kd) (hz : h1.z = h.z) (hai : h1.ai = h.ai) (hal : h1.al = h.al) (har : h1.ar = h.ar)
    (hf : ∀ q x, (q ≠ 1000 * k + j ∨ x ≠ a) → h1.i q x = h.i q x ∧ h1.l q x = h.l q x ∧ h1.r q x = h.r q x) (hv : fv h1 T k j a = v)
    (kk : ∀ (H1 : Heap) (locs1 : List Loc), Rel G h1 H1 → (∀ q ∈ locs1, gB G ≤ q.base) → W p G.1 e R s m args below meth c H1 locs1 cells slots Q (F0 m (pc + 3) ls rest)) : W p G.1 e R s m args below meth c H locs cells slots Q (F0 m pc ls (v :: vr a :: rest)) := by
  obtain ⟨cell, e1, e2, e3, e4⟩ := hr.obj hk hk0 hlt hc
  obtain ⟨C1, C2, C3, C4, C5, C6, C7, C8, C9, C10, -⟩ := C
  obtain ⟨hin, ⟨ty0, hty⟩, hnm⟩ := kcl_in k Cn T N hc
  have hap := va_apart (own := X.y.cls) C9 hin ty0 hty hnm C10.1 hc
  obtain ⟨hS, hfc, kC, hkC, hkind⟩ := C10.1.1 k _ hc
  obtain ⟨cf, kf, fi, f, hi, hsl⟩ := hS j hj
  have hst := (u_facts hfc hkC (u_lays C9 hin hj) hi).1
  have hba := (w.2.2.1 a (by rw [hk]; exact hk0)).1 ⟨by omega, by rw [hk]; intro e; rw [e] at hex; cases hex⟩
  rw [vr_pos (w.ne hk hk0)]
  have kk2 : ∀ H' : Heap, H'[a]? = some (cell.setSlot f.slot v) → H'.size = H.size → (∀ q, q ≠ a → H'[q]? = H[q]?) → W p G.1 e R s m args below meth c H' (locs ++ [⟨a, f.slot⟩]) cells slots Q (F0 m (pc + 3) ls rest) := by
    intro H' z1 z2 z3
    refine kk H' _ (hr.put hk hlt hc hj hap e2 e3 e4 (by rw [← hsl]; exact z1) z2 z3 hba hkd hz hai hal har hf hv) (fun q hq => ?_)
    rcases List.mem_append.mp hq with q1 | q1
    · exact hL q q1
    · rw [List.mem_singleton.mp q1]; exact hba
  have hlay := C9 _ (hin _ (u_in_lay hj))
  unfold u_lay at hlay
  have hls : f.slot < cell.slots.size := by rw [hsl]; exact k2_hasslot (e4 j hj)
  rcases hfin with hfin | ⟨hfin, hini, hown, hq⟩
  · rw [if_neg (by rw [hfin]; decide)] at hlay
    have h6 := u_store hfc hkC hkind hlay hi hd hn hfit
    rcases q with q | ⟨host, q⟩ | ⟨ref, q, qs⟩
    · exact W.putK C1 C2 (f := f) ⟨C6, C9 _ q, ⟨_, _, _, hi⟩, hst⟩ (by rw [e2]; exact h6) e1 (e3.none hex) hls rfl rfl dg kk2
    · exact va_WputK C1 C2 (f := f) C6 (va_Nw.use rfl (C10.2.1 _ q rfl)) hi hst (by rw [e2]; exact h6) e1 (e3.none hex) hls rfl rfl dg kk2
    · exact W.putK C1 C2 (f := f) ⟨C6, C9 _ q, ⟨_, _, _, u_same (C9 _ qs) _ hi⟩, hst⟩ (by rw [e2]; exact h6) e1 (e3.none hex) hls rfl rfl dg kk2
  · rw [if_pos hfin] at hlay
    have hcf : m.cls = cf := by
      obtain ⟨_, _, c', _, _, _, -, -, hf', -, -, -, hown2, -⟩ := Cond.laysFinal_spec hlay
      have e1 : c' = cf := by have := hi.symm.trans hf'; simp at this; exact this.1.symm
      rw [← hown] at hown2
      rw [← e1]; exact Option.some.inj (C6.symm.trans hown2)
    have h6 := u_fits hfc hkC hkind (Or.inr hlay) hi hd hn hfit
    exact W.putFinK C1 C2 C6 (C9 _ hq) hi hst hcf (C7.trans hini) (by rw [e2]; exact h6) e1 (e3.none hex) hls rfl rfl dg kk2
/-- what is asked of a put by the tables: all that a look at literals shows -/
def pOk (X : Mx) (k j N : Nat) (T : u_T) (g key : Nat) (ty : FieldType) : Bool := k != 0 && k.blt 100 && j.blt N && tg (T j).2.2.1 == g && 1000 * k + j == key && !exK k && parseFieldDescriptor (T j).2.2.1 == some ty && (!(T j).2.2.2 || (X.y.name == "<init>" && X.y.cls == (T j).1))
theorem pOk.spec {g : Nat} {ty : FieldType} (h : pOk X k j N T g key ty = true) : k ≠ 0 ∧ k < 100 ∧ j < N ∧ tg (T j).2.2.1 = g ∧ 1000 * k + j = key ∧ exK k = false ∧ parseFieldDescriptor (T j).2.2.1 = some ty ∧ ((T j).2.2.2 = false ∨ ((T j).2.2.2 = true ∧ X.y.name = "<init>" ∧ X.y.cls = (T j).1)) := by
  unfold pOk at h
  simp only [Bool.and_eq_true, beq_iff_eq, bne_iff_ne, Bool.not_eq_true', Bool.or_eq_true] at h
  obtain ⟨⟨⟨⟨⟨⟨⟨a1, a2⟩, a3⟩, a4⟩, a5⟩, a6⟩, a7⟩, a8⟩ := h
  refine ⟨a1, Nat.le_of_ble_eq_true a2, Nat.le_of_ble_eq_true a3, a4, a5, a6, a7, ?_⟩
  rcases a8 with q | q
  · exact Or.inl q
  · cases hb : (T j).2.2.2
    · exact Or.inl rfl
    · exact Or.inr ⟨rfl, q.1, q.2⟩
theorem fLk.fin (q : fLk X.y.cls n T j) (hq : (T j).2.2.2 = false ∨ Cond.fieldLink X.y.cls n (T j).1 (T j).2.1 (T j).2.2.1 ∈ lw_all) (h : (T j).2.2.2 = false ∨ ((T j).2.2.2 = true ∧ X.y.name = "<init>" ∧ X.y.cls = (T j).1)) : (T j).2.2.2 = false ∨ ((T j).2.2.2 = true ∧ X.y.name = "<init>" ∧ X.y.cls = (T j).1 ∧ Cond.fieldLink X.y.cls n (T j).1 (T j).2.1 (T j).2.2.1 ∈ lw_all) := by
  rcases hq with hq | hq
  · exact Or.inl hq
  · rcases h with h | ⟨h1, h2, h3⟩
    · exact Or.inl h
    · exact Or.inr ⟨h1, h2, h3, hq⟩
theorem nar_r {ty : FieldType} (h : ty.isReference = true) (r : Nat) : narrow ty (vr r) = vr r ∧ fits ty (vr r) = true := by
  cases ty <;> first | (cases h; done) | (cases r <;> exact ⟨rfl, rfl⟩)
theorem up2_ne {α : Type} {f : Nat → Nat → α} {k a q x : Nat} {v : α} (h : q ≠ k ∨ x ≠ a) : up2 f k a v q x = f q x := by
  unfold up2
  rw [if_neg (fun e => by rcases h with h | h; exact h e.1; exact h e.2)]
theorem up2_eq {α : Type} {f : Nat → Nat → α} {k a : Nat} {v : α} : up2 f k a v k a = v := by
  unfold up2
  rw [if_pos ⟨rfl, rfl⟩]
theorem r_puti {x : Int32} (k j : Nat) (hk : h.kd a = k) (q : fLk X.y.cls n T j) (dg : decode X.cc pc = .ok (.putfield n, 3)) (hc : kcl[k]? = some (Cn, T, N)) (hs : pOk X k j N T 0 key .int = true) (hq : (T j).2.2.2 = false ∨ Cond.fieldLink X.y.cls n (T j).1 (T j).2.1 (T j).2.2.1 ∈ lw_all) (hf : key ∈ X.fp ∨ a = t ∨ h0.z ≤ a)
    (kk : Aw G X d t h0 Φ (pc + 3) lv st (h.pi key a x)) : Aw G X d t h0 Φ pc lv (vI x :: vR a :: st) h := by
  obtain ⟨s1, s2, s3, s4, s5, s6, s7, s8⟩ := pOk.spec hs
  subst s5
  refine Aw.step (h1 := h.pi (1000 * k + j) a x) rfl rfl (fun w => w) (fun w0 w ex => Ext.fld (k := 1000 * k + j) (a := a) w0 ex hf rfl rfl rfl rfl rfl rfl (fun q x hq => ⟨up2_ne hq, rfl, rfl⟩)) (fun p e R s m args below meth c H locs cells slots Q ls C hl w hr hL kk => ?_) kk
  exact w_put (h1 := h.pi (1000 * k + j) a x) C w hr hL hk s1 s2 s6 hc s3 dg q (fLk.fin q hq s8) s7 rfl rfl rfl rfl rfl rfl rfl (fun q x hq => ⟨up2_ne hq, rfl, rfl⟩) (by rw [fv_i s4]; exact congrArg Value.int up2_eq) kk
theorem r_putz {x : Int32} (k j : Nat) (hk : h.kd a = k) (q : fLk X.y.cls n T j) (dg : decode X.cc pc = .ok (.putfield n, 3)) (hc : kcl[k]? = some (Cn, T, N)) (hs : pOk X k j N T 0 key .boolean = true) (hq : (T j).2.2.2 = false ∨ Cond.fieldLink X.y.cls n (T j).1 (T j).2.1 (T j).2.2.1 ∈ lw_all) (hf : key ∈ X.fp ∨ a = t ∨ h0.z ≤ a) (hx : x = 0 ∨ x = 1)
    (kk : Aw G X d t h0 Φ (pc + 3) lv st (h.pi key a x)) : Aw G X d t h0 Φ pc lv (vI x :: vR a :: st) h := by
  obtain ⟨s1, s2, s3, s4, s5, s6, s7, s8⟩ := pOk.spec hs
  subst s5
  refine Aw.step (h1 := h.pi (1000 * k + j) a x) rfl rfl (fun w => w) (fun w0 w ex => Ext.fld (k := 1000 * k + j) (a := a) w0 ex hf rfl rfl rfl rfl rfl rfl (fun q x hq => ⟨up2_ne hq, rfl, rfl⟩)) (fun p e R s m args below meth c H locs cells slots Q ls C hl w hr hL kk => ?_) kk
  exact w_put (h1 := h.pi (1000 * k + j) a x) C w hr hL hk s1 s2 s6 hc s3 dg q (fLk.fin q hq s8) s7 (by rcases hx with hx | hx <;> rw [hx] <;> decide) (by rcases hx with hx | hx <;> rw [hx] <;> decide) rfl rfl rfl rfl rfl (fun q x hq => ⟨up2_ne hq, rfl, rfl⟩) (by rw [fv_i s4]; exact congrArg Value.int up2_eq) kk
theorem r_putl {x : Int64} (k j : Nat) (hk : h.kd a = k) (q : fLk X.y.cls n T j) (dg : decode X.cc pc = .ok (.putfield n, 3)) (hc : kcl[k]? = some (Cn, T, N)) (hs : pOk X k j N T 1 key .long = true) (hq : (T j).2.2.2 = false ∨ Cond.fieldLink X.y.cls n (T j).1 (T j).2.1 (T j).2.2.1 ∈ lw_all) (hf : key ∈ X.fp ∨ a = t ∨ h0.z ≤ a)
    (kk : Aw G X d t h0 Φ (pc + 3) lv st (h.pl key a x)) : Aw G X d t h0 Φ pc lv (vJ x :: vR a :: st) h := by
  obtain ⟨s1, s2, s3, s4, s5, s6, s7, s8⟩ := pOk.spec hs
  subst s5
  refine Aw.step (h1 := h.pl (1000 * k + j) a x) rfl rfl (fun w => w) (fun w0 w ex => Ext.fld (k := 1000 * k + j) (a := a) w0 ex hf rfl rfl rfl rfl rfl rfl (fun q x hq => ⟨rfl, up2_ne hq, rfl⟩)) (fun p e R s m args below meth c H locs cells slots Q ls C hl w hr hL kk => ?_) kk
  exact w_put (h1 := h.pl (1000 * k + j) a x) C w hr hL hk s1 s2 s6 hc s3 dg q (fLk.fin q hq s8) s7 rfl rfl rfl rfl rfl rfl rfl (fun q x hq => ⟨rfl, up2_ne hq, rfl⟩) (by rw [fv_l s4]; exact congrArg Value.long up2_eq) kk
theorem r_putr {x : Nat} (k j : Nat) {ty : FieldType} (hk : h.kd a = k) (q : fLk X.y.cls n T j) (dg : decode X.cc pc = .ok (.putfield n, 3)) (hc : kcl[k]? = some (Cn, T, N)) (hs : pOk X k j N T 2 key ty = true) (hy : ty.isReference = true) (hq : (T j).2.2.2 = false ∨ Cond.fieldLink X.y.cls n (T j).1 (T j).2.1 (T j).2.2.1 ∈ lw_all) (hf : key ∈ X.fp ∨ a = t ∨ h0.z ≤ a)
    (kk : Aw G X d t h0 Φ (pc + 3) lv st (h.pr key a x)) : Aw G X d t h0 Φ pc lv (vR x :: vR a :: st) h := by
  obtain ⟨s1, s2, s3, s4, s5, s6, s7, s8⟩ := pOk.spec hs
  subst s5
  refine Aw.step (h1 := h.pr (1000 * k + j) a x) rfl rfl (fun w => w) (fun w0 w ex => Ext.fld (k := 1000 * k + j) (a := a) w0 ex hf rfl rfl rfl rfl rfl rfl (fun q x hq => ⟨rfl, rfl, up2_ne hq⟩)) (fun p e R s m args below meth c H locs cells slots Q ls C hl w hr hL kk => ?_) kk
  exact w_put (h1 := h.pr (1000 * k + j) a x) C w hr hL hk s1 s2 s6 hc s3 dg q (fLk.fin q hq s8) s7 (nar_r hy x).1 (nar_r hy x).2 rfl rfl rfl rfl rfl (fun q x hq => ⟨rfl, rfl, up2_ne hq⟩) (by rw [fv_r s4]; exact congrArg vr up2_eq) kk
end Put

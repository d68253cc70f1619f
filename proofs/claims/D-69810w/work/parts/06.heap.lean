/-! rows of the instructions that read and write the heap -/
set_option maxRecDepth 100000
theorem arrV_congr (c : ClassId) (N : Nat) {f g : Nat → Value} (h : ∀ j, j < N → f j = g j) : arrV c N f = arrV c N g := by
  have e : (fun j : Fin N => f j.val) = fun j : Fin N => g j.val := funext fun j => h j.val j.isLt
  unfold arrV
  rw [e]
theorem arrV_congr2 (c : ClassId) {N M : Nat} {f g : Nat → Value} (e : N = M) (h : ∀ j, j < N → f j = g j) : arrV c N f = arrV c M g := by
  subst e
  exact arrV_congr c N h
section Heap
variable {G : Gx} {X : Mx} {d t : Nat} {h0 h h1 : AH} {Φ : Out → AH → Prop} {pc pc' : Nat} {lv st st' : List AV}
theorem Aw.step (hz : h1.z = h.z) (hs : h1.s = h.s) (hw : WF G h → WF G h1) (hx : WF G h0 → WF G h → Ext X.fp t h0 h → Ext X.fp t h0 h1)
    (f : ∀ (p : Program) (e : Env) (R : Room) (s : State) (m : MethodId) (args : Array Value) (below : List Frame) (meth : Method) (c : Code) (H : Heap) (locs : List Loc) (cells slots : Nat) (Q : State → Prop) (ls : Array Slot), CxOk G X d p R s m args meth c → LV ls X.nL lv → WF G h → Rel G h H → (∀ q ∈ locs, gB G ≤ q.base) →
      (∀ (H1 : Heap) (locs1 : List Loc), Rel G h1 H1 → (∀ q ∈ locs1, gB G ≤ q.base) → W p G.1 e R s m args below meth c H1 locs1 cells slots Q (F0 m pc' ls (st'.map cv))) → W p G.1 e R s m args below meth c H locs cells slots Q (F0 m pc ls (st.map cv)))
    (k : Aw G X d t h0 Φ pc' lv st' h1) : Aw G X d t h0 Φ pc lv st h := by
  intro w w2 ex
  obtain ⟨o, h', a, b, c, z1, z2, z3⟩ := k w (hw w2) (hx w w2 ex)
  rw [hz] at z1; rw [hs] at z2
  refine ⟨o, h', a, b, c, z1, z2, fun p e R s m args below meth cd C H locs ls cells slots q1 q2 hr hL hl => ?_⟩
  refine f p e R s m args below meth cd H locs cells slots _ ls C hl w2 hr hL (fun H1 locs1 hr1 hL1 => ?_)
  have := z3 p e R s m args below meth cd C H1 locs1 ls cells slots (by rw [hz]; exact q1) (by rw [hs]; exact q2) hr1 hL1 hl
  rw [hz, hs] at this
  exact this
theorem Ext.fld {fp : List Nat} {k a : Nat} (w0 : WF G h0) (e : Ext fp t h0 h) (hf : k ∈ fp ∨ a = t ∨ h0.z ≤ a)
    (hk : h1.kd = h.kd) (hai : h1.ai = h.ai) (hal : h1.al = h.al) (har : h1.ar = h.ar) (hz : h1.z = h.z) (hs : h1.s = h.s)
    (hi : ∀ q x, (q ≠ k ∨ x ≠ a) → h1.i q x = h.i q x ∧ h1.l q x = h.l q x ∧ h1.r q x = h.r q x) : Ext fp t h0 h1 := by
  refine ⟨by rw [hz]; exact e.1, by rw [hs]; exact e.2.1, fun x hx => ?_⟩
  obtain ⟨a1, a2, a3, a4, a5, a6⟩ := e.2.2 x hx
  refine ⟨by rw [hk]; exact a1, by rw [hai]; exact a2, by rw [hal]; exact a3, by rw [har]; exact a4, fun hn q hq => ?_, by rw [hai, hal, har]; exact a6⟩
  obtain ⟨c1, c2, c3⟩ := a5 hn q hq
  obtain ⟨d1, d2, d3⟩ := hi q x (by
    by_cases e1 : q = k
    · right
      intro e2
      rcases hf with f | f | f
      · exact hq (e1 ▸ f)
      · exact hn (e2.trans f)
      · have := (w0.2.2.1 x hx).2.1
        rw [e2] at this
        omega
    · exact Or.inl e1)
  exact ⟨d1.trans c1, d2.trans c2, d3.trans c3⟩
theorem Ext.arr {fp : List Nat} {a : Nat} (w0 : WF G h0) (e : Ext fp t h0 h) (hf : 100000 + h.kd a ∈ fp ∨ h0.z ≤ a)
    (hk : h1.kd = h.kd) (hi : h1.i = h.i) (hl : h1.l = h.l) (hr : h1.r = h.r) (hz : h1.z = h.z) (hs : h1.s = h.s)
    (hx : ∀ x, x ≠ a → h1.ai x = h.ai x ∧ h1.al x = h.al x ∧ h1.ar x = h.ar x) (hlen : (h1.ai a).length = (h.ai a).length ∧ (h1.al a).length = (h.al a).length ∧ (h1.ar a).length = (h.ar a).length) : Ext fp t h0 h1 := by
  refine ⟨by rw [hz]; exact e.1, by rw [hs]; exact e.2.1, fun x hx0 => ?_⟩
  obtain ⟨a1, a2, a3, a4, a5, a6⟩ := e.2.2 x hx0
  by_cases ex : x = a
  · subst ex
    refine ⟨by rw [hk]; exact a1, hlen.1.trans a2, hlen.2.1.trans a3, hlen.2.2.trans a4, by rw [hi, hl, hr]; exact a5, fun hn => ?_⟩
    rcases hf with f | f
    · rw [a1] at f; exact absurd f hn
    · have := (w0.2.2.1 x hx0).2.1
      omega
  · obtain ⟨b1, b2, b3⟩ := hx x ex
    refine ⟨by rw [hk]; exact a1, by rw [b1]; exact a2, by rw [b2]; exact a3, by rw [b3]; exact a4, by rw [hi, hl, hr]; exact a5, by rw [b1, b2, b3]; exact a6⟩
theorem fv_i {T : u_T} {k j a : Nat} (ht : tg (T j).2.2.1 = 0) : fv h T k j a = .int (h.i (1000 * k + j) a) := by simp [fv, ht]
theorem fv_l {T : u_T} {k j a : Nat} (ht : tg (T j).2.2.1 = 1) : fv h T k j a = .long (h.l (1000 * k + j) a) := by simp [fv, ht]
theorem fv_r {T : u_T} {k j a : Nat} (ht : tg (T j).2.2.1 = 2) : fv h T k j a = vr (h.r (1000 * k + j) a) := by simp [fv, ht]
theorem fv_same {T : u_T} {k j a : Nat} (hi : h1.i (1000 * k + j) a = h.i (1000 * k + j) a ∧ h1.l (1000 * k + j) a = h.l (1000 * k + j) a ∧ h1.r (1000 * k + j) a = h.r (1000 * k + j) a) : fv h1 T k j a = fv h T k j a := by
  unfold fv
  rw [hi.1, hi.2.1, hi.2.2]
theorem Rel.obj {H : Heap} (hr : Rel G h H) {a k : Nat} (hk : h.kd a = k) (h0k : k ≠ 0) (hlt : k < 100) {C : String} {T : u_T} {N : Nat} (hc : kcl[k]? = some (C, T, N)) :
    ∃ cell : Cell, H[a]? = some cell ∧ cell.cls = G.2.1.1 k ∧ vmOk k cell ∧ ∀ j, j < N → cell.slots[G.2.1.2 k j]? = some (fv h T k j a) := by
  have h1 := (hr.2.2 a (by rw [hk]; exact h0k)).1 (by rw [hk]; exact hlt)
  rw [hk] at h1
  obtain ⟨C', T', N', hc', cell, q⟩ := h1
  cases hc.symm.trans hc'
  exact ⟨cell, q⟩
theorem vmOk.known {k : Nat} {v : Cell} (h : vmOk k v) : v.vm ≠ .unknown := by
  rcases h with h | h
  · rw [h.1]; exact fun q => by cases q
  · exact h.2.2
theorem vmOk.notS {k : Nat} {v : Cell} (h : vmOk k v) : v.vm.isStatics = false := by
  rcases h with h | h
  · rw [h.1]; rfl
  · exact h.2.1
theorem vmOk.none {k : Nat} {v : Cell} (h : vmOk k v) (hk : exK k = false) : v.vm = .none := by
  rcases h with h | ⟨h, -⟩
  · exact h.1
  · rw [hk] at h; cases h
/-- a field read -/
theorem w_get {p : Program} {e : Env} {R : Room} {s : State} {m : MethodId} {args : Array Value} {below : List Frame} {meth : Method} {c : Code} {H : Heap} {locs : List Loc} {cells slots : Nat} {Q : State → Prop} {ls : Array Slot} {rest : List Value} (C : CxOk G X d p R s m args meth c) (w : WF G h) (hr : Rel G h H) {a k : Nat} (hk : h.kd a = k) (hk0 : (k != 0) = true) (hlt : (k.blt 100) = true) {Cn : String} {T : u_T} {N j : Nat} (hc : kcl[k]? = some (Cn, T, N)) (hj : (j.blt N) = true) {n : Nat}
    (dg : decode X.cc pc = .ok (.getfield n, 3)) (q : Cond.fieldLink X.y.cls n (T j).1 (T j).2.1 (T j).2.2.1 ∈ lw_all)
    (kk : W p G.1 e R s m args below meth c H locs cells slots Q (F0 m (pc + 3) ls (fv h T k j a :: rest))) : W p G.1 e R s m args below meth c H locs cells slots Q (F0 m pc ls (vr a :: rest)) := by
  have hk0 : k ≠ 0 := by simpa using hk0
  have hlt : k < 100 := Nat.le_of_ble_eq_true hlt
  have hj : j < N := Nat.le_of_ble_eq_true hj
  obtain ⟨cell, e1, e2, e3, e4⟩ := hr.obj hk hk0 hlt hc
  obtain ⟨C1, C2, C3, C4, C5, C6, C7, C8, C9, C10, -⟩ := C
  obtain ⟨hS, hfc, kC, hkC, hkind⟩ := C10.1.1 k _ hc
  obtain ⟨cf, kf, fi, f, hi, hsl⟩ := hS j hj
  rw [vr_pos (w.ne hk hk0)]
  refine W.getf C1 C2 C6 (C9 _ q) hi (u_facts hfc hkC (u_lays C9 (kcl_in k Cn T N hc).1 hj) hi).1 e1 e3.known (v := fv h T k j a) ?_ rfl rfl dg kk
  rw [hsl]
  exact e4 j hj
theorem w_getN {p : Program} {e : Env} {R : Room} {s : State} {m : MethodId} {args : Array Value} {below : List Frame} {meth : Method} {c : Code} {H : Heap} {locs : List Loc} {cells slots : Nat} {Q : State → Prop} {ls : Array Slot} {rest : List Value} (C : CxOk G X d p R s m args meth c) (w : WF G h) (hr : Rel G h H) {a k : Nat} (hk : h.kd a = k) (hk0 : (k != 0) = true) (hlt : (k.blt 100) = true) {Cn host : String} {T : u_T} {N j : Nat} (hc : kcl[k]? = some (Cn, T, N)) (hj : (j.blt N) = true) {n : Nat}
    (dg : decode X.cc pc = .ok (.getfield n, 3)) (q : Cond.fieldLinkNest X.y.cls n (T j).1 (T j).2.1 (T j).2.2.1 host ∈ lw_tbl)
    (kk : W p G.1 e R s m args below meth c H locs cells slots Q (F0 m (pc + 3) ls (fv h T k j a :: rest))) : W p G.1 e R s m args below meth c H locs cells slots Q (F0 m pc ls (vr a :: rest)) := by
  have hk0 : k ≠ 0 := by simpa using hk0
  have hlt : k < 100 := Nat.le_of_ble_eq_true hlt
  have hj : j < N := Nat.le_of_ble_eq_true hj
  obtain ⟨cell, e1, e2, e3, e4⟩ := hr.obj hk hk0 hlt hc
  obtain ⟨C1, C2, C3, C4, C5, C6, C7, C8, C9, C10, -⟩ := C
  obtain ⟨hS, hfc, kC, hkC, hkind⟩ := C10.1.1 k _ hc
  obtain ⟨cf, kf, fi, f, hi, hsl⟩ := hS j hj
  rw [vr_pos (w.ne hk hk0)]
  refine va_Wgetf C1 C2 C6 (va_Nw.use rfl (C10.2.1 _ q rfl)) hi (u_facts hfc hkC (u_lays C9 (kcl_in k Cn T N hc).1 hj) hi).1 e1 e3.known (v := fv h T k j a) ?_ rfl rfl dg kk
  rw [hsl]
  exact e4 j hj
variable {a k j n N key : Nat} {Cn host : String} {T : u_T}
theorem r_geti (k j : Nat) (hk : h.kd a = k) (q : Cond.fieldLink X.y.cls n (T j).1 (T j).2.1 (T j).2.2.1 ∈ lw_all) (dg : decode X.cc pc = .ok (.getfield n, 3)) (hc : kcl[k]? = some (Cn, T, N)) (hs : (k != 0 && k.blt 100 && j.blt N && tg (T j).2.2.1 == 0 && 1000 * k + j == key) = true)
    (kk : Aw G X d t h0 Φ (pc + 3) lv (vI (h.i key a) :: st) h) : Aw G X d t h0 Φ pc lv (vR a :: st) h := by
  simp only [Bool.and_eq_true, beq_iff_eq] at hs
  obtain ⟨⟨⟨⟨s1, s2⟩, s3⟩, s4⟩, s5⟩ := hs
  subst s5
  refine Aw.pure1 (fun p e R s m args below meth c H locs cells slots Q ls C hL w hr kk => w_get C w hr hk s1 s2 hc s3 dg q ?_) kk
  rw [fv_i s4]
  exact kk
theorem r_getl (k j : Nat) (hk : h.kd a = k) (q : Cond.fieldLink X.y.cls n (T j).1 (T j).2.1 (T j).2.2.1 ∈ lw_all) (dg : decode X.cc pc = .ok (.getfield n, 3)) (hc : kcl[k]? = some (Cn, T, N)) (hs : (k != 0 && k.blt 100 && j.blt N && tg (T j).2.2.1 == 1 && 1000 * k + j == key) = true)
    (kk : Aw G X d t h0 Φ (pc + 3) lv (vJ (h.l key a) :: st) h) : Aw G X d t h0 Φ pc lv (vR a :: st) h := by
  simp only [Bool.and_eq_true, beq_iff_eq] at hs
  obtain ⟨⟨⟨⟨s1, s2⟩, s3⟩, s4⟩, s5⟩ := hs
  subst s5
  refine Aw.pure1 (fun p e R s m args below meth c H locs cells slots Q ls C hL w hr kk => w_get C w hr hk s1 s2 hc s3 dg q ?_) kk
  rw [fv_l s4]
  exact kk
theorem r_getr (k j : Nat) (hk : h.kd a = k) (q : Cond.fieldLink X.y.cls n (T j).1 (T j).2.1 (T j).2.2.1 ∈ lw_all) (dg : decode X.cc pc = .ok (.getfield n, 3)) (hc : kcl[k]? = some (Cn, T, N)) (hs : (k != 0 && k.blt 100 && j.blt N && tg (T j).2.2.1 == 2 && 1000 * k + j == key) = true)
    (kk : Aw G X d t h0 Φ (pc + 3) lv (vR (h.r key a) :: st) h) : Aw G X d t h0 Φ pc lv (vR a :: st) h := by
  simp only [Bool.and_eq_true, beq_iff_eq] at hs
  obtain ⟨⟨⟨⟨s1, s2⟩, s3⟩, s4⟩, s5⟩ := hs
  subst s5
  refine Aw.pure1 (fun p e R s m args below meth c H locs cells slots Q ls C hL w hr kk => w_get C w hr hk s1 s2 hc s3 dg q ?_) kk
  rw [fv_r s4]
  exact kk
theorem r_getiN (k j : Nat) (hk : h.kd a = k) (q : Cond.fieldLinkNest X.y.cls n (T j).1 (T j).2.1 (T j).2.2.1 host ∈ lw_tbl) (dg : decode X.cc pc = .ok (.getfield n, 3)) (hc : kcl[k]? = some (Cn, T, N)) (hs : (k != 0 && k.blt 100 && j.blt N && tg (T j).2.2.1 == 0 && 1000 * k + j == key) = true)
    (kk : Aw G X d t h0 Φ (pc + 3) lv (vI (h.i key a) :: st) h) : Aw G X d t h0 Φ pc lv (vR a :: st) h := by
  simp only [Bool.and_eq_true, beq_iff_eq] at hs
  obtain ⟨⟨⟨⟨s1, s2⟩, s3⟩, s4⟩, s5⟩ := hs
  subst s5
  refine Aw.pure1 (fun p e R s m args below meth c H locs cells slots Q ls C hL w hr kk => w_getN C w hr hk s1 s2 hc s3 dg q ?_) kk
  rw [fv_i s4]
  exact kk
theorem r_getlN (k j : Nat) (hk : h.kd a = k) (q : Cond.fieldLinkNest X.y.cls n (T j).1 (T j).2.1 (T j).2.2.1 host ∈ lw_tbl) (dg : decode X.cc pc = .ok (.getfield n, 3)) (hc : kcl[k]? = some (Cn, T, N)) (hs : (k != 0 && k.blt 100 && j.blt N && tg (T j).2.2.1 == 1 && 1000 * k + j == key) = true)
    (kk : Aw G X d t h0 Φ (pc + 3) lv (vJ (h.l key a) :: st) h) : Aw G X d t h0 Φ pc lv (vR a :: st) h := by
  simp only [Bool.and_eq_true, beq_iff_eq] at hs
  obtain ⟨⟨⟨⟨s1, s2⟩, s3⟩, s4⟩, s5⟩ := hs
  subst s5
  refine Aw.pure1 (fun p e R s m args below meth c H locs cells slots Q ls C hL w hr kk => w_getN C w hr hk s1 s2 hc s3 dg q ?_) kk
  rw [fv_l s4]
  exact kk
theorem r_getrN (k j : Nat) (hk : h.kd a = k) (q : Cond.fieldLinkNest X.y.cls n (T j).1 (T j).2.1 (T j).2.2.1 host ∈ lw_tbl) (dg : decode X.cc pc = .ok (.getfield n, 3)) (hc : kcl[k]? = some (Cn, T, N)) (hs : (k != 0 && k.blt 100 && j.blt N && tg (T j).2.2.1 == 2 && 1000 * k + j == key) = true)
    (kk : Aw G X d t h0 Φ (pc + 3) lv (vR (h.r key a) :: st) h) : Aw G X d t h0 Φ pc lv (vR a :: st) h := by
  simp only [Bool.and_eq_true, beq_iff_eq] at hs
  obtain ⟨⟨⟨⟨s1, s2⟩, s3⟩, s4⟩, s5⟩ := hs
  subst s5
  refine Aw.pure1 (fun p e R s m args below meth c H locs cells slots Q ls C hL w hr kk => w_getN C w hr hk s1 s2 hc s3 dg q ?_) kk
  rw [fv_r s4]
  exact kk
end Heap

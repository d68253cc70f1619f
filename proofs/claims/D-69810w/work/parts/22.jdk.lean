/-! rows of statics, constants of strings and classes, of what is only read, of arrays of objects -/
set_option maxRecDepth 100000
section Jdk
variable {G : Gx} {X Y : Mx} {d t : Nat} {h0 h h1 : AH} {Φ : Out → AH → Prop} {pc n a b v N : Nat} {lv st : List AV} {i sp dp ln : Int32} {C nm ds : String}
theorem w_gets {p : Program} {e : Env} {R : Room} {s : State} {m : MethodId} {args : Array Value} {below : List Frame} {meth : Method} {c : Code} {H : Heap} {locs : List Loc} {cells slots : Nat} {Q : State → Prop} {ls : Array Slot} {rest : List Value} {v : Value} (K : CxOk G X d p R s m args meth c) (hr : Rel G h H) (hZ : va_Z C nm ds v nA s G.2.2.2.1) (q : Cond.fieldLink X.y.cls n C nm ds ∈ lw_all) (dg : decode X.cc pc = .ok (.getstatic n, 3))
    (kk : W p G.1 e R s m args below meth c H locs cells slots Q (F0 m (pc + 3) ls (v :: rest))) : W p G.1 e R s m args below meth c H locs cells slots Q (F0 m pc ls rest) := by
  obtain ⟨C1, C2, C3, C4, C5, C6, C7, C8, C9, C10, -⟩ := K
  obtain ⟨cf, kf, fi, f, aS, cell, z1, z2, z3, z4, z5, z6, z7, -⟩ := hZ
  intro T hT S
  have hlt : aS < gB G := (Array.getElem?_eq_some_iff.mp z5).1
  obtain ⟨vm', S', st⟩ := S.getstatic C1 C6 (C9 _ q) z1 z2 z3 z4 (cell₁ := cell) (v := v) (by rw [hT, hr.2.1 _ hlt]; exact z5) (fun q => by rw [q] at z6; cases z6) z7 (g := F0 m pc ls rest) rfl (by rw [C2]; exact dg)
  obtain ⟨tt, s1, s2⟩ := kk (T.setVm vm') hT S'
  exact ⟨tt, st tt s1, s2⟩
theorem r_gets (i : Nat) (hq : (i, C, nm, ds) ∈ zs_tbl) (q : Cond.fieldLink X.y.cls n C nm ds ∈ lw_all) (dg : decode X.cc pc = .ok (.getstatic n, 3)) (kk : Aw G X d t h0 Φ (pc + 3) lv (vR (G.2.2.2.2 i) :: st) h) : Aw G X d t h0 Φ pc lv st h :=
  Aw.pure1 (fun p e R s m args below meth c H locs cells slots Q ls K hL w hr kk => w_gets K hr (K.2.2.2.2.2.2.2.2.2.1.2.2.2.2.2.1 _ hq) q dg kk) kk
theorem r_getsC (q : Cond.fieldLink X.y.cls n "java/lang/String" "COMPACT_STRINGS" "Z" ∈ lw_all) (dg : decode X.cc pc = .ok (.getstatic n, 3)) (kk : Aw G X d t h0 Φ (pc + 3) lv (vI 1 :: st) h) : Aw G X d t h0 Φ pc lv st h :=
  Aw.pure1 (fun p e R s m args below meth c H locs cells slots Q ls K hL w hr kk => w_gets K hr K.2.2.2.2.2.2.2.2.2.1.2.2.2.2.2.2.1 q dg kk) kk
theorem r_ldcS (tx : String) (i : Nat) (hX : X.y.cls = "CoinJudge$Curve") (hq : (n, tx, i) ∈ st_tbl) (hi : WF G h → G.2.2.2.2 i ≠ 0) (dg : decode X.cc pc = .ok (.ldc n, 2)) (kk : Aw G X d t h0 Φ (pc + 2) lv (vR (G.2.2.2.2 i) :: st) h) : Aw G X d t h0 Φ pc lv st h := by
  refine Aw.pure1 (fun p e R s m args below meth c H locs cells slots Q ls K hL w hr kk => ?_) kk
  have hz := K.2.2.2.2.2.2.2.2.2.1.2.2.2.2.2.2.2.2.2.2.1 _ hq
  have kk : W p G.1 e R s m args below meth c H locs cells slots Q (F0 m (pc + 2) ls (vr (G.2.2.2.2 i) :: st.map cv)) := kk
  rw [vr_pos (hi w)] at kk
  exact va_ldcS K.1 K.2.1 (by rw [← hX]; exact K.2.2.2.2.2.1) hz dg kk
theorem r_ldcM (q : Cond.classLink X.y.cls n "[Ljava/lang/Object;" ∈ lw_all) (hi : G.2.2.2.2 19 ≠ 0) (dg : decode X.cc pc = .ok (.ldc n, 2)) (kk : Aw G X d t h0 Φ (pc + 2) lv (vR (G.2.2.2.2 19) :: st) h) : Aw G X d t h0 Φ pc lv st h := by
  refine Aw.pure1 (fun p e R s m args below meth c H locs cells slots Q ls K hL w hr kk => ?_) kk
  have hz := K.2.2.2.2.2.2.2.2.2.1.2.2.2.2.2.2.2.2.2.1
  have kk : W p G.1 e R s m args below meth c H locs cells slots Q (F0 m (pc + 2) ls (vr (G.2.2.2.2 19) :: st.map cv)) := kk
  rw [vr_pos hi] at kk
  exact va_ldcM K.1 K.2.1 K.2.2.2.2.2.1 (K.2.2.2.2.2.2.2.2.1 _ q) hz dg kk
abbrev getClassName : MethodName := ⟨"java/lang/Object", "getClass", "()Ljava/lang/Class;"⟩
theorem r_getC (hk : h.kd a = 113) (hi : G.2.2.2.2 19 ≠ 0) (q1 : Cond.methodLink X.y.cls n getClassName ∈ lw_all) (q2 : Cond.declares getClassName ∈ lw_tbl) (q3 : Cond.selects "[Ljava/lang/Object;" getClassName getClassName ∈ lw_all) (q4 : Cond.instanceMethod getClassName ∈ lw_all) (q5 : Cond.native getClassName ∈ lw_all) (dg : decode X.cc pc = .ok (.invokevirtual n, 3)) (hroom : Nat.ble ((st.map ct).sum + 14) 392 = true)
    (kk : Aw G X (d + 1) t h0 Φ (pc + 3) lv (vR (G.2.2.2.2 19) :: st) h) : Aw G X (d + 1) t h0 Φ pc lv (vR a :: st) h := by
  refine Aw.pure1 (fun p e R s m args below meth c H locs cells slots Q ls K hL w hr kk => ?_) kk
  obtain ⟨C1, C2, C3, C4, C5, C6, C7, C8, C9, C10, C11, C12⟩ := K
  have hz := C10.2.2.2.2.2.2.2.2.2.1
  have kk : W p G.1 e R s m args below meth c H locs cells slots Q (F0 m (pc + 3) ls (vr (G.2.2.2.2 19) :: st.map cv)) := kk
  rw [vr_pos hi] at kk
  show W p G.1 e R s m args below meth c H locs cells slots Q (F0 m pc ls (vr a :: st.map cv))
  rw [vr_pos (w.ne hk (by omega))]
  have hcat : ∀ l : List AV, ((l.map cv).map fun v => v.category).sum = (l.map ct).sum := by
    intro l
    induction l with
    | nil => rfl
    | cons a l ih => simp only [List.map_cons, List.sum_cons, ih, ct_cv]
  have hroom := Nat.le_of_ble_eq_true hroom
  obtain ⟨z1, z2⟩ := hr.arr hk (by decide) (by decide)
  have hRA := (C10.arr (k := 113) (by decide) (by decide)).2
  exact va_getC C1 C2 (by rw [C3]; exact hL.1.symm) C6 (C9 _ q1) (va_Nw.use rfl (C10.2.1 _ q2 rfl)) (C9 _ q3) (C9 _ q4) (C9 _ q5) hz ⟨_, z2, rfl, va_nmO hRA rfl⟩ (by omega) (by rw [hcat]; omega) dg kk
theorem ro_arr {s : State} {k : Nat} {cell : Cell} (K : KN G s) (h1 : 100 ≤ k) (h2 : k < 116) (hc : cell.cls = G.2.2.1 k) (hs : ∀ q, cell.vm ≠ .statics q) : s.isArrayOf cell (aty k) := by
  obtain ⟨-, k0, z1, comp, z2⟩ := (K.arr h1 h2).1 0 (fun _ => .null)
  exact ⟨hs, k0, by rw [hc]; exact z1, comp, z2⟩
theorem r_alenO (hk : h.kd a = 113 ∨ (h.kd a = 116 ∧ h.ar a = [])) (dg : decode X.cc pc = .ok (.arraylength, 1)) (kk : Aw G X d t h0 Φ (pc + 1) lv (vI (nI (h.ar a).length) :: st) h) : Aw G X d t h0 Φ pc lv (vR a :: st) h := by
  rcases hk with hk | ⟨hk, ha⟩
  · exact r_alenR ⟨by omega, by omega⟩ dg kk
  · refine Aw.pure1 (fun p e R s m args below meth c H locs cells slots Q ls K hL w hr kk => ?_) kk
    obtain ⟨z1, z2⟩ := (hr.2.2 a (by omega)).2.2 (by omega)
    obtain ⟨cell, z3, z4, z5, z6, z7⟩ := z2.1 hk
    show W p G.1 e R s m args below meth c H locs cells slots Q (F0 m pc ls (vr a :: st.map cv))
    rw [vr_pos (w.ne hk (by omega))]
    exact W.alen K.1 K.2.1 ((hr.2.1 _ z1).trans z3) (ro_arr K.2.2.2.2.2.2.2.2.2.1 (k := 113) (by decide) (by decide) z4 z6) (by rw [z5, ha]; rfl) rfl rfl dg kk
theorem r_alenRo (hk : h.kd a = 119) (dg : decode X.cc pc = .ok (.arraylength, 1)) (kk : Aw G X d t h0 Φ (pc + 1) lv (vI (nI (h.ai a).length) :: st) h) : Aw G X d t h0 Φ pc lv (vR a :: st) h := by
  refine Aw.pure1 (fun p e R s m args below meth c H locs cells slots Q ls K hL w hr kk => ?_) kk
  obtain ⟨z1, z2⟩ := (hr.2.2 a (by omega)).2.2 (by omega)
  obtain ⟨cell, z3, z4, z5, z6, z7, z8⟩ := z2.2.2 hk
  show W p G.1 e R s m args below meth c H locs cells slots Q (F0 m pc ls (vr a :: st.map cv))
  rw [vr_pos (w.ne hk (by omega))]
  exact W.alen K.1 K.2.1 ((hr.2.1 _ z1).trans z3) (ro_arr K.2.2.2.2.2.2.2.2.2.1 (k := 101) (by decide) (by decide) z4 z6) (by rw [z5]; rfl) rfl rfl dg kk
theorem r_baloadRo (hk : h.kd a = 119) (hi : vp_in i (h.ai a).length) (dg : decode X.cc pc = .ok (.baload, 1)) (kk : Aw G X d t h0 Φ (pc + 1) lv (vI ((h.ai a).getD i.toNatClampNeg 0) :: st) h) : Aw G X d t h0 Φ pc lv (vI i :: vR a :: st) h := by
  refine Aw.pure1 (fun p e R s m args below meth c H locs cells slots Q ls K hL w hr kk => ?_) kk
  obtain ⟨z1, z2⟩ := (hr.2.2 a (by omega)).2.2 (by omega)
  obtain ⟨cell, z3, z4, z5, z6, z7, z8⟩ := z2.2.2 hk
  show W p G.1 e R s m args below meth c H locs cells slots Q (F0 m pc ls (.int i :: vr a :: st.map cv))
  rw [vr_pos (w.ne hk (by omega))]
  have hin := in_lt hi
  exact W.bald (v := .int ((h.ai a).getD i.toNatClampNeg 0)) K.1 K.2.1 ((hr.2.1 _ z1).trans z3) (ro_arr K.2.2.2.2.2.2.2.2.2.1 (k := 101) (by decide) (by decide) z4 z6) z7 (by rw [z5]; exact hi) (z8 _ hin) rfl rfl dg kk
theorem r_getOrd (hX : X.y.cls = "java/lang/Enum") (hk : h.kd a = 117) (q : Cond.fieldLink "java/lang/Enum" n "java/lang/Enum" "ordinal" "I" ∈ lw_all) (dg : decode X.cc pc = .ok (.getfield n, 3)) (kk : Aw G X d t h0 Φ (pc + 3) lv (vI (h.i 117000 a) :: st) h) : Aw G X d t h0 Φ pc lv (vR a :: st) h := by
  refine Aw.pure1 (fun p e R s m args below meth c H locs cells slots Q ls K hL w hr kk => ?_) kk
  obtain ⟨z1, z2⟩ := (hr.2.2 a (by omega)).2.2 (by omega)
  obtain ⟨cell, z3, z4, z5, z6, z7⟩ := z2.2.1 hk
  obtain ⟨⟨f, ⟨cf, kf, fi, o1⟩, o2, o3⟩, o4⟩ := K.2.2.2.2.2.2.2.2.2.1.2.2.2.2.2.2.2.2.1
  show W p G.1 e R s m args below meth c H locs cells slots Q (F0 m pc ls (vr a :: st.map cv))
  rw [vr_pos (w.ne hk (by omega))]
  exact W.getf K.1 K.2.1 (by rw [← hX]; exact K.2.2.2.2.2.1) (K.2.2.2.2.2.2.2.2.1 _ q) o1 o2 ((hr.2.1 _ z1).trans z3) z6 (v := .int (h.i 117000 a)) (by rw [o3]; exact z7) rfl rfl dg kk
/-- a call of an inherited method of a constant of the enum -/
theorem f_VU {x : MethodName} {owner : String} (hkd : h.kd b = 117) (q1 : Cond.methodLink X.y.cls n x ∈ lw_all) (q2 : Cond.instanceMethod Y.y ∈ lw_all) (q3 : Cond.selects "CoinJudge$State" x Y.y ∈ lw_all) (q4 : Cond.sameMethod x.cls owner x.name x.desc ∈ lw_all) (q5 : Cond.declares ⟨owner, x.name, x.desc⟩ ∈ lw_tbl) (hcd : cdOk Y) (hy : owner ≠ "java/lang/invoke/MethodHandle" ∧ owner ≠ "java/lang/invoke/VarHandle") (hp : pN x 0 = true) (dg : decode X.cc pc = .ok (.invokevirtual n, 3)) :
    ∀ (p : Program) (e : Env) (R : Room) (s : State) (m mk : MethodId) (args : Array Value) (below : List Frame) (meth : Method) (c : Code) (T : State) (locs : List Loc) (cells slots : Nat) (ls : Array Slot), CxOk G X (d + 1) p R s m args meth c → ls.size = X.nL → WF G h → Rel G h T.heap → Stand p G.1 e R s m args below meth c T locs cells slots → s.methodNamed? Y.y = some mk →
      ∃ vm₁, Stand p G.1 e R s m args below meth c (T.setVm vm₁) locs cells slots ∧ ∀ tg, Steps p.tables e below (doInvoke e ((T.setVm vm₁).setTop (F0 m pc ls (st.map cv))) [] mk (([vR b] : List AV).map cv).toArray).1 tg → Steps p.tables e below (T.setTop (F0 m pc ls ((vR b :: st).map cv))) tg := by
  intro p e R s m mk args below meth c U locs cells slots ls K hls w hr S hmk
  obtain ⟨C1, C2, C3, C4, C5, C6, C7, C8, C9, C10, C11, C12⟩ := K
  have hb : b ≠ 0 := w.ne hkd (by omega)
  obtain ⟨y1, y2⟩ := (hr.2.2 b (by omega)).2.2 (by omega)
  obtain ⟨cell, y3, y4, y5, y6, y7⟩ := y2.2.1 hkd
  have hcell : U.heap[b]? = some cell := (hr.2.1 _ y1).trans y3
  obtain ⟨-, hcls, -⟩ := C10.2.2.2.2.2.2.2.2.1
  obtain ⟨mk0, methM, hnamed, hmethM, hstM, habM⟩ := Cond.instanceMethod_spec (C9 _ q2)
  cases hmk.symm.trans hnamed
  obtain ⟨r0, r, hn, hrm, hstR, hsigR⟩ := va_Decl.abs (C10.2.1 _ q5 rfl)
  obtain ⟨cn, ck, r1, hcn, hck, hni, hf, hn1⟩ := Cond.sameMethod_found (C9 _ q4)
  cases hn.symm.trans hn1
  obtain ⟨c2, r2', m2, z1, z2, z3, z4, kP, hkP, hkPi⟩ := Cond.selects_spec (C9 _ q3)
  rw [← y4] at hcls
  cases hcls.symm.trans z1
  cases hf.symm.trans z2
  cases hmk.symm.trans z3
  have hselP : selectMethod e.platform s.vm cell.cls r0 = .method mk := by rw [Launch.admits_selectMethod S.admits]; exact z4
  obtain ⟨vm₁, X₁, hstep₁⟩ := S.invokevirtualUp C1 C6 (C9 _ q1) (C9 _ q4) hy hn hrm hstR (a := b) (cell := cell) hcell
    (fun z h => by rw [h] at y5; cases y5) hselP hmethM habM hkP hkPi (g := F0 m pc ls ((vR b :: st).map cv)) rfl (argsL := []) (rest := st.map cv) (pN.spec hp _ hsigR) (stk_map (vs := []) rfl hb) (by rw [C2]; exact dg)
  exact ⟨vm₁, X₁, fun tg h9 => hstep₁ _ fun acts => by rw [doInvoke_state]; rw [arg_map hb] at h9; exact h9⟩
def lcpR (s d : List Nat) (sp dp n : Int32) : List Nat := d.take dp.toNatClampNeg ++ ((s.drop sp.toNatClampNeg).take n.toNatClampNeg ++ d.drop (dp.toNatClampNeg + n.toNatClampNeg))
theorem lcpR_len {s d : List Nat} {sp dp n : Int32} (h : cpOk sp dp n s.length d.length) : (lcpR s d sp dp n).length = d.length := by
  obtain ⟨-, -, -, h4, h5⟩ := h
  simp only [lcpR, List.length_append, List.length_take, List.length_drop]
  omega
theorem lcpR_get {s d : List Nat} {sp dp n : Int32} (h : cpOk sp dp n s.length d.length) (j : Nat) (hj : j < d.length) : (lcpR s d sp dp n).getD j 0 = va_cpy (fun j => s.getD j 0) (fun j => d.getD j 0) sp.toNatClampNeg dp.toNatClampNeg n.toNatClampNeg j := by
  obtain ⟨-, -, -, h4, h5⟩ := h
  unfold lcpR va_cpy
  simp only [List.getD_eq_getElem?_getD]
  by_cases h1 : dp.toNatClampNeg ≤ j
  · rw [List.getElem?_append_right (by simp; omega)]
    simp only [List.length_take]
    rw [Nat.min_eq_left (by omega)]
    by_cases h2 : j < dp.toNatClampNeg + n.toNatClampNeg
    · rw [if_pos ⟨h1, h2⟩, List.getElem?_append_left (by simp; omega), List.getElem?_take, if_pos (by omega), List.getElem?_drop]
    · rw [if_neg (by omega), List.getElem?_append_right (by simp; omega), List.getElem?_drop]
      simp only [List.length_take, List.length_drop]
      rw [Nat.min_eq_left (by omega)]
      congr 2
      omega
  · rw [if_neg (by omega), List.getElem?_append_left (by simp; omega), List.getElem?_take, if_pos (by omega)]
set_option maxHeartbeats 1000000 in
/-- coins of an array of objects are copied into another -/
theorem r_acopyR (hk1 : h.kd a = 113) (hk2 : h.kd b = 113) (hv : ∀ x ∈ h.ar a, x = 0 ∨ h.kd x = 23) (hc : cpOk sp dp ln (h.ar a).length (h.ar b).length) (hf : 100113 ∈ X.fp ∨ h0.z ≤ b) (q1 : Cond.methodLink X.y.cls n arraycopyName ∈ lw_all) (q2 : Cond.native arraycopyName ∈ lw_all) (q3 : Cond.static arraycopyName ∈ lw_all) (q4 : Cond.initialized "java/lang/System" ∈ lw_all) (q5 : Cond.castable "CoinJudge$Coin" "java/lang/Object" ∈ lw_tbl) (dg : decode X.cc pc = .ok (.invokestatic n, 3)) (hroom : Nat.ble ((st.map ct).sum + (nativeFrameWords "java/lang/System" "arraycopy" 5 + 11)) 392 = true)
    (kk : Aw G X (d + 1) t h0 Φ (pc + 3) lv st (h.wr b (lcpR (h.ar a) (h.ar b) sp dp ln))) : Aw G X (d + 1) t h0 Φ pc lv (vI ln :: vI dp :: vR b :: vI sp :: vR a :: st) h := by
  refine Aw.step (h1 := h.wr b (lcpR (h.ar a) (h.ar b) sp dp ln)) rfl rfl (fun w => w) (fun w0 w ex => Ext.arr (a := b) w0 ex (by rw [hk2]; exact hf) rfl rfl rfl rfl rfl rfl (fun x hx => ⟨rfl, rfl, up1_ne hx⟩) ⟨rfl, rfl, (congrArg List.length up1_eq).trans (lcpR_len hc)⟩) (fun p e R s m args below meth c H locs cells slots Q ls C hl w hr hL kk => ?_) kk
  obtain ⟨C1, C2, C3, C4, C5, C6, C7, C8, C9, C10, C11, C12⟩ := C
  obtain ⟨q1', a1⟩ := hr.arr hk1 (by decide) (by decide)
  obtain ⟨q2', a2⟩ := hr.arr hk2 (by decide) (by decide)
  rw [alen_r (by omega), aval_r (by omega)] at a1 a2
  have hb := (w.2.2.1 b (by omega)).1 ⟨by omega, by omega⟩
  have hcat : ∀ l : List AV, ((l.map cv).map fun v => v.category).sum = (l.map ct).sum := by
    intro l
    induction l with
    | nil => rfl
    | cons a l ih => simp only [List.map_cons, List.sum_cons, ih, ct_cv]
  show W p G.1 e R s m args below meth c H locs cells slots Q (F0 m pc ls (.int ln :: .int dp :: vr b :: .int sp :: vr a :: st.map cv))
  rw [vr_pos (w.ne hk1 (by omega)), vr_pos (w.ne hk2 (by omega))]
  have nn : ∀ z : Int32, ¬ z < 0 → z.toInt = (z.toNatClampNeg : Int) := by
    intro z hz
    have hz0 : (0 : Int) ≤ z.toInt := by
      have := Int32.not_lt.mp hz
      simpa using Int32.le_iff_toInt_le.mp this
    show z.toInt = ((z.toInt.toNat : Nat) : Int)
    omega
  obtain ⟨c1, c2, c3, c4, c5⟩ := id hc
  intro T hT S
  have hA := C10.arr (k := 113) (by decide) (by decide)
  obtain ⟨kA, comp, g1, g2, g3, g4⟩ := hA.2
  have hroom := Nat.le_of_ble_eq_true hroom
  obtain ⟨kcomp, hkcomp⟩ : ∃ kc, s.vm.classes[comp]? = some kc := Vm.classAt_of_findClass g3
  obtain ⟨hSC, hfcC, kC, hkC, hkindC⟩ := C10.1.1 23 _ kc23
  obtain ⟨c0, t0, f1, f2, f3⟩ := Cond.castable_spec (va_Nw.use (A := args) rfl (C10.2.1 _ q5 rfl))
  cases hfcC.symm.trans f1
  cases g3.symm.trans f2
  obtain ⟨vm', X', step⟩ := S.arraycopy C1 C6 (C9 _ q1) (C9 _ q2) (C9 _ q3) (C9 _ q4) (src := a) (dst := b) (cs := arrV (G.2.2.1 113) (h.ar a).length (fun j => vr ((h.ar a).getD j 0))) (cd := arrV (G.2.2.1 113) (h.ar b).length (fun j => vr ((h.ar b).getD j 0))) (srcPos := sp) (destPos := dp) (n := ln) (by rw [hT]; exact a1) (by rw [hT]; exact a2)
    (fun _ h => by cases h) (fun _ h => by cases h) (fun h => by cases h) (fun h => by cases h) g1 g1 g2 g2 (by simp [refKind]) c1 c2 c3
    (by rw [nn sp c1, nn ln c3, arrV_size]; omega)
    (by rw [nn dp c2, nn ln c3, arrV_size]; omega)
    (fun vm₁ hal i hi => by
      have e : (arrV (G.2.2.1 113) (h.ar a).length (fun j => vr ((h.ar a).getD j 0))).slots.getD (sp.toNatClampNeg + i) .null = vr ((h.ar a).getD (sp.toNatClampNeg + i) 0) := by
        rw [Array.getD_eq_getD_getElem?, arrV_read _ _ (by omega)]
        rfl
      rw [e]
      refine ⟨(nar_r rfl _).2, ?_⟩
      have hm : (h.ar a).getD (sp.toNatClampNeg + i) 0 ∈ h.ar a := by
        rw [List.getD_eq_getElem?_getD, List.getElem?_eq_getElem (by omega)]
        exact List.getElem_mem _
      rcases hv _ hm with hz | hz
      · rw [hz]; exact trivial
      · obtain ⟨cell, o1, o2, o3, o4⟩ := hr.obj hz (by decide) (by decide) kc23
        rw [vr_pos (w.ne hz (by decide))]
        obtain ⟨k1, hk1', -⟩ := hal.2.2 _ _ hkC
        obtain ⟨k2, hk2', -⟩ := hal.2.2 _ _ hkcomp
        refine ⟨cell, by show T.heap[_]? = _; rw [hT]; exact o1, (fun q h => by have := o3.notS; rw [h] at this; cases this), ⟨k1, by rw [o2]; exact hk1'⟩, ⟨k2, hk2'⟩, ?_⟩
        rw [o2]
        show vm₁.assignable _ _ = true
        rw [hal.assignable]; exact f3)
    (g := F0 m pc ls (.int ln :: .int dp :: .ref b :: .int sp :: .ref a :: st.map cv)) rfl (by rw [C3]; exact hl.1) (rest := st.map cv) rfl (by rw [C2]; exact dg) (by omega) (by show 2 * 0 + _ + _ ≤ _; rw [hcat]; omega)
  have e1 : copied (arrV (G.2.2.1 113) (h.ar a).length (fun j => vr ((h.ar a).getD j 0))) (arrV (G.2.2.1 113) (h.ar b).length (fun j => vr ((h.ar b).getD j 0))) sp dp ln = arrV (G.2.2.1 113) (h.ar b).length (fun j => vr (va_cpy (fun j => (h.ar a).getD j 0) (fun j => (h.ar b).getD j 0) sp.toNatClampNeg dp.toNatClampNeg ln.toNatClampNeg j)) := va_copied (fun z => vr z) (G.2.2.1 113) (G.2.2.1 113) (fun j => (h.ar a).getD j 0) (fun j => (h.ar b).getD j 0) c4
  rw [e1] at X' step
  generalize hcell : arrV (G.2.2.1 113) (h.ar b).length (fun j => vr (va_cpy (fun j => (h.ar a).getD j 0) (fun j => (h.ar b).getD j 0) sp.toNatClampNeg dp.toNatClampNeg ln.toNatClampNeg j)) = cellN at X' step
  have hlb : b < H.size := (Array.getElem?_eq_some_iff.mp a2).1
  have hheap : ((T.setVm vm').setCell b cellN).heap = H.setIfInBounds b cellN := by rw [← hT]; rfl
  have oq : ∀ q : Nat, q ≠ b → (H.setIfInBounds b cellN)[q]? = H[q]? := fun q hq => by simp [Array.getElem?_setIfInBounds, Ne.symm hq]
  have hrel : Rel G (h.wr b (lcpR (h.ar a) (h.ar b) sp dp ln)) (H.setIfInBounds b cellN) := by
    refine hr.wr (by omega) (by omega) (show (H.setIfInBounds b cellN)[b]? = some cellN by simp [Array.getElem?_setIfInBounds, hlb]) (by simp) oq hb ?_ rfl rfl rfl rfl rfl (fun z hz => ⟨rfl, rfl, up1_ne hz⟩)
    rw [← hcell, alen_r (show 104 ≤ (h.wr b _).kd b by show 104 ≤ h.kd b; omega), aval_r (show 104 ≤ (h.wr b _).kd b by show 104 ≤ h.kd b; omega), hk2]
    show _ = arrV _ (up1 h.ar b _ b).length (fun j => vr ((up1 h.ar b _ b).getD j 0))
    rw [up1_eq]
    refine arrV_congr2 _ (lcpR_len hc).symm (fun j hj => ?_)
    rw [lcpR_get hc j hj]
  obtain ⟨tt, s1, s2⟩ := kk _ _ hrel (fun q hq => by
      rcases List.mem_append.mp hq with h | h
      · exact hL q h
      · obtain ⟨z, -, hz⟩ := List.mem_map.mp h
        rw [← hz]
        exact hb) _ hheap X'
  exact ⟨tt, step tt s1, s2⟩
/-- a new array of rows of bytes -/
theorem r_newaA (q1 : Cond.classLink X.y.cls n "[B" ∈ lw_all) (hi : ¬ i < 0) (hN : i.toNatClampNeg = N) (hb : N ≤ 60000000) (dg : decode X.cc pc = .ok (.anewarray n, 3))
    (kk : ∀ q, q = h.z → h0.z ≤ q → WF G h → Aw G X d t h0 Φ (pc + 3) lv (vR q :: st) (h.new 115 N [] [] (List.replicate N 0))) : Aw G X d t h0 Φ pc lv (vI i :: st) h := by
  intro w0 w ex
  refine Aw.alloc (h1 := h.new 115 N [] [] (List.replicate N 0)) (n := N) rfl rfl (WF.new (fun _ hx => by cases hx)) (fun _ w ex => Ext.new w ex) (fun p e R s m args below meth c H locs cells slots Q ls C hL w hr c1 c2 kk => ?_) (kk h.z rfl ex.1 w) w0 w ex
  obtain ⟨C1, C2, C3, C4, C5, C6, C7, C8, C9, C10, -⟩ := C
  have hA := C10.arr (k := 115) (by omega) (by omega)
  have hO := C10.2.2.2.1 11 (by decide)
  subst hN
  refine W.anewA (t := .byte) C1 C2 C6 (C9 _ q1) hO rfl dg rfl hi (by omega) c1 c2 fun cA kA comp f1 f2 f3 f4 => ?_
  have hcA : cA = G.2.2.1 115 := Option.some.inj (f1.symm.trans hA.2)
  subst hcA
  have hsz : H.size = h.z := hr.1
  show W p G.1 e R s m args below meth c _ locs _ _ Q (F0 m (pc + 3) ls (.ref H.size :: _))
  rw [hsz]
  generalize hH1 : H.push ({ cls := G.2.2.1 115, slots := Array.replicate i.toNatClampNeg .null, vm := .none } : Cell) = H1
  have z1 : H1.size = H.size + 1 := by rw [← hH1, Array.size_push]
  have e1 : H1[h.z]? = some (arrV (G.2.2.1 115) i.toNatClampNeg (fun _ => .null)) := by rw [← hH1, ← hsz, Array.getElem?_push_size, ← arrV_new]
  have o1 : ∀ q : Nat, q < H.size → H1[q]? = H[q]? := fun q hq => by rw [← hH1, Array.getElem?_push, if_neg (Nat.ne_of_lt hq)]
  have f1 : (h.new 115 i.toNatClampNeg [] [] (List.replicate i.toNatClampNeg 0)).kd h.z = 115 := up1_eq
  refine ref_z w (kk H1 (Rel.new w hr z1 o1 ⟨fun q => ?_, fun _ _ => ?_, fun q => ?_⟩))
  · rw [f1] at q
    omega
  · have f2 : (h.new 115 i.toNatClampNeg [] [] (List.replicate i.toNatClampNeg 0)).ar h.z = List.replicate i.toNatClampNeg 0 := up1_eq
    rw [f1]
    rw [e1, alen_r (by rw [f1]; decide), aval_r (by rw [f1]; decide), f2]
    refine congrArg some (arrV_congr2 _ (by simp) (fun j hj => ?_))
    rw [getD_rep]
    rfl
  · rw [f1] at q
    omega
end Jdk

/-! Java's shifts and remainders by name; rows with named values; facts carried along -/
set_option maxRecDepth 100000
def jshl (x y : Int32) : Int32 := x <<< (y &&& 31)
def jshr (x y : Int32) : Int32 := x >>> (y &&& 31)
def jushr (x y : Int32) : Int32 := (x.toUInt32 >>> (y.toUInt32 &&& Int32.toUInt32 31)).toInt32
def jrem (x y : Int32) : Int32 := x - x / y * y
def Jshl (a : Int64) (y : Int32) : Int64 := a <<< (y.toInt64 &&& 63)
def Jshr (a : Int64) (y : Int32) : Int64 := a >>> (y.toInt64 &&& 63)
def Jushr (a : Int64) (y : Int32) : Int64 := (a.toUInt64 >>> (y.toInt64.toUInt64 &&& Int64.toUInt64 63)).toInt64
def Jrem (a b : Int64) : Int64 := a - a / b * b
def i2c (x : Int32) : Int32 := (x.toUInt32 % 65536).toInt32
def i2b (x : Int32) : Int32 := x.toInt8.toInt32
section More
variable {G : Gx} {X : Mx} {d t : Nat} {h0 h h1 : AH} {Φ : Out → AH → Prop} {pc n k j N key a : Nat} {lv st : List AV} {x y : Int32} {b c : Int64} {Cn host : String} {T : u_T} {fp : List Nat}
theorem r_jshl (dg : decode X.cc pc = .ok (.ishl, 1)) (kk : Aw G X d t h0 Φ (pc + 1) lv (vI (jshl x y) :: st) h) : Aw G X d t h0 Φ pc lv (vI y :: vI x :: st) h := r_ishl dg kk
theorem r_jshr (dg : decode X.cc pc = .ok (.ishr, 1)) (kk : Aw G X d t h0 Φ (pc + 1) lv (vI (jshr x y) :: st) h) : Aw G X d t h0 Φ pc lv (vI y :: vI x :: st) h := r_ishr dg kk
theorem r_jushr (dg : decode X.cc pc = .ok (.iushr, 1)) (kk : Aw G X d t h0 Φ (pc + 1) lv (vI (jushr x y) :: st) h) : Aw G X d t h0 Φ pc lv (vI y :: vI x :: st) h := r_iushr dg kk
theorem r_jrem (hne : ¬ y = 0) (dg : decode X.cc pc = .ok (.irem, 1)) (kk : Aw G X d t h0 Φ (pc + 1) lv (vI (jrem x y) :: st) h) : Aw G X d t h0 Φ pc lv (vI y :: vI x :: st) h := r_irem hne dg kk
theorem r_Jshl (dg : decode X.cc pc = .ok (.lshl, 1)) (kk : Aw G X d t h0 Φ (pc + 1) lv (vJ (Jshl b y) :: st) h) : Aw G X d t h0 Φ pc lv (vI y :: vJ b :: st) h := r_lshl dg kk
theorem r_Jshr (dg : decode X.cc pc = .ok (.lshr, 1)) (kk : Aw G X d t h0 Φ (pc + 1) lv (vJ (Jshr b y) :: st) h) : Aw G X d t h0 Φ pc lv (vI y :: vJ b :: st) h := r_lshr dg kk
theorem r_Jushr (dg : decode X.cc pc = .ok (.lushr, 1)) (kk : Aw G X d t h0 Φ (pc + 1) lv (vJ (Jushr b y) :: st) h) : Aw G X d t h0 Φ pc lv (vI y :: vJ b :: st) h := r_lushr dg kk
theorem r_Jrem (hne : ¬ c = 0) (dg : decode X.cc pc = .ok (.lrem, 1)) (kk : Aw G X d t h0 Φ (pc + 1) lv (vJ (Jrem b c) :: st) h) : Aw G X d t h0 Φ pc lv (vJ c :: vJ b :: st) h := r_lrem hne dg kk
theorem r_ji2c (dg : decode X.cc pc = .ok (.i2c, 1)) (kk : Aw G X d t h0 Φ (pc + 1) lv (vI (i2c x) :: st) h) : Aw G X d t h0 Φ pc lv (vI x :: st) h := r_i2c dg kk
theorem r_ji2b (dg : decode X.cc pc = .ok (.i2b, 1)) (kk : Aw G X d t h0 Φ (pc + 1) lv (vI (i2b x) :: st) h) : Aw G X d t h0 Φ pc lv (vI x :: st) h := r_i2b dg kk
theorem r_jbast {i : Int32} (hk : h.kd a = 101) (hi : vp_in i (h.ai a).length) (hf : 100101 ∈ X.fp ∨ h0.z ≤ a) (dg : decode X.cc pc = .ok (.bastore, 1)) (kk : Aw G X d t h0 Φ (pc + 1) lv st (h.wi a ((h.ai a).set i.toNatClampNeg (i2b x)))) : Aw G X d t h0 Φ pc lv (vI x :: vI i :: vR a :: st) h := r_bastore hk hi hf dg kk
theorem Aw.wf (k : WF G h → Aw G X d t h0 Φ pc lv st h) : Aw G X d t h0 Φ pc lv st h := fun w0 w ex => k w w0 w ex
theorem Aw.ex (k : WF G h0 → Ext X.fp t h0 h → Aw G X d t h0 Φ pc lv st h) : Aw G X d t h0 Φ pc lv st h := fun w0 w ex => k w0 ex w0 w ex
theorem kd_ext (ex : Ext fp t h h1) (hk : h.kd a = k) (hk0 : k ≠ 0) : h1.kd a = k := ((ex.2.2 a (by rw [hk]; exact hk0)).1).trans hk
theorem kd_new {ai : List Int32} {al : List Int64} {ar : List Nat} (w : WF G h) (hk : h.kd a = k) (hk0 : k ≠ 0) : (h.new j n ai al ar).kd a = k := by
  have := (w.2.2.1 a (by rw [hk]; exact hk0)).2.1
  exact (up1_ne (by omega)).trans hk
theorem kd_newS {ai : List Int32} {al : List Int64} {ar : List Nat} (hq : a = h.z) : (h.new k n ai al ar).kd a = k := by subst hq; exact up1_eq
theorem fr_ext (ex : Ext fp t h h1) (hk : h.kd a = k) (hk0 : k ≠ 0) (hat : a ≠ t) (hf : key ∉ fp) : h1.r key a = h.r key a := ((ex.2.2 a (by rw [hk]; exact hk0)).2.2.2.2.1 hat key hf).2.2
theorem fi_ext (ex : Ext fp t h h1) (hk : h.kd a = k) (hk0 : k ≠ 0) (hat : a ≠ t) (hf : key ∉ fp) : h1.i key a = h.i key a := ((ex.2.2 a (by rw [hk]; exact hk0)).2.2.2.2.1 hat key hf).1
theorem fl_ext (ex : Ext fp t h h1) (hk : h.kd a = k) (hk0 : k ≠ 0) (hat : a ≠ t) (hf : key ∉ fp) : h1.l key a = h.l key a := ((ex.2.2 a (by rw [hk]; exact hk0)).2.2.2.2.1 hat key hf).2.1
theorem ne0 (w : WF G h1) (hk : h1.kd a = k) (hk0 : k ≠ 0) : a ≠ 0 := w.ne hk hk0
/-- a is older than q -/
theorem ne_new {q : Nat} (w : WF G h) (hk : h.kd a = k) (hk0 : k ≠ 0) (hq : q = h.z) : a ≠ q := by
  have := (w.2.2.1 a (by rw [hk]; exact hk0)).2.1
  omega
theorem fr_new {ai : List Int32} {al : List Int64} {ar : List Nat} (w : WF G h) (hk : h.kd a = k) (hk0 : k ≠ 0) : (h.new j n ai al ar).r key a = h.r key a := by
  have := (w.2.2.1 a (by rw [hk]; exact hk0)).2.1
  exact if_neg (by omega)
theorem fi_new {ai : List Int32} {al : List Int64} {ar : List Nat} (w : WF G h) (hk : h.kd a = k) (hk0 : k ≠ 0) : (h.new j n ai al ar).i key a = h.i key a := by
  have := (w.2.2.1 a (by rw [hk]; exact hk0)).2.1
  exact if_neg (by omega)
theorem fl_new {ai : List Int32} {al : List Int64} {ar : List Nat} (w : WF G h) (hk : h.kd a = k) (hk0 : k ≠ 0) : (h.new j n ai al ar).l key a = h.l key a := by
  have := (w.2.2.1 a (by rw [hk]; exact hk0)).2.1
  exact if_neg (by omega)
theorem w_getU {p : Program} {e : Env} {R : Room} {s : State} {m : MethodId} {args : Array Value} {below : List Frame} {meth : Method} {c : Code} {H : Heap} {locs : List Loc} {cells slots : Nat} {Q : State → Prop} {ls : Array Slot} {rest : List Value} (C : CxOk G X d p R s m args meth c) (w : WF G h) (hr : Rel G h H) {a k : Nat} (hk : h.kd a = k) (hk0 : k ≠ 0) (hlt : k < 100) {Cn ref : String} {T : u_T} {N j : Nat} (hc : kcl[k]? = some (Cn, T, N)) (hj : j < N) {n : Nat}
    (dg : decode X.cc pc = .ok (.getfield n, 3)) (q : Cond.fieldLink X.y.cls n ref (T j).2.1 (T j).2.2.1 ∈ lw_all) (qs : Cond.sameField ref (T j).1 (T j).2.1 (T j).2.2.1 ∈ lw_all)
    (kk : W p G.1 e R s m args below meth c H locs cells slots Q (F0 m (pc + 3) ls (fv h T k j a :: rest))) : W p G.1 e R s m args below meth c H locs cells slots Q (F0 m pc ls (vr a :: rest)) := by
  obtain ⟨cell, e1, e2, e3, e4⟩ := hr.obj hk hk0 hlt hc
  obtain ⟨C1, C2, C3, C4, C5, C6, C7, C8, C9, C10, -⟩ := C
  obtain ⟨hS, hfc, kC, hkC, hkind⟩ := C10.1.1 k _ hc
  obtain ⟨cf, kf, fi, f, hi, hsl⟩ := hS j hj
  rw [vr_pos (w.ne hk hk0)]
  refine W.getf C1 C2 C6 (C9 _ q) (u_same (C9 _ qs) _ hi) (u_facts hfc hkC (u_lays C9 (kcl_in k Cn T N hc).1 hj) hi).1 e1 e3.known (v := fv h T k j a) ?_ rfl rfl dg kk
  rw [hsl]
  exact e4 j hj
theorem r_getiU (k j : Nat) {ref : String} (hk : h.kd a = k) (q : Cond.fieldLink X.y.cls n ref (T j).2.1 (T j).2.2.1 ∈ lw_all) (qs : Cond.sameField ref (T j).1 (T j).2.1 (T j).2.2.1 ∈ lw_all) (dg : decode X.cc pc = .ok (.getfield n, 3)) (hc : kcl[k]? = some (Cn, T, N)) (hs : (k != 0 && k.blt 100 && j.blt N && tg (T j).2.2.1 == 0 && 1000 * k + j == key) = true)
    (kk : Aw G X d t h0 Φ (pc + 3) lv (vI (h.i key a) :: st) h) : Aw G X d t h0 Φ pc lv (vR a :: st) h := by
  simp only [Bool.and_eq_true, bne_iff_ne, beq_iff_eq] at hs
  obtain ⟨⟨⟨⟨s1, s2⟩, s3⟩, s4⟩, s5⟩ := hs
  subst s5
  refine Aw.pure1 (fun p e R s m args below meth c H locs cells slots Q ls C hL w hr kk => ?_) kk
  exact w_getU C w hr hk s1 (Nat.le_of_ble_eq_true s2) hc (Nat.le_of_ble_eq_true s3) dg q qs (by rw [fv_i s4]; exact kk)
theorem r_getlU (k j : Nat) {ref : String} (hk : h.kd a = k) (q : Cond.fieldLink X.y.cls n ref (T j).2.1 (T j).2.2.1 ∈ lw_all) (qs : Cond.sameField ref (T j).1 (T j).2.1 (T j).2.2.1 ∈ lw_all) (dg : decode X.cc pc = .ok (.getfield n, 3)) (hc : kcl[k]? = some (Cn, T, N)) (hs : (k != 0 && k.blt 100 && j.blt N && tg (T j).2.2.1 == 1 && 1000 * k + j == key) = true)
    (kk : Aw G X d t h0 Φ (pc + 3) lv (vJ (h.l key a) :: st) h) : Aw G X d t h0 Φ pc lv (vR a :: st) h := by
  simp only [Bool.and_eq_true, bne_iff_ne, beq_iff_eq] at hs
  obtain ⟨⟨⟨⟨s1, s2⟩, s3⟩, s4⟩, s5⟩ := hs
  subst s5
  refine Aw.pure1 (fun p e R s m args below meth c H locs cells slots Q ls C hL w hr kk => ?_) kk
  exact w_getU C w hr hk s1 (Nat.le_of_ble_eq_true s2) hc (Nat.le_of_ble_eq_true s3) dg q qs (by rw [fv_l s4]; exact kk)
theorem r_getrU (k j : Nat) {ref : String} (hk : h.kd a = k) (q : Cond.fieldLink X.y.cls n ref (T j).2.1 (T j).2.2.1 ∈ lw_all) (qs : Cond.sameField ref (T j).1 (T j).2.1 (T j).2.2.1 ∈ lw_all) (dg : decode X.cc pc = .ok (.getfield n, 3)) (hc : kcl[k]? = some (Cn, T, N)) (hs : (k != 0 && k.blt 100 && j.blt N && tg (T j).2.2.1 == 2 && 1000 * k + j == key) = true)
    (kk : Aw G X d t h0 Φ (pc + 3) lv (vR (h.r key a) :: st) h) : Aw G X d t h0 Φ pc lv (vR a :: st) h := by
  simp only [Bool.and_eq_true, bne_iff_ne, beq_iff_eq] at hs
  obtain ⟨⟨⟨⟨s1, s2⟩, s3⟩, s4⟩, s5⟩ := hs
  subst s5
  refine Aw.pure1 (fun p e R s m args below meth c H locs cells slots Q ls C hL w hr kk => ?_) kk
  exact w_getU C w hr hk s1 (Nat.le_of_ble_eq_true s2) hc (Nat.le_of_ble_eq_true s3) dg q qs (by rw [fv_r s4]; exact kk)
theorem r_geti' (k j : Nat) {v : Int32} (hv : h.i key a = v) (hk : h.kd a = k) (q : fLk X.y.cls n T j) (dg : decode X.cc pc = .ok (.getfield n, 3)) (hc : kcl[k]? = some (Cn, T, N)) (hs : (k != 0 && k.blt 100 && j.blt N && tg (T j).2.2.1 == 0 && 1000 * k + j == key) = true)
    (kk : Aw G X d t h0 Φ (pc + 3) lv (vI v :: st) h) : Aw G X d t h0 Φ pc lv (vR a :: st) h := by
  subst hv
  rcases q with q | ⟨host, q⟩ | ⟨ref, q, qs⟩
  · exact r_geti k j hk q dg hc hs kk
  · exact r_getiN k j hk q dg hc hs kk
  · exact r_getiU k j hk q qs dg hc hs kk
theorem r_getl' (k j : Nat) {v : Int64} (hv : h.l key a = v) (hk : h.kd a = k) (q : fLk X.y.cls n T j) (dg : decode X.cc pc = .ok (.getfield n, 3)) (hc : kcl[k]? = some (Cn, T, N)) (hs : (k != 0 && k.blt 100 && j.blt N && tg (T j).2.2.1 == 1 && 1000 * k + j == key) = true)
    (kk : Aw G X d t h0 Φ (pc + 3) lv (vJ v :: st) h) : Aw G X d t h0 Φ pc lv (vR a :: st) h := by
  subst hv
  rcases q with q | ⟨host, q⟩ | ⟨ref, q, qs⟩
  · exact r_getl k j hk q dg hc hs kk
  · exact r_getlN k j hk q dg hc hs kk
  · exact r_getlU k j hk q qs dg hc hs kk
theorem r_getr' (k j : Nat) {v : Nat} (hv : h.r key a = v) (hk : h.kd a = k) (q : fLk X.y.cls n T j) (dg : decode X.cc pc = .ok (.getfield n, 3)) (hc : kcl[k]? = some (Cn, T, N)) (hs : (k != 0 && k.blt 100 && j.blt N && tg (T j).2.2.1 == 2 && 1000 * k + j == key) = true)
    (kk : Aw G X d t h0 Φ (pc + 3) lv (vR v :: st) h) : Aw G X d t h0 Φ pc lv (vR a :: st) h := by
  subst hv
  rcases q with q | ⟨host, q⟩ | ⟨ref, q, qs⟩
  · exact r_getr k j hk q dg hc hs kk
  · exact r_getrN k j hk q dg hc hs kk
  · exact r_getrU k j hk q qs dg hc hs kk
/-- Object's own constructor -/
theorem r_objInit (hb : h.kd a ≠ 0) (q1 : Cond.methodLink X.y.cls n objectInit ∈ lw_all) (q2 : Cond.instanceMethod objectInit ∈ lw_all) (q3 : Cond.code objectInit ⟨#[0xb1]⟩ 1 none ∈ lw_all) (dg : decode X.cc pc = .ok (.invokespecial n, 3)) (hroom : (st.map ct).sum + 12 ≤ 392)
    (kk : Aw G X (d + 1) t h0 Φ (pc + 3) lv st h) : Aw G X (d + 1) t h0 Φ pc lv (vR a :: st) h := by
  refine Aw.pure1 (fun p e R s m args below meth c H locs cells slots Q ls C hL w hr kk => ?_) kk
  obtain ⟨C1, C2, C3, C4, C5, C6, C7, C8, C9, C10, C11, C12⟩ := C
  have hcat : ∀ l : List AV, ((l.map cv).map fun v => v.category).sum = (l.map ct).sum := by
    intro l
    induction l with
    | nil => rfl
    | cons a l ih => simp only [List.map_cons, List.sum_cons, ih, ct_cv]
  show W p G.1 e R s m args below meth c H locs cells slots Q (F0 m pc ls (vr a :: st.map cv))
  rw [vr_pos (w.ne rfl hb)]
  refine W.objInit C1 C2 C6 (C9 _ q1) (C9 _ q2) (C9 _ q3) rfl (by rw [C3]; exact hL.1) rfl dg (by omega) ?_ kk
  show 2 * 0 + ((st.map cv).map fun v => v.category).sum + 12 ≤ R.locals
  rw [hcat]
  omega
end More

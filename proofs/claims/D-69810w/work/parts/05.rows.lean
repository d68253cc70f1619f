/-! rows of the instructions that leave the heap (printed by gen/rows.py) -/
set_option maxRecDepth 100000
section LVW
variable {p : Program} {l : Launch} {e : Env} {R : Room} {s : State} {m : MethodId} {args : Array Value} {below : List Frame} {meth : Method} {c : Code} {H : Heap} {locs : List Loc} {cells slots : Nat} {Q : State → Prop}
variable {cc : ByteArray} {pc : Nat} {ls : Array Slot} {rest : List Value} {nL : Nat} {lv : List AV}
theorem w_istore_n (hexec : p.tables.exec = Jvm.exec) (hb : c.code = cc) {k : Fin 4} {x : Int32} (hdg : decode cc pc = .ok (.istore_n k, 1)) (h : LV ls nL lv) (hn : (k : Nat) < nL)
    (kk : ∀ ls' : Array Slot, LV ls' nL (lset1 lv k (vI x)) → W p l e R s m args below meth c H locs cells slots Q (F0 m (pc + 1) ls' rest)) : W p l e R s m args below meth c H locs cells slots Q (F0 m pc ls (.int x :: rest)) := by
  obtain ⟨ls', e', h'⟩ := h.st1 (v := vI x) hn rfl
  have e' : storeLocals ls k (.int x) = some ls' := e'
  intro T hT X
  obtain ⟨t, a, b⟩ := kk ls' h' T hT X
  refine ⟨t, ?_, b⟩
  jvm_step X.here [X.here.top, ↓top_set X.here.top, hexec, hb, hdg, e']
  exact a
theorem w_istore (hexec : p.tables.exec = Jvm.exec) (hb : c.code = cc) {k : Nat} {x : Int32} (hdg : decode cc pc = .ok (.istore k, 2)) (h : LV ls nL lv) (hn : k < nL)
    (kk : ∀ ls' : Array Slot, LV ls' nL (lset1 lv k (vI x)) → W p l e R s m args below meth c H locs cells slots Q (F0 m (pc + 2) ls' rest)) : W p l e R s m args below meth c H locs cells slots Q (F0 m pc ls (.int x :: rest)) := by
  obtain ⟨ls', e', h'⟩ := h.st1 (v := vI x) hn rfl
  have e' : storeLocals ls k (.int x) = some ls' := e'
  intro T hT X
  obtain ⟨t, a, b⟩ := kk ls' h' T hT X
  refine ⟨t, ?_, b⟩
  jvm_step X.here [X.here.top, ↓top_set X.here.top, hexec, hb, hdg, e']
  exact a
theorem w_lstore_n (hexec : p.tables.exec = Jvm.exec) (hb : c.code = cc) {k : Fin 4} {x : Int64} (hdg : decode cc pc = .ok (.lstore_n k, 1)) (h : LV ls nL lv) (hn : (k : Nat) + 1 < nL)
    (kk : ∀ ls' : Array Slot, LV ls' nL (lset2 lv k (vJ x)) → W p l e R s m args below meth c H locs cells slots Q (F0 m (pc + 1) ls' rest)) : W p l e R s m args below meth c H locs cells slots Q (F0 m pc ls (.long x :: rest)) := by
  obtain ⟨ls', e', h'⟩ := h.st2 (v := vJ x) hn rfl
  have e' : storeLocals ls k (.long x) = some ls' := e'
  intro T hT X
  obtain ⟨t, a, b⟩ := kk ls' h' T hT X
  refine ⟨t, ?_, b⟩
  jvm_step X.here [X.here.top, ↓top_set X.here.top, hexec, hb, hdg, e']
  exact a
theorem w_lstore (hexec : p.tables.exec = Jvm.exec) (hb : c.code = cc) {k : Nat} {x : Int64} (hdg : decode cc pc = .ok (.lstore k, 2)) (h : LV ls nL lv) (hn : k + 1 < nL)
    (kk : ∀ ls' : Array Slot, LV ls' nL (lset2 lv k (vJ x)) → W p l e R s m args below meth c H locs cells slots Q (F0 m (pc + 2) ls' rest)) : W p l e R s m args below meth c H locs cells slots Q (F0 m pc ls (.long x :: rest)) := by
  obtain ⟨ls', e', h'⟩ := h.st2 (v := vJ x) hn rfl
  have e' : storeLocals ls k (.long x) = some ls' := e'
  intro T hT X
  obtain ⟨t, a, b⟩ := kk ls' h' T hT X
  refine ⟨t, ?_, b⟩
  jvm_step X.here [X.here.top, ↓top_set X.here.top, hexec, hb, hdg, e']
  exact a
theorem w_astore_n (hexec : p.tables.exec = Jvm.exec) (hb : c.code = cc) {k : Fin 4} {x : Nat} (hdg : decode cc pc = .ok (.astore_n k, 1)) (h : LV ls nL lv) (hn : (k : Nat) < nL)
    (kk : ∀ ls' : Array Slot, LV ls' nL (lset1 lv k (vR x)) → W p l e R s m args below meth c H locs cells slots Q (F0 m (pc + 1) ls' rest)) : W p l e R s m args below meth c H locs cells slots Q (F0 m pc ls (vr x :: rest)) := by
  obtain ⟨ls', e', h'⟩ := h.st1 (v := vR x) hn rfl
  intro T hT X
  obtain ⟨t, a, b⟩ := kk ls' h' T hT X
  refine ⟨t, ?_, b⟩
  cases x with
  | zero =>
    have e' : storeLocals ls k .null = some ls' := e'
    show Steps p.tables e below (T.setTop (F0 m pc ls (.null :: rest))) t
    jvm_step X.here [X.here.top, ↓top_set X.here.top, hexec, hb, hdg, e']
    exact ⟨rfl, a⟩
  | succ x =>
    have e' : storeLocals ls k (.ref (x + 1)) = some ls' := e'
    show Steps p.tables e below (T.setTop (F0 m pc ls (.ref (x + 1) :: rest))) t
    jvm_step X.here [X.here.top, ↓top_set X.here.top, hexec, hb, hdg, e']
    exact ⟨rfl, a⟩
theorem w_astore (hexec : p.tables.exec = Jvm.exec) (hb : c.code = cc) {k : Nat} {x : Nat} (hdg : decode cc pc = .ok (.astore k, 2)) (h : LV ls nL lv) (hn : (k : Nat) < nL)
    (kk : ∀ ls' : Array Slot, LV ls' nL (lset1 lv k (vR x)) → W p l e R s m args below meth c H locs cells slots Q (F0 m (pc + 2) ls' rest)) : W p l e R s m args below meth c H locs cells slots Q (F0 m pc ls (vr x :: rest)) := by
  obtain ⟨ls', e', h'⟩ := h.st1 (v := vR x) hn rfl
  intro T hT X
  obtain ⟨t, a, b⟩ := kk ls' h' T hT X
  refine ⟨t, ?_, b⟩
  cases x with
  | zero =>
    have e' : storeLocals ls k .null = some ls' := e'
    show Steps p.tables e below (T.setTop (F0 m pc ls (.null :: rest))) t
    jvm_step X.here [X.here.top, ↓top_set X.here.top, hexec, hb, hdg, e']
    exact ⟨rfl, a⟩
  | succ x =>
    have e' : storeLocals ls k (.ref (x + 1)) = some ls' := e'
    show Steps p.tables e below (T.setTop (F0 m pc ls (.ref (x + 1) :: rest))) t
    jvm_step X.here [X.here.top, ↓top_set X.here.top, hexec, hb, hdg, e']
    exact ⟨rfl, a⟩
theorem w_iinc (hexec : p.tables.exec = Jvm.exec) (hb : c.code = cc) {i : Nat} {n : Int} {x : Int32} (hdg : decode cc pc = .ok (.iinc i n, 3)) (h : LV ls nL lv) (hk : lv[i]? = some (vI x)) (hn : i < nL)
    (kk : ∀ ls' : Array Slot, LV ls' nL (lset1 lv i (vI (x + Int32.ofInt n))) → W p l e R s m args below meth c H locs cells slots Q (F0 m (pc + 3) ls' rest)) : W p l e R s m args below meth c H locs cells slots Q (F0 m pc ls rest) := by
  have hg : ls[i]? = some (.val (.int x)) := h.2.2 i _ hk (fun q => by cases q)
  obtain ⟨ls', e', h'⟩ := h.st1 (v := vI (x + Int32.ofInt n)) hn rfl
  have e' : storeLocals ls i (.int (x + Int32.ofInt n)) = some ls' := e'
  intro T hT X
  obtain ⟨t, a, b⟩ := kk ls' h' T hT X
  refine ⟨t, ?_, b⟩
  jvm_step X.here [X.here.top, ↓top_set X.here.top, hexec, hb, hdg, hg, e']
  exact a
end LVW
section Pure2
variable {G : Gx} {X : Mx} {d t : Nat} {h0 h : AH} {Φ : Out → AH → Prop} {pc tgt : Nat} {lv lv' st : List AV} {x y z : Int32} {a b z2 : Int64} {u v w : AV} {off : Int}
theorem r_istore_n {n : Fin 4} (dg : decode X.cc pc = .ok (.istore_n n, 1)) (hn : (n : Nat) < X.nL) (hl : lset1 lv n (vI x) = lv') (k : Aw G X d t h0 Φ (pc + 1) lv' st h) : Aw G X d t h0 Φ pc lv (vI x :: st) h :=
  Aw.pure (fun p e R s m args below meth c H locs cells slots Q ls C hL w hr kk => w_istore_n C.1 C.2.1 dg hL hn (fun ls' h' => kk ls' (hl ▸ h'))) k
theorem r_istore {n : Nat} (dg : decode X.cc pc = .ok (.istore n, 2)) (hn : n < X.nL) (hl : lset1 lv n (vI x) = lv') (k : Aw G X d t h0 Φ (pc + 2) lv' st h) : Aw G X d t h0 Φ pc lv (vI x :: st) h :=
  Aw.pure (fun p e R s m args below meth c H locs cells slots Q ls C hL w hr kk => w_istore C.1 C.2.1 dg hL hn (fun ls' h' => kk ls' (hl ▸ h'))) k
theorem r_lstore_n {n : Fin 4} (dg : decode X.cc pc = .ok (.lstore_n n, 1)) (hn : (n : Nat) + 1 < X.nL) (hl : lset2 lv n (vJ a) = lv') (k : Aw G X d t h0 Φ (pc + 1) lv' st h) : Aw G X d t h0 Φ pc lv (vJ a :: st) h :=
  Aw.pure (fun p e R s m args below meth c H locs cells slots Q ls C hL w hr kk => w_lstore_n C.1 C.2.1 dg hL hn (fun ls' h' => kk ls' (hl ▸ h'))) k
theorem r_lstore {n : Nat} (dg : decode X.cc pc = .ok (.lstore n, 2)) (hn : n + 1 < X.nL) (hl : lset2 lv n (vJ a) = lv') (k : Aw G X d t h0 Φ (pc + 2) lv' st h) : Aw G X d t h0 Φ pc lv (vJ a :: st) h :=
  Aw.pure (fun p e R s m args below meth c H locs cells slots Q ls C hL w hr kk => w_lstore C.1 C.2.1 dg hL hn (fun ls' h' => kk ls' (hl ▸ h'))) k
theorem r_astore_n {n : Fin 4} {r : Nat} (dg : decode X.cc pc = .ok (.astore_n n, 1)) (hn : (n : Nat) < X.nL) (hl : lset1 lv n (vR r) = lv') (k : Aw G X d t h0 Φ (pc + 1) lv' st h) : Aw G X d t h0 Φ pc lv (vR r :: st) h :=
  Aw.pure (fun p e R s m args below meth c H locs cells slots Q ls C hL w hr kk => w_astore_n C.1 C.2.1 dg hL hn (fun ls' h' => kk ls' (hl ▸ h'))) k
theorem r_astore {n : Nat} {r : Nat} (dg : decode X.cc pc = .ok (.astore n, 2)) (hn : n < X.nL) (hl : lset1 lv n (vR r) = lv') (k : Aw G X d t h0 Φ (pc + 2) lv' st h) : Aw G X d t h0 Φ pc lv (vR r :: st) h :=
  Aw.pure (fun p e R s m args below meth c H locs cells slots Q ls C hL w hr kk => w_astore C.1 C.2.1 dg hL hn (fun ls' h' => kk ls' (hl ▸ h'))) k
theorem r_iinc {i : Nat} {n : Int} (dg : decode X.cc pc = .ok (.iinc i n, 3)) (hi : lv[i]? = some (vI x)) (hv : x + Int32.ofInt n = y) (hn : i < X.nL) (hl : lset1 lv i (vI y) = lv') (k : Aw G X d t h0 Φ (pc + 3) lv' st h) : Aw G X d t h0 Φ pc lv st h := by
  subst hv
  exact Aw.pure (fun p e R s m args below meth c H locs cells slots Q ls C hL w hr kk => w_iinc C.1 C.2.1 dg hL hi hn (fun ls' h' => kk ls' (hl ▸ h'))) k
theorem r_iadd (dg : decode X.cc pc = .ok (.iadd, 1)) (k : Aw G X d t h0 Φ (pc + 1) lv (vI (x + y) :: st) h) : Aw G X d t h0 Φ pc lv (vI y :: vI x :: st) h :=
  Aw.pure1 (fun p e R s m args below meth c H locs cells slots Q ls C hL w hr kk => lv_iadd C.1 C.2.1 dg kk) k
theorem r_isub (dg : decode X.cc pc = .ok (.isub, 1)) (k : Aw G X d t h0 Φ (pc + 1) lv (vI (x - y) :: st) h) : Aw G X d t h0 Φ pc lv (vI y :: vI x :: st) h :=
  Aw.pure1 (fun p e R s m args below meth c H locs cells slots Q ls C hL w hr kk => lv_isub C.1 C.2.1 dg kk) k
theorem r_imul (dg : decode X.cc pc = .ok (.imul, 1)) (k : Aw G X d t h0 Φ (pc + 1) lv (vI (x * y) :: st) h) : Aw G X d t h0 Φ pc lv (vI y :: vI x :: st) h :=
  Aw.pure1 (fun p e R s m args below meth c H locs cells slots Q ls C hL w hr kk => lv_imul C.1 C.2.1 dg kk) k
theorem r_iand (dg : decode X.cc pc = .ok (.iand, 1)) (k : Aw G X d t h0 Φ (pc + 1) lv (vI (x &&& y) :: st) h) : Aw G X d t h0 Φ pc lv (vI y :: vI x :: st) h :=
  Aw.pure1 (fun p e R s m args below meth c H locs cells slots Q ls C hL w hr kk => lv_iand C.1 C.2.1 dg kk) k
theorem r_ior (dg : decode X.cc pc = .ok (.ior, 1)) (k : Aw G X d t h0 Φ (pc + 1) lv (vI (x ||| y) :: st) h) : Aw G X d t h0 Φ pc lv (vI y :: vI x :: st) h :=
  Aw.pure1 (fun p e R s m args below meth c H locs cells slots Q ls C hL w hr kk => lv_ior C.1 C.2.1 dg kk) k
theorem r_ixor (dg : decode X.cc pc = .ok (.ixor, 1)) (k : Aw G X d t h0 Φ (pc + 1) lv (vI (x ^^^ y) :: st) h) : Aw G X d t h0 Φ pc lv (vI y :: vI x :: st) h :=
  Aw.pure1 (fun p e R s m args below meth c H locs cells slots Q ls C hL w hr kk => lv_ixor C.1 C.2.1 dg kk) k
theorem r_ishl (dg : decode X.cc pc = .ok (.ishl, 1)) (k : Aw G X d t h0 Φ (pc + 1) lv (vI (x <<< (y &&& 31)) :: st) h) : Aw G X d t h0 Φ pc lv (vI y :: vI x :: st) h :=
  Aw.pure1 (fun p e R s m args below meth c H locs cells slots Q ls C hL w hr kk => lv_ishl C.1 C.2.1 dg kk) k
theorem r_ishr (dg : decode X.cc pc = .ok (.ishr, 1)) (k : Aw G X d t h0 Φ (pc + 1) lv (vI (x >>> (y &&& 31)) :: st) h) : Aw G X d t h0 Φ pc lv (vI y :: vI x :: st) h :=
  Aw.pure1 (fun p e R s m args below meth c H locs cells slots Q ls C hL w hr kk => lv_ishr C.1 C.2.1 dg kk) k
theorem r_idiv (hne : ¬ y = 0) (dg : decode X.cc pc = .ok (.idiv, 1)) (k : Aw G X d t h0 Φ (pc + 1) lv (vI (x / y) :: st) h) : Aw G X d t h0 Φ pc lv (vI y :: vI x :: st) h :=
  Aw.pure1 (fun p e R s m args below meth c H locs cells slots Q ls C hL w hr kk => lv_idiv C.1 C.2.1 dg hne kk) k
theorem r_irem (hne : ¬ y = 0) (dg : decode X.cc pc = .ok (.irem, 1)) (k : Aw G X d t h0 Φ (pc + 1) lv (vI (x - x / y * y) :: st) h) : Aw G X d t h0 Φ pc lv (vI y :: vI x :: st) h :=
  Aw.pure1 (fun p e R s m args below meth c H locs cells slots Q ls C hL w hr kk => lv_irem C.1 C.2.1 dg hne kk) k
theorem r_iushr (dg : decode X.cc pc = .ok (.iushr, 1)) (k : Aw G X d t h0 Φ (pc + 1) lv (vI ((x.toUInt32 >>> (y.toUInt32 &&& Int32.toUInt32 31)).toInt32) :: st) h) : Aw G X d t h0 Φ pc lv (vI y :: vI x :: st) h :=
  Aw.pure1 (fun p e R s m args below meth c H locs cells slots Q ls C hL w hr kk => lv_iushr C.1 C.2.1 dg rfl kk) k
theorem r_ineg (dg : decode X.cc pc = .ok (.ineg, 1)) (k : Aw G X d t h0 Φ (pc + 1) lv (vI (-x) :: st) h) : Aw G X d t h0 Φ pc lv (vI x :: st) h :=
  Aw.pure1 (fun p e R s m args below meth c H locs cells slots Q ls C hL w hr kk => lv_ineg C.1 C.2.1 dg kk) k
theorem r_ladd (dg : decode X.cc pc = .ok (.ladd, 1)) (k : Aw G X d t h0 Φ (pc + 1) lv (vJ (a + b) :: st) h) : Aw G X d t h0 Φ pc lv (vJ b :: vJ a :: st) h :=
  Aw.pure1 (fun p e R s m args below meth c H locs cells slots Q ls C hL w hr kk => lv_ladd C.1 C.2.1 dg kk) k
theorem r_lsub (dg : decode X.cc pc = .ok (.lsub, 1)) (k : Aw G X d t h0 Φ (pc + 1) lv (vJ (a - b) :: st) h) : Aw G X d t h0 Φ pc lv (vJ b :: vJ a :: st) h :=
  Aw.pure1 (fun p e R s m args below meth c H locs cells slots Q ls C hL w hr kk => lv_lsub C.1 C.2.1 dg kk) k
theorem r_lmul (dg : decode X.cc pc = .ok (.lmul, 1)) (k : Aw G X d t h0 Φ (pc + 1) lv (vJ (a * b) :: st) h) : Aw G X d t h0 Φ pc lv (vJ b :: vJ a :: st) h :=
  Aw.pure1 (fun p e R s m args below meth c H locs cells slots Q ls C hL w hr kk => lv_lmul C.1 C.2.1 dg kk) k
theorem r_land (dg : decode X.cc pc = .ok (.land, 1)) (k : Aw G X d t h0 Φ (pc + 1) lv (vJ (a &&& b) :: st) h) : Aw G X d t h0 Φ pc lv (vJ b :: vJ a :: st) h :=
  Aw.pure1 (fun p e R s m args below meth c H locs cells slots Q ls C hL w hr kk => lv_land C.1 C.2.1 dg kk) k
theorem r_lor (dg : decode X.cc pc = .ok (.lor, 1)) (k : Aw G X d t h0 Φ (pc + 1) lv (vJ (a ||| b) :: st) h) : Aw G X d t h0 Φ pc lv (vJ b :: vJ a :: st) h :=
  Aw.pure1 (fun p e R s m args below meth c H locs cells slots Q ls C hL w hr kk => lv_lor C.1 C.2.1 dg kk) k
theorem r_lxor (dg : decode X.cc pc = .ok (.lxor, 1)) (k : Aw G X d t h0 Φ (pc + 1) lv (vJ (a ^^^ b) :: st) h) : Aw G X d t h0 Φ pc lv (vJ b :: vJ a :: st) h :=
  Aw.pure1 (fun p e R s m args below meth c H locs cells slots Q ls C hL w hr kk => lv_lxor C.1 C.2.1 dg kk) k
theorem r_ldiv (hne : ¬ b = 0) (dg : decode X.cc pc = .ok (.ldiv, 1)) (k : Aw G X d t h0 Φ (pc + 1) lv (vJ (a / b) :: st) h) : Aw G X d t h0 Φ pc lv (vJ b :: vJ a :: st) h :=
  Aw.pure1 (fun p e R s m args below meth c H locs cells slots Q ls C hL w hr kk => lv_ldiv C.1 C.2.1 dg hne kk) k
theorem r_lrem (hne : ¬ b = 0) (dg : decode X.cc pc = .ok (.lrem, 1)) (k : Aw G X d t h0 Φ (pc + 1) lv (vJ (a - a / b * b) :: st) h) : Aw G X d t h0 Φ pc lv (vJ b :: vJ a :: st) h :=
  Aw.pure1 (fun p e R s m args below meth c H locs cells slots Q ls C hL w hr kk => lv_lrem C.1 C.2.1 dg hne kk) k
theorem r_lneg (dg : decode X.cc pc = .ok (.lneg, 1)) (k : Aw G X d t h0 Φ (pc + 1) lv (vJ (-a) :: st) h) : Aw G X d t h0 Φ pc lv (vJ a :: st) h :=
  Aw.pure1 (fun p e R s m args below meth c H locs cells slots Q ls C hL w hr kk => lv_lneg C.1 C.2.1 dg kk) k
theorem r_lushr (dg : decode X.cc pc = .ok (.lushr, 1)) (k : Aw G X d t h0 Φ (pc + 1) lv (vJ ((a.toUInt64 >>> (y.toInt64.toUInt64 &&& Int64.toUInt64 63)).toInt64) :: st) h) : Aw G X d t h0 Φ pc lv (vI y :: vJ a :: st) h :=
  Aw.pure1 (fun p e R s m args below meth c H locs cells slots Q ls C hL w hr kk => lv_lushr C.1 C.2.1 dg rfl kk) k
theorem r_lshl (dg : decode X.cc pc = .ok (.lshl, 1)) (k : Aw G X d t h0 Φ (pc + 1) lv (vJ (a <<< (y.toInt64 &&& 63)) :: st) h) : Aw G X d t h0 Φ pc lv (vI y :: vJ a :: st) h :=
  Aw.pure1 (fun p e R s m args below meth c H locs cells slots Q ls C hL w hr kk => lv_lshl C.1 C.2.1 dg rfl kk) k
theorem r_lshr (dg : decode X.cc pc = .ok (.lshr, 1)) (k : Aw G X d t h0 Φ (pc + 1) lv (vJ (a >>> (y.toInt64 &&& 63)) :: st) h) : Aw G X d t h0 Φ pc lv (vI y :: vJ a :: st) h :=
  Aw.pure1 (fun p e R s m args below meth c H locs cells slots Q ls C hL w hr kk => lv_lshr C.1 C.2.1 dg rfl kk) k
theorem r_i2l (dg : decode X.cc pc = .ok (.i2l, 1)) (k : Aw G X d t h0 Φ (pc + 1) lv (vJ x.toInt64 :: st) h) : Aw G X d t h0 Φ pc lv (vI x :: st) h :=
  Aw.pure1 (fun p e R s m args below meth c H locs cells slots Q ls C hL w hr kk => lv_i2l C.1 C.2.1 dg rfl kk) k
theorem r_l2i (dg : decode X.cc pc = .ok (.l2i, 1)) (k : Aw G X d t h0 Φ (pc + 1) lv (vI a.toInt32 :: st) h) : Aw G X d t h0 Φ pc lv (vJ a :: st) h :=
  Aw.pure1 (fun p e R s m args below meth c H locs cells slots Q ls C hL w hr kk => lv_l2i C.1 C.2.1 dg rfl kk) k
theorem r_i2b (dg : decode X.cc pc = .ok (.i2b, 1)) (k : Aw G X d t h0 Φ (pc + 1) lv (vI x.toInt8.toInt32 :: st) h) : Aw G X d t h0 Φ pc lv (vI x :: st) h :=
  Aw.pure1 (fun p e R s m args below meth c H locs cells slots Q ls C hL w hr kk => lv_i2b C.1 C.2.1 dg rfl kk) k
theorem r_i2c (dg : decode X.cc pc = .ok (.i2c, 1)) (k : Aw G X d t h0 Φ (pc + 1) lv (vI (x.toUInt32 % 65536).toInt32 :: st) h) : Aw G X d t h0 Φ pc lv (vI x :: st) h :=
  Aw.pure1 (fun p e R s m args below meth c H locs cells slots Q ls C hL w hr kk => lv_i2c C.1 C.2.1 dg rfl kk) k
theorem r_lcmp (dg : decode X.cc pc = .ok (.lcmp, 1)) (k : Aw G X d t h0 Φ (pc + 1) lv (vI (lg_cmp a b) :: st) h) : Aw G X d t h0 Φ pc lv (vJ b :: vJ a :: st) h :=
  Aw.pure1 (fun p e R s m args below meth c H locs cells slots Q ls C hL w hr kk => W.lcmp C.1 C.2.1 dg kk) k
theorem r_dup (hu : ct u = 1) (dg : decode X.cc pc = .ok (.dup, 1)) (k : Aw G X d t h0 Φ (pc + 1) lv (u :: u :: st) h) : Aw G X d t h0 Φ pc lv (u :: st) h :=
  Aw.pure1 (fun p e R s m args below meth c H locs cells slots Q ls C hL w hr kk => lv_dup C.1 C.2.1 dg (by rw [ct_cv]; exact hu) kk) k
theorem r_pop (hu : ct u = 1) (dg : decode X.cc pc = .ok (.pop, 1)) (k : Aw G X d t h0 Φ (pc + 1) lv (st) h) : Aw G X d t h0 Φ pc lv (u :: st) h :=
  Aw.pure1 (fun p e R s m args below meth c H locs cells slots Q ls C hL w hr kk => lv_pop C.1 C.2.1 dg (by rw [ct_cv]; exact hu) kk) k
theorem r_dup_x1 (hu : ct u = 1) (hv : ct v = 1) (dg : decode X.cc pc = .ok (.dup_x1, 1)) (k : Aw G X d t h0 Φ (pc + 1) lv (u :: v :: u :: st) h) : Aw G X d t h0 Φ pc lv (u :: v :: st) h :=
  Aw.pure1 (fun p e R s m args below meth c H locs cells slots Q ls C hL w hr kk => lv_dup_x1 C.1 C.2.1 dg (by rw [ct_cv]; exact hu) (by rw [ct_cv]; exact hv) kk) k
theorem r_dup2 (hu : ct u = 1) (hv : ct v = 1) (dg : decode X.cc pc = .ok (.dup2, 1)) (k : Aw G X d t h0 Φ (pc + 1) lv (u :: v :: u :: v :: st) h) : Aw G X d t h0 Φ pc lv (u :: v :: st) h :=
  Aw.pure1 (fun p e R s m args below meth c H locs cells slots Q ls C hL w hr kk => lv_dup2_11 C.1 C.2.1 dg (by rw [ct_cv]; exact hu) (by rw [ct_cv]; exact hv) kk) k
theorem r_dup2L (hu : ct u = 2) (dg : decode X.cc pc = .ok (.dup2, 1)) (k : Aw G X d t h0 Φ (pc + 1) lv (u :: u :: st) h) : Aw G X d t h0 Φ pc lv (u :: st) h :=
  Aw.pure1 (fun p e R s m args below meth c H locs cells slots Q ls C hL w hr kk => lv_dup2_2 C.1 C.2.1 dg (by rw [ct_cv]; exact hu) kk) k
theorem r_pop2 (hu : ct u = 1) (hv : ct v = 1) (dg : decode X.cc pc = .ok (.pop2, 1)) (k : Aw G X d t h0 Φ (pc + 1) lv (st) h) : Aw G X d t h0 Φ pc lv (u :: v :: st) h :=
  Aw.pure1 (fun p e R s m args below meth c H locs cells slots Q ls C hL w hr kk => lv_pop2_11 C.1 C.2.1 dg (by rw [ct_cv]; exact hu) (by rw [ct_cv]; exact hv) kk) k
theorem r_pop2L (hu : ct u = 2) (dg : decode X.cc pc = .ok (.pop2, 1)) (k : Aw G X d t h0 Φ (pc + 1) lv (st) h) : Aw G X d t h0 Φ pc lv (u :: st) h :=
  Aw.pure1 (fun p e R s m args below meth c H locs cells slots Q ls C hL w hr kk => lv_pop2_2 C.1 C.2.1 dg (by rw [ct_cv]; exact hu) kk) k
theorem r_null (dg : decode X.cc pc = .ok (.aconst_null, 1)) (k : Aw G X d t h0 Φ (pc + 1) lv (vR 0 :: st) h) : Aw G X d t h0 Φ pc lv (st) h :=
  Aw.pure1 (fun p e R s m args below meth c H locs cells slots Q ls C hL w hr kk => lv_null C.1 C.2.1 dg kk) k
theorem r_ldc {n : Nat} (dg : decode X.cc pc = .ok (.ldc n, 2)) (q : Cond.constant X.y.cls n x ∈ lw_all) (k : Aw G X d t h0 Φ (pc + 2) lv (vI x :: st) h) : Aw G X d t h0 Φ pc lv st h :=
  Aw.pure1 (fun p e R s m args below meth c H locs cells slots Q ls C hL w hr kk => lv_ldc C.1 C.2.1 C.2.2.2.2.2.1 (C.2.2.2.2.2.2.2.2.1 _ q) dg kk) k
theorem r_ldc_w {n : Nat} (dg : decode X.cc pc = .ok (.ldc_w n, 3)) (q : Cond.constant X.y.cls n x ∈ lw_all) (k : Aw G X d t h0 Φ (pc + 3) lv (vI x :: st) h) : Aw G X d t h0 Φ pc lv st h :=
  Aw.pure1 (fun p e R s m args below meth c H locs cells slots Q ls C hL w hr kk => lv_ldcw C.1 C.2.1 C.2.2.2.2.2.1 (C.2.2.2.2.2.2.2.2.1 _ q) dg kk) k
theorem r_ldc2 {n : Nat} (dg : decode X.cc pc = .ok (.ldc2_w n, 3)) (q : Cond.constantLong X.y.cls n a ∈ lw_all) (k : Aw G X d t h0 Φ (pc + 3) lv (vJ a :: st) h) : Aw G X d t h0 Φ pc lv st h :=
  Aw.pure1 (fun p e R s m args below meth c H locs cells slots Q ls C hL w hr kk => lv_ldc2 C.1 C.2.1 C.2.2.2.2.2.1 (C.2.2.2.2.2.2.2.2.1 _ q) dg kk) k
theorem r_goto (dg : decode X.cc pc = .ok (.goto off, 3)) (ht : (pc : Int) + off = (tgt : Int)) (k : Aw G X d t h0 Φ tgt lv st h) : Aw G X d t h0 Φ pc lv st h :=
  Aw.pure1 (fun p e R s m args below meth c H locs cells slots Q ls C hL w hr kk => lv_goto C.1 C.2.1 dg ht kk) k
theorem r_if_eq (dg : decode X.cc pc = .ok (.ifCond .eq off, 3)) (ht : (pc : Int) + off = (tgt : Int)) (kt : x = 0 → Aw G X d t h0 Φ tgt lv st h) (kf : ¬ x = 0 → Aw G X d t h0 Φ (pc + 3) lv st h) : Aw G X d t h0 Φ pc lv (vI x :: st) h :=
  Aw.br (P := x = 0) (fun p e R s m args below meth c H locs cells slots Q ls C kt kf => lv_if_eq C.1 C.2.1 dg ht kt kf) kt kf
theorem r_icmp_eq (dg : decode X.cc pc = .ok (.if_icmp .eq off, 3)) (ht : (pc : Int) + off = (tgt : Int)) (kt : x = y → Aw G X d t h0 Φ tgt lv st h) (kf : ¬ x = y → Aw G X d t h0 Φ (pc + 3) lv st h) : Aw G X d t h0 Φ pc lv (vI y :: vI x :: st) h :=
  Aw.br (P := x = y) (fun p e R s m args below meth c H locs cells slots Q ls C kt kf => lv_icmp_eq C.1 C.2.1 dg ht kt kf) kt kf
theorem r_lcmp_eq (dg0 : decode X.cc pc = .ok (.lcmp, 1)) (dg : decode X.cc (pc + 1) = .ok (.ifCond .eq off, 3)) (ht : ((pc + 1 : Nat) : Int) + off = (tgt : Int)) (kt : a = b → Aw G X d t h0 Φ tgt lv st h) (kf : ¬ a = b → Aw G X d t h0 Φ (pc + 1 + 3) lv st h) : Aw G X d t h0 Φ pc lv (vJ b :: vJ a :: st) h :=
  r_lcmp dg0 (r_if_eq dg ht (fun q => kt ((lg_cmp_eq a b).mp q)) (fun q => kf (fun z => q ((lg_cmp_eq a b).mpr z))))
theorem r_if_ne (dg : decode X.cc pc = .ok (.ifCond .ne off, 3)) (ht : (pc : Int) + off = (tgt : Int)) (kt : (¬ x = 0) → Aw G X d t h0 Φ tgt lv st h) (kf : x = 0 → Aw G X d t h0 Φ (pc + 3) lv st h) : Aw G X d t h0 Φ pc lv (vI x :: st) h :=
  Aw.br (P := (¬ x = 0)) (fun p e R s m args below meth c H locs cells slots Q ls C kt kf => lv_if_ne C.1 C.2.1 dg ht kt (fun q => kf (fun z => z q))) kt (fun q => kf (Decidable.of_not_not q))
theorem r_icmp_ne (dg : decode X.cc pc = .ok (.if_icmp .ne off, 3)) (ht : (pc : Int) + off = (tgt : Int)) (kt : (¬ x = y) → Aw G X d t h0 Φ tgt lv st h) (kf : x = y → Aw G X d t h0 Φ (pc + 3) lv st h) : Aw G X d t h0 Φ pc lv (vI y :: vI x :: st) h :=
  Aw.br (P := (¬ x = y)) (fun p e R s m args below meth c H locs cells slots Q ls C kt kf => lv_icmp_ne C.1 C.2.1 dg ht kt (fun q => kf (fun z => z q))) kt (fun q => kf (Decidable.of_not_not q))
theorem r_lcmp_ne (dg0 : decode X.cc pc = .ok (.lcmp, 1)) (dg : decode X.cc (pc + 1) = .ok (.ifCond .ne off, 3)) (ht : ((pc + 1 : Nat) : Int) + off = (tgt : Int)) (kt : ¬ a = b → Aw G X d t h0 Φ tgt lv st h) (kf : a = b → Aw G X d t h0 Φ (pc + 1 + 3) lv st h) : Aw G X d t h0 Φ pc lv (vJ b :: vJ a :: st) h :=
  r_lcmp dg0 (r_if_ne dg ht (fun q => kt (fun z => q ((lg_cmp_eq a b).mpr z))) (fun q => kf ((lg_cmp_eq a b).mp q)))
theorem r_if_lt (dg : decode X.cc pc = .ok (.ifCond .lt off, 3)) (ht : (pc : Int) + off = (tgt : Int)) (kt : x < 0 → Aw G X d t h0 Φ tgt lv st h) (kf : ¬ x < 0 → Aw G X d t h0 Φ (pc + 3) lv st h) : Aw G X d t h0 Φ pc lv (vI x :: st) h :=
  Aw.br (P := x < 0) (fun p e R s m args below meth c H locs cells slots Q ls C kt kf => lv_if_lt C.1 C.2.1 dg ht kt kf) kt kf
theorem r_icmp_lt (dg : decode X.cc pc = .ok (.if_icmp .lt off, 3)) (ht : (pc : Int) + off = (tgt : Int)) (kt : x < y → Aw G X d t h0 Φ tgt lv st h) (kf : ¬ x < y → Aw G X d t h0 Φ (pc + 3) lv st h) : Aw G X d t h0 Φ pc lv (vI y :: vI x :: st) h :=
  Aw.br (P := x < y) (fun p e R s m args below meth c H locs cells slots Q ls C kt kf => lv_icmp_lt C.1 C.2.1 dg ht kt kf) kt kf
theorem r_lcmp_lt (dg0 : decode X.cc pc = .ok (.lcmp, 1)) (dg : decode X.cc (pc + 1) = .ok (.ifCond .lt off, 3)) (ht : ((pc + 1 : Nat) : Int) + off = (tgt : Int)) (kt : a < b → Aw G X d t h0 Φ tgt lv st h) (kf : ¬ a < b → Aw G X d t h0 Φ (pc + 1 + 3) lv st h) : Aw G X d t h0 Φ pc lv (vJ b :: vJ a :: st) h :=
  r_lcmp dg0 (r_if_lt dg ht (fun q => kt ((lg_cmp_lt a b).mp q)) (fun q => kf (fun z => q ((lg_cmp_lt a b).mpr z))))
theorem r_if_ge (dg : decode X.cc pc = .ok (.ifCond .ge off, 3)) (ht : (pc : Int) + off = (tgt : Int)) (kt : 0 ≤ x → Aw G X d t h0 Φ tgt lv st h) (kf : ¬ 0 ≤ x → Aw G X d t h0 Φ (pc + 3) lv st h) : Aw G X d t h0 Φ pc lv (vI x :: st) h :=
  Aw.br (P := 0 ≤ x) (fun p e R s m args below meth c H locs cells slots Q ls C kt kf => lv_if_ge C.1 C.2.1 dg ht kt kf) kt kf
theorem r_icmp_ge (dg : decode X.cc pc = .ok (.if_icmp .ge off, 3)) (ht : (pc : Int) + off = (tgt : Int)) (kt : y ≤ x → Aw G X d t h0 Φ tgt lv st h) (kf : ¬ y ≤ x → Aw G X d t h0 Φ (pc + 3) lv st h) : Aw G X d t h0 Φ pc lv (vI y :: vI x :: st) h :=
  Aw.br (P := y ≤ x) (fun p e R s m args below meth c H locs cells slots Q ls C kt kf => lv_icmp_ge C.1 C.2.1 dg ht kt kf) kt kf
theorem r_lcmp_ge (dg0 : decode X.cc pc = .ok (.lcmp, 1)) (dg : decode X.cc (pc + 1) = .ok (.ifCond .ge off, 3)) (ht : ((pc + 1 : Nat) : Int) + off = (tgt : Int)) (kt : b ≤ a → Aw G X d t h0 Φ tgt lv st h) (kf : ¬ b ≤ a → Aw G X d t h0 Φ (pc + 1 + 3) lv st h) : Aw G X d t h0 Φ pc lv (vJ b :: vJ a :: st) h :=
  r_lcmp dg0 (r_if_ge dg ht (fun q => kt ((lg_cmp_ge a b).mp q)) (fun q => kf (fun z => q ((lg_cmp_ge a b).mpr z))))
theorem r_if_gt (dg : decode X.cc pc = .ok (.ifCond .gt off, 3)) (ht : (pc : Int) + off = (tgt : Int)) (kt : 0 < x → Aw G X d t h0 Φ tgt lv st h) (kf : ¬ 0 < x → Aw G X d t h0 Φ (pc + 3) lv st h) : Aw G X d t h0 Φ pc lv (vI x :: st) h :=
  Aw.br (P := 0 < x) (fun p e R s m args below meth c H locs cells slots Q ls C kt kf => lv_if_gt C.1 C.2.1 dg ht kt kf) kt kf
theorem r_icmp_gt (dg : decode X.cc pc = .ok (.if_icmp .gt off, 3)) (ht : (pc : Int) + off = (tgt : Int)) (kt : y < x → Aw G X d t h0 Φ tgt lv st h) (kf : ¬ y < x → Aw G X d t h0 Φ (pc + 3) lv st h) : Aw G X d t h0 Φ pc lv (vI y :: vI x :: st) h :=
  Aw.br (P := y < x) (fun p e R s m args below meth c H locs cells slots Q ls C kt kf => lv_icmp_gt C.1 C.2.1 dg ht kt kf) kt kf
theorem r_lcmp_gt (dg0 : decode X.cc pc = .ok (.lcmp, 1)) (dg : decode X.cc (pc + 1) = .ok (.ifCond .gt off, 3)) (ht : ((pc + 1 : Nat) : Int) + off = (tgt : Int)) (kt : b < a → Aw G X d t h0 Φ tgt lv st h) (kf : ¬ b < a → Aw G X d t h0 Φ (pc + 1 + 3) lv st h) : Aw G X d t h0 Φ pc lv (vJ b :: vJ a :: st) h :=
  r_lcmp dg0 (r_if_gt dg ht (fun q => kt ((lg_cmp_gt a b).mp q)) (fun q => kf (fun z => q ((lg_cmp_gt a b).mpr z))))
theorem r_if_le (dg : decode X.cc pc = .ok (.ifCond .le off, 3)) (ht : (pc : Int) + off = (tgt : Int)) (kt : x ≤ 0 → Aw G X d t h0 Φ tgt lv st h) (kf : ¬ x ≤ 0 → Aw G X d t h0 Φ (pc + 3) lv st h) : Aw G X d t h0 Φ pc lv (vI x :: st) h :=
  Aw.br (P := x ≤ 0) (fun p e R s m args below meth c H locs cells slots Q ls C kt kf => lv_if_le C.1 C.2.1 dg ht kt kf) kt kf
theorem r_icmp_le (dg : decode X.cc pc = .ok (.if_icmp .le off, 3)) (ht : (pc : Int) + off = (tgt : Int)) (kt : x ≤ y → Aw G X d t h0 Φ tgt lv st h) (kf : ¬ x ≤ y → Aw G X d t h0 Φ (pc + 3) lv st h) : Aw G X d t h0 Φ pc lv (vI y :: vI x :: st) h :=
  Aw.br (P := x ≤ y) (fun p e R s m args below meth c H locs cells slots Q ls C kt kf => lv_icmp_le C.1 C.2.1 dg ht kt kf) kt kf
theorem r_lcmp_le (dg0 : decode X.cc pc = .ok (.lcmp, 1)) (dg : decode X.cc (pc + 1) = .ok (.ifCond .le off, 3)) (ht : ((pc + 1 : Nat) : Int) + off = (tgt : Int)) (kt : a ≤ b → Aw G X d t h0 Φ tgt lv st h) (kf : ¬ a ≤ b → Aw G X d t h0 Φ (pc + 1 + 3) lv st h) : Aw G X d t h0 Φ pc lv (vJ b :: vJ a :: st) h :=
  r_lcmp dg0 (r_if_le dg ht (fun q => kt ((lg_cmp_le a b).mp q)) (fun q => kf (fun z => q ((lg_cmp_le a b).mpr z))))
theorem vr_rf (r : Nat) : vr r = va_rf (if r = 0 then none else some r) := by
  cases r with
  | zero => rfl
  | succ n => rfl
theorem rf_eq {r q : Nat} : ((if r = 0 then none else some r : Option Nat) = if q = 0 then none else some q) ↔ r = q := by
  by_cases h1 : r = 0 <;> by_cases h2 : q = 0 <;> simp [h1, h2]
  · exact fun e => h2 e.symm
theorem r_acmp_eq {r q : Nat} (dg : decode X.cc pc = .ok (.if_acmp .eq off, 3)) (ht : (pc : Int) + off = (tgt : Int)) (kt : r = q → Aw G X d t h0 Φ tgt lv st h) (kf : ¬ r = q → Aw G X d t h0 Φ (pc + 3) lv st h) : Aw G X d t h0 Φ pc lv (vR q :: vR r :: st) h :=
  Aw.br (P := r = q) (fun p e R s m args below meth c H locs cells slots Q ls C kt kf => by
    show W p G.1 e R s m args below meth c H locs cells slots Q (F0 m pc ls (vr q :: vr r :: st.map cv))
    rw [vr_rf q, vr_rf r]
    exact lv_acmp_eq C.1 C.2.1 dg ht (fun z => kt (rf_eq.mp z)) (fun z => kf (fun w => z (rf_eq.mpr w)))) kt kf
theorem r_acmp_ne {r q : Nat} (dg : decode X.cc pc = .ok (.if_acmp .ne off, 3)) (ht : (pc : Int) + off = (tgt : Int)) (kt : ¬ r = q → Aw G X d t h0 Φ tgt lv st h) (kf : r = q → Aw G X d t h0 Φ (pc + 3) lv st h) : Aw G X d t h0 Φ pc lv (vR q :: vR r :: st) h :=
  Aw.br (P := ¬ r = q) (fun p e R s m args below meth c H locs cells slots Q ls C kt kf => by
    show W p G.1 e R s m args below meth c H locs cells slots Q (F0 m pc ls (vr q :: vr r :: st.map cv))
    rw [vr_rf q, vr_rf r]
    exact lv_acmp_ne C.1 C.2.1 dg ht (fun z => kt (fun w => z (rf_eq.mpr w))) (fun z => kf (fun w => w (rf_eq.mp z)))) kt (fun q => kf (Decidable.of_not_not q))
theorem r_ifnull {r : Nat} (dg : decode X.cc pc = .ok (.ifnull off, 3)) (ht : (pc : Int) + off = (tgt : Int)) (kt : r = 0 → Aw G X d t h0 Φ tgt lv st h) (kf : ¬ r = 0 → Aw G X d t h0 Φ (pc + 3) lv st h) : Aw G X d t h0 Φ pc lv (vR r :: st) h :=
  Aw.br (P := r = 0) (fun p e R s m args below meth c H locs cells slots Q ls C kt kf => by
    cases r with
    | zero => exact lv_ifnullN C.1 C.2.1 dg ht (kt rfl)
    | succ r => exact lv_ifnull C.1 C.2.1 dg (kf (by omega))) kt kf
theorem r_ifnonnull {r : Nat} (dg : decode X.cc pc = .ok (.ifnonnull off, 3)) (ht : (pc : Int) + off = (tgt : Int)) (kt : ¬ r = 0 → Aw G X d t h0 Φ tgt lv st h) (kf : r = 0 → Aw G X d t h0 Φ (pc + 3) lv st h) : Aw G X d t h0 Φ pc lv (vR r :: st) h :=
  Aw.br (P := ¬ r = 0) (fun p e R s m args below meth c H locs cells slots Q ls C kt kf => by
    cases r with
    | zero => exact lv_ifnonnullN C.1 C.2.1 dg (kf (by omega))
    | succ r => exact lv_ifnonnull C.1 C.2.1 dg ht (kt (by omega))) kt (fun q => kf (Decidable.of_not_not q))
theorem r_tableOut {dflt lo hi : Int} {offs : Array Int} {len : Nat} (dg : decode X.cc pc = .ok (.tableswitch dflt lo hi offs, len)) (hx : x.toInt < lo ∨ hi < x.toInt) (ht : (pc : Int) + dflt = (tgt : Int)) (k : Aw G X d t h0 Φ tgt lv st h) : Aw G X d t h0 Φ pc lv (vI x :: st) h :=
  Aw.pure1 (fun p e R s m args below meth c H locs cells slots Q ls C hL w hr kk => lv_tableOut C.1 C.2.1 dg hx ht kk) k
theorem r_tableIn {dflt lo hi : Int} {offs : Array Int} {len : Nat} (dg : decode X.cc pc = .ok (.tableswitch dflt lo hi offs, len)) (h1 : ¬ x.toInt < lo) (h2 : ¬ hi < x.toInt) (ho : offs[(x.toInt - lo).toNat]? = some off) (ht : (pc : Int) + off = (tgt : Int)) (k : Aw G X d t h0 Φ tgt lv st h) : Aw G X d t h0 Φ pc lv (vI x :: st) h :=
  Aw.pure1 (fun p e R s m args below meth c H locs cells slots Q ls C hL w hr kk => lv_tableIn C.1 C.2.1 dg h1 h2 ho ht kk) k
/-- a value gets a name -/
theorem r_topi (k : ∀ z : Int32, z = x → Aw G X d t h0 Φ pc lv (vI z :: st) h) : Aw G X d t h0 Φ pc lv (vI x :: st) h := k x rfl
theorem r_topl (k : ∀ z : Int64, z = a → Aw G X d t h0 Φ pc lv (vJ z :: st) h) : Aw G X d t h0 Φ pc lv (vJ a :: st) h := k a rfl
theorem r_topr {r : Nat} (k : ∀ z : Nat, z = r → Aw G X d t h0 Φ pc lv (vR z :: st) h) : Aw G X d t h0 Φ pc lv (vR r :: st) h := k r rfl
end Pure2

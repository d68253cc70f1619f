/-! rows of new arrays, and of ends -/
set_option maxRecDepth 100000
section Ends
variable {G : Gx} {X : Mx} {d t : Nat} {h0 h h1 : AH} {Φ : Out → AH → Prop} {pc pc' : Nat} {lv st st' : List AV} {a k j n N key : Nat} {Cn host : String} {T : u_T} {i x : Int32}
theorem ref_z {e : Env} {p : Program} {R : Room} {s : State} {m : MethodId} {args : Array Value} {below : List Frame} {meth : Method} {c : Code} {H : Heap} {locs : List Loc} {cells slots : Nat} {Q : State → Prop} {ls : Array Slot} {rest : List Value} (w : WF G h) (kk : W p G.1 e R s m args below meth c H locs cells slots Q (F0 m pc ls (vr h.z :: rest))) : W p G.1 e R s m args below meth c H locs cells slots Q (F0 m pc ls (.ref h.z :: rest)) := by
  rw [vr_pos (by have := w.1; have := w.2.1; omega)] at kk
  exact kk
theorem getD_rep {α : Type} (n j : Nat) (v : α) : (List.replicate n v).getD j v = v := by
  rw [List.getD_eq_getElem?_getD, List.getElem?_replicate]
  split <;> rfl
/-- a new array of ints, bytes or booleans -/
theorem r_newaI (k : Nat) {at_ : ArrayType} (hk : (k.blt 103 && Nat.ble 100 k && (aty k == newarray.typeOf at_)) = true) (hd : defaultValue (aty k) = .int 0) (hcb : componentBytes (aty k) ≤ 8) (q1 : Cond.arrayClass (aty k) ∈ lw_all) (hi : ¬ i < 0) (hN : i.toNatClampNeg = N) (hb : N ≤ 60000000) (dg : decode X.cc pc = .ok (.newarray at_, 2))
    (kk : ∀ q, q = h.z → h0.z ≤ q → WF G h → Aw G X d t h0 Φ (pc + 2) lv (vR q :: st) (h.new k N (List.replicate N 0) [] [])) : Aw G X d t h0 Φ pc lv (vI i :: st) h := by
  simp only [Bool.and_eq_true, beq_iff_eq] at hk
  obtain ⟨⟨k1, k2⟩, k3⟩ := hk
  have k1 : k < 103 := Nat.le_of_ble_eq_true k1
  have k2 : 100 ≤ k := Nat.le_of_ble_eq_true k2
  intro w0 w ex
  refine Aw.alloc (h1 := h.new k N (List.replicate N 0) [] []) (n := N) rfl rfl (WF.new (fun _ hx => List.eq_of_mem_replicate hx)) (fun _ w ex => Ext.new w ex) (fun p e R s m args below meth c H locs cells slots Q ls C hL w hr c1 c2 kk => ?_) (kk h.z rfl ex.1 w) w0 w ex
  obtain ⟨C1, C2, C3, C4, C5, C6, C7, C8, C9, C10, -⟩ := C
  have hA := C10.arr k2 (by omega)
  rw [k3] at hA hd q1 hcb
  refine va_newaK C1 C2 (C9 _ q1) rfl dg rfl hi hN (Nat.le_trans (Nat.mul_le_mul hb hcb) (by decide)) c1 c2 (h := h.z) hr.1 fun H1 cA e1 z1 o1 hAr hNm => ?_
  have hcA : cA = G.2.2.1 k := by
    have h2 : s.vm.findClass ("[" ++ (newarray.typeOf at_).toString) = some (G.2.2.1 k) := by
      have := hA.2
      cases at_ <;> exact this
    exact Option.some.inj (hNm.symm.trans h2)
  subst hcA
  refine ref_z w (kk H1 (Rel.new w hr (by rw [z1, hr.1]) (fun q hq => o1 q (by rw [← hr.1]; exact hq)) ⟨fun q => ?_, fun _ _ => ?_, fun q => ?_⟩))
  · have f1 : (h.new k N (List.replicate N 0) [] []).kd h.z = k := up1_eq
    rw [f1] at q
    omega
  · have f1 : (h.new k N (List.replicate N 0) [] []).kd h.z = k := up1_eq
    have f2 : (h.new k N (List.replicate N 0) [] []).ai h.z = List.replicate N 0 := up1_eq
    rw [f1]
    rw [e1, alen_i (by rw [f1]; exact k1), aval_i (by rw [f1]; exact k1), f2, hd]
    refine congrArg some (arrV_congr2 _ (by simp) (fun j hj => ?_))
    rw [getD_rep]
  · have f1 : (h.new k N (List.replicate N 0) [] []).kd h.z = k := up1_eq
    rw [f1] at q
    omega
theorem r_newaL {at_ : ArrayType} (hk : FieldType.long = newarray.typeOf at_) (q1 : Cond.arrayClass .long ∈ lw_all) (hi : ¬ i < 0) (hN : i.toNatClampNeg = N) (hb : N ≤ 60000000) (dg : decode X.cc pc = .ok (.newarray at_, 2))
    (kk : ∀ q, q = h.z → h0.z ≤ q → WF G h → Aw G X d t h0 Φ (pc + 2) lv (vR q :: st) (h.new 103 N [] (List.replicate N 0) [])) : Aw G X d t h0 Φ pc lv (vI i :: st) h := by
  intro w0 w ex
  refine Aw.alloc (h1 := h.new 103 N [] (List.replicate N 0) []) (n := N) rfl rfl (WF.new (fun _ hx => by cases hx)) (fun _ w ex => Ext.new w ex) (fun p e R s m args below meth c H locs cells slots Q ls C hL w hr c1 c2 kk => ?_) (kk h.z rfl ex.1 w) w0 w ex
  obtain ⟨C1, C2, C3, C4, C5, C6, C7, C8, C9, C10, -⟩ := C
  have hA := C10.arr (k := 103) (by omega) (by omega)
  have hcb : componentBytes (.long) ≤ 8 := by decide
  have hd : defaultValue .long = .long 0 := rfl
  rw [hk] at q1 hcb hd
  refine va_newaK C1 C2 (C9 _ q1) rfl dg rfl hi hN (Nat.le_trans (Nat.mul_le_mul hb hcb) (by decide)) c1 c2 (h := h.z) hr.1 fun H1 cA e1 z1 o1 hAr hNm => ?_
  have hcA : cA = G.2.2.1 103 := by
    rw [← hk] at hNm
    exact Option.some.inj (hNm.symm.trans hA.2)
  subst hcA
  refine ref_z w (kk H1 (Rel.new w hr (by rw [z1, hr.1]) (fun q hq => o1 q (by rw [← hr.1]; exact hq)) ⟨fun q => ?_, fun _ _ => ?_, fun q => ?_⟩))
  · have f1 : (h.new 103 N [] (List.replicate N 0) []).kd h.z = 103 := up1_eq
    rw [f1] at q
    omega
  · have f1 : (h.new 103 N [] (List.replicate N 0) []).kd h.z = 103 := up1_eq
    have f2 : (h.new 103 N [] (List.replicate N 0) []).al h.z = List.replicate N 0 := up1_eq
    rw [f1]
    rw [e1, alen_l f1, aval_l f1, f2, hd]
    refine congrArg some (arrV_congr2 _ (by simp) (fun j hj => ?_))
    rw [getD_rep]
  · have f1 : (h.new 103 N [] (List.replicate N 0) []).kd h.z = 103 := up1_eq
    rw [f1] at q
    omega
/-- a new array of references -/
theorem r_newaR (k : Nat) (hk : (Nat.ble 104 k && k.blt 115 && (aty k == .object Cn)) = true) (q1 : Cond.classLink X.y.cls n Cn ∈ lw_all) (hi : ¬ i < 0) (hN : i.toNatClampNeg = N) (hb : N ≤ 60000000) (dg : decode X.cc pc = .ok (.anewarray n, 3))
    (kk : ∀ q, q = h.z → h0.z ≤ q → WF G h → Aw G X d t h0 Φ (pc + 3) lv (vR q :: st) (h.new k N [] [] (List.replicate N 0))) : Aw G X d t h0 Φ pc lv (vI i :: st) h := by
  simp only [Bool.and_eq_true, beq_iff_eq] at hk
  obtain ⟨⟨k1, k2⟩, k3⟩ := hk
  have k1 : 104 ≤ k := Nat.le_of_ble_eq_true k1
  have k2 : k < 115 := Nat.le_of_ble_eq_true k2
  intro w0 w ex
  refine Aw.alloc (h1 := h.new k N [] [] (List.replicate N 0)) (n := N) rfl rfl (WF.new (fun _ hx => by cases hx)) (fun _ w ex => Ext.new w ex) (fun p e R s m args below meth c H locs cells slots Q ls C hL w hr c1 c2 kk => ?_) (kk h.z rfl ex.1 w) w0 w ex
  obtain ⟨C1, C2, C3, C4, C5, C6, C7, C8, C9, C10, -⟩ := C
  have hA := C10.arr (k := k) (by omega) (by omega)
  have hO := C10.2.2.2.1 (k - 104) (by omega)
  rw [show 104 + (k - 104) = k by omega, k3] at hO
  rw [k3] at hA
  subst hN
  refine W.anew C1 C2 C6 (C9 _ q1) hO rfl dg rfl hi (by omega) c1 c2 fun cA kA comp f1 f2 f3 f4 => ?_
  have hcA : cA = G.2.2.1 k := by
    obtain ⟨_, _, _, _, _, q⟩ := hA.2
    exact Option.some.inj (f1.symm.trans q)
  subst hcA
  have hsz : H.size = h.z := hr.1
  show W p G.1 e R s m args below meth c _ locs _ _ Q (F0 m (pc + 3) ls (.ref H.size :: _))
  rw [hsz]
  generalize hH1 : H.push ({ cls := G.2.2.1 k, slots := Array.replicate i.toNatClampNeg .null, vm := .none } : Cell) = H1
  have z1 : H1.size = H.size + 1 := by rw [← hH1, Array.size_push]
  have e1 : H1[h.z]? = some (arrV (G.2.2.1 k) i.toNatClampNeg (fun _ => .null)) := by rw [← hH1, ← hsz, Array.getElem?_push_size, ← arrV_new]
  have o1 : ∀ q : Nat, q < H.size → H1[q]? = H[q]? := fun q hq => by rw [← hH1, Array.getElem?_push, if_neg (Nat.ne_of_lt hq)]
  refine ref_z w (kk H1 (Rel.new w hr z1 o1 ⟨fun q => ?_, fun _ _ => ?_, fun q => ?_⟩))
  · have f1 : (h.new k i.toNatClampNeg [] [] (List.replicate i.toNatClampNeg 0)).kd h.z = k := up1_eq
    rw [f1] at q
    omega
  · have f1 : (h.new k i.toNatClampNeg [] [] (List.replicate i.toNatClampNeg 0)).kd h.z = k := up1_eq
    have f2 : (h.new k i.toNatClampNeg [] [] (List.replicate i.toNatClampNeg 0)).ar h.z = List.replicate i.toNatClampNeg 0 := up1_eq
    rw [f1]
    rw [e1, alen_r (by rw [f1]; exact k1), aval_r (by rw [f1]; exact k1), f2]
    refine congrArg some (arrV_congr2 _ (by simp) (fun j hj => ?_))
    rw [getD_rep]
    rfl
  · have f1 : (h.new k i.toNatClampNeg [] [] (List.replicate i.toNatClampNeg 0)).kd h.z = k := up1_eq
    rw [f1] at q
    omega
theorem r_iret {ty : FieldType} (hr : X.rt = some ty) (hn : narrow ty (.int x) = .int x) (dg : decode X.cc pc = .ok (.ireturn, 1)) (hΦ : Φ (.inl (some (vI x))) h) : Aw G X d t h0 Φ pc lv [vI x] h := by
  intro w0 w ex
  refine ⟨.inl (some (vI x)), h, hΦ, ex, w, Nat.le_refl _, Nat.le_refl _, fun p e R s m args below meth c C H locs ls cells slots q1 q2 hR hL hl => ?_⟩
  intro T hT S
  obtain ⟨C1, C2, C3, C4, C5, -⟩ := C
  rw [hr] at C4
  obtain ⟨fs, hret, hrun, hended, hW, hframe⟩ := S.leave (v := some (.int x)) (fun h => by rw [C4] at h; cases h)
  have hmeth' : T.vm.method? m = some meth := S.method'
  refine ⟨T.setFrames fs, ?_, locs, hrun, hended, by rw [← hT] at hR; exact hR, hW, by simpa using hframe, hL⟩
  show Steps p.tables e below (T.setTop (F0 m pc ls [.int x])) (T.setFrames fs)
  jvm_step S.here [S.here.top, C1, C2, dg, hmeth', C4, hn]
  (try refine ⟨rfl, ?_⟩); (try refine ⟨rfl, ?_⟩)
  first | (intro acts; rw [hret _ acts rfl rfl rfl]) | rw [hret _ _ rfl rfl rfl]
  exact Steps.refl _
theorem r_lret {y : Int64} (hr : X.rt = some .long) (dg : decode X.cc pc = .ok (.lreturn, 1)) (hΦ : Φ (.inl (some (vJ y))) h) : Aw G X d t h0 Φ pc lv [vJ y] h := by
  intro w0 w ex
  refine ⟨.inl (some (vJ y)), h, hΦ, ex, w, Nat.le_refl _, Nat.le_refl _, fun p e R s m args below meth c C H locs ls cells slots q1 q2 hR hL hl => ?_⟩
  intro T hT S
  obtain ⟨C1, C2, C3, C4, C5, -⟩ := C
  rw [hr] at C4
  obtain ⟨fs, hret, hrun, hended, hW, hframe⟩ := S.leave (v := some (.long y)) (fun h => by rw [C4] at h; cases h)
  have hmeth' : T.vm.method? m = some meth := S.method'
  refine ⟨T.setFrames fs, ?_, locs, hrun, hended, by rw [← hT] at hR; exact hR, hW, by simpa using hframe, hL⟩
  show Steps p.tables e below (T.setTop (F0 m pc ls [.long y])) (T.setFrames fs)
  jvm_step S.here [S.here.top, C1, C2, dg, hmeth', C4]
  (try refine ⟨rfl, ?_⟩); (try refine ⟨rfl, ?_⟩)
  first | (intro acts; rw [hret _ acts rfl rfl rfl]) | rw [hret _ _ rfl rfl rfl]
  exact Steps.refl _
theorem r_vret (hr : X.rt = none) (dg : decode X.cc pc = .ok (.return_, 1)) (hΦ : Φ (.inl none) h) : Aw G X d t h0 Φ pc lv [] h := by
  intro w0 w ex
  refine ⟨.inl none, h, hΦ, ex, w, Nat.le_refl _, Nat.le_refl _, fun p e R s m args below meth c C H locs ls cells slots q1 q2 hR hL hl => ?_⟩
  intro T hT S
  obtain ⟨C1, C2, C3, C4, C5, -⟩ := C
  rw [hr] at C4
  obtain ⟨fs, hret, hrun, hended, hW, hframe⟩ := S.leave (v := none) (fun h => rfl)
  have hmeth' : T.vm.method? m = some meth := S.method'
  refine ⟨T.setFrames fs, ?_, locs, hrun, hended, by rw [← hT] at hR; exact hR, hW, by simpa using hframe, hL⟩
  show Steps p.tables e below (T.setTop (F0 m pc ls [])) (T.setFrames fs)
  jvm_step S.here [S.here.top, C1, C2, dg, hmeth', C4]
  (try refine ⟨rfl, ?_⟩); (try refine ⟨rfl, ?_⟩)
  first | (intro acts; rw [hret _ acts rfl rfl rfl]) | rw [hret _ _ rfl rfl rfl]
  exact Steps.refl _
theorem r_aret {r : Nat} {ty : FieldType} (hr : X.rt = some ty) (hy : ty.isReference = true) (dg : decode X.cc pc = .ok (.areturn, 1)) (hΦ : Φ (.inl (some (vR r))) h) : Aw G X d t h0 Φ pc lv [vR r] h := by
  intro w0 w ex
  refine ⟨.inl (some (vR r)), h, hΦ, ex, w, Nat.le_refl _, Nat.le_refl _, fun p e R s m args below meth c C H locs ls cells slots q1 q2 hR hL hl => ?_⟩
  intro T hT S
  obtain ⟨C1, C2, C3, C4, C5, -⟩ := C
  rw [hr] at C4
  obtain ⟨fs, hret, hrun, hended, hW, hframe⟩ := S.leave (v := some (vr r)) (fun h => by rw [C4] at h; cases h)
  have hmeth' : T.vm.method? m = some meth := S.method'
  refine ⟨T.setFrames fs, ?_, locs, hrun, hended, by rw [← hT] at hR; exact hR, hW, by simpa using hframe, hL⟩
  show Steps p.tables e below (T.setTop (F0 m pc ls [vr r])) (T.setFrames fs)
  have hty : (∃ n, ty = .object n) ∨ ∃ t, ty = .array t := by cases ty <;> first | (cases hy; done) | exact Or.inl ⟨_, rfl⟩ | exact Or.inr ⟨_, rfl⟩
  have hv : vr r = .null ∨ ∃ a, vr r = .ref a := by cases r <;> first | exact Or.inl rfl | exact Or.inr ⟨_, rfl⟩
  rcases hty with ⟨n, rfl⟩ | ⟨t, rfl⟩ <;> rcases hv with hv | ⟨a, hv⟩ <;> rw [hv] at hret ⊢ <;>
    (jvm_step S.here [S.here.top, C1, C2, dg, hmeth', C4]
     (try refine ⟨rfl, ?_⟩); (try refine ⟨rfl, ?_⟩)
     first | (intro acts; rw [hret _ acts rfl rfl rfl]) | rw [hret _ _ rfl rfl rfl]
     exact Steps.refl _)
end Ends

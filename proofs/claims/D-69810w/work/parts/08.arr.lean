/-! rows of arrays and of new cells -/
set_option maxRecDepth 100000
section Arr
variable {G : Gx} {X : Mx} {d t : Nat} {h0 h h1 : AH} {Φ : Out → AH → Prop} {pc pc' : Nat} {lv st st' : List AV} {a k j n N key : Nat} {Cn host : String} {T : u_T} {i x : Int32}
theorem KN.arr {s : State} (K : KN G s) (h1 : 100 ≤ k) (h2 : k < 116) : ArrOfT s (G.2.2.1 k) (aty k) ∧ va_RA s (G.2.2.1 k) (aty k) := by
  refine K.1.2 (k - 100) (G.2.2.1 k, aty k) ?_
  have e : 100 + (k - 100) = k := by omega
  simp only [kTys, List.getElem?_map, List.getElem?_range (show k - 100 < 16 by omega), Option.map_some, e]
theorem Rel.arr {H : Heap} (hr : Rel G h H) (hk : h.kd a = k) (h1 : 100 ≤ k) (h2 : k < 116) : k < 116 ∧ H[a]? = some (arrV (G.2.2.1 k) (alen h a) (aval h a)) := by
  have q2 := (hr.2.2 a (by omega)).2.1 (by omega) (by omega)
  rw [hk] at q2
  exact ⟨h2, q2⟩
theorem alen_i (hk : h.kd a < 103) : alen h a = (h.ai a).length := by simp [alen, hk]
theorem alen_l (hk : h.kd a = 103) : alen h a = (h.al a).length := by simp [alen, hk]
theorem alen_r (hk : 104 ≤ h.kd a) : alen h a = (h.ar a).length := by unfold alen; rw [if_neg (by omega), if_neg (by omega)]
theorem aval_i (hk : h.kd a < 103) : aval h a = fun j => .int ((h.ai a).getD j 0) := by unfold aval; funext j; rw [if_pos hk]
theorem aval_l (hk : h.kd a = 103) : aval h a = fun j => .long ((h.al a).getD j 0) := by unfold aval; funext j; rw [if_neg (by omega), if_pos hk]
theorem aval_r (hk : 104 ≤ h.kd a) : aval h a = fun j => vr ((h.ar a).getD j 0) := by unfold aval; funext j; rw [if_neg (by omega), if_neg (by omega)]
theorem not_in {n : Nat} {c : ClassId} {f : Nat → Value} (hi : vp_in i n) : ¬ (i < 0 ∨ (arrV c n f).slots.size ≤ i.toNatClampNeg) := by rw [arrV_size]; exact hi
theorem in_lt {n : Nat} (hi : vp_in i n) : i.toNatClampNeg < n := Nat.not_le.mp fun q => hi (Or.inr q)
theorem r_alenI (hk : h.kd a < 103 ∧ 100 ≤ h.kd a) (dg : decode X.cc pc = .ok (.arraylength, 1)) (kk : Aw G X d t h0 Φ (pc + 1) lv (vI (nI (h.ai a).length) :: st) h) : Aw G X d t h0 Φ pc lv (vR a :: st) h := by
  refine Aw.pure1 (fun p e R s m args below meth c H locs cells slots Q ls C hL w hr kk => ?_) kk
  obtain ⟨q1, q2⟩ := hr.arr (a := a) rfl hk.2 (by omega)
  show W p G.1 e R s m args below meth c H locs cells slots Q (F0 m pc ls (vr a :: st.map cv))
  rw [vr_pos (w.ne rfl (by omega))]
  exact W.alen C.1 C.2.1 q2 ((C.2.2.2.2.2.2.2.2.2.1.arr hk.2 q1).1 _ _) (by rw [arrV_size, alen_i hk.1]; rfl) rfl rfl dg kk
theorem r_alenL (hk : h.kd a = 103) (dg : decode X.cc pc = .ok (.arraylength, 1)) (kk : Aw G X d t h0 Φ (pc + 1) lv (vI (nI (h.al a).length) :: st) h) : Aw G X d t h0 Φ pc lv (vR a :: st) h := by
  refine Aw.pure1 (fun p e R s m args below meth c H locs cells slots Q ls C hL w hr kk => ?_) kk
  obtain ⟨q1, q2⟩ := hr.arr hk (by omega) (by omega)
  show W p G.1 e R s m args below meth c H locs cells slots Q (F0 m pc ls (vr a :: st.map cv))
  rw [vr_pos (w.ne hk (by omega))]
  exact W.alen C.1 C.2.1 q2 ((C.2.2.2.2.2.2.2.2.2.1.arr (by omega) q1).1 _ _) (by rw [arrV_size, alen_l hk]; rfl) rfl rfl dg kk
theorem r_alenR (hk : 104 ≤ h.kd a ∧ h.kd a < 116) (dg : decode X.cc pc = .ok (.arraylength, 1)) (kk : Aw G X d t h0 Φ (pc + 1) lv (vI (nI (h.ar a).length) :: st) h) : Aw G X d t h0 Φ pc lv (vR a :: st) h := by
  refine Aw.pure1 (fun p e R s m args below meth c H locs cells slots Q ls C hL w hr kk => ?_) kk
  obtain ⟨q1, q2⟩ := hr.arr (a := a) rfl (by omega) hk.2
  show W p G.1 e R s m args below meth c H locs cells slots Q (F0 m pc ls (vr a :: st.map cv))
  rw [vr_pos (w.ne (a := a) rfl (by omega))]
  exact W.alen C.1 C.2.1 q2 ((C.2.2.2.2.2.2.2.2.2.1.arr (by omega) q1).1 _ _) (by rw [arrV_size, alen_r hk.1]; rfl) rfl rfl dg kk
theorem r_iaload (hk : h.kd a = 100) (hi : vp_in i (h.ai a).length) (dg : decode X.cc pc = .ok (.iaload, 1)) (kk : Aw G X d t h0 Φ (pc + 1) lv (vI ((h.ai a).getD i.toNatClampNeg 0) :: st) h) : Aw G X d t h0 Φ pc lv (vI i :: vR a :: st) h := by
  refine Aw.pure1 (fun p e R s m args below meth c H locs cells slots Q ls C hL w hr kk => ?_) kk
  obtain ⟨q1, q2⟩ := hr.arr hk (by omega) (by omega)
  rw [alen_i (by omega), aval_i (by omega)] at q2
  show W p G.1 e R s m args below meth c H locs cells slots Q (F0 m pc ls (.int i :: vr a :: st.map cv))
  rw [vr_pos (w.ne hk (by omega))]
  exact W.iald (v := .int ((h.ai a).getD i.toNatClampNeg 0)) C.1 C.2.1 q2 ((C.2.2.2.2.2.2.2.2.2.1.arr (k := 100) (by omega) q1).1 _ _) (fun q => by cases q) (not_in hi) (arrV_read _ _ (in_lt hi)) rfl rfl dg kk
theorem r_baload (hk : h.kd a = 101) (hi : vp_in i (h.ai a).length) (dg : decode X.cc pc = .ok (.baload, 1)) (kk : Aw G X d t h0 Φ (pc + 1) lv (vI ((h.ai a).getD i.toNatClampNeg 0) :: st) h) : Aw G X d t h0 Φ pc lv (vI i :: vR a :: st) h := by
  refine Aw.pure1 (fun p e R s m args below meth c H locs cells slots Q ls C hL w hr kk => ?_) kk
  obtain ⟨q1, q2⟩ := hr.arr hk (by omega) (by omega)
  rw [alen_i (by omega), aval_i (by omega)] at q2
  show W p G.1 e R s m args below meth c H locs cells slots Q (F0 m pc ls (.int i :: vr a :: st.map cv))
  rw [vr_pos (w.ne hk (by omega))]
  exact W.bald (v := .int ((h.ai a).getD i.toNatClampNeg 0)) C.1 C.2.1 q2 ((C.2.2.2.2.2.2.2.2.2.1.arr (k := 101) (by omega) q1).1 _ _) (fun q => by cases q) (not_in hi) (arrV_read _ _ (in_lt hi)) rfl rfl dg kk
theorem r_zaload (hk : h.kd a = 102) (hi : vp_in i (h.ai a).length) (dg : decode X.cc pc = .ok (.baload, 1)) (kk : Aw G X d t h0 Φ (pc + 1) lv (vI ((h.ai a).getD i.toNatClampNeg 0) :: st) h) : Aw G X d t h0 Φ pc lv (vI i :: vR a :: st) h := by
  refine Aw.pure1 (fun p e R s m args below meth c H locs cells slots Q ls C hL w hr kk => ?_) kk
  obtain ⟨q1, q2⟩ := hr.arr hk (by omega) (by omega)
  rw [alen_i (by omega), aval_i (by omega)] at q2
  show W p G.1 e R s m args below meth c H locs cells slots Q (F0 m pc ls (.int i :: vr a :: st.map cv))
  rw [vr_pos (w.ne hk (by omega))]
  exact W.zald (v := .int ((h.ai a).getD i.toNatClampNeg 0)) C.1 C.2.1 q2 ((C.2.2.2.2.2.2.2.2.2.1.arr (k := 102) (by omega) q1).1 _ _) (fun q => by cases q) (not_in hi) (arrV_read _ _ (in_lt hi)) rfl rfl dg kk
theorem r_laload (hk : h.kd a = 103) (hi : vp_in i (h.al a).length) (dg : decode X.cc pc = .ok (.laload, 1)) (kk : Aw G X d t h0 Φ (pc + 1) lv (vJ ((h.al a).getD i.toNatClampNeg 0) :: st) h) : Aw G X d t h0 Φ pc lv (vI i :: vR a :: st) h := by
  refine Aw.pure1 (fun p e R s m args below meth c H locs cells slots Q ls C hL w hr kk => ?_) kk
  obtain ⟨q1, q2⟩ := hr.arr hk (by omega) (by omega)
  rw [alen_l (by omega), aval_l (by omega)] at q2
  show W p G.1 e R s m args below meth c H locs cells slots Q (F0 m pc ls (.int i :: vr a :: st.map cv))
  rw [vr_pos (w.ne hk (by omega))]
  exact W.lald (v := .long ((h.al a).getD i.toNatClampNeg 0)) C.1 C.2.1 q2 ((C.2.2.2.2.2.2.2.2.2.1.arr (k := 103) (by omega) q1).1 _ _) (fun q => by cases q) (not_in hi) (arrV_read _ _ (in_lt hi)) rfl rfl dg kk
theorem aty_ref (h1 : 104 ≤ k) : (aty k).isReference = true := by
  unfold aty
  split <;> first | omega | rfl
theorem r_aaload (hk : 104 ≤ h.kd a ∧ h.kd a < 116) (hi : vp_in i (h.ar a).length) (dg : decode X.cc pc = .ok (.aaload, 1)) (kk : Aw G X d t h0 Φ (pc + 1) lv (vR ((h.ar a).getD i.toNatClampNeg 0) :: st) h) : Aw G X d t h0 Φ pc lv (vI i :: vR a :: st) h := by
  refine Aw.pure1 (fun p e R s m args below meth c H locs cells slots Q ls C hL w hr kk => ?_) kk
  obtain ⟨q1, q2⟩ := hr.arr rfl (show 100 ≤ h.kd a by omega) hk.2
  rw [alen_r hk.1, aval_r hk.1] at q2
  show W p G.1 e R s m args below meth c H locs cells slots Q (F0 m pc ls (.int i :: vr a :: st.map cv))
  rw [vr_pos (w.ne rfl (by omega))]
  exact W.aald (v := vr ((h.ar a).getD i.toNatClampNeg 0)) C.1 C.2.1 q2 ((C.2.2.2.2.2.2.2.2.2.1.arr (by omega) q1).1 _ _) (aty_ref hk.1) (fun q => by cases q) (not_in hi) (arrV_read _ _ (in_lt hi)) rfl rfl dg kk
/-- an array is written: what is known of the heap behind it -/
theorem Rel.wr {H H' : Heap} {c' : Cell} (hr : Rel G h H) (hk : 100 ≤ h.kd a) (hlt : h.kd a < 116) (e1 : H'[a]? = some c') (e2 : H'.size = H.size) (e3 : ∀ q, q ≠ a → H'[q]? = H[q]?) (hb : gB G ≤ a)
    (hc : c' = arrV (G.2.2.1 (h.kd a)) (alen h1 a) (aval h1 a)) (hkd : h1.kd = h.kd) (hz : h1.z = h.z) (hi : h1.i = h.i) (hl : h1.l = h.l) (hrr : h1.r = h.r)
    (hx : ∀ x, x ≠ a → h1.ai x = h.ai x ∧ h1.al x = h.al x ∧ h1.ar x = h.ar x) : Rel G h1 H' := by
  refine ⟨by rw [e2, hz]; exact hr.1, fun q hq => (e3 q (by omega)).trans (hr.2.1 q hq), fun b hb0 => ?_⟩
  rw [hkd] at hb0
  by_cases e : b = a
  · subst e
    refine ⟨fun q => by rw [hkd] at q; omega, fun _ _ => ?_, fun q => by rw [hkd] at q; omega⟩
    rw [e1, hc, hkd]
  · exact ObjAt.same (by rw [hkd]) (fun q => ⟨by rw [hi], by rw [hl], by rw [hrr]⟩) (hx b e) (e3 b e) (hr.2.2 b hb0)
theorem up1_ne {α : Type} {f : Nat → α} {v : α} {x : Nat} (h : x ≠ a) : up1 f a v x = f x := by unfold up1; rw [if_neg h]
theorem up1_eq {α : Type} {f : Nat → α} {v : α} : up1 f a v a = v := by unfold up1; rw [if_pos rfl]
theorem locs_put {locs : List Loc} {q : Nat} (hL : ∀ q ∈ locs, gB G ≤ q.base) (hb : gB G ≤ a) : ∀ z ∈ locs ++ [Loc.mk a q], gB G ≤ z.base := by
  intro z hz
  rcases List.mem_append.mp hz with q1 | q1
  · exact hL z q1
  · rw [List.mem_singleton.mp q1]; exact hb
theorem getD_set {α : Type} (l : List α) (n j : Nat) (v dv : α) (hj : j < l.length) : (l.set n v).getD j dv = if j = n then v else l.getD j dv := by
  rw [List.getD_eq_getElem?_getD, List.getD_eq_getElem?_getD, List.getElem?_set]
  by_cases e : n = j
  · subst e; simp [hj]
  · rw [if_neg e, if_neg (fun q => e q.symm)]
theorem arr_st {l : List Int32} {c : ClassId} {n : Nat} {v : Int32} : (arrV c l.length (fun j => .int (l.getD j 0))).setSlot n (.int v) = arrV c (l.set n v).length (fun j => .int ((l.set n v).getD j 0)) := by
  rw [arrV_store]
  refine arrV_congr2 _ (by simp) (fun j hj => ?_)
  rw [getD_set _ _ _ _ _ hj]
  unfold updV
  by_cases e : j = n <;> simp [e]
theorem arr_stL {l : List Int64} {c : ClassId} {n : Nat} {v : Int64} : (arrV c l.length (fun j => .long (l.getD j 0))).setSlot n (.long v) = arrV c (l.set n v).length (fun j => .long ((l.set n v).getD j 0)) := by
  rw [arrV_store]
  refine arrV_congr2 _ (by simp) (fun j hj => ?_)
  rw [getD_set _ _ _ _ _ hj]
  unfold updV
  by_cases e : j = n <;> simp [e]
theorem arr_stR {l : List Nat} {c : ClassId} {n v : Nat} : (arrV c l.length (fun j => vr (l.getD j 0))).setSlot n (vr v) = arrV c (l.set n v).length (fun j => vr ((l.set n v).getD j 0)) := by
  rw [arrV_store]
  refine arrV_congr2 _ (by simp) (fun j hj => ?_)
  rw [getD_set _ _ _ _ _ hj]
  unfold updV
  by_cases e : j = n <;> simp [e]
theorem Ext.wi {fp : List Nat} {v : List Int32} (w0 : WF G h0) (ex : Ext fp t h0 h) (hf : 100000 + h.kd a ∈ fp ∨ h0.z ≤ a) (hl : v.length = (h.ai a).length) : Ext fp t h0 (h.wi a v) :=
  Ext.arr (a := a) w0 ex hf rfl rfl rfl rfl rfl rfl (fun x hx => ⟨up1_ne hx, rfl, rfl⟩) ⟨(congrArg List.length up1_eq).trans hl, rfl, rfl⟩
theorem WF.wi {v : List Int32} (w : WF G h) (h1 : h.kd a = 101 → ∀ x ∈ v, x.toInt8.toInt32 = x) (h2 : h.kd a = 102 → ∀ x ∈ v, x = 0 ∨ x = 1) : WF G (h.wi a v) := by
  refine ⟨w.1, w.2.1, w.2.2.1, fun b hb x hx => ?_, fun b hb x hx => ?_⟩
  · have hx : x ∈ up1 h.ai a v b := hx
    by_cases e : b = a
    · subst e; rw [up1_eq] at hx; exact h1 hb x hx
    · rw [up1_ne e] at hx; exact w.2.2.2.1 b hb x hx
  · have hx : x ∈ up1 h.ai a v b := hx
    by_cases e : b = a
    · subst e; rw [up1_eq] at hx; exact h2 hb x hx
    · rw [up1_ne e] at hx; exact w.2.2.2.2 b hb x hx
theorem i2b_fit (x : Int32) : x.toInt8.toInt32.toInt8.toInt32 = x.toInt8.toInt32 := by
  simp
theorem r_iastore (hk : h.kd a = 100) (hi : vp_in i (h.ai a).length) (hf : 100100 ∈ X.fp ∨ h0.z ≤ a) (dg : decode X.cc pc = .ok (.iastore, 1)) (kk : Aw G X d t h0 Φ (pc + 1) lv st (h.wi a ((h.ai a).set i.toNatClampNeg x))) : Aw G X d t h0 Φ pc lv (vI x :: vI i :: vR a :: st) h := by
  refine Aw.step (h1 := h.wi a ((h.ai a).set i.toNatClampNeg x)) rfl rfl (fun w => w.wi (fun q => by omega) (fun q => by omega)) (fun w0 w ex => Ext.wi w0 ex (by rw [hk]; exact hf) (by simp)) (fun p e R s m args below meth c H locs cells slots Q ls C hl w hr hL kk => ?_) kk
  obtain ⟨q1, q2⟩ := hr.arr hk (by omega) (by omega)
  rw [alen_i (by omega), aval_i (by omega)] at q2
  have hb := (w.2.2.1 a (by omega)).1 ⟨by omega, by omega⟩
  show W p G.1 e R s m args below meth c H locs cells slots Q (F0 m pc ls (.int x :: .int i :: vr a :: st.map cv))
  rw [vr_pos (w.ne hk (by omega))]
  refine W.iast C.1 C.2.1 q2 ((C.2.2.2.2.2.2.2.2.2.1.arr (k := 100) (by omega) q1).1 _ _) (fun q => by cases q) (not_in hi) rfl rfl dg fun H1 e1 e2 e3 => kk H1 _ ?_ (locs_put hL hb)
  refine hr.wr (by omega) (by omega) e1 e2 e3 hb ?_ rfl rfl rfl rfl rfl (fun z hz => ⟨up1_ne hz, rfl, rfl⟩)
  rw [arr_st, alen_i (show (h.wi a _).kd a < 103 by show h.kd a < 103; omega), aval_i (show (h.wi a _).kd a < 103 by show h.kd a < 103; omega), hk]
  show _ = arrV _ (up1 h.ai a _ a).length (fun j => Value.int ((up1 h.ai a _ a).getD j 0))
  rw [up1_eq]
theorem r_bastore (hk : h.kd a = 101) (hi : vp_in i (h.ai a).length) (hf : 100101 ∈ X.fp ∨ h0.z ≤ a) (dg : decode X.cc pc = .ok (.bastore, 1)) (kk : Aw G X d t h0 Φ (pc + 1) lv st (h.wi a ((h.ai a).set i.toNatClampNeg x.toInt8.toInt32))) : Aw G X d t h0 Φ pc lv (vI x :: vI i :: vR a :: st) h := by
  refine Aw.step (h1 := h.wi a ((h.ai a).set i.toNatClampNeg x.toInt8.toInt32)) rfl rfl (fun w => w.wi (fun q z hz => by rcases List.mem_or_eq_of_mem_set hz with e | e; exact w.2.2.2.1 a q z e; rw [e]; exact i2b_fit x) (fun q => by omega)) (fun w0 w ex => Ext.wi w0 ex (by rw [hk]; exact hf) (by simp)) (fun p e R s m args below meth c H locs cells slots Q ls C hl w hr hL kk => ?_) kk
  obtain ⟨q1, q2⟩ := hr.arr hk (by omega) (by omega)
  rw [alen_i (by omega), aval_i (by omega)] at q2
  have hb := (w.2.2.1 a (by omega)).1 ⟨by omega, by omega⟩
  show W p G.1 e R s m args below meth c H locs cells slots Q (F0 m pc ls (.int x :: .int i :: vr a :: st.map cv))
  rw [vr_pos (w.ne hk (by omega))]
  refine W.bast C.1 C.2.1 q2 ((C.2.2.2.2.2.2.2.2.2.1.arr (k := 101) (by omega) q1).1 _ _) (fun q => by cases q) (not_in hi) rfl rfl dg fun H1 e1 e2 e3 => kk H1 _ ?_ (locs_put hL hb)
  refine hr.wr (by omega) (by omega) e1 e2 e3 hb ?_ rfl rfl rfl rfl rfl (fun z hz => ⟨up1_ne hz, rfl, rfl⟩)
  have en : narrow .byte (.int x) = .int x.toInt8.toInt32 := rfl
  rw [en, arr_st, alen_i (show (h.wi a _).kd a < 103 by show h.kd a < 103; omega), aval_i (show (h.wi a _).kd a < 103 by show h.kd a < 103; omega), hk]
  show _ = arrV _ (up1 h.ai a _ a).length (fun j => Value.int ((up1 h.ai a _ a).getD j 0))
  rw [up1_eq]
theorem r_zastore (hk : h.kd a = 102) (hi : vp_in i (h.ai a).length) (hx : x = 0 ∨ x = 1) (hf : 100102 ∈ X.fp ∨ h0.z ≤ a) (dg : decode X.cc pc = .ok (.bastore, 1)) (kk : Aw G X d t h0 Φ (pc + 1) lv st (h.wi a ((h.ai a).set i.toNatClampNeg x))) : Aw G X d t h0 Φ pc lv (vI x :: vI i :: vR a :: st) h := by
  refine Aw.step (h1 := h.wi a ((h.ai a).set i.toNatClampNeg x)) rfl rfl (fun w => w.wi (fun q => by omega) (fun q z hz => by rcases List.mem_or_eq_of_mem_set hz with e | e; exact w.2.2.2.2 a q z e; rw [e]; exact hx)) (fun w0 w ex => Ext.wi w0 ex (by rw [hk]; exact hf) (by simp)) (fun p e R s m args below meth c H locs cells slots Q ls C hl w hr hL kk => ?_) kk
  obtain ⟨q1, q2⟩ := hr.arr hk (by omega) (by omega)
  rw [alen_i (by omega), aval_i (by omega)] at q2
  have hb := (w.2.2.1 a (by omega)).1 ⟨by omega, by omega⟩
  show W p G.1 e R s m args below meth c H locs cells slots Q (F0 m pc ls (.int x :: .int i :: vr a :: st.map cv))
  rw [vr_pos (w.ne hk (by omega))]
  refine W.zast C.1 C.2.1 q2 ((C.2.2.2.2.2.2.2.2.2.1.arr (k := 102) (by omega) q1).1 _ _) (fun q => by cases q) (not_in hi) rfl rfl dg fun H1 e1 e2 e3 => kk H1 _ ?_ (locs_put hL hb)
  refine hr.wr (by omega) (by omega) e1 e2 e3 hb ?_ rfl rfl rfl rfl rfl (fun z hz => ⟨up1_ne hz, rfl, rfl⟩)
  have en : narrow .boolean (.int x) = .int x := by rcases hx with hx | hx <;> rw [hx] <;> decide
  rw [en, arr_st, alen_i (show (h.wi a _).kd a < 103 by show h.kd a < 103; omega), aval_i (show (h.wi a _).kd a < 103 by show h.kd a < 103; omega), hk]
  show _ = arrV _ (up1 h.ai a _ a).length (fun j => Value.int ((up1 h.ai a _ a).getD j 0))
  rw [up1_eq]
theorem r_lastore {y : Int64} (hk : h.kd a = 103) (hi : vp_in i (h.al a).length) (hf : 100103 ∈ X.fp ∨ h0.z ≤ a) (dg : decode X.cc pc = .ok (.lastore, 1)) (kk : Aw G X d t h0 Φ (pc + 1) lv st (h.wl a ((h.al a).set i.toNatClampNeg y))) : Aw G X d t h0 Φ pc lv (vJ y :: vI i :: vR a :: st) h := by
  refine Aw.step (h1 := h.wl a ((h.al a).set i.toNatClampNeg y)) rfl rfl (fun w => w) (fun w0 w ex => Ext.arr (a := a) w0 ex (by rw [hk]; exact hf) rfl rfl rfl rfl rfl rfl (fun x hx => ⟨rfl, up1_ne hx, rfl⟩) ⟨rfl, (congrArg List.length up1_eq).trans (by simp), rfl⟩) (fun p e R s m args below meth c H locs cells slots Q ls C hl w hr hL kk => ?_) kk
  obtain ⟨q1, q2⟩ := hr.arr hk (by omega) (by omega)
  rw [alen_l (by omega), aval_l (by omega)] at q2
  have hb := (w.2.2.1 a (by omega)).1 ⟨by omega, by omega⟩
  show W p G.1 e R s m args below meth c H locs cells slots Q (F0 m pc ls (.long y :: .int i :: vr a :: st.map cv))
  rw [vr_pos (w.ne hk (by omega))]
  refine W.last C.1 C.2.1 q2 ((C.2.2.2.2.2.2.2.2.2.1.arr (k := 103) (by omega) q1).1 _ _) (fun q => by cases q) (not_in hi) rfl rfl dg fun H1 e1 e2 e3 => kk H1 _ ?_ (locs_put hL hb)
  refine hr.wr (by omega) (by omega) e1 e2 e3 hb ?_ rfl rfl rfl rfl rfl (fun z hz => ⟨rfl, up1_ne hz, rfl⟩)
  rw [arr_stL, alen_l (show (h.wl a _).kd a = 103 from hk), aval_l (show (h.wl a _).kd a = 103 from hk), hk]
  show _ = arrV _ (up1 h.al a _ a).length (fun j => Value.long ((up1 h.al a _ a).getD j 0))
  rw [up1_eq]
end Arr

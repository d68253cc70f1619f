/-! rows of arraycopy, of stores of references, of casts, of athrow -/
set_option maxRecDepth 100000
def cpOk (sp dp n : Int32) (ls ld : Nat) : Prop := ¬ sp < 0 ∧ ¬ dp < 0 ∧ ¬ n < 0 ∧ sp.toNatClampNeg + n.toNatClampNeg ≤ ls ∧ dp.toNatClampNeg + n.toNatClampNeg ≤ ld
def lcp (s d : List Int32) (sp dp n : Int32) : List Int32 := d.take dp.toNatClampNeg ++ ((s.drop sp.toNatClampNeg).take n.toNatClampNeg ++ d.drop (dp.toNatClampNeg + n.toNatClampNeg))
theorem lcp_len {s d : List Int32} {sp dp n : Int32} (h : cpOk sp dp n s.length d.length) : (lcp s d sp dp n).length = d.length := by
  obtain ⟨-, -, -, h4, h5⟩ := h
  simp only [lcp, List.length_append, List.length_take, List.length_drop]
  omega
theorem lcp_get {s d : List Int32} {sp dp n : Int32} (h : cpOk sp dp n s.length d.length) (j : Nat) (hj : j < d.length) : (lcp s d sp dp n).getD j 0 = va_cpy (fun j => s.getD j 0) (fun j => d.getD j 0) sp.toNatClampNeg dp.toNatClampNeg n.toNatClampNeg j := by
  obtain ⟨-, -, -, h4, h5⟩ := h
  unfold lcp va_cpy
  simp only [List.getD_eq_getElem?_getD]
  by_cases h1 : dp.toNatClampNeg ≤ j
  · rw [List.getElem?_append_right (by simp; omega)]
    simp only [List.length_take]
    rw [Nat.min_eq_left (by omega)]
    by_cases h2 : j < dp.toNatClampNeg + n.toNatClampNeg
    · rw [if_pos ⟨h1, h2⟩, List.getElem?_append_left (by simp; omega), List.getElem?_take, if_pos (by omega), List.getElem?_drop]
    · rw [if_neg (by omega), List.getElem?_append_right (by simp; omega), List.getElem?_drop]
      simp only [List.length_take, List.length_drop]
      rw [Nat.min_eq_left (by omega)]
      congr 2
      omega
  · rw [if_neg (by omega), List.getElem?_append_left (by simp; omega), List.getElem?_take, if_pos (by omega)]
section Special
variable {G : Gx} {X : Mx} {d t : Nat} {h0 h h1 : AH} {Φ : Out → AH → Prop} {pc n a b : Nat} {lv st : List AV} {i sp dp ln : Int32}
theorem fits_k {k : Nat} {x : Int32} (w : WF G h) (hk : h.kd a = k) (hx : x ∈ h.ai a) (h1 : 100 ≤ k) (h2 : k < 103) : fits (aty k) (.int x) = true := by
  rcases (show k = 100 ∨ k = 101 ∨ k = 102 by omega) with e | e | e
  · subst e; rfl
  · subst e
    have := w.2.2.2.1 a hk x hx
    rw [← this]
    exact pk_fb x
  · subst e
    rcases w.2.2.2.2 a hk x hx with e | e <;> rw [e] <;> decide
theorem r_acopy (k : Nat) (hk1 : h.kd a = k) (hk2 : h.kd b = k) (hc : cpOk sp dp ln (h.ai a).length (h.ai b).length) (hf : 100000 + k ∈ X.fp ∨ h0.z ≤ b) (q1 : Cond.methodLink X.y.cls n arraycopyName ∈ lw_all) (q2 : Cond.native arraycopyName ∈ lw_all) (q3 : Cond.static arraycopyName ∈ lw_all) (q4 : Cond.initialized "java/lang/System" ∈ lw_all) (hkk : (Nat.ble 100 k && k.blt 103) = true) (dg : decode X.cc pc = .ok (.invokestatic n, 3)) (hroom : Nat.ble ((st.map ct).sum + (nativeFrameWords "java/lang/System" "arraycopy" 5 + 11)) 392 = true)
    (kk : Aw G X (d + 1) t h0 Φ (pc + 3) lv st (h.wi b (lcp (h.ai a) (h.ai b) sp dp ln))) : Aw G X (d + 1) t h0 Φ pc lv (vI ln :: vI dp :: vR b :: vI sp :: vR a :: st) h := by
  simp only [Bool.and_eq_true] at hkk
  have k1 : 100 ≤ k := Nat.le_of_ble_eq_true hkk.1
  have k2 : k < 103 := Nat.le_of_ble_eq_true hkk.2
  have hmem : ∀ x ∈ lcp (h.ai a) (h.ai b) sp dp ln, x ∈ h.ai a ∨ x ∈ h.ai b := by
    intro x hx
    rcases List.mem_append.mp hx with e | e
    · exact Or.inr (List.mem_of_mem_take e)
    · rcases List.mem_append.mp e with e | e
      · exact Or.inl (List.mem_of_mem_drop (List.mem_of_mem_take e))
      · exact Or.inr (List.mem_of_mem_drop e)
  refine Aw.step (h1 := h.wi b (lcp (h.ai a) (h.ai b) sp dp ln)) rfl rfl (fun w => w.wi (fun q x hx => ?_) (fun q x hx => ?_)) (fun w0 w ex => Ext.wi w0 ex (by rw [hk2]; exact hf) (lcp_len hc)) (fun p e R s m args below meth c H locs cells slots Q ls C hl w hr hL kk => ?_) kk
  · rw [hk2] at q
    rcases hmem x hx with e | e
    · exact w.2.2.2.1 a (hk1.trans q) x e
    · exact w.2.2.2.1 b (hk2.trans q) x e
  · rw [hk2] at q
    rcases hmem x hx with e | e
    · exact w.2.2.2.2 a (hk1.trans q) x e
    · exact w.2.2.2.2 b (hk2.trans q) x e
  obtain ⟨C1, C2, C3, C4, C5, C6, C7, C8, C9, C10, C11, C12⟩ := C
  obtain ⟨q1', a1⟩ := hr.arr hk1 k1 (by omega)
  obtain ⟨q2', a2⟩ := hr.arr hk2 k1 (by omega)
  rw [alen_i (by omega), aval_i (by omega)] at a1 a2
  have hb := (w.2.2.1 b (by omega)).1 ⟨by omega, by omega⟩
  have hcat : ∀ l : List AV, ((l.map cv).map fun v => v.category).sum = (l.map ct).sum := by
    intro l
    induction l with
    | nil => rfl
    | cons a l ih => simp only [List.map_cons, List.sum_cons, ih, ct_cv]
  show W p G.1 e R s m args below meth c H locs cells slots Q (F0 m pc ls (.int ln :: .int dp :: vr b :: .int sp :: vr a :: st.map cv))
  rw [vr_pos (w.ne hk1 (by omega)), vr_pos (w.ne hk2 (by omega))]
  have nn : ∀ z : Int32, ¬ z < 0 → z.toInt = (z.toNatClampNeg : Int) := by
    intro z hz
    have hz0 : (0 : Int) ≤ z.toInt := by
      have := Int32.not_lt.mp hz
      simpa using Int32.le_iff_toInt_le.mp this
    show z.toInt = ((z.toInt.toNat : Nat) : Int)
    omega
  obtain ⟨c1, c2, c3, c4, c5⟩ := id hc
  intro T hT S
  have hA := C10.arr (k := k) k1 (by omega)
  obtain ⟨-, k0, hk0, cm0, hkk0⟩ := hA.1 (h.ai a).length (fun j => .int ((h.ai a).getD j 0))
  have hroom := Nat.le_of_ble_eq_true hroom
  have hprim : refKind (aty k) = false := by
    rcases (show k = 100 ∨ k = 101 ∨ k = 102 by omega) with e | e | e <;> subst e <;> rfl
  obtain ⟨vm', X', step⟩ := S.arraycopy C1 C6 (C9 _ q1) (C9 _ q2) (C9 _ q3) (C9 _ q4) (src := a) (dst := b) (cs := arrV (G.2.2.1 k) (h.ai a).length (fun j => Value.int ((h.ai a).getD j 0))) (cd := arrV (G.2.2.1 k) (h.ai b).length (fun j => Value.int ((h.ai b).getD j 0))) (srcPos := sp) (destPos := dp) (n := ln) (by rw [hT]; exact a1) (by rw [hT]; exact a2)
    (fun _ h => by cases h) (fun _ h => by cases h) (fun h => by cases h) (fun h => by cases h) hk0 hk0 hkk0 hkk0 (by simp [hprim]) c1 c2 c3
    (by rw [nn sp c1, nn ln c3, arrV_size]; omega)
    (by rw [nn dp c2, nn ln c3, arrV_size]; omega)
    (fun vm₁ _ i hi => by
      have e : (arrV (G.2.2.1 k) (h.ai a).length (fun j => Value.int ((h.ai a).getD j 0))).slots.getD (sp.toNatClampNeg + i) .null = .int ((h.ai a).getD (sp.toNatClampNeg + i) 0) := by
        rw [Array.getD_eq_getD_getElem?, arrV_read _ _ (by omega)]
        rfl
      rw [e]
      refine ⟨fits_k w hk1 ?_ k1 k2, trivial⟩
      rw [List.getD_eq_getElem?_getD, List.getElem?_eq_getElem (by omega)]
      exact List.getElem_mem _)
    (g := F0 m pc ls (.int ln :: .int dp :: .ref b :: .int sp :: .ref a :: st.map cv)) rfl (by rw [C3]; exact hl.1) (rest := st.map cv) rfl (by rw [C2]; exact dg) (by omega) (by show 2 * 0 + _ + _ ≤ _; rw [hcat]; omega)
  have e1 : copied (arrV (G.2.2.1 k) (h.ai a).length (fun j => Value.int ((h.ai a).getD j 0))) (arrV (G.2.2.1 k) (h.ai b).length (fun j => Value.int ((h.ai b).getD j 0))) sp dp ln = arrV (G.2.2.1 k) (h.ai b).length (fun j => .int (va_cpy (fun j => (h.ai a).getD j 0) (fun j => (h.ai b).getD j 0) sp.toNatClampNeg dp.toNatClampNeg ln.toNatClampNeg j)) := va_copied (fun z => .int z) (G.2.2.1 k) (G.2.2.1 k) (fun j => (h.ai a).getD j 0) (fun j => (h.ai b).getD j 0) c4
  rw [e1] at X' step
  generalize hcell : arrV (G.2.2.1 k) (h.ai b).length (fun j => Value.int (va_cpy (fun j => (h.ai a).getD j 0) (fun j => (h.ai b).getD j 0) sp.toNatClampNeg dp.toNatClampNeg ln.toNatClampNeg j)) = cellN at X' step
  have hlb : b < H.size := (Array.getElem?_eq_some_iff.mp a2).1
  have hheap : ((T.setVm vm').setCell b cellN).heap = H.setIfInBounds b cellN := by rw [← hT]; rfl
  have oq : ∀ q : Nat, q ≠ b → (H.setIfInBounds b cellN)[q]? = H[q]? := fun q hq => by simp [Array.getElem?_setIfInBounds, Ne.symm hq]
  have hrel : Rel G (h.wi b (lcp (h.ai a) (h.ai b) sp dp ln)) (H.setIfInBounds b cellN) := by
    refine hr.wr (by omega) (by omega) (show (H.setIfInBounds b cellN)[b]? = some cellN by simp [Array.getElem?_setIfInBounds, hlb]) (by simp) oq hb ?_ rfl rfl rfl rfl rfl (fun z hz => ⟨up1_ne hz, rfl, rfl⟩)
    rw [← hcell, alen_i (show (h.wi b _).kd b < 103 by show h.kd b < 103; omega), aval_i (show (h.wi b _).kd b < 103 by show h.kd b < 103; omega), hk2]
    show _ = arrV _ (up1 h.ai b _ b).length (fun j => Value.int ((up1 h.ai b _ b).getD j 0))
    rw [up1_eq]
    refine arrV_congr2 _ (lcp_len hc).symm (fun j hj => ?_)
    rw [lcp_get hc j hj]
  obtain ⟨tt, s1, s2⟩ := kk _ _ hrel (fun q hq => by
      rcases List.mem_append.mp hq with h | h
      · exact hL q h
      · obtain ⟨z, -, hz⟩ := List.mem_map.mp h
        rw [← hz]
        exact hb) _ hheap X'
  exact ⟨tt, step tt s1, s2⟩
theorem r_athrow {x : Nat} (hx : h.kd x ≠ 0) (dg : decode X.cc pc = .ok (.athrow, 1)) (kk : Tw G X d t h0 Φ pc lv st x h) : Aw G X d t h0 Φ pc lv (vR x :: st) h := by
  intro w0 w ex
  obtain ⟨o, h', a, b, c, z1, z2, z3⟩ := kk w0 w ex
  refine ⟨o, h', a, b, c, z1, z2, fun p e R s m args below meth cd C H locs ls cells slots q1 q2 hr hL hl => ?_⟩
  intro T hT S
  obtain ⟨tt, s1, s2⟩ := z3 p e R s m args below meth cd C T locs ls cells slots q1 q2 (by rw [hT]; exact hr) hL hl S
  refine ⟨tt, ?_, s2⟩
  show Steps p.tables e below (T.setTop (F0 m pc ls (vr x :: st.map cv))) tt
  rw [vr_pos (w.ne rfl hx)]
  have hstack : (F0 m pc ls (.ref x :: st.map cv)).stack = .ref x :: st.map cv := rfl
  have hdg : decode cd.code (F0 m pc ls (.ref x :: st.map cv)).pc = .ok (.athrow, 1) := by rw [C.2.1]; exact dg
  jvm_step S.here [C.1, hdg, athrow.wp_sem, hstack]
  exact s1
end Special

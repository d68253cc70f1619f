/-! Big: eight digits -/
set_option maxRecDepth 100000
def nE : Nat → AH → Prop := fun _ _ => False
section To
variable {G : Gx} {X : Mx} {d t : Nat} {vs : List AV} {h : AH} {E E' : Nat → AH → Prop}
theorem Cw.toI {K K' : Int32 → AH → Prop} (k : Cw G X d t vs h (kI K E)) (f : ∀ x h', Ext X.fp t h h' → WF G h' → K x h' → K' x h') (g : ∀ x h', Ext X.fp t h h' → WF G h' → E x h' → E' x h') : Cw G X d t vs h (kI K' E') :=
  k.mono (fun o h' e w q => by
    match o, q with
    | .inl none, q => exact False.elim q
    | .inl (some (.inl x)), q => exact f x h' e w q
    | .inl (some (.inr v)), q => exact False.elim q
    | .inr x, q => exact g x h' e w q)
theorem Cw.toJ {K K' : Int64 → AH → Prop} (k : Cw G X d t vs h (kJ K E)) (f : ∀ x h', Ext X.fp t h h' → WF G h' → K x h' → K' x h') (g : ∀ x h', Ext X.fp t h h' → WF G h' → E x h' → E' x h') : Cw G X d t vs h (kJ K' E') :=
  k.mono (fun o h' e w q => by
    match o, q with
    | .inl none, q => exact False.elim q
    | .inl (some (.inl x)), q => exact False.elim q
    | .inl (some (.inr (.inl x))), q => exact f x h' e w q
    | .inl (some (.inr (.inr v))), q => exact False.elim q
    | .inr x, q => exact g x h' e w q)
theorem Cw.toR {K K' : Nat → AH → Prop} (k : Cw G X d t vs h (kR K E)) (f : ∀ x h', Ext X.fp t h h' → WF G h' → K x h' → K' x h') (g : ∀ x h', Ext X.fp t h h' → WF G h' → E x h' → E' x h') : Cw G X d t vs h (kR K' E') :=
  k.mono (fun o h' e w q => by
    match o, q with
    | .inl none, q => exact False.elim q
    | .inl (some (.inl x)), q => exact False.elim q
    | .inl (some (.inr (.inl x))), q => exact False.elim q
    | .inl (some (.inr (.inr (.inl x)))), q => exact f x h' e w q
    | .inl (some (.inr (.inr (.inr v)))), q => exact False.elim q
    | .inr x, q => exact g x h' e w q)
theorem Cw.toV {K K' : AH → Prop} (k : Cw G X d t vs h (kV K E)) (f : ∀ h', Ext X.fp t h h' → WF G h' → K h' → K' h') (g : ∀ x h', Ext X.fp t h h' → WF G h' → E x h' → E' x h') : Cw G X d t vs h (kV K' E') :=
  k.mono (fun o h' e w q => by
    match o, q with
    | .inl none, q => exact f h' e w q
    | .inl (some v), q => exact False.elim q
    | .inr x, q => exact g x h' e w q)
theorem Cw.nI {K K' : Int32 → AH → Prop} (k : Cw G X d t vs h (kI K nE)) (f : ∀ x h', K x h' → K' x h') : Cw G X d t vs h (kI K' E) := k.toI (fun x h' _ _ q => f x h' q) (fun _ _ _ _ q => False.elim q)
theorem Cw.nJ {K K' : Int64 → AH → Prop} (k : Cw G X d t vs h (kJ K nE)) (f : ∀ x h', K x h' → K' x h') : Cw G X d t vs h (kJ K' E) := k.toJ (fun x h' _ _ q => f x h' q) (fun _ _ _ _ q => False.elim q)
theorem Cw.nR {K K' : Nat → AH → Prop} (k : Cw G X d t vs h (kR K nE)) (f : ∀ x h', K x h' → K' x h') : Cw G X d t vs h (kR K' E) := k.toR (fun x h' _ _ q => f x h' q) (fun _ _ _ _ q => False.elim q)
theorem Cw.nV {K K' : AH → Prop} (k : Cw G X d t vs h (kV K nE)) (f : ∀ h', K h' → K' h') : Cw G X d t vs h (kV K' E) := k.toV (fun h' _ _ q => f h' q) (fun _ _ _ _ q => False.elim q)
end To
/-- a loop that counts up to n, the end and the body told at once -/
theorem loop_uc {α : Type} {n : Nat} {P : Nat → α → Prop} (I : Nat → α → Prop) (hs : ∀ k x, k ≤ n → I k x → (k < n → ∀ y, I (k + 1) y → P (k + 1) y) → P k x) : ∀ k x, k ≤ n → I k x → P k x :=
  loop_up I (fun k x hk hi ih => hs k x (by omega) hi (fun _ => ih)) (fun x hi => hs n x (Nat.le_refl _) hi (fun q => absurd q (by omega)))
/-- an index that goes down: one less than k -/
def dI (k : Nat) : Int32 := nI k + (-1)
theorem dI_succ (k : Nat) : dI (k + 1) = nI k := pk_m1 k
theorem dI_0 : dI 0 = -1 := by decide
/-- b is a Big with the row w -/
def BigAt (h : AH) (b w : Nat) : Prop := h.kd b = 5 ∧ h.r 5000 b = w ∧ h.kd w = 100 ∧ (h.ai w).length = 8
theorem BigAt.wi {h : AH} {b w a : Nat} {T : List Int32} (H : BigAt h b w) (e : T.length = (h.ai a).length) : BigAt (h.wi a T) b w := ⟨H.1, H.2.1, H.2.2.1, (ln_wi e).trans H.2.2.2⟩
/-- the number in a row -/
abbrev bv (h : AH) (w : Nat) : Nat := va (h.ai w) 8
theorem bv_lt (h : AH) (w : Nat) : bv h w < 4294967296 ^ 8 := va_lt _ _
theorem bv_wiS (h : AH) (w n : Nat) : bv (h.wi w (lb n)) w = n % 4294967296 ^ 8 := by
  unfold bv
  rw [AH.ai_wiS, va_lb n (Nat.le_refl _)]
theorem bv_wiN {h : AH} {w x : Nat} {L : List Int32} (e : x ≠ w) : bv (h.wi w L) x = bv h x := by
  unfold bv
  rw [AH.ai_wiN e]
section Big
variable {G : Gx} {d : Nat} {h : AH} {t tw a aw b bw : Nat}
theorem Big_init_spec (hd : 1 ≤ d) (ht : h.kd t = 5) : Cw G mX5_init d t [vR t] h (kV (fun h' => h' = (h.new 100 8 (List.replicate 8 0) [] []).pr 5000 t h.z) nE) := by
  obtain ⟨d, rfl⟩ : ∃ d', d = d' + 1 := ⟨d - 1, by omega⟩
  exact eX5_init h t (fun w => sX5_init_0 (t := t) h t ⟨ht, fun q2 e2 _ h3 e3 h6 e6 => by rw [e6, e3, e2]; rfl⟩)
theorem Big_zero_spec (hd : 1 ≤ d) (ht : BigAt h t tw) : Cw G mX5_zero d 0 [vR t] h (kR (fun x h' => x = t ∧ h' = h.wi tw (lb 0)) nE) := by
  obtain ⟨d, rfl⟩ : ∃ d', d = d' + 1 := ⟨d - 1, by omega⟩
  obtain ⟨t1, t2, t3, t4⟩ := ht
  refine eX5_zero h t (fun w => sX5_zero_0 h t ?_)
  have key := loop_uc (n := 8) (P := fun k T => Aw G mX5_zero (d + 1) 0 h (kR (fun x h' => x = t ∧ h' = h.wi tw (lb 0)) nE) 2 [vR t, vI (nI k)] [] (h.wi tw T))
    (fun k T => T.length = 8 ∧ ∀ i, i < k → T.getD i 0 = 0) (fun k T hk hI ih => ?_) 0 (h.ai tw) (by omega) ⟨t4, fun i hi => absurd hi (by omega)⟩
  · rw [AH.wi_self] at key; exact key
  · obtain ⟨l, z⟩ := hI
    refine sX5_zero_2 _ t (nI k) (pk_le 8 k (fun hk8 => ?_) (fun hk8 => ⟨t1, fun r3 e3 => ?_⟩))
    · refine ⟨rfl, ?_⟩
      rw [lb_eq (L := T) (n := 0) l (va_0 (fun i hi => z i (by omega)))]
    · rw [e3.trans t2, AH.ai_wiS, AH.wi_wi, l, pk_cl k]
      refine ⟨t3, pk_in k 8 hk8, fun h6 e6 => ?_⟩
      rw [e6, nI_1]
      refine ih hk8 _ ⟨by rw [List.length_set, l], fun i hi => ?_⟩
      rw [getD_sif]
      by_cases e : i = k
      · rw [if_pos ⟨e, by omega⟩]
      · rw [if_neg (fun q => e q.1)]; exact z i (by omega)
theorem Big_copy_spec (hd : 1 ≤ d) (ht : BigAt h t tw) (ha : BigAt h a aw) : Cw G mX5_copy d 0 [vR t, vR a] h (kR (fun x h' => x = t ∧ h' = h.wi tw (h.ai aw)) nE) := by
  obtain ⟨d, rfl⟩ : ∃ d', d = d' + 1 := ⟨d - 1, by omega⟩
  obtain ⟨t1, t2, t3, t4⟩ := ht
  obtain ⟨a1, a2, a3, a4⟩ := ha
  refine eX5_copy h t a (fun w => sX5_copy_0 h t a ?_)
  have key := loop_uc (n := 8) (P := fun k T => Aw G mX5_copy (d + 1) 0 h (kR (fun x h' => x = t ∧ h' = h.wi tw (h.ai aw)) nE) 2 [vR t, vR a, vI (nI k)] [] (h.wi tw T))
    (fun k T => T.length = 8 ∧ (∀ i, i < k → T.getD i 0 = (h.ai aw).getD i 0) ∧ ∀ i, k ≤ i → T.getD i 0 = (h.ai tw).getD i 0) (fun k T hk hI ih => ?_) 0 (h.ai tw) (by omega) ⟨t4, fun i hi => absurd hi (by omega), fun _ _ => rfl⟩
  · rw [AH.wi_self] at key; exact key
  · obtain ⟨l, z, z2⟩ := hI
    refine sX5_copy_2 _ t a (nI k) (pk_le 8 k (fun hk8 => ?_) (fun hk8 => ⟨t1, fun r3 e3 => ⟨a1, fun r5 e5 => ?_⟩⟩))
    · refine ⟨rfl, ?_⟩
      rw [ext_getD (a := T) (b := h.ai aw) (z := 0) (by omega) (fun i hi => z i (by omega))]
    · rw [e3.trans t2, e5.trans a2, AH.wi_wi, ln_wi (x := aw) (l.trans t4.symm), ln_wi (x := tw) (l.trans t4.symm), a4, t4, pk_cl k, rd_wi (x := aw) (z2 k (Nat.le_refl _)), AH.ai_wiS]
      refine ⟨a3, pk_in k 8 hk8, t3, pk_in k 8 hk8, fun h6 e6 => ?_⟩
      rw [e6, nI_1]
      refine ih hk8 _ ⟨by rw [List.length_set, l], fun i hi => ?_, fun i hi => ?_⟩
      · rw [getD_sif]
        by_cases e : i = k
        · rw [if_pos ⟨e, by omega⟩, e]
        · rw [if_neg (fun q => e q.1)]; exact z i (by omega)
      · rw [getD_set_ne (by omega)]; exact z2 i (by omega)
theorem Jushr_small {v : Nat} (h : v < 2 ^ 64) : (Jushr (lN v) 32).toInt32 = nI (v / 4294967296) := by rw [lN_ushr h, lN_i]
theorem Big_small_spec {v : Nat} (hv : v < 2 ^ 64) (hd : 2 ≤ d) (ht : BigAt h t tw) : Cw G mX5_small d 0 [vR t, vJ (lN v)] h (kR (fun x h' => x = t ∧ h' = h.wi tw (lb v)) nE) := by
  obtain ⟨d, rfl⟩ : ∃ d', d = d' + 1 := ⟨d - 1, by omega⟩
  have ht' := ht
  obtain ⟨t1, t2, t3, t4⟩ := ht
  refine eX5_small h t (lN v) (fun w => sX5_small_0 h t (lN v) ⟨t1, (Big_zero_spec (by omega) ht').nR (fun x h' hx => ?_)⟩)
  obtain ⟨rfl, rfl⟩ := hx
  intro r5 e5
  rw [e5.trans t2, AH.ai_wiS, lb_len, AH.wi_wi]
  refine ⟨t3, pk_in 0 8 (by omega), fun h8 e8 => ?_⟩
  subst e8
  rw [AH.ai_wiS, AH.wi_wi, List.length_set, lb_len]
  refine ⟨pk_in 1 8 (by omega), fun h14 e14 => ⟨rfl, ?_⟩⟩
  rw [e14, pk_cl 0, pk_cl 1, Jushr_small hv, lN_i]
  congr 1
  refine ext_getD (z := 0) (by rw [List.length_set, List.length_set, lb_len, lb_len]) (fun i hi => ?_)
  rw [List.length_set, List.length_set, lb_len] at hi
  rw [lb_getD v hi, getD_sif, getD_sif, List.length_set, lb_len]
  by_cases e1 : i = 1
  · rw [if_pos ⟨e1, by omega⟩, e1, Nat.pow_one]
  · rw [if_neg (fun q => e1 q.1)]
    by_cases e0 : i = 0
    · rw [if_pos ⟨e0, by omega⟩, e0, Nat.pow_zero, Nat.div_one]
    · rw [if_neg (fun q => e0 q.1), lb_getD 0 hi]
      have h3 : 4294967296 ^ 2 ≤ 4294967296 ^ i := Nat.pow_le_pow_right (by omega) (by omega)
      rw [Nat.zero_div, Nat.div_eq_of_lt (by omega)]
/-- what compare answers -/
def cmpI (a b : Nat) : Int32 := if a < b then -1 else if a = b then 0 else 1
theorem va_cmp {A B : List Int32} {k : Nat} (hk : dg A k < dg B k) : ∀ n, k < n → (∀ i, k < i → i < n → dg A i = dg B i) → va A n < va B n
  | 0, h, _ => absurd h (by omega)
  | n + 1, h, e => by
    rw [va_succ, va_succ]
    by_cases q : k = n
    · subst q
      have h1 := va_lt A k
      have h2 := Nat.mul_le_mul_right (4294967296 ^ k) (show dg A k + 1 ≤ dg B k from hk)
      rw [Nat.add_mul, Nat.one_mul] at h2
      omega
    · have h1 := va_cmp hk n (by omega) (fun i h3 h4 => e i h3 (by omega))
      rw [e n (by omega) (by omega)]
      omega
theorem Big_compare_spec (hd : 1 ≤ d) (ht : BigAt h t tw) (ha : BigAt h a aw) : Cw G mX5_compare d 0 [vR t, vR a] h (kI (fun x h' => x = cmpI (bv h tw) (bv h aw) ∧ h' = h) nE) := by
  obtain ⟨d, rfl⟩ : ∃ d', d = d' + 1 := ⟨d - 1, by omega⟩
  obtain ⟨t1, t2, t3, t4⟩ := ht
  obtain ⟨a1, a2, a3, a4⟩ := ha
  refine eX5_compare h t a (fun w => sX5_compare_0 h t a ?_)
  refine loop_dn (P := fun k (_ : Unit) => k ≤ 8 → Aw G mX5_compare (d + 1) 0 h (kI (fun x h' => x = cmpI (bv h tw) (bv h aw) ∧ h' = h) nE) 3 [vR t, vR a, vI (dI k)] [] h)
    (fun k _ => ∀ i, k ≤ i → i < 8 → (h.ai tw).getD i 0 = (h.ai aw).getD i 0) (fun k _ hI ih hk8 => ?_) (fun _ hI _ => ?_) 8 () (fun i h1 h2 => absurd h1 (by omega)) (by omega)
  · rw [dI_succ]
    refine sX5_compare_3 _ t a (nI k) ⟨fun q => absurd q (nI_pos (by omega)), fun _ => ⟨t1, fun r3 e3 => ?_⟩⟩
    rw [e3.trans t2, t4, pk_cl k]
    refine ⟨t3, pk_in k 8 (by omega), a1, fun r7 e7 => ?_⟩
    rw [e7.trans a2, a4]
    refine ⟨a3, pk_in k 8 (by omega), fun e => ih () (fun i h1 h2 => ?_) (by omega), fun e => ⟨pk_in k 8 (by omega), pk_in k 8 (by omega), ?_⟩⟩
    · by_cases q : i = k
      · rw [q]; exact e
      · exact hI i (by omega) h2
    · rw [and_low, and_low, lN_le63 (by have := u32_lt ((h.ai aw).getD k 0); omega) (by have := u32_lt ((h.ai tw).getD k 0); omega)]
      have hne : dg (h.ai tw) k ≠ dg (h.ai aw) k := fun q => e (u32_inj q)
      refine ⟨fun q => ⟨?_, rfl⟩, fun q => ⟨?_, rfl⟩⟩
      · have : bv h aw < bv h tw := va_cmp (k := k) (by unfold dg at hne ⊢; omega) 8 (by omega) (fun i h1 h2 => by unfold dg; rw [hI i (by omega) h2])
        unfold cmpI
        rw [if_neg (by omega), if_neg (by omega)]
      · have : bv h tw < bv h aw := va_cmp (k := k) (by unfold dg at hne ⊢; omega) 8 (by omega) (fun i h1 h2 => by unfold dg; rw [hI i (by omega) h2])
        unfold cmpI
        rw [if_pos this]
  · refine sX5_compare_3 _ t a (dI 0) ⟨fun _ => ⟨?_, rfl⟩, fun q => absurd (by decide) q⟩
    have : h.ai tw = h.ai aw := ext_getD (z := 0) (by omega) (fun i hi => hI i (by omega) (by omega))
    unfold cmpI bv
    rw [this, if_neg (by omega), if_pos rfl]
theorem Big_isZero_spec (hd : 1 ≤ d) (ht : BigAt h t tw) : Cw G mX5_isZero d 0 [vR t] h (kI (fun x h' => x = (if bv h tw = 0 then 1 else 0) ∧ h' = h) nE) := by
  obtain ⟨d, rfl⟩ : ∃ d', d = d' + 1 := ⟨d - 1, by omega⟩
  obtain ⟨t1, t2, t3, t4⟩ := ht
  refine eX5_isZero h t (fun w => sX5_isZero_0 h t ?_)
  refine loop_uc (n := 8) (P := fun k (_ : Unit) => Aw G mX5_isZero (d + 1) 0 h (kI (fun x h' => x = (if bv h tw = 0 then 1 else 0) ∧ h' = h) nE) 2 [vR t, vI (nI k)] [] h)
    (fun k _ => ∀ i, i < k → (h.ai tw).getD i 0 = 0) (fun k _ hk hI ih => ?_) 0 () (by omega) (fun i hi => absurd hi (by omega))
  refine sX5_isZero_2 _ t (nI k) (pk_le 8 k (fun hk8 => ⟨?_, rfl⟩) (fun hk8 => ⟨t1, fun r3 e3 => ?_⟩))
  · rw [if_pos (va_0 (fun i hi => hI i (by omega)))]
  · rw [e3.trans t2, t4, pk_cl k]
    refine ⟨t3, pk_in k 8 hk8, fun e => ?_, fun e => ⟨?_, rfl⟩⟩
    · rw [nI_1]
      refine ih hk8 () (fun i hi => ?_)
      by_cases q : i = k
      · rw [q]; exact e
      · exact hI i (by omega)
    · rw [if_neg (fun q => e (va_eq0 q k hk8))]
theorem Big_add_spec (hd : 1 ≤ d) (ht : BigAt h t tw) (ha : BigAt h a aw) (hb : BigAt h b bw) : Cw G mX5_add d 0 [vR t, vR a, vR b] h (kI (fun x h' => x = nI ((bv h aw + bv h bw) / 4294967296 ^ 8) ∧ h' = h.wi tw (lb (bv h aw + bv h bw))) nE) := by
  obtain ⟨d, rfl⟩ : ∃ d', d = d' + 1 := ⟨d - 1, by omega⟩
  obtain ⟨t1, t2, t3, t4⟩ := ht
  obtain ⟨a1, a2, a3, a4⟩ := ha
  obtain ⟨b1, b2, b3, b4⟩ := hb
  refine eX5_add h t a b (fun w => sX5_add_0 h t a b ?_)
  have key := loop_uc (n := 8) (P := fun k (x : List Int32 × Nat) => Aw G mX5_add (d + 1) 0 h (kI (fun x h' => x = nI ((bv h aw + bv h bw) / 4294967296 ^ 8) ∧ h' = h.wi tw (lb (bv h aw + bv h bw))) nE) 5 [vR t, vR a, vR b, vJ (lN x.2), vU, vI (nI k)] [] (h.wi tw x.1))
    (fun k x => x.1.length = 8 ∧ x.2 ≤ 1 ∧ (∀ i, k ≤ i → x.1.getD i 0 = (h.ai tw).getD i 0) ∧ va x.1 k + x.2 * 4294967296 ^ k = va (h.ai aw) k + va (h.ai bw) k) (fun k x hk hI ih => ?_) 0 (h.ai tw, 0) (by omega) ⟨t4, by omega, fun _ _ => rfl, rfl⟩
  · rw [AH.wi_self] at key; exact key
  · obtain ⟨T, c⟩ := x
    obtain ⟨l, hc, z, hv⟩ := hI
    dsimp only at l hc z hv
    refine sX5_add_5 _ t a b (lN c) (nI k) (pk_le 8 k (fun hk8 => ?_) (fun hk8 => ⟨a1, fun r3 e3 => ?_⟩))
    · have e : k = 8 := by omega
      subst e
      have h1 := va_lt T 8
      have h2 : (bv h aw + bv h bw) / 4294967296 ^ 8 = c := by
        unfold bv
        rw [← hv, Nat.add_mul_div_right _ _ (by omega), Nat.div_eq_of_lt h1, Nat.zero_add]
      rw [h2]
      refine ⟨lN_i c, ?_⟩
      rw [lb_eq (L := T) (n := bv h aw + bv h bw) l]
      unfold bv
      rw [← hv, Nat.add_mul_mod_self_right, Nat.mod_eq_of_lt h1]
    · rw [e3.trans a2, ln_wi (x := aw) (l.trans t4.symm), a4, pk_cl k]
      refine ⟨a3, pk_in k 8 hk8, b1, fun r7 e7 => ?_⟩
      rw [e7.trans b2, ln_wi (x := bw) (l.trans t4.symm), b4]
      refine ⟨b3, pk_in k 8 hk8, fun u10 e10 => ⟨t1, fun r12 e12 => ?_⟩⟩
      rw [e12.trans t2, AH.ai_wiS, AH.wi_wi, l]
      refine ⟨t3, pk_in k 8 hk8, fun h15 e15 => ?_⟩
      rw [rd_wi (z k (Nat.le_refl _)), rd_wi (z k (Nat.le_refl _)), and_low, and_low, lN_add, lN_add] at e10
      have ha := u32_lt ((h.ai aw).getD k 0)
      have hb := u32_lt ((h.ai bw).getD k 0)
      rw [e15, e10, nI_1, lN_ushr (by omega), lN_i]
      refine ih hk8 (_, (c + (u32 ((h.ai aw).getD k 0) + u32 ((h.ai bw).getD k 0))) / 4294967296) ⟨by rw [List.length_set, l], ?_, fun i hi => ?_, ?_⟩
      · show _ / _ ≤ 1
        omega
      · show (T.set _ _).getD _ _ = _
        rw [getD_set_ne (by omega)]
        exact z i (by omega)
      · dsimp only
        rw [va_set (by omega), va_succ, va_succ, u32_nI]
        unfold dg
        generalize u32 ((h.ai aw).getD k 0) = x at *
        generalize u32 ((h.ai bw).getD k 0) = y at *
        have e : (c + (x + y)) % 4294967296 + (c + (x + y)) / 4294967296 * 4294967296 = c + (x + y) := by omega
        have e2 := congrArg (· * 4294967296 ^ k) e
        rw [Nat.pow_succ]
        generalize (c + (x + y)) % 4294967296 = m at *
        generalize (c + (x + y)) / 4294967296 = q at *
        rw [Nat.add_mul, Nat.add_mul, Nat.add_mul, Nat.mul_assoc, Nat.mul_comm 4294967296] at e2
        omega
theorem Big_subtract_spec (hd : 1 ≤ d) (ht : BigAt h t tw) (ha : BigAt h a aw) (hb : BigAt h b bw) : Cw G mX5_subtract d 0 [vR t, vR a, vR b] h (kR (fun x h' => x = t ∧ h' = h.wi tw (lb (bv h aw + 4294967296 ^ 8 - bv h bw))) nE) := by
  obtain ⟨d, rfl⟩ : ∃ d', d = d' + 1 := ⟨d - 1, by omega⟩
  obtain ⟨t1, t2, t3, t4⟩ := ht
  obtain ⟨a1, a2, a3, a4⟩ := ha
  obtain ⟨b1, b2, b3, b4⟩ := hb
  refine eX5_subtract h t a b (fun w => sX5_subtract_0 h t a b ?_)
  have key := loop_uc (n := 8) (P := fun k (x : List Int32 × Nat) => Aw G mX5_subtract (d + 1) 0 h (kR (fun x h' => x = t ∧ h' = h.wi tw (lb (bv h aw + 4294967296 ^ 8 - bv h bw))) nE) 5 [vR t, vR a, vR b, vJ (lZ (-(x.2 : Int))), vU, vI (nI k)] [] (h.wi tw x.1))
    (fun k x => x.1.length = 8 ∧ x.2 ≤ 1 ∧ (∀ i, k ≤ i → x.1.getD i 0 = (h.ai tw).getD i 0) ∧ va x.1 k + va (h.ai bw) k = va (h.ai aw) k + x.2 * 4294967296 ^ k) (fun k x hk hI ih => ?_) 0 (h.ai tw, 0) (by omega) ⟨t4, by omega, fun _ _ => rfl, rfl⟩
  · rw [AH.wi_self] at key; exact key
  · obtain ⟨T, c⟩ := x
    obtain ⟨l, hc, z, hv⟩ := hI
    dsimp only at l hc z hv
    refine sX5_subtract_5 _ t a b (lZ (-(c : Int))) (nI k) (pk_le 8 k (fun hk8 => ?_) (fun hk8 => ⟨a1, fun r3 e3 => ?_⟩))
    · have e : k = 8 := by omega
      subst e
      refine ⟨rfl, ?_⟩
      have h1 := va_lt T 8
      have h2 := va_lt (h.ai aw) 8
      have h3 := va_lt (h.ai bw) 8
      rw [lb_eq (L := T) (n := bv h aw + 4294967296 ^ 8 - bv h bw) l]
      unfold bv
      have hc2 : c = 0 ∨ c = 1 := by omega
      rcases hc2 with hc2 | hc2
      · subst hc2
        have e : va (h.ai aw) 8 + 4294967296 ^ 8 - va (h.ai bw) 8 = va T 8 + 1 * 4294967296 ^ 8 := by omega
        rw [e, Nat.add_mul_mod_self_right, Nat.mod_eq_of_lt h1]
      · subst hc2
        have e : va (h.ai aw) 8 + 4294967296 ^ 8 - va (h.ai bw) 8 = va T 8 := by omega
        rw [e, Nat.mod_eq_of_lt h1]
    · rw [e3.trans a2, ln_wi (x := aw) (l.trans t4.symm), a4, pk_cl k]
      refine ⟨a3, pk_in k 8 hk8, b1, fun r7 e7 => ?_⟩
      rw [e7.trans b2, ln_wi (x := bw) (l.trans t4.symm), b4]
      refine ⟨b3, pk_in k 8 hk8, fun u10 e10 => ⟨t1, fun r12 e12 => ?_⟩⟩
      rw [e12.trans t2, AH.ai_wiS, AH.wi_wi, l]
      refine ⟨t3, pk_in k 8 hk8, fun h15 e15 => ?_⟩
      rw [rd_wi (z k (Nat.le_refl _)), rd_wi (z k (Nat.le_refl _)), and_low, and_low, lZ_n, lZ_n, lZ_sub, lZ_add] at e10
      have ha := u32_lt ((h.ai aw).getD k 0)
      have hb := u32_lt ((h.ai bw).getD k 0)
      rw [e15, e10, nI_1, lZ_shr (by omega) (by omega), lZ_i]
      generalize hx : u32 ((h.ai aw).getD k 0) = x at *
      generalize hy : u32 ((h.ai bw).getD k 0) = y at *
      have hq : ∃ c' : Nat, c' ≤ 1 ∧ (-(c : Int) + ((x : Int) - (y : Int))) / 4294967296 = -(c' : Int) := by
        by_cases q : (-(c : Int) + ((x : Int) - (y : Int))) < 0
        · exact ⟨1, by omega, by omega⟩
        · exact ⟨0, by omega, by omega⟩
      obtain ⟨c', hc1, hc2⟩ := hq
      rw [hc2]
      refine ih hk8 (_, c') ⟨by rw [List.length_set, l], hc1, fun i hi => ?_, ?_⟩
      · show (T.set _ _).getD _ _ = _
        rw [getD_set_ne (by omega)]
        exact z i (by omega)
      · dsimp only
        rw [va_set (by omega), va_succ, va_succ, u32_ofInt]
        unfold dg
        rw [hx, hy]
        have e : ((-(c : Int) + ((x : Int) - (y : Int))) % 4294967296).toNat + y + c = x + c' * 4294967296 := by omega
        generalize ((-(c : Int) + ((x : Int) - (y : Int))) % 4294967296).toNat = m at *
        have e2 := congrArg (· * 4294967296 ^ k) e
        rw [Nat.pow_succ]
        rw [Nat.add_mul, Nat.add_mul, Nat.add_mul, Nat.mul_assoc, Nat.mul_comm 4294967296] at e2
        omega
end Big

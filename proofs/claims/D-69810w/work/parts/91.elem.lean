/-! elements of the component's stack -/
set_option maxRecDepth 100000
/-- n places of a row from off on -/
def sub_ (L : List Int32) (off n : Nat) : List Int32 := (List.range n).map (fun i => L.getD (off + i) 0)
theorem sub_len (L : List Int32) (off n : Nat) : (sub_ L off n).length = n := mapR_len _ _
theorem sub_getD {L : List Int32} {off n i : Nat} (h : i < n) : (sub_ L off n).getD i 0 = L.getD (off + i) 0 := mapR_getD h
/-- bytes: as signed ones stand in a row -/
def isB (l : List Int32) : Prop := ∀ i, i2b (l.getD i 0) = l.getD i 0
theorem WF.isB {G : Gx} {h : AH} (w : WF G h) {a : Nat} (ka : h.kd a = 101) : isB (h.ai a) := by
  intro i
  by_cases c : i < (h.ai a).length
  · have := w.2.2.2.1 a ka ((h.ai a).getD i 0) (by
      rw [List.getD_eq_getElem?_getD, List.getElem?_eq_getElem c]
      exact List.getElem_mem c)
    exact this
  · rw [List.getD_eq_getElem?_getD, List.getElem?_eq_none (by omega)]
    decide
theorem isB_sub {L : List Int32} (h : isB L) (off n : Nat) : isB (sub_ L off n) := by
  intro i
  by_cases c : i < n
  · rw [sub_getD c]; exact h _
  · rw [List.getD_eq_getElem?_getD, List.getElem?_eq_none (by rw [sub_len]; omega)]
    decide
/-- the element e has the bytes l -/
def ElS (h : AH) (e : Nat) : Prop := h.kd e = 22 ∧ h.r 22000 e = e + 1 ∧ h.kd (e + 1) = 101 ∧ (h.ai (e + 1)).length = 520
def ElAt (h : AH) (e : Nat) (l : List Int32) : Prop := ElS h e ∧ h.i 22001 e = nI l.length ∧ l.length ≤ 520 ∧ ∀ i, i < l.length → (h.ai (e + 1)).getD i 0 = l.getD i 0
theorem ElS.eq {h h' : AH} {e : Nat} (H : ElS h e) (e0 : eqAt h h' e) (e1 : lnAt h h' (e + 1)) : ElS h' e := by
  unfold ElS
  rw [e0.1, e0.2.1, e1.1, e1.2.1]
  exact H
theorem ElAt.eq {h h' : AH} {e : Nat} {l : List Int32} (H : ElAt h e l) (e0 : eqAt h h' e) (e1 : eqAt h h' (e + 1)) : ElAt h' e l := by
  refine ⟨H.1.eq e0 e1.ln, ?_, H.2.2.1, ?_⟩
  · rw [e0.2.2.1]; exact H.2.1
  · rw [e1.2.2.2.2.1]; exact H.2.2.2
/-- whether bytes tell true -/
def isT : List Int32 → Bool
  | [] => false
  | x :: r => if x = 0 then isT r else if 0 < r.length then true else if x = -128 then false else true
theorem drop_cons {l : List Int32} {k : Nat} (h : k < l.length) : l.drop k = l.getD k 0 :: l.drop (k + 1) := by
  rw [List.drop_eq_getElem_cons h, List.getD_eq_getElem?_getD, List.getElem?_eq_getElem h]
  rfl
/-- the size of the number that bytes tell, without its sign -/
def mg (l : List Int32) : Nat := dv8 (fun k => if k = l.length - 1 then ub l k % 128 else ub l k) l.length
def numP (l : List Int32) : Int64 := if 0 < l.length ∧ l.getD (l.length - 1) 0 < 0 then -(lN (mg l)) else lN (mg l)
/-- the digits of a number, the lowest first, by 256 -/
def digs (m : Nat) : List Nat := if h : m = 0 then [] else (m % 256) :: digs (m / 256)
termination_by m
decreasing_by omega
theorem digs_0 : digs 0 = [] := by rw [digs]; rfl
theorem digs_s {m : Nat} (h : m ≠ 0) : digs m = (m % 256) :: digs (m / 256) := by
  rw [digs, dif_neg h]
/-- the bytes of a number in its shortest form: m its size, ng whether it is below 0 -/
def beL (m : Nat) (ng : Bool) : List Int32 := if m = 0 then [] else if 128 ≤ (digs m).getD ((digs m).length - 1) 0 then (digs m).map bI ++ [bI (if ng then 128 else 0)]
  else if ng then ((digs m).map bI).set ((digs m).length - 1) (bI ((digs m).getD ((digs m).length - 1) 0 + 128)) else (digs m).map bI
theorem digs_len : ∀ (k m : Nat), m < 256 ^ k → (digs m).length ≤ k
  | 0, m, h => by
    have : m = 0 := by simpa using h
    rw [this, digs_0]; simp
  | k + 1, m, h => by
    by_cases c : m = 0
    · rw [c, digs_0]; simp
    · rw [digs_s c]
      have := digs_len k (m / 256) (by
        rw [Nat.pow_succ] at h
        exact Nat.div_lt_of_lt_mul (by rw [Nat.mul_comm]; exact h))
      simp only [List.length_cons]
      omega
section Elem
variable {G : Gx} {d : Nat} {h : AH} {e a off n : Nat} {l : List Int32}
theorem El_init_spec (hd : 1 ≤ d) (he : h.kd e = 22) : Cw G mX22_init d e [vR e] h (kV (fun h' => h' = (h.new 101 520 (List.replicate 520 0) [] []).pr 22000 e h.z) nE) := by
  obtain ⟨d, rfl⟩ : ∃ d', d = d' + 1 := ⟨d - 1, by omega⟩
  exact eX22_init h e (fun _ => sX22_init_0 (t := e) h e ⟨he, fun q2 e2 _ h3 e3 h6 e6 => by rw [e6, e3, e2]; rfl⟩)
theorem El_isTrue_spec (hd : 1 ≤ d) (H : ElAt h e l) : Cw G mX22_isTrue d 0 [vR e] h (kI (fun x h' => x = (if isT l then 1 else 0) ∧ h' = h) nE) := by
  obtain ⟨d, rfl⟩ : ∃ d', d = d' + 1 := ⟨d - 1, by omega⟩
  obtain ⟨⟨k1, k2, k3, k4⟩, k5, k6, k7⟩ := H
  refine eX22_isTrue h e (fun _ => sX22_isTrue_0 h e ?_)
  refine loop_uc (n := l.length) (P := fun k (_ : Unit) => Aw G mX22_isTrue (d + 1) 0 h (kI (fun x h' => x = (if isT l then 1 else 0) ∧ h' = h) nE) 2 [vR e, vI (nI k)] [] h)
    (fun k _ => isT l = isT (l.drop k)) (fun k _ hk hI ih => ?_) 0 () (Nat.zero_le _) rfl
  refine sX22_isTrue_2 h e (nI k) ⟨k1, ?_⟩
  rw [k5, nI_sub1]
  refine pk_le l.length k (fun c => ⟨?_, rfl⟩) (fun c r3 e3 => ?_)
  · rw [hI, List.drop_of_length_le c]; rfl
  · have e3' : r3 = e + 1 := e3.trans k2
    subst e3'
    rw [k4, pk_cl k rfl (by omega), k7 k c, show dI l.length = nI (l.length - 1) by
      obtain ⟨m, hm⟩ : ∃ m, l.length = m + 1 := ⟨l.length - 1, by omega⟩
      rw [hm, dI_succ]; rfl]
    rw [drop_cons c] at hI
    refine ⟨k3, pk_in k 520 (by omega), fun c0 => ?_, fun c0 => pk_lt k (l.length - 1) (fun c1 => ⟨?_, rfl⟩) (fun c1 => ⟨pk_in k 520 (by omega), fun c2 => ⟨?_, rfl⟩, fun c2 => ⟨?_, rfl⟩⟩)⟩
    · rw [nI_1]
      exact ih c () (by rw [hI]; show (if _ then _ else _) = _; rw [if_pos c0])
    · have hp : 0 < (l.drop (k + 1)).length := by rw [List.length_drop]; omega
      rw [hI, show isT (l.getD k 0 :: l.drop (k + 1)) = true by show (if _ then _ else _) = _; rw [if_neg c0, if_pos hp]]
      rfl
    · have hp : ¬ 0 < (l.drop (k + 1)).length := by rw [List.length_drop]; omega
      rw [hI, show isT (l.getD k 0 :: l.drop (k + 1)) = false by show (if _ then _ else _) = _; rw [if_neg c0, if_neg hp, if_pos c2]]
      rfl
    · have hp : ¬ 0 < (l.drop (k + 1)).length := by rw [List.length_drop]; omega
      rw [hI, show isT (l.getD k 0 :: l.drop (k + 1)) = true by show (if _ then _ else _) = _; rw [if_neg c0, if_neg hp, if_neg c2]]
      rfl
theorem El_set_spec (hd : 1 ≤ d) (H : ElS h e) (ka : h.kd a = 101) (hl : off + n ≤ (h.ai a).length) (hl2 : (h.ai a).length < 2 ^ 31) (hn : n ≤ 520) (hae : a ≠ e + 1) : Cw G mX22_set d 0 [vR e, vR a, vI (nI off), vI (nI n)] h (kR (fun x h' => x = e ∧ h' = (h.wi (e + 1) (putB (h.ai (e + 1)) 0 n (fun i => (h.ai a).getD (off + i) 0))).pi 22001 e (nI n)) nE) := by
  obtain ⟨d, rfl⟩ : ∃ d', d = d' + 1 := ⟨d - 1, by omega⟩
  obtain ⟨k1, k2, k3, k4⟩ := H
  refine eX22_set h e a (nI off) (nI n) (fun w => sX22_set_0 h e a (nI off) (nI n) ?_)
  have hB := w.isB ka
  have key := loop_uc (n := n) (P := fun k (T : List Int32) => Aw G mX22_set (d + 1) 0 h (kR (fun x h' => x = e ∧ h' = (h.wi (e + 1) (putB (h.ai (e + 1)) 0 n (fun i => (h.ai a).getD (off + i) 0))).pi 22001 e (nI n)) nE) 3 [vR e, vR a, vI (nI off), vI (nI n), vI (nI k)] [] (h.wi (e + 1) T))
    (fun k T => T = putB (h.ai (e + 1)) 0 k (fun i => (h.ai a).getD (off + i) 0)) (fun k T hk hI ih => ?_) 0 (h.ai (e + 1)) (Nat.zero_le _) (putB_0 _ _ _).symm
  · rw [AH.wi_self] at key; exact key
  · subst hI
    refine sX22_set_3 _ e a (nI off) (nI n) (nI k) (pk_le n k (fun c => ⟨k1, fun h3 e3 => ⟨rfl, ?_⟩⟩) (fun c => ⟨k1, fun r5 e5 => ?_⟩))
    · rw [e3, show k = n by omega]
    · have e5' : r5 = e + 1 := e5.trans k2
      subst e5'
      rw [AH.ai_wiN hae, AH.ai_wiS, putB_len, k4, AH.wi_wi, nI_add, pk_cl (off + k) rfl (by omega), pk_cl k rfl (by omega), hB]
      refine ⟨ka, pk_in (off + k) _ (by omega), k3, pk_in k 520 (by omega), fun h10 e10 => ?_⟩
      rw [e10, nI_1]
      refine ih c _ ?_
      have := putB_succ (L := h.ai (e + 1)) (off := 0) (n := k) (g := fun i => (h.ai a).getD (off + i) 0) (x := (h.ai a).getD (off + k) 0) (by omega) rfl
      rw [Nat.zero_add] at this
      exact this
/-- what set leaves -/
theorem ElAt.set (H : ElS h e) {g : Nat → Int32} (hn : n ≤ 520) (hg : ∀ i, i < n → l.getD i 0 = g i) (hl : l.length = n) : ElAt ((h.wi (e + 1) (putB (h.ai (e + 1)) 0 n g)).pi 22001 e (nI n)) e l := by
  obtain ⟨k1, k2, k3, k4⟩ := H
  refine ⟨⟨k1, k2, k3, ?_⟩, ?_, by omega, fun i hi => ?_⟩
  · rw [AH.ai_pi, AH.ai_wiS, putB_len]; exact k4
  · rw [AH.i_pi, if_pos ⟨rfl, rfl⟩, hl]
  · rw [AH.ai_pi, AH.ai_wiS, putB_getD _ _ _ _ (by omega), if_pos ⟨Nat.zero_le _, by omega⟩, Nat.sub_zero, hg i (by omega)]
theorem El_same_spec {e2 : Nat} {l2 : List Int32} (hd : 1 ≤ d) (H : ElAt h e l) (H2 : ElAt h e2 l2) : Cw G mX22_same d 0 [vR e, vR e2] h (kI (fun x h' => x = (if l = l2 then 1 else 0) ∧ h' = h) nE) := by
  obtain ⟨d, rfl⟩ : ∃ d', d = d' + 1 := ⟨d - 1, by omega⟩
  obtain ⟨⟨k1, k2, k3, k4⟩, k5, k6, k7⟩ := H
  obtain ⟨⟨m1, m2, m3, m4⟩, m5, m6, m7⟩ := H2
  refine eX22_same h e e2 (fun _ => sX22_same_0 h e e2 ⟨k1, m1, ?_⟩)
  rw [k5, m5]
  refine pk_eq l.length l2.length (fun c => ?_) (fun c => ⟨by rw [if_neg (fun q => c (by rw [q]))], rfl⟩)
  refine loop_uc (n := l.length) (P := fun k (_ : Unit) => Aw G mX22_same (d + 1) 0 h (kI (fun x h' => x = (if l = l2 then 1 else 0) ∧ h' = h) nE) 15 [vR e, vR e2, vI (nI k)] [] h)
    (fun k _ => ∀ i, i < k → l.getD i 0 = l2.getD i 0) (fun k _ hk hI ih => ?_) 0 () (Nat.zero_le _) (fun i hi => absurd hi (by omega))
  refine sX22_same_15 h e e2 (nI k) ⟨k1, ?_⟩
  rw [k5]
  refine pk_le l.length k (fun c2 => ⟨?_, rfl⟩) (fun c2 r3 e3 => ?_)
  · rw [if_pos (ext_getD (z := 0) c (fun i hi => hI i (by omega)))]
  · have e3' : r3 = e + 1 := e3.trans k2
    subst e3'
    rw [k4, pk_cl k rfl (by omega), k7 k c2]
    refine ⟨k3, pk_in k 520 (by omega), m1, fun r7 e7 => ?_⟩
    have e7' : r7 = e2 + 1 := e7.trans m2
    subst e7'
    rw [m4, m7 k (by omega)]
    refine ⟨m3, pk_in k 520 (by omega), fun c3 => ?_, fun c3 => ⟨by rw [if_neg (fun q => c3 (by rw [q]))], rfl⟩⟩
    rw [nI_1]
    refine ih c2 () (fun i hi => ?_)
    by_cases q : i = k
    · rw [q]; exact c3
    · exact hI i (by omega)
end Elem

/-! transactions and blocks, plainly; the component's transaction -/
set_option maxRecDepth 100000
abbrev P3 : Type := Nat × Nat × Nat
abbrev TxP : Type := Nat × Nat × List P3 × List P3
/-- so many inputs from a on: where each begins, its script, its script's size; and behind them -/
def insP (L : List Int32) (n : Nat) : Nat → Nat → Option (List P3 × Nat)
  | 0, a => some ([], a)
  | k + 1, a => if n < a + 36 then none else match cntP L n (a + 36) with
    | none => none
    | some (sz, b) => if n < b + sz + 4 then none else match insP L n k (b + sz + 4) with
      | none => none
      | some (l, e) => some ((a, b, sz) :: l, e)
def outsP (L : List Int32) (n : Nat) : Nat → Nat → Option (List P3 × Nat)
  | 0, a => some ([], a)
  | k + 1, a => if n < a + 8 then none else match cntP L n (a + 8) with
    | none => none
    | some (sz, b) => if n < b + sz then none else match outsP L n k (b + sz) with
      | none => none
      | some (l, e) => some ((a, b, sz) :: l, e)
/-- a transaction: where it begins, where it ends, inputs, outputs -/
def txP (L : List Int32) (n a : Nat) : Option TxP := if n < a + 4 then none else match cntP L n (a + 4) with
  | none => none
  | some (ni, b) => if 40 < ni then none else match insP L n ni b with
    | none => none
    | some (il, c) => match cntP L n c with
      | none => none
      | some (no, e) => if 180 < no then none else match outsP L n no e with
        | none => none
        | some (ol, g) => if n < g + 4 then none else some (a, g + 4, il, ol)
def txsP (L : List Int32) (n : Nat) : Nat → Nat → Option (List TxP × Nat)
  | 0, a => some ([], a)
  | k + 1, a => match txP L n a with
    | none => none
    | some t => match txsP L n k t.2.1 with
      | none => none
      | some (l, e) => some (t :: l, e)
def blkP (L : List Int32) (n : Nat) : Option (List TxP) := if n < 80 then none else match cntP L n 80 with
  | none => none
  | some (c, b) => if 12 < c then none else match txsP L n c b with
    | none => none
    | some (l, e) => if e = n then some l else none
def apP {α : Type} (acc : List α) (o : Option (List α × Nat)) : Option (List α × Nat) := match o with
  | none => none
  | some (l, e) => some (acc ++ l, e)
theorem apP_nil {α : Type} (o : Option (List α × Nat)) : apP [] o = o := by
  match o with
  | none => rfl
  | some (l, e) => rfl
section PlainTx
variable {L : List Int32} {n a sz b k : Nat} {acc : List P3}
theorem insP_0 : apP acc (insP L n 0 a) = some (acc, a) := by
  show some (acc ++ [], a) = _
  rw [List.append_nil]
theorem insP_n1 (h : n < a + 36) : insP L n (k + 1) a = none := by rw [insP, if_pos h]
theorem insP_n2 (h : cntP L n (a + 36) = none) : insP L n (k + 1) a = none := by
  rw [insP, h]
  split <;> rfl
theorem insP_n3 (h : cntP L n (a + 36) = some (sz, b)) (h3 : n < b + sz + 4) : insP L n (k + 1) a = none := by
  rw [insP, h]
  split
  · rfl
  · show (if n < b + sz + 4 then none else _) = none
    rw [if_pos h3]
theorem insP_ok (h1 : a + 36 ≤ n) (h : cntP L n (a + 36) = some (sz, b)) (h3 : b + sz + 4 ≤ n) : apP acc (insP L n (k + 1) a) = apP (acc ++ [(a, b, sz)]) (insP L n k (b + sz + 4)) := by
  rw [insP, h, if_neg (by omega)]
  show apP acc (if n < b + sz + 4 then none else _) = _
  rw [if_neg (by omega)]
  cases insP L n k (b + sz + 4) with
  | none => rfl
  | some p =>
    obtain ⟨l, e⟩ := p
    show some (acc ++ (a, b, sz) :: l, e) = some (acc ++ [(a, b, sz)] ++ l, e)
    rw [List.append_assoc]
    rfl
theorem outsP_0 : apP acc (outsP L n 0 a) = some (acc, a) := by
  show some (acc ++ [], a) = _
  rw [List.append_nil]
theorem outsP_n1 (h : n < a + 8) : outsP L n (k + 1) a = none := by rw [outsP, if_pos h]
theorem outsP_n2 (h : cntP L n (a + 8) = none) : outsP L n (k + 1) a = none := by
  rw [outsP, h]
  split <;> rfl
theorem outsP_n3 (h : cntP L n (a + 8) = some (sz, b)) (h3 : n < b + sz) : outsP L n (k + 1) a = none := by
  rw [outsP, h]
  split
  · rfl
  · show (if n < b + sz then none else _) = none
    rw [if_pos h3]
theorem outsP_ok (h1 : a + 8 ≤ n) (h : cntP L n (a + 8) = some (sz, b)) (h3 : b + sz ≤ n) : apP acc (outsP L n (k + 1) a) = apP (acc ++ [(a, b, sz)]) (outsP L n k (b + sz)) := by
  rw [outsP, h, if_neg (by omega)]
  show apP acc (if n < b + sz then none else _) = _
  rw [if_neg (by omega)]
  cases outsP L n k (b + sz) with
  | none => rfl
  | some p =>
    obtain ⟨l, e⟩ := p
    show some (acc ++ (a, b, sz) :: l, e) = some (acc ++ [(a, b, sz)] ++ l, e)
    rw [List.append_assoc]
    rfl
theorem txP_n1 (h : n < a + 4) : txP L n a = none := if_pos h
theorem txP_n2 (h : cntP L n (a + 4) = none) : txP L n a = none := by
  unfold txP
  rw [h]
  split <;> rfl
theorem txP_c {ni : Nat} (h1 : a + 4 ≤ n) (h : cntP L n (a + 4) = some (ni, b)) : txP L n a = if 40 < ni then none else match insP L n ni b with
    | none => none
    | some (il, c) => match cntP L n c with
      | none => none
      | some (no, e) => if 180 < no then none else match outsP L n no e with
        | none => none
        | some (ol, g) => if n < g + 4 then none else some (a, g + 4, il, ol) := by
  unfold txP
  rw [h, if_neg (by omega)]
end PlainTx
/-! rows of places -/
theorem mapR_getD {α : Type} {g : Nat → α} {c i : Nat} {z : α} (h : i < c) : ((List.range c).map g).getD i z = g i := by
  rw [List.getD_eq_getElem?_getD, List.getElem?_map, List.getElem?_range h]
  rfl
theorem mapR_len {α : Type} (g : Nat → α) (c : Nat) : ((List.range c).map g).length = c := by simp
/-- the first k of c places are told, the others are null -/
def rowF (f : Nat → Nat) (k c : Nat) : List Nat := (List.range c).map (fun j => if j < k then f j else 0)
theorem rowF_len (f : Nat → Nat) (k c : Nat) : (rowF f k c).length = c := mapR_len _ _
theorem rowF_getD {f : Nat → Nat} {k c j : Nat} (h : j < k) (hc : j < c) : (rowF f k c).getD j 0 = f j := by
  unfold rowF
  rw [mapR_getD hc, if_pos h]
theorem rowF_0 (f : Nat → Nat) (c : Nat) : List.replicate c 0 = rowF f 0 c := by
  refine ext_getD (z := 0) (by rw [rowF_len, List.length_replicate]) (fun i hi => ?_)
  rw [List.length_replicate] at hi
  unfold rowF
  rw [mapR_getD hi, if_neg (by omega)]
  simp [List.getD_eq_getElem?_getD, hi]
theorem rowF_set {f : Nat → Nat} {k c x : Nat} (h : k < c) (hx : x = f k) : (rowF f k c).set k x = rowF f (k + 1) c := by
  refine ext_getD (z := 0) (by rw [List.length_set, rowF_len, rowF_len]) (fun i hi => ?_)
  rw [List.length_set, rowF_len] at hi
  rw [getD_sif, rowF_len]
  unfold rowF
  rw [mapR_getD hi, mapR_getD hi]
  by_cases e : i = k
  · rw [if_pos ⟨e, h⟩, if_pos (by omega), e, hx]
  · rw [if_neg (fun q => e q.1)]
    by_cases c2 : i < k
    · rw [if_pos c2, if_pos (by omega)]
    · rw [if_neg c2, if_neg (by omega)]
theorem getD_snoc {α : Type} {l : List α} {x z : α} {j : Nat} : (l ++ [x]).getD j z = if j = l.length then x else l.getD j z := by
  rw [List.getD_eq_getElem?_getD, List.getElem?_append]
  by_cases c : j < l.length
  · rw [if_pos c, if_neg (by omega), List.getD_eq_getElem?_getD]
  · rw [if_neg c]
    by_cases e : j = l.length
    · rw [if_pos e, e, Nat.sub_self]
      rfl
    · rw [if_neg e, List.getD_eq_getElem?_getD, List.getElem?_eq_none (by simp; omega), List.getElem?_eq_none (by omega)]
/-! what the component keeps of a transaction -/
def InAt (h : AH) (q : Nat) (L : List Int32) (x : P3) : Prop := h.kd q = 19 ∧ h.i 19000 q = nI x.1 ∧ h.i 19001 q = nI (leV L (x.1 + 32) 4) ∧ h.i 19002 q = nI x.2.1 ∧ h.i 19003 q = nI x.2.2 ∧ h.l 19004 q = lN (leV L (x.2.1 + x.2.2) 4)
def OutAt (h : AH) (q : Nat) (L : List Int32) (x : P3) : Prop := h.kd q = 20 ∧ h.l 20000 q = lN (leV L x.1 8) ∧ h.i 20001 q = nI x.2.1 ∧ h.i 20002 q = nI x.2.2
def p0 : P3 := (0, 0, 0)
/-- the row at A, the first k of c inputs behind it -/
def InsAt (h : AH) (A : Nat) (L : List Int32) (l : List P3) (c : Nat) : Prop := h.kd A = 111 ∧ h.ar A = rowF (fun j => A + 1 + j) l.length c ∧ ∀ j, j < l.length → InAt h (A + 1 + j) L (l.getD j p0)
def OutsAt (h : AH) (A : Nat) (L : List Int32) (l : List P3) (c : Nat) : Prop := h.kd A = 112 ∧ h.ar A = rowF (fun j => A + 1 + j) l.length c ∧ ∀ j, j < l.length → OutAt h (A + 1 + j) L (l.getD j p0)
/-- the transaction at q, as far as its inputs -/
def TxA (h : AH) (q : Nat) (L : List Int32) (b : Nat) : Prop := h.kd q = 18 ∧ h.i 18000 q = nI b ∧ h.r 18002 q = q + 1 ∧ h.l 18003 q = lN (leV L b 4) ∧ h.kd (q + 1) = 101 ∧ (h.ai (q + 1)).length = 32 ∧ h.r 18005 q = q + 2
def TxAt (h : AH) (q : Nat) (L : List Int32) (t : TxP) : Prop := TxA h q L t.1 ∧ InsAt h (q + 2) L t.2.2.1 t.2.2.1.length ∧ h.i 18001 q = nI t.2.1 ∧ h.l 18004 q = lN (leV L (t.2.1 - 4) 4) ∧ h.r 18006 q = q + 3 + t.2.2.1.length ∧ OutsAt h (q + 3 + t.2.2.1.length) L t.2.2.2 t.2.2.2.length
def txSz (t : TxP) : Nat := 4 + t.2.2.1.length + t.2.2.2.length
section TxFr
variable {h h' : AH} {q A b c : Nat} {L : List Int32} {x : P3} {l : List P3} {t : TxP}
theorem InAt.eq (H : InAt h q L x) (e : eqAt h h' q) : InAt h' q L x := by
  unfold InAt
  rw [e.1, e.2.2.1, e.2.2.1, e.2.2.1, e.2.2.1, e.2.2.2.1]
  exact H
theorem OutAt.eq (H : OutAt h q L x) (e : eqAt h h' q) : OutAt h' q L x := by
  unfold OutAt
  rw [e.1, e.2.2.1, e.2.2.1, e.2.2.2.1]
  exact H
theorem InsAt.eq (H : InsAt h A L l c) (e : ∀ a, A ≤ a → a ≤ A + l.length → eqAt h h' a) : InsAt h' A L l c := by
  have e0 := e A (Nat.le_refl _) (by omega)
  exact ⟨e0.1.trans H.1, e0.2.2.2.2.2.2.trans H.2.1, fun j hj => (H.2.2 j hj).eq (e _ (by omega) (by omega))⟩
theorem OutsAt.eq (H : OutsAt h A L l c) (e : ∀ a, A ≤ a → a ≤ A + l.length → eqAt h h' a) : OutsAt h' A L l c := by
  have e0 := e A (Nat.le_refl _) (by omega)
  exact ⟨e0.1.trans H.1, e0.2.2.2.2.2.2.trans H.2.1, fun j hj => (H.2.2 j hj).eq (e _ (by omega) (by omega))⟩
theorem TxA.eq (H : TxA h q L b) (e0 : eqAt h h' q) (e1 : h'.kd (q + 1) = h.kd (q + 1)) (e2 : (h'.ai (q + 1)).length = (h.ai (q + 1)).length) : TxA h' q L b := by
  unfold TxA
  rw [e0.1, e0.2.2.1, e0.2.1, e0.2.2.2.1, e1, e2, e0.2.1]
  exact H
theorem TxAt.eq (H : TxAt h q L t) (e : ∀ a, q ≤ a → a < q + txSz t → eqAt h h' a) : TxAt h' q L t := by
  have hs : txSz t = 4 + t.2.2.1.length + t.2.2.2.length := rfl
  have e0 := e q (Nat.le_refl _) (by omega)
  have e1 := e (q + 1) (by omega) (by omega)
  refine ⟨H.1.eq e0 e1.1 (by rw [e1.2.2.2.2.1]), H.2.1.eq (fun a h1 h2 => e a (by omega) (by omega)), ?_, ?_, ?_, H.2.2.2.2.2.eq (fun a h1 h2 => e a (by omega) (by omega))⟩
  · rw [e0.2.2.1]; exact H.2.2.1
  · rw [e0.2.2.2.1]; exact H.2.2.2.1
  · rw [e0.2.1]; exact H.2.2.2.2.1
end TxFr
section TxW
variable {G : Gx} {d : Nat} {h : AH} {s a at_ n : Nat} {L : List Int32}
theorem Tx_init_spec {t : Nat} (hd : 1 ≤ d) (ht : h.kd t = 18) : Cw G mX18_init d t [vR t] h (kV (fun h' => h' = (h.new 101 32 (List.replicate 32 0) [] []).pr 18002 t h.z) nE) := by
  obtain ⟨d, rfl⟩ : ∃ d', d = d' + 1 := ⟨d - 1, by omega⟩
  exact eX18_init h t (fun w => sX18_init_0 (t := t) h t ⟨ht, fun q2 e2 _ h3 e3 h6 e6 => by rw [e6, e3, e2]; rfl⟩)
theorem In_init_spec {t : Nat} (hd : 1 ≤ d) (ht : h.kd t = 19) : Cw G mX19_init d t [vR t] h (kV (fun h' => h' = h) nE) := by
  obtain ⟨d, rfl⟩ : ∃ d', d = d' + 1 := ⟨d - 1, by omega⟩
  exact eX19_init h t (fun w => sX19_init_0 (t := t) h t ⟨ht, rfl⟩)
theorem Out_init_spec {t : Nat} (hd : 1 ≤ d) (ht : h.kd t = 20) : Cw G mX20_init d t [vR t] h (kV (fun h' => h' = h) nE) := by
  obtain ⟨d, rfl⟩ : ∃ d', d = d' + 1 := ⟨d - 1, by omega⟩
  exact eX20_init h t (fun w => sX20_init_0 (t := t) h t ⟨ht, rfl⟩)
theorem Src_at_spec (hd : 1 ≤ d) (H : SrcAt h s a L at_ n) : Cw G mX16_at d 0 [vR s] h (kI (fun x h' => x = nI at_ ∧ h' = h) nE) := by
  obtain ⟨d, rfl⟩ : ∃ d', d = d' + 1 := ⟨d - 1, by omega⟩
  exact eX16_at h s (fun w => sX16_at_0 h s ⟨H.1, H.2.2.1, rfl⟩)
theorem Src_ended_spec (hd : 1 ≤ d) (H : SrcAt h s a L at_ n) : Cw G mX16_ended d 0 [vR s] h (kI (fun x h' => x = (if at_ = n then 1 else 0) ∧ h' = h) nE) := by
  obtain ⟨d, rfl⟩ : ∃ d', d = d' + 1 := ⟨d - 1, by omega⟩
  obtain ⟨k1, k2, k3, k4, k5, k6, kL, k7, k8⟩ := H
  refine eX16_ended h s (fun w => sX16_ended_0 h s ⟨k1, ?_⟩)
  rw [k3, k4]
  exact pk_eq' at_ n (fun c => ⟨by rw [if_neg c], rfl⟩) (fun c => ⟨by rw [if_pos c], rfl⟩)
/-- the loop over the outputs -/
theorem tx_181 {h1 : AH} {il : List P3} {e0 no : Nat} (hd : 9 ≤ d) (w : WF G h) (ha : a < h.z) (hs : s < h.z) (has : a ≠ s) (hno : no ≤ 180) (hil : il.length ≤ 40)
    (T1 : TxA h1 h.z L at_) (I1 : InsAt h1 (h.z + 2) L il il.length) (R1 : h1.r 18006 h.z = h.z + 3 + il.length) (O1 : OutsAt h1 (h.z + 3 + il.length) L [] no) (S1 : SrcAt h1 s a L e0 n) (F1 : Same (· = s) h h1) (Z1 : h1.z = h.z + 4 + il.length) (s1 : h1.s ≤ h.s + 39 + 6 * il.length + no)
    (hP : txP L n at_ = match outsP L n no e0 with
        | none => none
        | some (ol, g) => if n < g + 4 then none else some (at_, g + 4, il, ol)) :
    Aw G mX1_transaction (d + 1) 0 h (kR (fun x h' => ∃ t, txP L n at_ = some t ∧ x = h.z ∧ TxAt h' h.z L t ∧ SrcAt h' s a L t.2.1 n ∧ Same (· = s) h h' ∧ h'.z = h.z + txSz t ∧ h'.s ≤ h.s + 1000) (fun x h' => txP L n at_ = none ∧ Thr 17 (· = s) 230 1100 h h' x)) 181 [vR s, vR h.z, vJ (lN no), vU, vI (nI 0), vU, vU, vU] [] h1 := by
  have hz0 : 0 < h.z := by omega
  refine loop_uc (n := no) (P := fun k (x : AH × Nat × List P3) => Aw G mX1_transaction (d + 1) 0 h (kR (fun x h' => ∃ t, txP L n at_ = some t ∧ x = h.z ∧ TxAt h' h.z L t ∧ SrcAt h' s a L t.2.1 n ∧ Same (· = s) h h' ∧ h'.z = h.z + txSz t ∧ h'.s ≤ h.s + 1000) (fun x h' => txP L n at_ = none ∧ Thr 17 (· = s) 230 1100 h h' x)) 181 [vR s, vR h.z, vJ (lN no), vU, vI (nI k), vU, vU, vU] [] x.1)
    (fun k x => x.2.2.length = k ∧ Same (fun y => y = s ∨ y = h.z + 3 + il.length) h1 x.1 ∧ SrcAt x.1 s a L x.2.1 n ∧ OutsAt x.1 (h.z + 3 + il.length) L x.2.2 no ∧ x.1.z = h.z + 4 + il.length + k ∧ x.1.s = h1.s + 3 * k ∧ outsP L n no e0 = apP x.2.2 (outsP L n (no - k) x.2.1))
    (fun k x hk hI ih => ?_) 0 (h1, e0, []) (Nat.zero_le _) ⟨rfl, Same.rf, S1, O1, Z1, rfl, by rw [Nat.sub_zero, apP_nil]⟩
  obtain ⟨hx, cur, acc⟩ := x
  obtain ⟨la, F2, S2, O2, Z2, s2, hI⟩ := hI
  dsimp only at la F2 S2 O2 Z2 s2 hI ⊢
  have F : Same (· = s) h hx := F1.trans F2 (fun x hx q => by omega)
  have hsx : s < hx.z := by have := F.1; omega
  have hax : a < hx.z := by have := F.1; omega
  have eq0 : eqAt h1 hx h.z := F2.2.2 _ (by omega) (by omega)
  have eq1 : eqAt h1 hx (h.z + 1) := F2.2.2 _ (by omega) (by omega)
  have Tx1 : TxA hx h.z L at_ := T1.eq eq0 eq1.1 (by rw [eq1.2.2.2.2.1])
  have Rx : hx.r 18006 h.z = h.z + 3 + il.length := by rw [eq0.2.1]; exact R1
  refine sX1_transaction_181 hx s h.z (lN no) (nI k) ?_
  rw [nI_l (by omega), lN_le63 (by omega) (by omega)]
  refine ⟨fun c => ⟨S2.1, (Src_number_spec (k := 4) (by omega) (by omega) S2).toJ (fun x2 h3 _ _ Q => ?_) (fun x2 h3 _ _ Q => ⟨?_, ?_⟩)⟩, fun c q14 e14 w14 h15 e15 => ?_⟩
  · obtain ⟨hl, rfl, rfl⟩ := Q
    have ek : no - k = 0 := by omega
    rw [ek, outsP_0] at hI
    refine ⟨Tx1.1, fun h6 e6 => ?_⟩
    subst e6
    refine (Src_at_spec (by omega) ((S2.adv hl).pl 18004 h.z _)).nI (fun x7 h8 Q => ?_)
    obtain ⟨rfl, rfl⟩ := Q
    intro h13 e13
    subst e13
    have Fx : Same (fun y => y = s ∨ y = h.z) hx (((hx.pi 16001 s (nI (cur + 4))).pl 18004 h.z (lN (leV L cur 4))).pi 18001 h.z (nI (cur + 4))) :=
      ((Same.rf.pi _ _ (Or.inl (Or.inl rfl))).pl _ _ (Or.inl (Or.inr rfl))).pi _ _ (Or.inl (Or.inr rfl))
    have ns : ¬ h.z = s := by omega
    refine ⟨(at_, cur + 4, il, acc), ?_, rfl, ?_, ?_, ?_, ?_, ?_⟩
    · rw [hP, hI]
      show (if n < cur + 4 then none else _) = _
      rw [if_neg (by omega)]
    · refine ⟨?_, ?_, ?_, ?_, ?_, ?_⟩
      · unfold TxA
        have e1 : eqAt hx _ (h.z + 1) := Fx.2.2 (h.z + 1) (by omega) (by omega)
        rw [e1.1, e1.2.2.2.2.1]
        simp only [AH.kd_pr, AH.r_pr, AH.i_pr, AH.l_pr, AH.ai_pr, AH.al_pr, AH.ar_pr, AH.z_pr, AH.s_pr, AH.kd_pi, AH.r_pi, AH.i_pi, AH.l_pi, AH.ai_pi, AH.al_pi, AH.ar_pi, AH.z_pi, AH.s_pi, AH.kd_pl, AH.r_pl, AH.i_pl, AH.l_pl, AH.ai_pl, AH.al_pl, AH.ar_pl, AH.z_pl, AH.s_pl, AH.kd_wl, AH.r_wl, AH.i_wl, AH.l_wl, AH.ai_wl, AH.al_wl, AH.ar_wl, AH.z_wl, AH.s_wl, AH.kd_wr, AH.r_wr, AH.i_wr, AH.l_wr, AH.ai_wr, AH.al_wr, AH.ar_wr, AH.z_wr, AH.s_wr, AH.kd_wi, AH.r_wi, AH.i_wi, AH.l_wi, AH.ai_wi, AH.al_wi, AH.ar_wi, AH.z_wi, AH.s_wi, AH.kd_nw, AH.r_nw, AH.i_nw, AH.l_nw, AH.ai_nw, AH.al_nw, AH.ar_nw, AH.z_nw, AH.s_nw, false_and, and_false, true_and, and_true, and_self, eq_self, if_true, if_false, reduceIte, ns, Nat.reduceEqDiff]
        exact Tx1
      · exact (I1.eq (fun y h1 h2 => (F2.2.2 y (by omega) (by omega)).trans (Fx.2.2 y (by omega) (by omega))))
      · show (if _ then _ else _) = _
        rw [if_pos ⟨rfl, rfl⟩]
      · show (if _ then _ else _) = _
        rw [if_pos ⟨rfl, rfl⟩, Nat.add_sub_cancel]
      · exact Rx
      · have : acc.length = no := by omega
        show OutsAt _ _ _ acc acc.length
        rw [this]
        exact O2.eq (fun y h1 h2 => Fx.2.2 y (by omega) (by omega))
    · exact ((S2.adv hl).pl 18004 h.z _).pi _ _ _ (by decide)
    · exact F.trans Fx (fun y hy q => by omega)
    · show hx.z = h.z + (4 + il.length + acc.length)
      omega
    · show hx.s ≤ _
      omega
  · have ek : no - k = 0 := by omega
    rw [hP, hI, ek, outsP_0]
    show (if n < cur + 4 then none else _) = none
    rw [if_pos Q.1]
  · exact Thr.aft F (by omega) (by omega) Q.2 (fun _ _ q => q)
  · have ek : no - k = (no - (k + 1)) + 1 := by omega
    rw [ek] at hI
    subst e14
    have kd14 : h15.kd hx.z = 20 := by rw [e15, AH.kd_nw, if_pos rfl]
    refine (Out_init_spec (by omega) kd14).nV (fun h18 e18 => ?_)
    subst e18
    subst e15
    have A1 := S2.new hsx hax 20 3 [] [] []
    have Fn : Same (· = s) h (hx.new 20 3 [] [] []) := F.new _ _ _ _ _
    have hnone : ∀ {X : Option (List P3 × Nat)}, outsP L n no e0 = X → X = none → txP L n at_ = none := fun {X} e1 e2 => by rw [hP, e1, e2]
    refine ⟨A1.1, (Src_number_spec (k := 8) (by omega) (by omega) A1).toJ (fun x19 h20 _ _ Q => ?_) (fun x19 h20 _ _ Q => ⟨hnone hI (by rw [outsP_n1 Q.1]; rfl), Thr.aft Fn (by rw [AH.z_nw]; omega) (by rw [AH.s_nw]; omega) Q.2 (fun _ _ q => q)⟩)⟩
    obtain ⟨hl, rfl, rfl⟩ := Q
    intro h24 e24
    subst e24
    have A2 := (A1.adv hl).pl 20000 hx.z (lN (leV L cur 8))
    have F2' := (Fn.pi 16001 (nI (cur + 8)) (Or.inl rfl)).pl 20000 (lN (leV L cur 8)) (Or.inr (show h.z ≤ hx.z from F.1))
    refine (Src_count_spec (by omega) A2).toJ (fun x25 h26 _ _ Q => ?_) (fun x25 h26 _ _ Q => ⟨hnone hI (by rw [outsP_n2 Q.1]; rfl), Thr.aft F2' (by simp only [AH.kd_pr, AH.r_pr, AH.i_pr, AH.l_pr, AH.ai_pr, AH.al_pr, AH.ar_pr, AH.z_pr, AH.s_pr, AH.kd_pi, AH.r_pi, AH.i_pi, AH.l_pi, AH.ai_pi, AH.al_pi, AH.ar_pi, AH.z_pi, AH.s_pi, AH.kd_pl, AH.r_pl, AH.i_pl, AH.l_pl, AH.ai_pl, AH.al_pl, AH.ar_pl, AH.z_pl, AH.s_pl, AH.kd_wl, AH.r_wl, AH.i_wl, AH.l_wl, AH.ai_wl, AH.al_wl, AH.ar_wl, AH.z_wl, AH.s_wl, AH.kd_wr, AH.r_wr, AH.i_wr, AH.l_wr, AH.ai_wr, AH.al_wr, AH.ar_wr, AH.z_wr, AH.s_wr, AH.kd_wi, AH.r_wi, AH.i_wi, AH.l_wi, AH.ai_wi, AH.al_wi, AH.ar_wi, AH.z_wi, AH.s_wi, AH.kd_nw, AH.r_nw, AH.i_nw, AH.l_nw, AH.ai_nw, AH.al_nw, AH.ar_nw, AH.z_nw, AH.s_nw, false_and, and_false, true_and, and_true, and_self, eq_self, if_true, if_false, reduceIte]; omega) (by simp only [AH.kd_pr, AH.r_pr, AH.i_pr, AH.l_pr, AH.ai_pr, AH.al_pr, AH.ar_pr, AH.z_pr, AH.s_pr, AH.kd_pi, AH.r_pi, AH.i_pi, AH.l_pi, AH.ai_pi, AH.al_pi, AH.ar_pi, AH.z_pi, AH.s_pi, AH.kd_pl, AH.r_pl, AH.i_pl, AH.l_pl, AH.ai_pl, AH.al_pl, AH.ar_pl, AH.z_pl, AH.s_pl, AH.kd_wl, AH.r_wl, AH.i_wl, AH.l_wl, AH.ai_wl, AH.al_wl, AH.ar_wl, AH.z_wl, AH.s_wl, AH.kd_wr, AH.r_wr, AH.i_wr, AH.l_wr, AH.ai_wr, AH.al_wr, AH.ar_wr, AH.z_wr, AH.s_wr, AH.kd_wi, AH.r_wi, AH.i_wi, AH.l_wi, AH.ai_wi, AH.al_wi, AH.ar_wi, AH.z_wi, AH.s_wi, AH.kd_nw, AH.r_nw, AH.i_nw, AH.l_nw, AH.ai_nw, AH.al_nw, AH.ar_nw, AH.z_nw, AH.s_nw, false_and, and_false, true_and, and_true, and_self, eq_self, if_true, if_false, reduceIte]; omega) Q.2 (fun _ _ q => q)⟩)
    obtain ⟨sz, b2, ec, rfl, rfl⟩ := Q
    obtain ⟨c1, c2, c3, -⟩ := cntP_inv ec
    have A3 := A2.adv (b := b2) c2
    have F3 := F2'.pi 16001 (nI b2) (Or.inl rfl)
    refine (Src_pass_spec (m := sz) (by omega) (by omega) A3).toI (fun x29 h30 _ _ Q => ?_) (fun x29 h30 _ _ Q => ⟨hnone hI (by rw [outsP_n3 ec Q.1]; rfl), Thr.aft F3 (by simp only [AH.kd_pr, AH.r_pr, AH.i_pr, AH.l_pr, AH.ai_pr, AH.al_pr, AH.ar_pr, AH.z_pr, AH.s_pr, AH.kd_pi, AH.r_pi, AH.i_pi, AH.l_pi, AH.ai_pi, AH.al_pi, AH.ar_pi, AH.z_pi, AH.s_pi, AH.kd_pl, AH.r_pl, AH.i_pl, AH.l_pl, AH.ai_pl, AH.al_pl, AH.ar_pl, AH.z_pl, AH.s_pl, AH.kd_wl, AH.r_wl, AH.i_wl, AH.l_wl, AH.ai_wl, AH.al_wl, AH.ar_wl, AH.z_wl, AH.s_wl, AH.kd_wr, AH.r_wr, AH.i_wr, AH.l_wr, AH.ai_wr, AH.al_wr, AH.ar_wr, AH.z_wr, AH.s_wr, AH.kd_wi, AH.r_wi, AH.i_wi, AH.l_wi, AH.ai_wi, AH.al_wi, AH.ar_wi, AH.z_wi, AH.s_wi, AH.kd_nw, AH.r_nw, AH.i_nw, AH.l_nw, AH.ai_nw, AH.al_nw, AH.ar_nw, AH.z_nw, AH.s_nw, false_and, and_false, true_and, and_true, and_self, eq_self, if_true, if_false, reduceIte]; omega) (by simp only [AH.kd_pr, AH.r_pr, AH.i_pr, AH.l_pr, AH.ai_pr, AH.al_pr, AH.ar_pr, AH.z_pr, AH.s_pr, AH.kd_pi, AH.r_pi, AH.i_pi, AH.l_pi, AH.ai_pi, AH.al_pi, AH.ar_pi, AH.z_pi, AH.s_pi, AH.kd_pl, AH.r_pl, AH.i_pl, AH.l_pl, AH.ai_pl, AH.al_pl, AH.ar_pl, AH.z_pl, AH.s_pl, AH.kd_wl, AH.r_wl, AH.i_wl, AH.l_wl, AH.ai_wl, AH.al_wl, AH.ar_wl, AH.z_wl, AH.s_wl, AH.kd_wr, AH.r_wr, AH.i_wr, AH.l_wr, AH.ai_wr, AH.al_wr, AH.ar_wr, AH.z_wr, AH.s_wr, AH.kd_wi, AH.r_wi, AH.i_wi, AH.l_wi, AH.ai_wi, AH.al_wi, AH.ar_wi, AH.z_wi, AH.s_wi, AH.kd_nw, AH.r_nw, AH.i_nw, AH.l_nw, AH.ai_nw, AH.al_nw, AH.ar_nw, AH.z_nw, AH.s_nw, false_and, and_false, true_and, and_true, and_self, eq_self, if_true, if_false, reduceIte]; omega) Q.2 (fun _ _ q => q)⟩)
    obtain ⟨hl3, rfl, rfl⟩ := Q
    intro h35 e35 h57 e57
    subst e35
    rw [lN_i] at e57
    have A4 := ((A3.adv (b := b2 + sz) hl3).pi 20001 hx.z (nI b2) (by decide)).pi 20002 hx.z (nI sz) (by decide)
    rw [← e57] at A4
    have Fy : Same (fun y => y = s ∨ y = h.z + 3 + il.length) hx _ := ((((((Same.rf.new 20 3 [] [] []).pi 16001 (nI (cur + 8)) (Or.inl (Or.inl rfl))).pl 20000 (lN (leV L cur 8)) (Or.inr (Nat.le_refl _))).pi 16001 (nI b2) (Or.inl (Or.inl rfl))).pi 16001 (nI (b2 + sz)) (Or.inl (Or.inl rfl))).pi 20001 (nI b2) (Or.inr (Nat.le_refl _))).pi 20002 (nI sz) (Or.inr (Nat.le_refl hx.z))
    rw [← e57] at Fy
    have nA : ¬ h.z + 3 + il.length = hx.z := by omega
    have nz : ¬ h.z = hx.z := by omega
    have nzs : ¬ hx.z = s := by omega
    have eA := Fy.2.2 h.z (by omega) (by omega)
    have ek2 : h57.kd (h.z + 3 + il.length) = 112 := by
      rw [e57]
      simp only [AH.kd_pr, AH.r_pr, AH.i_pr, AH.l_pr, AH.ai_pr, AH.al_pr, AH.ar_pr, AH.z_pr, AH.s_pr, AH.kd_pi, AH.r_pi, AH.i_pi, AH.l_pi, AH.ai_pi, AH.al_pi, AH.ar_pi, AH.z_pi, AH.s_pi, AH.kd_pl, AH.r_pl, AH.i_pl, AH.l_pl, AH.ai_pl, AH.al_pl, AH.ar_pl, AH.z_pl, AH.s_pl, AH.kd_wl, AH.r_wl, AH.i_wl, AH.l_wl, AH.ai_wl, AH.al_wl, AH.ar_wl, AH.z_wl, AH.s_wl, AH.kd_wr, AH.r_wr, AH.i_wr, AH.l_wr, AH.ai_wr, AH.al_wr, AH.ar_wr, AH.z_wr, AH.s_wr, AH.kd_wi, AH.r_wi, AH.i_wi, AH.l_wi, AH.ai_wi, AH.al_wi, AH.ar_wi, AH.z_wi, AH.s_wi, AH.kd_nw, AH.r_nw, AH.i_nw, AH.l_nw, AH.ai_nw, AH.al_nw, AH.ar_nw, AH.z_nw, AH.s_nw, false_and, and_false, true_and, and_true, and_self, eq_self, if_true, if_false, reduceIte, nA]
      exact O2.1
    have ea2 : h57.ar (h.z + 3 + il.length) = hx.ar (h.z + 3 + il.length) := by
      rw [e57]
      simp only [AH.kd_pr, AH.r_pr, AH.i_pr, AH.l_pr, AH.ai_pr, AH.al_pr, AH.ar_pr, AH.z_pr, AH.s_pr, AH.kd_pi, AH.r_pi, AH.i_pi, AH.l_pi, AH.ai_pi, AH.al_pi, AH.ar_pi, AH.z_pi, AH.s_pi, AH.kd_pl, AH.r_pl, AH.i_pl, AH.l_pl, AH.ai_pl, AH.al_pl, AH.ar_pl, AH.z_pl, AH.s_pl, AH.kd_wl, AH.r_wl, AH.i_wl, AH.l_wl, AH.ai_wl, AH.al_wl, AH.ar_wl, AH.z_wl, AH.s_wl, AH.kd_wr, AH.r_wr, AH.i_wr, AH.l_wr, AH.ai_wr, AH.al_wr, AH.ar_wr, AH.z_wr, AH.s_wr, AH.kd_wi, AH.r_wi, AH.i_wi, AH.l_wi, AH.ai_wi, AH.al_wi, AH.ar_wi, AH.z_wi, AH.s_wi, AH.kd_nw, AH.r_nw, AH.i_nw, AH.l_nw, AH.ai_nw, AH.al_nw, AH.ar_nw, AH.z_nw, AH.s_nw, false_and, and_false, true_and, and_true, and_self, eq_self, if_true, if_false, reduceIte, nA]
    have ez2 : h57.z = hx.z + 1 := by rw [e57]; rfl
    have es2 : h57.s = hx.s + 3 := by rw [e57]; rfl
    have eout : OutAt h57 hx.z L (cur, b2, sz) := by
      rw [e57]
      unfold OutAt
      simp only [AH.kd_pr, AH.r_pr, AH.i_pr, AH.l_pr, AH.ai_pr, AH.al_pr, AH.ar_pr, AH.z_pr, AH.s_pr, AH.kd_pi, AH.r_pi, AH.i_pi, AH.l_pi, AH.ai_pi, AH.al_pi, AH.ar_pi, AH.z_pi, AH.s_pi, AH.kd_pl, AH.r_pl, AH.i_pl, AH.l_pl, AH.ai_pl, AH.al_pl, AH.ar_pl, AH.z_pl, AH.s_pl, AH.kd_wl, AH.r_wl, AH.i_wl, AH.l_wl, AH.ai_wl, AH.al_wl, AH.ar_wl, AH.z_wl, AH.s_wl, AH.kd_wr, AH.r_wr, AH.i_wr, AH.l_wr, AH.ai_wr, AH.al_wr, AH.ar_wr, AH.z_wr, AH.s_wr, AH.kd_wi, AH.r_wi, AH.i_wi, AH.l_wi, AH.ai_wi, AH.al_wi, AH.ar_wi, AH.z_wi, AH.s_wi, AH.kd_nw, AH.r_nw, AH.i_nw, AH.l_nw, AH.ai_nw, AH.al_nw, AH.ar_nw, AH.z_nw, AH.s_nw, false_and, and_false, true_and, and_true, and_self, eq_self, if_true, if_false, reduceIte, nzs, Nat.reduceEqDiff]
    clear e57
    refine ⟨by rw [eA.1]; exact Tx1.1, fun r39 e39 => ?_⟩
    have er : r39 = h.z + 3 + il.length := by rw [e39, eA.2.1]; exact Rx
    subst er
    rw [ea2, O2.2.1, rowF_len]
    refine ⟨ek2, pk_in k no (by omega), Or.inr eout.1, fun h43 e43 => ?_⟩
    rw [nI_1]
    have Fz := Fy.wr (a := h.z + 3 + il.length) ((rowF (fun j => h.z + 3 + il.length + 1 + j) acc.length no).set k hx.z) (by rw [ea2, O2.2.1, List.length_set]) (Or.inl (Or.inr rfl))
    rw [pk_cl k rfl (by omega)] at e43
    rw [← e43] at Fz
    refine ih (by omega) (h43, b2 + sz, acc ++ [(cur, b2, sz)]) ⟨by rw [List.length_append, la]; rfl, F2.trans Fz (fun _ _ q => q), ?_, ⟨?_, ?_, fun j hj => ?_⟩, ?_, ?_, ?_⟩
    · show SrcAt h43 s a L (b2 + sz) n
      rw [e43]
      exact A4.wr _ _
    · show h43.kd (h.z + 3 + il.length) = 112
      rw [e43]
      exact ek2
    · show h43.ar (h.z + 3 + il.length) = _
      rw [e43, AH.ar_wr, if_pos rfl, la, rowF_set (by omega) (by omega), List.length_append, la]
      rfl
    · rw [List.length_append, la] at hj
      rw [getD_snoc, la]
      by_cases ej : j = k
      · rw [if_pos ej, ej, show h.z + 3 + il.length + 1 + k = hx.z by omega]
        show OutAt h43 hx.z L (cur, b2, sz)
        rw [e43]
        exact eout
      · rw [if_neg ej]
        have hj2 : j < k := by simp at hj; omega
        exact (O2.2.2 j (by omega)).eq (Fz.2.2 _ (by omega) (by omega))
    · show h43.z = _
      rw [e43, AH.z_wr, ez2]
      omega
    · show h43.s = _
      rw [e43, AH.s_wr, es2]
      omega
    · rw [hI, outsP_ok hl ec hl3]
end TxW

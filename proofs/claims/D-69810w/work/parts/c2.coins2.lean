/-! the component's table of coins: put, remove -/
set_option maxRecDepth 100000
/-- the sum of a row -/
def svL (f : Nat → Int64) : List Nat → Int64
  | [] => 0
  | x :: r => f x + svL f r
theorem svL_set (f : Nat → Int64) : ∀ {l : List Nat} {i : Nat} (x : Nat), i < l.length → svL f (l.set i x) = svL f l + f x - f (l.getD i 0)
  | [], i, x, h => by simp at h
  | y :: r, 0, x, _ => by
    show f x + svL f r = f y + svL f r + f x - f y
    rw [Int64.add_comm (f y), Int64.sub_eq_add_neg, Int64.add_assoc, Int64.add_assoc, Int64.add_comm (f x) (-f y), ← Int64.add_assoc (f y), Int64.add_right_neg, Int64.zero_add, Int64.add_comm]
  | y :: r, i + 1, x, h => by
    have := svL_set f (l := r) (i := i) x (by simpa using h)
    show f y + svL f (r.set i x) = f y + svL f r + f x - f (r.getD i 0)
    rw [this, Int64.sub_eq_add_neg, Int64.sub_eq_add_neg, ← Int64.add_assoc, ← Int64.add_assoc]
theorem svL_cg {f g : Nat → Int64} : ∀ {l : List Nat}, (∀ i, i < l.length → f (l.getD i 0) = g (l.getD i 0)) → svL f l = svL g l
  | [], _ => rfl
  | y :: r, h => by
    show f y + svL f r = g y + svL g r
    have h0 : f y = g y := h 0 (Nat.zero_lt_succ _)
    rw [h0, svL_cg (l := r) (fun i hi => h (i + 1) (Nat.succ_lt_succ hi))]
/-- the output of a coin, its value -/
def ouC (h : AH) (c : Nat) : Nat := (h.ar (h.r 18006 (h.r 23001 c))).getD ((h.i 23002 c).toNatClampNeg) 0
def vlC (h : AH) (c : Nat) : Int64 := if c = 0 then 0 else h.l 20000 (ouC h c)
def CoinsAt (h : AH) (Co : Nat) : Prop := TbAt h Co ∧ h.i 9001 Co = nI (1024 - cz (h.ar (Co + 1))) ∧ h.l 9002 Co = svL (vlC h) (h.ar (Co + 1))
section Coins2
variable {G : Gx} {d : Nat} {h h' : AH} {Co ia off c : Nat} {v : Int32} {id : List Int32}
theorem X23_output_spec (hd : 1 ≤ d) (C : CnOk h c) : Cw G mX23_output d 0 [vR c] h (kR (fun x h' => x = ouC h c ∧ h.kd (ouC h c) = 20 ∧ h' = h) nE) := by
  obtain ⟨d, rfl⟩ : ∃ d', d = d' + 1 := ⟨d - 1, by omega⟩
  obtain ⟨k1, k2, _, o, k5, k6, k7, k8, k9⟩ := C
  have eo : ouC h c = (h.ar (h.r 18006 (h.r 23001 c))).getD o 0 := by
    unfold ouC
    rw [k5, pk_cl o rfl (by omega)]
  refine eX23_output h c (fun _ => sX23_output_0 h c ⟨k1, fun r2 e2 => ?_⟩)
  rw [e2]
  refine ⟨k2, fun r4 e4 => ?_⟩
  rw [e4, k5]
  refine ⟨k6, pk_in o _ k7, fun r7 e7 => ?_⟩
  rw [pk_cl o rfl (by omega)] at e7
  exact ⟨e7.trans eo.symm, by rw [eo]; exact k9, rfl⟩
/-- cells that a coin stands on -/
theorem CnOk.same {P : Nat → Prop} (C : CnOk h c) (e : ∀ y, h.kd y = 23 ∨ h.kd y = 18 ∨ h.kd y = 101 ∨ h.kd y = 112 ∨ h.kd y = 20 → eqAt h h' y) : CnOk h' c ∧ kyC h' c = kyC h c ∧ ouC h' c = ouC h c ∧ vlC h' c = vlC h c := by
  obtain ⟨k1, k2, ⟨k3, k4⟩, o, k5, k6, k7, k8, k9⟩ := C
  have e1 := e c (Or.inl k1)
  have e2 := e _ (Or.inr (Or.inl k2))
  have e3 := e _ (Or.inr (Or.inr (Or.inl k3)))
  have e6 := e _ (Or.inr (Or.inr (Or.inr (Or.inl k6))))
  have e9 := e _ (Or.inr (Or.inr (Or.inr (Or.inr k9))))
  have r1 : h'.r 23001 c = h.r 23001 c := e1.2.1 _
  have r2 : h'.r 18002 (h.r 23001 c) = h.r 18002 (h.r 23001 c) := e2.2.1 _
  have r6 : h'.r 18006 (h.r 23001 c) = h.r 18006 (h.r 23001 c) := e2.2.1 _
  have i1 : h'.i 23002 c = h.i 23002 c := e1.2.2.1 _
  have eo : ouC h' c = ouC h c := by
    unfold ouC
    rw [r1, r6, i1, e6.2.2.2.2.2.2]
  have eo2 : ouC h c = (h.ar (h.r 18006 (h.r 23001 c))).getD o 0 := by
    unfold ouC
    rw [k5, pk_cl o rfl (by omega)]
  refine ⟨⟨e1.1.trans k1, ?_, ?_, o, i1.trans k5, ?_, ?_, ?_, ?_⟩, ?_, eo, ?_⟩
  · rw [r1, e2.1]; exact k2
  · rw [r1, r2, e3.1, e3.2.2.2.2.1]; exact ⟨k3, k4⟩
  · rw [r1, r6, e6.1]; exact k6
  · rw [r1, r6, e6.2.2.2.2.2.2]; exact k7
  · rw [r1, r6, e6.2.2.2.2.2.2]; exact k8
  · rw [r1, r6, e6.2.2.2.2.2.2, e9.1]; exact k9
  · unfold kyC
    rw [r1, r2, i1, e3.2.2.2.2.1]
  · unfold vlC
    by_cases z : c = 0
    · rw [if_pos z, if_pos z]
    · rw [if_neg z, if_neg z, eo, eo2, e9.2.2.2.1]
/-- the heap but for the object and the row of the table -/
def tbH (h : AH) (Co : Nat) (R : List Nat) (n : Int32) (w : Int64) : AH := ((h.wr (Co + 1) R).pi 9001 Co n).pl 9002 Co w
theorem tb_eq {R : List Nat} {n : Int32} {w : Int64} {y : Nat} (h1 : y ≠ Co) (h2 : y ≠ Co + 1) : eqAt h (tbH h Co R n w) y := by
  refine ⟨rfl, fun _ => rfl, fun k => ?_, fun k => ?_, rfl, rfl, ?_⟩
  · show ((h.wr (Co + 1) R).pi 9001 Co n).i k y = _
    rw [AH.i_pi, if_neg (fun q => h1 q.2)]
    rfl
  · show (((h.wr (Co + 1) R).pi 9001 Co n).pl 9002 Co w).l k y = _
    rw [AH.l_pl, if_neg (fun q => h1 q.2)]
    rfl
  · show (h.wr (Co + 1) R).ar y = _
    rw [AH.ar_wr, if_neg h2]
theorem tb_ar {R : List Nat} {n : Int32} {w : Int64} : (tbH h Co R n w).ar (Co + 1) = R := if_pos rfl
theorem tbI_cg {key key' : Nat → CK} {T : Nat → Nat} (I1 : TbI key sfC T) (e : ∀ p, p < 1024 → T p ≠ 0 → key' (T p) = key (T p)) : TbI key' sfC T :=
  ⟨fun p hp h1 x hx h2 => I1.1 p hp h1 x hx (by rw [e p hp h1] at h2; exact h2), fun p q hp hq h1 h2 w => I1.2 p q hp hq h1 h2 (by rw [e p hp h1, e q hq h2] at w; exact w)⟩
theorem cn_ne (C : CoinsAt h Co) {y : Nat} (hy : h.kd y = 23 ∨ h.kd y = 18 ∨ h.kd y = 101 ∨ h.kd y = 112 ∨ h.kd y = 20) : y ≠ Co ∧ y ≠ Co + 1 := by
  obtain ⟨⟨⟨t1, _, t3, _⟩, _⟩, _⟩ := C
  refine ⟨fun e => ?_, fun e => ?_⟩
  · rw [e, t1] at hy
    omega
  · rw [e, t3] at hy
    omega
/-- the table has got another row -/
theorem CoinsAt.upd (C : CoinsAt h Co) (hz0 : Co + 1 < h.z) {R : List Nat} (lR : R.length = 1024) (ok : ∀ p, p < 1024 → R.getD p 0 ≠ 0 → CnOk h (R.getD p 0)) (I1 : TbI (kyC h) sfC (fun p => R.getD p 0)) (hz : 0 < cz R) {n : Int32} {w : Int64} (hn : n = nI (1024 - cz R)) (hw : w = svL (vlC h) R) :
    CoinsAt (tbH h Co R n w) Co ∧ Same (fun y => y = Co ∨ y = Co + 1) h (tbH h Co R n w) ∧ (∀ c, CnOk h c → CnOk (tbH h Co R n w) c ∧ kyC (tbH h Co R n w) c = kyC h c ∧ vlC (tbH h Co R n w) c = vlC h c) := by
  have all : ∀ c, CnOk h c → CnOk (tbH h Co R n w) c ∧ kyC (tbH h Co R n w) c = kyC h c ∧ ouC (tbH h Co R n w) c = ouC h c ∧ vlC (tbH h Co R n w) c = vlC h c := fun c k => k.same (P := noP) (fun y hy => tb_eq (cn_ne C hy).1 (cn_ne C hy).2)
  have C' := C
  obtain ⟨⟨⟨t1, t2, t3, t4⟩, _, _, _⟩, _, _⟩ := C
  have eT : ∀ p, tbT (tbH h Co R n w) Co p = R.getD p 0 := fun p => by
    unfold tbT
    rw [tb_ar]
  refine ⟨⟨⟨⟨t1, t2, t3, by rw [tb_ar]; exact lR⟩, fun p hp h0 => ?_, ?_, by rw [tb_ar]; exact hz⟩, ?_, ?_⟩, ?_, fun c k => ⟨(all c k).1, (all c k).2.1, (all c k).2.2.2⟩⟩
  · rw [eT] at h0 ⊢
    exact (all _ (ok p hp h0)).1
  · have : TbI (kyC (tbH h Co R n w)) sfC (fun p => R.getD p 0) := tbI_cg I1 (fun p hp h0 => (all _ (ok p hp h0)).2.1)
    refine ⟨fun p hp h1 x hx h2 => ?_, fun p q hp hq h1 h2 e => ?_⟩
    · rw [eT] at h1 h2 ⊢
      exact this.1 p hp h1 x hx h2
    · rw [eT] at h1 h2 e
      rw [eT] at e
      exact this.2 p q hp hq h1 h2 e
  · show (((h.wr (Co + 1) R).pi 9001 Co n)).i 9001 Co = _
    rw [AH.i_pi, if_pos ⟨rfl, rfl⟩, tb_ar, hn]
  · show (((h.wr (Co + 1) R).pi 9001 Co n).pl 9002 Co w).l 9002 Co = _
    rw [AH.l_pl, if_pos ⟨rfl, rfl⟩, tb_ar, hw]
    refine svL_cg (fun i hi => ?_)
    by_cases z : R.getD i 0 = 0
    · rw [z]
      rfl
    · exact (all _ (ok i (by omega) z)).2.2.2.symm
  · unfold tbH
    exact ((Same.rf.wr _ (by rw [lR, t4]) (Or.inl (Or.inr rfl))).pi _ _ (Or.inl (Or.inl rfl))).pl _ _ (Or.inl (Or.inl rfl))
theorem row_set {L : List Nat} (l : L.length = 1024) {q c : Nat} (hq : q < 1024) : ∀ p, p < 1024 → (L.set q c).getD p 0 = if p = q then c else L.getD p 0 := fun p hp => by
  by_cases e : p = q
  · rw [if_pos e, e, getD_set_eq (by omega)]
  · rw [if_neg e, getD_set_ne e]
/-- names through a change of one place -/
theorem ofK_set {R : List Nat} {q : Nat} (lR : R.length = 1024) (hq : q < 1024) (hc : c ≠ 0) (T : TbI (kyC h) sfC (tbT h Co)) (l0 : (h.ar (Co + 1)).length = 1024) (eR : R = (h.ar (Co + 1)).set q c) (hk : (tbT h Co q = 0 ∧ ∀ p, p < 1024 → tbT h Co p ≠ 0 → kyC h (tbT h Co p) ≠ kyC h c) ∨ (tbT h Co q ≠ 0 ∧ kyC h (tbT h Co q) = kyC h c))
    (e1 : ∀ p, tbT h' Co p = R.getD p 0) (e2 : ∀ p, p < 1024 → R.getD p 0 ≠ 0 → kyC h' (R.getD p 0) = kyC h (R.getD p 0)) (k : CK) (x : Nat) : ofK h' Co k x ↔ if k = kyC h c then x = c else ofK h Co k x := by
  have g : ∀ p, p < 1024 → R.getD p 0 = if p = q then c else tbT h Co p := fun p hp => by rw [eR]; exact row_set l0 hq p hp
  have gq : R.getD q 0 = c := by rw [g q hq, if_pos rfl]
  have un : ∀ p, p < 1024 → p ≠ q → tbT h Co p ≠ 0 → kyC h (tbT h Co p) ≠ kyC h c := fun p hp hpq h0 => by
    rcases hk with hk | hk
    · exact hk.2 p hp h0
    · intro e
      exact hpq (T.2 p q hp hq h0 hk.1 (e.trans hk.2.symm))
  by_cases ek : k = kyC h c
  · rw [if_pos ek]
    refine ⟨fun w => ?_, fun w => ?_⟩
    · rcases w with ⟨w1, w2⟩ | ⟨w1, p, hp, w2, w3⟩
      · exfalso
        have := w2 q hq (by rw [e1, gq]; exact hc)
        rw [e1, e2 q hq (by rw [gq]; exact hc), gq] at this
        exact this ek.symm
      · rw [e1] at w2
        have h0 : R.getD p 0 ≠ 0 := by rw [w2]; exact w1
        rw [← w2, e2 p hp h0] at w3
        rw [g p hp] at w2 w3 h0
        by_cases c1 : p = q
        · rw [if_pos c1] at w2
          exact w2.symm
        · rw [if_neg c1] at w3 h0
          exact absurd (w3.trans ek) (un p hp c1 h0)
    · rw [w]
      refine Or.inr ⟨hc, q, hq, by rw [e1, gq], ?_⟩
      have := e2 q hq (by rw [gq]; exact hc)
      rw [gq] at this
      rw [this, ek]
  · rw [if_neg ek]
    refine ⟨fun w => ?_, fun w => ?_⟩
    · rcases w with ⟨w1, w2⟩ | ⟨w1, p, hp, w2, w3⟩
      · refine Or.inl ⟨w1, fun p hp h0 e => ?_⟩
        have c1 : p ≠ q := fun c1 => by
          rcases hk with hk | hk
          · exact h0 (by rw [c1]; exact hk.1)
          · exact ek (e.symm.trans (by rw [c1]; exact hk.2))
        have gp : R.getD p 0 = tbT h Co p := by rw [g p hp, if_neg c1]
        have := w2 p hp (by rw [e1, gp]; exact h0)
        rw [e1, e2 p hp (by rw [gp]; exact h0), gp] at this
        exact this e
      · rw [e1] at w2
        have h0 : R.getD p 0 ≠ 0 := by rw [w2]; exact w1
        rw [← w2, e2 p hp h0, w2] at w3
        rw [g p hp] at w2
        by_cases c1 : p = q
        · rw [if_pos c1] at w2
          rw [← w2] at w3
          exact absurd w3.symm ek
        · rw [if_neg c1] at w2
          exact Or.inr ⟨w1, p, hp, w2, w3⟩
    · rcases w with ⟨w1, w2⟩ | ⟨w1, p, hp, w2, w3⟩
      · refine Or.inl ⟨w1, fun p hp h0 e => ?_⟩
        rw [e1] at h0 e
        rw [e2 p hp h0] at e
        rw [g p hp] at h0 e
        by_cases c1 : p = q
        · rw [if_pos c1] at e
          exact ek e.symm
        · rw [if_neg c1] at h0 e
          exact w2 p hp h0 e
      · have c1 : p ≠ q := fun c1 => by
          rcases hk with hk | hk
          · exact w1 (by rw [← w2, c1]; exact hk.1)
          · exact ek (by rw [← w3, ← w2, c1]; exact hk.2)
        have gp : R.getD p 0 = x := by rw [g p hp, if_neg c1]; exact w2
        refine Or.inr ⟨w1, p, hp, by rw [e1]; exact gp, ?_⟩
        have := e2 p hp (by rw [gp]; exact w1)
        rw [gp] at this
        rw [this]
        exact w3
end Coins2

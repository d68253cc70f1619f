/-! the reference reads a block: its transactions -/
set_option maxRecDepth 100000
/-- rows p + 1 .. p + 6 with the k-th place told -/
def upR (h : AH) (p k : Nat) (v : Nat → Option Int32) : AH := h.si (fun q => if p + 1 ≤ q ∧ q ≤ p + 6 then (match v (q - p) with
  | some x => (h.ai q).set k x
  | none => h.ai q) else h.ai q)
section UpR
variable {h : AH} {p k j : Nat} {v : Nat → Option Int32} {x : Int32}
theorem upR_none : upR h p k (fun _ => none) = h := by
  unfold upR
  have : (fun q => if p + 1 ≤ q ∧ q ≤ p + 6 then (match (none : Option Int32) with
  | some x => (h.ai q).set k x
  | none => h.ai q) else h.ai q) = h.ai := by
    funext q
    split <;> rfl
  rw [this]
  rfl
theorem upR_ai (h1 : 1 ≤ j) (h6 : j ≤ 6) : (upR h p k v).ai (p + j) = match v j with
  | some x => (h.ai (p + j)).set k x
  | none => h.ai (p + j) := by
  show (if p + 1 ≤ p + j ∧ p + j ≤ p + 6 then _ else _) = _
  rw [if_pos ⟨by omega, by omega⟩, Nat.add_sub_cancel_left]
theorem upR_aiN {q : Nat} (hq : ¬ (p + 1 ≤ q ∧ q ≤ p + 6)) : (upR h p k v).ai q = h.ai q := if_neg hq
theorem upR_len (q : Nat) : ((upR h p k v).ai q).length = (h.ai q).length := by
  show (if _ then _ else _ : List Int32).length = _
  split
  · split
    · rw [List.length_set]
    · rfl
  · rfl
theorem upR_mod : Mod (fun y => p + 1 ≤ y ∧ y ≤ p + 6) h (upR h p k v) := ⟨_, rfl, fun q => upR_len q, fun q hq => upR_aiN hq⟩
theorem upR_wi (h1 : 1 ≤ j) (h6 : j ≤ 6) (hv : v j = none) : (upR h p k v).wi (p + j) (((upR h p k v).ai (p + j)).set k x) = upR h p k (up1 v j (some x)) := by
  have e : up1 (upR h p k v).ai (p + j) (((upR h p k v).ai (p + j)).set k x) = (upR h p k (up1 v j (some x))).ai := by
    funext q
    show (if q = p + j then _ else _) = _
    by_cases c : q = p + j
    · rw [if_pos c, c, upR_ai h1 h6, upR_ai h1 h6, hv]
      show _ = match (if j = j then some x else v j) with
        | some x => (h.ai (p + j)).set k x
        | none => h.ai (p + j)
      rw [if_pos rfl]
    · rw [if_neg c]
      by_cases c2 : p + 1 ≤ q ∧ q ≤ p + 6
      · obtain ⟨i, rfl⟩ : ∃ i, q = p + i := ⟨q - p, by omega⟩
        rw [upR_ai (by omega) (by omega), upR_ai (by omega) (by omega)]
        show _ = match (if i = j then some x else v i) with
          | some x => (h.ai (p + i)).set k x
          | none => h.ai (p + i)
        rw [if_neg (fun q => c (by rw [q]))]
      · rw [upR_aiN c2, upR_aiN c2]
  unfold AH.wi
  rw [e]
  rfl
theorem rd_up {M b : Nat} {c : Int32} (h1 : 1 ≤ j) (h6 : j ≤ 6) (hv : v j = none) : (rd (upR h p k v) M b c).wi (p + j) (((rd (upR h p k v) M b c).ai (p + j)).set k x) = rd (upR h p k (up1 v j (some x))) M b c := by
  rw [← upR_wi h1 h6 hv]
  rfl
end UpR
theorem cntP_le {L : List Int32} {n a v b : Nat} (e : cntP L n a = some (v, b)) : b ≤ n := (cntP_inv e).2.1
theorem insP_hd {L : List Int32} {n k a : Nat} {l : List P3} {e : Nat} (h : insP L n k a = some (l, e)) (h0 : 0 < l.length) : (l.getD 0 p0).1 = a := by
  cases k with
  | zero => cases h; simp at h0
  | succ k =>
    rw [insP] at h
    split at h
    · cases h
    · split at h
      · cases h
      · split at h
        · cases h
        · split at h
          · cases h
          · cases h; rfl
theorem outsP_hd {L : List Int32} {n k a : Nat} {l : List P3} {e : Nat} (h : outsP L n k a = some (l, e)) (h0 : 0 < l.length) : (l.getD 0 p0).1 = a := by
  cases k with
  | zero => cases h; simp at h0
  | succ k =>
    rw [outsP] at h
    split at h
    · cases h
    · split at h
      · cases h
      · split at h
        · cases h
        · split at h
          · cases h
          · cases h; rfl
section MParse2
variable {G : Gx} {d : Nat} {h : AH} {M a p n : Nat} {L K B : List Int32}
theorem PrS.up {hA : AH} {k : Nat} {v : Nat → Option Int32} (H : PrS hA p) : PrS (upR hA p k v) p := H.mod upR_mod
theorem RdB.up {hA : AH} {k : Nat} {v : Nat → Option Int32} (R : RdB hA M a L n) (ha : ¬ (p + 1 ≤ a ∧ a ≤ p + 6)) : RdB (upR hA p k v) M a L n := ⟨R.1, R.2.1, R.2.2.1, R.2.2.2.1, by rw [upR_aiN ha]; exact R.2.2.2.2.1, R.2.2.2.2.2⟩
theorem pa_up {hA : AH} {k : Nat} {v : Nat → Option Int32} (F : (Same (prP M p) h hA ∧ Kp rdK M h hA ∧ Kp [26000, 26001] p h hA ∧ hA.z = h.z ∧ hA.s = h.s)) : Same (prP M p) h (upR hA p k v) ∧ Kp rdK M h (upR hA p k v) ∧ Kp [26000, 26001] p h (upR hA p k v) ∧ (upR hA p k v).z = h.z ∧ (upR hA p k v).s = h.s :=
  ⟨F.1.mod upR_mod (fun x _ q => Or.inr (Or.inr ⟨by omega, by omega⟩)), F.2.1.si _, F.2.2.1.si _, F.2.2.2⟩
/-- one transaction more is told -/
theorem pr_next {hA : AH} {k cur ni no b2 b3 g2 : Nat} {acc : List TxP} {il ol : List P3} {v : Nat → Option Int32} {f : Nat → List Int32} (PS : PrS hA p) (la : acc.length = k) (hk : k < 12) (PT : PrTs hA p K B L acc)
    (v1 : v 1 = some (nI cur)) (v2 : v 2 = some (nI (g2 + 4))) (v3 : v 3 = some (nI ni)) (v4 : v 4 = some (nI no)) (v5 : v 5 = some (nI b2)) (v6 : v 6 = some (nI b3)) (fj : ∀ j, 1 ≤ j → j ≤ 6 → f (p + j) = (upR hA p k v).ai (p + j))
    (hf7 : f (p + 7) = putB (hA.ai (p + 7)) (32 * k) 32 (dshD K B (g2 + 4 - cur) (sl L cur))) (il_len : il.length = ni) (ol_len : ol.length = no) (hI : 0 < il.length → (il.getD 0 p0).1 = b2) (hO : 0 < ol.length → (ol.getD 0 p0).1 = b3) :
    PrTs ((upR hA p k v).si f) p K B L (acc ++ [(cur, g2 + 4, il, ol)]) := by
  intro j hj
  have lacc : (acc ++ [(cur, g2 + 4, il, ol)]).length = k + 1 := by rw [List.length_append, la]; rfl
  rw [lacc] at hj
  rw [getD_snoc, la]
  by_cases ej : j = k
  · rw [if_pos ej, ej]
    have g1 : ∀ i x, 1 ≤ i → i ≤ 6 → v i = some x → (hA.ai (p + i)).length = 12 → (((upR hA p k v).si f).ai (p + i)).getD k 0 = x := fun i x i1 i6 hv hl => by
      show (f (p + i)).getD k 0 = x
      rw [fj i i1 i6, upR_ai i1 i6, hv]
      exact getD_set_eq (by rw [hl]; omega)
    refine ⟨g1 1 _ (by decide) (by decide) v1 PS.2.2.2.1, g1 2 _ (by decide) (by decide) v2 PS.2.2.2.2.1, ?_, ?_, fun h0 => ?_, fun h0 => ?_, fun i hi => ?_⟩
    · rw [g1 3 _ (by decide) (by decide) v3 PS.2.2.2.2.2.1, ← il_len]
    · rw [g1 4 _ (by decide) (by decide) v4 PS.2.2.2.2.2.2.1, ← ol_len]
    · rw [g1 5 _ (by decide) (by decide) v5 PS.2.2.2.2.2.2.2.1]
      exact congrArg nI (hI h0).symm
    · rw [g1 6 _ (by decide) (by decide) v6 PS.2.2.2.2.2.2.2.2.1]
      exact congrArg nI (hO h0).symm
    · show (f (p + 7)).getD (32 * k + i) 0 = _
      unfold idL
      rw [hf7, putB_getD _ _ _ _ (by rw [PS.2.2.2.2.2.2.2.2.2]; omega), if_pos ⟨by omega, by omega⟩, mapR_getD hi, Nat.add_sub_cancel_left]
  · rw [if_neg ej]
    refine (PT j (by omega)).eq (fun q q1 q6 => ?_) (fun i hi => ?_)
    · obtain ⟨i, rfl⟩ : ∃ i, q = p + i := ⟨q - p, by omega⟩
      show (f (p + i)).getD j 0 = _
      rw [fj i (by omega) (by omega), upR_ai (by omega) (by omega)]
      split
      · exact getD_set_ne ej
      · rfl
    · show (f (p + 7)).getD (32 * j + i) 0 = _
      rw [hf7, putB_getD _ _ _ _ (by rw [PS.2.2.2.2.2.2.2.2.2]; omega), if_neg (by omega)]
/-- behind the outputs: the end and the identity -/
theorem pa_end {hA : AH} {k cur no g2 : Nat} {v : Nat → Option Int32} (hd : 6 ≤ d) (hpM : p ≠ M) (hpM2 : M + 15 < p ∨ p + 7 < M) (hap : ¬ (p ≤ a ∧ a ≤ p + 7)) (haM : ¬ mdQ M a) (hn : 8 * n < 2 ^ 31) (hk : k < 12) (hno : no ≤ 180) (R : RdB hA M a L n) (F : (Same (prP M p) h hA ∧ Kp rdK M h hA ∧ Kp [26000, 26001] p h hA ∧ hA.z = h.z ∧ hA.s = h.s)) (MA : McA hA M K B) (PS : PrS hA p) (hg2 : g2 ≤ n) (hcur : cur ≤ g2)
    (v1 : v 1 = some (nI cur)) (v2 : v 2 = none) (hN : n < g2 + 4 → blkP L n = none)
    (nxt : ∀ f : Nat → List Int32, g2 + 4 ≤ n → Mod (fun x => mdQ M x ∨ (p ≤ x ∧ x ≤ p + 7)) hA ((upR hA p k (up1 v 2 (some (nI (g2 + 4))))).si f) → f a = L → (∀ j, 1 ≤ j → j ≤ 6 → f (p + j) = (upR hA p k (up1 v 2 (some (nI (g2 + 4))))).ai (p + j)) → f (p + 7) = putB (hA.ai (p + 7)) (32 * k) 32 (dshD K B (g2 + 4 - cur) (sl L cur)) →
      Aw G mX24_parse (d + 1) 0 h (kI (fun x h' => (Same (prP M p) h h' ∧ Kp rdK M h h' ∧ Kp [26000, 26001] p h h' ∧ h'.z = h.z ∧ h'.s = h.s) ∧ ((∃ l, blkP L n = some l ∧ x = 1 ∧ PrAt h' p a K B L l) ∨ (blkP L n = none ∧ x = 0))) nE) 84 [vR M, vR a, vI (nI n), vR p, vU, vU, vI (nI (k + 1)), vU, vU, vU, vU, vU] [] (rd ((upR hA p k (up1 v 2 (some (nI (g2 + 4))))).si f) M (g2 + 4) 0)) :
    Aw G mX24_parse (d + 1) 0 h (kI (fun x h' => (Same (prP M p) h h' ∧ Kp rdK M h h' ∧ Kp [26000, 26001] p h h' ∧ h'.z = h.z ∧ h'.s = h.s) ∧ ((∃ l, blkP L n = some l ∧ x = 1 ∧ PrAt h' p a K B L l) ∨ (blkP L n = none ∧ x = 0))) nE) 289 [vR M, vR a, vI (nI n), vR p, vU, vU, vI (nI k), vU, vU, vJ (lN no), vU, vI (nI no)] [] (rd (upR hA p k v) M g2 0) := by
  have hL31 := R.2.2.2.2.2.2
  have hLn := R.2.2.2.2.2.1
  have ha6 : ¬ (p + 1 ≤ a ∧ a ≤ p + 6) := by omega
  have hd1 : 4 ≤ d := by omega
  refine sX24_parse_289 _ M a (nI n) p (nI k) (lN no) (nI no) ?_
  rw [nI_l (by omega), lN_le63 (by omega) (by omega)]
  refine ⟨fun _ => ⟨R.1, (MD_skip_spec (m := 4) (by decide) (by omega) (R.up ha6) hg2).nV (fun h3 Q => ?_)⟩, fun q => absurd (Nat.le_refl _) q⟩
  obtain ⟨b4, c4, hb4, rfl, ⟨q4, rfl, rfl⟩ | ⟨q4, rfl, rfl⟩⟩ := Q
  case inr =>
    rw [rd_br]
    exact ⟨fun c => absurd c (by decide), fun _ => pa_fin (pa_up F) hpM (hN q4) _ _⟩
  rw [rd_br]
  refine ⟨fun _ => ⟨PS.1, fun r8 e8 => ?_⟩, fun q => absurd rfl q⟩
  have e8' : r8 = p + 2 := e8.trans PS.2.1.2.1
  subst e8'
  rw [show ((rd (upR hA p k v) M (g2 + 4) 0).ai (p + 2)).length = 12 from (upR_len _).trans PS.2.2.2.2.1, rd_at, pk_cl k rfl (by omega)]
  refine ⟨PS.2.2.1.2.1, pk_in k 12 (by omega), fun h11 e11 => ?_⟩
  rw [rd_up (by decide) (by decide) v2] at e11
  have v1' : up1 v 2 (some (nI (g2 + 4))) 1 = some (nI cur) := by rw [← v1]; rfl
  generalize up1 v 2 (some (nI (g2 + 4))) = v' at *
  subst e11
  intro r13 e13
  have e13' : r13 = p + 1 := e13.trans PS.2.1.1
  subst e13'
  have a1 : (rd (upR hA p k v') M (g2 + 4) 0).ai (p + 1) = (hA.ai (p + 1)).set k (nI cur) := by
    show (upR hA p k v').ai (p + 1) = _
    rw [upR_ai (by decide) (by decide), v1']
  rw [a1, List.length_set, PS.2.2.2.1, getD_set_eq (by rw [PS.2.2.2.1]; omega), pk_sub (by omega)]
  refine ⟨PS.2.2.1.1, pk_in k 12 (by omega), pk_in k 12 (by omega), fun r20 e20 => ?_⟩
  have e20' : r20 = p + 7 := e20.trans PS.2.1.2.2.2.2.2.2
  subst e20'
  have eL : (rd (upR hA p k v') M (g2 + 4) 0).ai a = L := by
    show (upR hA p k v').ai a = L
    rw [upR_aiN ha6]
    exact R.2.2.2.2.1
  have l7 : ((rd (upR hA p k v') M (g2 + 4) 0).ai (p + 7)).length = 384 := (upR_len _).trans PS.2.2.2.2.2.2.2.2.2
  have hM : MdS (rd (upR hA p k v') M (g2 + 4) 0) M := by
    have z : MdS (upR hA p k v') M := MA.1.mod upR_mod
    exact z
  rw [show (32 : Int32) = nI 32 from rfl, pk_mul, nI_1]
  refine (MD_again_spec (M := M) (a := a) (off := cur) (n := g2 + 4 - cur) (t := p + 7) (at_ := 32 * k) hd1 hM R.2.2.2.1 (by rw [eL]; omega) (by rw [eL]; exact hL31) (by omega) haM PS.2.2.1.2.2.2.2.2.2 (by rw [l7]; decide) (by unfold mdQ mdP; omega) (by rw [l7]; omega)).nV (fun h22 Q => ?_)
  obtain ⟨⟨f, rfl, f1, f2⟩, hm⟩ := Q
  have eK : (rd (upR hA p k v') M (g2 + 4) 0).ai (M + 5) = K := (upR_aiN (by omega)).trans MA.2.1
  have eB : (rd (upR hA p k v') M (g2 + 4) 0).ai (M + 4) = B := (upR_aiN (by omega)).trans MA.2.2
  have e7 : (rd (upR hA p k v') M (g2 + 4) 0).ai (p + 7) = hA.ai (p + 7) := upR_aiN (by omega)
  rw [eK, eB, eL, e7] at hm
  refine nxt f q4 ?_ ?_ (fun j j1 j6 => f2 (p + j) (by unfold mdQ mdP; omega)) hm
  · have M1 : Mod (fun x => mdQ M x ∨ x = p + 7) (upR hA p k v') ((upR hA p k v').si f) := ⟨f, rfl, f1, f2⟩
    exact (upR_mod.mono (fun x q => Or.inr ⟨by omega, by omega⟩)).trans (M1.mono (fun x q => by
      rcases q with q | q
      · exact Or.inl q
      · exact Or.inr ⟨by omega, by omega⟩))
  · rw [f2 a (fun q => by
      rcases q with q | q
      · exact haM q
      · omega)]
    exact eL
/-- behind the inputs: how many outputs -/
theorem pa_mid {hA : AH} {k ni g : Nat} {v : Nat → Option Int32} (hd : 6 ≤ d) (hpM : p ≠ M) (hap : ¬ (p ≤ a ∧ a ≤ p + 7)) (hk : k < 12) (hni : ni ≤ 40) (R : RdB hA M a L n) (F : (Same (prP M p) h hA ∧ Kp rdK M h hA ∧ Kp [26000, 26001] p h hA ∧ hA.z = h.z ∧ hA.s = h.s)) (PS : PrS hA p) (hg : g ≤ n) (v4 : v 4 = none) (v6 : v 6 = none)
    (hN1 : cntP L n g = none → blkP L n = none) (hN2 : ∀ no b3, cntP L n g = some (no, b3) → 180 < no → blkP L n = none)
    (nxt : ∀ no b3, cntP L n g = some (no, b3) → no ≤ 180 → b3 ≤ n → Aw G mX24_parse (d + 1) 0 h (kI (fun x h' => (Same (prP M p) h h' ∧ Kp rdK M h h' ∧ Kp [26000, 26001] p h h' ∧ h'.z = h.z ∧ h'.s = h.s) ∧ ((∃ l, blkP L n = some l ∧ x = 1 ∧ PrAt h' p a K B L l) ∨ (blkP L n = none ∧ x = 0))) nE) 289 [vR M, vR a, vI (nI n), vR p, vU, vU, vI (nI k), vU, vU, vJ (lN no), vU, vI (nI 0)] [] (rd (upR hA p k (up1 (up1 v 4 (some (nI no))) 6 (some (nI b3)))) M b3 0)) :
    Aw G mX24_parse (d + 1) 0 h (kI (fun x h' => (Same (prP M p) h h' ∧ Kp rdK M h h' ∧ Kp [26000, 26001] p h h' ∧ h'.z = h.z ∧ h'.s = h.s) ∧ ((∃ l, blkP L n = some l ∧ x = 1 ∧ PrAt h' p a K B L l) ∨ (blkP L n = none ∧ x = 0))) nE) 177 [vR M, vR a, vI (nI n), vR p, vU, vU, vI (nI k), vJ (lN ni), vU, vI (nI ni), vU, vU] [] (rd (upR hA p k v) M g 0) := by
  have ha6 : ¬ (p + 1 ≤ a ∧ a ≤ p + 6) := by omega
  refine sX24_parse_177 _ M a (nI n) p (nI k) (lN ni) (nI ni) ?_
  rw [nI_l (by omega), lN_le63 (by omega) (by omega)]
  refine ⟨fun _ => ⟨R.1, (MD_count_spec (by omega) (R.up ha6) hg).nJ (fun x2 h3 Q => ?_)⟩, fun q => absurd (Nat.le_refl _) q⟩
  obtain ⟨b3, c3, hb3, rfl, ⟨no, ec2, rfl, rfl⟩ | ⟨ec2, V, hV, rfl, hc2⟩⟩ := Q
  case inr =>
    rw [rd_br, lN_neg hV]
    rcases hc2 with e1 | ⟨e1, hv⟩
    · subst e1
      exact ⟨fun _ => pa_fin (pa_up F) hpM (hN1 ec2) _ _, fun c => absurd c (by decide)⟩
    · subst e1
      exact ⟨fun q => absurd rfl q, fun _ => ⟨fun _ => pa_fin (pa_up F) hpM (hN1 ec2) _ _, fun q => absurd hv q⟩⟩
  have hi2 := cntP_inv ec2
  have e180 : (lN no ≤ 180) ↔ no ≤ 180 := lN_le63 (b := 180) hi2.2.2.1 (by decide)
  rw [rd_br, lN_neg (by omega), e180]
  refine ⟨fun q => absurd rfl q, fun _ => ⟨fun q => absurd q (by omega), fun _ => ⟨fun c180 => ?_, fun c180 => pa_fin (pa_up F) hpM (hN2 _ _ ec2 (by omega)) _ _⟩⟩⟩
  refine ⟨PS.1, fun r10 e10 => ?_⟩
  have e10' : r10 = p + 4 := e10.trans PS.2.1.2.2.2.1
  subst e10'
  rw [show ((rd (upR hA p k v) M b3 0).ai (p + 4)).length = 12 from (upR_len _).trans PS.2.2.2.2.2.2.1, lN_i, pk_cl k rfl (by omega)]
  refine ⟨PS.2.2.1.2.2.2.1, pk_in k 12 (by omega), fun h13 e13 => ?_⟩
  rw [rd_up (by decide) (by decide) v4] at e13
  subst e13
  intro r15 e15
  have e15' : r15 = p + 6 := e15.trans PS.2.1.2.2.2.2.2.1
  subst e15'
  rw [show ((rd (upR hA p k (up1 v 4 (some (nI no)))) M b3 0).ai (p + 6)).length = 12 from (upR_len _).trans PS.2.2.2.2.2.2.2.2.1, rd_at]
  refine ⟨PS.2.2.1.2.2.2.2.2.1, pk_in k 12 (by omega), fun h19 e19 => ?_⟩
  rw [rd_up (by decide) (by decide) (show up1 v 4 (some (nI no)) 6 = none from v6)] at e19
  subst e19
  exact nxt no b3 ec2 c180 hb3
/-- a transaction begins: how many inputs -/
theorem pa_beg {hA : AH} {k c cur : Nat} (hd : 6 ≤ d) (hpM : p ≠ M) (hap : ¬ (p ≤ a ∧ a ≤ p + 7)) (hk : k < c) (hc : c ≤ 12) (R : RdB hA M a L n) (F : (Same (prP M p) h hA ∧ Kp rdK M h hA ∧ Kp [26000, 26001] p h hA ∧ hA.z = h.z ∧ hA.s = h.s)) (PS : PrS hA p) (P1 : hA.i 26001 p = nI c) (hcur : cur ≤ n)
    (hN0 : n < cur + 4 → blkP L n = none) (hN1 : cntP L n (cur + 4) = none → blkP L n = none) (hN2 : ∀ ni b2, cntP L n (cur + 4) = some (ni, b2) → 40 < ni → blkP L n = none)
    (nxt : ∀ ni b2, cur + 4 ≤ n → cntP L n (cur + 4) = some (ni, b2) → ni ≤ 40 → b2 ≤ n → Aw G mX24_parse (d + 1) 0 h (kI (fun x h' => (Same (prP M p) h h' ∧ Kp rdK M h h' ∧ Kp [26000, 26001] p h h' ∧ h'.z = h.z ∧ h'.s = h.s) ∧ ((∃ l, blkP L n = some l ∧ x = 1 ∧ PrAt h' p a K B L l) ∨ (blkP L n = none ∧ x = 0))) nE) 177 [vR M, vR a, vI (nI n), vR p, vU, vU, vI (nI k), vJ (lN ni), vU, vI (nI 0), vU, vU] [] (rd (upR hA p k (up1 (up1 (up1 (fun _ => none) 1 (some (nI cur))) 3 (some (nI ni))) 5 (some (nI b2)))) M b2 0)) :
    Aw G mX24_parse (d + 1) 0 h (kI (fun x h' => (Same (prP M p) h h' ∧ Kp rdK M h h' ∧ Kp [26000, 26001] p h h' ∧ h'.z = h.z ∧ h'.s = h.s) ∧ ((∃ l, blkP L n = some l ∧ x = 1 ∧ PrAt h' p a K B L l) ∨ (blkP L n = none ∧ x = 0))) nE) 84 [vR M, vR a, vI (nI n), vR p, vU, vU, vI (nI k), vU, vU, vU, vU, vU] [] (rd hA M cur 0) := by
  have ha6 : ¬ (p + 1 ≤ a ∧ a ≤ p + 6) := by omega
  refine sX24_parse_84 _ M a (nI n) p (nI k) ⟨PS.1, ?_⟩
  rw [rd_i hA M cur 0 (Or.inl (by decide)), P1, rd_at]
  refine pk_le c k (fun cc => absurd cc (by omega)) (fun cc r5 e5 => ?_)
  have e5' : r5 = p + 1 := e5.trans PS.2.1.1
  subst e5'
  have l1 : ((rd hA M cur 0).ai (p + 1)).length = 12 := PS.2.2.2.1
  rw [pk_cl k rfl (by omega), l1]
  refine ⟨R.1, PS.2.2.1.1, pk_in k 12 (by omega), fun h9 e9 => ?_⟩
  have e9' : h9 = rd (upR hA p k (up1 (fun _ => none) 1 (some (nI cur)))) M cur 0 := by
    rw [e9, ← upR_wi (by decide) (by decide) rfl, upR_none]
    rfl
  clear e9
  subst e9'
  refine (MD_skip_spec (m := 4) (by decide) (by omega) (R.up ha6) hcur).nV (fun h11 Q => ?_)
  obtain ⟨b1, c1, hb1, rfl, ⟨q1, rfl, rfl⟩ | ⟨q1, rfl, rfl⟩⟩ := Q
  case inr =>
    rw [rd_br]
    exact ⟨fun c => absurd c (by decide), fun _ => ⟨fun _ => pa_fin (pa_up F) hpM (hN0 q1) _ _, fun c => absurd c (by decide)⟩⟩
  rw [rd_br]
  refine ⟨fun _ => (MD_count_spec (by omega) (R.up ha6) hb1).nJ (fun x15 h16 Q => ?_), fun q => absurd rfl q⟩
  obtain ⟨b2, c2, hb2, rfl, ⟨ni, ec, rfl, rfl⟩ | ⟨ec, V, hV, rfl, hc2⟩⟩ := Q
  case inr =>
    rw [rd_br, lN_neg hV]
    rcases hc2 with e1 | ⟨e1, hv⟩
    · subst e1
      exact ⟨fun _ => pa_fin (pa_up F) hpM (hN1 ec) _ _, fun c => absurd c (by decide)⟩
    · subst e1
      exact ⟨fun q => absurd rfl q, fun _ => ⟨fun _ => pa_fin (pa_up F) hpM (hN1 ec) _ _, fun q => absurd hv q⟩⟩
  have hi := cntP_inv ec
  have e40 : (lN ni ≤ 40) ↔ ni ≤ 40 := lN_le63 (b := 40) hi.2.2.1 (by decide)
  rw [rd_br, lN_neg (by omega), e40]
  refine ⟨fun q => absurd rfl q, fun _ => ⟨fun q => absurd q (by omega), fun _ => ⟨fun c40 => ?_, fun c40 => pa_fin (pa_up F) hpM (hN2 _ _ ec (by omega)) _ _⟩⟩⟩
  intro r24 e24
  have e24' : r24 = p + 3 := e24.trans PS.2.1.2.2.1
  subst e24'
  rw [show ((rd (upR hA p k (up1 (fun _ => none) 1 (some (nI cur)))) M b2 0).ai (p + 3)).length = 12 from (upR_len _).trans PS.2.2.2.2.2.1, lN_i]
  refine ⟨PS.2.2.1.2.2.1, pk_in k 12 (by omega), fun h27 e27 => ?_⟩
  rw [rd_up (by decide) (by decide) rfl] at e27
  subst e27
  intro r29 e29
  have e29' : r29 = p + 5 := e29.trans PS.2.1.2.2.2.2.1
  subst e29'
  rw [show ((rd (upR hA p k (up1 (up1 (fun _ => none) 1 (some (nI cur))) 3 (some (nI ni)))) M b2 0).ai (p + 5)).length = 12 from (upR_len _).trans PS.2.2.2.2.2.2.2.1, rd_at]
  refine ⟨PS.2.2.1.2.2.2.2.1, pk_in k 12 (by omega), fun h33 e33 => ?_⟩
  rw [rd_up (by decide) (by decide) rfl] at e33
  subst e33
  exact nxt ni b2 q1 ec c40 hb2
theorem pa_84 {hA : AH} {c b0 : Nat} (hd : 6 ≤ d) (hpM : p ≠ M) (hpM2 : M + 15 < p ∨ p + 7 < M) (hap : ¬ (p ≤ a ∧ a ≤ p + 7)) (haM : ¬ mdQ M a) (hn : 8 * n < 2 ^ 31) (hc : c ≤ 12) (hb0 : b0 ≤ n) (R : RdB hA M a L n) (F : (Same (prP M p) h hA ∧ Kp rdK M h hA ∧ Kp [26000, 26001] p h hA ∧ hA.z = h.z ∧ hA.s = h.s)) (MA : McA hA M K B) (PS : PrS hA p) (P1 : hA.i 26001 p = nI c) (P0 : hA.r 26000 p = a)
    (hP : blkP L n = match txsP L n c b0 with
      | none => none
      | some (l, e) => if e = n then some l else none) :
    Aw G mX24_parse (d + 1) 0 h (kI (fun x h' => (Same (prP M p) h h' ∧ Kp rdK M h h' ∧ Kp [26000, 26001] p h h' ∧ h'.z = h.z ∧ h'.s = h.s) ∧ ((∃ l, blkP L n = some l ∧ x = 1 ∧ PrAt h' p a K B L l) ∨ (blkP L n = none ∧ x = 0))) nE) 84 [vR M, vR a, vI (nI n), vR p, vU, vU, vI (nI 0), vU, vU, vU, vU, vU] [] (rd hA M b0 0) := by
  refine loop_up (n := c) (P := fun k (x : AH × Nat × List TxP) => Aw G mX24_parse (d + 1) 0 h (kI (fun x h' => (Same (prP M p) h h' ∧ Kp rdK M h h' ∧ Kp [26000, 26001] p h h' ∧ h'.z = h.z ∧ h'.s = h.s) ∧ ((∃ l, blkP L n = some l ∧ x = 1 ∧ PrAt h' p a K B L l) ∨ (blkP L n = none ∧ x = 0))) nE) 84 [vR M, vR a, vI (nI n), vR p, vU, vU, vI (nI k), vU, vU, vU, vU, vU] [] (rd x.1 M x.2.1 0))
    (fun k x => x.2.2.length = k ∧ x.2.1 ≤ n ∧ RdB x.1 M a L n ∧ (Same (prP M p) h x.1 ∧ Kp rdK M h x.1 ∧ Kp [26000, 26001] p h x.1 ∧ x.1.z = h.z ∧ x.1.s = h.s) ∧ McA x.1 M K B ∧ PrS x.1 p ∧ x.1.i 26001 p = nI c ∧ x.1.r 26000 p = a ∧ PrTs x.1 p K B L x.2.2 ∧ txsP L n c b0 = apP x.2.2 (txsP L n (c - k) x.2.1))
    (fun k x hk hI ih => ?_) (fun x hI => ?_) 0 (hA, b0, []) (Nat.zero_le _) ⟨rfl, hb0, R, F, MA, PS, P1, P0, fun j hj => absurd hj (by simp), by rw [Nat.sub_zero, apP_nil]⟩
  · clear R F MA PS P1 P0
    obtain ⟨hA, cur, acc⟩ := x
    obtain ⟨la, hcur, R, F, MA, PS, P1, P0, PT, hI⟩ := hI
    dsimp only at la hcur R F MA PS P1 P0 PT hI ⊢
    have ek : c - k = (c - (k + 1)) + 1 := by omega
    rw [ek] at hI
    have ha6 : ¬ (p + 1 ≤ a ∧ a ≤ p + 6) := by omega
    have hNT : txP L n cur = none → blkP L n = none := fun e => by rw [hP, hI, txsP_n e]; rfl
    refine pa_beg hd hpM hap hk hc R F PS P1 hcur (fun z => hNT (txP_n1 z)) (fun z => hNT (txP_n2 z)) (fun ni b2 z1 z2 => ?_) (fun ni b2 q1 ec c40 hb2 => ?_)
    · by_cases z3 : cur + 4 ≤ n
      · exact hNT (by rw [txP_c z3 z1, if_pos z2])
      · exact hNT (txP_n1 (by omega))
    have hTc := txP_c q1 ec
    rw [if_neg (by omega)] at hTc
    refine pa_177 hd hpM (R.up ha6) (pa_up F) (by omega) c40 hb2 (fun e => hNT (by rw [hTc, e])) (fun il g ei hg => ?_)
    rw [ei] at hTc
    replace hTc : txP L n cur = match cntP L n g with
      | none => none
      | some (no, e) => if 180 < no then none else match outsP L n no e with
        | none => none
        | some (ol, g) => if n < g + 4 then none else some (cur, g + 4, il, ol) := hTc
    refine pa_mid hd hpM hap (by omega) c40 R F PS hg rfl rfl (fun z => hNT (by rw [hTc, z])) (fun no b3 z1 z2 => hNT (by
      rw [hTc, z1]
      show (if 180 < no then none else _) = none
      rw [if_pos z2])) (fun no b3 ec2 c180 hb3 => ?_)
    rw [ec2] at hTc
    replace hTc : txP L n cur = if 180 < no then none else match outsP L n no b3 with
        | none => none
        | some (ol, g) => if n < g + 4 then none else some (cur, g + 4, il, ol) := hTc
    rw [if_neg (by omega)] at hTc
    refine pa_289 hd hpM (R.up ha6) (pa_up F) (by omega) c180 hb3 (fun e => hNT (by rw [hTc, e])) (fun ol g2 eo hg2 => ?_)
    rw [eo] at hTc
    replace hTc : txP L n cur = if n < g2 + 4 then none else some (cur, g2 + 4, il, ol) := hTc
    have il_len := insP_le _ _ ei
    have ol_len := outsP_le _ _ eo
    have ci := cntP_inv ec
    have ci2 := cntP_inv ec2
    refine pa_end (cur := cur) hd hpM hpM2 hap haM hn (by omega) c180 R F MA PS hg2 (by omega) rfl rfl (fun z => hNT (by rw [hTc, if_pos z])) (fun f q4 M2 hfa fj hf7 => ?_)
    rw [if_neg (by omega)] at hTc
    refine ih (_, g2 + 4, acc ++ [(cur, g2 + 4, il, ol)]) ⟨by rw [List.length_append, la]; rfl, q4, ?_, ?_, ?_, ?_, ?_, ?_, ?_, ?_⟩
    · exact ⟨R.1, R.2.1, R.2.2.1, R.2.2.2.1, hfa, R.2.2.2.2.2⟩
    · exact ⟨F.1.mod M2 (fun x _ q => by
        rcases q with q | q
        · exact Or.inr (Or.inl q)
        · exact Or.inr (Or.inr q)), F.2.1.si _, F.2.2.1.si _, F.2.2.2⟩
    · exact MA.mod M2 (by unfold mdQ mdP; omega) (by unfold mdQ mdP; omega)
    · exact PS.mod M2
    · exact (congrFun (congrFun M2.i 26001) p).trans P1
    · exact (congrFun (congrFun M2.r 26000) p).trans P0
    · exact pr_next PS la (by omega) PT rfl rfl rfl rfl rfl rfl fj hf7 il_len.2.1 ol_len.2.1 (insP_hd ei) (outsP_hd eo)
    · rw [hI, txsP_ok hTc]
  · clear R F MA PS P1 P0
    obtain ⟨hA, cur, acc⟩ := x
    obtain ⟨la, hcur, R, F, MA, PS, P1, P0, PT, hI⟩ := hI
    dsimp only at la hcur R F MA PS P1 P0 PT hI ⊢
    rw [Nat.sub_self, txsP_0] at hI
    rw [hI] at hP
    replace hP : blkP L n = if cur = n then some acc else none := hP
    have hLn := R.2.2.2.2.2
    refine sX24_parse_84 _ M a (nI n) p (nI c) ⟨PS.1, ?_⟩
    rw [rd_i hA M cur 0 (Or.inl (by decide)), P1, rd_at]
    refine pk_le c c (fun _ => ⟨R.1, ?_⟩) (fun cc => absurd cc (by omega))
    refine pk_eq' cur n (fun ce => ⟨pa_rd F hpM cur 0, Or.inr ⟨by rw [hP, if_neg ce], rfl⟩⟩) (fun ce => ⟨pa_rd F hpM cur 0, Or.inl ⟨acc, by rw [hP, if_pos ce], rfl, PS, P0, ?_, PT⟩⟩)
    rw [rd_i hA M cur 0 (Or.inl (by decide)), P1, la]
theorem MD_parse_spec (hd : 7 ≤ d) (hpM2 : M + 15 < p ∨ p + 7 < M) (hap : ¬ (p ≤ a ∧ a ≤ p + 7)) (haM : ¬ mdQ M a) (hn : 8 * n < 2 ^ 31) (MA : McA h M K B) (PS : PrS h p) (ka : h.kd a = 101) (hL : h.ai a = L) (hLn : n ≤ L.length) (hL31 : L.length < 2 ^ 31) :
    Cw G mX24_parse d 0 [vR M, vR a, vI (nI n), vR p] h (kI (fun x h' => (Same (prP M p) h h' ∧ Kp rdK M h h' ∧ Kp [26000, 26001] p h h' ∧ h'.z = h.z ∧ h'.s = h.s) ∧ ((∃ l, blkP L n = some l ∧ x = 1 ∧ PrAt h' p a K B L l) ∨ (blkP L n = none ∧ x = 0))) nE) := by
  obtain ⟨d, rfl⟩ : ∃ d', d = d' + 1 := ⟨d - 1, by omega⟩
  have hpM : p ≠ M := by omega
  refine eX24_parse h M a (nI n) p (fun _ => sX24_parse_0 h M a (nI n) p ⟨MA.1.1, fun h2 e2 h4 e4 h6 e6 h8 e8 => ⟨?_, fun h10 e10 => ?_⟩⟩)
  · rw [e8, e6, e4, e2]; exact PS.1
  obtain ⟨hA, eA⟩ : ∃ hA : AH, hA = ((h.pr 24038 M a).pi 24037 M (nI n)).pr 26000 p a := ⟨_, rfl⟩
  have e10' : h10 = rd hA M 0 0 := by
    rw [e10, e8, e6, e4, e2, eA]
    rfl
  clear e10
  subst e10'
  have F : (Same (prP M p) h hA ∧ Kp rdK M h hA ∧ Kp [26000, 26001] p h hA ∧ hA.z = h.z ∧ hA.s = h.s) := by
    rw [eA]
    exact ⟨((Same.rf.pr _ _ (Or.inl (Or.inl rfl))).pi _ _ (Or.inl (Or.inl rfl))).pr _ _ (Or.inl (Or.inr (Or.inr ⟨Nat.le_refl _, by omega⟩))), ((Kp.rf.pr 24038 _ (Or.inl (by decide))).pi 24037 _ (Or.inl (by decide))).pr 26000 _ (Or.inr (fun e => hpM e.symm)), ((Kp.rf.pr 24038 _ (Or.inr hpM)).pi 24037 _ (Or.inr hpM)).pr 26000 _ (Or.inl (by decide)), rfl, rfl⟩
  have R : RdB hA M a L n := by
    rw [eA]
    refine ⟨MA.1.1, ?_, ?_, ka, hL, hLn, hL31⟩
    · simp only [AH.kd_pr, AH.r_pr, AH.i_pr, AH.l_pr, AH.ai_pr, AH.al_pr, AH.ar_pr, AH.z_pr, AH.s_pr, AH.kd_pi, AH.r_pi, AH.i_pi, AH.l_pi, AH.ai_pi, AH.al_pi, AH.ar_pi, AH.z_pi, AH.s_pi, AH.kd_pl, AH.r_pl, AH.i_pl, AH.l_pl, AH.ai_pl, AH.al_pl, AH.ar_pl, AH.z_pl, AH.s_pl, AH.kd_wl, AH.r_wl, AH.i_wl, AH.l_wl, AH.ai_wl, AH.al_wl, AH.ar_wl, AH.z_wl, AH.s_wl, AH.kd_wr, AH.r_wr, AH.i_wr, AH.l_wr, AH.ai_wr, AH.al_wr, AH.ar_wr, AH.z_wr, AH.s_wr, AH.kd_wi, AH.r_wi, AH.i_wi, AH.l_wi, AH.ai_wi, AH.al_wi, AH.ar_wi, AH.z_wi, AH.s_wi, AH.kd_nw, AH.r_nw, AH.i_nw, AH.l_nw, AH.ai_nw, AH.al_nw, AH.ar_nw, AH.z_nw, AH.s_nw, false_and, and_false, true_and, and_true, and_self, eq_self, if_true, if_false, reduceIte]
    · simp only [AH.kd_pr, AH.r_pr, AH.i_pr, AH.l_pr, AH.ai_pr, AH.al_pr, AH.ar_pr, AH.z_pr, AH.s_pr, AH.kd_pi, AH.r_pi, AH.i_pi, AH.l_pi, AH.ai_pi, AH.al_pi, AH.ar_pi, AH.z_pi, AH.s_pi, AH.kd_pl, AH.r_pl, AH.i_pl, AH.l_pl, AH.ai_pl, AH.al_pl, AH.ar_pl, AH.z_pl, AH.s_pl, AH.kd_wl, AH.r_wl, AH.i_wl, AH.l_wl, AH.ai_wl, AH.al_wl, AH.ar_wl, AH.z_wl, AH.s_wl, AH.kd_wr, AH.r_wr, AH.i_wr, AH.l_wr, AH.ai_wr, AH.al_wr, AH.ar_wr, AH.z_wr, AH.s_wr, AH.kd_wi, AH.r_wi, AH.i_wi, AH.l_wi, AH.ai_wi, AH.al_wi, AH.ar_wi, AH.z_wi, AH.s_wi, AH.kd_nw, AH.r_nw, AH.i_nw, AH.l_nw, AH.ai_nw, AH.al_nw, AH.ar_nw, AH.z_nw, AH.s_nw, false_and, and_false, true_and, and_true, and_self, eq_self, if_true, if_false, reduceIte, Nat.reduceEqDiff]
  have MAA : McA hA M K B := by
    rw [eA]
    refine ⟨?_, MA.2⟩
    have := MA.1
    unfold MdS at this ⊢
    simp only [AH.kd_pr, AH.r_pr, AH.i_pr, AH.l_pr, AH.ai_pr, AH.al_pr, AH.ar_pr, AH.z_pr, AH.s_pr, AH.kd_pi, AH.r_pi, AH.i_pi, AH.l_pi, AH.ai_pi, AH.al_pi, AH.ar_pi, AH.z_pi, AH.s_pi, AH.kd_pl, AH.r_pl, AH.i_pl, AH.l_pl, AH.ai_pl, AH.al_pl, AH.ar_pl, AH.z_pl, AH.s_pl, AH.kd_wl, AH.r_wl, AH.i_wl, AH.l_wl, AH.ai_wl, AH.al_wl, AH.ar_wl, AH.z_wl, AH.s_wl, AH.kd_wr, AH.r_wr, AH.i_wr, AH.l_wr, AH.ai_wr, AH.al_wr, AH.ar_wr, AH.z_wr, AH.s_wr, AH.kd_wi, AH.r_wi, AH.i_wi, AH.l_wi, AH.ai_wi, AH.al_wi, AH.ar_wi, AH.z_wi, AH.s_wi, AH.kd_nw, AH.r_nw, AH.i_nw, AH.l_nw, AH.ai_nw, AH.al_nw, AH.ar_nw, AH.z_nw, AH.s_nw, false_and, and_false, true_and, and_true, and_self, eq_self, if_true, if_false, reduceIte, Nat.reduceEqDiff]
    exact this
  have PSA : PrS hA p := by
    rw [eA]
    have := PS
    unfold PrS at this ⊢
    simp only [AH.kd_pr, AH.r_pr, AH.i_pr, AH.l_pr, AH.ai_pr, AH.al_pr, AH.ar_pr, AH.z_pr, AH.s_pr, AH.kd_pi, AH.r_pi, AH.i_pi, AH.l_pi, AH.ai_pi, AH.al_pi, AH.ar_pi, AH.z_pi, AH.s_pi, AH.kd_pl, AH.r_pl, AH.i_pl, AH.l_pl, AH.ai_pl, AH.al_pl, AH.ar_pl, AH.z_pl, AH.s_pl, AH.kd_wl, AH.r_wl, AH.i_wl, AH.l_wl, AH.ai_wl, AH.al_wl, AH.ar_wl, AH.z_wl, AH.s_wl, AH.kd_wr, AH.r_wr, AH.i_wr, AH.l_wr, AH.ai_wr, AH.al_wr, AH.ar_wr, AH.z_wr, AH.s_wr, AH.kd_wi, AH.r_wi, AH.i_wi, AH.l_wi, AH.ai_wi, AH.al_wi, AH.ar_wi, AH.z_wi, AH.s_wi, AH.kd_nw, AH.r_nw, AH.i_nw, AH.l_nw, AH.ai_nw, AH.al_nw, AH.ar_nw, AH.z_nw, AH.s_nw, false_and, and_false, true_and, and_true, and_self, eq_self, if_true, if_false, reduceIte, Nat.reduceEqDiff]
    exact this
  have P0 : hA.r 26000 p = a := by
    rw [eA]
    simp only [AH.kd_pr, AH.r_pr, AH.i_pr, AH.l_pr, AH.ai_pr, AH.al_pr, AH.ar_pr, AH.z_pr, AH.s_pr, AH.kd_pi, AH.r_pi, AH.i_pi, AH.l_pi, AH.ai_pi, AH.al_pi, AH.ar_pi, AH.z_pi, AH.s_pi, AH.kd_pl, AH.r_pl, AH.i_pl, AH.l_pl, AH.ai_pl, AH.al_pl, AH.ar_pl, AH.z_pl, AH.s_pl, AH.kd_wl, AH.r_wl, AH.i_wl, AH.l_wl, AH.ai_wl, AH.al_wl, AH.ar_wl, AH.z_wl, AH.s_wl, AH.kd_wr, AH.r_wr, AH.i_wr, AH.l_wr, AH.ai_wr, AH.al_wr, AH.ar_wr, AH.z_wr, AH.s_wr, AH.kd_wi, AH.r_wi, AH.i_wi, AH.l_wi, AH.ai_wi, AH.al_wi, AH.ar_wi, AH.z_wi, AH.s_wi, AH.kd_nw, AH.r_nw, AH.i_nw, AH.l_nw, AH.ai_nw, AH.al_nw, AH.ar_nw, AH.z_nw, AH.s_nw, false_and, and_false, true_and, and_true, and_self, eq_self, if_true, if_false, reduceIte]
  clear eA
  refine (MD_skip_spec (m := 80) (by decide) (by omega) R (Nat.zero_le _)).nV (fun h12 Q => ?_)
  obtain ⟨b1, c1, hb1, rfl, ⟨q1, rfl, rfl⟩ | ⟨q1, rfl, rfl⟩⟩ := Q
  case inr =>
    rw [rd_br]
    exact ⟨fun c => absurd c (by decide), fun _ => ⟨fun _ => pa_fin F hpM (blkP_n1 (by omega)) _ _, fun c => absurd c (by decide)⟩⟩
  rw [rd_br]
  refine ⟨fun _ => (MD_count_spec (by omega) R hb1).nJ (fun x17 h18 Q => ?_), fun q => absurd rfl q⟩
  obtain ⟨b2, c2, hb2, rfl, ⟨c, ec, rfl, rfl⟩ | ⟨ec, V, hV, rfl, hc2⟩⟩ := Q
  case inr =>
    have hN := blkP_n2 (n := n) (L := L) (by rw [← ec, Nat.zero_add])
    rw [rd_br, lN_neg hV]
    rcases hc2 with e1 | ⟨e1, hv⟩
    · subst e1
      exact ⟨fun _ => pa_fin F hpM hN _ _, fun c => absurd c (by decide)⟩
    · subst e1
      exact ⟨fun q => absurd rfl q, fun _ => ⟨fun _ => pa_fin F hpM hN _ _, fun q => absurd hv q⟩⟩
  have hi := cntP_inv ec
  rw [Nat.zero_add] at ec
  have hP := blkP_c (by omega) ec
  have e12 : (lN c ≤ 12) ↔ c ≤ 12 := lN_le63 (b := 12) hi.2.2.1 (by decide)
  rw [rd_br, lN_neg (by omega), e12]
  refine ⟨fun q => absurd rfl q, fun _ => ⟨fun q => absurd q (by omega), fun _ => ⟨fun c12 h26 e26 => ?_, fun c12 => pa_fin F hpM (by rw [hP, if_pos (by omega)]) _ _⟩⟩⟩
  rw [if_neg (by omega)] at hP
  have e26' : h26 = rd (hA.pi 26001 p (nI c)) M b2 0 := by
    rw [e26, lN_i]
    unfold rd
    rw [AH.pi_comm _ _ _ (Or.inl (by decide)), AH.pi_comm hA _ _ (Or.inl (by decide))]
  clear e26
  subst e26'
  refine pa_84 (hA := hA.pi 26001 p (nI c)) (by omega) hpM hpM2 hap haM hn c12 hb2 ?_ ?_ MAA PSA ?_ P0 hP
  · exact ⟨R.1, by rw [AH.i_pi, if_neg (fun e => absurd e.1 (by decide))]; exact R.2.1, R.2.2⟩
  · exact ⟨F.1.pi _ _ (Or.inl (Or.inr (Or.inr ⟨Nat.le_refl _, by omega⟩))), F.2.1.pi _ _ (Or.inr (fun e => hpM e.symm)), F.2.2.1.pi _ _ (Or.inl (by decide)), F.2.2.2⟩
  · rw [AH.i_pi, if_pos ⟨rfl, rfl⟩]
end MParse2

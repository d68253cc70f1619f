/-! the reference reads a block -/
set_option maxRecDepth 100000
def rdK : List Nat := [24036, 24037, 24038, 24039]
/-- the rows of a Parsed at p -/
def PrS (h : AH) (p : Nat) : Prop := h.kd p = 26 ∧ (h.r 26002 p = p + 1 ∧ h.r 26003 p = p + 2 ∧ h.r 26004 p = p + 3 ∧ h.r 26005 p = p + 4 ∧ h.r 26006 p = p + 5 ∧ h.r 26007 p = p + 6 ∧ h.r 26008 p = p + 7) ∧
  (h.kd (p + 1) = 100 ∧ h.kd (p + 2) = 100 ∧ h.kd (p + 3) = 100 ∧ h.kd (p + 4) = 100 ∧ h.kd (p + 5) = 100 ∧ h.kd (p + 6) = 100 ∧ h.kd (p + 7) = 101) ∧
  ((h.ai (p + 1)).length = 12 ∧ (h.ai (p + 2)).length = 12 ∧ (h.ai (p + 3)).length = 12 ∧ (h.ai (p + 4)).length = 12 ∧ (h.ai (p + 5)).length = 12 ∧ (h.ai (p + 6)).length = 12 ∧ (h.ai (p + 7)).length = 384)
/-- what it tells of one transaction -/
def PrT (h : AH) (p : Nat) (K B L : List Int32) (j : Nat) (t : TxP) : Prop := (h.ai (p + 1)).getD j 0 = nI t.1 ∧ (h.ai (p + 2)).getD j 0 = nI t.2.1 ∧ (h.ai (p + 3)).getD j 0 = nI t.2.2.1.length ∧ (h.ai (p + 4)).getD j 0 = nI t.2.2.2.length ∧
  (0 < t.2.2.1.length → (h.ai (p + 5)).getD j 0 = nI (t.2.2.1.getD 0 p0).1) ∧ (0 < t.2.2.2.length → (h.ai (p + 6)).getD j 0 = nI (t.2.2.2.getD 0 p0).1) ∧ ∀ i, i < 32 → (h.ai (p + 7)).getD (32 * j + i) 0 = (idL K B L t).getD i 0
def PrTs (h : AH) (p : Nat) (K B L : List Int32) (l : List TxP) : Prop := ∀ j, j < l.length → PrT h p K B L j (l.getD j t0)
/-- a Parsed at p tells of these transactions -/
def PrAt (h : AH) (p a : Nat) (K B L : List Int32) (l : List TxP) : Prop := PrS h p ∧ h.r 26000 p = a ∧ h.i 26001 p = nI l.length ∧ PrTs h p K B L l
/-- the reference's rows for digests, with the constants -/
def McA (h : AH) (M : Nat) (K B : List Int32) : Prop := MdS h M ∧ h.ai (M + 5) = K ∧ h.ai (M + 4) = B
def prP (M p y : Nat) : Prop := y = M ∨ mdQ M y ∨ (p ≤ y ∧ y ≤ p + 7)
theorem PrS.mod {P : Nat → Prop} {h h' : AH} {p : Nat} (H : PrS h p) (m : Mod P h h') : PrS h' p := by
  unfold PrS at H ⊢
  rw [m.kd, m.r]
  simp only [m.len]
  exact H
theorem McA.mod {P : Nat → Prop} {h h' : AH} {M : Nat} {K B : List Int32} (H : McA h M K B) (m : Mod P h h') (h1 : ¬ P (M + 5)) (h2 : ¬ P (M + 4)) : McA h' M K B :=
  ⟨H.1.mod m, by rw [m.ai h1]; exact H.2.1, by rw [m.ai h2]; exact H.2.2⟩
theorem PrT.eq {h h' : AH} {p j : Nat} {K B L : List Int32} {t : TxP} (H : PrT h p K B L j t) (e : ∀ q, p + 1 ≤ q → q ≤ p + 6 → (h'.ai q).getD j 0 = (h.ai q).getD j 0) (e7 : ∀ i, i < 32 → (h'.ai (p + 7)).getD (32 * j + i) 0 = (h.ai (p + 7)).getD (32 * j + i) 0) : PrT h' p K B L j t := by
  unfold PrT
  rw [e (p + 1) (by omega) (by omega), e (p + 2) (by omega) (by omega), e (p + 3) (by omega) (by omega), e (p + 4) (by omega) (by omega), e (p + 5) (by omega) (by omega), e (p + 6) (by omega) (by omega)]
  exact ⟨H.1, H.2.1, H.2.2.1, H.2.2.2.1, H.2.2.2.2.1, H.2.2.2.2.2.1, fun i hi => (e7 i hi).trans (H.2.2.2.2.2.2 i hi)⟩

theorem MdS.same {P : Nat → Prop} {h h' : AH} {M : Nat} (H : MdS h M) (S : Same P h h') (hz : M + 15 < h.z) (hr : ∀ k, k < 24015 → h'.r k M = h.r k M) : MdS h' M := by
  have k0 : h'.kd M = h.kd M := S.kd (by omega)
  have k1 : h'.kd (M + 1) = h.kd (M + 1) := S.kd (by omega)
  have k2 : h'.kd (M + 2) = h.kd (M + 2) := S.kd (by omega)
  have k3 : h'.kd (M + 3) = h.kd (M + 3) := S.kd (by omega)
  have k4 : h'.kd (M + 4) = h.kd (M + 4) := S.kd (by omega)
  have k5 : h'.kd (M + 5) = h.kd (M + 5) := S.kd (by omega)
  have k9 : h'.kd (M + 9) = h.kd (M + 9) := S.kd (by omega)
  have k10 : h'.kd (M + 10) = h.kd (M + 10) := S.kd (by omega)
  have k11 : h'.kd (M + 11) = h.kd (M + 11) := S.kd (by omega)
  have k12 : h'.kd (M + 12) = h.kd (M + 12) := S.kd (by omega)
  have k13 : h'.kd (M + 13) = h.kd (M + 13) := S.kd (by omega)
  have k14 : h'.kd (M + 14) = h.kd (M + 14) := S.kd (by omega)
  have k15 : h'.kd (M + 15) = h.kd (M + 15) := S.kd (by omega)
  have l1 : (h'.ai (M + 1)).length = (h.ai (M + 1)).length := S.len (by omega)
  have l2 : (h'.ai (M + 2)).length = (h.ai (M + 2)).length := S.len (by omega)
  have l3 : (h'.ai (M + 3)).length = (h.ai (M + 3)).length := S.len (by omega)
  have l4 : (h'.ai (M + 4)).length = (h.ai (M + 4)).length := S.len (by omega)
  have l5 : (h'.ai (M + 5)).length = (h.ai (M + 5)).length := S.len (by omega)
  have l9 : (h'.ai (M + 9)).length = (h.ai (M + 9)).length := S.len (by omega)
  have l10 : (h'.ai (M + 10)).length = (h.ai (M + 10)).length := S.len (by omega)
  have l11 : (h'.ai (M + 11)).length = (h.ai (M + 11)).length := S.len (by omega)
  have l12 : (h'.ai (M + 12)).length = (h.ai (M + 12)).length := S.len (by omega)
  have l13 : (h'.ai (M + 13)).length = (h.ai (M + 13)).length := S.len (by omega)
  have l14 : (h'.ai (M + 14)).length = (h.ai (M + 14)).length := S.len (by omega)
  have l15 : (h'.ai (M + 15)).length = (h.ai (M + 15)).length := S.len (by omega)
  have r0 := hr (24000 + 0) (by decide)
  have r1 := hr (24000 + 1) (by decide)
  have r2 := hr (24000 + 2) (by decide)
  have r3 := hr (24000 + 3) (by decide)
  have r4 := hr (24000 + 4) (by decide)
  have r8 := hr (24000 + 8) (by decide)
  have r9 := hr (24000 + 9) (by decide)
  have r10 := hr (24000 + 10) (by decide)
  have r11 := hr (24000 + 11) (by decide)
  have r12 := hr (24000 + 12) (by decide)
  have r13 := hr (24000 + 13) (by decide)
  have r14 := hr (24000 + 14) (by decide)
  simp only [Nat.reduceAdd] at r0 r1 r2 r3 r4 r8 r9 r10 r11 r12 r13 r14
  unfold MdS at H ⊢
  simp only [k0, k1, k2, k3, k4, k5, k9, k10, k11, k12, k13, k14, k15, l1, l2, l3, l4, l5, l9, l10, l11, l12, l13, l14, l15, r0, r1, r2, r3, r4, r8, r9, r10, r11, r12, r13, r14]
  exact H
theorem PrS.same {P : Nat → Prop} {h h' : AH} {p : Nat} (H : PrS h p) (S : Same P h h') (hz : p + 7 < h.z) (hr : ∀ k, 26001 < k → h'.r k p = h.r k p) : PrS h' p := by
  have k0 : h'.kd p = h.kd p := S.kd (by omega)
  have k1 : h'.kd (p + 1) = h.kd (p + 1) := S.kd (by omega)
  have k2 : h'.kd (p + 2) = h.kd (p + 2) := S.kd (by omega)
  have k3 : h'.kd (p + 3) = h.kd (p + 3) := S.kd (by omega)
  have k4 : h'.kd (p + 4) = h.kd (p + 4) := S.kd (by omega)
  have k5 : h'.kd (p + 5) = h.kd (p + 5) := S.kd (by omega)
  have k6 : h'.kd (p + 6) = h.kd (p + 6) := S.kd (by omega)
  have k7 : h'.kd (p + 7) = h.kd (p + 7) := S.kd (by omega)
  have l1 : (h'.ai (p + 1)).length = (h.ai (p + 1)).length := S.len (by omega)
  have l2 : (h'.ai (p + 2)).length = (h.ai (p + 2)).length := S.len (by omega)
  have l3 : (h'.ai (p + 3)).length = (h.ai (p + 3)).length := S.len (by omega)
  have l4 : (h'.ai (p + 4)).length = (h.ai (p + 4)).length := S.len (by omega)
  have l5 : (h'.ai (p + 5)).length = (h.ai (p + 5)).length := S.len (by omega)
  have l6 : (h'.ai (p + 6)).length = (h.ai (p + 6)).length := S.len (by omega)
  have l7 : (h'.ai (p + 7)).length = (h.ai (p + 7)).length := S.len (by omega)
  have r1 := hr (26001 + 1) (by decide)
  have r2 := hr (26001 + 2) (by decide)
  have r3 := hr (26001 + 3) (by decide)
  have r4 := hr (26001 + 4) (by decide)
  have r5 := hr (26001 + 5) (by decide)
  have r6 := hr (26001 + 6) (by decide)
  have r7 := hr (26001 + 7) (by decide)
  simp only [Nat.reduceAdd] at r1 r2 r3 r4 r5 r6 r7
  unfold PrS at H ⊢
  simp only [k0, k1, l1, r1, k2, l2, r2, k3, l3, r3, k4, l4, r4, k5, l5, r5, k6, l6, r6, k7, l7, r7]
  exact H
section MParse
variable {G : Gx} {d : Nat} {h : AH} {M a p n : Nat} {L K B : List Int32}
/-- a frame of the run, carried over reading -/
theorem pa_rd {hA : AH} (F : (Same (prP M p) h hA ∧ Kp rdK M h hA ∧ Kp [26000, 26001] p h hA ∧ hA.z = h.z ∧ hA.s = h.s)) (hpM : p ≠ M) (b : Nat) (c : Int32) : Same (prP M p) h (rd hA M b c) ∧ Kp rdK M h (rd hA M b c) ∧ Kp [26000, 26001] p h (rd hA M b c) ∧ (rd hA M b c).z = h.z ∧ (rd hA M b c).s = h.s :=
  ⟨F.1.rd b c (Or.inl rfl), (F.2.1.pi 24036 _ (Or.inl (by decide))).pi 24039 _ (Or.inl (by decide)), (F.2.2.1.pi 24036 _ (Or.inr hpM)).pi 24039 _ (Or.inr hpM), F.2.2.2⟩
theorem pa_wi {hA : AH} (F : (Same (prP M p) h hA ∧ Kp rdK M h hA ∧ Kp [26000, 26001] p h hA ∧ hA.z = h.z ∧ hA.s = h.s)) {q : Nat} {v : List Int32} (hq : p ≤ q ∧ q ≤ p + 7) (hl : v.length = (hA.ai q).length) : Same (prP M p) h (hA.wi q v) ∧ Kp rdK M h (hA.wi q v) ∧ Kp [26000, 26001] p h (hA.wi q v) ∧ (hA.wi q v).z = h.z ∧ (hA.wi q v).s = h.s :=
  ⟨F.1.wi v hl (Or.inl (Or.inr (Or.inr hq))), F.2.1.wi v, F.2.2.1.wi v, F.2.2.2⟩
/-- skipping behind what broke: it stays broken -/
theorem pa_fin {hA : AH} (F : (Same (prP M p) h hA ∧ Kp rdK M h hA ∧ Kp [26000, 26001] p h hA ∧ hA.z = h.z ∧ hA.s = h.s)) (hpM : p ≠ M) (hN : blkP L n = none) (b : Nat) (c : Int32) : (kI (fun x h' => (Same (prP M p) h h' ∧ Kp rdK M h h' ∧ Kp [26000, 26001] p h h' ∧ h'.z = h.z ∧ h'.s = h.s) ∧ ((∃ l, blkP L n = some l ∧ x = 1 ∧ PrAt h' p a K B L l) ∨ (blkP L n = none ∧ x = 0))) nE) (.inl (some (vI 0))) (rd hA M b c) := ⟨pa_rd F hpM b c, Or.inr ⟨hN, rfl⟩⟩
/-- the loop over the outputs: it goes on behind them, or there are none such -/
theorem pa_289 {hA : AH} {k no e0 : Nat} (hd : 6 ≤ d) (hpM : p ≠ M) (R : RdB hA M a L n) (F : (Same (prP M p) h hA ∧ Kp rdK M h hA ∧ Kp [26000, 26001] p h hA ∧ hA.z = h.z ∧ hA.s = h.s)) (hk : k < 12) (hno : no ≤ 180) (he0 : e0 ≤ n)
    (hnone : outsP L n no e0 = none → blkP L n = none)
    (hgo : ∀ ol g, outsP L n no e0 = some (ol, g) → g ≤ n → Aw G mX24_parse (d + 1) 0 h (kI (fun x h' => (Same (prP M p) h h' ∧ Kp rdK M h h' ∧ Kp [26000, 26001] p h h' ∧ h'.z = h.z ∧ h'.s = h.s) ∧ ((∃ l, blkP L n = some l ∧ x = 1 ∧ PrAt h' p a K B L l) ∨ (blkP L n = none ∧ x = 0))) nE) 289 [vR M, vR a, vI (nI n), vR p, vU, vU, vI (nI k), vU, vU, vJ (lN no), vU, vI (nI no)] [] (rd hA M g 0)) :
    Aw G mX24_parse (d + 1) 0 h (kI (fun x h' => (Same (prP M p) h h' ∧ Kp rdK M h h' ∧ Kp [26000, 26001] p h h' ∧ h'.z = h.z ∧ h'.s = h.s) ∧ ((∃ l, blkP L n = some l ∧ x = 1 ∧ PrAt h' p a K B L l) ∨ (blkP L n = none ∧ x = 0))) nE) 289 [vR M, vR a, vI (nI n), vR p, vU, vU, vI (nI k), vU, vU, vJ (lN no), vU, vI (nI 0)] [] (rd hA M e0 0) := by
  refine loop_up (n := no) (P := fun j (x : Nat × List P3) => Aw G mX24_parse (d + 1) 0 h (kI (fun x h' => (Same (prP M p) h h' ∧ Kp rdK M h h' ∧ Kp [26000, 26001] p h h' ∧ h'.z = h.z ∧ h'.s = h.s) ∧ ((∃ l, blkP L n = some l ∧ x = 1 ∧ PrAt h' p a K B L l) ∨ (blkP L n = none ∧ x = 0))) nE) 289 [vR M, vR a, vI (nI n), vR p, vU, vU, vI (nI k), vU, vU, vJ (lN no), vU, vI (nI j)] [] (rd hA M x.1 0))
    (fun j x => x.1 ≤ n ∧ outsP L n no e0 = apP x.2 (outsP L n (no - j) x.1)) (fun j x hj hI ih => ?_) (fun x hI => ?_) 0 (e0, []) (Nat.zero_le _) ⟨he0, by rw [Nat.sub_zero, apP_nil]⟩
  · obtain ⟨cur, acc⟩ := x
    obtain ⟨hc, hI⟩ := hI
    dsimp only at hc hI ⊢
    have ek : no - j = (no - (j + 1)) + 1 := by omega
    rw [ek] at hI
    refine sX24_parse_289 _ M a (nI n) p (nI k) (lN no) (nI j) ?_
    rw [nI_l (by omega), lN_le63 (by omega) (by omega)]
    refine ⟨fun c => absurd c (by omega), fun _ => ⟨R.1, (MD_skip_spec (m := 8) (by decide) (by omega) R hc).nV (fun h24 Q => ?_)⟩⟩
    obtain ⟨b1, c1, hb1, rfl, ⟨q1, rfl, rfl⟩ | ⟨q1, rfl, rfl⟩⟩ := Q
    · rw [rd_br]
      refine ⟨fun _ => (MD_count_spec (by omega) R hb1).nJ (fun x28 h29 Q => ?_), fun q => absurd rfl q⟩
      obtain ⟨b2, c2, hb2, rfl, ⟨v, ec, rfl, rfl⟩ | ⟨ec, V, hV, rfl, hc2⟩⟩ := Q
      · have hi := cntP_inv ec
        refine (MD_skip_spec (m := v) (by omega) (by omega) R hb2).nV (fun h31 Q => ?_)
        obtain ⟨b3, c3, hb3, rfl, ⟨q3, rfl, rfl⟩ | ⟨q3, rfl, rfl⟩⟩ := Q
        · rw [rd_br]
          refine ⟨fun _ => ?_, fun q => absurd rfl q⟩
          rw [nI_1]
          exact ih (b2 + v, acc ++ [(cur, b2, v)]) ⟨hb3, by rw [hI, outsP_ok q1 ec q3]⟩
        · rw [rd_br]
          exact ⟨fun c => absurd c (by decide), fun _ => pa_fin F hpM (hnone (by rw [hI, outsP_n3 ec q3]; rfl)) _ _⟩
      · have hN := hnone (by rw [hI, outsP_n2 ec]; rfl)
        refine (MD_skip_spec (m := V) hV (by omega) R hb2).nV (fun h31 Q => ?_)
        obtain ⟨b3, c3, hb3, rfl, ⟨q3, rfl, rfl⟩ | ⟨q3, rfl, rfl⟩⟩ := Q
        · have hL := R.2.2.2.2.2
          have e1 : c3 = 1 := by
            rcases hc2 with q | q
            · exact q
            · omega
          subst e1
          rw [rd_br]
          exact ⟨fun c => absurd c (by decide), fun _ => pa_fin F hpM hN _ _⟩
        · rw [rd_br]
          exact ⟨fun c => absurd c (by decide), fun _ => pa_fin F hpM hN _ _⟩
    · have hN := hnone (by rw [hI, outsP_n1 q1]; rfl)
      rw [rd_br]
      refine ⟨fun c => absurd c (by decide), fun _ => (MD_skip_spec (m := 0) (by decide) (by omega) R hb1).nV (fun h36 Q => ?_)⟩
      obtain ⟨b3, c3, hb3, rfl, ⟨q3, rfl, rfl⟩ | ⟨q3, rfl, rfl⟩⟩ := Q
      · rw [rd_br]
        exact ⟨fun c => absurd c (by decide), fun _ => pa_fin F hpM hN _ _⟩
      · rw [rd_br]
        exact ⟨fun c => absurd c (by decide), fun _ => pa_fin F hpM hN _ _⟩
  · obtain ⟨cur, acc⟩ := x
    obtain ⟨hc, hI⟩ := hI
    dsimp only at hc hI ⊢
    rw [Nat.sub_self, outsP_0] at hI
    exact hgo acc cur hI hc
/-- the loop over the inputs -/
theorem pa_177 {hA : AH} {k ni e0 : Nat} (hd : 6 ≤ d) (hpM : p ≠ M) (R : RdB hA M a L n) (F : (Same (prP M p) h hA ∧ Kp rdK M h hA ∧ Kp [26000, 26001] p h hA ∧ hA.z = h.z ∧ hA.s = h.s)) (hk : k < 12) (hni : ni ≤ 40) (he0 : e0 ≤ n)
    (hnone : insP L n ni e0 = none → blkP L n = none)
    (hgo : ∀ il g, insP L n ni e0 = some (il, g) → g ≤ n → Aw G mX24_parse (d + 1) 0 h (kI (fun x h' => (Same (prP M p) h h' ∧ Kp rdK M h h' ∧ Kp [26000, 26001] p h h' ∧ h'.z = h.z ∧ h'.s = h.s) ∧ ((∃ l, blkP L n = some l ∧ x = 1 ∧ PrAt h' p a K B L l) ∨ (blkP L n = none ∧ x = 0))) nE) 177 [vR M, vR a, vI (nI n), vR p, vU, vU, vI (nI k), vJ (lN ni), vU, vI (nI ni), vU, vU] [] (rd hA M g 0)) :
    Aw G mX24_parse (d + 1) 0 h (kI (fun x h' => (Same (prP M p) h h' ∧ Kp rdK M h h' ∧ Kp [26000, 26001] p h h' ∧ h'.z = h.z ∧ h'.s = h.s) ∧ ((∃ l, blkP L n = some l ∧ x = 1 ∧ PrAt h' p a K B L l) ∨ (blkP L n = none ∧ x = 0))) nE) 177 [vR M, vR a, vI (nI n), vR p, vU, vU, vI (nI k), vJ (lN ni), vU, vI (nI 0), vU, vU] [] (rd hA M e0 0) := by
  refine loop_up (n := ni) (P := fun j (x : Nat × List P3) => Aw G mX24_parse (d + 1) 0 h (kI (fun x h' => (Same (prP M p) h h' ∧ Kp rdK M h h' ∧ Kp [26000, 26001] p h h' ∧ h'.z = h.z ∧ h'.s = h.s) ∧ ((∃ l, blkP L n = some l ∧ x = 1 ∧ PrAt h' p a K B L l) ∨ (blkP L n = none ∧ x = 0))) nE) 177 [vR M, vR a, vI (nI n), vR p, vU, vU, vI (nI k), vJ (lN ni), vU, vI (nI j), vU, vU] [] (rd hA M x.1 0))
    (fun j x => x.1 ≤ n ∧ insP L n ni e0 = apP x.2 (insP L n (ni - j) x.1)) (fun j x hj hI ih => ?_) (fun x hI => ?_) 0 (e0, []) (Nat.zero_le _) ⟨he0, by rw [Nat.sub_zero, apP_nil]⟩
  · obtain ⟨cur, acc⟩ := x
    obtain ⟨hc, hI⟩ := hI
    dsimp only at hc hI ⊢
    have ek : ni - j = (ni - (j + 1)) + 1 := by omega
    rw [ek] at hI
    refine sX24_parse_177 _ M a (nI n) p (nI k) (lN ni) (nI j) ?_
    rw [nI_l (by omega), lN_le63 (by omega) (by omega)]
    refine ⟨fun c => absurd c (by omega), fun _ => ⟨R.1, (MD_skip_spec (m := 36) (by decide) (by omega) R hc).nV (fun h21 Q => ?_)⟩⟩
    obtain ⟨b1, c1, hb1, rfl, ⟨q1, rfl, rfl⟩ | ⟨q1, rfl, rfl⟩⟩ := Q
    · rw [rd_br]
      refine ⟨fun _ => (MD_count_spec (by omega) R hb1).nJ (fun x28 h29 Q => ?_), fun q => absurd rfl q⟩
      obtain ⟨b2, c2, hb2, rfl, ⟨v, ec, rfl, rfl⟩ | ⟨ec, V, hV, rfl, hc2⟩⟩ := Q
      · have hi := cntP_inv ec
        refine (MD_skip_spec (m := v) (by omega) (by omega) R hb2).nV (fun h31 Q => ?_)
        obtain ⟨b3, c3, hb3, rfl, ⟨q3, rfl, rfl⟩ | ⟨q3, rfl, rfl⟩⟩ := Q
        · refine (MD_skip_spec (m := 4) (by decide) (by omega) R hb3).nV (fun h31 Q => ?_)
          obtain ⟨b4, c4, hb4, rfl, ⟨q4, rfl, rfl⟩ | ⟨q4, rfl, rfl⟩⟩ := Q
          · rw [rd_br]
            refine ⟨fun _ => ?_, fun q => absurd rfl q⟩
            rw [nI_1]
            exact ih (b2 + v + 4, acc ++ [(cur, b2, v)]) ⟨hb4, by rw [hI, insP_ok q1 ec q4]⟩
          · rw [rd_br]
            exact ⟨fun c => absurd c (by decide), fun _ => pa_fin F hpM (hnone (by rw [hI, insP_n3 ec q4]; rfl)) _ _⟩
        · have hN := hnone (by rw [hI, insP_n3 ec (by omega)]; rfl)
          refine (MD_skip_spec (m := 4) (by decide) (by omega) R hb3).nV (fun h31 Q => ?_)
          obtain ⟨b4, c4, hb4, rfl, ⟨q4, rfl, rfl⟩ | ⟨q4, rfl, rfl⟩⟩ := Q
          · rw [rd_br]
            exact ⟨fun c => absurd c (by decide), fun _ => pa_fin F hpM hN _ _⟩
          · rw [rd_br]
            exact ⟨fun c => absurd c (by decide), fun _ => pa_fin F hpM hN _ _⟩
      · have hN := hnone (by rw [hI, insP_n2 ec]; rfl)
        refine (MD_skip_spec (m := V) hV (by omega) R hb2).nV (fun h31 Q => ?_)
        obtain ⟨b3, c3, hb3, rfl, ⟨q3, rfl, rfl⟩ | ⟨q3, rfl, rfl⟩⟩ := Q
        · have hL := R.2.2.2.2.2
          have e1 : c3 = 1 := by
            rcases hc2 with q | q
            · exact q
            · omega
          subst e1
          refine (MD_skip_spec (m := 4) (by decide) (by omega) R hb3).nV (fun h31 Q => ?_)
          obtain ⟨b4, c4, hb4, rfl, ⟨q4, rfl, rfl⟩ | ⟨q4, rfl, rfl⟩⟩ := Q
          · rw [rd_br]
            exact ⟨fun c => absurd c (by decide), fun _ => pa_fin F hpM hN _ _⟩
          · rw [rd_br]
            exact ⟨fun c => absurd c (by decide), fun _ => pa_fin F hpM hN _ _⟩
        · refine (MD_skip_spec (m := 4) (by decide) (by omega) R hb3).nV (fun h31 Q => ?_)
          obtain ⟨b4, c4, hb4, rfl, ⟨q4, rfl, rfl⟩ | ⟨q4, rfl, rfl⟩⟩ := Q
          · rw [rd_br]
            exact ⟨fun c => absurd c (by decide), fun _ => pa_fin F hpM hN _ _⟩
          · rw [rd_br]
            exact ⟨fun c => absurd c (by decide), fun _ => pa_fin F hpM hN _ _⟩
    · have hN := hnone (by rw [hI, insP_n1 q1]; rfl)
      rw [rd_br]
      refine ⟨fun c => absurd c (by decide), fun _ => (MD_skip_spec (m := 0) (by decide) (by omega) R hb1).nV (fun h36 Q => ?_)⟩
      obtain ⟨b3, c3, hb3, rfl, ⟨q3, rfl, rfl⟩ | ⟨q3, rfl, rfl⟩⟩ := Q
      · refine (MD_skip_spec (m := 4) (by decide) (by omega) R hb3).nV (fun h31 Q => ?_)
        obtain ⟨b4, c4, hb4, rfl, ⟨q4, rfl, rfl⟩ | ⟨q4, rfl, rfl⟩⟩ := Q
        · rw [rd_br]
          exact ⟨fun c => absurd c (by decide), fun _ => pa_fin F hpM hN _ _⟩
        · rw [rd_br]
          exact ⟨fun c => absurd c (by decide), fun _ => pa_fin F hpM hN _ _⟩
      · refine (MD_skip_spec (m := 4) (by decide) (by omega) R hb3).nV (fun h31 Q => ?_)
        obtain ⟨b4, c4, hb4, rfl, ⟨q4, rfl, rfl⟩ | ⟨q4, rfl, rfl⟩⟩ := Q
        · rw [rd_br]
          exact ⟨fun c => absurd c (by decide), fun _ => pa_fin F hpM hN _ _⟩
        · rw [rd_br]
          exact ⟨fun c => absurd c (by decide), fun _ => pa_fin F hpM hN _ _⟩
  · obtain ⟨cur, acc⟩ := x
    obtain ⟨hc, hI⟩ := hI
    dsimp only at hc hI ⊢
    rw [Nat.sub_self, insP_0] at hI
    exact hgo acc cur hI hc
end MParse

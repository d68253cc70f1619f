/-! the component reads a block -/
set_option maxRecDepth 100000
section DgSame
variable {P : Nat → Prop} {h h' : AH} {D : Nat}
theorem DgS.same (H : DgS h D) (S : Same P h h') (hz : D + 15 < h.z) (hp : ¬ P D) : DgS h' D := by
  have k0 : h'.kd D = h.kd D := S.kd (by omega)
  have k1 : h'.kd (D + 1) = h.kd (D + 1) := S.kd (by omega)
  have k2 : h'.kd (D + 2) = h.kd (D + 2) := S.kd (by omega)
  have k3 : h'.kd (D + 3) = h.kd (D + 3) := S.kd (by omega)
  have k4 : h'.kd (D + 4) = h.kd (D + 4) := S.kd (by omega)
  have k5 : h'.kd (D + 5) = h.kd (D + 5) := S.kd (by omega)
  have k6 : h'.kd (D + 6) = h.kd (D + 6) := S.kd (by omega)
  have k7 : h'.kd (D + 7) = h.kd (D + 7) := S.kd (by omega)
  have k8 : h'.kd (D + 8) = h.kd (D + 8) := S.kd (by omega)
  have k9 : h'.kd (D + 9) = h.kd (D + 9) := S.kd (by omega)
  have k10 : h'.kd (D + 10) = h.kd (D + 10) := S.kd (by omega)
  have k11 : h'.kd (D + 11) = h.kd (D + 11) := S.kd (by omega)
  have k12 : h'.kd (D + 12) = h.kd (D + 12) := S.kd (by omega)
  have k13 : h'.kd (D + 13) = h.kd (D + 13) := S.kd (by omega)
  have k14 : h'.kd (D + 14) = h.kd (D + 14) := S.kd (by omega)
  have k15 : h'.kd (D + 15) = h.kd (D + 15) := S.kd (by omega)
  have l1 : (h'.ai (D + 1)).length = (h.ai (D + 1)).length := S.len (by omega)
  have l2 : (h'.ai (D + 2)).length = (h.ai (D + 2)).length := S.len (by omega)
  have l3 : (h'.ai (D + 3)).length = (h.ai (D + 3)).length := S.len (by omega)
  have l4 : (h'.ai (D + 4)).length = (h.ai (D + 4)).length := S.len (by omega)
  have l5 : (h'.ai (D + 5)).length = (h.ai (D + 5)).length := S.len (by omega)
  have l6 : (h'.ai (D + 6)).length = (h.ai (D + 6)).length := S.len (by omega)
  have l7 : (h'.ai (D + 7)).length = (h.ai (D + 7)).length := S.len (by omega)
  have l8 : (h'.ai (D + 8)).length = (h.ai (D + 8)).length := S.len (by omega)
  have l9 : (h'.ai (D + 9)).length = (h.ai (D + 9)).length := S.len (by omega)
  have l10 : (h'.ai (D + 10)).length = (h.ai (D + 10)).length := S.len (by omega)
  have l11 : (h'.ai (D + 11)).length = (h.ai (D + 11)).length := S.len (by omega)
  have l12 : (h'.ai (D + 12)).length = (h.ai (D + 12)).length := S.len (by omega)
  have l13 : (h'.ai (D + 13)).length = (h.ai (D + 13)).length := S.len (by omega)
  have l14 : (h'.ai (D + 14)).length = (h.ai (D + 14)).length := S.len (by omega)
  have l15 : (h'.ai (D + 15)).length = (h.ai (D + 15)).length := S.len (by omega)
  have hr : ∀ k, h'.r k D = h.r k D := fun k => S.r (by omega) hp k
  unfold DgS at H ⊢
  simp only [hr, k0, k1, k2, k3, k4, k5, k6, k7, k8, k9, k10, k11, k12, k13, k14, k15, l1, l2, l3, l4, l5, l6, l7, l8, l9, l10, l11, l12, l13, l14, l15]
  exact H
theorem DgT.same (H : DgT h D) (S : Same P h h') (hz : D + 15 < h.z) (hp : ∀ x, P x → ¬ (D + 10 ≤ x ∧ x ≤ D + 15)) : DgT h' D := by
  unfold DgT at H ⊢
  rw [S.ai (a := D + 10) (by omega) (fun q => hp _ q (by omega)), S.ai (a := D + 11) (by omega) (fun q => hp _ q (by omega)), S.ai (a := D + 12) (by omega) (fun q => hp _ q (by omega)), S.ai (a := D + 13) (by omega) (fun q => hp _ q (by omega)), S.ai (a := D + 14) (by omega) (fun q => hp _ q (by omega)), S.ai (a := D + 15) (by omega) (fun q => hp _ q (by omega))]
  exact H
end DgSame
/-- the digests at D, with the rows of constants K and B -/
def DgA (h : AH) (D : Nat) (K B : List Int32) : Prop := DgS h D ∧ DgT h D ∧ h.ai (D + 1) = K ∧ h.ai (D + 2) = B ∧ D + 15 < h.z
theorem DgA.same {P : Nat → Prop} {h h' : AH} {D : Nat} {K B : List Int32} (H : DgA h D K B) (S : Same P h h') (hp : ∀ x, P x → D ≤ x → x ≤ D + 15 → dgQ D x) : DgA h' D K B := by
  have hz := H.2.2.2.2
  have n : ∀ x, ¬ dgQ D x → D ≤ x → x ≤ D + 15 → ¬ P x := fun x q h1 h2 p => q (hp x p h1 h2)
  refine ⟨H.1.same S hz (n _ (by unfold dgQ; omega) (by omega) (by omega)), H.2.1.same S hz (fun x p q => ?_), ?_, ?_, ?_⟩
  · have := hp x p (by omega) (by omega)
    unfold dgQ at this
    omega
  · rw [S.ai (by omega) (n _ (by unfold dgQ; omega) (by omega) (by omega))]; exact H.2.2.1
  · rw [S.ai (by omega) (n _ (by unfold dgQ; omega) (by omega) (by omega))]; exact H.2.2.2.1
  · have := S.1; omega
/-- a digest, twice, of n bytes -/
theorem putB_all {L : List Int32} {n : Nat} (hl : L.length = n) (g : Nat → Int32) : putB L 0 n g = (List.range n).map g := by
  refine ext_getD (z := 0) (by rw [putB_len, mapR_len, hl]) (fun i hi => ?_)
  rw [putB_len] at hi
  rw [putB_getD _ _ _ _ hi, if_pos ⟨Nat.zero_le _, by omega⟩, mapR_getD (by omega), Nat.sub_zero]
def t0 : TxP := (0, 0, [], [])
def szs (l : List TxP) : Nat := (l.map txSz).sum
def txAd (b : Nat) (l : List TxP) (j : Nat) : Nat := b + 7 + szs (l.take j)
def idL (K B L : List Int32) (t : TxP) : List Int32 := (List.range 32).map (dshD K B (t.2.1 - t.1) (sl L t.1))
theorem szs_snoc (l : List TxP) (t : TxP) : szs (l ++ [t]) = szs l + txSz t := by simp [szs]
theorem txAd_snoc {b : Nat} {l : List TxP} {t : TxP} {j : Nat} (h : j ≤ l.length) : txAd b (l ++ [t]) j = txAd b l j := by
  unfold txAd
  rw [List.take_append_of_le_length h]
theorem txAd_len {b : Nat} {l : List TxP} : txAd b l l.length = b + 7 + szs l := by
  unfold txAd
  rw [List.take_length]
theorem szs_take : ∀ (l : List TxP) (j : Nat), j < l.length → szs (l.take j) + txSz (l.getD j t0) ≤ szs l
  | [], j, h => by simp at h
  | t :: l, 0, _ => by
    show 0 + txSz t ≤ _
    simp [szs]
  | t :: l, j + 1, h => by
    have := szs_take l j (by simpa using h)
    show szs (t :: l.take j) + txSz (l.getD j t0) ≤ szs (t :: l)
    simp only [szs, List.map_cons, List.sum_cons] at this ⊢
    omega
theorem rowF_congr {f g : Nat → Nat} {k c : Nat} (h : ∀ j, j < k → f j = g j) : rowF f k c = rowF g k c := by
  unfold rowF
  apply List.map_congr_left
  intro j _
  by_cases q : j < k
  · rw [if_pos q, if_pos q, h j q]
  · rw [if_neg q, if_neg q]
def TxsAt (h : AH) (b : Nat) (K B L : List Int32) (l : List TxP) (c : Nat) : Prop := h.kd (b + 6) = 110 ∧ h.ar (b + 6) = rowF (txAd b l) l.length c ∧ ∀ j, j < l.length → TxAt h (txAd b l j) L (l.getD j t0) ∧ h.ai (txAd b l j + 1) = idL K B L (l.getD j t0)
theorem TxsAt.eq {h h' : AH} {b c : Nat} {K B L : List Int32} {l : List TxP} (H : TxsAt h b K B L l c) (e : ∀ a, b + 6 ≤ a → a < b + 7 + szs l → eqAt h h' a) : TxsAt h' b K B L l c := by
  have e6 := e (b + 6) (Nat.le_refl _) (by omega)
  refine ⟨e6.1.trans H.1, e6.2.2.2.2.2.2.trans H.2.1, fun j hj => ?_⟩
  have hs := szs_take l j hj
  have ht : txAd b l j = b + 7 + szs (l.take j) := rfl
  have hz : 4 ≤ txSz (l.getD j t0) := by unfold txSz; omega
  refine ⟨(H.2.2 j hj).1.eq (fun a h1 h2 => e a (by omega) (by omega)), ?_⟩
  rw [(e (txAd b l j + 1) (by omega) (by omega)).2.2.2.2.1]
  exact (H.2.2 j hj).2
section PlainBlk
variable {L : List Int32} {n a k : Nat} {acc : List TxP} {t : TxP}
theorem txsP_0 : apP acc (txsP L n 0 a) = some (acc, a) := by
  show some (acc ++ [], a) = _
  rw [List.append_nil]
theorem txsP_n (h : txP L n a = none) : txsP L n (k + 1) a = none := by rw [txsP, h]
theorem txsP_ok (h : txP L n a = some t) : apP acc (txsP L n (k + 1) a) = apP (acc ++ [t]) (txsP L n k t.2.1) := by
  rw [txsP, h]
  show apP acc (match txsP L n k t.2.1 with
      | none => none
      | some (l, e) => some (t :: l, e)) = _
  cases txsP L n k t.2.1 with
  | none => rfl
  | some p =>
    obtain ⟨l, e⟩ := p
    show some (acc ++ t :: l, e) = some (acc ++ [t] ++ l, e)
    rw [List.append_assoc]
    rfl
theorem insP_le : ∀ (k a : Nat) {l : List P3} {e : Nat}, insP L n k a = some (l, e) → a ≤ e ∧ l.length = k ∧ 41 * k ≤ e - a
  | 0, a, l, e, h => by
    cases h
    exact ⟨Nat.le_refl _, rfl, by omega⟩
  | k + 1, a, l, e, h => by
    rw [insP] at h
    split at h
    · cases h
    · split at h
      · cases h
      · rename_i sz b hc
        split at h
        · cases h
        · split at h
          · cases h
          · rename_i l2 e2 h2
            cases h
            have h3 := insP_le k _ h2
            have h4 := cntP_inv hc
            refine ⟨by omega, by simp [h3.2.1], by omega⟩
theorem outsP_le : ∀ (k a : Nat) {l : List P3} {e : Nat}, outsP L n k a = some (l, e) → a ≤ e ∧ l.length = k ∧ 9 * k ≤ e - a
  | 0, a, l, e, h => by
    cases h
    exact ⟨Nat.le_refl _, rfl, by omega⟩
  | k + 1, a, l, e, h => by
    rw [outsP] at h
    split at h
    · cases h
    · split at h
      · cases h
      · rename_i sz b hc
        split at h
        · cases h
        · split at h
          · cases h
          · rename_i l2 e2 h2
            cases h
            have h3 := outsP_le k _ h2
            have h4 := cntP_inv hc
            refine ⟨by omega, by simp [h3.2.1], by omega⟩
/-- what a transaction tells -/
theorem txP_inv (h : txP L n a = some t) : t.1 = a ∧ a + 10 ≤ t.2.1 ∧ t.2.1 ≤ n ∧ t.2.2.1.length ≤ 40 ∧ t.2.2.2.length ≤ 180 ∧ 41 * t.2.2.1.length + 9 * t.2.2.2.length + 10 ≤ t.2.1 - a := by
  unfold txP at h
  split at h
  · cases h
  · split at h
    · cases h
    · rename_i ni b hc
      split at h
      · cases h
      · split at h
        · cases h
        · rename_i il c hi
          split at h
          · cases h
          · rename_i no e hc2
            split at h
            · cases h
            · split at h
              · cases h
              · rename_i ol g ho
                split at h
                · cases h
                · cases h
                  have h1 := insP_le _ _ hi
                  have h2 := outsP_le _ _ ho
                  have h3 := cntP_inv hc
                  have h4 := cntP_inv hc2
                  refine ⟨rfl, ?_, ?_, ?_, ?_, ?_⟩ <;> dsimp only <;> omega
end PlainBlk
section ReadW
variable {G : Gx} {d : Nat} {h : AH} {X D a n : Nat} {L K B : List Int32}
theorem AL_init_spec {t : Nat} (hd : 3 ≤ d) (ht : h.kd t = 29) : Cw G mJ13_init d t [vR t] h (kV (fun h' => h' = (h.pi 29000 t 0).pr 29001 t (G.2.2.2.2 13)) nE) := by
  obtain ⟨d, rfl⟩ : ∃ d', d = d' + 1 := ⟨d - 1, by omega⟩
  obtain ⟨d, rfl⟩ : ∃ d', d = d' + 1 := ⟨d - 1, by omega⟩
  obtain ⟨d, rfl⟩ : ∃ d', d = d' + 1 := ⟨d - 1, by omega⟩
  refine eJ13_init h t (fun _ => sJ13_init_0 (t := t) h t ⟨ht, ?_⟩)
  refine eJ12_init h t (fun _ => sJ12_init_0 (t := t) h t ⟨ht, ?_⟩)
  exact eJ11_init h t (fun _ => sJ11_init_0 (t := t) h t ⟨ht, fun h5 e5 h6 e6 => by rw [e6, e5]; rfl⟩)
/-- a new block's heap -/
def nwBlk (G : Gx) (t : Nat) (h : AH) : AH :=
  ((((((((((h.new 101 32 (List.replicate 32 0) [] []).pr 15003 t h.z).new 5 1 [] [] []).new 100 8 (List.replicate 8 0) [] []).pr 5000 (h.z + 1) (h.z + 2)).pr 15006 t (h.z + 1)).pr 15010 t (G.2.2.2.2 10)).new 29 3 [] [] []).pi 29000 (h.z + 3) 0).pr 29001 (h.z + 3) (G.2.2.2.2 13)).pr 15011 t (h.z + 3)
theorem Blk_init_spec {t : Nat} (hd : 4 ≤ d) (ht : h.kd t = 15) : Cw G mX15_init d t [vR t] h (kV (fun h' => h' = nwBlk G t h) nE) := by
  obtain ⟨d, rfl⟩ : ∃ d', d = d' + 1 := ⟨d - 1, by omega⟩
  refine eX15_init h t (fun w => sX15_init_0 (t := t) h t ⟨ht, fun q2 e2 _ h3 e3 h6 e6 q7 e7 _ h8 e8 => ?_⟩)
  subst e2
  subst e3
  subst e6
  have hq7 : q7 = h.z + 1 := e7
  subst hq7
  subst e8
  refine (Big_init_spec (by omega) (by rw [AH.kd_nw]; exact if_pos rfl)).nV (fun h11 e11 => ?_)
  subst e11
  intro h15 e15 h17 e17 q18 e18 _ h19 e19
  subst e15
  subst e17
  have hq : q18 = h.z + 3 := e18
  subst hq
  subst e19
  refine (AL_init_spec (by omega) (by rw [AH.kd_nw]; exact if_pos rfl)).nV (fun h22 e22 => ?_)
  subst e22
  intro h26 e26
  exact e26
def hshL (K B L : List Int32) : List Int32 := (List.range 32).map (dshD K B 80 (sl L 0))
/-- what a block that was read tells for ever -/
def BlkI (h : AH) (b n : Nat) (K B L : List Int32) (l : List TxP) : Prop := (h.kd b = 15 ∧ h.i 15002 b = nI n ∧ h.r 15003 b = b + 1 ∧ h.r 15006 b = b + 2 ∧ h.l 15007 b = lN (leV L 68 4) ∧ h.i 15008 b = nI (leV L 72 4) ∧ h.r 15009 b = b + 6 ∧ h.r 15011 b = b + 4) ∧
  (h.kd (b + 1) = 101 ∧ h.ai (b + 1) = hshL K B L ∧ BigAt h (b + 2) (b + 3) ∧ h.kd (b + 4) = 29) ∧ TxsAt h b K B L l l.length
/-- and what it is at first -/
def BlkF (G : Gx) (h : AH) (b a : Nat) : Prop := h.r 15001 b = a ∧ h.r 15004 b = 0 ∧ h.i 15000 b = 0 ∧ h.i 15005 b = 0 ∧ h.r 15010 b = G.2.2.2.2 10 ∧ h.ai (b + 3) = List.replicate 8 0 ∧ h.r 29001 (b + 4) = G.2.2.2.2 13 ∧ h.i 29002 (b + 4) = 0
def BlkE (G : Gx) (h : AH) (b a n : Nat) : Prop := (h.kd b = 15 ∧ h.i 15002 b = nI n ∧ h.r 15003 b = b + 1 ∧ h.r 15006 b = b + 2 ∧ h.r 15011 b = b + 4) ∧
  (h.kd (b + 1) = 101 ∧ h.ai (b + 1) = List.replicate 32 0 ∧ h.kd (b + 2) = 5 ∧ h.r 5000 (b + 2) = b + 3 ∧ h.kd (b + 3) = 100 ∧ h.ai (b + 3) = List.replicate 8 0 ∧ h.kd (b + 4) = 29) ∧ (h.r 15001 b = a ∧ h.r 15004 b = 0 ∧ h.i 15000 b = 0 ∧ h.i 15005 b = 0 ∧ h.r 15010 b = G.2.2.2.2 10 ∧ h.r 29001 (b + 4) = G.2.2.2.2 13 ∧ h.i 29002 (b + 4) = 0)
set_option maxHeartbeats 1000000 in
theorem read_108 {h1 : AH} {b0 c : Nat} (hd : 11 ≤ d) (w : WF G h) (DA : DgA h1 D K B) (hDz : D + 15 < h.z) (hX : h.kd X = 1) (hrX : h.r 1000 X = D) (hXz : X < h.z) (hXD : ¬ dgQ D X) (ha : a < h.z) (haD : ¬ dgQ D a) (hn : 8 * n < 2 ^ 31) (hc : c ≤ 12)
    (hb : h1.kd h.z = 15 ∧ h1.i 15002 h.z = nI n ∧ h1.r 15003 h.z = h.z + 1 ∧ h1.r 15006 h.z = h.z + 2 ∧ h1.l 15007 h.z = lN (leV L 68 4) ∧ h1.i 15008 h.z = nI (leV L 72 4) ∧ h1.r 15009 h.z = h.z + 6 ∧ h1.r 15011 h.z = h.z + 4)
    (hb1 : h1.kd (h.z + 1) = 101 ∧ h1.ai (h.z + 1) = List.replicate 32 0 ∧ BigAt h1 (h.z + 2) (h.z + 3) ∧ h1.kd (h.z + 4) = 29) (hF : BlkF G h1 h.z a)
    (T1 : TxsAt h1 h.z K B L [] c) (S1 : SrcAt h1 (h.z + 5) a L b0 n) (F1 : Same (dgQ D) h h1) (Z1 : h1.z = h.z + 7) (s1 : h1.s ≤ h.s + 71) (hb80 : 80 ≤ b0)
    (hP : blkP L n = match txsP L n c b0 with
      | none => none
      | some (l, e) => if e = n then some l else none) :
    Aw G mX1_read (d + 1) 0 h (kR (fun x h' => ∃ l, blkP L n = some l ∧ x = h.z ∧ BlkI h' h.z n K B L l ∧ BlkF G h' h.z a ∧ Same (dgQ D) h h' ∧ h'.z = h.z + 7 + szs l ∧ h'.s ≤ h.s + 13000) (fun x h' => blkP L n = none ∧ Thr 17 (dgQ D) 3000 15000 h h' x)) 108 [vR X, vU, vU, vR h.z, vR (h.z + 5), vJ (lN c), vU, vI (nI 0), vU] [] h1 := by
  refine loop_uc (n := c) (P := fun k (x : AH × Nat × List TxP) => Aw G mX1_read (d + 1) 0 h (kR (fun x h' => ∃ l, blkP L n = some l ∧ x = h.z ∧ BlkI h' h.z n K B L l ∧ BlkF G h' h.z a ∧ Same (dgQ D) h h' ∧ h'.z = h.z + 7 + szs l ∧ h'.s ≤ h.s + 13000) (fun x h' => blkP L n = none ∧ Thr 17 (dgQ D) 3000 15000 h h' x)) 108 [vR X, vU, vU, vR h.z, vR (h.z + 5), vJ (lN c), vU, vI (nI k), vU] [] x.1)
    (fun k x => x.2.2.length = k ∧ Same (fun y => dgQ D y ∨ y = h.z + 5 ∨ y = h.z + 6) h1 x.1 ∧ SrcAt x.1 (h.z + 5) a L x.2.1 n ∧ TxsAt x.1 h.z K B L x.2.2 c ∧ x.1.z = h.z + 7 + szs x.2.2 ∧ x.1.s ≤ h1.s + 1000 * k ∧ szs x.2.2 ≤ 224 * k ∧ txsP L n c b0 = apP x.2.2 (txsP L n (c - k) x.2.1))
    (fun k x hk hI ih => ?_) 0 (h1, b0, []) (Nat.zero_le _) ⟨rfl, Same.rf, S1, T1, Z1, by dsimp only; omega, by simp [szs], by rw [Nat.sub_zero, apP_nil]⟩
  obtain ⟨hx, cur, acc⟩ := x
  obtain ⟨la, F2, S2, T2, Z2, s2, z2, hI⟩ := hI
  dsimp only at la F2 S2 T2 Z2 s2 z2 hI ⊢
  have dQ : ∀ y, h.z ≤ y → ¬ dgQ D y := fun y hy q => by unfold dgQ at q; omega
  have F : Same (dgQ D) h hx := F1.trans F2 (fun x hx q => by simp only [dgQ] at q ⊢; omega)
  have DAx : DgA hx D K B := DA.same F2 (fun x p q1 q2 => by
    rcases p with p | p | p
    · exact p
    · omega
    · omega)
  have eX : eqAt h hx X := F.2.2 _ hXz hXD
  have eB : eqAt h1 hx h.z := F2.2.2 _ (by omega) (fun p => by simp only [dgQ] at p; omega)
  have hax : a < hx.z := by have := F.1; omega
  have hLn : n ≤ L.length := S2.2.2.2.2.2.2.2.1
  have hbn : b0 ≤ n := S1.2.2.2.2.1
  have hL31 : L.length < 2 ^ 31 := S2.2.2.2.2.2.2.2.2
  refine sX1_read_108 hx X h.z (h.z + 5) (lN c) (nI k) ?_
  rw [nI_l (by omega), lN_le63 (by omega) (by omega)]
  refine ⟨fun cc => ⟨S2.1, (Src_ended_spec (by omega) S2).nI (fun x2 h3 Q => ?_)⟩, fun cc => (transaction_spec (by omega) S2).toR (fun x20 h21 _ _ Q => ?_) (fun x20 h21 _ _ Q => ⟨?_, ?_⟩)⟩
  · obtain ⟨rfl, rfl⟩ := Q
    have ek : c - k = 0 := by omega
    rw [ek, txsP_0] at hI
    rw [hI] at hP
    replace hP : blkP L n = if cur = n then some acc else none := hP
    by_cases ce : cur = n
    · rw [if_pos ce] at hP
      rw [if_pos ce]
      refine ⟨fun _ => ⟨by rw [eX.1]; exact hX, fun r7 e7 => ?_⟩, fun c => absurd c (by decide)⟩
      have e7' : r7 = D := by rw [e7, eX.2.1]; exact hrX
      subst e7'
      refine ⟨by rw [eB.1]; exact hb.1, fun r9 e9 r10 e10 => ?_⟩
      have e9' : r9 = a := by rw [e9, eB.2.1]; exact hF.1
      have e10' : r10 = h.z + 1 := by rw [e10, eB.2.1]; exact hb.2.2.1
      subst e9'
      subst e10'
      have e1 : eqAt h1 h3 (h.z + 1) := F2.2.2 _ (by omega) (fun p => by simp only [dgQ] at p; omega)
      have l1 : (h3.ai (h.z + 1)).length = 32 := by rw [e1.2.2.2.2.1, hb1.2.1, List.length_replicate]
      have hLx : h3.ai r9 = L := S2.2.2.2.2.2.2.1
      refine ⟨DAx.1.1, (Dig_twice_spec (D := r7) (a := r9) (off := 0) (n := 80) (t := h.z + 1) (at_ := 0) (by omega) DAx.1 DAx.2.1 S2.2.2.2.2.2.1 (by rw [hLx]; omega) (by rw [hLx]; exact hL31) (by decide) haD (by rw [e1.1]; exact hb1.1) (by rw [l1]; decide) (dQ _ (by omega)) (by rw [l1]; decide)).nV (fun h12 Q => ?_)⟩
      obtain ⟨M, hm⟩ := Q
      rw [DAx.2.2.1, DAx.2.2.2.1, hLx, putB_all l1] at hm
      have FM : Same (fun y => dgQ r7 y ∨ y = h.z + 1) h3 h12 := Same.rf.mod M (fun x _ q => q)
      have fe : ∀ y, h.z ≤ y → y ≠ h.z + 1 → y ≠ h.z + 5 → y ≠ h.z + 6 → y < h.z + 7 → eqAt h1 h12 y := fun y y1 y2 y3 y4 y5 =>
        (F2.2.2 y (by omega) (fun p => by simp only [dgQ] at p; omega)).trans (FM.2.2 y (by omega) (fun p => by simp only [dgQ] at p; omega))
      have g0 := fe h.z (by omega) (by omega) (by omega) (by omega) (by omega)
      have g2 := fe (h.z + 2) (by omega) (by omega) (by omega) (by omega) (by omega)
      have g3 := fe (h.z + 3) (by omega) (by omega) (by omega) (by omega) (by omega)
      have g4 := fe (h.z + 4) (by omega) (by omega) (by omega) (by omega) (by omega)
      refine ⟨acc, hP, rfl, ⟨?_, ⟨?_, hm, ?_, ?_⟩, ?_⟩, ?_, ?_, ?_, ?_⟩
      · rw [g0.1, g0.2.2.1, g0.2.1, g0.2.1, g0.2.2.2.1, g0.2.2.1, g0.2.1, g0.2.1]
        exact hb
      · rw [M.kd, e1.1]; exact hb1.1
      · unfold BigAt
        rw [g2.1, g2.2.1, g3.1, g3.2.2.2.2.1]
        exact hb1.2.2.1
      · rw [g4.1]; exact hb1.2.2.2
      · have : acc.length = c := by omega
        rw [this]
        exact T2.eq (fun y y1 y2 => FM.2.2 y (by omega) (fun p => by simp only [dgQ] at p; omega))
      · unfold BlkF
        rw [g0.2.1, g0.2.1, g0.2.2.1, g0.2.2.1, g0.2.1, g3.2.2.2.2.1, g4.2.1, g4.2.2.1]
        exact hF
      · exact F.trans FM (fun y hy q => by simp only [dgQ] at q ⊢; omega)
      · rw [M.z, Z2]
      · rw [M.s]; omega
    · rw [if_neg ce] at hP
      rw [if_neg ce]
      refine ⟨fun q => absurd rfl q, fun _ q14 e14 _ h15 e15 => ⟨by omega, fun h18 e18 => ⟨hP, Thr.nw F e14 e15 (by omega) (by omega) e18⟩⟩⟩
  · obtain ⟨t, et, rfl, Ta, Sa, Fa, Za, sa⟩ := Q
    obtain ⟨i1, i2, i3, i4, i5, i6⟩ := txP_inv et
    have ek : c - k = (c - (k + 1)) + 1 := by omega
    rw [ek] at hI
    have F21 : Same (fun y => dgQ D y ∨ y = h.z + 5 ∨ y = h.z + 6) hx h21 := Fa.mono (fun y _ q => Or.inr (Or.inl q))
    have D21 : DgA h21 D K B := DAx.same F21 (fun x p q1 q2 => by
      rcases p with p | p | p
      · exact p
      · omega
      · omega)
    have eX21 : eqAt h h21 X := eX.trans (F21.2.2 X (by have := F.1; omega) (fun p => by simp only [dgQ] at p hXD; omega))
    have eB21 : eqAt h1 h21 h.z := eB.trans (F21.2.2 h.z (by omega) (fun p => by simp only [dgQ] at p; omega))
    have hLx : h21.ai a = L := Sa.2.2.2.2.2.2.1
    refine ⟨by rw [eX21.1]; exact hX, fun r23 e23 => ?_⟩
    have e23' : r23 = D := by rw [e23, eX21.2.1]; exact hrX
    subst e23'
    refine ⟨by rw [eB21.1]; exact hb.1, fun r25 e25 => ?_⟩
    have e25' : r25 = a := by rw [e25, eB21.2.1]; exact hF.1
    subst e25'
    refine ⟨Ta.1.1, fun r27 e27 => ?_⟩
    have e27' : r27 = hx.z + 1 := e27.trans Ta.1.2.2.1
    subst e27'
    have hsz : txSz t = 4 + t.2.2.1.length + t.2.2.2.length := rfl
    rw [Ta.1.2.1, Ta.2.2.1, pk_sub (by omega)]
    refine ⟨D21.1.1, (Dig_twice_spec (D := r23) (a := r25) (off := t.1) (n := t.2.1 - t.1) (t := hx.z + 1) (at_ := 0) (by omega) D21.1 D21.2.1 Sa.2.2.2.2.2.1 (by rw [hLx]; omega) (by rw [hLx]; exact hL31) (by omega) haD Ta.1.2.2.2.2.1 (by rw [Ta.1.2.2.2.2.2.1]; decide) (dQ _ (by omega)) (by rw [Ta.1.2.2.2.2.2.1]; decide)).nV (fun h29 Q => ?_)⟩
    obtain ⟨M, hm⟩ := Q
    rw [D21.2.2.1, D21.2.2.2.1, hLx, putB_all Ta.1.2.2.2.2.2.1] at hm
    have FM : Same (fun y => dgQ r23 y ∨ y = hx.z + 1) h21 h29 := Same.rf.mod M (fun x _ q => q)
    have FM2 : Same (fun y => dgQ r23 y ∨ y = h.z + 5 ∨ y = h.z + 6) hx h29 := F21.trans FM (fun y hy q => by simp only [dgQ] at q ⊢; omega)
    have eB29 : eqAt h1 h29 h.z := eB21.trans (FM.2.2 h.z (by omega) (fun p => by simp only [dgQ] at p; omega))
    intro r32 e32
    have e32' : r32 = h.z + 6 := by rw [e32, eB29.2.1]; exact hb.2.2.2.2.2.2.1
    subst e32'
    have a6 : h29.ar (h.z + 6) = hx.ar (h.z + 6) := by
      rw [M.ar]
      exact Fa.ar (by omega) (by omega)
    have k6 : h29.kd (h.z + 6) = 110 := by
      rw [M.kd, Fa.kd (by omega)]
      exact T2.1
    rw [a6, T2.2.1, rowF_len, pk_cl k rfl (by omega)]
    refine ⟨k6, pk_in k c (by omega), Or.inr (by rw [M.kd]; exact Ta.1.1), fun h36 e36 => ?_⟩
    rw [nI_1]
    have FW := FM2.wr (a := h.z + 6) ((rowF (txAd h.z acc) acc.length c).set k hx.z) (by rw [a6, T2.2.1, List.length_set]) (Or.inl (Or.inr (Or.inr rfl)))
    rw [← e36] at FW
    have lacc : (acc ++ [t]).length = k + 1 := by rw [List.length_append, la]; rfl
    refine ih (by omega) (h36, t.2.1, acc ++ [t]) ⟨lacc, F2.trans FW (fun _ _ q => q), ?_, ⟨?_, ?_, fun j hj => ?_⟩, ?_, ?_, ?_, ?_⟩
    · show SrcAt h36 (h.z + 5) r25 L t.2.1 n
      rw [e36]
      refine SrcAt.wr ?_ _ _
      have e5 := FM.2.2 (h.z + 5) (by omega) (fun p => by simp only [dgQ] at p; omega)
      have ea := FM.2.2 r25 (by have := Fa.1; omega) (fun p => by simp only [dgQ] at p haD; omega)
      unfold SrcAt
      rw [e5.1, e5.2.1, e5.2.2.1, e5.2.2.1, ea.1, ea.2.2.2.2.1]
      exact Sa
    · show h36.kd (h.z + 6) = 110
      rw [e36]
      exact k6
    · show h36.ar (h.z + 6) = _
      have hzt : hx.z = txAd h.z acc k := by rw [← la, txAd_len, Z2]
      rw [e36, AH.ar_wr, if_pos rfl, la, rowF_set (by omega) hzt, lacc]
      exact rowF_congr (fun j hj => (txAd_snoc (by omega)).symm)
    · show TxAt h36 (txAd h.z (acc ++ [t]) j) L ((acc ++ [t]).getD j t0) ∧ h36.ai (txAd h.z (acc ++ [t]) j + 1) = idL K B L ((acc ++ [t]).getD j t0)
      rw [lacc] at hj
      rw [txAd_snoc (by omega), getD_snoc, la]
      by_cases ej : j = k
      · have hzt : txAd h.z acc k = hx.z := by rw [← la, txAd_len, Z2]
        rw [if_pos ej, ej, hzt]
        rw [e36]
        refine ⟨?_, hm⟩
        have fm : ∀ y, hx.z ≤ y → y < hx.z + txSz t → y ≠ hx.z + 1 → eqAt h21 h29 y := fun y y1 y2 y3 => FM.2.2 y (by omega) (fun p => by simp only [dgQ] at p; omega)
        have f0 := fm hx.z (by omega) (by omega) (by omega)
        refine ⟨?_, ?_, ?_, ?_, ?_, ?_⟩
        · exact Ta.1.eq (h' := h29.wr _ _) (f0.trans ⟨rfl, fun _ => rfl, fun _ => rfl, fun _ => rfl, rfl, rfl, by rw [AH.ar_wr, if_neg (by omega)]⟩) (by rw [AH.kd_wr, M.kd]) (by rw [AH.ai_wr]; exact M.len _)
        · have := Ta.2.1.eq (h' := h29) (fun y y1 y2 => fm y (by omega) (by omega) (by omega))
          refine this.eq (fun y y1 y2 => ⟨rfl, fun _ => rfl, fun _ => rfl, fun _ => rfl, rfl, rfl, ?_⟩)
          rw [AH.ar_wr, if_neg (by omega)]
        · show h29.i 18001 hx.z = _
          rw [f0.2.2.1]; exact Ta.2.2.1
        · show h29.l 18004 hx.z = _
          rw [f0.2.2.2.1]; exact Ta.2.2.2.1
        · show h29.r 18006 hx.z = _
          rw [f0.2.1]; exact Ta.2.2.2.2.1
        · have := Ta.2.2.2.2.2.eq (h' := h29) (fun y y1 y2 => fm y (by omega) (by omega) (by omega))
          refine this.eq (fun y y1 y2 => ⟨rfl, fun _ => rfl, fun _ => rfl, fun _ => rfl, rfl, rfl, ?_⟩)
          rw [AH.ar_wr, if_neg (by omega)]
      · rw [if_neg ej]
        have hj2 : j < acc.length := by omega
        have hs := szs_take acc j hj2
        have ht : txAd h.z acc j = h.z + 7 + szs (acc.take j) := rfl
        have hz4 : 4 ≤ txSz (acc.getD j t0) := by unfold txSz; omega
        have hT := T2.2.2 j hj2
        have fw : ∀ y, h.z + 7 ≤ y → y < hx.z → eqAt hx h36 y := fun y y1 y2 => FW.2.2 y (by omega) (fun p => by simp only [dgQ] at p; omega)
        refine ⟨hT.1.eq (fun y y1 y2 => fw y (by omega) (by omega)), ?_⟩
        rw [(fw (txAd h.z acc j + 1) (by omega) (by omega)).2.2.2.2.1]
        exact hT.2
    · show h36.z = _
      rw [e36, AH.z_wr, M.z, Za, Z2, szs_snoc]
      omega
    · show h36.s ≤ _
      rw [e36, AH.s_wr, M.s]
      omega
    · show szs (acc ++ [t]) ≤ _
      rw [szs_snoc]
      omega
    · rw [hI, txsP_ok et]
  · have ek : c - k = (c - (k + 1)) + 1 := by omega
    rw [hP, hI, ek, txsP_n Q.1]
    rfl
  · exact Thr.aft F (by omega) (by omega) Q.2 (fun y hy q => absurd q (by omega))
theorem blkP_n1 (h : n < 80) : blkP L n = none := if_pos h
theorem blkP_n2 (h : cntP L n 80 = none) : blkP L n = none := by
  unfold blkP
  rw [h]
  split <;> rfl
theorem blkP_c {c b : Nat} (h1 : 80 ≤ n) (h : cntP L n 80 = some (c, b)) : blkP L n = if 12 < c then none else match txsP L n c b with
    | none => none
    | some (l, e) => if e = n then some l else none := by
  unfold blkP
  rw [h, if_neg (by omega)]
  rfl
theorem Src_init_spec {t : Nat} {x : Int32} (hd : 1 ≤ d) (ht : h.kd t = 16) : Cw G mX16_init d t [vR t, vR a, vI x] h (kV (fun h' => h' = (h.pr 16000 t a).pi 16002 t x) nE) := by
  obtain ⟨d, rfl⟩ : ∃ d', d = d' + 1 := ⟨d - 1, by omega⟩
  exact eX16_init h t a x (fun _ => sX16_init_0 (t := t) h t a x ⟨ht, fun h2 e2 h4 e4 => by rw [e4, e2]; rfl⟩)
end ReadW
section BlkEL
variable {G : Gx} {h : AH} {b a n : Nat}
theorem BlkE.pi (H : BlkE G h b a n) (k q : Nat) (v : Int32) (hk : ¬ (15002 = k ∨ 15000 = k ∨ 15005 = k ∨ 29002 = k)) : BlkE G (h.pi k q v) b a n :=
  ⟨⟨H.1.1, (i_ne (fun e => hk (Or.inl e))).trans H.1.2.1, H.1.2.2⟩, H.2.1, H.2.2.1, H.2.2.2.1, (i_ne (fun e => hk (Or.inr (Or.inl e)))).trans H.2.2.2.2.1, (i_ne (fun e => hk (Or.inr (Or.inr (Or.inl e))))).trans H.2.2.2.2.2.1, H.2.2.2.2.2.2.1, H.2.2.2.2.2.2.2.1, (i_ne (fun e => hk (Or.inr (Or.inr (Or.inr e))))).trans H.2.2.2.2.2.2.2.2⟩
theorem BlkE.pl (H : BlkE G h b a n) (k q : Nat) (v : Int64) : BlkE G (h.pl k q v) b a n := H
theorem BlkE.eq {h' : AH} (H : BlkE G h b a n) (e : ∀ y, b ≤ y → y ≤ b + 4 → eqAt h h' y) : BlkE G h' b a n := by
  have q0 := e b (by omega) (by omega)
  have q1 := e (b + 1) (by omega) (by omega)
  have q2 := e (b + 2) (by omega) (by omega)
  have q3 := e (b + 3) (by omega) (by omega)
  have q4 := e (b + 4) (by omega) (by omega)
  unfold BlkE
  rw [q0.1, q0.2.2.1, q0.2.1, q0.2.1, q0.2.1, q1.1, q1.2.2.2.2.1, q2.1, q2.2.1, q3.1, q3.2.2.2.2.1, q4.1, q0.2.1, q0.2.1, q0.2.2.1, q0.2.2.1, q0.2.1, q4.2.1, q4.2.2.1]
  exact H
theorem r_ne {k q x v : Nat} {a : Nat} (hk : ¬ q = k ∨ x ≠ a) : (h.pr k a v).r q x = h.r q x := if_neg (fun e => by
  rcases hk with p | p
  · exact p e.1
  · exact p e.2)
theorem i_ne2 {k q x : Nat} {a : Nat} {v : Int32} (hk : ¬ q = k ∨ x ≠ a) : (h.pi k a v).i q x = h.i q x := if_neg (fun e => by
  rcases hk with p | p
  · exact p e.1
  · exact p e.2)
/-- a new block's cells -/
theorem nwBlk_facts {h5 : AH} {t : Nat} (ht : t < h.z) (e5 : h5 = nwBlk G t h) (hkt : h.kd t = 15) (hi : ∀ k, h.i k t = 0) (hr : ∀ k, h.r k t = 0) (hz : h.z = t + 1) :
    Same (· = t) h h5 ∧ h5.z = t + 5 ∧ h5.s = h.s + 44 ∧ BlkE G ((h5.pr 15001 t a).pi 15002 t (nI n)) t a n := by
  obtain ⟨g1, e1⟩ : ∃ g, g = (h.new 101 32 (List.replicate 32 0) [] []).pr 15003 t h.z := ⟨_, rfl⟩
  have c1 : Same (· = t) h g1 ∧ g1.z = t + 2 ∧ g1.s = h.s + 32 ∧ g1.kd t = 15 ∧ (∀ k, g1.i k t = 0) ∧ (∀ k, ¬ k = 15003 → g1.r k t = 0) ∧ g1.r 15003 t = t + 1 ∧ g1.kd (t + 1) = 101 ∧ g1.ai (t + 1) = List.replicate 32 0 := by
    rw [e1]
    refine ⟨(Same.rf.new _ _ _ _ _).pr _ _ (Or.inl rfl), by rw [AH.z_pr, AH.z_nw, hz], rfl, ?_, fun k => ?_, fun k hk => ?_, ?_, ?_, ?_⟩
    · rw [AH.kd_pr, AH.kd_nw, if_neg (by omega)]; exact hkt
    · rw [AH.i_pr, AH.i_nw, if_neg (by omega)]; exact hi k
    · rw [r_ne (Or.inl hk), AH.r_nw, if_neg (by omega)]; exact hr k
    · rw [AH.r_pr, if_pos ⟨rfl, rfl⟩, hz]
    · rw [AH.kd_pr, AH.kd_nw, if_pos hz.symm]
    · rw [AH.ai_pr, AH.ai_nw, if_pos hz.symm]
  obtain ⟨g2, e2⟩ : ∃ g, g = (((g1.new 5 1 [] [] []).new 100 8 (List.replicate 8 0) [] []).pr 5000 (h.z + 1) (h.z + 2)).pr 15006 t (h.z + 1) := ⟨_, rfl⟩
  have c2 : Same (· = t) h g2 ∧ g2.z = t + 4 ∧ g2.s = h.s + 41 ∧ g2.kd t = 15 ∧ (∀ k, g2.i k t = 0) ∧ (∀ k, ¬ k = 15003 → ¬ k = 15006 → g2.r k t = 0) ∧ g2.r 15003 t = t + 1 ∧ g2.r 15006 t = t + 2 ∧ (g2.kd (t + 1) = 101 ∧ g2.ai (t + 1) = List.replicate 32 0) ∧ g2.kd (t + 2) = 5 ∧ g2.r 5000 (t + 2) = t + 3 ∧ g2.kd (t + 3) = 100 ∧ g2.ai (t + 3) = List.replicate 8 0 := by
    obtain ⟨a1, a2, a3, a4, a5, a6, a7, a8, a9⟩ := c1
    have z1 : (g1.new 5 1 [] [] []).z = t + 3 := by rw [AH.z_nw, a2]
    rw [e2]
    refine ⟨(((a1.new _ _ _ _ _).new _ _ _ _ _).pr _ _ (Or.inr (by omega))).pr _ _ (Or.inl rfl), by rw [AH.z_pr, AH.z_pr, AH.z_nw, z1], ?_, ?_, fun k => ?_, fun k hk hk2 => ?_, ?_, ?_, ⟨?_, ?_⟩, ?_, ?_, ?_, ?_⟩
    · rw [AH.s_pr, AH.s_pr, AH.s_nw, AH.s_nw, a3]
    · rw [AH.kd_pr, AH.kd_pr, AH.kd_nw, z1, if_neg (by omega), AH.kd_nw, a2, if_neg (by omega)]; exact a4
    · rw [AH.i_pr, AH.i_pr, AH.i_nw, z1, if_neg (by omega), AH.i_nw, a2, if_neg (by omega)]; exact a5 k
    · rw [r_ne (Or.inl hk2), r_ne (Or.inr (by omega)), AH.r_nw, z1, if_neg (by omega), AH.r_nw, a2, if_neg (by omega)]; exact a6 k hk
    · rw [r_ne (Or.inl (by decide)), r_ne (Or.inl (by decide)), AH.r_nw, z1, if_neg (by omega), AH.r_nw, a2, if_neg (by omega)]; exact a7
    · rw [AH.r_pr, if_pos ⟨rfl, rfl⟩, hz]
    · rw [AH.kd_pr, AH.kd_pr, AH.kd_nw, z1, if_neg (by omega), AH.kd_nw, a2, if_neg (by omega)]; exact a8
    · rw [AH.ai_pr, AH.ai_pr, AH.ai_nw, z1, if_neg (by omega), AH.ai_nw, a2, if_neg (by omega)]; exact a9
    · rw [AH.kd_pr, AH.kd_pr, AH.kd_nw, z1, if_neg (by omega), AH.kd_nw, a2, if_pos rfl]
    · rw [r_ne (Or.inl (by decide)), AH.r_pr, if_pos ⟨rfl, by omega⟩, hz]
    · rw [AH.kd_pr, AH.kd_pr, AH.kd_nw, z1, if_pos rfl]
    · rw [AH.ai_pr, AH.ai_pr, AH.ai_nw, z1, if_pos rfl]
  have e5' : h5 = ((((g2.pr 15010 t (G.2.2.2.2 10)).new 29 3 [] [] []).pi 29000 (h.z + 3) 0).pr 29001 (h.z + 3) (G.2.2.2.2 13)).pr 15011 t (h.z + 3) := by
    rw [e5, e2, e1]
    rfl
  clear e5 e1 e2 c1
  obtain ⟨a1, a2, a3, a4, a5, a6, a7, a8, ⟨a9, a10⟩, a11, a12, a13, a14⟩ := c2
  have z1 : (g2.pr 15010 t (G.2.2.2.2 10)).z = t + 4 := a2
  have e1 : ∀ y, y < t + 4 → y ≠ t → eqAt g2 h5 y := fun y hy hne => by
    have : Same (· = t) g2 h5 := by
      rw [e5']
      exact (((((Same.rf (P := fun x => x = t) (h := g2)).pr (a := t) _ _ (Or.inl rfl)).new _ _ _ _ _).pi (a := h.z + 3) _ _ (Or.inr (by omega))).pr (a := h.z + 3) _ _ (Or.inr (by omega))).pr _ _ (Or.inl rfl)
    exact this.2.2 y (by omega) hne
  have d1 := e1 (t + 1) (by omega) (by omega)
  have d2 := e1 (t + 2) (by omega) (by omega)
  have d3 := e1 (t + 3) (by omega) (by omega)
  refine ⟨?_, ?_, ?_, ⟨?_, ?_, ?_, ?_, ?_⟩, ⟨?_, ?_, ?_, ?_, ?_, ?_, ?_⟩, ?_, ?_, ?_, ?_, ?_, ?_, ?_⟩
  · rw [e5']
    exact ((((a1.pr _ _ (Or.inl rfl)).new _ _ _ _ _).pi _ _ (Or.inr (by omega))).pr _ _ (Or.inr (by omega))).pr _ _ (Or.inl rfl)
  · rw [e5', AH.z_pr, AH.z_pr, AH.z_pi, AH.z_nw, z1]
  · rw [e5', AH.s_pr, AH.s_pr, AH.s_pi, AH.s_nw, AH.s_pr, a3]
  · rw [AH.kd_pi, AH.kd_pr, e5', AH.kd_pr, AH.kd_pr, AH.kd_pi, AH.kd_nw, z1, if_neg (by omega)]; exact a4
  · rw [AH.i_pi, if_pos ⟨rfl, rfl⟩]
  · rw [AH.r_pi, r_ne (Or.inl (by decide)), e5', r_ne (Or.inl (by decide)), r_ne (Or.inl (by decide)), AH.r_pi, AH.r_nw, z1, if_neg (by omega), r_ne (Or.inl (by decide))]; exact a7
  · rw [AH.r_pi, r_ne (Or.inl (by decide)), e5', r_ne (Or.inl (by decide)), r_ne (Or.inl (by decide)), AH.r_pi, AH.r_nw, z1, if_neg (by omega), r_ne (Or.inl (by decide))]; exact a8
  · rw [AH.r_pi, r_ne (Or.inl (by decide)), e5', AH.r_pr, if_pos ⟨rfl, rfl⟩, hz]
  · rw [AH.kd_pi, AH.kd_pr, d1.1]; exact a9
  · rw [AH.ai_pi, AH.ai_pr, d1.2.2.2.2.1]; exact a10
  · rw [AH.kd_pi, AH.kd_pr, d2.1]; exact a11
  · rw [AH.r_pi, r_ne (Or.inl (by decide)), d2.2.1]; exact a12
  · rw [AH.kd_pi, AH.kd_pr, d3.1]; exact a13
  · rw [AH.ai_pi, AH.ai_pr, d3.2.2.2.2.1]; exact a14
  · rw [AH.kd_pi, AH.kd_pr, e5', AH.kd_pr, AH.kd_pr, AH.kd_pi, AH.kd_nw, z1, if_pos rfl]
  · rw [AH.r_pi, AH.r_pr, if_pos ⟨rfl, rfl⟩]
  · rw [AH.r_pi, r_ne (Or.inl (by decide)), e5', r_ne (Or.inl (by decide)), r_ne (Or.inl (by decide)), AH.r_pi, AH.r_nw, z1, if_neg (by omega), r_ne (Or.inl (by decide))]; exact a6 _ (by decide) (by decide)
  · rw [i_ne (by decide), AH.i_pr, e5', AH.i_pr, AH.i_pr, i_ne (by decide), AH.i_nw, z1, if_neg (by omega)]; exact a5 _
  · rw [i_ne (by decide), AH.i_pr, e5', AH.i_pr, AH.i_pr, i_ne (by decide), AH.i_nw, z1, if_neg (by omega)]; exact a5 _
  · rw [AH.r_pi, r_ne (Or.inl (by decide)), e5', r_ne (Or.inl (by decide)), r_ne (Or.inl (by decide)), AH.r_pi, AH.r_nw, z1, if_neg (by omega), AH.r_pr, if_pos ⟨rfl, rfl⟩]
  · rw [AH.r_pi, r_ne (Or.inl (by decide)), e5', r_ne (Or.inl (by decide)), AH.r_pr, if_pos ⟨rfl, by omega⟩]
  · rw [i_ne (by decide), AH.i_pr, e5', AH.i_pr, AH.i_pr, i_ne (by decide), AH.i_nw, z1, if_pos rfl]
end BlkEL
section ReadW2
variable {G : Gx} {d : Nat} {h : AH} {X D a n : Nat} {L K B : List Int32}
set_option maxHeartbeats 1000000 in
theorem read_spec (hd : 12 ≤ d) (DA : DgA h D K B) (hX : h.kd X = 1) (hrX : h.r 1000 X = D) (hXD : ¬ dgQ D X) (ka : h.kd a = 101) (hL : h.ai a = L) (haD : ¬ dgQ D a) (hn : 8 * n < 2 ^ 31) (hLn : n ≤ L.length) (hL31 : L.length < 2 ^ 31) : Cw G mX1_read d 0 [vR X, vR a, vI (nI n)] h (kR (fun x h' => ∃ l, blkP L n = some l ∧ x = h.z ∧ BlkI h' h.z n K B L l ∧ BlkF G h' h.z a ∧ Same (dgQ D) h h' ∧ h'.z = h.z + 7 + szs l ∧ h'.s ≤ h.s + 13000) (fun x h' => blkP L n = none ∧ Thr 17 (dgQ D) 3000 15000 h h' x)) := by
  obtain ⟨d, rfl⟩ : ∃ d', d = d' + 1 := ⟨d - 1, by omega⟩
  refine eX1_read h X a (nI n) (fun w => sX1_read_0 h X a (nI n) (fun q1 e1 _ h2 e2 => ?_))
  have hXz : X < h.z := (w.2.2.1 X (by rw [hX]; decide)).2.1
  have ha : a < h.z := (w.2.2.1 a (by rw [ka]; decide)).2.1
  have hDz := DA.2.2.2.2
  subst e1
  have kd2 : h2.kd h.z = 15 := by rw [e2, AH.kd_nw, if_pos rfl]
  have z2 : h2.z = h.z + 1 := by rw [e2]; rfl
  have s2 : h2.s = h.s + 12 := by rw [e2]; rfl
  have f2 : Same (dgQ D) h h2 := by rw [e2]; exact Same.rf.new _ _ _ _ _
  have i2 : ∀ k, h2.i k h.z = 0 := fun k => by rw [e2, AH.i_nw, if_pos rfl]
  have r2 : ∀ k, h2.r k h.z = 0 := fun k => by rw [e2, AH.r_nw, if_pos rfl]
  clear e2
  refine (Blk_init_spec (by omega) kd2).nV (fun h5 e5 => ?_)
  obtain ⟨f5, z5, s5, E5⟩ := nwBlk_facts (a := a) (n := n) (by omega) e5 kd2 i2 r2 z2
  clear e5
  intro h7 e7 h9 e9
  have E9 : BlkE G h9 h.z a n := by rw [e9, e7]; exact E5
  have Z9 : h9.z = h.z + 5 := by rw [e9, e7]; exact z5
  have s9 : h9.s = h.s + 56 := by
    rw [e9, e7]
    show h5.s = _
    omega
  have F9 : Same (dgQ D) h h9 := by
    rw [e9, e7]
    exact ((f2.trans f5 (fun y hy q => absurd q (by omega))).pr _ _ (Or.inr (Nat.le_refl _))).pi _ _ (Or.inr (Nat.le_refl _))
  clear e7 e9 E5 f5 z5 s5 f2 i2 r2
  intro q10 e10 _ h11 e11 r15 e15
  rw [Z9] at e10
  subst e10
  have n0 : ¬ h.z = h9.z := by omega
  have er : r15 = a := by rw [e15, e11, AH.r_nw, if_neg n0]; exact E9.2.2.1
  subst er
  refine (Src_init_spec (by omega) (by rw [e11, AH.kd_nw, if_pos Z9.symm])).nV (fun h17 e17 => ?_)
  have ea9 := F9.2.2 r15 ha haD
  have f17 : Same noP h9 h17 := by
    rw [e17, e11]
    exact ((Same.rf.new _ _ _ _ _).pr _ _ (Or.inr (by omega))).pi _ _ (Or.inr (by omega))
  have S17 : SrcAt h17 (h.z + 5) r15 L 0 n := by
    have ea := f17.2.2 r15 (by omega) id
    refine ⟨?_, ?_, ?_, ?_, Nat.zero_le _, by rw [ea.1, ea9.1]; exact ka, by rw [ea.2.2.2.2.1, ea9.2.2.2.2.1]; exact hL, hLn, hL31⟩
    · rw [e17, AH.kd_pi, AH.kd_pr, e11, AH.kd_nw, if_pos Z9.symm]
    · rw [e17, AH.r_pi, AH.r_pr, if_pos ⟨rfl, rfl⟩]
    · rw [e17, i_ne (by decide), AH.i_pr, e11, AH.i_nw, if_pos Z9.symm]
      rfl
    · rw [e17, AH.i_pi, if_pos ⟨rfl, rfl⟩]
  have F17 : Same (dgQ D) h h17 := F9.trans f17 (fun _ _ q => q.elim)
  have Z17 : h17.z = h.z + 6 := by rw [e17, AH.z_pi, AH.z_pr, e11, AH.z_nw, Z9]
  have s17 : h17.s = h.s + 59 := by rw [e17, AH.s_pi, AH.s_pr, e11, AH.s_nw, s9]
  have E17 : BlkE G h17 h.z r15 n := E9.eq (fun y y1 y2 => f17.2.2 y (by omega) id)
  clear e17 e11 E9 e15 F9 f17
  have fP : ∀ {y : Nat}, y < h.z → y = h.z + 5 → dgQ D y := fun q1 q2 => absurd q2 (by omega)
  refine (Src_pass_spec (m := 68) (by omega) (by omega) S17).toI (fun x18 h19 _ _ Q => ?_) (fun x18 h19 _ _ Q => ⟨blkP_n1 (by have := Q.1; omega), Thr.aft F17 (by omega) (by omega) Q.2 (fun y q1 q2 => fP q1 q2)⟩)
  obtain ⟨hl, -, e19⟩ := Q
  have A1 : SrcAt h19 (h.z + 5) r15 L 68 n := by rw [e19]; exact S17.adv hl
  have F1 : Same (dgQ D) h h19 := by rw [e19]; exact F17.pi _ _ (Or.inr (by omega))
  have J1 : h19.z = h.z + 6 ∧ h19.s = h.s + 59 ∧ BlkE G h19 h.z r15 n := by rw [e19]; exact ⟨Z17, s17, E17.pi _ _ _ (by decide)⟩
  clear e19 S17 F17 Z17 s17 E17
  refine (Src_number_spec (k := 4) (by omega) (by omega) A1).toJ (fun x21 h22 _ _ Q => ?_) (fun x21 h22 _ _ Q => ⟨blkP_n1 (by have := Q.1; omega), Thr.aft F1 (by omega) (by omega) Q.2 (fun y q1 q2 => fP q1 q2)⟩)
  obtain ⟨hl2, rfl, e22⟩ := Q
  intro h27 e27
  have A2 : SrcAt h27 (h.z + 5) r15 L 72 n := by rw [e27, e22]; exact (A1.adv hl2).pl _ _ _
  have F2 : Same (dgQ D) h h27 := by rw [e27, e22]; exact (F1.pi _ _ (Or.inr (by omega))).pl _ _ (Or.inr (Nat.le_refl _))
  have J2 : h27.z = h.z + 6 ∧ h27.s = h.s + 59 ∧ BlkE G h27 h.z r15 n := by rw [e27, e22]; exact ⟨J1.1, J1.2.1, (J1.2.2.pi _ _ _ (by decide)).pl _ _ _⟩
  have y2 : h27.l 15007 h.z = lN (leV L 68 4) := by rw [e27]; exact if_pos ⟨rfl, rfl⟩
  clear e27 e22 A1 F1 J1
  refine (Src_number_spec (k := 4) (by omega) (by omega) A2).toJ (fun x28 h29 _ _ Q => ?_) (fun x28 h29 _ _ Q => ⟨blkP_n1 (by have := Q.1; omega), Thr.aft F2 (by omega) (by omega) Q.2 (fun y q1 q2 => fP q1 q2)⟩)
  obtain ⟨hl3, rfl, e29⟩ := Q
  intro h34 e34
  rw [lN_i] at e34
  have A3 : SrcAt h34 (h.z + 5) r15 L 76 n := by rw [e34, e29]; exact (A2.adv hl3).pi _ _ _ (by decide)
  have F3 : Same (dgQ D) h h34 := by rw [e34, e29]; exact (F2.pi _ _ (Or.inr (by omega))).pi _ _ (Or.inr (Nat.le_refl _))
  have J3 : h34.z = h.z + 6 ∧ h34.s = h.s + 59 ∧ BlkE G h34 h.z r15 n := by rw [e34, e29]; exact ⟨J2.1, J2.2.1, (J2.2.2.pi _ _ _ (by decide)).pi _ _ _ (by decide)⟩
  have y3 : h34.l 15007 h.z = lN (leV L 68 4) ∧ h34.i 15008 h.z = nI (leV L 72 4) := by rw [e34, e29]; exact ⟨y2, if_pos ⟨rfl, rfl⟩⟩
  clear e34 e29 A2 F2 J2 y2
  refine (Src_pass_spec (m := 4) (by omega) (by omega) A3).toI (fun x35 h36 _ _ Q => ?_) (fun x35 h36 _ _ Q => ⟨blkP_n1 (by have := Q.1; omega), Thr.aft F3 (by omega) (by omega) Q.2 (fun y q1 q2 => fP q1 q2)⟩)
  obtain ⟨hl4, -, e36⟩ := Q
  have A4 : SrcAt h36 (h.z + 5) r15 L 80 n := by rw [e36]; exact A3.adv hl4
  have F4 : Same (dgQ D) h h36 := by rw [e36]; exact F3.pi _ _ (Or.inr (by omega))
  have J4 : h36.z = h.z + 6 ∧ h36.s = h.s + 59 ∧ BlkE G h36 h.z r15 n := by rw [e36]; exact ⟨J3.1, J3.2.1, J3.2.2.pi _ _ _ (by decide)⟩
  have y4 : h36.l 15007 h.z = lN (leV L 68 4) ∧ h36.i 15008 h.z = nI (leV L 72 4) := by rw [e36]; exact ⟨y3.1, (i_ne (by decide)).trans y3.2⟩
  clear e36 A3 F3 J3 y3
  refine (Src_count_spec (by omega) A4).toJ (fun x39 h40 _ _ Q => ?_) (fun x39 h40 _ _ Q => ⟨blkP_n2 Q.1, Thr.aft F4 (by omega) (by omega) Q.2 (fun y q1 q2 => fP q1 q2)⟩)
  obtain ⟨c, b0, ec, rfl, e40⟩ := Q
  obtain ⟨c1, c2, c3, -⟩ := cntP_inv ec
  have A5 : SrcAt h40 (h.z + 5) r15 L b0 n := by rw [e40]; exact A4.adv c2
  have F5 : Same (dgQ D) h h40 := by rw [e40]; exact F4.pi _ _ (Or.inr (by omega))
  have J5 : h40.z = h.z + 6 ∧ h40.s = h.s + 59 ∧ BlkE G h40 h.z r15 n := by rw [e40]; exact ⟨J4.1, J4.2.1, J4.2.2.pi _ _ _ (by decide)⟩
  have y5 : h40.l 15007 h.z = lN (leV L 68 4) ∧ h40.i 15008 h.z = nI (leV L 72 4) := by rw [e40]; exact ⟨y4.1, (i_ne (by decide)).trans y4.2⟩
  clear e40 A4 F4 J4 y4
  have hP := blkP_c (by omega) ec
  have e12 : (lN c ≤ 12) ↔ c ≤ 12 := lN_le63 (b := 12) c3 (by omega)
  rw [e12]
  refine ⟨fun c5 => ?_, fun c5 q13 e13 _ h14 e14 => ⟨by omega, fun h17 e17 => ⟨by rw [hP, if_pos (by omega)], Thr.nw F5 e13 e14 (by omega) (by omega) e17⟩⟩⟩
  rw [if_neg (by omega)] at hP
  rw [lN_i, pk_cl c rfl (by omega)]
  refine ⟨nI_pos (by omega), by omega, fun q45 e45 _ h46 e46 h52 e52 => ?_⟩
  have hq : q45 = h.z + 6 := by rw [e45]; exact J5.1
  subst hq
  have A6' : SrcAt h46 (h.z + 5) r15 L b0 n := by rw [e46]; exact A5.new (by omega) (by omega) _ _ _ _ _
  have f46 : Same noP h40 h46 := by rw [e46]; exact Same.rf.new _ _ _ _ _
  have E46 : BlkE G h46 h.z r15 n := J5.2.2.eq (fun y y1 y2 => f46.2.2 y (by omega) id)
  have k46 : h46.kd (h.z + 6) = 110 ∧ h46.ar (h.z + 6) = List.replicate c 0 := by
    rw [e46, AH.kd_nw, AH.ar_nw, if_pos J5.1.symm, if_pos J5.1.symm]
    exact ⟨rfl, rfl⟩
  have z46 : h46.z = h.z + 7 ∧ h46.s = h.s + 59 + c := by
    rw [e46, AH.z_nw, AH.s_nw, J5.1, J5.2.1]
    exact ⟨rfl, rfl⟩
  have eb := f46.2.2 h.z (by omega) id
  have y46 : h46.l 15007 h.z = lN (leV L 68 4) ∧ h46.i 15008 h.z = nI (leV L 72 4) := by rw [eb.2.2.2.1, eb.2.2.1]; exact y5
  have F46 : Same (dgQ D) h h46 := F5.trans f46 (fun _ _ q => q.elim)
  clear e46 f46 A5 F5 J5 y5 e45 eb
  have A6 : SrcAt h52 (h.z + 5) r15 L b0 n := by rw [e52]; exact A6'.pr _ _ _ (by decide)
  have F6 : Same (dgQ D) h h52 := by rw [e52]; exact F46.pr _ _ (Or.inr (Nat.le_refl _))
  obtain ⟨⟨b1, b2, b3, b4, b5⟩, ⟨b6, b7, b8, b9, b10, b11, b12⟩, ⟨b13, b14, b15, b16, b17, b18, b19⟩⟩ := E46
  refine read_108 (by omega) w (DA.same F6 (fun x p _ _ => p)) hDz hX hrX hXz hXD ha haD hn c5 ?_ ⟨?_, ?_, ?_, ?_⟩ ?_ ⟨?_, ?_, fun j hj => absurd hj (by simp)⟩ A6 F6 ?_ ?_ (by omega) hP
  · rw [e52]
    exact ⟨b1, b2, (r_ne (Or.inl (by decide))).trans b3, (r_ne (Or.inl (by decide))).trans b4, y46.1, y46.2, if_pos ⟨rfl, rfl⟩, (r_ne (Or.inl (by decide))).trans b5⟩
  · rw [e52]; exact b6
  · rw [e52]; exact b7
  · rw [e52]
    exact ⟨b8, (r_ne (Or.inl (by decide))).trans b9, b10, by rw [AH.ai_pr, b11]; rfl⟩
  · rw [e52]; exact b12
  · rw [e52]
    exact ⟨(r_ne (Or.inl (by decide))).trans b13, (r_ne (Or.inl (by decide))).trans b14, b15, b16, (r_ne (Or.inl (by decide))).trans b17, b11, (r_ne (Or.inl (by decide))).trans b18, b19⟩
  · rw [e52]; exact k46.1
  · rw [e52]
    exact k46.2.trans (rowF_0 _ _)
  · rw [e52]; exact z46.1
  · rw [e52]
    show h46.s ≤ _
    omega
end ReadW2

/-! RIPEMD-160 by the reference, whole -/
set_option maxRecDepth 100000
def t5 (S : List Int32) : List Int32 := [S.getD 0 0, S.getD 1 0, S.getD 2 0, S.getD 3 0, S.getD 4 0]
theorem t5_getD (S : List Int32) {i : Nat} (h : i < 5) : (t5 S).getD i 0 = S.getD i 0 := by
  have c5 : i = 0 ∨ i = 1 ∨ i = 2 ∨ i = 3 ∨ i = 4 := by omega
  rcases c5 with rfl | rfl | rfl | rfl | rfl <;> rfl
theorem MdT.mod {P : Nat → Prop} {h h' : AH} {M : Nat} (T : MdT h M) (m : Mod P h h') (h1 : ¬ P (M + 10)) (h2 : ¬ P (M + 11)) (h3 : ¬ P (M + 12)) : MdT h' M := by
  unfold MdT
  rw [m.ai h1, m.ai h2, m.ai h3]
  exact T
section MRip2
variable {G : Gx} {d : Nat} {h : AH} {M : Nat}
theorem mrip_121 {Φ : Out → AH → Prop} {B S : List Int32} (hd : 2 ≤ d) (H : MdS h M) (T : MdT h M) (hW : ∀ j, j < 16 → (h.ai (M + 3)).getD j 0 = leW B j) (hS : t5 (h.ai (M + 2)) = S) (h0 : AH)
    (hΦ : ∀ h1, Mod (fun x => x = M + 2 ∨ x = M + 3 ∨ x = M + 13 ∨ x = M + 14) h h1 → t5 (h1.ai (M + 2)) = rpBlk B S → Φ (.inl none) h1) :
    ∀ k (_ : Unit), k ≤ 80 → True → Aw G mX24_ripeBlock (d + 1) 0 h0 Φ 121 [vR M, vU, vU, vI (nI k)] [] ((h.wi (M + 13) (rpP B S k)).wi (M + 14) (rpQ B S k)) := by
  have H' := H
  have T' := T
  obtain ⟨kM, ⟨r0, r1, r2, r3, r4, r8, r9, r10, r11, r12, r13, r14⟩, ⟨k1, k2, k3, k4, k5, k9, k10, k11, k12, k13, k14, k15⟩, ⟨l1, l2, l3, l4, l5, l9, l10, l11, l12, l13, l14, l15⟩⟩ := H
  have t12 := T.2.2
  have S5 : S.length = 5 := by rw [← hS]; rfl
  have nA : M + 13 ≠ M + 14 := by omega
  have nA' : M + 14 ≠ M + 13 := by omega
  have nB : M + 2 ≠ M + 14 := by omega
  have nC : M + 2 ≠ M + 13 := by omega
  have nB' : M + 14 ≠ M + 2 := by omega
  have nC' : M + 13 ≠ M + 2 := by omega
  have nD : M + 3 ≠ M + 14 := by omega
  have nE' : M + 3 ≠ M + 13 := by omega
  have m12 : M + 12 ≠ M + 14 := by omega
  have m12' : M + 12 ≠ M + 13 := by omega
  have z10 : ¬ (M + 10 = M + 2 ∨ M + 10 = M + 3 ∨ M + 10 = M + 13 ∨ M + 10 = M + 14) := by omega
  have z11 : ¬ (M + 11 = M + 2 ∨ M + 11 = M + 3 ∨ M + 11 = M + 13 ∨ M + 11 = M + 14) := by omega
  have z12 : ¬ (M + 12 = M + 2 ∨ M + 12 = M + 3 ∨ M + 12 = M + 13 ∨ M + 12 = M + 14) := by omega
  have l10' : (adL ++ oaL).length = 10 := rfl
  have MM : ∀ k j, Mod (fun x => x = M + 2 ∨ x = M + 3 ∨ x = M + 13 ∨ x = M + 14) h ((h.wi (M + 13) (rpP B S k)).wi (M + 14) (rpQ B S j)) := fun k j => (Mod.wi (by rw [rpP_len B S S5, l13]) (Or.inr (Or.inr (Or.inl rfl)))).trans (Mod.wi (by rw [rpQ_len B S S5, AH.ai_wiN nA', l14]) (Or.inr (Or.inr (Or.inr rfl))))
  refine loop_uc (n := 80) (P := fun k _ => Aw G mX24_ripeBlock (d + 1) 0 h0 Φ 121 [vR M, vU, vU, vI (nI k)] [] ((h.wi (M + 13) (rpP B S k)).wi (M + 14) (rpQ B S k))) _ (fun k _ hk _ ih => ?_)
  have lp := rpP_len B S S5 k
  have lq := rpQ_len B S S5 k
  refine sX24_ripeBlock_121 _ M (nI k) (pk_le 80 k (fun h80 => ⟨kM, fun q3 e3 => ?_⟩) (fun h80 => ⟨kM, fun q63 e63 q64 e64 => ?_⟩))
  · have : k = 80 := by omega
    subst this
    have a2 : ((h.wi (M + 13) (rpP B S 80)).wi (M + 14) (rpQ B S 80)).ai (M + 2) = h.ai (M + 2) := by rw [AH.ai_wiN nB, AH.ai_wiN nC]
    have a13 : ((h.wi (M + 13) (rpP B S 80)).wi (M + 14) (rpQ B S 80)).ai (M + 13) = rpP B S 80 := by rw [AH.ai_wiN nA, AH.ai_wiS]
    have a14 : ((h.wi (M + 13) (rpP B S 80)).wi (M + 14) (rpQ B S 80)).ai (M + 14) = rpQ B S 80 := AH.ai_wiS _ _ _
    have M1 := MM 80 80
    have H1 := H'.mod M1
    rw [e3.trans r1]
    generalize (h.wi (M + 13) (rpP B S 80)).wi (M + 14) (rpQ B S 80) = h1 at *
    have w1 := H1.2.1.2.2.2.2.2.2.2.2.2.1
    have w2 := H1.2.1.2.2.2.2.2.2.2.2.2.2.1
    have v2 := H1.2.2.1.2.1
    have v13 := H1.2.2.1.2.2.2.2.2.2.2.2.2.1
    have v14 := H1.2.2.1.2.2.2.2.2.2.2.2.2.2.1
    have hSi : ∀ i, i < 5 → (h.ai (M + 2)).getD i 0 = S.getD i 0 := fun i hi => by rw [← hS, t5_getD _ hi]
    rw [a2, l2, cl1, cl2, cl3, cl4, cl0]
    refine ⟨v2, pk_in 1 8 (by decide), fun q6 e6 => ?_⟩
    rw [e6.trans w1, a13, lp]
    refine ⟨v13, pk_in 2 5 (by decide), fun q9 e9 => ?_⟩
    rw [e9.trans w2, a14, lq]
    refine ⟨v14, pk_in 3 5 (by decide), fun u12 e12 => ⟨pk_in 2 8 (by decide), pk_in 3 5 (by decide), pk_in 4 5 (by decide), pk_in 1 8 (by decide), fun h17 e17 => ?_⟩⟩
    subst e17
    rw [AH.ai_wiS, AH.ai_wiN nC', AH.ai_wiN nB', AH.wi_wi, a13, a14, List.length_set, l2, lp, lq]
    refine ⟨pk_in 3 8 (by decide), pk_in 4 5 (by decide), pk_in 0 5 (by decide), pk_in 2 8 (by decide), fun h26 e26 => ?_⟩
    subst e26
    rw [AH.ai_wiS, AH.ai_wiN nC', AH.ai_wiN nB', AH.wi_wi, a13, a14, List.length_set, List.length_set, l2, lp, lq]
    refine ⟨pk_in 4 8 (by decide), pk_in 0 5 (by decide), pk_in 1 5 (by decide), pk_in 3 8 (by decide), fun h36 e36 => ?_⟩
    subst e36
    rw [AH.ai_wiS, AH.ai_wiN nC', AH.ai_wiN nB', AH.wi_wi, a13, a14, List.length_set, List.length_set, List.length_set, l2, lp, lq]
    refine ⟨pk_in 0 8 (by decide), pk_in 1 5 (by decide), pk_in 2 5 (by decide), pk_in 4 8 (by decide), fun h46 e46 => ?_⟩
    subst e46
    rw [AH.ai_wiS, AH.wi_wi, List.length_set, List.length_set, List.length_set, List.length_set, l2]
    refine ⟨pk_in 0 8 (by decide), fun h51 e51 => ?_⟩
    subst e51
    refine hΦ _ (M1.trans (Mod.wi (by simp only [List.length_set, l2, a2]) (Or.inl rfl))) ?_
    rw [AH.ai_wiS, rpBlk, rpEnd, ← hSi 0 (by decide), ← hSi 1 (by decide), ← hSi 2 (by decide), ← hSi 3 (by decide), ← hSi 4 (by decide)]
    refine (five rfl ?_ ?_ ?_ ?_ ?_)
    · rw [t5_getD _ (by decide)]; simp [getD_sif, l2, e12]
    · rw [t5_getD _ (by decide)]; simp [getD_sif, l2]
    · rw [t5_getD _ (by decide)]; simp [getD_sif, l2]
    · rw [t5_getD _ (by decide)]; simp [getD_sif, l2]
    · rw [t5_getD _ (by decide)]; simp [getD_sif, l2]
  · obtain ⟨x1, x2, x3, x4⟩ := ooN_k k h80
    have hk16 : k / 16 < 5 := by omega
    obtain ⟨y1, y2⟩ := aaL_k (k / 16) hk16
    have a13 : ((h.wi (M + 13) (rpP B S k)).wi (M + 14) (rpQ B S k)).ai (M + 13) = rpP B S k := by rw [AH.ai_wiN nA, AH.ai_wiS]
    rw [e63.trans r12, e64.trans r11, AH.ai_wiN m12, AH.ai_wiN m12', t12, l10', show (16 : Int32) = nI 16 from rfl, pk_div (by omega) (by decide) (by decide), pk_cl (k / 16) rfl (by omega), show (4 : Int32) = nI 4 from rfl, pk_sub (by omega), show (5 : Int32) = nI 5 from rfl, nI_add, show (80 : Int32) = nI 80 from rfl, nI_add, y1]
    refine ⟨k12, pk_in (k / 16) 10 (by omega), (MD_side_spec (h := (h.wi (M + 13) (rpP B S k)).wi (M + 14) (rpQ B S k)) (B := B) hd (H'.mod (MM k k)) (T'.mod (MM k k) z10 z11 z12) k13 (by rw [a13, lp]) hk16 (by omega) (fun j hj => by rw [AH.ai_wiN nD, AH.ai_wiN nE']; exact hW j hj)).nV (fun h68 Q => ?_)⟩
    have e68 : h68 = (h.wi (M + 13) (rpP B S (k + 1))).wi (M + 14) (rpQ B S k) := by
      rw [Q, a13, AH.wi_comm _ _ _ nA', AH.wi_wi, x1, x3]
      rfl
    clear Q
    subst e68
    intro q70 e70
    rw [e70.trans r13, AH.ai_wiN m12, AH.ai_wiN m12', t12, l10', pk_cl (5 + k / 16) rfl (by omega), y2]
    refine ⟨pk_in (5 + k / 16) 10 (by omega), (MD_side_spec (h := (h.wi (M + 13) (rpP B S (k + 1))).wi (M + 14) (rpQ B S k)) (B := B) hd (H'.mod (MM (k + 1) k)) (T'.mod (MM (k + 1) k) z10 z11 z12) k14 (by rw [AH.ai_wiS, lq]) (show 4 - k / 16 < 5 by omega) (by omega) (fun j hj => by rw [AH.ai_wiN nD, AH.ai_wiN nE']; exact hW j hj)).nV (fun h76 Q => ?_)⟩
    have e76 : h76 = (h.wi (M + 13) (rpP B S (k + 1))).wi (M + 14) (rpQ B S (k + 1)) := by
      rw [Q, AH.ai_wiS, AH.wi_wi, x2, x4]
      rfl
    clear Q
    subst e76
    rw [nI_1]
    exact ih h80 () trivial
theorem MD_ripeBlock_spec {t b : Nat} (hd : 3 ≤ d) (H : MdS h M) (T : MdT h M) (kt : h.kd t = 101) (lt : b + 64 ≤ (h.ai t).length) (lt2 : (h.ai t).length < 2 ^ 31) : Cw G mX24_ripeBlock d 0 [vR M, vR t, vI (nI b)] h (kV (fun h' => Mod (fun x => x = M + 2 ∨ x = M + 3 ∨ x = M + 13 ∨ x = M + 14) h h' ∧ t5 (h'.ai (M + 2)) = rpBlk (genL (sl (h.ai t) b)) (t5 (h.ai (M + 2)))) nE) := by
  obtain ⟨d, rfl⟩ : ∃ d', d = d' + 1 := ⟨d - 1, by omega⟩
  have hd2 : 2 ≤ d := by omega
  have H' := H
  obtain ⟨kM, ⟨r0, r1, r2, r3, r4, r8, r9, r10, r11, r12, r13, r14⟩, ⟨k1, k2, k3, k4, k5, k9, k10, k11, k12, k13, k14, k15⟩, ⟨l1, l2, l3, l4, l5, l9, l10, l11, l12, l13, l14, l15⟩⟩ := H
  have n23 : M + 2 ≠ M + 3 := by omega
  have nA : M + 13 ≠ M + 14 := by omega
  have nA' : M + 14 ≠ M + 13 := by omega
  have nB : M + 2 ≠ M + 14 := by omega
  have nC : M + 2 ≠ M + 13 := by omega
  have z10 : ¬ (M + 10 = M + 2 ∨ M + 10 = M + 3 ∨ M + 10 = M + 13 ∨ M + 10 = M + 14) := by omega
  have z11 : ¬ (M + 11 = M + 2 ∨ M + 11 = M + 3 ∨ M + 11 = M + 13 ∨ M + 11 = M + 14) := by omega
  have z12 : ¬ (M + 12 = M + 2 ∨ M + 12 = M + 3 ∨ M + 12 = M + 13 ∨ M + 12 = M + 14) := by omega
  have nt3 : t ≠ M + 3 := fun e => by rw [e, k3] at kt; omega
  have hB : ∀ i, i < 64 → (genL (sl (h.ai t) b)).getD i 0 = (h.ai t).getD (b + i) 0 := fun i hi => genL_getD _ hi
  refine eX24_ripeBlock h M t (nI b) (fun _ => sX24_ripeBlock_0 h M t (nI b) ?_)
  generalize hΦ : kV (fun h' => Mod (fun x => x = M + 2 ∨ x = M + 3 ∨ x = M + 13 ∨ x = M + 14) h h' ∧ t5 (h'.ai (M + 2)) = rpBlk (genL (sl (h.ai t) b)) (t5 (h.ai (M + 2)))) nE = Φ
  have key := loop_uc (n := 16) (P := fun k W => Aw G mX24_ripeBlock (d + 1) 0 h Φ 2 [vR M, vR t, vI (nI b), vI (nI k)] [] (h.wi (M + 3) W))
    (fun k W => W.length = 64 ∧ ∀ i, i < k → W.getD i 0 = leW (genL (sl (h.ai t) b)) i) (fun k W hk hI ih => ?_) 0 (h.ai (M + 3)) (by omega) ⟨l3, fun i hi => absurd hi (by omega)⟩
  · rw [AH.wi_self] at key; exact key
  obtain ⟨lW, hW⟩ := hI
  have M1 : Mod (fun x => x = M + 2 ∨ x = M + 3 ∨ x = M + 13 ∨ x = M + 14) h (h.wi (M + 3) W) := Mod.wi (by rw [lW, l3]) (Or.inr (Or.inl rfl))
  refine sX24_ripeBlock_2 _ M t (nI b) (nI k) (pk_le 16 k (fun h16 => ?_) (fun h16 => ⟨kM, fun q3 e3 => ?_⟩))
  · have : k = 16 := by omega
    subst this
    have a2 : (h.wi (M + 3) W).ai (M + 2) = h.ai (M + 2) := AH.ai_wiN n23
    have aW : (h.wi (M + 3) W).ai (M + 3) = W := AH.ai_wiS _ _ _
    have H1 := H'.mod M1
    have T1 := T.mod M1 z10 z11 z12
    generalize h.wi (M + 3) W = h1 at *
    have l131 : (h1.ai (M + 13)).length = 5 := by rw [M1.len, l13]
    have l141 : (h1.ai (M + 14)).length = 5 := by rw [M1.len, l14]
    have w1 := H1.2.1.2.2.2.2.2.2.2.2.2.1
    have w2 := H1.2.1.2.2.2.2.2.2.2.2.2.2.1
    have full : ∀ T : List Int32, T.length = 5 → cpD (h1.ai (M + 2)) T 5 = t5 (h.ai (M + 2)) := by
      intro T hT
      unfold cpD
      refine ext_getD (z := 0) (by rw [putB_len, hT]; rfl) (fun i hi => ?_)
      rw [putB_len, hT] at hi
      rw [putB_getD _ _ _ _ (by omega), if_pos (by omega), t5_getD _ hi, a2, Nat.sub_zero]
    have key2 := loop_uc (n := 5) (P := fun k (_ : Unit) => Aw G mX24_ripeBlock (d + 1) 0 h Φ 84 [vR M, vU, vU, vI (nI k)] [] ((h1.wi (M + 13) (cpD (h1.ai (M + 2)) (h1.ai (M + 13)) k)).wi (M + 14) (cpD (h1.ai (M + 2)) (h1.ai (M + 14)) k)))
      (fun _ _ => True) (fun k _ hk _ ih2 => ?_) 0 () (by omega) trivial
    · unfold cpD at key2
      rw [putB_0, putB_0, AH.wi_self, AH.wi_self] at key2
      exact key2
    · have b2 : ((h1.wi (M + 13) (cpD (h1.ai (M + 2)) (h1.ai (M + 13)) k)).wi (M + 14) (cpD (h1.ai (M + 2)) (h1.ai (M + 14)) k)).ai (M + 2) = h1.ai (M + 2) := by rw [AH.ai_wiN nB, AH.ai_wiN nC]
      have b13 : ((h1.wi (M + 13) (cpD (h1.ai (M + 2)) (h1.ai (M + 13)) k)).wi (M + 14) (cpD (h1.ai (M + 2)) (h1.ai (M + 14)) k)).ai (M + 13) = cpD (h1.ai (M + 2)) (h1.ai (M + 13)) k := by rw [AH.ai_wiN nA, AH.ai_wiS]
      have l21 : (h1.ai (M + 2)).length = 8 := by rw [a2, l2]
      refine sX24_ripeBlock_84 _ M (nI k) (pk_le 5 k (fun h5 => ?_) (fun h5 => ⟨H1.1, fun q3 e3 q4 e4 => ?_⟩))
      · have : k = 5 := by omega
        subst this
        rw [full _ l131, full _ l141]
        refine mrip_121 (B := genL (sl (h.ai t) b)) (S := t5 (h.ai (M + 2))) hd2 H1 T1 (fun i hi => by rw [aW]; exact hW i hi) (by rw [a2]) h ?_ 0 () (by omega) trivial
        intro h2 M2 e2
        rw [← hΦ]
        exact ⟨M1.trans M2, e2⟩
      · rw [e3.trans w1, e4.trans H1.2.1.2.1, b2, b13, l21, pk_cl k, nI_1]
        unfold cpD
        rw [putB_len, l131]
        refine ⟨H1.2.2.1.2.1, pk_in k 8 (by omega), H1.2.2.1.2.2.2.2.2.2.2.2.2.1, pk_in k 5 h5, fun h9 e9 => ?_⟩
        have e9' : h9 = (h1.wi (M + 13) (cpD (h1.ai (M + 2)) (h1.ai (M + 13)) (k + 1))).wi (M + 14) (cpD (h1.ai (M + 2)) (h1.ai (M + 14)) k) := by
          have e := putB_succ (L := h1.ai (M + 13)) (off := 0) (n := k) (g := fun i => (h1.ai (M + 2)).getD i 0) (x := (h1.ai (M + 2)).getD k 0) (by omega) rfl
          rw [Nat.zero_add] at e
          rw [e9, AH.wi_comm _ _ _ nA', AH.wi_wi, e]
          rfl
        clear e9
        subst e9'
        intro q11 e11
        rw [e11.trans w2, AH.ai_wiN nB, AH.ai_wiN nC, AH.ai_wiS, AH.wi_wi, l21]
        unfold cpD
        rw [putB_len, l141]
        refine ⟨pk_in k 8 (by omega), H1.2.2.1.2.2.2.2.2.2.2.2.2.2.1, pk_in k 5 h5, fun h18 e18 => ?_⟩
        have e := putB_succ (L := h1.ai (M + 14)) (off := 0) (n := k) (g := fun i => (h1.ai (M + 2)).getD i 0) (x := (h1.ai (M + 2)).getD k 0) (by omega) rfl
        rw [Nat.zero_add] at e
        rw [e18, e]
        exact ih2 h5 () trivial
  · rw [e3.trans r2, AH.ai_wiN nt3, AH.ai_wiS, AH.wi_wi, lW, show (4 : Int32) = nI 4 from rfl, pk_mul, nI_add, nI_1, show (2 : Int32) = nI 2 from rfl, show (3 : Int32) = nI 3 from rfl, nI_add, nI_add, pk_cl (b + 4 * k) rfl (by omega), pk_cl (b + 4 * k + 1) rfl (by omega), pk_cl (b + 4 * k + 2) rfl (by omega), pk_cl (b + 4 * k + 3) rfl (by omega), pk_cl k, nI_1]
    refine ⟨kt, pk_in (b + 4 * k) _ (by omega), pk_in (b + 4 * k + 1) _ (by omega), pk_in (b + 4 * k + 2) _ (by omega), pk_in (b + 4 * k + 3) _ (by omega), k3, pk_in k 64 (by omega), fun h11 e11 => ?_⟩
    rw [e11]
    refine ih h16 _ ⟨by rw [List.length_set, lW], fun i hi => ?_⟩
    by_cases e : i = k
    · subst e
      rw [getD_set_eq (by omega), leW, hB (4 * i) (by omega), hB (4 * i + 1) (by omega), hB (4 * i + 2) (by omega), hB (4 * i + 3) (by omega)]
      rfl
    · rw [getD_set_ne e]
      exact hW i (by omega)
end MRip2

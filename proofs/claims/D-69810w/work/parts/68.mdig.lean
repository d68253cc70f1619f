/-! SHA-256 of a block, by the reference -/
set_option maxRecDepth 100000
/-- the reference's rows for digests -/
def MdS (h : AH) (M : Nat) : Prop := h.kd M = 24 ∧ (h.r 24000 M = M + 1 ∧ h.r 24001 M = M + 2 ∧ h.r 24002 M = M + 3 ∧ h.r 24003 M = M + 4 ∧ h.r 24004 M = M + 5 ∧ h.r 24008 M = M + 9 ∧ h.r 24009 M = M + 10 ∧ h.r 24010 M = M + 11 ∧ h.r 24011 M = M + 12 ∧ h.r 24012 M = M + 13 ∧ h.r 24013 M = M + 14 ∧ h.r 24014 M = M + 15) ∧
  (h.kd (M + 1) = 101 ∧ h.kd (M + 2) = 100 ∧ h.kd (M + 3) = 100 ∧ h.kd (M + 4) = 100 ∧ h.kd (M + 5) = 100 ∧ h.kd (M + 9) = 100 ∧ h.kd (M + 10) = 100 ∧ h.kd (M + 11) = 100 ∧ h.kd (M + 12) = 100 ∧ h.kd (M + 13) = 100 ∧ h.kd (M + 14) = 100 ∧ h.kd (M + 15) = 101) ∧
  ((h.ai (M + 1)).length = 128 ∧ (h.ai (M + 2)).length = 8 ∧ (h.ai (M + 3)).length = 64 ∧ (h.ai (M + 4)).length = 8 ∧ (h.ai (M + 5)).length = 64 ∧ (h.ai (M + 9)).length = 8 ∧ (h.ai (M + 10)).length = 160 ∧ (h.ai (M + 11)).length = 160 ∧ (h.ai (M + 12)).length = 10 ∧ (h.ai (M + 13)).length = 5 ∧ (h.ai (M + 14)).length = 5 ∧ (h.ai (M + 15)).length = 32)
theorem MdS.mod {P : Nat → Prop} {h h' : AH} {M : Nat} (H : MdS h M) (m : Mod P h h') : MdS h' M := by
  unfold MdS at H ⊢
  rw [m.kd, m.r]
  simp only [m.len]
  exact H
def l8 (s : S8) : List Int32 := [s.1, s.2.1, s.2.2.1, s.2.2.2.1, s.2.2.2.2.1, s.2.2.2.2.2.1, s.2.2.2.2.2.2.1, s.2.2.2.2.2.2.2]
theorem l8_s8 {S : List Int32} (h : S.length = 8) : l8 (s8 S) = S := by
  refine ext_getD (z := 0) (by rw [h]; rfl) (fun m hm => ?_)
  have hm8 : m < 8 := hm
  have c8 : m = 0 ∨ m = 1 ∨ m = 2 ∨ m = 3 ∨ m = 4 ∨ m = 5 ∨ m = 6 ∨ m = 7 := by omega
  rcases c8 with rfl | rfl | rfl | rfl | rfl | rfl | rfl | rfl <;> rfl
section MDig
variable {G : Gx} {d : Nat} {h : AH} {M : Nat}
theorem turn_spec (hd : 1 ≤ d) (x : Int32) {n : Nat} (hn : n ≤ 32) : Cw G mX24_turn d 0 [vI x, vI (nI n)] h (kI (fun y h' => y = rl x n ∧ h' = h) nE) := by
  obtain ⟨d, rfl⟩ : ∃ d', d = d' + 1 := ⟨d - 1, by omega⟩
  refine eX24_turn h x (nI n) (fun _ => sX24_turn_0 h x (nI n) ⟨?_, rfl⟩)
  rw [show (32 : Int32) = nI 32 from rfl, pk_sub hn]
  rfl
theorem rl_rr (x : Int32) {n : Nat} (hn : n ≤ 32) : rl x n = rr x (32 - n) := by
  unfold rl rr
  rw [show 32 - (32 - n) = n by omega]
/-- state and v come together -/
theorem msha_450 {Φ : Out → AH → Prop} {s : S8} (H : MdS h M) (hv : h.ai (M + 9) = l8 s) (h0 : AH) (hΦ : Φ (.inl none) (h.wi (M + 2) (add8 (h.ai (M + 2)) s))) :
    ∀ k (L : List Int32), k ≤ 8 → (L.length = 8 ∧ (∀ i, i < k → L.getD i 0 = (h.ai (M + 2)).getD i 0 + (l8 s).getD i 0) ∧ ∀ i, k ≤ i → L.getD i 0 = (h.ai (M + 2)).getD i 0) → Aw G mX24_shaBlock (d + 1) 0 h0 Φ 450 [vR M, vU, vU, vI (nI k), vU, vU, vU] [] (h.wi (M + 2) L) := by
  obtain ⟨kM, ⟨r0, r1, r2, r3, r4, r8, r9, r10, r11, r12, r13, r14⟩, ⟨k1, k2, k3, k4, k5, k9, k10, k11, k12, k13, k14, k15⟩, ⟨l1, l2, l3, l4, l5, l9, l10, l11, l12, l13, l14, l15⟩⟩ := H
  have n92 : M + 9 ≠ M + 2 := by omega
  refine loop_uc (n := 8) (P := fun k L => Aw G mX24_shaBlock (d + 1) 0 h0 Φ 450 [vR M, vU, vU, vI (nI k), vU, vU, vU] [] (h.wi (M + 2) L)) _ (fun k L hk hI ih => ?_)
  obtain ⟨lL, hL, hL2⟩ := hI
  refine sX24_shaBlock_450 _ M (nI k) (pk_le 8 k (fun h8 => ?_) (fun h8 => ⟨kM, fun q3 e3 => ?_⟩))
  · have : k = 8 := by omega
    subst this
    have e : L = add8 (h.ai (M + 2)) s := by
      refine ext_getD (z := 0) (by rw [lL]; rfl) (fun m hm => ?_)
      rw [hL m (by omega)]
      have c8 : m = 0 ∨ m = 1 ∨ m = 2 ∨ m = 3 ∨ m = 4 ∨ m = 5 ∨ m = 6 ∨ m = 7 := by omega
      rcases c8 with rfl | rfl | rfl | rfl | rfl | rfl | rfl | rfl <;> rfl
    rw [e]
    exact hΦ
  · rw [e3.trans r1, AH.ai_wiS, lL, pk_cl k, nI_1]
    refine ⟨k2, pk_in k 8 h8, fun q6 e6 => ?_⟩
    rw [e6.trans r8, AH.ai_wiN n92, AH.wi_wi, l9, hv]
    refine ⟨k9, pk_in k 8 h8, pk_in k 8 h8, fun h10 e10 => ?_⟩
    rw [e10, hL2 k (Nat.le_refl _)]
    refine ih h8 _ ⟨by rw [List.length_set, lL], fun i hi => ?_, fun i hi => ?_⟩
    · by_cases q : i = k
      · subst q; rw [getD_set_eq (by omega)]
      · rw [getD_set_ne q]; exact hL i (by omega)
    · rw [getD_set_ne (by omega)]; exact hL2 i (by omega)
/-- the shift of one round -/
theorem msha_393 {Φ : Out → AH → Prop} {s : S8} {x u : Int32} {i : Nat} (H : MdS h M) (h0 : AH) (hnext : Aw G mX24_shaBlock (d + 1) 0 h0 Φ 214 [vR M, vU, vU, vI (nI (i + 1)), vU, vU, vU] [] (h.wi (M + 9) [x + u, s.1, s.2.1, s.2.2.1, s.2.2.2.1 + x, s.2.2.2.2.1, s.2.2.2.2.2.1, s.2.2.2.2.2.2.1])) :
    ∀ k (L : List Int32), (L.length = 8 ∧ (∀ j, j ≤ k → j < 8 → L.getD j 0 = (l8 s).getD j 0) ∧ ∀ j, k < j → j < 8 → L.getD j 0 = (l8 s).getD (j - 1) 0) → k ≤ 7 → Aw G mX24_shaBlock (d + 1) 0 h0 Φ 393 [vR M, vU, vU, vI (nI i), vI x, vI u, vI (nI k)] [] (h.wi (M + 9) L) := by
  obtain ⟨kM, ⟨r0, r1, r2, r3, r4, r8, r9, r10, r11, r12, r13, r14⟩, ⟨k1, k2, k3, k4, k5, k9, k10, k11, k12, k13, k14, k15⟩, ⟨l1, l2, l3, l4, l5, l9, l10, l11, l12, l13, l14, l15⟩⟩ := H
  refine loop_dn _ (fun k L hI ih hk => ?_) (fun L hI hk => ?_)
  · obtain ⟨lL, hL, hL2⟩ := hI
    refine sX24_shaBlock_393 _ M (nI i) x u (nI (k + 1)) (pk_le (k + 1) 0 (fun q => absurd q (by omega)) (fun _ => ⟨kM, fun q15 e15 => ?_⟩))
    rw [e15.trans r8, AH.ai_wiS, AH.wi_wi, lL, nI_pred, pk_cl (k + 1), pk_cl k, pk_m1]
    refine ⟨k9, pk_in k 8 (by omega), pk_in (k + 1) 8 (by omega), fun h19 e19 => ?_⟩
    rw [e19]
    refine ih _ ⟨by rw [List.length_set, lL], fun j hj hj8 => ?_, fun j hj hj8 => ?_⟩ (by omega)
    · rw [getD_set_ne (by omega)]; exact hL j (by omega) hj8
    · by_cases q : j = k + 1
      · subst q; rw [getD_set_eq (by omega), hL k (by omega) (by omega)]; rfl
      · rw [getD_set_ne q]; exact hL2 j (by omega) hj8
  · obtain ⟨lL, hL, hL2⟩ := hI
    refine sX24_shaBlock_393 _ M (nI i) x u (nI 0) (pk_le 0 0 (fun _ => ⟨kM, fun q3 e3 => ?_⟩) (fun q => absurd q (by omega)))
    rw [e3.trans r8, AH.ai_wiS, AH.wi_wi, lL, cl4, cl0]
    refine ⟨k9, pk_in 4 8 (by decide), pk_in 4 8 (by decide), fun h7 e7 => ?_⟩
    subst e7
    rw [AH.ai_wiS, AH.wi_wi, List.length_set, lL, nI_1]
    refine ⟨pk_in 0 8 (by decide), fun h13 e13 => ?_⟩
    have e : (L.set 4 (L.getD 4 0 + x)).set 0 (x + u) = [x + u, s.1, s.2.1, s.2.2.1, s.2.2.2.1 + x, s.2.2.2.2.1, s.2.2.2.2.2.1, s.2.2.2.2.2.2.1] := by
      refine ext_getD (z := 0) (by rw [List.length_set, List.length_set, lL]; rfl) (fun m hm => ?_)
      rw [List.length_set, List.length_set, lL] at hm
      by_cases q0 : m = 0
      · subst q0; rw [getD_set_eq (by rw [List.length_set, lL]; decide)]; rfl
      rw [getD_set_ne q0]
      by_cases q4 : m = 4
      · subst q4
        rw [getD_set_eq (by omega), hL2 4 (by decide) (by decide)]
        rfl
      rw [getD_set_ne q4, hL2 m (by omega) hm]
      have c8 : m = 1 ∨ m = 2 ∨ m = 3 ∨ m = 5 ∨ m = 6 ∨ m = 7 := by omega
      rcases c8 with rfl | rfl | rfl | rfl | rfl | rfl <;> rfl
    rw [e13, e]
    exact hnext
theorem msha_214 {Φ : Out → AH → Prop} {s0 : S8} (hd : 1 ≤ d) (H : MdS h M) (h0 : AH) (hΦ : Φ (.inl none) ((h.wi (M + 9) (l8 (shaRds (h.ai (M + 5)) (h.ai (M + 3)) s0 64))).wi (M + 2) (add8 (h.ai (M + 2)) (shaRds (h.ai (M + 5)) (h.ai (M + 3)) s0 64)))) :
    ∀ k (s : S8), k ≤ 64 → s = shaRds (h.ai (M + 5)) (h.ai (M + 3)) s0 k → Aw G mX24_shaBlock (d + 1) 0 h0 Φ 214 [vR M, vU, vU, vI (nI k), vU, vU, vU] [] (h.wi (M + 9) (l8 s)) := by
  have H' := H
  obtain ⟨kM, ⟨r0, r1, r2, r3, r4, r8, r9, r10, r11, r12, r13, r14⟩, ⟨k1, k2, k3, k4, k5, k9, k10, k11, k12, k13, k14, k15⟩, ⟨l1, l2, l3, l4, l5, l9, l10, l11, l12, l13, l14, l15⟩⟩ := H
  have n59 : M + 5 ≠ M + 9 := by omega
  have n39 : M + 3 ≠ M + 9 := by omega
  have n29 : M + 2 ≠ M + 9 := by omega
  refine loop_uc (n := 64) (P := fun k (s : S8) => Aw G mX24_shaBlock (d + 1) 0 h0 Φ 214 [vR M, vU, vU, vI (nI k), vU, vU, vU] [] (h.wi (M + 9) (l8 s))) _ (fun k s hk hI ih => ?_)
  have M1 : Mod (fun x => x = M + 9) h (h.wi (M + 9) (l8 s)) := Mod.wi (by rw [l9]; rfl) rfl
  refine sX24_shaBlock_214 _ M (nI k) (pk_le 64 k (fun h64 => ?_) (fun h64 => ⟨kM, fun q3 e3 => ?_⟩))
  · have : k = 64 := by omega
    subst this
    have key := msha_450 (G := G) (d := d) (s := s) (Φ := Φ) (H'.mod M1) (AH.ai_wiS _ _ _) h0 (by rw [hI, AH.ai_wiN n29]; exact hΦ) 0 (h.ai (M + 2)) (by omega) ⟨l2, fun i hi => absurd hi (by omega), fun i _ => by rw [AH.ai_wiN n29]⟩
    have e : (h.wi (M + 9) (l8 s)).wi (M + 2) (h.ai (M + 2)) = h.wi (M + 9) (l8 s) := by
      have := AH.wi_self (h.wi (M + 9) (l8 s)) (M + 2)
      rw [AH.ai_wiN n29] at this
      exact this
    rw [e] at key
    exact key
  · have hl : (l8 s).length = 8 := rfl
    have g0 : (l8 s).getD 0 0 = s.1 := rfl
    have g1 : (l8 s).getD 1 0 = s.2.1 := rfl
    have g2 : (l8 s).getD 2 0 = s.2.2.1 := rfl
    have g4 : (l8 s).getD 4 0 = s.2.2.2.2.1 := rfl
    have g5 : (l8 s).getD 5 0 = s.2.2.2.2.2.1 := rfl
    have g6 : (l8 s).getD 6 0 = s.2.2.2.2.2.2.1 := rfl
    have g7 : (l8 s).getD 7 0 = s.2.2.2.2.2.2.2 := rfl
    rw [e3.trans r8, AH.ai_wiS, hl, cl0, cl1, cl2, cl4, cl5, cl6, cl7, g4, g7]
    refine ⟨k9, pk_in 7 8 (by decide), pk_in 4 8 (by decide), (turn_spec hd _ (n := 26) (by decide)).nI (fun x7 h8 Q => ?_)⟩
    obtain ⟨rfl, rfl⟩ := Q
    rw [AH.ai_wiS, hl, g4]
    refine ⟨pk_in 4 8 (by decide), (turn_spec hd _ (n := 21) (by decide)).nI (fun x7 h8 Q => ?_)⟩
    obtain ⟨rfl, rfl⟩ := Q
    rw [AH.ai_wiS, hl, g4]
    refine ⟨pk_in 4 8 (by decide), (turn_spec hd _ (n := 7) (by decide)).nI (fun x7 h8 Q => ?_)⟩
    obtain ⟨rfl, rfl⟩ := Q
    rw [AH.ai_wiS, hl, g4, g5, g6]
    refine ⟨pk_in 4 8 (by decide), pk_in 5 8 (by decide), pk_in 4 8 (by decide), pk_in 6 8 (by decide), fun q29 e29 => ?_⟩
    rw [e29.trans r4, AH.ai_wiN n59, l5, pk_cl k]
    refine ⟨k5, pk_in k 64 h64, fun q32 e32 => ?_⟩
    rw [e32.trans r2, AH.ai_wiN n39, l3]
    refine ⟨k3, pk_in k 64 h64, fun u35 e35 => ?_⟩
    rw [g0]
    refine ⟨pk_in 0 8 (by decide), (turn_spec hd _ (n := 30) (by decide)).nI (fun x7 h8 Q => ?_)⟩
    obtain ⟨rfl, rfl⟩ := Q
    rw [AH.ai_wiS, hl, g0]
    refine ⟨pk_in 0 8 (by decide), (turn_spec hd _ (n := 19) (by decide)).nI (fun x7 h8 Q => ?_)⟩
    obtain ⟨rfl, rfl⟩ := Q
    rw [AH.ai_wiS, hl, g0]
    refine ⟨pk_in 0 8 (by decide), (turn_spec hd _ (n := 10) (by decide)).nI (fun x7 h8 Q => ?_)⟩
    obtain ⟨rfl, rfl⟩ := Q
    rw [AH.ai_wiS, hl, g0, g1, g2]
    refine ⟨pk_in 0 8 (by decide), pk_in 1 8 (by decide), pk_in 0 8 (by decide), pk_in 2 8 (by decide), pk_in 1 8 (by decide), pk_in 2 8 (by decide), fun u60 e60 => ?_⟩
    refine msha_393 (s := s) (x := u35) (u := u60) (i := k) H' h0 ?_ 7 (l8 s) ⟨rfl, fun j _ _ => rfl, fun j h1 h2 => absurd h1 (by omega)⟩ (by decide)
    have := ih h64 (shaStep ((h.ai (M + 5)).getD k 0) ((h.ai (M + 3)).getD k 0) s) (by rw [shaRds, ← hI])
    rw [e35, e60, rl_rr _ (by decide), rl_rr _ (by decide), rl_rr _ (by decide), rl_rr _ (by decide), rl_rr _ (by decide), rl_rr _ (by decide)]
    exact this
theorem MD_shaBlock_spec {t b : Nat} (hd : 2 ≤ d) (H : MdS h M) (kt : h.kd t = 101) (lt : b + 64 ≤ (h.ai t).length) (lt2 : (h.ai t).length < 2 ^ 31) : Cw G mX24_shaBlock d 0 [vR M, vR t, vI (nI b)] h (kV (fun h' => Mod (fun x => x = M + 2 ∨ x = M + 3 ∨ x = M + 9) h h' ∧ h'.ai (M + 2) = shaBlk (h.ai (M + 5)) (genL (sl (h.ai t) b)) (h.ai (M + 2))) nE) := by
  obtain ⟨d, rfl⟩ : ∃ d', d = d' + 1 := ⟨d - 1, by omega⟩
  have hd1 : 1 ≤ d := by omega
  have H' := H
  obtain ⟨kM, ⟨r0, r1, r2, r3, r4, r8, r9, r10, r11, r12, r13, r14⟩, ⟨k1, k2, k3, k4, k5, k9, k10, k11, k12, k13, k14, k15⟩, ⟨l1, l2, l3, l4, l5, l9, l10, l11, l12, l13, l14, l15⟩⟩ := H
  have n23 : M + 2 ≠ M + 3 := by omega
  have n53 : M + 5 ≠ M + 3 := by omega
  have n93 : M + 9 ≠ M + 3 := by omega
  have n29 : M + 2 ≠ M + 9 := by omega
  have nt3 : t ≠ M + 3 := fun e => by rw [e, k3] at kt; omega
  refine eX24_shaBlock h M t (nI b) (fun _ => sX24_shaBlock_0 h M t (nI b) ?_)
  generalize hΦ : kV (fun h' => Mod (fun x => x = M + 2 ∨ x = M + 3 ∨ x = M + 9) h h' ∧ h'.ai (M + 2) = shaBlk (h.ai (M + 5)) (genL (sl (h.ai t) b)) (h.ai (M + 2))) nE = Φ
  have hB : ∀ i, i < 64 → (genL (sl (h.ai t) b)).getD i 0 = (h.ai t).getD (b + i) 0 := fun i hi => genL_getD _ hi
  have k85 : ∀ k (_ : Unit), k ≤ 64 → 16 ≤ k → Aw G mX24_shaBlock (d + 1) 0 h Φ 85 [vR M, vU, vU, vI (nI k), vU, vU, vU] [] (h.wi (M + 3) (shaL (genL (sl (h.ai t) b)) (h.ai (M + 3)) k)) := by
    refine loop_uc (n := 64) (P := fun k _ => Aw G mX24_shaBlock (d + 1) 0 h Φ 85 [vR M, vU, vU, vI (nI k), vU, vU, vU] [] (h.wi (M + 3) (shaL (genL (sl (h.ai t) b)) (h.ai (M + 3)) k))) _ (fun k _ hk h16 ih => ?_)
    have hL : (shaL (genL (sl (h.ai t) b)) (h.ai (M + 3)) k).length = 64 := by rw [shaL_len, l3]
    refine sX24_shaBlock_85 _ M (nI k) (pk_le 64 k (fun h64 => ?_) (fun h64 => ⟨kM, fun q3 e3 => ?_⟩))
    · have : k = 64 := by omega
      subst this
      have M1 : Mod (fun x => x = M + 2 ∨ x = M + 3 ∨ x = M + 9) h (h.wi (M + 3) (shaL (genL (sl (h.ai t) b)) (h.ai (M + 3)) 64)) := Mod.wi (by rw [hL, l3]) (by omega)
      have a2 : (h.wi (M + 3) (shaL (genL (sl (h.ai t) b)) (h.ai (M + 3)) 64)).ai (M + 2) = h.ai (M + 2) := AH.ai_wiN n23
      have a5 : (h.wi (M + 3) (shaL (genL (sl (h.ai t) b)) (h.ai (M + 3)) 64)).ai (M + 5) = h.ai (M + 5) := AH.ai_wiN n53
      have a3 : (h.wi (M + 3) (shaL (genL (sl (h.ai t) b)) (h.ai (M + 3)) 64)).ai (M + 3) = shaL (genL (sl (h.ai t) b)) (h.ai (M + 3)) 64 := AH.ai_wiS _ _ _
      have H1 := H'.mod M1
      generalize h.wi (M + 3) (shaL (genL (sl (h.ai t) b)) (h.ai (M + 3)) 64) = h1 at *
      have l91 : (h1.ai (M + 9)).length = 8 := by rw [M1.len, l9]
      have key := loop_uc (n := 8) (P := fun k L => Aw G mX24_shaBlock (d + 1) 0 h Φ 188 [vR M, vU, vU, vI (nI k), vU, vU, vU] [] (h1.wi (M + 9) L))
        (fun k L => L.length = 8 ∧ ∀ i, i < k → L.getD i 0 = (h1.ai (M + 2)).getD i 0) (fun k L hk hI ih2 => ?_) 0 (h1.ai (M + 9)) (by omega) ⟨l91, fun i hi => absurd hi (by omega)⟩
      · rw [AH.wi_self] at key; exact key
      · obtain ⟨lL, hL⟩ := hI
        refine sX24_shaBlock_188 _ M (nI k) (pk_le 8 k (fun h8 => ?_) (fun h8 => ⟨H1.1, fun q3 e3 q4 e4 => ?_⟩))
        · have eL : L = l8 (s8 (h.ai (M + 2))) := by
            rw [l8_s8 l2, ← a2]
            exact ext_getD (z := 0) (by rw [lL, a2, l2]) (fun i hi => hL i (by omega))
          rw [eL]
          refine msha_214 (s0 := s8 (h.ai (M + 2))) hd1 H1 h ?_ 0 (s8 (h.ai (M + 2))) (by omega) rfl
          rw [← hΦ]
          refine ⟨M1.trans ((Mod.wi (by rw [l91]; rfl) (by omega)).trans (Mod.wi (by rw [AH.ai_wiN n29, a2, l2]; rfl) (by omega))), ?_⟩
          rw [AH.ai_wiS, a2, a5, a3, shaBlk, shaL_full _ l3 (List.length_replicate ..)]
        · rw [e3.trans H1.2.1.2.2.2.2.2.1, e4.trans H1.2.1.2.1, AH.ai_wiN n29, AH.ai_wiS, AH.wi_wi, a2, l2, lL, pk_cl k, nI_1]
          refine ⟨H1.2.2.1.2.1, pk_in k 8 h8, H1.2.2.1.2.2.2.2.2.1, pk_in k 8 h8, fun h9 e9 => ?_⟩
          rw [e9]
          refine ih2 h8 _ ⟨by rw [List.length_set, lL], fun i hi => ?_⟩
          by_cases q : i = k
          · subst q; rw [getD_set_eq (by omega), a2]
          · rw [getD_set_ne q]; exact hL i (by omega)
    · rw [e3.trans r2, AH.ai_wiS, hL, show (15 : Int32) = nI 15 from rfl, show (16 : Int32) = nI 16 from rfl, show (7 : Int32) = nI 7 from rfl, show (2 : Int32) = nI 2 from rfl, pk_sub (show 15 ≤ k by omega), pk_sub (show 2 ≤ k by omega), pk_sub h16, pk_cl (k - 15) rfl (by omega), pk_cl (k - 2) rfl (by omega)]
      refine ⟨k3, pk_in (k - 15) 64 (by omega), fun u6 e6 => ⟨pk_in (k - 2) 64 (by omega), fun u8 e8 => ⟨pk_in (k - 16) 64 (by omega), ?_⟩⟩⟩
      refine (turn_spec hd1 u6 (n := 25) (by decide)).nI (fun x30 h31 Q => ?_)
      obtain ⟨rfl, rfl⟩ := Q
      refine (turn_spec hd1 u6 (n := 14) (by decide)).nI (fun x30 h31 Q => ?_)
      obtain ⟨rfl, rfl⟩ := Q
      rw [AH.ai_wiS, hL, pk_sub (show 7 ≤ k by omega)]
      refine ⟨pk_in (k - 7) 64 (by omega), ?_⟩
      refine (turn_spec hd1 u8 (n := 15) (by decide)).nI (fun x30 h31 Q => ?_)
      obtain ⟨rfl, rfl⟩ := Q
      refine (turn_spec hd1 u8 (n := 13) (by decide)).nI (fun x30 h31 Q => ?_)
      obtain ⟨rfl, rfl⟩ := Q
      rw [AH.ai_wiS, AH.wi_wi, hL, pk_cl k, pk_cl (k - 16) rfl (by omega), pk_cl (k - 7) rfl (by omega)]
      refine ⟨pk_in k 64 h64, fun h49 e49 => ?_⟩
      rw [e49, e6, e8, nI_1, rl_rr _ (by decide), rl_rr _ (by decide), rl_rr _ (by decide), rl_rr _ (by decide)]
      have := ih h64 () (by omega)
      rw [shaL, if_neg (by omega)] at this
      exact this
  have key := loop_uc (n := 16) (P := fun k (_ : Unit) => Aw G mX24_shaBlock (d + 1) 0 h Φ 2 [vR M, vR t, vI (nI b), vI (nI k), vU, vU, vU] [] (h.wi (M + 3) (shaL (genL (sl (h.ai t) b)) (h.ai (M + 3)) k))) (fun _ _ => True) (fun k _ hk _ ih => ?_) 0 () (by omega) trivial
  · rw [shaL, AH.wi_self] at key; exact key
  · have hL : (shaL (genL (sl (h.ai t) b)) (h.ai (M + 3)) k).length = 64 := by rw [shaL_len, l3]
    refine sX24_shaBlock_2 _ M t (nI b) (nI k) (pk_le 16 k (fun h16 => ?_) (fun h16 => ⟨kM, fun q3 e3 => ?_⟩))
    · have : k = 16 := by omega
      subst this
      exact k85 16 () (by decide) (by decide)
    · rw [e3.trans r2, AH.ai_wiN nt3, AH.ai_wiS, AH.wi_wi, hL, show (4 : Int32) = nI 4 from rfl, pk_mul, nI_add, nI_1, show (2 : Int32) = nI 2 from rfl, show (3 : Int32) = nI 3 from rfl, nI_add, nI_add, pk_cl (b + 4 * k) rfl (by omega), pk_cl (b + 4 * k + 1) rfl (by omega), pk_cl (b + 4 * k + 2) rfl (by omega), pk_cl (b + 4 * k + 3) rfl (by omega), pk_cl k, nI_1]
      refine ⟨kt, pk_in (b + 4 * k) _ (by omega), pk_in (b + 4 * k + 1) _ (by omega), pk_in (b + 4 * k + 2) _ (by omega), pk_in (b + 4 * k + 3) _ (by omega), k3, pk_in k 64 (by omega), fun h11 e11 => ?_⟩
      rw [e11]
      have := ih h16 () trivial
      rw [shaL, if_pos h16, beW, hB (4 * k) (by omega), hB (4 * k + 1) (by omega), hB (4 * k + 2) (by omega), hB (4 * k + 3) (by omega)] at this
      exact this
end MDig

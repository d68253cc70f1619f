/-! a public key out of its bytes, by the component -/
set_option maxRecDepth 100000
/-- the right side of the curve's equation -/
def crF (p X : Nat) : Nat := (X * X % p * X % p + 7) % p
def rtF (p A : Nat) : Nat := A ^ ((p + 1) / 4) % p
/-- the point that the first n bytes of a row tell -/
def keyF (p : Nat) (L : List Int32) (n : Nat) : Option (Nat × Nat) :=
  if ¬ ((n = 33 ∧ (L.getD 0 0 = 2 ∨ L.getD 0 0 = 3)) ∨ (n = 65 ∧ L.getD 0 0 = 4)) then none
  else if p ≤ beV L 1 32 then none
  else if n = 65 then (if p ≤ beV L 33 32 then none else if crF p (beV L 1 32) = beV L 33 32 * beV L 33 32 % p then some (beV L 1 32, beV L 33 32) else none)
  else if crF p (beV L 1 32) = rtF p (crF p (beV L 1 32)) * rtF p (crF p (beV L 1 32)) % p then some (beV L 1 32, if nI (rtF p (crF p (beV L 1 32)) % 2) = L.getD 0 0 - 2 then rtF p (crF p (beV L 1 32)) else (p - rtF p (crF p (beV L 1 32))) % p) else none
/-- the digits below k are those of a quarter -/
def shD (N k : Nat) : List Int32 := (List.range 8).map (fun i => if i < k then nI (N / 4 / 4294967296 ^ i) else nI (N / 4294967296 ^ i))
theorem shD_0 (N : Nat) : shD N 0 = lb N := by
  unfold shD lb
  exact List.map_congr_left (fun i _ => if_neg (by omega))
theorem shD_8 (N : Nat) : shD N 8 = lb (N / 4) := by
  unfold shD lb
  exact List.map_congr_left (fun i hi => if_pos (List.mem_range.mp hi))
theorem shD_len (N k : Nat) : (shD N k).length = 8 := mapR_len _ _
theorem shD_val (N k : Nat) {y : Int32} (hy : y = nI (N / 4294967296 ^ (k + 1))) : jushr (nI (N / 4294967296 ^ k)) 2 ||| jshl y 30 = nI (N / 4 / 4294967296 ^ k) := by
  have e1 : N / 4294967296 ^ (k + 1) = N / 4294967296 ^ k / 4294967296 := by rw [Nat.pow_succ, Nat.div_div_eq_div_mul]
  have e2 : N / 4 / 4294967296 ^ k = N / 4294967296 ^ k / 4 := by rw [Nat.div_div_eq_div_mul, Nat.div_div_eq_div_mul, Nat.mul_comm]
  rw [hy, e1, e2, show (2 : Int32) = nI 2 from rfl, show (30 : Int32) = nI 30 from rfl, jushr_x _ (by decide), jshl_n _ (by decide), u32_nI]
  generalize N / 4294967296 ^ k = M
  have e3 : nI (M / 4294967296 * 2 ^ 30) = nI (M / 4294967296 % 4 * 2 ^ 30) := nI_eqI (by omega)
  rw [e3, nI_or, or_add (c := 2) (by omega) (by omega)]
  exact nI_eqI (by omega)
theorem shD_set {N k : Nat} (hk : k < 8) {x : Int32} (hx : x = nI (N / 4 / 4294967296 ^ k)) : (shD N k).set k x = shD N (k + 1) := by
  refine ext_getD (z := 0) (by rw [List.length_set, shD_len, shD_len]) (fun i hi => ?_)
  rw [List.length_set, shD_len] at hi
  have g : ∀ k, (shD N k).getD i 0 = if i < k then nI (N / 4 / 4294967296 ^ i) else nI (N / 4294967296 ^ i) := fun k => mapR_getD hi
  by_cases c : k = i
  · subst c
    rw [getD_set_eq (by rw [shD_len]; exact hi), hx, g, if_pos (by omega)]
  · rw [getD_set_ne (fun e => c e.symm), g, g]
    by_cases c2 : i < k
    · rw [if_pos c2, if_pos (by omega)]
    · rw [if_neg c2, if_neg (by omega)]
/-- the rows that decode writes -/
def dcP (C x : Nat) : Prop := (C + 6 ≤ x ∧ x ≤ C + 17) ∨ x = C + 43 ∨ x = C + 45 ∨ x = C + 47 ∨ x = C + 49 ∨ x = C + 63 ∨ x = C + 65 ∨ x = C + 67
/-- the number at a row, told so that omega does not look at it -/
def bvE (h : AH) (a v : Nat) : Prop := bv h a = v
theorem bvE.out {h : AH} {a v : Nat} (e : bvE h a v) : bv h a = v := e
theorem dc12 {a C : Nat} (q : C + 6 ≤ a ∧ a ≤ C + 17) : a = C + 1 + 5 ∨ a = C + 1 + 6 ∨ a = C + 1 + 7 ∨ a = C + 1 + 8 ∨ a = C + 1 + 9 ∨ a = C + 1 + 10 ∨ a = C + 1 + 11 ∨ a = C + 1 + 12 ∨ a = C + 1 + 13 ∨ a = C + 1 + 14 ∨ a = C + 1 + 15 ∨ a = C + 1 + 16 := by omega
theorem muN {C w tw : Nat} (h : C + 18 ≤ w) (h2 : w ≠ tw) : ¬ (w = C + 1 + 5 ∨ w = C + 1 + 6 ∨ w = C + 1 + 12 ∨ w = tw) := by omega
theorem nn53 {C w : Nat} (q0 : C + 46 ≤ w) (q1 : w ≤ C + 53) : w ≠ C + 65 ∧ C + 18 ≤ w ∧ w ≠ C + 43 ∧ w ≠ C + 45 ∧ w ≠ C + 63 ∧ w ≠ C + 67 := by omega
section Dc
variable {G : Gx} {d : Nat} {h h1 : AH} {C p n : Nat} {L : List Int32}
theorem dc43 : dcP C (C + 43) := Or.inr (Or.inl rfl)
theorem dc45 : dcP C (C + 45) := Or.inr (Or.inr (Or.inl rfl))
theorem dc47 : dcP C (C + 47) := Or.inr (Or.inr (Or.inr (Or.inl rfl)))
theorem dc49 : dcP C (C + 49) := Or.inr (Or.inr (Or.inr (Or.inr (Or.inl rfl))))
theorem dc63 : dcP C (C + 63) := Or.inr (Or.inr (Or.inr (Or.inr (Or.inr (Or.inl rfl)))))
theorem dc65 : dcP C (C + 65) := Or.inr (Or.inr (Or.inr (Or.inr (Or.inr (Or.inr (Or.inl rfl))))))
theorem dc67 : dcP C (C + 67) := Or.inr (Or.inr (Or.inr (Or.inr (Or.inr (Or.inr (Or.inr rfl))))))
theorem dcN {x : Nat} (h1 : C + 50 ≤ x) (h2 : x ≤ C + 62) : ¬ dcP C x := fun q => by
  simp only [dcP] at q
  omega
theorem dc_wi {w v : Nat} (M : Mod (dcP C) h h1) (l : (h1.ai w).length = 8) (hw : dcP C w) : Mod (dcP C) h (h1.wi w (lb v)) := M.trans (Mod.wi (by rw [lb_len, l]) hw)
theorem pw_dc {x : Nat} (q : pwP (C + 1) (C + 65) x) : dcP C x := by
  simp only [pwP, scr] at q
  simp only [dcP]
  omega
theorem mu_dc {tw x : Nat} (hw : dcP C tw) (q : x = C + 1 + 5 ∨ x = C + 1 + 6 ∨ x = C + 1 + 12 ∨ x = tw) : dcP C x := by
  rcases q with q | q | q | q
  · exact Or.inl (by omega)
  · exact Or.inl (by omega)
  · exact Or.inl (by omega)
  · rw [q]; exact hw
theorem pwN {x : Nat} (h1 : C + 18 ≤ x) (h2 : x ≠ C + 65) : ¬ pwP (C + 1) (C + 65) x := fun q => by
  simp only [pwP, scr] at q
  omega
theorem dc_kd {a : Nat} (H : CvB h C) (hR : RingAt h (C + 1) p) (ka : h.kd a = 101) : ¬ dcP C a := fun q => by
  obtain ⟨_, _, ⟨ba, bb, bc, bd, _⟩, ⟨_, ⟨_, bx, by_, bz⟩, _⟩, _⟩ := H
  obtain ⟨⟨_, _, _, _, _, _, _, _, _, _, _, _, k5, k6, b7, b9, b11, b13, b15⟩, _⟩ := hR
  have no : ∀ y, a = y → ∀ k, k ≠ 101 → h.kd y = k → False := fun y e k hk hy => hk (by rw [← hy, ← e]; exact ka)
  rcases q with q | q | q | q | q | q | q | q
  · rcases dc12 q with q | q | q | q | q | q | q | q | q | q | q | q
    · exact no _ q _ (by decide) k5.1
    · exact no _ q _ (by decide) k6.1
    · exact no _ q _ (by decide) b7.1
    · exact no _ q _ (by decide) b7.2.2.1
    · exact no _ q _ (by decide) b9.1
    · exact no _ q _ (by decide) b9.2.2.1
    · exact no _ q _ (by decide) b11.1
    · exact no _ q _ (by decide) b11.2.2.1
    · exact no _ q _ (by decide) b13.1
    · exact no _ q _ (by decide) b13.2.2.1
    · exact no _ q _ (by decide) b15.1
    · exact no _ q _ (by decide) b15.2.2.1
  · exact no _ q _ (by decide) ba.2.2.1
  · exact no _ q _ (by decide) bb.2.2.1
  · exact no _ q _ (by decide) bc.2.2.1
  · exact no _ q _ (by decide) bd.2.2.1
  · exact no _ q _ (by decide) bx.2.2.1
  · exact no _ q _ (by decide) by_.2.2.1
  · exact no _ q _ (by decide) bz.2.2.1
theorem RingAt.dc (hR : RingAt h (C + 1) p) (M : Mod (dcP C) h h1) : RingAt h1 (C + 1) p := hR.mod M (fun q => by simp only [dcP] at q; omega) (fun q => by simp only [dcP] at q; omega)
set_option maxHeartbeats 1000000 in
theorem dc_299 {A X : Nat} {f : Int32} (hd : 4 ≤ d) (H : CvB h C) (hR : RingAt h (C + 1) p) (hp : 7 < p) (hc : cvLt h C p) (M : Mod (dcP C) h h1) (e43 : bv h1 (C + 43) = A) (hA : A < p) (e63 : bv h1 (C + 63) = X) (hX : X < p) (e67 : bv h1 (C + 67) = 1) (e47 : bv h1 (C + 47) < p) (ed : h1.ai (C + 49) = lb (p + 1))
    (hk : keyF p L n = if A = rtF p A * rtF p A % p then some (X, if nI (rtF p A % 2) = f - 2 then rtF p A else (p - rtF p A) % p) else none) :
    Aw G mX3_decode (d + 1) 0 h (kI (fun x h' => (Mod (dcP C) h h' ∧ cvLt h' C p ∧ ((x = 0 ∧ keyF p L n = none) ∨ (x = 1 ∧ ∃ P, keyF p L n = some P ∧ P.1 < p ∧ P.2 < p ∧ ptV h' (C + 61) = (P.1, P.2, 1))))) nE) 299 [vR C, vU, vU, vU, vI f, vI (nI ((p + 1) / 4294967296 ^ 8)), vI 0] [] h1 := by
  have hpW : ∀ v, v < p → v < 4294967296 ^ 8 := fun v hv => Nat.lt_trans hv (by rw [← hR.2.1]; exact bv_lt _ _)
  have H1 := H.mod M
  have key := loop_uc (n := 8) (P := fun j (T : List Int32) => Aw G mX3_decode (d + 1) 0 h (kI (fun x h' => (Mod (dcP C) h h' ∧ cvLt h' C p ∧ ((x = 0 ∧ keyF p L n = none) ∨ (x = 1 ∧ ∃ P, keyF p L n = some P ∧ P.1 < p ∧ P.2 < p ∧ ptV h' (C + 61) = (P.1, P.2, 1))))) nE) 299 [vR C, vU, vU, vU, vI f, vI (nI ((p + 1) / 4294967296 ^ 8)), vI (nI j)] [] (h1.wi (C + 49) T))
    (fun j T => T = shD (p + 1) j) (fun j T hj hI ih => ?_) 0 (h1.ai (C + 49)) (Nat.zero_le _) (by rw [ed, shD_0])
  · rw [AH.wi_self] at key
    exact key
  · subst hI
    refine sX3_decode_299 _ C f (nI ((p + 1) / 4294967296 ^ 8)) (nI j) (pk_le 8 j (fun c => ?_) (fun c => ⟨H1.1.1, fun r67 e67 => ?_⟩))
    · obtain rfl : j = 8 := by omega
      rw [shD_8]
      have M2 : Mod (dcP C) h (h1.wi (C + 49) (lb ((p + 1) / 4))) := dc_wi M H1.2.2.1.2.2.2.1.2.2.2 dc49
      have v43 : bv (h1.wi (C + 49) (lb ((p + 1) / 4))) (C + 43) = A := by rw [bv_wiN (by omega)]; exact e43
      have v63 : bv (h1.wi (C + 49) (lb ((p + 1) / 4))) (C + 63) = X := by rw [bv_wiN (by omega)]; exact e63
      have v67 : bv (h1.wi (C + 49) (lb ((p + 1) / 4))) (C + 67) = 1 := by rw [bv_wiN (by omega)]; exact e67
      have v47 : bv (h1.wi (C + 49) (lb ((p + 1) / 4))) (C + 47) < p := by rw [bv_wiN (by omega)]; exact e47
      have v49 : bv (h1.wi (C + 49) (lb ((p + 1) / 4))) (C + 49) = (p + 1) / 4 := by rw [bv_wiS, Nat.mod_eq_of_lt (hpW _ (by omega))]
      generalize h1.wi (C + 49) (lb ((p + 1) / 4)) = h2 at *
      clear M e43 e63 e67 e47 ed ih H1
      have H2 := H.mod M2
      have R2 := hR.dc M2
      obtain ⟨⟨kC, c0, ca, cb, cc, cd, _, _, kF⟩, ⟨_, _, c10, _⟩, ⟨ba, bb, bc, bd, _⟩, ⟨_, ⟨⟨kK, x0, x1, x2⟩, bx, by_, bz⟩, _⟩, _⟩ := H2
      refine ⟨kC, fun r3 e3 r4 e4 => ?_⟩
      rw [e4.trans c10]
      refine ⟨kK, fun r6 e6 r7 e7 r8 e8 => ?_⟩
      rw [e3.trans c0, e6.trans x1, e7.trans ca, e8.trans cd]
      refine ⟨kF, (Ring_power_spec (by omega) R2 (by omega) by_ ba bd ⟨by omega, by omega⟩ ⟨by omega, by omega⟩ (by omega)).nV (fun h10 Q => ?_)⟩
      obtain ⟨M10, e10⟩ := Q
      rw [v43, v49] at e10
      have hY : rtF p A < p := Nat.mod_lt _ (by omega)
      have y65 : bv h10 (C + 65) = rtF p A := bv_lb e10 (hpW _ (Nat.mod_lt _ (by omega)))
      generalize rtF p A = Y at *
      have w43 : bv h10 (C + 43) = A := by rw [M10.bv (pwN (by omega) (by omega))]; exact v43
      have w63 : bv h10 (C + 63) = X := by rw [M10.bv (pwN (by omega) (by omega))]; exact v63
      have w67 : bv h10 (C + 67) = 1 := by rw [M10.bv (pwN (by omega) (by omega))]; exact v67
      have w47 : bv h10 (C + 47) < p := by rw [M10.bv (pwN (by omega) (by omega))]; exact v47
      have w49 : bv h10 (C + 49) = (p + 1) / 4 := by rw [M10.bv (pwN (by omega) (by omega))]; exact v49
      have M3 : Mod (dcP C) h h10 := M2.trans (M10.mono (fun _ q => pw_dc q))
      have r10 : h10.r = h2.r := M10.r
      have R3 := hR.dc M3
      have H3 := H.mod M3
      clear M10 e10 v43 v63 v67 v47 v49 M2 R2
      intro r15 e15
      rw [r10] at e15
      rw [e15.trans cb]
      refine (Ring_multiply_spec (by omega) R3 H3.2.2.1.2.1 H3.2.2.2.1.2.1.2.2.1 H3.2.2.2.1.2.1.2.2.1 ⟨by omega, by omega, by omega, by omega, by omega⟩ (by omega) (by omega)).nV (fun h22 Q => ?_)
      obtain ⟨M22, e22⟩ := Q
      rw [y65] at e22
      have hB : Y * Y % p < p := Nat.mod_lt _ (by omega)
      have y45 : bv h22 (C + 45) = Y * Y % p := bv_lb e22 (hpW _ hB)
      have u43 : bv h22 (C + 43) = A := by rw [M22.bv (muN (by omega) (by omega))]; exact w43
      have u63 : bv h22 (C + 63) = X := by rw [M22.bv (muN (by omega) (by omega))]; exact w63
      have u65 : bv h22 (C + 65) = Y := by rw [M22.bv (muN (by omega) (by omega))]; exact y65
      have u67 : bv h22 (C + 67) = 1 := by rw [M22.bv (muN (by omega) (by omega))]; exact w67
      have u47 : bv h22 (C + 47) < p := by rw [M22.bv (muN (by omega) (by omega))]; exact w47
      have u49 : bv h22 (C + 49) = (p + 1) / 4 := by rw [M22.bv (muN (by omega) (by omega))]; exact w49
      have M4 : Mod (dcP C) h h22 := M3.trans (M22.mono (fun _ q => mu_dc dc45 q))
      have r22 : h22.r = h2.r := M22.r.trans r10
      clear M22 e22 w43 w63 w67 w47 w49 y65 M3 R3 H3
      have R4 := hR.dc M4
      have H4 := H.mod M4
      have lt4 : cvLt h22 C p := ⟨by omega, by omega, u47, by omega, by rw [M4.bv (dcN (by omega) (by omega))]; exact hc.2.2.2.2.1, by rw [M4.bv (dcN (by omega) (by omega))]; exact hc.2.2.2.2.2⟩
      have ba4 := H4.2.2.1.1
      have bb4 := H4.2.2.1.2.1
      have by4 := H4.2.2.2.1.2.1.2.2.1
      have bc4 := H4.2.2.1.2.2.1
      refine ⟨ba4.1, (Big_compare_spec (by omega) ba4 bb4).nI (fun x30 h31 Q => ?_)⟩
      obtain ⟨rfl, rfl⟩ := Q
      rw [u43, y45, cmpI_eq]
      refine ⟨fun c2 => ⟨by4.1, ?_⟩, fun c2 => ⟨M4, lt4, Or.inl ⟨rfl, by rw [hk, if_neg c2]⟩⟩⟩
      have hk2 : keyF p L n = some (X, if nI (Y % 2) = f - 2 then Y else (p - Y) % p) := by rw [hk, if_pos c2]
      refine (Big_bit_spec (k := 0) (by decide) (by omega) by4).nI (fun x41 h42 Q => ?_)
      obtain ⟨rfl, rfl⟩ := Q
      rw [u65, Nat.pow_zero, Nat.div_one]
      refine ⟨fun c3 => ⟨M4, lt4, Or.inr ⟨rfl, (X, Y), by rw [hk2, if_pos c3], hX, hY, ?_⟩⟩, fun c3 => fun r52 e52 => ?_⟩
      · show (bv h42 (C + 63), bv h42 (C + 65), bv h42 (C + 67)) = _
        rw [u63, u65, u67]
      · rw [r22] at e52
        rw [e52.trans cc]
        refine ⟨bc4.1, (Big_zero_spec (by omega) bc4).nR (fun x53 h54 Q => ?_)⟩
        obtain ⟨rfl, e54⟩ := Q
        have M5 : Mod (dcP C) h h54 := by rw [e54]; exact dc_wi M4 bc4.2.2.2 dc47
        have t47 : bv h54 (C + 47) = 0 := by rw [e54, bv_wiS]
        have t65 : bv h54 (C + 65) = Y := by rw [e54, bv_wiN (by omega)]; exact u65
        have t63 : bv h54 (C + 63) = X := by rw [e54, bv_wiN (by omega)]; exact u63
        have t67 : bv h54 (C + 67) = 1 := by rw [e54, bv_wiN (by omega)]; exact u67
        have t43 : bv h54 (C + 43) = A := by rw [e54, bv_wiN (by omega)]; exact u43
        have t45 : bv h54 (C + 45) = Y * Y % p := by rw [e54, bv_wiN (by omega)]; exact y45
        have t49 : bv h54 (C + 49) = (p + 1) / 4 := by rw [e54, bv_wiN (by omega)]; exact u49
        clear e54
        have H5 := H.mod M5
        refine (Ring_subtract_spec (by omega) (hR.dc M5) H5.2.2.2.1.2.1.2.2.1 H5.2.2.1.2.2.1 H5.2.2.2.1.2.1.2.2.1 (by omega) (by omega) (by show bv h54 (C + 65) < p; omega)).nV (fun h61 e61 => ?_)
        rw [t47, t65, Nat.zero_add] at e61
        have hs : (p - Y) % p < p := Nat.mod_lt _ (by omega)
        have M6 : Mod (dcP C) h h61 := by rw [e61]; exact dc_wi M5 H5.2.2.2.1.2.1.2.2.1.2.2.2 dc65
        refine ⟨M6, ⟨?_, ?_, ?_, ?_, by rw [M6.bv (dcN (by omega) (by omega))]; exact hc.2.2.2.2.1, by rw [M6.bv (dcN (by omega) (by omega))]; exact hc.2.2.2.2.2⟩, Or.inr ⟨rfl, (X, (p - Y) % p), by rw [hk2, if_neg c3], hX, hs, ?_⟩⟩
        · rw [e61, bv_wiN (by omega)]; omega
        · rw [e61, bv_wiN (by omega)]; omega
        · rw [e61, bv_wiN (by omega)]; omega
        · rw [e61, bv_wiN (by omega)]; omega
        · show (bv h61 (C + 63), bv h61 (C + 65), bv h61 (C + 67)) = _
          rw [e61, bv_wiN (by omega), bv_wiS, bv_wiN (by omega), t63, t67, Nat.mod_eq_of_lt (hpW _ hs)]
    · have e67' : r67 = C + 48 := e67.trans H1.1.2.2.2.2.2.1
      subst e67'
      have bd := H1.2.2.1.2.2.2.1
      refine ⟨bd.1, fun r69 e69 => ?_⟩
      have e69' : r69 = C + 49 := e69.trans bd.2.1
      subst e69'
      have g : ∀ i, i < 8 → (shD (p + 1) j).getD i 0 = if i < j then nI ((p + 1) / 4 / 4294967296 ^ i) else nI ((p + 1) / 4294967296 ^ i) := fun i hi => mapR_getD hi
      rw [AH.ai_wiS, shD_len, AH.wi_wi, pk_cl j rfl (by omega), nI_1, g j c, if_neg (by omega)]
      refine ⟨bd.2.2.1, pk_in j 8 c, pk_le 7 j (fun c2 => ⟨pk_in j 8 c, fun h74 e74 => ?_⟩) (fun c2 => ?_)⟩
      · rw [e74]
        obtain rfl : j = 7 := by omega
        exact ih c _ (shD_set c (shD_val _ _ rfl))
      · rw [pk_cl (j + 1) rfl (by omega), g (j + 1) (by omega), if_neg (by omega)]
        refine ⟨pk_in (j + 1) 8 (by omega), pk_in j 8 c, fun h77 e77 => ?_⟩
        rw [e77, AH.wi_wi]
        exact ih c _ (shD_set c (shD_val _ _ rfl))
set_option maxHeartbeats 1000000 in
theorem dc_48 {a : Nat} (hd : 4 ≤ d) (H : CvB h C) (hR : RingAt h (C + 1) p) (hp : 7 < p) (hc : cvLt h C p) (ka : h.kd a = 101) (eL : h.ai a = L) (hl : n ≤ L.length) (hl2 : L.length < 2 ^ 31) (hn : (n = 33 ∧ (L.getD 0 0 = 2 ∨ L.getD 0 0 = 3)) ∨ (n = 65 ∧ L.getD 0 0 = 4)) :
    Aw G mX3_decode (d + 1) 0 h (kI (fun x h' => (Mod (dcP C) h h' ∧ cvLt h' C p ∧ ((x = 0 ∧ keyF p L n = none) ∨ (x = 1 ∧ ∃ P, keyF p L n = some P ∧ P.1 < p ∧ P.2 < p ∧ ptV h' (C + 61) = (P.1, P.2, 1))))) nE) 48 [vR C, vR a, vI 0, vI (nI n), vI (L.getD 0 0), vU, vU] [] h := by
  have hpW : ∀ v, v < p → v < 4294967296 ^ 8 := fun v hv => Nat.lt_trans hv (by rw [← hR.2.1]; exact bv_lt _ _)
  have b256 : ∀ o, beV L o 32 < 4294967296 ^ 8 := fun o => beV_lt L o 32
  have na : ∀ w, h.kd w = 100 → a ≠ w := fun w hw e => by rw [e, hw] at ka; exact absurd ka (by decide)
  have H0 := H
  obtain ⟨⟨kC, c0, ca, cb, cc, cd, _, _, kF⟩, ⟨_, _, c10, _⟩, ⟨ba, bb, bc, bd, _⟩, ⟨_, ⟨⟨kK, x0, x1, x2⟩, bx, by_, bz⟩, _⟩, _⟩ := H
  have l33 : 33 ≤ L.length := by omega
  have kN : keyF p L n = if p ≤ beV L 1 32 then none else if n = 65 then (if p ≤ beV L 33 32 then none else if crF p (beV L 1 32) = beV L 33 32 * beV L 33 32 % p then some (beV L 1 32, beV L 33 32) else none) else if crF p (beV L 1 32) = rtF p (crF p (beV L 1 32)) * rtF p (crF p (beV L 1 32)) % p then some (beV L 1 32, if nI (rtF p (crF p (beV L 1 32)) % 2) = L.getD 0 0 - 2 then rtF p (crF p (beV L 1 32)) else (p - rtF p (crF p (beV L 1 32))) % p) else none := by
    unfold keyF
    rw [if_neg (fun z => z hn)]
  clear hn
  refine sX3_decode_48 h C a 0 (nI n) (L.getD 0 0) ⟨kC, fun r2 e2 => ?_⟩
  rw [e2.trans c10]
  refine ⟨kK, fun r4 e4 => ?_⟩
  rw [e4.trans x0, show (0 : Int32) + 1 = nI 1 from rfl, show (0 : Int32) + 33 = nI 33 from rfl]
  refine ⟨bx.1, (Big_read_spec (off := 1) (n := 32) (by omega) bx ka (by decide) (by rw [eL]; omega) (by rw [eL]; exact hl2)).nR (fun x5 h6 Q => ?_)⟩
  obtain ⟨_, e6⟩ := Q
  rw [eL] at e6
  generalize hX : beV L 1 32 = X at *
  have M1 : Mod (dcP C) h h6 := by rw [e6]; exact dc_wi Mod.rf bx.2.2.2 dc63
  have v63 : bvE h6 (C + 63) (X) := by show bv h6 (C + 63) = X; rw [e6]; exact (bv_wiS _ _ _).trans (Nat.mod_eq_of_lt (by rw [← hX]; exact b256 1))
  clear hX
  have v43 : ∀ w, w ≠ C + 63 → bv h6 w = bv h w := fun w hw => (congrArg (fun x => bv x w) e6).trans (bv_wiN hw)
  clear e6
  have R1 := hR.dc M1
  have lt1 : cvLt h6 C p := by
    unfold cvLt
    rw [v43 _ (by omega), v43 _ (by omega), v43 _ (by omega), v43 _ (by omega), v43 _ (by omega), v43 _ (by omega)]
    exact hc
  intro r14 e14
  have r1 : h6.r = h.r := M1.r
  rw [r1] at e14
  rw [e14.trans c0]
  refine ⟨by rw [M1.kd]; exact kF, (Ring_modulus_spec (by omega) R1.1).nR (fun x15 h16 Q => ?_)⟩
  rw [Q.1, Q.2]
  clear Q
  have H1 := H0.mod M1
  have bx1 : BigAt h6 (C + 61 + 1) (C + 63) := H1.2.2.2.1.2.1.2.1
  refine (Big_compare_spec (by omega) bx1 R1.1.2.2.2.2.2.2.2.2.2.2.1).nI (fun x18 h19 Q => ?_)
  rw [Q.1, Q.2, v63.out, R1.2.1, cmpI_lt]
  clear Q
  refine ⟨fun c1 => ?_, fun c1 => ⟨M1, lt1, Or.inl ⟨rfl, by rw [kN, if_pos (by omega)]⟩⟩⟩
  rw [if_neg (by omega)] at kN
  intro r29 e29
  rw [r1] at e29
  rw [e29.trans x2]
  have bz1 : BigAt h6 (C + 61 + 5) (C + 67) := H1.2.2.2.1.2.1.2.2.2
  refine ⟨bz1.1, (Big_small_spec (v := 1) (by decide) (by omega) bz1).nR (fun x30 h31 Q => ?_)⟩
  have e31 := Q.2
  clear Q
  have M2 : Mod (dcP C) h h31 := by rw [e31]; exact dc_wi M1 bz1.2.2.2 dc67
  have w67 : bvE h31 (C + 67) (1) := by show bv h31 (C + 67) = 1; rw [e31]; exact (bv_wiS _ _ _).trans rfl
  have w63 : bvE h31 (C + 63) (X) := by show bv h31 (C + 63) = X; rw [e31, bv_wiN (by omega)]; exact v63
  have wO : ∀ w, w ≠ C + 63 → w ≠ C + 67 → bv h31 w = bv h w := fun w q1 q2 => (congrArg (fun x => bv x w) e31).trans ((bv_wiN q2).trans (v43 w q1))
  clear e31 v63 v43 R1 H1 bx1 bz1 lt1
  have r2 : h31.r = h.r := M2.r
  intro r38 e38
  rw [r2] at e38
  rw [e38.trans ca]
  have H2 := H0.mod M2
  have bx2 : BigAt h31 (C + 61 + 1) (C + 63) := H2.2.2.2.1.2.1.2.1
  refine (Ring_multiply_spec (by omega) (hR.dc M2) H2.2.2.1.1 bx2 bx2 ⟨by omega, by omega, by omega, by omega, by omega⟩ (by omega) (by omega)).nV (fun h45 Q => ?_)
  obtain ⟨N45, e45⟩ := Q
  rw [w63.out] at e45
  have M3 : Mod (dcP C) h h45 := M2.trans (N45.mono (fun _ q => mu_dc dc43 q))
  have u43 : bvE h45 (C + 43) (X * X % p) := bv_lb e45 (hpW _ (Nat.mod_lt _ (by omega)))
  have u63 : bvE h45 (C + 63) (X) := by show bv h45 (C + 63) = X; rw [N45.bv (muN (by omega) (by omega))]; exact w63
  have u67 : bvE h45 (C + 67) (1) := by show bv h45 (C + 67) = 1; rw [N45.bv (muN (by omega) (by omega))]; exact w67
  have uO : ∀ w, C + 18 ≤ w → w ≠ C + 43 → w ≠ C + 63 → w ≠ C + 67 → bv h45 w = bv h w := fun w q0 q3 q1 q2 => (N45.bv (muN q0 q3)).trans (wO w q1 q2)
  clear e45 N45 w63 w67 wO H2 bx2
  have H3 := H0.mod M3
  have bx3 : BigAt h45 (C + 61 + 1) (C + 63) := H3.2.2.2.1.2.1.2.1
  refine (Ring_multiply_spec (by omega) (hR.dc M3) H3.2.2.1.1 H3.2.2.1.1 bx3 ⟨by omega, by omega, by omega, by omega, by omega⟩ (by omega) (by omega)).nV (fun h57 Q => ?_)
  obtain ⟨N57, e57⟩ := Q
  rw [u63.out, u43.out] at e57
  have M4 : Mod (dcP C) h h57 := M3.trans (N57.mono (fun _ q => mu_dc dc43 q))
  have t43 : bvE h57 (C + 43) (X * X % p * X % p) := bv_lb e57 (hpW _ (Nat.mod_lt _ (by omega)))
  have t63 : bvE h57 (C + 63) (X) := by show bv h57 (C + 63) = X; rw [N57.bv (muN (by omega) (by omega))]; exact u63
  have t67 : bvE h57 (C + 67) (1) := by show bv h57 (C + 67) = 1; rw [N57.bv (muN (by omega) (by omega))]; exact u67
  have tO : ∀ w, C + 18 ≤ w → w ≠ C + 43 → w ≠ C + 63 → w ≠ C + 67 → bv h57 w = bv h w := fun w q0 q3 q1 q2 => (N57.bv (muN q0 q3)).trans (uO w q0 q3 q1 q2)
  clear e57 N57 u43 u63 u67 uO H3 bx3
  have r4 : h57.r = h.r := M4.r
  intro r60 e60
  rw [r4] at e60
  rw [e60.trans cb]
  have H4 := H0.mod M4
  have bb4 := H4.2.2.1.2.1
  refine ⟨bb4.1, (Big_small_spec (v := 7) (by decide) (by omega) bb4).nR (fun x61 h62 Q => ?_)⟩
  have e62 := Q.2
  clear Q
  have M5 : Mod (dcP C) h h62 := by rw [e62]; exact dc_wi M4 bb4.2.2.2 dc45
  have s45 : bvE h62 (C + 45) (7) := by show bv h62 (C + 45) = 7; rw [e62]; exact (bv_wiS _ _ _).trans rfl
  have s43 : bvE h62 (C + 43) (X * X % p * X % p) := by show bv h62 (C + 43) = X * X % p * X % p; rw [e62, bv_wiN (by omega)]; exact t43
  have s63 : bvE h62 (C + 63) (X) := by show bv h62 (C + 63) = X; rw [e62, bv_wiN (by omega)]; exact t63
  have s67 : bvE h62 (C + 67) (1) := by show bv h62 (C + 67) = 1; rw [e62, bv_wiN (by omega)]; exact t67
  have sO : ∀ w, C + 18 ≤ w → w ≠ C + 43 → w ≠ C + 45 → w ≠ C + 63 → w ≠ C + 67 → bv h62 w = bv h w := fun w q0 q3 q4 q1 q2 => (congrArg (fun x => bv x w) e62).trans ((bv_wiN q4).trans (tO w q0 q3 q1 q2))
  clear e62 t43 t63 t67 tO H4 bb4 M4 r4
  have H5 := H0.mod M5
  have hmod : X * X % p * X % p < p := Nat.mod_lt _ (by omega)
  refine (Ring_add_spec (by omega) (hR.dc M5) H5.2.2.1.1 H5.2.2.1.1 H5.2.2.1.2.1 (by omega) (by rw [s43.out]; exact hmod) (by rw [s45.out]; exact hp)).nV (fun h72 e72 => ?_)
  rw [s43.out, s45.out] at e72
  have hA : crF p X < p := Nat.mod_lt _ (by omega)
  have M6 : Mod (dcP C) h h72 := by rw [e72]; exact dc_wi M5 H5.2.2.1.1.2.2.2 dc43
  have f43 : bvE h72 (C + 43) (crF p X) := by show bv h72 (C + 43) = crF p X; rw [e72]; exact (bv_wiS _ _ _).trans (Nat.mod_eq_of_lt (hpW _ hA))
  have f45 : bvE h72 (C + 45) (7) := by show bv h72 (C + 45) = 7; rw [e72, bv_wiN (by omega)]; exact s45
  have f63 : bvE h72 (C + 63) (X) := by show bv h72 (C + 63) = X; rw [e72, bv_wiN (by omega)]; exact s63
  have f67 : bvE h72 (C + 67) (1) := by show bv h72 (C + 67) = 1; rw [e72, bv_wiN (by omega)]; exact s67
  have fO : ∀ w, C + 18 ≤ w → w ≠ C + 43 → w ≠ C + 45 → w ≠ C + 63 → w ≠ C + 67 → bv h72 w = bv h w := fun w q0 q3 q4 q1 q2 => (congrArg (fun x => bv x w) e72).trans ((bv_wiN q3).trans (sO w q0 q3 q4 q1 q2))
  clear e72 s43 s45 s63 s67 sO H5 M5 hmod
  generalize crF p X = A at *
  have r6 : h72.r = h.r := M6.r
  have H6 := H0.mod M6
  refine pk_eq' n 65 (fun c2 => ?_) (fun c2 => ?_) rfl rfl (by omega) (by omega)
  · rw [if_neg c2] at kN
    intro r77 e77
    rw [r6] at e77
    rw [e77.trans cc]
    have bc6 := H6.2.2.1.2.2.1
    refine ⟨bc6.1, (Big_small_spec (v := 1) (by decide) (by omega) bc6).nR (fun x78 h79 Q => ?_)⟩
    have e79 := Q.2
    clear Q
    have M7 : Mod (dcP C) h h79 := by rw [e79]; exact dc_wi M6 bc6.2.2.2 dc47
    have g47 : bvE h79 (C + 47) (1) := by show bv h79 (C + 47) = 1; rw [e79]; exact (bv_wiS _ _ _).trans rfl
    have g43 : bvE h79 (C + 43) (A) := by show bv h79 (C + 43) = A; rw [e79, bv_wiN (by omega)]; exact f43
    have g63 : bvE h79 (C + 63) (X) := by show bv h79 (C + 63) = X; rw [e79, bv_wiN (by omega)]; exact f63
    have g67 : bvE h79 (C + 67) (1) := by show bv h79 (C + 67) = 1; rw [e79, bv_wiN (by omega)]; exact f67
    clear e79
    have r7 : h79.r = h.r := M7.r
    have H7 := H0.mod M7
    have R7 := hR.dc M7
    intro r82 e82
    rw [r7] at e82
    rw [e82.trans cd]
    refine (Ring_modulus_spec (by omega) R7.1).nR (fun x85 h86 Q => ?_)
    rw [Q.1, Q.2]
    clear Q
    refine ⟨H7.2.2.1.2.2.2.1.1, (Big_add_spec (by omega) H7.2.2.1.2.2.2.1 R7.1.2.2.2.2.2.2.2.2.2.2.1 H7.2.2.1.2.2.1).nI (fun x93 h94 Q => ?_)⟩
    have e94 := Q.2
    rw [Q.1]
    rw [R7.2.1, g47.out] at e94 ⊢
    clear Q
    have bd7 := H7.2.2.1.2.2.2.1
    have M8 : Mod (dcP C) h h94 := by rw [e94]; exact dc_wi M7 bd7.2.2.2 dc49
    refine dc_299 (A := A) (X := X) hd H0 hR hp hc M8 ?_ hA ?_ c1 ?_ ?_ ?_ kN
    · rw [e94, bv_wiN (by omega)]; exact g43
    · rw [e94, bv_wiN (by omega)]; exact g63
    · rw [e94, bv_wiN (by omega)]; exact g67
    · rw [e94, bv_wiN (by omega), g47.out]; omega
    · rw [e94, AH.ai_wiS]
  · rw [if_pos c2] at kN
    intro r103 e103
    rw [r6] at e103
    rw [e103.trans x1]
    have by6 : BigAt h72 (C + 61 + 3) (C + 65) := H6.2.2.2.1.2.1.2.2.1
    have ea : h72.ai a = L := by
      rw [← eL]
      exact M6.ai (dc_kd H0 hR ka)
    refine ⟨by6.1, (Big_read_spec (off := 33) (n := 32) (by omega) by6 (by rw [M6.kd]; exact ka) (by decide) (by rw [ea]; omega) (by rw [ea]; exact hl2)).nR (fun x104 h105 Q => ?_)⟩
    have e105 := Q.2
    clear Q
    rw [ea] at e105
    generalize hY : beV L 33 32 = Y at *
    have M7 : Mod (dcP C) h h105 := by rw [e105]; exact dc_wi M6 by6.2.2.2 dc65
    have g65 : bvE h105 (C + 65) (Y) := by show bv h105 (C + 65) = Y; rw [e105]; exact (bv_wiS _ _ _).trans (Nat.mod_eq_of_lt (by rw [← hY]; exact b256 33))
    clear hY
    have g43 : bvE h105 (C + 43) (A) := by show bv h105 (C + 43) = A; rw [e105, bv_wiN (by omega)]; exact f43
    have g45 : bvE h105 (C + 45) (7) := by show bv h105 (C + 45) = 7; rw [e105, bv_wiN (by omega)]; exact f45
    have g63 : bvE h105 (C + 63) (X) := by show bv h105 (C + 63) = X; rw [e105, bv_wiN (by omega)]; exact f63
    have g67 : bvE h105 (C + 67) (1) := by show bv h105 (C + 67) = 1; rw [e105, bv_wiN (by omega)]; exact f67
    have gO : ∀ w, C + 46 ≤ w → w ≤ C + 53 → bv h105 w = bv h w := fun w q0 q1 => by
      obtain ⟨n1, n2, n3, n4, n5, n6⟩ := nn53 q0 q1
      exact (congrArg (fun x => bv x w) e105).trans ((bv_wiN n1).trans (fO w n2 n3 n4 n5 n6))
    clear e105 b256 f43 f45 f63 f67 fO
    have H7 := H0.mod M7
    have R7 := hR.dc M7
    have by7 : BigAt h105 (C + 61 + 3) (C + 65) := H7.2.2.2.1.2.1.2.2.1
    refine (Ring_modulus_spec (by omega) R7.1).nR (fun x114 h115 Q => ?_)
    rw [Q.1, Q.2]
    clear Q
    refine (Big_compare_spec (by omega) by7 R7.1.2.2.2.2.2.2.2.2.2.2.1).nI (fun x118 h119 Q => ?_)
    rw [Q.1, Q.2, g65.out, R7.2.1, cmpI_lt]
    clear Q
    have lt7 : cvLt h105 C p := ⟨by rw [g43.out]; exact hA, by rw [g45.out]; exact hp, by rw [gO (C + 47) (by omega) (by omega)]; exact hc.2.2.1, by rw [gO (C + 49) (by omega) (by omega)]; exact hc.2.2.2.1, by rw [gO (C + 51) (by omega) (by omega)]; exact hc.2.2.2.2.1, by rw [gO (C + 53) (by omega) (by omega)]; exact hc.2.2.2.2.2⟩
    refine ⟨fun c3 => ?_, fun c3 => ⟨M7, lt7, Or.inl ⟨rfl, by rw [kN, if_pos (by omega)]⟩⟩⟩
    rw [if_neg (by omega)] at kN
    refine (Ring_multiply_spec (by omega) R7 H7.2.2.1.2.1 by7 by7 ⟨by omega, by omega, by omega, by omega, by omega⟩ (by omega) (by omega)).nV (fun h138 Q => ?_)
    obtain ⟨N8, e8⟩ := Q
    rw [g65.out] at e8
    have hB : Y * Y % p < p := Nat.mod_lt _ (by omega)
    have M8 : Mod (dcP C) h h138 := M7.trans (N8.mono (fun _ q => mu_dc dc45 q))
    have i45 : bvE h138 (C + 45) (Y * Y % p) := bv_lb e8 (hpW _ hB)
    have i43 : bvE h138 (C + 43) (A) := by show bv h138 (C + 43) = A; rw [N8.bv (muN (by omega) (by omega))]; exact g43
    have i63 : bvE h138 (C + 63) (X) := by show bv h138 (C + 63) = X; rw [N8.bv (muN (by omega) (by omega))]; exact g63
    have i65 : bvE h138 (C + 65) (Y) := by show bv h138 (C + 65) = Y; rw [N8.bv (muN (by omega) (by omega))]; exact g65
    have i67 : bvE h138 (C + 67) (1) := by show bv h138 (C + 67) = 1; rw [N8.bv (muN (by omega) (by omega))]; exact g67
    have lt8 : cvLt h138 C p := ⟨by rw [i43.out]; exact hA, by rw [i45.out]; exact hB, by rw [N8.bv (muN (by omega) (by omega))]; exact lt7.2.2.1, by rw [N8.bv (muN (by omega) (by omega))]; exact lt7.2.2.2.1, by rw [N8.bv (muN (by omega) (by omega))]; exact lt7.2.2.2.2.1, by rw [N8.bv (muN (by omega) (by omega))]; exact lt7.2.2.2.2.2⟩
    have H8 := H0.mod M8
    refine ⟨H8.2.2.1.1.1, (Big_compare_spec (by omega) H8.2.2.1.1 H8.2.2.1.2.1).nI (fun x148 h149 Q => ?_)⟩
    rw [Q.1, Q.2, i43.out, i45.out, cmpI_eq]
    clear Q
    refine ⟨fun c4 => ⟨M8, lt8, Or.inl ⟨rfl, by rw [kN, if_neg c4]⟩⟩, fun c4 => ⟨M8, lt8, Or.inr ⟨rfl, (X, Y), by rw [kN, if_pos c4], c1, c3, ?_⟩⟩⟩
    show (bv h138 (C + 63), bv h138 (C + 65), bv h138 (C + 67)) = _
    rw [i63.out, i65.out, i67.out]
theorem Cv_decode_spec {a : Nat} (hd : 5 ≤ d) (H : CvB h C) (hR : RingAt h (C + 1) p) (hp : 7 < p) (hc : cvLt h C p) (ka : h.kd a = 101) (eL : h.ai a = L) (hl : n ≤ L.length) (hl2 : L.length < 2 ^ 31) :
    Cw G mX3_decode d 0 [vR C, vR a, vI 0, vI (nI n)] h (kI (fun x h' => (Mod (dcP C) h h' ∧ cvLt h' C p ∧ ((x = 0 ∧ keyF p L n = none) ∨ (x = 1 ∧ ∃ P, keyF p L n = some P ∧ P.1 < p ∧ P.2 < p ∧ ptV h' (C + 61) = (P.1, P.2, 1))))) nE) := by
  obtain ⟨d, rfl⟩ : ∃ d', d = d' + 1 := ⟨d - 1, by omega⟩
  refine eX3_decode h C a 0 (nI n) (fun w => sX3_decode_0 h C a 0 (nI n) ?_)
  have bad : ¬ ((n = 33 ∧ (L.getD 0 0 = 2 ∨ L.getD 0 0 = 3)) ∨ (n = 65 ∧ L.getD 0 0 = 4)) → ∃ h', h' = h ∧ (Mod (dcP C) h h' ∧ cvLt h' C p ∧ (((0 : Int32) = 0 ∧ keyF p L n = none) ∨ ((0 : Int32) = 1 ∧ ∃ P, keyF p L n = some P ∧ P.1 < p ∧ P.2 < p ∧ ptV h' (C + 61) = (P.1, P.2, 1)))) := fun z => ⟨h, rfl, Mod.rf, hc, Or.inl ⟨rfl, by unfold keyF; rw [if_pos z]⟩⟩
  have no : ¬ ((n = 33 ∧ (L.getD 0 0 = 2 ∨ L.getD 0 0 = 3)) ∨ (n = 65 ∧ L.getD 0 0 = 4)) → (kI (fun x h' => (Mod (dcP C) h h' ∧ cvLt h' C p ∧ ((x = 0 ∧ keyF p L n = none) ∨ (x = 1 ∧ ∃ P, keyF p L n = some P ∧ P.1 < p ∧ P.2 < p ∧ ptV h' (C + 61) = (P.1, P.2, 1))))) nE) (.inl (some (vI 0))) h := fun z => by
    obtain ⟨h', rfl, q⟩ := bad z
    exact q
  have yes := fun z => dc_48 (G := G) (d := d) (n := n) (by omega) H hR hp hc ka eL hl hl2 z
  refine pk_eq' n 0 (fun c0 => ?_) (fun c0 => ?_) rfl rfl (by omega) (by omega)
  · rw [eL]
    refine ⟨ka, pk_in 0 _ (by omega), fun u4 e4 => ?_⟩
    have e4' : u4 = L.getD 0 0 := e4
    subst e4'
    refine pk_eq' n 33 (fun c1 => pk_eq' n 65 (fun c2 => no (by omega)) (fun c2 => ⟨fun c3 => yes (Or.inr ⟨c2, c3⟩), fun c3 => no (fun z => ?_)⟩) rfl rfl (by omega) (by omega)) (fun c1 => ⟨fun c2 => yes (Or.inl ⟨c1, Or.inl c2⟩), fun c2 => ⟨fun c3 => yes (Or.inl ⟨c1, Or.inr c3⟩), fun c3 => no (fun z => ?_)⟩⟩) rfl rfl (by omega) (by omega)
    · rcases z with z | z
      · exact c1 z.1
      · exact c3 z.2
    · rcases z with z | z
      · exact z.2.elim c2 c3
      · omega
  · subst c0
    refine ⟨fun _ => ⟨fun _ => no (by omega), fun c => absurd c (by decide)⟩, fun c => absurd c (by decide)⟩
end Dc

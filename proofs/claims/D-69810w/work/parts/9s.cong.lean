/-! what reads the first bytes of a row alone -/
set_option maxRecDepth 100000
/-- two rows are alike below n -/
def eqN (n : Nat) (C C' : List Int32) : Prop := ∀ i, i < n → C.getD i 0 = C'.getD i 0
section Cong
variable {C C' g : List Int32} {n e i j k : Nat}
theorem eqN.ub (h : eqN n C C') (hi : i < n) : ub C i = ub C' i := by
  show u32 (C.getD i 0) % 256 = u32 (C'.getD i 0) % 256
  rw [h i hi]
theorem eqN.le (h : eqN n C C') (hk : k ≤ n) : eqN k C C' := fun i hi => h i (by omega)
theorem eqN.sb (C : List Int32) (n : Nat) : eqN n C (sub_ C 0 n) := fun i hi => by
  rw [sub_getD hi, Nat.zero_add]
theorem eqN.symm (h : eqN n C C') : eqN n C' C := fun i hi => (h i hi).symm
theorem leV_cg (h : eqN n C C') (hi : i + k ≤ n) : leV C i k = leV C' i k := dv8_congr (fun j hj => h.ub (by omega))
theorem beV_cg (h : eqN n C C') (hi : i + k ≤ n) : beV C i k = beV C' i k := dv8_congr (fun j hj => h.ub (by omega))
theorem sub_cg (h : eqN n C C') (hi : i + k ≤ n) : sub_ C i k = sub_ C' i k := by
  refine ext_getD (z := 0) (by rw [sub_len, sub_len]) (fun j hj => ?_)
  rw [sub_len] at hj
  rw [sub_getD hj, sub_getD hj]
  exact h _ (by omega)
theorem opLen_cg (h : eqN e C C') (hi : i < e) : opLen C i e = opLen C' i e := by
  have hu := h.ub hi
  have hp := opHd_pos (ub C' i)
  unfold opLen
  rw [hu]
  by_cases c : i + opHd (ub C' i) ≤ e
  · have : opSz C i = opSz C' i := by
      unfold opSz
      rw [hu, leV_cg h (by omega)]
    rw [this]
  · rw [if_pos (by omega), if_pos (by omega)]
theorem pieceP_cg (h : eqN e C C') (hi : i < e) : pieceP C e i = pieceP C' e i := by
  unfold pieceP
  rw [opLen_cg h hi]
theorem metB_cg (h : eqN n C C') : metB C n i g = metB C' n i g := by
  have hp := hdG_pos g
  unfold metB
  by_cases c : i + hdG g + g.length ≤ n
  · have s : sameB C (i + hdG g) g = sameB C' (i + hdG g) g := by
      unfold sameB
      rw [sub_cg h (by omega)]
    rw [s, h.ub (show i < n by omega)]
    by_cases d : g.length < 76
    · rw [if_pos d, if_pos d]
    · rw [if_neg d, if_neg d]
      have : hdG g = 2 := by
        unfold hdG
        rw [if_neg d]
      rw [h.ub (show i + 1 < n by omega)]
  · rw [decide_eq_false c, Bool.false_and, Bool.false_and, Bool.false_and, Bool.false_and]
theorem clnF_cg (h : eqN n C C') : ∀ k i, clnF C n g k i = clnF C' n g k i
  | 0, _ => rfl
  | k + 1, i => by
    unfold clnF
    by_cases c : n ≤ i
    · rw [if_pos c, if_pos c]
    · have hp := pieceP_le (C := C') (n := n) (i := i) (by omega)
      rw [if_neg c, if_neg c, metB_cg h, clnF_cg h k, pieceP_cg h (by omega), sub_cg h hp.2, clnF_cg h k]
theorem clnP_cg (h : eqN n C C') : clnP C n g = clnP C' n g := clnF_cg h n 0
theorem unmF_cg (h : eqN e C C') : ∀ k i, unmF C e k i = unmF C' e k i
  | 0, _ => rfl
  | k + 1, i => by
    unfold unmF
    by_cases c : e ≤ i
    · rw [if_pos c, if_pos c]
    · have hp := pieceP_le (C := C') (n := e) (i := i) (by omega)
      rw [if_neg c, if_neg c, h.ub (by omega), pieceP_cg h (by omega), sub_cg h hp.2, unmF_cg h k]
theorem unmP_cg (h : eqN e C C') : unmP C e i = unmP C' e i := unmF_cg h _ _
theorem intP_cg (h : eqN e C C') : intP C i e = intP C' i e := by
  unfold intP
  by_cases c : e < i + 2
  · rw [if_pos (Or.inl c), if_pos (Or.inl c)]
  · rw [h.ub (show i < e by omega), h.ub (show i + 1 < e by omega)]
    by_cases c2 : ub C' (i + 1) = 0 ∨ e < i + 2 + ub C' (i + 1)
    · have t : ∀ P : Prop, (ub C' (i + 1) = 0 ∨ 128 ≤ ub C' (i + 1) ∨ e < i + 2 + ub C' (i + 1) ∨ P) := fun P => by
        rcases c2 with c2 | c2
        · exact Or.inl c2
        · exact Or.inr (Or.inr (Or.inl c2))
      rw [if_pos (t (128 ≤ ub C (i + 2))), if_pos (t (128 ≤ ub C' (i + 2)))]
    · have n1 : ub C' (i + 1) ≠ 0 := fun z => c2 (Or.inl z)
      have n2 : i + 2 + ub C' (i + 1) ≤ e := by
        have : ¬ e < i + 2 + ub C' (i + 1) := fun z => c2 (Or.inr z)
        omega
      rw [h.ub (show i + 2 < e by omega)]
      by_cases c3 : 1 < ub C' (i + 1)
      · rw [h.ub (show i + 3 < e by omega)]
      · rw [if_neg (c := 1 < ub C' (i + 1) ∧ ub C' (i + 2) = 0 ∧ ub C (i + 3) < 128) (fun z => c3 z.1), if_neg (c := 1 < ub C' (i + 1) ∧ ub C' (i + 2) = 0 ∧ ub C' (i + 3) < 128) (fun z => c3 z.1)]
theorem strictP_cg (h : eqN n C C') : strictP C 0 n = strictP C' 0 n := by
  unfold strictP
  by_cases c : 9 ≤ n
  · have h1 : eqN (0 + n - 1) C C' := h.le (by omega)
    rw [h.ub (show 0 < n by omega), h.ub (show 0 + 1 < n by omega), intP_cg h1, intP_cg h1]
  · rw [decide_eq_false (fun z => c z.1), decide_eq_false (fun z => c z.1)]
theorem keyF_cg {p : Nat} (h : eqN n C C') : keyF p C n = keyF p C' n := by
  unfold keyF
  by_cases c : n = 33 ∨ n = 65
  · rw [h 0 (by omega), beV_cg (i := 1) (k := 32) h (by omega)]
    by_cases c2 : n = 65
    · rw [beV_cg (i := 33) (k := 32) h (by omega)]
    · rw [if_neg (c := n = 65) c2, if_neg (c := n = 65) c2]
  · have t : ∀ D : List Int32, ¬ ((n = 33 ∧ (D.getD 0 0 = 2 ∨ D.getD 0 0 = 3)) ∨ (n = 65 ∧ D.getD 0 0 = 4)) := fun D z => by
      rcases z with z | z
      · exact c (Or.inl z.1)
      · exact c (Or.inr z.1)
    rw [if_pos (t C), if_pos (t C')]
theorem okS_cg {p N r s m : Nat} {Bp : Pt} (h : eqN n C C') : okS p N Bp C n r s m ↔ okS p N Bp C' n r s m := by
  unfold okS
  rw [keyF_cg h]
theorem sgV_cg (h : eqN n C C') (hi : i + k ≤ n) : sgV C i k = sgV C' i k := by
  unfold sgV
  rw [beV_cg h hi]
end Cong
/-- the numbers of a strict signature lie within it -/
theorem strictP_in {g : List Int32} (hs : strictP g 0 g.length = true) : 9 ≤ g.length ∧ 1 ≤ ub g 3 ∧ ub g 3 < 128 ∧ 1 ≤ ub g (5 + ub g 3) ∧ ub g (5 + ub g 3) < 128 ∧ 6 + ub g 3 + ub g (5 + ub g 3) + 1 = g.length := by
  unfold strictP at hs
  have hs := of_decide_eq_true hs
  simp only [Nat.zero_add] at hs
  obtain ⟨h1, h2, h3, h4, h5, h6, h7⟩ := hs
  have i1 : intP g 2 (g.length - 1) = ub g 3 + 2 ∧ 1 ≤ ub g 3 ∧ ub g 3 < 128 := by
    unfold intP at h5 ⊢
    split at h5
    · exact absurd rfl h5
    · rename_i c1
      split at h5
      · exact absurd rfl h5
      · rename_i c2
        split at h5
        · exact absurd rfl h5
        · rename_i c3
          rw [if_neg c1, if_neg c2, if_neg c3]
          have c2 : ¬ (ub g 3 = 0 ∨ 128 ≤ ub g 3 ∨ g.length - 1 < 2 + 2 + ub g 3 ∨ 128 ≤ ub g 4) := c2
          exact ⟨rfl, by omega, by omega⟩
  rw [i1.1] at h6 h7
  have i2 : intP g (2 + (ub g 3 + 2)) (g.length - 1) = ub g (5 + ub g 3) + 2 ∧ 1 ≤ ub g (5 + ub g 3) ∧ ub g (5 + ub g 3) < 128 := by
    have e5 : 2 + (ub g 3 + 2) + 1 = 5 + ub g 3 := by omega
    unfold intP at h6 ⊢
    rw [e5] at h6 ⊢
    split at h6
    · exact absurd rfl h6
    · rename_i c1
      split at h6
      · exact absurd rfl h6
      · rename_i c2
        split at h6
        · exact absurd rfl h6
        · rename_i c3
          rw [if_neg c1, if_neg c2, if_neg c3]
          exact ⟨rfl, by omega, by omega⟩
  rw [i2.1] at h7
  exact ⟨h1, i1.2.1, i1.2.2, i2.2.1, i2.2.2, by omega⟩
/-- a signature is right, as a question with two answers -/
def vrB (p N : Nat) (Bp Kp_ : Pt) (r s e : Nat) : Bool := decide (r ≠ 0) && decide (s ≠ 0) && decide (r < N) && decide (s < N) && decide ((vrS p N Bp Kp_ r s e).2.2 ≠ 0) && decide ((plF p (vrS p N Bp Kp_ r s e)).1 % N = r)
theorem vrB_iff {p N : Nat} {Bp Kp_ : Pt} {r s e : Nat} : vrB p N Bp Kp_ r s e = true ↔ vrF p N Bp Kp_ r s e := by
  unfold vrB vrF
  simp only [Bool.and_eq_true, decide_eq_true_eq, and_assoc]
def okB (p N : Nat) (Bp : Pt) (L : List Int32) (n r s e : Nat) : Bool := match keyF p L n with
  | none => false
  | some P => vrB p N Bp (P.1, P.2, 1) r s e
theorem okB_iff {p N : Nat} {Bp : Pt} {L : List Int32} {n r s e : Nat} : okB p N Bp L n r s e = true ↔ okS p N Bp L n r s e := by
  unfold okB okS
  cases h : keyF p L n with
  | none => exact ⟨fun z => absurd (show false = true from z) (by decide), fun ⟨P, z, _⟩ => by cases z⟩
  | some P => exact ⟨fun z => ⟨P, rfl, vrB_iff.mp z⟩, fun ⟨Q, z, w⟩ => by
      cases z
      exact vrB_iff.mpr w⟩
/-- whether a signature g is empty or in strict form -/
def encB (g : List Int32) : Bool := decide (g.length = 0) || strictP g 0 g.length
/-- whether the signature g of the key k is right over the code c -/
def sigB (p N : Nat) (Bp : Pt) (K B L : List Int32) (t : TxP) (inp : Nat) (g k c : List Int32) : Bool :=
  okB p N Bp k k.length (sgV g 4 (ub g 3)) (sgV g (6 + ub g 3) (ub g (5 + ub g 3))) (beV (mkP K B L t inp (ub g (g.length - 1)) (unmP c c.length 0)) 0 32)

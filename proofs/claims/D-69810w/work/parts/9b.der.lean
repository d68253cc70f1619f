/-! signatures in their strict form, by the component -/
set_option maxRecDepth 100000
theorem gb {L : List Int32} (hB : isB L) (i : Nat) : L.getD i 0 = bI (ub L i) := (byte_bI (hB i)).symm
theorem bI_2 : ∀ n, n < 256 → (bI n = 2 ↔ n = 2) := by decide +kernel
theorem bI_48 : ∀ n, n < 256 → (bI n = 48 ↔ n = 48) := by decide +kernel
theorem bI_lt1 : ∀ n, n < 256 → (bI n < 1 ↔ (n = 0 ∨ 128 ≤ n)) := by decide +kernel
theorem bI_nn : ∀ n, n < 256 → (0 ≤ bI n ↔ n < 128) := by decide +kernel
theorem bI_0' : ∀ n, n < 256 → (bI n = 0 ↔ n = 0) := by decide +kernel
theorem bI_lt0 : ∀ n, n < 256 → (bI n < 0 ↔ 128 ≤ n) := by decide +kernel
theorem bI_sm : ∀ n, n < 128 → bI n = nI n := by decide +kernel
theorem bI_ne : ∀ n, n < 256 → ∀ k, k < 128 → (bI n = nI k ↔ n = k) := by decide +kernel
/-- an integer at i, of bytes that end at e: how many it takes, 0 if it is none -/
def intP (L : List Int32) (i e : Nat) : Nat := if e < i + 2 ∨ ub L i ≠ 2 then 0 else if ub L (i + 1) = 0 ∨ 128 ≤ ub L (i + 1) ∨ e < i + 2 + ub L (i + 1) ∨ 128 ≤ ub L (i + 2) then 0 else if 1 < ub L (i + 1) ∧ ub L (i + 2) = 0 ∧ ub L (i + 3) < 128 then 0 else ub L (i + 1) + 2
theorem intP_le (L : List Int32) (i e : Nat) : intP L i e = 0 ∨ (3 ≤ intP L i e ∧ intP L i e ≤ 129 ∧ i + intP L i e ≤ e) := by
  unfold intP
  split
  · exact Or.inl rfl
  · split
    · exact Or.inl rfl
    · split
      · exact Or.inl rfl
      · exact Or.inr ⟨by omega, by omega, by omega⟩
def strictP (L : List Int32) (o n : Nat) : Bool := decide (9 ≤ n ∧ n ≤ 73 ∧ ub L o = 48 ∧ ub L (o + 1) = n - 3 ∧ intP L (o + 2) (o + n - 1) ≠ 0 ∧ intP L (o + 2 + intP L (o + 2) (o + n - 1)) (o + n - 1) ≠ 0 ∧ o + 2 + intP L (o + 2) (o + n - 1) + intP L (o + 2 + intP L (o + 2) (o + n - 1)) (o + n - 1) = o + n - 1)
section Der
variable {G : Gx} {d : Nat} {h : AH} {a i e : Nat}
theorem Cv_integer_spec (hd : 1 ≤ d) (ka : h.kd a = 101) (hl : e ≤ (h.ai a).length) (hl2 : (h.ai a).length < 2 ^ 30) (hi : i < 2 ^ 30) : Cw G mX3_integer d 0 [vR a, vI (nI i), vI (nI e)] h (kI (fun x h' => x = nI (intP (h.ai a) i e) ∧ h' = h) nE) := by
  obtain ⟨d, rfl⟩ : ∃ d', d = d' + 1 := ⟨d - 1, by omega⟩
  refine eX3_integer h a (nI i) (nI e) (fun wf => sX3_integer_0 h a (nI i) (nI e) ?_)
  have hB := wf.isB ka
  have u0 := ub_lt (h.ai a) i
  have u1 := ub_lt (h.ai a) (i + 1)
  have u2 := ub_lt (h.ai a) (i + 2)
  have u3 := ub_lt (h.ai a) (i + 3)
  rw [show (2 : Int32) = nI 2 from rfl, nI_add]
  refine pk_lt e (i + 2) (fun c => ⟨by unfold intP; rw [if_pos (Or.inl c)]; rfl, rfl⟩) (fun c => ⟨ka, ?_⟩)
  rw [pk_cl i rfl (by omega), nI_1, pk_cl (i + 1) rfl (by omega), pk_cl (i + 2) rfl (by omega), show (3 : Int32) = nI 3 from rfl, nI_add, pk_cl (i + 3) rfl (by omega), gb hB, gb hB, gb hB, gb hB]
  refine ⟨pk_in i _ (by omega), fun c2 => ⟨pk_in (i + 1) _ (by omega), fun u6 e6 => ?_⟩, fun c2 => ⟨?_, rfl⟩⟩
  · have c2' := (bI_2 _ u0).mp c2
    subst e6
    rw [bI_lt1 _ u1]
    refine ⟨fun c3 => ⟨?_, rfl⟩, fun c3 => ?_⟩
    · unfold intP
      rw [if_neg (by omega), if_pos (by omega)]
      rfl
    · rw [bI_sm _ (by omega), nI_add, nI_add]
      refine pk_lt e (i + 2 + ub (h.ai a) (i + 1)) (fun c4 => ⟨?_, rfl⟩) (fun c4 => ⟨pk_in (i + 2) _ (by omega), ?_⟩)
      · unfold intP
        rw [if_neg (by omega), if_pos (by omega)]
        rfl
      · rw [bI_nn _ u2, bI_0' _ u2, bI_lt0 _ u3]
        refine ⟨fun c5 => pk_le (ub (h.ai a) (i + 1)) 1 (fun c6 => ⟨?_, rfl⟩) (fun c6 => ⟨pk_in (i + 2) _ (by omega), fun c7 => ⟨?_, rfl⟩, fun c7 => ⟨pk_in (i + 3) _ (by omega), fun c8 => ⟨?_, rfl⟩, fun c8 => ⟨?_, rfl⟩⟩⟩), fun c5 => ⟨?_, rfl⟩⟩
        · unfold intP
          rw [if_neg (by omega), if_neg (by omega), if_neg (by omega)]
        · unfold intP
          rw [if_neg (by omega), if_neg (by omega), if_neg (by omega)]
        · unfold intP
          rw [if_neg (by omega), if_neg (by omega), if_neg (by omega)]
        · unfold intP
          rw [if_neg (by omega), if_neg (by omega), if_pos (by omega)]
          rfl
        · unfold intP
          rw [if_neg (by omega), if_pos (by omega)]
          rfl
  · unfold intP
    rw [if_pos (Or.inr (fun z => c2 ((bI_2 _ u0).mpr z)))]
    rfl
theorem Cv_strict_spec {o n : Nat} (hd : 2 ≤ d) (ka : h.kd a = 101) (hl : o + n ≤ (h.ai a).length) (hl2 : (h.ai a).length < 2 ^ 30) : Cw G mX3_strict d 0 [vR a, vI (nI o), vI (nI n)] h (kI (fun x h' => x = (if strictP (h.ai a) o n = true then 1 else 0) ∧ h' = h) nE) := by
  obtain ⟨d, rfl⟩ : ∃ d', d = d' + 1 := ⟨d - 1, by omega⟩
  refine eX3_strict h a (nI o) (nI n) (fun wf => sX3_strict_0 h a (nI o) (nI n) ?_)
  have hB := wf.isB ka
  have u0 := ub_lt (h.ai a) o
  have u1 := ub_lt (h.ai a) (o + 1)
  have no : ∀ {P : Prop}, ¬ (9 ≤ n ∧ n ≤ 73 ∧ ub (h.ai a) o = 48 ∧ ub (h.ai a) (o + 1) = n - 3 ∧ intP (h.ai a) (o + 2) (o + n - 1) ≠ 0 ∧ intP (h.ai a) (o + 2 + intP (h.ai a) (o + 2) (o + n - 1)) (o + n - 1) ≠ 0 ∧ o + 2 + intP (h.ai a) (o + 2) (o + n - 1) + intP (h.ai a) (o + 2 + intP (h.ai a) (o + 2) (o + n - 1)) (o + n - 1) = o + n - 1) → (0 : Int32) = (if strictP (h.ai a) o n = true then 1 else 0) := fun z => by
    unfold strictP
    rw [decide_eq_false z]
    rfl
  refine pk_lt n 9 (fun c => ⟨no (P := True) (by omega), rfl⟩) (fun c => pk_lt 73 n (fun c2 => ⟨no (P := True) (by omega), rfl⟩) (fun c2 => ⟨ka, ?_⟩))
  rw [pk_cl o rfl (by omega), nI_1, pk_cl (o + 1) rfl (by omega), gb hB, gb hB, show (48 : Int32) = nI 48 from rfl, bI_ne _ u0 48 (by decide), show (3 : Int32) = nI 3 from rfl, pk_sub (by omega), bI_ne _ u1 (n - 3) (by omega), show (2 : Int32) = nI 2 from rfl, nI_add, nI_add, show (1 : Int32) = nI 1 from rfl, pk_sub (by omega)]
  refine ⟨pk_in o _ (by omega), fun c3 => ⟨no (P := True) (by omega), rfl⟩, fun c3 => ⟨pk_in (o + 1) _ (by omega), fun c4 => (Cv_integer_spec (by omega) ka (by omega) hl2 (by omega)).nI (fun x8 h9 Q => ?_), fun c4 => ⟨no (P := True) (by omega), rfl⟩⟩⟩
  obtain ⟨rfl, rfl⟩ := Q
  have w1 := intP_le (h9.ai a) (o + 2) (o + n - 1)
  generalize e1 : intP (h9.ai a) (o + 2) (o + n - 1) = f1 at *
  rw [nI_add]
  refine pk_eq' f1 0 (fun c5 => (Cv_integer_spec (by omega) ka (by omega) hl2 (by omega)).nI (fun x11 h12 Q => ?_)) (fun c5 => ⟨no (P := True) (by omega), rfl⟩)
  obtain ⟨rfl, rfl⟩ := Q
  have w2 := intP_le (h12.ai a) (o + 2 + f1) (o + n - 1)
  generalize e2 : intP (h12.ai a) (o + 2 + f1) (o + n - 1) = f2 at *
  rw [nI_add]
  refine pk_le f2 0 (fun c6 => ⟨no (P := True) (by omega), rfl⟩) (fun c6 => pk_eq' (o + 2 + f1 + f2) (o + n - 1) (fun c7 => ⟨no (P := True) (by omega), rfl⟩) (fun c7 => ⟨?_, rfl⟩))
  unfold strictP
  rw [decide_eq_true (by rw [e1, e2]; omega)]
  rfl
end Der

/-! what is signed, by the component: the code without its marks -/
set_option maxRecDepth 100000
def unmF (C : List Int32) (e : Nat) : Nat → Nat → List Int32
  | 0, _ => []
  | k + 1, i => if e ≤ i then [] else (if ub C i = 171 then [] else sub_ C i (pieceP C e i)) ++ unmF C e k (i + pieceP C e i)
theorem unmF_more (C : List Int32) (e : Nat) : ∀ k i j, e ≤ i + k → unmF C e (k + j) i = unmF C e k i
  | 0, i, j, h => by
    cases j with
    | zero => rfl
    | succ j =>
      rw [Nat.zero_add]
      show (if e ≤ i then [] else _) = []
      rw [if_pos (by omega)]
  | k + 1, i, j, h => by
    rw [show k + 1 + j = (k + j) + 1 by omega, unmF, unmF]
    by_cases c : e ≤ i
    · rw [if_pos c, if_pos c]
    · have := pieceP_le (C := C) (n := e) (i := i) (by omega)
      rw [if_neg c, if_neg c, unmF_more C e k _ j (by omega)]
/-- the code from i to e without its marks -/
def unmP (C : List Int32) (e i : Nat) : List Int32 := unmF C e (e - i) i
theorem unmP_end {C : List Int32} {e i : Nat} (h : e ≤ i) : unmP C e i = [] := by
  unfold unmP
  rw [show e - i = 0 by omega]
  rfl
theorem unmP_step {C : List Int32} {e i : Nat} (h : i < e) : unmP C e i = (if ub C i = 171 then [] else sub_ C i (pieceP C e i)) ++ unmP C e (i + pieceP C e i) := by
  have hp := pieceP_le (C := C) (n := e) (i := i) h
  unfold unmP
  obtain ⟨m, hm⟩ : ∃ m, e - i = m + 1 := ⟨e - i - 1, by omega⟩
  rw [hm, unmF, if_neg (by omega)]
  have := unmF_more C e (e - (i + pieceP C e i)) (i + pieceP C e i) (m - (e - (i + pieceP C e i))) (by omega)
  rw [show e - (i + pieceP C e i) + (m - (e - (i + pieceP C e i))) = m by omega] at this
  rw [this]
theorem unmP_len (C : List Int32) (e : Nat) : ∀ k i, e - i ≤ k → (unmP C e i).length ≤ e - i
  | 0, i, h => by rw [unmP_end (by omega)]; simp
  | k + 1, i, h => by
    by_cases c : e ≤ i
    · rw [unmP_end c]; simp
    · have hp := pieceP_le (C := C) (n := e) (i := i) (by omega)
      have := unmP_len C e k (i + pieceP C e i) (by omega)
      rw [unmP_step (by omega), List.length_append]
      split
      · simp only [List.length_nil]; omega
      · rw [sub_len]; omega
theorem cntB_len (n : Nat) : (cntB n).length ≤ 3 := by
  unfold cntB
  split
  · rw [lay_len]; omega
  · rw [List.length_append, lay_len, lay_len]
    omega
section Sig2
variable {G : Gx} {d : Nat} {h : AH} {Sg : Nat} {W acc : List Int32}
theorem Sg_step_spec {a i e : Nat} (hd : 2 ≤ d) (ka : h.kd a = 101) (hi : i < e) (hl : e ≤ (h.ai a).length) (hl2 : (h.ai a).length < 2 ^ 20) : Cw G mX8_step d 0 [vR a, vI (nI i), vI (nI e)] h (kI (fun x h' => x = nI (pieceP (h.ai a) e i) ∧ h' = h) nE) := by
  obtain ⟨d, rfl⟩ : ∃ d', d = d' + 1 := ⟨d - 1, by omega⟩
  refine eX8_step h a (nI i) (nI e) (fun w => sX8_step_0 h a (nI i) (nI e) ((Mc_length_spec (by omega) ka hi hl hl2).nI (fun x h2 Q => ?_)))
  obtain ⟨rfl, rfl⟩ := Q
  have hle := opLen_le (L := h2.ai a) (i := i) (e := e)
  refine pk_eq' (opLen (h2.ai a) i e) 0 (fun z => ⟨?_, rfl⟩) (fun z => ⟨?_, rfl⟩) rfl rfl (by omega) (by omega)
  · unfold pieceP; rw [if_neg z]
  · rw [pk_sub (by omega)]
    unfold pieceP; rw [if_pos z]
theorem Sg_code_spec {a off n : Nat} (hd : 3 ≤ d) (B : SgB h Sg) (R : SgR W acc) (ka : h.kd a = 101) (na : a ≠ Sg + 1) (hl : off + n ≤ (h.ai a).length) (hl2 : (h.ai a).length < 2 ^ 16) (hn : acc.length + 3 + n ≤ 6400) : Cw G mX8_code d 0 [vR Sg, vR a, vI (nI off), vI (nI n)] (sgH h Sg W acc.length) (kV (fun h' => ∃ V, SgR V (acc ++ (cntB (unmP (h.ai a) (off + n) off).length ++ unmP (h.ai a) (off + n) off)) ∧ h' = sgH h Sg V (acc ++ (cntB (unmP (h.ai a) (off + n) off).length ++ unmP (h.ai a) (off + n) off)).length) nE) := by
  obtain ⟨d, rfl⟩ : ∃ d', d = d' + 1 := ⟨d - 1, by omega⟩
  refine eX8_code (sgH h Sg W acc.length) Sg a (nI off) (nI n) (fun w => sX8_code_0 _ Sg a (nI off) (nI n) ?_)
  have eA : ∀ {V : List Int32} {m : Nat}, (sgH h Sg V m).ai a = h.ai a := sgH_N na
  generalize eC : h.ai a = C at *
  generalize eE : off + n = e at *
  generalize eU : unmP C e off = U at *
  have lU : U.length ≤ n := by rw [← eU]; have := unmP_len C e (e - off) off (Nat.le_refl _); omega
  have lc := cntB_len U.length
  rw [nI_add, eE]
  have second : ∀ V, SgR V (acc ++ cntB U.length) → Aw G mX8_code (d + 1) 0 (sgH h Sg W acc.length) (kV (fun h' => ∃ V, SgR V (acc ++ (cntB U.length ++ U)) ∧ h' = sgH h Sg V (acc ++ (cntB U.length ++ U)).length) nE) 70 [vR Sg, vR a, vU, vU, vU, vI (nI e), vI (nI off)] [] (sgH h Sg V (acc ++ cntB U.length).length) := fun V RV => by
    refine loop_wf (P := fun y : List Int32 × List Int32 × Nat => Aw G mX8_code (d + 1) 0 (sgH h Sg W acc.length) (kV (fun h' => ∃ V, SgR V (acc ++ (cntB U.length ++ U)) ∧ h' = sgH h Sg V (acc ++ (cntB U.length ++ U)).length) nE) 70 [vR Sg, vR a, vU, vU, vU, vI (nI e), vI (nI y.2.2)] [] (sgH h Sg y.1 y.2.1.length))
      (fun y => e - y.2.2) (fun y => SgR y.1 y.2.1 ∧ off ≤ y.2.2 ∧ y.2.2 ≤ e ∧ acc ++ (cntB U.length ++ U) = y.2.1 ++ unmP C e y.2.2) (fun y hI ih => ?_) (V, acc ++ cntB U.length, off) ⟨RV, Nat.le_refl _, by dsimp only; omega, by dsimp only; rw [eU, List.append_assoc]⟩
    obtain ⟨T, x, i⟩ := y
    obtain ⟨RT, h1, h2, hP⟩ := hI
    dsimp only at RT h1 h2 hP ih ⊢
    refine sX8_code_70 _ Sg a (nI e) (nI i) (pk_le e i (fun c => ?_) (fun c => ?_))
    · rw [unmP_end c, List.append_nil] at hP
      rw [hP]
      exact ⟨T, RT, rfl⟩
    · have hp := pieceP_le (C := C) (n := e) (i := i) (by omega)
      have hPl := congrArg List.length hP
      have hPs := hP
      rw [unmP_step (by omega)] at hP
      rw [eA, pk_cl i rfl (by omega), and_ub]
      have u0 := ub_lt C i
      refine ⟨ka, pk_in i _ (by omega), pk_eq' (ub C i) 171 (fun z => ?_) (fun z => ?_) rfl rfl (by omega) (by omega) |>.symm⟩
      · refine (Sg_step_spec (h := sgH h Sg T x.length) (d := d) (by omega) ka (by omega) (by rw [eA]; exact hl) (by rw [eA]; omega)).nI (fun x7 h8 Q => ?_)
        obtain ⟨rfl, rfl⟩ := Q
        rw [eA]
        have hs : x ++ ((if ub C i = 171 then [] else sub_ C i (pieceP C e i)) ++ unmP C e (i + pieceP C e i)) = (x ++ sub_ C i (pieceP C e i)) ++ unmP C e (i + pieceP C e i) := by rw [if_neg z, List.append_assoc]
        rw [hs] at hP
        have hl3 : x.length + pieceP C e i ≤ 6400 := by
          have := congrArg List.length hP
          rw [List.length_append, List.length_append, List.length_append, List.length_append, sub_len] at this
          omega
        have cp := Sg_copy_spec (G := G) (d := d) (off := i) (n := pieceP C e i) (by omega) B RT ka na (by rw [eC]; omega) (by rw [eC]; omega) hl3
        rw [eC] at cp
        refine ⟨B.1, cp.nV (fun h10 Q => ?_)⟩
        obtain ⟨V2, RV2, rfl⟩ := Q
        refine (Sg_step_spec (h := sgH h Sg V2 _) (d := d) (by omega) ka (by omega) (by rw [eA]; exact hl) (by rw [eA]; omega)).nI (fun x12 h13 Q => ?_)
        obtain ⟨rfl, rfl⟩ := Q
        rw [eA, nI_add]
        exact ih (V2, x ++ sub_ C i (pieceP C e i), i + pieceP C e i) ⟨RV2, by dsimp only; omega, hp.2, hP⟩ (by dsimp only; omega)
      · refine (Sg_step_spec (h := sgH h Sg T x.length) (d := d) (by omega) ka (by omega) (by rw [eA]; exact hl) (by rw [eA]; omega)).nI (fun x7 h8 Q => ?_)
        obtain ⟨rfl, rfl⟩ := Q
        rw [eA, nI_add]
        rw [if_pos z, List.nil_append] at hP
        exact ih (T, x, i + pieceP C e i) ⟨RT, by dsimp only; omega, hp.2, hP⟩ (by dsimp only; omega)
  refine loop_wf (P := fun y : Nat × Nat => Aw G mX8_code (d + 1) 0 (sgH h Sg W acc.length) (kV (fun h' => ∃ V, SgR V (acc ++ (cntB U.length ++ U)) ∧ h' = sgH h Sg V (acc ++ (cntB U.length ++ U)).length) nE) 11 [vR Sg, vR a, vI (nI off), vU, vI (nI y.1), vI (nI e), vI (nI y.2)] [] (sgH h Sg W acc.length))
    (fun y => e - y.2) (fun y => off ≤ y.2 ∧ y.2 ≤ e ∧ U.length = y.1 + (unmP C e y.2).length) (fun y hI ih => ?_) (0, off) ⟨Nat.le_refl _, by dsimp only; omega, by dsimp only; rw [eU]; omega⟩
  obtain ⟨k, i⟩ := y
  obtain ⟨h1, h2, hP⟩ := hI
  dsimp only at h1 h2 hP ih ⊢
  refine sX8_code_11 _ Sg a (nI off) (nI k) (nI e) (nI i) (pk_le e i (fun c => ⟨B.1, ?_⟩) (fun c => ?_))
  · rw [unmP_end c, List.length_nil, Nat.add_zero] at hP
    subst hP
    refine (Sg_count_spec (d := d) (by omega) B R (by omega) (by omega)).nV (fun h3 Q => ?_)
    obtain ⟨V, RV, rfl⟩ := Q
    exact second V RV
  · have hp := pieceP_le (C := C) (n := e) (i := i) (by omega)
    have hPs := hP
    rw [unmP_step (by omega)] at hP
    rw [eA, pk_cl i rfl (by omega), and_ub]
    have u0 := ub_lt C i
    have st := Sg_step_spec (G := G) (h := sgH h Sg W acc.length) (d := d) (a := a) (i := i) (e := e) (by omega) ka (by omega) (by rw [eA]; exact hl) (by rw [eA]; omega)
    rw [eA] at st
    refine ⟨ka, pk_in i _ (by omega), pk_eq' (ub C i) 171 (fun z => ?_) (fun z => ?_) rfl rfl (by omega) (by omega) |>.symm⟩
    · refine st.nI (fun x7 h8 Q => ?_)
      obtain ⟨rfl, rfl⟩ := Q
      refine st.nI (fun x7 h8 Q => ?_)
      obtain ⟨rfl, rfl⟩ := Q
      rw [nI_add, nI_add]
      refine ih (k + pieceP C e i, i + pieceP C e i) ⟨by dsimp only; omega, hp.2, ?_⟩ (by dsimp only; omega)
      have : (if ub C i = 171 then [] else sub_ C i (pieceP C e i)) = sub_ C i (pieceP C e i) := if_neg z
      rw [this, List.length_append, sub_len] at hP
      dsimp only
      omega
    · refine st.nI (fun x7 h8 Q => ?_)
      obtain ⟨rfl, rfl⟩ := Q
      rw [nI_add]
      refine ih (k, i + pieceP C e i) ⟨by dsimp only; omega, hp.2, ?_⟩ (by dsimp only; omega)
      rw [if_pos z, List.nil_append] at hP
      exact hP
end Sig2

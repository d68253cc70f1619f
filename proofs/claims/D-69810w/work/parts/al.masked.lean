/-! the reference: an operation with one signature -/
set_option maxRecDepth 100000
section MAsk
variable {G : Gx} {d : Nat} {hB h h' h0 : AH} {M Z F O p N I J pp a n j inp : Nat} {K B L : List Int32} {t : TxP} {Bp : Pt} {st alt : List (List Int32)} {fl : Bool}
/-- the frame of a run of the reference -/
def rmP (h : AH) (M Z F O y : Nat) : Prop := skP h M Z y ∨ goQ M Z F O y ∨ y = Z + 7
def rnK : List Nat := [24040, 24041, 24063, 24067, 24070, 24074, 24080, 24082, 24084, 24087, 24088, 24089, 24091]
def RnF (h h' : AH) (M Z F O : Nat) : Prop := Same (rmP h M Z F O) h h' ∧ (∀ y, y < h.z → inT h' Z y → inT h Z y) ∧ h'.z + nulM h' Z = h.z + nulM h Z ∧ h'.s + 520 * nulM h' Z = h.s + 520 * nulM h Z ∧ Kp rnK M h h'
theorem RnF.rf : RnF h h M Z F O := ⟨Same.rf, fun _ _ q => q, rfl, rfl, Kp.rf⟩
theorem RnF.trans {h2 : AH} (x : RnF h h' M Z F O) (y : RnF h' h2 M Z F O) : RnF h h2 M Z F O :=
  ⟨x.1.trans y.1 (fun q hq p => by
    rcases p with p | p
    · rcases p with p | p | p
      · exact Or.inl (Or.inl p)
      · exact Or.inl (Or.inr (Or.inl p))
      · exact Or.inl (Or.inr (Or.inr (x.2.1 q hq p)))
    · exact Or.inr p), fun q hq p => x.2.1 q hq (y.2.1 q (Nat.lt_of_lt_of_le hq x.1.1) p), y.2.2.1.trans x.2.2.1, y.2.2.2.1.trans x.2.2.2.1, x.2.2.2.2.trans y.2.2.2.2 (fun _ q => q)⟩
theorem k3_in {k : Nat} (q : k ∈ [24067, 24070, 24074]) : k ∈ rnK := by
  rcases List.mem_cons.mp q with q | q
  · rw [q]; decide
  · rcases List.mem_cons.mp q with q | q
    · rw [q]; decide
    · rw [List.mem_singleton.mp q]; decide
theorem k7_in {k : Nat} (q : k ∈ [24040, 24041, 24063, 24087, 24088, 24089, 24091]) : k ∈ rnK := by
  rcases List.mem_cons.mp q with q | q
  · rw [q]; decide
  · rcases List.mem_cons.mp q with q | q
    · rw [q]; decide
    · rcases List.mem_cons.mp q with q | q
      · rw [q]; decide
      · rcases List.mem_cons.mp q with q | q
        · rw [q]; decide
        · rcases List.mem_cons.mp q with q | q
          · rw [q]; decide
          · rcases List.mem_cons.mp q with q | q
            · rw [q]; decide
            · rw [List.mem_singleton.mp q]; decide
theorem SkF.rn (x : SkF h h' M Z) (k : Kp [24067, 24070, 24074] M h h') : RnF h h' M Z F O := ⟨x.1.mono (fun _ _ q => Or.inl q), x.2.1, x.2.2.1, x.2.2.2, fun j hj => k j (fun q => hj (k3_in q))⟩
theorem GoF.rn (x : GoF h h' M Z F O) (hM : M + 46 < Z ∧ Z + 12 < F ∧ F + 7 < O) (hz : Z + 12 < h.z) : RnF h h' M Z F O := by
  have ea : ∀ v, v < 3 → h'.ar (Z + 2 * v) = h.ar (Z + 2 * v) := fun v hv => x.1.ar (by omega) (fun q => (go_rng hM q).2.1 ⟨by omega, by omega⟩)
  have hn := nulM_eq ea
  refine ⟨x.1.mono (fun _ _ q => Or.inr (Or.inl q)), fun y _ q => ?_, by rw [x.2.1, hn], by rw [x.2.2.1, hn], fun j hj => x.2.2.2 j (fun q => hj (k7_in q))⟩
  obtain ⟨i, hi, h1, h2⟩ := q
  rw [rwA_eq ea (by omega)] at h1 h2
  exact ⟨i, hi, h1, h2⟩
/-- no row of the stacks is a row of a Parsed or of its bytes -/
theorem tb_no {y : Nat} (T : RwTb h Z) (hy : h.kd y ≠ 101 ∨ (h.ai y).length ≠ 520) : ¬ inT h Z y := fun q => by
  obtain ⟨i, hi, h1, h2⟩ := q
  have t := (T i (by omega) h1).1
  rw [h2] at t
  rcases hy with hy | hy
  · exact hy t.2.2.1
  · exact hy t.2.2.2.1
theorem PrS.no {q : Nat} (P : PrS h pp) (h1 : pp ≤ q) (h2 : q ≤ pp + 7) : h.kd q ≠ 101 ∨ (h.ai q).length ≠ 520 := by
  obtain ⟨a0, _, ⟨b1, b2, b3, b4, b5, b6, b7⟩, ⟨_, _, _, _, _, _, c7⟩⟩ := P
  by_cases z : q = pp + 7
  · right
    rw [z, c7]
    decide
  · left
    have : q = pp ∨ q = pp + 1 ∨ q = pp + 2 ∨ q = pp + 3 ∨ q = pp + 4 ∨ q = pp + 5 ∨ q = pp + 6 := by
      clear a0 b1 b2 b3 b4 b5 b6 b7 c7
      omega
    rcases this with q | q | q | q | q | q | q <;> rw [q]
    · rw [a0]; decide
    · rw [b1]; decide
    · rw [b2]; decide
    · rw [b3]; decide
    · rw [b4]; decide
    · rw [b5]; decide
    · rw [b6]; decide
def skK : List Nat := [24067, 24070, 24074, 24079, 24080, 24081, 24082, 24084]
theorem sk_no {j : Nat} (hj : j < 24067) : j ∉ skK := fun q => by
  unfold skK at q
  simp only [List.mem_cons, List.not_mem_nil, or_false] at q
  omega
theorem k3_sk {k : Nat} (q : k ∈ [24067, 24070, 24074]) : k ∈ skK := by
  rcases List.mem_cons.mp q with q | q
  · rw [q]; decide
  · rcases List.mem_cons.mp q with q | q
    · rw [q]; decide
    · rw [List.mem_singleton.mp q]; decide
/-- the stacks have moved: the rest stays -/
theorem MEnv.skb (E : MEnv h M Z F O p N I J pp a n j inp K B L t Bp) (H : MWk h M Z) (x : SkB h h' M Z) (k : Kp skK M h h') : MEnv h' M Z F O p N I J pp a n j inp K B L t Bp := by
  obtain ⟨E1, ⟨f, E2, f7, hB⟩, E3, ⟨c, cu, le, hc, C⟩, ⟨P1, P2, P3⟩, ⟨ka, eL⟩, ⟨i1, i2, i3⟩, ⟨z1, z2, z3⟩, tb⟩ := E
  have hM := E1.1
  have zz := x.1.1
  have low : ∀ y, y ≤ O + 7 → y ≠ M → ¬ (Z ≤ y ∧ y ≤ Z + 9) → eqAt h h' y := fun y h1 h2 h3 => x.1.2.2 y (by omega) (fun p => by
    rcases p with (p | p | p) | p
    · exact h2 p
    · exact h3 ⟨p.1, p.2.1⟩
    · have := tb y p
      omega
    · omega)
  have hi : ∀ y, O + 7 < y → y < h.z → (h.kd y ≠ 101 ∨ (h.ai y).length ≠ 520) → eqAt h h' y := fun y h1 h2 h3 => x.1.2.2 y h2 (fun p => by
    rcases p with (p | p | p) | p
    · omega
    · omega
    · exact tb_no H.2.1 h3 p
    · omega)
  have ep : ∀ q, pp ≤ q → q ≤ pp + 7 → eqAt h h' q := fun q h1 h2 => hi q (E1.2.2.2.1 q h1 h2) (by omega) (P1.no h1 h2)
  have ea := hi a E1.2.2.2.2.1 z2 (Or.inr (by rw [eL]; exact E1.2.2.2.2.2))
  have kM : h'.kd M = h.kd M := x.1.kd (by omega)
  have kr : ∀ j, j ∉ skK → h'.r j M = h.r j M := fun j hj => (k j hj).1
  have n3 : ∀ j, j < 24067 → j ∉ skK := fun j hj => sk_no hj
  have e10 := low (Z + 10) (by omega) (by omega) (by omega)
  have e11 := low (Z + 11) (by omega) (by omega) (by omega)
  have e46 := low (M + 46) (by omega) (by omega) (by omega)
  refine ⟨E1, ⟨f, E2.eqc kM (fun j hj => kr j (n3 j (by omega))) (fun y h1 h2 => low y (by omega) (by omega) (by omega)) e46.1 (by rw [e46.2.2.2.2.1]) (fun y h1 h2 => low y (by omega) (by omega) (by omega)) (fun y h1 h2 => low y h2 (by omega) (by omega)), f7, hB⟩, ⟨E3.1.kp kM k (fun j hj => n3 j (by omega)) (fun q h1 h2 => ?_), by rw [(low (M + 5) (by omega) (by omega) (by omega)).2.2.2.2.1]; exact E3.2.1, by rw [(low (M + 4) (by omega) (by omega) (by omega)).2.2.2.2.1]; exact E3.2.2⟩, ⟨c, cu, le, hc, ?_⟩, ⟨P1.eqc ep, ((ep pp (by omega) (by omega)).2.1 _).trans P2, P3.eqc ep⟩, ⟨ea.1.trans ka, ea.2.2.2.2.1.trans eL⟩, ⟨(kr 24076 (by decide)).trans i1, (k 24077 (by decide)).2.1.trans i2, (k 24078 (by decide)).2.1.trans i3⟩, ⟨by omega, by omega, by omega⟩, fun y q => ?_⟩
  · have e := low q (by omega) (by omega) (by omega)
    exact ⟨e.1, by rw [e.2.2.2.2.1]⟩
  · have ec : eqAt h h' cu := by
      rcases hc with q | q
      · rw [q.1]; exact e10
      · rw [q.1]; exact e11
    have el : eqAt h h' le := by
      rcases hc with q | q
      · rw [q.2]; exact e11
      · rw [q.2]; exact e10
    obtain ⟨d1, d2, d3, d4, d5, d6, d7, d8, d9, d10, d11⟩ := C
    exact ⟨kM.trans d1, (kr _ (by decide)).trans d2, (kr _ (by decide)).trans d3, d4, ec.1.trans d5, el.1.trans d6, by rw [ec.2.2.2.2.1]; exact d7, by rw [el.2.2.2.2.1]; exact d8, (k _ (by decide)).2.1.trans d9, d10, by rw [ec.2.2.2.2.1]; exact d11⟩
  · by_cases c2 : y < h.z
    · exact tb y (x.2.1 y c2 q)
    · omega
theorem MEnv.sk (E : MEnv h M Z F O p N I J pp a n j inp K B L t Bp) (H : MWk h M Z) (x : SkF h h' M Z) (k : Kp [24067, 24070, 24074] M h h') : MEnv h' M Z F O p N I J pp a n j inp K B L t Bp := E.skb H x.b (fun j hj => k j (fun q => hj (k3_sk q)))
end MAsk

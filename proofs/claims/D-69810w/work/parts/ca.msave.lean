/-! the reference: what stays where a stack is saved -/
set_option maxRecDepth 100000
section MSave
variable {G : Gx} {d : Nat} {hB h h' h0 : AH} {M Z F O p N I J pp a n j inp : Nat} {K B L : List Int32} {t : TxP} {Bp : Pt} {st alt : List (List Int32)} {fl : Bool}
/-- rows of the machine and rows of bytes of its stacks have moved: the rest stays -/
theorem MEnv.gen {P : Nat → Prop} {ks : List Nat} (E : MEnv h M Z F O p N I J pp a n j inp K B L t Bp) (x : Same P h h') (hP : ∀ y, P y → y = M ∨ (Z ≤ y ∧ y ≤ Z + 9) ∨ (O + 7 < y ∧ h.kd y = 101 ∧ (h.ai y).length = 520)) (k : Kp ks M h h') (n3 : ∀ j, j < 24067 → j ∉ ks) (n4 : 24076 ∉ ks ∧ 24077 ∉ ks ∧ 24078 ∉ ks ∧ 24087 ∉ ks ∧ 24088 ∉ ks ∧ 24089 ∉ ks) (tb' : ∀ y, inT h' Z y → O + 7 < y) : MEnv h' M Z F O p N I J pp a n j inp K B L t Bp := by
  obtain ⟨E1, ⟨f, E2, f7, hB⟩, E3, ⟨c, cu, le, hc, C⟩, ⟨P1, P2, P3⟩, ⟨ka, eL⟩, ⟨i1, i2, i3⟩, ⟨z1, z2, z3⟩, tb⟩ := E
  have hM := E1.1
  have zz := x.1
  have low : ∀ y, y ≤ O + 7 → y ≠ M → ¬ (Z ≤ y ∧ y ≤ Z + 9) → eqAt h h' y := fun y h1 h2 h3 => x.2.2 y (by omega) (fun p => by
    rcases hP y p with p | p | p
    · exact h2 p
    · exact h3 p
    · omega)
  have hi : ∀ y, O + 7 < y → y < h.z → (h.kd y ≠ 101 ∨ (h.ai y).length ≠ 520) → eqAt h h' y := fun y h1 h2 h3 => x.2.2 y h2 (fun p => by
    rcases hP y p with p | p | p
    · omega
    · omega
    · rcases h3 with h3 | h3
      · exact h3 p.2.1
      · exact h3 p.2.2)
  have ep : ∀ q, pp ≤ q → q ≤ pp + 7 → eqAt h h' q := fun q h1 h2 => hi q (E1.2.2.2.1 q h1 h2) (by omega) (P1.no h1 h2)
  have ea := hi a E1.2.2.2.2.1 z2 (Or.inr (by rw [eL]; exact E1.2.2.2.2.2))
  have kM : h'.kd M = h.kd M := x.kd (by omega)
  have kr : ∀ j, j ∉ ks → h'.r j M = h.r j M := fun j hj => (k j hj).1
  have e10 := low (Z + 10) (by omega) (by omega) (by omega)
  have e11 := low (Z + 11) (by omega) (by omega) (by omega)
  have e46 := low (M + 46) (by omega) (by omega) (by omega)
  refine ⟨E1, ⟨f, E2.eqc kM (fun j hj => kr j (n3 j (by omega))) (fun y h1 h2 => low y (by omega) (by omega) (by omega)) e46.1 (by rw [e46.2.2.2.2.1]) (fun y h1 h2 => low y (by omega) (by omega) (by omega)) (fun y h1 h2 => low y h2 (by omega) (by omega)), f7, hB⟩, ⟨E3.1.kp kM k (fun j hj => n3 j (by omega)) (fun q h1 h2 => ?_), by rw [(low (M + 5) (by omega) (by omega) (by omega)).2.2.2.2.1]; exact E3.2.1, by rw [(low (M + 4) (by omega) (by omega) (by omega)).2.2.2.2.1]; exact E3.2.2⟩, ⟨c, cu, le, hc, ?_⟩, ⟨P1.eqc ep, ((ep pp (by omega) (by omega)).2.1 _).trans P2, P3.eqc ep⟩, ⟨ea.1.trans ka, ea.2.2.2.2.1.trans eL⟩, ⟨(kr 24076 n4.1).trans i1, (k 24077 n4.2.1).2.1.trans i2, (k 24078 n4.2.2.1).2.1.trans i3⟩, ⟨by omega, by omega, by omega⟩, tb'⟩
  · have e := low q (by omega) (by omega) (by omega)
    exact ⟨e.1, by rw [e.2.2.2.2.1]⟩
  · have ec : eqAt h h' cu := by
      rcases hc with q | q
      · rw [q.1]; exact e10
      · rw [q.1]; exact e11
    have el : eqAt h h' le := by
      rcases hc with q | q
      · rw [q.2]; exact e11
      · rw [q.2]; exact e10
    obtain ⟨d1, d2, d3, d4, d5, d6, d7, d8, d9, d10, d11⟩ := C
    exact ⟨kM.trans d1, (kr _ n4.2.2.2.1).trans d2, (kr _ n4.2.2.2.2.1).trans d3, d4, ec.1.trans d5, el.1.trans d6, by rw [ec.2.2.2.2.1]; exact d7, by rw [el.2.2.2.2.1]; exact d8, (k _ n4.2.2.2.2.2).2.1.trans d9, d10, by rw [ec.2.2.2.2.1]; exact d11⟩
/-- a stack has been saved -/
theorem KsF.env (E : MEnv h M Z F O p N I J pp a n j inp K B L t Bp) (T : RwTb h Z) (sv : ∀ y, inS h Z y → O + 7 < y) (hz : Z + 12 < h.z) (x : KsF h h' M Z) : MEnv h' M Z F O p N I J pp a n j inp K B L t Bp ∧ (∀ y, inS h' Z y → O + 7 < y) ∧ (MdT h M → MdT h' M) := by
  have hM := E.1.1
  have tb := E.2.2.2.2.2.2.2.2
  have zz := E.2.2.2.2.2.2.2.1.1
  have rows : ∀ y, inS h Z y → h.kd y = 101 ∧ (h.ai y).length = 520 := fun y q => by
    obtain ⟨j', hj, q1, q2⟩ := q
    have t1 := (T j' hj.2 q1).1
    rw [q2] at t1
    exact ⟨t1.2.2.1, t1.2.2.2.1⟩
  refine ⟨E.gen x.1 (fun y q => ?_) x.2.2.2.2.2 (fun j' hj q => by have := List.mem_singleton.mp q; omega) (by decide) (fun y q => ?_), fun y q => ?_, fun Tm => ?_⟩
  · rcases q with q | q | q | q
    · exact Or.inl q
    · exact Or.inr (Or.inl (by omega))
    · exact Or.inr (Or.inl (by omega))
    · exact Or.inr (Or.inr ⟨sv y q, rows y q⟩)
  · obtain ⟨j', hj, q1, q2⟩ := q
    rw [x.2.2.1 j' hj] at q1 q2
    exact tb y ⟨j', hj, q1, q2⟩
  · by_cases c : y < h.z
    · exact sv y (x.2.1 y c q)
    · omega
  · have e : ∀ y, y = M + 10 ∨ y = M + 11 ∨ y = M + 12 → h'.ai y = h.ai y := fun y hy => x.1.ai (by omega) (fun q => by
      rcases q with q | q | q | q
      · omega
      · omega
      · omega
      · have := sv y q
        omega)
    exact ⟨(e _ (Or.inl rfl)).trans Tm.1, (e _ (Or.inr (Or.inl rfl))).trans Tm.2.1, (e _ (Or.inr (Or.inr rfl))).trans Tm.2.2⟩
end MSave

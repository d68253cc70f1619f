/-! the reference: what a run stands on; a signature -/
set_option maxRecDepth 100000
/-- what is fixed -/
def MEs (M Z F O p N pp a n j inp : Nat) (L : List Int32) (t : TxP) : Prop := (M + 46 < Z ∧ Z + 12 < F ∧ F + 7 < O) ∧ (p % 4294967296 + 1 < 4294967296 ∧ 2 ≤ p % 4294967296 ∧ p + 1 < 4294967296 ^ 8 ∧ 2 ≤ N % 4294967296 ∧ p < 2 * N) ∧ (TxW L n t ∧ TxIn L t ∧ inp < t.2.2.1.length ∧ j < 12) ∧ (∀ q, pp ≤ q → q ≤ pp + 7 → O + 7 < q) ∧ O + 7 < a ∧ L.length ≠ 520
/-- the reference's machine stands on this -/
def MEnv (h : AH) (M Z F O p N I J pp a n j inp : Nat) (K B L : List Int32) (t : TxP) (Bp : Pt) : Prop := MEs M Z F O p N pp a n j inp L t ∧ (∃ f, MCr h M F O p N I J f ∧ f 0 = 7 ∧ Bp = (f 1, f 2, f 3)) ∧ McA h M K B ∧ (∃ c cu le, ((cu = Z + 10 ∧ le = Z + 11) ∨ (cu = Z + 11 ∧ le = Z + 10)) ∧ CutAt h M cu le c) ∧
  (PrS h pp ∧ h.r 26000 pp = a ∧ PrT h pp K B L j t) ∧ (h.kd a = 101 ∧ h.ai a = L) ∧ (h.r 24076 M = pp ∧ h.i 24077 M = nI j ∧ h.i 24078 M = nI inp) ∧ (O + 7 < h.z ∧ a < h.z ∧ pp + 7 < h.z) ∧ ∀ y, inT h Z y → O + 7 < y
/-- what a signature's judgement may change -/
def goQ (M Z F O y : Nat) : Prop := (M ≤ y ∧ y ≤ M + 46 ∧ y ≠ M + 4 ∧ y ≠ M + 5 ∧ (y < M + 10 ∨ M + 12 < y)) ∨ (Z + 10 ≤ y ∧ y ≤ Z + 12) ∨ (F + 5 ≤ y ∧ y ≤ F + 7) ∨ (O + 5 ≤ y ∧ y ≤ O + 7)
theorem go_rng {M Z F O y : Nat} (h : M + 46 < Z ∧ Z + 12 < F ∧ F + 7 < O) (q : goQ M Z F O y) : y ≤ O + 7 ∧ ¬ (Z ≤ y ∧ y ≤ Z + 9) ∧ y ≠ M + 4 ∧ y ≠ M + 5 ∧ ¬ (F + 1 ≤ y ∧ y ≤ F + 4) ∧ ¬ (O + 1 ≤ y ∧ y ≤ O + 4) := by
  unfold goQ at q
  omega
theorem go_tab {M Z F O y : Nat} (h : M + 46 < Z ∧ Z + 12 < F ∧ F + 7 < O) (q : goQ M Z F O y) : y ≠ M + 10 ∧ y ≠ M + 11 ∧ y ≠ M + 12 := by
  unfold goQ at q
  omega
theorem md_tab {M x : Nat} (m : mdQ M x) : M + 1 ≤ x ∧ x ≤ M + 15 ∧ x ≠ M + 4 ∧ x ≠ M + 5 ∧ (x < M + 10 ∨ M + 12 < x) := by
  rcases m with m | m
  · unfold mdP at m
    omega
  · omega
theorem ha_go {M Z F O cu le y : Nat} (hc : (cu = Z + 10 ∧ le = Z + 11) ∨ (cu = Z + 11 ∧ le = Z + 10)) (q : HaQ M cu le (Z + 12) y) : goQ M Z F O y := by
  unfold goQ
  rcases q with q | q | q | q | q | q
  · exact Or.inl (by omega)
  · exact Or.inr (Or.inl (by omega))
  · exact Or.inr (Or.inl (by omega))
  · exact Or.inr (Or.inl (by omega))
  · exact Or.inl (by omega)
  · have := md_tab q
    exact Or.inl (by omega)
theorem cu_go {M Z F O y : Nat} (q : cuP M F O y) : goQ M Z F O y := by
  unfold goQ
  rcases q with q | q | q
  · exact Or.inr (Or.inr (Or.inl q))
  · exact Or.inr (Or.inr (Or.inr q))
  · exact Or.inl (by omega)
section MGood
variable {G : Gx} {d : Nat} {hB h h' h0 : AH} {M Z F O p N I J pp a n j inp : Nat} {K B L : List Int32} {t : TxP} {Bp : Pt} {st alt : List (List Int32)} {fl : Bool}
/-- the stacks stay -/
theorem MOm.go {P : Nat → Prop} {ks : List Nat} (H : MOm h M Z st alt) (S : Same P h h') (hP : ∀ y, P y → y ≤ O + 7 ∧ ¬ (Z ≤ y ∧ y ≤ Z + 9)) (tb : ∀ y, inT h Z y → O + 7 < y) (kp : Kp ks M h h') (hk : ∀ k, (24064 < k ∧ k < 24087) ∨ k = 24090 → k ∉ ks) (hz : h'.z = h.z) : MOm h' M Z st alt ∧ ∀ y, inT h' Z y → O + 7 < y := by
  obtain ⟨⟨Hs, T, E⟩, ⟨i1, i2, i3, i4⟩, S1, S2⟩ := H
  have hZ := Hs.2.2.2.2.2
  have eZ : ∀ y, Z ≤ y → y ≤ Z + 9 → eqAt h h' y := fun y h1 h2 => S.2.2 y (by omega) (fun p => (hP y p).2 ⟨h1, h2⟩)
  have ea : ∀ v, v < 3 → h'.ar (Z + 2 * v) = h.ar (Z + 2 * v) := fun v hv => (eZ _ (by omega) (by omega)).2.2.2.2.2.2
  have er : ∀ i, i < 3006 → rwA h' Z i = rwA h Z i := fun i hi => rwA_eq ea hi
  have rows : ∀ i, i < 2004 → rwA h Z i ≠ 0 → h'.ai (rwA h Z i) = h.ai (rwA h Z i) := fun i hi h0 => by
    have t0 := (T i (by omega) h0).1
    have o := tb _ ⟨i, hi, h0, rfl⟩
    exact S.ai t0.2.1 (fun p => by have := (hP _ p).1; omega)
  have kd0 : h'.kd M = h.kd M := S.kd (by omega)
  refine ⟨⟨⟨?_, fun i hi h0 => ?_, E.same S hz⟩, ⟨by rw [(kp _ (hk _ (Or.inl (by decide)))).2.1]; exact i1, by rw [(kp _ (hk _ (Or.inl (by decide)))).2.1]; exact i2, i3, i4⟩, S1.keep (by omega) (fun i hi => ⟨er _ (by omega), rows _ (by omega) (S1 i hi).1, by rw [(eZ (Z + 1) (by omega) (by omega)).2.2.2.2.1]⟩), S2.keep (by omega) (fun i hi => ⟨er _ (by omega), rows _ (by omega) (S2 i hi).1, by rw [(eZ (Z + 3) (by omega) (by omega)).2.2.2.2.1]⟩)⟩, fun y q => ?_⟩
  · obtain ⟨a1, ⟨r1, r2, r3, r4, r5, r6, r7, r8, r9, r10, r11⟩, k, l, e8, hM, hz'⟩ := Hs
    have R : ∀ k, (24064 < k ∧ k < 24087) ∨ k = 24090 → h'.r k M = h.r k M := fun k hk' => (kp k (hk k hk')).1
    have H2 : MkS h M Z := ⟨a1, ⟨r1, r2, r3, r4, r5, r6, r7, r8, r9, r10, r11⟩, k, l, e8, hM, hz'⟩
    have kk : ∀ y, y ≤ Z + 12 → h'.kd y = h.kd y := fun y hy => S.kd (by omega)
    have ll : ∀ y, y ≤ Z + 12 → (h'.ai y).length = (h.ai y).length := fun y hy => S.len (by omega)
    have lr : ∀ y, y ≤ Z + 12 → (h'.ar y).length = (h.ar y).length := fun y hy => S.lenR (by omega)
    unfold MkS at H2 ⊢
    rw [kd0, R 24065 (Or.inl (by decide)), R 24066 (Or.inl (by decide)), R 24068 (Or.inl (by decide)), R 24069 (Or.inl (by decide)), R 24071 (Or.inl (by decide)), R 24072 (Or.inl (by decide)), R 24075 (Or.inl (by decide)), R 24083 (Or.inl (by decide)), R 24085 (Or.inl (by decide)), R 24086 (Or.inl (by decide)), R 24090 (Or.inr rfl),
      kk Z (by omega), kk (Z + 1) (by omega), kk (Z + 2) (by omega), kk (Z + 3) (by omega), kk (Z + 4) (by omega), kk (Z + 5) (by omega), kk (Z + 6) (by omega), kk (Z + 7) (by omega), kk (Z + 8) (by omega), kk (Z + 9) (by omega), kk (Z + 12) (by omega),
      lr Z (by omega), ll (Z + 1) (by omega), lr (Z + 2) (by omega), ll (Z + 3) (by omega), lr (Z + 4) (by omega), ll (Z + 5) (by omega), ll (Z + 6) (by omega), ll (Z + 7) (by omega), ll (Z + 9) (by omega), ll (Z + 12) (by omega), (eZ (Z + 8) (by omega) (by omega)).2.2.2.2.1, hz]
    exact H2
  · rw [er i hi] at h0 ⊢
    obtain ⟨⟨t1, t2, t3, t4, t5⟩, t6⟩ := T i hi h0
    exact ⟨⟨t1, by omega, by rw [S.kd t2]; exact t3, by rw [S.len t2]; exact t4, by rw [S.kd (by omega)]; exact t5⟩, fun i' hi' e => t6 i' hi' (by rw [← er i' hi']; exact e)⟩
  · obtain ⟨i, hi, h1, h2⟩ := q
    rw [er i (by omega)] at h1 h2
    exact tb y ⟨i, hi, h1, h2⟩
/-- a signature's judgement: the frame -/
def GoF (h h' : AH) (M Z F O : Nat) : Prop := Same (goQ M Z F O) h h' ∧ h'.z = h.z ∧ h'.s = h.s ∧ Kp [24040, 24041, 24063, 24087, 24088, 24089, 24091] M h h'
theorem GoF.rf : GoF h h M Z F O := ⟨Same.rf, rfl, rfl, Kp.rf⟩
theorem GoF.trans {h2 : AH} (x : GoF h h' M Z F O) (y : GoF h' h2 M Z F O) : GoF h h2 M Z F O := ⟨x.1.trans y.1 (fun _ _ q => q), y.2.1.trans x.2.1, y.2.2.1.trans x.2.2.1, x.2.2.2.trans y.2.2.2 (fun _ q => q)⟩
theorem GoF.mom (x : GoF h h' M Z F O) (hM : M + 46 < Z ∧ Z + 12 < F ∧ F + 7 < O) (H : MOm h M Z st alt) (tb : ∀ y, inT h Z y → O + 7 < y) : MOm h' M Z st alt ∧ ∀ y, inT h' Z y → O + 7 < y :=
  H.go x.1 (fun y q => ⟨(go_rng hM q).1, (go_rng hM q).2.1⟩) tb x.2.2.2 (fun k hk q => by
    rcases List.mem_cons.mp q with q | q
    · omega
    · rcases List.mem_cons.mp q with q | q
      · omega
      · rcases List.mem_cons.mp q with q | q
        · omega
        · rcases List.mem_cons.mp q with q | q
          · omega
          · rcases List.mem_cons.mp q with q | q
            · omega
            · rcases List.mem_cons.mp q with q | q
              · omega
              · have := List.mem_singleton.mp q
                omega) x.2.1
end MGood

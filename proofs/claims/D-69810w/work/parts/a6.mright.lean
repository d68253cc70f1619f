/-! the reference: whether a signature is right -/
set_option maxRecDepth 100000
theorem mM_can {p I v : Nat} (hI : 4294967296 ^ 8 * I % p = 1) (hv : v < p) : mM p (v * I % p) = v := by
  unfold mM
  generalize 4294967296 ^ 8 = w at hI ⊢
  have h1 : v * I % p * w % p = v * I * w % p := by rw [Nat.mul_mod, Nat.mod_mod, ← Nat.mul_mod]
  have h2 : v * I * w = v * (w * I) := by rw [Nat.mul_assoc, Nat.mul_comm I]
  rw [h1, h2, Nat.mul_mod, hI, Nat.mul_one, Nat.mod_mod, Nat.mod_eq_of_lt hv]
section MRight
variable {G : Gx} {d : Nat} {h h' h0 : AH} {M F O p N I J E q o : Nat} {f f' : Nat → Nat} {σ : Nat → Nat}
theorem MCr.sub12 (H : MCr h M F O p N I J f) (hσ : ∀ j, j < 12 → σ j < 19 ∧ adG M (σ j) = adM E q o j) : MReg h F p I 12 (adM E q o) (fun j => f (σ j)) := ⟨H.2.1.1, fun j hj => by
  obtain ⟨s1, s2⟩ := hσ j hj
  rw [← s2]
  exact H.2.1.2 (σ j) s1⟩
theorem MCr.ok12 (H : MCr h M F O p N I J f) (hσ : ∀ j, j < 12 → σ j < 19 ∧ adG M (σ j) = adM E q o j) (hi : ∀ i, i < 12 → ∀ j, j < 12 → σ i = σ j → i = j) : MAdOk F 12 (adM E q o) :=
  ⟨fun i j h1 h2 e => hi i h1 j h2 (adG_inj M (hσ i h1).1 (hσ j h2).1 (by rw [(hσ i h1).2, (hσ j h2).2]; exact e)), fun j hj => by
    rw [← (hσ j hj).2]
    exact H.ok.2 (σ j) (hσ j hj).1⟩
theorem MCr.rp12 (H : MCr h M F O p N I J f) (hσ : ∀ j, j < 12 → σ j < 19 ∧ adG M (σ j) = adM E q o j) {x : Nat} (m : MRP F 12 (adM E q o) x) : MRP F 19 (adG M) x := by
  rcases m with m | ⟨j, hj, m⟩
  · exact Or.inl m
  · exact Or.inr ⟨σ j, (hσ j hj).1, by rw [(hσ j hj).2]; exact m⟩
theorem MCr.sup12 {P : Nat → Prop} (H : MCr h M F O p N I J f) (hσ : ∀ j, j < 12 → σ j < 19 ∧ adG M (σ j) = adM E q o j) (m : Mod P h h') (hP : ∀ x, P x → MRP F 12 (adM E q o) x ∨ x = M + 39 ∨ x = M + 40) (S : MReg h' F p I 12 (adM E q o) f') : ∃ g, MCr h' M F O p N I J g ∧ Mod (cuP M F O) h h' ∧ (∀ j, j < 12 → g (σ j) = f' j) ∧ ∀ i, i < 19 → (∀ j, j < 12 → σ j ≠ i) → g i = f i := by
  have hI := H.2.1.1.2.1
  have hF := H.2.2.2.2.1
  have hp := H.p0
  have vals : ∀ i, i < 19 → (∃ j, j < 12 ∧ σ j = i ∧ bv h' (adG M i) = mM p (f' j) ∧ f' j < p) ∨ ((∀ j, j < 12 → σ j ≠ i) ∧ bv h' (adG M i) = mM p (f i) ∧ f i < p) := fun i hi => by
    by_cases c : ∃ j, j < 12 ∧ σ j = i
    · obtain ⟨j, hj, e⟩ := c
      have s := S.2 j hj
      rw [← (hσ j hj).2, e] at s
      exact Or.inl ⟨j, hj, e, s.2.1, s.2.2⟩
    · have nc : ∀ j, j < 12 → σ j ≠ i := fun j hj e => c ⟨j, hj, e⟩
      have s := H.2.1.2 i hi
      refine Or.inr ⟨nc, ?_, s.2.2⟩
      have ai := adG_in M hi
      rw [m.bv (fun z => ?_)]
      · exact s.2.1
      · rcases hP _ z with z | z | z
        · rcases z with z | ⟨j, hj, z⟩
          · omega
          · rw [← (hσ j hj).2] at z
            exact nc j hj (adG_inj M hi (hσ j hj).1 z).symm
        · omega
        · omega
  have lt : ∀ i, i < 19 → bv h' (adG M i) < p := fun i hi => by
    rcases vals i hi with ⟨j, _, _, e, _⟩ | ⟨_, e, _⟩
    · rw [e]; exact mM_lt (by omega)
    · rw [e]; exact mM_lt (by omega)
  have no : ∀ x, P x → (F + 5 ≤ x ∧ x ≤ F + 7) ∨ (M + 16 ≤ x ∧ x ≤ M + 40) := fun x z => by
    rcases hP x z with z | z | z
    · rcases z with z | ⟨j, hj, z⟩
      · exact Or.inl z
      · rw [← (hσ j hj).2] at z
        have := adG_in M (hσ j hj).1
        exact Or.inr (by omega)
    · exact Or.inr (by omega)
    · exact Or.inr (by omega)
  obtain ⟨a1, a2, a3, a4, ⟨a5, a6⟩, a7, a8⟩ := H
  refine ⟨fun i => bv h' (adG M i) * I % p, ⟨a1.mod m, ⟨S.1, fun i hi => ⟨(a2.2 i hi).1.mod m, (mM_can hI (lt i hi)).symm, Nat.mod_lt _ (by omega)⟩⟩, a3.mod m (fun z => by have := no _ z; omega) (fun z => by have := no _ z; omega) (fun z => by have := no _ z; omega) (fun z => by have := no _ z; omega), fun k h1 h2 => (a4 k h1 h2).mod m, ⟨a5, a6⟩, by rw [m.kd]; exact a7, by rw [m.len]; exact a8⟩, m.mono (fun x z => ?_), fun j hj => ?_, fun i hi nc => ?_⟩
  · rcases no x z with z | z
    · exact Or.inl z
    · exact Or.inr (Or.inr (by omega))
  · have s := S.2 j hj
    rw [← (hσ j hj).2] at s
    exact (mM_inj hI (Nat.mod_lt _ (by omega)) s.2.2).mp (by
      rw [mM_can hI (lt _ (hσ j hj).1)]
      exact s.2.1)
  · rcases vals i hi with ⟨j, hj, e, _⟩ | ⟨_, e, l⟩
    · exact absurd e (nc j hj)
    · exact (mM_inj hI (Nat.mod_lt _ (by omega)) l).mp (by
        rw [mM_can hI (lt i hi)]
        exact e)
theorem MCs.mc (H : MCs h M F O) (kF : h.kd F = 27) : McS h M (M + 33) F := by
  obtain ⟨⟨k0, rF, rO, r17, r18, r19, r20, r21⟩, ⟨r22, r23, r24, r25, r26, r27⟩, _⟩ := H
  exact ⟨k0, rF, r22, r23, r24, r25, r26, r27, kF⟩
theorem MCr.Nl (H : MCr h M F O p N I J f) : N < 4294967296 ^ 8 := by
  rw [← H.2.2.1.1.2.1]
  exact bv_lt _ _
/-- rows of the order -/
theorem MCr.oen {k t v : Nat} (hd : 3 ≤ d) (H : MCr h M F O p N I J f) (h1 : 41 ≤ k ∧ k ≤ 45) (h2 : 41 ≤ t ∧ t ≤ 45) (hv : mM N (bv h (M + k)) = v) : Cw G mX27_enter d 0 [vR O, vR (M + k), vR (M + t)] h (kV (fun h' => MCr h' M F O p N I J f ∧ Mod (cuP M F O) h h' ∧ bv h' (M + t) = v ∧ ∀ x, (M + 39 ≤ x ∧ x ≤ M + 46) → x ≠ M + t → h'.ai x = h.ai x) nE) := by
  have hF := H.2.2.2.2.1
  refine (MRing_enter_spec hd H.2.2.1 (H.2.2.2.1 k (by omega) (by omega)) (H.2.2.2.1 t (by omega) (by omega)) (by omega) (by omega)).nV (fun h' Q => ?_)
  rw [hv] at Q
  have R := H.raw Q.1 (fun x q => by omega)
  have hN := H.2.2.1.1.2.2.2
  have lv : v < N := by rw [← hv]; exact mM_lt (by omega)
  exact ⟨R.1, R.2, bv_lb Q.2 (Nat.lt_trans lv H.Nl), fun x q hx => Q.1.ai (by omega)⟩
theorem MCr.omu {a b t v : Nat} {x y : Nat} (hd : 2 ≤ d) (H : MCr h M F O p N I J f) (h1 : 41 ≤ a ∧ a ≤ 45) (h2 : 41 ≤ b ∧ b ≤ 45) (h3 : 41 ≤ t ∧ t ≤ 45) (ha : bv h (M + a) = mM N x) (hb : bv h (M + b) = mM N y) (hv : v = mM N (x * y % N)) : Cw G mX27_multiply d 0 [vR O, vR (M + a), vR (M + b), vR (M + t)] h (kV (fun h' => MCr h' M F O p N I J f ∧ Mod (cuP M F O) h h' ∧ bv h' (M + t) = v ∧ ∀ x, (M + 39 ≤ x ∧ x ≤ M + 46) → x ≠ M + t → h'.ai x = h.ai x) nE) := by
  have hF := H.2.2.2.2.1
  have hN := H.2.2.1.1.2.2.2
  refine (MRing_multiply_spec hd H.2.2.1.1 H.2.2.1.2.1 (H.2.2.2.1 a (by omega) (by omega)) (H.2.2.2.1 b (by omega) (by omega)) (H.2.2.2.1 t (by omega) (by omega)) (by omega) (by omega) (by omega) (by rw [hb]; exact mM_lt (by omega))).nV (fun h' Q => ?_)
  rw [ha, hb, mM_mul H.2.2.1.2.1, ← hv] at Q
  have R := H.raw Q.1 (fun x q => by omega)
  have lv : v < N := by rw [hv]; exact mM_lt (by omega)
  exact ⟨R.1, R.2, bv_lb Q.2 (Nat.lt_trans lv H.Nl), fun x q hx => Q.1.ai (by omega)⟩
theorem MCr.ole {a t v : Nat} {x : Nat} (hd : 3 ≤ d) (H : MCr h M F O p N I J f) (h1 : 41 ≤ a ∧ a ≤ 45) (h2 : 41 ≤ t ∧ t ≤ 45) (ha : bv h (M + a) = mM N x) (hv : v = x % N) : Cw G mX27_leave d 0 [vR O, vR (M + a), vR (M + t)] h (kV (fun h' => MCr h' M F O p N I J f ∧ Mod (cuP M F O) h h' ∧ bv h' (M + t) = v ∧ ∀ x, (M + 39 ≤ x ∧ x ≤ M + 46) → x ≠ M + t → h'.ai x = h.ai x) nE) := by
  have hF := H.2.2.2.2.1
  have hN := H.2.2.1.1.2.2.2
  refine (MRing_leave_spec hd H.2.2.1 (H.2.2.2.1 a (by omega) (by omega)) (H.2.2.2.1 t (by omega) (by omega)) (by omega) (by omega) ha).nV (fun h' Q => ?_)
  rw [← hv] at Q
  have R := H.raw Q.1 (fun x q => by omega)
  have lv : v < N := by rw [hv]; exact Nat.mod_lt _ (by omega)
  exact ⟨R.1, R.2, bv_lb Q.2 (Nat.lt_trans lv H.Nl), fun x q hx => Q.1.ai (by omega)⟩
theorem MCr.opo {a t v : Nat} {x : Nat} (hd : 3 ≤ d) (H : MCr h M F O p N I J f) (hN2 : 2 ≤ N % 4294967296) (h1 : 41 ≤ a ∧ a ≤ 45) (h2 : 41 ≤ t ∧ t ≤ 45) (ha : bv h (M + a) = mM N x) (hv : v = mM N (x ^ (N - 2) % N)) : Cw G mX27_power d 0 [vR O, vR (M + a), vI (-2), vI (nI 0), vR (M + t)] h (kV (fun h' => MCr h' M F O p N I J f ∧ Mod (cuP M F O) h h' ∧ bv h' (M + t) = v ∧ ∀ x, (M + 39 ≤ x ∧ x ≤ M + 46) → x ≠ M + t → h'.ai x = h.ai x) nE) := by
  have hF := H.2.2.2.2.1
  have hN := H.2.2.1.1.2.2.2
  have e0 : u32 ((h.ai (O + 1)).getD 0 0) = N % 4294967296 := by
    have := dg_va (L := h.ai (O + 1)) (n := 8) (i := 0) (by decide)
    rw [Nat.pow_zero, Nat.div_one] at this
    exact this.trans (by rw [show va (h.ai (O + 1)) 8 = N from H.2.2.1.1.2.1])
  refine (MRing_power_spec (A := x) (E := N - 2) (sh := 0) (more := -2) hd H.2.2.1 (Nat.lt_of_le_of_lt (Nat.sub_le N 2) H.Nl) (by omega) (by
    rw [← nI_u32 ((h.ai (O + 1)).getD 0 0), e0, show (-2 : Int32) = -nI 2 from rfl, nI_an hN2, u32_nI]
    omega) (by decide) (H.2.2.2.1 a (by omega) (by omega)) ha (H.2.2.2.1 t (by omega) (by omega)) (by omega)).nV (fun h' Q => ?_)
  rw [Nat.pow_zero, Nat.div_one, ← hv] at Q
  have R := H.raw Q.1 (fun x q => by
    have : mpP O (M + t) x := q
    unfold mpP at this
    omega)
  have lv : v < N := by rw [hv]; exact mM_lt (by omega)
  refine ⟨R.1, R.2, bv_lb Q.2 (Nat.lt_trans lv H.Nl), fun x q hx => Q.1.ai (fun z => ?_)⟩
  unfold mpP at z
  omega
end MRight

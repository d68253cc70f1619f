/-! Ring: sums and products modulo a number below 2^256 -/
set_option maxRecDepth 100000
/-- only rows of ints (bytes, booleans) change, and only where P holds -/
def AH.si (h : AH) (f : Nat → List Int32) : AH := AH.mk h.kd h.r h.i h.l f h.al h.ar h.z h.s
def Mod (P : Nat → Prop) (h h' : AH) : Prop := ∃ f, h' = h.si f ∧ (∀ x, (f x).length = (h.ai x).length) ∧ ∀ x, ¬ P x → f x = h.ai x
theorem AH.si_self (h : AH) : h.si h.ai = h := rfl
theorem Mod.rf {P : Nat → Prop} {h : AH} : Mod P h h := ⟨h.ai, rfl, fun _ => rfl, fun _ _ => rfl⟩
theorem Mod.wi {P : Nat → Prop} {h : AH} {a : Nat} {v : List Int32} (hl : v.length = (h.ai a).length) (hp : P a) : Mod P h (h.wi a v) :=
  ⟨(h.wi a v).ai, rfl, fun x => ln_wi hl, fun x hx => AH.ai_wiN (fun e => hx (e ▸ hp))⟩
theorem Mod.trans {P : Nat → Prop} {h h1 h2 : AH} (a : Mod P h h1) (b : Mod P h1 h2) : Mod P h h2 := by
  obtain ⟨f, rfl, f1, f2⟩ := a
  obtain ⟨g, rfl, g1, g2⟩ := b
  exact ⟨g, rfl, fun x => (g1 x).trans (f1 x), fun x hx => (g2 x hx).trans (f2 x hx)⟩
theorem Mod.mono {P Q : Nat → Prop} {h h1 : AH} (a : Mod P h h1) (f : ∀ x, P x → Q x) : Mod Q h h1 := by
  obtain ⟨g, e, g1, g2⟩ := a
  exact ⟨g, e, g1, fun x hx => g2 x (fun q => hx (f x q))⟩
section ModF
variable {P : Nat → Prop} {h h' : AH}
theorem Mod.kd (m : Mod P h h') : h'.kd = h.kd := by obtain ⟨f, rfl, _⟩ := m; rfl
theorem Mod.r (m : Mod P h h') : h'.r = h.r := by obtain ⟨f, rfl, _⟩ := m; rfl
theorem Mod.i (m : Mod P h h') : h'.i = h.i := by obtain ⟨f, rfl, _⟩ := m; rfl
theorem Mod.l (m : Mod P h h') : h'.l = h.l := by obtain ⟨f, rfl, _⟩ := m; rfl
theorem Mod.al (m : Mod P h h') : h'.al = h.al := by obtain ⟨f, rfl, _⟩ := m; rfl
theorem Mod.ar (m : Mod P h h') : h'.ar = h.ar := by obtain ⟨f, rfl, _⟩ := m; rfl
theorem Mod.z (m : Mod P h h') : h'.z = h.z := by obtain ⟨f, rfl, _⟩ := m; rfl
theorem Mod.s (m : Mod P h h') : h'.s = h.s := by obtain ⟨f, rfl, _⟩ := m; rfl
theorem Mod.len (m : Mod P h h') (x : Nat) : (h'.ai x).length = (h.ai x).length := by obtain ⟨f, rfl, f1, _⟩ := m; exact f1 x
theorem Mod.ai (m : Mod P h h') {x : Nat} (hx : ¬ P x) : h'.ai x = h.ai x := by obtain ⟨f, rfl, _, f2⟩ := m; exact f2 x hx
theorem Mod.bv (m : Mod P h h') {x : Nat} (hx : ¬ P x) : bv h' x = bv h x := by
  show va (h'.ai x) 8 = va (h.ai x) 8
  rw [m.ai hx]
theorem BigAt.mod {b w : Nat} (H : BigAt h b w) (m : Mod P h h') : BigAt h' b w := by
  unfold BigAt
  rw [m.kd, m.r, m.len]
  exact H
end ModF
theorem va_hi0 {L : List Int32} {m : Nat} : ∀ {n : Nat}, m ≤ n → (∀ i, m ≤ i → i < n → L.getD i 0 = 0) → va L n = va L m
  | 0, h, _ => by rw [show m = 0 by omega]
  | n + 1, h, e => by
    by_cases q : m = n + 1
    · rw [q]
    · rw [va_succ, va_hi0 (n := n) (by omega) (fun i h1 h2 => e i h1 (by omega)), dg, e n (by omega) (by omega), show u32 (0 : Int32) = 0 from rfl, Nat.zero_mul, Nat.add_zero]
/-- one digit of a row of N takes what came, the rest is carried -/
theorem carry_step {T : List Int32} {q u c' m N : Nat} (hq : q < T.length) (hqN : q < N) (hu : u = c' * 4294967296 + m) (hm : m < 4294967296) (S : Nat) (e : va T N + u * 4294967296 ^ q = S + dg T q * 4294967296 ^ q) : va (T.set q (nI u)) N + c' * 4294967296 ^ (q + 1) = S := by
  have h1 := va_mid (L := T) (q := q) (x := nI u) hq (n := N) hqN
  have h2 : u32 (nI u) = m := by rw [u32_nI]; omega
  rw [h2] at h1
  have h3 : u * 4294967296 ^ q = c' * 4294967296 ^ (q + 1) + m * 4294967296 ^ q := by
    rw [hu, Nat.add_mul, Nat.pow_succ, Nat.mul_assoc, Nat.mul_comm 4294967296]
  omega
section Ring
variable {G : Gx} {d : Nat} {h : AH}
theorem product_154 {to av fr b bw pv i : Nat} {Φ : Out → AH → Prop} (t1 : h.kd to = 100) (a1 : h.kd av = 100) (a2 : fr + 8 ≤ (h.ai av).length) (a3 : (h.ai av).length < 2 ^ 31) (hb : BigAt h b bw) (n1 : av ≠ to) (n2 : bw ≠ to) (hpv : pv < 4294967296 ^ 8) (h8 : i < 8)
    (ih : ∀ T, (T.length = 16 ∧ va T 16 = pv + dv (fun i => dg (h.ai av) (fr + i)) (i + 1) * bv h bw) → Aw G mX4_product (d + 1) 0 h Φ 47 [vU, vR to, vR av, vI (nI fr), vR b, vU, vI (nI (i + 1)), vU, vU, vU, vU, vU] [] (h.wi to T)) :
    ∀ j (x : List Int32 × Nat), j ≤ 16 → (i + 8 ≤ j ∧ x.1.length = 16 ∧ x.2 < 4294967296 ∧ va x.1 16 + x.2 * 4294967296 ^ j = pv + dv (fun i => dg (h.ai av) (fr + i)) (i + 1) * bv h bw) → Aw G mX4_product (d + 1) 0 h Φ 154 [vU, vR to, vR av, vI (nI fr), vR b, vU, vI (nI i), vU, vU, vJ (lN x.2), vU, vI (nI j)] [] (h.wi to x.1) := by
  have hB : bv h bw < 4294967296 ^ 8 := bv_lt h bw
  have hbound : dv (fun i => dg (h.ai av) (fr + i)) (i + 1) < 4294967296 ^ (i + 1) := dv_lt (fun i _ => dg_lt _ _)
  refine loop_uc (n := 16) (P := fun j (x : List Int32 × Nat) => Aw G mX4_product (d + 1) 0 h Φ 154 [vU, vR to, vR av, vI (nI fr), vR b, vU, vI (nI i), vU, vU, vJ (lN x.2), vU, vI (nI j)] [] (h.wi to x.1)) _ (fun j x hj hJ jh => ?_)
  obtain ⟨T', c⟩ := x
  obtain ⟨hj0, l', hc, hv'⟩ := hJ
  dsimp only at l' hc hv' ⊢
  generalize dv (fun i => dg (h.ai av) (fr + i)) (i + 1) = D at *
  refine sX4_product_154 _ to av (nI fr) b (nI i) (lN c) (nI j) (pk_le 16 j (fun h16 => ?_) (fun h16 => ⟨fun c0 => ?_, fun c0 => ⟨t1, ?_⟩⟩))
  · have : j = 16 := by omega
    subst this
    rw [nI_1]
    refine ih T' ⟨l', ?_⟩
    have hc0 : c = 0 := by
      have e1 : D * bv h bw ≤ 4294967296 ^ 8 * (4294967296 ^ 8 - 1) := by
        have e2 : 4294967296 ^ (i + 1) ≤ 4294967296 ^ 8 := Nat.pow_le_pow_right (by omega) (by omega)
        exact Nat.mul_le_mul (by omega) (by omega)
      by_cases q : c = 0
      · exact q
      · have : 1 * 4294967296 ^ 16 ≤ c * 4294967296 ^ 16 := Nat.mul_le_mul_right _ (by omega)
        omega
    rw [hc0, Nat.zero_mul, Nat.add_zero] at hv'
    exact hv'
  · rw [nI_1]
    refine ih T' ⟨l', ?_⟩
    have hc0 : c = 0 := by
      have := congrArg Int64.toInt c0
      rw [lN_toInt63 (by omega)] at this
      have h0 : (0 : Int64).toInt = 0 := rfl
      omega
    rw [hc0, Nat.zero_mul, Nat.add_zero] at hv'
    exact hv'
  · rw [AH.ai_wiS, l', pk_cl j, and_low, lN_add]
    refine ⟨pk_in j 16 h16, fun u5 e5 => ⟨pk_in j 16 h16, fun h7 e7 => ?_⟩⟩
    have ht := u32_lt (T'.getD j 0)
    rw [AH.wi_wi] at e7
    rw [e7, e5, lN_i, lN_ushr (by omega), nI_1]
    refine jh h16 (_, (c + u32 (T'.getD j 0)) / 4294967296) ⟨by omega, by rw [List.length_set, l'], by dsimp only; omega, ?_⟩
    dsimp only
    refine carry_step (m := (c + u32 (T'.getD j 0)) % 4294967296) (by omega) h16 (by omega) (by omega) _ ?_
    show _ = _ + u32 (T'.getD j 0) * _
    rw [← hv', Nat.add_mul]
    omega
theorem product_83 {to av fr b bw pv i : Nat} {Φ : Out → AH → Prop} {T : List Int32} (t1 : h.kd to = 100) (a1 : h.kd av = 100) (a2 : fr + 8 ≤ (h.ai av).length) (a3 : (h.ai av).length < 2 ^ 31) (hb : BigAt h b bw) (n1 : av ≠ to) (n2 : bw ≠ to) (hpv : pv < 4294967296 ^ 8) (h8 : i < 8) (hv : va T 16 = pv + dv (fun i => dg (h.ai av) (fr + i)) i * bv h bw)
    (k154 : ∀ x : List Int32 × Nat, (x.1.length = 16 ∧ x.2 < 4294967296 ∧ va x.1 16 + x.2 * 4294967296 ^ (i + 8) = pv + dv (fun i => dg (h.ai av) (fr + i)) (i + 1) * bv h bw) → Aw G mX4_product (d + 1) 0 h Φ 154 [vU, vR to, vR av, vI (nI fr), vR b, vU, vI (nI i), vU, vU, vJ (lN x.2), vU, vI (nI (i + 8))] [] (h.wi to x.1)) :
    ∀ j (x : List Int32 × Nat), j ≤ 8 → (x.1.length = 16 ∧ x.2 < 4294967296 ∧ va x.1 16 + x.2 * 4294967296 ^ (i + j) = va T 16 + dg (h.ai av) (fr + i) * va (h.ai bw) j * 4294967296 ^ i) → Aw G mX4_product (d + 1) 0 h Φ 83 [vU, vR to, vR av, vI (nI fr), vR b, vU, vI (nI i), vJ (lN (dg (h.ai av) (fr + i))), vU, vJ (lN x.2), vU, vI (nI j)] [] (h.wi to x.1) := by
  have hsucc : dv (fun i => dg (h.ai av) (fr + i)) (i + 1) = dv (fun i => dg (h.ai av) (fr + i)) i + dg (h.ai av) (fr + i) * 4294967296 ^ i := rfl
  have hxl := dg_lt (h.ai av) (fr + i)
  generalize dv (fun i => dg (h.ai av) (fr + i)) (i + 1) = D at *
  generalize dv (fun i => dg (h.ai av) (fr + i)) i = D0 at *
  generalize dg (h.ai av) (fr + i) = X at *
  obtain ⟨b1, b2, b3, b4⟩ := hb
  refine loop_uc (n := 8) (P := fun j (x : List Int32 × Nat) => Aw G mX4_product (d + 1) 0 h Φ 83 [vU, vR to, vR av, vI (nI fr), vR b, vU, vI (nI i), vJ (lN X), vU, vJ (lN x.2), vU, vI (nI j)] [] (h.wi to x.1)) _ (fun j x hj hJ jh => ?_)
  obtain ⟨T', c⟩ := x
  obtain ⟨l', hc, hv'⟩ := hJ
  dsimp only at l' hc hv' ⊢
  refine sX4_product_83 _ to av (nI fr) b (nI i) (lN X) (lN c) (nI j) (pk_le 8 j (fun h16 => ?_) (fun h16 => ⟨b1, fun r3 e3 => ?_⟩))
  · have : j = 8 := by omega
    subst this
    rw [show (8 : Int32) = nI 8 from rfl, nI_add]
    refine k154 (T', c) ⟨l', hc, ?_⟩
    dsimp only
    rw [hv', hv, hsucc, Nat.add_mul]
    have : X * va (h.ai bw) 8 * 4294967296 ^ i = X * 4294967296 ^ i * bv h bw := by unfold bv; ac_rfl
    rw [this, Nat.add_assoc]
  · rw [e3.trans b2, AH.ai_wiS, AH.ai_wiN n2, b4, l', nI_add, pk_cl j, pk_cl (i + j) rfl (by omega), and_low, and_low, lN_mul, lN_add, lN_add]
    refine ⟨b3, pk_in j 8 h16, t1, pk_in (i + j) 16 (by omega), fun u8 e8 => ⟨pk_in (i + j) 16 (by omega), fun h10 e10 => ?_⟩⟩
    have ht := u32_lt (T'.getD (i + j) 0)
    have hbj := u32_lt ((h.ai bw).getD j 0)
    have hprod : X * u32 ((h.ai bw).getD j 0) ≤ 4294967295 * 4294967295 := Nat.mul_le_mul (by omega) (by omega)
    rw [AH.wi_wi] at e10
    rw [e10, e8, lN_i, lN_ushr (by omega), nI_1]
    refine jh h16 (_, (c + (X * u32 ((h.ai bw).getD j 0) + u32 (T'.getD (i + j) 0))) / 4294967296) ⟨by rw [List.length_set, l'], by dsimp only; omega, ?_⟩
    dsimp only
    rw [show i + (j + 1) = i + j + 1 by omega]
    refine carry_step (m := (c + (X * u32 ((h.ai bw).getD j 0) + u32 (T'.getD (i + j) 0))) % 4294967296) (by omega) (by omega) (by omega) (by omega) _ ?_
    have e9 : X * va (h.ai bw) (j + 1) * 4294967296 ^ i = X * va (h.ai bw) j * 4294967296 ^ i + X * u32 ((h.ai bw).getD j 0) * 4294967296 ^ (i + j) := by
      rw [va_succ, Nat.mul_add, Nat.add_mul _ _ (4294967296 ^ i)]
      have : X * (dg (h.ai bw) j * 4294967296 ^ j) * 4294967296 ^ i = X * u32 ((h.ai bw).getD j 0) * 4294967296 ^ (i + j) := by
        unfold dg
        rw [Nat.pow_add]
        ac_rfl
      rw [this]
    rw [e9, Nat.add_mul, Nat.add_mul]
    show _ = _ + u32 (T'.getD (i + j) 0) * _
    omega
theorem product_47 {to av fr b bw pv : Nat} {Φ : Out → AH → Prop} (t1 : h.kd to = 100) (a1 : h.kd av = 100) (a2 : fr + 8 ≤ (h.ai av).length) (a3 : (h.ai av).length < 2 ^ 31) (hb : BigAt h b bw) (n1 : av ≠ to) (n2 : bw ≠ to) (hpv : pv < 4294967296 ^ 8) (hΦ : ∀ T, T.length = 16 → va T 16 = pv + dv (fun i => dg (h.ai av) (fr + i)) 8 * bv h bw → Φ (.inl none) (h.wi to T)) :
    ∀ i T, i ≤ 8 → (T.length = 16 ∧ va T 16 = pv + dv (fun i => dg (h.ai av) (fr + i)) i * bv h bw) → Aw G mX4_product (d + 1) 0 h Φ 47 [vU, vR to, vR av, vI (nI fr), vR b, vU, vI (nI i), vU, vU, vU, vU, vU] [] (h.wi to T) := by
  refine loop_uc (n := 8) (P := fun i T => Aw G mX4_product (d + 1) 0 h Φ 47 [vU, vR to, vR av, vI (nI fr), vR b, vU, vI (nI i), vU, vU, vU, vU, vU] [] (h.wi to T)) _ (fun i T hi hI ih => ?_)
  obtain ⟨l, hv⟩ := hI
  refine sX4_product_47 _ to av (nI fr) b (nI i) (pk_le 8 i (fun h8 => ?_) (fun h8 => ?_))
  · have : i = 8 := by omega
    subst this
    exact hΦ T l hv
  · rw [nI_add, AH.ai_wiN n1, pk_cl (fr + i) rfl (by omega), and_low]
    refine ⟨a1, pk_in (fr + i) _ (by omega), fun u4 e4 => ?_⟩
    subst e4
    have hx : u32 ((h.ai av).getD (fr + i) 0) = dg (h.ai av) (fr + i) := rfl
    rw [hx]
    have hxl := dg_lt (h.ai av) (fr + i)
    refine ⟨fun hne => ?_, fun he => ?_⟩
    · refine product_83 t1 a1 a2 a3 hb n1 n2 hpv h8 hv (fun x hx => product_154 t1 a1 a2 a3 hb n1 n2 hpv h8 (ih h8) (i + 8) x (by omega) ⟨by omega, hx⟩) 0 (T, 0) (by omega) ⟨l, by dsimp only; omega, ?_⟩
      dsimp only
      rw [va_zero, Nat.mul_zero, Nat.zero_mul, Nat.zero_mul]
    · have hx0 : dg (h.ai av) (fr + i) = 0 := by
        have := congrArg Int64.toInt he
        rw [lN_toInt63 (by omega)] at this
        have h0 : (0 : Int64).toInt = 0 := rfl
        omega
      have hsucc : dv (fun i => dg (h.ai av) (fr + i)) (i + 1) = dv (fun i => dg (h.ai av) (fr + i)) i + dg (h.ai av) (fr + i) * 4294967296 ^ i := rfl
      rw [nI_1]
      refine ih h8 T ⟨l, ?_⟩
      rw [hsucc, hx0, Nat.zero_mul, Nat.add_zero]
      exact hv
theorem Ring_product_spec {R to av fr b bw p pv : Nat} (hd : 1 ≤ d) (t2 : (h.ai to).length = 16) (t1 : h.kd to = 100) (a1 : h.kd av = 100) (a2 : fr + 8 ≤ (h.ai av).length) (a3 : (h.ai av).length < 2 ^ 31) (hb : BigAt h b bw) (n1 : av ≠ to) (n2 : bw ≠ to) (hpv : pv < 4294967296 ^ 8)
    (hp : (p = 0 ∧ pv = 0) ∨ (p ≠ 0 ∧ ∃ pw, BigAt h p pw ∧ pv = bv h pw ∧ pw ≠ to)) :
    Cw G mX4_product d 0 [vR R, vR to, vR av, vI (nI fr), vR b, vR p] h (kV (fun h' => ∃ T, h' = h.wi to T ∧ T.length = 16 ∧ va T 16 = pv + dv (fun i => dg (h.ai av) (fr + i)) 8 * bv h bw) nE) := by
  obtain ⟨d, rfl⟩ : ∃ d', d = d' + 1 := ⟨d - 1, by omega⟩
  refine eX4_product h R to av (nI fr) b p (fun w => sX4_product_0 h R to av (nI fr) b p ?_)
  have k47 := product_47 (G := G) (d := d) t1 a1 a2 a3 hb n1 n2 hpv (Φ := (kV (fun h' => ∃ T, h' = h.wi to T ∧ T.length = 16 ∧ va T 16 = pv + dv (fun i => dg (h.ai av) (fr + i)) 8 * bv h bw) nE)) (fun T l e => ⟨T, rfl, l, e⟩)
  generalize (kV (fun h' => ∃ T, h' = h.wi to T ∧ T.length = 16 ∧ va T 16 = pv + dv (fun i => dg (h.ai av) (fr + i)) 8 * bv h bw) nE) = Φ at *
  have key := loop_uc (n := 16) (P := fun k T => Aw G mX4_product (d + 1) 0 h Φ 3 [vU, vR to, vR av, vI (nI fr), vR b, vR p, vI (nI k), vU, vU, vU, vU, vU] [] (h.wi to T))
    (fun k T => T.length = 16 ∧ (∀ i, 8 ≤ i → i < k → T.getD i 0 = 0) ∧ ∀ i, i < k → i < 8 → u32 (T.getD i 0) = pv / 4294967296 ^ i % 4294967296) (fun k T hk hI ih => ?_) 0 (h.ai to) (by omega) ⟨t2, fun i _ h2 => absurd h2 (by omega), fun i h2 => absurd h2 (by omega)⟩
  · rw [AH.wi_self] at key; exact key
  · obtain ⟨l, z1, z2⟩ := hI
    refine sX4_product_3 _ to av (nI fr) b p (nI k) (pk_le 16 k (fun h16 => ?_) (fun h16 => ⟨fun p0 => ⟨t1, ?_⟩, fun p0 => ?_⟩))
    · refine k47 0 T (by omega) ⟨l, ?_⟩
      have e1 : va T 16 = va T 8 := va_hi0 (by omega) (fun i h1 h2 => z1 i h1 (by omega))
      have e2 : va T 8 = pv := by
        have : va T 8 = dv (fun i => pv / 4294967296 ^ i % 4294967296) 8 := dv_congr (fun i hi => z2 i (by omega) hi)
        rw [this, dv_nat, Nat.mod_eq_of_lt hpv]
      rw [e1, e2]
      show pv = pv + 0 * _
      rw [Nat.zero_mul, Nat.add_zero]
    · rw [AH.ai_wiS, AH.wi_wi, l, pk_cl k, nI_1]
      refine ⟨pk_in k 16 h16, fun h5 e5 => ?_⟩
      rw [e5]
      have hpv0 : pv = 0 := by
        rcases hp with q | q
        · exact q.2
        · exact absurd p0 q.1
      refine ih h16 _ ⟨by rw [List.length_set, l], fun i h1 h2 => ?_, fun i h1 h2 => ?_⟩
      · by_cases e : i = k
        · subst e; rw [getD_set_eq (by omega)]
        · rw [getD_set_ne e]; exact z1 i h1 (by omega)
      · by_cases e : i = k
        · subst e; rw [getD_set_eq (by omega), hpv0, Nat.zero_div]; rfl
        · rw [getD_set_ne e]; exact z2 i (by omega) h2
    · rcases hp with q | ⟨_, pw, ⟨p1, p2, p3, p4⟩, pe, pn⟩
      · exact absurd q.1 p0
      refine pk_le 8 k (fun h8 => ⟨t1, ?_⟩) (fun h8 => ⟨p1, fun r11 e11 => ?_⟩)
      · rw [AH.ai_wiS, AH.wi_wi, l, pk_cl k, nI_1]
        refine ⟨pk_in k 16 h16, fun h5 e5 => ?_⟩
        rw [e5]
        refine ih h16 _ ⟨by rw [List.length_set, l], fun i h1 h2 => ?_, fun i h1 h2 => ?_⟩
        · by_cases e : i = k
          · subst e; rw [getD_set_eq (by omega)]
          · rw [getD_set_ne e]; exact z1 i h1 (by omega)
        · rw [getD_set_ne (by omega)]; exact z2 i (by omega) h2
      · rw [e11.trans p2, AH.ai_wiS, AH.wi_wi, AH.ai_wiN pn, p4, l, pk_cl k, nI_1]
        refine ⟨p3, pk_in k 8 h8, t1, pk_in k 16 h16, fun h5 e5 => ?_⟩
        rw [e5]
        refine ih h16 _ ⟨by rw [List.length_set, l], fun i h1 h2 => ?_, fun i h1 h2 => ?_⟩
        · rw [getD_set_ne (by omega)]; exact z1 i h1 (by omega)
        · by_cases e : i = k
          · subst e; rw [getD_set_eq (by omega), pe]; exact dg_va (L := h.ai pw) (n := 8) h2
          · rw [getD_set_ne e]; exact z2 i (by omega) h2
end Ring

/-! the reference's Ring: in, out, powers -/
set_option maxRecDepth 100000
theorem jshr_bit (x : Int32) {s : Nat} (hs : s < 32) : jshr x (nI s) &&& 1 = nI (u32 x / 2 ^ s % 2) := by
  rw [and_1]
  congr 1
  have h1 := jshr_toInt x hs
  have h2 := toInt_u32 x
  have h3 := toInt_u32 (jshr x (nI s))
  have h4 := u32_lt x
  have h5 := u32_lt (jshr x (nI s))
  generalize u32 (jshr x (nI s)) = v at *
  generalize u32 x = u at *
  have hc : ((u : Int) / 2 ^ s) = ((u / 2 ^ s : Nat) : Int) := by simp
  by_cases q : u < 2 ^ 31
  · rw [if_pos q] at h2
    rw [h2, hc] at h1
    have : u / 2 ^ s ≤ u := Nat.div_le_self _ _
    generalize u / 2 ^ s = w at *
    rw [h1] at h3
    split at h3 <;> omega
  · rw [if_neg q] at h2
    have e1 : (4294967296 : Int) = 2 ^ (32 - s) * 2 ^ s := by
      rw [← Int.pow_add, show 32 - s + s = 32 by omega]
      rfl
    have e2 : ((u : Int) - 4294967296) / 2 ^ s = (u : Int) / 2 ^ s - 2 ^ (32 - s) := by
      rw [e1, show (u : Int) - 2 ^ (32 - s) * 2 ^ s = (u : Int) + (-(2 ^ (32 - s))) * 2 ^ s by rw [Int.neg_mul]; rfl, Int.add_mul_ediv_right _ _ (by have := Int.pow_pos (n := 2) (m := s) (by decide); omega)]
      rfl
    obtain ⟨k, hk⟩ : ∃ k : Nat, 32 - s = k + 1 := ⟨31 - s, by omega⟩
    have e3 : (2 : Int) ^ (32 - s) = 2 * ((2 ^ k : Nat) : Int) := by rw [hk, Int.pow_succ]; simp; omega
    rw [h2, e2, hc, e3] at h1
    generalize u / 2 ^ s = w at *
    generalize 2 ^ k = z at *
    rw [h1] at h3
    split at h3 <;> omega
theorem bit_low {E k : Nat} (h : k < 32) : E % 4294967296 / 2 ^ k % 2 = E / 2 ^ k % 2 := by
  have := mod_div_mod (m := E) (r := k) (c := 1) (by omega)
  rw [Nat.pow_one] at this
  exact this
theorem bit_high {E m k : Nat} (hk : 32 ≤ k) (h : E / 4294967296 = m / 4294967296) : E / 2 ^ k = m / 2 ^ k := by
  have : (2 : Nat) ^ k = 4294967296 * 2 ^ (k - 32) := by
    rw [show (4294967296 : Nat) = 2 ^ 32 from rfl, ← Nat.pow_add, show 32 + (k - 32) = k by omega]
  rw [this, ← Nat.div_div_eq_div_mul, ← Nat.div_div_eq_div_mul, h]
/-- the image of a number in the reference's ring -/
def mM (m x : Nat) : Nat := x * 4294967296 ^ 8 % m
theorem mM_mul {m I a b : Nat} (hI : 4294967296 ^ 8 * I % m = 1) : mM m a * mM m b * I % m = mM m (a * b % m) := by
  unfold mM
  generalize 4294967296 ^ 8 = W8 at *
  have e : a * W8 % m * (b * W8 % m) * I % m = a * W8 * (b * W8) * I % m := by
    rw [Nat.mul_mod, ← Nat.mul_mod (a * W8), ← Nat.mul_mod]
  have e2 : a * W8 * (b * W8) * I = a * b * W8 * (W8 * I) := by ac_rfl
  rw [e, e2, Nat.mul_mod, hI, Nat.mul_one, Nat.mod_mod, Nat.mul_mod (a * b % m), Nat.mod_mod, ← Nat.mul_mod]
theorem mM_mod (m a : Nat) : mM m (a % m) = mM m a := by
  unfold mM
  rw [Nat.mul_mod, Nat.mod_mod, ← Nat.mul_mod]
theorem mM_lt {m a : Nat} (h : 0 < m) : mM m a < m := Nat.mod_lt _ h
theorem mM_add (m a b : Nat) : (mM m a + mM m b) % m = mM m ((a + b) % m) := by
  rw [mM_mod]
  unfold mM
  rw [← Nat.add_mod, Nat.add_mul]
theorem mM_sub {m a b : Nat} (hb : b ≤ m) (hm : 0 < m) : (mM m a + m - mM m b) % m = mM m ((a + m - b) % m) := by
  rw [mM_mod]
  unfold mM
  generalize 4294967296 ^ 8 = W8
  have h1 := Nat.mod_lt (b * W8) hm
  have e : (a + m - b) * W8 + b * W8 = a * W8 + m * W8 := by
    rw [← Nat.add_mul, ← Nat.add_mul, show a + m - b + b = a + m by omega]
  have e2 : ((a * W8 % m + m - b * W8 % m) + b * W8) % m = ((a + m - b) * W8 + b * W8) % m := by
    rw [e, Nat.add_mul_mod_self_left, Nat.add_mod, ← Nat.add_mod (a * W8 % m + m - b * W8 % m)]
    have : (a * W8 % m + m - b * W8 % m + b * W8) % m = (a * W8 % m + m - b * W8 % m + b * W8 % m) % m := by
      rw [Nat.add_mod_mod]
    rw [this, show a * W8 % m + m - b * W8 % m + b * W8 % m = a * W8 % m + m by omega, Nat.add_mod_right, Nat.mod_mod]
  have e3 : ∀ x y c : Nat, (x + c) % m = (y + c) % m → x % m = y % m := by
    intro x y c hxy
    have hc := Nat.mod_lt c hm
    have a1 : (x + c + (m - c % m)) % m = (y + c + (m - c % m)) % m := by rw [Nat.add_mod, hxy, ← Nat.add_mod]
    have a2 : ∀ z, (z + c + (m - c % m)) % m = z % m := by
      intro z
      have := Nat.div_add_mod c m
      rw [show z + c + (m - c % m) = z + m * (c / m + 1) by rw [Nat.mul_add, Nat.mul_one]; omega, Nat.add_mul_mod_self_left]
    rw [a2, a2] at a1
    exact a1
  exact e3 _ _ _ e2
theorem mM_out {m I x : Nat} (hI : 4294967296 ^ 8 * I % m = 1) : mM m x * 1 * I % m = x % m := by
  unfold mM
  rw [Nat.mul_one, Nat.mul_mod, Nat.mod_mod, ← Nat.mul_mod, Nat.mul_assoc, Nat.mul_mod, hI, Nat.mul_one, Nat.mod_mod]
theorem mM_in {m I x : Nat} (hI : 4294967296 ^ 8 * I % m = 1) : x * (4294967296 ^ 8 * 4294967296 ^ 8 % m) * I % m = mM m x := by
  unfold mM
  generalize 4294967296 ^ 8 = W8 at *
  rw [Nat.mul_mod, Nat.mul_mod x, Nat.mod_mod, ← Nat.mul_mod x, ← Nat.mul_mod]
  have : x * (W8 * W8) * I = x * W8 * (W8 * I) := by ac_rfl
  rw [this, Nat.mul_mod, hI, Nat.mul_one, Nat.mod_mod]
/-- 0 is 0 only -/
theorem mM_0 {m I x : Nat} (hI : 4294967296 ^ 8 * I % m = 1) (hx : x < m) : mM m x = 0 ↔ x = 0 := by
  constructor
  · intro e
    have := mM_out (m := m) (I := I) (x := x) hI
    rw [e, Nat.zero_mul, Nat.zero_mod, Nat.mod_eq_of_lt hx] at this
    exact this.symm
  · intro e
    rw [e, mM, Nat.zero_mul, Nat.zero_mod]
theorem mM_inj {m I x y : Nat} (hI : 4294967296 ^ 8 * I % m = 1) (hx : x < m) (hy : y < m) : mM m x = mM m y ↔ x = y := by
  constructor
  · intro e
    have h1 := mM_out (m := m) (I := I) (x := x) hI
    have h2 := mM_out (m := m) (I := I) (x := y) hI
    rw [e, h2, Nat.mod_eq_of_lt hx, Nat.mod_eq_of_lt hy] at h1
    exact h1.symm
  · intro e; rw [e]
theorem jrem_n {a d : Nat} (ha : a < 2 ^ 31) (h0 : 0 < d) (hd : d < 2 ^ 31) : jrem (nI a) (nI d) = nI (a % d) := pk_rem ha h0 hd
theorem dI_lt {k : Nat} (h : k < 2 ^ 31) : dI k < nI k := by
  cases k with
  | zero => decide
  | succ k => rw [dI_succ]; exact nI_lt (by omega) h
section MRing3
variable {G : Gx} {d : Nat} {h : AH} {R m I : Nat} {t a b : Nat}
theorem MRing_enter_spec (hd : 3 ≤ d) (hR : MRingAt h R m I) (ha : RowAt h a) (ht : RowAt h t) (ht2 : t ≠ R + 1 ∧ t ≠ R + 5) (ha2 : a ≠ R + 5) :
    Cw G mX27_enter d 0 [vR R, vR a, vR t] h (kV (fun h' => Mod (fun x => x = R + 5 ∨ x = t) h h' ∧ h'.ai t = lb (mM m (bv h a))) nE) := by
  obtain ⟨d, rfl⟩ : ∃ d', d = d' + 1 := ⟨d - 1, by omega⟩
  have hR' := hR
  obtain ⟨⟨⟨c1, c2, c3, c4, c5, c6, c7, c8, c9, c10, c11, c12, c13, c14, c15⟩, m1, m2, m3⟩, hI, v2, v3, v4⟩ := hR
  refine eX27_enter h R a t (fun w => sX27_enter_0 h R a t ⟨c1, fun r2 e2 => ?_⟩)
  rw [e2.trans c4]
  refine (MRing_multiply_spec (by omega) hR'.1 hI ha c11 ht ht2 ha2 (by omega) (by rw [v3]; exact Nat.mod_lt _ (by omega))).nV (fun h' q => ⟨q.1, ?_⟩)
  rw [q.2, v3, mM_in hI]
theorem MRing_leave_spec (hd : 3 ≤ d) (hR : MRingAt h R m I) (ha : RowAt h a) (ht : RowAt h t) (ht2 : t ≠ R + 1 ∧ t ≠ R + 5) (ha2 : a ≠ R + 5) {x : Nat} (hx : bv h a = mM m x) :
    Cw G mX27_leave d 0 [vR R, vR a, vR t] h (kV (fun h' => Mod (fun x => x = R + 5 ∨ x = t) h h' ∧ h'.ai t = lb (x % m)) nE) := by
  obtain ⟨d, rfl⟩ : ∃ d', d = d' + 1 := ⟨d - 1, by omega⟩
  have hR' := hR
  obtain ⟨⟨⟨c1, c2, c3, c4, c5, c6, c7, c8, c9, c10, c11, c12, c13, c14, c15⟩, m1, m2, m3⟩, hI, v2, v3, v4⟩ := hR
  refine eX27_leave h R a t (fun w => sX27_leave_0 h R a t ⟨c1, fun r2 e2 => ?_⟩)
  rw [e2.trans c5]
  refine (MRing_multiply_spec (by omega) hR'.1 hI ha c12 ht ht2 ha2 (by omega) (by rw [v4]; omega)).nV (fun h' q => ⟨q.1, ?_⟩)
  rw [q.2, v4, hx, mM_out hI]
/-- the rows that a power writes -/
def mpP (R t x : Nat) : Prop := (R + 5 ≤ x ∧ x ≤ R + 7) ∨ x = t
theorem mpow_24 {Φ : Out → AH → Prop} {A E sh : Nat} {more : Int32} (hd : 2 ≤ d) (hR : MRingAt h R m I) (hE1 : E / 4294967296 = m / 4294967296) (hE2 : u32 ((h.ai (R + 1)).getD 0 0 + more) = E % 4294967296) (hsh : sh ≤ 2) (ht : RowAt h t) (ht2 : ¬ (R + 1 ≤ t ∧ t ≤ R + 7)) (hΦ : ∀ h1, Mod (mpP R t) h h1 → h1.ai t = lb (mM m (A ^ (E / 2 ^ sh) % m)) → Φ (.inl none) h1) :
    ∀ j h1, (Mod (mpP R t) h h1 ∧ bv h1 (R + 7) = mM m (A ^ (E / 2 ^ (sh + j)) % m) ∧ bv h1 (R + 6) = mM m A) → sh + j ≤ 256 → Aw G mX27_power (d + 1) 0 h Φ 24 [vR R, vU, vI more, vI (nI sh), vR t, vI (dI (sh + j)), vU] [] h1 := by
  have q1 : R + 7 ≠ R + 1 ∧ R + 7 ≠ R + 5 := by omega
  have q3 : R + 6 ≠ R + 5 := by omega
  have y1 : ¬ mpP R t (R + 1) := by unfold mpP; omega
  have y2 : ¬ mpP R t (R + 2) := by unfold mpP; omega
  have y3 : ¬ mpP R t (R + 3) := by unfold mpP; omega
  have y4 : ¬ mpP R t (R + 4) := by unfold mpP; omega
  have z1 : ¬ (R + 1 = R + 5 ∨ R + 1 = R + 7) := by omega
  have z2 : ¬ (R + 2 = R + 5 ∨ R + 2 = R + 7) := by omega
  have z3 : ¬ (R + 3 = R + 5 ∨ R + 3 = R + 7) := by omega
  have z4 : ¬ (R + 4 = R + 5 ∨ R + 4 = R + 7) := by omega
  have z6 : ¬ (R + 6 = R + 5 ∨ R + 6 = R + 7) := by omega
  have sub : ∀ x, (x = R + 5 ∨ x = R + 7) → mpP R t x := by intro x hx; unfold mpP; omega
  have hR' := hR
  obtain ⟨⟨⟨c1, c2, c3, c4, c5, c6, c7, c8, c9, c10, c11, c12, c13, c14, c15⟩, m1, m2, m3⟩, hI, v2, v3, v4⟩ := hR
  have hd1 : 1 ≤ d := by omega
  have hm0 : 0 < m := by omega
  have hmlt : m < 4294967296 ^ 8 := by rw [← m1]; exact bv_lt _ _
  have hmM : ∀ x, mM m x < 4294967296 ^ 8 := fun x => Nat.lt_trans (mM_lt hm0) hmlt
  refine loop_dn _ (fun j h1 hJ ih hk => ?_) (fun h1 hJ hk => ?_)
  · obtain ⟨M, i1, i2⟩ := hJ
    obtain ⟨k, hkk⟩ : ∃ k, k = sh + j := ⟨_, rfl⟩
    rw [← Nat.add_assoc, ← hkk] at i1
    have hk2 : k < 2 ^ 31 := by omega
    have hk3 : k < 256 := by omega
    have hk5 : ¬ nI k < nI sh := nI_nlt (by omega) hk2
    rw [← Nat.add_assoc, ← hkk, dI_succ]
    rw [← hkk] at ih
    have ih' : ∀ h1, (Mod (mpP R t) h h1 ∧ bv h1 (R + 7) = mM m (A ^ (E / 2 ^ k) % m) ∧ bv h1 (R + 6) = mM m A) → Aw G mX27_power (d + 1) 0 h Φ 24 [vR R, vU, vI more, vI (nI sh), vR t, vI (dI k), vU] [] h1 := fun h1 hh => ih h1 hh (by omega)
    have hR1 : MRingAt h1 R m I := hR'.mod M y1 y2 y3 y4
    clear ih hk hkk
    refine sX27_power_24 _ R more (nI sh) t (nI k) ⟨fun q => absurd q hk5, fun _ => ⟨hR1.1.1.1, fun r7 e7 => ?_⟩⟩
    rw [e7.trans hR1.1.1.2.2.2.2.2.2.2.1]
    refine (MRing_multiply_spec hd hR1.1 hI (c15.mod M) (c15.mod M) (c15.mod M) q1 q1.2 q1.2 (by rw [i1]; exact mM_lt hm0)).nV (fun h9 q => ?_)
    obtain ⟨Mq, vq⟩ := q
    rw [i1, mM_mul hI] at vq
    have j1 : bv h9 (R + 7) = mM m (A ^ (E / 2 ^ (k + 1)) % m * (A ^ (E / 2 ^ (k + 1)) % m) % m) := bv_lb vq (hmM _)
    have M' : Mod (mpP R t) h h9 := M.trans (Mq.mono sub)
    have j2 : bv h9 (R + 6) = mM m A := by rw [Mq.bv z6, i2]
    have hR2 : MRingAt h9 R m I := hR1.mod Mq z1 z2 z3 z4
    have hb2 : E / 2 ^ k % 2 < 2 := Nat.mod_lt _ (by decide)
    have hst := pow_step (a := A) (q := E / 2 ^ (k + 1)) (b := E / 2 ^ k % 2) (m := m) hb2
    rw [← half_bit] at hst
    have fin0 : ¬ nI (E / 2 ^ k % 2) = 1 → Aw G mX27_power (d + 1) 0 h Φ 24 [vR R, vU, vI more, vI (nI sh), vR t, vI (nI k + (-1)), vU] [] h9 := by
      intro q
      refine ih' h9 ⟨M', ?_, j2⟩
      have h0 : E / 2 ^ k % 2 ≠ 1 := fun e => by rw [e] at q; exact q rfl
      rw [if_neg h0, Nat.mul_one, Nat.mod_mod] at hst
      rw [j1, hst]
    have fin1 : nI (E / 2 ^ k % 2) = 1 → ∀ r19 : Nat, r19 = (h9.r 27006 R) → Cw G mX27_multiply d 0 [vR R, vR (R + 7), vR r19, vR (R + 7)] h9 (kV (fun h21 => Aw G mX27_power (d + 1) 0 h Φ 24 [vR R, vU, vI more, vI (nI sh), vR t, vI (nI k + (-1)), vU] [] h21) (fun x h => Φ (.inr x) h)) := by
      intro q r19 e19
      rw [e19.trans hR2.1.1.2.2.2.2.2.2.1]
      refine (MRing_multiply_spec hd hR2.1 hI (c15.mod M') (c14.mod M') (c15.mod M') q1 q1.2 q3 (by rw [j2]; exact mM_lt hm0)).nV (fun h23 q2 => ?_)
      obtain ⟨Mq2, vq2⟩ := q2
      rw [j1, j2, mM_mul hI] at vq2
      refine ih' h23 ⟨M'.trans (Mq2.mono sub), ?_, by rw [Mq2.bv z6, j2]⟩
      have h1' : E / 2 ^ k % 2 = 1 := by
        rcases Nat.mod_two_eq_zero_or_one (E / 2 ^ k) with e | e
        · rw [e] at q
          exact absurd q (by decide)
        · exact e
      rw [if_pos h1'] at hst
      rw [← hst]
      exact bv_lb vq2 (hmM _)
    have hrow : h9.ai (R + 1) = h.ai (R + 1) := M'.ai y1
    refine pk_le 32 k (fun h32 r12 e12 => ?_) (fun h32 r23 e23 => ?_)
    · rw [e12.trans hR2.1.1.2.1, hrow, c9.2, show (32 : Int32) = nI 32 from rfl, pk_div hk2 (by decide) (by decide), jrem_n hk2 (by decide) (by decide), pk_cl (k / 32) rfl (Nat.lt_of_le_of_lt (Nat.div_le_self _ _) hk2)]
      have hk8 : k / 32 < 8 := (Nat.div_lt_iff_lt_mul (by decide)).mpr hk3
      refine ⟨(c9.mod M').1, pk_in (k / 32) 8 hk8, fun u15 e15 => ?_⟩
      have hw : u32 u15 = m / 4294967296 ^ (k / 32) % 4294967296 := by rw [e15, ← m1]; exact dg_va (L := h.ai (R + 1)) (n := 8) hk8
      rw [jshr_bit _ (Nat.mod_lt _ (by decide)), hw, bit_nat, ← bit_high h32 hE1]
      exact ⟨fin0, fin1⟩
    · rw [e23.trans hR2.1.1.2.1, hrow, c9.2, pk_cl 0, show (32 : Int32) = nI 32 from rfl, jrem_n hk2 (by decide) (by decide)]
      refine ⟨(c9.mod M').1, pk_in 0 8 (by decide), fun u26 e26 => ?_⟩
      rw [jshr_bit _ (Nat.mod_lt _ (by decide)), e26, hE2, Nat.mod_eq_of_lt h32, bit_low h32]
      exact ⟨fin0, fin1⟩
  · obtain ⟨M, i1, i2⟩ := hJ
    have hR1 : MRingAt h1 R m I := hR'.mod M y1 y2 y3 y4
    rw [show sh + 0 = sh from rfl] at i1
    rw [show sh + 0 = sh from rfl]
    refine sX27_power_24 _ R more (nI sh) t (dI sh) ⟨fun _ => ⟨hR1.1.1.1, fun r3 e3 => ?_⟩, fun q => absurd (dI_lt (by omega)) q⟩
    rw [e3.trans hR1.1.1.2.2.2.2.2.2.2.1]
    refine (Row_copy_spec hd1 (c15.mod M) (ht.mod M)).nV (fun h5 q => ?_)
    subst q
    refine hΦ _ (M.trans (Mod.wi (by rw [(c15.mod M).2, (ht.mod M).2]) (Or.inr rfl))) ?_
    rw [AH.ai_wiS, ai_lb (c15.mod M).2, i1]
theorem MRing_power_spec {A E sh : Nat} {more : Int32} (hd : 3 ≤ d) (hR : MRingAt h R m I) (hE : E < 4294967296 ^ 8) (hE1 : E / 4294967296 = m / 4294967296) (hE2 : u32 ((h.ai (R + 1)).getD 0 0 + more) = E % 4294967296) (hsh : sh ≤ 2) (ha : RowAt h a) (hA : bv h a = mM m A) (ht : RowAt h t) (ht2 : ¬ (R + 1 ≤ t ∧ t ≤ R + 7)) :
    Cw G mX27_power d 0 [vR R, vR a, vI more, vI (nI sh), vR t] h (kV (fun h' => Mod (mpP R t) h h' ∧ h'.ai t = lb (mM m (A ^ (E / 2 ^ sh) % m))) nE) := by
  obtain ⟨d, rfl⟩ : ∃ d', d = d' + 1 := ⟨d - 1, by omega⟩
  have hR' := hR
  obtain ⟨⟨⟨c1, c2, c3, c4, c5, c6, c7, c8, c9, c10, c11, c12, c13, c14, c15⟩, m1, m2, m3⟩, hI, v2, v3, v4⟩ := hR
  have hd1 : 1 ≤ d := by omega
  have hd2 : 2 ≤ d := by omega
  have p6 : mpP R t (R + 6) := by unfold mpP; omega
  have p7 : mpP R t (R + 7) := by unfold mpP; omega
  have n26 : R + 2 ≠ R + 6 := by omega
  have n76 : R + 7 ≠ R + 6 := by omega
  have n67 : R + 6 ≠ R + 7 := by omega
  refine eX27_power h R a more (nI sh) t (fun w => sX27_power_0 h R a more (nI sh) t ⟨c1, fun r2 e2 => ?_⟩)
  rw [e2.trans c7]
  refine (Row_copy_spec hd1 ha c14).nV (fun h4 q => ?_)
  subst q
  have M1 : Mod (mpP R t) h (h.wi (R + 6) (h.ai a)) := Mod.wi (by rw [ha.2, c14.2]) p6
  intro r6 e6 r7 e7
  rw [e6.trans c3, e7.trans c8]
  refine (Row_copy_spec hd1 (c10.mod M1) (c15.mod M1)).nV (fun h4 q => ?_)
  subst q
  rw [AH.ai_wiN n26]
  have M2 : Mod (mpP R t) h ((h.wi (R + 6) (h.ai a)).wi (R + 7) (h.ai (R + 2))) := M1.trans (Mod.wi (by rw [AH.ai_wiN n76, c10.2, c15.2]) p7)
  have e255 : (255 : Int32) = dI (sh + (256 - sh)) := by
    rw [show sh + (256 - sh) = 256 by omega]
    rfl
  rw [e255]
  refine mpow_24 (A := A) hd2 hR' hE1 hE2 hsh ht ht2 (fun h1 x y => ⟨x, y⟩) (256 - sh) _ ⟨M2, ?_, ?_⟩ (by omega)
  · have e0 : E / 2 ^ (sh + (256 - sh)) = 0 := by
      rw [show sh + (256 - sh) = 256 by omega]
      exact Nat.div_eq_of_lt hE
    rw [e0, Nat.pow_zero, mM_mod]
    show va _ 8 = _
    rw [AH.ai_wiS, mM, Nat.one_mul]
    exact v2
  · rw [bv_wiN n67]
    show va _ 8 = _
    rw [AH.ai_wiS]
    exact hA
end MRing3

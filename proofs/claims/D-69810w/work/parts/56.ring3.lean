/-! Ring: sums, powers, inverses, its constructor -/
set_option maxRecDepth 100000
theorem bv_lb {h : AH} {w n : Nat} (e : h.ai w = lb n) (hn : n < 4294967296 ^ 8) : bv h w = n := by
  unfold bv
  rw [e, va_lb8 hn]
theorem pow_step {a q b m : Nat} (hb : b < 2) : (a ^ q % m * (a ^ q % m) % m * (if b = 1 then a else 1)) % m = a ^ (2 * q + b) % m := by
  have e : a ^ (2 * q + b) = a ^ q * a ^ q * (if b = 1 then a else 1) := by
    rw [Nat.pow_add, Nat.two_mul, Nat.pow_add]
    have : b = 0 ∨ b = 1 := by omega
    rcases this with rfl | rfl
    · rw [if_neg (by decide), Nat.pow_zero]
    · rw [if_pos rfl, Nat.pow_one]
  rw [e, Nat.mul_mod, Nat.mod_mod, ← Nat.mul_mod (a ^ q) (a ^ q), ← Nat.mul_mod]
theorem half_bit (e k : Nat) : e / 2 ^ k = 2 * (e / 2 ^ (k + 1)) + e / 2 ^ k % 2 := by
  rw [Nat.pow_succ, ← Nat.div_div_eq_div_mul]
  omega
section Ring3
variable {G : Gx} {d : Nat} {h : AH} {R m : Nat}
theorem Ring_add_spec {t tw a aw b bw : Nat} (hd : 2 ≤ d) (hR : RingAt h R m) (ht : BigAt h t tw) (ha : BigAt h a aw) (hb : BigAt h b bw) (ht2 : tw ≠ R + 2) (la : bv h aw < m) (lb_ : bv h bw < m) :
    Cw G mX4_add d 0 [vR R, vR t, vR a, vR b] h (kV (fun h' => h' = h.wi tw (lb ((bv h aw + bv h bw) % m))) nE) := by
  obtain ⟨d, rfl⟩ : ∃ d', d = d' + 1 := ⟨d - 1, by omega⟩
  obtain ⟨⟨c1, c2, c3, c4, c5, c6, c7, c8, c9, c10, c11, c12, c13, c14, c15, c16, c17, c18, c19⟩, m1, m2, m3⟩ := hR
  have hmlt : m < 4294967296 ^ 8 := by rw [← m1]; exact bv_lt _ _
  refine eX4_add h R t a b (fun w => sX4_add_0 h R t a b ⟨ht.1, (Big_add_spec (by omega) ht ha hb).nI (fun x h2 q => ?_)⟩)
  obtain ⟨rfl, rfl⟩ := q
  generalize bv h aw = A at *
  generalize bv h bw = B at *
  have hM : Mod (fun x => x = tw) h (h.wi tw (lb (A + B))) := Mod.wi (by rw [lb_len, ht.2.2.2]) rfl
  have hbt : bv (h.wi tw (lb (A + B))) tw = (A + B) % 4294967296 ^ 8 := bv_wiS _ _ _
  have hbm : bv (h.wi tw (lb (A + B))) (R + 2) = m := by rw [bv_wiN (by omega)]; exact m1
  have hsub : ∀ x, x = ((A + B) % 4294967296 ^ 8 + 4294967296 ^ 8 - m) → m ≤ A + B → lb x = lb ((A + B) % m) := by
    intro x hx hge
    have e1 : (A + B) % m = A + B - m := by rw [Nat.mod_eq_sub_mod hge, Nat.mod_eq_of_lt (by omega)]
    rw [e1, hx]
    apply lb_congr
    have := Nat.div_add_mod (A + B) (4294967296 ^ 8)
    omega
  refine ⟨fun q => ⟨c1, fun r6 e6 => ?_⟩, fun q => ⟨c1, fun r11 e11 => ?_⟩⟩
  · rw [e6.trans c2]
    refine (Big_subtract_spec (by omega) (ht.mod hM) (ht.mod hM) (c11.mod hM)).nR (fun x h8 q8 => ?_)
    obtain ⟨_, rfl⟩ := q8
    show _ = _
    rw [AH.wi_wi, hbt, hbm, hsub _ rfl]
    have : (A + B) / 4294967296 ^ 8 ≠ 0 := fun e => by rw [e] at q; exact absurd q (by decide)
    have : 4294967296 ^ 8 ≤ A + B := by
      by_cases e : A + B < 4294967296 ^ 8
      · exact absurd (Nat.div_eq_of_lt e) this
      · omega
    omega
  · rw [e11.trans c2]
    have hlt : A + B < 4294967296 ^ 8 := by
      by_cases e : A + B < 4294967296 ^ 8
      · exact e
      · exfalso
        apply q
        have : (A + B) / 4294967296 ^ 8 = 1 := by
          apply Nat.div_eq_of_lt_le <;> omega
        rw [this]
        rfl
    refine (Big_compare_spec (by omega) (ht.mod hM) (c11.mod hM)).nI (fun x h8 q8 => ?_)
    obtain ⟨rfl, rfl⟩ := q8
    rw [hbt, hbm, cmpI_lt, Nat.mod_eq_of_lt hlt]
    refine ⟨fun q2 => ?_, fun q2 => ?_⟩
    · show _ = _
      rw [Nat.mod_eq_of_lt q2]
    · refine (Big_subtract_spec (by omega) (ht.mod hM) (ht.mod hM) (c11.mod hM)).nR (fun x h8 q8 => ?_)
      obtain ⟨_, rfl⟩ := q8
      show _ = _
      rw [AH.wi_wi, hbt, hbm, hsub _ rfl (by omega)]
theorem Ring_subtract_spec {t tw a aw b bw : Nat} (hd : 2 ≤ d) (hR : RingAt h R m) (ht : BigAt h t tw) (ha : BigAt h a aw) (hb : BigAt h b bw) (ht2 : tw ≠ R + 2) (la : bv h aw < m) (lb_ : bv h bw < m) :
    Cw G mX4_subtract d 0 [vR R, vR t, vR a, vR b] h (kV (fun h' => h' = h.wi tw (lb ((bv h aw + m - bv h bw) % m))) nE) := by
  obtain ⟨d, rfl⟩ : ∃ d', d = d' + 1 := ⟨d - 1, by omega⟩
  obtain ⟨⟨c1, c2, c3, c4, c5, c6, c7, c8, c9, c10, c11, c12, c13, c14, c15, c16, c17, c18, c19⟩, m1, m2, m3⟩ := hR
  have hmlt : m < 4294967296 ^ 8 := by rw [← m1]; exact bv_lt _ _
  refine eX4_subtract h R t a b (fun w => sX4_subtract_0 h R t a b ⟨ha.1, (Big_compare_spec (by omega) ha hb).nI (fun x h2 q => ?_)⟩)
  obtain ⟨rfl, rfl⟩ := q
  rw [cmpI_ge]
  have hs := Big_subtract_spec (G := G) (d := d) (by omega) ht ha hb
  generalize bv h2 aw = A at *
  generalize bv h2 bw = B at *
  have hM : Mod (fun x => x = tw) h2 (h2.wi tw (lb (A + 4294967296 ^ 8 - B))) := Mod.wi (by rw [lb_len, ht.2.2.2]) rfl
  have hbt : bv (h2.wi tw (lb (A + 4294967296 ^ 8 - B))) tw = (A + 4294967296 ^ 8 - B) % 4294967296 ^ 8 := bv_wiS _ _ _
  have hbm : bv (h2.wi tw (lb (A + 4294967296 ^ 8 - B))) (R + 2) = m := by rw [bv_wiN (by omega)]; exact m1
  refine ⟨fun q => ⟨ht.1, hs.nR (fun x h6 q6 => ?_)⟩, fun q => ⟨ht.1, hs.nR (fun x h6 q6 => ?_)⟩⟩
  · obtain ⟨_, rfl⟩ := q6
    refine ⟨fun _ => ?_, fun q0 => absurd rfl q0⟩
    show _ = _
    have e1 : (A + m - B) % m = A - B := by
      rw [show A + m - B = A - B + m by omega, Nat.add_mod_right, Nat.mod_eq_of_lt (by omega)]
    rw [e1, lb_congr (a := A + 4294967296 ^ 8 - B) (b := A - B)]
    omega
  · obtain ⟨_, rfl⟩ := q6
    refine ⟨fun q0 => absurd q0 (by decide), fun _ => ⟨c1, fun r19 e19 => ?_⟩⟩
    rw [e19.trans c2]
    refine (Big_add_spec (by omega) (ht.mod hM) (ht.mod hM) (c11.mod hM)).nI (fun x h8 q8 => ?_)
    obtain ⟨_, rfl⟩ := q8
    show _ = _
    rw [AH.wi_wi, hbt, hbm, Nat.mod_eq_of_lt (show A + m - B < m by omega)]
    rw [lb_congr (b := A + m - B)]
    omega
theorem Ring_reduce_spec {t tw : Nat} (hd : 2 ≤ d) (hR : RingAt h R m) (ht : BigAt h t tw) (ht2 : tw ≠ R + 2) : Cw G mX4_reduce d 0 [vR R, vR t] h (kV (fun h' => h' = h.wi tw (lb (bv h tw % m))) nE) := by
  obtain ⟨d, rfl⟩ : ∃ d', d = d' + 1 := ⟨d - 1, by omega⟩
  obtain ⟨⟨c1, c2, c3, c4, c5, c6, c7, c8, c9, c10, c11, c12, c13, c14, c15, c16, c17, c18, c19⟩, m1, m2, m3⟩ := hR
  refine eX4_reduce h R t (fun w => ?_)
  have key : ∀ n, (n < 4294967296 ^ 8 ∧ n % m = bv h tw % m) → Aw G mX4_reduce (d + 1) 0 h (kV (fun h' => h' = h.wi tw (lb (bv h tw % m))) nE) 0 [vR R, vR t] [] (h.wi tw (lb n)) := by
    refine loop_wf (fun n => n) _ (fun n hI ih => ?_)
    have hM : Mod (fun x => x = tw) h (h.wi tw (lb n)) := Mod.wi (by rw [lb_len, ht.2.2.2]) rfl
    have hbt : bv (h.wi tw (lb n)) tw = n := by rw [bv_wiS, Nat.mod_eq_of_lt hI.1]
    have hbm : bv (h.wi tw (lb n)) (R + 2) = m := by rw [bv_wiN (by omega)]; exact m1
    refine sX4_reduce_0 _ R t ⟨c1, fun r2 e2 => ⟨ht.1, ?_⟩⟩
    rw [e2.trans c2]
    refine (Big_compare_spec (by omega) (ht.mod hM) (c11.mod hM)).nI (fun x h8 q8 => ?_)
    obtain ⟨rfl, rfl⟩ := q8
    rw [hbt, hbm, cmpI_lt]
    refine ⟨fun q2 => ?_, fun q2 => ?_⟩
    · show _ = _
      rw [← hI.2, Nat.mod_eq_of_lt q2]
    · refine (Big_subtract_spec (by omega) (ht.mod hM) (ht.mod hM) (c11.mod hM)).nR (fun x h8 q8 => ?_)
      obtain ⟨_, rfl⟩ := q8
      rw [AH.wi_wi, hbt, hbm, lb_congr (a := n + 4294967296 ^ 8 - m) (b := n - m) (by omega)]
      exact ih _ ⟨by omega, by rw [← hI.2, ← Nat.mod_eq_sub_mod (by omega)]⟩ (by omega)
  have := key (bv h tw) ⟨bv_lt _ _, rfl⟩
  rw [← ai_lb ht.2.2.2, AH.wi_self] at this
  exact this
/-- the rows that a ring works in -/
def scr (R x : Nat) : Prop := R + 5 ≤ x ∧ x ≤ R + 16
/-- the rows that a power writes -/
def pwP (R tw x : Nat) : Prop := (scr R x ∧ x ≠ R + 16) ∨ x = tw
theorem mP_pwP {R tw x : Nat} (h : x = R + 5 ∨ x = R + 6 ∨ x = R + 12 ∨ x = R + 10) : pwP R tw x := by unfold pwP scr; omega
theorem power_38 {t tw a e : Nat} {Φ : Out → AH → Prop} {A E : Nat} (hd : 2 ≤ d) (hR : RingAt h R m) (hm : m < 4294967296 ^ 8) (ht : BigAt h t tw) (np2 : ¬ pwP R tw (R + 2)) (np4 : ¬ pwP R tw (R + 4)) (hΦ : ∀ h1, Mod (pwP R tw) h h1 → h1.ai tw = lb (A ^ E % m) → Φ (.inl none) h1) :
    ∀ k h1, (Mod (pwP R tw) h h1 ∧ bv h1 (R + 10) = A ^ (E / 2 ^ k) % m ∧ bv h1 (R + 8) = E ∧ bv h1 (R + 14) = A) → k ≤ 256 → Aw G mX4_power (d + 1) 0 h Φ 38 [vR R, vR t, vU, vU, vI (dI k)] [] h1 := by
  have q1 : R + 10 ≠ R + 2 ∧ R + 10 ≠ R + 4 ∧ R + 10 ≠ R + 5 ∧ R + 10 ≠ R + 6 ∧ R + 10 ≠ R + 12 := by omega
  have q2 : R + 10 ≠ R + 5 := by omega
  have q3 : R + 14 ≠ R + 5 := by omega
  have x2 : ¬ (R + 2 = R + 5 ∨ R + 2 = R + 6 ∨ R + 2 = R + 12 ∨ R + 2 = R + 10) := by omega
  have x4 : ¬ (R + 4 = R + 5 ∨ R + 4 = R + 6 ∨ R + 4 = R + 12 ∨ R + 4 = R + 10) := by omega
  have x8 : ¬ (R + 8 = R + 5 ∨ R + 8 = R + 6 ∨ R + 8 = R + 12 ∨ R + 8 = R + 10) := by omega
  have x14 : ¬ (R + 14 = R + 5 ∨ R + 14 = R + 6 ∨ R + 14 = R + 12 ∨ R + 14 = R + 10) := by omega
  have hR' := hR
  obtain ⟨⟨c1, c2, c3, c4, c5, c6, c7, c8, c9, c10, c11, c12, c13, c14, c15, c16, c17, c18, c19⟩, m1, m2, m3⟩ := hR
  have hd1 : 1 ≤ d := by omega
  refine loop_dn _ (fun k h1 hI ih hk => ?_) (fun h1 hI hk => ?_)
  · obtain ⟨M, i1, i2, i3⟩ := hI
    have hk2 : k < 2 ^ 31 := by omega
    have hk3 : k < 256 := by omega
    have hk4 : k ≤ 256 := by omega
    have hR1 : RingAt h1 R m := hR'.mod M np2 np4
    rw [dI_succ]
    refine sX4_power_38 _ R t (nI k) ⟨fun q => absurd q (nI_pos hk2), fun _ => ⟨hR1.1.1, fun r8 e8 => ?_⟩⟩
    rw [e8.trans hR1.1.2.2.2.2.2.2.1]
    refine (Ring_multiply_spec hd hR1 (c16.mod M) (c16.mod M) (c16.mod M) q1 q2 q2).nV (fun h10 q => ?_)
    obtain ⟨Mq, vq⟩ := q
    have M' : Mod (pwP R tw) h h10 := M.trans (Mq.mono (fun x hx => mP_pwP hx))
    have hR2 : RingAt h10 R m := hR1.mod Mq x2 x4
    intro r12 e12
    rw [e12.trans hR2.1.2.2.2.2.2.1]
    have j2 : bv h10 (R + 8) = E := by rw [Mq.bv x8, i2]
    have j3 : bv h10 (R + 14) = A := by rw [Mq.bv x14, i3]
    have j1 : bv h10 (R + 10) = A ^ (E / 2 ^ (k + 1)) % m * (A ^ (E / 2 ^ (k + 1)) % m) % m := by
      rw [i1] at vq
      exact bv_lb vq (Nat.lt_trans (Nat.mod_lt _ m3) hm)
    refine ⟨(c15.mod M').1, (Big_bit_spec (k := k) hk3 hd1 (c15.mod M')).nI (fun x13 h14 q => ?_)⟩
    obtain ⟨rfl, rfl⟩ := q
    rw [j2]
    have hb2 : E / 2 ^ k % 2 < 2 := Nat.mod_lt _ (by decide)
    have hst := pow_step (a := A) (q := E / 2 ^ (k + 1)) (b := E / 2 ^ k % 2) (m := m) hb2
    rw [← half_bit] at hst
    refine ⟨fun q => ?_, fun q r21 e21 => ?_⟩
    · refine ih h14 ⟨M', ?_, j2, j3⟩ hk4
      have h0 : E / 2 ^ k % 2 ≠ 1 := fun e => by rw [e] at q; exact q rfl
      rw [if_neg h0, Nat.mul_one, Nat.mod_mod] at hst
      rw [j1, hst]
    · rw [e21.trans hR2.1.2.2.2.2.2.2.2.2.1]
      refine (Ring_multiply_spec hd hR2 (c16.mod M') (c16.mod M') (c18.mod M') q1 q2 q3).nV (fun h23 q2 => ?_)
      obtain ⟨Mq2, vq2⟩ := q2
      refine ih h23 ⟨M'.trans (Mq2.mono (fun x hx => mP_pwP hx)), ?_, by rw [Mq2.bv x8, j2], by rw [Mq2.bv x14, j3]⟩ hk4
      have h1' : E / 2 ^ k % 2 = 1 := by
        rcases Nat.mod_two_eq_zero_or_one (E / 2 ^ k) with e | e
        · rw [e] at q
          exact absurd q (by decide)
        · exact e
      rw [if_pos h1'] at hst
      rw [← hst, ← j1, ← j3]
      exact bv_lb vq2 (Nat.lt_trans (Nat.mod_lt _ m3) hm)
  · obtain ⟨M, i1, i2, i3⟩ := hI
    have hR1 : RingAt h1 R m := hR'.mod M np2 np4
    refine sX4_power_38 _ R t (dI 0) ⟨fun _ => ⟨hR1.1.1, fun r3 e3 => ?_⟩, fun q => absurd (by decide) q⟩
    rw [e3.trans hR1.1.2.2.2.2.2.2.1]
    refine ⟨(ht.mod M).1, (Big_copy_spec hd1 (ht.mod M) (c16.mod M)).nR (fun x h5 q => ?_)⟩
    obtain ⟨_, rfl⟩ := q
    refine hΦ _ (M.trans (Mod.wi (by rw [(c16.mod M).2.2.2, (ht.mod M).2.2.2]) (Or.inr rfl))) ?_
    rw [AH.ai_wiS, ai_lb (c16.mod M).2.2.2, i1, Nat.pow_zero, Nat.div_one]
theorem Ring_power_spec {t tw a aw e ew : Nat} (hd : 3 ≤ d) (hR : RingAt h R m) (hm : 1 < m) (ht : BigAt h t tw) (ha : BigAt h a aw) (he : BigAt h e ew) (ht2 : tw ≠ R + 2 ∧ tw ≠ R + 4) (ha2 : aw ≠ R + 8 ∧ aw ≠ R + 10) (he2 : ew ≠ R + 10) :
    Cw G mX4_power d 0 [vR R, vR t, vR a, vR e] h (kV (fun h' => Mod (pwP R tw) h h' ∧ h'.ai tw = lb (bv h aw ^ bv h ew % m)) nE) := by
  obtain ⟨d, rfl⟩ : ∃ d', d = d' + 1 := ⟨d - 1, by omega⟩
  have hR' := hR
  have np2 : ¬ pwP R tw (R + 2) := by unfold pwP scr; omega
  have np4 : ¬ pwP R tw (R + 4) := by unfold pwP scr; omega
  have p8 : pwP R tw (R + 8) := by unfold pwP scr; omega
  have p10 : pwP R tw (R + 10) := by unfold pwP scr; omega
  have p14 : pwP R tw (R + 14) := by unfold pwP scr; omega
  have n810 : R + 8 ≠ R + 10 := by omega
  have n148 : R + 14 ≠ R + 8 := by omega
  have n1410 : R + 14 ≠ R + 10 := by omega
  have n1014 : R + 10 ≠ R + 14 := by omega
  have n108 : R + 10 ≠ R + 8 := by omega
  have n814 : R + 8 ≠ R + 14 := by omega
  have hd1 : 1 ≤ d := by omega
  have hd2 : 2 ≤ d := by omega
  obtain ⟨⟨c1, c2, c3, c4, c5, c6, c7, c8, c9, c10, c11, c12, c13, c14, c15, c16, c17, c18, c19⟩, m1, m2, m3⟩ := hR
  have hmlt : m < 4294967296 ^ 8 := by rw [← m1]; exact bv_lt _ _
  refine eX4_power h R t a e (fun w => sX4_power_0 h R t a e ⟨c1, fun r2 e2 => ?_⟩)
  rw [e2.trans c7]
  refine ⟨c16.1, (Big_small_spec (v := 1) (by omega) (by omega) c16).nR (fun x3 h4 q => ?_)⟩
  obtain ⟨_, rfl⟩ := q
  have M1 : Mod (pwP R tw) h (h.wi (R + 10) (lb 1)) := Mod.wi (by rw [lb_len, c16.2.2.2]) p10
  intro r7 e7
  rw [e7.trans c6]
  refine ⟨c15.1, (Big_copy_spec hd1 (c15.mod M1) (he.mod M1)).nR (fun x8 h9 q => ?_)⟩
  obtain ⟨_, rfl⟩ := q
  rw [AH.ai_wiN he2]
  have M2 : Mod (pwP R tw) h ((h.wi (R + 10) (lb 1)).wi (R + 8) (h.ai ew)) := M1.trans (Mod.wi (by rw [AH.ai_wiN n810, c15.2.2.2, he.2.2.2]) p8)
  intro r12 e12
  rw [e12.trans c9]
  refine ⟨c18.1, (Big_copy_spec hd1 (c18.mod M2) (ha.mod M2)).nR (fun x8 h9 q => ?_)⟩
  obtain ⟨_, rfl⟩ := q
  rw [AH.ai_wiN ha2.1, AH.ai_wiN ha2.2]
  have M3 : Mod (pwP R tw) h (((h.wi (R + 10) (lb 1)).wi (R + 8) (h.ai ew)).wi (R + 14) (h.ai aw)) := M2.trans (Mod.wi (by rw [AH.ai_wiN n148, AH.ai_wiN n1410, c18.2.2.2, ha.2.2.2]) p14)
  have v1 : bv (((h.wi (R + 10) (lb 1)).wi (R + 8) (h.ai ew)).wi (R + 14) (h.ai aw)) (R + 10) = 1 := by
    rw [bv_wiN n1014, bv_wiN n108, bv_wiS]
  have v2 : bv (((h.wi (R + 10) (lb 1)).wi (R + 8) (h.ai ew)).wi (R + 14) (h.ai aw)) (R + 8) = bv h ew := by
    rw [bv_wiN n814]
    unfold bv
    rw [AH.ai_wiS]
  have v3 : bv (((h.wi (R + 10) (lb 1)).wi (R + 8) (h.ai ew)).wi (R + 14) (h.ai aw)) (R + 14) = bv h aw := by
    unfold bv
    rw [AH.ai_wiS]
  generalize ((h.wi (R + 10) (lb 1)).wi (R + 8) (h.ai ew)).wi (R + 14) (h.ai aw) = h3 at *
  refine (Big_length_spec hd2 (c15.mod M3)).nI (fun x20 h21 q => ?_)
  obtain ⟨rfl, rfl⟩ := q
  rw [v2]
  have hbl : blen (bv h ew) ≤ 256 := blen_le (bv_lt h ew)
  have e0 : nI (blen (bv h ew)) - 1 = dI (blen (bv h ew)) := by
    unfold dI
    rw [Int32.sub_eq_add_neg]
  rw [e0]
  refine power_38 (e := e) (a := a) hd2 hR' hmlt ht np2 np4 (fun h1 x y => ⟨x, y⟩) (blen (bv h ew)) h21 ⟨M3, ?_, v2, v3⟩ hbl
  rw [v1, Nat.div_eq_of_lt (blen_lt _), Nat.pow_zero, Nat.mod_eq_of_lt hm]
theorem Ring_invert_spec {t tw a aw : Nat} (hd : 4 ≤ d) (hR : RingAt h R m) (hm : 2 < m) (ht : BigAt h t tw) (ha : BigAt h a aw) (ht2 : tw ≠ R + 2 ∧ tw ≠ R + 4) (ha2 : aw ≠ R + 8 ∧ aw ≠ R + 10 ∧ aw ≠ R + 16) :
    Cw G mX4_invert d 0 [vR R, vR t, vR a] h (kV (fun h' => Mod (fun x => scr R x ∨ x = tw) h h' ∧ h'.ai tw = lb (bv h aw ^ (m - 2) % m)) nE) := by
  obtain ⟨d, rfl⟩ : ∃ d', d = d' + 1 := ⟨d - 1, by omega⟩
  have hR' := hR
  obtain ⟨⟨c1, c2, c3, c4, c5, c6, c7, c8, c9, c10, c11, c12, c13, c14, c15, c16, c17, c18, c19⟩, m1, m2, m3⟩ := hR
  have hmlt : m < 4294967296 ^ 8 := by rw [← m1]; exact bv_lt _ _
  refine eX4_invert h R t a (fun w => sX4_invert_0 h R t a ⟨c1, fun r2 e2 => ?_⟩)
  rw [e2.trans c10]
  refine ⟨c19.1, (Big_small_spec (v := 2) (by omega) (by omega) c19).nR (fun x3 h4 q => ?_)⟩
  obtain ⟨_, rfl⟩ := q
  intro r9 e9
  rw [e9.trans c2]
  have M1 : Mod (fun x => scr R x ∨ x = tw) h (h.wi (R + 16) (lb 2)) := Mod.wi (by rw [lb_len, c19.2.2.2]) (by unfold scr; omega)
  refine (Big_subtract_spec (by omega) (c19.mod M1) (c11.mod M1) (c19.mod M1)).nR (fun x3 h4 q => ?_)
  obtain ⟨_, rfl⟩ := q
  rw [AH.wi_wi, bv_wiS, bv_wiN (show R + 2 ≠ R + 16 by omega), m1, show (2 : Nat) % 4294967296 ^ 8 = 2 from rfl]
  have M2 : Mod (fun x => scr R x ∨ x = tw) h (h.wi (R + 16) (lb (m + 4294967296 ^ 8 - 2))) := Mod.wi (by rw [lb_len, c19.2.2.2]) (by unfold scr; omega)
  have hR2 : RingAt (h.wi (R + 16) (lb (m + 4294967296 ^ 8 - 2))) R m := hR'.mod (Mod.wi (P := fun x => x = R + 16) (by rw [lb_len, c19.2.2.2]) rfl) (by omega) (by omega)
  have v16 : bv (h.wi (R + 16) (lb (m + 4294967296 ^ 8 - 2))) (R + 16) = m - 2 := by
    rw [bv_wiS, show m + 4294967296 ^ 8 - 2 = m - 2 + 1 * 4294967296 ^ 8 by omega, Nat.add_mul_mod_self_right, Nat.mod_eq_of_lt (by omega)]
  have va_ : bv (h.wi (R + 16) (lb (m + 4294967296 ^ 8 - 2))) aw = bv h aw := bv_wiN ha2.2.2
  refine (Ring_power_spec (by omega) hR2 (by omega) (ht.mod M2) (ha.mod M2) (c19.mod M2) ht2 ⟨ha2.1, ha2.2.1⟩ (by omega)).nV (fun h16 q => ?_)
  obtain ⟨Mq, vq⟩ := q
  rw [v16, va_] at vq
  exact ⟨M2.trans (Mq.mono (fun x hx => hx.elim (fun q => Or.inl q.1) Or.inr)), vq⟩
end Ring3

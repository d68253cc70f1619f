/-! the short form of a number, both sides -/
set_option maxRecDepth 100000
/-- the byte k below the place n, 0 below the lowest -/
def byP (T n k : Nat) : Nat := if k ≤ n then T / 256 ^ (n - k) % 256 else 0
theorem byP_lt (T n k : Nat) : byP T n k < 256 := by
  unfold byP
  split
  · exact Nat.mod_lt _ (by decide)
  · decide
/-- so many bytes a number has -/
def byL (T : Nat) : Nat := (blen T + 7) / 8
def wdN (T : Nat) : Nat → Nat
  | 0 => 0
  | k + 1 => wdN T k * 256 + byP T (byL T) (k + 1)
theorem wdN_lt (T : Nat) : ∀ k, wdN T k < 256 ^ k
  | 0 => Nat.zero_lt_one
  | k + 1 => by
    have h1 := wdN_lt T k
    have h2 := byP_lt T (byL T) (k + 1)
    unfold wdN
    rw [Nat.pow_succ]
    omega
def bitsN (T : Nat) : Nat := if wdN T 3 < 2 ^ 23 then byL T * 2 ^ 24 + wdN T 3 else (byL T + 1) * 2 ^ 24 + wdN T 3 / 256
theorem or_8 {w x p : Nat} (hx : x < 2 ^ p) : w * 2 ^ p ||| x = w * 2 ^ p + x := by
  rw [Nat.or_comm, or_add (c := w + 1) (by rw [Nat.div_eq_of_lt hx, Nat.zero_mod]) (Nat.lt_of_lt_of_le Nat.lt_two_pow_self (Nat.pow_le_pow_right (by decide) (Nat.le_succ _))), Nat.add_comm]
theorem blen_gt {n a : Nat} (h : 2 ^ a ≤ n) : a < blen n := (Nat.pow_lt_pow_iff_right (by decide)).mp (Nat.lt_of_le_of_lt h (blen_lt n))
theorem byL_eq {T n : Nat} (h1 : T < 256 ^ n) (h2 : n ≠ 0 → 256 ^ (n - 1) ≤ T) : byL T = n := by
  unfold byL
  rw [p256] at h1
  have b1 := blen_le h1
  by_cases c : n = 0
  · subst c
    omega
  · have h2 := h2 c
    rw [p256] at h2
    have := blen_gt h2
    omega
theorem byL_le {T : Nat} (h : T < 256 ^ 32) : byL T ≤ 32 := by
  unfold byL
  rw [p256] at h
  have := blen_le h
  omega
theorem ng_3 : ∀ n, n < 3 → ∀ k, k < 4 → n < k → ¬ (0 : Int32) ≤ nI n - nI k := by decide
theorem ng_4 : ∀ n, n < 3 → ∀ k, k < 3 → n < k + 1 → ¬ (0 : Int32) ≤ nI n - 1 - nI k := by decide
section Bits
variable {G : Gx} {d : Nat} {h : AH} {t tw r : Nat}
theorem w_end {T : Nat} : wdN T 3 < 2 ^ 24 := wdN_lt T 3
theorem X1_bitsOf_spec (hd : 3 ≤ d) (ht : BigAt h t tw) : Cw G mX1_bitsOf d 0 [vR t] h (kI (fun x h' => x = nI (bitsN (bv h tw)) ∧ h' = h) nE) := by
  obtain ⟨d, rfl⟩ : ∃ d', d = d' + 1 := ⟨d - 1, by omega⟩
  have ht' := ht
  obtain ⟨t1, t2, t3, t4⟩ := ht
  have eL := ai_lb t4
  have hT : bv h tw < 256 ^ 32 := bv_lt h tw
  refine eX1_bitsOf h t (fun _ => sX1_bitsOf_0 h t ⟨t1, (Big_length_spec (by omega) ht').nI (fun x1 h2 Q => ?_)⟩)
  obtain ⟨e1, e2⟩ := Q
  rw [e2]
  generalize bv h tw = T at *
  have bl : blen T ≤ 256 := by
    rw [p256] at hT
    exact blen_le hT
  have hn := byL_le hT
  rw [e1, show (7 : Int32) = nI 7 from rfl, nI_add, show (8 : Int32) = nI 8 from rfl, pk_div (by omega) (by decide) (by decide), show (blen T + 7) / 8 = byL T from rfl]
  refine loop_uc (n := 3) (P := fun k (_ : Unit) => Aw G mX1_bitsOf (d + 1) 0 h (kI (fun x h' => x = nI (bitsN T) ∧ h' = h) nE) 15 [vR t, vI (nI (byL T)), vI (nI (wdN T k)), vI (nI k), vU] [] h) (fun _ _ => True) (fun k _ hk _ ih => ?_) 0 () (Nat.zero_le _) trivial
  refine sX1_bitsOf_15 h t (nI (byL T)) (nI (wdN T k)) (nI k) (pk_le 3 k (fun z => ?_) (fun z => ?_))
  · obtain rfl : k = 3 := by omega
    have hw := w_end (T := T)
    refine ⟨fun c => ⟨?_, rfl⟩, fun c => ⟨?_, rfl⟩⟩
    · have : ¬ wdN T 3 / 2 ^ 23 % 2 = 0 := fun q => c (and_23.mpr q)
      have h8 : wdN T 3 / 2 ^ 8 < 2 ^ 24 := by omega
      unfold bitsN
      rw [if_neg (by omega), nI_1, show (24 : Int32) = nI 24 from rfl, jshl_n _ (by decide), show (8 : Int32) = nI 8 from rfl, jshr_n (by omega) (by decide), nI_or, or_8 h8]
    · have := and_23.mp c
      unfold bitsN
      rw [if_pos (by omega), show (24 : Int32) = nI 24 from rfl, jshl_n _ (by decide), nI_or, or_8 hw]
  · have hw := wdN_lt T k
    have hp := p256_le (show k ≤ 2 by omega)
    have hs : jshl (nI (wdN T k)) 8 = nI (wdN T k * 2 ^ 8) := jshl_n _ (s := 8) (by decide)
    have eW : wdN T (k + 1) = wdN T k * 2 ^ 8 + byP T (byL T) (k + 1) := rfl
    have hb := byP_lt T (byL T) (k + 1)
    have nx := ih (by omega) () trivial
    rw [hs, nI_1]
    by_cases c : k + 1 ≤ byL T
    · have ei : nI (byL T) - 1 - nI k = nI (byL T - (k + 1)) := by
        rw [show (1 : Int32) = nI 1 from rfl, pk_sub (by omega), pk_sub (by omega)]
        congr 1
        omega
      have eb : byP T (byL T) (k + 1) = T / 256 ^ (byL T - (k + 1)) % 256 := by
        unfold byP
        rw [if_pos c]
      rw [ei]
      generalize hj : byL T - (k + 1) = j at *
      have j32 : j < 32 := by omega
      refine pk_le 0 j (fun _ => ⟨t1, fun r5 e5 => ?_⟩) (fun q => absurd q (by omega))
      rw [show r5 = tw from e5.trans t2, eL, lb_len, jshr_2 (by omega), pk_cl (j / 4) rfl (by omega), lb_getD _ (by omega), and_3 (by omega), show (8 : Int32) * nI (j % 4) = nI (8 * (j % 4)) by rw [show (8 : Int32) = nI 8 from rfl, pk_mul], jushr_x _ (by omega), u32_nI, and_255, u32_nI]
      refine ⟨t3, pk_in (j / 4) 8 (by omega), fun u8 e8 => ?_⟩
      have ex : T / 4294967296 ^ (j / 4) % 4294967296 / 2 ^ (8 * (j % 4)) % 4294967296 % 256 = T / 256 ^ j % 256 := by
        rw [← p256, ← dig_byte (n := T) (j := j)]
        omega
      rw [ex, nI_or, ← eb, or_8 hb, ← eW] at e8
      rw [e8]
      exact nx
    · have eb : byP T (byL T) (k + 1) = 0 := by
        unfold byP
        rw [if_neg c]
      have ng := ng_4 (byL T) (by omega) k (by omega) (by omega)
      refine ⟨fun q => absurd q ng, fun _ => ?_⟩
      rw [show (0 : Int32) = nI 0 from rfl, nI_or, Nat.or_zero]
      rw [eW, eb, Nat.add_zero] at nx
      exact nx
theorem MD_byteOf_spec {i : Nat} (hd : 1 ≤ d) (hr : RowAt h r) (hi : i < 32) : Cw G mX24_byteOf d 0 [vR r, vI (nI i)] h (kI (fun x h' => x = nI (bv h r / 256 ^ i % 256) ∧ h' = h) nE) := by
  obtain ⟨d, rfl⟩ : ∃ d', d = d' + 1 := ⟨d - 1, by omega⟩
  obtain ⟨r1, r2⟩ := hr
  have eL := ai_lb r2
  refine eX24_byteOf h r (nI i) (fun _ => sX24_byteOf_0 h r (nI i) (pk_le 0 i (fun _ => ?_) (fun q => absurd q (by omega))))
  generalize bv h r = T at *
  rw [eL, lb_len, show (4 : Int32) = nI 4 from rfl, pk_div (by omega) (by decide) (by decide), pk_cl (i / 4) rfl (by omega), lb_getD _ (by omega), jrem_n (by omega) (by decide) (by decide), show (8 : Int32) * nI (i % 4) = nI (8 * (i % 4)) by rw [show (8 : Int32) = nI 8 from rfl, pk_mul], jushr_x _ (by omega), u32_nI, and_255, u32_nI]
  refine ⟨r1, pk_in (i / 4) 8 (by omega), ?_, rfl⟩
  congr 1
  rw [← p256, ← dig_byte (n := T) (j := i)]
  omega
theorem MD_byteOf_neg {x : Int32} (hd : 1 ≤ d) (hx : ¬ (0 : Int32) ≤ x) : Cw G mX24_byteOf d 0 [vR r, vI x] h (kI (fun x h' => x = nI 0 ∧ h' = h) nE) := by
  obtain ⟨d, rfl⟩ : ∃ d', d = d' + 1 := ⟨d - 1, by omega⟩
  exact eX24_byteOf h r x (fun _ => sX24_byteOf_0 h r x ⟨fun q => absurd q hx, fun _ => ⟨rfl, rfl⟩⟩)
theorem m_byte {n k : Nat} (hd : 1 ≤ d) (hr : RowAt h r) (hn : n ≤ 32) (hk : 1 ≤ k) (hk3 : k ≤ 3) : Cw G mX24_byteOf d 0 [vR r, vI (nI n - nI k)] h (kI (fun x h' => x = nI (byP (bv h r) n k) ∧ h' = h) nE) := by
  unfold byP
  by_cases c : k ≤ n
  · rw [if_pos c, pk_sub c]
    exact MD_byteOf_spec hd hr (by omega)
  · rw [if_neg c]
    exact MD_byteOf_neg hd (ng_3 n (by omega) k (by omega) (by omega))
theorem MD_bits_spec (hd : 2 ≤ d) (hr : RowAt h r) : Cw G mX24_bits d 0 [vR r] h (kI (fun x h' => x = nI (bitsN (bv h r)) ∧ h' = h) nE) := by
  obtain ⟨d, rfl⟩ : ∃ d', d = d' + 1 := ⟨d - 1, by omega⟩
  have hT : bv h r < 256 ^ 32 := bv_lt h r
  have hd1 : 1 ≤ d := by omega
  have fin : ∀ n, n ≤ 32 → byL (bv h r) = n → Aw G mX24_bits (d + 1) 0 h (kI (fun x h' => x = nI (bitsN (bv h r)) ∧ h' = h) nE) 23 [vR r, vI (nI n), vU] [] h := fun n hn e => by
    refine sX24_bits_23 h r (nI n) ((m_byte (k := 1) hd1 hr hn (by decide) (by decide)).nI (fun x1 h2 Q => ?_))
    obtain ⟨e1, q1⟩ := Q
    subst q1
    refine (m_byte (k := 2) hd1 hr hn (by decide) (by decide)).nI (fun x3 h4 Q => ?_)
    obtain ⟨e3, q3⟩ := Q
    subst q3
    refine (m_byte (k := 3) hd1 hr hn (by decide) (by decide)).nI (fun x5 h6 Q u7 e7 => ?_)
    obtain ⟨e5, q5⟩ := Q
    subst q5
    generalize bv h6 r = T at *
    have b1 := byP_lt T n 1
    have b2 := byP_lt T n 2
    have b3 := byP_lt T n 3
    have eW : wdN T 3 = ((0 * 256 + byP T n 1) * 256 + byP T n 2) * 256 + byP T n 3 := by rw [← e]; rfl
    have hw := w_end (T := T)
    have eu : u7 = nI (wdN T 3) := by
      rw [e7, e1, e3, e5, show (16 : Int32) = nI 16 from rfl, jshl_n _ (by decide), show (8 : Int32) = nI 8 from rfl, jshl_n _ (by decide), nI_or, or_8 (p := 16) (by omega), nI_or]
      congr 1
      rw [show byP T n 1 * 2 ^ 16 + byP T n 2 * 2 ^ 8 = (byP T n 1 * 256 + byP T n 2) * 2 ^ 8 by omega, or_8 b3, eW]
      omega
    rw [eu]
    refine pk_lt (wdN T 3) 8388608 (fun q => ⟨?_, rfl⟩) (fun q => ⟨?_, rfl⟩)
    · unfold bitsN
      rw [if_pos q, e, show (24 : Int32) = nI 24 from rfl, jshl_n _ (by decide), nI_or, or_8 hw]
    · have h8 : wdN T 3 / 2 ^ 8 < 2 ^ 24 := by omega
      unfold bitsN
      rw [if_neg (by omega), e, nI_1, show (24 : Int32) = nI 24 from rfl, jshl_n _ (by decide), show (8 : Int32) = nI 8 from rfl, jshr_n (by omega) (by decide), nI_or, or_8 h8]
  refine eX24_bits h r (fun _ => sX24_bits_0 h r ?_)
  have key : ∀ n, n ≤ 32 → bv h r < 256 ^ n → Aw G mX24_bits (d + 1) 0 h (kI (fun x h' => x = nI (bitsN (bv h r)) ∧ h' = h) nE) 3 [vR r, vI (nI n), vU] [] h := by
    intro n
    induction n with
    | zero =>
      intro hn hl
      exact sX24_bits_3 h r (nI 0) ⟨fun _ => fin 0 hn (byL_eq hl (fun q => absurd rfl q)), fun q => absurd (by decide) q⟩
    | succ n ih =>
      intro hn hl
      refine sX24_bits_3 h r (nI (n + 1)) (pk_le (n + 1) 0 (fun q => absurd q (by omega)) (fun _ => ?_))
      rw [show nI (n + 1) - 1 = nI n by rw [show (1 : Int32) = nI 1 from rfl, pk_sub (by omega), Nat.add_sub_cancel], show nI (n + 1) + (-1) = nI n from pk_m1 n]
      refine (MD_byteOf_spec hd1 hr (by omega)).nI (fun x2 h3 Q => ?_)
      obtain ⟨e2, q2⟩ := Q
      rw [q2, e2]
      have hb : bv h r / 256 ^ n % 256 < 256 := Nat.mod_lt _ (by decide)
      have hq : bv h r / 256 ^ n < 256 := by
        apply Nat.div_lt_of_lt_mul
        rw [← Nat.pow_succ]
        exact hl
      refine pk_eq' (bv h r / 256 ^ n % 256) 0 (fun q => fin (n + 1) hn (byL_eq hl (fun _ => ?_))) (fun q => ih (by omega) ?_)
      · rw [Nat.add_sub_cancel]
        rcases Nat.lt_or_ge (bv h r) (256 ^ n) with w | w
        · rw [Nat.div_eq_of_lt w] at q
          exact absurd rfl q
        · exact w
      · rw [Nat.mod_eq_of_lt hq] at q
        rcases Nat.lt_or_ge (bv h r) (256 ^ n) with w | w
        · exact w
        · have := Nat.div_pos w (Nat.pow_pos (by decide))
          omega
  exact key 32 (Nat.le_refl _) hT
end Bits

/-! Big: bits, bytes, quotients -/
set_option maxRecDepth 100000
theorem jshr_5 {n : Nat} (h : n < 2 ^ 31) : jshr (nI n) 5 = nI (n / 32) := jshr_n (s := 5) h (by omega)
theorem jshr_2 {n : Nat} (h : n < 2 ^ 31) : jshr (nI n) 2 = nI (n / 4) := jshr_n (s := 2) h (by omega)
section Big2
variable {G : Gx} {d : Nat} {h : AH} {t tw a aw b bw : Nat}
theorem ai_lb {h : AH} {w : Nat} (l : (h.ai w).length = 8) : h.ai w = lb (bv h w) := (lb_va l).symm
theorem bit_nat {n k : Nat} : n / 4294967296 ^ (k / 32) % 4294967296 / 2 ^ (k % 32) % 2 = n / 2 ^ k % 2 := by
  have h1 := mod_div_mod (m := n / 4294967296 ^ (k / 32)) (r := k % 32) (c := 1) (by omega)
  rw [Nat.pow_one] at h1
  rw [h1, ← div_pow_split, Nat.div_add_mod]
theorem Big_bit_spec {k : Nat} (hk : k < 256) (hd : 1 ≤ d) (ht : BigAt h t tw) : Cw G mX5_bit d 0 [vR t, vI (nI k)] h (kI (fun x h' => x = nI (bv h tw / 2 ^ k % 2) ∧ h' = h) nE) := by
  obtain ⟨d, rfl⟩ : ∃ d', d = d' + 1 := ⟨d - 1, by omega⟩
  obtain ⟨t1, t2, t3, t4⟩ := ht
  refine eX5_bit h t (nI k) (fun w => sX5_bit_0 h t (nI k) ⟨t1, fun r2 e2 => ?_⟩)
  rw [e2.trans t2, t4, jshr_5 (by omega), pk_cl (k / 32) rfl (by omega), and_31 (by omega), jushr_x _ (by omega), and_1]
  refine ⟨t3, pk_in (k / 32) 8 (by omega), ?_, rfl⟩
  have h1 : u32 ((h.ai tw).getD (k / 32) 0) = bv h tw / 4294967296 ^ (k / 32) % 4294967296 := dg_va (L := h.ai tw) (n := 8) (by omega)
  have h2 : bv h tw / 4294967296 ^ (k / 32) % 4294967296 / 2 ^ (k % 32) ≤ bv h tw / 4294967296 ^ (k / 32) % 4294967296 := Nat.div_le_self _ _
  have h3 : bv h tw / 4294967296 ^ (k / 32) % 4294967296 < 4294967296 := Nat.mod_lt _ (by omega)
  rw [h1, u32_nI, Nat.mod_eq_of_lt (Nat.lt_of_le_of_lt h2 h3), bit_nat]
theorem up_dig (n k : Nat) : nI (2 * n / 4294967296 ^ (k + 1)) = jshl (nI (n / 4294967296 ^ (k + 1))) 1 ||| jushr (nI (n / 4294967296 ^ k)) 31 := by
  have e0 : 2 * n / 4294967296 ^ (k + 1) = n / 4294967296 ^ k / 2 ^ 31 := by
    rw [Nat.pow_succ, show 4294967296 ^ k * 4294967296 = 2 * (4294967296 ^ k * 2 ^ 31) by omega, Nat.mul_div_mul_left _ _ (by omega), Nat.div_div_eq_div_mul]
  have e1 : n / 4294967296 ^ (k + 1) = n / 4294967296 ^ k / 4294967296 := by rw [Nat.pow_succ, Nat.div_div_eq_div_mul]
  rw [e0, e1]
  generalize n / 4294967296 ^ k = m
  rw [← nI_mod m, show (1 : Int32) = nI 1 from rfl, jshl_n _ (by omega), show (31 : Int32) = nI 31 from rfl, jushr_n (by omega) (by omega), nI_or]
  have h1 := or_add (D := m / 4294967296 * 2) (X := m % 4294967296 / 2 ^ 31) (p := 0) (c := 1) (by omega) (by omega)
  rw [Nat.pow_zero, Nat.mul_one, Nat.pow_one] at *
  rw [h1]
  congr 1
  omega
theorem Big_up_spec (hd : 1 ≤ d) (ht : BigAt h t tw) : Cw G mX5_up d 0 [vR t] h (kV (fun h' => h' = h.wi tw (lb (2 * bv h tw))) nE) := by
  obtain ⟨d, rfl⟩ : ∃ d', d = d' + 1 := ⟨d - 1, by omega⟩
  obtain ⟨t1, t2, t3, t4⟩ := ht
  refine eX5_up h t (fun w => sX5_up_0 h t ?_)
  have l0 := ai_lb t4
  have key := loop_dn (P := fun k T => k ≤ 7 → Aw G mX5_up (d + 1) 0 h (kV (fun h' => h' = h.wi tw (lb (2 * bv h tw))) nE) 3 [vR t, vI (nI k)] [] (h.wi tw T))
    (fun k T => T.length = 8 ∧ (∀ i, i ≤ k → T.getD i 0 = (lb (bv h tw)).getD i 0) ∧ ∀ i, k < i → i < 8 → T.getD i 0 = (lb (2 * bv h tw)).getD i 0) (fun k T hI ih hk => ?_) (fun T hI hk => ?_) 7 (h.ai tw) ⟨t4, fun i hi => by rw [← l0], fun i hi hi2 => absurd hi (by omega)⟩ (by omega)
  · rw [AH.wi_self] at key; exact key
  · obtain ⟨l, z1, z2⟩ := hI
    refine sX5_up_3 _ t (nI (k + 1)) (pk_le (k + 1) 0 (fun q => absurd q (by omega)) (fun _ => ⟨t1, fun r9 e9 => ?_⟩))
    rw [e9.trans t2, AH.ai_wiS, AH.wi_wi, l, nI_pred, pk_cl (k + 1), pk_cl k]
    refine ⟨t3, pk_in (k + 1) 8 (by omega), pk_in k 8 (by omega), pk_in (k + 1) 8 (by omega), fun h14 e14 => ?_⟩
    rw [e14, pk_m1, z1 (k + 1) (by omega), z1 k (by omega), lb_getD _ (by omega), lb_getD _ (by omega), ← up_dig]
    refine ih _ ⟨by rw [List.length_set, l], fun i hi => ?_, fun i hi hi2 => ?_⟩ (by omega)
    · rw [getD_set_ne (by omega)]; exact z1 i (by omega)
    · by_cases e : i = k + 1
      · subst e; rw [getD_set_eq (by omega), lb_getD _ hi2]
      · rw [getD_set_ne e]; exact z2 i (by omega) hi2
  · obtain ⟨l, z1, z2⟩ := hI
    refine sX5_up_3 _ t (nI 0) (pk_le 0 0 (fun _ => ⟨t1, fun r3 e3 => ?_⟩) (fun q => absurd q (by omega)))
    rw [e3.trans t2, AH.ai_wiS, AH.wi_wi, l, pk_cl 0]
    refine ⟨t3, pk_in 0 8 (by omega), pk_in 0 8 (by omega), fun h7 e7 => ?_⟩
    show h7 = _
    rw [e7]
    congr 1
    refine ext_getD (z := 0) (by rw [List.length_set, l, lb_len]) (fun i hi => ?_)
    rw [List.length_set, l] at hi
    by_cases e : i = 0
    · subst e
      rw [getD_set_eq (by omega), z1 0 (by omega), lb_getD _ (by omega), lb_getD _ (by omega), Nat.pow_zero, Nat.div_one, Nat.div_one, show (1 : Int32) = nI 1 from rfl, jshl_n _ (by omega), Nat.pow_one, Nat.mul_comm]
    · rw [getD_set_ne e]; exact z2 i (by omega) hi
theorem Big_length_spec (hd : 2 ≤ d) (ht : BigAt h t tw) : Cw G mX5_length d 0 [vR t] h (kI (fun x h' => x = nI (blen (bv h tw)) ∧ h' = h) nE) := by
  obtain ⟨d, rfl⟩ : ∃ d', d = d' + 1 := ⟨d - 1, by omega⟩
  obtain ⟨t1, t2, t3, t4⟩ := ht
  refine eX5_length h t (fun w => sX5_length_0 h t ?_)
  refine loop_dn (P := fun k (_ : Unit) => k ≤ 8 → Aw G mX5_length (d + 1) 0 h (kI (fun x h' => x = nI (blen (bv h tw)) ∧ h' = h) nE) 3 [vR t, vI (dI k)] [] h)
    (fun k _ => bv h tw = va (h.ai tw) k) (fun k _ hI ih hk8 => ?_) (fun _ hI _ => ?_) 8 () rfl (by omega)
  · rw [dI_succ]
    refine sX5_length_3 _ t (nI k) ⟨fun q => absurd q (nI_pos (by omega)), fun _ => ⟨t1, fun r3 e3 => ?_⟩⟩
    rw [e3.trans t2, t4, pk_cl k]
    refine ⟨t3, pk_in k 8 (by omega), fun e => ?_, fun e => ⟨pk_in k 8 (by omega), (nlz_spec (by omega) _).nI (fun x h' hx => ?_)⟩⟩
    · refine ih () ?_ (by omega)
      rw [hI, va_succ, dg, e, show u32 (0 : Int32) = 0 from rfl, Nat.zero_mul, Nat.add_zero]
    · obtain ⟨rfl, rfl⟩ := hx
      refine ⟨?_, rfl⟩
      have hd : u32 ((h'.ai tw).getD k 0) = bv h' tw / 2 ^ (32 * k) := by
        rw [hI, va_succ, ← W_pow, Nat.add_mul_div_right _ _ (Nat.pow_pos (by omega)), Nat.div_eq_of_lt (va_lt _ _), Nat.zero_add]
        rfl
      have h0 : bv h' tw / 2 ^ (32 * k) ≠ 0 := by
        rw [← hd]
        exact fun q => e (u32_inj (y := 0) q)
      have hb := blen_div h0
      have hl : blen (bv h' tw / 2 ^ (32 * k)) ≤ 32 := blen_le (by rw [← hd]; exact u32_lt _)
      rw [hd, hb, show (32 : Int32) = nI 32 from rfl, pk_mul, nI_add, pk_sub (by omega)]
      congr 1
      omega
  · refine sX5_length_3 _ t (dI 0) ⟨fun _ => ⟨?_, rfl⟩, fun q => absurd (by decide) q⟩
    rw [hI]
    rfl
/-- bytes, the lowest first -/
def dv8 (f : Nat → Nat) : Nat → Nat
  | 0 => 0
  | n + 1 => dv8 f n + f n * 256 ^ n
theorem dv8_lt {f : Nat → Nat} : ∀ {n : Nat}, (∀ i, i < n → f i < 256) → dv8 f n < 256 ^ n
  | 0, _ => by simp [dv8]
  | n + 1, h => by
    have h1 := dv8_lt (fun i hi => h i (by omega)) (n := n)
    have h2 := h n (by omega)
    rw [dv8, Nat.pow_succ]
    have h3 : f n * 256 ^ n + 256 ^ n ≤ 256 ^ n * 256 := by
      have := Nat.mul_le_mul_right (256 ^ n) (show f n + 1 ≤ 256 from h2)
      rw [Nat.add_mul, Nat.one_mul, Nat.mul_comm 256] at this
      exact this
    omega
theorem dv8_congr {f g : Nat → Nat} : ∀ {n : Nat}, (∀ i, i < n → f i = g i) → dv8 f n = dv8 g n
  | 0, _ => rfl
  | n + 1, h => by rw [dv8, dv8, dv8_congr (fun i hi => h i (by omega)), h n (by omega)]
/-- the lowest byte apart -/
theorem dv8_low (f : Nat → Nat) : ∀ n, dv8 f (n + 1) = f 0 + 256 * dv8 (fun i => f (i + 1)) n
  | 0 => by simp [dv8]
  | n + 1 => by
    rw [dv8, dv8_low f n, dv8, Nat.pow_succ, Nat.mul_add]
    have : f (n + 1) * (256 ^ n * 256) = 256 * (f (n + 1) * 256 ^ n) := by ac_rfl
    omega
theorem dv8_nat (n : Nat) : ∀ k, dv8 (fun i => n / 256 ^ i % 256) k = n % 256 ^ k
  | 0 => by simp [dv8, Nat.mod_one]
  | k + 1 => by rw [dv8, dv8_nat n k, Nat.pow_succ, Nat.mod_mul, Nat.mul_comm (256 ^ k)]
/-- a byte of a row, as a number -/
def ub (L : List Int32) (i : Nat) : Nat := u32 (L.getD i 0) % 256
theorem and_ub (L : List Int32) (i : Nat) : L.getD i 0 &&& 255 = nI (ub L i) := and_255 _
theorem ub_lt (L : List Int32) (i : Nat) : ub L i < 256 := Nat.mod_lt _ (by omega)
/-- n bytes from off on, the highest first, the lowest first -/
def beV (L : List Int32) (off n : Nat) : Nat := dv8 (fun i => ub L (off + (n - 1 - i))) n
def leV (L : List Int32) (off n : Nat) : Nat := dv8 (fun i => ub L (off + i)) n
theorem p256 (j : Nat) : 256 ^ j = 2 ^ (8 * j) := by rw [Nat.pow_mul]
theorem lb_orB {n X j : Nat} {x : Int32} (hn : n < 4294967296 ^ 8) (hj : j < 32) (h0 : n / 256 ^ j % 256 = 0) (hX : X < 256) (hx : x = nI (X * 2 ^ (8 * (j % 4)))) : (lb n).set (j / 4) ((lb n).getD (j / 4) 0 ||| x) = lb (n + X * 256 ^ j) := by
  have e : 32 * (j / 4) + 8 * (j % 4) = 8 * j := by omega
  have := lb_or (n := n) (X := X) (q := j / 4) (r := 8 * (j % 4)) (c := 8) (x := x) hn (by omega) (by omega) (by rw [e, ← p256]; exact h0) hX hx
  rw [e, ← p256] at this
  exact this
theorem jshl_byte (n : Nat) {s : Nat} (hs : s < 4) : jshl (nI n) (8 * nI s) = nI (n * 2 ^ (8 * s)) := by
  rw [show (8 : Int32) = nI 8 from rfl, pk_mul, jshl_n _ (by omega)]
theorem Big_turned_spec {off : Nat} {f : Nat} (hd : 2 ≤ d) (ht : BigAt h t tw) (hf : h.kd f = 101) (hl : off + 32 ≤ (h.ai f).length) (hl2 : (h.ai f).length < 2 ^ 31) : Cw G mX5_turned d 0 [vR t, vR f, vI (nI off)] h (kR (fun x h' => x = t ∧ h' = h.wi tw (lb (leV (h.ai f) off 32))) nE) := by
  obtain ⟨d, rfl⟩ : ∃ d', d = d' + 1 := ⟨d - 1, by omega⟩
  have ht' := ht
  obtain ⟨t1, t2, t3, t4⟩ := ht
  have hne : f ≠ tw := fun e => by rw [e, t3] at hf; omega
  refine eX5_turned h t f (nI off) (fun w => sX5_turned_0 h t f (nI off) ⟨t1, (Big_zero_spec (by omega) ht').nR (fun x h2 hx => ?_)⟩)
  obtain ⟨rfl, rfl⟩ := hx
  refine loop_uc (n := 32) (P := fun k (n : Nat) => Aw G mX5_turned (d + 1) 0 h (kR (fun y h' => y = x ∧ h' = h.wi tw (lb (leV (h.ai f) off 32))) nE) 7 [vR x, vR f, vI (nI off), vI (nI k)] [] (h.wi tw (lb n)))
    (fun k n => n = leV (h.ai f) off k) (fun k n hk hI ih => ?_) 0 0 (by omega) rfl
  subst hI
  refine sX5_turned_7 _ x f (nI off) (nI k) (pk_le 32 k (fun hk8 => ?_) (fun hk8 => ⟨t1, fun r3 e3 => ?_⟩))
  · have : k = 32 := by omega
    subst this
    exact ⟨rfl, rfl⟩
  · rw [e3.trans t2, AH.ai_wiS, AH.wi_wi, AH.ai_wiN hne, lb_len, nI_add, jshr_2 (by omega), pk_cl (k / 4) rfl (by omega), pk_cl (off + k) rfl (by omega), and_3 (by omega), and_ub, jshl_byte _ (by omega), nI_1]
    refine ⟨t3, pk_in (k / 4) 8 (by omega), hf, pk_in (off + k) _ (by omega), pk_in (k / 4) 8 (by omega), fun h9 e9 => ?_⟩
    have hlt : leV (h.ai f) off k < 256 ^ k := dv8_lt (fun i _ => ub_lt _ _)
    have hp : 256 ^ k ≤ 256 ^ 32 := Nat.pow_le_pow_right (by omega) (by omega)
    rw [e9, lb_orB (X := ub (h.ai f) (off + k)) (j := k) (by rw [show 4294967296 ^ 8 = 256 ^ 32 from rfl]; omega) (by omega) (by rw [Nat.div_eq_of_lt hlt]) (ub_lt _ _) rfl]
    exact ih hk8 _ rfl
theorem Big_read_spec {off n : Nat} {f : Nat} (hd : 2 ≤ d) (ht : BigAt h t tw) (hf : h.kd f = 101) (hn : n ≤ 32) (hl : off + n ≤ (h.ai f).length) (hl2 : (h.ai f).length < 2 ^ 31) : Cw G mX5_read d 0 [vR t, vR f, vI (nI off), vI (nI n)] h (kR (fun x h' => x = t ∧ h' = h.wi tw (lb (beV (h.ai f) off n))) nE) := by
  obtain ⟨d, rfl⟩ : ∃ d', d = d' + 1 := ⟨d - 1, by omega⟩
  have ht' := ht
  obtain ⟨t1, t2, t3, t4⟩ := ht
  have hne : f ≠ tw := fun e => by rw [e, t3] at hf; omega
  refine eX5_read h t f (nI off) (nI n) (fun w => sX5_read_0 h t f (nI off) (nI n) ⟨t1, (Big_zero_spec (by omega) ht').nR (fun x h2 hx => ?_)⟩)
  obtain ⟨rfl, rfl⟩ := hx
  refine loop_uc (n := n) (P := fun k (m : Nat) => Aw G mX5_read (d + 1) 0 h (kR (fun y h' => y = x ∧ h' = h.wi tw (lb (beV (h.ai f) off n))) nE) 8 [vR x, vR f, vI (nI off), vI (nI n), vI (nI k), vU] [] (h.wi tw (lb m)))
    (fun k m => m = beV (h.ai f) off k * 256 ^ (n - k)) (fun k m hk hI ih => ?_) 0 0 (by omega) (by simp [beV, dv8])
  subst hI
  have hlt : beV (h.ai f) off k < 256 ^ k := dv8_lt (fun i _ => ub_lt _ _)
  have hp : 256 ^ n ≤ 256 ^ 32 := Nat.pow_le_pow_right (by omega) hn
  refine sX5_read_8 _ x f (nI off) (nI n) (nI k) (pk_le n k (fun hk8 => ?_) (fun hk8 => ⟨t1, fun r3 e3 => ?_⟩))
  · have : k = n := by omega
    subst this
    refine ⟨rfl, ?_⟩
    rw [Nat.sub_self, Nat.pow_zero, Nat.mul_one]
  · have e1 : (nI n - 1 : Int32) = nI (n - 1) := by rw [show (1 : Int32) = nI 1 from rfl, pk_sub (by omega)]
    have hpk : 256 ^ n = 256 ^ k * 256 ^ (n - k) := by rw [← Nat.pow_add, show k + (n - k) = n by omega]
    have hpj : 256 ^ (n - k) = 256 ^ (n - 1 - k) * 256 := by rw [show n - k = (n - 1 - k) + 1 by omega, Nat.pow_succ]
    have hb : beV (h.ai f) off k * 256 ^ (n - k) < 256 ^ n := by
      rw [hpk]
      exact (Nat.mul_lt_mul_right (Nat.pow_pos (by omega))).mpr hlt
    rw [e3.trans t2, AH.ai_wiS, AH.wi_wi, AH.ai_wiN hne, lb_len, nI_add, e1, pk_sub (by omega), jshr_2 (by omega), pk_cl ((n - 1 - k) / 4) rfl (by omega), pk_cl (off + k) rfl (by omega), and_3 (by omega), and_ub, jshl_byte _ (by omega), nI_1]
    refine ⟨t3, pk_in ((n - 1 - k) / 4) 8 (by omega), hf, pk_in (off + k) _ (by omega), pk_in ((n - 1 - k) / 4) 8 (by omega), fun h9 e9 => ?_⟩
    rw [e9, lb_orB (X := ub (h.ai f) (off + k)) (j := n - 1 - k) (by rw [show 4294967296 ^ 8 = 256 ^ 32 from rfl]; omega) (by omega) (by rw [hpj, ← Nat.mul_assoc, Nat.mul_comm (beV _ _ _), Nat.mul_assoc, Nat.mul_div_cancel_left _ (Nat.pow_pos (by omega)), Nat.mul_mod_left]) (ub_lt _ _) rfl]
    refine ih hk8 _ ?_
    have e4 : beV (h.ai f) off (k + 1) = ub (h.ai f) (off + k) + 256 * beV (h.ai f) off k := by
      unfold beV
      rw [dv8_low]
      congr 1
      congr 1
      exact dv8_congr (fun i hi => by rw [show k + 1 - 1 - (i + 1) = k - 1 - i by omega])
    rw [e4, show n - (k + 1) = n - 1 - k by omega, hpj, Nat.add_mul]
    have : beV (h.ai f) off k * (256 ^ (n - 1 - k) * 256) = 256 * beV (h.ai f) off k * 256 ^ (n - 1 - k) := by ac_rfl
    omega
/-- a row into which n bytes g 0 .. were written from off on -/
def putB (L : List Int32) (off n : Nat) (g : Nat → Int32) : List Int32 := (List.range L.length).map (fun i => if off ≤ i ∧ i < off + n then g (i - off) else L.getD i 0)
theorem putB_len (L : List Int32) (off n : Nat) (g : Nat → Int32) : (putB L off n g).length = L.length := by simp [putB]
theorem putB_getD (L : List Int32) (off n : Nat) (g : Nat → Int32) {i : Nat} (h : i < L.length) : (putB L off n g).getD i 0 = if off ≤ i ∧ i < off + n then g (i - off) else L.getD i 0 := by
  unfold putB
  rw [List.getD_eq_getElem?_getD, List.getElem?_map, List.getElem?_range h]
  rfl
theorem putB_0 (L : List Int32) (off : Nat) (g : Nat → Int32) : putB L off 0 g = L := by
  refine ext_getD (z := 0) (putB_len _ _ _ _) (fun i hi => ?_)
  rw [putB_len] at hi
  rw [putB_getD _ _ _ _ hi, if_neg (by omega)]
theorem putB_succ {L : List Int32} {off n : Nat} {g : Nat → Int32} {x : Int32} (h : off + n < L.length) (hx : x = g n) : (putB L off n g).set (off + n) x = putB L off (n + 1) g := by
  refine ext_getD (z := 0) (by rw [List.length_set, putB_len, putB_len]) (fun i hi => ?_)
  rw [List.length_set, putB_len] at hi
  rw [getD_sif, putB_getD _ _ _ _ hi, putB_getD _ _ _ _ hi, putB_len]
  by_cases e : i = off + n
  · rw [if_pos ⟨e, h⟩, if_pos (by omega), hx, e]
    congr 1
    omega
  · rw [if_neg (fun q => e q.1)]
    by_cases q : off ≤ i ∧ i < off + n
    · rw [if_pos q, if_pos (by omega)]
    · rw [if_neg q, if_neg (by omega)]
theorem dig_byte {n j : Nat} : n / 4294967296 ^ (j / 4) % 4294967296 / 256 ^ (j % 4) % 256 = n / 256 ^ j % 256 := by
  have h1 := mod_div_mod (m := n / 4294967296 ^ (j / 4)) (r := 8 * (j % 4)) (c := 8) (by omega)
  rw [show (256 : Nat) ^ (j % 4) = 2 ^ (8 * (j % 4)) from p256 _, p256 j, show (2 : Nat) ^ 8 = 256 from rfl] at *
  rw [h1, ← div_pow_split, show 32 * (j / 4) + 8 * (j % 4) = 8 * j by omega]
theorem Big_write_spec {off : Nat} {f : Nat} (hd : 1 ≤ d) (ht : BigAt h t tw) (hf : h.kd f = 101) (hl : off + 32 ≤ (h.ai f).length) (hl2 : (h.ai f).length < 2 ^ 31) : Cw G mX5_write d 0 [vR t, vR f, vI (nI off)] h (kV (fun h' => h' = h.wi f (putB (h.ai f) off 32 (fun i => bI (bv h tw / 256 ^ (31 - i))))) nE) := by
  obtain ⟨d, rfl⟩ : ∃ d', d = d' + 1 := ⟨d - 1, by omega⟩
  obtain ⟨t1, t2, t3, t4⟩ := ht
  have hne : tw ≠ f := fun e => by rw [← e, t3] at hf; omega
  refine eX5_write h t f (nI off) (fun w => sX5_write_0 h t f (nI off) ?_)
  have key := loop_uc (n := 32) (P := fun k (_ : Unit) => Aw G mX5_write (d + 1) 0 h (kV (fun h' => h' = h.wi f (putB (h.ai f) off 32 (fun i => bI (bv h tw / 256 ^ (31 - i))))) nE) 2 [vR t, vR f, vI (nI off), vI (nI k)] [] (h.wi f (putB (h.ai f) off k (fun i => bI (bv h tw / 256 ^ (31 - i))))))
    (fun _ _ => True) (fun k _ hk _ ih => ?_) 0 () (by omega) trivial
  · rw [putB_0, AH.wi_self] at key; exact key
  · refine sX5_write_2 _ t f (nI off) (nI k) (pk_le 32 k (fun hk8 => ?_) (fun hk8 => ⟨t1, fun r3 e3 => ?_⟩))
    · have : k = 32 := by omega
      subst this
      rfl
    · rw [e3.trans t2, AH.ai_wiS, AH.wi_wi, AH.ai_wiN hne, t4, putB_len, nI_add, show (31 : Int32) = nI 31 from rfl, pk_sub (by omega), jshr_2 (by omega), pk_cl ((31 - k) / 4) rfl (by omega), pk_cl (off + k) rfl (by omega), and_3 (by omega), show (8 : Int32) = nI 8 from rfl, pk_mul, i2b_i2b, i2b_shr _ (by omega), nI_1]
      refine ⟨t3, pk_in ((31 - k) / 4) 8 (by omega), hf, pk_in (off + k) _ (by omega), fun h8 e8 => ?_⟩
      rw [e8, putB_succ (by omega)]
      · exact ih hk8 () trivial
      · apply bI_eqI
        have h1 : u32 ((h.ai tw).getD ((31 - k) / 4) 0) = bv h tw / 4294967296 ^ ((31 - k) / 4) % 4294967296 := dg_va (L := h.ai tw) (n := 8) (by omega)
        rw [h1, dig_byte]
end Big2

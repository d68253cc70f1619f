/-! bits, bytes and shifts of numbers -/
set_option maxRecDepth 100000
theorem s_l : ∀ n, n < 32 → ((nI n &&& 31).toBitVec.smod 32).toNat = n := by decide +kernel
theorem s_u : ∀ n, n < 32 → (((nI n).toUInt32 &&& Int32.toUInt32 31).toBitVec % 32).toNat = n := by decide +kernel
theorem nI_an {a b : Nat} (h : b ≤ a) : nI a + -nI b = nI (a - b) := by
  rw [← Int32.sub_eq_add_neg]
  exact pk_sub h
theorem nI_or (a b : Nat) : nI a ||| nI b = nI (a ||| b) := by
  apply Int32.toBitVec_inj.mp
  rw [Int32.toBitVec_or, nI_bv, nI_bv, nI_bv]
  apply BitVec.eq_of_toNat_eq
  simp [Nat.or_mod_two_pow]
theorem jushr_n {n s : Nat} (hn : n < 4294967296) (hs : s < 32) : jushr (nI n) (nI s) = nI (n / 2 ^ s) := pk_ushrN hn (nI s) s (s_u s hs)
theorem jushr_x (x : Int32) {s : Nat} (hs : s < 32) : jushr x (nI s) = nI (u32 x / 2 ^ s) := by
  have := jushr_n (u32_lt x) hs
  rw [nI_u32] at this
  exact this
theorem jshl_n (n : Nat) {s : Nat} (hs : s < 32) : jshl (nI n) (nI s) = nI (n * 2 ^ s) := by
  unfold jshl
  apply Int32.toBitVec_inj.mp
  rw [Int32.toBitVec_shiftLeft, BitVec.shiftLeft_eq', s_l s hs, nI_bv, nI_bv]
  apply BitVec.eq_of_toNat_eq
  rw [BitVec.toNat_shiftLeft, Nat.shiftLeft_eq, BitVec.toNat_ofNat, BitVec.toNat_ofNat, Nat.mod_mul_mod]
theorem jshr_n {n s : Nat} (hn : n < 2 ^ 31) (hs : s < 32) : jshr (nI n) (nI s) = nI (n / 2 ^ s) := pk_shrN hn _ s (s_l s hs)
theorem jshr_toInt (x : Int32) {s : Nat} (hs : s < 32) : (jshr x (nI s)).toInt = x.toInt / 2 ^ s := by
  unfold jshr
  show (x >>> (nI s &&& 31)).toBitVec.toInt = _
  rw [Int32.toBitVec_shiftRight, BitVec.sshiftRight_eq', s_l s hs, BitVec.toInt_sshiftRight, Int.shiftRight_eq_div_pow]
  rfl
theorem toInt_u32 (x : Int32) : x.toInt = if u32 x < 2 ^ 31 then (u32 x : Int) else (u32 x : Int) - 4294967296 := by
  rw [u32_bv]
  show x.toBitVec.toInt = _
  rw [BitVec.toInt_eq_toNat_cond]
  by_cases h : x.toBitVec.toNat < 2 ^ 31
  · rw [if_pos (by omega), if_pos h]
  · rw [if_neg (by omega), if_neg h]
    rfl
theorem and_255 (x : Int32) : x &&& 255 = nI (u32 x % 256) := pk_and x 8 (by decide)
theorem and_1 (x : Int32) : x &&& 1 = nI (u32 x % 2) := pk_and x 1 (by decide)
theorem and_31 {n : Nat} (h : n < 4294967296) : nI n &&& 31 = nI (n % 32) := pk_andN h 5 (by decide)
theorem and_3 {n : Nat} (h : n < 4294967296) : nI n &&& 3 = nI (n % 4) := pk_andN h 2 (by decide)
theorem i2b_n (n : Nat) : i2b (nI n) = i2b (nI (n % 256)) := by
  unfold i2b
  have : (nI n).toInt8 = (nI (n % 256)).toInt8 := by
    apply Int8.toBitVec_inj.mp
    rw [Int32.toBitVec_toInt8, Int32.toBitVec_toInt8, nI_bv, nI_bv, BitVec.signExtend_eq_setWidth_of_le _ (by decide), BitVec.signExtend_eq_setWidth_of_le _ (by decide)]
    apply BitVec.eq_of_toNat_eq
    simp
  rw [this]
/-- the signed byte of a number -/
def bI (n : Nat) : Int32 := i2b (nI n)
theorem bI_mod (n : Nat) : bI (n % 256) = bI n := (i2b_n n).symm
theorem bI_x (x : Int32) : i2b x = bI (u32 x) := by
  unfold bI
  rw [nI_u32]
theorem bI_eqI {a b : Nat} (h : a % 256 = b % 256) : bI a = bI b := by rw [← bI_mod a, ← bI_mod b, h]
theorem u32_i2b (x : Int32) : u32 (i2b x) % 256 = u32 x % 256 := by
  have h1 : (i2b x).toBitVec = (x.toBitVec.setWidth 8).signExtend 32 := by
    rw [← BitVec.signExtend_eq_setWidth_of_le _ (by decide)]
    rfl
  rw [u32_bv, u32_bv, h1]
  generalize x.toBitVec = b
  have : ((b.setWidth 8).signExtend 32).setWidth 8 = b.setWidth 8 := by
    apply BitVec.eq_of_getLsbD_eq
    intro i hi
    simp [BitVec.getLsbD_signExtend, hi]
    omega
  have h2 := congrArg BitVec.toNat this
  simpa using h2
theorem u32_bI (n : Nat) : u32 (bI n) % 256 = n % 256 := by
  unfold bI
  rw [u32_i2b, u32_nI]
  omega
/-- a byte is told by its number -/
theorem byte_bI {x : Int32} (h : x.toInt8.toInt32 = x) : bI (u32 x % 256) = x := by
  rw [bI_mod, ← bI_x]
  exact h
theorem byte_inj {x y : Int32} (hx : x.toInt8.toInt32 = x) (hy : y.toInt8.toInt32 = y) (h : u32 x % 256 = u32 y % 256) : x = y := by
  rw [← byte_bI hx, ← byte_bI hy, h]
theorem i2b_i2b (x : Int32) : i2b (i2b x) = i2b x := by rw [bI_x (i2b x), bI_x x]; exact bI_eqI (u32_i2b x ▸ by rw [← bI_x])
theorem i2b_shr (x : Int32) {s : Nat} (hs : s < 4) : i2b (jshr x (nI (8 * s))) = bI (u32 x / 256 ^ s) := by
  rw [bI_x]
  apply bI_eqI
  have h1 := jshr_toInt x (s := 8 * s) (by omega)
  have h2 := toInt_u32 x
  have h3 := toInt_u32 (jshr x (nI (8 * s)))
  have h4 := u32_lt x
  have h5 := u32_lt (jshr x (nI (8 * s)))
  generalize u32 (jshr x (nI (8 * s))) = v at *
  generalize u32 x = u at *
  rw [h1, h2] at h3
  match s, hs with
  | 0, _ => simp only [Nat.mul_zero] at h3; split at h3 <;> split at h3 <;> omega
  | 1, _ => simp only [Nat.mul_one] at h3; split at h3 <;> split at h3 <;> omega
  | 2, _ => simp only [show 8 * 2 = 16 from rfl] at h3; split at h3 <;> split at h3 <;> omega
  | 3, _ => simp only [show 8 * 3 = 24 from rfl] at h3; split at h3 <;> split at h3 <;> omega
theorem i2b_ushr (x : Int32) {s : Nat} (hs : s < 4) : i2b (jushr x (nI (8 * s))) = bI (u32 x / 256 ^ s) := by
  rw [jushr_x x (by omega), show (256 : Nat) = 2 ^ 8 from rfl, ← Nat.pow_mul]
  rfl
theorem lb_congr {a b : Nat} (h : a % 4294967296 ^ 8 = b % 4294967296 ^ 8) : lb a = lb b := by rw [← lb_mod a, ← lb_mod b, h]
theorem dg_va {L : List Int32} {n i : Nat} (h : i < n) : dg L i = va L n / 4294967296 ^ i % 4294967296 := (dv_dig (f := dg L) (fun _ _ => dg_lt _ _) i h).symm
theorem va_mid {L : List Int32} {q : Nat} {x : Int32} (hq : q < L.length) : ∀ {n : Nat}, q < n → va (L.set q x) n + dg L q * 4294967296 ^ q = va L n + u32 x * 4294967296 ^ q
  | 0, h => absurd h (by omega)
  | n + 1, h => by
    by_cases e : q = n
    · subst e
      rw [va_set hq, va_succ]
      omega
    · rw [va_succ, va_succ, dg_set_ne (by omega)]
      have := va_mid (x := x) hq (n := n) (by omega)
      omega
theorem or_add {D X p c : Nat} (h : D / 2 ^ p % 2 ^ c = 0) (hX : X < 2 ^ c) : D ||| X * 2 ^ p = D + X * 2 ^ p := by
  have h0 : D = 2 ^ (p + c) * (D / 2 ^ (p + c)) + D % 2 ^ p := by
    have h1 := Nat.div_add_mod D (2 ^ (p + c))
    have h2 : D % 2 ^ (p + c) = D % 2 ^ p := by
      rw [Nat.pow_add, Nat.mod_mul, h, Nat.mul_zero, Nat.add_zero]
    omega
  have hl : D % 2 ^ p < 2 ^ p := Nat.mod_lt _ (Nat.two_pow_pos p)
  generalize D / 2 ^ (p + c) = H at *
  generalize D % 2 ^ p = L at *
  have hm : 2 ^ p * X + L < 2 ^ (p + c) := by
    rw [Nat.pow_add]
    have := Nat.mul_le_mul_left (2 ^ p) (show X + 1 ≤ 2 ^ c from hX)
    rw [Nat.mul_add, Nat.mul_one] at this
    omega
  have hl2 : L < 2 ^ (p + c) := by
    have : 2 ^ p ≤ 2 ^ (p + c) := Nat.pow_le_pow_right (by omega) (by omega)
    omega
  rw [h0, Nat.two_pow_add_eq_or_of_lt hl2, Nat.or_assoc, Nat.mul_comm X, Nat.or_comm L, ← Nat.two_pow_add_eq_or_of_lt hl, ← Nat.two_pow_add_eq_or_of_lt hm, ← Nat.two_pow_add_eq_or_of_lt hl2]
  omega
theorem W_pow (q : Nat) : 4294967296 ^ q = 2 ^ (32 * q) := by rw [Nat.pow_mul]
theorem div_pow_split (n q r : Nat) : n / 2 ^ (32 * q + r) = n / 4294967296 ^ q / 2 ^ r := by rw [W_pow, Nat.pow_add, Nat.div_div_eq_div_mul]
theorem mod_div_mod {m r c : Nat} (h : r + c ≤ 32) : m % 4294967296 / 2 ^ r % 2 ^ c = m / 2 ^ r % 2 ^ c := by
  have e : 4294967296 = 2 ^ r * 2 ^ (32 - r) := by rw [← Nat.pow_add, show r + (32 - r) = 32 by omega]
  rw [e, Nat.mod_mul_right_div_self, Nat.mod_mod_of_dvd]
  exact Nat.pow_dvd_pow 2 (by omega)
/-- bits that are 0 in a number are set -/
theorem lb_or {n X q r c : Nat} {x : Int32} (hn : n < 4294967296 ^ 8) (hq : q < 8) (hr : r + c ≤ 32) (h0 : n / 2 ^ (32 * q + r) % 2 ^ c = 0) (hX : X < 2 ^ c) (hx : x = nI (X * 2 ^ r)) : (lb n).set q ((lb n).getD q 0 ||| x) = lb (n + X * 2 ^ (32 * q + r)) := by
  have hD : dg (lb n) q / 2 ^ r % 2 ^ c = 0 := by rw [dg_lb n hq, mod_div_mod hr, ← div_pow_split, h0]
  have ho : (lb n).getD q 0 ||| x = nI (dg (lb n) q + X * 2 ^ r) := by
    rw [hx, ← nI_u32 ((lb n).getD q 0), nI_or]
    show nI (dg (lb n) q ||| X * 2 ^ r) = _
    rw [or_add hD hX]
  have hlt : dg (lb n) q + X * 2 ^ r < 4294967296 := by
    have h1 := or_add hD hX
    rw [← h1]
    have h3 : X * 2 ^ r < 2 ^ 32 := by
      have h4 : X * 2 ^ r < 2 ^ c * 2 ^ r := (Nat.mul_lt_mul_right (Nat.two_pow_pos r)).mpr hX
      rw [← Nat.pow_add] at h4
      have : 2 ^ (c + r) ≤ 2 ^ 32 := Nat.pow_le_pow_right (by omega) (by omega)
      omega
    exact Nat.or_lt_two_pow (n := 32) (dg_lt _ _) h3
  rw [ho]
  apply lb_eq (by rw [List.length_set, lb_len])
  have h1 := va_mid (L := lb n) (q := q) (x := nI (dg (lb n) q + X * 2 ^ r)) (by rw [lb_len]; exact hq) (n := 8) hq
  rw [u32_nIs hlt, va_lb8 hn, Nat.add_mul] at h1
  have h2 := va_lt ((lb n).set q (nI (dg (lb n) q + X * 2 ^ r))) 8
  have h3 : X * 2 ^ r * 4294967296 ^ q = X * 2 ^ (32 * q + r) := by rw [W_pow, Nat.mul_assoc, ← Nat.pow_add, Nat.add_comm r]
  rw [h3] at h1
  rw [Nat.mod_eq_of_lt (by omega)]
  omega
/-- how many bits a number has -/
def blen (n : Nat) : Nat := if n = 0 then 0 else Nat.log2 n + 1
theorem blen_lt (n : Nat) : n < 2 ^ blen n := by
  unfold blen
  by_cases h : n = 0
  · rw [if_pos h, h]; decide
  · rw [if_neg h]; exact Nat.lt_log2_self
theorem blen_ge {n : Nat} (h : n ≠ 0) : 2 ^ (blen n - 1) ≤ n := by
  unfold blen
  rw [if_neg h, Nat.add_sub_cancel]
  exact Nat.log2_self_le h
theorem blen_eq {n b : Nat} (h1 : n < 2 ^ b) (h2 : b ≠ 0 → 2 ^ (b - 1) ≤ n) : blen n = b := by
  by_cases h : n = 0
  · subst h
    by_cases hb : b = 0
    · subst hb; rfl
    · have := h2 hb
      have := Nat.two_pow_pos (b - 1)
      omega
  · have h3 := blen_lt n
    have h4 := blen_ge h
    have h5 : blen n ≠ 0 := by unfold blen; rw [if_neg h]; omega
    by_cases q : blen n < b
    · have := h2 (by omega)
      have : 2 ^ blen n ≤ 2 ^ (b - 1) := Nat.pow_le_pow_right (by omega) (by omega)
      omega
    · by_cases q2 : b < blen n
      · have : 2 ^ b ≤ 2 ^ (blen n - 1) := Nat.pow_le_pow_right (by omega) (by omega)
        omega
      · omega
theorem blen_le {n b : Nat} (h : n < 2 ^ b) : blen n ≤ b := by
  by_cases h0 : n = 0
  · subst h0; exact Nat.zero_le _
  · have h4 := blen_ge h0
    by_cases q : b < blen n
    · have : 2 ^ b ≤ 2 ^ (blen n - 1) := Nat.pow_le_pow_right (by omega) (by omega)
      omega
    · omega
theorem blen_div {n s : Nat} (h : n / 2 ^ s ≠ 0) : blen n = s + blen (n / 2 ^ s) := by
  have h1 := blen_lt (n / 2 ^ s)
  have h2 := blen_ge h
  have hp := Nat.two_pow_pos s
  have h5 : blen (n / 2 ^ s) ≠ 0 := by unfold blen; rw [if_neg h]; omega
  apply blen_eq
  · rw [Nat.pow_add, Nat.mul_comm]
    exact (Nat.div_lt_iff_lt_mul hp).mp h1
  · intro _
    rw [show s + blen (n / 2 ^ s) - 1 = (blen (n / 2 ^ s) - 1) + s by omega, Nat.pow_add]
    exact (Nat.le_div_iff_mul_le hp).mp h2
section Jdk
variable {G : Gx} {d : Nat} {h : AH}
theorem nlz_spec (hd : 1 ≤ d) (x : Int32) : Cw G mJ9_numberOfLeadingZeros d 0 [vI x] h (kI (fun y h' => y = nI (32 - blen (u32 x)) ∧ h' = h) nE) := by
  obtain ⟨d, rfl⟩ : ∃ d', d = d' + 1 := ⟨d - 1, by omega⟩
  refine eJ9_numberOfLeadingZeros h x (fun w => sJ9_numberOfLeadingZeros_0 h x ?_)
  have hx := toInt_u32 x
  have hlt := u32_lt x
  have h61 : ∀ s, s ≤ 28 → 1 ≤ u32 x / 2 ^ s → u32 x / 2 ^ s < 16 → Aw G mJ9_numberOfLeadingZeros (d + 1) 0 h (kI (fun y h' => y = nI (32 - blen (u32 x)) ∧ h' = h) nE) 61 [vI (nI (u32 x / 2 ^ s)), vI (nI (31 - s))] [] h := by
    intro s hs h1 h2
    have e : blen (u32 x) = s + blen (u32 x / 2 ^ s) := blen_div (by omega)
    generalize u32 x / 2 ^ s = v at *
    have hb : blen v = if v < 2 then 1 else if v < 4 then 2 else if v < 8 then 3 else 4 := by
      have : ∀ v, v < 16 → 1 ≤ v → blen v = if v < 2 then 1 else if v < 4 then 2 else if v < 8 then 3 else 4 := by decide +kernel
      exact this v h2 h1
    refine sJ9_numberOfLeadingZeros_61 h _ _ (pk_lt v 4 (fun h4 => ⟨?_, rfl⟩) (fun h4 => ⟨?_, rfl⟩))
    · rw [show (1 : Int32) = nI 1 from rfl, jushr_n (by omega) (by omega), pk_sub (by omega)]
      congr 1
      rw [e, hb]
      split <;> omega
    · rw [show (1 : Int32) = nI 1 from rfl, show (2 : Int32) = nI 2 from rfl, jushr_n (by omega) (by omega), jushr_n (by omega) (by omega), nI_an (by omega), pk_sub (by omega)]
      congr 1
      rw [e, hb]
      split
      · omega
      · split
        · omega
        · split <;> omega
  have h33 : ∀ s, s ≤ 16 → 1 ≤ u32 x / 2 ^ s → u32 x / 2 ^ s < 65536 → Aw G mJ9_numberOfLeadingZeros (d + 1) 0 h (kI (fun y h' => y = nI (32 - blen (u32 x)) ∧ h' = h) nE) 33 [vI (nI (u32 x / 2 ^ s)), vI (nI (31 - s))] [] h := by
    intro s hs h1 h2
    have k4 := h61 s (by omega) h1
    have k8 := h61 (s + 4) (by omega)
    have k9 := h61 (s + 8) (by omega)
    have k12 := h61 (s + 12) (by omega)
    rw [Nat.pow_add, ← Nat.div_div_eq_div_mul] at k8 k9 k12
    refine sJ9_numberOfLeadingZeros_33 h _ _ (pk_lt (u32 x / 2 ^ s) 256 (fun q1 => pk_lt (u32 x / 2 ^ s) 16 (fun q2 => k4 q2) (fun q2 => ?_)) (fun q1 => ?_))
    · rw [show (4 : Int32) = nI 4 from rfl, jushr_n (by omega) (by omega), nI_an (by omega), show 31 - s - 4 = 31 - (s + 4) by omega]
      exact k8 (by omega) (by omega)
    · rw [show (8 : Int32) = nI 8 from rfl, jushr_n (by omega) (by omega), nI_an (by omega), show 31 - s - 8 = 31 - (s + 8) by omega]
      refine pk_lt (u32 x / 2 ^ s / 2 ^ 8) 16 (fun q2 => k9 (by omega) q2) (fun q2 => ?_)
      rw [show (4 : Int32) = nI 4 from rfl, jushr_n (by omega) (by omega), nI_an (by omega), show 31 - (s + 8) - 4 = 31 - (s + 12) by omega, Nat.div_div_eq_div_mul (u32 x / 2 ^ s)]
      exact k12 (by omega) (by omega)
  refine ⟨fun hp => ?_, fun hp => ⟨fun h0 => ⟨?_, rfl⟩, fun h0 => ⟨?_, rfl⟩⟩⟩
  · have hp2 : 0 < x.toInt := by have := Int32.lt_iff_toInt_lt.mp hp; exact this
    have hu : u32 x < 2 ^ 31 ∧ 0 < u32 x := by split at hx <;> omega
    have k0 := h33 0 (by omega)
    have k16 := h33 16 (by omega)
    rw [← nI_u32 x]
    refine pk_lt (u32 x) 65536 (fun q => ?_) (fun q => ?_)
    · rw [Nat.pow_zero, Nat.div_one, nI_u32] at k0
      rw [nI_u32]
      exact k0 (by omega) (by omega)
    · rw [nI_u32, show (16 : Int32) = nI 16 from rfl, jushr_x x (by omega)]
      exact k16 (by omega) (by omega)
  · have hn : ¬ (0 < x.toInt) := fun q => hp (Int32.lt_iff_toInt_lt.mpr q)
    have h00 : u32 x ≠ 0 := fun q => h0 (u32_inj (y := 0) q)
    have hu : 2 ^ 31 ≤ u32 x := by split at hx <;> omega
    rw [blen_eq (b := 32) (by omega) (fun _ => hu)]
    rfl
  · rw [h0]; rfl
end Jdk

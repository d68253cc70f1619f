/-! numbers: ints as naturals below 2^32, longs, rows of digits -/
set_option maxRecDepth 100000
def u32 (x : Int32) : Nat := x.toUInt32.toNat
theorem u32_lt (x : Int32) : u32 x < 4294967296 := x.toUInt32.toNat_lt
theorem u32_bv (x : Int32) : u32 x = x.toBitVec.toNat := rfl
theorem nI_bv (n : Nat) : (nI n).toBitVec = BitVec.ofNat 32 n := Int32.toBitVec_ofNat' ..
theorem lN_bv (n : Nat) : (lN n).toBitVec = BitVec.ofNat 64 n := Int64.toBitVec_ofNat' ..
theorem u32_nI (n : Nat) : u32 (nI n) = n % 4294967296 := by
  rw [u32_bv, nI_bv]
  rfl
theorem u32_nIs {n : Nat} (h : n < 4294967296) : u32 (nI n) = n := by rw [u32_nI]; omega
theorem nI_u32 (x : Int32) : nI (u32 x) = x := by
  apply Int32.toBitVec_inj.mp
  rw [nI_bv, u32_bv]
  simp
theorem u32_inj {x y : Int32} (h : u32 x = u32 y) : x = y := by rw [← nI_u32 x, ← nI_u32 y, h]
theorem nI_eqI {a b : Nat} (h : a % 4294967296 = b % 4294967296) : nI a = nI b := u32_inj (by rw [u32_nI, u32_nI, h])
theorem nI_mod (a : Nat) : nI (a % 4294967296) = nI a := nI_eqI (by omega)
theorem lN_eqI {a b : Nat} (h : a % 2 ^ 64 = b % 2 ^ 64) : lN a = lN b := by
  apply Int64.toBitVec_inj.mp
  rw [lN_bv, lN_bv]
  apply BitVec.eq_of_toNat_eq
  simpa using h
theorem and_low (x : Int32) : x.toInt64 &&& 4294967295 = lN (u32 x) := by
  apply Int64.toBitVec_inj.mp
  rw [lN_bv, Int64.toBitVec_and]
  have h1 : x.toInt64.toBitVec = x.toBitVec.signExtend 64 := rfl
  have h2 : (4294967295 : Int64).toBitVec = 4294967295#64 := rfl
  have h3 : u32 x = x.toBitVec.toNat := rfl
  rw [h1, h2, h3]
  generalize x.toBitVec = b
  have h4 : BitVec.ofNat 64 b.toNat = b.setWidth 64 := by
    apply BitVec.eq_of_toNat_eq
    simp
  have h5 : 4294967295#64 = (BitVec.allOnes 32).setWidth 64 := by decide
  rw [h4, h5]
  apply BitVec.eq_of_getLsbD_eq
  intro i hi
  rw [BitVec.getLsbD_and, BitVec.getLsbD_setWidth, BitVec.getLsbD_setWidth, BitVec.getLsbD_allOnes, BitVec.getLsbD_signExtend]
  by_cases h : i < 32
  · simp [h, hi]
  · have : b.getLsbD i = false := BitVec.getLsbD_of_ge b i (by omega)
    simp [h, this]
theorem lN_ushr {n : Nat} (h : n < 2 ^ 64) : Jushr (lN n) 32 = lN (n / 4294967296) := by
  unfold Jushr
  apply Int64.toBitVec_inj.mp
  rw [lN_bv]
  have h1 : ((lN n).toUInt64 >>> ((32 : Int32).toInt64.toUInt64 &&& Int64.toUInt64 63)).toInt64.toBitVec = (BitVec.ofNat 64 n) >>> 32 := by
    show ((lN n).toUInt64 >>> ((32 : Int32).toInt64.toUInt64 &&& Int64.toUInt64 63)).toBitVec = _
    have e : ((32 : Int32).toInt64.toUInt64 &&& Int64.toUInt64 63) = 32 := by decide
    rw [e, UInt64.toBitVec_shiftRight]
    show (lN n).toBitVec >>> _ = _
    rw [lN_bv]
    rfl
  rw [h1]
  apply BitVec.eq_of_toNat_eq
  simp [Nat.shiftRight_eq_div_pow]
  omega
theorem lN_toInt63 {n : Nat} (h : n < 2 ^ 63) : (lN n).toInt = (n : Int) := by
  unfold lN
  rw [Int64.toInt_ofNat']
  simp [Int.bmod]
  omega
theorem lN_lt63 {a b : Nat} (ha : a < 2 ^ 63) (hb : b < 2 ^ 63) : lN a < lN b ↔ a < b := by
  rw [Int64.lt_iff_toInt_lt, lN_toInt63 ha, lN_toInt63 hb]
  omega
theorem lN_le63 {a b : Nat} (ha : a < 2 ^ 63) (hb : b < 2 ^ 63) : lN a ≤ lN b ↔ a ≤ b := by
  rw [Int64.le_iff_toInt_le, lN_toInt63 ha, lN_toInt63 hb]
  omega
/-- a long of an integer -/
def lZ (i : Int) : Int64 := Int64.ofInt i
theorem lZ_bv (i : Int) : (lZ i).toBitVec = BitVec.ofInt 64 i := Int64.toBitVec_ofInt ..
theorem lZ_n (n : Nat) : lN n = lZ n := by
  apply Int64.toBitVec_inj.mp
  rw [lN_bv, lZ_bv, BitVec.ofInt_natCast]
theorem lZ_add (a b : Int) : lZ a + lZ b = lZ (a + b) := by
  unfold lZ
  rw [Int64.ofInt_add]
theorem lZ_sub (a b : Int) : lZ a - lZ b = lZ (a - b) := by
  unfold lZ
  rw [Int64.ofInt_sub]
theorem lZ_i (i : Int) : (lZ i).toInt32 = Int32.ofInt i := by
  unfold lZ
  simp
theorem u32_ofInt (i : Int) : u32 (Int32.ofInt i) = (i % 4294967296).toNat := by
  rw [u32_bv, Int32.toBitVec_ofInt, BitVec.toNat_ofInt]
  rfl
theorem lZ_toInt {i : Int} (h : -2 ^ 63 ≤ i) (h2 : i < 2 ^ 63) : (lZ i).toInt = i := by
  unfold lZ
  rw [Int64.toInt_ofInt]
  simp [Int.bmod]
  omega
theorem lZ_shr {i : Int} (h : -2 ^ 63 ≤ i) (h2 : i < 2 ^ 63) : Jshr (lZ i) 32 = lZ (i / 4294967296) := by
  unfold Jshr
  apply Int64.toInt.inj
  rw [lZ_toInt (by omega) (by omega)]
  have e : ((32 : Int32).toInt64 &&& 63) = 32 := by decide
  rw [e]
  have h1 : (lZ i >>> (32 : Int64)).toBitVec = (lZ i).toBitVec.sshiftRight 32 := by
    rw [Int64.toBitVec_shiftRight]
    rfl
  show (lZ i >>> (32 : Int64)).toBitVec.toInt = _
  rw [h1, BitVec.toInt_sshiftRight]
  have h3 : (lZ i).toBitVec.toInt = i := lZ_toInt h h2
  rw [h3, Int.shiftRight_eq_div_pow]
  rfl
/-- the digits f 0 .. f (n - 1), the lowest first -/
def dv (f : Nat → Nat) : Nat → Nat
  | 0 => 0
  | n + 1 => dv f n + f n * 4294967296 ^ n
theorem dv_congr {f g : Nat → Nat} : ∀ {n : Nat}, (∀ i, i < n → f i = g i) → dv f n = dv g n
  | 0, _ => rfl
  | n + 1, h => by rw [dv, dv, dv_congr (fun i hi => h i (by omega)), h n (by omega)]
theorem dv_lt {f : Nat → Nat} : ∀ {n : Nat}, (∀ i, i < n → f i < 4294967296) → dv f n < 4294967296 ^ n
  | 0, _ => by simp [dv]
  | n + 1, h => by
    have h1 := dv_lt (fun i hi => h i (by omega)) (n := n)
    have h2 := h n (by omega)
    rw [dv, Nat.pow_succ]
    have h3 : f n * 4294967296 ^ n + 4294967296 ^ n ≤ 4294967296 ^ n * 4294967296 := by
      have := Nat.mul_le_mul_right (4294967296 ^ n) (show f n + 1 ≤ 4294967296 from h2)
      rw [Nat.add_mul, Nat.one_mul, Nat.mul_comm 4294967296] at this
      exact this
    omega
theorem dv_nat (n : Nat) : ∀ k, dv (fun i => n / 4294967296 ^ i % 4294967296) k = n % 4294967296 ^ k
  | 0 => by simp [dv, Nat.mod_one]
  | k + 1 => by
    rw [dv, dv_nat n k, Nat.pow_succ, Nat.mod_mul, Nat.mul_comm (4294967296 ^ k)]
theorem dv_dig {f : Nat → Nat} : ∀ {n : Nat}, (∀ i, i < n → f i < 4294967296) → ∀ i, i < n → dv f n / 4294967296 ^ i % 4294967296 = f i
  | 0, _, i, hi => absurd hi (by omega)
  | n + 1, h, i, hi => by
    have hp : 0 < 4294967296 ^ n := Nat.pow_pos (by omega)
    by_cases e : i = n
    · subst e
      have h1 := dv_lt (fun j hj => h j (by omega)) (n := i)
      rw [dv, Nat.add_mul_div_right _ _ hp, Nat.div_eq_of_lt h1, Nat.zero_add, Nat.mod_eq_of_lt (h i (by omega))]
    · have h1 := dv_dig (fun j hj => h j (by omega)) i (show i < n by omega)
      rw [dv]
      obtain ⟨m, rfl⟩ : ∃ m, n = i + (m + 1) := ⟨n - i - 1, by omega⟩
      have hpi : 0 < 4294967296 ^ i := Nat.pow_pos (by omega)
      have e2 : f (i + (m + 1)) * 4294967296 ^ (i + (m + 1)) = (f (i + (m + 1)) * 4294967296 ^ m * 4294967296) * 4294967296 ^ i := by
        rw [Nat.pow_add, Nat.pow_succ]
        ac_rfl
      rw [e2, Nat.add_mul_div_right _ _ hpi, Nat.add_mul_mod_self_right]
      exact h1
def dg (L : List Int32) (i : Nat) : Nat := u32 (L.getD i 0)
theorem dg_lt (L : List Int32) (i : Nat) : dg L i < 4294967296 := u32_lt _
/-- the number that the first n digits of a row tell -/
def va (L : List Int32) (n : Nat) : Nat := dv (dg L) n
theorem va_succ (L : List Int32) (n : Nat) : va L (n + 1) = va L n + dg L n * 4294967296 ^ n := rfl
theorem va_zero (L : List Int32) : va L 0 = 0 := rfl
theorem va_lt (L : List Int32) (n : Nat) : va L n < 4294967296 ^ n := dv_lt (fun _ _ => dg_lt _ _)
theorem dg_set_eq {L : List Int32} {k : Nat} {x : Int32} (h : k < L.length) : dg (L.set k x) k = u32 x := by
  unfold dg
  rw [List.getD_eq_getElem?_getD, List.getElem?_set_self h]
  rfl
theorem getD_set_ne {α : Type} {L : List α} {i k : Nat} {x z : α} (h : i ≠ k) : (L.set k x).getD i z = L.getD i z := by
  rw [List.getD_eq_getElem?_getD, List.getElem?_set_ne (fun e => h e.symm), List.getD_eq_getElem?_getD]
theorem getD_set_eq {α : Type} {L : List α} {k : Nat} {x z : α} (h : k < L.length) : (L.set k x).getD k z = x := by
  rw [List.getD_eq_getElem?_getD, List.getElem?_set_self h]
  rfl
theorem getD_sif {α : Type} (L : List α) (i k : Nat) (x z : α) : (L.set k x).getD i z = if i = k ∧ k < L.length then x else L.getD i z := by
  by_cases e : i = k
  · subst e
    by_cases h : i < L.length
    · rw [if_pos ⟨rfl, h⟩, getD_set_eq h]
    · rw [if_neg (fun q => h q.2), List.set_eq_of_length_le (by omega)]
  · rw [if_neg (fun q => e q.1), getD_set_ne e]
theorem dg_set_ne {L : List Int32} {i k : Nat} {x : Int32} (h : i ≠ k) : dg (L.set k x) i = dg L i := by
  unfold dg
  rw [getD_set_ne h]
theorem va_set_ge {L : List Int32} {i k : Nat} {x : Int32} (h : k ≤ i) : va (L.set i x) k = va L k := dv_congr (fun j hj => dg_set_ne (by omega))
theorem va_set {L : List Int32} {k : Nat} {x : Int32} (h : k < L.length) : va (L.set k x) (k + 1) = va L k + u32 x * 4294967296 ^ k := by
  rw [va_succ, va_set_ge (Nat.le_refl _), dg_set_eq h]
theorem ext_getD {α : Type} {z : α} {a b : List α} (hl : a.length = b.length) (h : ∀ i, i < a.length → a.getD i z = b.getD i z) : a = b := by
  apply List.ext_getElem hl
  intro i h1 h2
  have := h i h1
  rw [List.getD_eq_getElem?_getD, List.getD_eq_getElem?_getD, List.getElem?_eq_getElem h1, List.getElem?_eq_getElem h2] at this
  exact this
/-- the row of eight digits of a number -/
def lb (n : Nat) : List Int32 := (List.range 8).map (fun i => nI (n / 4294967296 ^ i))
theorem lb_len (n : Nat) : (lb n).length = 8 := by simp [lb]
theorem lb_getD (n : Nat) {i : Nat} (h : i < 8) : (lb n).getD i 0 = nI (n / 4294967296 ^ i) := by
  unfold lb
  rw [List.getD_eq_getElem?_getD, List.getElem?_map, List.getElem?_range h]
  rfl
theorem dg_lb (n : Nat) {i : Nat} (h : i < 8) : dg (lb n) i = n / 4294967296 ^ i % 4294967296 := by
  unfold dg
  rw [lb_getD n h, u32_nI]
theorem va_lb (n : Nat) {k : Nat} (h : k ≤ 8) : va (lb n) k = n % 4294967296 ^ k := by
  rw [← dv_nat n k]
  exact dv_congr (fun i hi => dg_lb n (by omega))
theorem va_lb8 {n : Nat} (h : n < 4294967296 ^ 8) : va (lb n) 8 = n := by rw [va_lb n (Nat.le_refl _), Nat.mod_eq_of_lt h]
theorem va_inj {a b : List Int32} {n : Nat} (ha : a.length = n) (hb : b.length = n) (h : va a n = va b n) : a = b := by
  apply ext_getD (z := 0) (by omega)
  intro i hi
  apply u32_inj
  have h1 := dv_dig (f := dg a) (n := n) (fun _ _ => dg_lt _ _) i (by omega)
  have h2 := dv_dig (f := dg b) (n := n) (fun _ _ => dg_lt _ _) i (by omega)
  have h3 : dv (dg a) n = dv (dg b) n := h
  rw [h3] at h1
  exact h1.symm.trans h2
theorem lb_va {L : List Int32} (h : L.length = 8) : lb (va L 8) = L := va_inj (lb_len _) h (va_lb8 (va_lt _ _))
theorem lb_eq {L : List Int32} {n : Nat} (h : L.length = 8) (e : va L 8 = n % 4294967296 ^ 8) : L = lb n := va_inj h (lb_len _) (by rw [e, va_lb n (Nat.le_refl _)])
theorem lb_mod (n : Nat) : lb (n % 4294967296 ^ 8) = lb n := lb_eq (lb_len _) (by rw [va_lb _ (Nat.le_refl _), Nat.mod_mod])
theorem lb_0 : lb 0 = List.replicate 8 0 := by decide
theorem va_0 {L : List Int32} : ∀ {n : Nat}, (∀ i, i < n → L.getD i 0 = 0) → va L n = 0
  | 0, _ => rfl
  | n + 1, h => by rw [va_succ, va_0 (fun i hi => h i (by omega)), dg, h n (by omega), show u32 (0 : Int32) = 0 from rfl, Nat.zero_mul]
theorem va_eq0 {L : List Int32} : ∀ {n : Nat}, va L n = 0 → ∀ i, i < n → L.getD i 0 = 0
  | 0, _, i, hi => absurd hi (by omega)
  | n + 1, h, i, hi => by
    rw [va_succ] at h
    have hp : 0 < 4294967296 ^ n := Nat.pow_pos (by omega)
    by_cases e : i = n
    · subst e
      have h2 : dg L i * 4294967296 ^ i = 0 := by omega
      have h3 : dg L i = 0 := by
        rcases Nat.mul_eq_zero.mp h2 with q | q
        · exact q
        · omega
      exact u32_inj (y := 0) (by rw [show u32 (0 : Int32) = 0 from rfl]; exact h3)
    · exact va_eq0 (n := n) (by omega) i (by omega)
/-! loops -/
/-- any loop, by a measure -/
theorem loop_wf {α : Type} {P : α → Prop} (m : α → Nat) (I : α → Prop) (hs : ∀ x, I x → (∀ y, I y → m y < m x → P y) → P x) : ∀ x, I x → P x := by
  have : ∀ n x, m x < n → I x → P x := by
    intro n
    induction n with
    | zero => intro x hx _; omega
    | succ n ih => intro x hx hi; exact hs x hi (fun y hy hl => ih y (by omega) hy)
  exact fun x hi => this (m x + 1) x (by omega) hi
/-- a loop that counts up to n -/
theorem loop_up {α : Type} {n : Nat} {P : Nat → α → Prop} (I : Nat → α → Prop) (hs : ∀ k x, k < n → I k x → (∀ y, I (k + 1) y → P (k + 1) y) → P k x) (he : ∀ x, I n x → P n x) : ∀ k x, k ≤ n → I k x → P k x := by
  have : ∀ m k x, n - k = m → k ≤ n → I k x → P k x := by
    intro m
    induction m with
    | zero => intro k x hm hk hi; have e : k = n := by omega
              subst e; exact he x hi
    | succ m ih =>
      intro k x hm hk hi
      exact hs k x (by omega) hi (fun y hy => ih (k + 1) y (by omega) (by omega) hy)
  exact fun k x => this _ k x rfl
/-- a loop that counts down: k is one more than the index -/
theorem loop_dn {α : Type} {P : Nat → α → Prop} (I : Nat → α → Prop) (hs : ∀ k x, I (k + 1) x → (∀ y, I k y → P k y) → P (k + 1) x) (he : ∀ x, I 0 x → P 0 x) : ∀ k x, I k x → P k x := by
  intro k
  induction k with
  | zero => exact he
  | succ k ih => intro x hi; exact hs k x hi ih
/-! reads behind writes -/
theorem AH.kd_wi (h : AH) (a : Nat) (v : List Int32) : (h.wi a v).kd = h.kd := rfl
theorem AH.r_wi (h : AH) (a : Nat) (v : List Int32) : (h.wi a v).r = h.r := rfl
theorem AH.i_wi (h : AH) (a : Nat) (v : List Int32) : (h.wi a v).i = h.i := rfl
theorem AH.l_wi (h : AH) (a : Nat) (v : List Int32) : (h.wi a v).l = h.l := rfl
theorem AH.al_wi (h : AH) (a : Nat) (v : List Int32) : (h.wi a v).al = h.al := rfl
theorem AH.ar_wi (h : AH) (a : Nat) (v : List Int32) : (h.wi a v).ar = h.ar := rfl
theorem AH.z_wi (h : AH) (a : Nat) (v : List Int32) : (h.wi a v).z = h.z := rfl
theorem AH.s_wi (h : AH) (a : Nat) (v : List Int32) : (h.wi a v).s = h.s := rfl
theorem AH.ai_wi (h : AH) (a x : Nat) (v : List Int32) : (h.wi a v).ai x = if x = a then v else h.ai x := rfl
theorem AH.ai_wiS (h : AH) (a : Nat) (v : List Int32) : (h.wi a v).ai a = v := if_pos rfl
theorem AH.ai_wiN {h : AH} {a x : Nat} {v : List Int32} (e : x ≠ a) : (h.wi a v).ai x = h.ai x := if_neg e
theorem AH.wi_wi (h : AH) (a : Nat) (u v : List Int32) : (h.wi a u).wi a v = h.wi a v := by
  unfold AH.wi
  congr 1
  funext x
  show (if x = a then v else if x = a then u else h.ai x) = if x = a then v else h.ai x
  by_cases e : x = a <;> simp [e]
theorem AH.wi_self (h : AH) (a : Nat) : h.wi a (h.ai a) = h := by
  have : up1 h.ai a (h.ai a) = h.ai := by
    funext x
    show (if x = a then h.ai a else h.ai x) = h.ai x
    by_cases e : x = a <;> simp [e]
  unfold AH.wi
  rw [this]
  rfl
theorem AH.wi_comm (h : AH) {a b : Nat} (u v : List Int32) (e : a ≠ b) : (h.wi a u).wi b v = (h.wi b v).wi a u := by
  unfold AH.wi
  congr 1
  funext x
  show (if x = b then v else if x = a then u else h.ai x) = if x = a then u else if x = b then v else h.ai x
  by_cases e1 : x = a
  · by_cases e2 : x = b
    · exact absurd (e1.symm.trans e2) e
    · simp [e1, e]
  · simp [e1]
theorem rd_wi {h : AH} {a x k : Nat} {T : List Int32} (e : T.getD k 0 = (h.ai a).getD k 0) : ((h.wi a T).ai x).getD k 0 = (h.ai x).getD k 0 := by
  by_cases q : x = a
  · subst q; rw [AH.ai_wiS, e]
  · rw [AH.ai_wiN q]
theorem ln_wi {h : AH} {a x : Nat} {T : List Int32} (e : T.length = (h.ai a).length) : ((h.wi a T).ai x).length = (h.ai x).length := by
  by_cases q : x = a
  · subst q; rw [AH.ai_wiS, e]
  · rw [AH.ai_wiN q]

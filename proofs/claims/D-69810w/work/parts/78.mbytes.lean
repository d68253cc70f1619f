/-! numbers from bytes and to bytes, by the reference -/
set_option maxRecDepth 100000
theorem p256_W (n : Nat) : 4294967296 ^ n = 256 ^ (4 * n) := by rw [Nat.pow_mul]
theorem dv8_add (F : Nat → Nat) (m : Nat) : ∀ n, dv8 F (m + n) = dv8 F m + dv8 (fun i => F (m + i)) n * 256 ^ m
  | 0 => by rw [Nat.add_zero, dv8, Nat.zero_mul, Nat.add_zero]
  | n + 1 => by
    rw [← Nat.add_assoc, dv8, dv8_add F m n, dv8, Nat.add_mul, Nat.pow_add]
    have : F (m + n) * 256 ^ n * 256 ^ m = F (m + n) * (256 ^ m * 256 ^ n) := by ac_rfl
    omega
theorem dv_dv8 (F : Nat → Nat) : ∀ n, dv (fun i => dv8 (fun k => F (4 * i + k)) 4) n = dv8 F (4 * n)
  | 0 => rfl
  | n + 1 => by rw [dv, dv_dv8 F n, show 4 * (n + 1) = 4 * n + 4 by omega, dv8_add, p256_W]
theorem shl8_or {V b : Nat} (hb : b < 256) : jshl (nI V) 8 ||| nI b = nI (b + 256 * V) := by
  rw [show (8 : Int32) = nI 8 from rfl, jshl_n _ (by decide), nI_or]
  have h1 := or_add (D := V * 2 ^ 8) (X := b) (p := 0) (c := 8) (by omega) hb
  rw [Nat.pow_zero, Nat.mul_one] at h1
  rw [h1]
  congr 1
  omega
/-- the bytes of a number in a row: the highest first, or the lowest -/
def fbF (L : List Int32) (off : Nat) (hi : Int32) (j : Nat) : Nat := if hi = 0 then ub L (off + j) else ub L (off + (31 - j))
theorem fbF_lt (L : List Int32) (off : Nat) (hi : Int32) (j : Nat) : fbF L off hi j < 256 := by
  unfold fbF
  split <;> exact ub_lt _ _
theorem fbF_le (L : List Int32) (off : Nat) : dv8 (fbF L off 0) 32 = leV L off 32 := dv8_congr (fun i _ => if_pos rfl)
theorem fbF_be (L : List Int32) (off : Nat) : dv8 (fbF L off 1) 32 = beV L off 32 := dv8_congr (fun i _ => if_neg (by decide))
section MBytes
variable {G : Gx} {d : Nat} {h : AH}
theorem fromBytes_16 {Φ : Out → AH → Prop} {a off t i : Nat} {hi : Int32} (h0 : AH) (ka : h.kd a = 101) (la : off + 32 ≤ (h.ai a).length) (la2 : (h.ai a).length < 2 ^ 31) (hi8 : i < 8)
    (hK : Aw G mX24_fromBytes (d + 1) 0 h0 Φ 16 [vR a, vI (nI off), vI hi, vR t, vI (nI i), vI (nI (dv8 (fun k => fbF (h.ai a) off hi (4 * i + k)) 4)), vI (dI 0)] [] h) :
    ∀ k (_ : Unit), True → k ≤ 4 → Aw G mX24_fromBytes (d + 1) 0 h0 Φ 16 [vR a, vI (nI off), vI hi, vR t, vI (nI i), vI (nI (dv8 (fun j => fbF (h.ai a) off hi (4 * i + k + j)) (4 - k))), vI (dI k)] [] h := by
  refine loop_dn (P := fun k (_ : Unit) => k ≤ 4 → Aw G mX24_fromBytes (d + 1) 0 h0 Φ 16 [vR a, vI (nI off), vI hi, vR t, vI (nI i), vI (nI (dv8 (fun j => fbF (h.ai a) off hi (4 * i + k + j)) (4 - k))), vI (dI k)] [] h) (fun _ _ => True) (fun k _ _ ih hk => ?_) (fun _ _ _ => hK)
  have ih' := ih () trivial (by omega)
  have e1 : dv8 (fun j => fbF (h.ai a) off hi (4 * i + k + j)) (4 - k) = fbF (h.ai a) off hi (4 * i + k) + 256 * dv8 (fun j => fbF (h.ai a) off hi (4 * i + (k + 1) + j)) (4 - (k + 1)) := by
    rw [show 4 - k = (4 - (k + 1)) + 1 by omega, dv8_low]
    congr 1
    congr 1
    exact dv8_congr (fun j _ => by rw [show 4 * i + k + (j + 1) = 4 * i + (k + 1) + j by omega])
  rw [e1, ← shl8_or (fbF_lt _ _ _ _)] at ih'
  rw [dI_succ]
  generalize dv8 (fun j => fbF (h.ai a) off hi (4 * i + (k + 1) + j)) (4 - (k + 1)) = V at *
  refine sX24_fromBytes_16 _ a (nI off) hi t (nI i) (nI V) (nI k) ⟨fun c => absurd c (nI_pos (by omega)), fun _ => ⟨fun c => ⟨ka, ?_⟩, fun c => ⟨ka, ?_⟩⟩⟩
  · rw [show (4 : Int32) = nI 4 from rfl, pk_mul, nI_add, nI_add, pk_cl (off + (4 * i + k)) rfl (by omega), and_ub]
    refine ⟨pk_in (off + (4 * i + k)) _ (by omega), fun u8 e8 => ?_⟩
    rw [fbF, if_pos c] at ih'
    rw [e8]
    exact ih'
  · rw [show (4 : Int32) = nI 4 from rfl, show (31 : Int32) = nI 31 from rfl, pk_mul, pk_sub (show 4 * i ≤ 31 by omega), pk_sub (show k ≤ 31 - 4 * i by omega), nI_add, pk_cl (off + (31 - 4 * i - k)) rfl (by omega), and_ub]
    refine ⟨pk_in (off + (31 - 4 * i - k)) _ (by omega), fun u8 e8 => ?_⟩
    rw [fbF, if_neg c, show 31 - (4 * i + k) = 31 - 4 * i - k by omega] at ih'
    rw [e8]
    exact ih'
theorem MD_fromBytes_spec {a off t : Nat} {hi : Int32} (hd : 1 ≤ d) (ka : h.kd a = 101) (la : off + 32 ≤ (h.ai a).length) (la2 : (h.ai a).length < 2 ^ 31) (ht : RowAt h t) : Cw G mX24_fromBytes d 0 [vR a, vI (nI off), vI hi, vR t] h (kV (fun h' => h' = h.wi t (lb (dv8 (fbF (h.ai a) off hi) 32))) nE) := by
  obtain ⟨d, rfl⟩ : ∃ d', d = d' + 1 := ⟨d - 1, by omega⟩
  have hne : a ≠ t := fun e => by rw [e, ht.1] at ka; omega
  refine eX24_fromBytes h a (nI off) hi t (fun _ => sX24_fromBytes_0 h a (nI off) hi t ?_)
  have key := loop_uc (n := 8) (P := fun i T => Aw G mX24_fromBytes (d + 1) 0 h (kV (fun h' => h' = h.wi t (lb (dv8 (fbF (h.ai a) off hi) 32))) nE) 3 [vR a, vI (nI off), vI hi, vR t, vI (nI i), vU, vU] [] (h.wi t T))
    (fun i T => T.length = 8 ∧ ∀ j, j < i → T.getD j 0 = nI (dv8 (fun k => fbF (h.ai a) off hi (4 * j + k)) 4)) (fun i T hk hI ih => ?_) 0 (h.ai t) (by omega) ⟨ht.2, fun i hi => absurd hi (by omega)⟩
  · rw [AH.wi_self] at key; exact key
  · obtain ⟨l, z⟩ := hI
    refine sX24_fromBytes_3 _ a (nI off) hi t (nI i) (pk_le 8 i (fun h8 => ?_) (fun h8 => ?_))
    · have : i = 8 := by omega
      subst this
      have e : va T 8 = dv8 (fbF (h.ai a) off hi) 32 := by
        have e1 := dv_dv8 (fbF (h.ai a) off hi) 8
        rw [show 4 * 8 = 32 from rfl] at e1
        rw [← e1]
        refine dv_congr (fun j hj => ?_)
        unfold dg
        rw [z j hj]
        have := dv8_lt (f := fun k => fbF (h.ai a) off hi (4 * j + k)) (n := 4) (fun _ _ => fbF_lt _ _ _ _)
        exact u32_nIs this
      show _ = _
      rw [← e, lb_va l]
    · have aa : (h.wi t T).ai a = h.ai a := AH.ai_wiN hne
      have k16 := fromBytes_16 (G := G) (d := d) (h := h.wi t T) (t := t) (i := i) (hi := hi) (off := off) (a := a) (Φ := kV (fun h' => h' = h.wi t (lb (dv8 (fbF (h.ai a) off hi) 32))) nE) h ka (by rw [aa]; exact la) (by rw [aa]; exact la2) h8 ?_ 4 () trivial (Nat.le_refl _)
      · exact k16
      · refine sX24_fromBytes_16 _ a (nI off) hi t (nI i) _ (dI 0) ⟨fun _ => ⟨ht.1, ?_⟩, fun c => absurd (by decide) c⟩
        rw [AH.ai_wiS, AH.wi_wi, AH.ai_wiN hne, l, pk_cl i, nI_1]
        refine ⟨pk_in i 8 h8, fun h4 e4 => ?_⟩
        rw [e4]
        refine ih h8 _ ⟨by rw [List.length_set, l], fun j hj => ?_⟩
        by_cases e : j = i
        · subst e; rw [getD_set_eq (by omega)]
        · rw [getD_set_ne e]; exact z j (by omega)
theorem MD_toBytes_spec {a t off : Nat} (hd : 1 ≤ d) (ha : RowAt h a) (kt : h.kd t = 101) (lt : off + 32 ≤ (h.ai t).length) (lt2 : (h.ai t).length < 2 ^ 31) : Cw G mX24_toBytes d 0 [vR a, vR t, vI (nI off)] h (kV (fun h' => h' = h.wi t (putB (h.ai t) off 32 (fun i => bI (bv h a / 256 ^ (31 - i))))) nE) := by
  obtain ⟨d, rfl⟩ : ∃ d', d = d' + 1 := ⟨d - 1, by omega⟩
  have hne : a ≠ t := fun e => by rw [← e, ha.1] at kt; omega
  refine eX24_toBytes h a t (nI off) (fun _ => sX24_toBytes_0 h a t (nI off) ?_)
  have key := loop_uc (n := 32) (P := fun k (_ : Unit) => Aw G mX24_toBytes (d + 1) 0 h (kV (fun h' => h' = h.wi t (putB (h.ai t) off 32 (fun i => bI (bv h a / 256 ^ (31 - i))))) nE) 2 [vR a, vR t, vI (nI off), vI (nI k)] [] (h.wi t (putB (h.ai t) off k (fun i => bI (bv h a / 256 ^ (31 - i))))))
    (fun _ _ => True) (fun k _ hk _ ih => ?_) 0 () (by omega) trivial
  · rw [putB_0, AH.wi_self] at key; exact key
  · refine sX24_toBytes_2 _ a t (nI off) (nI k) (pk_le 32 k (fun h8 => ?_) (fun h8 => ⟨ha.1, ?_⟩))
    · have : k = 32 := by omega
      subst this
      rfl
    · rw [AH.ai_wiS, AH.wi_wi, AH.ai_wiN hne, ha.2, putB_len, nI_add, show (4 : Int32) = nI 4 from rfl, show (7 : Int32) = nI 7 from rfl, show (8 : Int32) = nI 8 from rfl, show (24 : Int32) = nI 24 from rfl, pk_div (by omega) (by decide) (by decide), jrem_n (by omega) (by decide) (by decide), pk_sub (show k / 4 ≤ 7 by omega), pk_cl (7 - k / 4) rfl (by omega), pk_cl (off + k) rfl (by omega), pk_mul, pk_sub (show 8 * (k % 4) ≤ 24 by omega), show 24 - 8 * (k % 4) = 8 * (3 - k % 4) by omega, i2b_i2b, i2b_ushr _ (by omega), nI_1]
      refine ⟨pk_in (7 - k / 4) 8 (by omega), kt, pk_in (off + k) _ (by omega), fun h6 e6 => ?_⟩
      rw [e6, putB_succ (by omega)]
      · exact ih h8 () trivial
      · apply bI_eqI
        have h1 : u32 ((h.ai a).getD (7 - k / 4) 0) = bv h a / 4294967296 ^ (7 - k / 4) % 4294967296 := dg_va (L := h.ai a) (n := 8) (by omega)
        rw [h1, show 7 - k / 4 = (31 - k) / 4 by omega, show 3 - k % 4 = (31 - k) % 4 by omega, dig_byte]
end MBytes

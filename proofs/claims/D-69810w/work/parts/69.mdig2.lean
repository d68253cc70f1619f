/-! SHA-256 by the reference -/
set_option maxRecDepth 100000
theorem us_a : ∀ s, s < 64 → ((nI s).toInt64.toUInt64 &&& Int64.toUInt64 63) = UInt64.ofNat s := by decide +kernel
theorem us_b : ∀ s, s < 64 → ((UInt64.ofNat s).toBitVec % 64).toNat = s := by decide +kernel
theorem lN_ushrN {n s : Nat} (h : n < 2 ^ 64) (hs : s < 64) : Jushr (lN n) (nI s) = lN (n / 2 ^ s) := by
  unfold Jushr
  apply Int64.toBitVec_inj.mp
  rw [lN_bv, us_a s hs]
  have h1 : ((lN n).toUInt64 >>> UInt64.ofNat s).toInt64.toBitVec = (BitVec.ofNat 64 n) >>> s := by
    show ((lN n).toUInt64 >>> UInt64.ofNat s).toBitVec = _
    rw [UInt64.toBitVec_shiftRight, BitVec.ushiftRight_eq', us_b s hs]
    show (lN n).toBitVec >>> _ = _
    rw [lN_bv]
  rw [h1]
  apply BitVec.eq_of_toNat_eq
  rw [BitVec.toNat_ushiftRight, BitVec.toNat_ofNat, BitVec.toNat_ofNat, Nat.shiftRight_eq_div_pow, Nat.mod_eq_of_lt h, Nat.mod_eq_of_lt (Nat.lt_of_le_of_lt (Nat.div_le_self _ _) h)]
theorem WF.byte {G : Gx} {h : AH} (w : WF G h) {a : Nat} (k : h.kd a = 101) (i : Nat) : i2b ((h.ai a).getD i 0) = (h.ai a).getD i 0 := by
  by_cases hi : i < (h.ai a).length
  · refine w.2.2.2.1 a k _ ?_
    rw [List.getD_eq_getElem?_getD, List.getElem?_eq_getElem hi]
    exact List.getElem_mem hi
  · rw [List.getD_eq_getElem?_getD, List.getElem?_eq_none (by omega)]
    rfl
section MDig2
variable {G : Gx} {d : Nat} {h : AH} {M : Nat}
/-- the flag of the highest first: 1 for SHA-256 -/
def hiF (f : Int32) : Int32 := if f = 0 then 1 else 0
/-- which bytes of the length are written -/
def wrF (f : Int32) (E k i : Nat) : Prop := (f = 0 ∧ E - k ≤ i) ∨ (¬ f = 0 ∧ E - 8 ≤ i ∧ i < E - 8 + k)
/-- what pad leaves in its row: of all bytes the last n, from off on -/
theorem MD_pad_spec {f : Int32} {a off n all : Nat} (hd : 1 ≤ d) (H : MdS h M) (hf : f = 0 ∨ f = 1) (hall : all / 64 * 64 + n = all) (hn : n < 64) (ka : h.kd a = 101) (na : a ≠ M + 1) (la : off + n ≤ (h.ai a).length) (la2 : (h.ai a).length < 2 ^ 31) (hb : 8 * all < 2 ^ 31) {mb : Nat → Int32} (hmb : ∀ i, i < n → (h.ai a).getD (off + i) 0 = mb (all / 64 * 64 + i)) :
    Cw G mX24_pad d 0 [vR M, vR a, vI (nI off), vI (nI n), vI (nI all), vI (hiF f)] h (kI (fun x h' => x = nI ((n + 72) / 64 * 64) ∧ Mod (fun x => x = M + 1) h h' ∧ ∀ i, i < (n + 72) / 64 * 64 → (h'.ai (M + 1)).getD i 0 = pm f all mb (all / 64 * 64 + i)) nE) := by
  obtain ⟨d, rfl⟩ : ∃ d', d = d' + 1 := ⟨d - 1, by omega⟩
  obtain ⟨kM, ⟨r0, r1, r2, r3, r4, r8, r9, r10, r11, r12, r13, r14⟩, ⟨k1, k2, k3, k4, k5, k9, k10, k11, k12, k13, k14, k15⟩, ⟨l1, l2, l3, l4, l5, l9, l10, l11, l12, l13, l14, l15⟩⟩ := H
  have hN : (all + 72) / 64 * 64 = all / 64 * 64 + (n + 72) / 64 * 64 := by omega
  have hend : (n + 72) / 64 * 64 = 64 ∨ (n + 72) / 64 * 64 = 128 := by omega
  have hne : n + 8 < (n + 72) / 64 * 64 := by omega
  refine eX24_pad h M a (nI off) (nI n) (nI all) (hiF f) (fun w => sX24_pad_0 h M a (nI off) (nI n) (nI all) (hiF f) ?_)
  generalize hΦ : kI (fun x h' => x = nI ((n + 72) / 64 * 64) ∧ Mod (fun x => x = M + 1) h h' ∧ ∀ i, i < (n + 72) / 64 * 64 → (h'.ai (M + 1)).getD i 0 = pm f all mb (all / 64 * 64 + i)) nE = Φ
  generalize hE : (n + 72) / 64 * 64 = E at *
  -- the length
  have k84 : ∀ k L, k ≤ 8 → (L.length = 128 ∧ ∀ i, i < E → (wrF f E k i → L.getD i 0 = pm f all mb (all / 64 * 64 + i)) ∧ (¬ wrF f E k i → L.getD i 0 = if i < n then mb (all / 64 * 64 + i) else if i = n then -128 else 0)) → Aw G mX24_pad (d + 1) 0 h Φ 84 [vR M, vU, vU, vU, vU, vI (hiF f), vI (nI E), vJ (lN (8 * all)), vU, vI (nI k)] [] (h.wi (M + 1) L) := by
    refine loop_uc (n := 8) (P := fun k L => Aw G mX24_pad (d + 1) 0 h Φ 84 [vR M, vU, vU, vU, vU, vI (hiF f), vI (nI E), vJ (lN (8 * all)), vU, vI (nI k)] [] (h.wi (M + 1) L)) _ (fun k L hk hI ih => ?_)
    obtain ⟨lL, hL⟩ := hI
    refine sX24_pad_84 _ M (hiF f) (nI E) (lN (8 * all)) (nI k) (pk_le 8 k (fun h8 => ?_) (fun h8 => ⟨kM, fun q3 e3 => ?_⟩))
    · have : k = 8 := by omega
      subst this
      rw [← hΦ]
      refine ⟨rfl, Mod.wi (by rw [lL, l1]) rfl, fun i hi => ?_⟩
      rw [AH.ai_wiS]
      by_cases c : wrF f E 8 i
      · exact (hL i hi).1 c
      · rw [(hL i hi).2 c]
        have ci : i < E - 8 := by
          unfold wrF at c
          by_cases e : f = 0
          · have : ¬ (E - 8 ≤ i) := fun q => c (Or.inl ⟨e, q⟩)
            omega
          · have : ¬ (E - 8 ≤ i ∧ i < E - 8 + 8) := fun q => c (Or.inr ⟨e, q⟩)
            omega
        unfold pm
        by_cases q1 : i < n
        · rw [if_pos q1, if_pos (show all / 64 * 64 + i < all by omega)]
        · rw [if_neg q1, if_neg (show ¬ all / 64 * 64 + i < all by omega)]
          by_cases q2 : i = n
          · rw [if_pos q2, if_pos (show all / 64 * 64 + i = all by omega)]
          · rw [if_neg q2, if_neg (show ¬ all / 64 * 64 + i = all by omega), hN]
            by_cases e : f = 0
            · rw [if_pos e, if_neg (by omega)]
            · rw [if_neg e, if_neg (by omega)]
    · have hb8 : i2b (Jushr (lN (8 * all)) (8 * nI k)).toInt32 = bI (8 * all / 256 ^ k) := by
        rw [show (8 : Int32) = nI 8 from rfl, pk_mul, lN_ushrN (by omega) (by omega), lN_i, p256]
        rfl
      rw [e3.trans r0, AH.ai_wiS, lL, nI_1, i2b_i2b, hb8]
      have hz : 4 ≤ k → bI (8 * all / 256 ^ k) = 0 := by
        intro hk4
        have : 8 * all / 256 ^ k = 0 := by
          apply Nat.div_eq_of_lt
          have : 256 ^ 4 ≤ 256 ^ k := Nat.pow_le_pow_right (by omega) hk4
          omega
        rw [this]
        rfl
      refine ⟨fun e => ⟨k1, ?_⟩, fun e => ⟨k1, ?_⟩⟩
      · have f1 : ¬ f = 0 := fun q => by unfold hiF at e; rw [if_pos q] at e; exact absurd e (by decide)
        rw [show (8 : Int32) = nI 8 from rfl, pk_sub (show 8 ≤ E by omega), nI_add, pk_cl (E - 8 + k) rfl (by omega)]
        refine ⟨pk_in (E - 8 + k) 128 (by omega), fun h7 e7 => ?_⟩
        rw [e7, AH.wi_wi]
        refine ih h8 _ ⟨(List.length_set ..).trans lL, fun i hi => ⟨fun c => ?_, fun c => ?_⟩⟩
        · have c' : E - 8 ≤ i ∧ i < E - 8 + (k + 1) := c.elim (fun q => absurd q.1 f1) (fun q => q.2)
          by_cases q : i = E - 8 + k
          · rw [q, getD_set_eq (by omega)]
            unfold pm
            rw [if_neg (show ¬ all / 64 * 64 + (E - 8 + k) < all by omega), if_neg (show ¬ all / 64 * 64 + (E - 8 + k) = all by omega), if_neg f1, hN, show all / 64 * 64 + (E - 8 + k) - (all / 64 * 64 + E - 8) = k by omega]
            by_cases c4 : k < 4
            · rw [if_pos (by omega)]
            · rw [if_neg (by omega)]; exact hz (by omega)
          · rw [getD_set_ne q]
            exact (hL i hi).1 (Or.inr ⟨f1, by omega⟩)
        · have c' : ¬ (E - 8 ≤ i ∧ i < E - 8 + (k + 1)) := fun q => c (Or.inr ⟨f1, q⟩)
          rw [getD_set_ne (by omega)]
          exact (hL i hi).2 (fun q => q.elim (fun q => f1 q.1) (fun q => by omega))
      · have f0 : f = 0 := by
          by_cases q : f = 0
          · exact q
          · unfold hiF at e; rw [if_neg q] at e; exact absurd rfl e
        rw [show (1 : Int32) = nI 1 from rfl, pk_sub (show 1 ≤ E by omega), pk_sub (show k ≤ E - 1 by omega), pk_cl (E - 1 - k) rfl (by omega)]
        refine ⟨pk_in (E - 1 - k) 128 (by omega), fun h7 e7 => ?_⟩
        rw [e7, AH.wi_wi]
        refine ih h8 _ ⟨(List.length_set ..).trans lL, fun i hi => ⟨fun c => ?_, fun c => ?_⟩⟩
        · have c' : E - (k + 1) ≤ i := c.elim (fun q => q.2) (fun q => absurd f0 q.1)
          by_cases q : i = E - 1 - k
          · rw [q, getD_set_eq (by omega)]
            unfold pm
            rw [if_neg (show ¬ all / 64 * 64 + (E - 1 - k) < all by omega), if_neg (show ¬ all / 64 * 64 + (E - 1 - k) = all by omega), if_pos f0, hN, show all / 64 * 64 + E - 1 - (all / 64 * 64 + (E - 1 - k)) = k by omega]
            by_cases c4 : k < 4
            · rw [if_pos (by omega)]
            · rw [if_neg (by omega)]; exact hz (by omega)
          · rw [getD_set_ne q]
            exact (hL i hi).1 (Or.inl ⟨f0, by omega⟩)
        · have c' : ¬ (E - (k + 1) ≤ i) := fun q => c (Or.inl ⟨f0, q⟩)
          rw [getD_set_ne (by omega)]
          exact (hL i hi).2 (fun q => q.elim (fun q => by omega) (fun q => q.1 f0))
  -- zeros
  have k43 : ∀ k L, k ≤ E → (n ≤ k ∧ L.length = 128 ∧ (∀ i, i < n → L.getD i 0 = mb (all / 64 * 64 + i)) ∧ ∀ i, n ≤ i → i < k → L.getD i 0 = 0) → Aw G mX24_pad (d + 1) 0 h Φ 43 [vR M, vU, vU, vI (nI n), vI (nI all), vI (hiF f), vI (nI E), vI (nI k), vU, vU] [] (h.wi (M + 1) L) := by
    refine loop_uc (n := E) (P := fun k L => Aw G mX24_pad (d + 1) 0 h Φ 43 [vR M, vU, vU, vI (nI n), vI (nI all), vI (hiF f), vI (nI E), vI (nI k), vU, vU] [] (h.wi (M + 1) L)) _ (fun k L hk hI ih => ?_)
    obtain ⟨hnk, lL, hL, hL2⟩ := hI
    refine sX24_pad_43 _ M (nI n) (nI all) (hiF f) (nI E) (nI k) (pk_le E k (fun h8 => ⟨kM, fun q3 e3 => ?_⟩) (fun h8 => ⟨kM, fun q8 e8 => ?_⟩))
    · rw [e3.trans r0, AH.ai_wiS, AH.wi_wi, lL, pk_cl n rfl (by omega), nI_l (show all < 2 ^ 31 by omega), show (8 : Int64) = lN 8 from rfl, lN_mul]
      refine ⟨k1, pk_in n 128 (by omega), fun h6 e6 => ?_⟩
      rw [e6]
      refine k84 0 _ (by omega) ⟨by rw [List.length_set, lL], fun i hi => ⟨fun c => absurd c (by unfold wrF; omega), fun _ => ?_⟩⟩
      by_cases q : i = n
      · rw [q, getD_set_eq (by omega), if_neg (by omega), if_pos rfl]
        rfl
      · rw [getD_set_ne q]
        by_cases q1 : i < n
        · rw [if_pos q1]; exact hL i q1
        · rw [if_neg q1, if_neg q]; exact hL2 i (by omega) (by omega)
    · rw [e8.trans r0, AH.ai_wiS, AH.wi_wi, lL, pk_cl k rfl (by omega), nI_1]
      refine ⟨k1, pk_in k 128 (by omega), fun h11 e11 => ?_⟩
      rw [e11]
      refine ih h8 _ ⟨by omega, by rw [List.length_set, lL], fun i hi => ?_, fun i h1 h2 => ?_⟩
      · rw [getD_set_ne (by omega)]; exact hL i hi
      · by_cases q : i = k
        · subst q; rw [getD_set_eq (by omega)]; rfl
        · rw [getD_set_ne q]; exact hL2 i h1 (by omega)
  have key := loop_uc (n := n) (P := fun k L => Aw G mX24_pad (d + 1) 0 h Φ 3 [vR M, vR a, vI (nI off), vI (nI n), vI (nI all), vI (hiF f), vI (nI k), vU, vU, vU] [] (h.wi (M + 1) L))
    (fun k L => L.length = 128 ∧ ∀ i, i < k → L.getD i 0 = mb (all / 64 * 64 + i)) (fun k L hk hI ih => ?_) 0 (h.ai (M + 1)) (by omega) ⟨l1, fun i hi => absurd hi (by omega)⟩
  · rw [AH.wi_self] at key; exact key
  · obtain ⟨lL, hL⟩ := hI
    refine sX24_pad_3 _ M a (nI off) (nI n) (nI all) (hiF f) (nI k) (pk_le n k (fun h8 => ?_) (fun h8 => ⟨kM, fun q3 e3 => ?_⟩))
    · have : k = n := by omega
      subst this
      rw [show (72 : Int32) = nI 72 from rfl, show (64 : Int32) = nI 64 from rfl, nI_add, pk_div (by omega) (by decide) (by decide), pk_mul, hE]
      exact k43 k L (by omega) ⟨Nat.le_refl _, lL, hL, fun i h1 h2 => absurd h1 (by omega)⟩
    · rw [e3.trans r0, AH.ai_wiN na, AH.ai_wiS, AH.wi_wi, lL, nI_add, pk_cl (off + k) rfl (by omega), pk_cl k, nI_1, w.byte ka, hmb k h8]
      refine ⟨ka, pk_in (off + k) _ (by omega), k1, pk_in k 128 (by omega), fun h8' e8 => ?_⟩
      rw [e8]
      refine ih h8 _ ⟨by rw [List.length_set, lL], fun i hi => ?_⟩
      by_cases q : i = k
      · subst q; rw [getD_set_eq (by omega)]
      · rw [getD_set_ne q]; exact hL i (by omega)
end MDig2

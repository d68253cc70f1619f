/-! digests of pieces of rows, by the component -/
set_option maxRecDepth 100000
theorem lcp_putB {s t : List Int32} {sp dp n : Nat} (h1 : sp + n ≤ s.length) (h2 : dp + n ≤ t.length) (h3 : s.length < 2 ^ 31) (h4 : t.length < 2 ^ 31) : cpOk (nI sp) (nI dp) (nI n) s.length t.length ∧ lcp s t (nI sp) (nI dp) (nI n) = putB t dp n (fun i => s.getD (sp + i) 0) := by
  have e1 : (nI sp).toNatClampNeg = sp := pk_cl sp rfl (by omega)
  have e2 : (nI dp).toNatClampNeg = dp := pk_cl dp rfl (by omega)
  have e3 : (nI n).toNatClampNeg = n := pk_cl n rfl (by omega)
  have ok : cpOk (nI sp) (nI dp) (nI n) s.length t.length := by
    refine ⟨nI_pos (by omega), nI_pos (by omega), nI_pos (by omega), ?_, ?_⟩
    · rw [e1, e3]; exact h1
    · rw [e2, e3]; exact h2
  refine ⟨ok, ext_getD (z := 0) (by rw [lcp_len ok, putB_len]) (fun i hi => ?_)⟩
  rw [lcp_len ok] at hi
  rw [lcp_get ok i hi, putB_getD _ _ _ _ hi, e1, e2, e3]
  rfl
/-- a row of 64 -/
def genL (g : Nat → Int32) : List Int32 := (List.range 64).map g
theorem genL_len (g : Nat → Int32) : (genL g).length = 64 := by simp [genL]
theorem genL_getD (g : Nat → Int32) {i : Nat} (h : i < 64) : (genL g).getD i 0 = g i := by
  unfold genL
  rw [List.getD_eq_getElem?_getD, List.getElem?_map, List.getElem?_range h]
  rfl
theorem genL_eq {L : List Int32} {g : Nat → Int32} (h : L.length = 64) (e : ∀ i, i < 64 → L.getD i 0 = g i) : L = genL g :=
  ext_getD (z := 0) (by rw [h, genL_len]) (fun i hi => by rw [genL_getD g (by omega)]; exact e i (by omega))
theorem genL_congr {g g' : Nat → Int32} (e : ∀ i, i < 64 → g i = g' i) : genL g = genL g' := genL_eq (genL_len g) (fun i hi => by rw [genL_getD g hi]; exact e i hi)
/-- the message with what is put behind it -/
def pm (f : Int32) (n : Nat) (mb : Nat → Int32) (i : Nat) : Int32 :=
  if i < n then mb i else if i = n then -128 else
  if f = 0 then (if (n + 72) / 64 * 64 - 4 ≤ i then bI (8 * n / 256 ^ ((n + 72) / 64 * 64 - 1 - i)) else 0)
  else (if (n + 72) / 64 * 64 - 8 ≤ i ∧ i < (n + 72) / 64 * 64 - 4 then bI (8 * n / 256 ^ (i - ((n + 72) / 64 * 64 - 8))) else 0)
def blkL (g : Nat → Int32) (j : Nat) : List Int32 := genL (fun i => g (64 * j + i))
/-- one block more; f: 0 for SHA-256, 1 for RIPEMD-160 -/
def cmF (K : List Int32) (f : Int32) (B S : List Int32) : List Int32 := if f = 0 then shaBlk K B S else rpBlk B S
def flF (K : List Int32) (f : Int32) (g : Nat → Int32) (S : List Int32) : Nat → List Int32
  | 0 => S
  | j + 1 => cmF K f (blkL g j) (flF K f g S j)
def cmW (D : Nat) (f : Int32) : Nat := if f = 0 then D + 3 else D + 5
def dgP (D x : Nat) : Prop := D + 3 ≤ x ∧ x ≤ D + 8
theorem DgT.mod {P : Nat → Prop} {h h' : AH} {D : Nat} (T : DgT h D) (m : Mod P h h') (hP : ∀ x, P x → x < D + 10) : DgT h' D := by
  have k : ∀ i, ¬ P (D + 10 + i) := fun i q => absurd (hP _ q) (by omega)
  unfold DgT
  rw [m.ai (k 0), m.ai (k 1), m.ai (k 2), m.ai (k 3), m.ai (k 4), m.ai (k 5)]
  exact T
theorem cmW_P (D : Nat) (f : Int32) : dgP D (cmW D f) := by
  unfold dgP cmW
  split <;> omega
theorem cmW_8 (D : Nat) (f : Int32) : cmW D f ≠ D + 8 := by
  unfold cmW
  split <;> omega
/-- the last bytes, 128 behind them -/
def tlF (n j : Nat) (mb : Nat → Int32) (i : Nat) : Int32 := if i < n - 64 * j then mb (64 * j + i) else if i = n - 64 * j then -128 else 0
theorem pm_last {f : Int32} {n j i : Nat} {mb : Nat → Int32} (hj : 64 * j ≤ n) (h55 : n - 64 * j ≤ 55) (hi : i < 64) :
    (if f = 0 then (if 60 ≤ i then bI (8 * n / 256 ^ (63 - i)) else tlF n j mb i) else (if 56 ≤ i ∧ i < 60 then bI (8 * n / 256 ^ (i - 56)) else tlF n j mb i)) = pm f n mb (64 * j + i) := by
  have hN : (n + 72) / 64 * 64 = 64 * j + 64 := by omega
  unfold pm tlF
  rw [hN]
  by_cases a : i < n - 64 * j
  · rw [if_pos a, if_pos (show 64 * j + i < n by omega)]
    by_cases e : f = 0
    · rw [if_pos e, if_neg (by omega)]
    · rw [if_neg e, if_neg (by omega)]
  · rw [if_neg a, if_neg (show ¬ 64 * j + i < n by omega)]
    by_cases b : i = n - 64 * j
    · rw [if_pos b, if_pos (show 64 * j + i = n by omega)]
      by_cases e : f = 0
      · rw [if_pos e, if_neg (by omega)]
      · rw [if_neg e, if_neg (by omega)]
    · rw [if_neg b, if_neg (show ¬ 64 * j + i = n by omega)]
      by_cases e : f = 0
      · rw [if_pos e, if_pos e, show 64 * j + 64 - 1 - (64 * j + i) = 63 - i by omega]
        by_cases c : 60 ≤ i
        · rw [if_pos c, if_pos (by omega)]
        · rw [if_neg c, if_neg (by omega)]
      · rw [if_neg e, if_neg e, show 64 * j + i - (64 * j + 64 - 8) = i - 56 by omega]
        by_cases c : 56 ≤ i ∧ i < 60
        · rw [if_pos c, if_pos (by omega)]
        · rw [if_neg c, if_neg (by omega)]
theorem pm_mid {f : Int32} {n j i : Nat} {mb : Nat → Int32} (hj : 64 * j ≤ n) (h55 : 55 < n - 64 * j) (hj2 : n < 64 * j + 64) (hi : i < 64) : tlF n j mb i = pm f n mb (64 * j + i) := by
  have hN : (n + 72) / 64 * 64 = 64 * j + 128 := by omega
  unfold pm tlF
  rw [hN]
  by_cases a : i < n - 64 * j
  · rw [if_pos a, if_pos (show 64 * j + i < n by omega)]
  · rw [if_neg a, if_neg (show ¬ 64 * j + i < n by omega)]
    by_cases b : i = n - 64 * j
    · rw [if_pos b, if_pos (show 64 * j + i = n by omega)]
    · rw [if_neg b, if_neg (show ¬ 64 * j + i = n by omega)]
      by_cases e : f = 0
      · rw [if_pos e, if_neg (by omega)]
      · rw [if_neg e, if_neg (by omega)]
theorem pm_extra {f : Int32} {n j i : Nat} {mb : Nat → Int32} (hj : 64 * j ≤ n) (h55 : 55 < n - 64 * j) (hj2 : n < 64 * j + 64) (hi : i < 64) :
    (if f = 0 then (if 60 ≤ i then bI (8 * n / 256 ^ (63 - i)) else 0) else (if 56 ≤ i ∧ i < 60 then bI (8 * n / 256 ^ (i - 56)) else 0)) = pm f n mb (64 * (j + 1) + i) := by
  have hN : (n + 72) / 64 * 64 = 64 * j + 128 := by omega
  unfold pm
  rw [hN, if_neg (show ¬ 64 * (j + 1) + i < n by omega), if_neg (show ¬ 64 * (j + 1) + i = n by omega)]
  by_cases e : f = 0
  · rw [if_pos e, if_pos e, show 64 * j + 128 - 1 - (64 * (j + 1) + i) = 63 - i by omega]
    by_cases c : 60 ≤ i
    · rw [if_pos c, if_pos (by omega)]
    · rw [if_neg c, if_neg (by omega)]
  · rw [if_neg e, if_neg e, show 64 * (j + 1) + i - (64 * j + 128 - 8) = i - 56 by omega]
    by_cases c : 56 ≤ i ∧ i < 60
    · rw [if_pos c, if_pos (by omega)]
    · rw [if_neg c, if_neg (by omega)]
section Blocks
variable {G : Gx} {d : Nat} {h : AH} {D : Nat}
theorem mixAny {f : Int32} {K : AH → Prop} {E : Nat → AH → Prop} (hd : 3 ≤ d) (H : DgS h D) (T : DgT h D) (hK : ∀ h', Mod (dgP D) h h' → h'.ai (cmW D f) = cmF (h.ai (D + 1)) f (h.ai (D + 8)) (h.ai (cmW D f)) → K h') : (f = 0 → Cw G mX2_mix d 0 [vR D] h (kV K E)) ∧ (¬ f = 0 → Cw G mX2_mixRipe d 0 [vR D] h (kV K E)) := by
  constructor
  · intro e
    refine (Dig_mix_spec (by omega) H).nV (fun h' q => hK h' (q.1.mono (fun x hx => by unfold dgP; omega)) ?_)
    unfold cmW cmF
    rw [if_pos e, if_pos e]
    exact q.2
  · intro e
    refine (Dig_mixRipe_spec (by omega) H T).nV (fun h' q => hK h' (q.1.mono (fun x hx => by unfold dgP; omega)) ?_)
    unfold cmW cmF
    rw [if_neg e, if_neg e]
    exact q.2
/-- the length comes to the last block, and that is mixed in -/
theorem blocks_156 {f : Int32} {n : Nat} {Φ : Out → AH → Prop} {h0 : AH} (hd : 3 ≤ d) (H : DgS h D) (T : DgT h D) (hn : 8 * n < 2 ^ 31) (hf : f = 0 ∨ f = 1) {L : List Int32} (hL : L.length = 64) (hΦ : ∀ h1, Mod (dgP D) h h1 → h1.ai (cmW D f) = cmF (h.ai (D + 1)) f (genL (fun i => if f = 0 then (if 60 ≤ i then bI (8 * n / 256 ^ (63 - i)) else L.getD i 0) else (if 56 ≤ i ∧ i < 60 then bI (8 * n / 256 ^ (i - 56)) else L.getD i 0))) (h.ai (cmW D f)) → Φ (.inl none) h1) :
    Aw G mX2_blocks (d + 1) 0 h0 Φ 156 [vR D, vU, vU, vI (nI n), vI f, vU, vU, vI 0] [] (h.wi (D + 8) L) := by
  have H' := H
  obtain ⟨kD, ⟨r0, r1, r2, r3, r4, r5, r6, r7, r8, r9, r10, r11, r12, r13, r14⟩, ⟨k1, k2, k3, k4, k5, k6, k7, k8, k9, k10, k11, k12, k13, k14, k15⟩, ⟨l1, l2, l3, l4, l5, l6, l7, l8, l9, l10, l11, l12, l13, l14, l15⟩⟩ := H
  have n18 : D + 1 ≠ D + 8 := by omega
  have p8 : dgP D (D + 8) := by unfold dgP; omega
  have p1 : ¬ dgP D (D + 1) := by unfold dgP; omega
  have ht : ∀ x, dgP D x → x < D + 10 := fun x hx => by unfold dgP at hx; omega
  refine loop_uc (n := 4) (P := fun k L' => Aw G mX2_blocks (d + 1) 0 h0 Φ 156 [vR D, vU, vU, vI (nI n), vI f, vU, vU, vI (nI k)] [] (h.wi (D + 8) L'))
    (fun k L' => L'.length = 64 ∧ ∀ i, i < 64 → L'.getD i 0 = if f = 0 then (if 64 - k ≤ i then bI (8 * n / 256 ^ (63 - i)) else L.getD i 0) else (if 56 ≤ i ∧ i < 56 + k then bI (8 * n / 256 ^ (i - 56)) else L.getD i 0)) (fun k L' hk hI ih => ?_) 0 L (by omega) ⟨hL, fun i hi => ?_⟩
  · obtain ⟨lL, hL'⟩ := hI
    have M1 : Mod (dgP D) h (h.wi (D + 8) L') := Mod.wi (by rw [lL, l8]) p8
    refine sX2_blocks_156 _ D (nI n) f (nI k) (pk_le 4 k (fun h4 => ?_) (fun h4 => ⟨kD, fun q10 e10 => ?_⟩))
    · have : k = 4 := by omega
      subst this
      have hm := mixAny (G := G) (d := d) (f := f) (K := fun h4 => Φ (.inl none) h4) (E := fun x h => Φ (.inr x) h) hd (H'.mod M1) (T.mod M1 ht) (fun h' M2 e2 => by
        refine hΦ h' (M1.trans M2) ?_
        rw [e2, AH.ai_wiN n18, AH.ai_wiS, AH.ai_wiN (cmW_8 D f), genL_eq lL hL'])
      exact ⟨fun e => ⟨kD, hm.1 e⟩, fun e => ⟨kD, hm.2 e⟩⟩
    · rw [e10.trans r7, AH.ai_wiS, AH.wi_wi, lL, show (63 : Int32) = nI 63 from rfl, show (56 : Int32) = nI 56 from rfl, pk_sub (show k ≤ 63 by omega), nI_add, pk_cl (63 - k) rfl (by omega), pk_cl (56 + k) rfl (by omega), nI_1, show (8 : Int32) = nI 8 from rfl, pk_mul, pk_mul, jshr_n hn (by omega), i2b_i2b]
      have hb : i2b (nI (8 * n / 2 ^ (8 * k))) = bI (8 * n / 256 ^ k) := by rw [p256]; rfl
      rw [hb]
      refine ⟨fun e => ⟨k8, pk_in (63 - k) 64 (by omega), fun h14 e14 => ?_⟩, fun e => ⟨k8, pk_in (56 + k) 64 (by omega), fun h14 e14 => ?_⟩⟩
      · rw [e14]
        refine ih h4 _ ⟨(List.length_set ..).trans lL, fun i hi => ?_⟩
        rw [if_pos e]
        by_cases q : i = 63 - k
        · rw [q, getD_set_eq (by omega), if_pos (by omega), show 63 - (63 - k) = k by omega]
        · rw [getD_set_ne q, hL' i hi, if_pos e]
          by_cases q2 : 64 - k ≤ i
          · rw [if_pos q2, if_pos (by omega)]
          · rw [if_neg q2, if_neg (by omega)]
      · rw [e14, AH.wi_wi]
        refine ih h4 _ ⟨(List.length_set ..).trans lL, fun i hi => ?_⟩
        rw [if_neg e]
        by_cases q : i = 56 + k
        · rw [q, getD_set_eq (by omega), if_pos (by omega), show 56 + k - 56 = k by omega]
        · rw [getD_set_ne q, hL' i hi, if_neg e]
          by_cases q2 : 56 ≤ i ∧ i < 56 + k
          · rw [if_pos q2, if_pos (by omega)]
          · rw [if_neg q2, if_neg (by omega)]
  · by_cases e : f = 0
    · rw [if_pos e, if_neg (by omega)]
    · rw [if_neg e, if_neg (by omega)]
/-- the last bytes of the message stand in the block -/
theorem blocks_85 {f : Int32} {n : Nat} {Φ : Out → AH → Prop} {h0 : AH} (hd : 3 ≤ d) (H : DgS h D) (T : DgT h D) (hn : 8 * n < 2 ^ 31) (hf : f = 0 ∨ f = 1) {j : Nat} {mb : Nat → Int32} (hj : 64 * j ≤ n) (hj2 : n < 64 * j + 64) {S0 : List Int32} (hS : h.ai (cmW D f) = flF (h.ai (D + 1)) f (pm f n mb) S0 j) (hΦ : ∀ h1, Mod (dgP D) h h1 → h1.ai (cmW D f) = flF (h.ai (D + 1)) f (pm f n mb) S0 ((n + 72) / 64) → Φ (.inl none) h1) :
    ∀ k (L : List Int32), k ≤ 64 → (n - 64 * j < k ∧ L.length = 64 ∧ ∀ i, i < k → L.getD i 0 = tlF n j mb i) → Aw G mX2_blocks (d + 1) 0 h0 Φ 85 [vR D, vU, vU, vI (nI n), vI f, vU, vI (nI (n - 64 * j)), vI (nI k)] [] (h.wi (D + 8) L) := by
  have H' := H
  obtain ⟨kD, ⟨r0, r1, r2, r3, r4, r5, r6, r7, r8, r9, r10, r11, r12, r13, r14⟩, ⟨k1, k2, k3, k4, k5, k6, k7, k8, k9, k10, k11, k12, k13, k14, k15⟩, ⟨l1, l2, l3, l4, l5, l6, l7, l8, l9, l10, l11, l12, l13, l14, l15⟩⟩ := H
  have n18 : D + 1 ≠ D + 8 := by omega
  have p8 : dgP D (D + 8) := by unfold dgP; omega
  have p1 : ¬ dgP D (D + 1) := by unfold dgP; omega
  have ht : ∀ x, dgP D x → x < D + 10 := fun x hx => by unfold dgP at hx; omega
  refine loop_uc (n := 64) (P := fun k L => Aw G mX2_blocks (d + 1) 0 h0 Φ 85 [vR D, vU, vU, vI (nI n), vI f, vU, vI (nI (n - 64 * j)), vI (nI k)] [] (h.wi (D + 8) L)) _ (fun k L hk hI ih => ?_)
  obtain ⟨hkm, lL, hL⟩ := hI
  have M1 : Mod (dgP D) h (h.wi (D + 8) L) := Mod.wi (by rw [lL, l8]) p8
  refine sX2_blocks_85 _ D (nI n) f (nI (n - 64 * j)) (nI k) (pk_le 64 k (fun h64 => pk_le (n - 64 * j) 55 (fun h55 => ?_) (fun h55 => ?_)) (fun h64 => ⟨kD, fun q11 e11 => ?_⟩))
  · have : k = 64 := by omega
    subst this
    have hN : (n + 72) / 64 = j + 1 := by omega
    refine blocks_156 (n := n) hd H' T hn hf lL (fun h1 M e => hΦ h1 M ?_)
    have eB : genL (fun i => if f = 0 then (if 60 ≤ i then bI (8 * n / 256 ^ (63 - i)) else L.getD i 0) else (if 56 ≤ i ∧ i < 60 then bI (8 * n / 256 ^ (i - 56)) else L.getD i 0)) = blkL (pm f n mb) j := by
      refine genL_congr (fun i hi => ?_)
      rw [hL i hi]
      exact pm_last hj h55 hi
    rw [e, hN, flF, hS, eB]
  · have : k = 64 := by omega
    subst this
    have hN : (n + 72) / 64 = j + 1 + 1 := by omega
    have hm := mixAny (G := G) (d := d) (f := f) (K := fun h5 => Aw G mX2_blocks (d + 1) 0 h0 Φ 132 [vR D, vU, vU, vI (nI n), vI f, vU, vU, vI 0] [] h5) (E := fun x h => Φ (.inr x) h) hd (H'.mod M1) (T.mod M1 ht) (fun h5 M2 e2 => by
      have M5 := M1.trans M2
      have H5 := H'.mod M5
      have T5 : DgT h5 D := T.mod M5 ht
      have e5 : h5.ai (cmW D f) = flF (h.ai (D + 1)) f (pm f n mb) S0 (j + 1) := by
        rw [e2, AH.ai_wiN n18, AH.ai_wiS, AH.ai_wiN (cmW_8 D f), hS, flF]
        have eB : L = blkL (pm f n mb) j := genL_eq lL (fun i hi => by rw [hL i hi]; exact pm_mid hj h55 hj2 hi)
        rw [eB]
      have a1 : h5.ai (D + 1) = h.ai (D + 1) := M5.ai p1
      have key := loop_uc (n := 64) (P := fun k L => Aw G mX2_blocks (d + 1) 0 h0 Φ 132 [vR D, vU, vU, vI (nI n), vI f, vU, vU, vI (nI k)] [] (h5.wi (D + 8) L))
        (fun k L => L.length = 64 ∧ ∀ i, i < k → L.getD i 0 = 0) (fun k L hk hI ih3 => ?_) 0 (h5.ai (D + 8)) (by omega) ⟨H5.2.2.2.2.2.2.2.2.2.2.1, fun i hi => absurd hi (by omega)⟩
      · rw [AH.wi_self] at key; exact key
      · obtain ⟨lL5, hL5⟩ := hI
        refine sX2_blocks_132 _ D (nI n) f (nI k) (pk_le 64 k (fun h64 => ?_) (fun h64 => ⟨H5.1, fun q3 e3 => ?_⟩))
        · have : k = 64 := by omega
          subst this
          refine blocks_156 (n := n) hd H5 T5 hn hf lL5 (fun h1 M e => hΦ h1 (M5.trans M) ?_)
          have eB : genL (fun i => if f = 0 then (if 60 ≤ i then bI (8 * n / 256 ^ (63 - i)) else L.getD i 0) else (if 56 ≤ i ∧ i < 60 then bI (8 * n / 256 ^ (i - 56)) else L.getD i 0)) = blkL (pm f n mb) (j + 1) := by
            refine genL_congr (fun i hi => ?_)
            rw [hL5 i hi]
            exact pm_extra hj h55 hj2 hi
          rw [e, hN, flF, e5, eB, a1]
        · rw [e3.trans H5.2.1.2.2.2.2.2.2.2.1, AH.ai_wiS, AH.wi_wi, lL5, pk_cl k, nI_1]
          refine ⟨H5.2.2.1.2.2.2.2.2.2.2.1, pk_in k 64 h64, fun h6 e6 => ?_⟩
          rw [e6]
          refine ih3 h64 _ ⟨by rw [List.length_set, lL5], fun i hi => ?_⟩
          by_cases q : i = k
          · subst q; rw [getD_set_eq (by omega)]; rfl
          · rw [getD_set_ne q]; exact hL5 i (by omega))
    exact ⟨fun e => ⟨kD, hm.1 e⟩, fun e => ⟨kD, hm.2 e⟩⟩
  · rw [e11.trans r7, AH.ai_wiS, AH.wi_wi, lL, pk_cl k, nI_1]
    refine ⟨k8, pk_in k 64 h64, fun h14 e14 => ?_⟩
    rw [e14]
    refine ih h64 _ ⟨by omega, by rw [List.length_set, lL], fun i hi => ?_⟩
    by_cases q : i = k
    · subst q
      rw [getD_set_eq (by omega)]
      unfold tlF
      rw [if_neg (by omega), if_neg (by omega)]
      rfl
    · rw [getD_set_ne q]
      exact hL i (by omega)
end Blocks

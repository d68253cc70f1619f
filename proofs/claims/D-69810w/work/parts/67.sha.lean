/-! the component's digests, whole -/
set_option maxRecDepth 100000
theorem pm_congr {f : Int32} {n : Nat} {mb mb' : Nat → Int32} (e : ∀ i, i < n → mb i = mb' i) : pm f n mb = pm f n mb' := by
  funext i
  unfold pm
  by_cases q : i < n
  · rw [if_pos q, if_pos q, e i q]
  · rw [if_neg q, if_neg q]
/-- bytes of a row from off on -/
def sl (L : List Int32) (off : Nat) : Nat → Int32 := fun i => L.getD (off + i) 0
def shaD (K Bg : List Int32) (n : Nat) (mb : Nat → Int32) (k : Nat) : Int32 := bI (u32 ((flF K 0 (pm 0 n mb) Bg ((n + 72) / 64)).getD (k / 4) 0) / 256 ^ (3 - k % 4))
def rpS0 : List Int32 := [1732584193, -271733879, -1732584194, 271733878, -1009589776]
def ripD (n : Nat) (mb : Nat → Int32) (k : Nat) : Int32 := bI (u32 ((flF [] 1 (pm 1 n mb) rpS0 ((n + 72) / 64)).getD (k / 4) 0) / 256 ^ (k % 4))
theorem flF_K (K K' : List Int32) (g : Nat → Int32) (S : List Int32) : ∀ j, flF K 1 g S j = flF K' 1 g S j
  | 0 => rfl
  | j + 1 => by
    rw [flF, flF, flF_K K K' g S j]
    unfold cmF
    rw [if_neg (by decide), if_neg (by decide)]
theorem shaD_congr {K Bg : List Int32} {n : Nat} {mb mb' : Nat → Int32} (e : ∀ i, i < n → mb i = mb' i) : shaD K Bg n mb = shaD K Bg n mb' := by
  unfold shaD
  rw [pm_congr e]
theorem ripD_congr {n : Nat} {mb mb' : Nat → Int32} (e : ∀ i, i < n → mb i = mb' i) : ripD n mb = ripD n mb' := by
  unfold ripD
  rw [pm_congr e]
section Sha
variable {G : Gx} {d : Nat} {h : AH} {D : Nat}
theorem blocks_3 {f : Int32} {Φ : Out → AH → Prop} (hd : 3 ≤ d) (H : DgS h D) (T : DgT h D) (hf : f = 0 ∨ f = 1) {a off n : Nat} (ka : h.kd a = 101) (la : off + n ≤ (h.ai a).length) (la2 : (h.ai a).length < 2 ^ 31) (hn : 8 * n < 2 ^ 31) (pa : ¬ dgP D a) {S0 : List Int32}
    (hΦ : ∀ h1, Mod (dgP D) h h1 → h1.ai (cmW D f) = flF (h.ai (D + 1)) f (pm f n (sl (h.ai a) off)) S0 ((n + 72) / 64) → Φ (.inl none) h1) :
    ∀ j h1, j ≤ n / 64 → (Mod (dgP D) h h1 ∧ h1.ai (cmW D f) = flF (h.ai (D + 1)) f (pm f n (sl (h.ai a) off)) S0 j) → Aw G mX2_blocks (d + 1) 0 h Φ 3 [vR D, vR a, vI (nI off), vI (nI n), vI f, vI (nI (64 * j)), vU, vU] [] h1 := by
  have n18 : D + 1 ≠ D + 8 := by omega
  have p8 : dgP D (D + 8) := by unfold dgP; omega
  have p1 : ¬ dgP D (D + 1) := by unfold dgP; omega
  have na8 : a ≠ D + 8 := fun e => pa (e ▸ p8)
  have ht : ∀ x, dgP D x → x < D + 10 := fun x hx => by unfold dgP at hx; omega
  refine loop_uc (n := n / 64) (P := fun j h1 => Aw G mX2_blocks (d + 1) 0 h Φ 3 [vR D, vR a, vI (nI off), vI (nI n), vI f, vI (nI (64 * j)), vU, vU] [] h1) _ (fun j h1 hj hI ih => ?_)
  obtain ⟨M, e1⟩ := hI
  have H1 := H.mod M
  have T1 := T.mod M ht
  have a1 : h1.ai (D + 1) = h.ai (D + 1) := M.ai p1
  have aa : h1.ai a = h.ai a := M.ai pa
  have H1' := H1
  obtain ⟨kD, ⟨r0, r1, r2, r3, r4, r5, r6, r7, r8, r9, r10, r11, r12, r13, r14⟩, ⟨k1, k2, k3, k4, k5, k6, k7, k8, k9, k10, k11, k12, k13, k14, k15⟩, ⟨l1, l2, l3, l4, l5, l6, l7, l8, l9, l10, l11, l12, l13, l14, l15⟩⟩ := H1
  refine sX2_blocks_3 _ D a (nI off) (nI n) f (nI (64 * j)) (pk_lt n (64 * j + 64) (fun hl => ?_) (fun hl => ?_) rfl (nI_add _ 64) (by omega) (by omega))
  · refine ⟨kD, fun q3 e3 => ?_⟩
    rw [e3.trans r7, nI_add, pk_sub (show 64 * j ≤ n by omega), show (0 : Int32) = nI 0 from rfl]
    obtain ⟨ok, ec⟩ := lcp_putB (s := h1.ai a) (t := h1.ai (D + 8)) (sp := off + 64 * j) (dp := 0) (n := n - 64 * j) (by rw [aa]; omega) (by rw [l8]; omega) (by rw [aa]; omega) (by rw [l8]; omega)
    refine ⟨by rw [M.kd]; exact ka, k8, ok, fun h7 e7 => ?_⟩
    rw [ec] at e7
    subst e7
    rw [AH.ai_wiS, AH.wi_wi, putB_len, l8, pk_cl (n - 64 * j) rfl (by omega)]
    refine ⟨pk_in (n - 64 * j) 64 (by omega), fun h13 e13 => ?_⟩
    subst e13
    rw [nI_1]
    refine blocks_85 (n := n) (j := j) (mb := sl (h.ai a) off) (S0 := S0) hd H1' T1 hn hf (by omega) hl (by rw [e1, a1]) (fun h2 M2 e2 => hΦ h2 (M.trans M2) (by rw [e2, a1])) (n - 64 * j + 1) _ (by omega) ⟨by omega, by rw [List.length_set, putB_len, l8], fun i hi => ?_⟩
    unfold tlF
    by_cases q : i = n - 64 * j
    · rw [q, getD_set_eq (by rw [putB_len, l8]; omega), if_neg (by omega), if_pos rfl]
      rfl
    · rw [getD_set_ne q, putB_getD _ _ _ _ (by rw [l8]; omega), if_pos (by omega), if_pos (by omega), aa]
      unfold sl
      rw [show off + 64 * j + (i - 0) = off + (64 * j + i) by omega]
  · refine ⟨kD, fun q3 e3 => ?_⟩
    rw [e3.trans r7, nI_add, show (0 : Int32) = nI 0 from rfl, show (64 : Int32) = nI 64 from rfl]
    obtain ⟨ok, ec⟩ := lcp_putB (s := h1.ai a) (t := h1.ai (D + 8)) (sp := off + 64 * j) (dp := 0) (n := 64) (by rw [aa]; omega) (by rw [l8]; omega) (by rw [aa]; omega) (by rw [l8]; omega)
    refine ⟨by rw [M.kd]; exact ka, k8, ok, fun h19 e19 => ?_⟩
    rw [ec] at e19
    have eB : putB (h1.ai (D + 8)) 0 64 (fun i => (h1.ai a).getD (off + 64 * j + i) 0) = blkL (pm f n (sl (h.ai a) off)) j := by
      refine genL_eq (by rw [putB_len, l8]) (fun i hi => ?_)
      rw [putB_getD _ _ _ _ (by rw [l8]; exact hi), if_pos (by omega), aa]
      unfold pm sl
      rw [if_pos (by omega), show off + 64 * j + (i - 0) = off + (64 * j + i) by omega]
    rw [eB] at e19
    subst e19
    have M1 : Mod (dgP D) h1 (h1.wi (D + 8) (blkL (pm f n (sl (h.ai a) off)) j)) := Mod.wi (by unfold blkL; rw [genL_len, l8]) p8
    refine mixAny hd (H1'.mod M1) (T1.mod M1 ht) (fun h' M2 e2 => ?_)
    rw [nI_add, show 64 * j + 64 = 64 * (j + 1) by omega]
    refine ih (by omega) h' ⟨M.trans (M1.trans M2), ?_⟩
    rw [e2, AH.ai_wiN n18, AH.ai_wiS, AH.ai_wiN (cmW_8 D f), e1, a1, flF]
theorem Dig_blocks_spec {f : Int32} (hd : 4 ≤ d) (H : DgS h D) (T : DgT h D) (hf : f = 0 ∨ f = 1) {a off n : Nat} (ka : h.kd a = 101) (la : off + n ≤ (h.ai a).length) (la2 : (h.ai a).length < 2 ^ 31) (hn : 8 * n < 2 ^ 31) (pa : ¬ dgP D a) :
    Cw G mX2_blocks d 0 [vR D, vR a, vI (nI off), vI (nI n), vI f] h (kV (fun h' => Mod (dgP D) h h' ∧ h'.ai (cmW D f) = flF (h.ai (D + 1)) f (pm f n (sl (h.ai a) off)) (h.ai (cmW D f)) ((n + 72) / 64)) nE) := by
  obtain ⟨d, rfl⟩ : ∃ d', d = d' + 1 := ⟨d - 1, by omega⟩
  refine eX2_blocks h D a (nI off) (nI n) f (fun _ => sX2_blocks_0 h D a (nI off) (nI n) f ?_)
  exact blocks_3 (by omega) H T hf ka la la2 hn pa (fun h1 x y => ⟨x, y⟩) 0 h (by omega) ⟨Mod.rf, rfl⟩
theorem Dig_first_spec (hd : 1 ≤ d) (H : DgS h D) : Cw G mX2_first d 0 [vR D] h (kV (fun h' => h' = h.wi (D + 3) (h.ai (D + 2))) nE) := by
  obtain ⟨d, rfl⟩ : ∃ d', d = d' + 1 := ⟨d - 1, by omega⟩
  obtain ⟨kD, ⟨r0, r1, r2, r3, r4, r5, r6, r7, r8, r9, r10, r11, r12, r13, r14⟩, ⟨k1, k2, k3, k4, k5, k6, k7, k8, k9, k10, k11, k12, k13, k14, k15⟩, ⟨l1, l2, l3, l4, l5, l6, l7, l8, l9, l10, l11, l12, l13, l14, l15⟩⟩ := H
  have n23 : D + 2 ≠ D + 3 := by omega
  refine eX2_first h D (fun _ => sX2_first_0 h D ?_)
  have key := loop_uc (n := 8) (P := fun k L => Aw G mX2_first (d + 1) 0 h (kV (fun h' => h' = h.wi (D + 3) (h.ai (D + 2))) nE) 2 [vR D, vI (nI k)] [] (h.wi (D + 3) L))
    (fun k L => L.length = 8 ∧ ∀ i, i < k → L.getD i 0 = (h.ai (D + 2)).getD i 0) (fun k L hk hI ih => ?_) 0 (h.ai (D + 3)) (by omega) ⟨l3, fun i hi => absurd hi (by omega)⟩
  · rw [AH.wi_self] at key; exact key
  · obtain ⟨lL, hL⟩ := hI
    refine sX2_first_2 _ D (nI k) (pk_le 8 k (fun h8 => ?_) (fun h8 => ⟨kD, fun q3 e3 q4 e4 => ?_⟩))
    · show _ = _
      rw [ext_getD (a := L) (b := h.ai (D + 2)) (z := 0) (by omega) (fun i hi => hL i (by omega))]
    · rw [e3.trans r2, e4.trans r1, AH.ai_wiN n23, AH.ai_wiS, AH.wi_wi, l2, lL, pk_cl k, nI_1]
      refine ⟨k2, pk_in k 8 h8, k3, pk_in k 8 h8, fun h9 e9 => ?_⟩
      rw [e9]
      refine ih h8 _ ⟨by rw [List.length_set, lL], fun i hi => ?_⟩
      by_cases q : i = k
      · subst q; rw [getD_set_eq (by omega)]
      · rw [getD_set_ne q]; exact hL i (by omega)
theorem Dig_sha_spec (hd : 5 ≤ d) (H : DgS h D) (T : DgT h D) {a off n : Nat} (ka : h.kd a = 101) (la : off + n ≤ (h.ai a).length) (la2 : (h.ai a).length < 2 ^ 31) (hn : 8 * n < 2 ^ 31) (pa : ¬ dgP D a) {t at_ : Nat} (kt : h.kd t = 101) (lt2 : (h.ai t).length < 2 ^ 31) (pt : ¬ dgP D t) (lt : at_ + 32 ≤ (h.ai t).length) :
    Cw G mX2_sha d 0 [vR D, vR a, vI (nI off), vI (nI n), vR t, vI (nI at_)] h (kV (fun h' => Mod (fun x => dgP D x ∨ x = t) h h' ∧ h'.ai t = putB (h.ai t) at_ 32 (shaD (h.ai (D + 1)) (h.ai (D + 2)) n (sl (h.ai a) off))) nE) := by
  obtain ⟨d, rfl⟩ : ∃ d', d = d' + 1 := ⟨d - 1, by omega⟩
  have p3 : dgP D (D + 3) := by unfold dgP; omega
  have p1 : ¬ dgP D (D + 1) := by unfold dgP; omega
  have n13 : D + 1 ≠ D + 3 := by omega
  have ht : ∀ x, dgP D x → x < D + 10 := fun x hx => by unfold dgP at hx; omega
  have na3 : a ≠ D + 3 := fun e => pa (e ▸ p3)
  refine eX2_sha h D a (nI off) (nI n) t (nI at_) (fun _ => sX2_sha_0 h D a (nI off) (nI n) t (nI at_) ⟨H.1, (Dig_first_spec (by omega) H).nV (fun h2 Q => ?_)⟩)
  subst Q
  have M1 : Mod (dgP D) h (h.wi (D + 3) (h.ai (D + 2))) := Mod.wi (by rw [H.2.2.2.2.1, H.2.2.2.2.2.1]) p3
  refine (Dig_blocks_spec (f := 0) (off := off) (n := n) (by omega) (H.mod M1) (T.mod M1 ht) (Or.inl rfl) ka (by rw [AH.ai_wiN na3]; exact la) (by rw [AH.ai_wiN na3]; exact la2) hn pa).nV (fun h5 Q => ?_)
  obtain ⟨M2, e5⟩ := Q
  rw [AH.ai_wiN n13, AH.ai_wiN na3] at e5
  have eS : (h.wi (D + 3) (h.ai (D + 2))).ai (cmW D 0) = h.ai (D + 2) := AH.ai_wiS _ _ _
  rw [eS] at e5
  have M5 := M1.trans M2
  have H5 := H.mod M5
  have t5 : h5.ai t = h.ai t := M5.ai pt
  have kt5 : h5.kd t = 101 := by rw [M5.kd]; exact kt
  have e5' : h5.ai (D + 3) = flF (h.ai (D + 1)) 0 (pm 0 n (sl (h.ai a) off)) (h.ai (D + 2)) ((n + 72) / 64) := e5
  have nt3 : D + 3 ≠ t := fun e => pt (e ▸ p3)
  have e0 : h5.wi t (putB (h.ai t) at_ 0 (shaD (h.ai (D + 1)) (h.ai (D + 2)) n (sl (h.ai a) off))) = h5 := by rw [putB_0, ← t5, AH.wi_self]
  have key := loop_uc (n := 32) (P := fun k (_ : Unit) => Aw G mX2_sha (d + 1) 0 h (kV (fun h' => Mod (fun x => dgP D x ∨ x = t) h h' ∧ h'.ai t = putB (h.ai t) at_ 32 (shaD (h.ai (D + 1)) (h.ai (D + 2)) n (sl (h.ai a) off))) nE) 15 [vR D, vU, vU, vU, vR t, vI (nI at_), vI (nI k)] [] (h5.wi t (putB (h.ai t) at_ k (shaD (h.ai (D + 1)) (h.ai (D + 2)) n (sl (h.ai a) off)))))
    (fun _ _ => True) (fun k _ hk _ ih => ?_) 0 () (by omega) trivial
  · rw [e0] at key; exact key
  · refine sX2_sha_15 _ D t (nI at_) (nI k) (pk_le 32 k (fun h32 => ?_) (fun h32 => ⟨H5.1, fun q3 e3 => ?_⟩))
    · have : k = 32 := by omega
      subst this
      exact ⟨(M5.mono (fun x hx => Or.inl hx)).trans (Mod.wi (by rw [putB_len, t5]) (Or.inr rfl)), AH.ai_wiS _ _ _⟩
    · have l3 : (h5.ai (D + 3)).length = 8 := H5.2.2.2.2.2.1
      have hk4 : k / 4 < 8 := by omega
      rw [e3.trans H5.2.1.2.2.1, AH.ai_wiN nt3, AH.ai_wiS, AH.wi_wi, l3, putB_len, show (4 : Int32) = nI 4 from rfl, pk_div (by omega) (by decide) (by decide), jrem_n (by omega) (by decide) (by decide), nI_add, pk_cl (k / 4) rfl (by omega), pk_cl (at_ + k) rfl (by omega), show (8 : Int32) = nI 8 from rfl, show (24 : Int32) = nI 24 from rfl, pk_mul, pk_sub (by omega), show 24 - 8 * (k % 4) = 8 * (3 - k % 4) by omega, i2b_i2b, i2b_shr _ (by omega), nI_1]
      refine ⟨H5.2.2.1.2.2.1, pk_in (k / 4) 8 hk4, kt5, pk_in (at_ + k) _ (by omega), fun h8 e8 => ?_⟩
      rw [e8, putB_succ (by omega) (by rw [shaD, e5'])]
      exact ih h32 () trivial
theorem Dig_ripe_spec (hd : 5 ≤ d) (H : DgS h D) (T : DgT h D) {a off n : Nat} (ka : h.kd a = 101) (la : off + n ≤ (h.ai a).length) (la2 : (h.ai a).length < 2 ^ 31) (hn : 8 * n < 2 ^ 31) (pa : ¬ dgP D a) {t at_ : Nat} (kt : h.kd t = 101) (lt2 : (h.ai t).length < 2 ^ 31) (pt : ¬ dgP D t) (lt : at_ + 20 ≤ (h.ai t).length) :
    Cw G mX2_ripe d 0 [vR D, vR a, vI (nI off), vI (nI n), vR t, vI (nI at_)] h (kV (fun h' => Mod (fun x => dgP D x ∨ x = t) h h' ∧ h'.ai t = putB (h.ai t) at_ 20 (ripD n (sl (h.ai a) off))) nE) := by
  obtain ⟨d, rfl⟩ : ∃ d', d = d' + 1 := ⟨d - 1, by omega⟩
  have p5 : dgP D (D + 5) := by unfold dgP; omega
  have ht : ∀ x, dgP D x → x < D + 10 := fun x hx => by unfold dgP at hx; omega
  have na5 : a ≠ D + 5 := fun e => pa (e ▸ p5)
  have l5 : (h.ai (D + 5)).length = 5 := H.2.2.2.2.2.2.2.1
  have r4 := H.2.1.2.2.2.2.1
  have k5 := H.2.2.1.2.2.2.2.1
  refine eX2_ripe h D a (nI off) (nI n) t (nI at_) (fun _ => sX2_ripe_0 h D a (nI off) (nI n) t (nI at_) ⟨H.1, fun q2 e2 => ?_⟩)
  rw [e2.trans r4, l5, cl0, cl1, cl2, cl3, cl4]
  refine ⟨k5, pk_in 0 5 (by decide), fun h5 e5 => ?_⟩
  subst e5
  rw [AH.ai_wiS, List.length_set, l5]
  refine ⟨pk_in 1 5 (by decide), fun h5 e5 => ?_⟩
  rw [AH.wi_wi] at e5
  subst e5
  rw [AH.ai_wiS, List.length_set, List.length_set, l5]
  refine ⟨pk_in 2 5 (by decide), fun h5 e5 => ?_⟩
  rw [AH.wi_wi] at e5
  subst e5
  rw [AH.ai_wiS, List.length_set, List.length_set, List.length_set, l5]
  refine ⟨pk_in 3 5 (by decide), fun h5 e5 => ?_⟩
  rw [AH.wi_wi] at e5
  subst e5
  rw [AH.ai_wiS, List.length_set, List.length_set, List.length_set, List.length_set, l5]
  refine ⟨pk_in 4 5 (by decide), fun h5 e5 => ?_⟩
  rw [AH.wi_wi] at e5
  have eR : ((((((h.ai (D + 5)).set 0 1732584193).set 1 (-271733879)).set 2 (-1732584194)).set 3 271733878).set 4 (-1009589776)) = rpS0 := by
    refine five (by simp only [List.length_set, l5]) ?_ ?_ ?_ ?_ ?_ <;> simp [getD_sif, l5]
  rw [eR] at e5
  subst e5
  have M1 : Mod (dgP D) h (h.wi (D + 5) rpS0) := Mod.wi (by rw [l5]; rfl) p5
  refine (Dig_blocks_spec (f := 1) (off := off) (n := n) (by omega) (H.mod M1) (T.mod M1 ht) (Or.inr rfl) ka (by rw [AH.ai_wiN na5]; exact la) (by rw [AH.ai_wiN na5]; exact la2) hn pa).nV (fun h5 Q => ?_)
  obtain ⟨M2, e5⟩ := Q
  rw [AH.ai_wiN na5, flF_K _ []] at e5
  have eS : (h.wi (D + 5) rpS0).ai (cmW D 1) = rpS0 := AH.ai_wiS _ _ _
  rw [eS] at e5
  have M5 := M1.trans M2
  have H5 := H.mod M5
  have t5 : h5.ai t = h.ai t := M5.ai pt
  have kt5 : h5.kd t = 101 := by rw [M5.kd]; exact kt
  have e5' : h5.ai (D + 5) = flF [] 1 (pm 1 n (sl (h.ai a) off)) rpS0 ((n + 72) / 64) := e5
  have nt5 : D + 5 ≠ t := fun e => pt (e ▸ p5)
  have e0 : h5.wi t (putB (h.ai t) at_ 0 (ripD n (sl (h.ai a) off))) = h5 := by rw [putB_0, ← t5, AH.wi_self]
  have key := loop_uc (n := 20) (P := fun k (_ : Unit) => Aw G mX2_ripe (d + 1) 0 h (kV (fun h' => Mod (fun x => dgP D x ∨ x = t) h h' ∧ h'.ai t = putB (h.ai t) at_ 20 (ripD n (sl (h.ai a) off))) nE) 51 [vR D, vU, vU, vU, vR t, vI (nI at_), vI (nI k)] [] (h5.wi t (putB (h.ai t) at_ k (ripD n (sl (h.ai a) off)))))
    (fun _ _ => True) (fun k _ hk _ ih => ?_) 0 () (by omega) trivial
  · rw [e0] at key; exact key
  · refine sX2_ripe_51 _ D t (nI at_) (nI k) (pk_le 20 k (fun h32 => ?_) (fun h32 => ⟨H5.1, fun q3 e3 => ?_⟩))
    · have : k = 20 := by omega
      subst this
      exact ⟨(M5.mono (fun x hx => Or.inl hx)).trans (Mod.wi (by rw [putB_len, t5]) (Or.inr rfl)), AH.ai_wiS _ _ _⟩
    · have l3 : (h5.ai (D + 5)).length = 5 := H5.2.2.2.2.2.2.2.1
      have hk4 : k / 4 < 5 := by omega
      rw [e3.trans H5.2.1.2.2.2.2.1, AH.ai_wiN nt5, AH.ai_wiS, AH.wi_wi, l3, putB_len, show (4 : Int32) = nI 4 from rfl, pk_div (by omega) (by decide) (by decide), jrem_n (by omega) (by decide) (by decide), nI_add, pk_cl (k / 4) rfl (by omega), pk_cl (at_ + k) rfl (by omega), show (8 : Int32) = nI 8 from rfl, pk_mul, i2b_i2b, i2b_shr _ (by omega), nI_1]
      refine ⟨H5.2.2.1.2.2.2.2.1, pk_in (k / 4) 5 hk4, kt5, pk_in (at_ + k) _ (by omega), fun h8 e8 => ?_⟩
      rw [e8, putB_succ (by omega) (by rw [ripD, e5'])]
      exact ih h32 () trivial
/-- twice SHA-256; SHA-256, then RIPEMD-160 -/
def dshD (K Bg : List Int32) (n : Nat) (mb : Nat → Int32) : Nat → Int32 := shaD K Bg 32 (shaD K Bg n mb)
def h160D (K Bg : List Int32) (n : Nat) (mb : Nat → Int32) : Nat → Int32 := ripD 32 (shaD K Bg n mb)
def dgQ (D x : Nat) : Prop := D + 3 ≤ x ∧ x ≤ D + 9
theorem Dig_twice_spec (hd : 6 ≤ d) (H : DgS h D) (T : DgT h D) {a off n : Nat} (ka : h.kd a = 101) (la : off + n ≤ (h.ai a).length) (la2 : (h.ai a).length < 2 ^ 31) (hn : 8 * n < 2 ^ 31) (pa : ¬ dgQ D a) {t at_ : Nat} (kt : h.kd t = 101) (lt2 : (h.ai t).length < 2 ^ 31) (pt : ¬ dgQ D t) (lt : at_ + 32 ≤ (h.ai t).length) :
    Cw G mX2_twice d 0 [vR D, vR a, vI (nI off), vI (nI n), vR t, vI (nI at_)] h (kV (fun h' => Mod (fun x => dgQ D x ∨ x = t) h h' ∧ h'.ai t = putB (h.ai t) at_ 32 (dshD (h.ai (D + 1)) (h.ai (D + 2)) n (sl (h.ai a) off))) nE) := by
  obtain ⟨d, rfl⟩ : ∃ d', d = d' + 1 := ⟨d - 1, by omega⟩
  have ht : ∀ x, dgP D x ∨ x = D + 9 → x < D + 10 := fun x hx => by unfold dgP at hx; omega
  have pa' : ¬ dgP D a := fun q => pa (by unfold dgP at q; unfold dgQ; omega)
  have pt' : ¬ dgP D t := fun q => pt (by unfold dgP at q; unfold dgQ; omega)
  have nt9 : t ≠ D + 9 := fun e => pt (by rw [e]; unfold dgQ; omega)
  have p9 : ¬ dgP D (D + 9) := by unfold dgP; omega
  have l9 : (h.ai (D + 9)).length = 32 := H.2.2.2.2.2.2.2.2.2.2.2.1
  refine eX2_twice h D a (nI off) (nI n) t (nI at_) (fun _ => sX2_twice_0 h D a (nI off) (nI n) t (nI at_) ⟨H.1, fun q2 e2 => ?_⟩)
  rw [e2.trans H.2.1.2.2.2.2.2.2.2.2.1]
  refine (Dig_sha_spec (t := D + 9) (at_ := 0) (by omega) H T ka la la2 hn pa' H.2.2.1.2.2.2.2.2.2.2.2.1 (by rw [l9]; omega) p9 (by rw [l9]; omega)).nV (fun h4 Q => ?_)
  obtain ⟨M1, e1⟩ := Q
  have k1 : h4.ai (D + 1) = h.ai (D + 1) := M1.ai (by unfold dgP; omega)
  have k2 : h4.ai (D + 2) = h.ai (D + 2) := M1.ai (by unfold dgP; omega)
  have t4 : h4.ai t = h.ai t := M1.ai (fun q => q.elim pt' nt9)
  have l94 : (h4.ai (D + 9)).length = 32 := by rw [M1.len, l9]
  refine (Dig_sha_spec (off := 0) (n := 32) (a := D + 9) (by omega) (H.mod M1) (T.mod M1 ht) (by rw [M1.kd]; exact H.2.2.1.2.2.2.2.2.2.2.2.1) (by rw [l94]; omega) (by rw [l94]; omega) (by omega) p9 (by rw [M1.kd]; exact kt) (by rw [t4]; exact lt2) pt' (by rw [t4]; exact lt)).nV (fun h9 Q => ?_)
  obtain ⟨M2, e2⟩ := Q
  refine ⟨(M1.mono (fun x hx => by unfold dgP at hx; unfold dgQ; omega)).trans (M2.mono (fun x hx => by unfold dgP at hx; unfold dgQ; omega)), ?_⟩
  have e3 : shaD (h.ai (D + 1)) (h.ai (D + 2)) 32 (sl (h4.ai (D + 9)) 0) = shaD (h.ai (D + 1)) (h.ai (D + 2)) 32 (shaD (h.ai (D + 1)) (h.ai (D + 2)) n (sl (h.ai a) off)) := by
    refine shaD_congr (fun i hi => ?_)
    show (h4.ai (D + 9)).getD (0 + i) 0 = _
    rw [Nat.zero_add, e1, putB_getD _ _ _ _ (by rw [l9]; exact hi), if_pos (by omega), Nat.sub_zero]
  rw [e2, k1, k2, t4, dshD, e3]
theorem Dig_hash160_spec (hd : 6 ≤ d) (H : DgS h D) (T : DgT h D) {a off n : Nat} (ka : h.kd a = 101) (la : off + n ≤ (h.ai a).length) (la2 : (h.ai a).length < 2 ^ 31) (hn : 8 * n < 2 ^ 31) (pa : ¬ dgQ D a) {t at_ : Nat} (kt : h.kd t = 101) (lt2 : (h.ai t).length < 2 ^ 31) (pt : ¬ dgQ D t) (lt : at_ + 20 ≤ (h.ai t).length) :
    Cw G mX2_hash160 d 0 [vR D, vR a, vI (nI off), vI (nI n), vR t, vI (nI at_)] h (kV (fun h' => Mod (fun x => dgQ D x ∨ x = t) h h' ∧ h'.ai t = putB (h.ai t) at_ 20 (h160D (h.ai (D + 1)) (h.ai (D + 2)) n (sl (h.ai a) off))) nE) := by
  obtain ⟨d, rfl⟩ : ∃ d', d = d' + 1 := ⟨d - 1, by omega⟩
  have ht : ∀ x, dgP D x ∨ x = D + 9 → x < D + 10 := fun x hx => by unfold dgP at hx; omega
  have pa' : ¬ dgP D a := fun q => pa (by unfold dgP at q; unfold dgQ; omega)
  have pt' : ¬ dgP D t := fun q => pt (by unfold dgP at q; unfold dgQ; omega)
  have nt9 : t ≠ D + 9 := fun e => pt (by rw [e]; unfold dgQ; omega)
  have p9 : ¬ dgP D (D + 9) := by unfold dgP; omega
  have l9 : (h.ai (D + 9)).length = 32 := H.2.2.2.2.2.2.2.2.2.2.2.1
  refine eX2_hash160 h D a (nI off) (nI n) t (nI at_) (fun _ => sX2_hash160_0 h D a (nI off) (nI n) t (nI at_) ⟨H.1, fun q2 e2 => ?_⟩)
  rw [e2.trans H.2.1.2.2.2.2.2.2.2.2.1]
  refine (Dig_sha_spec (t := D + 9) (at_ := 0) (by omega) H T ka la la2 hn pa' H.2.2.1.2.2.2.2.2.2.2.2.1 (by rw [l9]; omega) p9 (by rw [l9]; omega)).nV (fun h4 Q => ?_)
  obtain ⟨M1, e1⟩ := Q
  have t4 : h4.ai t = h.ai t := M1.ai (fun q => q.elim pt' nt9)
  have l94 : (h4.ai (D + 9)).length = 32 := by rw [M1.len, l9]
  refine (Dig_ripe_spec (off := 0) (n := 32) (a := D + 9) (by omega) (H.mod M1) (T.mod M1 ht) (by rw [M1.kd]; exact H.2.2.1.2.2.2.2.2.2.2.2.1) (by rw [l94]; omega) (by rw [l94]; omega) (by omega) p9 (by rw [M1.kd]; exact kt) (by rw [t4]; exact lt2) pt' (by rw [t4]; exact lt)).nV (fun h9 Q => ?_)
  obtain ⟨M2, e2⟩ := Q
  refine ⟨(M1.mono (fun x hx => by unfold dgP at hx; unfold dgQ; omega)).trans (M2.mono (fun x hx => by unfold dgP at hx; unfold dgQ; omega)), ?_⟩
  have e3 : ripD 32 (sl (h4.ai (D + 9)) 0) = ripD 32 (shaD (h.ai (D + 1)) (h.ai (D + 2)) n (sl (h.ai a) off)) := by
    refine ripD_congr (fun i hi => ?_)
    show (h4.ai (D + 9)).getD (0 + i) 0 = _
    rw [Nat.zero_add, e1, putB_getD _ _ _ _ (by rw [l9]; exact hi), if_pos (by omega), Nat.sub_zero]
  rw [e2, t4, h160D, e3]
end Sha

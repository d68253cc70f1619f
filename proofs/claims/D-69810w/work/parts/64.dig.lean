/-! printed by gen/dig.py: SHA-256 of a block, by the component -/
set_option maxRecDepth 100000
/-- turned right by n -/
def rr (x : Int32) (n : Nat) : Int32 := jshl x (nI (32 - n)) ||| jushr x (nI n)
/-- turned left by n -/
def rl (x : Int32) (n : Nat) : Int32 := jshl x (nI n) ||| jushr x (nI (32 - n))
theorem neg_and : ∀ n, n < 32 → 0 < n → (-(nI n)) &&& 31 = nI (32 - n) &&& 31 := by decide +kernel
theorem neg_uand : ∀ n, n < 32 → 0 < n → (-(nI n)).toUInt32 &&& Int32.toUInt32 31 = (nI (32 - n)).toUInt32 &&& Int32.toUInt32 31 := by decide +kernel
theorem jshl_neg (x : Int32) {n : Nat} (h : n < 32) (h0 : 0 < n) : jshl x (-(nI n)) = jshl x (nI (32 - n)) := by
  unfold jshl
  rw [neg_and n h h0]
theorem jushr_neg (x : Int32) {n : Nat} (h : n < 32) (h0 : 0 < n) : jushr x (-(nI n)) = jushr x (nI (32 - n)) := by
  unfold jushr
  rw [neg_uand n h h0]
theorem i32_or_comm (x y : Int32) : x ||| y = y ||| x := Int32.or_comm x y
section Rot
variable {G : Gx} {d : Nat} {h : AH}
theorem rotR_spec (hd : 1 ≤ d) (x : Int32) {n : Nat} (hn : n < 32) (h0 : 0 < n) : Cw G mJ9_rotateRight d 0 [vI x, vI (nI n)] h (kI (fun y h' => y = rr x n ∧ h' = h) nE) := by
  obtain ⟨d, rfl⟩ : ∃ d', d = d' + 1 := ⟨d - 1, by omega⟩
  refine eJ9_rotateRight h x (nI n) (fun _ => sJ9_rotateRight_0 h x (nI n) ⟨?_, rfl⟩)
  rw [jshl_neg x hn h0, i32_or_comm]
  rfl
theorem rotL_spec (hd : 1 ≤ d) (x : Int32) {n : Nat} (hn : n < 32) (h0 : 0 < n) : Cw G mJ9_rotateLeft d 0 [vI x, vI (nI n)] h (kI (fun y h' => y = rl x n ∧ h' = h) nE) := by
  obtain ⟨d, rfl⟩ : ∃ d', d = d' + 1 := ⟨d - 1, by omega⟩
  refine eJ9_rotateLeft h x (nI n) (fun _ => sJ9_rotateLeft_0 h x (nI n) ⟨?_, rfl⟩)
  rw [jushr_neg x hn h0]
  rfl
end Rot
/-- the words of a block, one behind another -/
def beW (B : List Int32) (k : Nat) : Int32 := ((jshl (B.getD (4 * k) 0 &&& 255) 24 ||| jshl (B.getD (4 * k + 1) 0 &&& 255) 16) ||| jshl (B.getD (4 * k + 2) 0 &&& 255) 8) ||| (B.getD (4 * k + 3) 0 &&& 255)
def shaNext (L : List Int32) (k : Nat) : Int32 := ((L.getD (k - 16) 0 + ((rr (L.getD (k - 15) 0) 7 ^^^ rr (L.getD (k - 15) 0) 18) ^^^ jushr (L.getD (k - 15) 0) 3)) + L.getD (k - 7) 0) + ((rr (L.getD (k - 2) 0) 17 ^^^ rr (L.getD (k - 2) 0) 19) ^^^ jushr (L.getD (k - 2) 0) 10)
/-- a row whose first k words are made -/
def shaL (B T : List Int32) : Nat → List Int32
  | 0 => T
  | k + 1 => (shaL B T k).set k (if k < 16 then beW B k else shaNext (shaL B T k) k)
theorem shaL_len (B T : List Int32) : ∀ k, (shaL B T k).length = T.length
  | 0 => rfl
  | k + 1 => by rw [shaL, List.length_set, shaL_len B T k]
abbrev S8 : Type := Int32 × Int32 × Int32 × Int32 × Int32 × Int32 × Int32 × Int32
def shaT (K W : Int32) (s : S8) : Int32 :=
  ((((s.2.2.2.2.2.2.2 + ((rr s.2.2.2.2.1 6 ^^^ rr s.2.2.2.2.1 11) ^^^ rr s.2.2.2.2.1 25)) + ((s.2.2.2.2.1 &&& s.2.2.2.2.2.1) ^^^ ((s.2.2.2.2.1 ^^^ (-1)) &&& s.2.2.2.2.2.2.1))) + K) + W)
def shaU (s : S8) : Int32 := ((rr s.1 2 ^^^ rr s.1 13) ^^^ rr s.1 22) + (((s.1 &&& s.2.1) ^^^ (s.1 &&& s.2.2.1)) ^^^ (s.2.1 &&& s.2.2.1))
def shaStep (K W : Int32) (s : S8) : S8 := (shaT K W s + shaU s, s.1, s.2.1, s.2.2.1, s.2.2.2.1 + shaT K W s, s.2.2.2.2.1, s.2.2.2.2.2.1, s.2.2.2.2.2.2.1)
def shaRds (K W : List Int32) (s : S8) : Nat → S8
  | 0 => s
  | k + 1 => shaStep (K.getD k 0) (W.getD k 0) (shaRds K W s k)
def s8 (S : List Int32) : S8 := (S.getD 0 0, S.getD 1 0, S.getD 2 0, S.getD 3 0, S.getD 4 0, S.getD 5 0, S.getD 6 0, S.getD 7 0)
def add8 (S : List Int32) (s : S8) : List Int32 := [S.getD 0 0 + s.1, S.getD 1 0 + s.2.1, S.getD 2 0 + s.2.2.1, S.getD 3 0 + s.2.2.2.1, S.getD 4 0 + s.2.2.2.2.1, S.getD 5 0 + s.2.2.2.2.2.1, S.getD 6 0 + s.2.2.2.2.2.2.1, S.getD 7 0 + s.2.2.2.2.2.2.2]
/-- the state behind a block -/
def shaBlk (K B S : List Int32) : List Int32 := add8 S (shaRds K (shaL B (List.replicate 64 0) 64) (s8 S) 64)
/-- which words are made does not hang on what stood there -/
theorem shaL_eq (B : List Int32) {T T' : List Int32} (hT : T.length = 64) (hT' : T'.length = 64) : ∀ k, k ≤ 64 → ∀ i, i < k → (shaL B T k).getD i 0 = (shaL B T' k).getD i 0
  | 0, _, i, hi => absurd hi (by omega)
  | k + 1, hk, i, hi => by
    have ih := shaL_eq B hT hT' k (by omega)
    have l1 : k < (shaL B T k).length := by rw [shaL_len, hT]; omega
    have l2 : k < (shaL B T' k).length := by rw [shaL_len, hT']; omega
    rw [shaL, shaL]
    by_cases e : i = k
    · subst e
      rw [getD_set_eq l1, getD_set_eq l2]
      by_cases q : i < 16
      · rw [if_pos q, if_pos q]
      · rw [if_neg q, if_neg q]
        unfold shaNext
        rw [ih (i - 16) (by omega), ih (i - 15) (by omega), ih (i - 7) (by omega), ih (i - 2) (by omega)]
    · rw [getD_set_ne e, getD_set_ne e]
      exact ih i (by omega)
theorem shaL_full (B : List Int32) {T T' : List Int32} (hT : T.length = 64) (hT' : T'.length = 64) : shaL B T 64 = shaL B T' 64 :=
  ext_getD (z := 0) (by rw [shaL_len, shaL_len, hT, hT']) (fun i hi => shaL_eq B hT hT' 64 (by omega) i (by rw [shaL_len, hT] at hi; exact hi))
/-- the component's digests, as the constructor lays them -/
def DgS (h : AH) (D : Nat) : Prop := h.kd D = 2 ∧ (h.r 2000 D = D + 1 ∧ h.r 2001 D = D + 2 ∧ h.r 2002 D = D + 3 ∧ h.r 2003 D = D + 4 ∧ h.r 2004 D = D + 5 ∧ h.r 2005 D = D + 6 ∧ h.r 2006 D = D + 7 ∧ h.r 2007 D = D + 8 ∧ h.r 2008 D = D + 9 ∧ h.r 2009 D = D + 10 ∧ h.r 2010 D = D + 11 ∧ h.r 2011 D = D + 12 ∧ h.r 2012 D = D + 13 ∧ h.r 2013 D = D + 14 ∧ h.r 2014 D = D + 15) ∧
  (h.kd (D + 1) = 100 ∧ h.kd (D + 2) = 100 ∧ h.kd (D + 3) = 100 ∧ h.kd (D + 4) = 100 ∧ h.kd (D + 5) = 100 ∧ h.kd (D + 6) = 100 ∧ h.kd (D + 7) = 100 ∧ h.kd (D + 8) = 101 ∧ h.kd (D + 9) = 101 ∧ h.kd (D + 10) = 100 ∧ h.kd (D + 11) = 100 ∧ h.kd (D + 12) = 100 ∧ h.kd (D + 13) = 100 ∧ h.kd (D + 14) = 100 ∧ h.kd (D + 15) = 100) ∧
  ((h.ai (D + 1)).length = 64 ∧ (h.ai (D + 2)).length = 8 ∧ (h.ai (D + 3)).length = 8 ∧ (h.ai (D + 4)).length = 64 ∧ (h.ai (D + 5)).length = 5 ∧ (h.ai (D + 6)).length = 5 ∧ (h.ai (D + 7)).length = 5 ∧ (h.ai (D + 8)).length = 64 ∧ (h.ai (D + 9)).length = 32 ∧ (h.ai (D + 10)).length = 80 ∧ (h.ai (D + 11)).length = 80 ∧ (h.ai (D + 12)).length = 80 ∧ (h.ai (D + 13)).length = 80 ∧ (h.ai (D + 14)).length = 5 ∧ (h.ai (D + 15)).length = 5)
theorem DgS.mod {P : Nat → Prop} {h h' : AH} {D : Nat} (H : DgS h D) (m : Mod P h h') : DgS h' D := by
  unfold DgS at H ⊢
  rw [m.kd, m.r]
  simp only [m.len]
  exact H
section Dig
variable {G : Gx} {d : Nat} {h : AH} {D : Nat}
theorem mix_242 {Φ : Out → AH → Prop} {s0 : S8} (hd : 1 ≤ d) (H : DgS h D) (hΦ : Φ (.inl none) (h.wi (D + 3) (add8 (h.ai (D + 3)) (shaRds (h.ai (D + 1)) (h.ai (D + 4)) s0 64)))) (h0 : AH) :
    ∀ k (s : S8), k ≤ 64 → s = shaRds (h.ai (D + 1)) (h.ai (D + 4)) s0 k → Aw G mX2_mix (d + 1) 0 h0 Φ 242 [vR D, vI (s).1, vI (s).2.1, vI (s).2.2.1, vI (s).2.2.2.1, vI (s).2.2.2.2.1, vI (s).2.2.2.2.2.1, vI (s).2.2.2.2.2.2.1, vI (s).2.2.2.2.2.2.2, vI (nI k), vU, vU] [] h := by
  obtain ⟨kD, ⟨r0, r1, r2, r3, r4, r5, r6, r7, r8, r9, r10, r11, r12, r13, r14⟩, ⟨k1, k2, k3, k4, k5, k6, k7, k8, k9, k10, k11, k12, k13, k14, k15⟩, ⟨l1, l2, l3, l4, l5, l6, l7, l8, l9, l10, l11, l12, l13, l14, l15⟩⟩ := H
  refine loop_uc (n := 64) (P := fun k (s : S8) => Aw G mX2_mix (d + 1) 0 h0 Φ 242 [vR D, vI (s).1, vI (s).2.1, vI (s).2.2.1, vI (s).2.2.2.1, vI (s).2.2.2.2.1, vI (s).2.2.2.2.2.1, vI (s).2.2.2.2.2.2.1, vI (s).2.2.2.2.2.2.2, vI (nI k), vU, vU] [] h) _ (fun k s hk hI ih => ?_)
  obtain ⟨a, b, c, e, f, g, i, j⟩ := s
  dsimp only
  refine sX2_mix_242 _ D a b c e f g i j (nI k) (pk_le 64 k (fun h64 => ⟨kD, fun q3 e3 => ?_⟩) (fun h64 => ?_))
  · have : k = 64 := by omega
    subst this
    rw [← hI] at hΦ
    rw [e3.trans r2, l3, pk_cl 0]
    refine ⟨k3, pk_in 0 8 (by decide), pk_in 0 8 (by decide), fun h7 e7 => ?_⟩
    subst e7
    rw [AH.ai_wiS, AH.wi_wi, List.length_set, l3, pk_cl 1]
    refine ⟨pk_in 1 8 (by decide), pk_in 1 8 (by decide), fun h7 e7 => ?_⟩
    subst e7
    rw [AH.ai_wiS, AH.wi_wi, List.length_set, List.length_set, l3, pk_cl 2]
    refine ⟨pk_in 2 8 (by decide), pk_in 2 8 (by decide), fun h7 e7 => ?_⟩
    subst e7
    rw [AH.ai_wiS, AH.wi_wi, List.length_set, List.length_set, List.length_set, l3, pk_cl 3]
    refine ⟨pk_in 3 8 (by decide), pk_in 3 8 (by decide), fun h7 e7 => ?_⟩
    subst e7
    rw [AH.ai_wiS, AH.wi_wi, List.length_set, List.length_set, List.length_set, List.length_set, l3, pk_cl 4]
    refine ⟨pk_in 4 8 (by decide), pk_in 4 8 (by decide), fun h7 e7 => ?_⟩
    subst e7
    rw [AH.ai_wiS, AH.wi_wi, List.length_set, List.length_set, List.length_set, List.length_set, List.length_set, l3, pk_cl 5]
    refine ⟨pk_in 5 8 (by decide), pk_in 5 8 (by decide), fun h7 e7 => ?_⟩
    subst e7
    rw [AH.ai_wiS, AH.wi_wi, List.length_set, List.length_set, List.length_set, List.length_set, List.length_set, List.length_set, l3, pk_cl 6]
    refine ⟨pk_in 6 8 (by decide), pk_in 6 8 (by decide), fun h7 e7 => ?_⟩
    subst e7
    rw [AH.ai_wiS, AH.wi_wi, List.length_set, List.length_set, List.length_set, List.length_set, List.length_set, List.length_set, List.length_set, l3, pk_cl 7]
    refine ⟨pk_in 7 8 (by decide), pk_in 7 8 (by decide), fun h7 e7 => ?_⟩
    subst e7
    refine cast ?_ hΦ
    congr 2
    refine ext_getD (z := 0) (by simp only [List.length_set, l3]; rfl) (fun m hm => ?_)
    have hm8 : m < 8 := hm
    have c8 : m = 0 ∨ m = 1 ∨ m = 2 ∨ m = 3 ∨ m = 4 ∨ m = 5 ∨ m = 6 ∨ m = 7 := by omega
    rcases c8 with rfl | rfl | rfl | rfl | rfl | rfl | rfl | rfl <;> simp [getD_sif, l3, add8]
  · refine (rotR_spec hd f (n := 6) (by decide) (by decide)).nI (fun x51 h52 Q => ?_)
    obtain ⟨rfl, rfl⟩ := Q
    refine (rotR_spec hd f (n := 11) (by decide) (by decide)).nI (fun x53 h54 Q => ?_)
    obtain ⟨rfl, rfl⟩ := Q
    refine (rotR_spec hd f (n := 25) (by decide) (by decide)).nI (fun x55 h56 Q => ?_)
    obtain ⟨rfl, rfl⟩ := Q
    refine ⟨kD, fun q58 e58 => ?_⟩
    rw [e58.trans r0, l1, pk_cl k]
    refine ⟨k1, pk_in k 64 h64, fun q61 e61 => ?_⟩
    rw [e61.trans r3, l4]
    refine ⟨k4, pk_in k 64 h64, fun u64 e64 => ?_⟩
    refine (rotR_spec hd a (n := 2) (by decide) (by decide)).nI (fun x65 h66 Q => ?_)
    obtain ⟨rfl, rfl⟩ := Q
    refine (rotR_spec hd a (n := 13) (by decide) (by decide)).nI (fun x67 h68 Q => ?_)
    obtain ⟨rfl, rfl⟩ := Q
    refine (rotR_spec hd a (n := 22) (by decide) (by decide)).nI (fun x69 h70 Q => ?_)
    obtain ⟨rfl, rfl⟩ := Q
    intro u71 e71
    rw [nI_1]
    refine ih h64 (u64 + u71, a, b, c, e + u64, f, g, i) ?_
    rw [shaRds, ← hI, e64, e71]
    rfl
theorem mix_2 {Φ : Out → AH → Prop} (hd : 1 ≤ d) (H : DgS h D) (hΦ : ∀ h1, Mod (fun x => x = D + 3 ∨ x = D + 4) h h1 → h1.ai (D + 3) = shaBlk (h.ai (D + 1)) (h.ai (D + 8)) (h.ai (D + 3)) → Φ (.inl none) h1) :
    ∀ k (_ : Unit), k ≤ 64 → True → Aw G mX2_mix (d + 1) 0 h Φ 2 [vR D, vI (nI k), vU, vU, vU, vU, vU, vU, vU, vU, vU, vU] [] (h.wi (D + 4) (shaL (h.ai (D + 8)) (h.ai (D + 4)) k)) := by
  have H' := H
  obtain ⟨kD, ⟨r0, r1, r2, r3, r4, r5, r6, r7, r8, r9, r10, r11, r12, r13, r14⟩, ⟨k1, k2, k3, k4, k5, k6, k7, k8, k9, k10, k11, k12, k13, k14, k15⟩, ⟨l1, l2, l3, l4, l5, l6, l7, l8, l9, l10, l11, l12, l13, l14, l15⟩⟩ := H
  have n34 : D + 3 ≠ D + 4 := by omega
  have n14 : D + 1 ≠ D + 4 := by omega
  have n84 : D + 8 ≠ D + 4 := by omega
  refine loop_uc (n := 64) (P := fun k _ => Aw G mX2_mix (d + 1) 0 h Φ 2 [vR D, vI (nI k), vU, vU, vU, vU, vU, vU, vU, vU, vU, vU] [] (h.wi (D + 4) (shaL (h.ai (D + 8)) (h.ai (D + 4)) k))) _ (fun k _ hk _ ih => ?_)
  have hL : (shaL (h.ai (D + 8)) (h.ai (D + 4)) k).length = 64 := by rw [shaL_len, l4]
  have M1 : Mod (fun x => x = D + 3 ∨ x = D + 4) h (h.wi (D + 4) (shaL (h.ai (D + 8)) (h.ai (D + 4)) k)) := Mod.wi (by rw [hL, l4]) (Or.inr rfl)
  refine sX2_mix_2 _ D (nI k) (pk_le 64 k (fun h64 => ⟨kD, fun q3 e3 => ?_⟩) (fun h64 => pk_le 16 k (fun h16 => ⟨kD, fun q23 e23 => ?_⟩) (fun h16 => ⟨kD, fun q51 e51 q52 e52 => ?_⟩)))
  · have : k = 64 := by omega
    subst this
    rw [e3.trans r2, AH.ai_wiN n34, l3, pk_cl 0, pk_cl 1, pk_cl 2, pk_cl 3, pk_cl 4, pk_cl 5, pk_cl 6, pk_cl 7]
    refine ⟨k3, pk_in 0 8 (by decide), fun u0 x0 => ⟨pk_in 1 8 (by decide), fun u1 x1 => ⟨pk_in 2 8 (by decide), fun u2 x2 => ⟨pk_in 3 8 (by decide), fun u3 x3 => ⟨pk_in 4 8 (by decide), fun u4 x4 => ⟨pk_in 5 8 (by decide), fun u5 x5 => ⟨pk_in 6 8 (by decide), fun u6 x6 => ⟨pk_in 7 8 (by decide), fun u7 x7 => ?_⟩⟩⟩⟩⟩⟩⟩⟩
    refine mix_242 (s0 := s8 (h.ai (D + 3))) hd (H'.mod M1) ?_ h 0 (u0, u1, u2, u3, u4, u5, u6, u7) (by decide) ?_
    · rw [AH.ai_wiN n34, AH.ai_wiN n14, AH.ai_wiS]
      refine hΦ _ (M1.trans (Mod.wi (by rw [AH.ai_wiN n34, l3]; rfl) (Or.inl rfl))) ?_
      rw [AH.ai_wiS, shaBlk, shaL_full (h.ai (D + 8)) l4 (List.length_replicate ..)]
    · rw [x0, x1, x2, x3, x4, x5, x6, x7]
      rfl
  · rw [e23.trans r3, AH.ai_wiS, hL, show (15 : Int32) = nI 15 from rfl, show (16 : Int32) = nI 16 from rfl, show (7 : Int32) = nI 7 from rfl, show (2 : Int32) = nI 2 from rfl, pk_sub (show 15 ≤ k by omega), pk_sub (show 2 ≤ k by omega), pk_sub h16, pk_cl (k - 15) rfl (by omega), pk_cl (k - 2) rfl (by omega)]
    refine ⟨k4, pk_in (k - 15) 64 (by omega), fun u26 e26 => ⟨pk_in (k - 2) 64 (by omega), fun u28 e28 => ⟨pk_in (k - 16) 64 (by omega), ?_⟩⟩⟩
    refine (rotR_spec hd u26 (n := 7) (by decide) (by decide)).nI (fun x30 h31 Q => ?_)
    obtain ⟨rfl, rfl⟩ := Q
    refine (rotR_spec hd u26 (n := 18) (by decide) (by decide)).nI (fun x32 h33 Q => ?_)
    obtain ⟨rfl, rfl⟩ := Q
    rw [AH.ai_wiS, hL, pk_sub (show 7 ≤ k by omega)]
    refine ⟨pk_in (k - 7) 64 (by omega), ?_⟩
    refine (rotR_spec hd u28 (n := 17) (by decide) (by decide)).nI (fun x30 h31 Q => ?_)
    obtain ⟨rfl, rfl⟩ := Q
    refine (rotR_spec hd u28 (n := 19) (by decide) (by decide)).nI (fun x32 h33 Q => ?_)
    obtain ⟨rfl, rfl⟩ := Q
    rw [AH.ai_wiS, AH.wi_wi, hL, pk_cl k, pk_cl (k - 16) rfl (by omega), pk_cl (k - 7) rfl (by omega)]
    refine ⟨pk_in k 64 h64, fun h49 e49 => ?_⟩
    rw [e49, e26, e28, nI_1]
    have := ih h64 () trivial
    rw [shaL, if_neg (by omega)] at this
    exact this
  · rw [e51.trans r3, e52.trans r7, AH.ai_wiN n84, AH.ai_wiS, AH.wi_wi, l8, hL, show (4 : Int32) = nI 4 from rfl, pk_mul, nI_1, show (2 : Int32) = nI 2 from rfl, show (3 : Int32) = nI 3 from rfl, nI_add, nI_add, pk_cl (4 * k) rfl (by omega), pk_cl (4 * k + 1) rfl (by omega), pk_cl (4 * k + 2) rfl (by omega), pk_cl (4 * k + 3) rfl (by omega), pk_cl k, nI_1]
    refine ⟨k8, pk_in (4 * k) 64 (by omega), pk_in (4 * k + 1) 64 (by omega), pk_in (4 * k + 2) 64 (by omega), pk_in (4 * k + 3) 64 (by omega), k4, pk_in k 64 h64, fun h60 e60 => ?_⟩
    rw [e60]
    have := ih h64 () trivial
    rw [shaL, if_pos (by omega)] at this
    exact this
theorem Dig_mix_spec (hd : 2 ≤ d) (H : DgS h D) : Cw G mX2_mix d 0 [vR D] h (kV (fun h' => Mod (fun x => x = D + 3 ∨ x = D + 4) h h' ∧ h'.ai (D + 3) = shaBlk (h.ai (D + 1)) (h.ai (D + 8)) (h.ai (D + 3))) nE) := by
  obtain ⟨d, rfl⟩ : ∃ d', d = d' + 1 := ⟨d - 1, by omega⟩
  refine eX2_mix h D (fun _ => sX2_mix_0 h D ?_)
  have key := mix_2 (G := G) (d := d) (by omega) H (Φ := (kV (fun h' => Mod (fun x => x = D + 3 ∨ x = D + 4) h h' ∧ h'.ai (D + 3) = shaBlk (h.ai (D + 1)) (h.ai (D + 8)) (h.ai (D + 3))) nE)) (fun h1 a b => ⟨a, b⟩) 0 () (by omega) trivial
  rw [shaL, AH.wi_self] at key
  exact key
end Dig

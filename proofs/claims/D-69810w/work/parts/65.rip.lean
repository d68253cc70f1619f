/-! printed by gen/rip.py: RIPEMD-160 of a block, by the component -/
set_option maxRecDepth 100000
def ordN : List Nat := [0, 1, 2, 3, 4, 5, 6, 7, 8, 9, 10, 11, 12, 13, 14, 15, 7, 4, 13, 1, 10, 6, 15, 3, 12, 0, 9, 5, 2, 14, 11, 8, 3, 10, 14, 4, 9, 15, 8, 1, 2, 7, 0, 6, 13, 11, 5, 12, 1, 9, 11, 10, 0, 8, 12, 4, 13, 3, 7, 15, 14, 5, 6, 2, 4, 0, 5, 9, 7, 12, 2, 10, 14, 1, 3, 8, 11, 6, 15, 13]
def othN : List Nat := [5, 14, 7, 0, 9, 2, 11, 4, 13, 6, 15, 8, 1, 10, 3, 12, 6, 11, 3, 7, 0, 13, 5, 10, 14, 15, 8, 12, 4, 9, 1, 2, 15, 5, 1, 3, 7, 14, 6, 9, 11, 8, 12, 2, 10, 0, 4, 13, 8, 6, 4, 1, 3, 11, 15, 0, 5, 12, 2, 13, 9, 7, 10, 14, 12, 15, 10, 4, 1, 5, 8, 7, 6, 2, 13, 14, 0, 3, 9, 11]
def trnN : List Nat := [11, 14, 15, 12, 5, 8, 7, 9, 11, 13, 14, 15, 6, 7, 9, 8, 7, 6, 8, 13, 11, 9, 7, 15, 7, 12, 15, 9, 11, 7, 13, 12, 11, 13, 6, 7, 14, 9, 13, 15, 14, 8, 13, 6, 5, 12, 7, 5, 11, 12, 14, 15, 14, 15, 9, 8, 9, 14, 5, 6, 8, 6, 5, 12, 9, 15, 5, 11, 6, 8, 13, 12, 5, 12, 13, 14, 11, 8, 5, 6]
def otnN : List Nat := [8, 9, 9, 11, 13, 15, 15, 5, 7, 7, 8, 11, 14, 14, 12, 6, 9, 13, 15, 7, 12, 8, 9, 11, 7, 7, 12, 7, 6, 15, 13, 11, 9, 7, 15, 11, 8, 6, 6, 14, 12, 13, 5, 14, 13, 13, 7, 5, 15, 5, 8, 11, 14, 14, 6, 14, 6, 9, 12, 9, 12, 5, 15, 8, 8, 5, 12, 9, 12, 5, 14, 6, 8, 13, 6, 5, 15, 13, 11, 11]
def adL : List Int32 := [0, 1518500249, 1859775393, -1894007588, -1454113458]
def oaL : List Int32 := [1352829926, 1548603684, 1836072691, 2053994217, 0]
theorem ordN_lt : ∀ k, k < 80 → ordN.getD k 0 < 16 ∧ othN.getD k 0 < 16 ∧ trnN.getD k 0 < 32 ∧ 0 < trnN.getD k 0 ∧ otnN.getD k 0 < 32 ∧ 0 < otnN.getD k 0 := by decide +kernel
theorem cl0 : (0 : Int32).toNatClampNeg = 0 := by decide
theorem cl1 : (1 : Int32).toNatClampNeg = 1 := by decide
theorem cl2 : (2 : Int32).toNatClampNeg = 2 := by decide
theorem cl3 : (3 : Int32).toNatClampNeg = 3 := by decide
theorem cl4 : (4 : Int32).toNatClampNeg = 4 := by decide
theorem cl5 : (5 : Int32).toNatClampNeg = 5 := by decide
theorem cl6 : (6 : Int32).toNatClampNeg = 6 := by decide
theorem cl7 : (7 : Int32).toNatClampNeg = 7 := by decide
theorem cl8 : (8 : Int32).toNatClampNeg = 8 := by decide
theorem cl9 : (9 : Int32).toNatClampNeg = 9 := by decide
theorem map_getD (L : List Nat) (k : Nat) : (L.map nI).getD k 0 = nI (L.getD k 0) := by
  rw [List.getD_eq_getElem?_getD, List.getElem?_map, List.getD_eq_getElem?_getD]
  cases L[k]? with
  | none => rfl
  | some x => rfl
/-- the tables stand -/
def DgT (h : AH) (D : Nat) : Prop := h.ai (D + 10) = ordN.map nI ∧ h.ai (D + 11) = othN.map nI ∧ h.ai (D + 12) = trnN.map nI ∧ h.ai (D + 13) = otnN.map nI ∧ h.ai (D + 14) = adL ∧ h.ai (D + 15) = oaL
def tdF (j : Nat) (x y z : Int32) : Int32 := if j = 0 then (x ^^^ y) ^^^ z else if j = 1 then (x &&& y) ||| ((x ^^^ (-1)) &&& z) else if j = 2 then (x ||| (y ^^^ (-1))) ^^^ z else if j = 3 then (x &&& z) ||| (y &&& (z ^^^ (-1))) else x ^^^ (y ||| (z ^^^ (-1)))
def rpStep (p : List Int32) (more : Int32) (n : Nat) : List Int32 := [p.getD 4 0, rl (p.getD 0 0 + more) n + p.getD 4 0, p.getD 1 0, rl (p.getD 2 0) 10, p.getD 3 0]
def leW (B : List Int32) (k : Nat) : Int32 := (((B.getD (4 * k) 0 &&& 255) ||| jshl (B.getD (4 * k + 1) 0 &&& 255) 8) ||| jshl (B.getD (4 * k + 2) 0 &&& 255) 16) ||| jshl (B.getD (4 * k + 3) 0 &&& 255) 24
def rpP (B : List Int32) (S : List Int32) : Nat → List Int32
  | 0 => S
  | k + 1 => rpStep (rpP B S k) ((tdF (k / 16) ((rpP B S k).getD 1 0) ((rpP B S k).getD 2 0) ((rpP B S k).getD 3 0) + leW B (ordN.getD k 0)) + adL.getD (k / 16) 0) (trnN.getD k 0)
def rpQ (B : List Int32) (S : List Int32) : Nat → List Int32
  | 0 => S
  | k + 1 => rpStep (rpQ B S k) ((tdF (4 - k / 16) ((rpQ B S k).getD 1 0) ((rpQ B S k).getD 2 0) ((rpQ B S k).getD 3 0) + leW B (othN.getD k 0)) + oaL.getD (k / 16) 0) (otnN.getD k 0)
def rpEnd (S p q : List Int32) : List Int32 := [(S.getD 1 0 + p.getD 2 0) + q.getD 3 0, (S.getD 2 0 + p.getD 3 0) + q.getD 4 0, (S.getD 3 0 + p.getD 4 0) + q.getD 0 0, (S.getD 4 0 + p.getD 0 0) + q.getD 1 0, (S.getD 0 0 + p.getD 1 0) + q.getD 2 0]
def rpBlk (B S : List Int32) : List Int32 := rpEnd S (rpP B S 80) (rpQ B S 80)
theorem rpP_len (B S : List Int32) (h : S.length = 5) : ∀ k, (rpP B S k).length = 5
  | 0 => h
  | k + 1 => rfl
theorem rpQ_len (B S : List Int32) (h : S.length = 5) : ∀ k, (rpQ B S k).length = 5
  | 0 => h
  | k + 1 => rfl
section Rip
variable {G : Gx} {d : Nat} {h : AH} {D : Nat}
theorem Dig_turned_spec (hd : 1 ≤ d) {j : Nat} (hj : j < 5) (x y z : Int32) : Cw G mX2_turned d 0 [vI (nI j), vI x, vI y, vI z] h (kI (fun r h' => r = tdF j x y z ∧ h' = h) nE) := by
  obtain ⟨d, rfl⟩ : ∃ d', d = d' + 1 := ⟨d - 1, by omega⟩
  have c5 : j = 0 ∨ j = 1 ∨ j = 2 ∨ j = 3 ∨ j = 4 := by omega
  refine eX2_turned h (nI j) x y z (fun _ => sX2_turned_0 h (nI j) x y z ?_)
  rcases c5 with rfl | rfl | rfl | rfl | rfl
  · exact ⟨fun _ => ⟨rfl, rfl⟩, fun q => absurd q (by decide), fun q => absurd q (by decide), fun q => absurd q (by decide), fun q => absurd rfl q.1⟩
  · exact ⟨fun q => absurd q (by decide), fun _ => ⟨rfl, rfl⟩, fun q => absurd q (by decide), fun q => absurd q (by decide), fun q => absurd rfl q.2.1⟩
  · exact ⟨fun q => absurd q (by decide), fun q => absurd q (by decide), fun _ => ⟨rfl, rfl⟩, fun q => absurd q (by decide), fun q => absurd rfl q.2.2.1⟩
  · exact ⟨fun q => absurd q (by decide), fun q => absurd q (by decide), fun q => absurd q (by decide), fun _ => ⟨rfl, rfl⟩, fun q => absurd rfl q.2.2.2⟩
  · exact ⟨fun q => absurd q (by decide), fun q => absurd q (by decide), fun q => absurd q (by decide), fun q => absurd q (by decide), fun _ => ⟨rfl, rfl⟩⟩
theorem five {L : List Int32} (h : L.length = 5) {a b c e f : Int32} (h0 : L.getD 0 0 = a) (h1 : L.getD 1 0 = b) (h2 : L.getD 2 0 = c) (h3 : L.getD 3 0 = e) (h4 : L.getD 4 0 = f) : L = [a, b, c, e, f] := by
  refine ext_getD (z := 0) (by rw [h]; rfl) (fun m hm => ?_)
  have c5 : m = 0 ∨ m = 1 ∨ m = 2 ∨ m = 3 ∨ m = 4 := by omega
  rcases c5 with rfl | rfl | rfl | rfl | rfl
  · exact h0
  · exact h1
  · exact h2
  · exact h3
  · exact h4
theorem Dig_step_spec {p : Nat} (hd : 2 ≤ d) (hk : h.kd p = 100) (hl : (h.ai p).length = 5) (more : Int32) {n : Nat} (hn : n < 32) (h0 : 0 < n) : Cw G mX2_step d 0 [vR p, vI more, vI (nI n)] h (kV (fun h' => h' = h.wi p (rpStep (h.ai p) more n)) nE) := by
  obtain ⟨d, rfl⟩ : ∃ d', d = d' + 1 := ⟨d - 1, by omega⟩
  have hd1 : 1 ≤ d := by omega
  refine eX2_step h p more (nI n) (fun _ => sX2_step_0 h p more (nI n) ?_)
  rw [hl, cl0]
  refine ⟨hk, pk_in 0 5 (by decide), (rotL_spec hd1 _ hn h0).nI (fun x3 h4 Q => ?_)⟩
  obtain ⟨rfl, rfl⟩ := Q
  rw [hl, cl4, cl3, cl2, cl1]
  refine ⟨pk_in 4 5 (by decide), fun u7 e7 => ⟨pk_in 4 5 (by decide), pk_in 0 5 (by decide), fun h10 e10 => ?_⟩⟩
  subst e10
  rw [AH.ai_wiS, AH.wi_wi, List.length_set, hl]
  refine ⟨pk_in 3 5 (by decide), pk_in 4 5 (by decide), fun h14 e14 => ?_⟩
  subst e14
  rw [AH.ai_wiS, List.length_set, List.length_set, hl]
  refine ⟨pk_in 2 5 (by decide), (rotL_spec hd1 _ (n := 10) (by decide) (by decide)).nI (fun x17 h18 Q => ?_)⟩
  obtain ⟨rfl, rfl⟩ := Q
  rw [AH.ai_wiS, AH.wi_wi, List.length_set, List.length_set, hl]
  refine ⟨pk_in 3 5 (by decide), fun h21 e21 => ?_⟩
  subst e21
  rw [AH.ai_wiS, AH.wi_wi, List.length_set, List.length_set, List.length_set, hl]
  refine ⟨pk_in 1 5 (by decide), pk_in 2 5 (by decide), fun h25 e25 => ?_⟩
  subst e25
  rw [AH.ai_wiS, AH.wi_wi, List.length_set, List.length_set, List.length_set, List.length_set, hl]
  refine ⟨pk_in 1 5 (by decide), fun h28 e28 => ?_⟩
  show h28 = _
  rw [e28]
  congr 1
  refine five (by simp only [List.length_set, hl]) ?_ ?_ ?_ ?_ ?_ <;> simp [getD_sif, hl, e7]
theorem rip_129 {Φ : Out → AH → Prop} {B S : List Int32} (hd : 2 ≤ d) (H : DgS h D) (T : DgT h D) (hW : ∀ i, i < 16 → (h.ai (D + 4)).getD i 0 = leW B i) (hS : h.ai (D + 5) = S) (h0 : AH)
    (hΦ : ∀ h1, Mod (fun x => x = D + 4 ∨ x = D + 5 ∨ x = D + 6 ∨ x = D + 7) h h1 → h1.ai (D + 5) = rpBlk B S → Φ (.inl none) h1) :
    ∀ k (_ : Unit), k ≤ 80 → True → Aw G mX2_mixRipe (d + 1) 0 h0 Φ 129 [vR D, vR (D + 6), vR (D + 7), vI (nI k)] [] ((h.wi (D + 6) (rpP B S k)).wi (D + 7) (rpQ B S k)) := by
  have H' := H
  obtain ⟨kD, ⟨r0, r1, r2, r3, r4, r5, r6, r7, r8, r9, r10, r11, r12, r13, r14⟩, ⟨k1, k2, k3, k4, k5, k6, k7, k8, k9, k10, k11, k12, k13, k14, k15⟩, ⟨l1, l2, l3, l4, l5, l6, l7, l8, l9, l10, l11, l12, l13, l14, l15⟩⟩ := H
  obtain ⟨t10, t11, t12, t13, t14, t15⟩ := T
  have S5 : S.length = 5 := by rw [← hS, l5]
  have hd1 : 1 ≤ d := by omega
  have n67 : D + 6 ≠ D + 7 := by omega
  have n57 : D + 5 ≠ D + 7 := by omega
  have n56 : D + 5 ≠ D + 6 := by omega
  have n65 : D + 6 ≠ D + 5 := by omega
  have n75 : D + 7 ≠ D + 5 := by omega
  have n47 : D + 4 ≠ D + 7 := by omega
  have n46 : D + 4 ≠ D + 6 := by omega
  have m7 : D + 10 ≠ D + 7 ∧ D + 11 ≠ D + 7 ∧ D + 12 ≠ D + 7 ∧ D + 13 ≠ D + 7 ∧ D + 14 ≠ D + 7 ∧ D + 15 ≠ D + 7 := by omega
  have m6 : D + 10 ≠ D + 6 ∧ D + 11 ≠ D + 6 ∧ D + 12 ≠ D + 6 ∧ D + 13 ≠ D + 6 ∧ D + 14 ≠ D + 6 ∧ D + 15 ≠ D + 6 := by omega
  have e80 : ordN.length = 80 ∧ othN.length = 80 ∧ trnN.length = 80 ∧ otnN.length = 80 := by decide
  refine loop_uc (n := 80) (P := fun k _ => Aw G mX2_mixRipe (d + 1) 0 h0 Φ 129 [vR D, vR (D + 6), vR (D + 7), vI (nI k)] [] ((h.wi (D + 6) (rpP B S k)).wi (D + 7) (rpQ B S k))) _ (fun k _ hk _ ih => ?_)
  have lp := rpP_len B S S5 k
  have lq := rpQ_len B S S5 k
  have M1 : Mod (fun x => x = D + 4 ∨ x = D + 5 ∨ x = D + 6 ∨ x = D + 7) h ((h.wi (D + 6) (rpP B S k)).wi (D + 7) (rpQ B S k)) := (Mod.wi (by rw [lp, l6]) (by omega)).trans (Mod.wi (by rw [lq, AH.ai_wiN (fun e => n67 e.symm), l7]) (by omega))
  refine sX2_mixRipe_129 _ D (D + 6) (D + 7) (nI k) (pk_le 80 k (fun h80 => ⟨kD, fun q3 e3 => ?_⟩) (fun h80 => ?_))
  · have : k = 80 := by omega
    subst this
    have a5 : ((h.wi (D + 6) (rpP B S 80)).wi (D + 7) (rpQ B S 80)).ai (D + 5) = S := by rw [AH.ai_wiN n57, AH.ai_wiN n56, hS]
    have a6 : ((h.wi (D + 6) (rpP B S 80)).wi (D + 7) (rpQ B S 80)).ai (D + 6) = rpP B S 80 := by rw [AH.ai_wiN n67, AH.ai_wiS]
    have a7 : ((h.wi (D + 6) (rpP B S 80)).wi (D + 7) (rpQ B S 80)).ai (D + 7) = rpQ B S 80 := AH.ai_wiS _ _ _
    rw [e3.trans r4]
    generalize (h.wi (D + 6) (rpP B S 80)).wi (D + 7) (rpQ B S 80) = h1 at *
    rw [a5, a6, a7, S5, lp, lq, cl0, cl1, cl2, cl3, cl4]
    refine ⟨by rw [M1.kd]; exact k5, pk_in 1 5 (by decide), by rw [M1.kd]; exact k6, pk_in 2 5 (by decide), by rw [M1.kd]; exact k7, pk_in 3 5 (by decide), fun u10 e10 => ⟨pk_in 2 5 (by decide), pk_in 3 5 (by decide), pk_in 4 5 (by decide), pk_in 1 5 (by decide), fun h15 e15 => ?_⟩⟩
    subst e15
    rw [AH.ai_wiS, AH.ai_wiN n65, AH.ai_wiN n75, AH.wi_wi, a6, a7, List.length_set, S5, lp, lq]
    refine ⟨pk_in 3 5 (by decide), pk_in 4 5 (by decide), pk_in 0 5 (by decide), pk_in 2 5 (by decide), fun h26 e26 => ?_⟩
    subst e26
    rw [AH.ai_wiS, AH.ai_wiN n65, AH.ai_wiN n75, AH.wi_wi, a6, a7, List.length_set, List.length_set, S5, lp, lq]
    refine ⟨pk_in 4 5 (by decide), pk_in 0 5 (by decide), pk_in 1 5 (by decide), pk_in 3 5 (by decide), fun h36 e36 => ?_⟩
    subst e36
    rw [AH.ai_wiS, AH.ai_wiN n65, AH.ai_wiN n75, AH.wi_wi, a6, a7, List.length_set, List.length_set, List.length_set, S5, lp, lq]
    refine ⟨pk_in 0 5 (by decide), pk_in 1 5 (by decide), pk_in 2 5 (by decide), pk_in 4 5 (by decide), fun h46 e46 => ?_⟩
    subst e46
    rw [AH.ai_wiS, AH.wi_wi, List.length_set, List.length_set, List.length_set, List.length_set, S5]
    refine ⟨pk_in 0 5 (by decide), fun h51 e51 => ?_⟩
    subst e51
    refine hΦ _ (M1.trans (Mod.wi (by simp only [List.length_set, S5, a5]) (by omega))) ?_
    rw [AH.ai_wiS, rpBlk, rpEnd]
    refine five (by simp only [List.length_set, S5]) ?_ ?_ ?_ ?_ ?_ <;> simp [getD_sif, S5, e10]
  · obtain ⟨x1, x2, x3, x4, x5, x6⟩ := ordN_lt k h80
    have hk16 : k / 16 < 5 := by omega
    have a6 : ((h.wi (D + 6) (rpP B S k)).wi (D + 7) (rpQ B S k)).ai (D + 6) = rpP B S k := by rw [AH.ai_wiN n67, AH.ai_wiS]
    rw [a6, lp, cl1, cl2, cl3, show (16 : Int32) = nI 16 from rfl, pk_div (by omega) (by decide) (by decide), pk_cl k, pk_cl (k / 16) rfl (by omega), show (4 : Int32) = nI 4 from rfl, pk_sub (by omega)]
    refine ⟨k6, pk_in 1 5 (by decide), pk_in 2 5 (by decide), pk_in 3 5 (by decide), (Dig_turned_spec hd1 hk16 _ _ _).nI (fun x56 h57 Q => ?_)⟩
    obtain ⟨rfl, rfl⟩ := Q
    refine ⟨kD, fun q59 e59 q60 e60 => ?_⟩
    rw [e59.trans r3, e60.trans r9, AH.ai_wiN m7.1, AH.ai_wiN m6.1, t10, List.length_map, e80.1, map_getD, AH.ai_wiN n47, AH.ai_wiN n46, l4, pk_cl (ordN.getD k 0) rfl (by omega), hW _ x1]
    refine ⟨k10, pk_in k 80 h80, k4, pk_in (ordN.getD k 0) 64 (by omega), fun q65 e65 => ?_⟩
    rw [e65.trans r13, AH.ai_wiN m7.2.2.2.2.1, AH.ai_wiN m6.2.2.2.2.1, t14]
    refine ⟨k14, pk_in (k / 16) 5 hk16, fun q68 e68 => ?_⟩
    rw [e68.trans r11, AH.ai_wiN m7.2.2.1, AH.ai_wiN m6.2.2.1, t12, List.length_map, e80.2.2.1, map_getD]
    refine ⟨k12, pk_in k 80 h80, (Dig_step_spec (h := (h.wi (D + 6) (rpP B S k)).wi (D + 7) (rpQ B S k)) hd k6 (by rw [a6, lp]) _ x3 x4).nV (fun h72 Q => ?_)⟩
    have e72 : h72 = (h.wi (D + 6) (rpP B S (k + 1))).wi (D + 7) (rpQ B S k) := by
      rw [Q, a6, AH.wi_comm _ _ _ (fun e => n67 e.symm), AH.wi_wi]
      rfl
    clear Q
    subst e72
    rw [AH.ai_wiS, lq]
    refine ⟨k7, pk_in 1 5 (by decide), pk_in 2 5 (by decide), pk_in 3 5 (by decide), (Dig_turned_spec hd1 (show 4 - k / 16 < 5 by omega) _ _ _).nI (fun x77 h78 Q => ?_)⟩
    obtain ⟨rfl, rfl⟩ := Q
    intro q84 e84
    rw [e84.trans r10, AH.ai_wiN m7.2.1, AH.ai_wiN m6.2.1, t11, List.length_map, e80.2.1, map_getD, AH.ai_wiN n47, AH.ai_wiN n46, l4, pk_cl (othN.getD k 0) rfl (by omega), hW _ x2]
    refine ⟨k11, pk_in k 80 h80, pk_in (othN.getD k 0) 64 (by omega), fun q90 e90 => ?_⟩
    rw [e90.trans r14, AH.ai_wiN m7.2.2.2.2.2, AH.ai_wiN m6.2.2.2.2.2, t15]
    refine ⟨k15, pk_in (k / 16) 5 hk16, fun q93 e93 => ?_⟩
    rw [e93.trans r12, AH.ai_wiN m7.2.2.2.1, AH.ai_wiN m6.2.2.2.1, t13, List.length_map, e80.2.2.2, map_getD]
    refine ⟨k13, pk_in k 80 h80, (Dig_step_spec (h := (h.wi (D + 6) (rpP B S (k + 1))).wi (D + 7) (rpQ B S k)) hd k7 (by rw [AH.ai_wiS, lq]) _ x5 x6).nV (fun h97 Q => ?_)⟩
    have e97 : h97 = (h.wi (D + 6) (rpP B S (k + 1))).wi (D + 7) (rpQ B S (k + 1)) := by
      rw [Q, AH.ai_wiS, AH.wi_wi]
      rfl
    clear Q
    subst e97
    rw [nI_1]
    exact ih h80 () trivial
theorem Dig_mixRipe_spec (hd : 3 ≤ d) (H : DgS h D) (T : DgT h D) : Cw G mX2_mixRipe d 0 [vR D] h (kV (fun h' => Mod (fun x => x = D + 4 ∨ x = D + 5 ∨ x = D + 6 ∨ x = D + 7) h h' ∧ h'.ai (D + 5) = rpBlk (h.ai (D + 8)) (h.ai (D + 5))) nE) := by
  obtain ⟨d, rfl⟩ : ∃ d', d = d' + 1 := ⟨d - 1, by omega⟩
  have hd2 : 2 ≤ d := by omega
  have H' := H
  obtain ⟨kD, ⟨r0, r1, r2, r3, r4, r5, r6, r7, r8, r9, r10, r11, r12, r13, r14⟩, ⟨k1, k2, k3, k4, k5, k6, k7, k8, k9, k10, k11, k12, k13, k14, k15⟩, ⟨l1, l2, l3, l4, l5, l6, l7, l8, l9, l10, l11, l12, l13, l14, l15⟩⟩ := H
  have S5 : (h.ai (D + 5)).length = 5 := l5
  have n84 : D + 8 ≠ D + 4 := by omega
  have n54 : D + 5 ≠ D + 4 := by omega
  have n57 : D + 5 ≠ D + 7 := by omega
  have n56 : D + 5 ≠ D + 6 := by omega
  have n67 : D + 6 ≠ D + 7 := by omega
  have n76 : D + 7 ≠ D + 6 := by omega
  have m4 : D + 10 ≠ D + 4 ∧ D + 11 ≠ D + 4 ∧ D + 12 ≠ D + 4 ∧ D + 13 ≠ D + 4 ∧ D + 14 ≠ D + 4 ∧ D + 15 ≠ D + 4 := by omega
  refine eX2_mixRipe h D (fun _ => sX2_mixRipe_0 h D ?_)
  generalize hΦ : (kV (fun h' => Mod (fun x => x = D + 4 ∨ x = D + 5 ∨ x = D + 6 ∨ x = D + 7) h h' ∧ h'.ai (D + 5) = rpBlk (h.ai (D + 8)) (h.ai (D + 5))) nE) = Φ
  have key := loop_uc (n := 16) (P := fun k W => Aw G mX2_mixRipe (d + 1) 0 h Φ 2 [vR D, vI (nI k), vU, vU] [] (h.wi (D + 4) W))
    (fun k W => W.length = 64 ∧ ∀ i, i < k → W.getD i 0 = leW (h.ai (D + 8)) i) (fun k W hk hI ih => ?_) 0 (h.ai (D + 4)) (by omega) ⟨l4, fun i hi => absurd hi (by omega)⟩
  · rw [AH.wi_self] at key; exact key
  obtain ⟨lW, hW⟩ := hI
  have M1 : Mod (fun x => x = D + 4 ∨ x = D + 5 ∨ x = D + 6 ∨ x = D + 7) h (h.wi (D + 4) W) := Mod.wi (by rw [lW, l4]) (by omega)
  refine sX2_mixRipe_2 _ D (nI k) (pk_le 16 k (fun h16 => ⟨kD, fun q3 e3 q4 e4 => ?_⟩) (fun h16 => ⟨kD, fun q6 e6 q7 e7 => ?_⟩))
  · have : k = 16 := by omega
    subst this
    rw [e3.trans r5, e4.trans r6]
    have a5 : (h.wi (D + 4) W).ai (D + 5) = h.ai (D + 5) := AH.ai_wiN n54
    have aW : (h.wi (D + 4) W).ai (D + 4) = W := AH.ai_wiS _ _ _
    have H1 := H'.mod M1
    have T1 : DgT (h.wi (D + 4) W) D := by
      unfold DgT
      rw [AH.ai_wiN m4.1, AH.ai_wiN m4.2.1, AH.ai_wiN m4.2.2.1, AH.ai_wiN m4.2.2.2.1, AH.ai_wiN m4.2.2.2.2.1, AH.ai_wiN m4.2.2.2.2.2]
      exact T
    generalize h.wi (D + 4) W = h1 at *
    have l51 : (h1.ai (D + 5)).length = 5 := by rw [a5, l5]
    have l61 := H1.2.2.2.2.2.2.2.2.1
    have l71 := H1.2.2.2.2.2.2.2.2.2.1
    have key2 := loop_uc (n := 5) (P := fun k (_ : Unit) => Aw G mX2_mixRipe (d + 1) 0 h Φ 98 [vR D, vR (D + 6), vR (D + 7), vI (nI k)] [] ((h1.wi (D + 6) (cpD (h1.ai (D + 5)) (h1.ai (D + 6)) k)).wi (D + 7) (cpD (h1.ai (D + 5)) (h1.ai (D + 7)) k)))
      (fun _ _ => True) (fun k _ hk _ ih2 => ?_) 0 () (by omega) trivial
    · unfold cpD at key2
      rw [putB_0, putB_0, AH.wi_self, AH.wi_self] at key2
      exact key2
    · have b5 : ((h1.wi (D + 6) (cpD (h1.ai (D + 5)) (h1.ai (D + 6)) k)).wi (D + 7) (cpD (h1.ai (D + 5)) (h1.ai (D + 7)) k)).ai (D + 5) = h1.ai (D + 5) := by rw [AH.ai_wiN n57, AH.ai_wiN n56]
      have b6 : ((h1.wi (D + 6) (cpD (h1.ai (D + 5)) (h1.ai (D + 6)) k)).wi (D + 7) (cpD (h1.ai (D + 5)) (h1.ai (D + 7)) k)).ai (D + 6) = cpD (h1.ai (D + 5)) (h1.ai (D + 6)) k := by rw [AH.ai_wiN n67, AH.ai_wiS]
      have full : ∀ T : List Int32, T.length = 5 → cpD (h1.ai (D + 5)) T 5 = h1.ai (D + 5) := by
        intro T hT
        unfold cpD
        refine ext_getD (z := 0) (by rw [putB_len, hT, a5, l5]) (fun i hi => ?_)
        rw [putB_len, hT] at hi
        rw [putB_getD _ _ _ _ (by omega), if_pos (by omega)]
        rfl
      refine sX2_mixRipe_98 _ D (D + 6) (D + 7) (nI k) (pk_le 5 k (fun h5 => ?_) (fun h5 => ⟨H1.1, fun q3 e3 => ?_⟩))
      · have : k = 5 := by omega
        subst this
        rw [full _ l61, full _ l71, a5]
        refine rip_129 (B := h.ai (D + 8)) (S := h.ai (D + 5)) hd2 H1 T1 (fun i hi => by rw [aW]; exact hW i hi) a5 h ?_ 0 () (by omega) trivial
        intro h2 M2 e2
        rw [← hΦ]
        exact ⟨M1.trans M2, e2⟩
      · rw [e3.trans H1.2.1.2.2.2.2.1, b5, b6, l51, pk_cl k, nI_1]
        unfold cpD
        rw [putB_len, l61]
        refine ⟨H1.2.2.1.2.2.2.2.1, pk_in k 5 h5, H1.2.2.1.2.2.2.2.2.1, pk_in k 5 h5, fun h8 e8 => ?_⟩
        have e8' : h8 = (h1.wi (D + 6) (cpD (h1.ai (D + 5)) (h1.ai (D + 6)) (k + 1))).wi (D + 7) (cpD (h1.ai (D + 5)) (h1.ai (D + 7)) k) := by
          have e := putB_succ (L := h1.ai (D + 6)) (off := 0) (n := k) (g := fun i => (h1.ai (D + 5)).getD i 0) (x := (h1.ai (D + 5)).getD k 0) (by omega) rfl
          rw [Nat.zero_add] at e
          rw [e8, AH.wi_comm _ _ _ n76, AH.wi_wi, e]
          rfl
        clear e8
        subst e8'
        rw [AH.ai_wiN n57, AH.ai_wiN n56, AH.ai_wiS, AH.wi_wi, l51]
        unfold cpD
        rw [putB_len, l71]
        refine ⟨pk_in k 5 h5, H1.2.2.1.2.2.2.2.2.2.1, pk_in k 5 h5, fun h16 e16 => ?_⟩
        have e := putB_succ (L := h1.ai (D + 7)) (off := 0) (n := k) (g := fun i => (h1.ai (D + 5)).getD i 0) (x := (h1.ai (D + 5)).getD k 0) (by omega) rfl
        rw [Nat.zero_add] at e
        rw [e16, e]
        exact ih2 h5 () trivial
  · rw [e6.trans r3, e7.trans r7, AH.ai_wiN n84, AH.ai_wiS, AH.wi_wi, l8, lW, show (4 : Int32) = nI 4 from rfl, pk_mul, nI_1, show (2 : Int32) = nI 2 from rfl, show (3 : Int32) = nI 3 from rfl, nI_add, nI_add, pk_cl (4 * k) rfl (by omega), pk_cl (4 * k + 1) rfl (by omega), pk_cl (4 * k + 2) rfl (by omega), pk_cl (4 * k + 3) rfl (by omega), pk_cl k, nI_1]
    refine ⟨k8, pk_in (4 * k) 64 (by omega), pk_in (4 * k + 1) 64 (by omega), pk_in (4 * k + 2) 64 (by omega), pk_in (4 * k + 3) 64 (by omega), k4, pk_in k 64 (by omega), fun h15 e15 => ?_⟩
    rw [e15]
    refine ih h16 _ ⟨by rw [List.length_set, lW], fun i hi => ?_⟩
    by_cases e : i = k
    · subst e
      rw [getD_set_eq (by omega)]
      rfl
    · rw [getD_set_ne e]
      exact hW i (by omega)
end Rip

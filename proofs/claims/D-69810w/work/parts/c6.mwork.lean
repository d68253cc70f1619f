/-! the work of a target, the reference -/
set_option maxRecDepth 100000
/-- three rows of a heap -/
def w3H (g : AH) (a b c : Nat) (A B C : List Int32) : AH := ((g.wi a A).wi b B).wi c C
section W3
variable {g : AH} {a b c : Nat} {A B C X : List Int32}
theorem w3_c : (w3H g a b c A B C).ai c = C := AH.ai_wiS ..
theorem w3_b (bc : b ≠ c) : (w3H g a b c A B C).ai b = B := by
  unfold w3H
  rw [AH.ai_wiN bc, AH.ai_wiS]
theorem w3_a (ab : a ≠ b) (ac : a ≠ c) : (w3H g a b c A B C).ai a = A := by
  unfold w3H
  rw [AH.ai_wiN ac, AH.ai_wiN ab, AH.ai_wiS]
theorem w3_o {y : Nat} (h1 : y ≠ a) (h2 : y ≠ b) (h3 : y ≠ c) : (w3H g a b c A B C).ai y = g.ai y := by
  unfold w3H
  rw [AH.ai_wiN h3, AH.ai_wiN h2, AH.ai_wiN h1]
theorem w3_wc : (w3H g a b c A B C).wi c X = w3H g a b c A B X := AH.wi_wi ..
theorem w3_wb (bc : b ≠ c) : (w3H g a b c A B C).wi b X = w3H g a b c A X C := by
  unfold w3H
  rw [AH.wi_comm _ _ _ (fun e => bc e.symm), AH.wi_wi]
theorem w3_wa (ab : a ≠ b) (ac : a ≠ c) : (w3H g a b c A B C).wi a X = w3H g a b c X B C := by
  unfold w3H
  rw [AH.wi_comm _ _ _ (fun e => ac e.symm), AH.wi_comm _ _ _ (fun e => ab e.symm), AH.wi_wi]
theorem w3_wo {y : Nat} (h1 : y ≠ a) (h2 : y ≠ b) (h3 : y ≠ c) : (w3H g a b c A B C).wi y X = w3H (g.wi y X) a b c A B C := by
  unfold w3H
  rw [AH.wi_comm _ _ _ (fun e => h3 e.symm), AH.wi_comm _ _ _ (fun e => h2 e.symm), AH.wi_comm _ _ _ (fun e => h1 e.symm)]
theorem w3_row {y : Nat} (H : RowAt g y) (la : A.length = 8) (lb_ : B.length = 8) (lc : C.length = 8) : RowAt (w3H g a b c A B C) y := by
  refine ⟨H.1, ?_⟩
  by_cases h3 : y = c
  · rw [h3, w3_c, lc]
  · unfold w3H
    rw [AH.ai_wiN h3]
    by_cases h2 : y = b
    · rw [h2, AH.ai_wiS, lb_]
    · rw [AH.ai_wiN h2]
      by_cases h1 : y = a
      · rw [h1, AH.ai_wiS, la]
      · rw [AH.ai_wiN h1]
        exact H.2
end W3
section MWork
variable {G : Gx} {d : Nat} {h : AH} {M tr to_ gr on_ re T : Nat}
theorem lb1_g (i : Nat) (hi : i < 8) : (lb 1).getD i 0 = if i = 0 then 1 else 0 := by
  match i, hi with
  | 0, _ => rfl
  | 1, _ => rfl
  | 2, _ => rfl
  | 3, _ => rfl
  | 4, _ => rfl
  | 5, _ => rfl
  | 6, _ => rfl
  | 7, _ => rfl
theorem lb0_g (i : Nat) (hi : i < 8) : (lb 0).getD i 0 = 0 := by
  rw [lb_getD _ hi, Nat.zero_div]
  rfl
set_option maxHeartbeats 1000000 in
theorem MD_work_spec' (hd : 2 ≤ d) (kM : h.kd M = 24) (r43 : h.r 24043 M = gr) (r44 : h.r 24044 M = on_) (r45 : h.r 24045 M = re) (h1 : RowAt h tr) (h2 : RowAt h to_) (h3 : RowAt h gr) (h4 : RowAt h on_) (h5 : RowAt h re) (d1 : tr ≠ on_ ∧ tr ≠ re ∧ tr ≠ to_ ∧ tr ≠ gr) (d2 : gr ≠ on_ ∧ gr ≠ re ∧ gr ≠ to_) (d3 : on_ ≠ re ∧ on_ ≠ to_ ∧ re ≠ to_) (eT : h.ai tr = lb T) (hT : T + 1 < 4294967296 ^ 8) :
    Cw G mX24_work d 0 [vR M, vR tr, vR to_] h (kV (fun h' => Mod (fun y => y = gr ∨ y = on_ ∨ y = re ∨ y = to_) h h' ∧ h'.ai to_ = lb (wkN T)) nE) := by
  obtain ⟨d, rfl⟩ : ∃ d', d = d' + 1 := ⟨d - 1, by omega⟩
  have hd1 : 1 ≤ d := by omega
  refine eX24_work h M tr to_ (fun _ => sX24_work_0 h M tr to_ ?_)
  obtain ⟨g, hg⟩ : ∃ g, g = h.wi gr (lb (T + 1)) := ⟨_, rfl⟩
  have g1 : ∀ {y : Nat}, RowAt h y → RowAt g y := fun {y} H => by
    rw [hg]
    refine ⟨H.1, ?_⟩
    by_cases c : y = gr
    · rw [c, AH.ai_wiS, lb_len]
    · rw [AH.ai_wiN c]; exact H.2
  have gT : g.ai tr = lb T := by rw [hg, AH.ai_wiN d1.2.2.2]; exact eT
  have gB : g.ai gr = lb (T + 1) := by rw [hg, AH.ai_wiS]
  have gM : g.kd M = 24 := by rw [hg]; exact kM
  have g44 : g.r 24044 M = on_ := by rw [hg]; exact r44
  have g45 : g.r 24045 M = re := by rw [hg]; exact r45
  have lo : (lb 1).length = 8 := lb_len _
  -- the division
  have hAlt : 4294967296 ^ 8 - 1 - T < 4294967296 ^ 8 := by omega
  have main : ∀ (k : Nat) (c R : Nat), k ≤ 256 → (4294967296 ^ 8 - 1 - T) / 2 ^ k = c * (T + 1) + R → R < T + 1 → Aw G mX24_work (d + 1) 0 h (kV (fun h' => Mod (fun y => y = gr ∨ y = on_ ∨ y = re ∨ y = to_) h h' ∧ h'.ai to_ = lb (wkN T)) nE) 60 [vR M, vR tr, vR to_, vR gr, vI (dI k), vU] [] (w3H g on_ re to_ (lb 1) (lb R) (lb (c * 2 ^ k))) := by
    intro k
    induction k with
    | zero =>
      intro c R _ hA hR
      rw [Nat.pow_zero, Nat.div_one] at hA
      have eQ : (4294967296 ^ 8 - 1 - T) / (T + 1) = c := by
        rw [hA, Nat.mul_comm, Nat.mul_add_div (by omega), Nat.div_eq_of_lt hR, Nat.add_zero]
      have hc : c < 4294967296 ^ 8 := by
        rw [← eQ]
        exact Nat.lt_of_le_of_lt (Nat.div_le_self _ _) hAlt
      refine sX24_work_60 _ M tr to_ gr (dI 0) ⟨fun _ => ⟨gM, fun r3 e3 => ?_⟩, fun q => absurd (by decide) q⟩
      rw [show r3 = on_ from e3.trans g44]
      refine (Row_plus_spec hd1 (w3_row (g1 h2) lo (lb_len _) (lb_len _)) (w3_row (g1 h4) lo (lb_len _) (lb_len _)) (w3_row (g1 h2) lo (lb_len _) (lb_len _))).nJ (fun x4 h5' Q => ?_)
      obtain ⟨_, e5⟩ := Q
      rw [Nat.pow_zero, Nat.mul_one, bv_of w3_c hc, bv_of (w3_a d3.1 d3.2.1) (by decide), w3_wc] at e5
      refine ⟨?_, by rw [e5, w3_c]; unfold wkN; rw [eQ]⟩
      rw [e5]
      unfold w3H
      rw [hg]
      have la : ∀ {y : Nat} (L : List Int32) (h' : AH), L.length = 8 → (h'.ai y).length = 8 → L.length = (h'.ai y).length := fun L h' q1 q2 => by rw [q1, q2]
      have m1 : Mod (fun y => y = gr ∨ y = on_ ∨ y = re ∨ y = to_) h (h.wi gr (lb (T + 1))) := Mod.wi (by rw [lb_len, h3.2]) (Or.inl rfl)
      have m2 : Mod (fun y => y = gr ∨ y = on_ ∨ y = re ∨ y = to_) (h.wi gr (lb (T + 1))) ((h.wi gr (lb (T + 1))).wi on_ (lb 1)) := Mod.wi (by rw [lb_len, m1.len, h4.2]) (Or.inr (Or.inl rfl))
      have m3 : Mod (fun y => y = gr ∨ y = on_ ∨ y = re ∨ y = to_) ((h.wi gr (lb (T + 1))).wi on_ (lb 1)) (((h.wi gr (lb (T + 1))).wi on_ (lb 1)).wi re (lb R)) := Mod.wi (by rw [lb_len, (m1.trans m2).len, h5.2]) (Or.inr (Or.inr (Or.inl rfl)))
      exact ((m1.trans m2).trans m3).trans (Mod.wi (by rw [lb_len, ((m1.trans m2).trans m3).len, h2.2]) (Or.inr (Or.inr (Or.inr rfl))))
    | succ k ih =>
      intro c R hk hA hR
      have k32 : k / 32 < 8 := by omega
      have bA : (4294967296 ^ 8 - 1 - T) / 2 ^ k = 2 * ((4294967296 ^ 8 - 1 - T) / 2 ^ (k + 1)) + (4294967296 ^ 8 - 1 - T) / 2 ^ k % 2 := by
        rw [show (2 : Nat) ^ (k + 1) = 2 ^ k * 2 from Nat.pow_succ 2 k, ← Nat.div_div_eq_div_mul]
        omega
      have hbit : (4294967296 ^ 8 - 1 - T) / 2 ^ k % 2 < 2 := Nat.mod_lt _ (by decide)
      have hAk : (4294967296 ^ 8 - 1 - T) / 2 ^ k = (2 * c) * (T + 1) + (2 * R + (4294967296 ^ 8 - 1 - T) / 2 ^ k % 2) := by
        rw [hA, Nat.mul_add, ← Nat.mul_assoc] at bA
        omega
      have eQ : c * 2 ^ (k + 1) = (2 * c) * 2 ^ k := by rw [Nat.pow_succ, ← Nat.mul_assoc, Nat.mul_comm (c * 2 ^ k) 2, ← Nat.mul_assoc]
      have hRl : R < 4294967296 ^ 8 := by omega
      -- the bit that comes
      have ebit : jshr ((lb T).getD (k / 32) 0 ^^^ (-1)) (nI (k % 32)) &&& 1 = nI ((4294967296 ^ 8 - 1 - T) / 2 ^ k % 2) := by
        have eg : (lb (4294967296 ^ 8 - 1 - T)).getD (k / 32) 0 = (lb T).getD (k / 32) 0 ^^^ (-1) := by
          have := lb_not (T := T) (by omega) (L := (List.range 8).map (fun i => (lb T).getD i 0 ^^^ (-1))) (mapR_len _ _) (fun i hi => mapR_getD hi)
          rw [← this, mapR_getD k32]
        rw [← eg, lb_getD _ k32, jshr_bit _ (Nat.mod_lt _ (by decide)), u32_nI, bit_nat]
      generalize hbt : (4294967296 ^ 8 - 1 - T) / 2 ^ k % 2 = bt at *
      generalize hA' : 4294967296 ^ 8 - 1 - T = A at *
      rw [eQ, dI_succ]
      have at136 : ∀ low, low < 4294967296 ^ 8 → T + 1 ≤ 2 * R + bt → low % 4294967296 ^ 8 = (2 * R + bt) % 4294967296 ^ 8 → Aw G mX24_work (d + 1) 0 h (kV (fun h' => Mod (fun y => y = gr ∨ y = on_ ∨ y = re ∨ y = to_) h h' ∧ h'.ai to_ = lb (wkN T)) nE) 136 [vR M, vR tr, vR to_, vR gr, vI (nI k), vU] [] (w3H g on_ re to_ (lb 1) (lb low) (lb ((2 * c) * 2 ^ k))) := fun low hlow hge hmod => by
        refine sX24_work_136 _ M tr to_ gr (nI k) ⟨gM, fun r2 e2 => ?_⟩
        rw [show r2 = re from e2.trans g45]
        have rr := w3_row (a := on_) (b := re) (c := to_) (g1 h5) lo (lb_len low) (lb_len (2 * c * 2 ^ k))
        have rg := w3_row (a := on_) (b := re) (c := to_) (g1 h3) lo (lb_len low) (lb_len (2 * c * 2 ^ k))
        refine (Row_less_spec hd1 rr rg rr).nJ (fun x3 h4' Q => ?_)
        obtain ⟨_, e4⟩ := Q
        have vg : bv (w3H g on_ re to_ (lb 1) (lb low) (lb (2 * c * 2 ^ k))) gr = T + 1 := bv_of (by rw [w3_o d2.1 d2.2.1 d2.2.2]; exact gB) hT
        rw [bv_of (w3_b d3.2.2) hlow, vg, w3_wb d3.2.2] at e4
        have e3 : lb (low + 4294967296 ^ 8 - (T + 1)) = lb (2 * R + bt - (T + 1)) := lb_congr (by omega)
        rw [e3] at e4
        rw [e4]
        have hc : 2 * c * 2 ^ k < 4294967296 ^ 8 := by
          have : 2 * c * 2 ^ k ≤ A := by
            have q1 : 2 * c ≤ A / 2 ^ k := by
              rw [hAk]
              have : 2 * c * 1 ≤ 2 * c * (T + 1) := Nat.mul_le_mul_left _ (by omega)
              omega
            have q2 := Nat.mul_le_mul_right (2 ^ k) q1
            exact Nat.le_trans q2 (Nat.div_mul_le_self _ _)
          omega
        rw [w3_c, lb_len, show (32 : Int32) = nI 32 from rfl, pk_div (by omega) (by decide) (by decide), pk_cl (k / 32) rfl (by omega), jrem_n (by omega) (by decide) (by decide), show jshl 1 (nI (k % 32)) = nI (1 * 2 ^ (k % 32)) from jshl_n 1 (by omega)]
        refine ⟨(g1 h2).1, pk_in (k / 32) 8 k32, pk_in (k / 32) 8 k32, fun h8 e8 => ?_⟩
        rw [lb_or (X := 1) (c := 1) hc k32 (by omega) (by
          rw [show 32 * (k / 32) + k % 32 = k by omega, Nat.mul_div_cancel _ (Nat.pow_pos (by decide))]
          omega) (by decide) rfl, show 32 * (k / 32) + k % 32 = k by omega, w3_wc] at e8
        rw [e8, show nI k + -1 = dI k from rfl]
        have := ih (2 * c + 1) (2 * R + bt - (T + 1)) (by omega) (by rw [hAk, Nat.add_mul]; omega) (by omega)
        rw [Nat.add_mul] at this
        exact this
      have rr := w3_row (a := on_) (b := re) (c := to_) (g1 h5) lo (lb_len R) (lb_len (2 * c * 2 ^ k))
      have hm : 2 * R % 4294967296 ^ 8 < 4294967296 ^ 8 := Nat.mod_lt _ (by decide)
      have lowlt : 2 * R % 4294967296 ^ 8 + bt < 4294967296 ^ 8 := by
        have : 2 * R % 4294967296 ^ 8 % 2 = 0 := by omega
        omega
      refine sX24_work_60 _ M tr to_ gr (nI k) (pk_lt k 0 (fun q => absurd q (Nat.not_lt_zero _)) (fun _ => ⟨gM, fun r7 e7 => ?_⟩))
      rw [show r7 = re from e7.trans g45, w3_b d3.2.2, lb_len]
      refine ⟨(g1 h5).1, pk_in 7 8 (by decide), fun u10 e10 => (Row_plus_spec hd1 rr rr rr).nJ (fun x11 h12 Q => ?_)⟩
      obtain ⟨_, e12⟩ := Q
      rw [bv_of (w3_b d3.2.2) hRl, w3_wb d3.2.2, show R + R = 2 * R by omega, ← lb_mod (2 * R)] at e12
      have eu : u10 = nI (R / 2 ^ 255) := by
        rw [e10, show (7 : Int32).toNatClampNeg = 7 from rfl, lb_getD _ (by decide), show (31 : Int32) = nI 31 from rfl, jushr_x _ (by decide), u32_nI, show R / 4294967296 ^ 7 % 4294967296 = R / 4294967296 ^ 7 from Nat.mod_eq_of_lt (Nat.div_lt_of_lt_mul hRl), Nat.div_div_eq_div_mul]
      have gt : (w3H g on_ re to_ (lb 1) (lb (2 * R % 4294967296 ^ 8)) (lb (2 * c * 2 ^ k))).ai tr = lb T := by
        rw [w3_o d1.1 d1.2.1 d1.2.2.1]
        exact gT
      rw [e12, w3_b d3.2.2, gt, lb_len, lb_len, show (32 : Int32) = nI 32 from rfl, pk_div (by omega) (by decide) (by decide), pk_cl (k / 32) rfl (by omega), jrem_n (by omega) (by decide) (by decide), ebit, show ((0 : Int32).toNatClampNeg) = 0 from rfl]
      refine ⟨pk_in 0 8 (by decide), (g1 h1).1, pk_in (k / 32) 8 k32, pk_in 0 8 (by decide), fun h21 e21 => ?_⟩
      rw [lb_or (n := 2 * R % 4294967296 ^ 8) (X := bt) (q := 0) (r := 0) (c := 1) hm (by decide) (by decide) (by rw [Nat.mul_zero, Nat.add_zero, Nat.pow_zero, Nat.div_one, Nat.pow_one]; omega) hbit (by rw [Nat.pow_zero, Nat.mul_one]), Nat.mul_zero, Nat.add_zero, Nat.pow_zero, Nat.mul_one, w3_wb d3.2.2] at e21
      rw [e21, eu]
      have hR1 : R / 2 ^ 255 ≤ 1 := by
        have : R / 2 ^ 255 < 2 := Nat.div_lt_of_lt_mul (by rw [show (2 : Nat) ^ 255 * 2 = 4294967296 ^ 8 from rfl]; exact hRl)
        omega
      refine pk_eq (R / 2 ^ 255) 1 (fun q => ?_) (fun q => ?_)
      · have hR2 : 4294967296 ^ 8 ≤ 2 * R := by omega
        exact at136 _ lowlt (by omega) (by omega)
      · have hR2 : 2 * R < 4294967296 ^ 8 := by omega
        rw [Nat.mod_eq_of_lt hR2] at lowlt ⊢
        have rr2 := w3_row (a := on_) (b := re) (c := to_) (g1 h5) lo (lb_len (2 * R + bt)) (lb_len (2 * c * 2 ^ k))
        have rg2 := w3_row (a := on_) (b := re) (c := to_) (g1 h3) lo (lb_len (2 * R + bt)) (lb_len (2 * c * 2 ^ k))
        refine (Row_compare_spec hd1 rr2 rg2).nI (fun x25 h26 Q => ?_)
        obtain ⟨e25, e26⟩ := Q
        have vg : bv (w3H g on_ re to_ (lb 1) (lb (2 * R + bt)) (lb (2 * c * 2 ^ k))) gr = T + 1 := bv_of (by rw [w3_o d2.1 d2.2.1 d2.2.2]; exact gB) hT
        rw [bv_of (w3_b d3.2.2) lowlt, vg] at e25
        rw [e26, e25, cmpI_lt]
        refine ⟨fun y => ?_, fun y => at136 _ lowlt (by omega) rfl⟩
        rw [show nI k + -1 = dI k from rfl]
        exact ih (2 * c) (2 * R + bt) (by omega) hAk y
  -- the rows are set
  have key := loop_uc (n := 8) (P := fun k (x : List Int32 × List Int32 × List Int32) => Aw G mX24_work (d + 1) 0 h (kV (fun h' => Mod (fun y => y = gr ∨ y = on_ ∨ y = re ∨ y = to_) h h' ∧ h'.ai to_ = lb (wkN T)) nE) 2 [vR M, vR tr, vR to_, vI (nI k), vU, vU] [] (w3H h on_ re to_ x.1 x.2.1 x.2.2))
    (fun k x => (x.1.length = 8 ∧ x.2.1.length = 8 ∧ x.2.2.length = 8) ∧ ∀ i, i < k → x.1.getD i 0 = (if i = 0 then 1 else 0) ∧ x.2.1.getD i 0 = 0 ∧ x.2.2.getD i 0 = 0) (fun k x hk hI ih => ?_) 0 (h.ai on_, h.ai re, h.ai to_) (Nat.zero_le _) ⟨⟨h4.2, h5.2, h2.2⟩, fun i hi => absurd hi (Nat.not_lt_zero _)⟩
  · have e0 : w3H h on_ re to_ (h.ai on_) (h.ai re) (h.ai to_) = h := by
      unfold w3H
      rw [AH.wi_self, AH.wi_self, AH.wi_self]
    dsimp only at key
    rw [e0] at key
    exact key
  · obtain ⟨A, B, C⟩ := x
    obtain ⟨⟨lA, lB, lC⟩, gx⟩ := hI
    dsimp only at lA lB lC gx ih ⊢
    refine sX24_work_2 _ M tr to_ (nI k) (pk_le 8 k (fun z => ⟨kM, fun r3 e3 r4 e4 => ?_⟩) (fun z => ⟨kM, fun r8 e8 => ?_⟩))
    · obtain rfl : k = 8 := by omega
      rw [show r3 = gr from e3.trans r43, show r4 = on_ from e4.trans r44]
      have eA : A = lb 1 := ext_getD (z := 0) (by rw [lA, lb_len]) (fun i hi => by rw [(gx i (by omega)).1, lb1_g i (by omega)])
      have eB : B = lb 0 := ext_getD (z := 0) (by rw [lB, lb_len]) (fun i hi => by rw [(gx i (by omega)).2.1, lb0_g i (by omega)])
      have eC : C = lb 0 := ext_getD (z := 0) (by rw [lC, lb_len]) (fun i hi => by rw [(gx i (by omega)).2.2, lb0_g i (by omega)])
      rw [eA, eB, eC]
      refine (Row_plus_spec hd1 (w3_row h1 lo (lb_len _) (lb_len _)) (w3_row h4 lo (lb_len _) (lb_len _)) (w3_row h3 lo (lb_len _) (lb_len _))).nJ (fun x5 h6 Q => ?_)
      obtain ⟨_, e6⟩ := Q
      rw [bv_of (by rw [w3_o d1.1 d1.2.1 d1.2.2.1]; exact eT) (by omega), bv_of (w3_a d3.1 d3.2.1) (by decide), w3_wo d2.1 d2.2.1 d2.2.2, ← hg] at e6
      rw [e6]
      have := main 256 0 0 (Nat.le_refl _) (by rw [Nat.div_eq_of_lt (by rw [show (2 : Nat) ^ 256 = 4294967296 ^ 8 from rfl]; exact hAlt), Nat.zero_mul]) (by omega)
      rw [Nat.zero_mul] at this
      exact this
    · rw [show r8 = on_ from e8.trans r44, w3_a d3.1 d3.2.1, lA, pk_cl k rfl (by omega), nI_1]
      have fin : ∀ (v : Int32) (h12 : AH), (v = if k = 0 then 1 else 0) → h12 = (w3H h on_ re to_ A B C).wi on_ (A.set k v) → ∀ r14 : Nat, r14 = h12.r 24045 M → h12.kd r14 = 100 ∧ vp_in (nI k) (h12.ai r14).length ∧ ∀ h17 : AH, h17 = h12.wi r14 ((h12.ai r14).set ((nI k).toNatClampNeg) 0) → h17.kd to_ = 100 ∧ vp_in (nI k) (h17.ai to_).length ∧ ∀ h20 : AH, h20 = h17.wi to_ ((h17.ai to_).set ((nI k).toNatClampNeg) 0) → Aw G mX24_work (d + 1) 0 h (kV (fun h' => Mod (fun y => y = gr ∨ y = on_ ∨ y = re ∨ y = to_) h h' ∧ h'.ai to_ = lb (wkN T)) nE) 2 [vR M, vR tr, vR to_, vI (nI (k + 1)), vU, vU] [] h20 := fun v h12 hv e12 r14 e14 => by
        rw [w3_wa d3.1 d3.2.1] at e12
        rw [e12] at e14 ⊢
        rw [show r14 = re from e14.trans r45, w3_b d3.2.2, lB, pk_cl k rfl (by omega)]
        refine ⟨h5.1, pk_in k 8 (by omega), fun h17 e17 => ?_⟩
        rw [w3_wb d3.2.2] at e17
        rw [e17, w3_c, lC]
        refine ⟨h2.1, pk_in k 8 (by omega), fun h20 e20 => ?_⟩
        rw [w3_wc] at e20
        rw [e20]
        refine ih (by omega) (A.set k v, B.set k 0, C.set k 0) ⟨⟨by rw [List.length_set]; exact lA, by rw [List.length_set]; exact lB, by rw [List.length_set]; exact lC⟩, fun i hi => ?_⟩
        by_cases c : i = k
        · rw [c, getD_set_eq (by omega), getD_set_eq (by omega), getD_set_eq (by omega)]
          exact ⟨hv, rfl, rfl⟩
        · rw [getD_set_ne c, getD_set_ne c, getD_set_ne c]
          exact gx i (by omega)
      have fin' := fin
      rw [pk_cl k rfl (by omega)] at fin
      exact pk_eq' k 0 (fun c => ⟨h4.1, pk_in k 8 (by omega), fun h12 e12 => fin 0 h12 (by rw [if_neg c]) e12⟩) (fun c => ⟨h4.1, pk_in k 8 (by omega), fun h12 e12 => fin 1 h12 (by rw [if_pos c]) e12⟩)
end MWork

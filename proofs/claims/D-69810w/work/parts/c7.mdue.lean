/-! the target that is due: the reckoning, the reference -/
set_option maxRecDepth 100000
theorem lN_div {a b : Nat} (ha : a < 2 ^ 63) (hb : b < 2 ^ 63) : lN a / lN b = lN (a / b) := by
  have hq : a / b < 2 ^ 63 := Nat.lt_of_le_of_lt (Nat.div_le_self _ _) ha
  apply Int64.toInt_inj.mp
  have e : ((a : Int).tdiv (b : Int)) = ((a / b : Nat) : Int) := rfl
  rw [Int64.toInt_div, lN_toInt63 ha, lN_toInt63 hb, lN_toInt63 hq, e]
  generalize a / b = q at *
  simp [Int.bmod]
  omega
theorem lN_mulN (a b : Nat) : lN a * lN b = lN (a * b) := by
  unfold lN
  rw [Int64.ofNat_mul]
theorem lN_addN (a b : Nat) : lN a + lN b = lN (a + b) := by
  unfold lN
  rw [Int64.ofNat_add]
theorem lN_subN {a b : Nat} (h : b ≤ a) : lN a - lN b = lN (a - b) := by
  have e : lN a = lN (a - b) + lN b := by rw [lN_addN, Nat.sub_add_cancel h]
  rw [e, Int64.add_sub_cancel]
theorem Jrem_N {a b : Nat} (ha : a < 2 ^ 63) (hb : b < 2 ^ 63) : Jrem (lN a) (lN b) = lN (a % b) := by
  unfold Jrem
  rw [lN_div ha hb, lN_mulN, lN_subN (Nat.div_mul_le_self _ _)]
  congr 1
  have := Nat.mod_add_div a b
  rw [Nat.mul_comm] at this
  omega

/-- the easiest target -/
def esN : Nat := tgN 545259519
/-- the short form that is due -/
def dueN (T t : Nat) : Nat := if T * t / 4800 ≤ esN then bitsN (T * t / 4800) else bitsN esN
theorem mu_u (T t k : Nat) : T % 4294967296 ^ k * t / 4294967296 ^ k + T / 4294967296 ^ k % 4294967296 * t = T % 4294967296 ^ (k + 1) * t / 4294967296 ^ k := by
  have e : T % 4294967296 ^ (k + 1) = T % 4294967296 ^ k + T / 4294967296 ^ k % 4294967296 * 4294967296 ^ k := by
    rw [Nat.pow_succ 4294967296 k, Nat.mod_mul, Nat.mul_comm (4294967296 ^ k)]
  rw [e, Nat.add_mul, Nat.mul_assoc, Nat.mul_comm (4294967296 ^ k) t, ← Nat.mul_assoc, Nat.add_mul_div_right _ _ (Nat.pow_pos (by decide))]
theorem mu_hi (T t k : Nat) : T % 4294967296 ^ (k + 1) * t / 4294967296 ^ k / 4294967296 = T % 4294967296 ^ (k + 1) * t / 4294967296 ^ (k + 1) := by
  rw [Nat.div_div_eq_div_mul, ← Nat.pow_succ 4294967296 k]
theorem mu_lo (T t k : Nat) : T % 4294967296 ^ (k + 1) * t / 4294967296 ^ k % 4294967296 = T * t / 4294967296 ^ k % 4294967296 := by
  have e : T * t = T % 4294967296 ^ (k + 1) * t + (T / 4294967296 ^ (k + 1) * t * 4294967296) * 4294967296 ^ k := by
    have h1 := Nat.mod_add_div T (4294967296 ^ (k + 1))
    have h2 : T * t = (T % 4294967296 ^ (k + 1) + 4294967296 ^ (k + 1) * (T / 4294967296 ^ (k + 1))) * t := by rw [h1]
    rw [h2, Nat.add_mul, Nat.pow_succ 4294967296 k]
    congr 1
    ac_rfl
  rw [e, Nat.add_mul_div_right _ _ (Nat.pow_pos (by decide)), Nat.add_mul_mod_self_right]
theorem mu_lt {T t k : Nat} (ht : 0 < t) : T % 4294967296 ^ k * t / 4294967296 ^ k < t := by
  apply Nat.div_lt_of_lt_mul
  exact Nat.mul_lt_mul_of_pos_right (Nat.mod_lt _ (Nat.pow_pos (by decide))) ht
theorem dq_B (N k : Nat) : N / 4294967296 ^ k = N / 4294967296 ^ (k + 1) * 4294967296 + N / 4294967296 ^ k % 4294967296 := by
  rw [Nat.pow_succ 4294967296 k, ← Nat.div_div_eq_div_mul]
  have := Nat.mod_add_div (N / 4294967296 ^ k) 4294967296
  rw [Nat.mul_comm] at this
  omega
theorem dq_r (N k : Nat) {c : Nat} : (N / 4294967296 ^ (k + 1) % c * 4294967296 + N / 4294967296 ^ k % 4294967296) % c = N / 4294967296 ^ k % c := by
  have h1 := dq_B N k
  have h2 := Nat.mod_add_div (N / 4294967296 ^ (k + 1)) c
  generalize N / 4294967296 ^ (k + 1) = A at *
  generalize N / 4294967296 ^ k % 4294967296 = dd at *
  rw [h1]
  have h3 : A * 4294967296 + dd = A % c * 4294967296 + dd + c * (A / c * 4294967296) := by
    have : A * 4294967296 = (A % c + c * (A / c)) * 4294967296 := by rw [h2]
    rw [this, Nat.add_mul, Nat.mul_assoc]
    exact Nat.add_right_comm _ _ _
  rw [h3, Nat.add_mul_mod_self_left]
theorem dq_lt (N k : Nat) {c : Nat} (hc : 0 < c) : N / 4294967296 ^ (k + 1) % c * 4294967296 + N / 4294967296 ^ k % 4294967296 < c * 4294967296 := by
  have h1 : N / 4294967296 ^ (k + 1) % c < c := Nat.mod_lt _ hc
  have h2 : N / 4294967296 ^ k % 4294967296 < 4294967296 := Nat.mod_lt _ (by decide)
  have h3 : (N / 4294967296 ^ (k + 1) % c + 1) * 4294967296 ≤ c * 4294967296 := Nat.mul_le_mul_right _ h1
  rw [Nat.add_mul] at h3
  omega
theorem dq_q (N k : Nat) {c : Nat} (hc : 0 < c) : (N / 4294967296 ^ (k + 1) % c * 4294967296 + N / 4294967296 ^ k % 4294967296) / c = N / c / 4294967296 ^ k % 4294967296 := by
  have h1 := dq_B N k
  have h2 := Nat.mod_add_div (N / 4294967296 ^ (k + 1)) c
  have h4 := dq_lt N k hc
  have e : N / c / 4294967296 ^ k = N / 4294967296 ^ k / c := by rw [Nat.div_div_eq_div_mul, Nat.div_div_eq_div_mul, Nat.mul_comm]
  rw [e]
  generalize N / 4294967296 ^ (k + 1) = A at *
  generalize N / 4294967296 ^ k % 4294967296 = dd at *
  rw [h1]
  have h3 : A * 4294967296 + dd = A % c * 4294967296 + dd + c * (A / c * 4294967296) := by
    have : A * 4294967296 = (A % c + c * (A / c)) * 4294967296 := by rw [h2]
    rw [this, Nat.add_mul, Nat.mul_assoc]
    exact Nat.add_right_comm _ _ _
  rw [h3, Nat.add_mul_div_left _ _ hc, Nat.add_mul_mod_self_right]
  exact (Nat.mod_eq_of_lt (Nat.div_lt_of_lt_mul h4)).symm
theorem nI_wmod (a : Nat) : nI (a % 4294967296) = nI a := nI_mod a
section MDue
variable {G : Gx} {d : Nat} {h h0 : AH} {M gr es wd T t : Nat}
theorem es_lt : esN < 4294967296 ^ 8 := tgN_lt _
set_option maxHeartbeats 1000000 in
theorem mdue_96 (hd : 2 ≤ d) (kM : h.kd M = 24) (r42 : h.r 24042 M = es) (r43 : h.r 24043 M = gr) (r54 : h.r 24054 M = wd) (k1 : RowAt h gr) (k2 : RowAt h es) (k3 : h.kd wd = 100 ∧ (h.ai wd).length = 10) (n1 : gr ≠ es ∧ gr ≠ wd ∧ es ≠ wd) (eT : h.ai gr = lb T) (eE : h.ai es = lb esN) (hT : T < 4294967296 ^ 8) (ht : 0 < t ∧ t ≤ 19200) :
    Aw G mX24_due (d + 1) 0 h0 (kI (fun x h' => x = nI (dueN T t) ∧ Mod (fun y => y = gr ∨ y = wd) h h') nE) 96 [vR M, vU, vU, vU, vJ (lN t), vU, vJ 0, vU, vI 0, vU, vU] [] h := by
  have hd1 : 1 ≤ d := by omega
  have hN : T * t < 4294967296 ^ 9 := by
    have h1 : T * t ≤ T * 19200 := Nat.mul_le_mul_left _ ht.2
    have h2 : T * 19200 < 4294967296 ^ 8 * 19200 := Nat.mul_lt_mul_of_pos_right hT (by decide)
    have h3 : 4294967296 ^ 8 * 19200 ≤ 4294967296 ^ 9 := by decide
    omega
  have hQ : T * t / 4800 < 4294967296 ^ 9 := Nat.lt_of_le_of_lt (Nat.div_le_self _ _) hN
  obtain ⟨g, hg⟩ : ∃ g, g = h.wi gr (lb (T * t / 4800)) := ⟨_, rfl⟩
  -- the answer
  have c219 : ∀ W : List Int32, W.length = 10 → (∀ i, i < 9 → W.getD i 0 = nI (T * t / 4800 / 4294967296 ^ i)) → ∀ Gx : List Int32, Aw G mX24_due (d + 1) 0 h0 (kI (fun x h' => x = nI (dueN T t) ∧ Mod (fun y => y = gr ∨ y = wd) h h') nE) 219 [vR M, vU, vU, vU, vU, vU, vU, vU, vU, vU, vI 0] [] (h.wi wd W) := fun W lW gW Gx => by
    have key := loop_uc (n := 8) (P := fun k (L : List Int32) => Aw G mX24_due (d + 1) 0 h0 (kI (fun x h' => x = nI (dueN T t) ∧ Mod (fun y => y = gr ∨ y = wd) h h') nE) 219 [vR M, vU, vU, vU, vU, vU, vU, vU, vU, vU, vI (nI k)] [] ((h.wi wd W).wi gr L)) (fun k L => L.length = 8 ∧ ∀ i, i < k → L.getD i 0 = nI (T * t / 4800 / 4294967296 ^ i)) (fun k L hk hI ih => ?_) 0 (h.ai gr) (Nat.zero_le _) ⟨k1.2, fun i hi => absurd hi (Nat.not_lt_zero _)⟩
    · rw [AH.wi_comm _ _ _ (fun e => n1.2.1 e.symm), AH.wi_self] at key
      exact key
    · obtain ⟨lL, gL⟩ := hI
      have aw : ((h.wi wd W).wi gr L).ai wd = W := by rw [AH.ai_wiN (fun e => n1.2.1 e.symm), AH.ai_wiS]
      have ae : ((h.wi wd W).wi gr L).ai es = lb esN := by rw [AH.ai_wiN (fun e => n1.1 e.symm), AH.ai_wiN n1.2.2]; exact eE
      have ag : ((h.wi wd W).wi gr L).ai gr = L := AH.ai_wiS ..
      have md : ∀ L' : List Int32, L'.length = 8 → Mod (fun y => y = gr ∨ y = wd) h ((h.wi wd W).wi gr L') := fun L' q => (Mod.wi (P := fun y => y = gr ∨ y = wd) (by rw [lW]; exact k3.2.symm) (Or.inr rfl)).trans (Mod.wi (by rw [q, AH.ai_wiN n1.2.1]; exact k1.2.symm) (Or.inl rfl))
      refine sX24_due_219 _ M (nI k) (pk_le 8 k (fun z => ⟨kM, fun r3 e3 => ?_⟩) (fun z => ⟨kM, fun r38 e38 r39 e39 => ?_⟩))
      · obtain rfl : k = 8 := by omega
        have eL : L = lb (T * t / 4800) := ext_getD (z := 0) (by rw [lL, lb_len]) (fun i hi => by rw [gL i (by omega), lb_getD _ (by omega)])
        rw [show r3 = wd from e3.trans r54, aw, lW, show (8 : Int32).toNatClampNeg = 8 from rfl, gW 8 (by decide)]
        have q8 : T * t / 4800 / 4294967296 ^ 8 < 2 ^ 31 := by
          have : T * t / 4800 / 4294967296 ^ 8 < 19201 := by
            apply Nat.div_lt_of_lt_mul
            have h1 : T * t ≤ T * 19200 := Nat.mul_le_mul_left _ ht.2
            have h2 : T * 19200 < 4294967296 ^ 8 * 19200 := Nat.mul_lt_mul_of_pos_right hT (by decide)
            have h3 : T * t / 4800 ≤ T * t := Nat.div_le_self _ _
            omega
          omega
        have rE : RowAt ((h.wi wd W).wi gr L) es := ⟨k2.1, by rw [ae, lb_len]⟩
        have rG : RowAt ((h.wi wd W).wi gr L) gr := ⟨k1.1, by rw [ag]; exact lL⟩
        -- the easiest is taken
        have easy : ¬ T * t / 4800 ≤ esN → ∀ {X : Nat → AH → Prop}, Cw G mX27_copy d 0 [vR es, vR gr] ((h.wi wd W).wi gr L) (kV (fun h10 => Cw G mX24_bits d 0 [vR gr] h10 (kI (fun x14 h15 => (kI (fun x h' => x = nI (dueN T t) ∧ Mod (fun y => y = gr ∨ y = wd) h h') nE) (.inl (some (vI x14))) h15) X)) X) := fun q => by
          intro X
          refine (Row_copy_spec hd1 rE rG).nV (fun h10 e10 => ?_)
          rw [ae, AH.wi_wi] at e10
          have r10 : RowAt h10 gr := by rw [e10]; exact ⟨k1.1, by rw [AH.ai_wiS, lb_len]⟩
          refine (MD_bits_spec hd r10).nI (fun x14 h15 Q => ?_)
          obtain ⟨e14, e15⟩ := Q
          rw [bv_of (by rw [e10, AH.ai_wiS]) es_lt] at e14
          refine ⟨?_, by rw [e15, e10]; exact md _ (lb_len _)⟩
          rw [e14]
          unfold dueN
          rw [if_neg q]
        refine ⟨k3.1, pk_in 8 10 (by decide), pk_eq' (T * t / 4800 / 4294967296 ^ 8) 0 (fun q r7 e7 r8 e8 => ?_) (fun q r16 e16 r17 e17 => ?_)⟩
        · rw [show r7 = es from e7.trans r42, show r8 = gr from e8.trans r43]
          refine easy (fun y => q ?_)
          have := es_lt
          exact Nat.div_eq_of_lt (by omega)
        · rw [show r16 = gr from e16.trans r43, show r17 = es from e17.trans r42]
          have q9 : T * t / 4800 < 4294967296 ^ 8 := by
            rcases Nat.lt_or_ge (T * t / 4800) (4294967296 ^ 8) with w | w
            · exact w
            · have := Nat.div_pos w (Nat.pow_pos (show 0 < 4294967296 by decide))
              omega
          refine (Row_compare_spec hd1 rG rE).nI (fun x18 h19 Q => ?_)
          obtain ⟨e18, e19⟩ := Q
          rw [bv_of (ag.trans eL) q9, bv_of ae es_lt] at e18
          rw [e19, e18, cmpI_le]
          refine ⟨fun y => ?_, fun y => easy y⟩
          refine (MD_bits_spec hd rG).nI (fun x24 h25 Q => ?_)
          obtain ⟨e24, e25⟩ := Q
          rw [bv_of (ag.trans eL) q9] at e24
          refine ⟨?_, by rw [e25]; exact md _ lL⟩
          rw [e24]
          unfold dueN
          rw [if_pos y]
      · rw [show r38 = gr from e38.trans r43, show r39 = wd from e39.trans r54, aw, ag, lW, lL, AH.wi_wi, pk_cl k rfl (by omega), gW k (by omega), nI_1]
        refine ⟨k3.1, pk_in k 10 (by omega), k1.1, pk_in k 8 (by omega), fun h44 e44 => ?_⟩
        rw [e44]
        refine ih (by omega) _ ⟨by rw [List.length_set]; exact lL, fun i hi => ?_⟩
        by_cases c : i = k
        · rw [c, getD_set_eq (by omega)]
        · rw [getD_set_ne c]
          exact gL i (by omega)
  -- the division
  have c163 : ∀ (k : Nat) (W : List Int32), k ≤ 9 → W.length = 10 → (∀ i, i < 9 → W.getD i 0 = if i < k then nI (T * t / 4294967296 ^ i) else nI (T * t / 4800 / 4294967296 ^ i)) → Aw G mX24_due (d + 1) 0 h0 (kI (fun x h' => x = nI (dueN T t) ∧ Mod (fun y => y = gr ∨ y = wd) h h') nE) 163 [vR M, vU, vU, vU, vU, vU, vU, vU, vJ (lN (T * t / 4294967296 ^ k % 4800)), vU, vI (dI k)] [] (h.wi wd W) := by
    intro k
    induction k with
    | zero =>
      intro W _ lW gW
      exact sX24_due_163 _ M (lN (T * t / 4294967296 ^ 0 % 4800)) (dI 0) ⟨fun _ => c219 W lW (fun i hi => by rw [gW i hi, if_neg (Nat.not_lt_zero _)]) [], fun q => absurd (by decide) q⟩
    | succ k ih =>
      intro W hk lW gW
      have hlt := dq_lt (T * t) k (c := 4800) (by decide)
      have hr : T * t / 4294967296 ^ (k + 1) % 4800 < 4800 := Nat.mod_lt _ (by decide)
      rw [dI_succ]
      refine sX24_due_163 _ M (lN (T * t / 4294967296 ^ (k + 1) % 4800)) (nI k) (pk_lt k 0 (fun q => absurd q (Nat.not_lt_zero _)) (fun _ => ⟨kM, fun r3 e3 => ?_⟩))
      rw [show r3 = wd from e3.trans r54, AH.ai_wiS, lW, pk_cl k rfl (by omega), gW k (by omega), if_pos (Nat.lt_succ_self _), and_low, u32_nI]
      refine ⟨k3.1, pk_in k 10 (by omega), fun u6 e6 => ⟨pk_in k 10 (by omega), fun h8 e8 => ?_⟩⟩
      have hdg : T * t / 4294967296 ^ k % 4294967296 < 2 ^ 32 := Nat.mod_lt _ (by decide)
      have eu : u6 = lN (T * t / 4294967296 ^ (k + 1) % 4800 * 4294967296 + T * t / 4294967296 ^ k % 4294967296) := by
        rw [e6, show (32 : Int32) = nI 32 from rfl, Jshl_n _ (by decide), lN_or, or_8 hdg]
      rw [AH.wi_wi, eu, show (4800 : Int64) = lN 4800 from rfl, lN_div (by omega) (by decide), lN_i, dq_q _ _ (by decide), nI_wmod] at e8
      rw [eu, show (4800 : Int64) = lN 4800 from rfl, Jrem_N (by omega) (by decide), dq_r, show nI k + -1 = dI k from rfl, e8]
      refine ih _ (by omega) (by rw [List.length_set]; exact lW) (fun i hi => ?_)
      by_cases c : i = k
      · rw [c, getD_set_eq (by omega), if_neg (Nat.lt_irrefl _)]
      · rw [getD_set_ne c, gW i hi]
        by_cases c2 : i < k
        · rw [if_pos c2, if_pos (by omega)]
        · rw [if_neg c2, if_neg (by omega)]
  -- the product
  have key := loop_uc (n := 8) (P := fun k (W : List Int32) => Aw G mX24_due (d + 1) 0 h0 (kI (fun x h' => x = nI (dueN T t) ∧ Mod (fun y => y = gr ∨ y = wd) h h') nE) 96 [vR M, vU, vU, vU, vJ (lN t), vU, vJ (lN (T % 4294967296 ^ k * t / 4294967296 ^ k)), vU, vI (nI k), vU, vU] [] (h.wi wd W)) (fun k W => W.length = 10 ∧ ∀ i, i < k → W.getD i 0 = nI (T * t / 4294967296 ^ i)) (fun k W hk hI ih => ?_) 0 (h.ai wd) (Nat.zero_le _) ⟨k3.2, fun i hi => absurd hi (Nat.not_lt_zero _)⟩
  · rw [AH.wi_self, Nat.pow_zero, Nat.mod_one, Nat.zero_mul, Nat.zero_div] at key
    exact key
  · obtain ⟨lW, gW⟩ := hI
    have hc := mu_lt (T := T) (t := t) (k := k) ht.1
    refine sX24_due_96 _ M (lN t) (lN (T % 4294967296 ^ k * t / 4294967296 ^ k)) (nI k) (pk_le 8 k (fun z => ⟨kM, fun r3 e3 => ?_⟩) (fun z => ⟨kM, fun r8 e8 => ?_⟩))
    · obtain rfl : k = 8 := by omega
      rw [show r3 = wd from e3.trans r54, AH.ai_wiS, lW, AH.wi_wi, show (8 : Int32).toNatClampNeg = 8 from rfl, lN_i, Nat.mod_eq_of_lt hT]
      refine ⟨k3.1, pk_in 8 10 (by decide), fun h6 e6 => ?_⟩
      rw [e6]
      have := c163 9 (W.set 8 (nI (T * t / 4294967296 ^ 8))) (Nat.le_refl _) (by rw [List.length_set]; exact lW) (fun i hi => by
        rw [if_pos hi]
        by_cases c : i = 8
        · rw [c, getD_set_eq (by omega)]
        · rw [getD_set_ne c]
          exact gW i (by omega))
      rw [Nat.div_eq_of_lt hN] at this
      exact this
    · have hw : T / 4294967296 ^ k % 4294967296 < 4294967296 := Nat.mod_lt _ (by decide)
      rw [show r8 = gr from e8.trans r43, AH.ai_wiN n1.2.1, eT, lb_len, pk_cl k rfl (by omega), lb_getD _ (by omega), and_low, u32_nI, lN_mulN, lN_addN, mu_u, nI_1]
      refine ⟨k1.1, pk_in k 8 (by omega), fun u11 e11 r12 e12 => ?_⟩
      have hmul : T / 4294967296 ^ k % 4294967296 * t ≤ 4294967296 * 19200 := Nat.mul_le_mul (Nat.le_of_lt hw) ht.2
      have hu : T % 4294967296 ^ (k + 1) * t / 4294967296 ^ k < 2 ^ 64 := by
        rw [← mu_u]
        omega
      rw [e11, show r12 = wd from e12.trans r54, AH.ai_wiS, lW, AH.wi_wi, lN_i, show nI (T % 4294967296 ^ (k + 1) * t / 4294967296 ^ k) = nI (T * t / 4294967296 ^ k) by rw [← nI_wmod, mu_lo, nI_wmod], lN_ushr hu, mu_hi]
      refine ⟨k3.1, pk_in k 10 (by omega), fun h15 e15 => ?_⟩
      rw [e15]
      refine ih (by omega) _ ⟨by rw [List.length_set]; exact lW, fun i hi => ?_⟩
      by_cases c : i = k
      · rw [c, getD_set_eq (by omega)]
      · rw [getD_set_ne c]
        exact gW i (by omega)
end MDue

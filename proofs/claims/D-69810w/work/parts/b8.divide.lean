/-! a new Big; the quotient of two -/
set_option maxRecDepth 100000
theorem rep_lb0 : List.replicate 8 (0 : Int32) = lb 0 := by decide +kernel
/-- a Big has been made at the end of the heap -/
def NB (h h5 : AH) : Prop := BigAt h5 h.z (h.z + 1) ∧ h5.ai (h.z + 1) = lb 0 ∧ Same noP h h5 ∧ h5.z = h.z + 2 ∧ h5.s = h.s + 9
section Div
variable {G : Gx} {d : Nat} {h h2 : AH} {t tw a aw b bw : Nat}
theorem k_newBig {Ψ : AH → Prop} {X : Nat → AH → Prop} {q : Nat} (hd : 1 ≤ d) (eq_ : q = h.z) (e2 : h2 = h.new 5 1 [] [] []) (hK : ∀ h5, NB h h5 → Ψ h5) : Cw G mX5_init d q [vR q] h2 (kV Ψ X) := by
  subst eq_
  have z2 : h2.z = h.z + 1 := by rw [e2]; rfl
  refine (Big_init_spec hd (by rw [e2, AH.kd_nw]; exact if_pos rfl)).nV (fun h5 e5 => hK h5 ?_)
  rw [z2] at e5
  have k5 : ∀ y, h5.kd y = if y = h.z + 1 then 100 else h2.kd y := fun y => by
    rw [e5]
    show (h2.new 100 8 (List.replicate 8 0) [] []).kd y = _
    rw [AH.kd_nw, z2]
  have a5 : ∀ y, h5.ai y = if y = h.z + 1 then List.replicate 8 0 else h2.ai y := fun y => by
    rw [e5]
    show (h2.new 100 8 (List.replicate 8 0) [] []).ai y = _
    rw [AH.ai_nw, z2]
  have S2 : Same noP h h2 := by rw [e2]; exact Same.rf.new _ _ _ _ _
  have S5 : Same noP h h5 := by
    rw [e5]
    exact (S2.new _ _ _ _ _).pr _ _ (Or.inr (Nat.le_refl _))
  refine ⟨⟨?_, ?_, ?_, ?_⟩, ?_, S5, ?_, ?_⟩
  · rw [k5, if_neg (by omega), e2, AH.kd_nw, if_pos rfl]
  · rw [e5, AH.r_pr, if_pos ⟨rfl, rfl⟩]
  · rw [k5, if_pos rfl]
  · rw [a5, if_pos rfl, List.length_replicate]
  · rw [a5, if_pos rfl, rep_lb0]
  · rw [e5]
    show h2.z + 1 = _
    omega
  · rw [e5, e2]
    rfl
/-- two rows hold numbers -/
def dvH (g : AH) (rw_ qw R Q : Nat) : AH := (g.wi rw_ (lb R)).wi qw (lb Q)
section DvH
variable {g : AH} {rw_ qw R Q : Nat}
theorem dv_q : (dvH g rw_ qw R Q).ai qw = lb Q := AH.ai_wiS ..
theorem dv_r (hne : rw_ ≠ qw) : (dvH g rw_ qw R Q).ai rw_ = lb R := by
  unfold dvH
  rw [AH.ai_wiN hne, AH.ai_wiS]
theorem dv_o {y : Nat} (h1 : y ≠ rw_) (h2 : y ≠ qw) : (dvH g rw_ qw R Q).ai y = g.ai y := by
  unfold dvH
  rw [AH.ai_wiN h2, AH.ai_wiN h1]
theorem dv_wr (hne : rw_ ≠ qw) (n : Nat) : (dvH g rw_ qw R Q).wi rw_ (lb n) = dvH g rw_ qw n Q := by
  unfold dvH
  rw [AH.wi_comm _ _ _ (fun e => hne e.symm), AH.wi_wi]
theorem dv_wq (n : Nat) : (dvH g rw_ qw R Q).wi qw (lb n) = dvH g rw_ qw R n := AH.wi_wi ..
theorem dv_big {x w : Nat} (H : BigAt g x w) (l1 : (g.ai rw_).length = 8) (l2 : (g.ai qw).length = 8) : BigAt (dvH g rw_ qw R Q) x w := (H.wi (by rw [lb_len, l1])).wi (by
  rw [lb_len]
  by_cases c : qw = rw_
  · rw [c, AH.ai_wiS, lb_len]
  · rw [AH.ai_wiN c, l2])
end DvH
theorem bv_of {g : AH} {w n : Nat} (e : g.ai w = lb n) (hn : n < 4294967296 ^ 8) : bv g w = n := by
  show va (g.ai w) 8 = n
  rw [e, va_lb8 hn]
set_option maxHeartbeats 1000000 in
theorem Big_divide_spec (hd : 3 ≤ d) (ht : BigAt h t tw) (ha : BigAt h a aw) (hb : BigAt h b bw) (zt : t < h.z ∧ tw < h.z) (za : a < h.z ∧ aw < h.z) (zb : b < h.z ∧ bw < h.z) (hB : 0 < bv h bw) :
    Cw G mX5_divide d 0 [vR t, vR a, vR b] h (kR (fun x h' => x = t ∧ Same (fun y => y = tw) h h' ∧ h'.ai tw = lb (bv h aw / bv h bw) ∧ h'.z = h.z + 4 ∧ h'.s = h.s + 18) nE) := by
  obtain ⟨d, rfl⟩ : ∃ d', d = d' + 1 := ⟨d - 1, by omega⟩
  have hd1 : 1 ≤ d := by omega
  refine eX5_divide h t a b (fun _ => sX5_divide_0 h t a b (fun q1 eq1 _ h2 e2 => k_newBig hd1 eq1 e2 (fun h5 N5 q6 eq6 _ h7 e7 => k_newBig hd1 eq6 e7 (fun h10 N10 => ?_))))
  obtain ⟨b5, a5, S5, z5, s5⟩ := N5
  obtain ⟨b10, a10, S10, z10, s10⟩ := N10
  rw [z5] at b10 a10 eq6 z10
  subst eq6
  have eq1' := eq1
  subst eq1
  have old : ∀ y, y < h.z → eqAt h h10 y := fun y hy => (S5.2.2 y hy id).trans (S10.2.2 y (by omega) id)
  have SS : Same noP h h10 := S5.trans S10 (fun _ _ q => q)
  have r1 : BigAt h10 h.z (h.z + 1) := b5.eqc (S10.2.2 _ (by omega) id) (S10.2.2 _ (by omega) id)
  have q1 : BigAt h10 (h.z + 2) (h.z + 3) := b10
  have r0 : h10.ai (h.z + 1) = lb 0 := (S10.2.2 _ (by omega) id).2.2.2.2.1.trans a5
  have q0 : h10.ai (h.z + 3) = lb 0 := a10
  have t1 : BigAt h10 t tw := ht.eqc (old _ zt.1) (old _ zt.2)
  have a1 : BigAt h10 a aw := ha.eqc (old _ za.1) (old _ za.2)
  have b1 : BigAt h10 b bw := hb.eqc (old _ zb.1) (old _ zb.2)
  have vA : ∀ {R Q : Nat}, bv (dvH h10 (h.z + 1) (h.z + 3) R Q) aw = bv h aw := fun {R Q} => by
    show va _ 8 = va _ 8
    rw [dv_o (by omega) (by omega), (old _ za.2).2.2.2.2.1]
  have vB : ∀ {R Q : Nat}, bv (dvH h10 (h.z + 1) (h.z + 3) R Q) bw = bv h bw := fun {R Q} => by
    show va _ 8 = va _ 8
    rw [dv_o (by omega) (by omega), (old _ zb.2).2.2.2.2.1]
  have hAlt := bv_lt h aw
  have hBlt := bv_lt h bw
  have lr : (h10.ai (h.z + 1)).length = 8 := r1.2.2.2
  have lq : (h10.ai (h.z + 3)).length = 8 := q1.2.2.2
  have big : ∀ {x w R Q : Nat}, BigAt h10 x w → BigAt (dvH h10 (h.z + 1) (h.z + 3) R Q) x w := fun H => dv_big H lr lq
  have ne : h.z + 1 ≠ h.z + 3 := by omega
  have zz : h10.z = h.z + 4 := by omega
  have ss : h10.s = h.s + 18 := by omega
  clear b5 a5 S5 S10 b10 a10 s5 s10 z5 z10 e2 e7
  generalize bv h aw = A at *
  generalize bv h bw = B at *
  have st : h10 = dvH h10 (h.z + 1) (h.z + 3) 0 0 := by
    unfold dvH
    rw [← r0, AH.wi_self, r0, ← q0, AH.wi_self]
  -- the part behind a comparison
  have main : ∀ (k : Nat) (c R : Nat), k ≤ 256 → A / 2 ^ k = c * B + R → R < B → Aw G mX5_divide (d + 1) 0 h (kR (fun x h' => x = t ∧ Same (fun y => y = tw) h h' ∧ h'.ai tw = lb (A / B) ∧ h'.z = h.z + 4 ∧ h'.s = h.s + 18) nE) 22 [vR t, vR a, vR b, vR h.z, vR (h.z + 2), vI (dI k), vU] [] (dvH h10 (h.z + 1) (h.z + 3) R (c * 2 ^ k)) := by
    intro k
    induction k with
    | zero =>
      intro c R _ hA hR
      rw [Nat.pow_zero, Nat.div_one] at hA
      have eQ : A / B = c := by
        rw [hA, Nat.mul_comm, Nat.mul_add_div (by omega), Nat.div_eq_of_lt hR, Nat.add_zero]
      refine sX5_divide_22 _ t a b h.z (h.z + 2) (dI 0) ⟨fun _ => ⟨(big t1).1, ?_⟩, fun q => absurd (by decide) q⟩
      refine (Big_copy_spec hd1 (big t1) (big q1)).nR (fun x2 h3 Q => ?_)
      obtain ⟨ex, e3⟩ := Q
      rw [dv_q, Nat.pow_zero, Nat.mul_one, ← eQ] at e3
      refine ⟨ex, ?_, by rw [e3, AH.ai_wiS], by rw [e3]; exact zz, by rw [e3]; exact ss⟩
      rw [e3]
      refine (((SS.mono (fun _ _ q => q.elim)).wi _ (by rw [lb_len, lr]) (Or.inr (by omega))).wi _ ?_ (Or.inr (by omega))).wi _ ?_ (Or.inl rfl)
      · rw [lb_len, AH.ai_wiN (fun e => ne e.symm), lq]
      · rw [lb_len]
        exact (big t1).2.2.2.symm
    | succ k ih =>
      intro c R hk hA hR
      have bA : A / 2 ^ k = 2 * (A / 2 ^ (k + 1)) + A / 2 ^ k % 2 := by
        rw [Nat.pow_succ, ← Nat.div_div_eq_div_mul]
        omega
      have hbit : A / 2 ^ k % 2 < 2 := Nat.mod_lt _ (by decide)
      have hAk : A / 2 ^ k = (2 * c) * B + (2 * R + A / 2 ^ k % 2) := by
        rw [hA, Nat.mul_add, ← Nat.mul_assoc] at bA
        omega
      have eQ : c * 2 ^ (k + 1) = (2 * c) * 2 ^ k := by rw [Nat.pow_succ, ← Nat.mul_assoc, Nat.mul_comm (c * 2 ^ k) 2, ← Nat.mul_assoc]
      have hRl : R < 4294967296 ^ 8 := by omega
      generalize hbt : A / 2 ^ k % 2 = bt at *
      rw [eQ, dI_succ]
      -- subtract and set the bit
      have at80 : ∀ low, low < 4294967296 ^ 8 → B ≤ 2 * R + bt → low % 4294967296 ^ 8 = (2 * R + bt) % 4294967296 ^ 8 → Aw G mX5_divide (d + 1) 0 h (kR (fun x h' => x = t ∧ Same (fun y => y = tw) h h' ∧ h'.ai tw = lb (A / B) ∧ h'.z = h.z + 4 ∧ h'.s = h.s + 18) nE) 80 [vR t, vR a, vR b, vR h.z, vR (h.z + 2), vI (nI k), vU] [] (dvH h10 (h.z + 1) (h.z + 3) low ((2 * c) * 2 ^ k)) := fun low hlow hge hmod => by
        refine sX5_divide_80 _ t a b h.z (h.z + 2) (nI k) ⟨(big r1).1, (Big_subtract_spec hd1 (big r1) (big r1) (big b1)).nR (fun x1 h2 Q => ?_)⟩
        obtain ⟨_, e2⟩ := Q
        rw [bv_of (dv_r ne) hlow, vB, dv_wr ne] at e2
        have e3 : lb (low + 4294967296 ^ 8 - B) = lb (2 * R + bt - B) := lb_congr (by omega)
        rw [show dvH h10 (h.z + 1) (h.z + 3) (low + 4294967296 ^ 8 - B) (2 * c * 2 ^ k) = dvH h10 (h.z + 1) (h.z + 3) (2 * R + bt - B) (2 * c * 2 ^ k) by unfold dvH; rw [e3]] at e2
        rw [e2]
        have hc : 2 * c * 2 ^ k < 4294967296 ^ 8 := by
          have : 2 * c * 2 ^ k ≤ A := by
            have h1 : 2 * c ≤ A / 2 ^ k := by
              rw [hAk]
              have : 2 * c * 1 ≤ 2 * c * B := Nat.mul_le_mul_left _ hB
              omega
            have h2 := Nat.mul_le_mul_right (2 ^ k) h1
            exact Nat.le_trans h2 (Nat.div_mul_le_self _ _)
          omega
        refine ⟨(big q1).1, fun r5 e5 => ?_⟩
        rw [show r5 = h.z + 3 from e5.trans (big q1).2.1, dv_q, lb_len, jshr_5 (by omega), pk_cl (k / 32) rfl (by omega), and_31 (by omega), show jshl 1 (nI (k % 32)) = nI (1 * 2 ^ (k % 32)) from jshl_n 1 (by omega)]
        refine ⟨(big q1).2.2.1, pk_in (k / 32) 8 (by omega), pk_in (k / 32) 8 (by omega), fun h9 e9 => ?_⟩
        rw [lb_or (X := 1) (c := 1) hc (by omega) (by omega) (by
          rw [show 32 * (k / 32) + k % 32 = k by omega, Nat.mul_div_cancel _ (Nat.pow_pos (by decide))]
          omega) (by decide) rfl, show 32 * (k / 32) + k % 32 = k by omega, dv_wq] at e9
        rw [e9, show nI k + -1 = dI k from rfl]
        have := ih (2 * c + 1) (2 * R + bt - B) (by omega) (by rw [hAk, Nat.add_mul]; omega) (by omega)
        rw [Nat.add_mul] at this
        exact this
      -- the rest goes up by one bit
      have up : ∀ {Ψ : AH → Prop}, (∀ g, g = dvH h10 (h.z + 1) (h.z + 3) (2 * R % 4294967296 ^ 8 + bt) (2 * c * 2 ^ k) → Ψ g) → ∀ {X : Nat → AH → Prop}, Cw G mX5_up d 0 [vR h.z] (dvH h10 (h.z + 1) (h.z + 3) R (2 * c * 2 ^ k)) (kV (fun h29 => ∀ r32 : Nat, r32 = (h29.r 5000 h.z) → h29.kd r32 = 100 ∧ vp_in 0 (h29.ai r32).length ∧ h29.kd a = 5 ∧ Cw G mX5_bit d 0 [vR a, vI (nI k)] h29 (kI (fun x35 h36 => vp_in 0 (h36.ai r32).length ∧ ∀ h40 : AH, h40 = h36.wi r32 ((h36.ai r32).set ((0 : Int32).toNatClampNeg) (((h29.ai r32).getD ((0 : Int32).toNatClampNeg) 0) ||| x35)) → Ψ h40) X)) X) := fun hΨ => by
        refine (Big_up_spec hd1 (big r1)).nV (fun h29 e29 r32 e32 => ?_)
        rw [bv_of (dv_r ne) hRl, dv_wr ne] at e29
        have e2R : lb (2 * R) = lb (2 * R % 4294967296 ^ 8) := (lb_mod _).symm
        rw [show dvH h10 (h.z + 1) (h.z + 3) (2 * R) (2 * c * 2 ^ k) = dvH h10 (h.z + 1) (h.z + 3) (2 * R % 4294967296 ^ 8) (2 * c * 2 ^ k) by unfold dvH; rw [e2R]] at e29
        have hm : 2 * R % 4294967296 ^ 8 < 4294967296 ^ 8 := Nat.mod_lt _ (by decide)
        rw [e29] at e32
        rw [e29, show r32 = h.z + 1 from e32.trans (big r1).2.1, dv_r ne, lb_len, show ((0 : Int32).toNatClampNeg) = 0 from rfl]
        refine ⟨(big r1).2.2.1, pk_in 0 8 (by decide), (big a1).1, (Big_bit_spec (by omega) hd1 (big a1)).nI (fun x35 h36 Q => ?_)⟩
        obtain ⟨e35, e36⟩ := Q
        rw [vA, hbt] at e35
        rw [e36, dv_r ne, lb_len, e35]
        refine ⟨pk_in 0 8 (by decide), fun h40 e40 => hΨ h40 ?_⟩
        rw [lb_or (n := 2 * R % 4294967296 ^ 8) (X := bt) (q := 0) (r := 0) (c := 1) hm (by decide) (by decide) (by rw [Nat.mul_zero, Nat.add_zero, Nat.pow_zero, Nat.div_one, Nat.pow_one]; omega) hbit (by rw [Nat.pow_zero, Nat.mul_one]), Nat.mul_zero, Nat.add_zero, Nat.pow_zero, Nat.mul_one, dv_wr ne] at e40
        exact e40
      have lowlt : 2 * R % 4294967296 ^ 8 + bt < 4294967296 ^ 8 := by
        have : 2 * R % 4294967296 ^ 8 % 2 = 0 := by omega
        omega
      refine sX5_divide_22 _ t a b h.z (h.z + 2) (nI k) (pk_lt k 0 (fun q => absurd q (Nat.not_lt_zero _)) (fun _ => ⟨(big r1).1, (Big_bit_spec (k := 255) (by decide) hd1 (big r1)).nI (fun x5 h6 Q => ?_)⟩))
      obtain ⟨e5, e6⟩ := Q
      rw [bv_of (dv_r ne) hRl] at e5
      rw [e6, e5]
      refine pk_eq' (R / 2 ^ 255 % 2) 1 (fun q => up (fun g eg => ⟨fun y => absurd rfl y, fun _ => ?_⟩)) (fun q => up (fun g eg => ⟨fun _ => ?_, fun y => absurd y (by decide)⟩))
      · have hR2 : 2 * R < 4294967296 ^ 8 := by omega
        rw [Nat.mod_eq_of_lt hR2] at eg lowlt
        rw [eg]
        refine (Big_compare_spec hd1 (big r1) (big b1)).nI (fun x23 h24 Q => ?_)
        obtain ⟨e23, e24⟩ := Q
        rw [bv_of (dv_r ne) lowlt, vB] at e23
        rw [e24, e23, cmpI_ge]
        refine ⟨fun y => at80 _ lowlt y rfl, fun y => ?_⟩
        rw [show nI k + -1 = dI k from rfl]
        exact ih (2 * c) (2 * R + bt) (by omega) hAk (by omega)
      · have hR2 : 4294967296 ^ 8 ≤ 2 * R := by omega
        rw [eg]
        exact at80 _ lowlt (by omega) (by omega)
  have := main 256 0 0 (Nat.le_refl _) (by rw [Nat.div_eq_of_lt (by rw [show (2 : Nat) ^ 256 = 4294967296 ^ 8 from rfl]; exact hAlt), Nat.zero_mul]) hB
  rw [Nat.zero_mul, ← st] at this
  exact this
end Div

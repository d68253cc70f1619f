/-! points: none is none; n times a point; as two numbers -/
set_option maxRecDepth 100000
/-- all that is none is one -/
def nrm (P : Pt) : Pt := if P.2.2 = 0 then (0, 0, 0) else P
theorem nrm_z (P : Pt) : (nrm P).2.2 = 0 ↔ P.2.2 = 0 := by
  unfold nrm
  by_cases e : P.2.2 = 0
  · rw [if_pos e]; exact ⟨fun _ => e, fun _ => rfl⟩
  · rw [if_neg e]
theorem nrm_0 {P : Pt} (h : P.2.2 = 0) : nrm P = (0, 0, 0) := if_pos h
theorem nrm_1 {P : Pt} (h : P.2.2 ≠ 0) : nrm P = P := if_neg h
theorem nrm_nrm (P : Pt) : nrm (nrm P) = nrm P := by
  by_cases e : P.2.2 = 0
  · rw [nrm_0 e]; rfl
  · rw [nrm_1 e, nrm_1 e]
theorem dbl_nrm (p : Nat) (P : Pt) : nrm (dblF p (nrm P)) = nrm (dblF p P) := by
  by_cases e : P.2.2 = 0
  · have h1 : dblF p P = P := if_pos e
    have h2 : dblF p (nrm P) = nrm P := if_pos ((nrm_z P).mpr e)
    rw [h1, h2, nrm_nrm]
  · rw [nrm_1 e]
theorem add_nrm (p : Nat) (P Q : Pt) : nrm (addF p (nrm P) (nrm Q)) = nrm (addF p P Q) := by
  by_cases eq : Q.2.2 = 0
  · have h1 : addF p P Q = P := if_pos eq
    have h2 : addF p (nrm P) (nrm Q) = nrm P := if_pos ((nrm_z Q).mpr eq)
    rw [h1, h2, nrm_nrm]
  · rw [nrm_1 eq]
    by_cases e : P.2.2 = 0
    · have h1 : addF p P Q = Q := (if_neg eq).trans (if_pos e)
      have h2 : addF p (nrm P) Q = Q := (if_neg eq).trans (if_pos ((nrm_z P).mpr e))
      rw [h1, h2]
    · rw [nrm_1 e]
/-- the j highest of 256 bits of n are done -/
def mulN (p : Nat) (Q : Pt) (n : Nat) : Nat → Pt
  | 0 => (0, 0, 0)
  | j + 1 => if n / 2 ^ (255 - j) % 2 = 1 then nrm (addF p (nrm (dblF p (mulN p Q n j))) Q) else nrm (dblF p (mulN p Q n j))
theorem mulN_0 {p : Nat} {Q : Pt} {n k : Nat} (hn : n < 2 ^ k) : ∀ j, j + k ≤ 256 → mulN p Q n j = (0, 0, 0)
  | 0, _ => rfl
  | j + 1, h => by
    have h0 : n / 2 ^ (255 - j) = 0 := by
      apply Nat.div_eq_of_lt
      have : 2 ^ k ≤ 2 ^ (255 - j) := Nat.pow_le_pow_right (by omega) (by omega)
      omega
    rw [mulN, h0, if_neg (by decide), mulN_0 hn j (by omega)]
    rfl
/-- the two numbers of a point -/
def plF (p : Nat) (P : Pt) : Nat × Nat :=
  let e := P.2.2 ^ (p - 2) % p
  let f := e * e % p
  (P.1 * f % p, P.2.1 * (f * e % p) % p)
theorem pl_nrm {p : Nat} (hp : 2 < p) (P : Pt) : plF p (nrm P) = plF p P := by
  by_cases e : P.2.2 = 0
  · have h0 : (0 : Nat) ^ (p - 2) % p = 0 := by rw [Nat.zero_pow (by omega), Nat.zero_mod]
    have h1 : plF p P = (0, 0) := by
      simp only [plF, e, h0, Nat.zero_mul, Nat.mul_zero, Nat.zero_mod]
    have h2 : plF p (nrm P) = (0, 0) := by
      rw [nrm_0 e]
      simp only [plF, h0, Nat.zero_mul, Nat.mul_zero, Nat.zero_mod]
    rw [h1, h2]
  · rw [nrm_1 e]
def ptV (h : AH) (q : Nat) : Pt := (bv h (q + 2), bv h (q + 4), bv h (q + 6))
def PtB (h : AH) (q : Nat) : Prop := PtS h q ∧ BigAt h (q + 1) (q + 2) ∧ BigAt h (q + 3) (q + 4) ∧ BigAt h (q + 5) (q + 6)
def PtLt (h : AH) (q p : Nat) : Prop := bv h (q + 2) < p ∧ bv h (q + 4) < p ∧ bv h (q + 6) < p
theorem PtB.mod {P : Nat → Prop} {h h' : AH} {q : Nat} (H : PtB h q) (m : Mod P h h') : PtB h' q := by
  obtain ⟨⟨a1, a2, a3, a4⟩, b1, b2, b3⟩ := H
  refine ⟨?_, b1.mod m, b2.mod m, b3.mod m⟩
  unfold PtS
  rw [m.kd, m.r]
  exact ⟨a1, a2, a3, a4⟩
/-- all of the curve that stays as it is -/
def CvB (h : AH) (C : Nat) : Prop := CvS h C ∧ (h.r 3001 C = C + 18 ∧ h.r 3002 C = C + 35 ∧ h.r 3010 C = C + 61 ∧ h.r 3011 C = C + 68 ∧ h.r 3012 C = C + 75 ∧ h.r 3013 C = C + 82 ∧ h.r 3014 C = C + 84 ∧ h.r 3015 C = C + 86 ∧ h.r 3016 C = C + 88 ∧ h.r 3017 C = C + 90) ∧
  (BigAt h (C + 42) (C + 43) ∧ BigAt h (C + 44) (C + 45) ∧ BigAt h (C + 46) (C + 47) ∧ BigAt h (C + 48) (C + 49) ∧ BigAt h (C + 50) (C + 51) ∧ BigAt h (C + 52) (C + 53)) ∧ (PtB h (C + 35) ∧ PtB h (C + 61) ∧ PtB h (C + 68) ∧ PtB h (C + 75)) ∧
  BigAt h (C + 82) (C + 83) ∧ BigAt h (C + 84) (C + 85) ∧ BigAt h (C + 86) (C + 87) ∧ BigAt h (C + 88) (C + 89) ∧ BigAt h (C + 90) (C + 91)
def cvLt (h : AH) (C p : Nat) : Prop := bv h (C + 43) < p ∧ bv h (C + 45) < p ∧ bv h (C + 47) < p ∧ bv h (C + 49) < p ∧ bv h (C + 51) < p ∧ bv h (C + 53) < p
theorem CvS.mod {P : Nat → Prop} {h h' : AH} {C : Nat} (H : CvS h C) (m : Mod P h h') : CvS h' C := by
  unfold CvS at H ⊢
  rw [m.kd, m.r]
  exact H
theorem CvB.mod {P : Nat → Prop} {h h' : AH} {C : Nat} (H : CvB h C) (m : Mod P h h') : CvB h' C := by
  obtain ⟨a, b, ⟨c1, c2, c3, c4, c5, c6⟩, ⟨d1, d2, d3, d4⟩, e1, e2, e3, e4, e5⟩ := H
  refine ⟨a.mod m, ?_, ⟨c1.mod m, c2.mod m, c3.mod m, c4.mod m, c5.mod m, c6.mod m⟩, ⟨d1.mod m, d2.mod m, d3.mod m, d4.mod m⟩, e1.mod m, e2.mod m, e3.mod m, e4.mod m, e5.mod m⟩
  rw [m.r]
  exact b
theorem adr0 (C q o : Nat) : (adC C q o 0).2 = C + 43 := rfl
theorem adr1 (C q o : Nat) : (adC C q o 1).2 = C + 45 := rfl
theorem adr2 (C q o : Nat) : (adC C q o 2).2 = C + 47 := rfl
theorem adr3 (C q o : Nat) : (adC C q o 3).2 = C + 49 := rfl
theorem adr4 (C q o : Nat) : (adC C q o 4).2 = C + 51 := rfl
theorem adr5 (C q o : Nat) : (adC C q o 5).2 = C + 53 := rfl
theorem adr6 (C q o : Nat) : (adC C q o 6).2 = q + 2 := rfl
theorem adr7 (C q o : Nat) : (adC C q o 7).2 = q + 4 := rfl
theorem adr8 (C q o : Nat) : (adC C q o 8).2 = q + 6 := rfl
theorem adr9 (C q o : Nat) : (adC C q o 9).2 = o + 2 := rfl
theorem adr10 (C q o : Nat) : (adC C q o 10).2 = o + 4 := rfl
theorem adr11 (C q o : Nat) : (adC C q o 11).2 = o + 6 := rfl
theorem lt12 {i : Nat} (h : i < 12) : i = 0 ∨ i = 1 ∨ i = 2 ∨ i = 3 ∨ i = 4 ∨ i = 5 ∨ i = 6 ∨ i = 7 ∨ i = 8 ∨ i = 9 ∨ i = 10 ∨ i = 11 := by omega
theorem adC_ok {C q o : Nat} (h1 : C + 53 < q) (h2 : C + 53 < o ∨ (C + 34 < o ∧ o + 6 < C + 42)) (h3 : q + 6 < o ∨ o + 6 < q) : AdOk (C + 1) 12 (adC C q o) := by
  constructor
  · intro i j hi hj e
    rcases lt12 hi with rfl | rfl | rfl | rfl | rfl | rfl | rfl | rfl | rfl | rfl | rfl | rfl <;> rcases lt12 hj with rfl | rfl | rfl | rfl | rfl | rfl | rfl | rfl | rfl | rfl | rfl | rfl <;> simp only [adr0, adr1, adr2, adr3, adr4, adr5, adr6, adr7, adr8, adr9, adr10, adr11] at e <;> omega
  · intro j hj
    rcases lt12 hj with rfl | rfl | rfl | rfl | rfl | rfl | rfl | rfl | rfl | rfl | rfl | rfl <;> simp only [adr0, adr1, adr2, adr3, adr4, adr5, adr6, adr7, adr8, adr9, adr10, adr11] <;> omega
/-- what sums of q and o write -/
def cvP (C q x : Nat) : Prop := (C + 6 ≤ x ∧ x ≤ C + 17) ∨ (C + 43 ≤ x ∧ x ≤ C + 53) ∨ x = q + 2 ∨ x = q + 4 ∨ x = q + 6
section Cv2
variable {G : Gx} {d : Nat} {h : AH} {C p q o n : Nat}
/-- the registers at first: a to f hold anything below p -/
theorem Reg.of (hR : RingAt h (C + 1) p) (H : CvB h C) (hc : cvLt h C p) (hq : PtB h q) (ho : PtB h o) (lq : PtLt h q p) (lo : PtLt h o p) : Reg h (C + 1) p 12 (adC C q o) (fun j => bv h (adC C q o j).2) := by
  refine ⟨hR, fun j hj => ?_⟩
  obtain ⟨_, _, ⟨c1, c2, c3, c4, c5, c6⟩, _⟩ := H
  obtain ⟨l1, l2, l3, l4, l5, l6⟩ := hc
  rcases lt12 hj with rfl | rfl | rfl | rfl | rfl | rfl | rfl | rfl | rfl | rfl | rfl | rfl
  · exact ⟨c1, rfl, l1⟩
  · exact ⟨c2, rfl, l2⟩
  · exact ⟨c3, rfl, l3⟩
  · exact ⟨c4, rfl, l4⟩
  · exact ⟨c5, rfl, l5⟩
  · exact ⟨c6, rfl, l6⟩
  · exact ⟨hq.2.1, rfl, lq.1⟩
  · exact ⟨hq.2.2.1, rfl, lq.2.1⟩
  · exact ⟨hq.2.2.2, rfl, lq.2.2⟩
  · exact ⟨ho.2.1, rfl, lo.1⟩
  · exact ⟨ho.2.2.1, rfl, lo.2.1⟩
  · exact ⟨ho.2.2.2, rfl, lo.2.2⟩
theorem Reg.back {f : Nat → Nat} (S : Reg h (C + 1) p 12 (adC C q o) f) : RingAt h (C + 1) p ∧ cvLt h C p ∧ PtLt h q p ∧ PtLt h o p ∧ ptV h q = (f 6, f 7, f 8) ∧ ptV h o = (f 9, f 10, f 11) := by
  have k := fun j hj => (S.2 j hj).2
  have e : ∀ j, j < 12 → bv h (adC C q o j).2 < p := fun j hj => by rw [(k j hj).1]; exact (k j hj).2
  refine ⟨S.1, ⟨e 0 (by decide), e 1 (by decide), e 2 (by decide), e 3 (by decide), e 4 (by decide), e 5 (by decide)⟩, ⟨e 6 (by decide), e 7 (by decide), e 8 (by decide)⟩, ⟨e 9 (by decide), e 10 (by decide), e 11 (by decide)⟩, ?_, ?_⟩
  · show (bv h (adC C q o 6).2, bv h (adC C q o 7).2, bv h (adC C q o 8).2) = _
    rw [(k 6 (by decide)).1, (k 7 (by decide)).1, (k 8 (by decide)).1]
  · show (bv h (adC C q o 9).2, bv h (adC C q o 10).2, bv h (adC C q o 11).2) = _
    rw [(k 9 (by decide)).1, (k 10 (by decide)).1, (k 11 (by decide)).1]
theorem RP_x {x : Nat} (hx : RP (C + 1) 12 (adC C q o) x) (h1 : x ≠ o + 2) (h2 : x ≠ o + 4) (h3 : x ≠ o + 6) : cvP C q x := by
  unfold cvP
  rcases hx with e | ⟨j, hj, e⟩
  · unfold scr at e; omega
  · rcases lt12 hj with rfl | rfl | rfl | rfl | rfl | rfl | rfl | rfl | rfl | rfl | rfl | rfl <;> simp only [adr0, adr1, adr2, adr3, adr4, adr5, adr6, adr7, adr8, adr9, adr10, adr11] at e <;> omega
/-- the state between steps of a product: what is the same at o -/
theorem ModRP {h' : AH} (M : Mod (RP (C + 1) 12 (adC C q o)) h h') (H : CvB h C) (ho : PtB h o) (e : ptV h' o = ptV h o) : Mod (cvP C q) h h' := by
  obtain ⟨f, rfl, f1, f2⟩ := M
  refine ⟨f, rfl, f1, fun x hx => ?_⟩
  have e1 : va (f (o + 2)) 8 = va (h.ai (o + 2)) 8 := congrArg (fun P : Pt => P.1) e
  have e2 : va (f (o + 4)) 8 = va (h.ai (o + 4)) 8 := congrArg (fun P : Pt => P.2.1) e
  have e3 : va (f (o + 6)) 8 = va (h.ai (o + 6)) 8 := congrArg (fun P : Pt => P.2.2) e
  by_cases c1 : x = o + 2
  · subst c1; exact va_inj ((f1 _).trans ho.2.1.2.2.2) ho.2.1.2.2.2 e1
  by_cases c2 : x = o + 4
  · subst c2; exact va_inj ((f1 _).trans ho.2.2.1.2.2.2) ho.2.2.1.2.2.2 e2
  by_cases c3 : x = o + 6
  · subst c3; exact va_inj ((f1 _).trans ho.2.2.2.2.2.2) ho.2.2.2.2.2.2 e3
  exact f2 x (fun c => hx (RP_x c c1 c2 c3))
theorem Cv_twice_spec (hd : 3 ≤ d) (H : CvB h C) (hR : RingAt h (C + 1) p) (hc : cvLt h C p) (hq : PtB h q) (ho : PtB h o) (lq : PtLt h q p) (lo : PtLt h o p) (n1 : C + 53 < q) (n2 : C + 53 < o ∨ (C + 34 < o ∧ o + 6 < C + 42)) (n3 : q + 6 < o ∨ o + 6 < q) : Cw G mX3_twice d 0 [vR C, vR q] h (kV (fun h' => (Mod (cvP C q) h h' ∧ RingAt h' (C + 1) p ∧ cvLt h' C p ∧ PtLt h' q p) ∧ ptV h' q = dblF p (ptV h q)) nE) := by
  obtain ⟨d, rfl⟩ : ∃ d', d = d' + 1 := ⟨d - 1, by omega⟩
  refine (twice_reg (by omega) (adC_ok n1 n2 n3) H.1 hq.1 ho.1 (Reg.of hR H hc hq ho lq lo)).nV (fun h' Q => ?_)
  obtain ⟨M, f', S, e, e9, e10, e11⟩ := Q
  obtain ⟨b1, b2, b3, b4, b5, b6⟩ := S.back
  have eo : ptV h' o = ptV h o := by rw [b6, e9, e10, e11]; rfl
  exact ⟨⟨ModRP M H ho eo, b1, b2, b3⟩, by rw [b5, e]; rfl⟩
theorem Cv_add_spec (hd : 4 ≤ d) (H : CvB h C) (hR : RingAt h (C + 1) p) (hc : cvLt h C p) (hq : PtB h q) (ho : PtB h o) (lq : PtLt h q p) (lo : PtLt h o p) (n1 : C + 53 < q) (n2 : C + 53 < o ∨ (C + 34 < o ∧ o + 6 < C + 42)) (n3 : q + 6 < o ∨ o + 6 < q) : Cw G mX3_add d 0 [vR C, vR q, vR o] h (kV (fun h' => (Mod (cvP C q) h h' ∧ RingAt h' (C + 1) p ∧ cvLt h' C p ∧ PtLt h' q p) ∧ ptV h' q = addF p (ptV h q) (ptV h o)) nE) := by
  obtain ⟨d, rfl⟩ : ∃ d', d = d' + 2 := ⟨d - 2, by omega⟩
  refine (add_reg (by omega) (adC_ok n1 n2 n3) H.1 hq.1 ho.1 (Reg.of hR H hc hq ho lq lo)).nV (fun h' Q => ?_)
  obtain ⟨M, f', S, e, e9, e10, e11⟩ := Q
  obtain ⟨b1, b2, b3, b4, b5, b6⟩ := S.back
  have eo : ptV h' o = ptV h o := by rw [b6, e9, e10, e11]; rfl
  exact ⟨⟨ModRP M H ho eo, b1, b2, b3⟩, by rw [b5, e]; rfl⟩
theorem Cv_times_spec {u uw : Nat} (hd : 5 ≤ d) (H : CvB h C) (hR : RingAt h (C + 1) p) (hc : cvLt h C p) (hq : PtB h q) (ho : PtB h o) (lq : PtLt h q p) (lo : PtLt h o p) (n1 : C + 53 < q) (n2 : C + 53 < o ∨ (C + 34 < o ∧ o + 6 < C + 42)) (n3 : q + 6 < o ∨ o + 6 < q) (hu : BigAt h u uw) (hu2 : ¬ cvP C q uw) : Cw G mX3_times d 0 [vR C, vR q, vR u, vR o] h (kV (fun h' => (Mod (cvP C q) h h' ∧ RingAt h' (C + 1) p ∧ cvLt h' C p ∧ PtLt h' q p) ∧ nrm (ptV h' q) = mulN p (ptV h o) (bv h uw) 256) nE) := by
  obtain ⟨d, rfl⟩ : ∃ d', d = d' + 1 := ⟨d - 1, by omega⟩
  have hd1 : 1 ≤ d := by omega
  have hd2 : 2 ≤ d := by omega
  have hd3 : 3 ≤ d := by omega
  have hd4 : 4 ≤ d := by omega
  have hp := hR.2.2.2
  have pz : cvP C q (q + 6) := by unfold cvP; omega
  have y3 : ¬ cvP C q (C + 3) := by unfold cvP; omega
  have y5 : ¬ cvP C q (C + 5) := by unfold cvP; omega
  have yo2 : ¬ cvP C q (o + 2) := by unfold cvP; omega
  have yo4 : ¬ cvP C q (o + 4) := by unfold cvP; omega
  have yo6 : ¬ cvP C q (o + 6) := by unfold cvP; omega
  have n26 : q + 2 ≠ q + 6 := by omega
  have n46 : q + 4 ≠ q + 6 := by omega
  have zc : C + 43 ≠ q + 6 ∧ C + 45 ≠ q + 6 ∧ C + 47 ≠ q + 6 ∧ C + 49 ≠ q + 6 ∧ C + 51 ≠ q + 6 ∧ C + 53 ≠ q + 6 := by omega
  refine eX3_times h C q u o (fun _ => sX3_times_0 h C q u o ⟨hq.1.1, fun r2 e2 => ?_⟩)
  rw [e2.trans hq.1.2.2.2]
  refine ⟨hq.2.2.2.1, (Big_zero_spec hd1 hq.2.2.2).nR (fun x3 h4 Q => ?_)⟩
  obtain ⟨_, rfl⟩ := Q
  have M1 : Mod (cvP C q) h (h.wi (q + 6) (lb 0)) := Mod.wi (by rw [lb_len, hq.2.2.2.2.2.2]) pz
  have u1 : bv (h.wi (q + 6) (lb 0)) uw = bv h uw := M1.bv hu2
  refine ⟨(hu.mod M1).1, (Big_length_spec hd2 (hu.mod M1)).nI (fun x6 h7 Q => ?_)⟩
  obtain ⟨rfl, rfl⟩ := Q
  rw [u1]
  have hbl : blen (bv h uw) ≤ 256 := blen_le (bv_lt h uw)
  have e0 : nI (blen (bv h uw)) - 1 = dI (blen (bv h uw)) := by
    unfold dI
    rw [Int32.sub_eq_add_neg]
  rw [e0]
  generalize hΦ : kV (fun h' => ((Mod (cvP C q) h h' ∧ RingAt h' (C + 1) p ∧ cvLt h' C p ∧ PtLt h' q p)) ∧ nrm (ptV h' q) = mulN p (ptV h o) (bv h uw) 256) nE = Φ
  refine loop_dn (P := fun k h1 => k ≤ 256 → Aw G mX3_times (d + 1) 0 h Φ 16 [vR C, vR q, vR u, vR o, vI (dI k)] [] h1)
    (fun k h1 => (Mod (cvP C q) h h1 ∧ RingAt h1 (C + 1) p ∧ cvLt h1 C p ∧ PtLt h1 q p) ∧ nrm (ptV h1 q) = mulN p (ptV h o) (bv h uw) (256 - k)) (fun k h1 hI ih hk => ?_) (fun h1 hI hk => ?_) (blen (bv h uw)) _ ⟨⟨M1, hR.mod M1 y3 y5, ?_, ?_⟩, ?_⟩ hbl
  · obtain ⟨⟨M, i1, i2, i3⟩, i4⟩ := hI
    have hk3 : k < 256 := by omega
    have hk2 : k < 2 ^ 31 := by omega
    have hk4 : k ≤ 256 := by omega
    have lo1 : PtLt h1 o p := by unfold PtLt; rw [M.bv yo2, M.bv yo4, M.bv yo6]; exact lo
    have eo1 : ptV h1 o = ptV h o := by unfold ptV; rw [M.bv yo2, M.bv yo4, M.bv yo6]
    rw [dI_succ]
    refine sX3_times_16 _ C q u o (nI k) ⟨fun c => absurd c (nI_pos hk2), fun _ => ⟨(H.mod M).1.1, (Cv_twice_spec hd3 (H.mod M) i1 i2 (hq.mod M) (ho.mod M) i3 lo1 n1 n2 n3).nV (fun h3 Q => ?_)⟩⟩
    obtain ⟨⟨M3, j1, j2, j3⟩, j4⟩ := Q
    have M' := M.trans M3
    have u3 : bv h3 uw = bv h uw := M'.bv hu2
    refine ⟨(hu.mod M').1, (Big_bit_spec (k := k) hk3 hd1 (hu.mod M')).nI (fun x5 h6 Q => ?_)⟩
    obtain ⟨rfl, rfl⟩ := Q
    rw [u3]
    have hidx : 256 - k = (256 - (k + 1)) + 1 := by omega
    have hbit : 255 - (256 - (k + 1)) = k := by omega
    have hn3 : nrm (ptV h6 q) = nrm (dblF p (mulN p (ptV h o) (bv h uw) (256 - (k + 1)))) := by rw [j4, ← i4, dbl_nrm]
    refine ⟨fun c => ?_, fun c => ?_⟩
    · refine ih h6 ⟨⟨M', j1, j2, j3⟩, ?_⟩ hk4
      have h0 : bv h uw / 2 ^ k % 2 ≠ 1 := fun e => by rw [e] at c; exact c rfl
      rw [hidx, mulN, hbit, if_neg h0]
      exact hn3
    · have lo3 : PtLt h6 o p := by unfold PtLt; rw [M'.bv yo2, M'.bv yo4, M'.bv yo6]; exact lo
      have eo3 : ptV h6 o = ptV h o := by unfold ptV; rw [M'.bv yo2, M'.bv yo4, M'.bv yo6]
      refine (Cv_add_spec hd4 (H.mod M') j1 j2 (hq.mod M') (ho.mod M') j3 lo3 n1 n2 n3).nV (fun h10 Q => ?_)
      obtain ⟨⟨M10, l1, l2, l3⟩, l4⟩ := Q
      refine ih h10 ⟨⟨M'.trans M10, l1, l2, l3⟩, ?_⟩ hk4
      have h1' : bv h uw / 2 ^ k % 2 = 1 := by
        rcases Nat.mod_two_eq_zero_or_one (bv h uw / 2 ^ k) with e | e
        · rw [e] at c
          exact absurd c (by decide)
        · exact e
      rw [hidx, mulN, hbit, if_pos h1', l4, eo3, ← hn3]
      have e1 := add_nrm p (ptV h6 q) (ptV h o)
      have e2 := add_nrm p (nrm (ptV h6 q)) (ptV h o)
      rw [nrm_nrm] at e2
      exact e1.symm.trans e2
  · refine sX3_times_16 _ C q u o (dI 0) ⟨fun _ => ?_, fun c => absurd (by decide) c⟩
    rw [← hΦ]
    exact ⟨hI.1, hI.2⟩
  · unfold cvLt
    rw [bv_wiN zc.1, bv_wiN zc.2.1, bv_wiN zc.2.2.1, bv_wiN zc.2.2.2.1, bv_wiN zc.2.2.2.2.1, bv_wiN zc.2.2.2.2.2]
    exact hc
  · unfold PtLt
    rw [bv_wiN n26, bv_wiN n46, bv_wiS]
    exact ⟨lq.1, lq.2.1, hp⟩
  · rw [mulN_0 (blen_lt _) _ (by omega)]
    apply nrm_0
    show bv _ (q + 6) = 0
    rw [bv_wiS]
end Cv2

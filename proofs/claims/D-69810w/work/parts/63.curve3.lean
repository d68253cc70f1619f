/-! a point as two numbers; keys in bytes -/
set_option maxRecDepth 100000
section Cv3
variable {G : Gx} {d : Nat} {h : AH} {C p q o n : Nat}
set_option maxHeartbeats 4000000 in
theorem Cv_plain_spec (hd : 5 ≤ d) (H : CvB h C) (hR : RingAt h (C + 1) p) (hc : cvLt h C p) (hq : PtB h q) (ho : PtB h o) (lq : PtLt h q p) (lo : PtLt h o p) (n1 : C + 53 < q) (n2 : C + 53 < o ∨ (C + 34 < o ∧ o + 6 < C + 42)) (n3 : q + 6 < o ∨ o + 6 < q) (hp : 2 < p) : Cw G mX3_plain d 0 [vR C, vR q] h (kV (fun h' => ((Mod (cvP C q) h h' ∧ RingAt h' (C + 1) p ∧ cvLt h' C p ∧ PtLt h' q p)) ∧ ptV h' q = ((plF p (ptV h q)).1, (plF p (ptV h q)).2, 1)) nE) := by
  obtain ⟨d, rfl⟩ : ∃ d', d = d' + 1 := ⟨d - 1, by omega⟩
  have hd1 : 1 ≤ d := by omega
  have hd2 : 2 ≤ d := by omega
  have hd4 : 4 ≤ d := by omega
  have hp1 : 1 < p := by omega
  have A := adC_ok n1 n2 n3
  have S0 := Reg.of hR H hc hq ho lq lo
  have H' := H
  have ho' := ho
  obtain ⟨⟨kC, c0, ca, cb, cc, cd, ce, cf, kF⟩, _⟩ := H
  obtain ⟨⟨kq, q1, q3, q5⟩, _⟩ := hq
  have M0 : Mod (RP (C + 1) 12 (adC C q o)) h h := Mod.rf
  refine eX3_plain h C q (fun _ => sX3_plain_0 h C q ⟨kC, fun r2 e2 r3 e3 => ⟨kq, fun r5 e5 => ?_⟩⟩)
  rw [e2.trans c0, e3.trans ce, e5.trans q5]
  obtain ⟨v1, ev1⟩ : ∃ v, v = bv h (q + 6) ^ (p - 2) % p := ⟨_, rfl⟩
  refine ⟨kF, (S0.inv hd4 A hp 4 8 v1 ev1 (by decide) (by decide)).nV (fun h7 Q => ?_)⟩
  have S1 := Q.2
  obtain ⟨g1, rfl, l1, k1⟩ := M0.trans Q.1
  have M1 : Mod (RP (C + 1) 12 (adC C q o)) h (h.si g1) := ⟨g1, rfl, l1, k1⟩
  intro r12 e12
  rw [e12.trans cf]
  obtain ⟨v2, ev2⟩ : ∃ v, v = v1 * v1 % p := ⟨_, rfl⟩
  refine (S1.mul hd2 A 5 4 4 v2 ev2 (by decide) (by decide) (by decide)).nV (fun h16 Q => ?_)
  have S2 := Q.2
  obtain ⟨g2, rfl, l2, k2⟩ := M1.trans Q.1
  have M2 : Mod (RP (C + 1) 12 (adC C q o)) h (h.si g2) := ⟨g2, rfl, l2, k2⟩
  intro r22 e22
  rw [e22.trans q1]
  obtain ⟨v3, ev3⟩ : ∃ v, v = bv h (q + 2) * v2 % p := ⟨_, rfl⟩
  refine (S2.mul hd2 A 6 6 5 v3 ev3 (by decide) (by decide) (by decide)).nV (fun h26 Q => ?_)
  have S3 := Q.2
  obtain ⟨g3, rfl, l3, k3⟩ := M2.trans Q.1
  have M3 : Mod (RP (C + 1) 12 (adC C q o)) h (h.si g3) := ⟨g3, rfl, l3, k3⟩
  obtain ⟨v4, ev4⟩ : ∃ v, v = v2 * v1 % p := ⟨_, rfl⟩
  refine (S3.mul hd2 A 5 5 4 v4 ev4 (by decide) (by decide) (by decide)).nV (fun h34 Q => ?_)
  have S4 := Q.2
  obtain ⟨g4, rfl, l4, k4⟩ := M3.trans Q.1
  have M4 : Mod (RP (C + 1) 12 (adC C q o)) h (h.si g4) := ⟨g4, rfl, l4, k4⟩
  intro r40 e40
  rw [e40.trans q3]
  obtain ⟨v5, ev5⟩ : ∃ v, v = bv h (q + 4) * v4 % p := ⟨_, rfl⟩
  refine (S4.mul hd2 A 7 7 5 v5 ev5 (by decide) (by decide) (by decide)).nV (fun h43 Q => ?_)
  have S5 := Q.2
  obtain ⟨g5, rfl, l5, k5⟩ := M4.trans Q.1
  have M5 : Mod (RP (C + 1) 12 (adC C q o)) h (h.si g5) := ⟨g5, rfl, l5, k5⟩
  refine ⟨(S5.2 8 (by decide)).1.1, (S5.small (v := 1) hd2 A 8 (by decide) (by decide) hp1).nR (fun x h53 Q => ?_)⟩
  have M6 := M5.trans Q.1
  obtain ⟨b1, b2, b3, b4, b5, b6⟩ := Q.2.back
  have eo : ptV h53 o = ptV h o := b6
  refine ⟨⟨ModRP M6 H' ho' eo, b1, b2, b3⟩, ?_⟩
  rw [b5]
  clear b1 b2 b3 b4 b5 b6 eo M6 Q S5 M5
  show (v3, v5, 1) = _
  simp only [plF, ptV, ev5, ev4, ev3, ev2, ev1]
end Cv3

/-! printed by gen/curve.py: the steps of Curve.twice and Curve.add over registers -/
set_option maxRecDepth 100000
def adC (C q o : Nat) (j : Nat) : Nat × Nat := match j with
  | 0 => (C + 42, C + 43)
  | 1 => (C + 44, C + 45)
  | 2 => (C + 46, C + 47)
  | 3 => (C + 48, C + 49)
  | 4 => (C + 50, C + 51)
  | 5 => (C + 52, C + 53)
  | 6 => (q + 1, q + 2)
  | 7 => (q + 3, q + 4)
  | 8 => (q + 5, q + 6)
  | 9 => (o + 1, o + 2)
  | 10 => (o + 3, o + 4)
  | _ => (o + 5, o + 6)
/-- the curve's own references -/
def CvS (h : AH) (C : Nat) : Prop := h.kd C = 3 ∧ h.r 3000 C = C + 1 ∧ h.r 3003 C = C + 42 ∧ h.r 3004 C = C + 44 ∧ h.r 3005 C = C + 46 ∧ h.r 3006 C = C + 48 ∧ h.r 3007 C = C + 50 ∧ h.r 3008 C = C + 52 ∧ h.kd (C + 1) = 4
def PtS (h : AH) (q : Nat) : Prop := h.kd q = 6 ∧ h.r 6000 q = q + 1 ∧ h.r 6001 q = q + 3 ∧ h.r 6002 q = q + 5
abbrev Pt : Type := Nat × Nat × Nat
/-- twice a point -/
def dblF (p : Nat) (P : Pt) : Pt :=
  if P.2.2 = 0 then P else
  let x := P.1; let y := P.2.1; let z := P.2.2
  let a := y * y % p
  let b := x * a % p
  let b := (b + b) % p
  let b := (b + b) % p
  let c := x * x % p
  let e := (c + c) % p
  let c := (e + c) % p
  let z := y * z % p
  let z := (z + z) % p
  let x := c * c % p
  let x := (x + p - b) % p
  let x := (x + p - b) % p
  let b := (b + p - x) % p
  let y := c * b % p
  let a := a * a % p
  let a := (a + a) % p
  let a := (a + a) % p
  let a := (a + a) % p
  let y := (y + p - a) % p
  (x, y, z)
/-- the sum of two points -/
def addF (p : Nat) (P Q : Pt) : Pt :=
  if Q.2.2 = 0 then P else if P.2.2 = 0 then Q else
  let a := P.2.2 * P.2.2 % p
  let b := Q.2.2 * Q.2.2 % p
  let c := P.1 * b % p
  let e := Q.1 * a % p
  let b := b * Q.2.2 % p
  let b := b * P.2.1 % p
  let a := a * P.2.2 % p
  let a := a * Q.2.1 % p
  let e := (e + p - c) % p
  let a := (a + p - b) % p
  if e = 0 then (if a = 0 then dblF p P else (P.1, P.2.1, 0)) else
  let z := P.2.2 * Q.2.2 % p
  let z := z * e % p
  let g := e * e % p
  let f := g * c % p
  let g := g * e % p
  let x := a * a % p
  let x := (x + p - g) % p
  let x := (x + p - f) % p
  let x := (x + p - f) % p
  let f := (f + p - x) % p
  let y := a * f % p
  let b := b * g % p
  let y := (y + p - b) % p
  (x, y, z)
section Cv
variable {G : Gx} {d : Nat} {h : AH} {C p q o : Nat} {f : Nat → Nat}
theorem Pt_none_spec {w : Nat} (hd : 2 ≤ d) (kq : h.kd q = 6) (q5 : h.r 6002 q = q + 5) (hz : BigAt h (q + 5) w) : Cw G mX6_none d 0 [vR q] h (kI (fun x h' => x = (if bv h w = 0 then 1 else 0) ∧ h' = h) nE) := by
  obtain ⟨d, rfl⟩ : ∃ d', d = d' + 1 := ⟨d - 1, by omega⟩
  refine eX6_none h q (fun _ => sX6_none_0 h q ⟨kq, fun r2 e2 => ?_⟩)
  rw [e2.trans q5]
  refine ⟨hz.1, (Big_isZero_spec (by omega) hz).nI (fun x h' hx => ?_)⟩
  obtain ⟨rfl, rfl⟩ := hx
  exact ⟨by by_cases e : bv h' w = 0 <;> simp [e], rfl, rfl⟩
theorem Pt_copy_spec (hd : 2 ≤ d) (A : AdOk (C + 1) 12 (adC C q o)) (hq : PtS h q) (ho : PtS h o) (S0 : Reg h (C + 1) p 12 (adC C q o) f) : Cw G mX6_copy d 0 [vR q, vR o] h (kR (fun _ h' => Mod (RP (C + 1) 12 (adC C q o)) h h' ∧ Reg h' (C + 1) p 12 (adC C q o) (up1 (up1 (up1 f 6 (f 9)) 7 (f 10)) 8 (f 11))) nE) := by
  obtain ⟨d, rfl⟩ : ∃ d', d = d' + 1 := ⟨d - 1, by omega⟩
  have hd1 : 1 ≤ d := by omega
  obtain ⟨kq, q1, q3, q5⟩ := hq
  obtain ⟨ko, o1, o3, o5⟩ := ho
  refine eX6_copy h q o (fun _ => sX6_copy_0 h q o ⟨kq, fun r2 e2 => ⟨ko, fun r4 e4 => ?_⟩⟩)
  rw [e2.trans q1, e4.trans o1]
  refine ⟨(S0.2 6 (by decide)).1.1, (S0.copy hd1 A 6 9 (by decide) (by decide)).nR (fun x h1 Q => ?_)⟩
  have S1 := Q.2
  obtain ⟨g1, rfl, l1, k1⟩ := Q.1
  have M1 : Mod (RP (C + 1) 12 (adC C q o)) h (h.si g1) := ⟨g1, rfl, l1, k1⟩
  intro r9 e9 r11 e11
  rw [e9.trans q3, e11.trans o3]
  refine ⟨(S1.2 7 (by decide)).1.1, (S1.copy hd1 A 7 10 (by decide) (by decide)).nR (fun x h1 Q => ?_)⟩
  have S2 := Q.2
  obtain ⟨g2, rfl, l2, k2⟩ := M1.trans Q.1
  have M2 : Mod (RP (C + 1) 12 (adC C q o)) h (h.si g2) := ⟨g2, rfl, l2, k2⟩
  intro r16 e16 r18 e18
  rw [e16.trans q5, e18.trans o5]
  refine ⟨(S2.2 8 (by decide)).1.1, (S2.copy hd1 A 8 11 (by decide) (by decide)).nR (fun x h1 Q => ?_)⟩
  exact ⟨M2.trans Q.1, Q.2⟩
set_option maxHeartbeats 16000000 in
theorem twice_reg (hd : 2 ≤ d) (A : AdOk (C + 1) 12 (adC C q o)) (H : CvS h C) (hq : PtS h q) (ho : PtS h o) (S0 : Reg h (C + 1) p 12 (adC C q o) f) : Cw G mX3_twice (d + 1) 0 [vR C, vR q] h (kV (fun h' => Mod (RP (C + 1) 12 (adC C q o)) h h' ∧ ∃ f', Reg h' (C + 1) p 12 (adC C q o) f' ∧ (f' 6, f' 7, f' 8) = dblF p (f 6, f 7, f 8) ∧ f' 9 = f 9 ∧ f' 10 = f 10 ∧ f' 11 = f 11) nE) := by
  obtain ⟨kC, c0, ca, cb, cc, cd, ce, cf, kF⟩ := H
  obtain ⟨kq, q1, q3, q5⟩ := hq
  obtain ⟨ko, o1, o3, o5⟩ := ho
  have M0 : Mod (RP (C + 1) 12 (adC C q o)) h h := Mod.rf
  refine eX3_twice h C q (fun _ => sX3_twice_0 h C q ?_)
  refine ⟨kq, ?_⟩
  refine (Pt_none_spec (by omega) kq q5 (S0.2 8 (by decide)).1).nI (fun x1 h2 Q => ?_)
  obtain ⟨rfl, rfl⟩ := Q
  rw [(S0.2 8 (by decide)).2.1]
  refine ⟨fun c4 => ?_, fun c5 => ?_⟩
  · skip
    refine ⟨kC, ?_⟩
    intro r6 er6
    rw [er6.trans c0]; clear er6
    intro r7 er7
    rw [er7.trans ca]; clear er7
    intro r9 er9
    rw [er9.trans q3]; clear er9
    refine ⟨kF, ?_⟩
    obtain ⟨v1, ev1⟩ : ∃ v, v = f 7 * f 7 % p := ⟨_, rfl⟩
    refine (S0.mul hd A 0 7 7 v1 ev1 (by decide) (by decide) (by decide)).nV (fun h11 Q => ?_)
    have S1 := Q.2
    obtain ⟨g1, rfl, l1, k1⟩ := M0.trans Q.1
    clear Q
    have M1 : Mod (RP (C + 1) 12 (adC C q o)) h2 (h2.si g1) := ⟨g1, rfl, l1, k1⟩
    intro r16 er16
    rw [er16.trans cb]; clear er16
    intro r18 er18
    rw [er18.trans q1]; clear er18
    obtain ⟨v2, ev2⟩ : ∃ v, v = f 6 * v1 % p := ⟨_, rfl⟩
    refine (S1.mul hd A 1 6 0 v2 ev2 (by decide) (by decide) (by decide)).nV (fun h22 Q => ?_)
    have S2 := Q.2
    obtain ⟨g2, rfl, l2, k2⟩ := M1.trans Q.1
    clear Q
    have M2 : Mod (RP (C + 1) 12 (adC C q o)) h2 (h2.si g2) := ⟨g2, rfl, l2, k2⟩
    clear S1 M1 l1 k1
    obtain ⟨v3, ev3⟩ : ∃ v, v = (v2 + v2) % p := ⟨_, rfl⟩
    refine (S2.add hd A 1 1 1 v3 ev3 (by decide) (by decide) (by decide)).nV (fun h29 Q => ?_)
    have S3 := Q.2
    obtain ⟨g3, rfl, l3, k3⟩ := M2.trans Q.1
    clear Q
    have M3 : Mod (RP (C + 1) 12 (adC C q o)) h2 (h2.si g3) := ⟨g3, rfl, l3, k3⟩
    clear S2 M2 l2 k2
    obtain ⟨v4, ev4⟩ : ∃ v, v = (v3 + v3) % p := ⟨_, rfl⟩
    refine (S3.add hd A 1 1 1 v4 ev4 (by decide) (by decide) (by decide)).nV (fun h35 Q => ?_)
    have S4 := Q.2
    obtain ⟨g4, rfl, l4, k4⟩ := M3.trans Q.1
    clear Q
    have M4 : Mod (RP (C + 1) 12 (adC C q o)) h2 (h2.si g4) := ⟨g4, rfl, l4, k4⟩
    clear S3 M3 l3 k3
    intro r39 er39
    rw [er39.trans cc]; clear er39
    obtain ⟨v5, ev5⟩ : ∃ v, v = f 6 * f 6 % p := ⟨_, rfl⟩
    refine (S4.mul hd A 2 6 6 v5 ev5 (by decide) (by decide) (by decide)).nV (fun h48 Q => ?_)
    have S5 := Q.2
    obtain ⟨g5, rfl, l5, k5⟩ := M4.trans Q.1
    clear Q
    have M5 : Mod (RP (C + 1) 12 (adC C q o)) h2 (h2.si g5) := ⟨g5, rfl, l5, k5⟩
    clear S4 M4 l4 k4
    intro r52 er52
    rw [er52.trans cd]; clear er52
    obtain ⟨v6, ev6⟩ : ∃ v, v = (v5 + v5) % p := ⟨_, rfl⟩
    refine (S5.add hd A 3 2 2 v6 ev6 (by decide) (by decide) (by decide)).nV (fun h56 Q => ?_)
    have S6 := Q.2
    obtain ⟨g6, rfl, l6, k6⟩ := M5.trans Q.1
    clear Q
    have M6 : Mod (RP (C + 1) 12 (adC C q o)) h2 (h2.si g6) := ⟨g6, rfl, l6, k6⟩
    clear S5 M5 l5 k5
    obtain ⟨v7, ev7⟩ : ∃ v, v = (v6 + v5) % p := ⟨_, rfl⟩
    refine (S6.add hd A 2 3 2 v7 ev7 (by decide) (by decide) (by decide)).nV (fun h64 Q => ?_)
    have S7 := Q.2
    obtain ⟨g7, rfl, l7, k7⟩ := M6.trans Q.1
    clear Q
    have M7 : Mod (RP (C + 1) 12 (adC C q o)) h2 (h2.si g7) := ⟨g7, rfl, l7, k7⟩
    clear S6 M6 l6 k6
    intro r71 er71
    rw [er71.trans q5]; clear er71
    obtain ⟨v8, ev8⟩ : ∃ v, v = f 7 * f 8 % p := ⟨_, rfl⟩
    refine (S7.mul hd A 8 7 8 v8 ev8 (by decide) (by decide) (by decide)).nV (fun h81 Q => ?_)
    have S8 := Q.2
    obtain ⟨g8, rfl, l8, k8⟩ := M7.trans Q.1
    clear Q
    have M8 : Mod (RP (C + 1) 12 (adC C q o)) h2 (h2.si g8) := ⟨g8, rfl, l8, k8⟩
    clear S7 M7 l7 k7
    obtain ⟨v9, ev9⟩ : ∃ v, v = (v8 + v8) % p := ⟨_, rfl⟩
    refine (S8.add hd A 8 8 8 v9 ev9 (by decide) (by decide) (by decide)).nV (fun h89 Q => ?_)
    have S9 := Q.2
    obtain ⟨g9, rfl, l9, k9⟩ := M8.trans Q.1
    clear Q
    have M9 : Mod (RP (C + 1) 12 (adC C q o)) h2 (h2.si g9) := ⟨g9, rfl, l9, k9⟩
    clear S8 M8 l8 k8
    obtain ⟨v10, ev10⟩ : ∃ v, v = v7 * v7 % p := ⟨_, rfl⟩
    refine (S9.mul hd A 6 2 2 v10 ev10 (by decide) (by decide) (by decide)).nV (fun h103 Q => ?_)
    have S10 := Q.2
    obtain ⟨g10, rfl, l10, k10⟩ := M9.trans Q.1
    clear Q
    have M10 : Mod (RP (C + 1) 12 (adC C q o)) h2 (h2.si g10) := ⟨g10, rfl, l10, k10⟩
    clear S9 M9 l9 k9
    obtain ⟨v11, ev11⟩ : ∃ v, v = (v10 + p - v4) % p := ⟨_, rfl⟩
    refine (S10.sub hd A 6 6 1 v11 ev11 (by decide) (by decide) (by decide)).nV (fun h117 Q => ?_)
    have S11 := Q.2
    obtain ⟨g11, rfl, l11, k11⟩ := M10.trans Q.1
    clear Q
    have M11 : Mod (RP (C + 1) 12 (adC C q o)) h2 (h2.si g11) := ⟨g11, rfl, l11, k11⟩
    clear S10 M10 l10 k10
    obtain ⟨v12, ev12⟩ : ∃ v, v = (v11 + p - v4) % p := ⟨_, rfl⟩
    refine (S11.sub hd A 6 6 1 v12 ev12 (by decide) (by decide) (by decide)).nV (fun h125 Q => ?_)
    have S12 := Q.2
    obtain ⟨g12, rfl, l12, k12⟩ := M11.trans Q.1
    clear Q
    have M12 : Mod (RP (C + 1) 12 (adC C q o)) h2 (h2.si g12) := ⟨g12, rfl, l12, k12⟩
    clear S11 M11 l11 k11
    obtain ⟨v13, ev13⟩ : ∃ v, v = (v4 + p - v12) % p := ⟨_, rfl⟩
    refine (S12.sub hd A 1 1 6 v13 ev13 (by decide) (by decide) (by decide)).nV (fun h133 Q => ?_)
    have S13 := Q.2
    obtain ⟨g13, rfl, l13, k13⟩ := M12.trans Q.1
    clear Q
    have M13 : Mod (RP (C + 1) 12 (adC C q o)) h2 (h2.si g13) := ⟨g13, rfl, l13, k13⟩
    clear S12 M12 l12 k12
    obtain ⟨v14, ev14⟩ : ∃ v, v = v7 * v13 % p := ⟨_, rfl⟩
    refine (S13.mul hd A 7 2 1 v14 ev14 (by decide) (by decide) (by decide)).nV (fun h150 Q => ?_)
    have S14 := Q.2
    obtain ⟨g14, rfl, l14, k14⟩ := M13.trans Q.1
    clear Q
    have M14 : Mod (RP (C + 1) 12 (adC C q o)) h2 (h2.si g14) := ⟨g14, rfl, l14, k14⟩
    clear S13 M13 l13 k13
    obtain ⟨v15, ev15⟩ : ∃ v, v = v1 * v1 % p := ⟨_, rfl⟩
    refine (S14.mul hd A 0 0 0 v15 ev15 (by decide) (by decide) (by decide)).nV (fun h168 Q => ?_)
    have S15 := Q.2
    obtain ⟨g15, rfl, l15, k15⟩ := M14.trans Q.1
    clear Q
    have M15 : Mod (RP (C + 1) 12 (adC C q o)) h2 (h2.si g15) := ⟨g15, rfl, l15, k15⟩
    clear S14 M14 l14 k14
    have hz : f 8 ≠ 0 := by intro e; simp_all
    refine sX3_twice_295 _ C q (nI 0) (pk_le 3 0 (fun e => absurd e (by decide)) (fun _ => ?_))
    refine ⟨kC, fun r11 e11 r12 e12 => ?_⟩
    rw [e11.trans c0, e12.trans ca]
    refine ⟨kF, ?_⟩
    obtain ⟨v16, ev16⟩ : ∃ v, v = (v15 + v15) % p := ⟨_, rfl⟩
    refine (S15.add hd A 0 0 0 v16 ev16 (by decide) (by decide) (by decide)).nV (fun h14 Q => ?_)
    have S16 := Q.2
    obtain ⟨g16, rfl, l16, k16⟩ := M15.trans Q.1
    clear Q
    have M16 : Mod (RP (C + 1) 12 (adC C q o)) h2 (h2.si g16) := ⟨g16, rfl, l16, k16⟩
    clear S15 M15 l15 k15
    rw [nI_1]
    refine sX3_twice_295 _ C q (nI 1) (pk_le 3 1 (fun e => absurd e (by decide)) (fun _ => ?_))
    refine ⟨kC, fun r11 e11 r12 e12 => ?_⟩
    rw [e11.trans c0, e12.trans ca]
    refine ⟨kF, ?_⟩
    obtain ⟨v17, ev17⟩ : ∃ v, v = (v16 + v16) % p := ⟨_, rfl⟩
    refine (S16.add hd A 0 0 0 v17 ev17 (by decide) (by decide) (by decide)).nV (fun h14 Q => ?_)
    have S17 := Q.2
    obtain ⟨g17, rfl, l17, k17⟩ := M16.trans Q.1
    clear Q
    have M17 : Mod (RP (C + 1) 12 (adC C q o)) h2 (h2.si g17) := ⟨g17, rfl, l17, k17⟩
    clear S16 M16 l16 k16
    rw [nI_1]
    refine sX3_twice_295 _ C q (nI 2) (pk_le 3 2 (fun e => absurd e (by decide)) (fun _ => ?_))
    refine ⟨kC, fun r11 e11 r12 e12 => ?_⟩
    rw [e11.trans c0, e12.trans ca]
    refine ⟨kF, ?_⟩
    obtain ⟨v18, ev18⟩ : ∃ v, v = (v17 + v17) % p := ⟨_, rfl⟩
    refine (S17.add hd A 0 0 0 v18 ev18 (by decide) (by decide) (by decide)).nV (fun h14 Q => ?_)
    have S18 := Q.2
    obtain ⟨g18, rfl, l18, k18⟩ := M17.trans Q.1
    clear Q
    have M18 : Mod (RP (C + 1) 12 (adC C q o)) h2 (h2.si g18) := ⟨g18, rfl, l18, k18⟩
    clear S17 M17 l17 k17
    rw [nI_1]
    refine sX3_twice_295 _ C q (nI 3) (pk_le 3 3 (fun _ => ?_) (fun e => absurd e (by decide)))
    refine ⟨kC, fun r3 e3 => ⟨kq, fun r5 e5 r6 e6 => ?_⟩⟩
    rw [e3.trans c0, e5.trans q3, e6.trans ca]
    refine ⟨kF, ?_⟩
    obtain ⟨v19, ev19⟩ : ∃ v, v = (v14 + p - v18) % p := ⟨_, rfl⟩
    refine (S18.sub hd A 7 7 0 v19 ev19 (by decide) (by decide) (by decide)).nV (fun h14 Q => ?_)
    have S19 := Q.2
    obtain ⟨g19, rfl, l19, k19⟩ := M18.trans Q.1
    clear Q
    have M19 : Mod (RP (C + 1) 12 (adC C q o)) h2 (h2.si g19) := ⟨g19, rfl, l19, k19⟩
    clear S18 M18 l18 k18
    refine ⟨M19, _, S19, ?_, rfl, rfl, rfl⟩
    clear S19 M19
    show (v12, v19, v9) = _
    rw [dblF, if_neg hz]
    simp only [ev19, ev18, ev17, ev16, ev15, ev14, ev13, ev12, ev11, ev10, ev9, ev8, ev7, ev6, ev5, ev4, ev3, ev2, ev1]
  · skip
    have hz : f 8 = 0 := by by_cases e : f 8 = 0 <;> simp_all
    refine ⟨M0, f, S0, ?_, rfl, rfl, rfl⟩
    rw [dblF, if_pos hz]
set_option maxHeartbeats 16000000 in
theorem add_reg (hd : 2 ≤ d) (A : AdOk (C + 1) 12 (adC C q o)) (H : CvS h C) (hq : PtS h q) (ho : PtS h o) (S0 : Reg h (C + 1) p 12 (adC C q o) f) : Cw G mX3_add (d + 2) 0 [vR C, vR q, vR o] h (kV (fun h' => Mod (RP (C + 1) 12 (adC C q o)) h h' ∧ ∃ f', Reg h' (C + 1) p 12 (adC C q o) f' ∧ (f' 6, f' 7, f' 8) = addF p (f 6, f 7, f 8) (f 9, f 10, f 11) ∧ f' 9 = f 9 ∧ f' 10 = f 10 ∧ f' 11 = f 11) nE) := by
  have hd0 := hd
  replace hd : 2 ≤ d + 1 := by omega
  obtain ⟨kC, c0, ca, cb, cc, cd, ce, cf, kF⟩ := H
  obtain ⟨kq, q1, q3, q5⟩ := hq
  obtain ⟨ko, o1, o3, o5⟩ := ho
  have M0 : Mod (RP (C + 1) 12 (adC C q o)) h h := Mod.rf
  refine eX3_add h C q o (fun _ => sX3_add_0 h C q o ?_)
  refine ⟨ko, ?_⟩
  refine (Pt_none_spec (by omega) ko o5 (S0.2 11 (by decide)).1).nI (fun x1 h2 Q => ?_)
  obtain ⟨rfl, rfl⟩ := Q
  rw [(S0.2 11 (by decide)).2.1]
  refine ⟨fun u2 => ?_, fun v2 => ?_⟩
  · skip
    have hz2 : f 11 ≠ 0 := by intro e; simp_all
    refine ⟨kq, ?_⟩
    refine (Pt_none_spec (by omega) kq q5 (S0.2 8 (by decide)).1).nI (fun x5 h6 Q => ?_)
    obtain ⟨rfl, rfl⟩ := Q
    rw [(S0.2 8 (by decide)).2.1]
    refine ⟨fun u1 => ?_, fun v1 => ?_⟩
    · skip
      have hz1 : f 8 ≠ 0 := by intro e; simp_all
      refine ⟨kC, ?_⟩
      intro r10 er10
      rw [er10.trans c0]; clear er10
      intro r11 er11
      rw [er11.trans ca]; clear er11
      intro r13 er13
      rw [er13.trans q5]; clear er13
      refine ⟨kF, ?_⟩
      obtain ⟨v1, ev1⟩ : ∃ v, v = f 8 * f 8 % p := ⟨_, rfl⟩
      refine (S0.mul hd A 0 8 8 v1 ev1 (by decide) (by decide) (by decide)).nV (fun h15 Q => ?_)
      have S1 := Q.2
      obtain ⟨g1, rfl, l1, k1⟩ := M0.trans Q.1
      clear Q
      have M1 : Mod (RP (C + 1) 12 (adC C q o)) h6 (h6.si g1) := ⟨g1, rfl, l1, k1⟩
      intro r20 er20
      rw [er20.trans cb]; clear er20
      intro r24 er24
      rw [er24.trans o5]; clear er24
      obtain ⟨v2, ev2⟩ : ∃ v, v = f 11 * f 11 % p := ⟨_, rfl⟩
      refine (S1.mul hd A 1 11 11 v2 ev2 (by decide) (by decide) (by decide)).nV (fun h26 Q => ?_)
      have S2 := Q.2
      obtain ⟨g2, rfl, l2, k2⟩ := M1.trans Q.1
      clear Q
      have M2 : Mod (RP (C + 1) 12 (adC C q o)) h6 (h6.si g2) := ⟨g2, rfl, l2, k2⟩
      clear S1 M1 l1 k1
      intro r30 er30
      rw [er30.trans cc]; clear er30
      intro r33 er33
      rw [er33.trans q1]; clear er33
      obtain ⟨v3, ev3⟩ : ∃ v, v = f 6 * v2 % p := ⟨_, rfl⟩
      refine (S2.mul hd A 2 6 1 v3 ev3 (by decide) (by decide) (by decide)).nV (fun h37 Q => ?_)
      have S3 := Q.2
      obtain ⟨g3, rfl, l3, k3⟩ := M2.trans Q.1
      clear Q
      have M3 : Mod (RP (C + 1) 12 (adC C q o)) h6 (h6.si g3) := ⟨g3, rfl, l3, k3⟩
      clear S2 M2 l2 k2
      intro r41 er41
      rw [er41.trans cd]; clear er41
      intro r44 er44
      rw [er44.trans o1]; clear er44
      obtain ⟨v4, ev4⟩ : ∃ v, v = f 9 * v1 % p := ⟨_, rfl⟩
      refine (S3.mul hd A 3 9 0 v4 ev4 (by decide) (by decide) (by decide)).nV (fun h50 Q => ?_)
      have S4 := Q.2
      obtain ⟨g4, rfl, l4, k4⟩ := M3.trans Q.1
      clear Q
      have M4 : Mod (RP (C + 1) 12 (adC C q o)) h6 (h6.si g4) := ⟨g4, rfl, l4, k4⟩
      clear S3 M3 l3 k3
      obtain ⟨v5, ev5⟩ : ∃ v, v = v2 * f 11 % p := ⟨_, rfl⟩
      refine (S4.mul hd A 1 1 11 v5 ev5 (by decide) (by decide) (by decide)).nV (fun h62 Q => ?_)
      have S5 := Q.2
      obtain ⟨g5, rfl, l5, k5⟩ := M4.trans Q.1
      clear Q
      have M5 : Mod (RP (C + 1) 12 (adC C q o)) h6 (h6.si g5) := ⟨g5, rfl, l5, k5⟩
      clear S4 M4 l4 k4
      intro r70 er70
      rw [er70.trans q3]; clear er70
      obtain ⟨v6, ev6⟩ : ∃ v, v = v5 * f 7 % p := ⟨_, rfl⟩
      refine (S5.mul hd A 1 1 7 v6 ev6 (by decide) (by decide) (by decide)).nV (fun h72 Q => ?_)
      have S6 := Q.2
      obtain ⟨g6, rfl, l6, k6⟩ := M5.trans Q.1
      clear Q
      have M6 : Mod (RP (C + 1) 12 (adC C q o)) h6 (h6.si g6) := ⟨g6, rfl, l6, k6⟩
      clear S5 M5 l5 k5
      obtain ⟨v7, ev7⟩ : ∃ v, v = v1 * f 8 % p := ⟨_, rfl⟩
      refine (S6.mul hd A 0 0 8 v7 ev7 (by decide) (by decide) (by decide)).nV (fun h88 Q => ?_)
      have S7 := Q.2
      obtain ⟨g7, rfl, l7, k7⟩ := M6.trans Q.1
      clear Q
      have M7 : Mod (RP (C + 1) 12 (adC C q o)) h6 (h6.si g7) := ⟨g7, rfl, l7, k7⟩
      clear S6 M6 l6 k6
      intro r96 er96
      rw [er96.trans o3]; clear er96
      obtain ⟨v8, ev8⟩ : ∃ v, v = v7 * f 10 % p := ⟨_, rfl⟩
      refine (S7.mul hd A 0 0 10 v8 ev8 (by decide) (by decide) (by decide)).nV (fun h98 Q => ?_)
      have S8 := Q.2
      obtain ⟨g8, rfl, l8, k8⟩ := M7.trans Q.1
      clear Q
      have M8 : Mod (RP (C + 1) 12 (adC C q o)) h6 (h6.si g8) := ⟨g8, rfl, l8, k8⟩
      clear S7 M7 l7 k7
      obtain ⟨v9, ev9⟩ : ∃ v, v = (v4 + p - v3) % p := ⟨_, rfl⟩
      refine (S8.sub hd A 3 3 2 v9 ev9 (by decide) (by decide) (by decide)).nV (fun h116 Q => ?_)
      have S9 := Q.2
      obtain ⟨g9, rfl, l9, k9⟩ := M8.trans Q.1
      clear Q
      have M9 : Mod (RP (C + 1) 12 (adC C q o)) h6 (h6.si g9) := ⟨g9, rfl, l9, k9⟩
      clear S8 M8 l8 k8
      obtain ⟨v10, ev10⟩ : ∃ v, v = (v8 + p - v6) % p := ⟨_, rfl⟩
      refine (S9.sub hd A 0 0 1 v10 ev10 (by decide) (by decide) (by decide)).nV (fun h127 Q => ?_)
      have S10 := Q.2
      obtain ⟨g10, rfl, l10, k10⟩ := M9.trans Q.1
      clear Q
      have M10 : Mod (RP (C + 1) 12 (adC C q o)) h6 (h6.si g10) := ⟨g10, rfl, l10, k10⟩
      clear S9 M9 l9 k9
      refine ⟨(S10.2 3 (by decide)).1.1, ?_⟩
      refine (S10.isZ (by omega) 3 (by decide)).nI (fun x132 h133 Q => ?_)
      obtain ⟨rfl, rfl⟩ := Q
      refine ⟨fun cD => ?_, fun cD => ?_⟩
      · skip
        obtain ⟨v11, ev11⟩ : ∃ v, v = f 8 * f 11 % p := ⟨_, rfl⟩
        refine (S10.mul hd A 8 8 11 v11 ev11 (by decide) (by decide) (by decide)).nV (fun h161 Q => ?_)
        have S11 := Q.2
        obtain ⟨g11, rfl, l11, k11⟩ := M10.trans Q.1
        clear Q
        have M11 : Mod (RP (C + 1) 12 (adC C q o)) h6 (h6.si g11) := ⟨g11, rfl, l11, k11⟩
        clear S10 M10 l10 k10
        obtain ⟨v12, ev12⟩ : ∃ v, v = v11 * v9 % p := ⟨_, rfl⟩
        refine (S11.mul hd A 8 8 3 v12 ev12 (by decide) (by decide) (by decide)).nV (fun h171 Q => ?_)
        have S12 := Q.2
        obtain ⟨g12, rfl, l12, k12⟩ := M11.trans Q.1
        clear Q
        have M12 : Mod (RP (C + 1) 12 (adC C q o)) h6 (h6.si g12) := ⟨g12, rfl, l12, k12⟩
        clear S11 M11 l11 k11
        intro r175 er175
        rw [er175.trans ce]; clear er175
        obtain ⟨v13, ev13⟩ : ∃ v, v = v9 * v9 % p := ⟨_, rfl⟩
        refine (S12.mul hd A 4 3 3 v13 ev13 (by decide) (by decide) (by decide)).nV (fun h178 Q => ?_)
        have S13 := Q.2
        obtain ⟨g13, rfl, l13, k13⟩ := M12.trans Q.1
        clear Q
        have M13 : Mod (RP (C + 1) 12 (adC C q o)) h6 (h6.si g13) := ⟨g13, rfl, l13, k13⟩
        clear S12 M12 l12 k12
        intro r182 er182
        rw [er182.trans cf]; clear er182
        obtain ⟨v14, ev14⟩ : ∃ v, v = v13 * v3 % p := ⟨_, rfl⟩
        refine (S13.mul hd A 5 4 2 v14 ev14 (by decide) (by decide) (by decide)).nV (fun h192 Q => ?_)
        have S14 := Q.2
        obtain ⟨g14, rfl, l14, k14⟩ := M13.trans Q.1
        clear Q
        have M14 : Mod (RP (C + 1) 12 (adC C q o)) h6 (h6.si g14) := ⟨g14, rfl, l14, k14⟩
        clear S13 M13 l13 k13
        obtain ⟨v15, ev15⟩ : ∃ v, v = v13 * v9 % p := ⟨_, rfl⟩
        refine (S14.mul hd A 4 4 3 v15 ev15 (by decide) (by decide) (by decide)).nV (fun h200 Q => ?_)
        have S15 := Q.2
        obtain ⟨g15, rfl, l15, k15⟩ := M14.trans Q.1
        clear Q
        have M15 : Mod (RP (C + 1) 12 (adC C q o)) h6 (h6.si g15) := ⟨g15, rfl, l15, k15⟩
        clear S14 M14 l14 k14
        obtain ⟨v16, ev16⟩ : ∃ v, v = v10 * v10 % p := ⟨_, rfl⟩
        refine (S15.mul hd A 6 0 0 v16 ev16 (by decide) (by decide) (by decide)).nV (fun h231 Q => ?_)
        have S16 := Q.2
        obtain ⟨g16, rfl, l16, k16⟩ := M15.trans Q.1
        clear Q
        have M16 : Mod (RP (C + 1) 12 (adC C q o)) h6 (h6.si g16) := ⟨g16, rfl, l16, k16⟩
        clear S15 M15 l15 k15
        obtain ⟨v17, ev17⟩ : ∃ v, v = (v16 + p - v15) % p := ⟨_, rfl⟩
        refine (S16.sub hd A 6 6 4 v17 ev17 (by decide) (by decide) (by decide)).nV (fun h240 Q => ?_)
        have S17 := Q.2
        obtain ⟨g17, rfl, l17, k17⟩ := M16.trans Q.1
        clear Q
        have M17 : Mod (RP (C + 1) 12 (adC C q o)) h6 (h6.si g17) := ⟨g17, rfl, l17, k17⟩
        clear S16 M16 l16 k16
        obtain ⟨v18, ev18⟩ : ∃ v, v = (v17 + p - v14) % p := ⟨_, rfl⟩
        refine (S17.sub hd A 6 6 5 v18 ev18 (by decide) (by decide) (by decide)).nV (fun h252 Q => ?_)
        have S18 := Q.2
        obtain ⟨g18, rfl, l18, k18⟩ := M17.trans Q.1
        clear Q
        have M18 : Mod (RP (C + 1) 12 (adC C q o)) h6 (h6.si g18) := ⟨g18, rfl, l18, k18⟩
        clear S17 M17 l17 k17
        obtain ⟨v19, ev19⟩ : ∃ v, v = (v18 + p - v14) % p := ⟨_, rfl⟩
        refine (S18.sub hd A 6 6 5 v19 ev19 (by decide) (by decide) (by decide)).nV (fun h260 Q => ?_)
        have S19 := Q.2
        obtain ⟨g19, rfl, l19, k19⟩ := M18.trans Q.1
        clear Q
        have M19 : Mod (RP (C + 1) 12 (adC C q o)) h6 (h6.si g19) := ⟨g19, rfl, l19, k19⟩
        clear S18 M18 l18 k18
        obtain ⟨v20, ev20⟩ : ∃ v, v = (v14 + p - v19) % p := ⟨_, rfl⟩
        refine (S19.sub hd A 5 5 6 v20 ev20 (by decide) (by decide) (by decide)).nV (fun h268 Q => ?_)
        have S20 := Q.2
        obtain ⟨g20, rfl, l20, k20⟩ := M19.trans Q.1
        clear Q
        have M20 : Mod (RP (C + 1) 12 (adC C q o)) h6 (h6.si g20) := ⟨g20, rfl, l20, k20⟩
        clear S19 M19 l19 k19
        obtain ⟨v21, ev21⟩ : ∃ v, v = v10 * v20 % p := ⟨_, rfl⟩
        refine (S20.mul hd A 7 0 5 v21 ev21 (by decide) (by decide) (by decide)).nV (fun h297 Q => ?_)
        have S21 := Q.2
        obtain ⟨g21, rfl, l21, k21⟩ := M20.trans Q.1
        clear Q
        have M21 : Mod (RP (C + 1) 12 (adC C q o)) h6 (h6.si g21) := ⟨g21, rfl, l21, k21⟩
        clear S20 M20 l20 k20
        obtain ⟨v22, ev22⟩ : ∃ v, v = v6 * v15 % p := ⟨_, rfl⟩
        refine (S21.mul hd A 1 1 4 v22 ev22 (by decide) (by decide) (by decide)).nV (fun h320 Q => ?_)
        have S22 := Q.2
        obtain ⟨g22, rfl, l22, k22⟩ := M21.trans Q.1
        clear Q
        have M22 : Mod (RP (C + 1) 12 (adC C q o)) h6 (h6.si g22) := ⟨g22, rfl, l22, k22⟩
        clear S21 M21 l21 k21
        obtain ⟨v23, ev23⟩ : ∃ v, v = (v21 + p - v22) % p := ⟨_, rfl⟩
        refine (S22.sub hd A 7 7 1 v23 ev23 (by decide) (by decide) (by decide)).nV (fun h330 Q => ?_)
        have S23 := Q.2
        obtain ⟨g23, rfl, l23, k23⟩ := M22.trans Q.1
        clear Q
        have M23 : Mod (RP (C + 1) 12 (adC C q o)) h6 (h6.si g23) := ⟨g23, rfl, l23, k23⟩
        clear S22 M22 l22 k22
        have hd0 : ¬ (v9 = 0) := fun e => by
          have e' : (if v9 = 0 then (1 : Int32) else 0) = 0 := cD
          rw [if_pos e] at e'
          exact absurd e' (by decide)
        refine ⟨M23, _, S23, ?_, rfl, rfl, rfl⟩
        clear S23 M23
        show (v19, v23, v12) = _
        rw [addF, if_neg hz2, if_neg hz1]
        have hE : v9 = (f 9 * (f 8 * f 8 % p) % p + p - f 6 * (f 11 * f 11 % p) % p) % p := by rw [ev9, ev4, ev3, ev2, ev1]
        rw [hE] at hd0
        refine Eq.trans ?_ (if_neg hd0).symm
        simp only [ev23, ev22, ev21, ev20, ev19, ev18, ev17, ev16, ev15, ev14, ev13, ev12, ev11, ev10, ev9, ev8, ev7, ev6, ev5, ev4, ev3, ev2, ev1]
      · skip
        refine ⟨(S10.2 0 (by decide)).1.1, ?_⟩
        refine (S10.isZ (by omega) 0 (by decide)).nI (fun x335 h336 Q => ?_)
        obtain ⟨rfl, rfl⟩ := Q
        refine ⟨fun cA => ?_, fun cA => ?_⟩
        · skip
          refine ⟨(S10.2 8 (by decide)).1.1, ?_⟩
          refine (S10.zero (by omega) A 8 (by decide)).nR (fun x351 h352 Q => ?_)
          have S11 := Q.2
          obtain ⟨g11, rfl, l11, k11⟩ := M10.trans Q.1
          clear Q
          have M11 : Mod (RP (C + 1) 12 (adC C q o)) h6 (h6.si g11) := ⟨g11, rfl, l11, k11⟩
          clear S10 M10 l10 k10
          have hd0 : v9 = 0 := by
            refine Decidable.byContradiction (fun e => ?_)
            exact cD (if_neg e)
          have ha0 : ¬ (v10 = 0) := fun e => by
            have e' : (if v10 = 0 then (1 : Int32) else 0) = 0 := cA
            rw [if_pos e] at e'
            exact absurd e' (by decide)
          refine ⟨M11, _, S11, ?_, rfl, rfl, rfl⟩
          clear S11 M11
          show (f 6, f 7, 0) = _
          rw [addF, if_neg hz2, if_neg hz1]
          have hE : v9 = (f 9 * (f 8 * f 8 % p) % p + p - f 6 * (f 11 * f 11 % p) % p) % p := by rw [ev9, ev4, ev3, ev2, ev1]
          have hF : v10 = (f 8 * f 8 % p * f 8 % p * f 10 % p + p - f 11 * f 11 % p * f 11 % p * f 7 % p) % p := by rw [ev10, ev8, ev7, ev6, ev5, ev2, ev1]
          rw [hE] at hd0
          rw [hF] at ha0
          exact ((if_pos hd0).trans (if_neg ha0)).symm
        · skip
          refine (twice_reg (h := h6.si g10) (by omega) A ⟨kC, c0, ca, cb, cc, cd, ce, cf, kF⟩ ⟨kq, q1, q3, q5⟩ ⟨ko, o1, o3, o5⟩ S10).nV (fun h355 Q => ?_)
          have hd0 : v9 = 0 := by
            refine Decidable.byContradiction (fun e => ?_)
            exact cD (if_neg e)
          have ha0 : v10 = 0 := by
            refine Decidable.byContradiction (fun e => ?_)
            exact cA (if_neg e)
          obtain ⟨Q1, f', Q2, Q3, Q4, Q5, Q6⟩ := Q
          refine ⟨M10.trans Q1, f', Q2, ?_, Q4, Q5, Q6⟩
          clear Q1 Q2
          clear S10 M10
          rw [addF, if_neg hz2, if_neg hz1, Q3]
          have hE : v9 = (f 9 * (f 8 * f 8 % p) % p + p - f 6 * (f 11 * f 11 % p) % p) % p := by rw [ev9, ev4, ev3, ev2, ev1]
          have hF : v10 = (f 8 * f 8 % p * f 8 % p * f 10 % p + p - f 11 * f 11 % p * f 11 % p * f 7 % p) % p := by rw [ev10, ev8, ev7, ev6, ev5, ev2, ev1]
          rw [hE] at hd0
          rw [hF] at ha0
          exact ((if_pos hd0).trans (if_pos ha0)).symm
    · skip
      refine (Pt_copy_spec hd A ⟨kq, q1, q3, q5⟩ ⟨ko, o1, o3, o5⟩ S0).nR (fun x357 h358 Q => ?_)
      refine ⟨M0.trans Q.1, _, Q.2, ?_, rfl, rfl, rfl⟩
      have hz1 : f 8 = 0 := by by_cases e : f 8 = 0 <;> simp_all
      rw [addF, if_neg hz2, if_pos hz1]
      rfl
  · skip
    refine ⟨M0, f, S0, ?_, rfl, rfl, rfl⟩
    have hz2x : f 11 = 0 := by by_cases e : f 11 = 0 <;> simp_all
    rw [addF, if_pos hz2x]
end Cv

/-! printed by gen/mcurve.py: doubled and plus of the reference, over registers -/
set_option maxRecDepth 100000
def adM (E q o : Nat) (j : Nat) : Nat := match j with
  | 0 => E
  | 1 => E + 1
  | 2 => E + 2
  | 3 => E + 3
  | 4 => E + 4
  | 5 => E + 5
  | 6 => q + 1
  | 7 => q + 2
  | 8 => q + 3
  | 9 => o + 1
  | 10 => o + 2
  | _ => o + 3
def McS (h : AH) (M E F : Nat) : Prop := h.kd M = 24 ∧ h.r 24015 M = F ∧ h.r 24022 M = E ∧ h.r 24023 M = E + 1 ∧ h.r 24024 M = E + 2 ∧ h.r 24025 M = E + 3 ∧ h.r 24026 M = E + 4 ∧ h.r 24027 M = E + 5 ∧ h.kd F = 27
def MPtS (h : AH) (q : Nat) : Prop := h.kd q = 25 ∧ h.r 25000 q = q + 1 ∧ h.r 25001 q = q + 2 ∧ h.r 25002 q = q + 3
section MCv
variable {G : Gx} {d : Nat} {h : AH} {M E F p I q o : Nat} {f : Nat → Nat}
theorem plus_247 {Φ : Out → AH → Prop} (h0 : AH) (kq : h.kd q = 25) (q3 : h.r 25002 q = q + 3) (hz : RowAt h (q + 3)) (hΦ : Φ (.inl none) (h.wi (q + 3) (lb 0))) : Aw G mX24_plus (d + 1) 0 h0 Φ 247 [vU, vR q, vU, vI 0] [] h := by
  have key := loop_uc (n := 8) (P := fun k T => Aw G mX24_plus (d + 1) 0 h0 Φ 247 [vU, vR q, vU, vI (nI k)] [] (h.wi (q + 3) T))
    (fun k T => T.length = 8 ∧ ∀ i, i < k → T.getD i 0 = 0) (fun k T hk hI ih => ?_) 0 (h.ai (q + 3)) (by omega) ⟨hz.2, fun i hi => absurd hi (by omega)⟩
  · rw [AH.wi_self] at key; exact key
  · obtain ⟨l, z⟩ := hI
    refine sX24_plus_247 _ q (nI k) (pk_le 8 k (fun hk8 => ?_) (fun hk8 => ⟨kq, fun r3 e3 => ?_⟩))
    · rw [lb_eq (L := T) (n := 0) l (va_0 (fun i hi => z i (by omega)))]
      exact hΦ
    · rw [e3.trans q3, AH.ai_wiS, AH.wi_wi, l, pk_cl k]
      refine ⟨hz.1, pk_in k 8 hk8, fun h6 e6 => ?_⟩
      rw [e6, nI_1]
      refine ih hk8 _ ⟨by rw [List.length_set, l], fun i hi => ?_⟩
      rw [getD_sif]
      by_cases e : i = k
      · rw [if_pos ⟨e, by omega⟩]
      · rw [if_neg (fun q => e q.1)]; exact z i (by omega)
theorem MPt_take_spec (hd : 2 ≤ d) (A : MAdOk F 12 (adM E q o)) (hq : MPtS h q) (ho : MPtS h o) (S0 : MReg h F p I 12 (adM E q o) f) : Cw G mX25_take d 0 [vR q, vR o] h (kV (fun h' => Mod (MRP F 12 (adM E q o)) h h' ∧ MReg h' F p I 12 (adM E q o) (up1 (up1 (up1 f 6 (f 9)) 7 (f 10)) 8 (f 11))) nE) := by
  obtain ⟨d, rfl⟩ : ∃ d', d = d' + 1 := ⟨d - 1, by omega⟩
  have hd1 : 1 ≤ d := by omega
  obtain ⟨kq, q1, q2, q3⟩ := hq
  obtain ⟨ko, o1, o2, o3⟩ := ho
  refine eX25_take h q o (fun _ => sX25_take_0 h q o ⟨ko, fun r2 e2 => ⟨kq, fun r4 e4 => ?_⟩⟩)
  rw [e2.trans o1, e4.trans q1]
  refine (S0.copy hd1 A 9 6 (by decide) (by decide)).nV (fun h1 Q => ?_)
  have S1 := Q.2
  obtain ⟨g1, rfl, l1, k1⟩ := Q.1
  have M1 : Mod (MRP F 12 (adM E q o)) h (h.si g1) := ⟨g1, rfl, l1, k1⟩
  intro r8 e8 r10 e10
  rw [e8.trans o2, e10.trans q2]
  refine (S1.copy hd1 A 10 7 (by decide) (by decide)).nV (fun h1 Q => ?_)
  have S2 := Q.2
  obtain ⟨g2, rfl, l2, k2⟩ := M1.trans Q.1
  have M2 : Mod (MRP F 12 (adM E q o)) h (h.si g2) := ⟨g2, rfl, l2, k2⟩
  intro r14 e14 r16 e16
  rw [e14.trans o3, e16.trans q3]
  refine (S2.copy hd1 A 11 8 (by decide) (by decide)).nV (fun h1 Q => ?_)
  exact ⟨M2.trans Q.1, Q.2⟩
set_option maxHeartbeats 16000000 in
theorem doubled_reg (hd : 2 ≤ d) (A : MAdOk F 12 (adM E q o)) (H : McS h M E F) (hq : MPtS h q) (ho : MPtS h o) (S0 : MReg h F p I 12 (adM E q o) f) : Cw G mX24_doubled (d + 1) 0 [vR M, vR q] h (kV (fun h' => Mod (MRP F 12 (adM E q o)) h h' ∧ ∃ f', MReg h' F p I 12 (adM E q o) f' ∧ (f' 6, f' 7, f' 8) = dblF p (f 6, f 7, f 8) ∧ f' 9 = f 9 ∧ f' 10 = f 10 ∧ f' 11 = f 11) nE) := by
  obtain ⟨kM, cF, ca, cb, cc, cd, ce, cf, kF⟩ := H
  obtain ⟨kq, q1, q2, q3⟩ := hq
  obtain ⟨ko, o1, o2, o3⟩ := ho
  have M0 : Mod (MRP F 12 (adM E q o)) h h := Mod.rf
  refine eX24_doubled h M q (fun _ => sX24_doubled_0 h M q ?_)
  refine ⟨kq, ?_⟩
  intro r2 er2
  rw [er2.trans q3]; clear er2
  refine (S0.isZ (by omega) 8 (by decide)).nI (fun x3 h4 Q => ?_)
  obtain ⟨rfl, rfl⟩ := Q
  refine ⟨fun c5 => ?_, fun c6 => ?_⟩
  · skip
    refine ⟨kM, ?_⟩
    intro r7 er7
    rw [er7.trans cF]; clear er7
    intro r9 er9
    rw [er9.trans q2]; clear er9
    intro r10 er10
    rw [er10.trans ca]; clear er10
    refine ⟨kF, ?_⟩
    obtain ⟨v1, ev1⟩ : ∃ v, v = f 7 * f 7 % p := ⟨_, rfl⟩
    refine (S0.mul hd A 7 7 0 v1 ev1 (by decide) (by decide) (by decide)).nV (fun h12 Q => ?_)
    have S1 := Q.2
    obtain ⟨g1, rfl, l1, k1⟩ := M0.trans Q.1
    clear Q
    have M1 : Mod (MRP F 12 (adM E q o)) h4 (h4.si g1) := ⟨g1, rfl, l1, k1⟩
    intro r18 er18
    rw [er18.trans q1]; clear er18
    intro r21 er21
    rw [er21.trans cb]; clear er21
    obtain ⟨v2, ev2⟩ : ∃ v, v = f 6 * v1 % p := ⟨_, rfl⟩
    refine (S1.mul hd A 6 0 1 v2 ev2 (by decide) (by decide) (by decide)).nV (fun h23 Q => ?_)
    have S2 := Q.2
    obtain ⟨g2, rfl, l2, k2⟩ := M1.trans Q.1
    clear Q
    have M2 : Mod (MRP F 12 (adM E q o)) h4 (h4.si g2) := ⟨g2, rfl, l2, k2⟩
    clear S1 M1 l1 k1
    obtain ⟨v3, ev3⟩ : ∃ v, v = (v2 + v2) % p := ⟨_, rfl⟩
    refine (S2.add hd A 1 1 1 v3 ev3 (by decide) (by decide) (by decide)).nV (fun h30 Q => ?_)
    have S3 := Q.2
    obtain ⟨g3, rfl, l3, k3⟩ := M2.trans Q.1
    clear Q
    have M3 : Mod (MRP F 12 (adM E q o)) h4 (h4.si g3) := ⟨g3, rfl, l3, k3⟩
    clear S2 M2 l2 k2
    obtain ⟨v4, ev4⟩ : ∃ v, v = (v3 + v3) % p := ⟨_, rfl⟩
    refine (S3.add hd A 1 1 1 v4 ev4 (by decide) (by decide) (by decide)).nV (fun h36 Q => ?_)
    have S4 := Q.2
    obtain ⟨g4, rfl, l4, k4⟩ := M3.trans Q.1
    clear Q
    have M4 : Mod (MRP F 12 (adM E q o)) h4 (h4.si g4) := ⟨g4, rfl, l4, k4⟩
    clear S3 M3 l3 k3
    intro r43 er43
    rw [er43.trans cc]; clear er43
    obtain ⟨v5, ev5⟩ : ∃ v, v = v1 * v1 % p := ⟨_, rfl⟩
    refine (S4.mul hd A 0 0 2 v5 ev5 (by decide) (by decide) (by decide)).nV (fun h45 Q => ?_)
    have S5 := Q.2
    obtain ⟨g5, rfl, l5, k5⟩ := M4.trans Q.1
    clear Q
    have M5 : Mod (MRP F 12 (adM E q o)) h4 (h4.si g5) := ⟨g5, rfl, l5, k5⟩
    clear S4 M4 l4 k4
    obtain ⟨v6, ev6⟩ : ∃ v, v = (v5 + v5) % p := ⟨_, rfl⟩
    refine (S5.add hd A 2 2 2 v6 ev6 (by decide) (by decide) (by decide)).nV (fun h52 Q => ?_)
    have S6 := Q.2
    obtain ⟨g6, rfl, l6, k6⟩ := M5.trans Q.1
    clear Q
    have M6 : Mod (MRP F 12 (adM E q o)) h4 (h4.si g6) := ⟨g6, rfl, l6, k6⟩
    clear S5 M5 l5 k5
    obtain ⟨v7, ev7⟩ : ∃ v, v = (v6 + v6) % p := ⟨_, rfl⟩
    refine (S6.add hd A 2 2 2 v7 ev7 (by decide) (by decide) (by decide)).nV (fun h58 Q => ?_)
    have S7 := Q.2
    obtain ⟨g7, rfl, l7, k7⟩ := M6.trans Q.1
    clear Q
    have M7 : Mod (MRP F 12 (adM E q o)) h4 (h4.si g7) := ⟨g7, rfl, l7, k7⟩
    clear S6 M6 l6 k6
    obtain ⟨v8, ev8⟩ : ∃ v, v = (v7 + v7) % p := ⟨_, rfl⟩
    refine (S7.add hd A 2 2 2 v8 ev8 (by decide) (by decide) (by decide)).nV (fun h64 Q => ?_)
    have S8 := Q.2
    obtain ⟨g8, rfl, l8, k8⟩ := M7.trans Q.1
    clear Q
    have M8 : Mod (MRP F 12 (adM E q o)) h4 (h4.si g8) := ⟨g8, rfl, l8, k8⟩
    clear S7 M7 l7 k7
    intro r83 er83
    rw [er83.trans cd]; clear er83
    obtain ⟨v9, ev9⟩ : ∃ v, v = f 6 * f 6 % p := ⟨_, rfl⟩
    refine (S8.mul hd A 6 6 3 v9 ev9 (by decide) (by decide) (by decide)).nV (fun h85 Q => ?_)
    have S9 := Q.2
    obtain ⟨g9, rfl, l9, k9⟩ := M8.trans Q.1
    clear Q
    have M9 : Mod (MRP F 12 (adM E q o)) h4 (h4.si g9) := ⟨g9, rfl, l9, k9⟩
    clear S8 M8 l8 k8
    intro r91 er91
    rw [er91.trans ce]; clear er91
    obtain ⟨v10, ev10⟩ : ∃ v, v = (v9 + v9) % p := ⟨_, rfl⟩
    refine (S9.add hd A 3 3 4 v10 ev10 (by decide) (by decide) (by decide)).nV (fun h93 Q => ?_)
    have S10 := Q.2
    obtain ⟨g10, rfl, l10, k10⟩ := M9.trans Q.1
    clear Q
    have M10 : Mod (MRP F 12 (adM E q o)) h4 (h4.si g10) := ⟨g10, rfl, l10, k10⟩
    clear S9 M9 l9 k9
    obtain ⟨v11, ev11⟩ : ∃ v, v = (v10 + v9) % p := ⟨_, rfl⟩
    refine (S10.add hd A 3 4 3 v11 (ev11.trans (by rw [Nat.add_comm]; rfl)) (by decide) (by decide) (by decide)).nV (fun h101 Q => ?_)
    have S11 := Q.2
    obtain ⟨g11, rfl, l11, k11⟩ := M10.trans Q.1
    clear Q
    have M11 : Mod (MRP F 12 (adM E q o)) h4 (h4.si g11) := ⟨g11, rfl, l11, k11⟩
    clear S10 M10 l10 k10
    obtain ⟨v12, ev12⟩ : ∃ v, v = f 7 * f 8 % p := ⟨_, rfl⟩
    refine (S11.mul hd A 7 8 8 v12 ev12 (by decide) (by decide) (by decide)).nV (fun h134 Q => ?_)
    have S12 := Q.2
    obtain ⟨g12, rfl, l12, k12⟩ := M11.trans Q.1
    clear Q
    have M12 : Mod (MRP F 12 (adM E q o)) h4 (h4.si g12) := ⟨g12, rfl, l12, k12⟩
    clear S11 M11 l11 k11
    obtain ⟨v13, ev13⟩ : ∃ v, v = (v12 + v12) % p := ⟨_, rfl⟩
    refine (S12.add hd A 8 8 8 v13 ev13 (by decide) (by decide) (by decide)).nV (fun h141 Q => ?_)
    have S13 := Q.2
    obtain ⟨g13, rfl, l13, k13⟩ := M12.trans Q.1
    clear Q
    have M13 : Mod (MRP F 12 (adM E q o)) h4 (h4.si g13) := ⟨g13, rfl, l13, k13⟩
    clear S12 M12 l12 k12
    obtain ⟨v14, ev14⟩ : ∃ v, v = v11 * v11 % p := ⟨_, rfl⟩
    refine (S13.mul hd A 3 3 6 v14 ev14 (by decide) (by decide) (by decide)).nV (fun h155 Q => ?_)
    have S14 := Q.2
    obtain ⟨g14, rfl, l14, k14⟩ := M13.trans Q.1
    clear Q
    have M14 : Mod (MRP F 12 (adM E q o)) h4 (h4.si g14) := ⟨g14, rfl, l14, k14⟩
    clear S13 M13 l13 k13
    obtain ⟨v15, ev15⟩ : ∃ v, v = (v14 + p - v4) % p := ⟨_, rfl⟩
    refine (S14.sub hd A 6 1 6 v15 ev15 (by decide) (by decide) (by decide)).nV (fun h173 Q => ?_)
    have S15 := Q.2
    obtain ⟨g15, rfl, l15, k15⟩ := M14.trans Q.1
    clear Q
    have M15 : Mod (MRP F 12 (adM E q o)) h4 (h4.si g15) := ⟨g15, rfl, l15, k15⟩
    clear S14 M14 l14 k14
    obtain ⟨v16, ev16⟩ : ∃ v, v = (v15 + p - v4) % p := ⟨_, rfl⟩
    refine (S15.sub hd A 6 1 6 v16 ev16 (by decide) (by decide) (by decide)).nV (fun h181 Q => ?_)
    have S16 := Q.2
    obtain ⟨g16, rfl, l16, k16⟩ := M15.trans Q.1
    clear Q
    have M16 : Mod (MRP F 12 (adM E q o)) h4 (h4.si g16) := ⟨g16, rfl, l16, k16⟩
    clear S15 M15 l15 k15
    obtain ⟨v17, ev17⟩ : ∃ v, v = (v4 + p - v16) % p := ⟨_, rfl⟩
    refine (S16.sub hd A 1 6 1 v17 ev17 (by decide) (by decide) (by decide)).nV (fun h189 Q => ?_)
    have S17 := Q.2
    obtain ⟨g17, rfl, l17, k17⟩ := M16.trans Q.1
    clear Q
    have M17 : Mod (MRP F 12 (adM E q o)) h4 (h4.si g17) := ⟨g17, rfl, l17, k17⟩
    clear S16 M16 l16 k16
    obtain ⟨v18, ev18⟩ : ∃ v, v = v11 * v17 % p := ⟨_, rfl⟩
    refine (S17.mul hd A 3 1 7 v18 ev18 (by decide) (by decide) (by decide)).nV (fun h206 Q => ?_)
    have S18 := Q.2
    obtain ⟨g18, rfl, l18, k18⟩ := M17.trans Q.1
    clear Q
    have M18 : Mod (MRP F 12 (adM E q o)) h4 (h4.si g18) := ⟨g18, rfl, l18, k18⟩
    clear S17 M17 l17 k17
    obtain ⟨v19, ev19⟩ : ∃ v, v = (v18 + p - v8) % p := ⟨_, rfl⟩
    refine (S18.sub hd A 7 2 7 v19 ev19 (by decide) (by decide) (by decide)).nV (fun h224 Q => ?_)
    have S19 := Q.2
    obtain ⟨g19, rfl, l19, k19⟩ := M18.trans Q.1
    clear Q
    have M19 : Mod (MRP F 12 (adM E q o)) h4 (h4.si g19) := ⟨g19, rfl, l19, k19⟩
    clear S18 M18 l18 k18
    have hz : f 8 ≠ 0 := by intro e; simp_all
    refine ⟨M19, _, S19, ?_, rfl, rfl, rfl⟩
    clear S19 M19
    show (v16, v19, v13) = _
    rw [dblF, if_neg hz]
    simp only [ev19, ev18, ev17, ev16, ev15, ev14, ev13, ev12, ev11, ev10, ev9, ev8, ev7, ev6, ev5, ev4, ev3, ev2, ev1]
  · skip
    have hz : f 8 = 0 := by by_cases e : f 8 = 0 <;> simp_all
    refine ⟨M0, f, S0, ?_, rfl, rfl, rfl⟩
    rw [dblF, if_pos hz]
set_option maxHeartbeats 16000000 in
theorem plus_reg (hd : 2 ≤ d) (A : MAdOk F 12 (adM E q o)) (H : McS h M E F) (hq : MPtS h q) (ho : MPtS h o) (S0 : MReg h F p I 12 (adM E q o) f) : Cw G mX24_plus (d + 2) 0 [vR M, vR q, vR o] h (kV (fun h' => Mod (MRP F 12 (adM E q o)) h h' ∧ ∃ f', MReg h' F p I 12 (adM E q o) f' ∧ (f' 6, f' 7, f' 8) = addF p (f 6, f 7, f 8) (f 9, f 10, f 11) ∧ f' 9 = f 9 ∧ f' 10 = f 10 ∧ f' 11 = f 11) nE) := by
  have hd0_ := hd
  replace hd : 2 ≤ d + 1 := by omega
  obtain ⟨kM, cF, ca, cb, cc, cd, ce, cf, kF⟩ := H
  obtain ⟨kq, q1, q2, q3⟩ := hq
  obtain ⟨ko, o1, o2, o3⟩ := ho
  have M0 : Mod (MRP F 12 (adM E q o)) h h := Mod.rf
  refine eX24_plus h M q o (fun _ => sX24_plus_0 h M q o ?_)
  refine ⟨ko, ?_⟩
  intro r2 er2
  rw [er2.trans o3]; clear er2
  refine (S0.isZ (by omega) 11 (by decide)).nI (fun x3 h4 Q => ?_)
  obtain ⟨rfl, rfl⟩ := Q
  refine ⟨fun u2 => ?_, fun v2_ => ?_⟩
  · skip
    have hz2 : f 11 ≠ 0 := by intro e; simp_all
    refine ⟨kq, ?_⟩
    intro r7 er7
    rw [er7.trans q3]; clear er7
    refine (S0.isZ (by omega) 8 (by decide)).nI (fun x8 h9 Q => ?_)
    obtain ⟨rfl, rfl⟩ := Q
    refine ⟨fun u1 => ?_, fun v1_ => ?_⟩
    · skip
      have hz1 : f 8 ≠ 0 := by intro e; simp_all
      refine ⟨kM, ?_⟩
      intro r12 er12
      rw [er12.trans cF]; clear er12
      intro r18 er18
      rw [er18.trans ca]; clear er18
      refine ⟨kF, ?_⟩
      obtain ⟨v1, ev1⟩ : ∃ v, v = f 11 * f 11 % p := ⟨_, rfl⟩
      refine (S0.mul hd A 11 11 0 v1 ev1 (by decide) (by decide) (by decide)).nV (fun h20 Q => ?_)
      have S1 := Q.2
      obtain ⟨g1, rfl, l1, k1⟩ := M0.trans Q.1
      clear Q
      have M1 : Mod (MRP F 12 (adM E q o)) h9 (h9.si g1) := ⟨g1, rfl, l1, k1⟩
      intro r27 er27
      rw [er27.trans q1]; clear er27
      intro r30 er30
      rw [er30.trans cb]; clear er30
      obtain ⟨v2, ev2⟩ : ∃ v, v = f 6 * v1 % p := ⟨_, rfl⟩
      refine (S1.mul hd A 6 0 1 v2 ev2 (by decide) (by decide) (by decide)).nV (fun h32 Q => ?_)
      have S2 := Q.2
      obtain ⟨g2, rfl, l2, k2⟩ := M1.trans Q.1
      clear Q
      have M2 : Mod (MRP F 12 (adM E q o)) h9 (h9.si g2) := ⟨g2, rfl, l2, k2⟩
      clear S1 M1 l1 k1
      obtain ⟨v3, ev3⟩ : ∃ v, v = v1 * f 11 % p := ⟨_, rfl⟩
      refine (S2.mul hd A 0 11 0 v3 ev3 (by decide) (by decide) (by decide)).nV (fun h42 Q => ?_)
      have S3 := Q.2
      obtain ⟨g3, rfl, l3, k3⟩ := M2.trans Q.1
      clear Q
      have M3 : Mod (MRP F 12 (adM E q o)) h9 (h9.si g3) := ⟨g3, rfl, l3, k3⟩
      clear S2 M2 l2 k2
      intro r48 er48
      rw [er48.trans q2]; clear er48
      obtain ⟨v4, ev4⟩ : ∃ v, v = v3 * f 7 % p := ⟨_, rfl⟩
      refine (S3.mul hd A 7 0 0 v4 (ev4.trans (by rw [Nat.mul_comm]; rfl)) (by decide) (by decide) (by decide)).nV (fun h51 Q => ?_)
      have S4 := Q.2
      obtain ⟨g4, rfl, l4, k4⟩ := M3.trans Q.1
      clear Q
      have M4 : Mod (MRP F 12 (adM E q o)) h9 (h9.si g4) := ⟨g4, rfl, l4, k4⟩
      clear S3 M3 l3 k3
      intro r62 er62
      rw [er62.trans cc]; clear er62
      obtain ⟨v5, ev5⟩ : ∃ v, v = f 8 * f 8 % p := ⟨_, rfl⟩
      refine (S4.mul hd A 8 8 2 v5 ev5 (by decide) (by decide) (by decide)).nV (fun h64 Q => ?_)
      have S5 := Q.2
      obtain ⟨g5, rfl, l5, k5⟩ := M4.trans Q.1
      clear Q
      have M5 : Mod (MRP F 12 (adM E q o)) h9 (h9.si g5) := ⟨g5, rfl, l5, k5⟩
      clear S4 M4 l4 k4
      intro r71 er71
      rw [er71.trans o1]; clear er71
      intro r74 er74
      rw [er74.trans cd]; clear er74
      obtain ⟨v6, ev6⟩ : ∃ v, v = f 9 * v5 % p := ⟨_, rfl⟩
      refine (S5.mul hd A 9 2 3 v6 ev6 (by decide) (by decide) (by decide)).nV (fun h76 Q => ?_)
      have S6 := Q.2
      obtain ⟨g6, rfl, l6, k6⟩ := M5.trans Q.1
      clear Q
      have M6 : Mod (MRP F 12 (adM E q o)) h9 (h9.si g6) := ⟨g6, rfl, l6, k6⟩
      clear S5 M5 l5 k5
      obtain ⟨v7, ev7⟩ : ∃ v, v = v5 * f 8 % p := ⟨_, rfl⟩
      refine (S6.mul hd A 2 8 2 v7 ev7 (by decide) (by decide) (by decide)).nV (fun h86 Q => ?_)
      have S7 := Q.2
      obtain ⟨g7, rfl, l7, k7⟩ := M6.trans Q.1
      clear Q
      have M7 : Mod (MRP F 12 (adM E q o)) h9 (h9.si g7) := ⟨g7, rfl, l7, k7⟩
      clear S6 M6 l6 k6
      intro r92 er92
      rw [er92.trans o2]; clear er92
      obtain ⟨v8, ev8⟩ : ∃ v, v = v7 * f 10 % p := ⟨_, rfl⟩
      refine (S7.mul hd A 10 2 2 v8 (ev8.trans (by rw [Nat.mul_comm]; rfl)) (by decide) (by decide) (by decide)).nV (fun h95 Q => ?_)
      have S8 := Q.2
      obtain ⟨g8, rfl, l8, k8⟩ := M7.trans Q.1
      clear Q
      have M8 : Mod (MRP F 12 (adM E q o)) h9 (h9.si g8) := ⟨g8, rfl, l8, k8⟩
      clear S7 M7 l7 k7
      obtain ⟨v9, ev9⟩ : ∃ v, v = (v6 + p - v2) % p := ⟨_, rfl⟩
      refine (S8.sub hd A 3 1 3 v9 ev9 (by decide) (by decide) (by decide)).nV (fun h112 Q => ?_)
      have S9 := Q.2
      obtain ⟨g9, rfl, l9, k9⟩ := M8.trans Q.1
      clear Q
      have M9 : Mod (MRP F 12 (adM E q o)) h9 (h9.si g9) := ⟨g9, rfl, l9, k9⟩
      clear S8 M8 l8 k8
      obtain ⟨v10, ev10⟩ : ∃ v, v = (v8 + p - v4) % p := ⟨_, rfl⟩
      refine (S9.sub hd A 2 0 2 v10 ev10 (by decide) (by decide) (by decide)).nV (fun h125 Q => ?_)
      have S10 := Q.2
      obtain ⟨g10, rfl, l10, k10⟩ := M9.trans Q.1
      clear Q
      have M10 : Mod (MRP F 12 (adM E q o)) h9 (h9.si g10) := ⟨g10, rfl, l10, k10⟩
      clear S9 M9 l9 k9
      refine (S10.isZ (by omega) 3 (by decide)).nI (fun x130 h131 Q => ?_)
      obtain ⟨rfl, rfl⟩ := Q
      refine ⟨fun cD => ?_, fun cD => ?_⟩
      · skip
        obtain ⟨v11, ev11⟩ : ∃ v, v = f 8 * f 11 % p := ⟨_, rfl⟩
        refine (S10.mul hd A 8 11 8 v11 ev11 (by decide) (by decide) (by decide)).nV (fun h160 Q => ?_)
        have S11 := Q.2
        obtain ⟨g11, rfl, l11, k11⟩ := M10.trans Q.1
        clear Q
        have M11 : Mod (MRP F 12 (adM E q o)) h9 (h9.si g11) := ⟨g11, rfl, l11, k11⟩
        clear S10 M10 l10 k10
        obtain ⟨v12, ev12⟩ : ∃ v, v = v11 * v9 % p := ⟨_, rfl⟩
        refine (S11.mul hd A 8 3 8 v12 ev12 (by decide) (by decide) (by decide)).nV (fun h170 Q => ?_)
        have S12 := Q.2
        obtain ⟨g12, rfl, l12, k12⟩ := M11.trans Q.1
        clear Q
        have M12 : Mod (MRP F 12 (adM E q o)) h9 (h9.si g12) := ⟨g12, rfl, l12, k12⟩
        clear S11 M11 l11 k11
        intro r175 er175
        rw [er175.trans ce]; clear er175
        obtain ⟨v13, ev13⟩ : ∃ v, v = v9 * v9 % p := ⟨_, rfl⟩
        refine (S12.mul hd A 3 3 4 v13 ev13 (by decide) (by decide) (by decide)).nV (fun h177 Q => ?_)
        have S13 := Q.2
        obtain ⟨g13, rfl, l13, k13⟩ := M12.trans Q.1
        clear Q
        have M13 : Mod (MRP F 12 (adM E q o)) h9 (h9.si g13) := ⟨g13, rfl, l13, k13⟩
        clear S12 M12 l12 k12
        obtain ⟨v14, ev14⟩ : ∃ v, v = v13 * v2 % p := ⟨_, rfl⟩
        refine (S13.mul hd A 1 4 1 v14 (ev14.trans (by rw [Nat.mul_comm]; rfl)) (by decide) (by decide) (by decide)).nV (fun h190 Q => ?_)
        have S14 := Q.2
        obtain ⟨g14, rfl, l14, k14⟩ := M13.trans Q.1
        clear Q
        have M14 : Mod (MRP F 12 (adM E q o)) h9 (h9.si g14) := ⟨g14, rfl, l14, k14⟩
        clear S13 M13 l13 k13
        obtain ⟨v15, ev15⟩ : ∃ v, v = v13 * v9 % p := ⟨_, rfl⟩
        refine (S14.mul hd A 4 3 4 v15 ev15 (by decide) (by decide) (by decide)).nV (fun h198 Q => ?_)
        have S15 := Q.2
        obtain ⟨g15, rfl, l15, k15⟩ := M14.trans Q.1
        clear Q
        have M15 : Mod (MRP F 12 (adM E q o)) h9 (h9.si g15) := ⟨g15, rfl, l15, k15⟩
        clear S14 M14 l14 k14
        obtain ⟨v16, ev16⟩ : ∃ v, v = v10 * v10 % p := ⟨_, rfl⟩
        refine (S15.mul hd A 2 2 6 v16 ev16 (by decide) (by decide) (by decide)).nV (fun h230 Q => ?_)
        have S16 := Q.2
        obtain ⟨g16, rfl, l16, k16⟩ := M15.trans Q.1
        clear Q
        have M16 : Mod (MRP F 12 (adM E q o)) h9 (h9.si g16) := ⟨g16, rfl, l16, k16⟩
        clear S15 M15 l15 k15
        obtain ⟨v17, ev17⟩ : ∃ v, v = (v16 + p - v15) % p := ⟨_, rfl⟩
        refine (S16.sub hd A 6 4 6 v17 ev17 (by decide) (by decide) (by decide)).nV (fun h239 Q => ?_)
        have S17 := Q.2
        obtain ⟨g17, rfl, l17, k17⟩ := M16.trans Q.1
        clear Q
        have M17 : Mod (MRP F 12 (adM E q o)) h9 (h9.si g17) := ⟨g17, rfl, l17, k17⟩
        clear S16 M16 l16 k16
        obtain ⟨v18, ev18⟩ : ∃ v, v = (v17 + p - v14) % p := ⟨_, rfl⟩
        refine (S17.sub hd A 6 1 6 v18 ev18 (by decide) (by decide) (by decide)).nV (fun h250 Q => ?_)
        have S18 := Q.2
        obtain ⟨g18, rfl, l18, k18⟩ := M17.trans Q.1
        clear Q
        have M18 : Mod (MRP F 12 (adM E q o)) h9 (h9.si g18) := ⟨g18, rfl, l18, k18⟩
        clear S17 M17 l17 k17
        obtain ⟨v19, ev19⟩ : ∃ v, v = (v18 + p - v14) % p := ⟨_, rfl⟩
        refine (S18.sub hd A 6 1 6 v19 ev19 (by decide) (by decide) (by decide)).nV (fun h258 Q => ?_)
        have S19 := Q.2
        obtain ⟨g19, rfl, l19, k19⟩ := M18.trans Q.1
        clear Q
        have M19 : Mod (MRP F 12 (adM E q o)) h9 (h9.si g19) := ⟨g19, rfl, l19, k19⟩
        clear S18 M18 l18 k18
        obtain ⟨v20, ev20⟩ : ∃ v, v = (v14 + p - v19) % p := ⟨_, rfl⟩
        refine (S19.sub hd A 1 6 1 v20 ev20 (by decide) (by decide) (by decide)).nV (fun h266 Q => ?_)
        have S20 := Q.2
        obtain ⟨g20, rfl, l20, k20⟩ := M19.trans Q.1
        clear Q
        have M20 : Mod (MRP F 12 (adM E q o)) h9 (h9.si g20) := ⟨g20, rfl, l20, k20⟩
        clear S19 M19 l19 k19
        obtain ⟨v21, ev21⟩ : ∃ v, v = v10 * v20 % p := ⟨_, rfl⟩
        refine (S20.mul hd A 2 1 7 v21 ev21 (by decide) (by decide) (by decide)).nV (fun h297 Q => ?_)
        have S21 := Q.2
        obtain ⟨g21, rfl, l21, k21⟩ := M20.trans Q.1
        clear Q
        have M21 : Mod (MRP F 12 (adM E q o)) h9 (h9.si g21) := ⟨g21, rfl, l21, k21⟩
        clear S20 M20 l20 k20
        obtain ⟨v22, ev22⟩ : ∃ v, v = v4 * v15 % p := ⟨_, rfl⟩
        refine (S21.mul hd A 0 4 0 v22 ev22 (by decide) (by decide) (by decide)).nV (fun h320 Q => ?_)
        have S22 := Q.2
        obtain ⟨g22, rfl, l22, k22⟩ := M21.trans Q.1
        clear Q
        have M22 : Mod (MRP F 12 (adM E q o)) h9 (h9.si g22) := ⟨g22, rfl, l22, k22⟩
        clear S21 M21 l21 k21
        obtain ⟨v23, ev23⟩ : ∃ v, v = (v21 + p - v22) % p := ⟨_, rfl⟩
        refine (S22.sub hd A 7 0 7 v23 ev23 (by decide) (by decide) (by decide)).nV (fun h330 Q => ?_)
        have S23 := Q.2
        obtain ⟨g23, rfl, l23, k23⟩ := M22.trans Q.1
        clear Q
        have M23 : Mod (MRP F 12 (adM E q o)) h9 (h9.si g23) := ⟨g23, rfl, l23, k23⟩
        clear S22 M22 l22 k22
        have hd0 : ¬ (v9 = 0) := fun e => by
          have e' : (if v9 = 0 then (1 : Int32) else 0) = 0 := cD
          rw [if_pos e] at e'
          exact absurd e' (by decide)
        refine ⟨M23, _, S23, ?_, rfl, rfl, rfl⟩
        clear S23 M23
        show (v19, v23, v12) = _
        rw [addF, if_neg hz2, if_neg hz1]
        have hE : v9 = (f 9 * (f 8 * f 8 % p) % p + p - f 6 * (f 11 * f 11 % p) % p) % p := by rw [ev9, ev6, ev5, ev2, ev1]
        rw [hE] at hd0
        refine Eq.trans ?_ (if_neg hd0).symm
        simp only [ev23, ev22, ev21, ev20, ev19, ev18, ev17, ev16, ev15, ev14, ev13, ev12, ev11, ev10, ev9, ev8, ev7, ev6, ev5, ev4, ev3, ev2, ev1]
      · skip
        refine (S10.isZ (by omega) 2 (by decide)).nI (fun x335 h336 Q => ?_)
        obtain ⟨rfl, rfl⟩ := Q
        refine ⟨fun cA => ?_, fun cA => ?_⟩
        · skip
          have hd0 : v9 = 0 := by
            refine Decidable.byContradiction (fun e => ?_)
            exact cD (if_neg e)
          have ha0 : ¬ (v10 = 0) := fun e => by
            have e' : (if v10 = 0 then (1 : Int32) else 0) = 0 := cA
            rw [if_pos e] at e'
            exact absurd e' (by decide)
          have Z := S10.2 8 (by decide)
          refine plus_247 _ kq q3 Z.1 ?_
          have Q := S10.put (t := 8) (v := 0) A (by decide) (Mod.wi (P := fun x => x = q + 3) (v := lb 0) (by rw [lb_len]; exact Z.1.2.symm) rfl) (fun x hx => Or.inr hx) (by rw [show adM E q o 8 = q + 3 from rfl, AH.ai_wiS, mM, Nat.zero_mul, Nat.zero_mod]) (by have := S10.1.1.2.2.2; omega)
          refine ⟨M10.trans Q.1, _, Q.2, ?_, rfl, rfl, rfl⟩
          clear Q Z S10 M10
          show (f 6, f 7, 0) = _
          rw [addF, if_neg hz2, if_neg hz1]
          have hE : v9 = (f 9 * (f 8 * f 8 % p) % p + p - f 6 * (f 11 * f 11 % p) % p) % p := by rw [ev9, ev6, ev5, ev2, ev1]
          have hF : v10 = (f 8 * f 8 % p * f 8 % p * f 10 % p + p - f 11 * f 11 % p * f 11 % p * f 7 % p) % p := by rw [ev10, ev8, ev7, ev5, ev4, ev3, ev1]
          rw [hE] at hd0
          rw [hF] at ha0
          exact ((if_pos hd0).trans (if_neg ha0)).symm
        · skip
          refine (doubled_reg (h := h9.si g10) (by omega) A ⟨kM, cF, ca, cb, cc, cd, ce, cf, kF⟩ ⟨kq, q1, q2, q3⟩ ⟨ko, o1, o2, o3⟩ S10).nV (fun h339 Q => ?_)
          have hd0 : v9 = 0 := by
            refine Decidable.byContradiction (fun e => ?_)
            exact cD (if_neg e)
          have ha0 : v10 = 0 := by
            refine Decidable.byContradiction (fun e => ?_)
            exact cA (if_neg e)
          obtain ⟨Q1, f', Q2, Q3, Q4, Q5, Q6⟩ := Q
          refine ⟨M10.trans Q1, f', Q2, ?_, Q4, Q5, Q6⟩
          clear Q1 Q2 S10 M10
          rw [addF, if_neg hz2, if_neg hz1, Q3]
          have hE : v9 = (f 9 * (f 8 * f 8 % p) % p + p - f 6 * (f 11 * f 11 % p) % p) % p := by rw [ev9, ev6, ev5, ev2, ev1]
          have hF : v10 = (f 8 * f 8 % p * f 8 % p * f 10 % p + p - f 11 * f 11 % p * f 11 % p * f 7 % p) % p := by rw [ev10, ev8, ev7, ev5, ev4, ev3, ev1]
          rw [hE] at hd0
          rw [hF] at ha0
          exact ((if_pos hd0).trans (if_pos ha0)).symm
    · skip
      refine (MPt_take_spec hd A ⟨kq, q1, q2, q3⟩ ⟨ko, o1, o2, o3⟩ S0).nV (fun h342 Q => ?_)
      have hz1 : f 8 = 0 := by by_cases e : f 8 = 0 <;> simp_all
      refine ⟨M0.trans Q.1, _, Q.2, ?_, rfl, rfl, rfl⟩
      rw [addF, if_neg hz2, if_pos hz1]
      rfl
  · skip
    have hz2x : f 11 = 0 := by by_cases e : f 11 = 0 <;> simp_all
    refine ⟨M0, f, S0, ?_, rfl, rfl, rfl⟩
    rw [addF, if_pos hz2x]
end MCv

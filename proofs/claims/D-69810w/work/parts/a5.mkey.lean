/-! the reference: the point that bytes tell -/
set_option maxRecDepth 100000
section MKey
variable {G : Gx} {d : Nat} {h h0 : AH} {M F O p N I J ra n : Nat} {f : Nat → Nat} {Kb : List Int32}
theorem rk_no {h1 : AH} {f1 : Nat → Nat} (H : MCr h1 M F O p N I J f1) (m : Mod (cuP M F O) h h1) (hf : ∀ j, j < 4 → f1 j = f j) (hk : keyF p Kb n = none) : (kI (fun x h' => ∃ f', MCr h' M F O p N I J f' ∧ Mod (cuP M F O) h h' ∧ (∀ j, j < 4 → f' j = f j) ∧ ((x = 1 ∧ ∃ P, keyF p Kb n = some P ∧ f' 4 = P.1 ∧ f' 5 = P.2 ∧ f' 6 = 1) ∨ (x = 0 ∧ keyF p Kb n = none))) nE) (.inl (some (vI 0))) h1 := ⟨f1, H, m, hf, Or.inr ⟨rfl, hk⟩⟩
theorem rk_yes {h1 : AH} {f1 : Nat → Nat} {P : Nat × Nat} (H : MCr h1 M F O p N I J f1) (m : Mod (cuP M F O) h h1) (hf : ∀ j, j < 4 → f1 j = f j) (hk : keyF p Kb n = some P) (h4 : f1 4 = P.1) (h5 : f1 5 = P.2) (h6 : f1 6 = 1) : (kI (fun x h' => ∃ f', MCr h' M F O p N I J f' ∧ Mod (cuP M F O) h h' ∧ (∀ j, j < 4 → f' j = f j) ∧ ((x = 1 ∧ ∃ P, keyF p Kb n = some P ∧ f' 4 = P.1 ∧ f' 5 = P.2 ∧ f' 6 = 1) ∨ (x = 0 ∧ keyF p Kb n = none))) nE) (.inl (some (vI 1))) h1 := ⟨f1, H, m, hf, Or.inl ⟨rfl, P, hk, h4, h5, h6⟩⟩
/-- the other root -/
theorem rk_373 {h1 : AH} {f1 : Nat → Nat} {X : Nat} (hd : 3 ≤ d) (H : MCr h1 M F O p N I J f1) (m : Mod (cuP M F O) h h1) (hf : ∀ j, j < 4 → f1 j = f j) (h4 : f1 4 = X) (h6 : f1 6 = 1) (hk : keyF p Kb n = some (X, (p - f1 5) % p)) :
    Aw G mX24_readKey (d + 1) 0 h0 (kI (fun x h' => ∃ f', MCr h' M F O p N I J f' ∧ Mod (cuP M F O) h h' ∧ (∀ j, j < 4 → f' j = f j) ∧ ((x = 1 ∧ ∃ P, keyF p Kb n = some P ∧ f' 4 = P.1 ∧ f' 5 = P.2 ∧ f' 6 = 1) ∨ (x = 0 ∧ keyF p Kb n = none))) nE) 373 [vR M, vU, vU, vU, vI 0] [] h1 := by
  have hp := H.p0
  obtain ⟨⟨k0, rF, rO, r17, r18, r19, r20, r21⟩, ⟨r22, r23, r24, r25, r26, r27⟩, _, p17, p21, p25, p29⟩ := H.1
  obtain ⟨t1, t2, t3⟩ := H.2.1.2 16 (by decide)
  have key := loop_uc (n := 8) (P := fun j (T : List Int32) => Aw G mX24_readKey (d + 1) 0 h0 (kI (fun x h' => ∃ f', MCr h' M F O p N I J f' ∧ Mod (cuP M F O) h h' ∧ (∀ j, j < 4 → f' j = f j) ∧ ((x = 1 ∧ ∃ P, keyF p Kb n = some P ∧ f' 4 = P.1 ∧ f' 5 = P.2 ∧ f' 6 = 1) ∨ (x = 0 ∧ keyF p Kb n = none))) nE) 373 [vR M, vU, vU, vU, vI (nI j)] [] (h1.wi (M + 36) T)) (fun j T => T.length = 8 ∧ ∀ i, i < j → T.getD i 0 = 0) (fun j T hj hI ih => ?_) 0 (h1.ai (M + 36)) (Nat.zero_le _) ⟨t1.2, fun i hi => absurd hi (Nat.not_lt_zero _)⟩
  · rw [AH.wi_self] at key
    exact key
  · obtain ⟨l, z⟩ := hI
    refine sX24_readKey_373 _ M (nI j) (pk_le 8 j (fun c => ⟨k0, fun r3 e3 r4 e4 r5 e5 => ?_⟩) (fun c => ⟨k0, fun r12 e12 => ?_⟩))
    · rw [lb_eq (L := T) (n := 0) l (va_0 (fun i hi => z i (by omega)))]
      have Q := H.2.1.put (t := 16) (v := 0) (P := fun x => x = M + 36) (h' := h1.wi (M + 36) (lb 0)) H.ok (by decide) (Mod.wi (by rw [lb_len]; exact t1.2.symm) rfl) (fun x q => Or.inr q) (by
        show (h1.wi (M + 36) (lb 0)).ai (M + 36) = _
        rw [AH.ai_wiS]
        unfold mM
        rw [Nat.zero_mul, Nat.zero_mod]) (by omega)
      obtain ⟨H2, m2⟩ := H.reg Q.1 Q.2
      rw [show r3 = F from e3.trans rF, show r4 = M + 36 from e4.trans r25, show r5 = M + 21 from e5.trans r19]
      refine ⟨p21.1, fun r7 e7 => ?_⟩
      rw [show r7 = M + 23 from e7.trans p21.2.2.1]
      refine ⟨H.2.1.1.1.1.1, (H2.sub (by omega) 16 5 5 _ rfl (by decide) (by decide) (by decide)).nV (fun h9 R => ?_)⟩
      refine rk_yes (P := (X, (p - f1 5) % p)) R.1 ((m.trans m2).trans R.2) (fun i hi => ?_) hk ?_ ?_ ?_
      · show up1 (up1 f1 16 0) 5 _ i = f i
        rw [show up1 (up1 f1 16 0) 5 ((up1 f1 16 0 16 + p - up1 f1 16 0 5) % p) i = f1 i from (if_neg (by omega)).trans (if_neg (by omega))]
        exact hf i hi
      · exact h4
      · show (up1 f1 16 0 16 + p - up1 f1 16 0 5) % p = (p - f1 5) % p
        rw [show up1 f1 16 0 16 = 0 from rfl, show up1 f1 16 0 5 = f1 5 from rfl, Nat.zero_add]
      · exact h6
    · rw [show r12 = M + 36 from e12.trans r25, AH.ai_wiS, AH.wi_wi, l, pk_cl j rfl (by omega)]
      refine ⟨t1.1, pk_in j 8 (by omega), fun h15 e15 => ?_⟩
      rw [e15, nI_1]
      refine ih (by omega) _ ⟨by rw [List.length_set]; exact l, fun i hi => ?_⟩
      by_cases c2 : i = j
      · rw [c2, getD_set_eq (by omega)]
      · rw [getD_set_ne c2]
        exact z i (by omega)
set_option maxHeartbeats 4000000 in
theorem rk_45 {sm : Int32} (hd : 4 ≤ d) (H : MCr h M F O p N I J f) (f7 : f 0 = 7) (hp1 : p % 4294967296 + 1 < 4294967296) (hp2 : p + 1 < 4294967296 ^ 8) (kr : h.kd ra = 101) (nr : ¬ cuP M F O ra) (eK : h.ai ra = Kb) (hl : n ≤ Kb.length) (hl2 : Kb.length < 2 ^ 20)
    (hs : (sm = 1 ∧ n = 33 ∧ (Kb.getD 0 0 = 2 ∨ Kb.getD 0 0 = 3)) ∨ (sm = 0 ∧ n = 65 ∧ Kb.getD 0 0 = 4)) : Aw G mX24_readKey (d + 1) 0 h0 (kI (fun x h' => ∃ f', MCr h' M F O p N I J f' ∧ Mod (cuP M F O) h h' ∧ (∀ j, j < 4 → f' j = f j) ∧ ((x = 1 ∧ ∃ P, keyF p Kb n = some P ∧ f' 4 = P.1 ∧ f' 5 = P.2 ∧ f' 6 = 1) ∨ (x = 0 ∧ keyF p Kb n = none))) nE) 45 [vR M, vR ra, vU, vI sm, vU] [] h := by
  have hp := H.p0
  obtain ⟨⟨k0, rF, rO, r17, r18, r19, r20, r21⟩, ⟨r22, r23, r24, r25, r26, r27⟩, ⟨r28, r29, _⟩, p17, p21, p25, p29⟩ := H.1
  have kF : h.kd F = 27 := H.2.1.1.1.1.1
  have mF : h.r 27000 F = F + 1 := H.2.1.1.1.1.2.1
  have oF : h.r 27002 F = F + 2 := H.2.1.1.1.1.2.2.1
  have hF := H.2.2.2.2.1
  have k1 : keyF p Kb n = if p ≤ beV Kb 1 32 then none else if n = 65 then (if p ≤ beV Kb 33 32 then none else if crF p (beV Kb 1 32) = beV Kb 33 32 * beV Kb 33 32 % p then some (beV Kb 1 32, beV Kb 33 32) else none)
      else if crF p (beV Kb 1 32) = rtF p (crF p (beV Kb 1 32)) * rtF p (crF p (beV Kb 1 32)) % p then some (beV Kb 1 32, if nI (rtF p (crF p (beV Kb 1 32)) % 2) = Kb.getD 0 0 - 2 then rtF p (crF p (beV Kb 1 32)) else (p - rtF p (crF p (beV Kb 1 32))) % p) else none := by
    unfold keyF
    rw [if_neg (fun q => q (by
      rcases hs with z | z
      · exact Or.inl z.2
      · exact Or.inr z.2))]
  generalize hX : beV Kb 1 32 = X at k1
  have n33 : 33 ≤ n := by omega
  refine sX24_readKey_45 h M ra sm ⟨k0, fun r2 e2 => ?_⟩
  rw [show r2 = M + 39 from e2.trans r28]
  refine (H.fb (off := 1) (k := 39) (by omega) (by decide) (by decide) kr (by rw [eK]; omega) (by rw [eK]; omega)).nV (fun h4 Q => ?_)
  obtain ⟨H4, m4, v4, o4⟩ := Q
  rw [eK, hX] at v4
  intro r8 e8
  rw [show r8 = F from e8.trans (by rw [m4.r]; exact rF)]
  refine ⟨by rw [m4.kd]; exact kF, fun r10 e10 => ?_⟩
  rw [show r10 = F + 1 from e10.trans (by rw [m4.r]; exact mF)]
  refine (Row_compare_spec (by omega) (H4.2.2.2.1 39 (by decide) (by decide)) H4.2.1.1.1.1.2.2.2.2.2.2.2.2.1).nI (fun x11 h12 Q => ?_)
  obtain ⟨ex, eh⟩ := Q
  rw [eh, ex, v4, H4.2.1.1.1.2.1, cmpI_lt]
  clear eh ex
  refine ⟨fun c1 r18' e18 => ?_, fun c1 => rk_no H4 m4 (fun _ _ => rfl) (by rw [k1, if_pos (by omega)])⟩
  rw [if_neg (by omega)] at k1
  rw [show r18' = M + 21 from e18.trans (by rw [m4.r]; exact r19)]
  refine ⟨by rw [m4.kd]; exact p21.1, fun r20' e20 => ?_⟩
  rw [show r20' = M + 22 from e20.trans (by rw [m4.r]; exact p21.2.1)]
  refine (H4.enter (k := 39) (t := 4) (by omega) (by decide) (by decide) (by decide) v4 c1).nV (fun h22 Q => ?_)
  obtain ⟨H22, m22⟩ := Q
  replace m22 := m4.trans m22
  intro r31 e31
  rw [show r31 = M + 33 from e31.trans (by rw [m22.r]; exact r22)]
  obtain ⟨x2, ex2⟩ : ∃ v, v = X * X % p := ⟨_, rfl⟩
  refine (H22.mul (by omega) 4 4 13 x2 ex2 (by decide) (by decide) (by decide)).nV (fun h33 Q => ?_)
  obtain ⟨H33, m33⟩ := Q
  replace m33 := m22.trans m33
  obtain ⟨x3, ex3⟩ : ∃ v, v = x2 * X % p := ⟨_, rfl⟩
  refine (H33.mul (by omega) 13 4 13 x3 ex3 (by decide) (by decide) (by decide)).nV (fun h43 Q => ?_)
  obtain ⟨H43, m43⟩ := Q
  replace m43 := m33.trans m43
  intro r48 e48
  rw [show r48 = M + 16 from e48.trans (by rw [m43.r]; exact r17)]
  obtain ⟨w, ew⟩ : ∃ v, v = (x3 + 7) % p := ⟨_, rfl⟩
  have cr : crF p X = w := by
    unfold crF
    rw [ew, ex3, ex2]
  refine (H43.add (by omega) 13 0 13 w (by rw [ew, ← f7]; rfl) (by decide) (by decide) (by decide)).nV (fun h50 Q => ?_)
  obtain ⟨H50, m50⟩ := Q
  replace m50 := m43.trans m50
  intro r55 e55 r60 e60
  rw [show r55 = F + 2 from e55.trans (by rw [m50.r]; exact oF), show r60 = M + 24 from e60.trans (by rw [m50.r]; exact p21.2.2.2)]
  refine (H50.one (by omega) 6 (by decide)).nV (fun h62 Q => ?_)
  obtain ⟨H62, m62⟩ := Q
  replace m62 := m50.trans m62
  rw [cr] at k1
  clear H4 H22 H33 H43 H50 m22 m33 m43 m50
  obtain ⟨f2, ef2⟩ : ∃ g, g = up1 (up1 (up1 (up1 (up1 f 4 X) 13 x2) 13 x3) 13 w) 6 1 := ⟨_, rfl⟩
  rw [← ef2] at H62
  have g4 : f2 4 = X := by rw [ef2]; rfl
  have g6 : f2 6 = 1 := by rw [ef2]; rfl
  have g13 : f2 13 = w := by rw [ef2]; rfl
  have g03 : ∀ j, j < 4 → f2 j = f j := fun j hj => by
    rw [ef2]
    exact (if_neg (by omega)).trans ((if_neg (by omega)).trans ((if_neg (by omega)).trans ((if_neg (by omega)).trans (if_neg (by omega)))))
  clear ef2
  have aK : h62.ai ra = Kb := (m62.ai nr).trans eK
  have kK : h62.kd ra = 101 := by rw [m62.kd]; exact kr
  rcases hs with ⟨z1, z2, z3⟩ | ⟨z1, z2, z3⟩
  · subst z1
    rw [if_neg (by omega)] at k1
    refine ⟨fun _ r67 e67 => ?_, fun q => absurd q (by decide)⟩
    rw [show r67 = M + 35 from e67.trans (by rw [m62.r]; exact r24)]
    refine (H62.copy (by omega) 13 15 (by decide) (by decide)).nV (fun h69 Q => ?_)
    obtain ⟨H69, m69⟩ := Q
    replace m69 := m62.trans m69
    intro r78 e78
    rw [show r78 = M + 23 from e78.trans (by rw [m69.r]; exact p21.2.2.1)]
    have d0 : u32 ((h69.ai (F + 1)).getD 0 0) = p % 4294967296 := by
      have := dg_va (L := h69.ai (F + 1)) (n := 8) (i := 0) (by decide)
      rw [Nat.pow_zero, Nat.div_one] at this
      exact this.trans (by rw [show va (h69.ai (F + 1)) 8 = p from H69.2.1.1.1.2.1])
    obtain ⟨rt, ert⟩ : ∃ v, v = w ^ ((p + 1) / 4) % p := ⟨_, rfl⟩
    have ertF : rtF p w = rt := by
      unfold rtF
      rw [ert]
    rw [ertF] at k1
    refine (H69.pow (a := 13) (t := 5) (E := p + 1) (sh := 2) (more := 1) (v := rt) (by omega) (by decide) (by decide) hp2 (by omega) (by
      rw [← nI_u32 ((h69.ai (F + 1)).getD 0 0), d0, nI_1, u32_nI]
      omega) (by decide) (by rw [ert]; exact congrArg (fun y => y ^ ((p + 1) / 4) % p) g13.symm)).nV (fun h80 Q => ?_)
    obtain ⟨H80, m80⟩ := Q
    replace m80 := m69.trans m80
    intro r89 e89
    rw [show r89 = M + 34 from e89.trans (by rw [m80.r]; exact r23)]
    obtain ⟨q2, eq2⟩ : ∃ v, v = rt * rt % p := ⟨_, rfl⟩
    rw [← eq2] at k1
    refine (H80.mul (by omega) 5 5 14 q2 eq2 (by decide) (by decide) (by decide)).nV (fun h91 Q => ?_)
    obtain ⟨H91, m91⟩ := Q
    replace m91 := m80.trans m91
    clear H69 H80 m69 m80
    obtain ⟨f3, ef3⟩ : ∃ g, g = up1 (up1 (up1 f2 15 (f2 13)) 5 rt) 14 q2 := ⟨_, rfl⟩
    rw [← ef3] at H91
    have a4 : f3 4 = X := by rw [ef3]; exact g4
    have a5 : f3 5 = rt := by rw [ef3]; rfl
    have a6 : f3 6 = 1 := by rw [ef3]; exact g6
    have a14 : f3 14 = q2 := by rw [ef3]; rfl
    have a15 : f3 15 = w := by rw [ef3]; exact g13
    have a03 : ∀ j, j < 4 → f3 j = f j := fun j hj => by
      rw [ef3]
      exact ((if_neg (by omega)).trans ((if_neg (by omega)).trans (if_neg (by omega)))).trans (g03 j hj)
    clear ef3
    refine (H91.same (by omega) 14 15 (by decide) (by decide)).nI (fun x100 h101 Q => ?_)
    obtain ⟨ex, eh⟩ := Q
    rw [eh, ex, a14, a15]
    clear eh ex
    by_cases cq : q2 = w
    case neg =>
      rw [if_neg cq]
      rw [if_neg (fun z => cq z.symm)] at k1
      exact ⟨fun q => absurd rfl q, fun _ => rk_no H91 m91 a03 k1⟩
    case pos =>
      rw [if_pos cq]
      rw [if_pos cq.symm] at k1
      refine ⟨fun _ r112 e112 => ?_, fun q => absurd q (by decide)⟩
      rw [show r112 = M + 40 from e112.trans (by rw [m91.r]; exact r29)]
      refine (H91.leave (k := 40) (a := 5) (by omega) (by decide) (by decide) (by decide)).nV (fun h114 Q => ?_)
      obtain ⟨H114, m114, l114, _⟩ := Q
      replace m114 := m91.trans m114
      have aK2 : h114.ai ra = Kb := (m114.ai nr).trans eK
      rw [a5] at l114
      have t40 := H114.2.2.2.1 40 (by decide) (by decide)
      have b0 : (h114.ai (M + 40)).getD ((0 : Int32).toNatClampNeg) 0 &&& 1 = nI (rt % 2) := by
        rw [l114]
        show (lb rt).getD 0 0 &&& 1 = _
        rw [lb_getD rt (by decide), Nat.pow_zero, Nat.div_one, and_1, u32_nI]
        congr 1
        omega
      rw [b0, aK2, t40.2]
      refine ⟨t40.1, pk_in 0 8 (by decide), by rw [m114.kd]; exact kr, pk_in 0 _ (by omega), fun z => ?_, fun z => ?_⟩
      · have z' : nI (rt % 2) = Kb.getD 0 0 - 2 := z
        rw [if_pos z'] at k1
        exact rk_yes H114 m114 a03 k1 a4 a5 a6
      · have z' : ¬ nI (rt % 2) = Kb.getD 0 0 - 2 := z
        rw [if_neg z', ← a5] at k1
        exact rk_373 (by omega) H114 m114 a03 a4 a6 k1
  · subst z1
    rw [if_pos z2] at k1
    refine ⟨fun q => absurd rfl q, fun _ r126 e126 => ?_⟩
    rw [show r126 = M + 40 from e126.trans (by rw [m62.r]; exact r29)]
    refine (H62.fb (off := 33) (k := 40) (by omega) (by decide) (by decide) kK (by rw [aK]; omega) (by rw [aK]; omega)).nV (fun h128 Q => ?_)
    obtain ⟨H128, m128, v128, _⟩ := Q
    replace m128 := m62.trans m128
    rw [aK] at v128
    generalize beV Kb 33 32 = Y at k1 v128
    refine (Row_compare_spec (by omega) (H128.2.2.2.1 40 (by decide) (by decide)) H128.2.1.1.1.1.2.2.2.2.2.2.2.2.1).nI (fun x144 h145 Q => ?_)
    obtain ⟨ex, eh⟩ := Q
    rw [eh, ex, v128, H128.2.1.1.1.2.1, cmpI_lt]
    clear eh ex
    refine ⟨fun c2 r156 e156 => ?_, fun c2 => rk_no H128 m128 g03 (by rw [k1, if_pos (by omega)])⟩
    rw [if_neg (by omega)] at k1
    rw [show r156 = M + 23 from e156.trans (by rw [m128.r]; exact p21.2.2.1)]
    refine (H128.enter (k := 40) (t := 5) (by omega) (by decide) (by decide) (by decide) v128 c2).nV (fun h158 Q => ?_)
    obtain ⟨H158, m158⟩ := Q
    replace m158 := m128.trans m158
    intro r166 e166
    rw [show r166 = M + 34 from e166.trans (by rw [m158.r]; exact r23)]
    obtain ⟨q2, eq2⟩ : ∃ v, v = Y * Y % p := ⟨_, rfl⟩
    rw [← eq2] at k1
    refine (H158.mul (by omega) 5 5 14 q2 eq2 (by decide) (by decide) (by decide)).nV (fun h168 Q => ?_)
    obtain ⟨H168, m168⟩ := Q
    replace m168 := m158.trans m168
    refine (H168.same (by omega) 13 14 (by decide) (by decide)).nI (fun x179 h180 Q => ?_)
    obtain ⟨ex, eh⟩ := Q
    rw [show up1 (up1 f2 5 Y) 14 q2 13 = w from g13, show up1 (up1 f2 5 Y) 14 q2 14 = q2 from rfl] at ex
    rw [eh, ex]
    clear eh ex
    have e03 : ∀ j, j < 4 → up1 (up1 f2 5 Y) 14 q2 j = f j := fun j hj => ((if_neg (by omega)).trans (if_neg (by omega))).trans (g03 j hj)
    by_cases cq : w = q2
    · rw [if_pos cq] at k1 ⊢
      exact ⟨Or.inr rfl, rk_yes H168 m168 e03 k1 g4 rfl g6⟩
    · rw [if_neg cq] at k1 ⊢
      exact ⟨Or.inl rfl, rk_no H168 m168 e03 k1⟩
theorem MD_readKey_spec (hd : 5 ≤ d) (H : MCr h M F O p N I J f) (f7 : f 0 = 7) (hp1 : p % 4294967296 + 1 < 4294967296) (hp2 : p + 1 < 4294967296 ^ 8) (kr : h.kd ra = 101) (nr : ¬ cuP M F O ra) (eK : h.ai ra = Kb) (hl : n ≤ Kb.length) (hl2 : Kb.length < 2 ^ 20) : Cw G mX24_readKey d 0 [vR M, vR ra, vI (nI n)] h (kI (fun x h' => ∃ f', MCr h' M F O p N I J f' ∧ Mod (cuP M F O) h h' ∧ (∀ j, j < 4 → f' j = f j) ∧ ((x = 1 ∧ ∃ P, keyF p Kb n = some P ∧ f' 4 = P.1 ∧ f' 5 = P.2 ∧ f' 6 = 1) ∨ (x = 0 ∧ keyF p Kb n = none))) nE) := by
  obtain ⟨d, rfl⟩ : ∃ d', d = d' + 1 := ⟨d - 1, by omega⟩
  have no : ¬ ((n = 33 ∧ (Kb.getD 0 0 = 2 ∨ Kb.getD 0 0 = 3)) ∨ (n = 65 ∧ Kb.getD 0 0 = 4)) → (kI (fun x h' => ∃ f', MCr h' M F O p N I J f' ∧ Mod (cuP M F O) h h' ∧ (∀ j, j < 4 → f' j = f j) ∧ ((x = 1 ∧ ∃ P, keyF p Kb n = some P ∧ f' 4 = P.1 ∧ f' 5 = P.2 ∧ f' 6 = 1) ∨ (x = 0 ∧ keyF p Kb n = none))) nE) (.inl (some (vI 0))) h := fun z => rk_no H Mod.rf (fun _ _ => rfl) (by unfold keyF; rw [if_pos z])
  have g0 : (h.ai ra).getD ((0 : Int32).toNatClampNeg) 0 = Kb.getD 0 0 := by rw [eK]; rfl
  have s24 : ¬ (n = 33 ∧ (Kb.getD 0 0 = 2 ∨ Kb.getD 0 0 = 3)) → Aw G mX24_readKey (d + 1) 0 h (kI (fun x h' => ∃ f', MCr h' M F O p N I J f' ∧ Mod (cuP M F O) h h' ∧ (∀ j, j < 4 → f' j = f j) ∧ ((x = 1 ∧ ∃ P, keyF p Kb n = some P ∧ f' 4 = P.1 ∧ f' 5 = P.2 ∧ f' 6 = 1) ∨ (x = 0 ∧ keyF p Kb n = none))) nE) 24 [vR M, vR ra, vI (nI n), vU, vU] [] h := fun z => by
    refine sX24_readKey_24 h M ra (nI n) ⟨fun q => absurd rfl q, fun _ => pk_eq' n 65 (fun c => no (fun y => y.elim z (fun y => c y.1))) (fun c => ⟨kr, ?_⟩)⟩
    rw [g0, eK]
    exact ⟨pk_in 0 _ (by omega), fun q => rk_45 (by omega) H f7 hp1 hp2 kr nr eK hl hl2 (Or.inr ⟨rfl, c, q⟩), fun q => no (fun y => y.elim z (fun y => q y.2))⟩
  have s20 : n = 33 → (Kb.getD 0 0 = 2 ∨ Kb.getD 0 0 = 3) → Aw G mX24_readKey (d + 1) 0 h (kI (fun x h' => ∃ f', MCr h' M F O p N I J f' ∧ Mod (cuP M F O) h h' ∧ (∀ j, j < 4 → f' j = f j) ∧ ((x = 1 ∧ ∃ P, keyF p Kb n = some P ∧ f' 4 = P.1 ∧ f' 5 = P.2 ∧ f' 6 = 1) ∨ (x = 0 ∧ keyF p Kb n = none))) nE) 20 [vR M, vR ra, vI (nI n), vU, vU] [] h := fun z1 z2 =>
    sX24_readKey_20 h M ra (nI n) ⟨fun _ => rk_45 (by omega) H f7 hp1 hp2 kr nr eK hl hl2 (Or.inl ⟨rfl, z1, z2⟩), fun q => absurd q (by decide)⟩
  refine eX24_readKey h M ra (nI n) (fun _ => sX24_readKey_0 h M ra (nI n) (pk_eq' n 33 (fun c => s24 (fun z => c z.1)) (fun c => ⟨kr, ?_⟩)))
  rw [g0, eK]
  exact ⟨pk_in 0 _ (by omega), fun q => s20 c (Or.inl q), fun q => ⟨pk_in 0 _ (by omega), fun q2 => s24 (fun z => z.2.elim q q2), fun q2 => s20 c (Or.inr q2)⟩⟩
end MKey

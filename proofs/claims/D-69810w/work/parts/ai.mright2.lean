/-! the reference: whether a signature is right: the whole -/
set_option maxRecDepth 100000
/-- which registers a sum of multiples works on: a .. f, a point q, a point o -/
def sg3 (q o : Nat) (j : Nat) : Nat := if j < 6 then 13 + j else if j < 9 then q + (j - 6) else o + (j - 9)
section MRight2
variable {G : Gx} {d : Nat} {h h0 : AH} {M F O p N I J ga ra n : Nat} {f : Nat → Nat} {S Kb : List Int32} {Bp : Pt}
theorem sg_sum : ∀ j, j < 12 → sg3 7 1 j < 19 ∧ adG M (sg3 7 1 j) = adM (M + 33) (M + 25) (M + 17) j := fun j hj => by
  match j, hj with
  | 0, _ => exact ⟨by decide, rfl⟩
  | 1, _ => exact ⟨by decide, rfl⟩
  | 2, _ => exact ⟨by decide, rfl⟩
  | 3, _ => exact ⟨by decide, rfl⟩
  | 4, _ => exact ⟨by decide, rfl⟩
  | 5, _ => exact ⟨by decide, rfl⟩
  | 6, _ => exact ⟨by decide, rfl⟩
  | 7, _ => exact ⟨by decide, rfl⟩
  | 8, _ => exact ⟨by decide, rfl⟩
  | 9, _ => exact ⟨by decide, rfl⟩
  | 10, _ => exact ⟨by decide, rfl⟩
  | 11, _ => exact ⟨by decide, rfl⟩
theorem sg_work : ∀ j, j < 12 → sg3 10 4 j < 19 ∧ adG M (sg3 10 4 j) = adM (M + 33) (M + 29) (M + 21) j := fun j hj => by
  match j, hj with
  | 0, _ => exact ⟨by decide, rfl⟩
  | 1, _ => exact ⟨by decide, rfl⟩
  | 2, _ => exact ⟨by decide, rfl⟩
  | 3, _ => exact ⟨by decide, rfl⟩
  | 4, _ => exact ⟨by decide, rfl⟩
  | 5, _ => exact ⟨by decide, rfl⟩
  | 6, _ => exact ⟨by decide, rfl⟩
  | 7, _ => exact ⟨by decide, rfl⟩
  | 8, _ => exact ⟨by decide, rfl⟩
  | 9, _ => exact ⟨by decide, rfl⟩
  | 10, _ => exact ⟨by decide, rfl⟩
  | 11, _ => exact ⟨by decide, rfl⟩
theorem sg_both : ∀ j, j < 12 → sg3 7 10 j < 19 ∧ adG M (sg3 7 10 j) = adM (M + 33) (M + 25) (M + 29) j := fun j hj => by
  match j, hj with
  | 0, _ => exact ⟨by decide, rfl⟩
  | 1, _ => exact ⟨by decide, rfl⟩
  | 2, _ => exact ⟨by decide, rfl⟩
  | 3, _ => exact ⟨by decide, rfl⟩
  | 4, _ => exact ⟨by decide, rfl⟩
  | 5, _ => exact ⟨by decide, rfl⟩
  | 6, _ => exact ⟨by decide, rfl⟩
  | 7, _ => exact ⟨by decide, rfl⟩
  | 8, _ => exact ⟨by decide, rfl⟩
  | 9, _ => exact ⟨by decide, rfl⟩
  | 10, _ => exact ⟨by decide, rfl⟩
  | 11, _ => exact ⟨by decide, rfl⟩
theorem MRP_hi {E q o x : Nat} (hE : M + 16 ≤ E ∧ E ≤ M + 33) (hq : M + 16 ≤ q ∧ q ≤ M + 30) (ho : M + 16 ≤ o ∧ o ≤ M + 30) (hF : M + 46 < F) (hx : M + 39 ≤ x ∧ x ≤ M + 46) : ¬ MRP F 12 (adM E q o) x := fun m => by
  rcases m with m | ⟨j, hj, m⟩
  · omega
  · have : adM E q o j ≤ M + 38 := by
      match j, hj with
      | 0, _ => show E ≤ M + 38; omega
      | 1, _ => show E + 1 ≤ M + 38; omega
      | 2, _ => show E + 2 ≤ M + 38; omega
      | 3, _ => show E + 3 ≤ M + 38; omega
      | 4, _ => show E + 4 ≤ M + 38; omega
      | 5, _ => show E + 5 ≤ M + 38; omega
      | 6, _ => show q + 1 ≤ M + 38; omega
      | 7, _ => show q + 2 ≤ M + 38; omega
      | 8, _ => show q + 3 ≤ M + 38; omega
      | 9, _ => show o + 1 ≤ M + 38; omega
      | 10, _ => show o + 2 ≤ M + 38; omega
      | 11, _ => show o + 3 ≤ M + 38; omega
    omega
theorem ir_no {h1 : AH} {f1 : Nat → Nat} (H : MCr h1 M F O p N I J f1) (m : Mod (cuP M F O) h h1) (hf : ∀ j, j < 4 → f1 j = f j) (hk : ¬ okS p N Bp Kb n (sgV S 4 (ub S 3)) (sgV S (6 + ub S 3) (ub S (5 + ub S 3))) (beV (h.ai (M + 46)) 0 32)) : (kI (fun x h' => ∃ f', MCr h' M F O p N I J f' ∧ Mod (cuP M F O) h h' ∧ (∀ j, j < 4 → f' j = f j) ∧ x = bB (okB p N Bp Kb n (sgV S 4 (ub S 3)) (sgV S (6 + ub S 3) (ub S (5 + ub S 3))) (beV (h.ai (M + 46)) 0 32))) nE) (.inl (some (vI 0))) h1 := ⟨f1, H, m, hf, by
  cases z : okB p N Bp Kb n (sgV S 4 (ub S 3)) (sgV S (6 + ub S 3) (ub S (5 + ub S 3))) (beV (h.ai (M + 46)) 0 32) with
  | false => rfl
  | true => exact absurd (okB_iff.mp z) hk⟩
theorem ir_yes {h1 : AH} {f1 : Nat → Nat} (H : MCr h1 M F O p N I J f1) (m : Mod (cuP M F O) h h1) (hf : ∀ j, j < 4 → f1 j = f j) (hk : okS p N Bp Kb n (sgV S 4 (ub S 3)) (sgV S (6 + ub S 3) (ub S (5 + ub S 3))) (beV (h.ai (M + 46)) 0 32)) : (kI (fun x h' => ∃ f', MCr h' M F O p N I J f' ∧ Mod (cuP M F O) h h' ∧ (∀ j, j < 4 → f' j = f j) ∧ x = bB (okB p N Bp Kb n (sgV S 4 (ub S 3)) (sgV S (6 + ub S 3) (ub S (5 + ub S 3))) (beV (h.ai (M + 46)) 0 32))) nE) (.inl (some (vI 1))) h1 := ⟨f1, H, m, hf, by rw [okB_iff.mpr hk]; rfl⟩
theorem ok_c1 {r : Nat} (z : okS p N Bp Kb n (sgV S 4 (ub S 3)) (sgV S (6 + ub S 3) (ub S (5 + ub S 3))) r) : beV S 4 (ub S 3) < 4294967296 ^ 8 ∧ beV S 4 (ub S 3) ≠ 0 ∧ beV S 4 (ub S 3) < N := by
  obtain ⟨P, _, this, _⟩ := z
  unfold sgV at this
  by_cases w : beV S 4 (ub S 3) < 4294967296 ^ 8
  · rw [if_pos w] at this
    exact ⟨w, this.1, this.2.2.1⟩
  · rw [if_neg w] at this
    exact absurd rfl this.1
theorem ok_c2 {r : Nat} (z : okS p N Bp Kb n (sgV S 4 (ub S 3)) (sgV S (6 + ub S 3) (ub S (5 + ub S 3))) r) : beV S (6 + (ub S 3)) (ub S (5 + ub S 3)) < 4294967296 ^ 8 ∧ beV S (6 + (ub S 3)) (ub S (5 + ub S 3)) ≠ 0 ∧ beV S (6 + (ub S 3)) (ub S (5 + ub S 3)) < N := by
  obtain ⟨P, _, this, _⟩ := z
  unfold sgV at this
  by_cases w : beV S (6 + (ub S 3)) (ub S (5 + ub S 3)) < 4294967296 ^ 8
  · rw [if_pos w] at this
    exact ⟨w, this.2.1, this.2.2.2⟩
  · rw [if_neg w] at this
    exact absurd rfl this.2.1
theorem ok_R {r s e : Nat} {P : Nat × Nat} (hk : keyF p Kb n = some P) (h1 : r ≠ 0 ∧ s ≠ 0 ∧ r < N ∧ s < N) : okS p N Bp Kb n r s e ↔ (vrS p N Bp (P.1, P.2, 1) r s e).2.2 ≠ 0 ∧ (plF p (vrS p N Bp (P.1, P.2, 1) r s e)).1 % N = r := by
  constructor
  · intro ⟨P', z1, _, z3⟩
    rw [hk] at z1
    cases z1
    exact z3
  · intro z
    exact ⟨P, hk, h1, z⟩
set_option maxHeartbeats 4000000 in
/-- both numbers and the key are read: the rest -/
theorem ir_core {Fin : Out → AH → Prop} {r s e : Nat} {P : Nat × Nat} {f1 : Nat → Nat} (hd : 5 ≤ d) (H : MCr h M F O p N I J f1) (hB : Bp = (f 1, f 2, f 3)) (hp3 : 2 ≤ p % 4294967296) (pW : ∀ x, x < p → x < 4294967296 ^ 8) (hN2 : 2 ≤ N % 4294967296) (hpN : p < 2 * N) (e03 : ∀ j, j < 4 → f1 j = f j) (q4 : f1 4 = P.1) (q5 : f1 5 = P.2) (q6 : f1 6 = 1) (b41' : bv h (M + 41) = r) (b42 : bv h (M + 42) = s) (hmsg : beV (h.ai (M + 46)) 0 32 = e)
    (no1 : ∀ {h1 : AH} {f2 : Nat → Nat}, MCr h1 M F O p N I J f2 → Mod (cuP M F O) h h1 → (∀ j, j < 4 → f2 j = f j) → ¬ ((vrS p N Bp (P.1, P.2, 1) r s e).2.2 ≠ 0 ∧ (plF p (vrS p N Bp (P.1, P.2, 1) r s e)).1 % N = r) → Fin (.inl (some (vI 0))) h1)
    (yes1 : ∀ {h1 : AH} {f2 : Nat → Nat}, MCr h1 M F O p N I J f2 → Mod (cuP M F O) h h1 → (∀ j, j < 4 → f2 j = f j) → ((vrS p N Bp (P.1, P.2, 1) r s e).2.2 ≠ 0 ∧ (plF p (vrS p N Bp (P.1, P.2, 1) r s e)).1 % N = r) → Fin (.inl (some (vI 1))) h1) :
    ∀ r21 : Nat, r21 = (h.r 24035 M) → ∀ r22 : Nat, r22 = (h.r 24032 M) → Cw G mX24_fromBytes d 0 [vR r21, vI 0, vI 1, vR r22] h (kV (fun h24 => ∀ r26 : Nat, r26 = (h24.r 24016 M) → h24.kd r26 = 27 ∧ Cw G mX27_enter d 0 [vR r26, vR (M + 42), vR (M + 42)] h24 (kV (fun h31 => Cw G mX27_power d 0 [vR r26, vR (M + 42), vI (-2), vI 0, vR (M + 42)] h31 (kV (fun h38 => ∀ r46 : Nat, r46 = (h38.r 24033 M) → Cw G mX27_enter d 0 [vR r26, vR r22, vR r46] h38 (kV (fun h48 => Cw G mX27_multiply d 0 [vR r26, vR r46, vR (M + 42), vR r46] h48 (kV (fun h57 => Cw G mX27_leave d 0 [vR r26, vR r46, vR r46] h57 (kV (fun h63 => ∀ r76 : Nat, r76 = (h63.r 24034 M) → Cw G mX27_enter d 0 [vR r26, vR (M + 41), vR r76] h63 (kV (fun h78 => Cw G mX27_multiply d 0 [vR r26, vR r76, vR (M + 42), vR r76] h78 (kV (fun h88 => Cw G mX27_leave d 0 [vR r26, vR r76, vR r76] h88 (kV (fun h94 => ∀ r101 : Nat, r101 = (h94.r 24018 M) → ∀ r102 : Nat, r102 = (h94.r 24020 M) → Cw G mX24_times_2 d 0 [vR M, vR r46, vR r101, vR r102] h94 (kV (fun h104 => ∀ r108 : Nat, r108 = (h104.r 24019 M) → ∀ r109 : Nat, r109 = (h104.r 24021 M) → Cw G mX24_times_2 d 0 [vR M, vR r76, vR r108, vR r109] h104 (kV (fun h111 => Cw G mX24_plus d 0 [vR M, vR r102, vR r109] h111 (kV (fun h119 => h119.kd r102 = 25 ∧ ∀ r123 : Nat, r123 = (h119.r 25002 r102) → Cw G mX27_isZero d 0 [vR r123] h119 (kI (fun x124 h125 => ((x124 = 0 → ∀ r129 : Nat, r129 = (h125.r 24028 M) → ∀ r130 : Nat, r130 = (h125.r 24029 M) → Cw G mX24_flat d 0 [vR M, vR r102, vR r129, vR r130] h125 (kV (fun h132 => ∀ r148 : Nat, r148 = (h132.r 27000 r26) → Cw G mX27_compare d 0 [vR r129, vR r148] h132 (kI (fun x149 h150 => ((x149 < 0 → Cw G mX27_same d 0 [vR r129, vR (M + 41)] h150 (kI (fun x163 h164 => (x163 = 0 ∨ x163 = 1) ∧ Fin (.inl (some (vI x163))) h164) (fun x h_1 => Fin (.inr x) h_1))) ∧ (¬ x149 < 0 → Cw G mX27_less d 0 [vR r129, vR r148, vR r129] h150 (kJ (fun x172 h173 => Cw G mX27_same d 0 [vR r129, vR (M + 41)] h173 (kI (fun x186 h187 => (x186 = 0 ∨ x186 = 1) ∧ Fin (.inl (some (vI x186))) h187) (fun x h_1 => Fin (.inr x) h_1))) (fun x h_1 => Fin (.inr x) h_1))))) (fun x h_1 => Fin (.inr x) h_1))) (fun x h_1 => Fin (.inr x) h_1))) ∧ (¬ x124 = 0 → Fin (.inl (some (vI 0))) h125))) (fun x h_1 => Fin (.inr x) h_1))) (fun x h_1 => Fin (.inr x) h_1))) (fun x h_1 => Fin (.inr x) h_1))) (fun x h_1 => Fin (.inr x) h_1))) (fun x h_1 => Fin (.inr x) h_1))) (fun x h_1 => Fin (.inr x) h_1))) (fun x h_1 => Fin (.inr x) h_1))) (fun x h_1 => Fin (.inr x) h_1))) (fun x h_1 => Fin (.inr x) h_1))) (fun x h_1 => Fin (.inr x) h_1))) (fun x h_1 => Fin (.inr x) h_1))) (fun x h_1 => Fin (.inr x) h_1))) (fun x h_1 => Fin (.inr x) h_1)) := by
  obtain ⟨d, rfl⟩ : ∃ d', d = d' + 3 := ⟨d - 3, by omega⟩
  have hp := H.p0
  have hF := H.2.2.2.2.1
  have b41w : bvE h (M + 41) r := b41'
  have b42w : bvE h (M + 42) s := b42
  have hmw : ∀ y, y = beV (h.ai (M + 46)) 0 32 → y = e := fun y q => q.trans hmsg
  clear b41' b42 hmsg
  obtain ⟨⟨k0, rF, rO, r17, r18, r19, r20, r21⟩, ⟨r22, r23, r24, r25, r26, r27⟩, ⟨r28, r29, r30, r31, r32, r33, r34, r35⟩, p17, p21, p25, p29⟩ := H.1
  have kO : h.kd O = 27 := H.2.2.1.1.1.1
  have mO : h.r 27000 O = O + 1 := H.2.2.1.1.1.2.1
  intro r21' e21 r22' e22
  rw [show r21' = M + 46 from e21.trans r35, show r22' = M + 43 from e22.trans r32]
  refine (H.fb (off := 0) (k := 43) (by omega) (by decide) (by decide) H.2.2.2.2.2.1 (by rw [H.2.2.2.2.2.2]; decide) (by rw [H.2.2.2.2.2.2]; decide)).nV (fun h24 Q => ?_)
  obtain ⟨H24, m24', b430, o24⟩ := Q
  have b43 : bvE h24 (M + 43) e := hmw _ b430
  clear b430
  have b41b : bvE h24 (M + 41) (r) := by show bv h24 (M + 41) = _; unfold bv; rw [o24 _ (by omega)]; exact b41w
  have b42b : bvE h24 (M + 42) (s) := by show bv h24 (M + 42) = _; unfold bv; rw [o24 _ (by omega)]; exact b42w
  have m24 := m24'
  clear o24 b41w b42w
  intro r26' e26
  rw [show r26' = O from e26.trans (by rw [m24.r]; exact rO)]
  refine ⟨by rw [m24.kd]; exact kO, (H24.oen (k := 42) (t := 42) (v := mM N s) (by omega) (by decide) (by decide) (by rw [show bv h24 (M + 42) = s from b42b])).nV (fun h31 Q => ?_)⟩
  obtain ⟨H31, m31', b42c0, o31⟩ := Q
  have b42c : bvE h31 (M + 42) (mM N s) := b42c0
  clear b42c0
  have b41c : bvE h31 (M + 41) (r) := by show bv h31 (M + 41) = _; unfold bv; rw [o31 _ (by omega) (by omega)]; exact b41b
  have b43c : bvE h31 (M + 43) (e) := by show bv h31 (M + 43) = _; unfold bv; rw [o31 _ (by omega) (by omega)]; exact b43
  have m31 := m24.trans m31'
  clear o31 m31' b41b b42b b43 H24
  obtain ⟨w, ew⟩ : ∃ w, w = s ^ (N - 2) % N := ⟨_, rfl⟩
  refine (H31.opo (a := 42) (t := 42) (x := s) (v := mM N w) (by omega) hN2 (by decide) (by decide) b42c (by rw [ew])).nV (fun h38 Q => ?_)
  obtain ⟨H38, m38', b42d0, o38⟩ := Q
  have b42d : bvE h38 (M + 42) (mM N w) := b42d0
  clear b42d0
  have b41d : bvE h38 (M + 41) (r) := by show bv h38 (M + 41) = _; unfold bv; rw [o38 _ (by omega) (by omega)]; exact b41c
  have b43d : bvE h38 (M + 43) (e) := by show bv h38 (M + 43) = _; unfold bv; rw [o38 _ (by omega) (by omega)]; exact b43c
  have m38 := m31.trans m38'
  clear o38 m38' b41c b42c b43c H31
  intro r46 e46'
  rw [show r46 = M + 44 from e46'.trans (by rw [m38.r]; exact r33)]
  refine (H38.oen (k := 43) (t := 44) (v := mM N e) (by omega) (by decide) (by decide) (by rw [show bv h38 (M + 43) = e from b43d])).nV (fun h48 Q => ?_)
  obtain ⟨H48, m48', b440, o48⟩ := Q
  have b44 : bvE h48 (M + 44) (mM N e) := b440
  clear b440
  have b41e : bvE h48 (M + 41) (r) := by show bv h48 (M + 41) = _; unfold bv; rw [o48 _ (by omega) (by omega)]; exact b41d
  have b42e : bvE h48 (M + 42) (mM N w) := by show bv h48 (M + 42) = _; unfold bv; rw [o48 _ (by omega) (by omega)]; exact b42d
  have m48 := m38.trans m48'
  clear o48 m48' b41d b42d b43d H38
  refine (H48.omu (a := 44) (b := 42) (t := 44) (x := e) (y := w) (by omega) (by decide) (by decide) (by decide) b44 b42e rfl).nV (fun h57 Q => ?_)
  obtain ⟨H57, m57', b44b0, o57⟩ := Q
  have b44b : bvE h57 (M + 44) (mM N (e * w % N)) := b44b0
  clear b44b0
  have b41f : bvE h57 (M + 41) (r) := by show bv h57 (M + 41) = _; unfold bv; rw [o57 _ (by omega) (by omega)]; exact b41e
  have b42f : bvE h57 (M + 42) (mM N w) := by show bv h57 (M + 42) = _; unfold bv; rw [o57 _ (by omega) (by omega)]; exact b42e
  have m57 := m48.trans m57'
  clear o57 m57' b41e b42e b44 H48
  obtain ⟨u1, eu1⟩ : ∃ u, u = e * w % N % N := ⟨_, rfl⟩
  refine (H57.ole (a := 44) (t := 44) (v := u1) (by omega) (by decide) (by decide) b44b eu1).nV (fun h63 Q => ?_)
  obtain ⟨H63, m63', b44c0, o63⟩ := Q
  have b44c : bvE h63 (M + 44) (u1) := b44c0
  clear b44c0
  have b41g : bvE h63 (M + 41) (r) := by show bv h63 (M + 41) = _; unfold bv; rw [o63 _ (by omega) (by omega)]; exact b41f
  have b42g : bvE h63 (M + 42) (mM N w) := by show bv h63 (M + 42) = _; unfold bv; rw [o63 _ (by omega) (by omega)]; exact b42f
  have m63 := m57.trans m63'
  clear o63 m63' b41f b42f b44b H57
  intro r76 e76
  rw [show r76 = M + 45 from e76.trans (by rw [m63.r]; exact r34)]
  refine (H63.oen (k := 41) (t := 45) (v := mM N r) (by omega) (by decide) (by decide) (by rw [show bv h63 (M + 41) = r from b41g])).nV (fun h78 Q => ?_)
  obtain ⟨H78, m78', b450, o78⟩ := Q
  have b45 : bvE h78 (M + 45) (mM N r) := b450
  clear b450
  have b41h : bvE h78 (M + 41) (r) := by show bv h78 (M + 41) = _; unfold bv; rw [o78 _ (by omega) (by omega)]; exact b41g
  have b42h : bvE h78 (M + 42) (mM N w) := by show bv h78 (M + 42) = _; unfold bv; rw [o78 _ (by omega) (by omega)]; exact b42g
  have b44d : bvE h78 (M + 44) (u1) := by show bv h78 (M + 44) = _; unfold bv; rw [o78 _ (by omega) (by omega)]; exact b44c
  have m78 := m63.trans m78'
  clear o78 m78' b41g b42g b44c H63
  refine (H78.omu (a := 45) (b := 42) (t := 45) (x := r) (y := w) (by omega) (by decide) (by decide) (by decide) b45 b42h rfl).nV (fun h88 Q => ?_)
  obtain ⟨H88, m88', b45b0, o88⟩ := Q
  have b45b : bvE h88 (M + 45) (mM N (r * w % N)) := b45b0
  clear b45b0
  have b41i : bvE h88 (M + 41) (r) := by show bv h88 (M + 41) = _; unfold bv; rw [o88 _ (by omega) (by omega)]; exact b41h
  have b44e : bvE h88 (M + 44) (u1) := by show bv h88 (M + 44) = _; unfold bv; rw [o88 _ (by omega) (by omega)]; exact b44d
  have m88 := m78.trans m88'
  clear o88 m88' b41h b42h b44d b45 H78
  obtain ⟨u2, eu2⟩ : ∃ u, u = r * w % N % N := ⟨_, rfl⟩
  refine (H88.ole (a := 45) (t := 45) (v := u2) (by omega) (by decide) (by decide) b45b eu2).nV (fun h94 Q => ?_)
  obtain ⟨H94, m94', b45c0, o94⟩ := Q
  have b45c : bvE h94 (M + 45) (u2) := b45c0
  clear b45c0
  have b41j : bvE h94 (M + 41) (r) := by show bv h94 (M + 41) = _; unfold bv; rw [o94 _ (by omega) (by omega)]; exact b41i
  have b44f : bvE h94 (M + 44) (u1) := by show bv h94 (M + 44) = _; unfold bv; rw [o94 _ (by omega) (by omega)]; exact b44e
  have m94 := m88.trans m94'
  clear o94 m94' b41i b44e b45b H88
  rw [Nat.mod_mod] at eu1 eu2
  intro r101 e101 r102 e102
  rw [show r101 = M + 17 from e101.trans (by rw [m94.r]; exact r18), show r102 = M + 25 from e102.trans (by rw [m94.r]; exact r20)]
  have inj1 : ∀ i, i < 12 → ∀ j, j < 12 → sg3 7 1 i = sg3 7 1 j → i = j := by decide
  have inj2 : ∀ i, i < 12 → ∀ j, j < 12 → sg3 10 4 i = sg3 10 4 j → i = j := by decide
  have inj3 : ∀ i, i < 12 → ∀ j, j < 12 → sg3 7 10 i = sg3 7 10 j → i = j := by decide
  have hi1 : ∀ x, M + 39 ≤ x ∧ x ≤ M + 46 → ¬ MRP F 12 (adM (M + 33) (M + 25) (M + 17)) x := fun x hx => MRP_hi (by omega) (by omega) (by omega) hF.1 hx
  have hi2 : ∀ x, M + 39 ≤ x ∧ x ≤ M + 46 → ¬ MRP F 12 (adM (M + 33) (M + 29) (M + 21)) x := fun x hx => MRP_hi (by omega) (by omega) (by omega) hF.1 hx
  have hi3 : ∀ x, M + 39 ≤ x ∧ x ≤ M + 46 → ¬ MRP F 12 (adM (M + 33) (M + 25) (M + 29)) x := fun x hx => MRP_hi (by omega) (by omega) (by omega) hF.1 hx
  have s17 := H94.1.2.2.2.1
  have s21 := H94.1.2.2.2.2.1
  have s25 := H94.1.2.2.2.2.2.1
  have s29 := H94.1.2.2.2.2.2.2
  refine (Mtimes_reg (d := d) (by omega) (H94.ok12 sg_sum inj1) (H94.1.mc H94.2.1.1.1.1.1) s25 s17 (H94.sub12 sg_sum) (H94.2.2.2.1 44 (by decide) (by decide)) (hi1 _ (by omega))).nV (fun h104 Q => ?_)
  obtain ⟨m104', g, Sg_, n1, w9, w10, w11⟩ := Q
  obtain ⟨f2, H104, m104c, ej, ei⟩ := H94.sup12 sg_sum m104' (fun x q => Or.inl q) Sg_
  have b41k : bvE h104 (M + 41) (r) := (m104'.bv (hi1 _ (by omega))).trans b41j
  have b45d : bvE h104 (M + 45) (u2) := (m104'.bv (hi1 _ (by omega))).trans b45c
  have m104 := m94.trans m104c
  have a1 : f2 1 = f 1 := (ej 9 (by decide)).trans (w9.trans (e03 1 (by decide)))
  have a2 : f2 2 = f 2 := (ej 10 (by decide)).trans (w10.trans (e03 2 (by decide)))
  have a3 : f2 3 = f 3 := (ej 11 (by decide)).trans (w11.trans (e03 3 (by decide)))
  have a0 : f2 0 = f 0 := (ei 0 (by decide) (by decide)).trans (e03 0 (by decide))
  have a4 : f2 4 = P.1 := (ei 4 (by decide) (by decide)).trans q4
  have a5 : f2 5 = P.2 := (ei 5 (by decide) (by decide)).trans q5
  have a6 : f2 6 = 1 := (ei 6 (by decide) (by decide)).trans q6
  have n1' : nrm (f2 7, f2 8, f2 9) = mulN p Bp u1 256 := by
    rw [hB, ← e03 1 (by decide), ← e03 2 (by decide), ← e03 3 (by decide), ← (show bv h94 (M + 44) = u1 from b44f)]
    exact (by rw [show f2 7 = g 6 from ej 6 (by decide), show f2 8 = g 7 from ej 7 (by decide), show f2 9 = g 8 from ej 8 (by decide)]; exact n1)
  clear n1 w9 w10 w11 ej ei Sg_ m104' m104c b41j b45c b44f H94 s17 s21 s25 s29
  intro r108 e108 r109 e109
  rw [show r108 = M + 21 from e108.trans (by rw [m104.r]; exact r19), show r109 = M + 29 from e109.trans (by rw [m104.r]; exact r21)]
  have s17 := H104.1.2.2.2.1
  have s21 := H104.1.2.2.2.2.1
  have s25 := H104.1.2.2.2.2.2.1
  have s29 := H104.1.2.2.2.2.2.2
  refine (Mtimes_reg (d := d) (by omega) (H104.ok12 sg_work inj2) (H104.1.mc H104.2.1.1.1.1.1) s29 s21 (H104.sub12 sg_work) (H104.2.2.2.1 45 (by decide) (by decide)) (hi2 _ (by omega))).nV (fun h111 Q => ?_)
  obtain ⟨m111', g, Sg_, n1, w9, w10, w11⟩ := Q
  obtain ⟨f3, H111, m111c, ej, ei⟩ := H104.sup12 sg_work m111' (fun x q => Or.inl q) Sg_
  have b41l : bvE h111 (M + 41) (r) := (m111'.bv (hi2 _ (by omega))).trans b41k
  have m111 := m104.trans m111c
  have c0 : f3 0 = f 0 := (ei 0 (by decide) (by decide)).trans a0
  have c1 : f3 1 = f 1 := (ei 1 (by decide) (by decide)).trans a1
  have c2 : f3 2 = f 2 := (ei 2 (by decide) (by decide)).trans a2
  have c3 : f3 3 = f 3 := (ei 3 (by decide) (by decide)).trans a3
  have n3 : nrm (f3 7, f3 8, f3 9) = mulN p Bp u1 256 := by
    rw [ei 7 (by decide) (by decide), ei 8 (by decide) (by decide), ei 9 (by decide) (by decide)]
    exact n1'
  have n2 : nrm (f3 10, f3 11, f3 12) = mulN p (P.1, P.2, 1) u2 256 := by
    rw [← a4, ← a5, ← a6, ← (show bv h104 (M + 45) = u2 from b45d)]
    exact (by rw [show f3 10 = g 6 from ej 6 (by decide), show f3 11 = g 7 from ej 7 (by decide), show f3 12 = g 8 from ej 8 (by decide)]; exact n1)
  clear n1 n1' w9 w10 w11 ej ei Sg_ m111' m111c b41k b45d H104 s17 s21 s25 s29 a0 a1 a2 a3 a4 a5 a6
  have s17 := H111.1.2.2.2.1
  have s21 := H111.1.2.2.2.2.1
  have s25 := H111.1.2.2.2.2.2.1
  have s29 := H111.1.2.2.2.2.2.2
  refine (plus_reg (d := d + 1) (by omega) (H111.ok12 sg_both inj3) (H111.1.mc H111.2.1.1.1.1.1) s25 s29 (H111.sub12 sg_both)).nV (fun h119 Q => ?_)
  obtain ⟨m119', g, Sg_, n1, w9, w10, w11⟩ := Q
  clear w9 w10 w11
  obtain ⟨f4, H119, m119c, ej, ei⟩ := H111.sup12 sg_both m119' (fun x q => Or.inl q) Sg_
  have b41m : bvE h119 (M + 41) (r) := (m119'.bv (hi3 _ (by omega))).trans b41l
  have m119 := m111.trans m119c
  have d03 : ∀ j, j < 4 → f4 j = f j := fun j hj => by
    match j, hj with
    | 0, _ => exact (ei 0 (by decide) (by decide)).trans c0
    | 1, _ => exact (ei 1 (by decide) (by decide)).trans c1
    | 2, _ => exact (ei 2 (by decide) (by decide)).trans c2
    | 3, _ => exact (ei 3 (by decide) (by decide)).trans c3
  have n4 : (f4 7, f4 8, f4 9) = addF p (f3 7, f3 8, f3 9) (f3 10, f3 11, f3 12) := by
    rw [show f4 7 = g 6 from ej 6 (by decide), show f4 8 = g 7 from ej 7 (by decide), show f4 9 = g 8 from ej 8 (by decide)]
    exact n1
  clear n1 ej ei Sg_ m119' m119c b41l H111 s17 s21 s25 s29 c0 c1 c2 c3
  have hV : vrS p N Bp (P.1, P.2, 1) r s e = nrm (f4 7, f4 8, f4 9) := by
    unfold vrS
    rw [n4, ← add_nrm p (f3 7, f3 8, f3 9) (f3 10, f3 11, f3 12), n3, n2, ← ew]
    have : e % N * w % N = u1 := by rw [eu1, Nat.mul_mod, Nat.mod_mod, ← Nat.mul_mod]
    rw [this, ← eu2]
  rw [hV] at no1 yes1
  clear hV n3 n2 n4 ew eu1 eu2 r17 r18 r19 r20 r21 r22 r23 r24 r25 r26 r27 r30 r31 r32 r33 r34 r35 k0 rF rO kO
  refine ⟨by rw [m119.kd]; exact p25.1, fun r123 e123 => ?_⟩
  rw [show r123 = M + 28 from e123.trans (by rw [m119.r]; exact p25.2.2.2)]
  refine (MReg.isZ (by omega) H119.2.1 9 (by decide)).nI (fun x124 h125 Q => ?_)
  obtain ⟨ex, eh⟩ := Q
  rw [eh, ex]
  clear eh ex
  by_cases cz : f4 9 = 0
  · rw [if_pos cz]
    exact ⟨fun z => absurd z (by decide), fun _ => no1 H119 m119 d03 (fun z => z.1 ((nrm_z _).mpr cz))⟩
  · rw [if_neg cz]
    have e1 : nrm (f4 7, f4 8, f4 9) = (f4 7, f4 8, f4 9) := nrm_1 cz
    rw [e1] at no1 yes1
    refine ⟨fun _ r129 e129 r130 e130 => ?_, fun z => absurd rfl z⟩
    rw [show r129 = M + 39 from e129.trans (by rw [m119.r]; exact r28), show r130 = M + 40 from e130.trans (by rw [m119.r]; exact r29)]
    have s17 := H119.1.2.2.2.1
    have s21 := H119.1.2.2.2.2.1
    have s25 := H119.1.2.2.2.2.2.1
    have s29 := H119.1.2.2.2.2.2.2
    refine (Mflat_spec (o := M + 29) (by omega) (H119.ok12 sg_both inj3) (H119.1.mc H119.2.1.1.1.1.1) s25 (H119.sub12 sg_both) hp3 (H119.2.2.2.1 39 (by decide) (by decide)) (H119.2.2.2.1 40 (by decide) (by decide)) (by omega) (hi3 _ (by omega)) (by omega) (hi3 _ (by omega)) (by omega)).nV (fun h132 Q => ?_)
    obtain ⟨m132', ⟨g, Sg_, w6, w7, w8, w9, w10, w11⟩, lX, _⟩ := Q
    obtain ⟨f5, H132, m132c, ej, ei⟩ := H119.sup12 sg_both m132' (fun x q => q) Sg_
    have g03 : ∀ j, j < 4 → f5 j = f j := fun j hj => by
      match j, hj with
      | 0, _ => exact (ei 0 (by decide) (by decide)).trans (d03 0 (by decide))
      | 1, _ => exact (ei 1 (by decide) (by decide)).trans (d03 1 (by decide))
      | 2, _ => exact (ei 2 (by decide) (by decide)).trans (d03 2 (by decide))
      | 3, _ => exact (ei 3 (by decide) (by decide)).trans (d03 3 (by decide))
    have m132 := m119.trans m132c
    have b41n : bvE h132 (M + 41) (r) := (m132'.bv (fun z => by
      rcases z with z | z | z
      · exact hi3 _ (by omega) z
      · omega
      · omega)).trans b41m
    have lX' : h132.ai (M + 39) = lb (plF p (f4 7, f4 8, f4 9)).1 := lX
    generalize hv : (plF p (f4 7, f4 8, f4 9)).1 = V at no1 yes1 lX'
    have Vp : V < p := by
      rw [← hv]
      exact Nat.mod_lt _ (by omega)
    have bV : bvE h132 (M + 39) V := bv_lb lX' (pW _ Vp)
    have zz : (f4 7, f4 8, f4 9).2.2 ≠ 0 := cz
    clear lX lX' ej ei Sg_ m132' m132c w6 w7 w8 w9 w10 w11
    intro r148 e148
    rw [show r148 = O + 1 from e148.trans (by rw [m132.r]; exact mO)]
    have tX := H132.2.2.2.1 39 (by decide) (by decide)
    have tR := H132.2.2.2.1 41 (by decide) (by decide)
    have tO : RowAt h132 (O + 1) := H132.2.2.1.1.1.2.2.2.2.2.2.2.2.1
    have bO : bvE h132 (O + 1) N := H132.2.2.1.1.2.1
    refine (Row_compare_spec (by omega) tX tO).nI (fun x149 h150 Q => ?_)
    obtain ⟨ex, eh⟩ := Q
    rw [eh, ex, show bv h132 (M + 39) = V from bV, show bv h132 (O + 1) = N from bO, cmpI_lt]
    clear eh ex
    refine ⟨fun cv => ?_, fun cv => ?_⟩
    · refine (Row_same_spec (by omega) tX tR).nI (fun x163 h164 Q => ?_)
      obtain ⟨ex, eh⟩ := Q
      rw [eh, ex, show bv h132 (M + 39) = V from bV, show bv h132 (M + 41) = r from b41n]
      clear eh ex
      rw [Nat.mod_eq_of_lt cv] at no1 yes1
      by_cases cr : V = r
      · rw [if_pos cr]
        exact ⟨Or.inr rfl, yes1 H132 m132 g03 ⟨zz, cr⟩⟩
      · rw [if_neg cr]
        exact ⟨Or.inl rfl, no1 H132 m132 g03 (fun z => cr z.2)⟩
    · refine (Row_less_spec (by omega) tX tO tX).nJ (fun x172 h173 Q => ?_)
      obtain ⟨_, eh⟩ := Q
      rw [show bv h132 (M + 39) = V from bV, show bv h132 (O + 1) = N from bO] at eh
      have m173' : Mod (fun x => x = M + 39) h132 h173 := by
        rw [eh]
        exact Mod.wi (by rw [lb_len, tX.2]) rfl
      have R173 := H132.raw m173' (fun x q => by omega)
      have eN : V % N = V - N := by
        rw [Nat.mod_eq_sub_mod (by omega), Nat.mod_eq_of_lt (by omega)]
      have b39 : bvE h173 (M + 39) (V - N) := by
        show bv h173 (M + 39) = V - N
        unfold bv
        rw [eh, AH.ai_wiS, va_lb _ (Nat.le_refl _), Nat.sub_add_comm (Nat.le_of_not_lt cv), Nat.add_mod_right, Nat.mod_eq_of_lt (pW _ (Nat.lt_of_le_of_lt (Nat.sub_le V N) Vp))]
      have b41o : bvE h173 (M + 41) (r) := (m173'.bv (by omega)).trans b41n
      refine (Row_same_spec (by omega) (tX.mod m173') (tR.mod m173')).nI (fun x186 h187 Q => ?_)
      obtain ⟨ex, eh2⟩ := Q
      rw [eh2, ex, show bv h173 (M + 39) = V - N from b39, show bv h173 (M + 41) = r from b41o]
      rw [eN] at no1 yes1
      by_cases cr : V - N = r
      · rw [if_pos cr]
        exact ⟨Or.inr rfl, yes1 R173.1 (m132.trans R173.2) g03 ⟨zz, cr⟩⟩
      · rw [if_neg cr]
        exact ⟨Or.inl rfl, no1 R173.1 (m132.trans R173.2) g03 (fun z => cr z.2)⟩
theorem ir_a (h : M + 46 < F ∧ F + 7 < O) : M + 41 ≠ O + 1 ∧ M + 42 ≠ O + 1 ∧ (∀ x, x = M + 41 → (F + 5 ≤ x ∧ x ≤ F + 7) ∨ (O + 5 ≤ x ∧ x ≤ O + 7) ∨ (M + 39 ≤ x ∧ x ≤ M + 45)) ∧ (∀ x, x = M + 42 → (F + 5 ≤ x ∧ x ≤ F + 7) ∨ (O + 5 ≤ x ∧ x ≤ O + 7) ∨ (M + 39 ≤ x ∧ x ≤ M + 45)) ∧ ¬ M + 41 = M + 42 ∧ ¬ cuP M F O (M + 46) :=
  ⟨by omega, by omega, fun x q => by omega, fun x q => by omega, by omega, fun z => by
    unfold cuP at z
    omega⟩
theorem ir_b {n1 n2 l : Nat} (h : 6 + n1 + n2 ≤ l) (h2 : l < 2 ^ 20) : 4 + n1 ≤ l ∧ l < 2 ^ 31 ∧ 3 < l ∧ 5 + n1 < l ∧ 5 + n1 < 2 ^ 31 := by omega
set_option maxHeartbeats 2000000 in
theorem MD_isRight_spec (hd : 5 ≤ d) (H : MCr h M F O p N I J f) (f7 : f 0 = 7) (hB : Bp = (f 1, f 2, f 3)) (hp1 : p % 4294967296 + 1 < 4294967296) (hp3 : 2 ≤ p % 4294967296) (hp2 : p + 1 < 4294967296 ^ 8) (hN2 : 2 ≤ N % 4294967296) (hpN : p < 2 * N) (kr : h.kd ra = 101) (nr : ¬ cuP M F O ra) (eK : h.ai ra = Kb) (hl : n ≤ Kb.length) (hl2 : Kb.length < 2 ^ 20)
    (kg : h.kd ga = 101) (ng : ¬ cuP M F O ga) (eS : h.ai ga = S) (gl : 6 + (ub S 3) + (ub S (5 + ub S 3)) ≤ S.length) (gl2 : S.length < 2 ^ 20) : Cw G mX24_isRight (d + 1) 0 [vR M, vR ga, vR ra, vI (nI n)] h (kI (fun x h' => ∃ f', MCr h' M F O p N I J f' ∧ Mod (cuP M F O) h h' ∧ (∀ j, j < 4 → f' j = f j) ∧ x = bB (okB p N Bp Kb n (sgV S 4 (ub S 3)) (sgV S (6 + ub S 3) (ub S (5 + ub S 3))) (beV (h.ai (M + 46)) 0 32))) nE) := by
  have hd5 : 5 ≤ d := hd
  have hd2 : 2 ≤ d := Nat.le_trans (by decide) hd
  have pW : p < 4294967296 ^ 8 := Nat.lt_of_le_of_lt (Nat.le_succ p) hp2
  obtain ⟨n41, n42, w1, w2, n12, x46⟩ := ir_a H.2.2.2.2.1
  obtain ⟨l1, l3, p3, p5, p5b⟩ := ir_b gl gl2
  obtain ⟨⟨k0, rF, rO, r17, r18, r19, r20, r21⟩, ⟨r22, r23, r24, r25, r26, r27⟩, ⟨r28, r29, r30, r31, r32, r33, r34, r35⟩, p17, p21, p25, p29⟩ := H.1
  have kO : h.kd O = 27 := H.2.2.1.1.1.1
  have mO : h.r 27000 O = O + 1 := H.2.2.1.1.1.2.1
  have hd5' : 5 ≤ d := hd5
  have NO : ∀ {h1 : AH} {f1 : Nat → Nat}, MCr h1 M F O p N I J f1 → Mod (cuP M F O) h h1 → (∀ j, j < 4 → f1 j = f j) → ¬ okS p N Bp Kb n (sgV S 4 (ub S 3)) (sgV S (6 + ub S 3) (ub S (5 + ub S 3))) (beV (h.ai (M + 46)) 0 32) → (kI (fun x h' => ∃ f', MCr h' M F O p N I J f' ∧ Mod (cuP M F O) h h' ∧ (∀ j, j < 4 → f' j = f j) ∧ x = bB (okB p N Bp Kb n (sgV S 4 (ub S 3)) (sgV S (6 + ub S 3) (ub S (5 + ub S 3))) (beV (h.ai (M + 46)) 0 32))) nE) (.inl (some (vI 0))) h1 := fun a b c z => ir_no a b c z
  have YES : ∀ {h1 : AH} {f1 : Nat → Nat}, MCr h1 M F O p N I J f1 → Mod (cuP M F O) h h1 → (∀ j, j < 4 → f1 j = f j) → okS p N Bp Kb n (sgV S 4 (ub S 3)) (sgV S (6 + ub S 3) (ub S (5 + ub S 3))) (beV (h.ai (M + 46)) 0 32) → (kI (fun x h' => ∃ f', MCr h' M F O p N I J f' ∧ Mod (cuP M F O) h h' ∧ (∀ j, j < 4 → f' j = f j) ∧ x = bB (okB p N Bp Kb n (sgV S 4 (ub S 3)) (sgV S (6 + ub S 3) (ub S (5 + ub S 3))) (beV (h.ai (M + 46)) 0 32))) nE) (.inl (some (vI 1))) h1 := fun a b c z => ir_yes a b c z
  generalize (kI (fun x h' => ∃ f', MCr h' M F O p N I J f' ∧ Mod (cuP M F O) h h' ∧ (∀ j, j < 4 → f' j = f j) ∧ x = bB (okB p N Bp Kb n (sgV S 4 (ub S 3)) (sgV S (6 + ub S 3) (ub S (5 + ub S 3))) (beV (h.ai (M + 46)) 0 32))) nE) = Fin at NO YES ⊢
  refine eX24_isRight h M ga ra (nI n) (fun _ => sX24_isRight_0 h M ga ra (nI n) ⟨kg, ?_⟩)
  have g3 : (h.ai ga).getD ((3 : Int32).toNatClampNeg) 0 &&& 255 = nI (ub S 3) := by
    rw [eS]
    exact and_ub S 3
  rw [g3, eS]
  refine ⟨pk_in 3 _ p3, fun v3 e3 => ?_⟩
  subst e3
  rw [show (5 : Int32) = nI 5 from rfl, show (6 : Int32) = nI 6 from rfl, nI_add, nI_add, pk_cl (5 + (ub S 3)) rfl p5b, and_ub]
  refine ⟨pk_in (5 + (ub S 3)) _ p5, fun v5 e5 => ?_⟩
  subst e5
  refine ⟨k0, (MD_readKey_spec hd5' H f7 hp1 hp2 kr nr eK hl hl2).nI (fun x6 h7 Q => ?_)⟩
  obtain ⟨f1, H7, m7, e03, dj⟩ := Q
  rcases dj with ⟨ex, P, hk, q4, q5, q6⟩ | ⟨ex, hk⟩
  case inr =>
    rw [ex]
    refine ⟨fun _ => NO H7 m7 e03 (fun z => ?_), fun z => absurd rfl z⟩
    obtain ⟨P, z1, _⟩ := z
    rw [hk] at z1
    cases z1
  rw [ex]
  refine ⟨fun z => absurd z (by decide), fun _ r11 e11 => ?_⟩
  rw [show r11 = M + 41 from e11.trans (by rw [m7.r]; exact r30)]
  have sS7 : h7.ai ga = S := (m7.ai ng).trans eS
  refine (MD_part_spec (h := h7) (M := M) (O := O) (t := M + 41) (a := ga) (at_ := 4) (n := (ub S 3)) (m := N) hd2 (by rw [m7.kd]; exact k0) (by rw [m7.r]; exact rO) (by rw [m7.kd]; exact kO) (by rw [m7.r]; exact mO) H7.2.2.1.1.1.2.2.2.2.2.2.2.2.1 H7.2.2.1.1.2.1 (H7.2.2.2.1 41 (by decide) (by decide)) n41 (by rw [m7.kd]; exact kg) (by rw [sS7]; exact l1) (by rw [sS7]; exact l3)).nI (fun x12 h13 Q => ?_)
  obtain ⟨ex12, m13', v13⟩ := Q
  rw [sS7] at ex12 v13
  have R13 := H7.raw m13' w1
  have H13 := R13.1
  have m13 := m7.trans R13.2
  rw [ex12]
  by_cases c1 : beV S 4 (ub S 3) < 4294967296 ^ 8 ∧ beV S 4 (ub S 3) ≠ 0 ∧ beV S 4 (ub S 3) < N
  case neg =>
    rw [if_neg c1]
    exact ⟨fun _ => NO H13 m13 e03 (fun z => c1 (ok_c1 z)), fun z => absurd rfl z⟩
  rw [if_pos c1]
  have eR : (sgV S 4 (ub S 3)) = beV S 4 (ub S 3) := by unfold sgV; rw [if_pos c1.1]
  have b41 : bv h13 (M + 41) = (sgV S 4 (ub S 3)) := by
    rw [eR]
    exact bv_lb (v13 c1.1) c1.1
  have rN : (sgV S 4 (ub S 3)) ≠ 0 ∧ (sgV S 4 (ub S 3)) < N := by rw [eR]; exact c1.2
  clear c1 v13 ex12
  refine ⟨fun z => absurd z (by decide), fun _ r16 e16 => ?_⟩
  rw [show r16 = M + 42 from e16.trans (by rw [m13.r]; exact r31)]
  have sS13 : h13.ai ga = S := (m13.ai ng).trans eS
  refine (MD_part_spec (h := h13) (M := M) (O := O) (t := M + 42) (a := ga) (at_ := 6 + (ub S 3)) (n := (ub S (5 + ub S 3))) (m := N) hd2 (by rw [m13.kd]; exact k0) (by rw [m13.r]; exact rO) (by rw [m13.kd]; exact kO) (by rw [m13.r]; exact mO) H13.2.2.1.1.1.2.2.2.2.2.2.2.2.1 H13.2.2.1.1.2.1 (H13.2.2.2.1 42 (by decide) (by decide)) n42 (by rw [m13.kd]; exact kg) (by rw [sS13]; exact gl) (by rw [sS13]; exact l3)).nI (fun x17 h18 Q => ?_)
  obtain ⟨ex17, m18', v18⟩ := Q
  rw [sS13] at ex17 v18
  have R18 := H13.raw m18' w2
  have H18 := R18.1
  have m18 := m13.trans R18.2
  have b41' : bv h18 (M + 41) = (sgV S 4 (ub S 3)) := (m18'.bv n12).trans b41
  rw [ex17]
  by_cases c2 : beV S (6 + (ub S 3)) (ub S (5 + ub S 3)) < 4294967296 ^ 8 ∧ beV S (6 + (ub S 3)) (ub S (5 + ub S 3)) ≠ 0 ∧ beV S (6 + (ub S 3)) (ub S (5 + ub S 3)) < N
  case neg =>
    rw [if_neg c2]
    exact ⟨fun z => absurd rfl z, fun _ => NO H18 m18 e03 (fun z => c2 (ok_c2 z))⟩
  rw [if_pos c2]
  have eQ : (sgV S (6 + ub S 3) (ub S (5 + ub S 3))) = beV S (6 + (ub S 3)) (ub S (5 + ub S 3)) := by unfold sgV; rw [if_pos c2.1]
  have b42 : bv h18 (M + 42) = (sgV S (6 + ub S 3) (ub S (5 + ub S 3))) := by
    rw [eQ]
    exact bv_lb (v18 c2.1) c2.1
  have sN : (sgV S (6 + ub S 3) (ub S (5 + ub S 3))) ≠ 0 ∧ (sgV S (6 + ub S 3) (ub S (5 + ub S 3))) < N := by rw [eQ]; exact c2.2
  clear c2 v18 ex17 b41
  -- the numbers are named
  have e46 : h18.ai (M + 46) = h.ai (M + 46) := m18.ai x46
  have okR := ok_R (Bp := Bp) (e := (beV (h.ai (M + 46)) 0 32)) hk ⟨rN.1, sN.1, rN.2, sN.2⟩
  refine ⟨fun _ => ?_, fun z => absurd z (by decide)⟩
  refine ir_core (f := f) (P := P) hd5 H18 hB hp3 (fun x hx => Nat.lt_trans hx pW) hN2 hpN e03 q4 q5 q6 b41' b42 (by rw [e46]) (fun a b c z => NO a (m18.trans b) c (fun y => z (okR.mp y))) (fun a b c z => YES a (m18.trans b) c (okR.mpr z))
end MRight2

/-! a point as two numbers, by the reference -/
set_option maxRecDepth 100000
section MFlat
variable {G : Gx} {d : Nat} {h : AH} {M E F p I q o X Y : Nat} {f : Nat → Nat} {N : Nat} {ad : Nat → Nat}
/-- what is written elsewhere leaves the registers -/
theorem MReg.keep {P : Nat → Prop} {h' : AH} (A : MAdOk F N ad) (S : MReg h F p I N ad f) (m : Mod P h h') (hP : ∀ x, P x → (F + 5 ≤ x ∧ x ≤ F + 7) ∨ x = X ∨ x = Y) (hX : ¬ MRP F N ad X) (hX2 : ¬ (F + 1 ≤ X ∧ X ≤ F + 7)) (hY : ¬ MRP F N ad Y) (hY2 : ¬ (F + 1 ≤ Y ∧ Y ≤ F + 7)) : MReg h' F p I N ad f := by
  have hk : ∀ i, 1 ≤ i → i ≤ 4 → ¬ P (F + i) := fun i h1 h2 c => by
    rcases hP _ c with q | q | q <;> omega
  refine ⟨S.1.mod m (hk 1 (by omega) (by omega)) (hk 2 (by omega) (by omega)) (hk 3 (by omega) (by omega)) (hk 4 (by omega) (by omega)), fun j hj => ?_⟩
  obtain ⟨b1, b2, b3⟩ := S.2 j hj
  refine ⟨b1.mod m, ?_, b3⟩
  rw [m.bv (fun c => ?_), b2]
  rcases hP _ c with e | e | e
  · exact A.2 j hj (by omega)
  · exact hX (Or.inr ⟨j, hj, e.symm⟩)
  · exact hY (Or.inr ⟨j, hj, e.symm⟩)
set_option maxHeartbeats 8000000 in
theorem Mflat_spec (hd : 4 ≤ d) (A : MAdOk F 12 (adM E q o)) (H : McS h M E F) (hq : MPtS h q) (S0 : MReg h F p I 12 (adM E q o) f) (hp : 2 ≤ p % 4294967296) (rX : RowAt h X) (rY : RowAt h Y) (nXY : X ≠ Y) (hX : ¬ MRP F 12 (adM E q o) X) (hX2 : ¬ (F + 1 ≤ X ∧ X ≤ F + 7)) (hY : ¬ MRP F 12 (adM E q o) Y) (hY2 : ¬ (F + 1 ≤ Y ∧ Y ≤ F + 7)) :
    Cw G mX24_flat d 0 [vR M, vR q, vR X, vR Y] h (kV (fun h' => Mod (fun x => MRP F 12 (adM E q o) x ∨ x = X ∨ x = Y) h h' ∧ (∃ f', MReg h' F p I 12 (adM E q o) f' ∧ f' 6 = f 6 ∧ f' 7 = f 7 ∧ f' 8 = f 8 ∧ f' 9 = f 9 ∧ f' 10 = f 10 ∧ f' 11 = f 11) ∧ h'.ai X = lb (plF p (f 6, f 7, f 8)).1 ∧ h'.ai Y = lb (plF p (f 6, f 7, f 8)).2) nE) := by
  obtain ⟨d, rfl⟩ : ∃ d', d = d' + 1 := ⟨d - 1, by omega⟩
  have hd2 : 2 ≤ d := by omega
  have hd3 : 3 ≤ d := by omega
  have hp0 : 0 < p := by have := S0.1.1.2.2.2; omega
  have hpl : p < 4294967296 ^ 8 := by rw [← S0.1.1.2.1]; exact bv_lt _ _
  have x1 := A.2 0 (by decide)
  have x8 := A.2 8 (by decide)
  have y1 : ¬ (F + 1 ≤ E ∧ E ≤ F + 7) := x1
  have hX5 : X ≠ F + 1 ∧ X ≠ F + 5 := by omega
  have hY5 : Y ≠ F + 1 ∧ Y ≠ F + 5 := by omega
  have hX5' : X ≠ F + 5 := by omega
  have hY5' : Y ≠ F + 5 := by omega
  have ex : ∀ j, j < 12 → adM E q o j ≠ F + 5 := fun j hj => by have := A.2 j hj; omega
  have hEp : p - 2 < 4294967296 ^ 8 := by omega
  have hE1 : (p - 2) / 4294967296 = p / 4294967296 := by omega
  have hE2 : u32 ((h.ai (F + 1)).getD 0 0 + (-2)) = (p - 2) % 4294967296 := by
    have e0 : u32 ((h.ai (F + 1)).getD 0 0) = p / 4294967296 ^ 0 % 4294967296 := by rw [← S0.1.1.2.1]; exact dg_va (L := h.ai (F + 1)) (n := 8) (by decide)
    rw [Nat.pow_zero, Nat.div_one] at e0
    rw [← nI_u32 ((h.ai (F + 1)).getD 0 0), e0, show (-2 : Int32) = -nI 2 from rfl, nI_an hp, u32_nI]
    omega
  have kM := H.1
  obtain ⟨_, cF, ca, cb, cc, cd, ce, cf, kF⟩ := H
  obtain ⟨kq, q1, q2, q3⟩ := hq
  have subP : ∀ x, mpP F E x → (F + 5 ≤ x ∧ x ≤ F + 7) ∨ x = adM E q o 0 := fun x hx => hx
  refine eX24_flat h M q X Y (fun _ => sX24_flat_0 h M q X Y ⟨kM, fun r2 e2 => ⟨kq, fun r4 e4 r5 e5 => ?_⟩⟩)
  rw [e2.trans cF, e4.trans q3, e5.trans ca]
  have Z8 := S0.2 8 (by decide)
  have Z0 := S0.2 0 (by decide)
  refine ⟨kF, (MRing_power_spec (A := f 8) (E := p - 2) (sh := 0) (more := -2) hd3 S0.1 hEp hE1 hE2 (by decide) Z8.1 Z8.2.1 Z0.1 y1).nV (fun h7 Q => ?_)⟩
  rw [Nat.pow_zero, Nat.div_one] at Q
  obtain ⟨v1, ev1⟩ : ∃ v, v = f 8 ^ (p - 2) % p := ⟨_, rfl⟩
  rw [← ev1] at Q
  have Q' := S0.put (t := 0) (v := v1) A (by decide) Q.1 subP Q.2 (by rw [ev1]; exact Nat.mod_lt _ hp0)
  have S1 := Q'.2
  obtain ⟨g1, rfl, l1, k1⟩ := Q'.1
  have M1 : Mod (fun x => MRP F 12 (adM E q o) x ∨ x = X ∨ x = Y) h (h.si g1) := Mod.mono ⟨g1, rfl, l1, k1⟩ (fun x hx => Or.inl hx)
  clear Q Q' l1 k1
  intro r14 e14
  rw [e14.trans cb]
  obtain ⟨v2, ev2⟩ : ∃ v, v = v1 * v1 % p := ⟨_, rfl⟩
  refine (S1.mul hd2 A 0 0 1 v2 ev2 (by decide) (by decide) (by decide)).nV (fun h16 Q => ?_)
  have S2 := Q.2
  obtain ⟨g2, rfl, l2, k2⟩ := M1.trans (Q.1.mono (fun x hx => Or.inl hx))
  have M2 : Mod (fun x => MRP F 12 (adM E q o) x ∨ x = X ∨ x = Y) h (h.si g2) := ⟨g2, rfl, l2, k2⟩
  clear Q S1 M1 l2 k2
  intro r22 e22
  rw [e22.trans q1]
  have Z6 := S2.2 6 (by decide)
  have Z1 := S2.2 1 (by decide)
  refine (MRing_multiply_spec (a := q + 1) (b := E + 1) (t := X) hd2 S2.1.1 S2.1.2.1 Z6.1 Z1.1 (rX.mod M2) hX5 (ex 6 (by decide)) (ex 1 (by decide)) (by rw [show bv (h.si g2) (E + 1) = _ from Z1.2.1]; exact mM_lt hp0)).nV (fun h26 Q => ?_)
  obtain ⟨m3, e3⟩ := Q
  rw [show bv (h.si g2) (q + 1) = _ from Z6.2.1, show bv (h.si g2) (E + 1) = _ from Z1.2.1, mM_mul S2.1.2.1] at e3
  have e3' : h26.ai X = lb (mM p (f 6 * v2 % p)) := e3
  have S3 := S2.keep (X := X) (Y := Y) A m3 (fun x hx => hx.elim (fun c => Or.inl (by omega)) (fun c => Or.inr (Or.inl c))) hX hX2 hY hY2
  obtain ⟨g3, rfl, l3, k3⟩ := M2.trans (m3.mono (fun x hx => hx.elim (fun c => Or.inl (Or.inl (by omega))) (fun c => Or.inr (Or.inl c))))
  have M3 : Mod (fun x => MRP F 12 (adM E q o) x ∨ x = X ∨ x = Y) h (h.si g3) := ⟨g3, rfl, l3, k3⟩
  clear e3 m3 S2 M2 l3 k3 Z6 Z1
  obtain ⟨v3, ev3⟩ : ∃ v, v = v2 * v1 % p := ⟨_, rfl⟩
  refine (S3.mul hd2 A 1 0 1 v3 ev3 (by decide) (by decide) (by decide)).nV (fun h34 Q => ?_)
  have S4 := Q.2
  have e4' : h34.ai X = lb (mM p (f 6 * v2 % p)) := by rw [Q.1.ai hX]; exact e3'
  obtain ⟨g4, rfl, l4, k4⟩ := M3.trans (Q.1.mono (fun x hx => Or.inl hx))
  have M4 : Mod (fun x => MRP F 12 (adM E q o) x ∨ x = X ∨ x = Y) h (h.si g4) := ⟨g4, rfl, l4, k4⟩
  clear Q S3 M3 l4 k4 e3'
  intro r40 e40
  rw [e40.trans q2]
  have Z7 := S4.2 7 (by decide)
  have Z1 := S4.2 1 (by decide)
  refine (MRing_multiply_spec (a := q + 2) (b := E + 1) (t := Y) hd2 S4.1.1 S4.1.2.1 Z7.1 Z1.1 (rY.mod M4) hY5 (ex 7 (by decide)) (ex 1 (by decide)) (by rw [show bv (h.si g4) (E + 1) = _ from Z1.2.1]; exact mM_lt hp0)).nV (fun h43 Q => ?_)
  obtain ⟨m5, e5y⟩ := Q
  rw [show bv (h.si g4) (q + 2) = _ from Z7.2.1, show bv (h.si g4) (E + 1) = _ from Z1.2.1, mM_mul S4.1.2.1] at e5y
  have e5y' : h43.ai Y = lb (mM p (f 7 * v3 % p)) := e5y
  have e5x : h43.ai X = lb (mM p (f 6 * v2 % p)) := by rw [m5.ai (fun c => c.elim hX5' nXY)]; exact e4'
  have S5 := S4.keep (X := X) (Y := Y) A m5 (fun x hx => hx.elim (fun c => Or.inl (by omega)) (fun c => Or.inr (Or.inr c))) hX hX2 hY hY2
  obtain ⟨g5, rfl, l5, k5⟩ := M4.trans (m5.mono (fun x hx => hx.elim (fun c => Or.inl (Or.inl (by omega))) (fun c => Or.inr (Or.inr c))))
  have M5 : Mod (fun x => MRP F 12 (adM E q o) x ∨ x = X ∨ x = Y) h (h.si g5) := ⟨g5, rfl, l5, k5⟩
  clear e5y m5 S4 M4 l5 k5 Z7 Z1 e4'
  have hml : ∀ x, mM p x < 4294967296 ^ 8 := fun x => Nat.lt_trans (mM_lt hp0) hpl
  refine (MRing_leave_spec (x := f 6 * v2 % p) hd3 S5.1 (rX.mod M5) (rX.mod M5) hX5 hX5' (bv_lb e5x (hml _))).nV (fun h48 Q => ?_)
  obtain ⟨m6, e6⟩ := Q
  have e6y : h48.ai Y = lb (mM p (f 7 * v3 % p)) := by rw [m6.ai (fun c => c.elim hY5' (fun c => nXY c.symm))]; exact e5y'
  have S6 := S5.keep (X := X) (Y := Y) A m6 (fun x hx => hx.elim (fun c => Or.inl (by omega)) (fun c => Or.inr (Or.inl c))) hX hX2 hY hY2
  have M6 := M5.trans (m6.mono (Q := (fun x => MRP F 12 (adM E q o) x ∨ x = X ∨ x = Y)) (fun x hx => hx.elim (fun c => Or.inl (Or.inl (by omega))) (fun c => Or.inr (Or.inl c))))
  refine (MRing_leave_spec (x := f 7 * v3 % p) hd3 S6.1 (rY.mod M6) (rY.mod M6) hY5 hY5' (bv_lb e6y (hml _))).nV (fun h53 Q => ?_)
  obtain ⟨m7, e7⟩ := Q
  have e7x : h53.ai X = lb (f 6 * v2 % p % p) := by rw [m7.ai (fun c => c.elim hX5' nXY)]; exact e6
  have S7 := S6.keep (X := X) (Y := Y) A m7 (fun x hx => hx.elim (fun c => Or.inl (by omega)) (fun c => Or.inr (Or.inr c))) hX hX2 hY hY2
  refine ⟨M6.trans (m7.mono (fun x hx => hx.elim (fun c => Or.inl (Or.inl (by omega))) (fun c => Or.inr (Or.inr c)))), ⟨_, S7, rfl, rfl, rfl, rfl, rfl, rfl⟩, ?_, ?_⟩
  · rw [e7x, Nat.mod_mod]
    simp only [plF, ev2, ev1]
  · rw [e7, Nat.mod_mod]
    simp only [plF, ev3, ev2, ev1]
end MFlat

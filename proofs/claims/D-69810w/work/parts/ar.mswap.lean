/-! the reference: a row goes from one stack to the other -/
set_option maxRecDepth 100000
section MSwap
variable {G : Gx} {d : Nat} {hB h g h' : AH} {M Z : Nat} {st alt : List (List Int32)} {fl : Bool}
/-- two places change their rows -/
def sw (s c j : Nat) : Nat := if j = s then 1002 + c else if j = 1002 + c then s else j
theorem sw_lt {s c j : Nat} (hs : s < 1002) (hc : c < 1002) (hj : j < 3006) : sw s c j < 3006 := by
  unfold sw
  split
  · omega
  · split <;> omega
theorem sw_2 {s c j : Nat} (hs : s < 1002) (hc : c < 1002) (hj : j < 2004) : sw s c j < 2004 := by
  unfold sw
  split
  · omega
  · split <;> omega
theorem sw_inj {s c a b : Nat} (hs : s < 1002) (e : sw s c a = sw s c b) : a = b := by
  unfold sw at e
  split at e <;> split at e <;> (try split at e) <;> (try split at e) <;> omega
theorem rwA_0 {j : Nat} (hj : j < 1002) : rwA h Z j = (h.ar Z).getD j 0 := by
  have := rwA_w (h := h) (Z := Z) (w := 0) (k := j) hj
  rw [Nat.mul_zero, Nat.zero_add, Nat.add_zero] at this
  exact this
theorem rwA_1 {j : Nat} (hj : j < 1002) : rwA h Z (1002 + j) = (h.ar (Z + 2)).getD j 0 := rwA_w (h := h) (Z := Z) (w := 1) (k := j) hj
theorem swap_end {s c : Nat} (H : MWk h M Z) (hs : s < 1002) (hc : c < 1002) (n1 : rwA h Z s ≠ 0) (n2 : rwA h Z (1002 + c) ≠ 0) (a0 : g.ar Z = (h.ar Z).set s (rwA h Z (1002 + c))) (a2 : g.ar (Z + 2) = (h.ar (Z + 2)).set c (rwA h Z s)) (Sm : Same (fun y => y = M ∨ y = Z ∨ y = Z + 1 ∨ y = Z + 2 ∨ y = Z + 3) h g) (gr : g.r = h.r) (gz : g.z = h.z) (gs : g.s = h.s) :
    MWk g M Z ∧ SkF h g M Z ∧ nnR h g Z ∧ ∀ j, j < 3006 → rwA g Z j = rwA h Z (sw s c j) := by
  obtain ⟨Hs, T, E⟩ := H
  have hz := Hs.2.2.2.2.2
  have l0 : (h.ar Z).length = 1002 := Hs.2.2.2.1.1
  have l2 : (h.ar (Z + 2)).length = 1002 := Hs.2.2.2.1.2.2.1
  have a4 : g.ar (Z + 4) = h.ar (Z + 4) := Sm.ar (by omega) (by omega)
  have el : ∀ j, j < 3006 → rwA g Z j = rwA h Z (sw s c j) := fun j hj => by
    unfold sw
    by_cases q1 : j < 1002
    · rw [rwA_0 q1, a0]
      by_cases q2 : j = s
      · rw [if_pos q2, q2, getD_set_eq (by omega)]
      · rw [if_neg q2, if_neg (by omega), getD_set_ne q2, rwA_0 q1]
    · rw [if_neg (show ¬ j = s by omega)]
      by_cases q3 : j < 2004
      · obtain ⟨i, rfl⟩ : ∃ i, j = 1002 + i := ⟨j - 1002, by omega⟩
        rw [rwA_1 (by omega), a2]
        by_cases q2 : i = c
        · rw [if_pos (by omega), q2, getD_set_eq (by omega)]
        · rw [if_neg (by omega), getD_set_ne q2, rwA_1 (by omega)]
      · rw [if_neg (by omega)]
        unfold rwA
        rw [show j / 1002 = 2 by omega, a4]
  have hnul : nulM g Z = nulM h Z := by
    have c0 := cz_set (l := h.ar Z) (i := s) (x := rwA h Z (1002 + c)) (by omega) n2
    have c2 := cz_set (l := h.ar (Z + 2)) (i := c) (x := rwA h Z s) (by omega) n1
    rw [rwA_0 hs] at n1
    rw [rwA_1 hc] at n2
    rw [if_neg n1, ← a0] at c0
    rw [if_neg n2, ← a2] at c2
    unfold nulM
    rw [a4]
    omega
  have inb : ∀ y, inT g Z y → inT h Z y := fun y q => by
    obtain ⟨j, hj, h1, h2⟩ := q
    rw [el j (by omega)] at h1 h2
    exact ⟨_, sw_2 hs hc hj, h1, h2⟩
  refine ⟨⟨Hs.same Sm (fun k _ => by rw [gr]) (Sm.ai (by omega) (by omega)), fun j hj hj0 => ?_, E.same Sm gz⟩, ⟨Sm.mono (fun y _ q => ?_), fun y _ q => inb y q, by rw [gz, hnul], by rw [gs, hnul]⟩, fun j hj hj0 => ?_, el⟩
  · rw [el j hj] at hj0 ⊢
    obtain ⟨⟨t1, t2, t3, t4, t5⟩, t6⟩ := T _ (sw_lt hs hc hj) hj0
    refine ⟨⟨t1, by rw [gz]; exact t2, by rw [Sm.kd t2]; exact t3, by rw [Sm.ai t2 (by omega)]; exact t4, by rw [Sm.kd (by omega)]; exact t5⟩, fun i' hi' e => ?_⟩
    rw [el i' hi'] at e
    exact sw_inj hs (t6 _ (sw_lt hs hc hi') e)
  · rcases q with q | q | q | q | q
    · exact Or.inl q
    all_goals exact Or.inr (Or.inl (by omega))
  · rw [el j (by omega)]
    unfold sw
    split
    · exact n2
    · split
      · exact n1
      · exact hj0
theorem QI.rowd (I : QI hB h M Z fl st alt) {w k x : Nat} (hw : w < 2) (hk : k < 1002) (R : (x ≠ 0 ∧ x = rwA h' Z (1002 * w + k)) ∧ MWk h' M Z ∧ Same (fun y => y = Z + 2 * w) h h' ∧ (∀ j, j < 3006 → rwA h Z j ≠ 0 → rwA h' Z j = rwA h Z j) ∧ (∀ j, j < 3006 → j ≠ 1002 * w + k → rwA h' Z j = rwA h Z j) ∧ (x < h.z → x = rwA h Z (1002 * w + k)) ∧ h'.z + nulM h' Z = h.z + nulM h Z ∧ h'.s + 520 * nulM h' Z = h.s + 520 * nulM h Z) : QI hB h' M Z fl st alt := by
  obtain ⟨⟨x0, xe⟩, H', S, en, eo, xo, z', s'⟩ := R
  obtain ⟨⟨⟨Hs, T, E⟩, ⟨i1, i2, i3, i4⟩, S1, S2⟩, Fl, Fr, Kp_, Nn⟩ := I
  have hz := Hs.2.2.2.2.2
  have eM : eqAt h h' M := S.2.2 M (by omega) (by omega)
  have row : ∀ j, j < 3006 → rwA h Z j ≠ 0 → h'.ai (rwA h Z j) = h.ai (rwA h Z j) := fun j hj h0 => by
    have t := (T j hj h0).1
    exact S.ai t.2.1 (by omega)
  have Fr2 : SkF h h' M Z := ⟨S.mono (fun y _ q => Or.inr (Or.inl (by omega))), fun y hy q => by
    obtain ⟨j, hj, h1, h2⟩ := q
    by_cases c : j = 1002 * w + k
    · rw [c, ← xe] at h1 h2
      have e := xo (by omega)
      exact ⟨_, show 1002 * w + k < 2004 by omega, by rw [← e]; exact x0, by rw [← e]; exact h2⟩
    · rw [eo j (by omega) c] at h1 h2
      exact ⟨j, hj, h1, h2⟩, z', s'⟩
  refine ⟨⟨H', ⟨(eM.2.2.1 _).trans i1, (eM.2.2.1 _).trans i2, i3, i4⟩, S1.keep (by omega) (fun j hj => ⟨en _ (by omega) (S1 j hj).1, row _ (by omega) (S1 j hj).1, by rw [S.ai (by omega) (by omega)]⟩), S2.keep (by omega) (fun j hj => ⟨en _ (by omega) (S2 j hj).1, row _ (by omega) (S2 j hj).1, by rw [S.ai (by omega) (by omega)]⟩)⟩, (eM.2.2.1 _).trans Fl, Fr.trans Fr2, Kp_.trans (ks' := []) (Kp.eq eM) (fun _ q => absurd q (by simp)), Nn.trans (fun j hj h0 => by rw [en j (by omega) h0]; exact h0)⟩
end MSwap

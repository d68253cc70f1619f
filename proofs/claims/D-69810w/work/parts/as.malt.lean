/-! the reference: to the other stack and back -/
set_option maxRecDepth 100000
section MAlt
variable {G : Gx} {d : Nat} {hB h g h' : AH} {M Z : Nat} {st alt : List (List Int32)} {fl : Bool}
theorem toalt_end (I : QI hB h M Z fl st alt) (h1 : 1 ≤ st.length) (ha : alt.length ≤ 1000) (x0 : rwA h Z (1002 + alt.length) ≠ 0)
    (eg : g = ((((h.wr (Z + 2) ((h.ar (Z + 2)).set alt.length (rwA h Z (st.length - 1)))).wi (Z + 3) ((h.ai (Z + 3)).set alt.length (nI (tp st 0).length))).wr Z ((h.ar Z).set (st.length - 1) (rwA h Z (1002 + alt.length)))).pi 24070 M (nI (alt.length + 1))).pi 24067 M (nI (st.length - 1))) : QI hB g M Z fl (dr st 1) (alt ++ [tp st 0]) := by
  obtain ⟨H, Fl, Fr, Kp_, Nn⟩ := I
  have K0 := H.elt (k := 0) (by omega)
  rw [Nat.sub_zero] at K0
  have H' := H
  obtain ⟨⟨Hs, T, E⟩, ⟨i1, i2, i3, i4⟩, S1, S2⟩ := H
  have hz := Hs.2.2.2.2.2
  have a0 : g.ar Z = (h.ar Z).set (st.length - 1) (rwA h Z (1002 + alt.length)) := by
    rw [eg]; exact if_pos rfl
  have a2 : g.ar (Z + 2) = (h.ar (Z + 2)).set alt.length (rwA h Z (st.length - 1)) := by
    rw [eg]
    refine Eq.trans (if_neg (by omega)) ?_
    exact if_pos rfl
  have ai3 : g.ai (Z + 3) = (h.ai (Z + 3)).set alt.length (nI (tp st 0).length) := by rw [eg]; exact AH.ai_wiS ..
  have aiN : ∀ y, y ≠ Z + 3 → g.ai y = h.ai y := fun y hy => by rw [eg]; exact AH.ai_wiN hy
  have Sm : Same (fun y => y = M ∨ y = Z ∨ y = Z + 1 ∨ y = Z + 2 ∨ y = Z + 3) h g := by
    rw [eg]
    refine ((((Same.rf.wr _ (List.length_set ..) (Or.inl (by omega))).wi _ (List.length_set ..) (Or.inl (by omega))).wr _ ?_ (Or.inl (by omega))).pi _ _ (Or.inl (Or.inl rfl))).pi _ _ (Or.inl (Or.inl rfl))
    rw [List.length_set]
    show (h.ar Z).length = ((h.wr (Z + 2) _).ar Z).length
    rw [AH.ar_wr, if_neg (by omega)]
  have gr : g.r = h.r := by rw [eg]; rfl
  have gz : g.z = h.z := by rw [eg]; rfl
  have gs : g.s = h.s := by rw [eg]; rfl
  have g67 : g.i 24067 M = nI (st.length - 1) := by rw [eg, AH.i_pi, if_pos ⟨rfl, rfl⟩]
  have g70 : g.i 24070 M = nI (alt.length + 1) := by rw [eg, AH.i_pi, if_neg (fun q => absurd q.1 (by decide)), AH.i_pi, if_pos ⟨rfl, rfl⟩]
  have g74 : g.i 24074 M = bB fl := by rw [eg, AH.i_pi, if_neg (fun q => absurd q.1 (by decide)), AH.i_pi, if_neg (fun q => absurd q.1 (by decide))]; exact Fl
  have gK : Kp [24067, 24070, 24074] M hB g := by
    rw [eg]
    exact (Kp.pi (h1 := ((h.wr (Z + 2) _).wi (Z + 3) _).wr Z _) Kp_ _ _ (Or.inl (by decide))).pi _ _ (Or.inl (by decide))
  clear eg
  obtain ⟨W, Fr2, Nn2, el⟩ := swap_end (s := st.length - 1) (c := alt.length) H'.1 (by omega) (by omega) K0.1 x0 a0 a2 Sm gr gz gs
  have row : ∀ j, j < 3006 → rwA h Z j ≠ 0 → g.ai (rwA h Z j) = h.ai (rwA h Z j) := fun j hj h0 => by
    have t := (T j hj h0).1
    exact aiN _ (by omega)
  have ld := dr_len st 1
  refine ⟨⟨W, ⟨by rw [g67, ld], by rw [g70, List.length_append]; rfl, by omega, by rw [List.length_append, List.length_singleton]; omega⟩, fun j hj => ?_, fun j hj => ?_⟩, g74, Fr.trans Fr2, gK, Nn.trans Nn2⟩
  · rw [ld] at hj
    obtain ⟨s1, s2, s3, s4⟩ := S1 j (by omega)
    have e : rwA g Z (0 + j) = rwA h Z (0 + j) := by
      rw [el _ (by omega)]
      unfold sw
      rw [if_neg (by omega), if_neg (by omega)]
    rw [e, aiN (Z + 1) (by omega), row _ (by omega) s1, show (dr st 1).getD j [] = st.getD j [] from getD_take _ _ hj]
    exact ⟨s1, s2, s3, s4⟩
  · rw [List.length_append, List.length_singleton] at hj
    rw [getD_snoc, ai3]
    by_cases c : j = alt.length
    · have e : rwA g Z (1002 + j) = rwA h Z (st.length - 1) := by
        rw [el _ (by omega)]
        unfold sw
        rw [if_neg (by omega), if_pos (by omega)]
      rw [e, if_pos c, c, getD_set_eq (by rw [Hs.2.2.2.1.2.2.2.1]; omega), row _ (by omega) K0.1]
      exact ⟨K0.1, rfl, K0.2.2.1, K0.2.2.2.1⟩
    · obtain ⟨s1, s2, s3, s4⟩ := S2 j (by omega)
      have e : rwA g Z (1002 + j) = rwA h Z (1002 + j) := by
        rw [el _ (by omega)]
        unfold sw
        rw [if_neg (by omega), if_neg (by omega)]
      rw [e, if_neg c, getD_set_ne c, row _ (by omega) s1]
      exact ⟨s1, s2, s3, s4⟩
theorem fromalt_end (I : QI hB h M Z fl st alt) (h1 : 1 ≤ alt.length) (ha : st.length ≤ 1000) (x0 : rwA h Z st.length ≠ 0)
    (eg : g = ((((h.pi 24070 M (nI (alt.length - 1))).wr Z ((h.ar Z).set st.length (rwA h Z (1002 + (alt.length - 1))))).wi (Z + 1) ((h.ai (Z + 1)).set st.length (nI (tp alt 0).length))).wr (Z + 2) ((h.ar (Z + 2)).set (alt.length - 1) (rwA h Z st.length))).pi 24067 M (nI (st.length + 1))) : QI hB g M Z fl (st ++ [tp alt 0]) (dr alt 1) := by
  obtain ⟨H, Fl, Fr, Kp_, Nn⟩ := I
  have H' := H
  obtain ⟨⟨Hs, T, E⟩, ⟨i1, i2, i3, i4⟩, S1, S2⟩ := H
  have hz := Hs.2.2.2.2.2
  have K0 := S2 (alt.length - 1) (by omega)
  have et : alt.getD (alt.length - 1) [] = tp alt 0 := by unfold tp; rw [Nat.sub_zero]
  rw [et] at K0
  have a0 : g.ar Z = (h.ar Z).set st.length (rwA h Z (1002 + (alt.length - 1))) := by
    rw [eg]
    refine Eq.trans (if_neg (by omega)) ?_
    exact if_pos rfl
  have a2 : g.ar (Z + 2) = (h.ar (Z + 2)).set (alt.length - 1) (rwA h Z st.length) := by
    rw [eg]
    exact if_pos rfl
  have ai1 : g.ai (Z + 1) = (h.ai (Z + 1)).set st.length (nI (tp alt 0).length) := by rw [eg]; exact AH.ai_wiS ..
  have aiN : ∀ y, y ≠ Z + 1 → g.ai y = h.ai y := fun y hy => by rw [eg]; exact AH.ai_wiN hy
  have Sm : Same (fun y => y = M ∨ y = Z ∨ y = Z + 1 ∨ y = Z + 2 ∨ y = Z + 3) h g := by
    rw [eg]
    refine ((((Same.rf.pi _ _ (Or.inl (Or.inl rfl))).wr _ (List.length_set ..) (Or.inl (by omega))).wi _ (List.length_set ..) (Or.inl (by omega))).wr _ ?_ (Or.inl (by omega))).pi _ _ (Or.inl (Or.inl rfl))
    rw [List.length_set]
    show (h.ar (Z + 2)).length = ((h.wr Z _).ar (Z + 2)).length
    rw [AH.ar_wr, if_neg (by omega)]
  have gr : g.r = h.r := by rw [eg]; rfl
  have gz : g.z = h.z := by rw [eg]; rfl
  have gs : g.s = h.s := by rw [eg]; rfl
  have g67 : g.i 24067 M = nI (st.length + 1) := by rw [eg, AH.i_pi, if_pos ⟨rfl, rfl⟩]
  have g70 : g.i 24070 M = nI (alt.length - 1) := by
    rw [eg, AH.i_pi, if_neg (fun q => absurd q.1 (by decide))]
    show (h.pi 24070 M (nI (alt.length - 1))).i 24070 M = _
    rw [AH.i_pi, if_pos ⟨rfl, rfl⟩]
  have g74 : g.i 24074 M = bB fl := by
    rw [eg, AH.i_pi, if_neg (fun q => absurd q.1 (by decide))]
    show (h.pi 24070 M (nI (alt.length - 1))).i 24074 M = _
    rw [AH.i_pi, if_neg (fun q => absurd q.1 (by decide))]
    exact Fl
  have gK : Kp [24067, 24070, 24074] M hB g := by
    rw [eg]
    exact Kp.pi (h1 := (((h.pi 24070 M _).wr Z _).wi (Z + 1) _).wr (Z + 2) _) (Kp_.pi _ _ (Or.inl (by decide))) _ _ (Or.inl (by decide))
  clear eg
  obtain ⟨W, Fr2, Nn2, el⟩ := swap_end (s := st.length) (c := alt.length - 1) H'.1 (by omega) (by omega) x0 K0.1 a0 a2 Sm gr gz gs
  have row : ∀ j, j < 3006 → rwA h Z j ≠ 0 → g.ai (rwA h Z j) = h.ai (rwA h Z j) := fun j hj h0 => by
    have t := (T j hj h0).1
    exact aiN _ (by omega)
  have ld := dr_len alt 1
  refine ⟨⟨W, ⟨by rw [g67, List.length_append]; rfl, by rw [g70, ld], by rw [List.length_append, List.length_singleton]; omega, by omega⟩, fun j hj => ?_, fun j hj => ?_⟩, g74, Fr.trans Fr2, gK, Nn.trans Nn2⟩
  · rw [List.length_append, List.length_singleton] at hj
    rw [getD_snoc, ai1]
    by_cases c : j = st.length
    · have e : rwA g Z (0 + j) = rwA h Z (1002 + (alt.length - 1)) := by
        rw [el _ (by omega)]
        unfold sw
        rw [if_pos (by omega)]
      rw [e, if_pos c, c, getD_set_eq (by rw [Hs.2.2.2.1.2.1]; omega), row _ (by omega) K0.1]
      exact ⟨K0.1, rfl, K0.2.2.1, K0.2.2.2⟩
    · obtain ⟨s1, s2, s3, s4⟩ := S1 j (by omega)
      have e : rwA g Z (0 + j) = rwA h Z (0 + j) := by
        rw [el _ (by omega)]
        unfold sw
        rw [if_neg (by omega), if_neg (by omega)]
      rw [e, if_neg c, getD_set_ne c, row _ (by omega) s1]
      exact ⟨s1, s2, s3, s4⟩
  · rw [ld] at hj
    obtain ⟨s1, s2, s3, s4⟩ := S2 j (by omega)
    have e : rwA g Z (1002 + j) = rwA h Z (1002 + j) := by
      rw [el _ (by omega)]
      unfold sw
      rw [if_neg (by omega), if_neg (by omega)]
    rw [e, aiN (Z + 3) (by omega), row _ (by omega) s1, show (dr alt 1).getD j [] = alt.getD j [] from getD_take _ _ hj]
    exact ⟨s1, s2, s3, s4⟩
end MAlt

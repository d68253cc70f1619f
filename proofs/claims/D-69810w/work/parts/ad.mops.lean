/-! the reference's stack machine: truth, need, copy, lift -/
set_option maxRecDepth 100000
section MOps
variable {G : Gx} {d : Nat} {hB h h' h0 : AH} {M Z : Nat} {st alt : List (List Int32)} {fl : Bool}
/-- an element of the stack -/
theorem MOm.elt {k : Nat} (H : MOm h M Z st alt) (hk : k < st.length) : rwA h Z (st.length - 1 - k) ≠ 0 ∧ (h.ai (Z + 1)).getD (st.length - 1 - k) 0 = nI (tp st k).length ∧ (tp st k).length ≤ 520 ∧ eqN (tp st k).length (h.ai (rwA h Z (st.length - 1 - k))) (tp st k) ∧ (h.ar Z).getD (st.length - 1 - k) 0 = rwA h Z (st.length - 1 - k) ∧ h.kd (rwA h Z (st.length - 1 - k)) = 101 ∧ (h.ai (rwA h Z (st.length - 1 - k))).length = 520 ∧ rwA h Z (st.length - 1 - k) < h.z ∧ Z + 12 < rwA h Z (st.length - 1 - k) := by
  have s := H.2.2.1 (st.length - 1 - k) (by omega)
  rw [Nat.zero_add] at s
  have l3 := H.2.1.2.2.1
  have t := (H.1.2.1 (st.length - 1 - k) (by omega) s.1).1
  have w := rwA_w (h := h) (Z := Z) (w := 0) (k := st.length - 1 - k) (by omega)
  rw [Nat.mul_zero, Nat.zero_add, Nat.add_zero] at w
  exact ⟨s.1, s.2.1, s.2.2.1, s.2.2.2, w.symm, t.2.2.1, t.2.2.2.1, t.2.1, t.1⟩
theorem MOm.ix {k : Nat} (H : MOm h M Z st alt) (hk : k < st.length) : h.i 24067 M - 1 - nI k = nI (st.length - 1 - k) := by
  rw [H.2.1.1, show (1 : Int32) = nI 1 from rfl, pk_sub (by omega), pk_sub (by omega)]
theorem MD_isTrue_spec {k : Nat} (hd : 1 ≤ d) (H : MOm h M Z st alt) (hk : k < st.length) : Cw G mX24_isTrue d 0 [vR M, vI (nI k)] h (kI (fun x h' => x = bB (isT (tp st k)) ∧ h' = h) nE) := by
  obtain ⟨d, rfl⟩ : ∃ d', d = d' + 1 := ⟨d - 1, by omega⟩
  obtain ⟨r0, r1, r2, r3, r4, r5, r6, r7, r8⟩ := H.elt hk
  have l3 := H.2.1.2.2.1
  have Hs := H.1.1
  refine eX24_isTrue h M (nI k) (fun _ => sX24_isTrue_0 h M (nI k) ⟨Hs.1, ?_⟩)
  rw [H.ix hk]
  generalize tp st k = l at *
  generalize st.length - 1 - k = i at *
  refine loop_uc (n := l.length) (P := fun j (_ : Unit) => Aw G mX24_isTrue (d + 1) 0 h (kI (fun x h' => x = bB (isT l) ∧ h' = h) nE) 11 [vR M, vU, vI (nI i), vI (nI j)] [] h)
    (fun j _ => isT l = isT (l.drop j)) (fun j _ hj hI ih => ?_) 0 () (Nat.zero_le _) rfl
  have i1002 : i < 1002 := by
    rcases Nat.lt_or_ge i 1002 with c | c
    · exact c
    · exfalso
      apply r0
      rw [← r4, List.getD_eq_getElem?_getD, List.getElem?_eq_none (by rw [Hs.2.2.2.1.1]; exact c)]
      rfl
  refine sX24_isTrue_11 h M (nI i) (nI j) ⟨Hs.1, fun r2' e2 => ?_⟩
  have e2' : r2' = Z + 1 := e2.trans Hs.2.1.2.1
  subst e2'
  rw [Hs.2.2.2.1.2.1, pk_cl i rfl (by omega), r1]
  refine ⟨Hs.2.2.1.2.1, pk_in i 1002 i1002, pk_le l.length j (fun c => ⟨?_, rfl⟩) (fun c r6' e6 => ?_)⟩
  · rw [hI, List.drop_of_length_le c]; rfl
  · have e6' : r6' = Z := e6.trans Hs.2.1.1
    subst e6'
    rw [Hs.2.2.2.1.1, r4]
    refine ⟨Hs.2.2.1.1, pk_in i 1002 i1002, fun r9 e9 => ?_⟩
    subst e9
    rw [r6, pk_cl j rfl (by omega), r3 j c, show nI l.length - 1 = nI (l.length - 1) by rw [show (1 : Int32) = nI 1 from rfl, pk_sub (by omega)]]
    rw [drop_cons c] at hI
    refine ⟨r5, pk_in j 520 (by omega), fun c0 => ?_, fun c0 => ⟨pk_in i 1002 i1002, pk_lt j (l.length - 1) (fun c1 => ⟨?_, rfl⟩) (fun c1 => ⟨pk_in i 1002 i1002, fun r16 e16 => ?_⟩)⟩⟩
    · rw [nI_1]
      exact ih c () (by rw [hI]; show (if _ then _ else _) = _; rw [if_pos c0])
    · have hp : 0 < (l.drop (j + 1)).length := by rw [List.length_drop]; omega
      rw [hI, show isT (l.getD j 0 :: l.drop (j + 1)) = true by show (if _ then _ else _) = _; rw [if_neg c0, if_pos hp]]
      rfl
    · subst e16
      have hp : ¬ 0 < (l.drop (j + 1)).length := by rw [List.length_drop]; omega
      rw [r6, r3 j c]
      refine ⟨r5, pk_in j 520 (by omega), fun c2 => ⟨?_, rfl⟩, fun c2 => ⟨?_, rfl⟩⟩
      · rw [hI, show isT (l.getD j 0 :: l.drop (j + 1)) = false by show (if _ then _ else _) = _; rw [if_neg c0, if_neg hp, if_pos c2]]
        rfl
      · rw [hI, show isT (l.getD j 0 :: l.drop (j + 1)) = true by show (if _ then _ else _) = _; rw [if_neg c0, if_neg hp, if_neg c2]]
        rfl
/-- enough elements -/
theorem m_need {n : Nat} {Q : Int32 → AH → Prop} {E : Nat → AH → Prop} (hd : 1 ≤ d) (hn : n < 2000) (I : QI hB h M Z fl st alt) (yes : n ≤ st.length → Q 1 h) (no : st.length < n → ∀ h', QI hB h' M Z true st alt → Q 0 h') : Cw G mX24_need d 0 [vR M, vI (nI n)] h (kI Q E) := by
  obtain ⟨d, rfl⟩ : ∃ d', d = d' + 1 := ⟨d - 1, by omega⟩
  have l3 := I.1.2.1.2.2.1
  refine eX24_need h M (nI n) (fun _ => sX24_need_0 h M (nI n) ⟨I.1.1.1.1, ?_⟩)
  rw [I.1.2.1.1]
  refine pk_le n st.length (fun c => pk_lt st.length n (fun c2 => absurd c2 (by omega)) (fun _ => yes c)) (fun c h4 e4 => pk_lt st.length n (fun c2 => ?_) (fun c2 => absurd c2 (by omega)))
  rw [e4]
  exact no c2 _ I.fail
/-- the element k below is copied; a full stack fails -/
theorem m_copy {k : Nat} {Q : AH → Prop} {E : Nat → AH → Prop} (hd : 3 ≤ d) (I : QI hB h M Z fl st alt) (hk : k < st.length) (yes : st.length ≤ 1000 → ∀ h', QI hB h' M Z fl (st ++ [tp st k]) alt → Q h') (no : 1000 < st.length → ∀ h', QI hB h' M Z true st alt → Q h') : Cw G mX24_copy d 0 [vR M, vI (nI k)] h (kV Q E) := by
  obtain ⟨d, rfl⟩ : ∃ d', d = d' + 1 := ⟨d - 1, by omega⟩
  have H := I.1
  obtain ⟨r0, r1, r2, r3, r4, r5, r6, r7, r8⟩ := H.elt hk
  have l3 := H.2.1.2.2.1
  have Hs := H.1.1
  refine eX24_copy h M (nI k) (fun _ => sX24_copy_0 h M (nI k) ⟨Hs.1, fun r2' e2 => ?_⟩)
  have e2' : r2' = Z := e2.trans Hs.2.1.1
  subst e2'
  rw [H.ix hk, Hs.2.2.2.1.1, pk_cl (st.length - 1 - k) rfl (by omega), r4]
  refine ⟨Hs.2.2.1.1, pk_in (st.length - 1 - k) 1002 (by omega), fun r5' e5 r6' e6 => ?_⟩
  have e6' : r6' = r2' + 1 := e6.trans Hs.2.1.2.1
  subst e6'
  subst e5
  rw [Hs.2.2.2.1.2.1, r1]
  refine ⟨Hs.2.2.1.2.1, pk_in (st.length - 1 - k) 1002 (by omega), ?_⟩
  by_cases c : st.length ≤ 1000
  · refine (MD_push_spec (off := 0) (n := (tp st k).length) (L := h.ai (rwA h r2' (st.length - 1 - k))) (by omega) H r5 rfl (by omega) (by omega) r2 c r7 (fun e => ?_)).nV (fun h10 R => yes c h10 ?_)
    · by_cases z : rwA h r2' st.length = 0
      · exact r0 (e.trans z)
      · exact RwTb.ne H.1.2.1 (by omega) (by omega) z (by omega) e
    · have es : sub_ (h.ai (rwA h r2' (st.length - 1 - k))) 0 (tp st k).length = tp st k := by
        rw [sub_cg r3 (by omega)]
        exact subF _
      rw [es] at R
      exact I.push R
  · refine (MD_push_full (by omega) H (by omega) ?_).nV (fun h10 e => by
      rw [e]
      exact no (by omega) _ I.fail)
    exact fun z => (pk_lt 520 (tp st k).length (fun q => absurd q (by omega)) (fun _ => True.intro)).1 z
end MOps

/-! the reference's stack machine: numbers -/
set_option maxRecDepth 100000
section MNum
variable {G : Gx} {d : Nat} {hB h h' h0 : AH} {M Z : Nat} {st alt : List (List Int32)} {fl : Bool}
theorem shl_or {v b : Nat} (hv : v < 2 ^ 48) (hb : b < 256) : Jshl (lN v) 8 ||| lN b = lN (b + 256 * v) := by
  rw [show (8 : Int32) = nI 8 from rfl, Jshl_n _ (by decide), lN_or, Nat.or_comm, or_add (c := 48) (by rw [Nat.div_eq_of_lt hb]) hv]
  congr 1
  omega
theorem m_num {k m : Nat} {Q : Int64 → AH → Prop} {E : Nat → AH → Prop} (hd : 1 ≤ d) (hm : m ≤ 6) (I : QI hB h M Z fl st alt) (hk : k < st.length) (yes : (tp st k).length ≤ m → Q (lZ (numI (tp st k))) h) (no : m < (tp st k).length → ∀ h', QI hB h' M Z true st alt → Q 0 h') : Cw G mX24_numberAt d 0 [vR M, vI (nI k), vI (nI m)] h (kJ Q E) := by
  obtain ⟨d, rfl⟩ : ∃ d', d = d' + 1 := ⟨d - 1, by omega⟩
  have H := I.1
  obtain ⟨r0, r1, r2, r3, r4, r5, r6, r7, r8⟩ := H.elt hk
  have l3 := H.2.1.2.2.1
  have Hs := H.1.1
  refine eX24_numberAt h M (nI k) (nI m) (fun _ => sX24_numberAt_0 h M (nI k) (nI m) ⟨Hs.1, fun r2' e2 => ?_⟩)
  have e2' : r2' = Z + 1 := e2.trans Hs.2.1.2.1
  subst e2'
  have i2 : st.length - 1 - k < 1002 := by omega
  rw [H.ix hk, Hs.2.2.2.1.2.1, pk_cl (st.length - 1 - k) rfl (by omega), r1]
  generalize htp : tp st k = l at *
  generalize st.length - 1 - k = i at *
  refine ⟨Hs.2.2.1.2.1, pk_in i 1002 i2, fun u5 e5 => ?_⟩
  subst e5
  refine pk_le l.length m (fun c => pk_eq' l.length 0 (fun c0 => ?_) (fun c0 => ?_)) (fun c h8 e8 => by rw [e8]; exact no c _ I.fail)
  · rw [← numP_I] at yes
    have hlt : ∀ j, (if j = l.length - 1 then ub l j % 128 else ub l j) < 256 := fun j => by
      have := ub_lt l j
      split <;> omega
    have ed : nI l.length - 1 = nI (l.length - 1) := by rw [show (1 : Int32) = nI 1 from rfl, pk_sub (by omega)]
    have key := loop_dn (P := fun j (v : Nat) => Aw G mX24_numberAt (d + 1) 0 h (kJ Q E) 46 [vR M, vU, vU, vI (nI i), vI (nI l.length), vJ (lN v), vU, vI (dI j)] [] h)
      (fun j v => j ≤ l.length ∧ v = dv8 (fun a => if j + a = l.length - 1 then ub l (j + a) % 128 else ub l (j + a)) (l.length - j)) (fun j v hI ih => ?_) (fun v hI => ?_) l.length 0 ⟨Nat.le_refl _, by rw [Nat.sub_self]; rfl⟩
    · obtain ⟨n', hn'⟩ : ∃ n', l.length = n' + 1 := ⟨l.length - 1, by omega⟩
      rw [ed]
      have e1 : dI l.length = nI (l.length - 1) := by rw [hn', dI_succ]; rfl
      rw [e1] at key
      exact key
    · obtain ⟨jl, ev⟩ := hI
      rw [dI_succ]
      have hv : v < 2 ^ 48 := by
        have h1 : v < 256 ^ (l.length - (j + 1)) := by rw [ev]; exact dv8_lt (fun a _ => hlt (j + 1 + a))
        have h2 : 256 ^ (l.length - (j + 1)) ≤ 256 ^ 5 := Nat.pow_le_pow_right (by decide) (by omega)
        have h3 : (256 : Nat) ^ 5 < 2 ^ 48 := by decide
        omega
      have nx : ∀ b, b = (if j = l.length - 1 then ub l j % 128 else ub l j) → j ≤ l.length ∧ b + 256 * v = dv8 (fun a => if j + a = l.length - 1 then ub l (j + a) % 128 else ub l (j + a)) (l.length - j) := fun b hb => by
        refine ⟨by omega, ?_⟩
        rw [show l.length - j = (l.length - (j + 1)) + 1 by omega, dv8_low, Nat.add_zero, ← hb, ev]
        congr 2
        refine dv8_congr (fun a _ => ?_)
        rw [show j + (a + 1) = j + 1 + a by omega]
      have hu := ub_lt l j
      have uu := r3.ub (show j < l.length by omega)
      refine sX24_numberAt_46 h M (nI i) (nI l.length) (lN v) (nI j) ⟨fun c1 => absurd c1 (nI_pos (by omega)), fun _ => ?_⟩
      rw [ed]
      refine pk_eq' j (l.length - 1) (fun c1 => ⟨Hs.1, fun r12 e12 => ?_⟩) (fun c1 => ⟨Hs.1, fun r12 e12 => ?_⟩)
      · have e12' : r12 = Z := e12.trans Hs.2.1.1
        subst e12'
        rw [Hs.2.2.2.1.1, pk_cl i rfl (by omega), r4]
        refine ⟨Hs.2.2.1.1, pk_in i 1002 i2, fun r15 e15 => ?_⟩
        subst e15
        rw [r6, pk_cl j rfl (by omega), and_ub, uu, nI_l (by omega), shl_or hv hu]
        refine ⟨r5, pk_in j 520 (by omega), fun u18 e18 => ?_⟩
        rw [e18]
        exact ih _ (nx _ (by rw [if_neg c1]))
      · have e12' : r12 = Z := e12.trans Hs.2.1.1
        subst e12'
        rw [Hs.2.2.2.1.1, pk_cl i rfl (by omega), r4]
        refine ⟨Hs.2.2.1.1, pk_in i 1002 i2, fun r15 e15 => ?_⟩
        subst e15
        rw [r6, pk_cl j rfl (by omega), r3 j (by omega), and_127, nI_l (by have : u32 (l.getD j 0) % 128 < 128 := Nat.mod_lt _ (by decide); omega)]
        have e128 : u32 (l.getD j 0) % 128 = ub l j % 128 := by unfold ub; omega
        rw [e128, shl_or hv (by omega)]
        refine ⟨r5, pk_in j 520 (by omega), fun u18 e18 => ?_⟩
        rw [e18]
        exact ih _ (nx _ (by rw [if_pos c1]))
    · obtain ⟨_, ev⟩ := hI
      have em : v = mg l := by
        rw [ev, Nat.sub_zero]
        unfold mg
        refine dv8_congr (fun a _ => ?_)
        rw [Nat.zero_add]
      rw [dI_0]
      refine sX24_numberAt_46 h M (nI i) (nI l.length) (lN v) (-1) ⟨fun _ => ⟨Hs.1, fun r3' e3 => ?_⟩, fun c1 => absurd (by decide) c1⟩
      have e3' : r3' = Z := e3.trans Hs.2.1.1
      subst e3'
      rw [ed, Hs.2.2.2.1.1, pk_cl i rfl (by omega), r4]
      refine ⟨Hs.2.2.1.1, pk_in i 1002 i2, fun r6' e6 => ?_⟩
      subst e6
      rw [r6, pk_cl (l.length - 1) rfl (by omega), r3 (l.length - 1) (by omega)]
      have y := yes c
      refine ⟨r5, pk_in (l.length - 1) 520 (by omega), fun c4 => ?_, fun c4 => ?_⟩
      · have : numP l = lN v := by
          unfold numP
          rw [if_neg (fun q => absurd c4 (Int32.not_le.mpr q.2)), em]
        rw [this] at y
        exact y
      · have : numP l = -(lN v) := by
          unfold numP
          rw [if_pos ⟨by omega, Int32.not_le.mp c4⟩, em]
        rw [this] at y
        exact y
  · have y := yes c
    have el : l = [] := List.length_eq_zero_iff.mp c0
    rw [el] at y
    exact y
/-- rows of the machine beside the stacks -/
theorem MOm.fix0 {y : Nat} {T : List Int32} (H : MOm h M Z st alt) (hy : y = Z + 6 ∨ y = Z + 7 ∨ y = Z + 9) (hT : T.length = (h.ai y).length) : MOm (h.wi y T) M Z st alt ∧ Same (fun x => x = y) h (h.wi y T) ∧ Kp [] M h (h.wi y T) ∧ nnR h (h.wi y T) Z := by
  obtain ⟨⟨Hs, T0, E⟩, hi, S1, S2⟩ := H
  have S : Same (fun x => x = y) h (h.wi y T) := Same.rf.wi T hT (Or.inl rfl)
  have ne : ∀ j, j < 3006 → rwA h Z j ≠ 0 → rwA h Z j ≠ y := fun j hj h0 => by
    have := (T0 j hj h0).1.1
    omega
  refine ⟨⟨⟨Hs.same S (fun _ _ => rfl) (AH.ai_wiN (by omega)), fun j hj h0 => ?_, E⟩, hi, S1.keep (by have := hi.2.2.1; omega) (fun j hj => ⟨rfl, AH.ai_wiN (ne _ (by have := hi.2.2.1; omega) (S1 j hj).1), by rw [AH.ai_wiN (by omega)]⟩), S2.keep (by have := hi.2.2.2; omega) (fun j hj => ⟨rfl, AH.ai_wiN (ne _ (by have := hi.2.2.2; omega) (S2 j hj).1), by rw [AH.ai_wiN (by omega)]⟩)⟩, S, Kp.rf.wi T, fun _ _ q => q⟩
  have t := T0 j hj h0
  refine ⟨⟨t.1.1, t.1.2.1, t.1.2.2.1, ?_, t.1.2.2.2.2⟩, t.2⟩
  show ((h.wi y T).ai (rwA h Z j)).length = 520
  rw [AH.ai_wiN (ne j hj h0)]
  exact t.1.2.2.2.1
theorem MOm.fix {y : Nat} {T : List Int32} (H : MOm h M Z st alt) (hy : y = Z + 6 ∨ y = Z + 9) (hT : T.length = (h.ai y).length) : MOm (h.wi y T) M Z st alt ∧ SkF h (h.wi y T) M Z ∧ Kp [] M h (h.wi y T) ∧ nnR h (h.wi y T) Z := by
  obtain ⟨a, S, c, e⟩ := H.fix0 (y := y) (by omega) hT
  exact ⟨a, ⟨S.mono (fun x _ q => Or.inr (Or.inl (by omega))), fun _ _ q => q, rfl, rfl⟩, c, e⟩
theorem QI.fix {y : Nat} {T : List Int32} (I : QI hB h M Z fl st alt) (hy : y = Z + 6 ∨ y = Z + 9) (hT : T.length = (h.ai y).length) : QI hB (h.wi y T) M Z fl st alt := by
  obtain ⟨a, b, c, e⟩ := I.1.fix hy hT
  exact ⟨a, I.2.1, I.2.2.1.trans b, I.2.2.2.1.wi T, I.2.2.2.2.trans e⟩
/-- a number is pushed: the row small holds its bytes -/
theorem m_push {l : List Int32} {y : Nat} {Q : AH → Prop} {E : Nat → AH → Prop} (hd : 2 ≤ d) (I : QI hB h M Z fl st alt) (hy : y = Z + 6 ∨ y = Z + 9) (hl : l.length ≤ (h.ai y).length) (h520 : l.length ≤ 520) (ql : eqN l.length (h.ai y) l) (yes : st.length ≤ 1000 → ∀ h', QI hB h' M Z fl (st ++ [l]) alt → Q h') (no : 1000 < st.length → ∀ h', QI hB h' M Z true st alt → Q h') : Cw G mX24_push d 0 [vR M, vR y, vI 0, vI (nI l.length)] h (kV Q E) := by
  have Hs := I.1.1.1
  have hz := Hs.2.2.2.2.2
  have ky : h.kd y = 101 := by
    rcases hy with q | q
    · rw [q]; exact Hs.2.2.1.2.2.2.2.2.2.1
    · rw [q]; exact Hs.2.2.1.2.2.2.2.2.2.2.2.2.1
  have ly : (h.ai y).length ≤ 32 := by
    rcases hy with q | q
    · rw [q, Hs.2.2.2.1.2.2.2.2.2.2.1]; decide
    · rw [q, Hs.2.2.2.1.2.2.2.2.2.2.2.2.1]; decide
  by_cases c : st.length ≤ 1000
  · refine (MD_push_spec (off := 0) (n := l.length) (L := h.ai y) hd I.1 ky rfl (by omega) (by omega) h520 c (by omega) (fun e => ?_)).nV (fun h10 R => yes c h10 ?_)
    · by_cases z : rwA h Z st.length = 0
      · omega
      · have := (I.1.1.2.1 st.length (by omega) z).1.1
        omega
    · rw [sub_cg ql (by omega), subF] at R
      exact I.push R
  · have := I.1.2.1.2.2.1
    refine (MD_push_full (by omega) I.1 (by omega) ?_).nV (fun h10 e => by
      rw [e]
      exact no (by omega) _ I.fail)
    exact fun z => (pk_lt 520 l.length (fun q => absurd q (by omega)) (fun _ => True.intro)).1 z
end MNum

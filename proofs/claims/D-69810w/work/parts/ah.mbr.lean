/-! the reference's stack machine: answers, branches -/
set_option maxRecDepth 100000
section MBr
variable {G : Gx} {d : Nat} {hB h h' h0 : AH} {M Z : Nat} {st alt : List (List Int32)} {fl : Bool} {br : List Bool}
theorem or_b0 (b : Bool) : bB b ||| 0 = bB b := by cases b <;> decide
theorem or_b1 (b : Bool) : bB b ||| 1 = 1 := by cases b <;> decide
theorem bB_01 (b : Bool) : bB b = 0 ∨ bB b = 1 := by cases b <;> decide
/-- the stack loses its upmost elements -/
theorem QI.drop {n : Nat} (I : QI hB h M Z fl st alt) (hn : n ≤ st.length) : QI hB (h.pi 24067 M (nI (st.length - n))) M Z fl (dr st n) alt := by
  obtain ⟨⟨H1, ⟨i1, i2, i3, i4⟩, S1, S2⟩, Fl, Fr, Kp_, Nn⟩ := I
  have ld := dr_len st n
  refine ⟨⟨H1.pi _ _, ⟨by rw [AH.i_pi, if_pos ⟨rfl, rfl⟩, ld], by rw [AH.i_pi, if_neg (fun q => absurd q.1 (by decide))]; exact i2, by omega, i4⟩, fun j hj => ?_, S2⟩, by rw [AH.i_pi, if_neg (fun q => absurd q.1 (by decide))]; exact Fl, Fr.trans (SkF.pi _ _), Kp_.pi _ _ (Or.inl (by decide)), Nn⟩
  rw [ld] at hj
  have eg : (dr st n).getD j [] = st.getD j [] := by
    unfold dr
    rw [List.getD_eq_getElem?_getD, List.getElem?_take, if_pos hj, List.getD_eq_getElem?_getD]
  rw [eg]
  exact S1 j (by omega)
theorem QI.top {n : Nat} (I : QI hB h M Z fl st alt) (hn : n ≤ st.length) : h.i 24067 M - nI n = nI (st.length - n) := by
  rw [I.1.2.1.1, pk_sub hn]
theorem QI.orf {b : Bool} (I : QI hB h M Z fl st alt) {v : Int32} (hv : v = bB (fl || b)) : QI hB (h.pi 24074 M v) M Z (fl || b) st alt := ⟨I.1.fl v, by rw [AH.i_pi, if_pos ⟨rfl, rfl⟩, hv], I.2.2.1.trans (SkF.pi _ _), I.2.2.2.1.pi _ _ (Or.inl (by decide)), I.2.2.2.2⟩
theorem m_answer {b vf : Bool} {Q : AH → Prop} {E : Nat → AH → Prop} (hd : 5 ≤ d) (I : QI hB h M Z fl st alt) (hs : st.length ≤ 1000)
    (yes : vf = false → ∀ h', QI hB h' M Z fl (st ++ [tv b]) alt → Q h') (ask : vf = true → ∀ h', QI hB h' M Z (fl || !b) st alt → Q h') : Cw G mX24_answer d 0 [vR M, vI (bB b), vI (bB vf)] h (kV Q E) := by
  obtain ⟨d, rfl⟩ : ∃ d', d = d' + 1 := ⟨d - 1, by omega⟩
  refine eX24_answer h M (bB b) (bB vf) (fun _ => sX24_answer_0 h M (bB b) (bB vf) ⟨fun c => ⟨I.1.1.1.1, m_pt (by omega) I (fun _ h' J => yes ((bB_0 vf).mp c) h' J) (fun c2 => absurd c2 (by omega))⟩, fun c => ⟨I.1.1.1.1, ?_⟩⟩)
  have vt : vf = true := by
    cases vf with
    | true => rfl
    | false => exact absurd rfl c
  rw [I.2.1]
  refine ⟨fun c1 => ⟨by rw [or_b0]; exact bB_01 _, fun h8 e8 => ?_⟩, fun c1 => ⟨Or.inr (or_b1 _), fun h8 e8 => ?_⟩⟩
  · have bt : b = true := by
      cases b with
      | true => rfl
      | false => exact absurd rfl c1
    rw [e8]
    exact ask vt _ (I.orf (by rw [or_b0, bt]; cases fl <;> rfl))
  · rw [e8]
    exact ask vt _ (I.orf (by rw [or_b1, (bB_0 b).mp c1]; cases fl <;> rfl))
/-- the branches -/
def BrM (h : AH) (M Z : Nat) (br : List Bool) : Prop := h.i 24084 M = nI br.length ∧ ∀ j, j < br.length → (h.ai (Z + 7)).getD j 0 = bB (br.getD j false)
/-- the frame of a branch: the row of the branches too -/
def SkB (h h' : AH) (M Z : Nat) : Prop := Same (fun y => skP h M Z y ∨ y = Z + 7) h h' ∧ (∀ y, y < h.z → inT h' Z y → inT h Z y) ∧ h'.z + nulM h' Z = h.z + nulM h Z ∧ h'.s + 520 * nulM h' Z = h.s + 520 * nulM h Z
theorem SkF.b (x : SkF h h' M Z) : SkB h h' M Z := ⟨x.1.mono (fun _ _ q => Or.inl q), x.2⟩
/-- what a branch leaves: the stack, the branches -/
def BrQ (hB h : AH) (M Z : Nat) (fl : Bool) (st alt : List (List Int32)) (br : List Bool) : Prop := MOm h M Z st alt ∧ h.i 24074 M = bB fl ∧ SkB hB h M Z ∧ Kp [24067, 24070, 24074, 24084] M hB h ∧ nnR hB h Z ∧ BrM h M Z br
theorem BrM.qi (B : BrM hB M Z br) (H : MkS hB M Z) (T : RwTb hB Z) (I : QI hB h M Z fl st alt) (h7 : h.ai (Z + 7) = hB.ai (Z + 7)) : BrM h M Z br := ⟨by rw [(I.2.2.2.1 24084 (by decide)).2.1]; exact B.1, by rw [h7]; exact B.2⟩
theorem QI.br7 {T : List Int32} {v : Int32} (I : QI hB h M Z fl st alt) (hT : T.length = (h.ai (Z + 7)).length) (hB' : BrM ((h.wi (Z + 7) T).pi 24084 M v) M Z br) : BrQ hB ((h.wi (Z + 7) T).pi 24084 M v) M Z fl st alt br := by
  obtain ⟨⟨H1, ⟨i1, i2, i3, i4⟩, S1, S2⟩, S7, _, _⟩ := I.1.fix0 (y := Z + 7) (T := T) (Or.inr (Or.inl rfl)) hT
  obtain ⟨_, Fl, Fr, Kp_, Nn⟩ := I
  have ie : ∀ k, k ≠ 24084 → ((h.wi (Z + 7) T).pi 24084 M v).i k M = (h.wi (Z + 7) T).i k M := fun k hk => by rw [AH.i_pi, if_neg (fun q => hk q.1)]
  refine ⟨⟨H1.pi _ _, ⟨by rw [ie _ (by decide)]; exact i1, by rw [ie _ (by decide)]; exact i2, i3, i4⟩, S1, S2⟩, by rw [ie _ (by decide)]; exact Fl, ⟨((Fr.1.mono (fun _ _ q => Or.inl q)).trans S7 (fun y _ q => Or.inr q)).pi _ _ (Or.inl (Or.inl (Or.inl rfl))), Fr.2⟩, fun k hk => ?_, Nn, hB'⟩
  have k1 : k ∉ [24067, 24070, 24074] := fun q => hk (by
    rcases List.mem_cons.mp q with q | q
    · rw [q]; decide
    · rcases List.mem_cons.mp q with q | q
      · rw [q]; decide
      · rw [List.mem_singleton.mp q]; decide)
  have k2 : k ≠ 24084 := fun q => hk (by rw [q]; decide)
  obtain ⟨a1, a2, a3⟩ := Kp_ k k1
  exact ⟨a1, by rw [ie k k2]; exact a2, a3⟩
theorem mbr_62 {b : Bool} {F : AH → Prop} (I : QI hB h M Z fl st alt) (B : BrM h M Z br) (hl : br.length ≤ 1600) (hK : ∀ h', BrQ hB h' M Z fl st alt (br ++ [b]) → F h') : Aw G mX24_branch (d + 1) 0 h0 (kV F nE) 62 [vR M, vU, vU, vI (bB b)] [] h := by
  have Hs := I.1.1.1
  have l7 : (h.ai (Z + 7)).length = 1601 := Hs.2.2.2.1.2.2.2.2.2.2.2.1
  refine sX24_branch_62 h M (bB b) ⟨Hs.1, fun r2 e2 => ?_⟩
  rw [show r2 = Z + 7 from e2.trans Hs.2.1.2.2.2.2.2.2.2.1, B.1, l7, pk_cl br.length rfl (by omega), nI_1]
  refine ⟨Hs.2.2.1.2.2.2.2.2.2.2.1, pk_in br.length 1601 (by omega), bB_01 b, fun h6 e6 h10 e10 => ?_⟩
  rw [e10, e6]
  refine hK _ (I.br7 (List.length_set ..) ⟨?_, fun j hj => ?_⟩)
  · rw [AH.i_pi, if_pos ⟨rfl, rfl⟩, List.length_append]; rfl
  · show ((h.wi (Z + 7) _).ai (Z + 7)).getD j 0 = _
    rw [List.length_append, List.length_singleton] at hj
    rw [AH.ai_wiS, getD_snoc]
    by_cases c : j = br.length
    · rw [if_pos c, c, getD_set_eq (by omega)]
    · rw [if_neg c, getD_set_ne c]; exact B.2 j (by omega)
theorem MD_branch_spec {op : Nat} {does : Bool} (hd : 2 ≤ d) (hop : op < 256) (H : MOm h M Z st alt) (F0 : h.i 24074 M = 0) (B : BrM h M Z br) (hl : br.length ≤ 1600) : Cw G mX24_branch d 0 [vR M, vI (nI op), vI (bB does)] h (kV (fun h' => (∃ s, brP op does st br = some s ∧ BrQ h h' M Z false s.1 alt s.2) ∨ (brP op does st br = none ∧ h'.i 24074 M = 1 ∧ MWk h' M Z ∧ SkB h h' M Z ∧ Kp [24067, 24070, 24074, 24084] M h h')) nE) := by
  obtain ⟨d, rfl⟩ : ∃ d', d = d' + 1 := ⟨d - 1, by omega⟩
  have I : QI h h M Z false st alt := ⟨H, F0, SkF.rf, Kp.rf, fun _ _ q => q⟩
  have Hs := H.1.1
  have l7 : (h.ai (Z + 7)).length = 1601 := Hs.2.2.2.1.2.2.2.2.2.2.2.1
  have bad : ∀ h', brP op does st br = none → QI h h' M Z true st alt → (kV (fun h' => (∃ s, brP op does st br = some s ∧ BrQ h h' M Z false s.1 alt s.2) ∨ (brP op does st br = none ∧ h'.i 24074 M = 1 ∧ MWk h' M Z ∧ SkB h h' M Z ∧ Kp [24067, 24070, 24074, 24084] M h h')) nE) (.inl none) h' := fun h' e J => Or.inr ⟨e, J.2.1, J.1.1, J.2.2.1.b, fun k hk => J.2.2.2.1 k (fun q => hk (by
    rcases List.mem_cons.mp q with q | q
    · rw [q]; decide
    · rcases List.mem_cons.mp q with q | q
      · rw [q]; decide
      · rw [List.mem_singleton.mp q]; decide))⟩
  have b12 : (op = 99 ∨ op = 100) → Aw G mX24_branch (d + 1) 0 h (kV (fun h' => (∃ s, brP op does st br = some s ∧ BrQ h h' M Z false s.1 alt s.2) ∨ (brP op does st br = none ∧ h'.i 24074 M = 1 ∧ MWk h' M Z ∧ SkB h h' M Z ∧ Kp [24067, 24070, 24074, 24084] M h h')) nE) 12 [vR M, vI (nI op), vI (bB does), vU] [] h := fun hop2 => by
    refine sX24_branch_12 h M (nI op) (bB does) ⟨fun c => ?_, fun c => ⟨Hs.1, ?_⟩⟩
    · have e : brP op does st br = some (st, br ++ [false]) := by unfold brP; rw [if_pos hop2, if_neg (by rw [(bB_0 does).mp c]; decide)]
      exact mbr_62 (b := false) I B hl (fun h' J => Or.inl ⟨_, e, J⟩)
    · have dt : does = true := by
        cases does with
        | true => rfl
        | false => exact absurd rfl c
      have e : brP op does st br = if st.length < 1 then none else some (dr st 1, br ++ [isT (tp st 0) == decide (op = 99)]) := by unfold brP; rw [if_pos hop2, if_pos dt]
      refine m_need (n := 1) (by omega) (by decide) I (fun c1 => ⟨fun _ => ?_, fun q => absurd q (by decide)⟩) (fun c1 h3 J => ⟨fun q => absurd rfl q, fun _ => bad h3 (by rw [e, if_pos c1]) J⟩)
      rw [if_neg (by omega)] at e
      refine (MD_isTrue_spec (k := 0) (by omega) H (by omega)).nI (fun x6 h7 Q => ?_)
      obtain ⟨ex, eh⟩ := Q
      rw [ex, eh, show (1 : Int32) = nI 1 from rfl, I.top c1]
      have dp : ∀ b, b = (isT (tp st 0) == decide (op = 99)) → ∀ h12, h12 = h.pi 24067 M (nI (st.length - 1)) → Aw G mX24_branch (d + 1) 0 h (kV (fun h' => (∃ s, brP op does st br = some s ∧ BrQ h h' M Z false s.1 alt s.2) ∨ (brP op does st br = none ∧ h'.i 24074 M = 1 ∧ MWk h' M Z ∧ SkB h h' M Z ∧ Kp [24067, 24070, 24074, 24084] M h h')) nE) 62 [vR M, vU, vU, vI (bB b)] [] h12 := fun b hb h12 e12 => by
        rw [e12, hb]
        have J := I.drop (n := 1) c1
        refine mbr_62 J ⟨by rw [AH.i_pi, if_neg (fun q => absurd q.1 (by decide))]; exact B.1, B.2⟩ hl (fun h' J' => Or.inl ⟨_, e, J'⟩)
      rcases hop2 with hop2 | hop2
      · subst hop2
        cases hT : isT (tp st 0) with
        | false => exact ⟨fun q => absurd rfl q, fun _ => ⟨fun _ => dp false (by rw [hT]; rfl), fun q => absurd q (by decide)⟩⟩
        | true => exact ⟨fun q => absurd rfl q, fun _ => ⟨fun q => absurd rfl q, fun _ => dp true (by rw [hT]; rfl)⟩⟩
      · subst hop2
        cases hT : isT (tp st 0) with
        | false => exact ⟨fun _ => ⟨fun q => absurd rfl q, fun _ => dp true (by rw [hT]; rfl)⟩, fun q => absurd q (by decide)⟩
        | true => exact ⟨fun _ => ⟨fun _ => dp false (by rw [hT]; rfl), fun q => absurd q (by decide)⟩, fun q => absurd q (by decide)⟩
  refine eX24_branch h M (nI op) (bB does) (fun _ => sX24_branch_0 h M (nI op) (bB does) (pk_eq op 99 (fun z => b12 (Or.inl z)) (fun z => pk_eq' op 100 (fun z2 => ⟨Hs.1, ?_⟩) (fun z2 => b12 (Or.inr z2)))))
  have e0 : brP op does st br = if br.length = 0 then none else if op = 103 then some (st, br.take (br.length - 1) ++ [! br.getD (br.length - 1) false]) else some (st, br.take (br.length - 1)) := by unfold brP; rw [if_neg (by omega)]
  rw [B.1]
  refine pk_eq' br.length 0 (fun c => ?_) (fun c h15 e15 => ?_)
  · rw [if_neg c] at e0
    have em : nI br.length - 1 = nI (br.length - 1) := pk_sub (show 1 ≤ br.length by omega)
    have tl : (br.take (br.length - 1)).length = br.length - 1 := by rw [List.length_take]; omega
    rw [em]
    refine pk_eq' op 103 (fun z3 h6 e6 => ?_) (fun z3 r7 e7 => ?_)
    · rw [if_neg z3] at e0
      have hh : h6 = (h.wi (Z + 7) (h.ai (Z + 7))).pi 24084 M (nI (br.length - 1)) := by rw [AH.wi_self]; exact e6
      refine Or.inl ⟨_, e0, ?_⟩
      rw [hh]
      refine I.br7 rfl ⟨?_, fun j hj => ?_⟩
      · rw [AH.i_pi, if_pos ⟨rfl, rfl⟩, tl]
      · dsimp only at hj ⊢
        rw [tl] at hj
        show ((h.wi (Z + 7) _).ai (Z + 7)).getD j 0 = _
        rw [AH.ai_wiS, getD_take _ _ hj]
        exact B.2 j (by omega)
    · rw [if_pos z3] at e0
      rw [show r7 = Z + 7 from e7.trans Hs.2.1.2.2.2.2.2.2.2.1, l7, pk_cl (br.length - 1) rfl (by omega), B.2 (br.length - 1) (by omega)]
      have fin : ∀ x, x = bB (! br.getD (br.length - 1) false) → ∀ h38, h38 = h.wi (Z + 7) ((h.ai (Z + 7)).set (br.length - 1) x) → (kV (fun h' => (∃ s, brP op does st br = some s ∧ BrQ h h' M Z false s.1 alt s.2) ∨ (brP op does st br = none ∧ h'.i 24074 M = 1 ∧ MWk h' M Z ∧ SkB h h' M Z ∧ Kp [24067, 24070, 24074, 24084] M h h')) nE) (.inl none) h38 := fun x hx h38 e38 => by
        have hh : h38 = (h.wi (Z + 7) ((h.ai (Z + 7)).set (br.length - 1) x)).pi 24084 M (nI br.length) := e38.trans (AH.pi_self (h.wi (Z + 7) ((h.ai (Z + 7)).set (br.length - 1) x)) (k := 24084) (a := M) (v := nI br.length) B.1).symm
        refine Or.inl ⟨_, e0, ?_⟩
        rw [hh]
        refine I.br7 (List.length_set ..) ⟨?_, fun j hj => ?_⟩
        · rw [AH.i_pi, if_pos ⟨rfl, rfl⟩]
          dsimp only
          rw [List.length_append, tl, List.length_singleton, show br.length - 1 + 1 = br.length by omega]
        · dsimp only at hj ⊢
          rw [List.length_append, tl, List.length_singleton] at hj
          show ((h.wi (Z + 7) _).ai (Z + 7)).getD j 0 = _
          rw [AH.ai_wiS, getD_snoc, tl]
          by_cases c2 : j = br.length - 1
          · rw [if_pos c2, c2, getD_set_eq (by omega), hx]
          · rw [if_neg c2, getD_set_ne c2, getD_take _ _ (by omega)]
            exact B.2 j (by omega)
      refine ⟨Hs.2.2.1.2.2.2.2.2.2.2.1, pk_in (br.length - 1) 1601 (by omega), fun z4 => ⟨pk_in (br.length - 1) 1601 (by omega), fin 0 ?_⟩, fun z4 => ⟨pk_in (br.length - 1) 1601 (by omega), fin 1 ?_⟩⟩
      · cases hb : br.getD (br.length - 1) false with
        | false => rw [hb] at z4; exact absurd rfl z4
        | true => rfl
      · cases hb : br.getD (br.length - 1) false with
        | false => rfl
        | true => rw [hb] at z4; exact absurd z4 (by decide)
  · rw [e15]
    exact bad _ (by rw [e0, if_pos c]) I.fail
end MBr

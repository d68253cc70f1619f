/-! branches -/
set_option maxRecDepth 100000
def bB (b : Bool) : Int32 := if b then 1 else 0
def BrOk (h : AH) (Mc : Nat) (br : List Bool) : Prop := h.i 7008 Mc = nI br.length ∧ ∀ j, j < br.length → (h.ai (Mc + 4)).getD j 0 = bB (br.getD j false)
/-- what a branch does with the stack and the branches -/
def brP (op : Nat) (does : Bool) (st : List (List Int32)) (br : List Bool) : Option (List (List Int32) × List Bool) :=
  if op = 99 ∨ op = 100 then (if does = true then (if st.length < 1 then none else some (dr st 1, br ++ [isT (tp st 0) == decide (op = 99)])) else some (st, br ++ [false]))
  else if br.length = 0 then none else if op = 103 then some (st, br.take (br.length - 1) ++ [! br.getD (br.length - 1) false]) else some (st, br.take (br.length - 1))
theorem getD_take {α : Type} (l : List α) (z : α) {j n : Nat} (h : j < n) : (l.take n).getD j z = l.getD j z := by
  rw [List.getD_eq_getElem?_getD, List.getD_eq_getElem?_getD, List.getElem?_take, if_pos h]
def BFr (h h' : AH) (Mc : Nat) : Prop := Same (fun y => mP h Mc y ∨ y = Mc + 4) h h' ∧ h'.z + 2 * nul h' Mc = h.z + 2 * nul h Mc ∧ h'.s + 522 * nul h' Mc = h.s + 522 * nul h Mc ∧ nnM h h' Mc
section Branch
variable {G : Gx} {d : Nat} {hB h h0 : AH} {Mc D b0 : Nat} {st alt : List (List Int32)} {br : List Bool}
theorem MOk.pi8 (v : Int32) (H : MOk h Mc D b0 st alt) : MOk (h.pi 7008 Mc v) Mc D b0 st alt := by
  obtain ⟨H1, T, hb, hb2, hi, S1, S2⟩ := H
  have S : Same (fun y => y = Mc) h (h.pi 7008 Mc v) := Same.rf.pi _ _ (Or.inl rfl)
  have ea : ∀ w, w < 3 → (h.pi 7008 Mc v).ar (Mc + 1 + w) = h.ar (Mc + 1 + w) := fun w _ => rfl
  have ie : ∀ k a, k ≠ 7008 → (h.pi 7008 Mc v).i k a = h.i k a := fun k a hk => by rw [AH.i_pi, if_neg (fun q => hk q.1)]
  have ce : ∀ j, j < 3012 → elA h Mc j ≠ 0 → eqAt h (h.pi 7008 Mc v) (elA h Mc j) ∧ eqAt h (h.pi 7008 Mc v) (elA h Mc j + 1) := fun j hj hj0 => by
    have tb := (T j hj hj0).1
    exact ⟨⟨rfl, fun _ => rfl, fun k => by rw [AH.i_pi, if_neg (fun q => by have := q.2; omega)], fun _ => rfl, rfl, rfl, rfl⟩, ⟨rfl, fun _ => rfl, fun k => by rw [AH.i_pi, if_neg (fun q => by have := q.2; omega)], fun _ => rfl, rfl, rfl, rfl⟩⟩
  refine ⟨H1, fun j hj hj0 => ?_, hb, hb2, ⟨by rw [ie _ _ (by decide)]; exact hi.1, by rw [ie _ _ (by decide)]; exact hi.2.1, hi.2.2⟩, S1.keep (by have := hi.2.2.1; omega) (fun j hj => ⟨elA_eq ea (by have := hi.2.2.1; omega), ce _ (by have := hi.2.2.1; omega) (S1 j hj).1⟩), S2.keep (by have := hi.2.2.2; omega) (fun j hj => ⟨elA_eq ea (by have := hi.2.2.2; omega), ce _ (by have := hi.2.2.2; omega) (S2 j hj).1⟩)⟩
  obtain ⟨t1, t2, t3⟩ := T j hj hj0
  have := ce j hj hj0
  exact ⟨t1, t2.eq this.1 this.2.ln, t3⟩
theorem MOk.mod0 {P : Nat → Prop} {h' : AH} (H : MOk h Mc D b0 st alt) (M : Mod P h h') (hP : ∀ y, P y → y < b0 ∧ y ≠ Mc) : MOk h' Mc D b0 st alt := by
  obtain ⟨H1, T, hb, hb2, hi, S1, S2⟩ := H
  have ea : ∀ v, v < 3 → h'.ar (Mc + 1 + v) = h.ar (Mc + 1 + v) := fun v hv => by rw [M.ar]
  have ce : ∀ j, j < 3012 → elA h Mc j ≠ 0 → eqAt h h' (elA h Mc j) ∧ eqAt h h' (elA h Mc j + 1) := fun j hj hj0 => by
    have tb := (T j hj hj0).1
    exact ⟨⟨by rw [M.kd], fun _ => by rw [M.r], fun _ => by rw [M.i], fun _ => by rw [M.l], M.ai (fun p => by have := (hP _ p).1; omega), by rw [M.al], by rw [M.ar]⟩, ⟨by rw [M.kd], fun _ => by rw [M.r], fun _ => by rw [M.i], fun _ => by rw [M.l], M.ai (fun p => by have := (hP _ p).1; omega), by rw [M.al], by rw [M.ar]⟩⟩
  refine ⟨?_, fun j hj hj0 => ?_, by rw [M.z]; exact hb, hb2, by rw [M.i]; exact hi, S1.keep (by have := hi.2.2.1; omega) (fun j hj => ⟨elA_eq ea (by have := hi.2.2.1; omega), ce _ (by have := hi.2.2.1; omega) (S1 j hj).1⟩), S2.keep (by have := hi.2.2.2; omega) (fun j hj => ⟨elA_eq ea (by have := hi.2.2.2; omega), ce _ (by have := hi.2.2.2; omega) (S2 j hj).1⟩)⟩
  · unfold MchS at H1 ⊢
    rw [M.kd, M.r, M.ar]
    simp only [M.len]
    exact H1
  · rw [elA_eq ea hj] at hj0 ⊢
    obtain ⟨t1, t2, t3⟩ := T j hj hj0
    have := ce j hj hj0
    exact ⟨t1, t2.eq this.1 this.2.ln, fun i hi e => t3 i hi (by rw [← elA_eq ea hi]; exact e)⟩
/-- the rows of branches change -/
theorem BFr.wr {T : List Int32} {v : Int32} (I : MI hB h Mc D b0 st alt) (hT : T.length = (h.ai (Mc + 4)).length) :
    MOk ((h.wi (Mc + 4) T).pi 7008 Mc v) Mc D b0 st alt ∧ BFr hB ((h.wi (Mc + 4) T).pi 7008 Mc v) Mc ∧ Kp [7004, 7005, 7008] Mc hB ((h.wi (Mc + 4) T).pi 7008 Mc v) := by
  obtain ⟨H, F, K⟩ := I
  have M : Mod (fun y => y = Mc + 4) h (h.wi (Mc + 4) T) := Mod.wi hT rfl
  have hb2 := H.2.2.2.1
  have H1 := (H.mod0 M (fun y p => by omega)).pi8 v
  refine ⟨H1, ⟨?_, F.2.1, F.2.2⟩, ?_⟩
  · have S1 : Same (fun y => y = Mc ∨ y = Mc + 4) h ((h.wi (Mc + 4) T).pi 7008 Mc v) := (Same.rf.wi T hT (Or.inl (Or.inr rfl))).pi _ _ (Or.inl (Or.inl rfl))
    refine (F.1.mono (fun _ _ p => Or.inl p)).trans S1 (fun y _ p => ?_)
    rcases p with p | p
    · exact Or.inl (Or.inl (by omega))
    · exact Or.inr p
  · intro k hk
    have k1 : k ∉ [7004, 7005] := fun q => hk (by
      rcases List.mem_cons.mp q with q | q
      · rw [q]; exact List.mem_cons_self ..
      · rw [List.mem_singleton.mp q]; decide)
    have k2 : k ≠ 7008 := fun q => hk (by rw [q]; decide)
    obtain ⟨a1, a2, a3⟩ := K k k1
    exact ⟨a1, by rw [AH.i_pi, if_neg (fun q => k2 q.1)]; exact a2, a3⟩
theorem BrOk.mi (B : BrOk hB Mc br) (H : MOk hB Mc D b0 st alt) {st2 alt2 : List (List Int32)} (I : MI hB h Mc D b0 st2 alt2) : BrOk h Mc br := by
  have k := I.2.2 7008 (by decide)
  have hz : Mc + 8 < hB.z := Nat.lt_of_lt_of_le H.2.2.2.1 H.2.2.1
  have k4 := H.1.2.2.1.2.2.2.1
  have e : h.ai (Mc + 4) = hB.ai (Mc + 4) := I.2.1.1.ai (by omega) (fun p => by
    rcases p with p | p | p
    · omega
    · rw [k4] at p; exact absurd p.1 (by decide)
    · rw [k4] at p; exact absurd p.1 (by decide))
  exact ⟨by rw [k.2.1]; exact B.1, by rw [e]; exact B.2⟩
theorem br_51 {v : Int32} {b : Bool} {K : AH → Prop} {E : Nat → AH → Prop} (I : MI hB h Mc D b0 st alt) (B : BrOk h Mc br) (hl : br.length ≤ 201) (hv : v = bB b)
    (hK : ∀ h', MOk h' Mc D b0 st alt → BrOk h' Mc (br ++ [b]) → BFr hB h' Mc → Kp [7004, 7005, 7008] Mc hB h' → K h') : Aw G mX7_branch (d + 1) 0 h0 (kV K E) 51 [vR Mc, vU, vU, vI v] [] h := by
  have H := I.1.1
  refine sX7_branch_51 h Mc v ⟨H.1, fun r2 e2 => ?_⟩
  have e2' : r2 = Mc + 4 := e2.trans H.2.1.2.2.2.2.1
  subst e2'
  have l4 : (h.ai (Mc + 4)).length = 202 := H.2.2.2.2.2.2.1
  rw [B.1, l4, pk_cl br.length rfl (by omega), nI_1]
  refine ⟨H.2.2.1.2.2.2.1, pk_in br.length 202 (by omega), ?_, fun h6 e6 h10 e10 => ?_⟩
  · rw [hv]; unfold bB; split
    · exact Or.inr rfl
    · exact Or.inl rfl
  · obtain ⟨a1, a2, a3⟩ := BFr.wr (T := (h.ai (Mc + 4)).set br.length v) (v := nI (br.length + 1)) I (List.length_set ..)
    rw [e10, e6]
    refine hK _ a1 ⟨?_, fun j hj => ?_⟩ a2 a3
    · rw [AH.i_pi, if_pos ⟨rfl, rfl⟩, List.length_append]; rfl
    · show ((h.wi (Mc + 4) ((h.ai (Mc + 4)).set br.length v)).ai (Mc + 4)).getD j 0 = _
      rw [List.length_append, List.length_singleton] at hj
      rw [AH.ai_wiS, getD_snoc]
      by_cases c : j = br.length
      · rw [if_pos c, c, getD_set_eq (by omega), hv]
      · rw [if_neg c, getD_set_ne c]; exact B.2 j (by omega)
theorem br_12 {op : Nat} {does : Bool} (hd : 10 ≤ d) (hop : op = 99 ∨ op = 100) (H : MOk h Mc D b0 st alt) (B : BrOk h Mc br) (hl : br.length ≤ 201) : Aw G mX7_branch (d + 1) 0 h (kV (fun h' => ∃ s, brP op does st br = some s ∧ MOk h' Mc D b0 s.1 alt ∧ BrOk h' Mc s.2 ∧ BFr h h' Mc ∧ Kp [7004, 7005, 7008] Mc h h') (fun y h' => brP op does st br = none ∧ ThrM h h' Mc D b0 y)) 12 [vR Mc, vI (nI op), vI (bB does), vU] [] h := by
  have I := MI.rf H
  refine sX7_branch_12 h Mc (nI op) (bB does) ?_
  by_cases hdo : does = true
  case neg =>
    have e : brP op does st br = some (st, br ++ [false]) := by unfold brP; rw [if_pos hop, if_neg hdo]
    rw [show bB does = 0 by unfold bB; rw [if_neg hdo]]
    exact ⟨fun _ => br_51 (b := false) I B hl rfl (fun h' a1 a2 a3 a4 => ⟨_, e, a1, a2, a3, a4⟩), fun c => absurd (by decide) c⟩
  case pos =>
    rw [show bB does = 1 by unfold bB; rw [if_pos hdo]]
    refine ⟨fun c => absurd c (by decide), fun _ => ⟨H.1.1, ?_⟩⟩
    have e : brP op does st br = if st.length < 1 then none else some (dr st 1, br ++ [isT (tp st 0) == decide (op = 99)]) := by unfold brP; rw [if_pos hop, if_pos hdo]
    refine k_top (k := 0) hd (by decide) I (fun c x hx ex => ⟨ex.1.1, k_isT hd ex ?_⟩) (fun c y h' T => ⟨by rw [e, if_pos (by omega)], T⟩)
    rw [if_neg (by omega)] at e
    have dp : ∀ (v : Int32), v = bB (isT (tp st 0) == decide (op = 99)) → Cw G mX7_drop d 0 [vR Mc, vI 1] h (kV (fun h11 => Aw G mX7_branch (d + 1) 0 h (kV (fun h' => ∃ s, brP op does st br = some s ∧ MOk h' Mc D b0 s.1 alt ∧ BrOk h' Mc s.2 ∧ BFr h h' Mc ∧ Kp [7004, 7005, 7008] Mc h h') (fun y h' => brP op does st br = none ∧ ThrM h h' Mc D b0 y)) 51 [vR Mc, vU, vU, vI v] [] h11) (fun x h_1 => (kV (fun h' => ∃ s, brP op does st br = some s ∧ MOk h' Mc D b0 s.1 alt ∧ BrOk h' Mc s.2 ∧ BFr h h' Mc ∧ Kp [7004, 7005, 7008] Mc h h') (fun y h' => brP op does st br = none ∧ ThrM h h' Mc D b0 y)) (.inr x) h_1)) := fun v hv =>
      k_drop (k := 1) hd (by decide) I (fun _ h' I' => br_51 I' (B.mi H I') hl hv (fun h' a1 a2 a3 a4 => ⟨(dr st 1, br ++ [isT (tp st 0) == decide (op = 99)]), e, a1, a2, a3, a4⟩)) (fun c2 => absurd c2 (by omega))
    rcases hop with hop | hop
    · subst hop
      cases hT : isT (tp st 0) with
      | false => exact ⟨fun c => absurd (by decide) c, fun _ => ⟨fun _ => dp _ (by rw [hT]; rfl), fun c => absurd c (by decide)⟩⟩
      | true => exact ⟨fun c => absurd (by decide) c, fun _ => ⟨fun c => absurd (by decide) c, fun _ => dp _ (by rw [hT]; rfl)⟩⟩
    · subst hop
      cases hT : isT (tp st 0) with
      | false => exact ⟨fun _ => ⟨fun c => absurd (by decide) c, fun _ => dp _ (by rw [hT]; rfl)⟩, fun c => absurd c (by decide)⟩
      | true => exact ⟨fun _ => ⟨fun _ => dp _ (by rw [hT]; rfl), fun c => absurd c (by decide)⟩, fun c => absurd c (by decide)⟩
theorem bB_0 (b : Bool) : bB b = 0 ↔ b = false := by cases b <;> decide
theorem Mc_branch_spec {op : Nat} {does : Bool} (hd : 11 ≤ d) (hop : op < 256) (H : MOk h Mc D b0 st alt) (B : BrOk h Mc br) (hl : br.length ≤ 201) : Cw G mX7_branch d 0 [vR Mc, vI (nI op), vI (bB does)] h (kV (fun h' => ∃ s, brP op does st br = some s ∧ MOk h' Mc D b0 s.1 alt ∧ BrOk h' Mc s.2 ∧ BFr h h' Mc ∧ Kp [7004, 7005, 7008] Mc h h') (fun y h' => brP op does st br = none ∧ ThrM h h' Mc D b0 y)) := by
  obtain ⟨d, rfl⟩ : ∃ d', d = d' + 1 := ⟨d - 1, by omega⟩
  have I := MI.rf H
  have l4 : (h.ai (Mc + 4)).length = 202 := H.1.2.2.2.2.2.2.1
  refine eX7_branch h Mc (nI op) (bB does) (fun w => sX7_branch_0 h Mc (nI op) (bB does) (pk_eq op 99 (fun z => br_12 (by omega) (Or.inl z) H B hl) (fun z => pk_eq' op 100 (fun z2 => ⟨H.1.1, ?_⟩) (fun z2 => br_12 (by omega) (Or.inr z2) H B hl) rfl rfl (by omega) (by omega))))
  have e0 : brP op does st br = if br.length = 0 then none else if op = 103 then some (st, br.take (br.length - 1) ++ [! br.getD (br.length - 1) false]) else some (st, br.take (br.length - 1)) := by unfold brP; rw [if_neg (by omega)]
  rw [B.1]
  refine pk_le br.length 0 (fun c => k_need (by omega) I (fun z => absurd rfl z) (fun _ y h' T => ⟨by rw [e0, if_pos (by omega)], T⟩)) (fun c => k_need (by omega) I (fun _ => ?_) (fun z => absurd z (by decide)))
  rw [if_neg (by omega)] at e0
  have em : nI br.length - 1 = nI (br.length - 1) := pk_sub (show 1 ≤ br.length by omega)
  rw [em]
  have tl : (br.take (br.length - 1)).length = br.length - 1 := by rw [List.length_take]; omega
  refine pk_eq' op 103 (fun z3 => fun h29 e29 => ?_) (fun z3 => fun r31 e31 => ?_) rfl rfl (by omega) (by omega)
  · rw [if_neg z3] at e0
    have hh : h29 = (h.wi (Mc + 4) (h.ai (Mc + 4))).pi 7008 Mc (nI (br.length - 1)) := by rw [AH.wi_self]; exact e29
    obtain ⟨a1, a2, a3⟩ := BFr.wr (T := h.ai (Mc + 4)) (v := nI (br.length - 1)) I rfl
    rw [← hh] at a1 a2 a3
    refine ⟨_, e0, a1, ⟨?_, fun j hj => ?_⟩, a2, a3⟩
    · rw [e29, AH.i_pi, if_pos ⟨rfl, rfl⟩, tl]
    · dsimp only at hj ⊢
      rw [tl] at hj
      rw [e29, getD_take _ _ hj]
      exact B.2 j (by omega)
  · rw [if_pos z3] at e0
    have e31' : r31 = Mc + 4 := e31.trans H.1.2.1.2.2.2.2.1
    subst e31'
    rw [l4, pk_cl (br.length - 1) rfl (by omega), B.2 (br.length - 1) (by omega)]
    have fin : ∀ x, x = bB (! br.getD (br.length - 1) false) → ∀ h38, h38 = h.wi (Mc + 4) ((h.ai (Mc + 4)).set (br.length - 1) x) → (kV (fun h' => ∃ s, brP op does st br = some s ∧ MOk h' Mc D b0 s.1 alt ∧ BrOk h' Mc s.2 ∧ BFr h h' Mc ∧ Kp [7004, 7005, 7008] Mc h h') (fun y h' => brP op does st br = none ∧ ThrM h h' Mc D b0 y)) (.inl none) h38 := fun x hx h38 e38 => by
      have hh : h38 = (h.wi (Mc + 4) ((h.ai (Mc + 4)).set (br.length - 1) x)).pi 7008 Mc (nI br.length) := e38.trans (AH.pi_self (h.wi (Mc + 4) ((h.ai (Mc + 4)).set (br.length - 1) x)) (k := 7008) (a := Mc) (v := nI br.length) B.1).symm
      obtain ⟨a1, a2, a3⟩ := BFr.wr (T := (h.ai (Mc + 4)).set (br.length - 1) x) (v := nI br.length) I (List.length_set ..)
      rw [← hh] at a1 a2 a3
      refine ⟨_, e0, a1, ⟨?_, fun j hj => ?_⟩, a2, a3⟩
      · dsimp only
        rw [List.length_append, tl, List.length_singleton, show br.length - 1 + 1 = br.length by omega, e38]
        exact B.1
      · dsimp only at hj ⊢
        rw [List.length_append, tl, List.length_singleton] at hj
        rw [e38, AH.ai_wiS, getD_snoc, tl]
        by_cases c2 : j = br.length - 1
        · rw [if_pos c2, c2, getD_set_eq (by omega), hx]
        · rw [if_neg c2, getD_set_ne c2, getD_take _ _ (by omega)]
          exact B.2 j (by omega)
    refine ⟨H.1.2.2.1.2.2.2.1, pk_in (br.length - 1) 202 (by omega), fun z4 => ⟨pk_in (br.length - 1) 202 (by omega), fin 0 ?_⟩, fun z4 => ⟨pk_in (br.length - 1) 202 (by omega), fin 1 ?_⟩⟩
    · cases hb : br.getD (br.length - 1) false with
      | false => rw [hb] at z4; exact absurd rfl z4
      | true => rfl
    · cases hb : br.getD (br.length - 1) false with
      | false => rfl
      | true => rw [hb] at z4; exact absurd z4 (by decide)
end Branch

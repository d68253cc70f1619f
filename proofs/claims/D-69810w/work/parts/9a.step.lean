/-! the component's stack machine: one operation that is no push, no branch and no signature -/
set_option maxRecDepth 100000
section Step
variable {G : Gx} {d : Nat} {hB h : AH} {Mc D b0 Sg q inp : Nat} {st alt : List (List Int32)} {K B L : List Int32} {t : TxP}
theorem step_18 {op : Nat} (hd : 12 ≤ d) (hop : op = 79 ∨ (81 ≤ op ∧ op ≤ 96)) (hs : st.length + alt.length ≤ 1000) (H : MOk h Mc D b0 st alt) :
    Aw G mX7_step (d + 1) 0 h (kV (fun h' => ∃ s, stepP K B (lkV L t) (sqV L t inp) op st alt = some s ∧ MOk h' Mc D b0 s.1 s.2 ∧ SFr h h' Mc D ∧ Kp [7004, 7005] Mc h h') (fun y h' => stepP K B (lkV L t) (sqV L t inp) op st alt = none ∧ ThrM h h' Mc D b0 y)) 18 [vR Mc, vI (nI op), vU, vU, vU, vU, vU, vU, vU] [] h := by
  have hP : stepP K B (lkV L t) (sqV L t inp) op st alt = some (st ++ [encI ((op : Int) - 80)], alt) := by
    unfold stepP
    rw [if_pos hop]
  have fin : ∀ h2, MI h h2 Mc D b0 (st ++ [encI ((op : Int) - 80)]) alt → ∃ s, stepP K B (lkV L t) (sqV L t inp) op st alt = some s ∧ MOk h2 Mc D b0 s.1 s.2 ∧ SFr h h2 Mc D ∧ Kp [7004, 7005] Mc h h2 := fun h2 I => ⟨_, hP, I.1, I.2.1.S, I.2.2⟩
  refine sX7_step_18 h Mc (nI op) ⟨H.1.1, k_push (by omega) (by omega) (MI.rf H) (fun x h' P w es => pk_eq' op 79 (fun c => ⟨es.1, ?_⟩) (fun c => ⟨es.1, ?_⟩))⟩
  · rw [nI_l (by omega), lZ_n, show (80 : Int64) = lZ 80 from rfl, lZ_sub]
    exact k_be (by omega) (by omega) (MI.rf H) P w es fin
  · rw [show (-1 : Int64) = lZ ((op : Int) - 80) by rw [c]; rfl]
    exact k_be (by omega) (by omega) (MI.rf H) P w es fin
theorem step_580 {op n : Nat} (hd : 12 ≤ d) (hn : n = 2 ∨ n = 3) (hs : st.length + alt.length ≤ 1000) (hl : n ≤ st.length) (H : MOk h Mc D b0 st alt) (hP : stepP K B (lkV L t) (sqV L t inp) op st alt = some (if n = 2 then cp (cp st 1) 1 else cp (cp (cp st 2) 2) 2, alt)) :
    Aw G mX7_step (d + 1) 0 h (kV (fun h' => ∃ s, stepP K B (lkV L t) (sqV L t inp) op st alt = some s ∧ MOk h' Mc D b0 s.1 s.2 ∧ SFr h h' Mc D ∧ Kp [7004, 7005] Mc h h') (fun y h' => stepP K B (lkV L t) (sqV L t inp) op st alt = none ∧ ThrM h h' Mc D b0 y)) 580 [vR Mc, vU, vU, vU, vI (nI n), vI (nI 0), vU, vU, vU] [] h := by
  refine loop_uc (n := n) (P := fun k (x : AH × List (List Int32)) => Aw G mX7_step (d + 1) 0 h (kV (fun h' => ∃ s, stepP K B (lkV L t) (sqV L t inp) op st alt = some s ∧ MOk h' Mc D b0 s.1 s.2 ∧ SFr h h' Mc D ∧ Kp [7004, 7005] Mc h h') (fun y h' => stepP K B (lkV L t) (sqV L t inp) op st alt = none ∧ ThrM h h' Mc D b0 y)) 580 [vR Mc, vU, vU, vU, vI (nI n), vI (nI k), vU, vU, vU] [] x.1)
    (fun k x => MI h x.1 Mc D b0 x.2 alt ∧ x.2.length = st.length + k ∧ x.2 = if k = 0 then st else if k = 1 then cp st (n - 1) else if k = 2 then cp (cp st (n - 1)) (n - 1) else cp (cp (cp st (n - 1)) (n - 1)) (n - 1)) (fun k x hk hI ih => ?_) 0 (h, st) (Nat.zero_le _) ⟨MI.rf H, rfl, rfl⟩
  obtain ⟨hx, s⟩ := x
  obtain ⟨I, ls, es⟩ := hI
  dsimp only at I ls es ⊢
  refine sX7_step_580 hx Mc (nI n) (nI k) (pk_le n k (fun c => ⟨_, hP, ?_, I.2.1.S, I.2.2⟩) (fun c => ⟨I.1.1.1, ?_⟩))
  · have ek : k = n := by omega
    subst ek
    have : s = (if k = 2 then cp (cp st 1) 1 else cp (cp (cp st 2) 2) 2) := by
      rcases hn with e | e
      · subst e; exact es
      · subst e; exact es
    show MOk hx Mc D b0 _ alt
    rw [← this]
    exact I.1
  · rw [show nI n - 1 = nI (n - 1) by rw [show (1 : Int32) = nI 1 from rfl, pk_sub (by omega)]]
    refine k_copy (by omega) (by omega) (by omega) I (fun c2 h3 I3 => ?_) (fun c2 => absurd c2 (by omega))
    rw [nI_1]
    refine ih c (h3, cp s (n - 1)) ⟨I3, by dsimp only; rw [cp_len]; omega, ?_⟩
    dsimp only
    have hk3 : k = 0 ∨ k = 1 ∨ k = 2 := by omega
    rcases hk3 with e | e | e
    · subst e; rw [es]; rfl
    · subst e; rw [es]; rfl
    · subst e; rw [es]; rfl
set_option maxHeartbeats 2000000 in
theorem step_112 {op : Nat} (hd : 13 ≤ d) (hop : op < 256) (hs : st.length + alt.length ≤ 1000) (H : MOk h Mc D b0 st alt) (SG : SgT h Sg q L t inp) (wf : WF G h)
    (hP : stepP K B (lkV L t) (sqV L t inp) op st alt = if op = 177 then latP st alt (lkV L t) (sqV L t inp) else movP op st alt) :
    Aw G mX7_step (d + 1) 0 h (kV (fun h' => ∃ s, stepP K B (lkV L t) (sqV L t inp) op st alt = some s ∧ MOk h' Mc D b0 s.1 s.2 ∧ SFr h h' Mc D ∧ Kp [7004, 7005] Mc h h') (fun y h' => stepP K B (lkV L t) (sqV L t inp) op st alt = none ∧ ThrM h h' Mc D b0 y)) 112 [vR Mc, vI (nI op), vR Sg, vU, vU, vU, vU, vU, vU] [] h := by
  have hd1 : 10 ≤ d := by omega
  have hd2 : 11 ≤ d := by omega
  have I0 := MI.rf H
  have oc : ∀ {n : Nat}, n < 256 → nI op = nI n → op = n := fun hn c => (nI_eq (by omega) (by omega)).mp c
  have fin : ∀ {h2 : AH} {s1 s2 : List (List Int32)}, MI h h2 Mc D b0 s1 s2 → stepP K B (lkV L t) (sqV L t inp) op st alt = some (s1, s2) → ∃ s, stepP K B (lkV L t) (sqV L t inp) op st alt = some s ∧ MOk h2 Mc D b0 s.1 s.2 ∧ SFr h h2 Mc D ∧ Kp [7004, 7005] Mc h h2 := fun I e => ⟨_, e, I.1, I.2.1.S, I.2.2⟩
  have i1 : h.i 7004 Mc = nI st.length := H.2.2.2.2.1.1
  have i2 : h.i 7005 Mc = nI alt.length := H.2.2.2.2.1.2.1
  have l3 := H.2.2.2.2.1.2.2.1
  have l4 := H.2.2.2.2.1.2.2.2
  have bad : ∀ {Kc : AH → Prop} {E : Nat → AH → Prop}, (∀ y h', ThrM h h' Mc D b0 y → E y h') → Cw G mX7_need d 0 [vR Mc, vI 0] h (kV Kc E) := fun hE => k_need hd1 I0 (fun z => absurd rfl z) (fun _ y h' T => hE y h' T)
  have good : ∀ {Kc : AH → Prop} {E : Nat → AH → Prop}, Kc h → Cw G mX7_need d 0 [vR Mc, vI 1] h (kV Kc E) := fun hK => k_need hd1 I0 (fun _ => hK) (fun z => absurd z (by decide))
  refine sX7_step_112 h Mc (nI op) Sg ⟨fun c => ?_, fun c => ?_, fun c => ?_, fun c => ?_, fun c => ?_, fun c => ?_, fun c => ?_, fun c => ?_, fun c => ?_, fun c => ?_, fun c => ?_, fun c => ?_, fun c => ?_, fun c => ?_, fun c => ?_, fun c => ?_, fun c => ?_, fun c => ?_, fun c => ?_, fun c => ?_, fun c => ?_, fun c => ?_, fun c => ?_, fun c => ?_, fun c => ?_⟩
  · -- 105
    have c := oc (n := 105) (by decide) c
    subst c
    replace hP : stepP K B (lkV L t) (sqV L t inp) 105 st alt = if st.length = 0 ∨ isT (tp st 0) = false then none else some (dr st 1, alt) := hP
    exact ⟨H.1.1, k_verify hd2 I0 (fun c1 c2 h' I => fin I (by rw [hP, if_neg (fun z => by rcases z with z | z; omega; rw [c2] at z; cases z)])) (fun c1 y h' T => ⟨by rw [hP, if_pos c1], T⟩)⟩
  · -- 107
    have c := oc (n := 107) (by decide) c
    subst c
    replace hP : stepP K B (lkV L t) (sqV L t inp) 107 st alt = if st.length < 1 then none else some (dr st 1, alt ++ [tp st 0]) := hP
    rw [i1]
    refine ⟨H.1.1, pk_le st.length 0 (fun c1 => bad (fun y h' T => ⟨by rw [hP, if_pos (by omega)], T⟩)) (fun c1 => good (k_top (k := 0) hd1 (by decide) I0 (fun c2 x hx ex => ?_) (fun c2 => absurd c2 (by omega))))⟩
    exact alt_push hd2 hs c1 H wf hx ex (fun h' I => k_drop (k := 1) hd1 (by decide) I (fun _ h2 I2 => fin I2 (by rw [hP, if_neg (by omega)])) (fun z => absurd z (by omega)))
  · -- 108
    have c := oc (n := 108) (by decide) c
    subst c
    replace hP : stepP K B (lkV L t) (sqV L t inp) 108 st alt = if alt.length < 1 then none else some (st ++ [tp alt 0], dr alt 1) := hP
    have e2 : (h.i 7005 Mc ≤ 0) = (nI alt.length ≤ 0) := by rw [i2]
    rw [e2]
    exact ⟨H.1.1, pk_le alt.length 0 (fun c1 => bad (fun y h' T => ⟨by rw [hP, if_pos (by omega)], T⟩)) (fun c1 => good (alt_pop hd2 hs c1 H (fun h' I => fin I (by rw [hP, if_neg (by omega)]))))⟩
  · -- 109
    have c := oc (n := 109) (by decide) c
    subst c
    replace hP : stepP K B (lkV L t) (sqV L t inp) 109 st alt = if st.length < 2 then none else some (dr st 2, alt) := hP
    exact ⟨H.1.1, k_drop (k := 2) hd1 (by decide) I0 (fun c1 h' I => fin I (by rw [hP, if_neg (by omega)])) (fun c1 y h' T => ⟨by rw [hP, if_pos c1], T⟩)⟩
  · -- 110
    have c := oc (n := 110) (by decide) c
    subst c
    replace hP : stepP K B (lkV L t) (sqV L t inp) 110 st alt = if st.length < 2 then none else some (cp (cp st 1) 1, alt) := hP
    rw [i1, show nI 110 - 108 = nI 2 by decide]
    refine ⟨H.1.1, pk_lt st.length 2 (fun c1 => bad (fun y h' T => ⟨by rw [hP, if_pos c1], T⟩)) (fun c1 => good ?_)⟩
    exact step_580 (n := 2) (by omega) (Or.inl rfl) hs c1 H (by rw [hP, if_neg (by omega)]; rfl)
  · -- 111
    have c := oc (n := 111) (by decide) c
    subst c
    replace hP : stepP K B (lkV L t) (sqV L t inp) 111 st alt = if st.length < 3 then none else some (cp (cp (cp st 2) 2) 2, alt) := hP
    rw [i1, show nI 111 - 108 = nI 3 by decide]
    refine ⟨H.1.1, pk_lt st.length 3 (fun c1 => bad (fun y h' T => ⟨by rw [hP, if_pos c1], T⟩)) (fun c1 => good ?_)⟩
    exact step_580 (n := 3) (by omega) (Or.inr rfl) hs c1 H (by rw [hP, if_neg (by omega)]; rfl)
  · -- 112
    have c := oc (n := 112) (by decide) c
    subst c
    replace hP : stepP K B (lkV L t) (sqV L t inp) 112 st alt = if st.length < 4 then none else some (cp (cp st 3) 3, alt) := hP
    rw [i1]
    refine ⟨H.1.1, pk_lt st.length 4 (fun c1 => bad (fun y h' T => ⟨by rw [hP, if_pos c1], T⟩)) (fun c1 => good (k_copy (k := 3) hd2 (by decide) (by omega) I0 (fun _ h2 I2 => k_copy (k := 3) hd2 (by decide) (by have := cp_len st 3; unfold cp at this; omega) I2 (fun _ h3 I3 => fin I3 (by rw [hP, if_neg (by omega)]; rfl)) (fun z => absurd z (by have := cp_len st 3; unfold cp at this; omega))) (fun z => absurd z (by omega))))⟩
  · -- 113
    have c := oc (n := 113) (by decide) c
    subst c
    replace hP : stepP K B (lkV L t) (sqV L t inp) 113 st alt = if st.length < 6 then none else some (rl_ (rl_ st 5) 5, alt) := hP
    rw [i1]
    refine ⟨H.1.1, pk_lt st.length 6 (fun c1 => bad (fun y h' T => ⟨by rw [hP, if_pos c1], T⟩)) (fun c1 => good (k_roll (k := 5) hd2 (by decide) I0 (fun _ h2 I2 => k_roll (k := 5) hd2 (by decide) I2 (fun _ h3 I3 => fin I3 (by rw [hP, if_neg (by omega)]; rfl)) (fun z => absurd z (by rw [rollL_len]; omega))) (fun z => absurd z (by omega))))⟩
  · -- 114
    have c := oc (n := 114) (by decide) c
    subst c
    replace hP : stepP K B (lkV L t) (sqV L t inp) 114 st alt = if st.length < 4 then none else some (rl_ (rl_ st 3) 3, alt) := hP
    rw [i1]
    refine ⟨H.1.1, pk_lt st.length 4 (fun c1 => bad (fun y h' T => ⟨by rw [hP, if_pos c1], T⟩)) (fun c1 => good (k_roll (k := 3) hd2 (by decide) I0 (fun _ h2 I2 => k_roll (k := 3) hd2 (by decide) I2 (fun _ h3 I3 => fin I3 (by rw [hP, if_neg (by omega)]; rfl)) (fun z => absurd z (by rw [rollL_len]; omega))) (fun z => absurd z (by omega))))⟩
  · -- 115
    have c := oc (n := 115) (by decide) c
    subst c
    replace hP : stepP K B (lkV L t) (sqV L t inp) 115 st alt = if st.length < 1 then none else some (if isT (tp st 0) = true then cp st 0 else st, alt) := hP
    refine ⟨H.1.1, k_top (k := 0) hd1 (by decide) I0 (fun c1 x hx ex => ⟨ex.1.1, k_isT hd1 ex ?_⟩) (fun c1 y h' T => ⟨by rw [hP, if_pos (by omega)], T⟩)⟩
    rw [if_neg (by omega)] at hP
    cases hT : isT (tp st 0)
    · rw [hT] at hP
      exact ⟨fun _ => fin I0 hP, fun z => absurd rfl z⟩
    · rw [hT] at hP
      exact ⟨fun c => absurd c (by decide), fun _ => k_copy (k := 0) hd2 (by decide) (by omega) I0 (fun _ h2 I2 => fin I2 hP) (fun z => absurd z (by omega))⟩
  · -- 116
    have c := oc (n := 116) (by decide) c
    subst c
    replace hP : stepP K B (lkV L t) (sqV L t inp) 116 st alt = some (st ++ [encI st.length], alt) := hP
    refine ⟨H.1.1, k_push hd1 (by omega) I0 (fun x h' P w es => ⟨es.1, ?_⟩)⟩
    rw [P.2.2.2.2.2.1.2.2.1, nI_l (by omega), show (1 : Int64) = lN 1 from rfl, lN_sub (by omega), Nat.add_sub_cancel, lZ_n]
    exact k_be hd1 (by omega) I0 P w es (fun h2 I2 => fin I2 hP)
  · -- 117
    have c := oc (n := 117) (by decide) c
    subst c
    replace hP : stepP K B (lkV L t) (sqV L t inp) 117 st alt = if st.length < 1 then none else some (dr st 1, alt) := hP
    exact ⟨H.1.1, k_drop (k := 1) hd1 (by decide) I0 (fun c1 h' I => fin I (by rw [hP, if_neg (by omega)])) (fun c1 y h' T => ⟨by rw [hP, if_pos c1], T⟩)⟩
  · -- 118
    have c := oc (n := 118) (by decide) c
    subst c
    replace hP : stepP K B (lkV L t) (sqV L t inp) 118 st alt = if st.length < 1 then none else some (cp st 0, alt) := hP
    exact ⟨H.1.1, k_copy (k := 0) hd2 (by decide) (by omega) I0 (fun c1 h' I => fin I (by rw [hP, if_neg (by omega)]; rfl)) (fun c1 y h' T => ⟨by rw [hP, if_pos (by omega)], T⟩)⟩
  · -- 119
    have c := oc (n := 119) (by decide) c
    subst c
    replace hP : stepP K B (lkV L t) (sqV L t inp) 119 st alt = if st.length < 2 then none else some (dr (rl_ st 1) 1, alt) := hP
    rw [i1]
    refine ⟨H.1.1, pk_lt st.length 2 (fun c1 => bad (fun y h' T => ⟨by rw [hP, if_pos c1], T⟩)) (fun c1 => good (k_roll (k := 1) hd2 (by decide) I0 (fun _ h2 I2 => k_drop (k := 1) hd1 (by decide) I2 (fun _ h3 I3 => fin I3 (by rw [hP, if_neg (by omega)]; rfl)) (fun z => absurd z (by rw [rollL_len]; omega))) (fun z => absurd z (by omega))))⟩
  · -- 120
    have c := oc (n := 120) (by decide) c
    subst c
    replace hP : stepP K B (lkV L t) (sqV L t inp) 120 st alt = if st.length < 2 then none else some (cp st 1, alt) := hP
    exact ⟨H.1.1, k_copy (k := 1) hd2 (by decide) (by omega) I0 (fun c1 h' I => fin I (by rw [hP, if_neg (by omega)]; rfl)) (fun c1 y h' T => ⟨by rw [hP, if_pos (by omega)], T⟩)⟩
  · -- 121
    have c := oc (n := 121) (by decide) c
    subst c
    replace hP : stepP K B (lkV L t) (sqV L t inp) 121 st alt = if st.length < 1 ∨ 4 < (tp st 0).length then none else if numI (tp st 0) < 0 ∨ ((dr st 1).length : Int) ≤ numI (tp st 0) then none else some (cp (dr st 1) (numI (tp st 0)).toNat, alt) := hP
    refine ⟨H.1.1, k_top (k := 0) hd1 (by decide) I0 (fun c1 x hx ex => ⟨ex.1.1, k_num (m := 4) hd1 (by decide) I0 ex (fun c2 => k_drop (k := 1) hd1 (by decide) I0 (fun c3 h2 I2 => ?_) (fun z => absurd z (by omega))) (fun c2 y h' T => ⟨by rw [hP, if_pos (Or.inr c2)], T⟩)⟩) (fun c1 y h' T => ⟨by rw [hP, if_pos (Or.inl (by omega))], T⟩)⟩
    rw [if_neg (by omega)] at hP
    have hn := numI_lt c2
    rw [show (256 : Nat) ^ 4 = 2 ^ 32 by decide] at hn
    generalize numI (tp st 0) = a at *
    have ld := dr_len st 1
    have i4 : h2.i 7004 Mc = nI (dr st 1).length := I2.1.2.2.2.2.1.1
    have za : lZ a < 0 ↔ a < 0 := lZ_lt (b := 0) (by omega) (by decide)
    have la : (h2.i 7004 Mc).toInt64 ≤ lZ a ↔ ((dr st 1).length : Int) ≤ a := by rw [i4, nI_l (by omega), lZ_n]; exact lZ_le (by omega) (by omega)
    rw [za, la]
    refine ⟨fun c4 => k_need hd1 I2 (fun z => absurd rfl z) (fun _ y h' T => ⟨by rw [hP, if_pos (Or.inl c4)], T⟩), fun c4 => ⟨fun c5 => k_need hd1 I2 (fun z => absurd rfl z) (fun _ y h' T => ⟨by rw [hP, if_pos (Or.inr c5)], T⟩), fun c5 => k_need hd1 I2 (fun _ => ⟨fun z => absurd rfl z, fun _ => ?_⟩) (fun z => absurd z (by decide))⟩⟩
    rw [if_neg (by omega)] at hP
    obtain ⟨m, hm⟩ : ∃ m : Nat, a = m := ⟨a.toNat, by omega⟩
    subst hm
    rw [← lZ_n, lN_i]
    exact k_copy hd2 (by omega) (by omega) I2 (fun _ h3 I3 => fin I3 hP) (fun z => absurd z (by omega))
  · -- 122
    have c := oc (n := 122) (by decide) c
    subst c
    replace hP : stepP K B (lkV L t) (sqV L t inp) 122 st alt = if st.length < 1 ∨ 4 < (tp st 0).length then none else if numI (tp st 0) < 0 ∨ ((dr st 1).length : Int) ≤ numI (tp st 0) then none else some (rl_ (dr st 1) (numI (tp st 0)).toNat, alt) := hP
    refine ⟨H.1.1, k_top (k := 0) hd1 (by decide) I0 (fun c1 x hx ex => ⟨ex.1.1, k_num (m := 4) hd1 (by decide) I0 ex (fun c2 => k_drop (k := 1) hd1 (by decide) I0 (fun c3 h2 I2 => ?_) (fun z => absurd z (by omega))) (fun c2 y h' T => ⟨by rw [hP, if_pos (Or.inr c2)], T⟩)⟩) (fun c1 y h' T => ⟨by rw [hP, if_pos (Or.inl (by omega))], T⟩)⟩
    rw [if_neg (by omega)] at hP
    have hn := numI_lt c2
    rw [show (256 : Nat) ^ 4 = 2 ^ 32 by decide] at hn
    generalize numI (tp st 0) = a at *
    have ld := dr_len st 1
    have i4 : h2.i 7004 Mc = nI (dr st 1).length := I2.1.2.2.2.2.1.1
    have za : lZ a < 0 ↔ a < 0 := lZ_lt (b := 0) (by omega) (by decide)
    have la : (h2.i 7004 Mc).toInt64 ≤ lZ a ↔ ((dr st 1).length : Int) ≤ a := by rw [i4, nI_l (by omega), lZ_n]; exact lZ_le (by omega) (by omega)
    rw [za, la]
    refine ⟨fun c4 => k_need hd1 I2 (fun z => absurd rfl z) (fun _ y h' T => ⟨by rw [hP, if_pos (Or.inl c4)], T⟩), fun c4 => ⟨fun c5 => k_need hd1 I2 (fun z => absurd rfl z) (fun _ y h' T => ⟨by rw [hP, if_pos (Or.inr c5)], T⟩), fun c5 => k_need hd1 I2 (fun _ => ⟨fun _ => ?_, fun c => absurd c (by decide)⟩) (fun z => absurd z (by decide))⟩⟩
    rw [if_neg (by omega)] at hP
    obtain ⟨m, hm⟩ : ∃ m : Nat, a = m := ⟨a.toNat, by omega⟩
    subst hm
    rw [← lZ_n, lN_i]
    exact k_roll hd2 (by omega) I2 (fun _ h3 I3 => fin I3 hP) (fun z => absurd z (by omega))
  · -- 123
    have c := oc (n := 123) (by decide) c
    subst c
    replace hP : stepP K B (lkV L t) (sqV L t inp) 123 st alt = if st.length < 3 then none else some (rl_ st 2, alt) := hP
    exact ⟨H.1.1, k_roll (k := 2) hd2 (by decide) I0 (fun c1 h' I => fin I (by rw [hP, if_neg (by omega)]; rfl)) (fun c1 y h' T => ⟨by rw [hP, if_pos (by omega)], T⟩)⟩
  · -- 124
    have c := oc (n := 124) (by decide) c
    subst c
    replace hP : stepP K B (lkV L t) (sqV L t inp) 124 st alt = if st.length < 2 then none else some (rl_ st 1, alt) := hP
    exact ⟨H.1.1, k_roll (k := 1) hd2 (by decide) I0 (fun c1 h' I => fin I (by rw [hP, if_neg (by omega)]; rfl)) (fun c1 y h' T => ⟨by rw [hP, if_pos (by omega)], T⟩)⟩
  · -- 125
    have c := oc (n := 125) (by decide) c
    subst c
    replace hP : stepP K B (lkV L t) (sqV L t inp) 125 st alt = if st.length < 2 then none else some (cp (rl_ st 1) 1, alt) := hP
    rw [i1]
    refine ⟨H.1.1, pk_lt st.length 2 (fun c1 => bad (fun y h' T => ⟨by rw [hP, if_pos c1], T⟩)) (fun c1 => good (k_roll (k := 1) hd2 (by decide) I0 (fun _ h2 I2 => k_copy (k := 1) hd2 (by decide) (by rw [rollL_len]; omega) I2 (fun _ h3 I3 => fin I3 (by rw [hP, if_neg (by omega)]; rfl)) (fun z => absurd z (by rw [rollL_len]; omega))) (fun z => absurd z (by omega))))⟩
  · -- 130
    have c := oc (n := 130) (by decide) c
    subst c
    replace hP : stepP K B (lkV L t) (sqV L t inp) 130 st alt = if st.length < 1 then none else some (st ++ [encI (tp st 0).length], alt) := hP
    refine ⟨H.1.1, k_top (k := 0) hd1 (by decide) I0 (fun c1 x hx ex => ⟨ex.1.1, k_push hd1 (by omega) I0 (fun x2 h' P w es => ⟨es.1, ?_⟩)⟩) (fun c1 y h' T => ⟨by rw [hP, if_pos (by omega)], T⟩)⟩
    have l5 := ex.2.2.1
    rw [ex.2.1, nI_l (by omega), lZ_n]
    exact k_be hd1 (by omega) I0 P w es (fun h2 I2 => fin I2 (by rw [hP, if_neg (by omega)]))
  · -- 135
    have c := oc (n := 135) (by decide) c
    subst c
    replace hP : stepP K B (lkV L t) (sqV L t inp) 135 st alt = if st.length < 2 then none else some (dr st 2 ++ [tv (decide (tp st 0 = tp st 1))], alt) := hP
    refine ⟨H.1.1, k_top (k := 0) hd1 (by decide) I0 (fun c1 x hx ex => k_top (k := 1) hd1 (by decide) I0 (fun c2 x2 hx2 ex2 => ⟨ex.1.1, (El_same_spec (by omega) ex ex2).nI (fun z h' Q => ?_)⟩) (fun c2 y h' T => ⟨by rw [hP, if_pos (by omega)], T⟩)) (fun c1 y h' T => ⟨by rw [hP, if_pos (by omega)], T⟩)⟩
    obtain ⟨rfl, rfl⟩ := Q
    rw [if_neg (by omega)] at hP
    have ld := dr_len st 2
    refine k_drop (k := 2) hd1 (by decide) I0 (fun c3 h2 I2 => k_truth hd1 (by omega) I2 (fun h3 I3 => ⟨fun _ => fin I3 ?_, fun c => absurd c (by decide)⟩)) (fun z => absurd z (by omega))
    rw [hP]
    by_cases e : tp st 0 = tp st 1
    · rw [decide_eq_true e, if_pos e]; rfl
    · rw [decide_eq_false e, if_neg e]; rfl
  · -- 136
    have c := oc (n := 136) (by decide) c
    subst c
    replace hP : stepP K B (lkV L t) (sqV L t inp) 136 st alt = if st.length < 2 ∨ ¬ tp st 0 = tp st 1 then none else some (dr st 2, alt) := hP
    refine ⟨H.1.1, k_top (k := 0) hd1 (by decide) I0 (fun c1 x hx ex => k_top (k := 1) hd1 (by decide) I0 (fun c2 x2 hx2 ex2 => ⟨ex.1.1, (El_same_spec (by omega) ex ex2).nI (fun z h' Q => ?_)⟩) (fun c2 y h' T => ⟨by rw [hP, if_pos (by omega)], T⟩)) (fun c1 y h' T => ⟨by rw [hP, if_pos (by omega)], T⟩)⟩
    obtain ⟨rfl, rfl⟩ := Q
    have ld := dr_len st 2
    have snoc1 : ∀ l : List Int32, dr (dr st 2 ++ [l]) 1 = dr st 2 ∧ tp (dr st 2 ++ [l]) 0 = l := fun l => by
      constructor
      · unfold dr
        rw [List.length_append]
        show (List.take _ st ++ [l]).take (_ + 1 - 1) = _
        rw [Nat.add_sub_cancel, List.take_append_of_le_length (Nat.le_refl _), List.take_length]
      · unfold tp
        rw [getD_snoc, if_pos (by rw [List.length_append]; rfl)]
    refine k_drop (k := 2) hd1 (by decide) I0 (fun c3 h2 I2 => k_truth hd1 (by omega) I2 (fun h3 I3 => ⟨fun z => absurd rfl z, fun _ => k_verify hd2 I3 (fun _ c5 h4 I4 => ?_) (fun c5 y h' T => ⟨?_, T⟩)⟩)) (fun z => absurd z (by omega))
    · rw [(snoc1 _).1] at I4
      rw [(snoc1 _).2] at c5
      refine fin I4 ?_
      by_cases e : tp st 0 = tp st 1
      · rw [hP, if_neg (fun z => by rcases z with z | z; omega; exact z e)]
      · rw [if_neg e] at c5; cases c5
    · rcases c5 with c5 | c5
      · rw [List.length_append] at c5
        simp at c5
      · rw [(snoc1 _).2] at c5
        by_cases e : tp st 0 = tp st 1
        · rw [if_pos e] at c5; cases c5
        · rw [hP, if_pos (Or.inr e)]
  · -- 177
    have c := oc (n := 177) (by decide) c
    subst c
    replace hP : stepP K B (lkV L t) (sqV L t inp) 177 st alt = latP st alt (lkV L t) (sqV L t inp) := hP
    exact ⟨H.1.1, (Mc_later_spec (by omega) H SG).toV (fun h' _ _ Q => by
      obtain ⟨s, e, I⟩ := Q
      exact ⟨s, hP.trans e, I.1, I.2.1.S, I.2.2⟩) (fun y h' _ _ Q => ⟨hP.trans Q.1, Q.2⟩)⟩
  · -- all else
    have nn : ∀ {n : Nat}, ¬ nI op = nI n → op ≠ n := fun z e => z (by rw [e])
    obtain ⟨n1, n2, n3, n4, n5, n6, n7, n8, n9, n10, n11, n12, n13, n14, n15, n16, n17, n18, n19, n20, n21, n22, n23, n24⟩ := c
    have m : movP op st alt = none := by
      unfold movP
      rw [if_neg (nn (n := 105) n1), if_neg (nn (n := 107) n2), if_neg (nn (n := 108) n3), if_neg (nn (n := 109) n4), if_neg (nn (n := 110) n5), if_neg (nn (n := 111) n6), if_neg (nn (n := 112) n7), if_neg (nn (n := 113) n8), if_neg (nn (n := 114) n9), if_neg (nn (n := 115) n10), if_neg (nn (n := 116) n11), if_neg (nn (n := 117) n12), if_neg (nn (n := 118) n13), if_neg (nn (n := 119) n14), if_neg (nn (n := 120) n15), if_neg (fun z => by
        rcases z with z | z
        · exact nn (n := 121) n16 z
        · exact nn (n := 122) n17 z), if_neg (nn (n := 123) n18), if_neg (nn (n := 124) n19), if_neg (nn (n := 125) n20), if_neg (nn (n := 130) n21), if_neg (nn (n := 135) n22), if_neg (nn (n := 136) n23)]
    rw [if_neg (nn (n := 177) n24), m] at hP
    exact fun q2 e2 w2 h3 e3 => ⟨by omega, fun h6 e6 => ⟨hP, ThrM.nw H.1 H.2.1 w2 e2 e3 e6⟩⟩
theorem Mc_step_spec {op : Nat} (hd : 15 ≤ d) (hop : op < 256) (hDM : D + 15 < Mc) (hs : st.length + alt.length ≤ 1000) (DA : DgA h D K B) (H : MOk h Mc D b0 st alt) (SG : SgT h Sg q L t inp) : Cw G mX7_step d 0 [vR Mc, vI (nI op), vR Sg] h (kV (fun h' => ∃ s, stepP K B (lkV L t) (sqV L t inp) op st alt = some s ∧ MOk h' Mc D b0 s.1 s.2 ∧ SFr h h' Mc D ∧ Kp [7004, 7005] Mc h h') (fun y h' => stepP K B (lkV L t) (sqV L t inp) op st alt = none ∧ ThrM h h' Mc D b0 y)) := by
  obtain ⟨d, rfl⟩ : ∃ d', d = d' + 1 := ⟨d - 1, by omega⟩
  refine eX7_step h Mc (nI op) Sg (fun wf => sX7_step_0 h Mc (nI op) Sg ?_)
  have s84 : ¬ (op = 79 ∨ (81 ≤ op ∧ op ≤ 96)) → ¬ (139 ≤ op ∧ op ≤ 165) → ¬ (166 ≤ op ∧ op ≤ 170) → Aw G mX7_step (d + 1) 0 h (kV (fun h' => ∃ s, stepP K B (lkV L t) (sqV L t inp) op st alt = some s ∧ MOk h' Mc D b0 s.1 s.2 ∧ SFr h h' Mc D ∧ Kp [7004, 7005] Mc h h') (fun y h' => stepP K B (lkV L t) (sqV L t inp) op st alt = none ∧ ThrM h h' Mc D b0 y)) 84 [vR Mc, vI (nI op), vR Sg, vU, vU, vU, vU, vU, vU] [] h := fun c1 c2 c3 => by
    have hP : stepP K B (lkV L t) (sqV L t inp) op st alt = if op = 97 ∨ op = 176 ∨ (178 ≤ op ∧ op ≤ 185) then some (st, alt) else if op = 177 then latP st alt (lkV L t) (sqV L t inp) else movP op st alt := by
      unfold stepP
      rw [if_neg c1, if_neg c2, if_neg c3]
    have nop : (op = 97 ∨ op = 176 ∨ (178 ≤ op ∧ op ≤ 185)) → ∃ s, stepP K B (lkV L t) (sqV L t inp) op st alt = some s ∧ MOk h Mc D b0 s.1 s.2 ∧ SFr h h Mc D ∧ Kp [7004, 7005] Mc h h := fun z => ⟨_, by rw [hP, if_pos z], H, MFr.rf.S, Kp.rf⟩
    have s112 : ¬ (op = 97 ∨ op = 176 ∨ (178 ≤ op ∧ op ≤ 185)) → Aw G mX7_step (d + 1) 0 h (kV (fun h' => ∃ s, stepP K B (lkV L t) (sqV L t inp) op st alt = some s ∧ MOk h' Mc D b0 s.1 s.2 ∧ SFr h h' Mc D ∧ Kp [7004, 7005] Mc h h') (fun y h' => stepP K B (lkV L t) (sqV L t inp) op st alt = none ∧ ThrM h h' Mc D b0 y)) 112 [vR Mc, vI (nI op), vR Sg, vU, vU, vU, vU, vU, vU] [] h := fun z => step_112 (by omega) hop hs H SG wf (by rw [hP, if_neg z])
    exact sX7_step_84 h Mc (nI op) Sg (pk_eq op 97 (fun z => nop (Or.inl z)) (fun z1 => pk_eq op 176 (fun z => nop (Or.inr (Or.inl z))) (fun z2 => pk_lt op 178 (fun z3 => s112 (by omega)) (fun z3 => pk_lt 185 op (fun z4 => s112 (by omega)) (fun z4 => nop (Or.inr (Or.inr ⟨z3, z4⟩)))))))
  have dig : ¬ (op = 79 ∨ (81 ≤ op ∧ op ≤ 96)) → (166 ≤ op ∧ op ≤ 170) → Cw G mX7_digested d 0 [vR Mc, vI (nI op)] h (kV (fun h' => (kV (fun h' => ∃ s, stepP K B (lkV L t) (sqV L t inp) op st alt = some s ∧ MOk h' Mc D b0 s.1 s.2 ∧ SFr h h' Mc D ∧ Kp [7004, 7005] Mc h h') (fun y h' => stepP K B (lkV L t) (sqV L t inp) op st alt = none ∧ ThrM h h' Mc D b0 y)) (.inl none) h') (fun x h' => (kV (fun h' => ∃ s, stepP K B (lkV L t) (sqV L t inp) op st alt = some s ∧ MOk h' Mc D b0 s.1 s.2 ∧ SFr h h' Mc D ∧ Kp [7004, 7005] Mc h h') (fun y h' => stepP K B (lkV L t) (sqV L t inp) op st alt = none ∧ ThrM h h' Mc D b0 y)) (.inr x) h')) := fun c1 c2 => by
    have hP : stepP K B (lkV L t) (sqV L t inp) op st alt = if op = 167 ∨ st.length < 1 then none else some (dr st 1 ++ [dgL K B op (tp st 0)], alt) := by
      unfold stepP
      rw [if_neg c1, if_neg (by omega), if_pos c2]
    refine (Mc_digested_spec (by omega) c2 hDM DA H).toV (fun h' _ _ Q => ?_) (fun y h' _ _ Q => ⟨by rw [hP, if_pos Q.1], Q.2⟩)
    exact ⟨_, by rw [hP, if_neg (by have := Q.1; have := Q.2.1; omega)], Q.2.2.1, Q.2.2.2.1, Q.2.2.2.2⟩
  have s44 : ¬ (op = 79 ∨ (81 ≤ op ∧ op ≤ 96)) → Aw G mX7_step (d + 1) 0 h (kV (fun h' => ∃ s, stepP K B (lkV L t) (sqV L t inp) op st alt = some s ∧ MOk h' Mc D b0 s.1 s.2 ∧ SFr h h' Mc D ∧ Kp [7004, 7005] Mc h h') (fun y h' => stepP K B (lkV L t) (sqV L t inp) op st alt = none ∧ ThrM h h' Mc D b0 y)) 44 [vR Mc, vI (nI op), vR Sg, vU, vU, vU, vU, vU, vU] [] h := fun c1 => by
    refine sX7_step_44 h Mc (nI op) Sg (pk_lt op 139 (fun z1 => pk_lt op 166 (fun z2 => s84 c1 (by omega) (by omega)) (fun z2 => absurd z2 (by omega))) (fun z1 => pk_lt 165 op (fun z2 => pk_lt op 166 (fun z3 => absurd z3 (by omega)) (fun z3 => pk_lt 170 op (fun z4 => s84 c1 (by omega) (by omega)) (fun z4 => ⟨H.1.1, dig c1 ⟨z3, z4⟩⟩))) (fun z2 => ⟨H.1.1, ?_⟩)))
    have hP : stepP K B (lkV L t) (sqV L t inp) op st alt = match numsP op st with
        | none => none
        | some s => some (s, alt) := by
      unfold stepP
      rw [if_neg c1, if_pos ⟨z1, z2⟩]
      cases numsP op st <;> rfl
    exact k_numbers (by omega) hop hs (MI.rf H) (fun st' e h' I => ⟨(st', alt), by rw [hP, e], I.1, I.2.1.S, I.2.2⟩) (fun e y h' T => ⟨by rw [hP, e], T⟩)
  exact pk_eq op 79 (fun z => step_18 (by omega) (Or.inl z) hs H) (fun z1 => pk_lt op 81 (fun z2 => s44 (by omega)) (fun z2 => pk_lt 96 op (fun z3 => s44 (by omega)) (fun z3 => step_18 (by omega) (Or.inr ⟨z2, z3⟩) hs H)))
end Step

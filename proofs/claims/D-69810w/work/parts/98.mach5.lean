/-! the component's stack machine: digests, locks, moves -/
set_option maxRecDepth 100000
section ElUpd
variable {G : Gx} {d : Nat} {hB h h2 : AH} {Mc D b0 : Nat} {st alt : List (List Int32)}
/-- one element's cells change: the others stay -/
theorem el_upd {p x : Nat} (H : MchS h Mc D) (T : ElTb h Mc b0) (wf : WF G h) (hb : Mc + 8 < b0) (hb0 : b0 ≤ h.z) (hp : p < 3012) (hx : x = elA h Mc p) (x0 : x ≠ 0) (S : Same (fun y => y = x ∨ y = x + 1) h h2) (hz : h2.z = h.z) (hs : h2.s = h.s) (E : ElS h2 x) :
    MchS h2 Mc D ∧ ElTb h2 Mc b0 ∧ (p < 2008 → MFr h h2 Mc) ∧ eqAt h h2 Mc ∧ (∀ j, j < 3012 → elA h2 Mc j = elA h Mc j) ∧ ∀ j, j < 3012 → j ≠ p → elA h Mc j ≠ 0 → eqAt h h2 (elA h Mc j) ∧ eqAt h h2 (elA h Mc j + 1) := by
  have hx0 : elA h Mc p ≠ 0 := by rw [← hx]; exact x0
  have bx := (T p hp hx0).1
  rw [← hx] at bx
  have xz := T.lt wf hp hx0
  rw [← hx] at xz
  have ea : ∀ v, v < 3 → h2.ar (Mc + 1 + v) = h.ar (Mc + 1 + v) := fun v hv => S.ar (by omega) (by omega)
  have eMc : eqAt h h2 Mc := S.2.2 Mc (by omega) (by omega)
  have hn : nul h2 Mc = nul h Mc := nul_eq ea
  have kx : h.kd x = 22 := by rw [hx]; exact (T p hp hx0).2.1.1
  have kx1 : h.kd (x + 1) = 101 := by rw [hx]; exact (T p hp hx0).2.1.2.2.1
  have nkx : p < 2008 → ∀ y, (y = x ∨ y = x + 1) → nk h Mc y := fun hp2 y hy _ => by
    refine ⟨by omega, fun ⟨j, j1, j2, j3, j4⟩ => ?_⟩
    have ne := El_ne T j2 hp hx0 j3 (by omega)
    rw [← hx] at ne
    omega
  have ce : ∀ j, j < 3012 → j ≠ p → elA h Mc j ≠ 0 → eqAt h h2 (elA h Mc j) ∧ eqAt h h2 (elA h Mc j + 1) := fun j hj hne hj0 => by
    obtain ⟨tz, tz1⟩ := T.lt wf hj hj0
    have ne := El_ne T hj hp hx0 hj0 hne
    rw [← hx] at ne
    exact ⟨S.2.2 _ tz (by omega), S.2.2 _ tz1 (by omega)⟩
  refine ⟨H.same S (by omega) (fun k => eMc.2.1 k), fun j hj hj0 => ?_, fun hp2 => ⟨S.mono (fun y hy q => by
    rcases q with q | q
    · exact Or.inr (Or.inl (by rw [q]; exact ⟨kx, nkx hp2 _ (Or.inl rfl)⟩))
    · exact Or.inr (Or.inr (by rw [q, Nat.add_sub_cancel]; exact ⟨kx1, kx, nkx hp2 _ (Or.inr rfl)⟩))), by rw [hz, hn], by rw [hs, hn], fun j hj q => by rw [elA_eq ea (by omega)]; exact q⟩, eMc, fun j hj => elA_eq ea hj, ce⟩
  rw [elA_eq ea hj] at hj0 ⊢
  obtain ⟨t1, t2, t3⟩ := T j hj hj0
  refine ⟨t1, ?_, fun i hi e => t3 i hi (by rw [← elA_eq ea hi]; exact e)⟩
  by_cases q : j = p
  · rw [q, ← hx]; exact E
  · have := ce j hj q hj0
    exact t2.eq this.1 this.2.ln
/-- the top element is told anew -/
theorem MI.settop {x : Nat} {l : List Int32} (I : MI hB h Mc D b0 st alt) (wf : WF G h) (h0 : 0 < st.length) (hx : x = elA h Mc (st.length - 1 - 0)) (S : Same (fun y => y = x ∨ y = x + 1) h h2) (hz : h2.z = h.z) (hs : h2.s = h.s) (E : ElAt h2 x l) : MI hB h2 Mc D b0 (dr st 1 ++ [l]) alt := by
  obtain ⟨⟨H, T, hb, hb2, ⟨i1, i2, i3, i4⟩, S1, S2⟩, F, K⟩ := I
  have sl := S1 (st.length - 1) (by omega)
  rw [Nat.zero_add] at sl
  rw [Nat.sub_zero] at hx
  obtain ⟨u1, u2, u3, u4, u5, u6⟩ := el_upd (p := st.length - 1) H T wf hb2 hb (by omega) hx (by rw [hx]; exact sl.1) S hz hs E.1
  have ld : (dr st 1 ++ [l]).length = st.length := by
    rw [List.length_append, dr_len]
    show st.length - 1 + 1 = st.length
    omega
  refine ⟨⟨u1, u2, by omega, hb2, ⟨?_, ?_, by omega, i4⟩, fun j hj => ?_, S2.keep (by omega) (fun j hj => ⟨u5 _ (by omega), u6 _ (by omega) (by omega) (S2 j hj).1⟩)⟩, F.trans (u3 (by omega)), K.trans (Kp.eq (ks := []) u4) (fun k hk => by simp at hk)⟩
  · rw [u4.2.2.1, i1, ld]
  · rw [u4.2.2.1]; exact i2
  · rw [ld] at hj
    rw [getD_snoc, dr_len, Nat.zero_add, u5 _ (by omega)]
    by_cases q : j = st.length - 1
    · rw [if_pos q, q, ← hx]
      exact ⟨by rw [hx]; exact sl.1, E⟩
    · rw [if_neg q]
      have s1 := S1 j (by omega)
      rw [Nat.zero_add] at s1
      have := u6 j (by omega) q s1.1
      have eg : (dr st 1).getD j [] = st.getD j [] := by
        unfold dr
        rw [List.getD_eq_getElem?_getD, List.getElem?_take, if_pos (by omega), List.getD_eq_getElem?_getD]
      rw [eg]
      exact ⟨s1.1, s1.2.eq this.1 this.2⟩
end ElUpd
/-! moves, plainly -/
def cp (st : List (List Int32)) (k : Nat) : List (List Int32) := st ++ [tp st k]
def rl_ (st : List (List Int32)) (k : Nat) : List (List Int32) := rollL st (st.length - 1 - k)
theorem cp_len (st : List (List Int32)) (k : Nat) : (cp st k).length = st.length + 1 := by
  unfold cp
  rw [List.length_append]
  rfl
theorem rl_len (st : List (List Int32)) (k : Nat) : (rl_ st k).length = st.length := rollL_len _ _
abbrev St2 : Type := List (List Int32) × List (List Int32)
def movP (op : Nat) (st alt : List (List Int32)) : Option St2 :=
  if op = 105 then (if st.length = 0 ∨ isT (tp st 0) = false then none else some (dr st 1, alt))
  else if op = 107 then (if st.length < 1 then none else some (dr st 1, alt ++ [tp st 0]))
  else if op = 108 then (if alt.length < 1 then none else some (st ++ [tp alt 0], dr alt 1))
  else if op = 109 then (if st.length < 2 then none else some (dr st 2, alt))
  else if op = 110 then (if st.length < 2 then none else some (cp (cp st 1) 1, alt))
  else if op = 111 then (if st.length < 3 then none else some (cp (cp (cp st 2) 2) 2, alt))
  else if op = 112 then (if st.length < 4 then none else some (cp (cp st 3) 3, alt))
  else if op = 113 then (if st.length < 6 then none else some (rl_ (rl_ st 5) 5, alt))
  else if op = 114 then (if st.length < 4 then none else some (rl_ (rl_ st 3) 3, alt))
  else if op = 115 then (if st.length < 1 then none else some (if isT (tp st 0) = true then cp st 0 else st, alt))
  else if op = 116 then some (st ++ [encI st.length], alt)
  else if op = 117 then (if st.length < 1 then none else some (dr st 1, alt))
  else if op = 118 then (if st.length < 1 then none else some (cp st 0, alt))
  else if op = 119 then (if st.length < 2 then none else some (dr (rl_ st 1) 1, alt))
  else if op = 120 then (if st.length < 2 then none else some (cp st 1, alt))
  else if op = 121 ∨ op = 122 then (if st.length < 1 ∨ 4 < (tp st 0).length then none else if numI (tp st 0) < 0 ∨ ((dr st 1).length : Int) ≤ numI (tp st 0) then none else some (if op = 121 then cp (dr st 1) (numI (tp st 0)).toNat else rl_ (dr st 1) (numI (tp st 0)).toNat, alt))
  else if op = 123 then (if st.length < 3 then none else some (rl_ st 2, alt))
  else if op = 124 then (if st.length < 2 then none else some (rl_ st 1, alt))
  else if op = 125 then (if st.length < 2 then none else some (cp (rl_ st 1) 1, alt))
  else if op = 130 then (if st.length < 1 then none else some (st ++ [encI (tp st 0).length], alt))
  else if op = 135 then (if st.length < 2 then none else some (dr st 2 ++ [tv (decide (tp st 0 = tp st 1))], alt))
  else if op = 136 then (if st.length < 2 ∨ ¬ tp st 0 = tp st 1 then none else some (dr st 2, alt))
  else none
def dgL (K B : List Int32) (op : Nat) (l : List Int32) : List Int32 :=
  if op = 166 then (List.range 20).map (ripD l.length (sl l 0)) else if op = 168 then (List.range 32).map (shaD K B l.length (sl l 0)) else if op = 169 then (List.range 20).map (h160D K B l.length (sl l 0)) else (List.range 32).map (dshD K B l.length (sl l 0))
def latP (st alt : List (List Int32)) (lock seq : Nat) : Option St2 :=
  if st.length < 1 ∨ 5 < (tp st 0).length then none else if numI (tp st 0) < 0 ∨ ¬ (numI (tp st 0) < 500000000 ↔ lock < 500000000) ∨ (lock : Int) < numI (tp st 0) ∨ seq = 4294967295 then none else some (st, alt)
def stepP (K B : List Int32) (lock seq op : Nat) (st alt : List (List Int32)) : Option St2 :=
  if op = 79 ∨ (81 ≤ op ∧ op ≤ 96) then some (st ++ [encI ((op : Int) - 80)], alt)
  else if 139 ≤ op ∧ op ≤ 165 then (match numsP op st with
    | none => none
    | some s => some (s, alt))
  else if 166 ≤ op ∧ op ≤ 170 then (if op = 167 ∨ st.length < 1 then none else some (dr st 1 ++ [dgL K B op (tp st 0)], alt))
  else if op = 97 ∨ op = 176 ∨ (178 ≤ op ∧ op ≤ 185) then some (st, alt)
  else if op = 177 then latP st alt lock seq
  else movP op st alt
/-! what a signature is made for -/
def SgT (h : AH) (Sg q : Nat) (L : List Int32) (t : TxP) (inp : Nat) : Prop := h.kd Sg = 8 ∧ h.r 8006 Sg = q ∧ h.i 8007 Sg = nI inp ∧ TxAt h q L t ∧ inp < t.2.2.1.length ∧ t.2.2.1.length ≤ 40
def lkV (L : List Int32) (t : TxP) : Nat := leV L (t.2.1 - 4) 4
def sqV (L : List Int32) (t : TxP) (inp : Nat) : Nat := leV L ((t.2.2.1.getD inp p0).2.1 + (t.2.2.1.getD inp p0).2.2) 4
section Lock
variable {G : Gx} {d : Nat} {h : AH} {Sg q inp : Nat} {L : List Int32} {t : TxP}
theorem Sg_lock_spec (hd : 1 ≤ d) (H : SgT h Sg q L t inp) : Cw G mX8_lock d 0 [vR Sg] h (kJ (fun x h' => x = lN (lkV L t) ∧ h' = h) nE) := by
  obtain ⟨d, rfl⟩ : ∃ d', d = d' + 1 := ⟨d - 1, by omega⟩
  refine eX8_lock h Sg (fun _ => sX8_lock_0 h Sg ⟨H.1, fun r2 e2 => ?_⟩)
  have e2' : r2 = q := e2.trans H.2.1
  subst e2'
  exact ⟨H.2.2.2.1.1.1, H.2.2.2.1.2.2.2.1, rfl⟩
theorem Sg_sequence_spec (hd : 1 ≤ d) (H : SgT h Sg q L t inp) : Cw G mX8_sequence d 0 [vR Sg] h (kJ (fun x h' => x = lN (sqV L t inp) ∧ h' = h) nE) := by
  obtain ⟨d, rfl⟩ : ∃ d', d = d' + 1 := ⟨d - 1, by omega⟩
  obtain ⟨k1, k2, k3, T, k4, k5⟩ := H
  refine eX8_sequence h Sg (fun _ => sX8_sequence_0 h Sg ⟨k1, fun r2 e2 => ?_⟩)
  have e2' : r2 = q := e2.trans k2
  subst e2'
  refine ⟨T.1.1, fun r4 e4 => ?_⟩
  have e4' : r4 = r2 + 2 := e4.trans T.1.2.2.2.2.2.2
  subst e4'
  rw [k3, T.2.1.2.1, rowF_len, pk_cl inp rfl (by omega), rowF_getD k4 k4]
  refine ⟨T.2.1.1, pk_in inp _ k4, fun r7 e7 => ?_⟩
  subst e7
  have := T.2.1.2.2 inp k4
  exact ⟨this.1, this.2.2.2.2.2, rfl⟩
end Lock
section Later
variable {G : Gx} {d : Nat} {h : AH} {Mc D b0 Sg q inp : Nat} {st alt : List (List Int32)} {L : List Int32} {t : TxP}
set_option maxHeartbeats 1000000 in
theorem Mc_later_spec (hd : 12 ≤ d) (H : MOk h Mc D b0 st alt) (SG : SgT h Sg q L t inp) : Cw G mX7_later d 0 [vR Mc, vR Sg] h (kV (fun h' => ∃ s, latP st alt (lkV L t) (sqV L t inp) = some s ∧ MI h h' Mc D b0 s.1 s.2) (fun y h' => latP st alt (lkV L t) (sqV L t inp) = none ∧ ThrM h h' Mc D b0 y)) := by
  obtain ⟨d, rfl⟩ : ∃ d', d = d' + 1 := ⟨d - 1, by omega⟩
  have hd1 : 10 ≤ d := by omega
  have hlk : lkV L t < 256 ^ 4 := leV_lt _ _ _
  have hsq : sqV L t inp < 256 ^ 4 := leV_lt _ _ _
  rw [show (256 : Nat) ^ 4 = 4294967296 by decide] at hlk hsq
  have none1 : st.length < 1 ∨ 5 < (tp st 0).length → latP st alt (lkV L t) (sqV L t inp) = none := fun z => by
    unfold latP
    rw [if_pos z]
  refine eX7_later h Mc Sg (fun wf => sX7_later_0 h Mc Sg ⟨H.1.1, k_top (k := 0) hd1 (by decide) (MI.rf H) (fun q1 x hx ex => ⟨ex.1.1, k_num (m := 5) hd1 (by decide) (MI.rf H) ex (fun q2 => ?_) (fun q2 y h' T => ⟨none1 (Or.inr q2), T⟩)⟩) (fun q1 y h' T => ⟨none1 (Or.inl (by omega)), T⟩)⟩)
  have hn := numI_lt q2
  rw [show (256 : Nat) ^ 5 = 2 ^ 40 by decide] at hn
  have hN : latP st alt (lkV L t) (sqV L t inp) = if numI (tp st 0) < 0 ∨ ¬ (numI (tp st 0) < 500000000 ↔ lkV L t < 500000000) ∨ (lkV L t : Int) < numI (tp st 0) ∨ sqV L t inp = 4294967295 then none else some (st, alt) := by
    unfold latP
    rw [if_neg (by omega)]
  generalize numI (tp st 0) = a at *
  generalize elk : lkV L t = lk at *
  generalize esq : sqV L t inp = sq at *
  have za : lZ a < 0 ↔ a < 0 := lZ_lt (b := 0) (by omega) (by decide)
  have l5 : (500000000 : Int64) ≤ lZ a ↔ 500000000 ≤ a := lZ_le (a := 500000000) (by decide) (by omega)
  have k5 : (500000000 : Int64) ≤ lN lk ↔ 500000000 ≤ lk := lN_le63 (a := 500000000) (by decide) (by omega)
  have ka : lN lk < lZ a ↔ (lk : Int) < a := by rw [lZ_n]; exact lZ_lt (by omega) (by omega)
  have s5 : lN sq = 4294967295 ↔ sq = 4294967295 := lN_eq63 (b := 4294967295) (by omega) (by decide)
  have bad : ∀ {K : AH → Prop} {E : Nat → AH → Prop}, (a < 0 ∨ ¬ (a < 500000000 ↔ lk < 500000000) ∨ (lk : Int) < a ∨ sq = 4294967295) → (latP st alt lk sq = none → ∀ y h', ThrM h h' Mc D b0 y → E y h') → Cw G mX7_need d 0 [vR Mc, vI 0] h (kV K E) := fun z hE =>
    k_need hd1 (MI.rf H) (fun z => absurd rfl z) (fun _ y h' T => hE (by rw [hN, if_pos z]) y h' T)
  have tl : ∀ {K : AH → Prop} {E : Nat → AH → Prop}, (a < 500000000 ↔ lk < 500000000) → ¬ a < 0 → (latP st alt lk sq = some (st, alt) → K h) → (latP st alt lk sq = none → ∀ y h', ThrM h h' Mc D b0 y → E y h') →
      Cw G mX8_lock d 0 [vR Sg] h (kJ (fun x23 h24 => ((x23 < lZ a → Cw G mX7_need d 0 [vR Mc, vI 0] h24 (kV K E)) ∧ (¬ x23 < lZ a → Cw G mX8_sequence d 0 [vR Sg] h24 (kJ (fun x33 h34 => ((x33 = 4294967295 → Cw G mX7_need d 0 [vR Mc, vI 0] h34 (kV K E)) ∧ (¬ x33 = 4294967295 → Cw G mX7_need d 0 [vR Mc, vI 1] h34 (kV K E)))) E)))) E) := fun c1 c2 hK hE =>
    (Sg_lock_spec (by omega) SG).nJ (fun x23 h24 Q => by
      obtain ⟨rfl, rfl⟩ := Q
      rw [elk, ka]
      refine ⟨fun c3 => bad (Or.inr (Or.inr (Or.inl c3))) hE, fun c3 => (Sg_sequence_spec (by omega) SG).nJ (fun x33 h34 Q => ?_)⟩
      obtain ⟨rfl, rfl⟩ := Q
      rw [esq, s5]
      refine ⟨fun c4 => bad (Or.inr (Or.inr (Or.inr c4))) hE, fun c4 => k_need hd1 (MI.rf H) (fun _ => hK ?_) (fun z => absurd z (by decide))⟩
      rw [hN, if_neg (by omega)])
  have gd : latP st alt lk sq = some (st, alt) → ∃ s, latP st alt lk sq = some s ∧ MI h h Mc D b0 s.1 s.2 := fun e => ⟨_, e, MI.rf H⟩
  rw [za, l5]
  refine ⟨fun c => bad (Or.inl c) (fun e y h' T => ⟨e, T⟩), fun c => ⟨fun c5 => ⟨SG.1, (Sg_lock_spec (by omega) SG).nJ (fun x13 h14 Q => ?_)⟩, fun c5 => ⟨SG.1, (Sg_lock_spec (by omega) SG).nJ (fun x85 h86 Q => ?_)⟩⟩⟩
  · obtain ⟨rfl, rfl⟩ := Q
    rw [elk, k5]
    exact ⟨fun c6 => ⟨fun c => absurd (by decide) c, fun _ => tl (by omega) c gd (fun e y h' T => ⟨e, T⟩)⟩, fun c6 => ⟨fun _ => bad (Or.inr (Or.inl (by omega))) (fun e y h' T => ⟨e, T⟩), fun c => absurd c (by decide)⟩⟩
  · obtain ⟨rfl, rfl⟩ := Q
    rw [elk, k5]
    exact ⟨fun c6 => ⟨fun _ => bad (Or.inr (Or.inl (by omega))) (fun e y h' T => ⟨e, T⟩), fun c => absurd c (by decide)⟩, fun c6 => ⟨fun c => absurd (by decide) c, fun _ => tl (by omega) c gd (fun e y h' T => ⟨e, T⟩)⟩⟩
end Later
section Dgst
variable {G : Gx} {d : Nat} {hB h : AH} {Mc D b0 : Nat} {st alt : List (List Int32)} {K B : List Int32}
/-- the frame of a step: digests are made too -/
def sP (h : AH) (Mc D y : Nat) : Prop := mP h Mc y ∨ y = Mc + 7 ∨ dgQ D y
def SFr (h h' : AH) (Mc D : Nat) : Prop := Same (sP h Mc D) h h' ∧ h'.z + 2 * nul h' Mc = h.z + 2 * nul h Mc ∧ h'.s + 522 * nul h' Mc = h.s + 522 * nul h Mc ∧ nnM h h' Mc
theorem MFr.S {h h' : AH} {Mc D : Nat} (F : MFr h h' Mc) : SFr h h' Mc D := ⟨F.1.mono (fun _ _ p => Or.inl p), F.2⟩
/-- a row of digests and the machine's rows change: the stacks stay -/
theorem MOk.mod {P : Nat → Prop} {h' : AH} (H : MOk h Mc D b0 st alt) (wf : WF G h) (M : Mod P h h') (hP : ∀ y, P y → y < b0 ∧ y ≠ Mc) : MOk h' Mc D b0 st alt := by
  obtain ⟨H1, T, hb, hb2, hi, S1, S2⟩ := H
  have ea : ∀ v, v < 3 → h'.ar (Mc + 1 + v) = h.ar (Mc + 1 + v) := fun v hv => by rw [M.ar]
  have ce : ∀ j, j < 3012 → elA h Mc j ≠ 0 → eqAt h h' (elA h Mc j) ∧ eqAt h h' (elA h Mc j + 1) := fun j hj hj0 => by
    have tb := (T j hj hj0).1
    exact ⟨⟨by rw [M.kd], fun _ => by rw [M.r], fun _ => by rw [M.i], fun _ => by rw [M.l], M.ai (fun p => by have := (hP _ p).1; omega), by rw [M.al], by rw [M.ar]⟩, ⟨by rw [M.kd], fun _ => by rw [M.r], fun _ => by rw [M.i], fun _ => by rw [M.l], M.ai (fun p => by have := (hP _ p).1; omega), by rw [M.al], by rw [M.ar]⟩⟩
  refine ⟨?_, fun j hj hj0 => ?_, by rw [M.z]; exact hb, hb2, by rw [M.i]; exact hi, S1.keep (by have := hi.2.2.1; omega) (fun j hj => ⟨elA_eq ea (by have := hi.2.2.1; omega), ce _ (by have := hi.2.2.1; omega) (S1 j hj).1⟩), S2.keep (by have := hi.2.2.2; omega) (fun j hj => ⟨elA_eq ea (by have := hi.2.2.2; omega), ce _ (by have := hi.2.2.2; omega) (S2 j hj).1⟩)⟩
  · unfold MchS at H1 ⊢
    rw [M.kd, M.r, M.ar]
    simp only [M.len]
    exact H1
  · rw [elA_eq ea hj] at hj0 ⊢
    obtain ⟨t1, t2, t3⟩ := T j hj hj0
    have := ce j hj hj0
    exact ⟨t1, t2.eq this.1 this.2.ln, fun i hi e => t3 i hi (by rw [← elA_eq ea hi]; exact e)⟩
theorem dig_fin {op n x : Nat} {h1 : AH} {P : Nat → Prop} {g : Nat → Int32} (hd : 12 ≤ d) (H : MOk h Mc D b0 st alt) (wf1 : WF G h1) (hDM : D + 15 < Mc) (h0 : 0 < st.length) (hx : x = elA h Mc (st.length - 1 - 0)) (ex : ElAt h x (tp st 0)) (wf : WF G h)
    (M : Mod P h h1) (hP : ∀ y, P y → dgQ D y ∨ y = Mc + 7) (hn : n ≤ 32) (hm : h1.ai (Mc + 7) = putB (h.ai (Mc + 7)) 0 n g) (hg : dgL K B op (tp st 0) = (List.range n).map g) {Kc : Nat → AH → Prop} {E : Nat → AH → Prop}
    (hK : ∀ h', MOk h' Mc D b0 (dr st 1 ++ [dgL K B op (tp st 0)]) alt ∧ SFr h h' Mc D ∧ Kp [7004, 7005] Mc h h' → Kc x h') : Cw G mX22_set d 0 [vR x, vR (Mc + 7), vI (nI 0), vI (nI n)] h1 (kR Kc E) := by
  have hb2 := H.2.2.2.1
  have H1 : MOk h1 Mc D b0 st alt := H.mod wf M (fun y p => by
    have := hP y p
    simp only [dgQ] at this
    omega)
  have sl := H.2.2.2.2.2.1 (st.length - 1) (by omega)
  rw [Nat.zero_add] at sl
  rw [Nat.sub_zero] at hx
  have xb := (H.2.1 _ (by have := H.2.2.2.2.1.2.2.1; omega) sl.1).1
  rw [← hx] at xb
  have es : ElS h1 x := by
    have s1 := H1.2.2.2.2.2.1 (st.length - 1) (by omega)
    rw [Nat.zero_add] at s1
    have : elA h1 Mc (st.length - 1) = x := by rw [hx]; exact elA_eq (fun v hv => by rw [M.ar]) (by have := H.2.2.2.2.1.2.2.1; omega)
    rw [← this]
    exact s1.2.1
  have l7 : (h1.ai (Mc + 7)).length = 32 := by rw [M.len]; exact H.1.2.2.2.2.2.2.2.2.2.1
  refine (El_set_spec (by omega) es (by rw [M.kd]; exact H.1.2.2.1.2.2.2.2.2.2.1) (by omega) (by omega) (by omega) (by omega)).nR (fun y h2 Q => ?_)
  obtain ⟨rfl, rfl⟩ := Q
  have hx1 : y = elA h1 Mc (st.length - 1 - 0) := by rw [Nat.sub_zero, hx]; exact (elA_eq (fun v hv => by rw [M.ar]) (by have := H.2.2.2.2.1.2.2.1; omega)).symm
  have EA : ElAt ((h1.wi (y + 1) (putB (h1.ai (y + 1)) 0 n (fun i => (h1.ai (Mc + 7)).getD (0 + i) 0))).pi 22001 y (nI n)) y (dgL K B op (tp st 0)) := ElAt.set (n := n) (g := fun i => (h1.ai (Mc + 7)).getD (0 + i) 0) es (by omega) (fun i hi => by
    show _ = (h1.ai (Mc + 7)).getD (0 + i) 0
    rw [hg, mapR_getD hi, hm, Nat.zero_add, putB_getD _ _ _ _ (by rw [← M.len, l7]; omega), if_pos ⟨Nat.zero_le _, by omega⟩, Nat.sub_zero]) (by rw [hg, mapR_len])
  have I2 := (MI.rf H1).settop (l := dgL K B op (tp st 0)) wf1 h0 hx1 (Same.el (by rw [putB_len])) rfl rfl EA
  · refine hK _ ⟨I2.1, ⟨?_, ?_, ?_, ?_⟩, ?_⟩
    · refine (Same.rf.mod M (fun z _ p => ?_)).trans I2.2.1.1 (fun z hz p => Or.inl (mP_back (Same.rf.mod M (fun z _ p => p)) (fun _ => by rw [M.ar]) hz p))
      rcases hP z p with q | q
      · exact Or.inr (Or.inr q)
      · exact Or.inr (Or.inl q)
    · rw [I2.2.1.2.1, M.z, nul_eq (h := h) (fun v hv => by rw [M.ar])]
    · rw [I2.2.1.2.2.1, M.s, nul_eq (h := h) (fun v hv => by rw [M.ar])]
    · exact fun j hj q => I2.2.1.2.2.2 j hj (by rw [elA_eq (h := h) (fun v hv => by rw [M.ar]) (by omega)]; exact q)
    · have : Kp [7004, 7005] Mc h h1 := fun k _ => ⟨by rw [M.r], by rw [M.i], by rw [M.l]⟩
      exact this.trans I2.2.2 (fun _ q => q)
end Dgst

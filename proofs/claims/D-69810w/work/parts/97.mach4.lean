/-! the component's stack machine: roll, numbers -/
set_option maxRecDepth 100000
/-- where the element at j comes from, if the i-th of n comes to the top -/
def rp (i n j : Nat) : Nat := if j < i then j else if j + 1 < n then j + 1 else i
def rollL (st : List (List Int32)) (i : Nat) : List (List Int32) := (List.range st.length).map (fun j => st.getD (rp i st.length j) [])
theorem rollL_len (st : List (List Int32)) (i : Nat) : (rollL st i).length = st.length := mapR_len _ _
theorem rollL_getD {st : List (List Int32)} {i j : Nat} (h : j < st.length) : (rollL st i).getD j [] = st.getD (rp i st.length j) [] := mapR_getD h
theorem rp_lt {i n j : Nat} (hi : i < n) (hj : j < n) : rp i n j < n := by
  unfold rp
  split
  · omega
  · split <;> omega
theorem rp_inj {i n a b : Nat} (hi : i < n) (ha : a < n) (hb : b < n) (e : rp i n a = rp i n b) : a = b := by
  unfold rp at e
  split at e
  · split at e
    · omega
    · split at e <;> omega
  · split at e
    · split at e
      · omega
      · split at e <;> omega
    · split at e
      · omega
      · split at e <;> omega
/-- the row of elements, turned so -/
def rotR (l : List Nat) (i n : Nat) : List Nat := (List.range l.length).map (fun j => if j < n then l.getD (rp i n j) 0 else l.getD j 0)
theorem rotR_len (l : List Nat) (i n : Nat) : (rotR l i n).length = l.length := mapR_len _ _
theorem rotR_getD {l : List Nat} {i n j : Nat} (h : j < l.length) : (rotR l i n).getD j 0 = if j < n then l.getD (rp i n j) 0 else l.getD j 0 := mapR_getD h
theorem cz_congr : ∀ {l l' : List Nat}, l.length = l'.length → (∀ j, j < l.length → (l'.getD j 0 = 0 ↔ l.getD j 0 = 0)) → cz l' = cz l
  | [], [], _, _ => rfl
  | [], y :: r', h, _ => by simp at h
  | x :: r, [], h, _ => by simp at h
  | x :: r, y :: r', h, e => by
    have h0 := e 0 (by simp)
    have h1 := cz_congr (l := r) (l' := r') (by simpa using h) (fun j hj => by
      have := e (j + 1) (by simp; omega)
      simpa using this)
    show (if y = 0 then 1 else 0) + cz r' = (if x = 0 then 1 else 0) + cz r
    have h2 : y = 0 ↔ x = 0 := by simpa using h0
    rw [h1]
    by_cases c : x = 0
    · rw [if_pos c, if_pos (h2.mpr c)]
    · rw [if_neg c, if_neg (fun q => c (h2.mp q))]
theorem AH.wr_wr (h : AH) (a : Nat) (u v : List Nat) : (h.wr a u).wr a v = h.wr a v := by
  unfold AH.wr
  congr 1
  funext x
  show (if x = a then v else if x = a then u else h.ar x) = if x = a then v else h.ar x
  by_cases e : x = a
  · rw [if_pos e, if_pos e]
  · rw [if_neg e, if_neg e, if_neg e]
theorem AH.wr_self (h : AH) (a : Nat) : h.wr a (h.ar a) = h := by
  have : up1 h.ar a (h.ar a) = h.ar := by
    funext x
    show (if x = a then h.ar a else h.ar x) = h.ar x
    by_cases e : x = a
    · rw [if_pos e, e]
    · rw [if_neg e]
  unfold AH.wr
  rw [this]
  rfl
section Roll
variable {G : Gx} {d : Nat} {hB h : AH} {Mc D b0 : Nat} {st alt : List (List Int32)}
theorem Mc_roll_spec {k : Nat} (hd : 11 ≤ d) (hk : k < 2000) (H : MOk h Mc D b0 st alt) : Cw G mX7_roll d 0 [vR Mc, vI (nI k)] h (kV (fun h' => k < st.length ∧ MI h h' Mc D b0 (rollL st (st.length - 1 - k)) alt) (fun y h' => st.length ≤ k ∧ ThrM h h' Mc D b0 y)) := by
  obtain ⟨d, rfl⟩ : ∃ d', d = d' + 1 := ⟨d - 1, by omega⟩
  refine eX7_roll h Mc (nI k) (fun wf => sX7_roll_0 h Mc (nI k) ⟨H.1.1, k_top (by omega) hk (MI.rf H) (fun c x hx ex => ?_) (fun c y h' T => ⟨c, T⟩)⟩)
  obtain ⟨H1, T, hb, hb2, ⟨i1, i2, i3, i4⟩, S1, S2⟩ := H
  obtain ⟨n, hn⟩ : ∃ n, n = st.length := ⟨_, rfl⟩
  obtain ⟨i, hi⟩ : ∃ i, i = n - 1 - k := ⟨_, rfl⟩
  have ex1 : nI st.length - 1 - nI k = nI i := by rw [show (1 : Int32) = nI 1 from rfl, pk_sub (by omega), pk_sub (by omega), hi, hn]
  rw [i1, ex1]
  have hin : i < n := by omega
  have lr : (h.ar (Mc + 1)).length = 1004 := H1.2.2.2.1
  have eA : ∀ j, j < 1004 → elA h Mc j = (h.ar (Mc + 1)).getD j 0 := fun j hj => by
    have := elA_w (h := h) (Mc := Mc) (w := 0) (k := j) hj
    rw [Nat.mul_zero, Nat.zero_add, Nat.add_zero] at this
    exact this
  have nz : ∀ j, j < n → (h.ar (Mc + 1)).getD j 0 ≠ 0 := fun j hj => by
    have := (S1 j (by omega)).1
    rw [Nat.zero_add, eA j (by omega)] at this
    exact this
  have kd22 : ∀ j, j < n → h.kd ((h.ar (Mc + 1)).getD j 0) = 22 := fun j hj => by
    have := (T j (by omega) (by rw [eA j (by omega)]; exact nz j hj)).2.1.1
    rw [eA j (by omega)] at this
    exact this
  have exx : x = (h.ar (Mc + 1)).getD i 0 := by rw [hx, ← hn, ← hi, eA i (by omega)]
  have key := loop_up (n := n - 1) (P := fun j (R : List Nat) => Aw G mX7_roll (d + 1) 0 h (kV (fun h' => k < st.length ∧ MI h h' Mc D b0 (rollL st (st.length - 1 - k)) alt) (fun y h' => st.length ≤ k ∧ ThrM h h' Mc D b0 y)) 15 [vR Mc, vU, vR x, vI (nI j)] [] (h.wr (Mc + 1) R))
    (fun j R => i ≤ j ∧ R.length = 1004 ∧ ∀ m, R.getD m 0 = if i ≤ m ∧ m < j then (h.ar (Mc + 1)).getD (m + 1) 0 else (h.ar (Mc + 1)).getD m 0) (fun j R hj hI ih => ?_) (fun R hI => ?_) i (h.ar (Mc + 1)) (by omega) ⟨Nat.le_refl _, lr, fun m => by rw [if_neg (by omega)]⟩
  · rw [AH.wr_self] at key; exact key
  · obtain ⟨hij, lR, gR⟩ := hI
    refine sX7_roll_15 _ Mc x (nI j) ⟨H1.1, ?_⟩
    have e4 : (h.wr (Mc + 1) R).i 7004 Mc - 1 = nI (n - 1) := by
      show h.i 7004 Mc - 1 = _
      rw [i1, show (1 : Int32) = nI 1 from rfl, pk_sub (by omega), hn]
    rw [e4]
    refine pk_le (n - 1) j (fun q => absurd q (by omega)) (fun _ r8 e8 => ?_)
    have e8' : r8 = Mc + 1 := e8.trans H1.2.1.2.1
    subst e8'
    have ar : (h.wr (Mc + 1) R).ar (Mc + 1) = R := by rw [AH.ar_wr, if_pos rfl]
    rw [ar, lR, nI_1, pk_cl (j + 1) rfl (by omega), pk_cl j rfl (by omega)]
    refine ⟨H1.2.2.1.1, pk_in (j + 1) 1004 (by omega), fun r11 e11 => ⟨pk_in j 1004 (by omega), Or.inr ?_, fun h14 e14 => ?_⟩⟩
    · rw [e11, gR (j + 1), if_neg (by omega)]
      exact kd22 (j + 1) (by omega)
    · rw [e14, AH.wr_wr]
      refine ih _ ⟨by omega, by rw [List.length_set, lR], fun m => ?_⟩
      have g1 : R.getD (j + 1) 0 = (h.ar (Mc + 1)).getD (j + 1) 0 := by rw [gR, if_neg (by omega)]
      rw [getD_sif, lR, e11, g1]
      by_cases q : m = j
      · rw [if_pos ⟨q, by omega⟩, if_pos (by omega), q]
      · rw [if_neg (fun z => q z.1), gR m]
        by_cases q2 : i ≤ m ∧ m < j
        · rw [if_pos q2, if_pos (by omega)]
        · rw [if_neg q2, if_neg (by omega)]
  · obtain ⟨hij, lR, gR⟩ := hI
    refine sX7_roll_15 _ Mc x (nI (n - 1)) ⟨H1.1, ?_⟩
    have e4 : (h.wr (Mc + 1) R).i 7004 Mc - 1 = nI (n - 1) := by
      show h.i 7004 Mc - 1 = _
      rw [i1, show (1 : Int32) = nI 1 from rfl, pk_sub (by omega), hn]
    rw [e4]
    refine pk_le (n - 1) (n - 1) (fun _ r3 e3 => ?_) (fun q => absurd q (by omega))
    have e3' : r3 = Mc + 1 := e3.trans H1.2.1.2.1
    subst e3'
    have ar : (h.wr (Mc + 1) R).ar (Mc + 1) = R := by rw [AH.ar_wr, if_pos rfl]
    rw [ar, lR, pk_cl (n - 1) rfl (by omega), AH.wr_wr]
    refine ⟨H1.2.2.1.1, pk_in (n - 1) 1004 (by omega), Or.inr ex.1.1, fun h7 e7 => ⟨c, ?_⟩⟩
    have eR : R.set (n - 1) x = rotR (h.ar (Mc + 1)) i n := by
      refine ext_getD (z := 0) (by rw [List.length_set, lR, rotR_len, lr]) (fun m hm => ?_)
      rw [List.length_set, lR] at hm
      rw [getD_sif, lR, rotR_getD (by omega), exx]
      unfold rp
      by_cases q : m = n - 1
      · rw [if_pos ⟨q, by omega⟩, if_pos (by omega)]
        by_cases q2 : m < i
        · omega
        · rw [if_neg q2, if_neg (by omega)]
      · rw [if_neg (fun z => q z.1), gR m]
        by_cases q3 : m < n
        · rw [if_pos q3]
          by_cases q2 : m < i
          · rw [if_neg (by omega), if_pos q2]
          · rw [if_pos (by omega), if_neg q2, if_pos (by omega)]
        · rw [if_neg (by omega), if_neg q3]
    rw [eR] at e7
    have Sw : Same (fun y => y = Mc + 1) h h7 := by rw [e7]; exact Same.rf.wr _ (rotR_len _ _ _) (Or.inl rfl)
    have e7a : h7.ar (Mc + 1) = rotR (h.ar (Mc + 1)) i n := by rw [e7, AH.ar_wr, if_pos rfl]
    have e7o : ∀ v, v < 3 → v ≠ 0 → h7.ar (Mc + 1 + v) = h.ar (Mc + 1 + v) := fun v hv h0 => by rw [e7, AH.ar_wr, if_neg (by omega)]
    have el : ∀ j, j < 3012 → elA h7 Mc j = elA h Mc (if j < n then rp i n j else j) := fun j hj => by
      by_cases q : j < n
      · rw [if_pos q, eA _ (by have := rp_lt hin q; omega)]
        have := elA_w (h := h7) (Mc := Mc) (w := 0) (k := j) (by omega)
        rw [Nat.mul_zero, Nat.zero_add, Nat.add_zero] at this
        rw [this, e7a, rotR_getD (by omega), if_pos q]
      · rw [if_neg q]
        by_cases q2 : j < 1004
        · rw [eA j q2]
          have := elA_w (h := h7) (Mc := Mc) (w := 0) (k := j) (by omega)
          rw [Nat.mul_zero, Nat.zero_add, Nat.add_zero] at this
          rw [this, e7a, rotR_getD (by omega), if_neg q]
        · unfold elA
          rw [e7o _ (by omega) (by omega)]
    have pj : ∀ j, j < 3012 → (if j < n then rp i n j else j) < 3012 := fun j hj => by
      split
      · rename_i q; have := rp_lt hin q; omega
      · exact hj
    have pinj : ∀ a b, a < 3012 → b < 3012 → (if a < n then rp i n a else a) = (if b < n then rp i n b else b) → a = b := fun a b ha hb e => by
      by_cases qa : a < n
      · rw [if_pos qa] at e
        by_cases qb : b < n
        · rw [if_pos qb] at e; exact rp_inj hin qa qb e
        · rw [if_neg qb] at e; have := rp_lt hin qa; omega
      · rw [if_neg qa] at e
        by_cases qb : b < n
        · rw [if_pos qb] at e; have := rp_lt hin qb; omega
        · rw [if_neg qb] at e; exact e
    have keep : ∀ j, j < 3012 → elA h Mc j ≠ 0 → eqAt h h7 (elA h Mc j) ∧ eqAt h h7 (elA h Mc j + 1) := fun j hj hj0 => by
      obtain ⟨tz, tz1⟩ := T.lt wf hj hj0
      have tb := (T j hj hj0).1
      exact ⟨Sw.2.2 _ tz (by omega), Sw.2.2 _ tz1 (by omega)⟩
    have eMc : eqAt h h7 Mc := Sw.2.2 Mc (by omega) (by omega)
    have hnul : nul h7 Mc = nul h Mc := by
      have hc : cz (h7.ar (Mc + 1)) = cz (h.ar (Mc + 1)) := by
        rw [e7a]
        refine cz_congr (rotR_len _ _ _).symm (fun j hj => ?_)
        rw [rotR_getD hj]
        by_cases q : j < n
        · rw [if_pos q]
          exact ⟨fun z => absurd z (nz _ (rp_lt hin q)), fun z => absurd z (nz _ q)⟩
        · rw [if_neg q]
      have h2 := e7o 1 (by decide) (by decide)
      have h3 := e7o 2 (by decide) (by decide)
      unfold nul
      rw [hc]
      show cz _ + cz (h7.ar (Mc + 1 + 1)) + cz (h7.ar (Mc + 1 + 2)) = _
      rw [h2, h3]
    refine ⟨⟨H1.same Sw (by omega) (fun q => eMc.2.1 q), fun j hj hj0 => ?_, by have := Sw.1; omega, hb2, ⟨?_, ?_, ?_, i4⟩, fun j hj => ?_, fun j hj => ?_⟩, ⟨Sw.mono (fun y hy q => Or.inl (by omega)), by rw [hnul, e7]; rfl, by rw [hnul, e7]; rfl, fun j hj q => by
      rw [el j (by omega)]
      by_cases q2 : j < n
      · rw [if_pos q2, eA _ (by have := rp_lt hin q2; omega)]
        exact nz _ (rp_lt hin q2)
      · rw [if_neg q2]; exact q⟩, Kp.eq eMc⟩
    · rw [el j hj] at hj0 ⊢
      obtain ⟨t1, t2, t3⟩ := T _ (pj j hj) hj0
      have kp := keep _ (pj j hj) hj0
      refine ⟨t1, t2.eq kp.1 kp.2.ln, fun a ha e => ?_⟩
      rw [el a ha] at e
      exact pinj a j ha hj (t3 _ (pj a ha) e)
    · rw [eMc.2.2.1, rollL_len]; exact i1
    · rw [eMc.2.2.1]; exact i2
    · rw [rollL_len]; exact i3
    · rw [rollL_len] at hj
      rw [rollL_getD hj, Nat.zero_add, el j (by omega), if_pos (by omega), ← hn, ← hi]
      have s1 := S1 (rp i n j) (by have := rp_lt hin (show j < n by omega); omega)
      rw [Nat.zero_add] at s1
      have kp := keep _ (by have := rp_lt hin (show j < n by omega); omega) s1.1
      exact ⟨s1.1, s1.2.eq kp.1 kp.2⟩
    · have s2 := S2 j hj
      rw [el _ (by omega), if_neg (by omega)]
      have kp := keep _ (by omega) s2.1
      exact ⟨s2.1, s2.2.eq kp.1 kp.2⟩
theorem k_roll {k : Nat} {K : AH → Prop} {E : Nat → AH → Prop} (hd : 11 ≤ d) (hk : k < 2000) (I : MI hB h Mc D b0 st alt) (hK : k < st.length → ∀ h', MI hB h' Mc D b0 (rollL st (st.length - 1 - k)) alt → K h') (hE : st.length ≤ k → ∀ y h', ThrM hB h' Mc D b0 y → E y h') : Cw G mX7_roll d 0 [vR Mc, vI (nI k)] h (kV K E) :=
  (Mc_roll_spec hd hk I.1).toV (fun h' _ _ Q => hK Q.1 h' ⟨Q.2.1, I.2.1.trans Q.2.2.1, I.2.2.trans Q.2.2.2 (fun _ q => q)⟩) (fun y h' _ _ Q => hE Q.1 y h' (Q.2.aft I.2.1))
end Roll
/-! numbers of the stack -/
section LZ
variable {a b : Int}
theorem lZ_lt (ha : a.natAbs < 2 ^ 62) (hb : b.natAbs < 2 ^ 62) : lZ a < lZ b ↔ a < b := by
  rw [Int64.lt_iff_toInt_lt, lZ_toInt (by omega) (by omega), lZ_toInt (by omega) (by omega)]
theorem lZ_le (ha : a.natAbs < 2 ^ 62) (hb : b.natAbs < 2 ^ 62) : lZ a ≤ lZ b ↔ a ≤ b := by
  rw [Int64.le_iff_toInt_le, lZ_toInt (by omega) (by omega), lZ_toInt (by omega) (by omega)]
theorem lZ_eq (ha : a.natAbs < 2 ^ 62) (hb : b.natAbs < 2 ^ 62) : lZ a = lZ b ↔ a = b := by
  refine ⟨fun e => ?_, fun e => by rw [e]⟩
  have := congrArg Int64.toInt e
  rw [lZ_toInt (by omega) (by omega), lZ_toInt (by omega) (by omega)] at this
  exact this
end LZ
def un1 (op : Nat) (a : Int) : List Int32 := if op = 139 then encI (a + 1) else if op = 140 then encI (a - 1) else if op = 143 then encI (-a) else if op = 144 then encI a.natAbs else if op = 145 then tv (decide (a = 0)) else tv (decide (¬ a = 0))
def bi2 (op : Nat) (a b : Int) : List Int32 := if op = 147 then encI (a + b) else if op = 148 then encI (a - b) else if op = 154 then tv (decide (¬ a = 0 ∧ ¬ b = 0)) else if op = 155 then tv (decide (¬ a = 0 ∨ ¬ b = 0)) else if op = 156 then tv (decide (a = b)) else if op = 158 then tv (decide (¬ a = b))
  else if op = 159 then tv (decide (a < b)) else if op = 160 then tv (decide (b < a)) else if op = 161 then tv (decide (a ≤ b)) else if op = 162 then tv (decide (b ≤ a)) else if op = 163 then encI (if b < a then b else a) else encI (if a < b then b else a)
def numsP (op : Nat) (st : List (List Int32)) : Option (List (List Int32)) :=
  if op ≤ 146 then (if st.length < 1 ∨ 4 < (tp st 0).length then none else some (dr st 1 ++ [un1 op (numI (tp st 0))]))
  else if op = 165 then (if st.length < 3 ∨ 4 < (tp st 2).length ∨ 4 < (tp st 1).length ∨ 4 < (tp st 0).length then none else some (dr st 3 ++ [tv (decide (numI (tp st 1) ≤ numI (tp st 2) ∧ numI (tp st 2) < numI (tp st 0)))]))
  else (if st.length < 2 ∨ 4 < (tp st 1).length ∨ 4 < (tp st 0).length then none else if op = 157 then (if numI (tp st 1) = numI (tp st 0) then some (dr st 2) else none) else some (dr st 2 ++ [bi2 op (numI (tp st 1)) (numI (tp st 0))]))
theorem tv_t {P : Prop} [Decidable P] (h : P) : tv (decide P) = if (1 : Int32) = 0 then [] else [1] := by
  rw [decide_eq_true h]; rfl
theorem tv_f {P : Prop} [Decidable P] (h : ¬ P) : tv (decide P) = if (0 : Int32) = 0 then [] else [1] := by
  rw [decide_eq_false h]; rfl
section Numbers
variable {G : Gx} {d : Nat} {hB h : AH} {Mc D b0 : Nat} {st alt : List (List Int32)}
set_option maxHeartbeats 1000000 in
theorem Mc_numbers_spec {op : Nat} (hd : 12 ≤ d) (hop : op < 256) (hs : st.length + alt.length ≤ 1000) (H : MOk h Mc D b0 st alt) : Cw G mX7_numbers d 0 [vR Mc, vI (nI op)] h (kV (fun h' => ∃ st', numsP op st = some st' ∧ MI h h' Mc D b0 st' alt) (fun y h' => numsP op st = none ∧ ThrM h h' Mc D b0 y)) := by
  obtain ⟨d, rfl⟩ : ∃ d', d = d' + 1 := ⟨d - 1, by omega⟩
  have hd1 : 10 ≤ d := by omega
  refine eX7_numbers h Mc (nI op) (fun wf => sX7_numbers_0 h Mc (nI op) (pk_lt 146 op (fun c146 => pk_eq' op 165 (fun c165 => ⟨H.1.1, ?_⟩) (fun c165 => ⟨H.1.1, ?_⟩)) (fun c146 => ⟨H.1.1, ?_⟩)))
  · have none2 : st.length < 2 ∨ 4 < (tp st 1).length ∨ 4 < (tp st 0).length → numsP op st = none := fun q => by
      unfold numsP
      rw [if_neg (by omega), if_neg c165, if_pos q]
    refine k_top (k := 1) hd1 (by decide) (MI.rf H) (fun q1 x3 hx3 ex3 => ⟨ex3.1.1, k_num (m := 4) hd1 (by decide) (MI.rf H) ex3 (fun q2 => k_top (k := 0) hd1 (by decide) (MI.rf H) (fun q3 x9 hx9 ex9 => ⟨ex9.1.1, k_num (m := 4) hd1 (by decide) (MI.rf H) ex9 (fun q4 => k_drop (k := 2) hd1 (by decide) (MI.rf H) (fun q5 h17 I => ?_) (fun q5 => absurd q1 (by omega))) (fun q4 y h' T => ⟨none2 (Or.inr (Or.inr q4)), T⟩)⟩) (fun q3 => absurd q1 (by omega))) (fun q2 y h' T => ⟨none2 (Or.inr (Or.inl q2)), T⟩)⟩) (fun q1 y h' T => ⟨none2 (Or.inl (by omega)), T⟩)
    have ha := numI_lt q2
    have hb := numI_lt q4
    generalize ea : numI (tp st 1) = a at *
    generalize eb : numI (tp st 0) = b at *
    have h4 : (256 : Nat) ^ 4 = 2 ^ 32 := by decide
    rw [h4] at ha hb
    have hs2 : (dr st 2).length + alt.length < 1003 := by rw [dr_len]; omega
    have hN : numsP op st = if op = 157 then (if a = b then some (dr st 2) else none) else some (dr st 2 ++ [bi2 op a b]) := by
      unfold numsP
      rw [if_neg (by omega), if_neg c165, if_neg (by omega), ea, eb]
    have fin : ∀ {h' : AH} {l : List Int32}, MI h h' Mc D b0 (dr st 2 ++ [l]) alt → op ≠ 157 → bi2 op a b = l → ∃ st', numsP op st = some st' ∧ MI h h' Mc D b0 st' alt := fun I q e => ⟨_, by rw [hN, if_neg q], by rw [e]; exact I⟩
    have za : lZ a = 0 ↔ a = 0 := lZ_eq (b := 0) (by omega) (by decide)
    have zb : lZ b = 0 ↔ b = 0 := lZ_eq (b := 0) (by omega) (by decide)
    have zab : lZ a = lZ b ↔ a = b := lZ_eq (by omega) (by omega)
    have lab : lZ a ≤ lZ b ↔ a ≤ b := lZ_le (by omega) (by omega)
    have lba : lZ b ≤ lZ a ↔ b ≤ a := lZ_le (by omega) (by omega)
    have tab : lZ a < lZ b ↔ a < b := lZ_lt (by omega) (by omega)
    have tba : lZ b < lZ a ↔ b < a := lZ_lt (by omega) (by omega)
    have oc : ∀ {n : Nat}, n < 256 → nI op = nI n → op = n := fun hn c => (nI_eq (by omega) (by omega)).mp c
    rw [lZ_add, lZ_sub, za, zb, zab, lab, lba, tab, tba]
    refine ⟨fun c => ?_, fun c => ?_, fun c => ?_, fun c => ?_, fun c => ?_, fun c => ?_, fun c => ?_, fun c => ?_, fun c => ?_, fun c => ?_, fun c => ?_, fun c => ?_, fun c => ?_⟩
    · have c := oc (n := 147) (by decide) c
      subst c
      exact k_pbe hd1 (by omega) hs2 I (fun h2 I2 => fin I2 (by decide) rfl)
    · have c := oc (n := 148) (by decide) c
      subst c
      exact k_pbe hd1 (by omega) hs2 I (fun h2 I2 => fin I2 (by decide) rfl)
    · have c := oc (n := 154) (by decide) c
      subst c
      exact ⟨fun c1 => k_truth hd1 hs2 I (fun h2 I2 => fin I2 (by decide) (tv_f (P := ¬ a = 0 ∧ ¬ b = 0) (fun z => z.1 c1))), fun c1 => ⟨fun c2 => k_truth hd1 hs2 I (fun h2 I2 => fin I2 (by decide) (tv_f (P := ¬ a = 0 ∧ ¬ b = 0) (fun z => z.2 c2))), fun c2 => k_truth hd1 hs2 I (fun h2 I2 => fin I2 (by decide) (tv_t (P := ¬ a = 0 ∧ ¬ b = 0) ⟨c1, c2⟩))⟩⟩
    · have c := oc (n := 155) (by decide) c
      subst c
      exact ⟨fun c1 => k_truth hd1 hs2 I (fun h2 I2 => fin I2 (by decide) (tv_t (P := ¬ a = 0 ∨ ¬ b = 0) (Or.inl c1))), fun c1 => ⟨fun c2 => k_truth hd1 hs2 I (fun h2 I2 => fin I2 (by decide) (tv_f (P := ¬ a = 0 ∨ ¬ b = 0) (fun z => by omega))), fun c2 => k_truth hd1 hs2 I (fun h2 I2 => fin I2 (by decide) (tv_t (P := ¬ a = 0 ∨ ¬ b = 0) (Or.inr c2)))⟩⟩
    · have c := oc (n := 156) (by decide) c
      subst c
      exact ⟨fun c1 => k_truth hd1 hs2 I (fun h2 I2 => fin I2 (by decide) (tv_f (P := a = b) c1)), fun c1 => k_truth hd1 hs2 I (fun h2 I2 => fin I2 (by decide) (tv_t (P := a = b) c1))⟩
    · have c := oc (n := 157) (by decide) c
      subst c
      exact ⟨fun c1 => k_need hd1 I (fun z => absurd rfl z) (fun _ y h' T => ⟨by rw [hN, if_pos rfl, if_neg c1], T⟩), fun c1 => k_need hd1 I (fun _ => ⟨_, by rw [hN, if_pos rfl, if_pos c1], I⟩) (fun z => absurd z (by decide))⟩
    · have c := oc (n := 158) (by decide) c
      subst c
      exact ⟨fun c1 => k_truth hd1 hs2 I (fun h2 I2 => fin I2 (by decide) (tv_f (P := ¬ a = b) (fun z => z c1))), fun c1 => k_truth hd1 hs2 I (fun h2 I2 => fin I2 (by decide) (tv_t (P := ¬ a = b) c1))⟩
    · have c := oc (n := 159) (by decide) c
      subst c
      exact ⟨fun c1 => k_truth hd1 hs2 I (fun h2 I2 => fin I2 (by decide) (tv_f (P := a < b) (by omega))), fun c1 => k_truth hd1 hs2 I (fun h2 I2 => fin I2 (by decide) (tv_t (P := a < b) (by omega)))⟩
    · have c := oc (n := 160) (by decide) c
      subst c
      exact ⟨fun c1 => k_truth hd1 hs2 I (fun h2 I2 => fin I2 (by decide) (tv_f (P := b < a) (by omega))), fun c1 => k_truth hd1 hs2 I (fun h2 I2 => fin I2 (by decide) (tv_t (P := b < a) (by omega)))⟩
    · have c := oc (n := 161) (by decide) c
      subst c
      exact ⟨fun c1 => k_truth hd1 hs2 I (fun h2 I2 => fin I2 (by decide) (tv_f (P := a ≤ b) (by omega))), fun c1 => k_truth hd1 hs2 I (fun h2 I2 => fin I2 (by decide) (tv_t (P := a ≤ b) (by omega)))⟩
    · have c := oc (n := 162) (by decide) c
      subst c
      exact ⟨fun c1 => k_truth hd1 hs2 I (fun h2 I2 => fin I2 (by decide) (tv_f (P := b ≤ a) (by omega))), fun c1 => k_truth hd1 hs2 I (fun h2 I2 => fin I2 (by decide) (tv_t (P := b ≤ a) (by omega)))⟩
    · have c := oc (n := 163) (by decide) c
      subst c
      refine k_push hd1 hs2 I (fun x h' P w es => (minL_spec (by omega) _ _).nJ (fun z h2 Q => ?_))
      obtain ⟨rfl, rfl⟩ := Q
      have ez : (if lZ b < lZ a then lZ b else lZ a) = lZ (if b < a then b else a) := by
        by_cases q : b < a
        · rw [if_pos (tba.mpr q), if_pos q]
        · rw [if_neg (fun z => q (tba.mp z)), if_neg q]
      rw [ez]
      exact ⟨es.1, k_be hd1 (by split <;> omega) I P w es (fun h2 I2 => fin I2 (by decide) rfl)⟩
    · refine k_push hd1 hs2 I (fun x h' P w es => (maxL_spec (by omega) _ _).nJ (fun z h2 Q => ?_))
      obtain ⟨rfl, rfl⟩ := Q
      have ez : (if lZ a < lZ b then lZ b else lZ a) = lZ (if a < b then b else a) := by
        by_cases q : a < b
        · rw [if_pos (tab.mpr q), if_pos q]
        · rw [if_neg (fun z => q (tab.mp z)), if_neg q]
      rw [ez]
      have nn : ∀ {n : Nat}, ¬ nI op = nI n → op ≠ n := fun q e => q (by rw [e])
      obtain ⟨n1, n2, n3, n4, n5, n6, n7, n8, n9, n10, n11, n12⟩ := c
      refine ⟨es.1, k_be hd1 (by split <;> omega) I P w es (fun h2 I2 => fin I2 (nn (n := 157) n6) ?_)⟩
      unfold bi2
      rw [if_neg (nn (n := 147) n1), if_neg (nn (n := 148) n2), if_neg (nn (n := 154) n3), if_neg (nn (n := 155) n4), if_neg (nn (n := 156) n5), if_neg (nn (n := 158) n7), if_neg (nn (n := 159) n8), if_neg (nn (n := 160) n9), if_neg (nn (n := 161) n10), if_neg (nn (n := 162) n11), if_neg (nn (n := 163) n12)]
  · have none3 : st.length < 3 ∨ 4 < (tp st 2).length ∨ 4 < (tp st 1).length ∨ 4 < (tp st 0).length → numsP op st = none := fun q => by
      unfold numsP
      rw [if_neg (by omega), if_pos c165, if_pos q]
    refine k_top (k := 2) hd1 (by decide) (MI.rf H) (fun q1 x3 hx3 ex3 => ⟨ex3.1.1, k_num (m := 4) hd1 (by decide) (MI.rf H) ex3 (fun q2 => k_top (k := 1) hd1 (by decide) (MI.rf H) (fun q3 x9 hx9 ex9 => ⟨ex9.1.1, k_num (m := 4) hd1 (by decide) (MI.rf H) ex9 (fun q4 => k_top (k := 0) hd1 (by decide) (MI.rf H) (fun q6 x8 hx8 ex8 => ⟨ex8.1.1, k_num (m := 4) hd1 (by decide) (MI.rf H) ex8 (fun q7 => k_drop (k := 3) hd1 (by decide) (MI.rf H) (fun q5 h17 I => ?_) (fun q5 => absurd q1 (by omega))) (fun q7 y h' T => ⟨none3 (Or.inr (Or.inr (Or.inr q7))), T⟩)⟩) (fun q6 => absurd q1 (by omega))) (fun q4 y h' T => ⟨none3 (Or.inr (Or.inr (Or.inl q4))), T⟩)⟩) (fun q3 => absurd q1 (by omega))) (fun q2 y h' T => ⟨none3 (Or.inr (Or.inl q2)), T⟩)⟩) (fun q1 y h' T => ⟨none3 (Or.inl (by omega)), T⟩)
    have hx := numI_lt q2
    have hy := numI_lt q4
    have hz := numI_lt q7
    have h4 : (256 : Nat) ^ 4 = 2 ^ 32 := by decide
    rw [h4] at hx hy hz
    have hs2 : (dr st 3).length + alt.length < 1003 := by rw [dr_len]; omega
    have hN : numsP op st = some (dr st 3 ++ [tv (decide (numI (tp st 1) ≤ numI (tp st 2) ∧ numI (tp st 2) < numI (tp st 0)))]) := by
      unfold numsP
      rw [if_neg (by omega), if_pos c165, if_neg (by omega)]
    generalize numI (tp st 2) = x at *
    generalize numI (tp st 1) = y at *
    generalize numI (tp st 0) = z at *
    rw [lZ_lt (by omega) (by omega), lZ_le (by omega) (by omega)]
    exact ⟨fun c1 => k_truth hd1 hs2 I (fun h2 I2 => ⟨_, hN, by rw [tv_f (fun q => by omega)]; exact I2⟩), fun c1 => ⟨fun c2 => k_truth hd1 hs2 I (fun h2 I2 => ⟨_, hN, by rw [tv_f (fun q => by omega)]; exact I2⟩), fun c2 => k_truth hd1 hs2 I (fun h2 I2 => ⟨_, hN, by rw [tv_t (by omega)]; exact I2⟩)⟩⟩
  · have none1 : st.length < 1 ∨ 4 < (tp st 0).length → numsP op st = none := fun q => by
      unfold numsP
      rw [if_pos (by omega), if_pos q]
    refine k_top (k := 0) hd1 (by decide) (MI.rf H) (fun q1 x3 hx3 ex3 => ⟨ex3.1.1, k_num (m := 4) hd1 (by decide) (MI.rf H) ex3 (fun q2 => k_drop (k := 1) hd1 (by decide) (MI.rf H) (fun q5 h17 I => ?_) (fun q5 => absurd q1 (by omega))) (fun q2 y h' T => ⟨none1 (Or.inr q2), T⟩)⟩) (fun q1 y h' T => ⟨none1 (Or.inl (by omega)), T⟩)
    have ha := numI_lt q2
    have h4 : (256 : Nat) ^ 4 = 2 ^ 32 := by decide
    rw [h4] at ha
    have hs2 : (dr st 1).length + alt.length < 1003 := by rw [dr_len]; omega
    have hN : numsP op st = some (dr st 1 ++ [un1 op (numI (tp st 0))]) := by
      unfold numsP
      rw [if_pos (by omega), if_neg (by omega)]
    generalize numI (tp st 0) = a at *
    have fin : ∀ {h' : AH} {l : List Int32}, MI h h' Mc D b0 (dr st 1 ++ [l]) alt → un1 op a = l → ∃ st', numsP op st = some st' ∧ MI h h' Mc D b0 st' alt := fun I e => ⟨_, hN, by rw [e]; exact I⟩
    have za : lZ a = 0 ↔ a = 0 := lZ_eq (b := 0) (by omega) (by decide)
    have oc : ∀ {n : Nat}, n < 256 → nI op = nI n → op = n := fun hn c => (nI_eq (by omega) (by omega)).mp c
    have e1 : lZ a + 1 = lZ (a + 1) := lZ_add a 1
    have e2 : lZ a - 1 = lZ (a - 1) := lZ_sub a 1
    rw [e1, e2, lZ_neg, za]
    refine ⟨fun c => ?_, fun c => ?_, fun c => ?_, fun c => ?_, fun c => ?_, fun c => ?_⟩
    · have c := oc (n := 139) (by decide) c
      subst c
      exact k_pbe hd1 (by omega) hs2 I (fun h2 I2 => fin I2 rfl)
    · have c := oc (n := 140) (by decide) c
      subst c
      exact k_pbe hd1 (by omega) hs2 I (fun h2 I2 => fin I2 rfl)
    · have c := oc (n := 143) (by decide) c
      subst c
      exact k_pbe hd1 (by omega) hs2 I (fun h2 I2 => fin I2 rfl)
    · have c := oc (n := 144) (by decide) c
      subst c
      refine k_push hd1 hs2 I (fun x h' P w es => (absL_spec (by omega) _).nJ (fun z h2 Q => ?_))
      obtain ⟨rfl, rfl⟩ := Q
      have ez : (if 0 ≤ lZ a then lZ a else -(lZ a)) = lZ (a.natAbs : Int) := by
        have l0 : (0 : Int64) ≤ lZ a ↔ 0 ≤ a := lZ_le (a := 0) (by decide) (by omega)
        by_cases q : 0 ≤ a
        · rw [if_pos (l0.mpr q)]
          congr 1
          omega
        · rw [if_neg (fun z => q (l0.mp z)), lZ_neg]
          congr 1
          omega
      rw [ez]
      exact ⟨es.1, k_be hd1 (by omega) I P w es (fun h2 I2 => fin I2 rfl)⟩
    · have c := oc (n := 145) (by decide) c
      subst c
      exact ⟨fun c1 => k_truth hd1 hs2 I (fun h2 I2 => fin I2 (tv_f (P := a = 0) c1)), fun c1 => k_truth hd1 hs2 I (fun h2 I2 => fin I2 (tv_t (P := a = 0) c1))⟩
    · have nn : ∀ {n : Nat}, ¬ nI op = nI n → op ≠ n := fun q e => q (by rw [e])
      obtain ⟨n1, n2, n3, n4, n5⟩ := c
      have hu : un1 op a = tv (decide (¬ a = 0)) := by
        unfold un1
        rw [if_neg (nn (n := 139) n1), if_neg (nn (n := 140) n2), if_neg (nn (n := 143) n3), if_neg (nn (n := 144) n4), if_neg (nn (n := 145) n5)]
      exact ⟨fun c1 => k_truth hd1 hs2 I (fun h2 I2 => fin I2 (hu.trans (tv_f (P := ¬ a = 0) (fun z => z c1)))), fun c1 => k_truth hd1 hs2 I (fun h2 I2 => fin I2 (hu.trans (tv_t (P := ¬ a = 0) c1)))⟩
theorem k_numbers {op : Nat} {K : AH → Prop} {E : Nat → AH → Prop} (hd : 12 ≤ d) (hop : op < 256) (hs : st.length + alt.length ≤ 1000) (I : MI hB h Mc D b0 st alt) (hK : ∀ st', numsP op st = some st' → ∀ h', MI hB h' Mc D b0 st' alt → K h') (hE : numsP op st = none → ∀ y h', ThrM hB h' Mc D b0 y → E y h') : Cw G mX7_numbers d 0 [vR Mc, vI (nI op)] h (kV K E) :=
  (Mc_numbers_spec hd hop hs I.1).toV (fun h' _ _ Q => by
    obtain ⟨st', e, I2⟩ := Q
    exact hK st' e h' ⟨I2.1, I.2.1.trans I2.2.1, I.2.2.trans I2.2.2 (fun _ q => q)⟩) (fun y h' _ _ Q => hE Q.1 y h' (Q.2.aft I.2.1))
end Numbers

/-! the reference: operations that move elements -/
set_option maxRecDepth 100000
theorem lst_ext {l l' : List (List Int32)} (hl : l.length = l'.length) (h : ∀ j, j < l.length → l.getD j [] = l'.getD j []) : l = l' := by
  refine List.ext_getElem hl (fun j h1 h2 => ?_)
  have := h j h1
  rw [List.getD_eq_getElem?_getD, List.getD_eq_getElem?_getD, List.getElem?_eq_getElem h1, List.getElem?_eq_getElem h2] at this
  exact this
theorem cp_getD {st : List (List Int32)} {k j : Nat} : (cp st k).getD j [] = if j = st.length then st.getD (st.length - 1 - k) [] else st.getD j [] := getD_snoc
theorem tuck_eq {st : List (List Int32)} (h : 2 ≤ st.length) : rl_ (rl_ (cp st 0) 2) 2 = cp (rl_ st 1) 1 := by
  refine lst_ext (by rw [rl_len, rl_len, cp_len, cp_len, rl_len]) (fun j hj => ?_)
  rw [rl_len, rl_len, cp_len] at hj
  have e1 : (rl_ (rl_ (cp st 0) 2) 2).getD j [] = (rl_ (cp st 0) 2).getD (rp (st.length - 2) (st.length + 1) j) [] := by
    conv => lhs; unfold rl_
    have := rollL_getD (st := rollL (cp st 0) ((cp st 0).length - 1 - 2)) (i := (rollL (cp st 0) ((cp st 0).length - 1 - 2)).length - 1 - 2) (j := j) (by rw [rollL_len, cp_len]; exact hj)
    rw [this, rollL_len, cp_len, show st.length + 1 - 1 - 2 = st.length - 2 by omega]
    unfold rl_
    rw [cp_len, show st.length + 1 - 1 - 2 = st.length - 2 by omega]
  have b1 := rp_lt (i := st.length - 2) (n := st.length + 1) (j := j) (by omega) hj
  have e2 : ∀ x, x < st.length + 1 → (rl_ (cp st 0) 2).getD x [] = (cp st 0).getD (rp (st.length - 2) (st.length + 1) x) [] := fun x hx => by
    unfold rl_
    rw [rollL_getD (by rw [cp_len]; exact hx), cp_len, show st.length + 1 - 1 - 2 = st.length - 2 by omega]
  have e3 : ∀ x, x < st.length → (rl_ st 1).getD x [] = st.getD (rp (st.length - 2) st.length x) [] := fun x hx => by
    unfold rl_
    rw [rollL_getD hx, show st.length - 1 - 1 = st.length - 2 by omega]
  rw [e1, e2 _ b1, cp_getD, cp_getD, rl_len, e3 (st.length - 1 - 1) (by omega)]
  have c : j < st.length - 2 ∨ j = st.length - 2 ∨ j = st.length - 1 ∨ j = st.length := by omega
  rcases c with c | c | c | c
  · rw [if_neg (by omega : ¬ j = st.length), e3 j (by omega)]
    have r1 : rp (st.length - 2) (st.length + 1) j = j := by unfold rp; rw [if_pos c]
    have r2 : rp (st.length - 2) st.length j = j := by unfold rp; rw [if_pos c]
    rw [r1, r1, r2, if_neg (by omega)]
  · rw [if_neg (by omega : ¬ j = st.length), e3 j (by omega)]
    have r1 : rp (st.length - 2) (st.length + 1) j = st.length - 1 := by unfold rp; rw [if_neg (by omega), if_pos (by omega)]; omega
    have r2 : rp (st.length - 2) (st.length + 1) (st.length - 1) = st.length := by unfold rp; rw [if_neg (by omega), if_pos (by omega)]; omega
    have r3 : rp (st.length - 2) st.length j = st.length - 1 := by unfold rp; rw [if_neg (by omega), if_pos (by omega)]; omega
    rw [r1, r2, r3, if_pos rfl, Nat.sub_zero]
  · rw [if_neg (by omega : ¬ j = st.length), e3 j (by omega)]
    have r1 : rp (st.length - 2) (st.length + 1) j = st.length := by unfold rp; rw [if_neg (by omega), if_pos (by omega)]; omega
    have r2 : rp (st.length - 2) (st.length + 1) st.length = st.length - 2 := by unfold rp; rw [if_neg (by omega), if_neg (by omega)]
    have r3 : rp (st.length - 2) st.length j = st.length - 2 := by unfold rp; rw [if_neg (by omega), if_neg (by omega)]
    rw [r1, r2, r3, if_neg (by omega)]
  · rw [if_pos c]
    have r1 : rp (st.length - 2) (st.length + 1) j = st.length - 2 := by unfold rp; rw [if_neg (by omega), if_neg (by omega)]
    have r2 : rp (st.length - 2) (st.length + 1) (st.length - 2) = st.length - 1 := by unfold rp; rw [if_neg (by omega), if_pos (by omega)]; omega
    have r3 : rp (st.length - 2) st.length (st.length - 1 - 1) = st.length - 1 := by unfold rp; rw [if_neg (by omega), if_pos (by omega)]; omega
    rw [r1, r2, r3, if_neg (by omega)]
/-- how many elements an operation needs -/
def ndN : List Nat := [1, 0, 1, 0, 2, 2, 3, 4, 6, 4, 1, 0, 1, 1, 2, 2, 2, 2, 3, 2, 2]
theorem ndN_eq : ∀ k, k < 21 → ndL.getD k 0 = nI (ndN.getD k 0) ∧ ndN.getD k 0 < 2000 := by decide
/-- copies of one place -/
def cpN (st : List (List Int32)) (k : Nat) : Nat → List (List Int32)
  | 0 => st
  | i + 1 => cp (cpN st k i) k
theorem cpN_len (st : List (List Int32)) (k : Nat) : ∀ i, (cpN st k i).length = st.length + i
  | 0 => rfl
  | i + 1 => by
    unfold cpN
    rw [cp_len, cpN_len st k i]
    rfl
theorem mov_none {op : Nat} {st alt : List (List Int32)} (h1 : 105 ≤ op) (h2 : op ≤ 125) (h3 : op ≠ 106) (h : st.length < ndN.getD (op - 105) 0) : movP op st alt = none := by
  obtain ⟨k, rfl⟩ : ∃ k, op = 105 + k := ⟨op - 105, by omega⟩
  rw [show 105 + k - 105 = k by omega] at h
  have hk : k < 21 := by omega
  clear h1 h2
  have two : ∀ o, o = 121 ∨ o = 122 → st.length < 2 → movP o st alt = none := fun o ho hl => by
    have e : movP o st alt = if st.length < 1 ∨ 4 < (tp st 0).length then none else if numI (tp st 0) < 0 ∨ ((dr st 1).length : Int) ≤ numI (tp st 0) then none else some (if o = 121 then cp (dr st 1) (numI (tp st 0)).toNat else rl_ (dr st 1) (numI (tp st 0)).toNat, alt) := by
      rcases ho with ho | ho
      · rw [ho]; rfl
      · rw [ho]; rfl
    rw [e]
    split
    · rfl
    · rw [if_pos]
      rw [dr_len]
      omega
  match k, hk with
  | 0, _ => exact if_pos (Or.inl (Nat.lt_one_iff.mp h))
  | 1, _ => exact absurd rfl h3
  | 2, _ => exact if_pos h
  | 3, _ => exact absurd h (Nat.not_lt_zero _)
  | 4, _ => exact if_pos h
  | 5, _ => exact if_pos h
  | 6, _ => exact if_pos h
  | 7, _ => exact if_pos h
  | 8, _ => exact if_pos h
  | 9, _ => exact if_pos h
  | 10, _ => exact if_pos h
  | 11, _ => exact absurd h (Nat.not_lt_zero _)
  | 12, _ => exact if_pos h
  | 13, _ => exact if_pos h
  | 14, _ => exact if_pos h
  | 15, _ => exact if_pos h
  | 16, _ => exact two 121 (Or.inl rfl) h
  | 17, _ => exact two 122 (Or.inr rfl) h
  | 18, _ => exact if_pos h
  | 19, _ => exact if_pos h
  | 20, _ => exact if_pos h

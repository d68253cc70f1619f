/-! the middle of times: the pure part -/
set_option maxRecDepth 100000
/-- a value comes to its place below k -/
def insF (P : List Int64) (v : Int64) : Nat → List Int64
  | 0 => P.set 0 v
  | k + 1 => if P.getD k 0 ≤ v then P.set (k + 1) v else insF (P.set (k + 1) (P.getD k 0)) v k
theorem gs_eq {l : List Int64} {i : Nat} {x : Int64} (h : i < l.length) : (l.set i x).getD i 0 = x := by
  rw [List.getD_eq_getElem?_getD, List.getElem?_set_self h]; rfl
theorem gs_ne {l : List Int64} {i j : Nat} {x : Int64} (h : j ≠ i) : (l.set i x).getD j 0 = l.getD j 0 := by
  rw [List.getD_eq_getElem?_getD, List.getD_eq_getElem?_getD, List.getElem?_set_ne (fun e => h e.symm)]
theorem insF_len (v : Int64) : ∀ (k : Nat) (P : List Int64), (insF P v k).length = P.length
  | 0, P => List.length_set ..
  | k + 1, P => by
    unfold insF
    split
    · exact List.length_set ..
    · rw [insF_len v k, List.length_set]
/-- rows that agree but for the hole give rows that agree -/
theorem insF_cg (v : Int64) {n : Nat} : ∀ (k : Nat) (P P' : List Int64), k ≤ n → n < P.length → n < P'.length → (∀ i, i ≤ n → i ≠ k → P.getD i 0 = P'.getD i 0) → ∀ i, i ≤ n → (insF P v k).getD i 0 = (insF P' v k).getD i 0
  | 0, P, P', _, h1, h2, h, i, hi => by
    show (P.set 0 v).getD i 0 = (P'.set 0 v).getD i 0
    by_cases c : i = 0
    · rw [c, gs_eq (by omega), gs_eq (by omega)]
    · rw [gs_ne c, gs_ne c, h i hi c]
  | k + 1, P, P', hk, h1, h2, h, i, hi => by
    have e := h k (by omega) (by omega)
    unfold insF
    rw [← e]
    by_cases q : P.getD k 0 ≤ v
    · rw [if_pos q, if_pos q]
      by_cases c : i = k + 1
      · rw [c, gs_eq (by omega), gs_eq (by omega)]
      · rw [gs_ne c, gs_ne c, h i hi c]
    · rw [if_neg q, if_neg q]
      refine insF_cg v k _ _ (by omega) (by rw [List.length_set]; exact h1) (by rw [List.length_set]; exact h2) (fun i' hi' _ => ?_) i hi
      by_cases c : i' = k + 1
      · rw [c, gs_eq (by omega), gs_eq (by omega)]
      · rw [gs_ne c, gs_ne c, h i' hi' c]
/-- the first n values, one after another -/
def insN (P : List Int64) (tm : Nat → Int64) : Nat → List Int64
  | 0 => P
  | n + 1 => insF (insN P tm n) (tm n) n
theorem insN_len (P : List Int64) (tm : Nat → Int64) : ∀ n, (insN P tm n).length = P.length
  | 0 => rfl
  | n + 1 => by
    unfold insN
    rw [insF_len, insN_len P tm n]
theorem insN_cg (tm : Nat → Int64) {P P' : List Int64} : ∀ n, n ≤ P.length → n ≤ P'.length → ∀ i, i < n → (insN P tm n).getD i 0 = (insN P' tm n).getD i 0
  | 0, _, _, i, hi => absurd hi (Nat.not_lt_zero _)
  | n + 1, h1, h2, i, hi => by
    unfold insN
    refine insF_cg (tm n) n _ _ (Nat.le_refl _) (by rw [insN_len]; omega) (by rw [insN_len]; omega) (fun i' hi' c => ?_) i (by omega)
    exact insN_cg tm n (by omega) (by omega) i' (by omega)

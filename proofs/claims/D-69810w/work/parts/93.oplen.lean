/-! operations of a script: how long they are -/
set_option maxRecDepth 100000
def opHd (op : Nat) : Nat := if op = 76 then 2 else if op = 77 then 3 else if op = 78 then 5 else 1
/-- how many bytes the operation at i pushes -/
def opSz (L : List Int32) (i : Nat) : Nat := if ub L i < 76 then ub L i else leV L (i + 1) (opHd (ub L i) - 1)
/-- how many bytes the operation at i has; 0 if that goes beyond the end e -/
def opLen (L : List Int32) (i e : Nat) : Nat := if e < i + opHd (ub L i) + opSz L i then 0 else opHd (ub L i) + opSz L i
theorem opHd_pos (op : Nat) : 1 ≤ opHd op := by
  unfold opHd
  split
  · omega
  · split
    · omega
    · split <;> omega
theorem opHd_le (op : Nat) : opHd op ≤ 5 := by
  unfold opHd
  split
  · omega
  · split
    · omega
    · split <;> omega
theorem opLen_le {L : List Int32} {i e : Nat} : opLen L i e = 0 ∨ (1 ≤ opLen L i e ∧ i + opLen L i e ≤ e) := by
  have := opHd_pos (ub L i)
  unfold opLen
  split
  · exact Or.inl rfl
  · exact Or.inr ⟨by omega, by omega⟩
theorem opLen_eq {L : List Int32} {i e : Nat} (h : opLen L i e ≠ 0) : opLen L i e = opHd (ub L i) + opSz L i := by
  unfold opLen at h ⊢
  split at h
  · exact absurd rfl h
  · rename_i q; rw [if_neg q]
theorem leV_split (L : List Int32) (o : Nat) : ∀ (k n : Nat), leV L o (k + n) = leV L o k + 256 ^ k * leV L (o + k) n
  | 0, n => by rw [Nat.zero_add, leV_0, Nat.pow_zero, Nat.one_mul, Nat.zero_add, Nat.add_zero]
  | k + 1, n => by
    rw [show k + 1 + n = (k + n) + 1 by omega, leV_low, leV_low, leV_split L (o + 1) k n, show o + 1 + k = o + (k + 1) by omega, Nat.pow_succ, Nat.mul_add]
    have : 256 * (256 ^ k * leV L (o + (k + 1)) n) = 256 ^ k * 256 * leV L (o + (k + 1)) n := by ac_rfl
    omega
section OpLen
variable {G : Gx} {d : Nat} {h : AH} {a i e : Nat}
theorem length_114 {n0 hd0 : Nat} (hi : i + hd0 ≤ e) (he : e < 2 ^ 20) (hn : n0 < 2 ^ 21) (hh : hd0 ≤ 5) (h1 : opHd (ub (h.ai a) i) = hd0) (h2 : opSz (h.ai a) i = n0) :
    Aw G mX7_length (d + 1) 0 h (kI (fun x h' => x = nI (opLen (h.ai a) i e) ∧ h' = h) nE) 114 [vU, vI (nI i), vI (nI e), vU, vI (nI n0), vI (nI hd0), vU] [] h := by
  refine sX7_length_114 h (nI i) (nI e) (nI n0) (nI hd0) ?_
  rw [pk_sub (by omega), pk_sub (by omega), nI_add]
  refine pk_le n0 (e - i - hd0) (fun c => ⟨?_, rfl⟩) (fun c => ⟨?_, rfl⟩)
  · unfold opLen
    rw [h1, h2, if_neg (by omega)]
  · unfold opLen
    rw [h1, h2, if_pos (by omega)]
    rfl
theorem length_75 {hd0 : Nat} (ka : h.kd a = 101) (hl : e ≤ (h.ai a).length) (hl2 : (h.ai a).length < 2 ^ 20) (hi : i + hd0 ≤ e) (hh : hd0 ≤ 5) (hh1 : 1 ≤ hd0) (h1 : opHd (ub (h.ai a) i) = hd0) (h2 : opSz (h.ai a) i = leV (h.ai a) (i + 1) (hd0 - 1)) :
    Aw G mX7_length (d + 1) 0 h (kI (fun x h' => x = nI (opLen (h.ai a) i e) ∧ h' = h) nE) 75 [vR a, vI (nI i), vI (nI e), vU, vI (nI 0), vI (nI hd0), vI (nI (hd0 - 1))] [] h := by
  refine loop_dn (P := fun k (v : Nat) => k ≤ hd0 - 1 → Aw G mX7_length (d + 1) 0 h (kI (fun x h' => x = nI (opLen (h.ai a) i e) ∧ h' = h) nE) 75 [vR a, vI (nI i), vI (nI e), vU, vI (nI v), vI (nI hd0), vI (nI k)] [] h)
    (fun k v => v = leV (h.ai a) (i + 1 + k) (hd0 - 1 - k) ∧ v < 2 ^ 20) (fun k v hI ih hk => ?_) (fun v hI hk => ?_) (hd0 - 1) 0 ⟨by rw [Nat.sub_self]; rfl, by decide⟩ (Nat.le_refl _)
  · obtain ⟨hv, hv2⟩ := hI
    refine sX7_length_75 h a (nI i) (nI e) (nI v) (nI hd0) (nI (k + 1)) (pk_le (k + 1) 0 (fun c => absurd c (by omega)) (fun _ => pk_le v 4095 (fun c => ⟨ka, ?_⟩) (fun c => ⟨?_, rfl⟩)))
    · rw [nI_add, pk_cl (i + (k + 1)) rfl (by omega), and_ub, pk_m1, show (8 : Int32) = nI 8 from rfl, jshl_n _ (by decide), nI_or]
      refine ⟨pk_in (i + (k + 1)) _ (by omega), fun u5 e5 => ?_⟩
      have hu := ub_lt (h.ai a) (i + (k + 1))
      rw [Nat.or_comm, or_add (D := ub (h.ai a) (i + (k + 1))) (X := v) (p := 8) (c := 24) (by rw [Nat.div_eq_of_lt (by omega)]) (by omega)] at e5
      rw [e5]
      refine ih _ ⟨?_, by omega⟩ (by omega)
      rw [show hd0 - 1 - k = (hd0 - 1 - (k + 1)) + 1 by omega, leV_low, show i + 1 + k + 1 = i + 1 + (k + 1) by omega, ← hv, show i + 1 + k = i + (k + 1) by omega]
      omega
    · unfold opLen
      rw [h1, h2, if_pos]
      · rfl
      · have := leV_split (h.ai a) (i + 1) (k + 1) (hd0 - 1 - (k + 1))
        rw [show k + 1 + (hd0 - 1 - (k + 1)) = hd0 - 1 by omega, ← hv] at this
        have h3 : 256 ^ 1 ≤ 256 ^ (k + 1) := Nat.pow_le_pow_right (by omega) (by omega)
        have h4 := Nat.mul_le_mul h3 (show 4096 ≤ v by omega)
        omega
  · obtain ⟨hv, hv2⟩ := hI
    rw [Nat.add_zero, Nat.sub_zero] at hv
    refine sX7_length_75 h a (nI i) (nI e) (nI v) (nI hd0) (nI 0) (pk_le 0 0 (fun _ => ?_) (fun c => absurd c (by omega)))
    exact length_114 hi (by omega) (by omega) hh h1 (h2.trans hv.symm)
theorem Mc_length_spec (hd : 1 ≤ d) (ka : h.kd a = 101) (hi : i < e) (hl : e ≤ (h.ai a).length) (hl2 : (h.ai a).length < 2 ^ 20) : Cw G mX7_length d 0 [vR a, vI (nI i), vI (nI e)] h (kI (fun x h' => x = nI (opLen (h.ai a) i e) ∧ h' = h) nE) := by
  obtain ⟨d, rfl⟩ : ∃ d', d = d' + 1 := ⟨d - 1, by omega⟩
  have hu := ub_lt (h.ai a) i
  refine eX7_length h a (nI i) (nI e) (fun _ => sX7_length_0 h a (nI i) (nI e) ⟨ka, ?_⟩)
  rw [pk_cl i rfl (by omega), and_ub]
  refine ⟨pk_in i _ (by omega), fun u3 e3 => ?_⟩
  subst e3
  have z0 : ∀ hd0, opHd (ub (h.ai a) i) = hd0 → e < i + hd0 → opLen (h.ai a) i e = 0 := fun hd0 q1 q2 => by
    unfold opLen
    rw [q1, if_pos (by omega)]
  refine pk_le 76 (ub (h.ai a) i) (fun c => pk_lt (ub (h.ai a) i) 76 (fun c1 => absurd c1 (by omega)) (fun _ => pk_lt 78 (ub (h.ai a) i) (fun c2 => ?_) (fun c2 => pk_eq' (ub (h.ai a) i) 76 (fun c3 => pk_eq' (ub (h.ai a) i) 77 (fun c4 => ?_) (fun c4 => ?_)) (fun c3 => ?_)))) (fun c => pk_lt (ub (h.ai a) i) 76 (fun c1 => ?_) (fun c1 => absurd c1 (by omega)))
  · have h1 : opHd (ub (h.ai a) i) = 1 := by
      unfold opHd
      rw [if_neg (by omega), if_neg (by omega), if_neg (by omega)]
    refine length_114 (n0 := 0) (hd0 := 1) (by omega) (by omega) (by decide) (by decide) h1 ?_
    unfold opSz
    rw [if_neg (by omega), h1]
    rfl
  · have h1 : opHd (ub (h.ai a) i) = 5 := by
      unfold opHd
      rw [if_neg c3, if_neg c4, if_pos (by omega)]
    rw [show (5 : Int32) = nI 5 from rfl, nI_add, nI_sub1, show (5 : Nat) = 4 + 1 from rfl, dI_succ]
    refine pk_le (i + (4 + 1)) e (fun c5 => ?_) (fun c5 => ⟨by rw [z0 5 h1 (by omega)]; rfl, rfl⟩)
    refine length_75 (hd0 := 5) ka hl hl2 c5 (by decide) (by decide) h1 ?_
    unfold opSz
    rw [if_neg (by omega), h1]
  · have h1 : opHd (ub (h.ai a) i) = 3 := by
      unfold opHd
      rw [if_neg c3, if_pos c4]
    rw [show (3 : Int32) = nI 3 from rfl, nI_add, nI_sub1, show (3 : Nat) = 2 + 1 from rfl, dI_succ]
    refine pk_le (i + (2 + 1)) e (fun c5 => ?_) (fun c5 => ⟨by rw [z0 3 h1 (by omega)]; rfl, rfl⟩)
    refine length_75 (hd0 := 3) ka hl hl2 c5 (by decide) (by decide) h1 ?_
    unfold opSz
    rw [if_neg (by omega), h1]
  · have h1 : opHd (ub (h.ai a) i) = 2 := by
      unfold opHd
      rw [if_pos c3]
    rw [show (2 : Int32) = nI 2 from rfl, nI_add, nI_sub1, show (2 : Nat) = 1 + 1 from rfl, dI_succ]
    refine pk_le (i + (1 + 1)) e (fun c5 => ?_) (fun c5 => ⟨by rw [z0 2 h1 (by omega)]; rfl, rfl⟩)
    refine length_75 (hd0 := 2) ka hl hl2 c5 (by decide) (by decide) h1 ?_
    unfold opSz
    rw [if_neg (by omega), h1]
  · have h1 : opHd (ub (h.ai a) i) = 1 := by
      unfold opHd
      rw [if_neg (by omega), if_neg (by omega), if_neg (by omega)]
    refine length_114 (n0 := ub (h.ai a) i) (hd0 := 1) (by omega) (by omega) (by omega) (by decide) h1 ?_
    unfold opSz
    rw [if_pos c1]
/-- signatures that a script asks for, at most -/
def asksF (L : List Int32) (e : Nat) : Nat → Nat → Nat
  | 0, _ => 0
  | k + 1, i => if e ≤ i then 0 else if opLen L i e = 0 then 0 else (if ub L i = 172 ∨ ub L i = 173 then 1 else if ub L i = 174 ∨ ub L i = 175 then 20 else 0) + asksF L e k (i + opLen L i e)
def asksP (L : List Int32) (i n : Nat) : Nat := asksF L (i + n) n i
theorem asksF_le (L : List Int32) (e : Nat) : ∀ k i, asksF L e k i ≤ 20 * k
  | 0, _ => Nat.le_refl _
  | k + 1, i => by
    rw [asksF]
    have := asksF_le L e k (i + opLen L i e)
    split
    · omega
    · split
      · omega
      · split
        · omega
        · split <;> omega
theorem asksF_more (L : List Int32) (e : Nat) : ∀ k i j, e ≤ i + k → asksF L e (k + j) i = asksF L e k i
  | 0, i, j, h => by
    cases j with
    | zero => rfl
    | succ j =>
      rw [Nat.zero_add]
      show (if e ≤ i then 0 else _) = 0
      rw [if_pos (by omega)]
  | k + 1, i, j, h => by
    rw [show k + 1 + j = (k + j) + 1 by omega, asksF, asksF]
    split
    · rfl
    · split
      · rfl
      · have := opLen_le (L := L) (i := i) (e := e)
        rw [asksF_more L e k _ j (by omega)]
theorem Mc_asks_spec {n : Nat} (hd : 2 ≤ d) (ka : h.kd a = 101) (hl : i + n ≤ (h.ai a).length) (hl2 : (h.ai a).length < 2 ^ 20) : Cw G mX7_asks d 0 [vR a, vI (nI i), vI (nI n)] h (kI (fun x h' => x = nI (asksP (h.ai a) i n) ∧ h' = h) nE) := by
  obtain ⟨d, rfl⟩ : ∃ d', d = d' + 1 := ⟨d - 1, by omega⟩
  refine eX7_asks h a (nI i) (nI n) (fun _ => sX7_asks_0 h a (nI i) (nI n) ?_)
  rw [nI_add]
  obtain ⟨e, he⟩ : ∃ e, e = i + n := ⟨_, rfl⟩
  rw [← he]
  refine loop_wf (P := fun x : Nat × Nat => Aw G mX7_asks (d + 1) 0 h (kI (fun x h' => x = nI (asksP (h.ai a) i n) ∧ h' = h) nE) 10 [vR a, vU, vU, vI (nI x.2), vI (nI e), vI (nI x.1), vU] [] h)
    (fun x => e - x.1) (fun x => x.1 ≤ e ∧ asksP (h.ai a) i n = x.2 + asksF (h.ai a) e (e - x.1) x.1) (fun x hI ih => ?_) (i, 0) ⟨by omega, by
      show asksF _ _ _ _ = _
      rw [Nat.zero_add, he, Nat.add_sub_cancel_left]⟩
  obtain ⟨cur, c⟩ := x
  obtain ⟨hc, hI⟩ := hI
  dsimp only at hc hI ih ⊢
  refine sX7_asks_10 h a (nI c) (nI e) (nI cur) (pk_le e cur (fun q => ⟨?_, rfl⟩) (fun q => ⟨ka, ?_⟩))
  · rw [hI, show e - cur = 0 by omega]
    rfl
  · rw [pk_cl cur rfl (by omega), and_ub]
    refine ⟨pk_in cur _ (by omega), fun u4 e4 => (Mc_length_spec (by omega) ka q (by omega) hl2).nI (fun x5 h6 Q => ?_)⟩
    obtain ⟨rfl, rfl⟩ := Q
    subst e4
    have hu := ub_lt (h6.ai a) cur
    have hle := opLen_le (L := h6.ai a) (i := cur) (e := e)
    obtain ⟨m, hm⟩ : ∃ m, e - cur = m + 1 := ⟨e - cur - 1, by omega⟩
    rw [hm, asksF, if_neg (by omega)] at hI
    have hcc : c + 20 * (e - cur) ≤ c + 20 * (e - cur) := Nat.le_refl _
    refine pk_eq' (opLen (h6.ai a) cur e) 0 (fun q2 => ?_) (fun q2 => ⟨?_, rfl⟩) rfl rfl (by omega) (by omega)
    · rw [if_neg q2] at hI
      have nxt : ∀ c', asksP (h6.ai a) i n = c' + asksF (h6.ai a) e m (cur + opLen (h6.ai a) cur e) → Aw G mX7_asks (d + 1) 0 h6 (kI (fun x h' => x = nI (asksP (h6.ai a) i n) ∧ h' = h6) nE) 10 [vR a, vU, vU, vI (nI c'), vI (nI e), vI (nI (cur + opLen (h6.ai a) cur e)), vU] [] h6 := fun c' hc' =>
        ih (cur + opLen (h6.ai a) cur e, c') ⟨by dsimp only; omega, by
          dsimp only
          rw [hc', ← asksF_more _ _ (e - (cur + opLen (h6.ai a) cur e)) _ (m - (e - (cur + opLen (h6.ai a) cur e))) (by omega), show e - (cur + opLen (h6.ai a) cur e) + (m - (e - (cur + opLen (h6.ai a) cur e))) = m by omega]⟩ (by dsimp only; omega)
      have tail : ∀ c', asksP (h6.ai a) i n = c' + (if ub (h6.ai a) cur = 174 ∨ ub (h6.ai a) cur = 175 then 20 else 0) + asksF (h6.ai a) e m (cur + opLen (h6.ai a) cur e) → Aw G mX7_asks (d + 1) 0 h6 (kI (fun x h' => x = nI (asksP (h6.ai a) i n) ∧ h' = h6) nE) 59 [vR a, vU, vU, vI (nI c'), vI (nI e), vI (nI cur), vI (nI (ub (h6.ai a) cur))] [] h6 := fun c' hc' => by
        refine sX7_asks_59 h6 a (nI c') (nI e) (nI cur) (nI (ub (h6.ai a) cur)) (pk_eq (ub (h6.ai a) cur) 174 (fun c4 => ?_) (fun c4 => pk_eq' (ub (h6.ai a) cur) 175 (fun c5 => ?_) (fun c5 => ?_)))
        · refine (Mc_length_spec (by omega) ka q (by omega) hl2).nI (fun x2 h3 Q => ?_)
          obtain ⟨rfl, rfl⟩ := Q
          rw [nI_add, show (20 : Int32) = nI 20 from rfl, nI_add]
          exact nxt _ (by rw [hc', if_pos (Or.inl c4)])
        · refine (Mc_length_spec (by omega) ka q (by omega) hl2).nI (fun x2 h3 Q => ?_)
          obtain ⟨rfl, rfl⟩ := Q
          rw [nI_add]
          exact nxt _ (by rw [hc', if_neg (by omega), Nat.add_zero])
        · refine (Mc_length_spec (by omega) ka q (by omega) hl2).nI (fun x2 h3 Q => ?_)
          obtain ⟨rfl, rfl⟩ := Q
          rw [nI_add, show (20 : Int32) = nI 20 from rfl, nI_add]
          exact nxt _ (by rw [hc', if_pos (Or.inr c5)])
      refine pk_eq (ub (h6.ai a) cur) 172 (fun c3 => ?_) (fun c3 => pk_eq' (ub (h6.ai a) cur) 173 (fun c4 => ?_) (fun c4 => ?_))
      · rw [nI_1]
        exact tail _ (by rw [hI, if_pos (Or.inl c3), if_neg (by omega)]; omega)
      · exact tail _ (by rw [hI, if_neg (by omega)]; omega)
      · rw [nI_1]
        exact tail _ (by rw [hI, if_pos (Or.inr c4), if_neg (by omega)]; omega)
    · rw [hI, if_pos q2, Nat.add_zero]
/-- a script that only pushes -/
def pushesF (L : List Int32) (e : Nat) : Nat → Nat → Bool
  | 0, _ => true
  | k + 1, i => if e ≤ i then true else if 96 < ub L i then false else if opLen L i e = 0 then false else pushesF L e k (i + opLen L i e)
theorem pushesF_more (L : List Int32) (e : Nat) : ∀ k i j, e ≤ i + k → pushesF L e (k + j) i = pushesF L e k i
  | 0, i, j, h => by
    cases j with
    | zero => rfl
    | succ j =>
      rw [Nat.zero_add]
      show (if e ≤ i then true else _) = true
      rw [if_pos (by omega)]
  | k + 1, i, j, h => by
    rw [show k + 1 + j = (k + j) + 1 by omega, pushesF, pushesF]
    split
    · rfl
    · split
      · rfl
      · split
        · rfl
        · have := opLen_le (L := L) (i := i) (e := e)
          rw [pushesF_more L e k _ j (by omega)]
theorem Mc_pushes_spec {n : Nat} (hd : 2 ≤ d) (ka : h.kd a = 101) (hl : i + n ≤ (h.ai a).length) (hl2 : (h.ai a).length < 2 ^ 20) : Cw G mX7_pushes d 0 [vR a, vI (nI i), vI (nI n)] h (kI (fun x h' => x = (if pushesF (h.ai a) (i + n) n i then 1 else 0) ∧ h' = h) nE) := by
  obtain ⟨d, rfl⟩ : ∃ d', d = d' + 1 := ⟨d - 1, by omega⟩
  refine eX7_pushes h a (nI i) (nI n) (fun _ => sX7_pushes_0 h a (nI i) (nI n) ?_)
  refine loop_wf (P := fun x : Nat => Aw G mX7_pushes (d + 1) 0 h (kI (fun x h' => x = (if pushesF (h.ai a) (i + n) n i then 1 else 0) ∧ h' = h) nE) 2 [vR a, vI (nI i), vI (nI n), vI (nI x)] [] h)
    (fun x => i + n - x) (fun x => x ≤ i + n ∧ pushesF (h.ai a) (i + n) n i = pushesF (h.ai a) (i + n) (i + n - x) x) (fun cur hI ih => ?_) i ⟨by omega, by rw [Nat.add_sub_cancel_left]⟩
  obtain ⟨hc, hI⟩ := hI
  refine sX7_pushes_2 h a (nI i) (nI n) (nI cur) ?_
  rw [nI_add]
  refine pk_le (i + n) cur (fun q => ⟨?_, rfl⟩) (fun q => ⟨ka, ?_⟩)
  · rw [hI, show i + n - cur = 0 by omega]
    rfl
  · rw [pk_cl cur rfl (by omega), and_ub]
    have hu := ub_lt (h.ai a) cur
    have hle := opLen_le (L := h.ai a) (i := cur) (e := i + n)
    obtain ⟨m, hm⟩ : ∃ m, i + n - cur = m + 1 := ⟨i + n - cur - 1, by omega⟩
    rw [hm, pushesF, if_neg (by omega)] at hI
    refine ⟨pk_in cur _ (by omega), pk_lt 96 (ub (h.ai a) cur) (fun c1 => ⟨?_, rfl⟩) (fun c1 => (Mc_length_spec (by omega) ka q hl hl2).nI (fun x5 h6 Q => ?_))⟩
    · rw [hI, if_pos c1]
      rfl
    · obtain ⟨rfl, rfl⟩ := Q
      rw [if_neg (by omega)] at hI
      refine pk_eq' (opLen (h6.ai a) cur (i + n)) 0 (fun q2 => (Mc_length_spec (by omega) ka q hl hl2).nI (fun x8 h9 Q => ?_)) (fun q2 => ⟨?_, rfl⟩) rfl rfl (by omega) (by omega)
      · obtain ⟨rfl, rfl⟩ := Q
        rw [if_neg q2] at hI
        rw [nI_add]
        refine ih _ ⟨by omega, ?_⟩ (by omega)
        rw [hI, ← pushesF_more _ _ (i + n - (cur + opLen (h9.ai a) cur (i + n))) _ (m - (i + n - (cur + opLen (h9.ai a) cur (i + n)))) (by omega), show i + n - (cur + opLen (h9.ai a) cur (i + n)) + (m - (i + n - (cur + opLen (h9.ai a) cur (i + n)))) = m by omega]
      · rw [hI, if_pos q2]
        rfl
end OpLen

/-! open places one after another: the pure part -/
/-- how far it is from a to b, round the table -/
def cyc (a b : Nat) : Nat := (b + 1024 - a) % 1024
section Tab
variable {K : Type} {key : Nat → K} {sf : K → Nat}
/-- the table R is in order -/
def TbI (key : Nat → K) (sf : K → Nat) (T : Nat → Nat) : Prop :=
  (∀ p, p < 1024 → T p ≠ 0 → ∀ x, x < 1024 → cyc (sf (key (T p))) x ≤ cyc (sf (key (T p))) p → T x ≠ 0) ∧ (∀ p q, p < 1024 → q < 1024 → T p ≠ 0 → T q ≠ 0 → key (T p) = key (T q) → p = q)
theorem cyc_lt (a b : Nat) : cyc a b < 1024 := Nat.mod_lt _ (by decide)
theorem cyc_at {s i : Nat} (hs : s < 1024) (hi : i < 1024) : cyc s ((s + i) % 1024) = i := by
  unfold cyc
  omega
theorem at_cyc {s p : Nat} (hs : s < 1024) (hp : p < 1024) : (s + cyc s p) % 1024 = p := by
  unfold cyc
  omega
/-- an empty place ends the search -/
theorem tb_none {T : Nat → Nat} (hT : TbI key sf T) (hsf : ∀ k, sf k < 1024) {k : K} {i : Nat} (hi : i < 1024) (h0 : T ((sf k + i) % 1024) = 0) (hn : ∀ j, j < i → key (T ((sf k + j) % 1024)) ≠ k) : ∀ p, p < 1024 → T p ≠ 0 → key (T p) ≠ k := fun p hp h1 e => by
  have hs := hsf k
  have ep := at_cyc hs hp
  by_cases c : cyc (sf k) p < i
  · have := hn _ c
    rw [ep] at this
    exact this e
  · have h2 := hT.1 p hp h1 ((sf k + i) % 1024) (Nat.mod_lt _ (by decide)) (by rw [e, cyc_at hs hi]; omega)
    exact h2 h0
/-- a coin comes to an empty place -/
theorem tb_put {T T' : Nat → Nat} (hT : TbI key sf T) (hsf : ∀ k, sf k < 1024) {c i : Nat} (hc : c ≠ 0) (hi : i < 1024) (hb : ∀ j, j < i → T ((sf (key c) + j) % 1024) ≠ 0) (hn : ∀ p, p < 1024 → T p ≠ 0 → key (T p) ≠ key c)
    (hT' : ∀ p, p < 1024 → T' p = if p = (sf (key c) + i) % 1024 then c else T p) : TbI key sf T' := by
  have hs := hsf (key c)
  refine ⟨fun p hp h1 x hx h2 => ?_, fun p q hp hq h1 h2 e => ?_⟩
  · rw [hT' x hx]
    by_cases c1 : x = (sf (key c) + i) % 1024
    · rw [if_pos c1]; exact hc
    · rw [if_neg c1]
      rw [hT' p hp] at h1 h2
      by_cases c2 : p = (sf (key c) + i) % 1024
      · rw [if_pos c2, c2, cyc_at hs hi] at h2
        have ex := at_cyc hs hx
        have := hb (cyc (sf (key c)) x) (by
          rcases Nat.lt_or_ge (cyc (sf (key c)) x) i with w | w
          · exact w
          · exfalso
            apply c1
            rw [← ex, show cyc (sf (key c)) x = i by omega])
        rw [ex] at this
        exact this
      · rw [if_neg c2] at h1 h2
        exact hT.1 p hp h1 x hx h2
  · rw [hT' p hp] at h1 e
    rw [hT' q hq] at h2 e
    by_cases c1 : p = (sf (key c) + i) % 1024
    · by_cases c2 : q = (sf (key c) + i) % 1024
      · rw [c1, c2]
      · rw [if_pos c1, if_neg c2] at e
        rw [if_neg c2] at h2
        exact absurd e.symm (hn q hq h2)
    · by_cases c2 : q = (sf (key c) + i) % 1024
      · rw [if_neg c1, if_pos c2] at e
        rw [if_neg c1] at h1
        exact absurd e (hn p hp h1)
      · rw [if_neg c1, if_neg c2] at e
        rw [if_neg c1] at h1
        rw [if_neg c2] at h2
        exact hT.2 p q hp hq h1 h2 e
/-- one coin takes the place of another with the same name -/
theorem tb_same {T T' : Nat → Nat} (hT : TbI key sf T) {c p0 : Nat} (hc : c ≠ 0) (hp0 : p0 < 1024) (h0 : T p0 ≠ 0) (hk : key (T p0) = key c) (hT' : ∀ p, p < 1024 → T' p = if p = p0 then c else T p) : TbI key sf T' := by
  have hk' : ∀ p, p < 1024 → (T' p ≠ 0 ↔ T p ≠ 0) ∧ (T p ≠ 0 → key (T' p) = key (T p)) := fun p hp => by
    rw [hT' p hp]
    by_cases e : p = p0
    · rw [if_pos e, e]
      exact ⟨⟨fun _ => h0, fun _ => hc⟩, fun _ => hk.symm⟩
    · rw [if_neg e]
      exact ⟨Iff.rfl, fun _ => rfl⟩
  refine ⟨fun p hp h1 x hx h2 => ?_, fun p q hp hq h1 h2 e => ?_⟩
  · have h1' := (hk' p hp).1.mp h1
    rw [(hk' p hp).2 h1'] at h2
    exact (hk' x hx).1.mpr (hT.1 p hp h1' x hx h2)
  · have h1' := (hk' p hp).1.mp h1
    have h2' := (hk' q hq).1.mp h2
    rw [(hk' p hp).2 h1', (hk' q hq).2 h2'] at e
    exact hT.2 p q hp hq h1' h2' e
/-- a hole at k, what lies between it and j has been looked at -/
def TbH (key : Nat → K) (sf : K → Nat) (T : Nat → Nat) (k j : Nat) : Prop :=
  T k = 0 ∧ (∀ p, p < 1024 → 0 < cyc k p → cyc k p < cyc k j → T p ≠ 0 ∧ cyc (sf (key (T p))) p < cyc k p) ∧
  (∀ p, p < 1024 → T p ≠ 0 → ∀ x, x < 1024 → x ≠ k → cyc (sf (key (T p))) x ≤ cyc (sf (key (T p))) p → T x ≠ 0) ∧
  (∀ p q, p < 1024 → q < 1024 → T p ≠ 0 → T q ≠ 0 → key (T p) = key (T q) → p = q)
theorem tbh_start {T T' : Nat → Nat} {k : Nat} (hT : TbI key sf T) (hk : k < 1024) (hT' : ∀ p, p < 1024 → T' p = if p = k then 0 else T p) : TbH key sf T' k ((k + 1) % 1024) := by
  refine ⟨by rw [hT' k hk, if_pos rfl], fun p hp h1 h2 => ?_, fun p hp h1 x hx hxk h2 => ?_, fun p q hp hq h1 h2 e => ?_⟩
  · rw [cyc_at hk (by decide)] at h2
    omega
  · rw [hT' p hp] at h1 h2
    rw [hT' x hx, if_neg hxk]
    by_cases c : p = k
    · rw [if_pos c] at h1
      exact absurd rfl h1
    · rw [if_neg c] at h1 h2
      exact hT.1 p hp h1 x hx h2
  · rw [hT' p hp] at h1 e
    rw [hT' q hq] at h2 e
    by_cases c1 : p = k
    · rw [if_pos c1] at h1
      exact absurd rfl h1
    · by_cases c2 : q = k
      · rw [if_pos c2] at h2
        exact absurd rfl h2
      · rw [if_neg c1] at h1 e
        rw [if_neg c2] at h2 e
        exact hT.2 p q hp hq h1 h2 e
/-- on a path round the table -/
theorem path_mid {s p k x : Nat} (hs : s < 1024) (hp : p < 1024) (hk : k < 1024) (hx : x < 1024) (h1 : cyc s k ≤ cyc s p) (h2 : cyc k x ≤ cyc k p) : cyc s x ≤ cyc s p := by
  unfold cyc at *
  omega
theorem path_sum {s p k : Nat} (hs : s < 1024) (hp : p < 1024) (hk : k < 1024) (h1 : cyc s k ≤ cyc s p) : cyc k p ≤ cyc s p := by
  unfold cyc at *
  omega
/-- the end of a removal: an empty place is met -/
theorem tbh_end {T : Nat → Nat} {k j : Nat} (hT : TbH key sf T k j) (hsf : ∀ k, sf k < 1024) (hk : k < 1024) (hj : j < 1024) (hkj : k ≠ j) (h0 : T j = 0) : TbI key sf T := by
  obtain ⟨a1, a2, a3, a4⟩ := hT
  refine ⟨fun p hp h1 x hx h2 => ?_, a4⟩
  by_cases c : x = k
  · exfalso
    have hs := hsf (key (T p))
    rw [c] at h2
    have pk : p ≠ k := fun e => h1 (by rw [e]; exact a1)
    by_cases d : cyc k p < cyc k j
    · have h3 := (a2 p hp (by unfold cyc; omega) d).2
      have h4 := path_sum hs hp hk h2
      omega
    · exact a3 p hp h1 j hj (fun e => hkj e.symm) (path_mid hs hp hk hj h2 (by omega)) h0
  · exact a3 p hp h1 x hx c h2
/-- what is at j may stay -/
theorem tbh_skip {T : Nat → Nat} {k j : Nat} (hT : TbH key sf T k j) (hk : k < 1024) (hj : j < 1024) (h0 : T j ≠ 0) (hlt : cyc k j < 1023) (hs : cyc (sf (key (T j))) j < cyc k j) : TbH key sf T k ((j + 1) % 1024) := by
  obtain ⟨a1, a2, a3, a4⟩ := hT
  refine ⟨a1, fun p hp h1 h2 => ?_, a3, a4⟩
  by_cases e : p = j
  · rw [e]
    exact ⟨h0, hs⟩
  · exact a2 p hp h1 (by unfold cyc at *; omega)
/-- what is at j comes to the hole -/
theorem tbh_move {T T' : Nat → Nat} {k j : Nat} (hT : TbH key sf T k j) (hsf : ∀ k, sf k < 1024) (hk : k < 1024) (hj : j < 1024) (hkj : k ≠ j) (h0 : T j ≠ 0) (hs : ¬ cyc (sf (key (T j))) j < cyc k j) (hT' : ∀ p, p < 1024 → T' p = if p = j then 0 else if p = k then T j else T p) : TbH key sf T' j ((j + 1) % 1024) := by
  obtain ⟨a1, a2, a3, a4⟩ := hT
  have sj := hsf (key (T j))
  have onk : cyc (sf (key (T j))) k ≤ cyc (sf (key (T j))) j := by
    unfold cyc at *
    omega
  refine ⟨by rw [hT' j hj, if_pos rfl], fun p hp h1 h2 => ?_, fun p hp h1 x hx hxj h2 => ?_, fun p q hp hq h1 h2 e => ?_⟩
  · rw [cyc_at hj (by decide)] at h2
    omega
  · rw [hT' x hx, if_neg hxj]
    by_cases cx : x = k
    · rw [if_pos cx]
      exact h0
    · rw [if_neg cx]
      rw [hT' p hp] at h1 h2
      by_cases c1 : p = j
      · rw [if_pos c1] at h1
        exact absurd rfl h1
      · rw [if_neg c1] at h1 h2
        by_cases c2 : p = k
        · rw [if_pos c2, c2] at h2
          exact a3 j hj h0 x hx cx (Nat.le_trans h2 onk)
        · rw [if_neg c2] at h1 h2
          exact a3 p hp h1 x hx cx h2
  · have val : ∀ p, p < 1024 → T' p ≠ 0 → ∃ p', p' < 1024 ∧ T' p = T p' ∧ T p' ≠ 0 ∧ ((p = k ∧ p' = j) ∨ (p ≠ k ∧ p ≠ j ∧ p' = p)) := fun p hp h1 => by
      rw [hT' p hp] at h1 ⊢
      by_cases c1 : p = j
      · rw [if_pos c1] at h1
        exact absurd rfl h1
      · rw [if_neg c1] at h1 ⊢
        by_cases c2 : p = k
        · rw [if_pos c2]
          exact ⟨j, hj, rfl, h0, Or.inl ⟨c2, rfl⟩⟩
        · rw [if_neg c2] at h1 ⊢
          exact ⟨p, hp, rfl, h1, Or.inr ⟨c2, c1, rfl⟩⟩
    obtain ⟨p', hp', e1, n1, w1⟩ := val p hp h1
    obtain ⟨q', hq', e2, n2, w2⟩ := val q hq h2
    rw [e1, e2] at e
    have := a4 p' q' hp' hq' n1 n2 e
    omega
/-- what stands in a table -/
def inTb (T : Nat → Nat) (c : Nat) : Prop := c ≠ 0 ∧ ∃ p, p < 1024 ∧ T p = c
theorem inTb_move {T T' : Nat → Nat} {k j : Nat} (hk : k < 1024) (hj : j < 1024) (hkj : k ≠ j) (h1 : T k = 0) (hT' : ∀ p, p < 1024 → T' p = if p = j then 0 else if p = k then T j else T p) (c : Nat) : inTb T' c ↔ inTb T c := by
  refine ⟨fun ⟨h0, p, hp, e⟩ => ⟨h0, ?_⟩, fun ⟨h0, p, hp, e⟩ => ⟨h0, ?_⟩⟩
  · rw [hT' p hp] at e
    by_cases c1 : p = j
    · rw [if_pos c1] at e
      exact absurd e.symm h0
    · rw [if_neg c1] at e
      by_cases c2 : p = k
      · rw [if_pos c2] at e
        exact ⟨j, hj, e⟩
      · rw [if_neg c2] at e
        exact ⟨p, hp, e⟩
  · by_cases c1 : p = j
    · refine ⟨k, hk, ?_⟩
      rw [hT' k hk, if_neg hkj, if_pos rfl, ← c1]
      exact e
    · refine ⟨p, hp, ?_⟩
      by_cases c2 : p = k
      · rw [c2, h1] at e
        exact absurd e.symm h0
      · rw [hT' p hp, if_neg c1, if_neg c2]
        exact e
end Tab

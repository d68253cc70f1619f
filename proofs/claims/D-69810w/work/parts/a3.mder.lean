/-! the reference: whether a signature is in strict form -/
set_option maxRecDepth 100000
def shP (L : List Int32) (a m : Nat) : Prop := ub L a < 128 ∧ (m = 1 ∨ ub L a ≠ 0 ∨ 128 ≤ ub L (a + 1))
theorem intP_iff (L : List Int32) (i e : Nat) : intP L i e ≠ 0 ↔ (i + 2 ≤ e ∧ ub L i = 2 ∧ ub L (i + 1) ≠ 0 ∧ ub L (i + 1) < 128 ∧ i + 2 + ub L (i + 1) ≤ e ∧ shP L (i + 2) (ub L (i + 1))) := by
  have h3 : i + 2 + 1 = i + 3 := by omega
  unfold intP shP
  rw [h3]
  generalize ub L i = a
  generalize ub L (i + 1) = b
  generalize ub L (i + 2) = c
  generalize ub L (i + 3) = f
  split
  · rename_i h
    exact ⟨fun z => absurd rfl z, fun z => by omega⟩
  · rename_i h
    split
    · rename_i h'
      exact ⟨fun z => absurd rfl z, fun z => by omega⟩
    · rename_i h'
      split
      · rename_i h''
        exact ⟨fun z => absurd rfl z, fun z => by omega⟩
      · rename_i h''
        exact ⟨fun _ => by omega, fun _ => by omega⟩
theorem intP_val {L : List Int32} {i e : Nat} (h : intP L i e ≠ 0) : intP L i e = ub L (i + 1) + 2 := by
  unfold intP at h ⊢
  split at h
  · exact absurd rfl h
  · rename_i c1
    split at h
    · exact absurd rfl h
    · rename_i c2
      split at h
      · exact absurd rfl h
      · rename_i c3
        rw [if_neg c1, if_neg c2, if_neg c3]
theorem strictP_iff (L : List Int32) (n : Nat) : strictP L 0 n = true ↔ (9 ≤ n ∧ n ≤ 73 ∧ ub L 0 = 48 ∧ ub L 1 = n - 3 ∧ ub L 2 = 2 ∧ ub L 3 ≠ 0 ∧ 6 + ub L 3 < n ∧ ub L (4 + ub L 3) = 2 ∧ ub L (5 + ub L 3) ≠ 0 ∧ ub L 3 + ub L (5 + ub L 3) + 7 = n ∧ shP L 4 (ub L 3) ∧ shP L (6 + ub L 3) (ub L (5 + ub L 3))) := by
  unfold strictP
  simp only [decide_eq_true_eq, Nat.zero_add]
  have i1 := intP_iff L 2 (n - 1)
  have v1 := intP_val (L := L) (i := 2) (e := n - 1)
  constructor
  · intro ⟨h1, h2, h3, h4, h5, h6, h7⟩
    have a1 := i1.mp h5
    rw [v1 h5] at h6 h7
    have i2 := intP_iff L (4 + ub L 3) (n - 1)
    have v2 := intP_val (L := L) (i := 4 + ub L 3) (e := n - 1)
    have e4 : 2 + (ub L (2 + 1) + 2) = 4 + ub L 3 := by
      show 2 + (ub L 3 + 2) = 4 + ub L 3
      omega
    rw [e4] at h6 h7
    have a2 := i2.mp h6
    rw [v2 h6] at h7
    have e5 : 4 + ub L 3 + 1 = 5 + ub L 3 := by omega
    have e6 : 4 + ub L 3 + 2 = 6 + ub L 3 := by omega
    rw [e5] at a2 h7
    rw [e6] at a2
    obtain ⟨c1, c2, c3, c4, c5, c6⟩ := a1
    obtain ⟨d1, d2, d3, d4, d5, d6⟩ := a2
    exact ⟨h1, h2, h3, h4, c2, c3, by omega, d2, d3, by omega, c6, d6⟩
  · intro ⟨h1, h2, h3, h4, h5, h6, h7, h8, h9, h10, h11, h12⟩
    have p1 : intP L 2 (n - 1) ≠ 0 := i1.mpr ⟨by omega, h5, h6, by show ub L 3 < 128; omega, by show 2 + 2 + ub L 3 ≤ n - 1; omega, h11⟩
    have e4 : 2 + intP L 2 (n - 1) = 4 + ub L 3 := by
      rw [v1 p1]
      show 2 + (ub L 3 + 2) = 4 + ub L 3
      omega
    have e5 : 4 + ub L 3 + 1 = 5 + ub L 3 := by omega
    have e6 : 4 + ub L 3 + 2 = 6 + ub L 3 := by omega
    have i2 := intP_iff L (4 + ub L 3) (n - 1)
    have v2 := intP_val (L := L) (i := 4 + ub L 3) (e := n - 1)
    rw [e5, e6] at i2
    rw [e5] at v2
    have p2 : intP L (4 + ub L 3) (n - 1) ≠ 0 := i2.mpr ⟨by omega, h8, h9, by omega, by omega, h12⟩
    rw [e4]
    exact ⟨h1, h2, h3, h4, p1, p2, by rw [v2 p2]; omega⟩
section MDer
variable {G : Gx} {d : Nat} {h : AH} {M ga n : Nat}
theorem sh_v {L : List Int32} (B : isB L) (a m : Nat) : (if L.getD a 0 < 0 then (0 : Int32) else if m = 1 then 1 else if ¬ L.getD a 0 = 0 then 1 else if 0 ≤ L.getD (a + 1) 0 then 0 else 1) = 0 ↔ ¬ shP L a m := by
  have u0 := ub_lt L a
  have u1 := ub_lt L (a + 1)
  have q1 : L.getD a 0 < 0 ↔ 128 ≤ ub L a := by rw [gb B a]; exact bI_lt0 _ u0
  have q2 : L.getD a 0 = 0 ↔ ub L a = 0 := by rw [gb B a]; exact bI_0' _ u0
  have q3 : 0 ≤ L.getD (a + 1) 0 ↔ ub L (a + 1) < 128 := by rw [gb B (a + 1)]; exact bI_nn _ u1
  unfold shP
  split
  · rename_i c
    have := q1.mp c
    exact ⟨fun _ => by omega, fun _ => rfl⟩
  · rename_i c
    have c' : ¬ 128 ≤ ub L a := fun z => c (q1.mpr z)
    split
    · exact ⟨fun z => absurd z (by decide), fun z => by omega⟩
    · split
      · rename_i c2
        have : ¬ ub L a = 0 := fun z => c2 (q2.mpr z)
        exact ⟨fun z => absurd z (by decide), fun z => by omega⟩
      · rename_i c2
        have c2' : ub L a = 0 := by
          by_cases z : L.getD a 0 = 0
          · exact q2.mp z
          · exact absurd z c2
        split
        · rename_i c3
          have := q3.mp c3
          exact ⟨fun _ => by omega, fun _ => rfl⟩
        · rename_i c3
          have : ¬ ub L (a + 1) < 128 := fun z => c3 (q3.mpr z)
          exact ⟨fun z => absurd z (by decide), fun z => by omega⟩
theorem MD_isDer_spec (hd : 2 ≤ d) (kg : h.kd ga = 101) (lg : n ≤ (h.ai ga).length) (lg2 : (h.ai ga).length < 2 ^ 30) : Cw G mX24_isDer d 0 [vR M, vR ga, vI (nI n)] h (kI (fun x h' => x = bB (strictP (h.ai ga) 0 n) ∧ h' = h) nE) := by
  obtain ⟨d, rfl⟩ : ∃ d', d = d' + 1 := ⟨d - 1, by omega⟩
  refine eX24_isDer h M ga (nI n) (fun wf => sX24_isDer_0 h M ga (nI n) ?_)
  have B := wf.isB kg
  have S := strictP_iff (h.ai ga) n
  have no : ∀ {P : Prop}, ¬ P → (strictP (h.ai ga) 0 n = true → P) → (kI (fun x h' => x = bB (strictP (h.ai ga) 0 n) ∧ h' = h) nE) (.inl (some (vI 0))) h := fun hp f => ⟨by
    cases q : strictP (h.ai ga) 0 n with
    | false => rfl
    | true => exact absurd (f q) hp, rfl⟩
  have u0 := ub_lt (h.ai ga) 0
  have u1 := ub_lt (h.ai ga) 1
  have u2 := ub_lt (h.ai ga) 2
  have u3 := ub_lt (h.ai ga) 3
  refine pk_lt n 9 (fun z => no (P := 9 ≤ n) (by omega) (fun q => (S.mp q).1)) (fun z1 => pk_lt 73 n (fun z => no (P := n ≤ 73) (by omega) (fun q => (S.mp q).2.1)) (fun z2 => ⟨kg, ?_⟩))
  have g0 : (h.ai ga).getD ((0 : Int32).toNatClampNeg) 0 = bI (ub (h.ai ga) 0) := gb B 0
  have g1 : (h.ai ga).getD ((1 : Int32).toNatClampNeg) 0 &&& 255 = nI (ub (h.ai ga) 1) := and_ub _ 1
  have g2 : (h.ai ga).getD ((2 : Int32).toNatClampNeg) 0 = bI (ub (h.ai ga) 2) := gb B 2
  have g3 : (h.ai ga).getD ((3 : Int32).toNatClampNeg) 0 &&& 255 = nI (ub (h.ai ga) 3) := and_ub _ 3
  rw [g0, g1, g2, g3, bI_48 _ u0, bI_2 _ u2, show (3 : Int32) = nI 3 from rfl, pk_sub (show 3 ≤ n by omega)]
  refine ⟨pk_in 0 _ (by omega), fun z => no z (fun q => (S.mp q).2.2.1), fun z3 => ⟨pk_in 1 _ (by omega), pk_eq' (ub (h.ai ga) 1) (n - 3) (fun z => no z (fun q => (S.mp q).2.2.2.1)) (fun z4 => ⟨pk_in 2 _ (by omega), fun z5 => ⟨pk_in 3 _ (by omega), fun u11 e11 => ?_⟩, fun z => no z (fun q => (S.mp q).2.2.2.2.1)⟩)⟩⟩
  subst e11
  refine pk_eq (ub (h.ai ga) 3) 0 (fun z => no (P := ub (h.ai ga) 3 ≠ 0) (by omega) (fun q => (S.mp q).2.2.2.2.2.1)) (fun z6 => ?_)
  rw [show (6 : Int32) = nI 6 from rfl, show (4 : Int32) = nI 4 from rfl, show (5 : Int32) = nI 5 from rfl, show (7 : Int32) = nI 7 from rfl, nI_add, nI_add, nI_add]
  refine pk_le n (6 + ub (h.ai ga) 3) (fun z => no (P := 6 + ub (h.ai ga) 3 < n) (by omega) (fun q => (S.mp q).2.2.2.2.2.2.1)) (fun z7 => ?_)
  have u4 := ub_lt (h.ai ga) (4 + ub (h.ai ga) 3)
  have u5 := ub_lt (h.ai ga) (5 + ub (h.ai ga) 3)
  rw [pk_cl (4 + ub (h.ai ga) 3) rfl (by omega), pk_cl (5 + ub (h.ai ga) 3) rfl (by omega), and_ub, gb B (4 + ub (h.ai ga) 3), bI_2 _ u4]
  refine ⟨pk_in (4 + ub (h.ai ga) 3) _ (by omega), fun z8 => ⟨pk_in (5 + ub (h.ai ga) 3) _ (by omega), fun u17 e17 => ?_⟩, fun z => no z (fun q => (S.mp q).2.2.2.2.2.2.2.1)⟩
  subst e17
  refine pk_eq (ub (h.ai ga) (5 + ub (h.ai ga) 3)) 0 (fun z => no (P := ub (h.ai ga) (5 + ub (h.ai ga) 3) ≠ 0) (by omega) (fun q => (S.mp q).2.2.2.2.2.2.2.2.1)) (fun z9 => ?_)
  rw [nI_add, nI_add]
  refine pk_eq (ub (h.ai ga) 3 + ub (h.ai ga) (5 + ub (h.ai ga) 3) + 7) n (fun z10 => ?_) (fun z => no z (fun q => (S.mp q).2.2.2.2.2.2.2.2.2.1))
  refine (MD_shortest_spec (by omega) kg (by omega) (by omega) (by omega) (by omega)).nI (fun x20 h21 Q => ?_)
  obtain ⟨ex, eh⟩ := Q
  rw [eh, ex, sh_v B]
  clear eh ex
  refine ⟨fun z => no (P := shP (h.ai ga) 4 (ub (h.ai ga) 3)) z (fun q => (S.mp q).2.2.2.2.2.2.2.2.2.2.1), fun z11 => ?_⟩
  refine (MD_shortest_spec (by omega) kg (by omega) (by omega) (by omega) (by omega)).nI (fun x23 h24 Q => ?_)
  obtain ⟨ex, eh⟩ := Q
  rw [eh, ex, sh_v B]
  clear eh ex
  refine ⟨fun z => no (P := shP (h.ai ga) (6 + ub (h.ai ga) 3) (ub (h.ai ga) (5 + ub (h.ai ga) 3))) z (fun q => (S.mp q).2.2.2.2.2.2.2.2.2.2.2), fun z12 => ⟨?_, rfl⟩⟩
  have : strictP (h.ai ga) 0 n = true := S.mpr ⟨z1, z2, z3, z4, z5, z6, z7, z8, z9, z10, by
    by_cases q : shP (h.ai ga) 4 (ub (h.ai ga) 3)
    · exact q
    · exact absurd q z11, by
    by_cases q : shP (h.ai ga) (6 + ub (h.ai ga) 3) (ub (h.ai ga) (5 + ub (h.ai ga) 3))
    · exact q
    · exact absurd q z12⟩
  rw [this]
  rfl
end MDer

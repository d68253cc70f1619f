/-! the reference's stack machine: rows -/
set_option maxRecDepth 100000
/-- the row of bytes at a place: 0 .. 1001 the stack, from 1002 the other one, from 2004 what is saved -/
def rwA (h : AH) (Z j : Nat) : Nat := (h.ar (Z + 2 * (j / 1002))).getD (j % 1002) 0
def RwTb (h : AH) (Z : Nat) : Prop := ∀ j, j < 3006 → rwA h Z j ≠ 0 → (Z + 12 < rwA h Z j ∧ rwA h Z j < h.z ∧ h.kd (rwA h Z j) = 101 ∧ (h.ai (rwA h Z j)).length = 520 ∧ h.kd (rwA h Z j - 1) ≠ 22) ∧ ∀ i, i < 3006 → rwA h Z i = rwA h Z j → i = j
/-- an element's row of bytes stands behind it -/
def EI (h : AH) : Prop := ∀ e, e < h.z → h.kd e = 22 → e + 1 < h.z
def ndL : List Int32 := [1, 0, 1, 0, 2, 2, 3, 4, 6, 4, 1, 0, 1, 1, 2, 2, 2, 2, 3, 2, 2]
def MkS (h : AH) (M Z : Nat) : Prop := h.kd M = 24 ∧ (h.r 24065 M = Z ∧ h.r 24066 M = Z + 1 ∧ h.r 24068 M = Z + 2 ∧ h.r 24069 M = Z + 3 ∧ h.r 24071 M = Z + 4 ∧ h.r 24072 M = Z + 5 ∧ h.r 24075 M = Z + 6 ∧ h.r 24083 M = Z + 7 ∧ h.r 24085 M = Z + 8 ∧ h.r 24086 M = Z + 9 ∧ h.r 24090 M = Z + 12) ∧
  (h.kd Z = 115 ∧ h.kd (Z + 1) = 100 ∧ h.kd (Z + 2) = 115 ∧ h.kd (Z + 3) = 100 ∧ h.kd (Z + 4) = 115 ∧ h.kd (Z + 5) = 100 ∧ h.kd (Z + 6) = 101 ∧ h.kd (Z + 7) = 102 ∧ h.kd (Z + 8) = 100 ∧ h.kd (Z + 9) = 101 ∧ h.kd (Z + 12) = 101) ∧
  ((h.ar Z).length = 1002 ∧ (h.ai (Z + 1)).length = 1002 ∧ (h.ar (Z + 2)).length = 1002 ∧ (h.ai (Z + 3)).length = 1002 ∧ (h.ar (Z + 4)).length = 1002 ∧ (h.ai (Z + 5)).length = 1002 ∧ (h.ai (Z + 6)).length = 9 ∧ (h.ai (Z + 7)).length = 1601 ∧ (h.ai (Z + 9)).length = 32 ∧ (h.ai (Z + 12)).length = 16384) ∧ h.ai (Z + 8) = ndL ∧ M + 46 < Z ∧ Z + 12 < h.z
def nulM (h : AH) (Z : Nat) : Nat := cz (h.ar Z) + cz (h.ar (Z + 2)) + cz (h.ar (Z + 4))
/-- a row of the stack or of the other stack -/
def inT (h : AH) (Z y : Nat) : Prop := ∃ j, j < 2004 ∧ rwA h Z j ≠ 0 ∧ rwA h Z j = y
def skP (h : AH) (M Z y : Nat) : Prop := y = M ∨ (Z ≤ y ∧ y ≤ Z + 9 ∧ y ≠ Z + 4 ∧ y ≠ Z + 5 ∧ y ≠ Z + 7 ∧ y ≠ Z + 8) ∨ inT h Z y
/-- places of the stack and the other one that hold rows go on to do so -/
def nnR (h h' : AH) (Z : Nat) : Prop := ∀ j, j < 2004 → rwA h Z j ≠ 0 → rwA h' Z j ≠ 0
def SkF (h h' : AH) (M Z : Nat) : Prop := Same (skP h M Z) h h' ∧ (∀ y, y < h.z → inT h' Z y → inT h Z y) ∧ h'.z + nulM h' Z = h.z + nulM h Z ∧ h'.s + 520 * nulM h' Z = h.s + 520 * nulM h Z
theorem SkF.rf {h : AH} {M Z : Nat} : SkF h h M Z := ⟨Same.rf, fun _ _ q => q, rfl, rfl⟩
theorem SkF.trans {h h1 h2 : AH} {M Z : Nat} (a : SkF h h1 M Z) (b : SkF h1 h2 M Z) : SkF h h2 M Z :=
  ⟨a.1.trans b.1 (fun y hy p => by
    rcases p with p | p | p
    · exact Or.inl p
    · exact Or.inr (Or.inl p)
    · exact Or.inr (Or.inr (a.2.1 y hy p))), fun y hy q => a.2.1 y hy (b.2.1 y (Nat.lt_of_lt_of_le hy a.1.1) q), b.2.2.1.trans a.2.2.1, b.2.2.2.trans a.2.2.2⟩
/-- the rows from o on hold these bytes, their sizes in the row so -/
def StM (h : AH) (Z o so : Nat) (st : List (List Int32)) : Prop := ∀ j, j < st.length → rwA h Z (o + j) ≠ 0 ∧ (h.ai so).getD j 0 = nI (st.getD j []).length ∧ (st.getD j []).length ≤ 520 ∧ eqN (st.getD j []).length (h.ai (rwA h Z (o + j))) (st.getD j [])
def MWk (h : AH) (M Z : Nat) : Prop := MkS h M Z ∧ RwTb h Z ∧ EI h
def MOm (h : AH) (M Z : Nat) (st alt : List (List Int32)) : Prop := MWk h M Z ∧ (h.i 24067 M = nI st.length ∧ h.i 24070 M = nI alt.length ∧ st.length ≤ 1001 ∧ alt.length ≤ 1001) ∧ StM h Z 0 (Z + 1) st ∧ StM h Z 1002 (Z + 3) alt
section MStk
variable {G : Gx} {d : Nat} {h h' : AH} {M Z : Nat} {st alt : List (List Int32)}
theorem rwA_w {w k : Nat} (hk : k < 1002) : rwA h Z (1002 * w + k) = (h.ar (Z + 2 * w)).getD k 0 := by
  unfold rwA
  rw [show (1002 * w + k) / 1002 = w by omega, show (1002 * w + k) % 1002 = k by omega]
theorem rwA_eq (e : ∀ v, v < 3 → h'.ar (Z + 2 * v) = h.ar (Z + 2 * v)) {j : Nat} (hj : j < 3006) : rwA h' Z j = rwA h Z j := by
  unfold rwA
  rw [e _ (by omega)]
theorem nulM_eq (e : ∀ v, v < 3 → h'.ar (Z + 2 * v) = h.ar (Z + 2 * v)) : nulM h' Z = nulM h Z := by
  unfold nulM
  rw [show h'.ar Z = h.ar Z from e 0 (by decide), show h'.ar (Z + 2) = h.ar (Z + 2) from e 1 (by decide), show h'.ar (Z + 4) = h.ar (Z + 4) from e 2 (by decide)]
theorem MkS.row (H : MkS h M Z) {w : Nat} (hw : w < 3) : h.kd (Z + 2 * w) = 115 ∧ (h.ar (Z + 2 * w)).length = 1002 := by
  match w, hw with
  | 0, _ => exact ⟨H.2.2.1.1, H.2.2.2.1.1⟩
  | 1, _ => exact ⟨H.2.2.1.2.2.1, H.2.2.2.1.2.2.1⟩
  | 2, _ => exact ⟨H.2.2.1.2.2.2.2.1, H.2.2.2.1.2.2.2.2.1⟩
/-- the machine's cells keep their kinds and lengths -/
theorem MkS.same {P : Nat → Prop} (H : MkS h M Z) (S : Same P h h') (hr : ∀ k, k < 24087 ∨ k = 24090 → h'.r k M = h.r k M) (h8 : h'.ai (Z + 8) = h.ai (Z + 8)) : MkS h' M Z := by
  obtain ⟨a1, ⟨r1, r2, r3, r4, r5, r6, r7, r8, r9, r10, r11⟩, ⟨k0, k1, k2, k3, k4, k5, k6, k7, k8, k9, k12⟩, ⟨l0, l1, l2, l3, l4, l5, l6, l7, l9, l12⟩, e8, hM, hz⟩ := H
  have K : ∀ y, y ≤ Z + 12 → h'.kd y = h.kd y := fun y hy => S.kd (by omega)
  have L : ∀ y, y ≤ Z + 12 → (h'.ai y).length = (h.ai y).length := fun y hy => S.len (by omega)
  have LR : ∀ y, y ≤ Z + 12 → (h'.ar y).length = (h.ar y).length := fun y hy => S.lenR (by omega)
  have sz := S.1
  refine ⟨by rw [K M (by omega)]; exact a1, ⟨by rw [hr _ (Or.inl (by decide))]; exact r1, by rw [hr _ (Or.inl (by decide))]; exact r2, by rw [hr _ (Or.inl (by decide))]; exact r3, by rw [hr _ (Or.inl (by decide))]; exact r4, by rw [hr _ (Or.inl (by decide))]; exact r5, by rw [hr _ (Or.inl (by decide))]; exact r6, by rw [hr _ (Or.inl (by decide))]; exact r7, by rw [hr _ (Or.inl (by decide))]; exact r8, by rw [hr _ (Or.inl (by decide))]; exact r9, by rw [hr _ (Or.inl (by decide))]; exact r10, by rw [hr _ (Or.inr rfl)]; exact r11⟩,
    ⟨by rw [K _ (by omega)]; exact k0, by rw [K _ (by omega)]; exact k1, by rw [K _ (by omega)]; exact k2, by rw [K _ (by omega)]; exact k3, by rw [K _ (by omega)]; exact k4, by rw [K _ (by omega)]; exact k5, by rw [K _ (by omega)]; exact k6, by rw [K _ (by omega)]; exact k7, by rw [K _ (by omega)]; exact k8, by rw [K _ (by omega)]; exact k9, by rw [K _ (by omega)]; exact k12⟩,
    ⟨by rw [LR _ (by omega)]; exact l0, by rw [L _ (by omega)]; exact l1, by rw [LR _ (by omega)]; exact l2, by rw [L _ (by omega)]; exact l3, by rw [LR _ (by omega)]; exact l4, by rw [L _ (by omega)]; exact l5, by rw [L _ (by omega)]; exact l6, by rw [L _ (by omega)]; exact l7, by rw [L _ (by omega)]; exact l9, by rw [L _ (by omega)]; exact l12⟩, by rw [h8]; exact e8, hM, by omega⟩
theorem EI.same {P : Nat → Prop} (E : EI h) (S : Same P h h') (hz : h'.z = h.z) : EI h' := fun e he k => by
  rw [hz] at he ⊢
  rw [S.kd he] at k
  exact E e he k
theorem EI.new {n : Nat} {L : List Int32} {LL : List Int64} {LR : List Nat} {k : Nat} (E : EI h) (hk : k ≠ 22) : EI (h.new k n L LL LR) := fun e he q => by
  have z : (h.new k n L LL LR).z = h.z + 1 := rfl
  rw [z] at he ⊢
  rw [AH.kd_nw] at q
  by_cases c : e = h.z
  · rw [if_pos c] at q
    exact absurd q hk
  · rw [if_neg c] at q
    have := E e (by omega) q
    omega
theorem MD_row_spec {w k : Nat} (hd : 1 ≤ d) (H : MWk h M Z) (hw : w < 3) (hk : k < 1002) : Cw G mX24_row d 0 [vR (Z + 2 * w), vI (nI k)] h (kR (fun x h' => (x ≠ 0 ∧ x = rwA h' Z (1002 * w + k)) ∧ MWk h' M Z ∧ Same (fun y => y = Z + 2 * w) h h' ∧ (∀ j, j < 3006 → rwA h Z j ≠ 0 → rwA h' Z j = rwA h Z j) ∧ (∀ j, j < 3006 → j ≠ 1002 * w + k → rwA h' Z j = rwA h Z j) ∧ (x < h.z → x = rwA h Z (1002 * w + k)) ∧ h'.z + nulM h' Z = h.z + nulM h Z ∧ h'.s + 520 * nulM h' Z = h.s + 520 * nulM h Z) nE) := by
  obtain ⟨d, rfl⟩ : ∃ d', d = d' + 1 := ⟨d - 1, by omega⟩
  obtain ⟨Hs, T, E⟩ := H
  obtain ⟨kr, lr⟩ := Hs.row hw
  have hZ := Hs.2.2.2.2.2
  refine eX24_row h (Z + 2 * w) (nI k) (fun wf => sX24_row_0 h (Z + 2 * w) (nI k) ⟨kr, ?_⟩)
  rw [lr, pk_cl k rfl (by omega)]
  refine ⟨pk_in k 1002 hk, fun r3 e3 => ⟨fun c => ⟨pk_in k 1002 hk, fun r6 e6 => ?_⟩, fun c q7 e7 _ h8 e8 => ?_⟩⟩
  · have ex : r6 = rwA h Z (1002 * w + k) := by rw [e6, rwA_w hk]
    exact ⟨⟨by rw [e6, ← e3]; exact c, ex⟩, ⟨Hs, T, E⟩, Same.rf, fun _ _ _ => rfl, fun _ _ _ => rfl, fun _ => ex, rfl, rfl⟩
  · subst e7
    have nw : ¬ Z + 2 * w = h.z := by omega
    have ar8 : h8.ar (Z + 2 * w) = h.ar (Z + 2 * w) := by
      rw [e8, AH.ar_nw, if_neg nw]
    rw [ar8, lr]
    refine ⟨pk_in k 1002 hk, Or.inr (by rw [e8, AH.kd_nw, if_pos rfl]), fun h13 e13 => ?_⟩
    have ar13 : h13.ar (Z + 2 * w) = (h.ar (Z + 2 * w)).set k h.z := by rw [e13, AH.ar_wr, if_pos rfl]
    rw [ar13, List.length_set, lr, getD_set_eq (by rw [lr]; exact hk)]
    refine ⟨pk_in k 1002 hk, fun r16 e16 => ?_⟩
    subst e16
    have hz0 : h.z ≠ 0 := by omega
    have S8 : Same noP h h8 := by
      rw [e8]
      exact Same.rf.new _ _ _ _ _
    have S13 : Same (fun y => y = Z + 2 * w) h h13 := by
      rw [e13]
      exact (S8.mono (fun _ _ q => q.elim)).wr _ (by rw [ar8, List.length_set]) (Or.inl rfl)
    have z13 : h13.z = h.z + 1 := by rw [e13, e8]; rfl
    have s13 : h13.s = h.s + 520 := by rw [e13, e8]; rfl
    have arv : ∀ v, v < 3 → h13.ar (Z + 2 * v) = if v = w then (h.ar (Z + 2 * w)).set k h.z else h.ar (Z + 2 * v) := fun v hv => by
      by_cases q : v = w
      · rw [if_pos q, q, ar13]
      · rw [if_neg q]
        exact S13.ar (by omega) (by omega)
    have eo : ∀ j, j < 3006 → j ≠ 1002 * w + k → rwA h13 Z j = rwA h Z j := fun j hj hne => by
      unfold rwA
      rw [arv _ (by omega)]
      by_cases q : j / 1002 = w
      · rw [if_pos q, q, getD_set_ne (by omega)]
      · rw [if_neg q]
    have en : rwA h13 Z (1002 * w + k) = h.z := by
      rw [rwA_w hk, ar13, getD_set_eq (by rw [lr]; exact hk)]
    have h0 : rwA h Z (1002 * w + k) = 0 := by rw [rwA_w hk, ← e3]; exact c
    have czk := cz_set (l := h.ar (Z + 2 * w)) (i := k) (x := h.z) (by rw [lr]; exact hk) hz0
    rw [if_pos (by rw [← e3]; exact c)] at czk
    have hn : nulM h13 Z + 1 = nulM h Z := by
      have e0 := arv 0 (by decide)
      have e1 := arv 1 (by decide)
      have e2 := arv 2 (by decide)
      unfold nulM
      rw [show h13.ar Z = _ from e0, show h13.ar (Z + 2) = _ from e1, show h13.ar (Z + 4) = _ from e2]
      match w, hw with
      | 0, _ =>
        rw [if_pos rfl, if_neg (by decide), if_neg (by decide)]
        show cz ((h.ar (Z + 2 * 0)).set k h.z) + cz (h.ar (Z + 2)) + cz (h.ar (Z + 4)) + 1 = cz (h.ar (Z + 2 * 0)) + cz (h.ar (Z + 2)) + cz (h.ar (Z + 4))
        omega
      | 1, _ =>
        rw [if_pos rfl, if_neg (by decide), if_neg (by decide)]
        show cz (h.ar Z) + cz ((h.ar (Z + 2 * 1)).set k h.z) + cz (h.ar (Z + 4)) + 1 = cz (h.ar Z) + cz (h.ar (Z + 2 * 1)) + cz (h.ar (Z + 4))
        omega
      | 2, _ =>
        rw [if_pos rfl, if_neg (by decide), if_neg (by decide)]
        show cz (h.ar Z) + cz (h.ar (Z + 2)) + cz ((h.ar (Z + 2 * 2)).set k h.z) + 1 = cz (h.ar Z) + cz (h.ar (Z + 2)) + cz (h.ar (Z + 2 * 2))
        omega
    have k13 : ∀ y, h13.kd y = if y = h.z then 101 else h.kd y := fun y => by rw [e13]; show h8.kd y = _; rw [e8, AH.kd_nw]
    have a13 : ∀ y, h13.ai y = if y = h.z then List.replicate 520 0 else h.ai y := fun y => by rw [e13]; show h8.ai y = _; rw [e8, AH.ai_nw]
    refine ⟨⟨hz0, en.symm⟩, ⟨Hs.same S13 (fun q _ => S13.r (by omega) (by omega) q) (S13.ai (by omega) (by omega)), fun j hj hj0 => ?_, ?_⟩, S13, fun j hj hj0 => eo j hj (fun q => hj0 (by rw [q]; exact h0)), eo, fun q => absurd q (by omega), by omega, by omega⟩
    · by_cases q : j = 1002 * w + k
      · rw [q, en]
        refine ⟨⟨by omega, by omega, by rw [k13, if_pos rfl], by rw [a13, if_pos rfl, List.length_replicate], ?_⟩, fun i hi e => ?_⟩
        · rw [k13, if_neg (by omega)]
          intro q2
          have := E (h.z - 1) (by omega) q2
          omega
        · by_cases qi : i = 1002 * w + k
          · exact qi
          · rw [eo i hi qi] at e
            have := (T i hi (by rw [e]; exact hz0)).1.2.1
            omega
      · rw [eo j hj q] at hj0 ⊢
        obtain ⟨⟨t1, t2, t3, t4, t5⟩, t6⟩ := T j hj hj0
        refine ⟨⟨t1, by omega, by rw [k13, if_neg (by omega)]; exact t3, by rw [a13, if_neg (by omega)]; exact t4, by rw [k13, if_neg (by omega)]; exact t5⟩, fun i hi e => ?_⟩
        by_cases qi : i = 1002 * w + k
        · rw [qi, en] at e
          omega
        · rw [eo i hi qi] at e
          exact t6 i hi e
    · rw [e13, e8]
      have := E.new (n := 520) (L := List.replicate 520 0) (LL := []) (LR := []) (k := 101) (by decide)
      exact this
end MStk

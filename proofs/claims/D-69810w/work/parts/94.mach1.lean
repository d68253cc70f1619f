/-! the component's stack machine: its stacks -/
set_option maxRecDepth 100000
def MchS (h : AH) (Mc D : Nat) : Prop := h.kd Mc = 7 ∧ (h.r 7000 Mc = D ∧ h.r 7001 Mc = Mc + 1 ∧ h.r 7002 Mc = Mc + 2 ∧ h.r 7003 Mc = Mc + 3 ∧ h.r 7007 Mc = Mc + 4 ∧ h.r 7009 Mc = Mc + 5 ∧ h.r 7010 Mc = Mc + 6 ∧ h.r 7011 Mc = Mc + 7 ∧ h.r 7012 Mc = Mc + 8) ∧
  (h.kd (Mc + 1) = 104 ∧ h.kd (Mc + 2) = 104 ∧ h.kd (Mc + 3) = 104 ∧ h.kd (Mc + 4) = 102 ∧ h.kd (Mc + 5) = 101 ∧ h.kd (Mc + 6) = 101 ∧ h.kd (Mc + 7) = 101 ∧ h.kd (Mc + 8) = 101) ∧
  ((h.ar (Mc + 1)).length = 1004 ∧ (h.ar (Mc + 2)).length = 1004 ∧ (h.ar (Mc + 3)).length = 1004 ∧ (h.ai (Mc + 4)).length = 202 ∧ (h.ai (Mc + 5)).length = 1600 ∧ (h.ai (Mc + 6)).length = 1600 ∧ (h.ai (Mc + 7)).length = 32 ∧ (h.ai (Mc + 8)).length = 520)
/-- the element at a place of the three rows: 0 .. 1003 the stack, from 1004 the other one, from 2008 what is kept -/
def elA (h : AH) (Mc j : Nat) : Nat := (h.ar (Mc + 1 + j / 1004)).getD (j % 1004) 0
/-- all that stand in the rows are elements, each at one place -/
def ElTb (h : AH) (Mc b0 : Nat) : Prop := ∀ j, j < 3012 → elA h Mc j ≠ 0 → b0 ≤ elA h Mc j ∧ ElS h (elA h Mc j) ∧ ∀ i, i < 3012 → elA h Mc i = elA h Mc j → i = j
/-- from the place o on stand elements with these bytes -/
def StAt (h : AH) (Mc o : Nat) (st : List (List Int32)) : Prop := ∀ j, j < st.length → elA h Mc (o + j) ≠ 0 ∧ ElAt h (elA h Mc (o + j)) (st.getD j [])
/-- zeros of a row -/
def cz : List Nat → Nat
  | [] => 0
  | x :: r => (if x = 0 then 1 else 0) + cz r
theorem cz_set : ∀ {l : List Nat} {i x : Nat}, i < l.length → x ≠ 0 → cz (l.set i x) + (if l.getD i 0 = 0 then 1 else 0) = cz l
  | [], i, x, h, _ => by simp at h
  | y :: r, 0, x, _, hx => by
    show ((if x = 0 then 1 else 0) + cz r) + (if y = 0 then 1 else 0) = (if y = 0 then 1 else 0) + cz r
    rw [if_neg hx]
    omega
  | y :: r, i + 1, x, h, hx => by
    have := cz_set (l := r) (i := i) (by simpa using h) hx
    show ((if y = 0 then 1 else 0) + cz (r.set i x)) + (if r.getD i 0 = 0 then 1 else 0) = (if y = 0 then 1 else 0) + cz r
    omega
theorem cz_le : ∀ l : List Nat, cz l ≤ l.length
  | [] => Nat.le_refl _
  | x :: r => by
    have := cz_le r
    show (if x = 0 then 1 else 0) + cz r ≤ r.length + 1
    split <;> omega
def nul (h : AH) (Mc : Nat) : Nat := cz (h.ar (Mc + 1)) + cz (h.ar (Mc + 2)) + cz (h.ar (Mc + 3))
/-- a cell of an element that is kept -/
def keptC (h : AH) (Mc y : Nat) : Prop := ∃ j, 2008 ≤ j ∧ j < 3012 ∧ elA h Mc j ≠ 0 ∧ (y = elA h Mc j ∨ y = elA h Mc j + 1)
def nk (h : AH) (Mc y : Nat) : Prop := Mc + 3 < h.z → y ≠ Mc + 3 ∧ ¬ keptC h Mc y
/-- what the machine may change, whatever it does -/
def mQ (h : AH) (Mc y : Nat) : Prop := (Mc ≤ y ∧ y ≤ Mc + 3) ∨ h.kd y = 22 ∨ (h.kd y = 101 ∧ h.kd (y - 1) = 22)
/-- what the machine may change in a run: what is kept stays -/
def mP (h : AH) (Mc y : Nat) : Prop := (Mc ≤ y ∧ y ≤ Mc + 2) ∨ (h.kd y = 22 ∧ nk h Mc y) ∨ (h.kd y = 101 ∧ h.kd (y - 1) = 22 ∧ nk h Mc y)
theorem mP.q {h : AH} {Mc y : Nat} (p : mP h Mc y) : mQ h Mc y := by
  rcases p with p | p | p
  · exact Or.inl ⟨p.1, by omega⟩
  · exact Or.inr (Or.inl p.1)
  · exact Or.inr (Or.inr ⟨p.1, p.2.1⟩)
theorem mP3 {h : AH} {Mc : Nat} (hz : Mc + 3 < h.z) : ¬ mP h Mc (Mc + 3) := fun p => by
  rcases p with p | p | p
  · omega
  · exact (p.2 hz).1 rfl
  · exact (p.2.2 hz).1 rfl
theorem elA_3 {h h1 : AH} {Mc j : Nat} (e : h1.ar (Mc + 3) = h.ar (Mc + 3)) (h1' : 2008 ≤ j) (h2 : j < 3012) : elA h1 Mc j = elA h Mc j := by
  unfold elA
  rw [show j / 1004 = 2 by omega]
  show (h1.ar (Mc + 3)).getD _ 0 = (h.ar (Mc + 3)).getD _ 0
  rw [e]
theorem keptC_eq {h h1 : AH} {Mc y : Nat} (e : h1.ar (Mc + 3) = h.ar (Mc + 3)) (k : keptC h Mc y) : keptC h1 Mc y := by
  obtain ⟨j, j1, j2, j3, j4⟩ := k
  refine ⟨j, j1, j2, ?_, ?_⟩
  · rw [elA_3 e j1 j2]; exact j3
  · rw [elA_3 e j1 j2]; exact j4
/-- places of the stack that hold elements go on to do so -/
def nnM (h h' : AH) (Mc : Nat) : Prop := ∀ j, j < 1004 → elA h Mc j ≠ 0 → elA h' Mc j ≠ 0
/-- the frame of the machine's methods: room for elements is counted beforehand -/
def MFr (h h' : AH) (Mc : Nat) : Prop := Same (mP h Mc) h h' ∧ h'.z + 2 * nul h' Mc = h.z + 2 * nul h Mc ∧ h'.s + 522 * nul h' Mc = h.s + 522 * nul h Mc ∧ nnM h h' Mc
theorem MFr.rf {h : AH} {Mc : Nat} : MFr h h Mc := ⟨Same.rf, rfl, rfl, fun _ _ q => q⟩
theorem mQ_back {P : Nat → Prop} {h h1 : AH} {Mc y : Nat} (S : Same P h h1) (hy : y < h.z) (p : mQ h1 Mc y) : mQ h Mc y := by
  unfold mQ at p ⊢
  rw [S.kd hy, S.kd (show y - 1 < h.z by omega)] at p
  exact p
theorem nk_back {P : Nat → Prop} {h h1 : AH} {Mc y : Nat} (S : Same P h h1) (e : Mc + 3 < h.z → h1.ar (Mc + 3) = h.ar (Mc + 3)) (p : nk h1 Mc y) : nk h Mc y := fun hz =>
  ⟨(p (Nat.lt_of_lt_of_le hz S.1)).1, fun k => (p (Nat.lt_of_lt_of_le hz S.1)).2 (keptC_eq (e hz) k)⟩
theorem mP_back {P : Nat → Prop} {h h1 : AH} {Mc y : Nat} (S : Same P h h1) (e : Mc + 3 < h.z → h1.ar (Mc + 3) = h.ar (Mc + 3)) (hy : y < h.z) (p : mP h1 Mc y) : mP h Mc y := by
  unfold mP at p ⊢
  rw [S.kd hy, S.kd (show y - 1 < h.z by omega)] at p
  rcases p with p | p | p
  · exact Or.inl p
  · exact Or.inr (Or.inl ⟨p.1, nk_back S e p.2⟩)
  · exact Or.inr (Or.inr ⟨p.1, p.2.1, nk_back S e p.2.2⟩)
theorem MFr.trans {h h1 h2 : AH} {Mc : Nat} (a : MFr h h1 Mc) (b : MFr h1 h2 Mc) : MFr h h2 Mc :=
  ⟨a.1.trans b.1 (fun y hy p => mP_back a.1 (fun hz => a.1.ar hz (mP3 hz)) hy p), by have := a.2.1; have := b.2.1; omega, by have := a.2.2.1; have := b.2.2.1; omega, fun j hj q => b.2.2.2 j hj (a.2.2.2 j hj q)⟩
/-- an exception of the machine -/
def ThrM (h h' : AH) (Mc D b0 x : Nat) : Prop := h'.kd x = 17 ∧ MchS h' Mc D ∧ ElTb h' Mc b0 ∧ Same (mP h Mc) h h' ∧ h'.z + 2 * nul h' Mc ≤ h.z + 2 * nul h Mc + 1 ∧ h'.s + 522 * nul h' Mc ≤ h.s + 522 * nul h Mc + 6
theorem ThrM.aft {h h1 h' : AH} {Mc D b0 x : Nat} (a : MFr h h1 Mc) (T : ThrM h1 h' Mc D b0 x) : ThrM h h' Mc D b0 x :=
  ⟨T.1, T.2.1, T.2.2.1, a.1.trans T.2.2.2.1 (fun y hy p => mP_back a.1 (fun hz => a.1.ar hz (mP3 hz)) hy p), by have := a.2.1; have := T.2.2.2.2.1; omega, by have := a.2.2.1; have := T.2.2.2.2.2; omega⟩
/-- an element was made at a place of one of the three rows -/
def AtF (w : Nat) (h h' : AH) (Mc : Nat) : Prop := Same (fun y => y = Mc + 1 + w) h h' ∧ h'.z + 2 * nul h' Mc = h.z + 2 * nul h Mc ∧ h'.s + 522 * nul h' Mc = h.s + 522 * nul h Mc ∧ nnM h h' Mc
theorem AtF.fr {w : Nat} {h h' : AH} {Mc : Nat} (F : AtF w h h' Mc) (hw : w < 2) : MFr h h' Mc := ⟨F.1.mono (fun y _ q => Or.inl (by omega)), F.2⟩
section Mach1
variable {G : Gx} {d : Nat} {h h' : AH} {Mc D b0 : Nat} {st alt : List (List Int32)}
theorem MchS.same {P : Nat → Prop} (H : MchS h Mc D) (S : Same P h h') (hz : Mc + 8 < h.z) (hr : ∀ k, h'.r k Mc = h.r k Mc) : MchS h' Mc D := by
  have k0 : h'.kd Mc = h.kd Mc := S.kd (by omega)
  have k1 : h'.kd (Mc + 1) = h.kd (Mc + 1) := S.kd (by omega)
  have k2 : h'.kd (Mc + 2) = h.kd (Mc + 2) := S.kd (by omega)
  have k3 : h'.kd (Mc + 3) = h.kd (Mc + 3) := S.kd (by omega)
  have k4 : h'.kd (Mc + 4) = h.kd (Mc + 4) := S.kd (by omega)
  have k5 : h'.kd (Mc + 5) = h.kd (Mc + 5) := S.kd (by omega)
  have k6 : h'.kd (Mc + 6) = h.kd (Mc + 6) := S.kd (by omega)
  have k7 : h'.kd (Mc + 7) = h.kd (Mc + 7) := S.kd (by omega)
  have k8 : h'.kd (Mc + 8) = h.kd (Mc + 8) := S.kd (by omega)
  have l1 : (h'.ar (Mc + 1)).length = (h.ar (Mc + 1)).length := S.lenR (by omega)
  have l2 : (h'.ar (Mc + 2)).length = (h.ar (Mc + 2)).length := S.lenR (by omega)
  have l3 : (h'.ar (Mc + 3)).length = (h.ar (Mc + 3)).length := S.lenR (by omega)
  have l4 : (h'.ai (Mc + 4)).length = (h.ai (Mc + 4)).length := S.len (by omega)
  have l5 : (h'.ai (Mc + 5)).length = (h.ai (Mc + 5)).length := S.len (by omega)
  have l6 : (h'.ai (Mc + 6)).length = (h.ai (Mc + 6)).length := S.len (by omega)
  have l7 : (h'.ai (Mc + 7)).length = (h.ai (Mc + 7)).length := S.len (by omega)
  have l8 : (h'.ai (Mc + 8)).length = (h.ai (Mc + 8)).length := S.len (by omega)
  unfold MchS at H ⊢
  simp only [hr, k0, k1, k2, k3, k4, k5, k6, k7, k8, l1, l2, l3, l4, l5, l6, l7, l8]
  exact H
theorem MchS.row (H : MchS h Mc D) {w : Nat} (hw : w < 3) : h.kd (Mc + 1 + w) = 104 ∧ (h.ar (Mc + 1 + w)).length = 1004 := by
  have := H.2.2.1
  have := H.2.2.2
  match w, hw with
  | 0, _ => exact ⟨H.2.2.1.1, H.2.2.2.1⟩
  | 1, _ => exact ⟨H.2.2.1.2.1, H.2.2.2.2.1⟩
  | 2, _ => exact ⟨H.2.2.1.2.2.1, H.2.2.2.2.2.1⟩
theorem elA_w {w k : Nat} (hk : k < 1004) : elA h Mc (1004 * w + k) = (h.ar (Mc + 1 + w)).getD k 0 := by
  unfold elA
  rw [show (1004 * w + k) / 1004 = w by omega, show (1004 * w + k) % 1004 = k by omega]
/-- the rows are the same but one place, which was null -/
theorem nul_set {w k x : Nat} (hw : w < 3) (hk : k < (h.ar (Mc + 1 + w)).length) (hx : x ≠ 0) (h0 : (h.ar (Mc + 1 + w)).getD k 0 = 0) (e : ∀ v, v < 3 → h'.ar (Mc + 1 + v) = if v = w then (h.ar (Mc + 1 + w)).set k x else h.ar (Mc + 1 + v)) : nul h' Mc + 1 = nul h Mc := by
  have h1 := cz_set hk hx
  rw [if_pos h0] at h1
  have e0 := e 0 (by decide)
  have e1 := e 1 (by decide)
  have e2 := e 2 (by decide)
  unfold nul
  rw [show Mc + 1 = Mc + 1 + 0 from rfl, show Mc + 2 = Mc + 1 + 1 from rfl, show Mc + 3 = Mc + 1 + 2 from rfl, e0, e1, e2]
  match w, hw with
  | 0, _ =>
    rw [if_pos rfl, if_neg (by decide), if_neg (by decide)]
    omega
  | 1, _ =>
    rw [if_pos rfl, if_neg (by decide), if_neg (by decide)]
    omega
  | 2, _ =>
    rw [if_pos rfl, if_neg (by decide), if_neg (by decide)]
    omega
theorem nul_eq (e : ∀ v, v < 3 → h'.ar (Mc + 1 + v) = h.ar (Mc + 1 + v)) : nul h' Mc = nul h Mc := by
  unfold nul
  rw [show Mc + 1 = Mc + 1 + 0 from rfl, show Mc + 2 = Mc + 1 + 1 from rfl, show Mc + 3 = Mc + 1 + 2 from rfl, e 0 (by decide), e 1 (by decide), e 2 (by decide)]
theorem elA_eq (e : ∀ v, v < 3 → h'.ar (Mc + 1 + v) = h.ar (Mc + 1 + v)) {j : Nat} (hj : j < 3012) : elA h' Mc j = elA h Mc j := by
  unfold elA
  rw [e _ (by omega)]
/-- an element that is there keeps its bytes where its cells are the same -/
theorem El_ne (T : ElTb h Mc b0) {i j : Nat} (hi : i < 3012) (hj : j < 3012) (hj0 : elA h Mc j ≠ 0) (hi0 : elA h Mc i ≠ 0) (hij : i ≠ j) : elA h Mc i ≠ elA h Mc j ∧ elA h Mc i ≠ elA h Mc j + 1 ∧ elA h Mc i + 1 ≠ elA h Mc j ∧ elA h Mc i + 1 ≠ elA h Mc j + 1 := by
  have ti := T i hi hi0
  have tj := T j hj hj0
  refine ⟨fun e => hij (tj.2.2 i hi e), fun e => ?_, fun e => ?_, fun e => hij (tj.2.2 i hi (by omega))⟩
  · have := tj.2.1.2.2.1
    rw [← e, ti.2.1.1] at this
    omega
  · have := ti.2.1.2.2.1
    rw [e, tj.2.1.1] at this
    omega
theorem Mc_at_spec {w k : Nat} (hd : 2 ≤ d) (H : MchS h Mc D) (T : ElTb h Mc b0) (hb : b0 ≤ h.z) (hw : w < 3) (hk : k < 1004) : Cw G mX7_at d 0 [vR (Mc + 1 + w), vI (nI k)] h (kR (fun x h' => x ≠ 0 ∧ x = elA h' Mc (1004 * w + k) ∧ MchS h' Mc D ∧ ElTb h' Mc b0 ∧ AtF w h h' Mc ∧ Kp [] Mc h h' ∧ (∀ j, j < 3012 → elA h Mc j ≠ 0 → elA h' Mc j = elA h Mc j) ∧ (∀ j, j < 3012 → j ≠ 1004 * w + k → elA h' Mc j = elA h Mc j) ∧ ∀ y, y < h.z → (∀ v, v < 3 → y ≠ Mc + 1 + v) → eqAt h h' y) nE) := by
  obtain ⟨d, rfl⟩ : ∃ d', d = d' + 1 := ⟨d - 1, by omega⟩
  obtain ⟨kr, lr⟩ := H.row hw
  refine eX7_at h (Mc + 1 + w) (nI k) (fun wf => sX7_at_0 h (Mc + 1 + w) (nI k) ⟨kr, ?_⟩)
  have hMz : Mc + 8 < h.z := by
    have := (wf.2.2.1 (Mc + 8) (by rw [H.2.2.1.2.2.2.2.2.2.2]; decide)).2.1
    exact this
  rw [lr, pk_cl k rfl (by omega)]
  refine ⟨pk_in k 1004 hk, fun r3 e3 => ⟨fun c => ⟨pk_in k 1004 hk, fun r6 e6 => ?_⟩, fun c q7 e7 _ h8 e8 => ?_⟩⟩
  · exact ⟨by rw [e6, ← e3]; exact c, by rw [e6, elA_w hk], H, T, ⟨Same.rf, rfl, rfl, fun _ _ q => q⟩, Kp.rf, fun _ _ _ => rfl, fun _ _ _ => rfl, fun _ _ _ => eqAt.rf⟩
  · subst e7
    have kd8 : h8.kd h.z = 22 := by rw [e8, AH.kd_nw, if_pos rfl]
    refine (El_init_spec (by omega) kd8).nV (fun h11 e11 => ?_)
    have z8 : h8.z = h.z + 1 := by rw [e8]; rfl
    have nw : ¬ Mc + 1 + w = h.z := by omega
    have nw1 : ¬ Mc + 1 + w = h.z + 1 := by omega
    have ar11 : h11.ar (Mc + 1 + w) = h.ar (Mc + 1 + w) := by
      rw [e11, e8]
      simp only [AH.kd_pr, AH.r_pr, AH.i_pr, AH.l_pr, AH.ai_pr, AH.al_pr, AH.ar_pr, AH.z_pr, AH.s_pr, AH.kd_pi, AH.r_pi, AH.i_pi, AH.l_pi, AH.ai_pi, AH.al_pi, AH.ar_pi, AH.z_pi, AH.s_pi, AH.kd_pl, AH.r_pl, AH.i_pl, AH.l_pl, AH.ai_pl, AH.al_pl, AH.ar_pl, AH.z_pl, AH.s_pl, AH.kd_wl, AH.r_wl, AH.i_wl, AH.l_wl, AH.ai_wl, AH.al_wl, AH.ar_wl, AH.z_wl, AH.s_wl, AH.kd_wr, AH.r_wr, AH.i_wr, AH.l_wr, AH.ai_wr, AH.al_wr, AH.ar_wr, AH.z_wr, AH.s_wr, AH.kd_wi, AH.r_wi, AH.i_wi, AH.l_wi, AH.ai_wi, AH.al_wi, AH.ar_wi, AH.z_wi, AH.s_wi, AH.kd_nw, AH.r_nw, AH.i_nw, AH.l_nw, AH.ai_nw, AH.al_nw, AH.ar_nw, AH.z_nw, AH.s_nw, false_and, and_false, true_and, and_true, and_self, eq_self, if_true, if_false, reduceIte, nw, nw1]
    rw [ar11, lr]
    refine ⟨pk_in k 1004 hk, Or.inr (by
      rw [e11, e8]
      simp only [AH.kd_pr, AH.r_pr, AH.i_pr, AH.l_pr, AH.ai_pr, AH.al_pr, AH.ar_pr, AH.z_pr, AH.s_pr, AH.kd_pi, AH.r_pi, AH.i_pi, AH.l_pi, AH.ai_pi, AH.al_pi, AH.ar_pi, AH.z_pi, AH.s_pi, AH.kd_pl, AH.r_pl, AH.i_pl, AH.l_pl, AH.ai_pl, AH.al_pl, AH.ar_pl, AH.z_pl, AH.s_pl, AH.kd_wl, AH.r_wl, AH.i_wl, AH.l_wl, AH.ai_wl, AH.al_wl, AH.ar_wl, AH.z_wl, AH.s_wl, AH.kd_wr, AH.r_wr, AH.i_wr, AH.l_wr, AH.ai_wr, AH.al_wr, AH.ar_wr, AH.z_wr, AH.s_wr, AH.kd_wi, AH.r_wi, AH.i_wi, AH.l_wi, AH.ai_wi, AH.al_wi, AH.ar_wi, AH.z_wi, AH.s_wi, AH.kd_nw, AH.r_nw, AH.i_nw, AH.l_nw, AH.ai_nw, AH.al_nw, AH.ar_nw, AH.z_nw, AH.s_nw, false_and, and_false, true_and, and_true, and_self, eq_self, if_true, if_false, reduceIte, show ¬ h.z = h.z + 1 by omega]), fun h16 e16 => ?_⟩
    have ar16 : h16.ar (Mc + 1 + w) = (h.ar (Mc + 1 + w)).set k h.z := by rw [e16, AH.ar_wr, if_pos rfl]
    rw [ar16, List.length_set, lr, getD_set_eq (by rw [lr]; exact hk)]
    refine ⟨pk_in k 1004 hk, fun r19 e19 => ?_⟩
    subst e19
    have hz0 : h.z ≠ 0 := by omega
    have S11n : Same noP h h11 := by
      rw [e11, e8]
      exact ((Same.rf.new _ _ _ _ _).new _ _ _ _ _).pr _ _ (Or.inr (Nat.le_refl _))
    have S16n : Same (fun y => y = Mc + 1 + w) h h16 := by
      rw [e16]
      exact (S11n.mono (fun _ _ q => q.elim)).wr _ (by rw [ar11, List.length_set]) (Or.inl rfl)
    have arv : ∀ v, v < 3 → h16.ar (Mc + 1 + v) = if v = w then (h.ar (Mc + 1 + w)).set k h.z else h.ar (Mc + 1 + v) := fun v hv => by
      by_cases q : v = w
      · rw [if_pos q, q, ar16]
      · rw [if_neg q]
        exact S16n.ar (by omega) (by omega)
    have eo : ∀ j, j < 3012 → j ≠ 1004 * w + k → elA h16 Mc j = elA h Mc j := fun j hj hne => by
      unfold elA
      rw [arv _ (by omega)]
      by_cases q : j / 1004 = w
      · rw [if_pos q, q, getD_set_ne (by omega)]
      · rw [if_neg q]
    have en : elA h16 Mc (1004 * w + k) = h.z := by
      rw [elA_w hk, ar16, getD_set_eq (by rw [lr]; exact hk)]
    have h0 : elA h Mc (1004 * w + k) = 0 := by rw [elA_w hk, ← e3]; exact c
    have z16 : h16.z = h.z + 2 := by rw [e16, e11]; simp only [AH.kd_pr, AH.r_pr, AH.i_pr, AH.l_pr, AH.ai_pr, AH.al_pr, AH.ar_pr, AH.z_pr, AH.s_pr, AH.kd_pi, AH.r_pi, AH.i_pi, AH.l_pi, AH.ai_pi, AH.al_pi, AH.ar_pi, AH.z_pi, AH.s_pi, AH.kd_pl, AH.r_pl, AH.i_pl, AH.l_pl, AH.ai_pl, AH.al_pl, AH.ar_pl, AH.z_pl, AH.s_pl, AH.kd_wl, AH.r_wl, AH.i_wl, AH.l_wl, AH.ai_wl, AH.al_wl, AH.ar_wl, AH.z_wl, AH.s_wl, AH.kd_wr, AH.r_wr, AH.i_wr, AH.l_wr, AH.ai_wr, AH.al_wr, AH.ar_wr, AH.z_wr, AH.s_wr, AH.kd_wi, AH.r_wi, AH.i_wi, AH.l_wi, AH.ai_wi, AH.al_wi, AH.ar_wi, AH.z_wi, AH.s_wi, AH.kd_nw, AH.r_nw, AH.i_nw, AH.l_nw, AH.ai_nw, AH.al_nw, AH.ar_nw, AH.z_nw, AH.s_nw, false_and, and_false, true_and, and_true, and_self, eq_self, if_true, if_false, reduceIte]; omega
    have s16 : h16.s = h.s + 522 := by rw [e16, e11, e8]; simp only [AH.kd_pr, AH.r_pr, AH.i_pr, AH.l_pr, AH.ai_pr, AH.al_pr, AH.ar_pr, AH.z_pr, AH.s_pr, AH.kd_pi, AH.r_pi, AH.i_pi, AH.l_pi, AH.ai_pi, AH.al_pi, AH.ar_pi, AH.z_pi, AH.s_pi, AH.kd_pl, AH.r_pl, AH.i_pl, AH.l_pl, AH.ai_pl, AH.al_pl, AH.ar_pl, AH.z_pl, AH.s_pl, AH.kd_wl, AH.r_wl, AH.i_wl, AH.l_wl, AH.ai_wl, AH.al_wl, AH.ar_wl, AH.z_wl, AH.s_wl, AH.kd_wr, AH.r_wr, AH.i_wr, AH.l_wr, AH.ai_wr, AH.al_wr, AH.ar_wr, AH.z_wr, AH.s_wr, AH.kd_wi, AH.r_wi, AH.i_wi, AH.l_wi, AH.ai_wi, AH.al_wi, AH.ar_wi, AH.z_wi, AH.s_wi, AH.kd_nw, AH.r_nw, AH.i_nw, AH.l_nw, AH.ai_nw, AH.al_nw, AH.ar_nw, AH.z_nw, AH.s_nw, false_and, and_false, true_and, and_true, and_self, eq_self, if_true, if_false, reduceIte]
    have hn := nul_set (h := h) (h' := h16) hw (by rw [lr]; exact hk) hz0 (by rw [← e3]; exact c) arv
    have eS : ElS h16 h.z := by
      have n1 : ¬ h.z = h.z + 1 := by omega
      rw [e16, e11, e8]
      unfold ElS
      simp only [AH.kd_pr, AH.r_pr, AH.i_pr, AH.l_pr, AH.ai_pr, AH.al_pr, AH.ar_pr, AH.z_pr, AH.s_pr, AH.kd_pi, AH.r_pi, AH.i_pi, AH.l_pi, AH.ai_pi, AH.al_pi, AH.ar_pi, AH.z_pi, AH.s_pi, AH.kd_pl, AH.r_pl, AH.i_pl, AH.l_pl, AH.ai_pl, AH.al_pl, AH.ar_pl, AH.z_pl, AH.s_pl, AH.kd_wl, AH.r_wl, AH.i_wl, AH.l_wl, AH.ai_wl, AH.al_wl, AH.ar_wl, AH.z_wl, AH.s_wl, AH.kd_wr, AH.r_wr, AH.i_wr, AH.l_wr, AH.ai_wr, AH.al_wr, AH.ar_wr, AH.z_wr, AH.s_wr, AH.kd_wi, AH.r_wi, AH.i_wi, AH.l_wi, AH.ai_wi, AH.al_wi, AH.ar_wi, AH.z_wi, AH.s_wi, AH.kd_nw, AH.r_nw, AH.i_nw, AH.l_nw, AH.ai_nw, AH.al_nw, AH.ar_nw, AH.z_nw, AH.s_nw, false_and, and_false, true_and, and_true, and_self, eq_self, if_true, if_false, reduceIte, n1, List.length_replicate]
    refine ⟨hz0, en.symm, H.same S16n hMz (fun q => S16n.r (by omega) (by omega) q), fun j hj hj0 => ?_, ⟨S16n, by omega, by omega, fun j hj hj0 => by
      by_cases c2 : j = 1004 * w + k
      · rw [c2, en]; exact hz0
      · rw [eo j (by omega) c2]; exact hj0⟩, Kp.eq (S16n.2.2 Mc (by omega) (by omega)), fun j hj hj0 => eo j hj (fun q => hj0 (by rw [q]; exact h0)), eo, fun y hy hv => S16n.2.2 y hy (hv w hw)⟩
    by_cases q : j = 1004 * w + k
    · rw [q, en]
      refine ⟨by omega, eS, fun i hi e => ?_⟩
      by_cases qi : i = 1004 * w + k
      · exact qi
      · rw [eo i hi qi] at e
        have ti := (T i hi (by rw [e]; exact hz0)).2.1.1
        rw [e] at ti
        have := (wf.2.2.1 h.z (by rw [ti]; decide)).2.1
        omega
    · rw [eo j hj q] at hj0 ⊢
      obtain ⟨t1, t2, t3⟩ := T j hj hj0
      have tz : elA h Mc j < h.z := (wf.2.2.1 _ (by rw [t2.1]; decide)).2.1
      have tz1 : elA h Mc j + 1 < h.z := (wf.2.2.1 _ (by rw [t2.2.2.1]; decide)).2.1
      have ne0 : elA h Mc j ≠ Mc + 1 + w := fun e => by have := t2.1; rw [e, kr] at this; omega
      refine ⟨t1, t2.eq (S16n.2.2 _ tz ne0) (S16n.2.1.2 _ tz1), fun i hi e => ?_⟩
      by_cases qi : i = 1004 * w + k
      · rw [qi, en] at e
        omega
      · rw [eo i hi qi] at e
        exact t3 i hi e
end Mach1

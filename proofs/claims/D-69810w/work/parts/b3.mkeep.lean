/-! the reference: scripts that push alone; what is saved of a stack -/
set_option maxRecDepth 100000
section MPsh
variable {G : Gx} {d : Nat} {h h0 : AH} {M ta off sz : Nat} {L : List Int32}
theorem isp_3 {β : Bool} (hd : 2 ≤ d) (kM : h.kd M = 24) (kt : h.kd ta = 101) (eL : h.ai ta = L) (hl : off + sz ≤ L.length) (hl2 : L.length < 2 ^ 20) : ∀ (k i : Nat) (v : Int32), off + sz ≤ i + k → i ≤ off + sz → pushesF L (off + sz) k i = β →
    Aw G mX24_isPushes (d + 1) 0 h0 (kI (fun x h' => x = bB β ∧ ∃ v, h' = h.pi 24063 M v) nE) 3 [vR M, vR ta, vI (nI off), vI (nI sz), vI (nI i)] [] (h.pi 24063 M v) := by
  intro k
  induction k with
  | zero =>
    intro i v hk hi hβ
    refine sX24_isPushes_3 _ M ta (nI off) (nI sz) (nI i) ?_
    rw [nI_add]
    exact pk_le (off + sz) i (fun _ => ⟨by rw [← hβ]; rfl, v, rfl⟩) (fun z => absurd z (by omega))
  | succ k ih =>
    intro i v hk hi hβ
    have hu := ub_lt L i
    refine sX24_isPushes_3 _ M ta (nI off) (nI sz) (nI i) ?_
    rw [nI_add]
    unfold pushesF at hβ
    refine pk_le (off + sz) i (fun z => ⟨by rw [← hβ, if_pos z]; rfl, v, rfl⟩) (fun z => ?_)
    rw [if_neg (by omega)] at hβ
    rw [show (h.pi 24063 M v).ai ta = L from eL, pk_cl i rfl (by omega), and_ub]
    refine ⟨kt, pk_in i L.length (by omega), pk_le (ub L i) 96 (fun z2 => ⟨kM, ?_⟩) (fun z2 => ⟨by rw [← hβ, if_pos (by omega)]; rfl, v, rfl⟩)⟩
    rw [if_neg (by omega)] at hβ
    refine (MD_behind_spec (h := h.pi 24063 M v) (L := L) hd kM kt eL (by omega) hl hl2).nI (fun x5 h6 Q => ?_)
    obtain ⟨ex, e6⟩ := Q
    rw [AH.pi_pi] at e6
    by_cases n0 : opLen L i (off + sz) = 0
    · rw [if_pos n0] at hβ ex
      rw [ex]
      exact ⟨fun q => absurd q (by decide), fun _ => ⟨by rw [← hβ]; rfl, _, e6⟩⟩
    · rw [if_neg n0] at hβ ex
      have ol := opLen_le (L := L) (i := i) (e := off + sz)
      rw [ex, e6]
      exact pk_le 0 (i + opLen L i (off + sz)) (fun _ => ih _ _ (by omega) (by omega) hβ) (fun z => absurd z (by omega))
theorem MD_isPushes_spec (hd : 3 ≤ d) (kM : h.kd M = 24) (kt : h.kd ta = 101) (eL : h.ai ta = L) (hl : off + sz ≤ L.length) (hl2 : L.length < 2 ^ 20) : Cw G mX24_isPushes d 0 [vR M, vR ta, vI (nI off), vI (nI sz)] h (kI (fun x h' => x = bB (pushesF L (off + sz) sz off) ∧ ∃ v, h' = h.pi 24063 M v) nE) := by
  obtain ⟨d, rfl⟩ : ∃ d', d = d' + 1 := ⟨d - 1, by omega⟩
  refine eX24_isPushes h M ta (nI off) (nI sz) (fun _ => sX24_isPushes_0 h M ta (nI off) (nI sz) ?_)
  have := isp_3 (G := G) (d := d) (h0 := h) (by omega) kM kt eL hl hl2 sz off (h.i 24063 M) (by omega) (by omega) rfl
  rw [AH.pi_self h rfl] at this
  exact this
end MPsh
section MKeep
variable {G : Gx} {d : Nat} {hB h h' h0 : AH} {M Z j : Nat} {st alt : List (List Int32)}
/-- a row of what is saved -/
def inS (h : AH) (Z y : Nat) : Prop := ∃ j, (2004 ≤ j ∧ j < 3006) ∧ rwA h Z j ≠ 0 ∧ rwA h Z j = y
def ksP (h : AH) (M Z y : Nat) : Prop := y = M ∨ y = Z + 4 ∨ y = Z + 5 ∨ inS h Z y
def KsF (h h' : AH) (M Z : Nat) : Prop := Same (ksP h M Z) h h' ∧ (∀ y, y < h.z → inS h' Z y → inS h Z y) ∧ (∀ j, j < 2004 → rwA h' Z j = rwA h Z j) ∧ h'.z + nulM h' Z = h.z + nulM h Z ∧ h'.s + 520 * nulM h' Z = h.s + 520 * nulM h Z ∧ Kp [24073] M h h'
theorem KsF.rf : KsF h h M Z := ⟨Same.rf, fun _ _ q => q, fun _ _ => rfl, rfl, rfl, Kp.rf⟩
theorem KsF.trans {h2 : AH} (x : KsF h h' M Z) (y : KsF h' h2 M Z) : KsF h h2 M Z :=
  ⟨x.1.trans y.1 (fun q hq p => by
    rcases p with p | p | p | p
    · exact Or.inl p
    · exact Or.inr (Or.inl p)
    · exact Or.inr (Or.inr (Or.inl p))
    · exact Or.inr (Or.inr (Or.inr (x.2.1 q hq p)))), fun q hq p => x.2.1 q hq (y.2.1 q (Nat.lt_of_lt_of_le hq x.1.1) p), fun j hj => (y.2.2.1 j hj).trans (x.2.2.1 j hj), y.2.2.2.1.trans x.2.2.2.1, y.2.2.2.2.1.trans x.2.2.2.2.1, x.2.2.2.2.2.trans y.2.2.2.2.2 (fun _ q => q)⟩
/-- so much of the stack is saved -/
def KsI (hB h : AH) (M Z j : Nat) (st : List (List Int32)) : Prop := (MWk h M Z ∧ h.i 24067 M = nI st.length ∧ StM h Z 0 (Z + 1) st) ∧ StM h Z 2004 (Z + 5) (st.take j) ∧ KsF hB h M Z ∧ h.i 24073 M = nI st.length
/-- one more row is saved -/
theorem keep_end {x : Nat} {h5 h10 : AH} {Tx Sx : List Int32} (I1 : KsI hB h M Z j st) (hj : j < st.length) (hs : st.length ≤ 1001)
    (R : (x ≠ 0 ∧ x = rwA h5 Z (1002 * 2 + j)) ∧ MWk h5 M Z ∧ Same (fun y => y = Z + 2 * 2) h h5 ∧ (∀ j, j < 3006 → rwA h Z j ≠ 0 → rwA h5 Z j = rwA h Z j) ∧ (∀ k, k < 3006 → k ≠ 1002 * 2 + j → rwA h5 Z k = rwA h Z k) ∧ (x < h.z → x = rwA h Z (1002 * 2 + j)) ∧ h5.z + nulM h5 Z = h.z + nulM h Z ∧ h5.s + 520 * nulM h5 Z = h.s + 520 * nulM h Z)
    (lT : Tx.length = 520) (gT : ∀ i, i < (st.getD j []).length → Tx.getD i 0 = (h5.ai (rwA h5 Z j)).getD i 0) (eS : Sx = (h5.ai (Z + 5)).set j (nI (st.getD j []).length)) (e10 : h10 = (h5.wi x Tx).wi (Z + 5) Sx) : KsI hB h10 M Z (j + 1) st := by
  obtain ⟨⟨W, i1, S1⟩, S2, Fr, i73⟩ := I1
  obtain ⟨⟨x0, xe⟩, ⟨H5, T5, E5⟩, S5, en, eo, xo, z5, s5⟩ := R
  have Hs := W.1
  have hz := Hs.2.2.2.2.2
  rw [show 1002 * 2 + j = 2004 + j by omega] at xe xo eo
  have xT := T5 (2004 + j) (by omega) (by rw [← xe]; exact x0)
  rw [← xe] at xT
  obtain ⟨⟨t1, t2, t3, t4, t5⟩, t6⟩ := xT
  have xZ : x ≠ Z + 5 := by omega
  have eM5 : eqAt h h5 M := S5.2.2 M (by omega) (by omega)
  have F5 : KsF h h5 M Z := ⟨S5.mono (fun y _ q => Or.inr (Or.inl (by omega))), fun y hy q => by
    obtain ⟨k, hk, q1, q2⟩ := q
    by_cases c : k = 2004 + j
    · rw [c, ← xe] at q1 q2
      rw [← q2] at hy
      have := xo hy
      exact ⟨2004 + j, by omega, by rw [← this]; exact x0, by rw [← this]; exact q2⟩
    · rw [eo k hk.2 c] at q1 q2
      exact ⟨k, hk, q1, q2⟩, fun k hk => eo k (by omega) (by omega), z5, s5, Kp.eq eM5⟩
  have l5 : (h5.ai (Z + 5)).length = 1002 := H5.2.2.2.1.2.2.2.2.2.1
  have lS : Sx.length = 1002 := by rw [eS, List.length_set]; exact l5
  have gS : ∀ i, Sx.getD i 0 = if i = j then nI (st.getD j []).length else (h5.ai (Z + 5)).getD i 0 := fun i => by
    rw [eS]
    by_cases c : i = j
    · rw [if_pos c, c, getD_set_eq (by rw [l5]; omega)]
    · rw [if_neg c, getD_set_ne c]
  have S10 : Same (fun y => y = x ∨ y = Z + 5) h5 h10 := by
    rw [e10]
    exact (Same.rf.wi Tx (by rw [lT, t4]) (Or.inl (Or.inl rfl))).wi Sx (by
      rw [AH.ai_wiN (fun q => xZ q.symm), lS, l5]) (Or.inl (Or.inr rfl))
  have ar10 : h10.ar = h5.ar := by rw [e10]; rfl
  have r10 : ∀ k y, h10.r k y = h5.r k y := fun k y => by rw [e10]; rfl
  have ii10 : ∀ k y, h10.i k y = h5.i k y := fun k y => by rw [e10]; rfl
  have kd10 : h10.kd = h5.kd := by rw [e10]; rfl
  have z10 : h10.z = h5.z := by rw [e10]; rfl
  have s10 : h10.s = h5.s := by rw [e10]; rfl
  have ax10 : h10.ai x = Tx := by rw [e10, AH.ai_wiN xZ, AH.ai_wiS]
  have aZ10 : h10.ai (Z + 5) = Sx := by rw [e10, AH.ai_wiS]
  have ao10 : ∀ y, y ≠ x → y ≠ Z + 5 → h10.ai y = h5.ai y := fun y q1 q2 => by rw [e10, AH.ai_wiN q2, AH.ai_wiN q1]
  clear e10 eS
  have rw10 : ∀ i, rwA h10 Z i = rwA h5 Z i := fun i => by unfold rwA; rw [ar10]
  have nul10 : nulM h10 Z = nulM h5 Z := by unfold nulM; rw [ar10]
  have F10 : KsF h5 h10 M Z := ⟨S10.mono (fun y _ q => by
    rcases q with q | q
    · exact Or.inr (Or.inr (Or.inr ⟨2004 + j, by omega, by rw [← xe]; exact x0, by rw [q]; exact xe.symm⟩))
    · exact Or.inr (Or.inr (Or.inl q))), fun y _ q => by
      obtain ⟨k, hk, q1, q2⟩ := q
      rw [rw10] at q1 q2
      exact ⟨k, hk, q1, q2⟩, fun k _ => rw10 k, by rw [nul10, z10], by rw [nul10, s10], fun k _ => ⟨r10 k M, ii10 k M, by
        exact (S10.2.2 M (by omega) (by omega)).2.2.2.1 k⟩⟩
  -- a row that is not the new one
  have old : ∀ i, i < 3006 → i ≠ 2004 + j → rwA h Z i ≠ 0 → rwA h10 Z i = rwA h Z i ∧ h10.ai (rwA h Z i) = h.ai (rwA h Z i) := fun i hi hne hi0 => by
    have e8 := en i hi hi0
    have q0 := (W.2.1 i hi hi0).1
    have nx : rwA h5 Z i ≠ rwA h5 Z (2004 + j) := RwTb.ne T5 hi (by omega) (by rw [← xe]; exact x0) hne
    rw [e8, ← xe] at nx
    refine ⟨(rw10 i).trans e8, ?_⟩
    rw [ao10 _ nx (by omega)]
    exact S5.ai q0.2.1 (by omega)
  have iM : ∀ k, h10.i k M = h.i k M := fun k => (ii10 k M).trans (eM5.2.2.1 k)
  have W10 : MWk h10 M Z := by
    refine ⟨H5.same S10 (fun k _ => r10 k M) (ao10 _ (by omega) (by omega)), fun i hi hi0 => ?_, E5.same S10 z10⟩
    rw [rw10] at hi0 ⊢
    obtain ⟨⟨u1, u2, u3, u4, u5⟩, u6⟩ := T5 i hi hi0
    refine ⟨⟨u1, by rw [z10]; exact u2, by rw [kd10]; exact u3, ?_, by rw [kd10]; exact u5⟩, fun i' hi' e => u6 i' hi' (by rw [← rw10 i']; exact e)⟩
    by_cases c : rwA h5 Z i = x
    · rw [c, ax10]; exact lT
    · rw [ao10 _ c (by omega)]; exact u4
  have sj := S1 j hj
  rw [Nat.zero_add] at sj
  refine ⟨⟨W10, (iM _).trans i1, S1.keep (by omega) (fun i hi => ?_)⟩, fun i hi => ?_, (Fr.trans F5).trans F10, (iM _).trans i73⟩
  · have o := old (0 + i) (by omega) (by omega) (S1 i hi).1
    refine ⟨o.1, o.2, ?_⟩
    rw [ao10 _ (by omega) (by omega), S5.ai (by omega) (by omega)]
  · rw [List.length_take] at hi
    rw [getD_take st [] (show i < j + 1 by omega)]
    by_cases c : i = j
    · subst c
      rw [rw10, ← xe, ax10, aZ10, gS, if_pos rfl]
      refine ⟨x0, rfl, sj.2.2.1, fun m hm => ?_⟩
      rw [gT m hm, en i (by omega) sj.1, S5.ai (W.2.1 i (by omega) sj.1).1.2.1 (by have := (W.2.1 i (by omega) sj.1).1.1; omega)]
      exact sj.2.2.2 m hm
    · have s2 := S2 i (by rw [List.length_take]; omega)
      rw [getD_take st [] (show i < j by omega)] at s2
      have o := old (2004 + i) (by omega) (by omega) s2.1
      rw [o.1, o.2, aZ10, gS, if_neg c, S5.ai (by omega) (by omega)]
      exact s2
set_option maxHeartbeats 1000000 in
theorem MD_keepStack_spec (hd : 2 ≤ d) (W : MWk h M Z) (i1 : h.i 24067 M = nI st.length) (S1 : StM h Z 0 (Z + 1) st) (hs : st.length ≤ 1001) : Cw G mX24_keepStack d 0 [vR M] h (kV (fun h' => KsI h h' M Z st.length st) nE) := by
  obtain ⟨d, rfl⟩ : ∃ d', d = d' + 1 := ⟨d - 1, by omega⟩
  refine eX24_keepStack h M (fun wf0 => sX24_keepStack_0 h M ⟨W.1.1, fun h2 e2 => ?_⟩)
  have I2 : KsI h h2 M Z 0 st := by
    rw [e2, i1]
    refine ⟨⟨W.pi _ _, by rw [AH.i_pi, if_neg (fun q => absurd q.1 (by decide))]; exact i1, S1⟩, fun j hj => absurd hj (by rw [List.take_zero]; exact Nat.not_lt_zero _), ⟨Same.rf.pi _ _ (Or.inl (Or.inl rfl)), fun _ _ q => q, fun _ _ => rfl, rfl, rfl, Kp.rf.pi _ _ (Or.inl (by decide))⟩, by rw [AH.i_pi, if_pos ⟨rfl, rfl⟩]⟩
  clear e2
  refine loop_uc (n := st.length) (P := fun j (g : AH) => Aw G mX24_keepStack (d + 1) 0 h (kV (fun h' => KsI h h' M Z st.length st) nE) 10 [vR M, vI (nI j), vU, vU] [] g) (fun j g => KsI h g M Z j st) (fun j g hj hI ih => ?_) 0 h2 (Nat.zero_le _) I2
  have hI' := hI
  obtain ⟨⟨Wg, j1, T1⟩, T2, Fg, j73⟩ := hI
  refine sX24_keepStack_10 g M (nI j) ⟨Wg.1.1, ?_⟩
  rw [j1]
  refine pk_le st.length j (fun z => ?_) (fun z r3 e3 => ?_)
  · obtain rfl : j = st.length := by omega
    exact hI'
  · rw [show r3 = Z + 2 * 2 from e3.trans Wg.1.2.1.2.2.2.2.1]
    refine (MD_row_spec (w := 2) (k := j) (by omega) Wg (by decide) (by omega)).toR (fun x h5 _ wf5 R => ?_) (fun _ _ _ _ q => q.elim)
    have R' := R
    obtain ⟨⟨x0, xe⟩, ⟨H5, T5, E5⟩, S5, en, eo, xo, z5, s5⟩ := R
    have hz := Wg.1.2.2.2.2.2
    have hz5 := H5.2.2.2.2.2
    have xT := T5 (1002 * 2 + j) (by omega) (by rw [← xe]; exact x0)
    rw [← xe] at xT
    obtain ⟨⟨t1, t2, t3, t4, t5⟩, t6⟩ := xT
    have sj := T1 j (by omega)
    rw [Nat.zero_add] at sj
    have e5 := en j (by omega) sj.1
    have yT := (T5 j (by omega) (by rw [e5]; exact sj.1)).1
    have nx : rwA h5 Z j ≠ x := by
      rw [xe]
      exact RwTb.ne T5 (by omega) (by omega) (by rw [← xe]; exact x0) (by omega)
    have a1 : (h5.ai (Z + 1)).getD j 0 = nI (st.getD j []).length := by rw [S5.ai (by omega) (by omega)]; exact sj.2.1
    have l1 : (h5.ai (Z + 1)).length = 1002 := H5.2.2.2.1.2.1
    have l0 : (h5.ar Z).length = 1002 := H5.2.2.2.1.1
    have hq := sj.2.2.1
    have rr : (h5.ar Z).getD j 0 = rwA h5 Z j := (rwA_0 (by omega)).symm
    have B1 : isB (h5.ai (rwA h5 Z j)) := wf5.isB yT.2.2.1
    have key := loop_uc (n := (st.getD j []).length) (P := fun i (_ : Unit) => Aw G mX24_keepStack (d + 1) 0 h (kV (fun h' => KsI h h' M Z st.length st) nE) 29 [vR M, vI (nI j), vR x, vI (nI i)] [] (h5.wi x (putB (h5.ai x) 0 i (fun i => (h5.ai (rwA h5 Z j)).getD i 0)))) (fun _ _ => True) (fun i _ hi _ ih2 => ?_) 0 () (Nat.zero_le _) trivial
    · rw [putB_0, AH.wi_self] at key
      exact key
    · refine sX24_keepStack_29 _ M (nI j) x (nI i) ⟨H5.1, fun r2 e2 => ?_⟩
      rw [show r2 = Z + 1 from e2.trans H5.2.1.2.1, AH.ai_wiN (show Z + 1 ≠ x by omega), l1, pk_cl j rfl (by omega), a1]
      refine ⟨H5.2.2.1.2.1, pk_in j 1002 (by omega), pk_le (st.getD j []).length i (fun z1 r6 e6 => ?_) (fun z1 r11 e11 => ?_)⟩
      · obtain rfl : i = (st.getD j []).length := by omega
        rw [show r6 = Z + 5 from e6.trans H5.2.1.2.2.2.2.2.1, AH.ai_wiN (show Z + 5 ≠ x by omega), H5.2.2.2.1.2.2.2.2.2.1, nI_1]
        refine ⟨pk_in j 1002 (by omega), H5.2.2.1.2.2.2.2.2.1, pk_in j 1002 (by omega), fun h10 e10 => ?_⟩
        refine ih (by omega) h10 (keep_end hI' (by omega) hs R' (by rw [putB_len]; exact t4) (fun i hi => ?_) rfl e10)
        rw [putB_getD _ _ _ _ (by omega), if_pos ⟨Nat.zero_le _, by omega⟩, Nat.sub_zero]
      · rw [show r11 = Z from e11.trans H5.2.1.1, show (h5.wi x (putB (h5.ai x) 0 i (fun i => (h5.ai (rwA h5 Z j)).getD i 0))).ar Z = h5.ar Z from rfl, l0, rr]
        refine ⟨H5.2.2.1.1, pk_in j 1002 (by omega), fun r14 e14 => ?_⟩
        rw [e14, AH.ai_wiN nx, yT.2.2.2.1, AH.ai_wiS, putB_len, t4, AH.wi_wi, pk_cl i rfl (by omega), B1, nI_1]
        refine ⟨yT.2.2.1, pk_in i 520 (by omega), t3, pk_in i 520 (by omega), fun h19 e19 => ?_⟩
        have := putB_succ (L := h5.ai x) (off := 0) (n := i) (g := fun i => (h5.ai (rwA h5 Z j)).getD i 0) (x := (h5.ai (rwA h5 Z j)).getD i 0) (by omega) rfl
        rw [Nat.zero_add] at this
        rw [e19, this]
        exact ih2 (by omega) () trivial
end MKeep

/-! the reference: digests on the stack -/
set_option maxRecDepth 100000
section MDgs
variable {G : Gx} {d : Nat} {hB h h' h0 : AH} {M Z F O p N I J pp a n j inp : Nat} {K B L : List Int32} {t : TxP} {Bp : Pt} {st alt : List (List Int32)} {fl : Bool}
theorem OkQ.m {R : Option (List (List Int32) × List (List Int32))} (E : MEnv h M Z F O p N I J pp a n j inp K B L t Bp) (H : MWk h M Z) (x : OkQ h h' M Z R) : OkM h h' M Z F O p N I J pp a n j inp K B L t Bp R := by
  obtain ⟨fl, s, al, Q, hR⟩ := x
  exact OkM.qi GoF.rf E H Q hR
/-- the tables stay through a run -/
theorem MdT.rn (T : MdT h M) (x : RnF h h' M Z F O) (hM : M + 46 < Z ∧ Z + 12 < F ∧ F + 7 < O) (tb : ∀ y, inT h Z y → O + 7 < y) (hz : O + 7 < h.z) : MdT h' M := by
  have e : ∀ y, y = M + 10 ∨ y = M + 11 ∨ y = M + 12 → h'.ai y = h.ai y := fun y hy => x.1.ai (by omega) (fun q => by
    rcases q with q | q | q
    · rcases q with q | q | q
      · omega
      · omega
      · have := tb y q
        omega
    · have := go_tab hM q
      omega
    · omega)
  exact ⟨(e _ (Or.inl rfl)).trans T.1, (e _ (Or.inr (Or.inl rfl))).trans T.2.1, (e _ (Or.inr (Or.inr rfl))).trans T.2.2⟩
/-- a digest has been made into its row: it goes onto the stack -/
theorem dg_push {w : Nat} {g : Nat → Int32} {P : Nat → Prop} {X : Nat → AH → Prop} (hd : 2 ≤ d) (E : MEnv h M Z F O p N I J pp a n j inp K B L t Bp) (H : MOm h M Z st alt) (F0 : h.i 24074 M = 0) (hl : 1 ≤ st.length) (m : Mod P h h') (hP : ∀ y, P y → mdQ M y ∨ y = Z + 9) (hn : w ≤ 32) (hm : h'.ai (Z + 9) = putB (h.ai (Z + 9)) 0 w g) {h2 : AH} (e2 : h2 = h'.pi 24067 M (h'.i 24067 M - 1)) {r4 : Nat} (e4 : r4 = h2.r 24086 M) :
    Cw G mX24_push d 0 [vR M, vR r4, vI 0, vI (nI w)] h2 (kV (fun h9 => OkM h h9 M Z F O p N I J pp a n j inp K B L t Bp (some (dr st 1 ++ [(List.range w).map g], alt))) X) := by
  have Hs := H.1.1
  have hM := E.1.1
  have tb := E.2.2.2.2.2.2.2.2
  have zz := E.2.2.2.2.2.2.2.1.1
  obtain ⟨h1, eh1⟩ : ∃ h1, h1 = h'.wi (Z + 9) (h.ai (Z + 9)) := ⟨_, rfl⟩
  have l9 : (h'.ai (Z + 9)).length = (h.ai (Z + 9)).length := m.len _
  have m1 : Mod (fun y => mdQ M y) h h1 := by
    obtain ⟨f, e, f1, f2⟩ := m
    refine ⟨fun y => if y = Z + 9 then h.ai (Z + 9) else f y, by rw [eh1, e]; rfl, fun y => ?_, fun y hy => ?_⟩
    · show (if y = Z + 9 then h.ai (Z + 9) else f y).length = (h.ai y).length
      by_cases c : y = Z + 9
      · rw [if_pos c, c]
      · rw [if_neg c]
        exact f1 y
    · show (if y = Z + 9 then h.ai (Z + 9) else f y) = h.ai y
      by_cases c : y = Z + 9
      · rw [if_pos c, c]
      · rw [if_neg c]
        exact f2 y (fun q => (hP y q).elim hy c)
  have S1 : Same (goQ M Z F O) h h1 := Same.rf.mod m1 (fun y _ q => Or.inl (by have := md_tab q; omega))
  have Sm : Same (fun y => mdQ M y) h h1 := Same.rf.mod m1 (fun _ _ q => q)
  have G1 : GoF h h1 M Z F O := ⟨S1, m1.z, m1.s, fun k _ => ⟨by rw [m1.r], by rw [m1.i], by rw [m1.l]⟩⟩
  obtain ⟨H1, tb1⟩ := G1.mom hM H tb
  have no : ∀ y, M + 15 < y ∨ y = M + 4 ∨ y = M + 5 → ¬ mdQ M y := fun y hy q => by
    have := md_tab q
    omega
  have eq_ : ∀ y, y ≤ O + 7 → M + 15 < y → eqAt h h1 y := fun y q1 q2 => Sm.2.2 y (by omega) (no y (Or.inl q2))
  obtain ⟨f, E2, f7, hB⟩ := E.2.1
  obtain ⟨c, cu, le, hc, C⟩ := E.2.2.2.1
  have E1 : MEnv h1 M Z F O p N I J pp a n j inp K B L t Bp := GoF.env E G1 ⟨f, E2.eqc (by rw [m1.kd]) (fun k _ => by rw [m1.r]) (fun y q1 q2 => eq_ y (by omega) (by omega)) (by rw [m1.kd]) (m1.len _) (fun y q1 q2 => eq_ y (by omega) (by omega)) (fun y q1 q2 => eq_ y (by omega) (by omega)), f7, hB⟩
    ⟨E.2.2.1.1.mod m1, (m1.ai (no _ (Or.inr (Or.inr rfl)))).trans E.2.2.1.2.1, (m1.ai (no _ (Or.inr (Or.inl rfl)))).trans E.2.2.1.2.2⟩ ⟨c, cu, le, hc, C.mod m1 (no _ (by omega)) (no _ (by omega))⟩ tb1
  have F1 : h1.i 24074 M = 0 := by rw [m1.i]; exact F0
  have I2 := (QI.rf H1 F1).fix (y := Z + 9) (T := h'.ai (Z + 9)) (Or.inr rfl) (by rw [m1.len, l9])
  have e' : h1.wi (Z + 9) (h'.ai (Z + 9)) = h' := by rw [eh1, AH.wi_wi, AH.wi_self]
  rw [e'] at I2
  have J2 := I2.dr1 (n := 1) hl e2
  have a2 : h2.ai = h'.ai := by rw [e2]; rfl
  have L9 : (h.ai (Z + 9)).length = 32 := Hs.2.2.2.1.2.2.2.2.2.2.2.2.1
  rw [show r4 = Z + 9 from e4.trans J2.1.1.1.2.1.2.2.2.2.2.2.2.2.2.1]
  have lr : ((List.range w).map g).length = w := mapR_len _ _
  have ld := dr_len st 1
  have l3 := H.2.1.2.2.1
  have key := m_push (G := G) (d := d) (E := X) (Q := fun h9 => OkM h h9 M Z F O p N I J pp a n j inp K B L t Bp (some (dr st 1 ++ [(List.range w).map g], alt))) (l := (List.range w).map g) hd J2 (Or.inr rfl) (by rw [lr, a2, l9, L9]; exact hn) (by rw [lr]; omega) (by
    rw [lr, a2, hm]
    intro i hi
    rw [mapR_getD hi, putB_getD _ _ _ _ (by rw [L9]; omega), if_pos ⟨Nat.zero_le _, by omega⟩, Nat.sub_zero]) (fun _ h9 J9 => OkM.qi G1 E1 H1.1 J9 (Or.inl ⟨rfl, rfl⟩)) (fun z => absurd z (by omega))
  rw [lr] at key
  exact key
theorem MD_digested_spec {op : Nat} (hd : 8 ≤ d) (ho : op = 166 ∨ op = 168 ∨ op = 169 ∨ op = 170) (E : MEnv h M Z F O p N I J pp a n j inp K B L t Bp) (T : MdT h M) (H : MOm h M Z st alt) (F0 : h.i 24074 M = 0) (h1 : 1 ≤ st.length) :
    Cw G mX24_digested d 0 [vR M, vI (nI op)] h (kV (fun h' => OkM h h' M Z F O p N I J pp a n j inp K B L t Bp (some (dr st 1 ++ [dgL K B op (tp st 0)], alt))) nE) := by
  obtain ⟨d, rfl⟩ : ∃ d', d = d' + 1 := ⟨d - 1, by omega⟩
  have Hs := H.1.1
  have hM := E.1.1
  have tb := E.2.2.2.2.2.2.2.2
  have K0 := H.elt (k := 0) (by omega)
  rw [Nat.sub_zero] at K0
  have l3 := H.2.1.2.2.1
  have t0 : O + 7 < rwA h Z (st.length - 1) := tb _ ⟨st.length - 1, by omega, K0.1, rfl⟩
  have e1 : h.i 24067 M - 1 = nI (st.length - 1) := by rw [H.2.1.1, show (1 : Int32) = nI 1 from rfl, pk_sub (by omega)]
  have p1 : st.length - 1 < 1002 := by omega
  have q1 : st.length - 1 < 2 ^ 31 := by omega
  obtain ⟨a1, a2, a3, a4, a5, a6, a7, a8, _⟩ := K0
  have hMS := E.2.2.1
  have r9 : h.r 24086 M = Z + 9 := Hs.2.1.2.2.2.2.2.2.2.2.2.1
  have k9 : h.kd (Z + 9) = 101 := Hs.2.2.1.2.2.2.2.2.2.2.2.2.1
  have l9 : (h.ai (Z + 9)).length = 32 := Hs.2.2.2.1.2.2.2.2.2.2.2.2.1
  have nq : ∀ y, M + 15 < y → ¬ mdQ M y := fun y hy q => by
    have := md_tab q
    omega
  have np : ∀ y, M + 15 < y → ¬ mdP M y := fun y hy q => nq y hy (Or.inl q)
  have cg : ∀ i, i < (tp st 0).length → sl (h.ai (rwA h Z (st.length - 1))) 0 i = sl (tp st 0) 0 i := fun i hi => by
    unfold sl
    rw [Nat.zero_add]
    exact a4 i hi
  have kM : ∀ {P : Nat → Prop} {h15 : AH}, Mod P h h15 → h15.kd M = 24 := fun m => by rw [m.kd]; exact Hs.1
  have w1 : 0 + (tp st 0).length ≤ (h.ai (rwA h Z (st.length - 1))).length := by omega
  have w2 : (h.ai (rwA h Z (st.length - 1))).length < 2 ^ 31 := by omega
  have w3 : 8 * (tp st 0).length < 2 ^ 31 := by omega
  have w4 : M + 15 < rwA h Z (st.length - 1) := by omega
  have w5 : M + 15 < Z + 9 := by omega
  have w6 : (h.ai (Z + 9)).length < 2 ^ 31 := by omega
  have w7 : 0 + 32 ≤ (h.ai (Z + 9)).length := by omega
  have w8 : 0 + 20 ≤ (h.ai (Z + 9)).length := by omega
  have hd2 : 2 ≤ d := by omega
  have hd3 : 3 ≤ d := by omega
  have hd4 : 4 ≤ d := by omega
  have hd5 : 5 ≤ d := by omega
  refine eX24_digested h M (nI op) (fun _ => sX24_digested_0 h M (nI op) ⟨Hs.1, fun r2 e2 => ?_⟩)
  rw [show r2 = Z from e2.trans Hs.2.1.1, e1, Hs.2.2.2.1.1, pk_cl (st.length - 1) rfl q1, a5]
  refine ⟨Hs.2.2.1.1, pk_in _ 1002 p1, fun r5 e5 r6 e6 => ?_⟩
  rw [show r6 = Z + 1 from e6.trans Hs.2.1.2.1, Hs.2.2.2.1.2.1, a2, e5]
  refine ⟨Hs.2.2.1.2.1, pk_in _ 1002 p1, fun u9 e9 => ?_⟩
  rw [e9]
  clear e2 e5 e6 e9 e1
  rcases ho with rfl | rfl | rfl | rfl
  · refine ⟨fun q => absurd rfl q, fun _ r22 e22 => ?_⟩
    rw [show r22 = Z + 9 from e22.trans r9]
    refine (MD_ripe_spec (off := 0) (at_ := 0) hd4 hMS.1 T a6 w1 w2 w3 (np _ w4) k9 w6 (np _ w5) w8).nV (fun h15 Q => ?_)
    obtain ⟨m, Q⟩ := Q
    rw [ripD_congr cg] at Q
    exact sX24_digested_102 h15 M (nI 166) ⟨kM m, fun h2 e2 r4 e4 => ⟨fun _ => dg_push (w := 20) hd2 E H F0 h1 m (fun y q => q.imp Or.inl id) (by decide) Q e2 e4, fun q => absurd rfl q⟩⟩
  · refine ⟨fun _ => ⟨fun q => absurd rfl q, fun _ r22 e22 => ?_⟩, fun q => absurd q (by decide)⟩
    rw [show r22 = Z + 9 from e22.trans r9]
    refine (MD_sha_spec (off := 0) (at_ := 0) hd3 hMS.1 a6 w1 w2 w3 (np _ w4) k9 w6 (np _ w5) w7).nV (fun h15 Q => ?_)
    obtain ⟨m, Q⟩ := Q
    rw [hMS.2.1, hMS.2.2, shaD_congr cg] at Q
    exact sX24_digested_102 h15 M (nI 168) ⟨kM m, fun h2 e2 r4 e4 => ⟨fun q => absurd q (by decide), fun _ => ⟨fun _ => dg_push (w := 32) hd2 E H F0 h1 m (fun y q => q.imp Or.inl id) (by decide) Q e2 e4, fun q => absurd q (by decide)⟩⟩⟩
  · refine ⟨fun _ => ⟨fun _ => ⟨fun q => absurd rfl q, fun _ r22 e22 => ?_⟩, fun q => absurd q (by decide)⟩, fun q => absurd q (by decide)⟩
    rw [show r22 = Z + 9 from e22.trans r9]
    refine (MD_hash160_spec (off := 0) (at_ := 0) hd5 hMS.1 T a6 w1 w2 w3 (nq _ w4) k9 w6 (nq _ w5) w8).nV (fun h15 Q => ?_)
    obtain ⟨m, Q⟩ := Q
    unfold h160D at Q
    rw [hMS.2.1, hMS.2.2, shaD_congr cg] at Q
    exact sX24_digested_102 h15 M (nI 169) ⟨kM m, fun h2 e2 r4 e4 => ⟨fun q => absurd q (by decide), fun _ => ⟨fun q => absurd rfl q, fun _ => dg_push (w := 20) hd2 E H F0 h1 m (fun y q => q) (by decide) Q e2 e4⟩⟩⟩
  · refine ⟨fun _ => ⟨fun _ => ⟨fun _ r22 e22 => ?_, fun q => absurd q (by decide)⟩, fun q => absurd q (by decide)⟩, fun q => absurd q (by decide)⟩
    rw [show r22 = Z + 9 from e22.trans r9]
    refine (MD_again_spec (off := 0) (at_ := 0) hd4 hMS.1 a6 w1 w2 w3 (nq _ w4) k9 w6 (nq _ w5) w7).nV (fun h15 Q => ?_)
    obtain ⟨m, Q⟩ := Q
    unfold dshD at Q
    rw [hMS.2.1, hMS.2.2, shaD_congr cg] at Q
    exact sX24_digested_102 h15 M (nI 170) ⟨kM m, fun h2 e2 r4 e4 => ⟨fun q => absurd q (by decide), fun _ => ⟨fun _ => dg_push (w := 32) hd2 E H F0 h1 m (fun y q => q) (by decide) Q e2 e4, fun q => absurd q (by decide)⟩⟩⟩
end MDgs

/-! the reference: whether an input may take an output, behind its own script -/
set_option maxRecDepth 100000
section MUnl
variable {G : Gx} {d : Nat} {hB h h' h0 : AH} {M Z F O p N I J pp a n j inp : Nat} {K B L : List Int32} {t : TxP} {Bp : Pt} {st alt : List (List Int32)} {fl : Bool} {S Q0 : List Int32} {sa e off : Nat} {R : Option (List (List Int32))} {st1 : List (List Int32)}
/-- what lies behind the machine and is no row of its stacks stays through a run -/
theorem RnG.keep {y : Nat} (x : RnG h h' M Z F O) (hM : M + 46 < Z ∧ Z + 12 < F ∧ F + 7 < O) (h1 : O + 7 < y) (h2 : y < h.z) (h3 : ¬ inT h Z y) : eqAt h h' y ∧ ¬ inT h' Z y ∧ y < h'.z :=
  ⟨x.1.2.2 y h2 (fun q => by
    rcases q with q | q | q
    · rcases q with q | q | q
      · omega
      · omega
      · exact h3 q
    · have := (go_rng hM q).1
      omega
    · omega), fun q => h3 (x.2.1 y h2 q), by have := x.1.1; omega⟩
theorem RnG.low {y : Nat} (x : RnG h h' M Z F O) (hM : M + 46 < Z ∧ Z + 12 < F ∧ F + 7 < O) (tb : ∀ y, inT h Z y → O + 7 < y) (hz : O + 7 < h.z) (hy : y = Z + 4 ∨ y = Z + 5) : eqAt h h' y :=
  x.1.2.2 y (by omega) (fun q => by
    rcases q with q | q | q
    · rcases q with q | q | q
      · omega
      · omega
      · have := tb y q
        omega
    · have := (go_rng hM q).2.1
      omega
    · omega)
theorem rw_S (e : h'.ar (Z + 4) = h.ar (Z + 4)) {j : Nat} (h1 : 2004 ≤ j) (h2 : j < 3006) : rwA h' Z j = rwA h Z j := by
  unfold rwA
  rw [show j / 1002 = 2 by omega, e]
/-- a saved row is no row of the stacks -/
theorem sv_no (T : RwTb h Z) {j : Nat} (h1 : 2004 ≤ j) (h2 : j < 3006) (h3 : rwA h Z j ≠ 0) : ¬ inT h Z (rwA h Z j) := fun q => by
  obtain ⟨k, hk, _, e⟩ := q
  have := (T j h2 h3).2 k (by omega) e
  omega
/-- what is saved stays through a run -/
theorem sv_rn (x : RnG h h' M Z F O) (hM : M + 46 < Z ∧ Z + 12 < F ∧ F + 7 < O) (tb : ∀ y, inT h Z y → O + 7 < y) (hz : O + 7 < h.z) (T : RwTb h Z) (sv : ∀ y, inS h Z y → O + 7 < y) : (∀ y, inS h' Z y → O + 7 < y) ∧ ∀ {s : List (List Int32)}, s.length ≤ 1002 → StM h Z 2004 (Z + 5) s → StM h' Z 2004 (Z + 5) s := by
  have e4 := x.low hM tb hz (Or.inl rfl)
  have e5 := x.low hM tb hz (Or.inr rfl)
  have er : ∀ j, 2004 ≤ j → j < 3006 → rwA h' Z j = rwA h Z j := fun j q1 q2 => rw_S e4.2.2.2.2.2.2 q1 q2
  refine ⟨fun y q => ?_, fun l S2 => S2.keep (by omega) (fun j hj => ?_)⟩
  · obtain ⟨j, hj, q1, q2⟩ := q
    rw [er j hj.1 hj.2] at q1 q2
    exact sv y ⟨j, hj, q1, q2⟩
  · have r0 := (S2 j hj).1
    have o := sv _ ⟨2004 + j, by omega, r0, rfl⟩
    have k := (x.keep hM o (T _ (by omega) r0).1.2.1 (sv_no T (by omega) (by omega) r0)).1
    exact ⟨er _ (by omega) (by omega), k.2.2.2.2.1, by rw [e5.2.2.2.2.1]⟩
theorem SkF.g (x : SkF h h' M Z) (k : Kp [24067] M h h') : RnG h h' M Z F O := ⟨x.1.mono (fun _ _ q => Or.inl q), x.2.1, x.2.2.1, x.2.2.2, fun j hj => k j (fun q => hj (by rw [List.mem_singleton.mp q]; decide))⟩
/-- what is left when the question is answered -/
def UnT (hB h : AH) (M Z F O p N I J pp a n j inp : Nat) (K B L : List Int32) (t : TxP) (Bp : Pt) : Prop := MWk h M Z ∧ RnG hB h M Z F O ∧ MEnv h M Z F O p N I J pp a n j inp K B L t Bp ∧ MdT h M ∧ ∀ y, inS h Z y → O + 7 < y
theorem UnT.run {x : Int32} (U : UnT hB h M Z F O p N I J pp a n j inp K B L t Bp) (y : RnR h h' M Z F O p N I J pp a n j inp K B L t Bp R x) : UnT hB h' M Z F O p N I J pp a n j inp K B L t Bp := ⟨y.2.1, U.2.1.trans y.2.2.1, y.2.2.2.1, y.2.2.2.2, (sv_rn y.2.2.1 U.2.2.1.1.1 U.2.2.1.2.2.2.2.2.2.2.2 U.2.2.1.2.2.2.2.2.2.2.1.1 U.1.2.1 U.2.2.2.2).1⟩
theorem UnT.pi {q : Nat} (U : UnT hB h M Z F O p N I J pp a n j inp K B L t Bp) (v : Int32) (hq : q = 24063 ∨ q = 24067) : UnT hB (h.pi q M v) M Z F O p N I J pp a n j inp K B L t Bp := by
  obtain ⟨u1, u2, u3, u4, u5⟩ := U
  refine ⟨u1.pi q v, u2.trans (RnF.pi (Z := Z) (F := F) (O := O) v (by rcases hq with e | e <;> rw [e] <;> decide)).g, ?_, u4, u5⟩
  rcases hq with e | e
  · exact u3.pj v (Or.inr (Or.inr e))
  · exact u3.pk u1 v (by rw [e]; decide)
theorem MOm.e0 (H : MOm h M Z st alt) : MOm (h.pi 24067 M 0) M Z [] alt := ⟨H.1.pi _ _, ⟨by rw [AH.i_pi, if_pos ⟨rfl, rfl⟩]; rfl, by rw [AH.i_pi, if_neg (fun q => absurd q.1 (by decide))]; exact H.2.1.2.1, Nat.zero_le _, H.2.1.2.2.2⟩, fun j hj => absurd hj (Nat.not_lt_zero _), H.2.2.2⟩
theorem take_sn {α : Type} (l : List α) (z : α) {j : Nat} (h : j < l.length) : l.take (j + 1) = l.take j ++ [l.getD j z] := by
  rw [List.take_succ, List.getD_eq_getElem?_getD, List.getElem?_eq_getElem h]
  rfl
theorem k1_3 {k : Nat} (q : k ∈ [24067]) : k ∈ [24067, 24070, 24074] := by
  rw [List.mem_singleton.mp q]
  decide
set_option maxHeartbeats 1000000 in
/-- the script that was pushed is run on what was below it -/
theorem un_305 {β : Bool} (hd : 19 ≤ d) (U : UnT hB h M Z F O p N I J pp a n j inp K B L t Bp) (H : MOm h M Z [] alt) (sd : StM h Z 2004 (Z + 5) st1) (i73 : h.i 24073 M = nI st1.length) (h1 : 1 ≤ st1.length) (hs : st1.length ≤ 1000) (hβ : β = (match runP p N Bp K B L t inp (tp st1 0) 0 (tp st1 0).length (dr st1 1) with | none => false | some st3 => topT st3)) :
    Aw G mX24_unlocks (d + 1) 0 h0 (kI (fun x h' => x = bB β ∧ UnT hB h' M Z F O p N I J pp a n j inp K B L t Bp) nE) 305 [vR M, vU, vU, vU, vU, vU, vU, vU, vU, vU, vU, vU, vI 0] [] h := by
  refine loop_uc (n := st1.length - 1) (P := fun i (g : AH) => Aw G mX24_unlocks (d + 1) 0 h0 (kI (fun x h' => x = bB β ∧ UnT hB h' M Z F O p N I J pp a n j inp K B L t Bp) nE) 305 [vR M, vU, vU, vU, vU, vU, vU, vU, vU, vU, vU, vU, vI (nI i)] [] g) (fun i g => UnT hB g M Z F O p N I J pp a n j inp K B L t Bp ∧ MOm g M Z (st1.take i) alt ∧ StM g Z 2004 (Z + 5) st1 ∧ g.i 24073 M = nI st1.length) (fun i g hi hI ih => ?_) 0 h (Nat.zero_le _) ⟨U, by rw [List.take_zero]; exact H, sd, i73⟩
  obtain ⟨Ug, Hg, Sg, j73⟩ := hI
  have Hs := Hg.1.1
  have hM := Ug.2.2.1.1.1
  have tb := Ug.2.2.1.2.2.2.2.2.2.2.2
  have zz := Ug.2.2.1.2.2.2.2.2.2.2.1.1
  have T := Hg.1.2.1
  have si := Sg i (by omega)
  have row : (g.ar (Z + 4)).getD i 0 = rwA g Z (2004 + i) := (rwA_w (h := g) (Z := Z) (w := 2) (k := i) (by omega)).symm
  have ti := (T (2004 + i) (by omega) si.1).1
  have oi := Ug.2.2.2.2 _ ⟨2004 + i, by omega, si.1, rfl⟩
  have l4 : (g.ar (Z + 4)).length = 1002 := Hs.2.2.2.1.2.2.2.2.1
  have l5 : (g.ai (Z + 5)).length = 1002 := Hs.2.2.2.1.2.2.2.2.2.1
  refine sX24_unlocks_305 g M (nI i) ⟨Hs.1, ?_⟩
  rw [j73, show nI st1.length - 1 = nI (st1.length - 1) by rw [show (1 : Int32) = nI 1 from rfl, pk_sub h1]]
  refine pk_le (st1.length - 1) i (fun z r3 e3 => ?_) (fun z r18 e18 => ?_)
  · obtain rfl : i = st1.length - 1 := by omega
    have et : st1.getD (st1.length - 1) [] = tp st1 0 := by unfold tp; rw [Nat.sub_zero]
    rw [et] at si
    rw [show r3 = Z + 4 from e3.trans Hs.2.1.2.2.2.2.1, l4, pk_cl (st1.length - 1) rfl (by omega), row]
    refine ⟨Hs.2.2.1.2.2.2.2.1, pk_in (st1.length - 1) 1002 (by omega), fun r6 e6 r7 e7 => ?_⟩
    rw [show r7 = Z + 5 from e7.trans Hs.2.1.2.2.2.2.2.1, l5, si.2.1, e6]
    refine ⟨Hs.2.2.1.2.2.2.2.2.1, pk_in (st1.length - 1) 1002 (by omega), ?_⟩
    have hR : runP p N Bp K B L t inp (tp st1 0) 0 (tp st1 0).length (dr st1 1) = runP p N Bp K B L t inp (g.ai (rwA g Z (2004 + (st1.length - 1)))) 0 (0 + (tp st1 0).length) (dr st1 1) := by
      rw [Nat.zero_add]
      exact (runP_cg si.2.2.2).symm
    have ld := dr_len st1 1
    have Hd : MOm g M Z (dr st1 1) alt := Hg
    refine (MD_run_spec (off := 0) (sz := (tp st1 0).length) (by omega) Ug.2.2.1 Ug.2.2.2.1 (Hd.mst (by omega)) ti.2.2.1 rfl ⟨oi, ti.2.1⟩ (sv_no T (by omega) (by omega) si.1) (by rw [ti.2.2.2.1, Nat.zero_add]; exact si.2.2.1) (by rw [ti.2.2.2.1]; decide) (by have := si.2.2.1; omega) hR).nI (fun x10 h11 Q => ?_)
    have U11 := Ug.run Q
    generalize runP p N Bp K B L t inp (tp st1 0) 0 (tp st1 0).length (dr st1 1) = RR at *
    obtain ⟨q1, q2⟩ := Q
    rcases q1 with ⟨st3, eR, ex, l3, alt3, m3⟩ | ⟨eR, ex⟩
    · rw [eR] at hβ
      replace hβ : β = topT st3 := hβ
      have l1 := m3.2.1.2.2.1
      rw [ex, m3.2.1.1]
      refine ⟨fun q => absurd q (by decide), fun _ => pk_le st3.length 0 (fun z0 => ⟨?_, U11⟩) (fun z0 => (MD_isTrue_spec (k := 0) (by omega) m3 z0).nI (fun x15 h16 Q15 => ?_))⟩
      · rw [hβ]
        unfold topT
        rw [decide_eq_false (by omega)]
        rfl
      · obtain ⟨e15, e16⟩ := Q15
        have hβ2 : β = isT (tp st3 0) := by
          rw [hβ]
          unfold topT
          rw [decide_eq_true z0, Bool.true_and]
        rw [e16, e15, ← hβ2]
        cases β with
        | true => exact ⟨fun q => absurd q (by decide), fun _ => ⟨rfl, U11⟩⟩
        | false => exact ⟨fun _ => ⟨rfl, U11⟩, fun q => absurd rfl q⟩
    · rw [eR] at hβ
      replace hβ : β = false := hβ
      rw [ex]
      exact ⟨fun _ => ⟨by rw [hβ]; rfl, U11⟩, fun q => absurd rfl q⟩
  · rw [show r18 = Z + 4 from e18.trans Hs.2.1.2.2.2.2.1, l4, pk_cl i rfl (by omega), row]
    refine ⟨Hs.2.2.1.2.2.2.2.1, pk_in i 1002 (by omega), fun r21 e21 r22 e22 => ?_⟩
    rw [show r22 = Z + 5 from e22.trans Hs.2.1.2.2.2.2.2.1, l5, si.2.1, e21, nI_1]
    refine ⟨Hs.2.2.1.2.2.2.2.2.1, pk_in i 1002 (by omega), ?_⟩
    have lt : (st1.take i).length = i := by rw [List.length_take]; omega
    refine (MD_push_spec (off := 0) (n := (st1.getD i []).length) (L := g.ai (rwA g Z (2004 + i))) (by omega) Hg ti.2.2.1 rfl (by rw [ti.2.2.2.1, Nat.zero_add]; exact si.2.2.1) (by rw [ti.2.2.2.1]; decide) si.2.2.1 (by omega) ti.2.1 (fun q => ?_)).nV (fun h26 Rr => ?_)
    · by_cases w : rwA g Z (st1.take i).length = 0
      · exact si.1 (q.trans w)
      · rw [lt] at q w
        exact RwTb.ne T (by omega) (by omega) w (by omega) q
    · obtain ⟨n1, n2, n3, n4, n5⟩ := Rr
      rw [sub_cg si.2.2.2 (by omega), subF, ← take_sn st1 [] (by omega)] at n1
      have k3 : Kp [24067, 24070, 24074] M g h26 := fun k hk => n3 k (fun q => hk (k1_3 q))
      have rf : RnF g h26 M Z F O := n2.rn k3
      have sv := sv_rn rf.g hM tb zz T Ug.2.2.2.2
      exact ih (by omega) h26 ⟨⟨n1.1, Ug.2.1.trans rf.g, Ug.2.2.1.sk Hg.1 n2 k3, Ug.2.2.2.1.rn rf hM tb zz, sv.1⟩, n1, sv.2 (by omega) Sg, (n3 24073 (by decide)).2.1.trans j73⟩
/-- the form that holds a digest needs something on the stack -/
theorem nest_none {Q0 : List Int32} {oo osz : Nat} (h : nestB Q0 oo osz = true) : runP p N Bp K B L t inp Q0 oo (oo + osz) [] = none := by
  obtain ⟨h1, h2, h3, h4⟩ := of_decide_eq_true h
  subst h1
  have o1 : opHd (ub Q0 oo) = 1 := by rw [h2]; decide
  have n0 : opLen Q0 oo (oo + 23) ≠ 0 := by
    unfold opLen
    rw [o1, opSz_0 (by rw [h2]; decide), if_neg (by omega)]
    decide
  have a0 : actP p N Bp K B L t inp Q0 (oo + 23) oo (oo, 1, [], [], []) = none := by
    rw [actP_stp h2 (by decide) (by decide) (by decide) rfl, stepP_dig (by decide) (by decide), if_pos (Or.inr (by decide))]
    rfl
  have a1 : oneP p N Bp K B L t inp Q0 (oo + 23) oo (oo, 0, [], [], []) = none := by
    unfold oneP
    rw [if_neg n0, h2, if_neg (fun q => absurd q.1 (by decide)), if_neg (show ¬ (201 < opsC 169 0 ∨ nvB 169 = true) by decide)]
    show (match actP p N Bp K B L t inp Q0 (oo + 23) oo (oo, 1, [], [], []) with
      | none => none
      | some r => if 1000 < r.2.2.1.length + r.2.2.2.1.length then none else some r) = none
    rw [a0]
  unfold runP
  rw [show oo + 23 - oo + 1 = 23 + 1 by omega]
  unfold runF
  rw [if_neg (by omega), a1]
end MUnl

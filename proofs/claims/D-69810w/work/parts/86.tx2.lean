/-! the component's transaction -/
set_option maxRecDepth 100000
theorem i_ne {h : AH} {k a q x : Nat} {v : Int32} (hk : ¬ q = k) : (h.pi k a v).i q x = h.i q x := if_neg (fun e => hk e.1)
section TxW2
variable {G : Gx} {d : Nat} {h : AH} {s a at_ n : Nat} {L : List Int32}
/-- the loop over the inputs -/
theorem tx_58 {h1 : AH} {b0 ni : Nat} (hd : 9 ≤ d) (w : WF G h) (ha : a < h.z) (hs : s < h.z) (has : a ≠ s) (hni : ni ≤ 40)
    (T1 : TxA h1 h.z L at_) (I1 : InsAt h1 (h.z + 2) L [] ni) (S1 : SrcAt h1 s a L b0 n) (F1 : Same (· = s) h h1) (Z1 : h1.z = h.z + 3) (s1 : h1.s = h.s + 39 + ni)
    (hP : txP L n at_ = match insP L n ni b0 with
      | none => none
      | some (il, c) => match cntP L n c with
        | none => none
        | some (no, e) => if 180 < no then none else match outsP L n no e with
          | none => none
          | some (ol, g) => if n < g + 4 then none else some (at_, g + 4, il, ol)) :
    Aw G mX1_transaction (d + 1) 0 h (kR (fun x h' => ∃ t, txP L n at_ = some t ∧ x = h.z ∧ TxAt h' h.z L t ∧ SrcAt h' s a L t.2.1 n ∧ Same (· = s) h h' ∧ h'.z = h.z + txSz t ∧ h'.s ≤ h.s + 1000) (fun x h' => txP L n at_ = none ∧ Thr 17 (· = s) 230 1100 h h' x)) 58 [vR s, vR h.z, vJ (lN ni), vU, vI (nI 0), vU, vU, vU] [] h1 := by
  have hz0 : 0 < h.z := by omega
  refine loop_uc (n := ni) (P := fun k (x : AH × Nat × List P3) => Aw G mX1_transaction (d + 1) 0 h (kR (fun x h' => ∃ t, txP L n at_ = some t ∧ x = h.z ∧ TxAt h' h.z L t ∧ SrcAt h' s a L t.2.1 n ∧ Same (· = s) h h' ∧ h'.z = h.z + txSz t ∧ h'.s ≤ h.s + 1000) (fun x h' => txP L n at_ = none ∧ Thr 17 (· = s) 230 1100 h h' x)) 58 [vR s, vR h.z, vJ (lN ni), vU, vI (nI k), vU, vU, vU] [] x.1)
    (fun k x => x.2.2.length = k ∧ Same (fun y => y = s ∨ y = h.z + 2) h1 x.1 ∧ SrcAt x.1 s a L x.2.1 n ∧ InsAt x.1 (h.z + 2) L x.2.2 ni ∧ x.1.z = h.z + 3 + k ∧ x.1.s = h1.s + 5 * k ∧ insP L n ni b0 = apP x.2.2 (insP L n (ni - k) x.2.1))
    (fun k x hk hI ih => ?_) 0 (h1, b0, []) (Nat.zero_le _) ⟨rfl, Same.rf, S1, I1, Z1, rfl, by rw [Nat.sub_zero, apP_nil]⟩
  obtain ⟨hx, cur, acc⟩ := x
  obtain ⟨la, F2, S2, I2, Z2, s2, hI⟩ := hI
  dsimp only at la F2 S2 I2 Z2 s2 hI ⊢
  have F : Same (· = s) h hx := F1.trans F2 (fun x hx q => by omega)
  have hsx : s < hx.z := by have := F.1; omega
  have hax : a < hx.z := by have := F.1; omega
  have eq0 : eqAt h1 hx h.z := F2.2.2 _ (by omega) (by omega)
  have eq1 : eqAt h1 hx (h.z + 1) := F2.2.2 _ (by omega) (by omega)
  have Tx1 : TxA hx h.z L at_ := T1.eq eq0 eq1.1 (by rw [eq1.2.2.2.2.1])
  refine sX1_transaction_58 hx s h.z (lN ni) (nI k) ?_
  rw [nI_l (by omega), lN_le63 (by omega) (by omega)]
  refine ⟨fun c => ⟨S2.1, (Src_count_spec (by omega) S2).toJ (fun x2 h3 _ _ Q => ?_) (fun x2 h3 _ _ Q => ⟨?_, ?_⟩)⟩, fun c q14 e14 w14 h15 e15 => ?_⟩
  · obtain ⟨no, e0, ec, rfl, rfl⟩ := Q
    obtain ⟨c1, c2, c3, -⟩ := cntP_inv ec
    have ek : ni - k = 0 := by omega
    rw [ek, insP_0] at hI
    rw [hI] at hP
    replace hP : txP L n at_ = match cntP L n cur with
        | none => none
        | some (no, e) => if 180 < no then none else match outsP L n no e with
          | none => none
          | some (ol, g) => if n < g + 4 then none else some (at_, g + 4, acc, ol) := hP
    rw [ec] at hP
    replace hP : txP L n at_ = if 180 < no then none else match outsP L n no e0 with
          | none => none
          | some (ol, g) => if n < g + 4 then none else some (at_, g + 4, acc, ol) := hP
    have e180 : (lN no ≤ 180) ↔ no ≤ 180 := lN_le63 (b := 180) c3 (by omega)
    rw [e180]
    have Fp : Same (· = s) h (hx.pi 16001 s (nI e0)) := F.pi _ _ (Or.inl rfl)
    refine ⟨fun c5 => ?_, fun c5 q13 e13 _ h14 e14 => ⟨by omega, fun h17 e17 => ⟨by rw [hP, if_pos (by omega)], Thr.nw Fp e13 e14 (by simp only [AH.kd_pr, AH.r_pr, AH.i_pr, AH.l_pr, AH.ai_pr, AH.al_pr, AH.ar_pr, AH.z_pr, AH.s_pr, AH.kd_pi, AH.r_pi, AH.i_pi, AH.l_pi, AH.ai_pi, AH.al_pi, AH.ar_pi, AH.z_pi, AH.s_pi, AH.kd_pl, AH.r_pl, AH.i_pl, AH.l_pl, AH.ai_pl, AH.al_pl, AH.ar_pl, AH.z_pl, AH.s_pl, AH.kd_wl, AH.r_wl, AH.i_wl, AH.l_wl, AH.ai_wl, AH.al_wl, AH.ar_wl, AH.z_wl, AH.s_wl, AH.kd_wr, AH.r_wr, AH.i_wr, AH.l_wr, AH.ai_wr, AH.al_wr, AH.ar_wr, AH.z_wr, AH.s_wr, AH.kd_wi, AH.r_wi, AH.i_wi, AH.l_wi, AH.ai_wi, AH.al_wi, AH.ar_wi, AH.z_wi, AH.s_wi, AH.kd_nw, AH.r_nw, AH.i_nw, AH.l_nw, AH.ai_nw, AH.al_nw, AH.ar_nw, AH.z_nw, AH.s_nw, false_and, and_false, true_and, and_true, and_self, eq_self, if_true, if_false, reduceIte]; omega) (by simp only [AH.kd_pr, AH.r_pr, AH.i_pr, AH.l_pr, AH.ai_pr, AH.al_pr, AH.ar_pr, AH.z_pr, AH.s_pr, AH.kd_pi, AH.r_pi, AH.i_pi, AH.l_pi, AH.ai_pi, AH.al_pi, AH.ar_pi, AH.z_pi, AH.s_pi, AH.kd_pl, AH.r_pl, AH.i_pl, AH.l_pl, AH.ai_pl, AH.al_pl, AH.ar_pl, AH.z_pl, AH.s_pl, AH.kd_wl, AH.r_wl, AH.i_wl, AH.l_wl, AH.ai_wl, AH.al_wl, AH.ar_wl, AH.z_wl, AH.s_wl, AH.kd_wr, AH.r_wr, AH.i_wr, AH.l_wr, AH.ai_wr, AH.al_wr, AH.ar_wr, AH.z_wr, AH.s_wr, AH.kd_wi, AH.r_wi, AH.i_wi, AH.l_wi, AH.ai_wi, AH.al_wi, AH.ar_wi, AH.z_wi, AH.s_wi, AH.kd_nw, AH.r_nw, AH.i_nw, AH.l_nw, AH.ai_nw, AH.al_nw, AH.ar_nw, AH.z_nw, AH.s_nw, false_and, and_false, true_and, and_true, and_self, eq_self, if_true, if_false, reduceIte]; omega) e17⟩⟩⟩
    rw [if_neg (by omega)] at hP
    rw [lN_i, pk_cl no rfl (by omega)]
    refine ⟨nI_pos (by omega), by omega, fun q8 e8 _ h9 e9 => ?_⟩
    have hz3 : q8 = hx.z := e8
    subst hz3
    subst e9
    have nz : ¬ h.z = hx.z := by omega
    have nz1 : ¬ h.z + 1 = hx.z := by omega
    refine ⟨?_, fun h12 e12 => ?_⟩
    · simp only [AH.kd_pr, AH.r_pr, AH.i_pr, AH.l_pr, AH.ai_pr, AH.al_pr, AH.ar_pr, AH.z_pr, AH.s_pr, AH.kd_pi, AH.r_pi, AH.i_pi, AH.l_pi, AH.ai_pi, AH.al_pi, AH.ar_pi, AH.z_pi, AH.s_pi, AH.kd_pl, AH.r_pl, AH.i_pl, AH.l_pl, AH.ai_pl, AH.al_pl, AH.ar_pl, AH.z_pl, AH.s_pl, AH.kd_wl, AH.r_wl, AH.i_wl, AH.l_wl, AH.ai_wl, AH.al_wl, AH.ar_wl, AH.z_wl, AH.s_wl, AH.kd_wr, AH.r_wr, AH.i_wr, AH.l_wr, AH.ai_wr, AH.al_wr, AH.ar_wr, AH.z_wr, AH.s_wr, AH.kd_wi, AH.r_wi, AH.i_wi, AH.l_wi, AH.ai_wi, AH.al_wi, AH.ar_wi, AH.z_wi, AH.s_wi, AH.kd_nw, AH.r_nw, AH.i_nw, AH.l_nw, AH.ai_nw, AH.al_nw, AH.ar_nw, AH.z_nw, AH.s_nw, false_and, and_false, true_and, and_true, and_self, eq_self, if_true, if_false, reduceIte, nz]
      exact Tx1.1
    subst e12
    have A2 := ((S2.adv c2).new hsx hax 112 no [] [] (List.replicate no 0)).pr 18006 h.z hx.z (by decide)
    have Fy : Same (fun y => y = s ∨ y = h.z) hx (((hx.pi 16001 s (nI e0)).new 112 no [] [] (List.replicate no 0)).pr 18006 h.z hx.z) := ((Same.rf.pi _ _ (Or.inl (Or.inl rfl))).new _ _ _ _ _).pr _ _ (Or.inl (Or.inr rfl))
    have ns : ¬ h.z = s := by omega
    have e1 := Fy.2.2 (h.z + 1) (by omega) (by omega)
    refine tx_181 (il := acc) hd w ha hs has c5 (by omega) ?_ ?_ ?_ ?_ A2 (F.trans Fy (fun y hy q => by omega)) ?_ ?_ hP
    · unfold TxA
      rw [e1.1, e1.2.2.2.2.1]
      simp only [AH.kd_pr, AH.r_pr, AH.i_pr, AH.l_pr, AH.ai_pr, AH.al_pr, AH.ar_pr, AH.z_pr, AH.s_pr, AH.kd_pi, AH.r_pi, AH.i_pi, AH.l_pi, AH.ai_pi, AH.al_pi, AH.ar_pi, AH.z_pi, AH.s_pi, AH.kd_pl, AH.r_pl, AH.i_pl, AH.l_pl, AH.ai_pl, AH.al_pl, AH.ar_pl, AH.z_pl, AH.s_pl, AH.kd_wl, AH.r_wl, AH.i_wl, AH.l_wl, AH.ai_wl, AH.al_wl, AH.ar_wl, AH.z_wl, AH.s_wl, AH.kd_wr, AH.r_wr, AH.i_wr, AH.l_wr, AH.ai_wr, AH.al_wr, AH.ar_wr, AH.z_wr, AH.s_wr, AH.kd_wi, AH.r_wi, AH.i_wi, AH.l_wi, AH.ai_wi, AH.al_wi, AH.ar_wi, AH.z_wi, AH.s_wi, AH.kd_nw, AH.r_nw, AH.i_nw, AH.l_nw, AH.ai_nw, AH.al_nw, AH.ar_nw, AH.z_nw, AH.s_nw, false_and, and_false, true_and, and_true, and_self, eq_self, if_true, if_false, reduceIte, ns, nz, Nat.reduceEqDiff]
      exact Tx1
    · have : acc.length = ni := by omega
      rw [this]
      exact I2.eq (fun y h1 h2 => Fy.2.2 y (by omega) (by omega))
    · simp only [AH.kd_pr, AH.r_pr, AH.i_pr, AH.l_pr, AH.ai_pr, AH.al_pr, AH.ar_pr, AH.z_pr, AH.s_pr, AH.kd_pi, AH.r_pi, AH.i_pi, AH.l_pi, AH.ai_pi, AH.al_pi, AH.ar_pi, AH.z_pi, AH.s_pi, AH.kd_pl, AH.r_pl, AH.i_pl, AH.l_pl, AH.ai_pl, AH.al_pl, AH.ar_pl, AH.z_pl, AH.s_pl, AH.kd_wl, AH.r_wl, AH.i_wl, AH.l_wl, AH.ai_wl, AH.al_wl, AH.ar_wl, AH.z_wl, AH.s_wl, AH.kd_wr, AH.r_wr, AH.i_wr, AH.l_wr, AH.ai_wr, AH.al_wr, AH.ar_wr, AH.z_wr, AH.s_wr, AH.kd_wi, AH.r_wi, AH.i_wi, AH.l_wi, AH.ai_wi, AH.al_wi, AH.ar_wi, AH.z_wi, AH.s_wi, AH.kd_nw, AH.r_nw, AH.i_nw, AH.l_nw, AH.ai_nw, AH.al_nw, AH.ar_nw, AH.z_nw, AH.s_nw, false_and, and_false, true_and, and_true, and_self, eq_self, if_true, if_false, reduceIte]
      omega
    · refine ⟨?_, ?_, fun j hj => absurd hj (by simp)⟩
      · rw [show h.z + 3 + acc.length = hx.z by omega]
        simp only [AH.kd_pr, AH.r_pr, AH.i_pr, AH.l_pr, AH.ai_pr, AH.al_pr, AH.ar_pr, AH.z_pr, AH.s_pr, AH.kd_pi, AH.r_pi, AH.i_pi, AH.l_pi, AH.ai_pi, AH.al_pi, AH.ar_pi, AH.z_pi, AH.s_pi, AH.kd_pl, AH.r_pl, AH.i_pl, AH.l_pl, AH.ai_pl, AH.al_pl, AH.ar_pl, AH.z_pl, AH.s_pl, AH.kd_wl, AH.r_wl, AH.i_wl, AH.l_wl, AH.ai_wl, AH.al_wl, AH.ar_wl, AH.z_wl, AH.s_wl, AH.kd_wr, AH.r_wr, AH.i_wr, AH.l_wr, AH.ai_wr, AH.al_wr, AH.ar_wr, AH.z_wr, AH.s_wr, AH.kd_wi, AH.r_wi, AH.i_wi, AH.l_wi, AH.ai_wi, AH.al_wi, AH.ar_wi, AH.z_wi, AH.s_wi, AH.kd_nw, AH.r_nw, AH.i_nw, AH.l_nw, AH.ai_nw, AH.al_nw, AH.ar_nw, AH.z_nw, AH.s_nw, false_and, and_false, true_and, and_true, and_self, eq_self, if_true, if_false, reduceIte]
      · rw [show h.z + 3 + acc.length = hx.z by omega]
        simp only [AH.kd_pr, AH.r_pr, AH.i_pr, AH.l_pr, AH.ai_pr, AH.al_pr, AH.ar_pr, AH.z_pr, AH.s_pr, AH.kd_pi, AH.r_pi, AH.i_pi, AH.l_pi, AH.ai_pi, AH.al_pi, AH.ar_pi, AH.z_pi, AH.s_pi, AH.kd_pl, AH.r_pl, AH.i_pl, AH.l_pl, AH.ai_pl, AH.al_pl, AH.ar_pl, AH.z_pl, AH.s_pl, AH.kd_wl, AH.r_wl, AH.i_wl, AH.l_wl, AH.ai_wl, AH.al_wl, AH.ar_wl, AH.z_wl, AH.s_wl, AH.kd_wr, AH.r_wr, AH.i_wr, AH.l_wr, AH.ai_wr, AH.al_wr, AH.ar_wr, AH.z_wr, AH.s_wr, AH.kd_wi, AH.r_wi, AH.i_wi, AH.l_wi, AH.ai_wi, AH.al_wi, AH.ar_wi, AH.z_wi, AH.s_wi, AH.kd_nw, AH.r_nw, AH.i_nw, AH.l_nw, AH.ai_nw, AH.al_nw, AH.ar_nw, AH.z_nw, AH.s_nw, false_and, and_false, true_and, and_true, and_self, eq_self, if_true, if_false, reduceIte]
        exact rowF_0 _ _
    · simp only [AH.kd_pr, AH.r_pr, AH.i_pr, AH.l_pr, AH.ai_pr, AH.al_pr, AH.ar_pr, AH.z_pr, AH.s_pr, AH.kd_pi, AH.r_pi, AH.i_pi, AH.l_pi, AH.ai_pi, AH.al_pi, AH.ar_pi, AH.z_pi, AH.s_pi, AH.kd_pl, AH.r_pl, AH.i_pl, AH.l_pl, AH.ai_pl, AH.al_pl, AH.ar_pl, AH.z_pl, AH.s_pl, AH.kd_wl, AH.r_wl, AH.i_wl, AH.l_wl, AH.ai_wl, AH.al_wl, AH.ar_wl, AH.z_wl, AH.s_wl, AH.kd_wr, AH.r_wr, AH.i_wr, AH.l_wr, AH.ai_wr, AH.al_wr, AH.ar_wr, AH.z_wr, AH.s_wr, AH.kd_wi, AH.r_wi, AH.i_wi, AH.l_wi, AH.ai_wi, AH.al_wi, AH.ar_wi, AH.z_wi, AH.s_wi, AH.kd_nw, AH.r_nw, AH.i_nw, AH.l_nw, AH.ai_nw, AH.al_nw, AH.ar_nw, AH.z_nw, AH.s_nw, false_and, and_false, true_and, and_true, and_self, eq_self, if_true, if_false, reduceIte]
      omega
    · simp only [AH.kd_pr, AH.r_pr, AH.i_pr, AH.l_pr, AH.ai_pr, AH.al_pr, AH.ar_pr, AH.z_pr, AH.s_pr, AH.kd_pi, AH.r_pi, AH.i_pi, AH.l_pi, AH.ai_pi, AH.al_pi, AH.ar_pi, AH.z_pi, AH.s_pi, AH.kd_pl, AH.r_pl, AH.i_pl, AH.l_pl, AH.ai_pl, AH.al_pl, AH.ar_pl, AH.z_pl, AH.s_pl, AH.kd_wl, AH.r_wl, AH.i_wl, AH.l_wl, AH.ai_wl, AH.al_wl, AH.ar_wl, AH.z_wl, AH.s_wl, AH.kd_wr, AH.r_wr, AH.i_wr, AH.l_wr, AH.ai_wr, AH.al_wr, AH.ar_wr, AH.z_wr, AH.s_wr, AH.kd_wi, AH.r_wi, AH.i_wi, AH.l_wi, AH.ai_wi, AH.al_wi, AH.ar_wi, AH.z_wi, AH.s_wi, AH.kd_nw, AH.r_nw, AH.i_nw, AH.l_nw, AH.ai_nw, AH.al_nw, AH.ar_nw, AH.z_nw, AH.s_nw, false_and, and_false, true_and, and_true, and_self, eq_self, if_true, if_false, reduceIte]
      omega
  · have ek : ni - k = 0 := by omega
    rw [hP, hI, ek, insP_0]
    show (match cntP L n cur with
        | none => none
        | some (no, e) => if 180 < no then none else match outsP L n no e with
          | none => none
          | some (ol, g) => if n < g + 4 then none else some (at_, g + 4, acc, ol)) = none
    rw [Q.1]
  · exact Thr.aft F (by omega) (by omega) Q.2 (fun _ _ q => q)
  · have ek : ni - k = (ni - (k + 1)) + 1 := by omega
    rw [ek] at hI
    subst e14
    have kd14 : h15.kd hx.z = 19 := by rw [e15, AH.kd_nw, if_pos rfl]
    refine (In_init_spec (by omega) kd14).nV (fun h18 e18 => ?_)
    subst e18
    have hzx : h.z ≤ hx.z := F.1
    have hnone : ∀ {X : Option (List P3 × Nat)}, insP L n ni b0 = X → X = none → txP L n at_ = none := fun {X} e1 e2 => by rw [hP, e1, e2]
    have A1 : SrcAt h18 s a L cur n := by rw [e15]; exact S2.new hsx hax 19 5 [] [] []
    have F1' : Same (fun y => y = s ∨ y = h.z + 2) hx h18 := by rw [e15]; exact Same.rf.new _ _ _ _ _
    have J1 : h18.z = hx.z + 1 ∧ h18.s = hx.s + 5 := by rw [e15]; exact ⟨rfl, rfl⟩
    have a1 : h18.kd (h.z + 2) = 111 ∧ h18.ar (h.z + 2) = hx.ar (h.z + 2) := by
      have nA : ¬ h.z + 2 = hx.z := by omega
      rw [e15, AH.kd_nw, AH.ar_nw, if_neg nA, if_neg nA]
      exact ⟨I2.1, rfl⟩
    clear e15
    have fin : ∀ {h' h'' : AH} {x : Nat}, Same (fun y => y = s ∨ y = h.z + 2) hx h' → h'.z = hx.z + 1 → h'.s = hx.s + 5 → Thr 17 (· = s) 1 6 h' h'' x → Thr 17 (· = s) 230 1100 h h'' x := fun f1 f2 f3 T =>
      Thr.aft (F.trans f1 (fun y hy q => by omega)) (by omega) (by omega) T (fun _ _ q => q)
    refine ⟨A1.1, (Src_pass_spec (m := 32) (by omega) (by omega) A1).toI (fun x19 h20 _ _ Q => ?_) (fun x19 h20 _ _ Q => ⟨hnone hI (by rw [insP_n1 (by have := Q.1; omega)]; rfl), fin F1' J1.1 J1.2 Q.2⟩)⟩
    obtain ⟨hl, rfl, e20⟩ := Q
    intro h29 e29
    have A2 : SrcAt h29 s a L (cur + 32) n := by rw [e29, e20]; exact (A1.adv hl).pi _ _ _ (by decide)
    have F2' : Same (fun y => y = s ∨ y = h.z + 2) hx h29 := by rw [e29, e20]; exact (F1'.pi _ _ (Or.inl (Or.inl rfl))).pi _ _ (Or.inr (Nat.le_refl _))
    have J2 : h29.kd hx.z = 19 ∧ h29.z = hx.z + 1 ∧ h29.s = hx.s + 5 := by rw [e29, e20]; exact ⟨kd14, J1⟩
    have a2 : h29.kd (h.z + 2) = 111 ∧ h29.ar (h.z + 2) = hx.ar (h.z + 2) := by rw [e29, e20]; exact a1
    have y0 : h29.i 19000 hx.z = nI cur := by rw [e29]; exact if_pos ⟨rfl, rfl⟩
    clear e29 e20 A1 F1' J1 a1
    refine (Src_number_spec (k := 4) (by omega) (by omega) A2).toJ (fun x30 h31 _ _ Q => ?_) (fun x30 h31 _ _ Q => ⟨hnone hI (by rw [insP_n1 (by have := Q.1; omega)]; rfl), fin F2' J2.2.1 J2.2.2 Q.2⟩)
    obtain ⟨hl2, rfl, e31⟩ := Q
    intro h36 e36
    rw [lN_i] at e36
    have A3 : SrcAt h36 s a L (cur + 32 + 4) n := by rw [e36, e31]; exact (A2.adv hl2).pi _ _ _ (by decide)
    have F3 : Same (fun y => y = s ∨ y = h.z + 2) hx h36 := by rw [e36, e31]; exact (F2'.pi _ _ (Or.inl (Or.inl rfl))).pi _ _ (Or.inr (Nat.le_refl _))
    have J3 : h36.kd hx.z = 19 ∧ h36.z = hx.z + 1 ∧ h36.s = hx.s + 5 := by rw [e36, e31]; exact J2
    have a3 : h36.kd (h.z + 2) = 111 ∧ h36.ar (h.z + 2) = hx.ar (h.z + 2) := by rw [e36, e31]; exact a2
    have y1 : h36.i 19000 hx.z = nI cur ∧ h36.i 19001 hx.z = nI (leV L (cur + 32) 4) := by
      rw [e36, e31]
      exact ⟨(i_ne (by decide)).trans ((i_ne (by decide)).trans y0), if_pos ⟨rfl, rfl⟩⟩
    clear e36 e31 A2 F2' J2 a2 y0
    refine (Src_count_spec (by omega) A3).toJ (fun x37 h38 _ _ Q => ?_) (fun x37 h38 _ _ Q => ⟨hnone hI (by rw [insP_n2 Q.1]; rfl), fin F3 J3.2.1 J3.2.2 Q.2⟩)
    obtain ⟨sz, b2, ec, rfl, e38⟩ := Q
    obtain ⟨c1, c2, c3, -⟩ := cntP_inv ec
    have A4 : SrcAt h38 s a L b2 n := by rw [e38]; exact A3.adv c2
    have F4 : Same (fun y => y = s ∨ y = h.z + 2) hx h38 := by rw [e38]; exact F3.pi _ _ (Or.inl (Or.inl rfl))
    have J4 : h38.kd hx.z = 19 ∧ h38.z = hx.z + 1 ∧ h38.s = hx.s + 5 := by rw [e38]; exact J3
    have a4 : h38.kd (h.z + 2) = 111 ∧ h38.ar (h.z + 2) = hx.ar (h.z + 2) := by rw [e38]; exact a3
    have y4 : h38.i 19000 hx.z = nI cur ∧ h38.i 19001 hx.z = nI (leV L (cur + 32) 4) := by rw [e38]; exact ⟨(i_ne (by decide)).trans y1.1, (i_ne (by decide)).trans y1.2⟩
    clear e38 A3 F3 J3 a3 y1
    refine (Src_pass_spec (m := sz) (by omega) (by omega) A4).toI (fun x41 h42 _ _ Q => ?_) (fun x41 h42 _ _ Q => ⟨hnone hI (by rw [insP_n3 ec (by have := Q.1; omega)]; rfl), fin F4 J4.2.1 J4.2.2 Q.2⟩)
    obtain ⟨hl3, rfl, e42⟩ := Q
    intro h47 e47 h49 e49
    rw [lN_i] at e49
    have A5 : SrcAt h49 s a L (b2 + sz) n := by rw [e49, e47, e42]; exact ((A4.adv hl3).pi _ _ _ (by decide)).pi _ _ _ (by decide)
    have F5 : Same (fun y => y = s ∨ y = h.z + 2) hx h49 := by rw [e49, e47, e42]; exact ((F4.pi _ _ (Or.inl (Or.inl rfl))).pi _ _ (Or.inr (Nat.le_refl _))).pi _ _ (Or.inr (Nat.le_refl _))
    have J5 : h49.kd hx.z = 19 ∧ h49.z = hx.z + 1 ∧ h49.s = hx.s + 5 := by rw [e49, e47, e42]; exact J4
    have a5 : h49.kd (h.z + 2) = 111 ∧ h49.ar (h.z + 2) = hx.ar (h.z + 2) := by rw [e49, e47, e42]; exact a4
    have y5 : h49.i 19000 hx.z = nI cur ∧ h49.i 19001 hx.z = nI (leV L (cur + 32) 4) ∧ h49.i 19002 hx.z = nI b2 ∧ h49.i 19003 hx.z = nI sz := by
      rw [e49, e47, e42]
      exact ⟨(i_ne (by decide)).trans ((i_ne (by decide)).trans ((i_ne (by decide)).trans y4.1)), (i_ne (by decide)).trans ((i_ne (by decide)).trans ((i_ne (by decide)).trans y4.2)), (i_ne (by decide)).trans (if_pos ⟨rfl, rfl⟩), if_pos ⟨rfl, rfl⟩⟩
    clear e49 e47 e42 A4 F4 J4 a4 y4
    refine (Src_number_spec (k := 4) (by omega) (by omega) A5).toJ (fun x50 h51 _ _ Q => ?_) (fun x50 h51 _ _ Q => ⟨hnone hI (by rw [insP_n3 ec Q.1]; rfl), fin F5 J5.2.1 J5.2.2 Q.2⟩)
    obtain ⟨hl4, rfl, e51⟩ := Q
    intro h57 e57
    have A6 : SrcAt h57 s a L (b2 + sz + 4) n := by rw [e57, e51]; exact (A5.adv hl4).pl _ _ _
    have Fy : Same (fun y => y = s ∨ y = h.z + 2) hx h57 := by rw [e57, e51]; exact (F5.pi _ _ (Or.inl (Or.inl rfl))).pl _ _ (Or.inr (Nat.le_refl _))
    have ez2 : h57.z = hx.z + 1 := by rw [e57, e51]; exact J5.2.1
    have es2 : h57.s = hx.s + 5 := by rw [e57, e51]; exact J5.2.2
    have ek2 : h57.kd (h.z + 2) = 111 := by rw [e57, e51]; exact a5.1
    have ea2 : h57.ar (h.z + 2) = hx.ar (h.z + 2) := by rw [e57, e51]; exact a5.2
    have y6 : h51.kd hx.z = 19 ∧ h51.i 19000 hx.z = nI cur ∧ h51.i 19001 hx.z = nI (leV L (cur + 32) 4) ∧ h51.i 19002 hx.z = nI b2 ∧ h51.i 19003 hx.z = nI sz := by
      rw [e51]
      exact ⟨J5.1, (i_ne (by decide)).trans y5.1, (i_ne (by decide)).trans y5.2.1, (i_ne (by decide)).trans y5.2.2.1, (i_ne (by decide)).trans y5.2.2.2⟩
    have ein : InAt h57 hx.z L (cur, b2, sz) := by
      rw [e57]
      exact ⟨y6.1, y6.2.1, y6.2.2.1, y6.2.2.2.1, y6.2.2.2.2, if_pos ⟨rfl, rfl⟩⟩
    have eA := Fy.2.2 h.z (by omega) (by omega)
    clear e51 A5 F5 J5 a5 y5
    clear e57
    refine ⟨by rw [eA.1]; exact Tx1.1, fun r39 e39 => ?_⟩
    have er : r39 = h.z + 2 := by rw [e39, eA.2.1]; exact Tx1.2.2.2.2.2.2
    subst er
    rw [ea2, I2.2.1, rowF_len]
    refine ⟨ek2, pk_in k ni (by omega), Or.inr ein.1, fun h43 e43 => ?_⟩
    rw [nI_1]
    have Fz := Fy.wr (a := h.z + 2) ((rowF (fun j => h.z + 2 + 1 + j) acc.length ni).set k hx.z) (by rw [ea2, I2.2.1, List.length_set]) (Or.inl (Or.inr rfl))
    rw [pk_cl k rfl (by omega)] at e43
    rw [← e43] at Fz
    refine ih (by omega) (h43, b2 + sz + 4, acc ++ [(cur, b2, sz)]) ⟨by rw [List.length_append, la]; rfl, F2.trans Fz (fun _ _ q => q), ?_, ⟨?_, ?_, fun j hj => ?_⟩, ?_, ?_, ?_⟩
    · show SrcAt h43 s a L (b2 + sz + 4) n
      rw [e43]
      exact A6.wr _ _
    · show h43.kd (h.z + 2) = 111
      rw [e43]
      exact ek2
    · show h43.ar (h.z + 2) = _
      rw [e43, AH.ar_wr, if_pos rfl, la, rowF_set (by omega) (by omega), List.length_append, la]
      rfl
    · rw [List.length_append, la] at hj
      rw [getD_snoc, la]
      by_cases ej : j = k
      · rw [if_pos ej, ej, show h.z + 2 + 1 + k = hx.z by omega]
        show InAt h43 hx.z L (cur, b2, sz)
        rw [e43]
        exact ein
      · rw [if_neg ej]
        have hj2 : j < k := by simp at hj; omega
        exact (I2.2.2 j (by omega)).eq (Fz.2.2 _ (by omega) (by omega))
    · show h43.z = _
      rw [e43, AH.z_wr, ez2]
      omega
    · show h43.s = _
      rw [e43, AH.s_wr, es2]
      omega
    · rw [hI, insP_ok (by omega) ec hl4]
theorem transaction_spec (hd : 10 ≤ d) (H : SrcAt h s a L at_ n) : Cw G mX1_transaction d 0 [vR s] h (kR (fun x h' => ∃ t, txP L n at_ = some t ∧ x = h.z ∧ TxAt h' h.z L t ∧ SrcAt h' s a L t.2.1 n ∧ Same (· = s) h h' ∧ h'.z = h.z + txSz t ∧ h'.s ≤ h.s + 1000) (fun x h' => txP L n at_ = none ∧ Thr 17 (· = s) 230 1100 h h' x)) := by
  obtain ⟨d, rfl⟩ : ∃ d', d = d' + 1 := ⟨d - 1, by omega⟩
  refine eX1_transaction h s (fun w => sX1_transaction_0 h s (fun q1 e1 _ h2 e2 => ?_))
  have hs : s < h.z := (w.2.2.1 s (by rw [H.1]; decide)).2.1
  have ha : a < h.z := (w.2.2.1 a (by rw [H.2.2.2.2.2.1]; decide)).2.1
  have has : a ≠ s := fun e => by have := H.1; rw [← e, H.2.2.2.2.2.1] at this; omega
  subst e1
  have kd2 : h2.kd h.z = 18 := by rw [e2, AH.kd_nw, if_pos rfl]
  refine (Tx_init_spec (by omega) kd2).nV (fun h5 e5 => ?_)
  subst e2
  subst e5
  have A1 := ((H.new hs ha 18 7 [] [] []).new (by rw [AH.z_nw]; omega) (by rw [AH.z_nw]; omega) 101 32 (List.replicate 32 0) [] []).pr 18002 h.z (h.z + 1) (by decide)
  have F1 : Same (· = s) h _ := ((Same.rf.new 18 7 [] [] []).new 101 32 (List.replicate 32 0) [] []).pr (a := h.z) 18002 (h.z + 1) (Or.inr (Nat.le_refl _))
  refine ⟨A1.1, (Src_at_spec (by omega) A1).nI (fun x6 h7 Q => ?_)⟩
  obtain ⟨rfl, rfl⟩ := Q
  intro h11 e11
  subst e11
  have A2 := A1.pi 18000 h.z (nI at_) (by decide)
  have F2 := F1.pi (a := h.z) 18000 (nI at_) (Or.inr (Nat.le_refl _))
  refine (Src_number_spec (k := 4) (by omega) (by omega) A2).toJ (fun x12 h13 _ _ Q => ?_) (fun x12 h13 _ _ Q => ⟨txP_n1 Q.1, Thr.aft F2 (by simp only [AH.kd_pr, AH.r_pr, AH.i_pr, AH.l_pr, AH.ai_pr, AH.al_pr, AH.ar_pr, AH.z_pr, AH.s_pr, AH.kd_pi, AH.r_pi, AH.i_pi, AH.l_pi, AH.ai_pi, AH.al_pi, AH.ar_pi, AH.z_pi, AH.s_pi, AH.kd_pl, AH.r_pl, AH.i_pl, AH.l_pl, AH.ai_pl, AH.al_pl, AH.ar_pl, AH.z_pl, AH.s_pl, AH.kd_wl, AH.r_wl, AH.i_wl, AH.l_wl, AH.ai_wl, AH.al_wl, AH.ar_wl, AH.z_wl, AH.s_wl, AH.kd_wr, AH.r_wr, AH.i_wr, AH.l_wr, AH.ai_wr, AH.al_wr, AH.ar_wr, AH.z_wr, AH.s_wr, AH.kd_wi, AH.r_wi, AH.i_wi, AH.l_wi, AH.ai_wi, AH.al_wi, AH.ar_wi, AH.z_wi, AH.s_wi, AH.kd_nw, AH.r_nw, AH.i_nw, AH.l_nw, AH.ai_nw, AH.al_nw, AH.ar_nw, AH.z_nw, AH.s_nw, false_and, and_false, true_and, and_true, and_self, eq_self, if_true, if_false, reduceIte]; omega) (by simp only [AH.kd_pr, AH.r_pr, AH.i_pr, AH.l_pr, AH.ai_pr, AH.al_pr, AH.ar_pr, AH.z_pr, AH.s_pr, AH.kd_pi, AH.r_pi, AH.i_pi, AH.l_pi, AH.ai_pi, AH.al_pi, AH.ar_pi, AH.z_pi, AH.s_pi, AH.kd_pl, AH.r_pl, AH.i_pl, AH.l_pl, AH.ai_pl, AH.al_pl, AH.ar_pl, AH.z_pl, AH.s_pl, AH.kd_wl, AH.r_wl, AH.i_wl, AH.l_wl, AH.ai_wl, AH.al_wl, AH.ar_wl, AH.z_wl, AH.s_wl, AH.kd_wr, AH.r_wr, AH.i_wr, AH.l_wr, AH.ai_wr, AH.al_wr, AH.ar_wr, AH.z_wr, AH.s_wr, AH.kd_wi, AH.r_wi, AH.i_wi, AH.l_wi, AH.ai_wi, AH.al_wi, AH.ar_wi, AH.z_wi, AH.s_wi, AH.kd_nw, AH.r_nw, AH.i_nw, AH.l_nw, AH.ai_nw, AH.al_nw, AH.ar_nw, AH.z_nw, AH.s_nw, false_and, and_false, true_and, and_true, and_self, eq_self, if_true, if_false, reduceIte]; omega) Q.2 (fun _ _ q => q)⟩)
  obtain ⟨hl, rfl, rfl⟩ := Q
  intro h18 e18
  subst e18
  have A3 := (A2.adv hl).pl 18003 h.z (lN (leV L at_ 4))
  have F3 := (F2.pi (a := s) 16001 (nI (at_ + 4)) (Or.inl rfl)).pl (a := h.z) 18003 (lN (leV L at_ 4)) (Or.inr (Nat.le_refl _))
  refine (Src_count_spec (by omega) A3).toJ (fun x19 h20 _ _ Q => ?_) (fun x19 h20 _ _ Q => ⟨txP_n2 Q.1, Thr.aft F3 (by simp only [AH.kd_pr, AH.r_pr, AH.i_pr, AH.l_pr, AH.ai_pr, AH.al_pr, AH.ar_pr, AH.z_pr, AH.s_pr, AH.kd_pi, AH.r_pi, AH.i_pi, AH.l_pi, AH.ai_pi, AH.al_pi, AH.ar_pi, AH.z_pi, AH.s_pi, AH.kd_pl, AH.r_pl, AH.i_pl, AH.l_pl, AH.ai_pl, AH.al_pl, AH.ar_pl, AH.z_pl, AH.s_pl, AH.kd_wl, AH.r_wl, AH.i_wl, AH.l_wl, AH.ai_wl, AH.al_wl, AH.ar_wl, AH.z_wl, AH.s_wl, AH.kd_wr, AH.r_wr, AH.i_wr, AH.l_wr, AH.ai_wr, AH.al_wr, AH.ar_wr, AH.z_wr, AH.s_wr, AH.kd_wi, AH.r_wi, AH.i_wi, AH.l_wi, AH.ai_wi, AH.al_wi, AH.ar_wi, AH.z_wi, AH.s_wi, AH.kd_nw, AH.r_nw, AH.i_nw, AH.l_nw, AH.ai_nw, AH.al_nw, AH.ar_nw, AH.z_nw, AH.s_nw, false_and, and_false, true_and, and_true, and_self, eq_self, if_true, if_false, reduceIte]; omega) (by simp only [AH.kd_pr, AH.r_pr, AH.i_pr, AH.l_pr, AH.ai_pr, AH.al_pr, AH.ar_pr, AH.z_pr, AH.s_pr, AH.kd_pi, AH.r_pi, AH.i_pi, AH.l_pi, AH.ai_pi, AH.al_pi, AH.ar_pi, AH.z_pi, AH.s_pi, AH.kd_pl, AH.r_pl, AH.i_pl, AH.l_pl, AH.ai_pl, AH.al_pl, AH.ar_pl, AH.z_pl, AH.s_pl, AH.kd_wl, AH.r_wl, AH.i_wl, AH.l_wl, AH.ai_wl, AH.al_wl, AH.ar_wl, AH.z_wl, AH.s_wl, AH.kd_wr, AH.r_wr, AH.i_wr, AH.l_wr, AH.ai_wr, AH.al_wr, AH.ar_wr, AH.z_wr, AH.s_wr, AH.kd_wi, AH.r_wi, AH.i_wi, AH.l_wi, AH.ai_wi, AH.al_wi, AH.ar_wi, AH.z_wi, AH.s_wi, AH.kd_nw, AH.r_nw, AH.i_nw, AH.l_nw, AH.ai_nw, AH.al_nw, AH.ar_nw, AH.z_nw, AH.s_nw, false_and, and_false, true_and, and_true, and_self, eq_self, if_true, if_false, reduceIte]; omega) Q.2 (fun _ _ q => q)⟩)
  obtain ⟨ni, b0, ec, rfl, rfl⟩ := Q
  obtain ⟨c1, c2, c3, -⟩ := cntP_inv ec
  have A4 := A3.adv (b := b0) c2
  have F4 := F3.pi (a := s) 16001 (nI b0) (Or.inl rfl)
  have e40 : (lN ni ≤ 40) ↔ ni ≤ 40 := lN_le63 (b := 40) c3 (by omega)
  rw [e40]
  have hP := txP_c hl ec
  refine ⟨fun c5 => ?_, fun c5 q13 e13 _ h14 e14 => ⟨by omega, fun h17 e17 => ⟨by rw [hP, if_pos (by omega)], Thr.nw F4 e13 e14 (by simp only [AH.kd_pr, AH.r_pr, AH.i_pr, AH.l_pr, AH.ai_pr, AH.al_pr, AH.ar_pr, AH.z_pr, AH.s_pr, AH.kd_pi, AH.r_pi, AH.i_pi, AH.l_pi, AH.ai_pi, AH.al_pi, AH.ar_pi, AH.z_pi, AH.s_pi, AH.kd_pl, AH.r_pl, AH.i_pl, AH.l_pl, AH.ai_pl, AH.al_pl, AH.ar_pl, AH.z_pl, AH.s_pl, AH.kd_wl, AH.r_wl, AH.i_wl, AH.l_wl, AH.ai_wl, AH.al_wl, AH.ar_wl, AH.z_wl, AH.s_wl, AH.kd_wr, AH.r_wr, AH.i_wr, AH.l_wr, AH.ai_wr, AH.al_wr, AH.ar_wr, AH.z_wr, AH.s_wr, AH.kd_wi, AH.r_wi, AH.i_wi, AH.l_wi, AH.ai_wi, AH.al_wi, AH.ar_wi, AH.z_wi, AH.s_wi, AH.kd_nw, AH.r_nw, AH.i_nw, AH.l_nw, AH.ai_nw, AH.al_nw, AH.ar_nw, AH.z_nw, AH.s_nw, false_and, and_false, true_and, and_true, and_self, eq_self, if_true, if_false, reduceIte]; omega) (by simp only [AH.kd_pr, AH.r_pr, AH.i_pr, AH.l_pr, AH.ai_pr, AH.al_pr, AH.ar_pr, AH.z_pr, AH.s_pr, AH.kd_pi, AH.r_pi, AH.i_pi, AH.l_pi, AH.ai_pi, AH.al_pi, AH.ar_pi, AH.z_pi, AH.s_pi, AH.kd_pl, AH.r_pl, AH.i_pl, AH.l_pl, AH.ai_pl, AH.al_pl, AH.ar_pl, AH.z_pl, AH.s_pl, AH.kd_wl, AH.r_wl, AH.i_wl, AH.l_wl, AH.ai_wl, AH.al_wl, AH.ar_wl, AH.z_wl, AH.s_wl, AH.kd_wr, AH.r_wr, AH.i_wr, AH.l_wr, AH.ai_wr, AH.al_wr, AH.ar_wr, AH.z_wr, AH.s_wr, AH.kd_wi, AH.r_wi, AH.i_wi, AH.l_wi, AH.ai_wi, AH.al_wi, AH.ar_wi, AH.z_wi, AH.s_wi, AH.kd_nw, AH.r_nw, AH.i_nw, AH.l_nw, AH.ai_nw, AH.al_nw, AH.ar_nw, AH.z_nw, AH.s_nw, false_and, and_false, true_and, and_true, and_self, eq_self, if_true, if_false, reduceIte]; omega) e17⟩⟩⟩
  rw [if_neg (by omega)] at hP
  rw [lN_i, pk_cl ni rfl (by omega)]
  refine ⟨nI_pos (by omega), by omega, fun q26 e26 _ h27 e27 h32 e32 => ?_⟩
  have hq : q26 = h.z + 2 := e26
  subst hq
  have A5 := (A4.new (by simp only [AH.kd_pr, AH.r_pr, AH.i_pr, AH.l_pr, AH.ai_pr, AH.al_pr, AH.ar_pr, AH.z_pr, AH.s_pr, AH.kd_pi, AH.r_pi, AH.i_pi, AH.l_pi, AH.ai_pi, AH.al_pi, AH.ar_pi, AH.z_pi, AH.s_pi, AH.kd_pl, AH.r_pl, AH.i_pl, AH.l_pl, AH.ai_pl, AH.al_pl, AH.ar_pl, AH.z_pl, AH.s_pl, AH.kd_wl, AH.r_wl, AH.i_wl, AH.l_wl, AH.ai_wl, AH.al_wl, AH.ar_wl, AH.z_wl, AH.s_wl, AH.kd_wr, AH.r_wr, AH.i_wr, AH.l_wr, AH.ai_wr, AH.al_wr, AH.ar_wr, AH.z_wr, AH.s_wr, AH.kd_wi, AH.r_wi, AH.i_wi, AH.l_wi, AH.ai_wi, AH.al_wi, AH.ar_wi, AH.z_wi, AH.s_wi, AH.kd_nw, AH.r_nw, AH.i_nw, AH.l_nw, AH.ai_nw, AH.al_nw, AH.ar_nw, AH.z_nw, AH.s_nw, false_and, and_false, true_and, and_true, and_self, eq_self, if_true, if_false, reduceIte]; omega) (by simp only [AH.kd_pr, AH.r_pr, AH.i_pr, AH.l_pr, AH.ai_pr, AH.al_pr, AH.ar_pr, AH.z_pr, AH.s_pr, AH.kd_pi, AH.r_pi, AH.i_pi, AH.l_pi, AH.ai_pi, AH.al_pi, AH.ar_pi, AH.z_pi, AH.s_pi, AH.kd_pl, AH.r_pl, AH.i_pl, AH.l_pl, AH.ai_pl, AH.al_pl, AH.ar_pl, AH.z_pl, AH.s_pl, AH.kd_wl, AH.r_wl, AH.i_wl, AH.l_wl, AH.ai_wl, AH.al_wl, AH.ar_wl, AH.z_wl, AH.s_wl, AH.kd_wr, AH.r_wr, AH.i_wr, AH.l_wr, AH.ai_wr, AH.al_wr, AH.ar_wr, AH.z_wr, AH.s_wr, AH.kd_wi, AH.r_wi, AH.i_wi, AH.l_wi, AH.ai_wi, AH.al_wi, AH.ar_wi, AH.z_wi, AH.s_wi, AH.kd_nw, AH.r_nw, AH.i_nw, AH.l_nw, AH.ai_nw, AH.al_nw, AH.ar_nw, AH.z_nw, AH.s_nw, false_and, and_false, true_and, and_true, and_self, eq_self, if_true, if_false, reduceIte]; omega) 111 ni [] [] (List.replicate ni 0)).pr 18005 h.z (h.z + 2) (by decide)
  have F5 := (F4.new 111 ni [] [] (List.replicate ni 0)).pr (a := h.z) 18005 (h.z + 2) (Or.inr (Nat.le_refl _))
  subst e27
  rw [← e32] at A5 F5
  have n1 : ¬ h.z + 1 = h.z := by omega
  have n2 : ¬ h.z + 2 = h.z := by omega
  have n3 : ¬ h.z = h.z + 1 := by omega
  have n4 : ¬ h.z = h.z + 1 + 1 := by omega
  have n5 : ¬ h.z + 1 = h.z + 1 + 1 := by omega
  have n6 : h.z + 2 = h.z + 1 + 1 := by omega
  have ns : ¬ h.z = s := by omega
  refine tx_58 (by omega) w ha hs has c5 ?_ ⟨?_, ?_, fun j hj => absurd hj (by simp)⟩ A5 F5 ?_ ?_ hP
  · rw [e32]
    unfold TxA
    simp only [AH.kd_pr, AH.r_pr, AH.i_pr, AH.l_pr, AH.ai_pr, AH.al_pr, AH.ar_pr, AH.z_pr, AH.s_pr, AH.kd_pi, AH.r_pi, AH.i_pi, AH.l_pi, AH.ai_pi, AH.al_pi, AH.ar_pi, AH.z_pi, AH.s_pi, AH.kd_pl, AH.r_pl, AH.i_pl, AH.l_pl, AH.ai_pl, AH.al_pl, AH.ar_pl, AH.z_pl, AH.s_pl, AH.kd_wl, AH.r_wl, AH.i_wl, AH.l_wl, AH.ai_wl, AH.al_wl, AH.ar_wl, AH.z_wl, AH.s_wl, AH.kd_wr, AH.r_wr, AH.i_wr, AH.l_wr, AH.ai_wr, AH.al_wr, AH.ar_wr, AH.z_wr, AH.s_wr, AH.kd_wi, AH.r_wi, AH.i_wi, AH.l_wi, AH.ai_wi, AH.al_wi, AH.ar_wi, AH.z_wi, AH.s_wi, AH.kd_nw, AH.r_nw, AH.i_nw, AH.l_nw, AH.ai_nw, AH.al_nw, AH.ar_nw, AH.z_nw, AH.s_nw, false_and, and_false, true_and, and_true, and_self, eq_self, if_true, if_false, reduceIte, n1, n3, n4, n5, ns, Nat.reduceEqDiff, List.length_replicate]
  · rw [e32]
    simp only [AH.kd_pr, AH.r_pr, AH.i_pr, AH.l_pr, AH.ai_pr, AH.al_pr, AH.ar_pr, AH.z_pr, AH.s_pr, AH.kd_pi, AH.r_pi, AH.i_pi, AH.l_pi, AH.ai_pi, AH.al_pi, AH.ar_pi, AH.z_pi, AH.s_pi, AH.kd_pl, AH.r_pl, AH.i_pl, AH.l_pl, AH.ai_pl, AH.al_pl, AH.ar_pl, AH.z_pl, AH.s_pl, AH.kd_wl, AH.r_wl, AH.i_wl, AH.l_wl, AH.ai_wl, AH.al_wl, AH.ar_wl, AH.z_wl, AH.s_wl, AH.kd_wr, AH.r_wr, AH.i_wr, AH.l_wr, AH.ai_wr, AH.al_wr, AH.ar_wr, AH.z_wr, AH.s_wr, AH.kd_wi, AH.r_wi, AH.i_wi, AH.l_wi, AH.ai_wi, AH.al_wi, AH.ar_wi, AH.z_wi, AH.s_wi, AH.kd_nw, AH.r_nw, AH.i_nw, AH.l_nw, AH.ai_nw, AH.al_nw, AH.ar_nw, AH.z_nw, AH.s_nw, false_and, and_false, true_and, and_true, and_self, eq_self, if_true, if_false, reduceIte, n6]
  · rw [e32]
    simp only [AH.kd_pr, AH.r_pr, AH.i_pr, AH.l_pr, AH.ai_pr, AH.al_pr, AH.ar_pr, AH.z_pr, AH.s_pr, AH.kd_pi, AH.r_pi, AH.i_pi, AH.l_pi, AH.ai_pi, AH.al_pi, AH.ar_pi, AH.z_pi, AH.s_pi, AH.kd_pl, AH.r_pl, AH.i_pl, AH.l_pl, AH.ai_pl, AH.al_pl, AH.ar_pl, AH.z_pl, AH.s_pl, AH.kd_wl, AH.r_wl, AH.i_wl, AH.l_wl, AH.ai_wl, AH.al_wl, AH.ar_wl, AH.z_wl, AH.s_wl, AH.kd_wr, AH.r_wr, AH.i_wr, AH.l_wr, AH.ai_wr, AH.al_wr, AH.ar_wr, AH.z_wr, AH.s_wr, AH.kd_wi, AH.r_wi, AH.i_wi, AH.l_wi, AH.ai_wi, AH.al_wi, AH.ar_wi, AH.z_wi, AH.s_wi, AH.kd_nw, AH.r_nw, AH.i_nw, AH.l_nw, AH.ai_nw, AH.al_nw, AH.ar_nw, AH.z_nw, AH.s_nw, false_and, and_false, true_and, and_true, and_self, eq_self, if_true, if_false, reduceIte, n6]
    exact rowF_0 _ _
  · rw [e32]
    simp only [AH.kd_pr, AH.r_pr, AH.i_pr, AH.l_pr, AH.ai_pr, AH.al_pr, AH.ar_pr, AH.z_pr, AH.s_pr, AH.kd_pi, AH.r_pi, AH.i_pi, AH.l_pi, AH.ai_pi, AH.al_pi, AH.ar_pi, AH.z_pi, AH.s_pi, AH.kd_pl, AH.r_pl, AH.i_pl, AH.l_pl, AH.ai_pl, AH.al_pl, AH.ar_pl, AH.z_pl, AH.s_pl, AH.kd_wl, AH.r_wl, AH.i_wl, AH.l_wl, AH.ai_wl, AH.al_wl, AH.ar_wl, AH.z_wl, AH.s_wl, AH.kd_wr, AH.r_wr, AH.i_wr, AH.l_wr, AH.ai_wr, AH.al_wr, AH.ar_wr, AH.z_wr, AH.s_wr, AH.kd_wi, AH.r_wi, AH.i_wi, AH.l_wi, AH.ai_wi, AH.al_wi, AH.ar_wi, AH.z_wi, AH.s_wi, AH.kd_nw, AH.r_nw, AH.i_nw, AH.l_nw, AH.ai_nw, AH.al_nw, AH.ar_nw, AH.z_nw, AH.s_nw, false_and, and_false, true_and, and_true, and_self, eq_self, if_true, if_false, reduceIte]
  · rw [e32]
    simp only [AH.kd_pr, AH.r_pr, AH.i_pr, AH.l_pr, AH.ai_pr, AH.al_pr, AH.ar_pr, AH.z_pr, AH.s_pr, AH.kd_pi, AH.r_pi, AH.i_pi, AH.l_pi, AH.ai_pi, AH.al_pi, AH.ar_pi, AH.z_pi, AH.s_pi, AH.kd_pl, AH.r_pl, AH.i_pl, AH.l_pl, AH.ai_pl, AH.al_pl, AH.ar_pl, AH.z_pl, AH.s_pl, AH.kd_wl, AH.r_wl, AH.i_wl, AH.l_wl, AH.ai_wl, AH.al_wl, AH.ar_wl, AH.z_wl, AH.s_wl, AH.kd_wr, AH.r_wr, AH.i_wr, AH.l_wr, AH.ai_wr, AH.al_wr, AH.ar_wr, AH.z_wr, AH.s_wr, AH.kd_wi, AH.r_wi, AH.i_wi, AH.l_wi, AH.ai_wi, AH.al_wi, AH.ar_wi, AH.z_wi, AH.s_wi, AH.kd_nw, AH.r_nw, AH.i_nw, AH.l_nw, AH.ai_nw, AH.al_nw, AH.ar_nw, AH.z_nw, AH.s_nw, false_and, and_false, true_and, and_true, and_self, eq_self, if_true, if_false, reduceIte]
end TxW2

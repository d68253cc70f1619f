/-! the component's stack machine: push, top, drop, copy, roll -/
set_option maxRecDepth 100000
/-- the machine with its stack and its other stack -/
def MOk (h : AH) (Mc D b0 : Nat) (st alt : List (List Int32)) : Prop := MchS h Mc D ∧ ElTb h Mc b0 ∧ b0 ≤ h.z ∧ Mc + 8 < b0 ∧ (h.i 7004 Mc = nI st.length ∧ h.i 7005 Mc = nI alt.length ∧ st.length ≤ 1003 ∧ alt.length ≤ 1003) ∧ StAt h Mc 0 st ∧ StAt h Mc 1004 alt
theorem eqAt.pi (h : AH) (k : Nat) {q a : Nat} (v : Int32) (e : a ≠ q) : eqAt h (h.pi k q v) a := ⟨rfl, fun _ => rfl, fun j => by rw [AH.i_pi, if_neg (fun c => e c.2)], fun _ => rfl, rfl, rfl, rfl⟩
section Mach2
variable {G : Gx} {d : Nat} {h h' : AH} {Mc D b0 : Nat} {st alt : List (List Int32)}
theorem StAt.keep {o : Nat} (H : StAt h Mc o st) (ho : o + st.length ≤ 3012) (f : ∀ j, j < st.length → elA h' Mc (o + j) = elA h Mc (o + j) ∧ eqAt h h' (elA h Mc (o + j)) ∧ eqAt h h' (elA h Mc (o + j) + 1)) : StAt h' Mc o st := fun j hj => by
  obtain ⟨f1, f2, f3⟩ := f j hj
  rw [f1]
  exact ⟨(H j hj).1, (H j hj).2.eq f2 f3⟩
/-- an exception before anything was done -/
theorem ThrM.nw {x : Nat} {h2 h3 : AH} (H : MchS h Mc D) (T : ElTb h Mc b0) (wf : WF G h) (hx : x = h.z) (e2 : h2 = h.new 17 6 [] [] []) (e3 : h3 = exH G 17 x h2) : ThrM h h3 Mc D b0 x := by
  have t := Thr.nw (P := noP) (h := h) Same.rf hx e2 (Nat.le_refl _) (Nat.le_refl _) e3
  have S := t.2.1
  have hMz : Mc + 8 < h.z := (wf.2.2.1 (Mc + 8) (by rw [H.2.2.1.2.2.2.2.2.2.2]; decide)).2.1
  have ea : ∀ v, v < 3 → h3.ar (Mc + 1 + v) = h.ar (Mc + 1 + v) := fun v hv => S.ar (by omega) id
  have hn : nul h3 Mc = nul h Mc := nul_eq ea
  refine ⟨t.1, H.same S hMz (fun k => S.r (by omega) id k), fun j hj hj0 => ?_, S.mono (fun _ _ q => q.elim), by have := t.2.2.1; omega, by have := t.2.2.2; omega⟩
  rw [elA_eq ea hj] at hj0 ⊢
  obtain ⟨t1, t2, t3⟩ := T j hj hj0
  have tz : elA h Mc j < h.z := (wf.2.2.1 _ (by rw [t2.1]; decide)).2.1
  have tz1 : elA h Mc j + 1 < h.z := (wf.2.2.1 _ (by rw [t2.2.2.1]; decide)).2.1
  exact ⟨t1, t2.eq (S.2.2 _ tz id) (S.2.1.2 _ tz1), fun i hi e => t3 i hi (by rw [← elA_eq ea hi]; exact e)⟩
theorem ElTb.lt (T : ElTb h Mc b0) (wf : WF G h) {j : Nat} (hj : j < 3012) (hj0 : elA h Mc j ≠ 0) : elA h Mc j < h.z ∧ elA h Mc j + 1 < h.z :=
  ⟨(wf.2.2.1 _ (by rw [(T j hj hj0).2.1.1]; decide)).2.1, (wf.2.2.1 _ (by rw [(T j hj hj0).2.1.2.2.1]; decide)).2.1⟩
/-- a field of the machine is told -/
theorem MFr.pi (k : Nat) (v : Int32) : MFr h (h.pi k Mc v) Mc := ⟨Same.rf.pi k v (Or.inl (Or.inl ⟨Nat.le_refl _, by omega⟩)), rfl, rfl, fun _ _ q => q⟩
theorem Mc_need_spec {x : Int32} (hd : 6 ≤ d) (H : MchS h Mc D) (T : ElTb h Mc b0) : Cw G mX7_need d 0 [vR Mc, vI x] h (kV (fun h' => ¬ x = 0 ∧ h' = h) (fun y h' => x = 0 ∧ ThrM h h' Mc D b0 y)) := by
  obtain ⟨d, rfl⟩ : ∃ d', d = d' + 1 := ⟨d - 1, by omega⟩
  exact eX7_need h Mc x (fun wf => sX7_need_0 h Mc x ⟨fun c => ⟨c, rfl⟩, fun c q2 e2 _ h3 e3 => ⟨by omega, fun h6 e6 => ⟨c, ThrM.nw H T wf e2 e3 e6⟩⟩⟩)
theorem Mc_top_spec {k : Nat} (hd : 6 ≤ d) (hk : k < 2 ^ 31) (H : MOk h Mc D b0 st alt) : Cw G mX7_top d 0 [vR Mc, vI (nI k)] h (kR (fun x h' => k < st.length ∧ x = elA h Mc (st.length - 1 - k) ∧ h' = h) (fun y h' => st.length ≤ k ∧ ThrM h h' Mc D b0 y)) := by
  obtain ⟨d, rfl⟩ : ∃ d', d = d' + 1 := ⟨d - 1, by omega⟩
  obtain ⟨H1, T, hb, hb2, ⟨i1, i2, i3, i4⟩, S1, S2⟩ := H
  refine eX7_top h Mc (nI k) (fun wf => sX7_top_0 h Mc (nI k) ⟨H1.1, ?_⟩)
  rw [i1]
  refine pk_lt k st.length (fun c r3 e3 => ?_) (fun c q7 e7 _ h8 e8 => ⟨by omega, fun h11 e11 => ⟨c, ThrM.nw H1 T wf e7 e8 e11⟩⟩)
  have e3' : r3 = Mc + 1 := e3.trans H1.2.1.2.1
  subst e3'
  have ex : nI st.length - 1 - nI k = nI (st.length - 1 - k) := by rw [show (1 : Int32) = nI 1 from rfl, pk_sub (by omega), pk_sub (by omega)]
  rw [ex, H1.2.2.2.1, pk_cl (st.length - 1 - k) rfl (by omega)]
  refine ⟨H1.2.2.1.1, pk_in (st.length - 1 - k) 1004 (by omega), fun r6 e6 => ⟨c, ?_, rfl⟩⟩
  rw [e6]
  have := elA_w (h := h) (Mc := Mc) (w := 0) (k := st.length - 1 - k) (by omega)
  rw [Nat.mul_zero, Nat.zero_add, Nat.add_zero] at this
  exact this.symm
theorem Mc_drop_spec {k : Nat} (hd : 6 ≤ d) (hk : k < 2 ^ 31) (H : MOk h Mc D b0 st alt) : Cw G mX7_drop d 0 [vR Mc, vI (nI k)] h (kV (fun h' => k ≤ st.length ∧ h' = h.pi 7004 Mc (nI (st.length - k)) ∧ MOk h' Mc D b0 (st.take (st.length - k)) alt) (fun y h' => st.length < k ∧ ThrM h h' Mc D b0 y)) := by
  obtain ⟨d, rfl⟩ : ∃ d', d = d' + 1 := ⟨d - 1, by omega⟩
  have H0 := H
  obtain ⟨H1, T, hb, hb2, ⟨i1, i2, i3, i4⟩, S1, S2⟩ := H
  refine eX7_drop h Mc (nI k) (fun wf => sX7_drop_0 h Mc (nI k) ⟨H1.1, ?_⟩)
  rw [i1]
  refine pk_le k st.length (fun c h3 e3 => ?_) (fun c q7 e7 _ h8 e8 => ⟨by omega, fun h11 e11 => ⟨c, ThrM.nw H1 T wf e7 e8 e11⟩⟩)
  rw [pk_sub c] at e3
  refine ⟨c, e3, ?_⟩
  subst e3
  have lt : (st.take (st.length - k)).length = st.length - k := by rw [List.length_take]; omega
  refine ⟨H1, T, hb, hb2, ⟨by rw [AH.i_pi, if_pos ⟨rfl, rfl⟩, lt], by rw [AH.i_pi, if_neg (fun e => absurd e.1 (by decide))]; exact i2, by omega, i4⟩, fun j hj => ?_, S2⟩
  rw [lt] at hj
  have := S1 j (by omega)
  have eg : (st.take (st.length - k)).getD j [] = st.getD j [] := by
    rw [List.getD_eq_getElem?_getD, List.getElem?_take, if_pos hj, List.getD_eq_getElem?_getD]
  rw [eg]
  exact ⟨this.1, this.2.1, by rw [AH.i_pi, if_neg (fun e => absurd e.1 (by decide))]; exact this.2.2.1, this.2.2.2⟩
/-- what push leaves: an element to be told -/
def PuOk (h h' : AH) (Mc D b0 x : Nat) (st alt : List (List Int32)) : Prop := x ≠ 0 ∧ x = elA h' Mc st.length ∧ st.length ≤ 1002 ∧ MchS h' Mc D ∧ ElTb h' Mc b0 ∧ (b0 ≤ h'.z ∧ Mc + 8 < b0 ∧ h'.i 7004 Mc = nI (st.length + 1) ∧ h'.i 7005 Mc = nI alt.length ∧ alt.length ≤ 1003) ∧ StAt h' Mc 0 st ∧ StAt h' Mc 1004 alt ∧ MFr h h' Mc ∧ Kp [7004] Mc h h' ∧ (∀ j, j < 3012 → elA h Mc j ≠ 0 → elA h' Mc j = elA h Mc j) ∧ ∀ y, y < h.z → (∀ v, v < 4 → y ≠ Mc + v) → eqAt h h' y
theorem Mc_push_spec (hd : 6 ≤ d) (H : MOk h Mc D b0 st alt) : Cw G mX7_push d 0 [vR Mc] h (kR (fun x h' => st.length + alt.length < 1003 ∧ PuOk h h' Mc D b0 x st alt) (fun y h' => 1003 ≤ st.length + alt.length ∧ ThrM h h' Mc D b0 y)) := by
  obtain ⟨d, rfl⟩ : ∃ d', d = d' + 1 := ⟨d - 1, by omega⟩
  obtain ⟨H1, T, hb, hb2, ⟨i1, i2, i3, i4⟩, S1, S2⟩ := H
  refine eX7_push h Mc (fun wf => sX7_push_0 h Mc ⟨H1.1, ?_⟩)
  rw [i1, i2, nI_add]
  refine pk_lt (st.length + alt.length) 1003 (fun c h3 e3 r5 e5 => ?_) (fun c q7 e7 _ h8 e8 => ⟨by omega, fun h11 e11 => ⟨c, ThrM.nw H1 T wf e7 e8 e11⟩⟩)
  rw [nI_1] at e3
  have e5' : r5 = Mc + 1 + 0 := by rw [e5, e3]; exact H1.2.1.2.1
  subst e5'
  subst e3
  have ei : (h.pi 7004 Mc (nI (st.length + 1))).i 7004 Mc - 1 = nI st.length := by rw [AH.i_pi, if_pos ⟨rfl, rfl⟩, nI_pred]
  rw [ei]
  have hMz : Mc + 8 < h.z := by omega
  refine (Mc_at_spec (w := 0) (k := st.length) (by omega) (b0 := b0) (D := D) (h := h.pi 7004 Mc (nI (st.length + 1))) H1 (fun j hj hj0 => T j hj hj0) hb (by decide) (by omega)).nR (fun x h7 Q => ⟨c, ?_⟩)
  obtain ⟨x0, xe, H7, T7, F7, K7, en, eo, eq7⟩ := Q
  have eMc := K7 7004 (by simp)
  have eMc5 := K7 7005 (by simp)
  have cellsE : ∀ j, j < 3012 → elA h Mc j ≠ 0 → elA h7 Mc j = elA h Mc j ∧ eqAt h h7 (elA h Mc j) ∧ eqAt h h7 (elA h Mc j + 1) := fun j hj hj0 => by
    obtain ⟨t1, t2, t3⟩ := T j hj hj0
    obtain ⟨tz, tz1⟩ := T.lt wf hj hj0
    have q0 := eq7 (elA h Mc j) tz (fun v hv e => by omega)
    have q1 := eq7 (elA h Mc j + 1) tz1 (fun v hv e => by omega)
    refine ⟨en j hj hj0, ?_, ?_⟩
    · exact (eqAt.pi h 7004 _ (by omega)).trans q0
    · exact (eqAt.pi h 7004 _ (by omega)).trans q1
  refine ⟨x0, by rw [xe, Nat.mul_zero, Nat.zero_add], by omega, H7, T7, ⟨by have := F7.1.1; exact Nat.le_trans hb this, hb2, ?_, ?_, i4⟩, S1.keep (by omega) (fun j hj => cellsE _ (by omega) (S1 j hj).1), S2.keep (by omega) (fun j hj => cellsE _ (by omega) (S2 j hj).1), (MFr.pi _ _).trans (F7.fr (by decide)), ?_, en, fun y hy hv => ?_⟩
  · rw [eMc.2.1, AH.i_pi, if_pos ⟨rfl, rfl⟩]
  · rw [eMc5.2.1, AH.i_pi, if_neg (fun e => absurd e.1 (by decide))]
    exact i2
  · exact (Kp.rf.pi 7004 _ (Or.inl (by decide))).trans K7 (fun k hk => by simp at hk)
  · exact (eqAt.pi h 7004 _ (hv 0 (by decide))).trans (eq7 y hy (fun v hv2 e => hv (v + 1) (by omega) (by omega)))
/-- behind push the element is told -/
theorem PuOk.fin {x : Nat} {h2 : AH} {l : List Int32} (P : PuOk h h' Mc D b0 x st alt) (wf : WF G h') (S : Same (fun y => y = x ∨ y = x + 1) h' h2) (hz : h2.z = h'.z) (hs : h2.s = h'.s) (E : ElAt h2 x l) : MOk h2 Mc D b0 (st ++ [l]) alt ∧ MFr h h2 Mc ∧ Kp [7004] Mc h h2 := by
  obtain ⟨x0, xe, ls, H, T, ⟨hb, hb2, i1, i2, i4⟩, S1, S2, F, K, en, eq_⟩ := P
  have hx : elA h' Mc st.length ≠ 0 := by rw [← xe]; exact x0
  have bx := (T st.length (by omega) hx).1
  rw [← xe] at bx
  have xz := T.lt wf (show st.length < 3012 by omega) hx
  rw [← xe] at xz
  have ea : ∀ v, v < 3 → h2.ar (Mc + 1 + v) = h'.ar (Mc + 1 + v) := fun v hv => S.ar (by omega) (by omega)
  have eMc : eqAt h' h2 Mc := S.2.2 Mc (by omega) (by omega)
  have hn : nul h2 Mc = nul h' Mc := nul_eq ea
  have kx : h'.kd x = 22 := by rw [xe]; exact (T st.length (by omega) hx).2.1.1
  have kx1 : h'.kd (x + 1) = 101 := by rw [xe]; exact (T st.length (by omega) hx).2.1.2.2.1
  have cellsE : ∀ j, j < 3012 → j ≠ st.length → elA h' Mc j ≠ 0 → elA h2 Mc j = elA h' Mc j ∧ eqAt h' h2 (elA h' Mc j) ∧ eqAt h' h2 (elA h' Mc j + 1) := fun j hj hne hj0 => by
    obtain ⟨tz, tz1⟩ := T.lt wf hj hj0
    have ne := El_ne T hj (show st.length < 3012 by omega) hx hj0 hne
    rw [← xe] at ne
    exact ⟨elA_eq ea hj, S.2.2 _ tz (by omega), S.2.2 _ tz1 (by omega)⟩
  have exx : elA h2 Mc st.length = x := by rw [elA_eq ea (by omega), ← xe]
  have nkx : ∀ y, (y = x ∨ y = x + 1) → nk h' Mc y := fun y hy _ => by
    refine ⟨by omega, fun ⟨j, j1, j2, j3, j4⟩ => ?_⟩
    have ne := El_ne T j2 (show st.length < 3012 by omega) hx j3 (by omega)
    rw [← xe] at ne
    omega
  have F2 : MFr h' h2 Mc := ⟨S.mono (fun y hy q => by
    rcases q with q | q
    · exact Or.inr (Or.inl (by rw [q]; exact ⟨kx, nkx _ (Or.inl rfl)⟩))
    · exact Or.inr (Or.inr (by rw [q, Nat.add_sub_cancel]; exact ⟨kx1, kx, nkx _ (Or.inr rfl)⟩))), by rw [hz, hn], by rw [hs, hn], fun j hj q => by rw [elA_eq ea (by omega)]; exact q⟩
  refine ⟨⟨H.same S (by omega) (fun k => eMc.2.1 k), fun j hj hj0 => ?_, by omega, hb2, ⟨?_, ?_, ?_, i4⟩, fun j hj => ?_, S2.keep (by omega) (fun j hj => cellsE _ (by omega) (by omega) (S2 j hj).1)⟩, F.trans F2, K.trans (Kp.eq (ks := []) eMc) (fun k hk => by simp at hk)⟩
  · rw [elA_eq ea hj] at hj0 ⊢
    obtain ⟨t1, t2, t3⟩ := T j hj hj0
    refine ⟨t1, ?_, fun i hi e => t3 i hi (by rw [← elA_eq ea hi]; exact e)⟩
    by_cases q : j = st.length
    · rw [q, ← xe]; exact E.1
    · have := cellsE j hj q hj0
      exact t2.eq this.2.1 this.2.2.ln
  · rw [eMc.2.2.1, i1, List.length_append]
    rfl
  · rw [eMc.2.2.1]; exact i2
  · rw [List.length_append]
    show st.length + 1 ≤ 1003
    omega
  · rw [List.length_append] at hj
    rw [getD_snoc, Nat.zero_add]
    by_cases q : j = st.length
    · rw [if_pos q, q, exx]
      exact ⟨x0, E⟩
    · rw [if_neg q]
      have hj2 : j < st.length := by simp at hj; omega
      have h1 := S1 j hj2
      rw [Nat.zero_add] at h1
      have := cellsE j (by omega) q h1.1
      rw [this.1]
      exact ⟨h1.1, h1.2.eq this.2.1 this.2.2⟩
theorem Same.el {e k : Nat} {T : List Int32} (hl : T.length = (h.ai (e + 1)).length) : Same (fun y => y = e ∨ y = e + 1) h ((h.wi (e + 1) T).pi 22001 e (nI k)) := (Same.rf.wi T hl (Or.inl (Or.inr rfl))).pi _ _ (Or.inl (Or.inl rfl))
/-- truth -/
theorem Mc_truth_spec {v : Int32} {l : List Int32} (hd : 7 ≤ d) (H : MOk h Mc D b0 st alt) (hl : l = if v = 0 then [] else [1]) : Cw G mX7_truth d 0 [vR Mc, vI v] h (kV (fun h' => st.length + alt.length < 1003 ∧ MOk h' Mc D b0 (st ++ [l]) alt ∧ MFr h h' Mc ∧ Kp [7004] Mc h h') (fun y h' => 1003 ≤ st.length + alt.length ∧ ThrM h h' Mc D b0 y)) := by
  obtain ⟨d, rfl⟩ : ∃ d', d = d' + 1 := ⟨d - 1, by omega⟩
  refine eX7_truth h Mc v (fun wf => sX7_truth_0 h Mc v ⟨H.1.1, (Mc_push_spec (by omega) H).toR (fun x h2 _ w2 Q => ?_) (fun x h2 _ _ Q => Q)⟩)
  obtain ⟨c, P⟩ := Q
  have hx : elA h2 Mc st.length ≠ 0 := by rw [← P.2.1]; exact P.1
  have es : ElS h2 x := by
    rw [P.2.1]
    exact (P.2.2.2.2.1 st.length (by have := P.2.2.1; omega) hx).2.1
  refine ⟨fun c0 => ⟨es.1, (El_be_spec (v := 0) (m := 0) (ng := false) rfl (by decide) (by omega) es).nV (fun h6 Q => ?_)⟩, fun c0 => ⟨es.1, (El_be_spec (v := 1) (m := 1) (ng := false) rfl (by decide) (by omega) es).nV (fun h6 Q => ?_)⟩⟩
  · obtain ⟨E, T, k, rfl, lT⟩ := Q
    have el : beL 0 false = l := by rw [hl, if_pos c0]; rfl
    rw [el] at E
    exact ⟨c, P.fin w2 (Same.el (by rw [lT, es.2.2.2])) rfl rfl E⟩
  · obtain ⟨E, T, k, rfl, lT⟩ := Q
    have el : beL 1 false = l := by
      rw [hl, if_neg c0]
      unfold beL
      rw [if_neg (by decide), digs_s (by decide), show 1 / 256 = 0 by decide, digs_0]
      decide
    rw [el] at E
    exact ⟨c, P.fin w2 (Same.el (by rw [lT, es.2.2.2])) rfl rfl E⟩
end Mach2

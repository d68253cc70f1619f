/-! the component's stack machine: a step -/
set_option maxRecDepth 100000
section Dgst2
variable {G : Gx} {d : Nat} {hB h : AH} {Mc D b0 : Nat} {st alt : List (List Int32)} {K B : List Int32}
theorem ripD_cg {n : Nat} {mb mb' : Nat → Int32} (e : ∀ i, i < n → mb i = mb' i) : ripD n mb = ripD n mb' := by
  have : pm 1 n mb = pm 1 n mb' := by
    funext i
    unfold pm
    by_cases c : i < n
    · rw [if_pos c, if_pos c, e i c]
    · rw [if_neg c, if_neg c]
  funext k
  unfold ripD
  rw [this]
set_option maxHeartbeats 1000000 in
theorem Mc_digested_spec {op : Nat} (hd : 13 ≤ d) (hop : 166 ≤ op ∧ op ≤ 170) (hDM : D + 15 < Mc) (DA : DgA h D K B) (H : MOk h Mc D b0 st alt) : Cw G mX7_digested d 0 [vR Mc, vI (nI op)] h (kV (fun h' => op ≠ 167 ∧ 0 < st.length ∧ MOk h' Mc D b0 (dr st 1 ++ [dgL K B op (tp st 0)]) alt ∧ SFr h h' Mc D ∧ Kp [7004, 7005] Mc h h') (fun y h' => (op = 167 ∨ st.length < 1) ∧ ThrM h h' Mc D b0 y)) := by
  obtain ⟨d, rfl⟩ : ∃ d', d = d' + 1 := ⟨d - 1, by omega⟩
  have hd1 : 10 ≤ d := by omega
  have hb2 := H.2.2.2.1
  refine eX7_digested h Mc (nI op) (fun wf => sX7_digested_0 h Mc (nI op) ?_)
  have cg : ∀ {x : Nat}, ElAt h x (tp st 0) → ∀ i, i < (tp st 0).length → sl (h.ai (x + 1)) 0 i = sl (tp st 0) 0 i := fun ex i hi => by
    unfold sl
    rw [Nat.zero_add]
    exact ex.2.2.2 i hi
  have xb : ∀ {x : Nat}, 0 < st.length → x = elA h Mc (st.length - 1 - 0) → b0 ≤ x := fun h0 hx => by
    have sl := H.2.2.2.2.2.1 (st.length - 1) (by omega)
    rw [Nat.zero_add] at sl
    rw [hx]
    exact (H.2.1 _ (by have := H.2.2.2.2.1.2.2.1; omega) sl.1).1
  have k7 : h.kd (Mc + 7) = 101 := H.1.2.2.1.2.2.2.2.2.2.1
  have l7 : (h.ai (Mc + 7)).length = 32 := H.1.2.2.2.2.2.2.2.2.2.1
  have p7 : ¬ dgP D (Mc + 7) := by unfold dgP; omega
  have q7 : ¬ dgQ D (Mc + 7) := by unfold dgQ; omega
  have cases5 : op = 166 ∨ op = 167 ∨ op = 168 ∨ op = 169 ∨ op = 170 := by omega
  rcases cases5 with e | e | e | e | e
  · subst e
    refine ⟨fun c => absurd c (by decide), fun _ => ⟨H.1.1, k_need hd1 (MI.rf H) (fun _ => k_top (k := 0) hd1 (by decide) (MI.rf H) (fun q1 x hx ex => ⟨fun c => absurd c (by decide), fun _ => ⟨fun _ => ⟨fun c => absurd rfl c, fun _ r1 e1 => ⟨ex.1.1, fun r2 e2 r3 e3 => ?_⟩⟩, fun c => absurd c (by decide)⟩⟩) (fun q1 y h' T => ⟨Or.inr (by omega), T⟩)) (fun z => absurd z (by decide))⟩⟩
    have e1' : r1 = D := e1.trans H.1.2.1.1
    have e2' : r2 = x + 1 := e2.trans ex.1.2.1
    have e3' : r3 = Mc + 7 := e3.trans H.1.2.1.2.2.2.2.2.2.2.1
    subst e1' e2' e3'
    rw [ex.2.1]
    have hxb := xb q1 hx
    refine ⟨DA.1.1, (Dig_ripe_spec (off := 0) (at_ := 0) (by omega) DA.1 DA.2.1 ex.1.2.2.1 (by rw [ex.1.2.2.2, Nat.zero_add]; exact ex.2.2.1) (by rw [ex.1.2.2.2]; decide) (by have := ex.2.2.1; omega) (by unfold dgP; omega) k7 (by rw [l7]; decide) p7 (by rw [l7]; decide)).toV (fun h1 _ w1 Q => ?_) (fun _ _ _ _ q => q.elim)⟩
    rw [ripD_cg (cg ex)] at Q
    exact dig_fin (op := 166) (by omega) H w1 hDM q1 hx ex wf Q.1 (fun y p => by simp only [dgP, dgQ] at p ⊢; omega) (by decide) Q.2 rfl (fun h' z => ⟨by decide, q1, z⟩)
  · subst e
    exact ⟨fun _ => ⟨H.1.1, k_need hd1 (MI.rf H) (fun z => absurd rfl z) (fun _ y h' T => ⟨Or.inl rfl, T⟩)⟩, fun c => absurd rfl c⟩
  · subst e
    refine ⟨fun c => absurd c (by decide), fun _ => ⟨H.1.1, k_need hd1 (MI.rf H) (fun _ => k_top (k := 0) hd1 (by decide) (MI.rf H) (fun q1 x hx ex => ⟨fun _ => ?_, fun c => absurd rfl c⟩) (fun q1 y h' T => ⟨Or.inr (by omega), T⟩)) (fun z => absurd z (by decide))⟩⟩
    refine sX7_digested_36 h Mc (nI 168) x ⟨fun _ => ⟨fun c => absurd rfl c, fun _ => ⟨H.1.1, fun r1 e1 => ⟨ex.1.1, fun r2 e2 r3 e3 => ?_⟩⟩⟩, fun c => absurd c (by decide)⟩
    have e1' : r1 = D := e1.trans H.1.2.1.1
    have e2' : r2 = x + 1 := e2.trans ex.1.2.1
    have e3' : r3 = Mc + 7 := e3.trans H.1.2.1.2.2.2.2.2.2.2.1
    subst e1' e2' e3'
    rw [ex.2.1]
    have hxb := xb q1 hx
    refine ⟨DA.1.1, (Dig_sha_spec (off := 0) (at_ := 0) (by omega) DA.1 DA.2.1 ex.1.2.2.1 (by rw [ex.1.2.2.2, Nat.zero_add]; exact ex.2.2.1) (by rw [ex.1.2.2.2]; decide) (by have := ex.2.2.1; omega) (by unfold dgP; omega) k7 (by rw [l7]; decide) p7 (by rw [l7]; decide)).toV (fun h1 _ w1 Q => ?_) (fun _ _ _ _ q => q.elim)⟩
    rw [DA.2.2.1, DA.2.2.2.1, shaD_congr (cg ex)] at Q
    exact dig_fin (op := 168) (by omega) H w1 hDM q1 hx ex wf Q.1 (fun y p => by simp only [dgP, dgQ] at p ⊢; omega) (by decide) Q.2 rfl (fun h' z => ⟨by decide, q1, z⟩)
  · subst e
    refine ⟨fun c => absurd c (by decide), fun _ => ⟨H.1.1, k_need hd1 (MI.rf H) (fun _ => k_top (k := 0) hd1 (by decide) (MI.rf H) (fun q1 x hx ex => ⟨fun c => absurd c (by decide), fun _ => ⟨fun _ => ⟨fun _ => ⟨fun _ => ⟨fun c => absurd rfl c, fun _ r1 e1 => ⟨ex.1.1, fun r2 e2 r3 e3 => ?_⟩⟩, fun c => absurd c (by decide)⟩, fun c => absurd c (by decide)⟩, fun c => absurd c (by decide)⟩⟩) (fun q1 y h' T => ⟨Or.inr (by omega), T⟩)) (fun z => absurd z (by decide))⟩⟩
    have e1' : r1 = D := e1.trans H.1.2.1.1
    have e2' : r2 = x + 1 := e2.trans ex.1.2.1
    have e3' : r3 = Mc + 7 := e3.trans H.1.2.1.2.2.2.2.2.2.2.1
    subst e1' e2' e3'
    rw [ex.2.1]
    have hxb := xb q1 hx
    refine ⟨DA.1.1, (Dig_hash160_spec (off := 0) (at_ := 0) (by omega) DA.1 DA.2.1 ex.1.2.2.1 (by rw [ex.1.2.2.2, Nat.zero_add]; exact ex.2.2.1) (by rw [ex.1.2.2.2]; decide) (by have := ex.2.2.1; omega) (by unfold dgQ; omega) k7 (by rw [l7]; decide) q7 (by rw [l7]; decide)).toV (fun h1 _ w1 Q => ?_) (fun _ _ _ _ q => q.elim)⟩
    unfold h160D at Q
    rw [DA.2.2.1, DA.2.2.2.1, shaD_congr (cg ex)] at Q
    exact dig_fin (op := 169) (by omega) H w1 hDM q1 hx ex wf Q.1 (fun y p => p) (by decide) Q.2 rfl (fun h' z => ⟨by decide, q1, z⟩)
  · subst e
    refine ⟨fun c => absurd c (by decide), fun _ => ⟨H.1.1, k_need hd1 (MI.rf H) (fun _ => k_top (k := 0) hd1 (by decide) (MI.rf H) (fun q1 x hx ex => ⟨fun c => absurd c (by decide), fun _ => ⟨fun c => absurd rfl c, fun _ => ?_⟩⟩) (fun q1 y h' T => ⟨Or.inr (by omega), T⟩)) (fun z => absurd z (by decide))⟩⟩
    refine sX7_digested_36 h Mc (nI 170) x ⟨fun _ => ⟨fun _ => ⟨fun _ => ⟨H.1.1, fun r1 e1 => ⟨ex.1.1, fun r2 e2 r3 e3 => ?_⟩⟩, fun c => absurd c (by decide)⟩, fun c => absurd c (by decide)⟩, fun c => absurd c (by decide)⟩
    have e1' : r1 = D := e1.trans H.1.2.1.1
    have e2' : r2 = x + 1 := e2.trans ex.1.2.1
    have e3' : r3 = Mc + 7 := e3.trans H.1.2.1.2.2.2.2.2.2.2.1
    subst e1' e2' e3'
    rw [ex.2.1]
    have hxb := xb q1 hx
    refine ⟨DA.1.1, (Dig_twice_spec (off := 0) (at_ := 0) (by omega) DA.1 DA.2.1 ex.1.2.2.1 (by rw [ex.1.2.2.2, Nat.zero_add]; exact ex.2.2.1) (by rw [ex.1.2.2.2]; decide) (by have := ex.2.2.1; omega) (by unfold dgQ; omega) k7 (by rw [l7]; decide) q7 (by rw [l7]; decide)).toV (fun h1 _ w1 Q => ?_) (fun _ _ _ _ q => q.elim)⟩
    unfold dshD at Q
    rw [DA.2.2.1, DA.2.2.2.1, shaD_congr (cg ex)] at Q
    exact dig_fin (op := 170) (by omega) H w1 hDM q1 hx ex wf Q.1 (fun y p => p) (by decide) Q.2 rfl (fun h' z => ⟨by decide, q1, z⟩)
end Dgst2
section Alt
variable {G : Gx} {d : Nat} {hB h : AH} {Mc D b0 : Nat} {st alt : List (List Int32)}
/-- onto the other stack -/
theorem alt_push {K : AH → Prop} {E : Nat → AH → Prop} (hd : 11 ≤ d) (hs : st.length + alt.length ≤ 1000) (h0 : 0 < st.length) (H : MOk h Mc D b0 st alt) (wf : WF G h) {x : Nat} (hx : x = elA h Mc (st.length - 1 - 0)) (ex : ElAt h x (tp st 0))
    (hK : ∀ h', MI h h' Mc D b0 st (alt ++ [tp st 0]) → K h') :
    ∀ r : Nat, r = h.r 7002 Mc → Cw G mX7_at d 0 [vR r, vI (h.i 7005 Mc)] h (kR (fun x38 h39 => h39.kd x = 22 ∧ ∀ r41 : Nat, r41 = (h39.r 22000 x) → h39.kd x38 = 22 ∧ Cw G mX22_set d 0 [vR x38, vR r41, vI 0, vI (h39.i 22001 x)] h39 (kR (fun x42 h43 => ∀ h50 : AH, h50 = h43.pi 7005 Mc ((h.i 7005 Mc) + 1) → K h50) E)) E) := by
  intro r er
  have er' : r = Mc + 1 + 1 := er.trans H.1.2.1.2.2.1
  subst er'
  obtain ⟨H1, T, hb, hb2, ⟨i1, i2, i3, i4⟩, S1, S2⟩ := H
  rw [i2]
  refine (Mc_at_spec (w := 1) (k := alt.length) (by omega) H1 T hb (by decide) (by omega)).toR (fun x38 h39 _ w39 Q => ?_) (fun _ _ _ _ q => q.elim)
  obtain ⟨x0, xe, H7, T7, F7, K7, en, eo, eq7⟩ := Q
  have sl := S1 (st.length - 1) (by omega)
  rw [Nat.zero_add] at sl
  rw [Nat.sub_zero] at hx
  have xz := T.lt wf (show st.length - 1 < 3012 by omega) sl.1
  have xb := (T _ (show st.length - 1 < 3012 by omega) sl.1).1
  rw [← hx] at xz xb
  have q0 := eq7 x xz.1 (fun v hv e => by omega)
  have q1 := eq7 (x + 1) xz.2 (fun v hv e => by omega)
  have ex7 : ElAt h39 x (tp st 0) := ex.eq q0 q1
  have e0 : elA h39 Mc (1004 * 1 + alt.length) ≠ 0 := by rw [← xe]; exact x0
  have es : ElS h39 x38 := by rw [xe]; exact (T7 _ (by omega) e0).2.1
  have hxx : elA h39 Mc (st.length - 1) = x := by rw [en _ (by omega) sl.1, hx]
  have hne : x ≠ x38 := fun e => by
    have := (T7 (1004 * 1 + alt.length) (by omega) e0).2.2 (st.length - 1) (by omega) (by rw [hxx, ← xe]; exact e)
    omega
  refine ⟨ex7.1.1, fun r41 e41 => ⟨es.1, ?_⟩⟩
  have e41' : r41 = x + 1 := e41.trans ex7.1.2.1
  subst e41'
  rw [ex7.2.1]
  refine (El_set_spec (off := 0) (by omega) es ex7.1.2.2.1 (by rw [ex7.1.2.2.2, Nat.zero_add]; exact ex7.2.2.1) (by rw [ex7.1.2.2.2]; decide) ex7.2.2.1 (by omega)).nR (fun y h43 Q => ?_)
  obtain ⟨rfl, e43⟩ := Q
  have E43 : ElAt h43 y (tp st 0) := by
    rw [e43]
    exact ElAt.set es ex7.2.2.1 (fun i hi => by rw [Nat.zero_add]; exact (ex7.2.2.2 i hi).symm) rfl
  have S43 : Same (fun z => z = y ∨ z = y + 1) h39 h43 := by rw [e43]; exact Same.el (by rw [putB_len])
  have z43 : h43.z = h39.z ∧ h43.s = h39.s := by rw [e43]; exact ⟨rfl, rfl⟩
  have bz : b0 ≤ h39.z := Nat.le_trans hb F7.1.1
  obtain ⟨u1, u2, u3, u4, u5, u6⟩ := el_upd (p := 1004 * 1 + alt.length) H7 T7 w39 hb2 bz (by omega) xe x0 S43 z43.1 z43.2 E43.1
  intro h50 e50
  rw [nI_1] at e50
  refine hK h50 ?_
  have eMc7 := K7 7004 (by simp)
  have ce : ∀ j, j < 3012 → j ≠ 1004 * 1 + alt.length → elA h Mc j ≠ 0 → elA h50 Mc j = elA h Mc j ∧ eqAt h h50 (elA h Mc j) ∧ eqAt h h50 (elA h Mc j + 1) := fun j hj hne2 hj0 => by
    have tz := T.lt wf hj hj0
    have tb := (T j hj hj0).1
    have c0 := eq7 (elA h Mc j) tz.1 (fun v hv e => by omega)
    have c1 := eq7 (elA h Mc j + 1) tz.2 (fun v hv e => by omega)
    have ej := en j hj hj0
    have u := u6 j hj hne2 (by rw [ej]; exact hj0)
    rw [ej] at u
    refine ⟨?_, ?_, ?_⟩
    · rw [e50]
      show elA h43 Mc j = _
      rw [u5 j hj, ej]
    · rw [e50]; exact (c0.trans u.1).trans (eqAt.pi _ _ _ (by omega))
    · rw [e50]; exact (c1.trans u.2).trans (eqAt.pi _ _ _ (by omega))
  have yb : b0 ≤ y := by rw [xe]; exact (T7 _ (by omega) e0).1
  have ey : elA h50 Mc (1004 + alt.length) = y := by
    rw [e50]
    show elA h43 Mc _ = _
    rw [show 1004 + alt.length = 1004 * 1 + alt.length by omega, u5 _ (by omega), xe]
  refine ⟨⟨by rw [e50]; exact u1, by rw [e50]; exact u2, ?_, hb2, ⟨?_, ?_, i3, ?_⟩, S1.keep (by omega) (fun j hj => ce _ (by omega) (by omega) (S1 j hj).1), fun j hj => ?_⟩, ?_, ?_⟩
  · rw [e50]
    show b0 ≤ h43.z
    omega
  · rw [e50, AH.i_pi, if_neg (fun e => absurd e.1 (by decide)), u4.2.2.1, eMc7.2.1]
    exact i1
  · rw [e50, AH.i_pi, if_pos ⟨rfl, rfl⟩, List.length_append]
    rfl
  · rw [List.length_append]
    show alt.length + 1 ≤ 1003
    omega
  · rw [List.length_append] at hj
    rw [getD_snoc]
    by_cases q : j = alt.length
    · rw [if_pos q, q, ey]
      refine ⟨x0, ?_⟩
      rw [e50]
      exact E43.eq (eqAt.pi _ _ _ (by omega)) (eqAt.pi _ _ _ (by omega))
    · rw [if_neg q]
      have hj2 : j < alt.length := by simp at hj; omega
      have s2 := S2 j hj2
      have c := ce _ (by omega) (by omega) s2.1
      rw [c.1]
      exact ⟨s2.1, s2.2.eq c.2.1 c.2.2⟩
  · rw [e50]; exact ((F7.fr (by decide)).trans (u3 (by omega))).trans (MFr.pi _ _)
  · rw [e50]
    exact ((Kp.rf.trans (ks := [7004, 7005]) K7 (fun k hk => by simp at hk)).trans (Kp.eq (ks := []) u4) (fun k hk => by simp at hk)).pi _ _ (Or.inl (by decide))
/-- back from the other stack -/
theorem alt_pop {K : AH → Prop} {E E' : Nat → AH → Prop} (hd : 11 ≤ d) (hs : st.length + alt.length ≤ 1000) (h0 : 0 < alt.length) (H : MOk h Mc D b0 st alt)
    (hK : ∀ h', MI h h' Mc D b0 (st ++ [tp alt 0]) (dr alt 1) → K h') :
    ∀ h84 : AH, h84 = h.pi 7005 Mc ((h.i 7005 Mc) - 1) → Cw G mX7_push d 0 [vR Mc] h84 (kR (fun x85 h86 => ∀ r89 : Nat, r89 = (h86.r 7002 Mc) → h86.kd r89 = 104 ∧ vp_in (h86.i 7005 Mc) (h86.ar r89).length ∧ ∀ r92 : Nat, r92 = ((h86.ar r89).getD ((h86.i 7005 Mc).toNatClampNeg) 0) → h86.kd r92 = 22 ∧ ∀ r94 : Nat, r94 = (h86.r 22000 r92) → vp_in (h86.i 7005 Mc) (h86.ar r89).length ∧ ∀ r96 : Nat, r96 = ((h86.ar r89).getD ((h86.i 7005 Mc).toNatClampNeg) 0) → h86.kd r96 = 22 ∧ h86.kd x85 = 22 ∧ Cw G mX22_set d 0 [vR x85, vR r94, vI 0, vI (h86.i 22001 r96)] h86 (kR (fun x98 h99 => K h99) E)) E') := by
  intro h84 e84
  have H0 := H
  obtain ⟨H1, T, hb, hb2, ⟨i1, i2, i3, i4⟩, S1, S2⟩ := H
  rw [i2, show nI alt.length - 1 = nI (alt.length - 1) by rw [show (1 : Int32) = nI 1 from rfl, pk_sub (by omega)]] at e84
  have eo : ∀ y, y ≠ Mc → eqAt h h84 y := fun y hy => by rw [e84]; exact eqAt.pi _ _ _ hy
  have H84 : MOk h84 Mc D b0 st (dr alt 1) := by
    refine ⟨by rw [e84]; exact H1, by rw [e84]; exact T, by rw [e84]; exact hb, hb2, ⟨?_, ?_, i3, by rw [dr_len]; omega⟩, fun j hj => ?_, fun j hj => ?_⟩
    · rw [e84, AH.i_pi, if_neg (fun e => absurd e.1 (by decide))]; exact i1
    · rw [e84, AH.i_pi, if_pos ⟨rfl, rfl⟩, dr_len]
    · have s1 := S1 j hj
      have b1 := (T _ (by omega) s1.1).1
      have : elA h84 Mc (0 + j) = elA h Mc (0 + j) := by rw [e84]; rfl
      rw [this]
      exact ⟨s1.1, s1.2.eq (eo _ (by omega)) (eo _ (by omega))⟩
    · rw [dr_len] at hj
      have s2 := S2 j (by omega)
      have b1 := (T _ (by omega) s2.1).1
      have : elA h84 Mc (1004 + j) = elA h Mc (1004 + j) := by rw [e84]; rfl
      have eg : (dr alt 1).getD j [] = alt.getD j [] := by
        unfold dr
        rw [List.getD_eq_getElem?_getD, List.getElem?_take, if_pos (by omega), List.getD_eq_getElem?_getD]
      rw [this, eg]
      exact ⟨s2.1, s2.2.eq (eo _ (by omega)) (eo _ (by omega))⟩
  have F84 : MFr h h84 Mc := by rw [e84]; exact MFr.pi _ _
  have K84 : Kp [7004, 7005] Mc h h84 := by rw [e84]; exact Kp.rf.pi _ _ (Or.inl (by decide))
  have s2 := S2 (alt.length - 1) (by omega)
  have tE : elA h84 Mc (1004 + (alt.length - 1)) = elA h Mc (1004 + (alt.length - 1)) := by rw [e84]; rfl
  have b1 := (T _ (by omega) s2.1).1
  have ex84 : ElAt h84 (elA h Mc (1004 + (alt.length - 1))) (tp alt 0) := by
    have : tp alt 0 = alt.getD (alt.length - 1) [] := rfl
    rw [this]
    exact s2.2.eq (eo _ (by omega)) (eo _ (by omega))
  intro wf84
  refine k_push (hB := h84) (by omega) (by rw [dr_len]; omega) (MI.rf H84) (fun x h86 P w es => ?_) wf84
  have tz := H84.2.1.lt wf84 (show 1004 + (alt.length - 1) < 3012 by omega) (by rw [tE]; exact s2.1)
  rw [tE] at tz
  have q0 := P.2.2.2.2.2.2.2.2.2.2.2 _ tz.1 (fun v hv e => by omega)
  have q1 := P.2.2.2.2.2.2.2.2.2.2.2 _ tz.2 (fun v hv e => by omega)
  have ex86 : ElAt h86 (elA h Mc (1004 + (alt.length - 1))) (tp alt 0) := ex84.eq q0 q1
  have hM := P.2.2.2.1
  have i86 : h86.i 7005 Mc = nI (alt.length - 1) := by rw [P.2.2.2.2.2.1.2.2.2.1, dr_len]
  have e86 : elA h86 Mc (1004 + (alt.length - 1)) = elA h Mc (1004 + (alt.length - 1)) := by rw [P.2.2.2.2.2.2.2.2.2.2.1 _ (by omega) (by rw [tE]; exact s2.1), tE]
  intro r89 e89
  have e89' : r89 = Mc + 1 + 1 := e89.trans hM.2.1.2.2.1
  subst e89'
  have er := elA_w (h := h86) (Mc := Mc) (w := 1) (k := alt.length - 1) (by omega)
  rw [show 1004 * 1 + (alt.length - 1) = 1004 + (alt.length - 1) by omega, e86] at er
  rw [i86, show (h86.ar (Mc + 1 + 1)).length = 1004 from hM.2.2.2.2.1, pk_cl (alt.length - 1) rfl (by omega), ← er]
  refine ⟨hM.2.2.1.2.1, pk_in _ 1004 (show alt.length - 1 < 1004 by omega), fun r92 e92 => ?_⟩
  subst e92
  refine ⟨ex86.1.1, fun r94 e94 => ⟨pk_in _ 1004 (show alt.length - 1 < 1004 by omega), fun r96 e96 => ?_⟩⟩
  subst e96
  have e94' : r94 = elA h Mc (1004 + (alt.length - 1)) + 1 := e94.trans ex86.1.2.1
  subst e94'
  refine ⟨ex86.1.1, es.1, ?_⟩
  rw [ex86.2.1]
  have hx4 : elA h86 Mc st.length ≠ 0 := by rw [← P.2.1]; exact P.1
  have hne : elA h Mc (1004 + (alt.length - 1)) ≠ x := fun e => by
    have := (P.2.2.2.2.1 st.length (by have := P.2.2.1; omega) hx4).2.2 (1004 + (alt.length - 1)) (by omega) (by rw [e86, ← P.2.1]; exact e)
    omega
  refine k_set (off := 0) (by omega) (MI.rf H84) P w es ex86.1.2.2.1 rfl (by rw [ex86.1.2.2.2, Nat.zero_add]; exact ex86.2.2.1) (by rw [ex86.1.2.2.2]; decide) ex86.2.2.1 (by omega) (fun h2 I2 => hK h2 ?_)
  have esub : sub_ (h86.ai (elA h Mc (1004 + (alt.length - 1)) + 1)) 0 (tp alt 0).length = tp alt 0 := by
    refine ext_getD (z := 0) (sub_len _ _ _) (fun i hi => ?_)
    rw [sub_len] at hi
    rw [sub_getD hi, Nat.zero_add]
    exact ex86.2.2.2 i hi
  rw [esub] at I2
  exact ⟨I2.1, F84.trans I2.2.1, K84.trans I2.2.2 (fun _ q => q)⟩
end Alt

/-! the reference: the operation that asks for a later time -/
set_option maxRecDepth 100000
section MLock
variable {G : Gx} {d : Nat} {hB h h' h0 : AH} {M Z F O p N I J pp a n j inp : Nat} {K B L : List Int32} {t : TxP} {Bp : Pt} {st alt : List (List Int32)} {fl : Bool}
theorem go_M (M Z F O : Nat) : goQ M Z F O M := Or.inl ⟨Nat.le_refl _, by omega, by omega, by omega, by omega⟩
theorem GoF.pj {q : Nat} (v : Int32) (hq : q = 24040 ∨ q = 24041 ∨ q = 24063) : GoF h (h.pi q M v) M Z F O := ⟨Same.rf.pi q v (Or.inl (go_M M Z F O)), rfl, rfl, Kp.rf.pi _ _ (Or.inl (by
  rcases hq with e | e | e <;> rw [e] <;> decide))⟩
theorem MEnv.pj (E : MEnv h M Z F O p N I J pp a n j inp K B L t Bp) {q : Nat} (v : Int32) (hq : q = 24040 ∨ q = 24041 ∨ q = 24063) : MEnv (h.pi q M v) M Z F O p N I J pp a n j inp K B L t Bp := by
  have hM := E.1.1
  have zz := E.2.2.2.2.2.2.2.1.1
  have tb := E.2.2.2.2.2.2.2.2
  obtain ⟨f, E2, f7, hB⟩ := E.2.1
  obtain ⟨c, cu, le, hc, C⟩ := E.2.2.2.1
  have S : Same (fun y => y = M) h (h.pi q M v) := Same.rf.pi q v (Or.inl rfl)
  have eq_ : ∀ y, y ≤ O + 7 → y ≠ M → eqAt h (h.pi q M v) y := fun y q1 q2 => S.2.2 y (by omega) q2
  have C' : CutAt (h.pi q M v) M cu le c := by
    obtain ⟨d1, d2, d3, d4, d5, d6, d7, d8, d9, d10, d11⟩ := C
    exact ⟨d1, d2, d3, d4, d5, d6, d7, d8, by rw [AH.i_pi, if_neg (fun e => by omega)]; exact d9, d10, d11⟩
  exact GoF.env E (GoF.pj v hq) ⟨f, E2.eqc rfl (fun _ _ => rfl) (fun y q1 q2 => eq_ y (by omega) (by omega)) rfl rfl (fun y q1 q2 => eq_ y (by omega) (by omega)) (fun y q1 q2 => eq_ y (by omega) (by omega)), f7, hB⟩ E.2.2.1 ⟨c, cu, le, hc, C'⟩ tb
theorem sc_go (E : MEnv h M Z F O p N I J pp a n j inp K B L t Bp) (H : MOm h M Z st alt) (u v : Int32) : GoF h (scH h M u v) M Z F O ∧ MEnv (scH h M u v) M Z F O p N I J pp a n j inp K B L t Bp ∧ MOm (scH h M u v) M Z st alt :=
  ⟨(GoF.pj (h := h) (M := M) (Z := Z) (F := F) (O := O) u (Or.inr (Or.inl rfl))).trans (GoF.pj v (Or.inl rfl)), (E.pj u (Or.inr (Or.inl rfl))).pj v (Or.inl rfl), (H.pk u (by decide) (by decide)).pk v (by decide) (by decide)⟩
theorem OkM.qr {h2 : AH} {R : Option (List (List Int32) × List (List Int32))} {st' alt' : List (List Int32)} (x : RnF h h2 M Z F O) (o : OpK h h2 M Z) (E2 : MEnv h2 M Z F O p N I J pp a n j inp K B L t Bp) (H2 : MWk h2 M Z) (Q : QI h2 h' M Z fl st' alt') (hR : (fl = false ∧ R = some (st', alt')) ∨ (fl = true ∧ (R = none ∨ ∃ s, R = some s ∧ 1000 < s.1.length + s.2.length))) : OkM h h' M Z F O p N I J pp a n j inp K B L t Bp R := by
  have hM := E2.1.1
  refine ⟨?_, x.trans (Q.2.2.1.rn Q.2.2.2.1), E2.sk H2 Q.2.2.1 Q.2.2.2.1, o.trans (Q.op H2 (by omega))⟩
  rcases hR with ⟨q, e⟩ | ⟨q, e⟩
  · exact Or.inl ⟨_, e, Q.1, by rw [Q.2.1, q]; rfl⟩
  · exact Or.inr ⟨e, by rw [Q.2.1, q]; rfl, Q.1.1⟩
set_option maxHeartbeats 1000000 in
theorem MD_locked_spec (hd : 6 ≤ d) (E : MEnv h M Z F O p N I J pp a n j inp K B L t Bp) (H : MOm h M Z st alt) (F0 : h.i 24074 M = 0) (h1 : 1 ≤ st.length) :
    Cw G mX24_locked d 0 [vR M] h (kV (fun h' => OkM h h' M Z F O p N I J pp a n j inp K B L t Bp (latP st alt (lkV L t) (sqV L t inp))) nE) := by
  obtain ⟨d, rfl⟩ : ∃ d', d = d' + 1 := ⟨d - 1, by omega⟩
  have Hs := H.1.1
  have I0 := QI.rf H F0
  have hd1 : 1 ≤ d := by omega
  have hd2 : 2 ≤ d := by omega
  have hd3 : 3 ≤ d := by omega
  obtain ⟨W, TI, hinp, hj⟩ := E.1.2.2.1
  have nm : Cw G mX24_numberAt d 0 [vR M, vI 0, vI 5] h (kJ (fun x h' => ∃ (fl : Bool) (b : Int), QI h h' M Z fl st alt ∧ x = lZ b ∧ b.natAbs < 2 ^ 40 ∧ ((fl = false ∧ (tp st 0).length ≤ 5 ∧ b = numI (tp st 0)) ∨ (fl = true ∧ 5 < (tp st 0).length))) nE) :=
    m_num (k := 0) (m := 5) hd1 (by decide) I0 h1 (fun c => ⟨false, _, I0, rfl, by
      have := numI_lt c
      rw [show (256 : Nat) ^ 5 = 2 ^ 40 by decide] at this
      exact this, Or.inl ⟨rfl, c, rfl⟩⟩) (fun c h' J1 => ⟨true, 0, J1, rfl, by decide, Or.inr ⟨rfl, c⟩⟩)
  refine eX24_locked h M (fun _ => sX24_locked_0 h M ⟨Hs.1, nm.nJ (fun x1 h2 Q r5 e5 => ?_)⟩)
  clear nm
  obtain ⟨fl, b, J2, ex, hb, hb2⟩ := Q
  have E2 := E.sk H.1 J2.2.2.1 J2.2.2.2.1
  have hM := E.1.1
  obtain ⟨P1, P2, P3⟩ := E2.2.2.2.2.1
  obtain ⟨ka, eL⟩ := E2.2.2.2.2.2.1
  obtain ⟨i1, i2, i3⟩ := E2.2.2.2.2.2.2.1
  have kM2 := J2.1.1.1.1
  obtain ⟨v1, v2, v3⟩ := (W.2.2.1 inp hinp).1
  have w1 := W.1
  have w2 := W.2.1
  have hlen := TI.2.2.2.1
  have c4 : t.2.1 - 4 + 4 ≤ L.length := by omega
  have cL : L.length < 2 ^ 31 := by omega
  have cq : (t.2.2.1.getD inp p0).2.1 + (t.2.2.1.getD inp p0).2.2 + 4 ≤ L.length := by omega
  rw [show r5 = pp from e5.trans i1]
  refine ⟨P1.1, fun r7 e7 r8 e8 => ?_⟩
  rw [show r7 = a from e7.trans P2, show r8 = pp + 2 from e8.trans P1.2.1.2.1, i2, pk_cl j rfl (by omega), P1.2.2.2.2.1, P3.2.1, show (4 : Int32) = nI 4 from rfl, pk_sub w2.2.1]
  clear e5 e7 e8
  refine ⟨P1.2.2.1.2.1, pk_in j 12 hj, (MD_number_spec (k := 4) (by decide) hd1 ka (by rw [eL]; exact c4) (by rw [eL]; exact cL)).nJ (fun x11 h12 Q => ?_)⟩
  obtain ⟨e11, eh⟩ := Q
  subst eh
  rw [eL] at e11
  rw [i3]
  refine (MD_input_spec hd3 kM2 P1 P2 ka eL W P3 hj hinp (by omega)).nI (fun x21 h22 Q => ?_)
  obtain ⟨e21, u, v, e22⟩ := Q
  rw [e21, e22, show (36 : Int32) = nI 36 from rfl, nI_add]
  refine (MD_script_spec (h := scH h12 M u v) hd2 kM2 ka eL W.1.1 W.1.2 v2 (by omega)).nI (fun x23 h24 Q => ?_)
  obtain ⟨e23, e24⟩ := Q
  rw [scH_sc] at e24
  rw [e23]
  obtain ⟨G24, E24, H24⟩ := sc_go (E2) J2.1 (nI (t.2.2.1.getD inp p0).2.2) (nI (t.2.2.1.getD inp p0).2.1)
  rw [← e24] at G24 E24 H24
  have f24 : h24.i 24074 M = bB fl := G24.i74.trans J2.2.1
  have hZ2 : Z + 12 < h12.z := J2.1.1.1.2.2.2.2.2.2
  have R24 : RnF h h24 M Z F O := (J2.2.2.1.rn J2.2.2.2.1).trans (G24.rn hM hZ2)
  have O24 : OpK h h24 M Z := (J2.op H.1 (by omega)).trans (G24.op hM hZ2)
  have ka24 : h24.kd a = 101 := E24.2.2.2.2.2.1.1
  have eL24 : h24.ai a = L := E24.2.2.2.2.2.1.2
  have I24 : QI h24 h24 M Z fl st alt := ⟨H24, f24, SkF.rf, Kp.rf, fun _ _ q => q⟩
  clear e24 e22 G24 J2 E2 P1 P2 P3 i1 i2 i3 ka eL
  have hlk : lkV L t < 256 ^ 4 := leV_lt _ _ _
  have hsq : sqV L t inp < 256 ^ 4 := leV_lt _ _ _
  rw [show (256 : Nat) ^ 4 = 4294967296 by decide] at hlk hsq
  have esq : leV L ((t.2.2.1.getD inp p0).2.1 + (t.2.2.1.getD inp p0).2.2) 4 = sqV L t inp := rfl
  have elk : leV L (t.2.1 - 4) 4 = lkV L t := rfl
  rw [elk] at e11
  generalize lkV L t = lk at *
  generalize sqV L t inp = sq at *
  have hN : 5 < (tp st 0).length → latP st alt lk sq = none := fun z => by
    unfold latP
    rw [if_pos (Or.inr z)]
  have hS : (tp st 0).length ≤ 5 → latP st alt lk sq = if numI (tp st 0) < 0 ∨ ¬ (numI (tp st 0) < 500000000 ↔ lk < 500000000) ∨ (lk : Int) < numI (tp st 0) ∨ sq = 4294967295 then none else some (st, alt) := fun z => by
    unfold latP
    rw [if_neg (by omega)]
  have za : lZ b < 0 ↔ b < 0 := lZ_lt (b := 0) (by omega) (by decide)
  have l5 : (500000000 : Int64) ≤ lZ b ↔ 500000000 ≤ b := lZ_le (a := 500000000) (by decide) (by omega)
  have k5 : (500000000 : Int64) ≤ lN lk ↔ 500000000 ≤ lk := lN_le63 (a := 500000000) (by decide) (by omega)
  have kb : lN lk < lZ b ↔ (lk : Int) < b := by rw [lZ_n]; exact lZ_lt (by omega) (by omega)
  have s5 : lN sq = 4294967295 ↔ sq = 4294967295 := lN_eq63 (b := 4294967295) (by omega) (by decide)
  have bad : ∀ g, g = h24.pi 24074 M (bB fl ||| 1) → (b < 0 ∨ ¬ (b < 500000000 ↔ lk < 500000000) ∨ (lk : Int) < b ∨ sq = 4294967295) → OkM h g M Z F O p N I J pp a n j inp K B L t Bp (latP st alt lk sq) := fun g eg z => by
    rw [or_b1] at eg
    have I1 : QI h24 g M Z true st alt := by rw [eg]; exact I24.fail
    refine OkM.qr R24 O24 E24 H24.1 I1 (Or.inr ⟨rfl, Or.inl ?_⟩)
    rcases hb2 with ⟨q1, q2, q3⟩ | ⟨q1, q2⟩
    · rw [hS q2, if_pos (by rw [← q3]; exact z)]
    · exact hN q2
  have good : ∀ g, g = h24.pi 24074 M (bB fl ||| 0) → ¬ (b < 0 ∨ ¬ (b < 500000000 ↔ lk < 500000000) ∨ (lk : Int) < b ∨ sq = 4294967295) → OkM h g M Z F O p N I J pp a n j inp K B L t Bp (latP st alt lk sq) := fun g eg z => by
    rw [or_b0] at eg
    have I1 : QI h24 g M Z fl st alt := by rw [eg, ← f24, AH.pi_self h24 rfl]; exact I24
    refine OkM.qr R24 O24 E24 H24.1 I1 ?_
    rcases hb2 with ⟨q1, q2, q3⟩ | ⟨q1, q2⟩
    · exact Or.inl ⟨q1, by rw [hS q2, if_neg (by rw [← q3]; exact z)]⟩
    · exact Or.inr ⟨q1, Or.inl (hN q2)⟩
  have num : ∀ {Ψ : Int64 → AH → Prop} {X : Nat → AH → Prop}, Ψ (lN sq) h24 → Cw G mX24_number d 0 [vR M, vR a, vI (nI ((t.2.2.1.getD inp p0).2.1 + (t.2.2.1.getD inp p0).2.2)), vI (nI 4)] h24 (kJ Ψ X) := fun hΨ => (MD_number_spec (k := 4) (by decide) hd1 ka24 (by rw [eL24]; exact cq) (by rw [eL24]; exact cL)).nJ (fun x44 h45 Q => by
    obtain ⟨e44, eh⟩ := Q
    rw [e44, eh, eL24, esq]
    exact hΨ)
  have ok0 : bB fl ||| 0 = 0 ∨ bB fl ||| 0 = 1 := by rw [or_b0]; exact bB_01 _
  clear R24 O24 E24 H24 I24 hS hN hb2 H E
  rw [ex, e11, za, l5, k5, kb, f24]
  refine ⟨fun z0 => ⟨Or.inr (or_b1 _), fun g eg => bad g eg (by omega)⟩, fun z0 => ⟨fun z1 => ⟨fun z2 => ⟨fun q => absurd q (by decide), fun _ => ⟨fun z3 => ⟨Or.inr (or_b1 _), fun g eg => bad g eg (by omega)⟩, fun z3 => num ?_⟩⟩, fun z2 => ⟨fun _ => ⟨Or.inr (or_b1 _), fun g eg => bad g eg (by omega)⟩, fun q => absurd q (by decide)⟩⟩, fun z1 => ⟨fun z2 => ⟨fun _ => ⟨Or.inr (or_b1 _), fun g eg => bad g eg (by omega)⟩, fun q => absurd q (by decide)⟩, fun z2 => ⟨fun q => absurd q (by decide), fun _ => ⟨fun z3 => ⟨Or.inr (or_b1 _), fun g eg => bad g eg (by omega)⟩, fun z3 => num ?_⟩⟩⟩⟩⟩
  · rw [s5]
    exact ⟨fun z4 => ⟨ok0, fun g eg => good g eg (by omega)⟩, fun z4 => ⟨Or.inr (or_b1 _), fun g eg => bad g eg (by omega)⟩⟩
  · rw [s5]
    exact ⟨fun z4 => ⟨ok0, fun g eg => good g eg (by omega)⟩, fun z4 => ⟨Or.inr (or_b1 _), fun g eg => bad g eg (by omega)⟩⟩
end MLock

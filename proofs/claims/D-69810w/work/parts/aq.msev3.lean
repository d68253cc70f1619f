/-! the reference: several signatures: the whole -/
set_option maxRecDepth 100000
section MSev3
variable {G : Gx} {d : Nat} {hB h h' h0 : AH} {M Z F O p N I J pp a n j inp : Nat} {K B L : List Int32} {t : TxP} {Bp : Pt} {st alt : List (List Int32)} {fl : Bool} {S : List Int32} {op ops k : Nat}
/-- what several leaves, with the count of operations -/
def OkS (h h' : AH) (M Z F O p N I J pp a n j inp : Nat) (K B L : List Int32) (t : TxP) (Bp : Pt) (alt : List (List Int32)) (R : Option (List (List Int32) × Nat)) : Prop :=
  ((∃ s, R = some s ∧ MOm h' M Z s.1 alt ∧ h'.i 24074 M = 0 ∧ h'.i 24082 M = nI s.2) ∨ ((R = none ∨ ∃ s, R = some s ∧ 1000 < s.1.length + alt.length) ∧ h'.i 24074 M = 1 ∧ MWk h' M Z)) ∧ RnF h h' M Z F O ∧ MEnv h' M Z F O p N I J pp a n j inp K B L t Bp ∧ (h'.i 24080 M = h.i 24080 M ∧ h'.i 24084 M = h.i 24084 M) ∧ h'.ai (Z + 7) = h.ai (Z + 7)
theorem RnF.pi {q : Nat} (v : Int32) (hq : q ∈ rnK) : RnF h (h.pi q M v) M Z F O := ⟨Same.rf.pi q v (Or.inl (Or.inl (Or.inl rfl))), fun _ _ p => p, rfl, rfl, Kp.rf.pi _ _ (Or.inl hq)⟩
theorem MOm.pk (H : MOm h M Z st alt) {q : Nat} (v : Int32) (h1 : q ≠ 24067) (h2 : q ≠ 24070) : MOm (h.pi q M v) M Z st alt := by
  obtain ⟨H1, ⟨i1, i2, i3⟩, S1, S2⟩ := H
  exact ⟨H1.pi _ _, ⟨by rw [AH.i_pi, if_neg (fun e => h1 e.1.symm)]; exact i1, by rw [AH.i_pi, if_neg (fun e => h2 e.1.symm)]; exact i2, i3⟩, S1, S2⟩
theorem MEnv.pk (E : MEnv h M Z F O p N I J pp a n j inp K B L t Bp) (H : MWk h M Z) {q : Nat} (v : Int32) (hq : q ∈ skK) : MEnv (h.pi q M v) M Z F O p N I J pp a n j inp K B L t Bp := E.skb H (SkF.pi q v).b (Kp.rf.pi _ _ (Or.inl hq))
theorem OkM.sev {R1 : Option (List (List Int32))} (e : hB = h.pi 24082 M (nI (ops + k))) (x : OkM hB h' M Z F O p N I J pp a n j inp K B L t Bp (R1.map (fun s => (s, alt)))) : OkS h h' M Z F O p N I J pp a n j inp K B L t Bp alt (R1.map (fun s => (s, ops + k))) := by
  obtain ⟨x1, x2, x3, ⟨⟨x4, x5, x6⟩, x7⟩⟩ := x
  have r1 : RnF h hB M Z F O := by rw [e]; exact RnF.pi _ (by decide)
  have f2 : hB.i 24082 M = nI (ops + k) := by rw [e, AH.i_pi, if_pos ⟨rfl, rfl⟩]
  refine ⟨?_, r1.trans x2, x3, ⟨x4.trans ?_, x6.trans ?_⟩, x7.trans (by rw [e]; rfl)⟩
  · rcases x1 with ⟨s, y1, y2, y3⟩ | ⟨y1, y2⟩
    · cases R1 with
      | none => exact absurd y1 (by intro q; cases q)
      | some s1 =>
        refine Or.inl ⟨_, rfl, ?_, y3, x5.trans f2⟩
        rw [← Option.some.inj y1] at y2
        exact y2
    · refine Or.inr ⟨?_, y2⟩
      cases R1 with
      | none => exact Or.inl rfl
      | some s1 =>
        rcases y1 with y1 | ⟨s, y1, y3⟩
        · exact absurd y1 (by intro q; cases q)
        · refine Or.inr ⟨_, rfl, ?_⟩
          rw [← Option.some.inj y1] at y3
          exact y3
  · rw [e, AH.i_pi, if_neg (fun q => absurd q.1 (by decide))]
  · rw [e, AH.i_pi, if_neg (fun q => absurd q.1 (by decide))]
theorem OkM.nos (x : OkM h h' M Z F O p N I J pp a n j inp K B L t Bp none) : OkS h h' M Z F O p N I J pp a n j inp K B L t Bp alt none := by
  obtain ⟨x1, x2, x3, ⟨⟨x4, x5, x6⟩, x7⟩⟩ := x
  refine ⟨?_, x2, x3, ⟨x4, x6⟩, x7⟩
  rcases x1 with ⟨s, y1, y2, y3⟩ | ⟨y1, y2⟩
  · exact absurd y1 (by intro q; cases q)
  · exact Or.inr ⟨Or.inl rfl, y2⟩
theorem MD_several_spec (hd : 10 ≤ d) (hop : op < 256) (hops : ops ≤ 201) (E : MEnv h M Z F O p N I J pp a n j inp K B L t Bp) (H : MOm h M Z st alt) (F0 : h.i 24074 M = 0) (O1 : h.i 24082 M = nI ops) (hs : st.length ≤ 1000) {sa b e : Nat} (c1 : h.r 24079 M = sa) (c2 : h.i 24080 M = nI b) (c3 : h.i 24081 M = nI e) (ks : h.kd sa = 101) (eS : h.ai sa = S) (sO : O + 7 < sa ∧ sa < h.z) (hbe : b ≤ e) (hl : e ≤ S.length) (hl2 : S.length < 2 ^ 16) (hn : e - b ≤ 1600) :
    Cw G mX24_several d 0 [vR M, vI (nI op)] h (kV (fun h' => OkS h h' M Z F O p N I J pp a n j inp K B L t Bp alt (sevP p N Bp K B L t inp S b e op ops st)) nE) := by
  obtain ⟨d, rfl⟩ : ∃ d', d = d' + 1 := ⟨d - 1, by omega⟩
  obtain ⟨RR, hR⟩ : ∃ RR, RR = sevP p N Bp K B L t inp S b e op ops st := ⟨_, rfl⟩
  rw [← hR]
  have I1 : QI h h M Z false st alt := ⟨H, F0, SkF.rf, Kp.rf, fun _ _ q => q⟩
  obtain ⟨Q, hQ⟩ : ∃ Q : AH → Prop, Q = fun h' => OkS h h' M Z F O p N I J pp a n j inp K B L t Bp alt RR := ⟨_, rfl⟩
  rw [← hQ]
  have bad : ∀ h9, RR = none → QI h h9 M Z true st alt → Q h9 := fun h9 q J1 => by
    rw [hQ]
    dsimp only
    rw [q]
    exact OkM.nos (OkM.qi GoF.rf E H.1 J1 (Or.inr ⟨rfl, Or.inl rfl⟩))
  have fin : ∀ (k : Nat) (R1 : Option (List (List Int32))) (h9 : AH), RR = R1.map (fun s => (s, ops + k)) → OkM (h.pi 24082 M (nI (ops + k))) h9 M Z F O p N I J pp a n j inp K B L t Bp (R1.map (fun s => (s, alt))) → Q h9 := fun k R1 h9 q J1 => by
    rw [hQ]
    dsimp only
    rw [q]
    exact J1.sev rfl
  clear hQ
  have hd1 : 1 ≤ d := by omega
  have hd9 : 9 ≤ d := by omega
  unfold sevP at hR
  refine eX24_several h M (nI op) (fun wf => sX24_several_0 h M (nI op) ⟨H.1.1.1, ?_⟩)
  refine m_need (n := 1) hd1 (by decide) I1 (fun g1 => ⟨fun _ => ?_, fun q => absurd q (by decide)⟩) (fun g1 h3 J1 => ⟨fun q => absurd rfl q, fun _ => bad h3 (by rw [hR, if_pos (Or.inl g1)]) J1⟩)
  refine m_num (k := 0) (m := 4) hd1 (by decide) I1 (by omega) (fun g2 => ⟨fun q => absurd F0 q, fun _ => ?_⟩) (fun g2 h6 J1 => ⟨fun _ h10 e10 => bad h10 (by rw [hR, if_pos (Or.inr g2)]) (by rw [e10]; exact J1.fail), fun q => absurd (J1.2.1.symm.trans q) (by decide)⟩)
  rw [if_neg (by omega)] at hR
  have hn1 := numI_lt g2
  rw [show (256 : Nat) ^ 4 = 2 ^ 32 by decide] at hn1
  generalize numI (tp st 0) = a1 at *
  have za : lZ a1 < 0 ↔ a1 < 0 := lZ_lt (b := 0) (by omega) (by decide)
  have zb : lZ a1 ≤ (20 : Int64) ↔ a1 ≤ 20 := lZ_le (b := 20) (by omega) (by decide)
  rw [za, zb, O1]
  refine ⟨fun z h12 e12 => bad h12 (by rw [hR, if_pos (Or.inl z)]) (by rw [e12]; exact I1.fail), fun z1 => ⟨fun z2 h14 e14 => ?_, fun z h40 e40 => bad h40 (by rw [hR, if_pos (Or.inr (Or.inl (by omega)))]) (by rw [e40]; exact I1.fail)⟩⟩
  obtain ⟨k, rfl⟩ : ∃ k : Nat, a1 = k := ⟨a1.toNat, by omega⟩
  rw [Int.toNat_natCast] at hR
  have hk : k ≤ 20 := by omega
  rw [← lZ_n, lN_i, nI_add] at e14
  rw [← lZ_n, lN_i, show (2 : Int32) = nI 2 from rfl, nI_add, nI_1]
  have f14 : h14.i 24082 M = nI (ops + k) := by rw [e14, AH.i_pi, if_pos ⟨rfl, rfl⟩]
  have F14 : h14.i 24074 M = 0 := by rw [e14, AH.i_pi, if_neg (fun q => absurd q.1 (by decide))]; exact F0
  have E14 : MEnv h14 M Z F O p N I J pp a n j inp K B L t Bp := by rw [e14]; exact E.pk H.1 _ (by decide)
  have H14 : MOm h14 M Z st alt := by rw [e14]; exact H.pk _ (by decide) (by decide)
  have I14 : QI h14 h14 M Z false st alt := ⟨H14, F14, SkF.rf, Kp.rf, fun _ _ q => q⟩
  have fin1 := fin k
  rw [← e14] at fin1
  have bad1 : ∀ h9, RR = none → QI h14 h9 M Z true st alt → Q h9 := fun h9 q J1 => fin1 none h9 q (OkM.qi GoF.rf E14 H14.1 J1 (Or.inr ⟨rfl, Or.inl rfl⟩))
  rw [f14]
  refine pk_lt 201 (ops + k) (fun z h17 e17 => bad1 h17 (by rw [hR, if_pos (Or.inr (Or.inr (by omega)))]) (by rw [e17]; exact I14.fail)) (fun z3 => ?_)
  rw [if_neg (by omega)] at hR
  refine m_need (n := k + 2) hd1 (by omega) I14 (fun g3 => ⟨fun _ => ?_, fun q => absurd q (by decide)⟩) (fun g3 h19 J1 => ⟨fun q => absurd rfl q, fun _ h39 e39 => bad1 h39 (by rw [hR, if_pos (Or.inl (by omega))]) (by rw [e39]; exact J1.fail)⟩)
  refine m_num (k := k + 1) (m := 4) hd1 (by decide) I14 (by omega) (fun g4 => ⟨fun q => absurd F14 q, fun _ => ?_⟩) (fun g4 h22 J1 => ⟨fun _ h26 e26 => bad1 h26 (by rw [hR, if_pos (Or.inr g4)]) (by rw [e26]; exact J1.fail), fun q => absurd (J1.2.1.symm.trans q) (by decide)⟩)
  rw [if_neg (by omega)] at hR
  have hn2 := numI_lt g4
  rw [show (256 : Nat) ^ 4 = 2 ^ 32 by decide] at hn2
  generalize numI (tp st (k + 1)) = a2 at *
  have zd : lZ a2 < 0 ↔ a2 < 0 := lZ_lt (b := 0) (by omega) (by decide)
  have ze : lN k < lZ a2 ↔ (k : Int) < a2 := by
    rw [lZ_n]
    exact lZ_lt (by omega) (by omega)
  rw [zd, ze]
  refine ⟨fun z h28 e28 => bad1 h28 (by rw [hR, if_pos (Or.inl z)]) (by rw [e28]; exact I14.fail), fun z4 => ⟨fun z h30 e30 => bad1 h30 (by rw [hR, if_pos (Or.inr z)]) (by rw [e30]; exact I14.fail), fun z5 => ?_⟩⟩
  rw [if_neg (by omega)] at hR
  obtain ⟨m, rfl⟩ : ∃ m : Nat, a2 = m := ⟨a2.toNat, by omega⟩
  rw [Int.toNat_natCast] at hR
  have hm : m ≤ k := by omega
  rw [show (lN k + lZ (m : Int)).toInt32 = nI (k + m) by rw [lZ_n, lZ_add, ← Int.natCast_add, ← lZ_n, lN_i], show (3 : Int32) = nI 3 from rfl, nI_add, ← lZ_n, lN_i]
  refine m_need (n := k + m + 3) hd1 (by omega) I14 (fun g5 => ⟨fun _ u35 e35 => ?_, fun q => absurd q (by decide)⟩) (fun g5 h32 J1 => ⟨fun q => absurd rfl q, fun _ h37 e37 => bad1 h37 (by rw [hR, if_pos g5]) (by rw [e37]; exact J1.fail)⟩)
  rw [if_neg (by omega)] at hR
  have t3 := I14.top (n := 3) (by omega)
  have t2 := I14.top (n := 2) (by omega)
  rw [t3, pk_sub (by omega)] at e35
  rw [e35, t2]
  obtain ⟨Qf, hQf⟩ : ∃ Qf, Qf = fun g k' => sigB p N Bp K B L t inp g k' (clnsF st k (sub_ S b (e - b)) m) := ⟨_, rfl⟩
  rw [← hQf] at hR
  have d1 : h14.r 24079 M = sa := by rw [e14]; exact c1
  have d2 : h14.i 24080 M = nI b := by rw [e14, AH.i_pi, if_neg (fun q => absurd q.1 (by decide))]; exact c2
  have d3 : h14.i 24081 M = nI e := by rw [e14, AH.i_pi, if_neg (fun q => absurd q.1 (by decide))]; exact c3
  have d4 : h14.kd sa = 101 := by rw [e14]; exact ks
  have d5 : h14.ai sa = S := by rw [e14]; exact eS
  have d6 : O + 7 < sa ∧ sa < h14.z := by rw [e14]; exact sO
  obtain ⟨R1, hR1⟩ : ∃ R1, R1 = (match mulF Qf st k 1 (k + 2) m with
    | none => none
    | some ok => endP (decide (op = 175)) ok (dr st (k + m + 3))) := ⟨_, rfl⟩
  have eR : RR = R1.map (fun s => (s, ops + k)) := by
    rw [hR, hR1]
    cases mulF Qf st k 1 (k + 2) m with
    | none => rfl
    | some ok =>
      dsimp only
      cases endP (decide (op = 175)) ok (dr st (k + m + 3)) <;> rfl
  have Jv := sv_164 (G := G) (d := d) (h0 := h) (Q := Q) (R := R1) (op := op) (k := k) (m := m) hd9 hop hm hk g5 hs F14 (fun h9 q => fin1 R1 h9 eR q) d1 d2 d3 d4 d5 d6 hbe hl hl2 hn hQf (fun ok q => by rw [hR1, q]) (fun q => by rw [hR1, q]) k m h14 (Nat.le_refl _) (Nat.le_refl _) ⟨GoF.rf, E14, H14⟩ (by rw [Nat.sub_self, Nat.sub_self])
  rw [decide_eq_true hm] at Jv
  exact Jv
end MSev3

/-! several signatures in a script -/
set_option maxRecDepth 100000
/-- the code without the first j signatures -/
def clnsF (st : List (List Int32)) (k : Nat) (c : List Int32) : Nat → List Int32
  | 0 => c
  | j + 1 => clnP (clnsF st k c j) (clnsF st k c j).length (tp st (k + 2 + j))
theorem clnsF_len (st : List (List Int32)) (k : Nat) (c : List Int32) : ∀ j, (clnsF st k c j).length ≤ c.length
  | 0 => Nat.le_refl _
  | j + 1 => Nat.le_trans (clnF_len (clnsF st k c j) (clnsF st k c j).length (tp st (k + 2 + j)) (clnsF st k c j).length 0 (Nat.zero_le _)) (by
    have := clnsF_len st k c j
    omega)
/-- signatures against keys -/
def mulF (Q : List Int32 → List Int32 → Bool) (st : List (List Int32)) : Nat → Nat → Nat → Nat → Option Bool
  | 0, _, _, sl => some (decide (sl = 0))
  | kl + 1, key, sig, sl => if sl = 0 then some true else if kl + 1 < sl then some false else if encB (tp st sig) = false then none else
    if (decide (0 < (tp st sig).length) && Q (tp st sig) (tp st key)) = true then mulF Q st kl (key + 1) (sig + 1) (sl - 1) else mulF Q st kl (key + 1) sig sl
theorem mulF_0 (Q : List Int32 → List Int32 → Bool) (st : List (List Int32)) (kl key sig : Nat) : mulF Q st kl key sig 0 = some true := by
  cases kl with
  | zero => rfl
  | succ kl => unfold mulF; rw [if_pos rfl]
theorem mulF_no (Q : List Int32 → List Int32 → Bool) (st : List (List Int32)) {kl sl : Nat} (key sig : Nat) (h : kl < sl) : mulF Q st kl key sig sl = some false := by
  cases kl with
  | zero => unfold mulF; rw [decide_eq_false (by omega)]
  | succ kl => unfold mulF; rw [if_neg (by omega), if_pos h]
/-- what an operation with several signatures leaves, and how many operations are counted then -/
def sevP (p N : Nat) (Bp : Pt) (K B L : List Int32) (t : TxP) (inp : Nat) (S : List Int32) (b e op ops : Nat) (st : List (List Int32)) : Option (List (List Int32) × Nat) :=
  if st.length < 1 ∨ 4 < (tp st 0).length then none else if numI (tp st 0) < 0 ∨ 20 < numI (tp st 0) ∨ 201 < (ops : Int) + numI (tp st 0) then none else
  if st.length ≤ (numI (tp st 0)).toNat + 1 ∨ 4 < (tp st ((numI (tp st 0)).toNat + 1)).length then none else if numI (tp st ((numI (tp st 0)).toNat + 1)) < 0 ∨ numI (tp st 0) < numI (tp st ((numI (tp st 0)).toNat + 1)) then none else if st.length < (numI (tp st 0)).toNat + (numI (tp st ((numI (tp st 0)).toNat + 1))).toNat + 3 then none else
  match mulF (fun g k => sigB p N Bp K B L t inp g k (clnsF st (numI (tp st 0)).toNat (sub_ S b (e - b)) (numI (tp st ((numI (tp st 0)).toNat + 1))).toNat)) st (numI (tp st 0)).toNat 1 ((numI (tp st 0)).toNat + 2) (numI (tp st ((numI (tp st 0)).toNat + 1))).toNat with
  | none => none
  | some ok => match endP (decide (op = 175)) ok (dr st ((numI (tp st 0)).toNat + (numI (tp st ((numI (tp st 0)).toNat + 1))).toNat + 3)) with
    | none => none
    | some s => some (s, ops + (numI (tp st 0)).toNat)
section Several
variable {G : Gx} {d : Nat} {hB h h' h0 : AH} {Mc D b0 Sg q a C p N inp : Nat} {Bp : Pt} {K B L : List Int32} {t : TxP} {st alt : List (List Int32)} {op ops k m : Nat} {R : Option (List (List Int32) × Nat)}
theorem sev_274 {ok : Bool} (hd : 12 ≤ d) (hop : op < 256) (hs : st.length + alt.length ≤ 1000) (hk : k ≤ 20) (hm : m ≤ k) (hst : k + m + 3 ≤ st.length) (I : RI hB h Mc D b0 Sg q a C p N Bp K B L t inp st alt) (hR : R = match endP (decide (op = 175)) ok (dr st (k + m + 3)) with
    | none => none
    | some s => some (s, ops + k)) : Aw G mX7_several (d + 1) 0 h0 (kI (fun x h' => ∃ s, R = some s ∧ x = nI s.2 ∧ RI hB h' Mc D b0 Sg q a C p N Bp K B L t inp s.1 alt) (fun y h' => R = none ∧ ThrR hB h' Mc D b0 Sg q a C p N Bp K B L t inp y)) 274 [vR Mc, vI (nI op), vU, vU, vU, vU, vI (nI ops), vU, vU, vI (nI k), vU, vU, vI (nI m), vU, vI (bB ok), vU, vU, vU, vU, vU] [] h := by
  refine sX7_several_274 h Mc (nI op) (nI ops) (nI k) (nI m) (bB ok) ⟨I.1.1.1, ?_⟩
  rw [nI_add, show (3 : Int32) = nI 3 from rfl, nI_add, nI_add]
  refine q_end (op := op) (w := 175) (ok := ok) (by omega) I hst (by omega) hs rfl hop (by decide) (fun st' es h9 I9 => ?_) (fun es y h9 T9 => ?_)
  · rw [es] at hR
    exact ⟨_, hR, rfl, I9⟩
  · rw [es] at hR
    exact ⟨hR, T9⟩
theorem sev_190 {c : List Int32} {Q : List Int32 → List Int32 → Bool} (hd : 12 ≤ d) (hop : op < 256) (hs : st.length + alt.length ≤ 1000) (hk : k ≤ 20) (hm : m ≤ k) (hst : k + m + 3 ≤ st.length) (hQ : Q = fun g k => sigB p N Bp K B L t inp g k c) (hc : c.length ≤ 1600) (hO : ∀ ok, mulF Q st k 1 (k + 2) m = some ok → R = match endP (decide (op = 175)) ok (dr st (k + m + 3)) with
    | none => none
    | some s => some (s, ops + k)) (hN : mulF Q st k 1 (k + 2) m = none → R = none) : ∀ (kl key sig sl : Nat) (h : AH), RI hB h Mc D b0 Sg q a C p N Bp K B L t inp st alt → eqN c.length (h.ai (Mc + 5)) c → key + kl = k + 1 → sig + sl = k + 2 + m → mulF Q st kl key sig sl = mulF Q st k 1 (k + 2) m →
    Aw G mX7_several (d + 1) 0 h0 (kI (fun x h' => ∃ s, R = some s ∧ x = nI s.2 ∧ RI hB h' Mc D b0 Sg q a C p N Bp K B L t inp s.1 alt) (fun y h' => R = none ∧ ThrR hB h' Mc D b0 Sg q a C p N Bp K B L t inp y)) 190 [vR Mc, vI (nI op), vR Sg, vU, vU, vU, vI (nI ops), vU, vU, vI (nI k), vU, vU, vI (nI m), vI (nI c.length), vI (bB (decide (sl ≤ kl))), vI (nI key), vI (nI sig), vI (nI kl), vI (nI sl), vU] [] h := by
  intro kl
  have l3 : st.length ≤ 1000 := by omega
  induction kl with
  | zero =>
    intro key sig sl h I qc h1 h2 hM
    refine sX7_several_190 h Mc (nI op) Sg (nI ops) (nI k) (nI m) (nI c.length) (bB (decide (sl ≤ 0))) (nI key) (nI sig) (nI 0) (nI sl) ⟨fun z => ?_, fun z => ⟨fun z2 => ?_, fun z2 => ?_⟩⟩
    · have : ¬ sl ≤ 0 := of_decide_eq_false ((bB_0 _).mp z)
      rw [mulF_no _ _ _ _ (show 0 < sl by omega)] at hM
      rw [z]
      exact sev_274 (ok := false) hd hop hs hk hm hst I (hO _ hM.symm)
    · by_cases c0 : sl = 0
      · subst c0
        rw [mulF_0] at hM
        exact sev_274 (ok := true) hd hop hs hk hm hst I (hO _ hM.symm)
      · exact absurd ((bB_0 _).mpr (decide_eq_false (show ¬ sl ≤ 0 by omega))) z
    · by_cases c0 : sl = 0
      · subst c0
        exact absurd (Int32.le_refl _) z2
      · exact absurd ((bB_0 _).mpr (decide_eq_false (show ¬ sl ≤ 0 by omega))) z
  | succ kl ih =>
    intro key sig sl h I qc h1 h2 hM
    refine sX7_several_190 h Mc (nI op) Sg (nI ops) (nI k) (nI m) (nI c.length) (bB (decide (sl ≤ kl + 1))) (nI key) (nI sig) (nI (kl + 1)) (nI sl) ⟨fun z => ?_, fun z => ?_⟩
    · have : ¬ sl ≤ kl + 1 := of_decide_eq_false ((bB_0 _).mp z)
      rw [mulF_no _ _ _ _ (show kl + 1 < sl by omega)] at hM
      rw [z]
      exact sev_274 (ok := false) hd hop hs hk hm hst I (hO _ hM.symm)
    · have g1 : sl ≤ kl + 1 := by
        rcases Nat.lt_or_ge (kl + 1) sl with c1 | c1
        · exact absurd ((bB_0 _).mpr (decide_eq_false (show ¬ sl ≤ kl + 1 by omega))) z
        · exact c1
      refine pk_le sl 0 (fun z2 => ?_) (fun z2 => ⟨I.1.1.1, ?_⟩)
      · obtain rfl : sl = 0 := by omega
        rw [mulF_0] at hM
        exact sev_274 (ok := true) hd hop hs hk hm hst I (hO _ hM.symm)
      · have eM : mulF Q st (kl + 1) key sig sl = if encB (tp st sig) = false then none else if (decide (0 < (tp st sig).length) && Q (tp st sig) (tp st key)) = true then mulF Q st kl (key + 1) (sig + 1) (sl - 1) else mulF Q st kl (key + 1) sig sl := by
          conv => lhs; unfold mulF
          rw [if_neg (by omega), if_neg (by omega)]
        refine q_top (k := sig) (by omega) (by omega) I (fun c1 x3 hx3 ex3 => ?_) (fun c1 => absurd c1 (by omega))
        have e3 := I.el c1
        rw [← hx3] at e3
        refine q_encoded (by omega) I ex3 (fun he => ?_) (fun he y h' T => ⟨hN (by rw [← hM, eM, if_pos he]), T⟩)
        rw [if_neg (by rw [he]; decide)] at eM
        refine ⟨ex3.1.1, ?_⟩
        rw [ex3.2.1, pk_m1, nI_1, nI_1]
        have stay : ∀ h', RI hB h' Mc D b0 Sg q a C p N Bp K B L t inp st alt → h'.ai (Mc + 5) = h.ai (Mc + 5) → (decide (0 < (tp st sig).length) && Q (tp st sig) (tp st key)) = false →
            ((nI kl < nI sl → Aw G mX7_several (d + 1) 0 h0 (kI (fun x h' => ∃ s, R = some s ∧ x = nI s.2 ∧ RI hB h' Mc D b0 Sg q a C p N Bp K B L t inp s.1 alt) (fun y h' => R = none ∧ ThrR hB h' Mc D b0 Sg q a C p N Bp K B L t inp y)) 190 [vR Mc, vI (nI op), vR Sg, vU, vU, vU, vI (nI ops), vU, vU, vI (nI k), vU, vU, vI (nI m), vI (nI c.length), vI 0, vI (nI (key + 1)), vI (nI sig), vI (nI kl), vI (nI sl), vU] [] h') ∧ (¬ nI kl < nI sl → Aw G mX7_several (d + 1) 0 h0 (kI (fun x h' => ∃ s, R = some s ∧ x = nI s.2 ∧ RI hB h' Mc D b0 Sg q a C p N Bp K B L t inp s.1 alt) (fun y h' => R = none ∧ ThrR hB h' Mc D b0 Sg q a C p N Bp K B L t inp y)) 190 [vR Mc, vI (nI op), vR Sg, vU, vU, vU, vI (nI ops), vU, vU, vI (nI k), vU, vU, vI (nI m), vI (nI c.length), vI 1, vI (nI (key + 1)), vI (nI sig), vI (nI kl), vI (nI sl), vU] [] h')) := fun h' I' a5 hq => by
          rw [if_neg (by rw [hq]; decide)] at eM
          have J := ih (key + 1) sig sl h' I' (by rw [a5]; exact qc) (by omega) h2 (eM.symm.trans hM)
          refine pk_lt kl sl (fun c4 => ?_) (fun c4 => ?_)
          · rw [decide_eq_false (show ¬ sl ≤ kl by omega)] at J
            exact J
          · rw [decide_eq_true (show sl ≤ kl by omega)] at J
            exact J
        have gl := ex3.2.2.1
        refine pk_le (tp st sig).length 0 (fun z3 => ?_) (fun z3 => ?_)
        · exact stay h I rfl (by rw [decide_eq_false (show ¬ 0 < (tp st sig).length by omega), Bool.false_and])
        · refine q_top (k := key) (by omega) (by omega) I (fun c2 x11 hx11 ex11 => ?_) (fun c2 => absurd c2 (by omega))
          have e11 := I.el c2
          rw [← hx11] at e11
          intro r16 e16
          have e16' : r16 = Mc + 5 := e16.trans I.1.1.2.1.2.2.2.2.2.1
          subst e16'
          refine ⟨I.2.1.2.1.1.1, q_signed (by omega) I ex3 ex11 e3.2 e11.2 (by omega) he qc rfl hc (fun h18 I18 ar18 a18 => ?_)⟩
          have hq : Q (tp st sig) (tp st key) = sigB p N Bp K B L t inp (tp st sig) (tp st key) c := by rw [hQ]
          rw [← hq]
          refine ⟨fun w => stay h18 I18 a18 (by rw [(bB_0 _).mp w, Bool.and_false]), fun w => ?_⟩
          have qt : Q (tp st sig) (tp st key) = true := by
            cases z4 : Q (tp st sig) (tp st key) with
            | true => rfl
            | false => rw [z4] at w; exact absurd rfl w
          rw [if_pos (by rw [qt, decide_eq_true (show 0 < (tp st sig).length by omega)]; rfl)] at eM
          have em : nI sl + (-1) = nI (sl - 1) := by
            obtain ⟨s', rfl⟩ : ∃ s', sl = s' + 1 := ⟨sl - 1, by omega⟩
            exact pk_m1 s'
          rw [em]
          have J := ih (key + 1) (sig + 1) (sl - 1) h18 I18 (by rw [a18]; exact qc) (by omega) (by omega) (eM.symm.trans hM)
          refine pk_lt kl (sl - 1) (fun c4 => ?_) (fun c4 => ?_)
          · rw [decide_eq_false (show ¬ sl - 1 ≤ kl by omega)] at J
            exact J
          · rw [decide_eq_true (show sl - 1 ≤ kl by omega)] at J
            exact J
theorem sev_134 {c0 : List Int32} (hd : 12 ≤ d) (hop : op < 256) (hs : st.length + alt.length ≤ 1000) (hk : k ≤ 20) (hm : m ≤ k) (hst : k + m + 3 ≤ st.length) (hc : c0.length ≤ 1600) (hR : R = match mulF (fun g k' => sigB p N Bp K B L t inp g k' (clnsF st k c0 m)) st k 1 (k + 2) m with
    | none => none
    | some ok => match endP (decide (op = 175)) ok (dr st (k + m + 3)) with
      | none => none
      | some s => some (s, ops + k)) : ∀ (j : Nat) (h : AH), j ≤ m → RI hB h Mc D b0 Sg q a C p N Bp K B L t inp st alt ∧ eqN (clnsF st k c0 j).length (h.ai (Mc + 5)) (clnsF st k c0 j) →
    Aw G mX7_several (d + 1) 0 h0 (kI (fun x h' => ∃ s, R = some s ∧ x = nI s.2 ∧ RI hB h' Mc D b0 Sg q a C p N Bp K B L t inp s.1 alt) (fun y h' => R = none ∧ ThrR hB h' Mc D b0 Sg q a C p N Bp K B L t inp y)) 134 [vR Mc, vI (nI op), vR Sg, vU, vU, vU, vI (nI ops), vU, vU, vI (nI k), vU, vU, vI (nI m), vI (nI (clnsF st k c0 j).length), vI (nI j), vU, vU, vU, vU, vU] [] h := by
  refine loop_uc (n := m) (P := fun j h => Aw G mX7_several (d + 1) 0 h0 (kI (fun x h' => ∃ s, R = some s ∧ x = nI s.2 ∧ RI hB h' Mc D b0 Sg q a C p N Bp K B L t inp s.1 alt) (fun y h' => R = none ∧ ThrR hB h' Mc D b0 Sg q a C p N Bp K B L t inp y)) 134 [vR Mc, vI (nI op), vR Sg, vU, vU, vU, vI (nI ops), vU, vU, vI (nI k), vU, vU, vI (nI m), vI (nI (clnsF st k c0 j).length), vI (nI j), vU, vU, vU, vU, vU] [] h) (fun j h => RI hB h Mc D b0 Sg q a C p N Bp K B L t inp st alt ∧ eqN (clnsF st k c0 j).length (h.ai (Mc + 5)) (clnsF st k c0 j)) (fun j h hj hI ih => ?_)
  obtain ⟨I, qc⟩ := hI
  have cl := clnsF_len st k c0 j
  refine sX7_several_134 h Mc (nI op) Sg (nI ops) (nI k) (nI m) (nI (clnsF st k c0 j).length) (nI j) (pk_le m j (fun z => ?_) (fun z => ⟨I.1.1.1, fun r3 e3 => ?_⟩))
  · obtain rfl : j = m := by omega
    have J := sev_190 (G := G) (d := d) (h0 := h0) (op := op) (ops := ops) (k := k) (m := j) (R := R) (c := clnsF st k c0 j) (Q := fun g k' => sigB p N Bp K B L t inp g k' (clnsF st k c0 j)) hd hop hs hk hm hst rfl (by omega) (fun ok e => by rw [hR, e]) (fun e => by rw [hR, e]) k 1 (k + 2) j h I qc (by omega) (by omega) rfl
    rw [decide_eq_true hm] at J
    rw [show (2 : Int32) = nI 2 from rfl, nI_add]
    exact J
  · have e3' : r3 = Mc + 5 := e3.trans I.1.1.2.1.2.2.2.2.2.1
    subst e3'
    rw [show (2 : Int32) = nI 2 from rfl, nI_add, nI_add, nI_1]
    refine q_top (k := k + 2 + j) (by omega) (by omega) I (fun c1 x4 hx4 ex4 => ?_) (fun c1 => absurd c1 (by omega))
    have e4 := I.el c1
    rw [← hx4] at e4
    exact q_cleaned (by omega) I ex4 e4.2 (by omega) qc (fun h7 I7 ar7 q7 => ih (by omega) h7 ⟨I7, q7⟩)
end Several
section Several2
variable {G : Gx} {d : Nat} {hB h h' h0 : AH} {Mc D b0 Sg q a C p N inp : Nat} {Bp : Pt} {K B L : List Int32} {t : TxP} {st alt : List (List Int32)} {op ops : Nat}
theorem Mc_several_spec {sa b e : Nat} {S : List Int32} {R : Option (List (List Int32) × Nat)} (hd : 13 ≤ d) (hop : op < 256) (hops : ops ≤ 201) (I : RI hB h Mc D b0 Sg q a C p N Bp K B L t inp st alt) (hs : st.length + alt.length ≤ 1000) (ks : h.kd sa = 101) (eS : h.ai sa = S) (ns : sa ≠ Mc + 5) (hbe : b ≤ e) (hl : e ≤ S.length) (hl2 : S.length < 2 ^ 31) (hn : e - b ≤ 1600)
    (hR : R = sevP p N Bp K B L t inp S b e op ops st) : Cw G mX7_several d 0 [vR Mc, vI (nI op), vR Sg, vR sa, vI (nI b), vI (nI e), vI (nI ops)] h (kI (fun x h' => ∃ s, R = some s ∧ x = nI s.2 ∧ RI hB h' Mc D b0 Sg q a C p N Bp K B L t inp s.1 alt) (fun y h' => R = none ∧ ThrR hB h' Mc D b0 Sg q a C p N Bp K B L t inp y)) := by
  obtain ⟨d, rfl⟩ : ∃ d', d = d' + 1 := ⟨d - 1, by omega⟩
  refine eX7_several h Mc (nI op) Sg sa (nI b) (nI e) (nI ops) (fun wf => sX7_several_0 h Mc (nI op) Sg sa (nI b) (nI e) (nI ops) ⟨I.1.1.1, ?_⟩)
  unfold sevP at hR
  refine q_top (k := 0) (by omega) (by decide) I (fun c1 x1 hx1 ex1 => ⟨ex1.1.1, ?_⟩) (fun c1 y h' T => ⟨by rw [hR, if_pos (Or.inl (by omega))], T⟩)
  refine q_num (m := 4) (by omega) (by decide) I ex1 (fun c2 => ?_) (fun c2 y h' T => ⟨by rw [hR, if_pos (Or.inr c2)], T⟩)
  rw [if_neg (by omega)] at hR
  have hn1 := numI_lt c2
  rw [show (256 : Nat) ^ 4 = 2 ^ 32 by decide] at hn1
  generalize numI (tp st 0) = a1 at *
  have za : lZ a1 < 0 ↔ a1 < 0 := lZ_lt (b := 0) (by omega) (by decide)
  have zb : (20 : Int64) < lZ a1 ↔ 20 < a1 := lZ_lt (a := 20) (by decide) (by omega)
  have zc : (201 : Int64) < (nI ops).toInt64 + lZ a1 ↔ 201 < (ops : Int) + a1 := by
    rw [nI_l (by omega), lZ_n, lZ_add]
    exact lZ_lt (a := 201) (by decide) (by omega)
  rw [za, zb, zc]
  refine ⟨fun z => q_need (by omega) I (fun w => absurd rfl w) (fun _ y h' T => ⟨by rw [hR, if_pos (Or.inl z)], T⟩), fun z1 => ⟨fun z => q_need (by omega) I (fun w => absurd rfl w) (fun _ y h' T => ⟨by rw [hR, if_pos (Or.inr (Or.inl z))], T⟩), fun z2 => ⟨fun z => q_need (by omega) I (fun w => absurd rfl w) (fun _ y h' T => ⟨by rw [hR, if_pos (Or.inr (Or.inr z))], T⟩), fun z3 => q_need (by omega) I (fun _ => ?_) (fun w => absurd w (by decide))⟩⟩⟩
  rw [if_neg (by omega)] at hR
  obtain ⟨k, rfl⟩ : ∃ k : Nat, a1 = k := ⟨a1.toNat, by omega⟩
  rw [Int.toNat_natCast] at hR
  rw [← lZ_n, lN_i, nI_1]
  refine q_top (k := k + 1) (by omega) (by omega) I (fun c3 x3 hx3 ex3 => ⟨ex3.1.1, ?_⟩) (fun c3 y h' T => ⟨by rw [hR, if_pos (Or.inl c3)], T⟩)
  refine q_num (m := 4) (by omega) (by decide) I ex3 (fun c4 => ?_) (fun c4 y h' T => ⟨by rw [hR, if_pos (Or.inr c4)], T⟩)
  rw [if_neg (by omega)] at hR
  have hn2 := numI_lt c4
  rw [show (256 : Nat) ^ 4 = 2 ^ 32 by decide] at hn2
  generalize numI (tp st (k + 1)) = a2 at *
  have zd : lZ a2 < 0 ↔ a2 < 0 := lZ_lt (b := 0) (by omega) (by decide)
  have ze : lN k < lZ a2 ↔ (k : Int) < a2 := by
    rw [lZ_n]
    exact lZ_lt (by omega) (by omega)
  rw [zd, ze]
  refine ⟨fun z => q_need (by omega) I (fun w => absurd rfl w) (fun _ y h' T => ⟨by rw [hR, if_pos (Or.inl z)], T⟩), fun z4 => ⟨fun z => q_need (by omega) I (fun w => absurd rfl w) (fun _ y h' T => ⟨by rw [hR, if_pos (Or.inr z)], T⟩), fun z5 => q_need (by omega) I (fun _ => ?_) (fun w => absurd w (by decide))⟩⟩
  rw [if_neg (by omega)] at hR
  obtain ⟨m, rfl⟩ : ∃ m : Nat, a2 = m := ⟨a2.toNat, by omega⟩
  rw [Int.toNat_natCast] at hR
  have i4 : h.i 7004 Mc = nI st.length := I.1.2.2.2.2.1.1
  rw [← lZ_n, lN_i, i4, nI_add, show (3 : Int32) = nI 3 from rfl, nI_add]
  refine pk_lt st.length (k + m + 3) (fun z => q_need (by omega) I (fun w => absurd rfl w) (fun _ y h' T => ⟨by rw [hR, if_pos z], T⟩)) (fun z6 => q_need (by omega) I (fun _ => ?_) (fun w => absurd w (by decide)))
  rw [if_neg (by omega)] at hR
  refine q_code (by omega) I ks eS ns hbe hl hl2 hn (fun h28 I28 ar28 q28 => ?_)
  have J := sev_134 (G := G) (d := d) (h0 := h) (op := op) (ops := ops) (k := k) (m := m) (R := R) (c0 := sub_ S b (e - b)) (by omega) hop hs (by omega) (by omega) z6 (by rw [sub_len]; exact hn) hR 0 h28 (Nat.zero_le _) ⟨I28, by
    show eqN (sub_ S b (e - b)).length _ _
    rw [sub_len]
    exact q28⟩
  rw [show (clnsF st k (sub_ S b (e - b)) 0).length = e - b from sub_len _ _ _] at J
  exact J
end Several2

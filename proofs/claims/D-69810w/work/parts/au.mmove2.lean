/-! the reference: operations that move elements: the walk -/
set_option maxRecDepth 100000
section MMove
variable {G : Gx} {d : Nat} {hB h g h' h0 : AH} {M Z : Nat} {st alt : List (List Int32)} {fl : Bool}
/-- what an operation on the stacks leaves -/
def OkQ (h h' : AH) (M Z : Nat) (R : Option (List (List Int32) × List (List Int32))) : Prop := ∃ fl st' alt', QI h h' M Z fl st' alt' ∧ ((fl = false ∧ R = some (st', alt')) ∨ (fl = true ∧ (R = none ∨ ∃ s, R = some s ∧ 1000 < s.1.length + s.2.length)))
theorem OkQ.ok {R : Option (List (List Int32) × List (List Int32))} (Q : QI h h' M Z false st alt) (e : R = some (st, alt)) : OkQ h h' M Z R := ⟨_, _, _, Q, Or.inl ⟨rfl, e⟩⟩
theorem OkQ.no {R : Option (List (List Int32) × List (List Int32))} (Q : QI h h' M Z true st alt) (e : R = none) : OkQ h h' M Z R := ⟨_, _, _, Q, Or.inr ⟨rfl, Or.inl e⟩⟩
theorem OkQ.big {R : Option (List (List Int32) × List (List Int32))} {s : List (List Int32) × List (List Int32)} (Q : QI h h' M Z true st alt) (e : R = some s) (hs : 1000 < s.1.length + s.2.length) : OkQ h h' M Z R := ⟨_, _, _, Q, Or.inr ⟨rfl, Or.inr ⟨s, e, hs⟩⟩⟩
theorem QI.rf (H : MOm h M Z st alt) (F0 : h.i 24074 M = 0) : QI h h M Z false st alt := ⟨H, F0, SkF.rf, Kp.rf, fun _ _ q => q⟩
/-- some elements are copied -/
theorem mv_358 {n : Nat} {Ψ : AH → Prop} (hd : 3 ≤ d) (hn : 1 ≤ n) (hn3 : n ≤ 3) (hs : n ≤ st.length) (I1 : QI h h M Z false st alt) (fin : ∀ h', OkQ h h' M Z (some (cpN st (n - 1) n, alt)) → Ψ h') : Aw G mX24_move (d + 1) 0 h (kV Ψ nE) 358 [vR M, vU, vU, vU, vU, vI (nI n), vI 0, vU] [] h := by
  refine loop_uc (n := n) (P := fun j (x : AH × Bool × List (List Int32)) => Aw G mX24_move (d + 1) 0 h (kV Ψ nE) 358 [vR M, vU, vU, vU, vU, vI (nI n), vI (nI j), vU] [] x.1)
    (fun j x => QI h x.1 M Z x.2.1 x.2.2 alt ∧ ((x.2.1 = false ∧ x.2.2 = cpN st (n - 1) j) ∨ (x.2.1 = true ∧ n ≤ x.2.2.length ∧ 1000 < st.length + n))) (fun j x hj hI ih => ?_) 0 (h, false, st) (Nat.zero_le _) ⟨I1, Or.inl ⟨rfl, rfl⟩⟩
  obtain ⟨x, f, s⟩ := x
  obtain ⟨J1, hJ⟩ := hI
  replace J1 : QI h x M Z f s alt := J1
  replace hJ : (f = false ∧ s = cpN st (n - 1) j) ∨ (f = true ∧ n ≤ s.length ∧ 1000 < st.length + n) := hJ
  have ls : n ≤ s.length := by
    rcases hJ with ⟨_, e⟩ | ⟨_, e, _⟩
    · rw [e, cpN_len]; omega
    · exact e
  refine sX24_move_358 x M (nI n) (nI j) (pk_le n j (fun z => fin x ?_) (fun z => ⟨J1.1.1.1.1, ?_⟩))
  · obtain rfl : j = n := by omega
    rcases hJ with ⟨e1, e2⟩ | ⟨e1, _, e2⟩
    · exact ⟨_, _, _, J1, Or.inl ⟨e1, by rw [e2]⟩⟩
    · exact ⟨_, _, _, J1, Or.inr ⟨e1, Or.inr ⟨_, rfl, by show 1000 < (cpN st (j - 1) j).length + alt.length; rw [cpN_len]; omega⟩⟩⟩
  · rw [show nI n - 1 = nI (n - 1) by rw [show (1 : Int32) = nI 1 from rfl, pk_sub hn], nI_1]
    refine m_copy (k := n - 1) hd J1 (by omega) (fun q h3 J3 => ih (by omega) (h3, f, cp s (n - 1)) ⟨J3, ?_⟩) (fun q h3 J3 => ih (by omega) (h3, true, s) ⟨J3, Or.inr ⟨rfl, ls, ?_⟩⟩)
    · rcases hJ with ⟨e1, e2⟩ | ⟨e1, e3, e2⟩
      · refine Or.inl ⟨e1, ?_⟩
        show cp s (n - 1) = cpN st (n - 1) (j + 1)
        rw [e2]
        rfl
      · refine Or.inr ⟨e1, ?_, e2⟩
        show n ≤ (cp s (n - 1)).length
        rw [cp_len]
        omega
    · rcases hJ with ⟨e1, e2⟩ | ⟨e1, e3, e2⟩
      · have := congrArg List.length e2
        rw [cpN_len] at this
        omega
      · exact e2
/-- a place is copied, within room -/
theorem m_cp {k : Nat} {Ψ : AH → Prop} {E : Nat → AH → Prop} (hd : 3 ≤ d) (I1 : QI hB h M Z fl st alt) (hk : k < st.length) (hs : st.length ≤ 1000) (yes : ∀ h', QI hB h' M Z fl (cp st k) alt → Ψ h') : Cw G mX24_copy d 0 [vR M, vI (nI k)] h (kV Ψ E) :=
  m_copy hd I1 hk (fun _ => yes) (fun z => absurd z (by omega))
theorem m_lf {k : Nat} {Ψ : AH → Prop} {E : Nat → AH → Prop} (hd : 1 ≤ d) (I1 : QI hB h M Z fl st alt) (hk : k < st.length) (yes : ∀ h', QI hB h' M Z fl (rl_ st k) alt → Ψ h') : Cw G mX24_lift d 0 [vR M, vI (nI k)] h (kV Ψ E) :=
  m_lift hd I1 hk yes
theorem QI.dr1 {n : Nat} {g : AH} (I1 : QI hB h M Z fl st alt) (hn : n ≤ st.length) (e : g = h.pi 24067 M (h.i 24067 M - nI n)) : QI hB g M Z fl (dr st n) alt := by
  rw [e, I1.top hn]
  exact I1.drop hn
set_option maxHeartbeats 2000000 in
theorem MD_move_spec {op : Nat} (hd : 6 ≤ d) (H : MOm h M Z st alt) (F0 : h.i 24074 M = 0) (h1 : 105 ≤ op) (h2 : op ≤ 125) (h3 : op ≠ 106) (hsa : st.length + alt.length ≤ 1000) :
    Cw G mX24_move d 0 [vR M, vI (nI op)] h (kV (fun h' => OkQ h h' M Z (movP op st alt)) nE) := by
  obtain ⟨d, rfl⟩ : ∃ d', d = d' + 1 := ⟨d - 1, by omega⟩
  have Hs := H.1.1
  have I0 := QI.rf H F0
  have nn := mov_none (st := st) (alt := alt) h1 h2 h3
  obtain ⟨k, rfl⟩ : ∃ k, op = 105 + k := ⟨op - 105, by omega⟩
  rw [show 105 + k - 105 = k by omega] at nn
  have hk : k < 21 := by omega
  obtain ⟨en, ln⟩ := ndN_eq k hk
  have e105 : nI (105 + k) - 105 = nI k := by rw [show (105 : Int32) = nI 105 from rfl, pk_sub (by omega), show 105 + k - 105 = k by omega]
  have hd1 : 1 ≤ d := by omega
  have hd3 : 3 ≤ d := by omega
  have hd4 : 4 ≤ d := by omega
  refine eX24_move h M (nI (105 + k)) (fun _ => sX24_move_0 h M (nI (105 + k)) ⟨Hs.1, fun r2 e2 => ?_⟩)
  rw [show r2 = Z + 8 from e2.trans Hs.2.1.2.2.2.2.2.2.2.2.1, e105, Hs.2.2.2.2.1, pk_cl k rfl (by omega), en]
  clear e2 e105 en
  refine ⟨Hs.2.2.1.2.2.2.2.2.2.2.2.1, pk_in k 21 hk, m_need hd1 ln I0 (fun g1 => ⟨fun _ => ?_, fun q => absurd q (by decide)⟩) (fun g1 h6 J6 => ⟨fun q => absurd rfl q, fun _ => OkQ.no J6 (nn g1)⟩)⟩
  clear ln nn
  refine ⟨fun c => ?_, fun c => ?_, fun c => ?_, fun c => ?_, fun c => ?_, fun c => ?_, fun c => ?_, fun c => ?_, fun c => ?_, fun c => ?_, fun c => ?_, fun c => ?_, fun c => ?_, fun c => ?_, fun c => ?_, fun c => ?_, fun c => ?_, fun c => ?_, fun c => ?_, fun c => ?_⟩
  · -- 105
    replace c : 105 + k = 105 := by have c := (nI_eq (by omega) (by decide)).mp c; exact c
    obtain rfl : k = 0 := by omega
    replace g1 : 1 ≤ st.length := g1
    have hP : movP (105 + 0) st alt = if st.length = 0 ∨ isT (tp st 0) = false then none else some (dr st 1, alt) := rfl
    rw [hP]
    refine (MD_isTrue_spec (k := 0) hd1 H g1).nI (fun x h11 Q => ?_)
    obtain ⟨ex, eh⟩ := Q
    rw [ex, eh, F0]
    refine ⟨fun c1 => ⟨Or.inl rfl, fun h15 e15 h17 e17 => ?_⟩, fun c1 => ⟨Or.inr rfl, fun h15 e15 h17 e17 => ?_⟩⟩
    · have J15 : QI h h15 M Z false st alt := by rw [e15]; exact I0.orf (b := false) rfl
      refine OkQ.ok (J15.dr1 (n := 1) g1 e17) ?_
      rw [if_neg]
      intro z
      rcases z with z | z
      · omega
      · rw [z] at c1
        exact c1 rfl
    · have J15 : QI h h15 M Z true st alt := by rw [e15]; exact I0.orf (b := true) rfl
      refine OkQ.no (J15.dr1 (n := 1) g1 e17) ?_
      rw [if_pos (Or.inr ((bB_0 _).mp c1))]
  · -- 107
    replace c : 105 + k = 107 := by have c := (nI_eq (by omega) (by decide)).mp c; exact c
    obtain rfl : k = 2 := by omega
    replace g1 : 1 ≤ st.length := g1
    have hP : movP (105 + 2) st alt = if st.length < 1 then none else some (dr st 1, alt ++ [tp st 0]) := rfl
    rw [hP, if_neg (by omega)]
    intro r25 e25
    rw [show r25 = Z + 2 * 1 from e25.trans Hs.2.1.2.2.1, H.2.1.2.1]
    refine (MD_row_spec (w := 1) (k := alt.length) hd1 H.1 (by decide) (by omega)).nR (fun x26 h27 R => ?_)
    have J27 := I0.rowd (w := 1) (k := alt.length) (by decide) (by omega) R
    have Hk := J27.1.1.1
    obtain ⟨r0, r1, r2', r3, r4, r5, r6, r7, r8⟩ := J27.1.elt (k := 0) (by omega)
    rw [Nat.sub_zero] at r0 r1 r3 r4 r5 r6 r7 r8
    obtain ⟨⟨x0, xe⟩, R2⟩ := R
    clear R2
    have et : h27.i 24067 M - 1 = nI (st.length - 1) := J27.top (n := 1) g1
    rw [et]
    have za : alt.length < 1002 := by omega
    have zs : st.length - 1 < 1002 := by omega
    intro r33 e33
    rw [show r33 = Z from e33.trans Hk.2.1.1, Hk.2.2.2.1.1, pk_cl (st.length - 1) rfl (by omega), r4]
    refine ⟨Hk.2.2.1.1, pk_in (st.length - 1) 1002 zs, fun r36 e36 => ?_⟩
    rw [show h27.ar (Z + 2 * 1) = h27.ar (Z + 2) from rfl, Hk.2.2.2.1.2.2.1, pk_cl alt.length rfl (by omega)]
    refine ⟨Hk.2.2.1.2.2.1, pk_in alt.length 1002 za, Or.inr (by rw [e36]; exact r5), fun h40 e40 r42 e42 r44 e44 => ?_⟩
    have k40 : h40.kd = h27.kd := by rw [e40]; rfl
    have i40 : h40.ai = h27.ai := by rw [e40]; rfl
    rw [show r42 = Z + 3 from e42.trans (by rw [e40]; exact Hk.2.1.2.2.2.1), show r44 = Z + 1 from e44.trans (by rw [e40]; exact Hk.2.1.2.1), k40, i40, Hk.2.2.2.1.2.1, Hk.2.2.2.1.2.2.2.1, r1]
    refine ⟨Hk.2.2.1.2.1, pk_in (st.length - 1) 1002 zs, Hk.2.2.1.2.2.2.1, pk_in alt.length 1002 za, fun h51 e51 => ?_⟩
    have a51 : h51.ar Z = h27.ar Z := by
      rw [e51]
      show h40.ar Z = _
      rw [e40, AH.ar_wr, if_neg (by omega)]
    have k51 : h51.kd = h27.kd := by rw [e51]; exact k40
    rw [a51, Hk.2.2.2.1.1, k51]
    have xt := (J27.1.1.2.1 (1002 * 1 + alt.length) (by omega) (by rw [← xe]; exact x0)).1.2.2.1
    rw [← xe] at xt
    refine ⟨pk_in (st.length - 1) 1002 zs, Or.inr xt, fun h61 e61 h65 e65 h69 e69 => ?_⟩
    refine OkQ.ok (toalt_end J27 g1 (by omega) (by rw [show 1002 + alt.length = 1002 * 1 + alt.length by omega, ← xe]; exact x0) ?_) rfl
    rw [e69, e65, e61, e51, e40, e36, xe, nI_1, show 1002 * 1 + alt.length = 1002 + alt.length by omega, show Z + 2 * 1 = Z + 2 by omega]
  · -- 108
    replace c : 105 + k = 108 := by have c := (nI_eq (by omega) (by decide)).mp c; exact c
    obtain rfl : k = 3 := by omega
    have hP : movP (105 + 3) st alt = if alt.length < 1 then none else some (st ++ [tp alt 0], dr alt 1) := rfl
    rw [hP, H.2.1.2.1]
    refine pk_eq' alt.length 0 (fun ca r73 e73 => ?_) (fun ca h120 e120 => ?_)
    · rw [show r73 = Z + 2 * 0 from e73.trans Hs.2.1.1, H.2.1.1]
      refine (MD_row_spec (w := 0) (k := st.length) hd1 H.1 (by decide) (by omega)).nR (fun x74 h75 R => ?_)
      have J75 := I0.rowd (w := 0) (k := st.length) (by decide) (by omega) R
      have Hk := J75.1.1.1
      obtain ⟨⟨x0, xe⟩, R2⟩ := R
      clear R2
      rw [show 1002 * 0 + st.length = st.length by omega] at xe
      have K0 := J75.1.2.2.2 (alt.length - 1) (by omega)
      have et : alt.getD (alt.length - 1) [] = tp alt 0 := by unfold tp; rw [Nat.sub_zero]
      rw [et] at K0
      have T0 := (J75.1.1.2.1 (1002 + (alt.length - 1)) (by omega) K0.1).1.2.2.1
      have T1 := (J75.1.1.2.1 st.length (by omega) (by rw [← xe]; exact x0)).1.2.2.1
      have za : alt.length - 1 < 1002 := by omega
      have zs : st.length < 1002 := by omega
      rw [show nI alt.length - 1 = nI (alt.length - 1) by rw [show (1 : Int32) = nI 1 from rfl, pk_sub (by omega)]]
      intro h79 e79 r87 e87
      have k79 : h79.kd = h75.kd := by rw [e79]; rfl
      have a79 : h79.ar = h75.ar := by rw [e79]; rfl
      have i79 : h79.i 24070 M = nI (alt.length - 1) := by rw [e79, AH.i_pi, if_pos ⟨rfl, rfl⟩]
      rw [show r87 = Z + 2 from e87.trans (by rw [e79]; exact Hk.2.1.2.2.1), k79, a79, i79, Hk.2.2.2.1.2.2.1, pk_cl (alt.length - 1) rfl (by omega), ← rwA_1 (h := h75) za]
      refine ⟨Hk.2.2.1.2.2.1, pk_in (alt.length - 1) 1002 za, fun r90 e90 => ?_⟩
      rw [show Z + 2 * 0 = Z by omega, Hk.2.2.2.1.1, pk_cl st.length rfl (by omega)]
      refine ⟨Hk.2.2.1.1, pk_in st.length 1002 zs, Or.inr (by rw [e90]; exact T0), fun h94 e94 r96 e96 r98 e98 => ?_⟩
      have k94 : h94.kd = h75.kd := by rw [e94]; exact k79
      have i94 : h94.ai = h75.ai := by rw [e94, e79]; rfl
      rw [show r96 = Z + 1 from e96.trans (by rw [e94, e79]; exact Hk.2.1.2.1), show r98 = Z + 3 from e98.trans (by rw [e94, e79]; exact Hk.2.1.2.2.2.1), k94, i94, Hk.2.2.2.1.2.2.2.1, Hk.2.2.2.1.2.1, K0.2.1]
      refine ⟨Hk.2.2.1.2.2.2.1, pk_in (alt.length - 1) 1002 za, Hk.2.2.1.2.1, pk_in st.length 1002 zs, fun h105 e105 => ?_⟩
      have a105 : h105.ar (Z + 2) = h75.ar (Z + 2) := by
        rw [e105]
        show h94.ar (Z + 2) = _
        rw [e94, AH.ar_wr, if_neg (by omega), a79]
      have k105 : h105.kd = h75.kd := by rw [e105]; exact k94
      rw [a105, Hk.2.2.2.1.2.2.1, k105]
      refine ⟨pk_in (alt.length - 1) 1002 za, Or.inr (by rw [xe]; exact T1), fun h115 e115 h119 e119 => ?_⟩
      refine OkQ.ok (fromalt_end J75 (by omega) (by omega) (by rw [← xe]; exact x0) ?_) (by rw [if_neg (by omega)])
      rw [e119, e115, e105, e94, e79, e90, xe, nI_1]
    · have J120 : QI h h120 M Z true st alt := by rw [e120]; exact I0.fail
      exact OkQ.no J120 (by rw [if_pos (by omega)])
  · -- 109
    replace c : 105 + k = 109 := by have c := (nI_eq (by omega) (by decide)).mp c; exact c
    obtain rfl : k = 4 := by omega
    replace g1 : 2 ≤ st.length := g1
    exact fun h123 e123 => OkQ.ok (I0.dr1 (n := 2) g1 e123) (if_neg (show ¬ st.length < 2 by omega))
  · -- 110
    replace c : 105 + k = 110 := by have c := (nI_eq (by omega) (by decide)).mp c; exact c
    obtain rfl : k = 5 := by omega
    replace g1 : 2 ≤ st.length := g1
    have e : movP (105 + 5) st alt = some (cpN st (2 - 1) 2, alt) := if_neg (show ¬ st.length < 2 by omega)
    rw [e]
    exact mv_358 (n := 2) hd3 (by decide) (by decide) g1 I0 (fun _ q => q)
  · -- 111
    replace c : 105 + k = 111 := by have c := (nI_eq (by omega) (by decide)).mp c; exact c
    obtain rfl : k = 6 := by omega
    replace g1 : 3 ≤ st.length := g1
    have e : movP (105 + 6) st alt = some (cpN st (3 - 1) 3, alt) := if_neg (show ¬ st.length < 3 by omega)
    rw [e]
    exact mv_358 (n := 3) hd3 (by decide) (by decide) g1 I0 (fun _ q => q)
  · -- 112
    replace c : 105 + k = 112 := by have c := (nI_eq (by omega) (by decide)).mp c; exact c
    obtain rfl : k = 7 := by omega
    replace g1 : 4 ≤ st.length := g1
    have e : movP (105 + 7) st alt = some (cp (cp st 3) 3, alt) := if_neg (show ¬ st.length < 4 by omega)
    have l1 := cp_len st 3
    have l2 := cp_len (cp st 3) 3
    rw [e]
    exact m_cp (k := 3) hd3 I0 (by omega) (by omega) (fun h128 J128 => m_copy (k := 3) hd3 J128 (by omega) (fun _ h131 J131 => OkQ.ok J131 rfl) (fun z h131 J131 => OkQ.big J131 rfl (by show 1000 < (cp (cp st 3) 3).length + alt.length; omega)))
  · -- 113
    replace c : 105 + k = 113 := by have c := (nI_eq (by omega) (by decide)).mp c; exact c
    obtain rfl : k = 8 := by omega
    replace g1 : 6 ≤ st.length := g1
    have e : movP (105 + 8) st alt = some (rl_ (rl_ st 5) 5, alt) := if_neg (show ¬ st.length < 6 by omega)
    rw [e]
    exact m_lf (k := 5) hd1 I0 (by omega) (fun h128 J128 => m_lf (k := 5) hd1 J128 (by rw [rl_len]; omega) (fun h131 J131 => OkQ.ok J131 rfl))
  · -- 114
    replace c : 105 + k = 114 := by have c := (nI_eq (by omega) (by decide)).mp c; exact c
    obtain rfl : k = 9 := by omega
    replace g1 : 4 ≤ st.length := g1
    have e : movP (105 + 9) st alt = some (rl_ (rl_ st 3) 3, alt) := if_neg (show ¬ st.length < 4 by omega)
    rw [e]
    exact m_lf (k := 3) hd1 I0 (by omega) (fun h128 J128 => m_lf (k := 3) hd1 J128 (by rw [rl_len]; omega) (fun h131 J131 => OkQ.ok J131 rfl))
  · -- 115
    replace c : 105 + k = 115 := by have c := (nI_eq (by omega) (by decide)).mp c; exact c
    obtain rfl : k = 10 := by omega
    replace g1 : 1 ≤ st.length := g1
    have e : movP (105 + 10) st alt = some (if isT (tp st 0) = true then cp st 0 else st, alt) := if_neg (show ¬ st.length < 1 by omega)
    rw [e]
    refine (MD_isTrue_spec (k := 0) hd1 H g1).nI (fun x h149 Q => ?_)
    obtain ⟨ex, eh⟩ := Q
    rw [ex, eh]
    refine ⟨fun c1 => OkQ.ok I0 ?_, fun c1 => m_cp (k := 0) hd3 I0 (by omega) (by omega) (fun h153 J153 => OkQ.ok J153 ?_)⟩
    · rw [(bB_0 _).mp c1]
      rfl
    · have : isT (tp st 0) = true := by
        cases q : isT (tp st 0)
        · rw [q] at c1
          exact absurd rfl c1
        · rfl
      rw [if_pos this]
  · -- 116
    replace c : 105 + k = 116 := by have c := (nI_eq (by omega) (by decide)).mp c; exact c
    obtain rfl : k = 11 := by omega
    have e : movP (105 + 11) st alt = some (st ++ [encI st.length], alt) := rfl
    rw [e, H.2.1.1, nI_l (by omega), lZ_n]
    exact m_pn hd3 (by omega) I0 (fun _ h158 J158 => OkQ.ok J158 rfl) (fun z => absurd z (by omega))
  · -- 117
    replace c : 105 + k = 117 := by have c := (nI_eq (by omega) (by decide)).mp c; exact c
    obtain rfl : k = 12 := by omega
    replace g1 : 1 ≤ st.length := g1
    exact fun h123 e123 => OkQ.ok (I0.dr1 (n := 1) g1 e123) (if_neg (show ¬ st.length < 1 by omega))
  · -- 118
    replace c : 105 + k = 118 := by have c := (nI_eq (by omega) (by decide)).mp c; exact c
    obtain rfl : k = 13 := by omega
    replace g1 : 1 ≤ st.length := g1
    exact m_cp (k := 0) hd3 I0 (by omega) (by omega) (fun h153 J153 => OkQ.ok J153 (if_neg (show ¬ st.length < 1 by omega)))
  · -- 119
    replace c : 105 + k = 119 := by have c := (nI_eq (by omega) (by decide)).mp c; exact c
    obtain rfl : k = 14 := by omega
    replace g1 : 2 ≤ st.length := g1
    exact m_lf (k := 1) hd1 I0 (by omega) (fun h168 J168 h171 e171 => OkQ.ok (J168.dr1 (n := 1) (by rw [rl_len]; omega) e171) (if_neg (show ¬ st.length < 2 by omega)))
  · -- 120
    replace c : 105 + k = 120 := by have c := (nI_eq (by omega) (by decide)).mp c; exact c
    obtain rfl : k = 15 := by omega
    replace g1 : 2 ≤ st.length := g1
    exact m_cp (k := 1) hd3 I0 (by omega) (by omega) (fun h153 J153 => OkQ.ok J153 (if_neg (show ¬ st.length < 2 by omega)))
  · -- 121
    replace c : 105 + k = 121 := by have c := (nI_eq (by omega) (by decide)).mp c; exact c
    obtain rfl : k = 16 := by omega
    replace g1 : 2 ≤ st.length := g1
    have hP : movP (105 + 16) st alt = if st.length < 1 ∨ 4 < (tp st 0).length then none else if numI (tp st 0) < 0 ∨ ((dr st 1).length : Int) ≤ numI (tp st 0) then none else some (cp (dr st 1) (numI (tp st 0)).toNat, alt) := rfl
    rw [hP]
    refine m_num (k := 0) (m := 4) hd1 (by decide) I0 (by omega) (fun c2 h181 e181 => ?_) (fun c2 h178 J178 h181 e181 => ?_)
    · have J181 := I0.dr1 (n := 1) (by omega) e181
      have f181 : h181.i 24074 M = 0 := J181.2.1
      rw [if_neg (by omega)]
      have hn := numI_lt c2
      rw [show (256 : Nat) ^ 4 = 2 ^ 32 by decide] at hn
      generalize numI (tp st 0) = a at *
      have ld := dr_len st 1
      have i4 : h181.i 24067 M = nI (dr st 1).length := J181.1.2.1.1
      have za : lZ a < 0 ↔ a < 0 := lZ_lt (b := 0) (by omega) (by decide)
      have la : lZ a < (h181.i 24067 M).toInt64 ↔ a < ((dr st 1).length : Int) := by rw [i4, nI_l (by omega), lZ_n]; exact lZ_lt (by omega) (by omega)
      rw [za, la]
      have jf : ∀ g : AH, g = h181.pi 24074 M 1 → QI h g M Z true (dr st 1) alt := fun g e => by rw [e]; exact J181.fail
      refine ⟨fun q => absurd f181 q, fun _ => ⟨fun c4 h186 e186 => OkQ.no (jf _ e186) (by rw [if_pos (Or.inl c4)]), fun c4 => ⟨fun c5 => ⟨fun q => absurd rfl q, fun _ => ?_⟩, fun c5 h193 e193 => OkQ.no (jf _ e193) (by rw [if_pos (Or.inr (by omega))])⟩⟩⟩
      rw [if_neg (by omega)]
      obtain ⟨m, hm⟩ : ∃ m : Nat, a = m := ⟨a.toNat, by omega⟩
      subst hm
      rw [← lZ_n, lN_i]
      exact m_cp hd3 J181 (by omega) (by omega) (fun h3 J3 => OkQ.ok J3 rfl)
    · have J181 := J178.dr1 (n := 1) (by omega) e181
      have f181 : h181.i 24074 M = 1 := J181.2.1
      refine ⟨fun q h184 e184 => OkQ.no (st := dr st 1) (alt := alt) (by rw [e184]; exact J181.fail) (by rw [if_pos (Or.inr c2)]), fun q => absurd (f181.symm.trans q) (by decide)⟩
  · -- 122
    replace c : 105 + k = 122 := by have c := (nI_eq (by omega) (by decide)).mp c; exact c
    obtain rfl : k = 17 := by omega
    replace g1 : 2 ≤ st.length := g1
    have hP : movP (105 + 17) st alt = if st.length < 1 ∨ 4 < (tp st 0).length then none else if numI (tp st 0) < 0 ∨ ((dr st 1).length : Int) ≤ numI (tp st 0) then none else some (rl_ (dr st 1) (numI (tp st 0)).toNat, alt) := rfl
    rw [hP]
    refine m_num (k := 0) (m := 4) hd1 (by decide) I0 (by omega) (fun c2 h181 e181 => ?_) (fun c2 h178 J178 h181 e181 => ?_)
    · have J181 := I0.dr1 (n := 1) (by omega) e181
      have f181 : h181.i 24074 M = 0 := J181.2.1
      rw [if_neg (by omega)]
      have hn := numI_lt c2
      rw [show (256 : Nat) ^ 4 = 2 ^ 32 by decide] at hn
      generalize numI (tp st 0) = a at *
      have ld := dr_len st 1
      have i4 : h181.i 24067 M = nI (dr st 1).length := J181.1.2.1.1
      have za : lZ a < 0 ↔ a < 0 := lZ_lt (b := 0) (by omega) (by decide)
      have la : lZ a < (h181.i 24067 M).toInt64 ↔ a < ((dr st 1).length : Int) := by rw [i4, nI_l (by omega), lZ_n]; exact lZ_lt (by omega) (by omega)
      rw [za, la]
      have jf : ∀ g : AH, g = h181.pi 24074 M 1 → QI h g M Z true (dr st 1) alt := fun g e => by rw [e]; exact J181.fail
      refine ⟨fun q => absurd f181 q, fun _ => ⟨fun c4 h186 e186 => OkQ.no (jf _ e186) (by rw [if_pos (Or.inl c4)]), fun c4 => ⟨fun c5 => ⟨fun _ => ?_, fun q => absurd q (by decide)⟩, fun c5 h193 e193 => OkQ.no (jf _ e193) (by rw [if_pos (Or.inr (by omega))])⟩⟩⟩
      rw [if_neg (by omega)]
      obtain ⟨m, hm⟩ : ∃ m : Nat, a = m := ⟨a.toNat, by omega⟩
      subst hm
      rw [← lZ_n, lN_i]
      exact m_lf hd1 J181 (by omega) (fun h3 J3 => OkQ.ok J3 rfl)
    · have J181 := J178.dr1 (n := 1) (by omega) e181
      have f181 : h181.i 24074 M = 1 := J181.2.1
      refine ⟨fun q h184 e184 => OkQ.no (st := dr st 1) (alt := alt) (by rw [e184]; exact J181.fail) (by rw [if_pos (Or.inr c2)]), fun q => absurd (f181.symm.trans q) (by decide)⟩
  · -- 123
    replace c : 105 + k = 123 := by have c := (nI_eq (by omega) (by decide)).mp c; exact c
    obtain rfl : k = 18 := by omega
    replace g1 : 3 ≤ st.length := g1
    exact m_lf (k := 2) hd1 I0 (by omega) (fun h168 J168 => OkQ.ok J168 (if_neg (show ¬ st.length < 3 by omega)))
  · -- 124
    replace c : 105 + k = 124 := by have c := (nI_eq (by omega) (by decide)).mp c; exact c
    obtain rfl : k = 19 := by omega
    replace g1 : 2 ≤ st.length := g1
    exact m_lf (k := 1) hd1 I0 (by omega) (fun h168 J168 => OkQ.ok J168 (if_neg (show ¬ st.length < 2 by omega)))
  · -- 125
    have z : ∀ n, 105 + k = n → nI (105 + k) = nI n := fun n e => by rw [e]
    obtain rfl : k = 20 := by
      rcases Nat.lt_or_ge k 20 with q | q
      · exfalso
        obtain ⟨c5, c7, c8, c9, c10, c11, c12, c13, c14, c15, c16, c17, c18, c19, c20, c21, c22, c23, c24⟩ := c
        have y : 105 + k = 105 ∨ 105 + k = 107 ∨ 105 + k = 108 ∨ 105 + k = 109 ∨ 105 + k = 110 ∨ 105 + k = 111 ∨ 105 + k = 112 ∨ 105 + k = 113 ∨ 105 + k = 114 ∨ 105 + k = 115 ∨ 105 + k = 116 ∨ 105 + k = 117 ∨ 105 + k = 118 ∨ 105 + k = 119 ∨ 105 + k = 120 ∨ 105 + k = 121 ∨ 105 + k = 122 ∨ 105 + k = 123 ∨ 105 + k = 124 := by
          clear c5 c7 c8 c9 c10 c11 c12 c13 c14 c15 c16 c17 c18 c19 c20 c21 c22 c23 c24
          omega
        rcases y with y | y | y | y | y | y | y | y | y | y | y | y | y | y | y | y | y | y | y
        · exact c5 (z _ y)
        · exact c7 (z _ y)
        · exact c8 (z _ y)
        · exact c9 (z _ y)
        · exact c10 (z _ y)
        · exact c11 (z _ y)
        · exact c12 (z _ y)
        · exact c13 (z _ y)
        · exact c14 (z _ y)
        · exact c15 (z _ y)
        · exact c16 (z _ y)
        · exact c17 (z _ y)
        · exact c18 (z _ y)
        · exact c19 (z _ y)
        · exact c20 (z _ y)
        · exact c21 (z _ y)
        · exact c22 (z _ y)
        · exact c23 (z _ y)
        · exact c24 (z _ y)
      · omega
    replace g1 : 2 ≤ st.length := g1
    have e : movP (105 + 20) st alt = some (cp (rl_ st 1) 1, alt) := if_neg (show ¬ st.length < 2 by omega)
    have l1 := cp_len st 0
    rw [e, ← tuck_eq g1]
    exact m_cp (k := 0) hd3 I0 (by omega) (by omega) (fun h221 J221 => m_lf (k := 2) hd1 J221 (by omega) (fun h224 J224 => m_lf (k := 2) hd1 J224 (by rw [rl_len]; omega) (fun h227 J227 => OkQ.ok J227 rfl)))
end MMove

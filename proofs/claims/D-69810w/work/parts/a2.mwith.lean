/-! the reference: the code without pushes of an element -/
set_option maxRecDepth 100000
theorem subF (c : List Int32) : sub_ c 0 c.length = c := ext_getD (z := 0) (sub_len _ _ _) (fun i hi => by
  rw [sub_len] at hi
  rw [sub_getD hi, Nat.zero_add])
theorem getD_app (a b : List Int32) (j : Nat) : (a ++ b).getD j 0 = if j < a.length then a.getD j 0 else b.getD (j - a.length) 0 := by
  rw [List.getD_eq_getElem?_getD, List.getElem?_append]
  split
  · rw [List.getD_eq_getElem?_getD]
  · rw [List.getD_eq_getElem?_getD]
theorem sub_app (C : List Int32) (i a b : Nat) : sub_ C i a ++ sub_ C (i + a) b = sub_ C i (a + b) := by
  refine ext_getD (z := 0) (by rw [List.length_append, sub_len, sub_len, sub_len]) (fun j hj => ?_)
  rw [List.length_append, sub_len, sub_len] at hj
  rw [sub_getD hj]
  by_cases c : j < a
  · rw [getD_app, sub_len, if_pos c, sub_getD c]
  · rw [getD_app, sub_len, if_neg c, sub_getD (by omega)]
    congr 1
    omega
/-- too long a push is never met -/
theorem clnF_long {C g : List Int32} {n : Nat} (hg : 255 < g.length) : ∀ k i, i ≤ n → n ≤ i + k → clnF C n g k i = sub_ C i (n - i)
  | 0, i, h1, h2 => by
    rw [show n - i = 0 by omega]
    rfl
  | k + 1, i, h1, h2 => by
    have nm : metB C n i g = false := by
      unfold metB
      have := ub_lt C (i + 1)
      rw [if_neg (show ¬ g.length < 76 by omega), decide_eq_false (show ¬ ub C (i + 1) = g.length by omega), Bool.and_false, Bool.and_false, Bool.false_and]
    unfold clnF
    by_cases c : n ≤ i
    · rw [if_pos c, show n - i = 0 by omega]
      rfl
    · have hp := pieceP_le (C := C) (n := n) (i := i) (by omega)
      rw [if_neg c, if_neg (by rw [nm]; decide), clnF_long hg k _ hp.2 (by omega), sub_app]
      congr 1
      omega
theorem clnP_long {c g : List Int32} (hg : 255 < g.length) : clnP c c.length g = c := by
  unfold clnP
  rw [clnF_long hg _ _ (Nat.zero_le _) (by omega), Nat.sub_zero, subF]
/-- from i on, with fuel enough -/
def clnT (C : List Int32) (n : Nat) (g : List Int32) (i : Nat) : List Int32 := clnF C n g n i
theorem clnT_end {C g : List Int32} {n i : Nat} (h : n ≤ i) : clnT C n g i = [] := by
  unfold clnT
  cases n with
  | zero => rfl
  | succ n =>
    unfold clnF
    rw [if_pos h]
theorem clnT_fuel {C g : List Int32} {n i k : Nat} (h : n ≤ i + k) (hk : k ≤ n) : clnF C n g k i = clnT C n g i := by
  unfold clnT
  have := clnF_more C n g k i (n - k) h
  rw [show k + (n - k) = n by omega] at this
  exact this.symm
theorem clnT_step {C g : List Int32} {n i : Nat} (h : i < n) : clnT C n g i = if metB C n i g = true then clnT C n g (i + hdG g + g.length) else sub_ C i (pieceP C n i) ++ clnT C n g (i + pieceP C n i) := by
  have hh := hdG_pos g
  have hp := pieceP_le (C := C) (n := n) (i := i) h
  conv => lhs; unfold clnT
  obtain ⟨k, rfl⟩ : ∃ k, n = k + 1 := ⟨n - 1, by omega⟩
  rw [← clnT_fuel (C := C) (g := g) (i := i + hdG g + g.length) (n := k + 1) (k := k) (by omega) (by omega), ← clnT_fuel (C := C) (g := g) (i := i + pieceP C (k + 1) i) (n := k + 1) (k := k) (by omega) (by omega)]
  conv => lhs; unfold clnF
  rw [if_neg (by omega)]
section With
variable {G : Gx} {d : Nat} {h h0 : AH} {M cu le ga : Nat} {c g : List Int32}
theorem wo_162 {v : Int32} {W acc : List Int32} {i p : Nat} (H : CutAt h M cu le c) (wf : WF G h) (lW : W.length = 1700) (hp : i + p ≤ c.length) (ha : acc.length + p ≤ 1700)
    (k : Aw G mX24_without (d + 1) 0 h0 (kV (fun h' => CutAt h' M le cu (clnP c c.length g) ∧ CuF h h' M cu le) nE) 26 [vR M, vR ga, vI (nI g.length), vI (nI (hdG g)), vI (nI (i + p)), vI (nI (acc.length + p)), vU, vU] [] (cH h M le (putB W acc.length p (fun j => c.getD (i + j) 0)) v)) : ∀ (j : Nat) (_ : Unit), j ≤ p → True →
    Aw G mX24_without (d + 1) 0 h0 (kV (fun h' => CutAt h' M le cu (clnP c c.length g) ∧ CuF h h' M cu le) nE) 162 [vR M, vR ga, vI (nI g.length), vI (nI (hdG g)), vI (nI (i + j)), vI (nI (acc.length + j)), vU, vI (nI (i + p))] [] (cH h M le (putB W acc.length j (fun j => c.getD (i + j) 0)) v) := by
  obtain ⟨k0, r1, r2, ne, kc, kl, lc, ll, i9, cl, qc⟩ := H
  have B := wf.isB kc
  refine loop_uc (n := p) (P := fun j (_ : Unit) => Aw G mX24_without (d + 1) 0 h0 (kV (fun h' => CutAt h' M le cu (clnP c c.length g) ∧ CuF h h' M cu le) nE) 162 [vR M, vR ga, vI (nI g.length), vI (nI (hdG g)), vI (nI (i + j)), vI (nI (acc.length + j)), vU, vI (nI (i + p))] [] (cH h M le (putB W acc.length j (fun j => c.getD (i + j) 0)) v)) (fun _ _ => True) (fun j _ hj _ ih => ?_)
  refine sX24_without_162 _ M ga (nI g.length) (nI (hdG g)) (nI (i + j)) (nI (acc.length + j)) (nI (i + p)) (pk_le (i + p) (i + j) (fun z => ?_) (fun z => ⟨k0, fun r4 e4 r5 e5 => ?_⟩))
  · obtain rfl : j = p := by omega
    exact k
  · have e4' : r4 = le := e4.trans r2
    have e5' : r5 = cu := e5.trans r1
    subst e4'
    subst e5'
    have gi : (h.ai r5).getD (i + j) 0 = c.getD (i + j) 0 := qc (i + j) (by omega)
    rw [cH_c ne, cH_l, putB_len, lW, lc, pk_cl (i + j) rfl (by omega), pk_cl (acc.length + j) rfl (by omega), B, gi, nI_1, nI_1]
    refine ⟨kc, pk_in (i + j) 1700 (by omega), kl, pk_in (acc.length + j) 1700 (by omega), fun h10 e10 => ?_⟩
    have e10' : h10 = cH h M r4 (putB W acc.length (j + 1) (fun j => c.getD (i + j) 0)) v := by
      rw [e10, ← putB_succ (L := W) (off := acc.length) (n := j) (g := fun j => c.getD (i + j) 0) (x := c.getD (i + j) 0) (by omega) rfl]
      exact cH_w
    rw [e10']
    exact ih (by omega) () trivial
/-- no push of the element stands here -/
theorem wo_116 {v : Int32} {W acc : List Int32} {i : Nat} (hd : 2 ≤ d) (H : CutAt h M cu le c) (wf : WF G h) (kg : h.kd ga = 101) (ng : ga ≠ le) (lg : g.length ≤ (h.ai ga).length) (lg2 : (h.ai ga).length < 2 ^ 20) (qg : eqN g.length (h.ai ga) g) (g255 : g.length ≤ 255) (lW : W.length = 1700) (hi : i < c.length) (ha : acc.length ≤ i)
    (k : ∀ v', Aw G mX24_without (d + 1) 0 h0 (kV (fun h' => CutAt h' M le cu (clnP c c.length g) ∧ CuF h h' M cu le) nE) 26 [vR M, vR ga, vI (nI g.length), vI (nI (hdG g)), vI (nI (i + pieceP c c.length i)), vI (nI (acc.length + pieceP c c.length i)), vU, vU] [] (cH h M le (putB W acc.length (pieceP c c.length i) (fun j => c.getD (i + j) 0)) v')) :
    Aw G mX24_without (d + 1) 0 h0 (kV (fun h' => CutAt h' M le cu (clnP c c.length g) ∧ CuF h h' M cu le) nE) 116 [vR M, vR ga, vI (nI g.length), vI (nI (hdG g)), vI (nI i), vI (nI acc.length), vU, vU] [] (cH h M le W v) := by
  have H' := H
  obtain ⟨k0, r1, r2, ne, kc, kl, lc, ll, i9, cl, qc⟩ := H
  refine sX24_without_116 _ M ga (nI g.length) (nI (hdG g)) (nI i) (nI acc.length) ⟨fun _ => ⟨k0, fun r3 e3 => ?_⟩, fun w => absurd rfl w⟩
  have e3' : r3 = cu := e3.trans r1
  subst e3'
  rw [cH_i (by decide), i9]
  refine k_behind hd H' hi (fun v' => ?_)
  have pl := pieceP_le (C := c) (n := c.length) (i := i) hi
  have go : ∀ x : Int32, x = nI (i + pieceP c c.length i) → Aw G mX24_without (d + 1) 0 h0 (kV (fun h' => CutAt h' M le r3 (clnP c c.length g) ∧ CuF h h' M r3 le) nE) 162 [vR M, vR ga, vI (nI g.length), vI (nI (hdG g)), vI (nI i), vI (nI acc.length), vU, vI x] [] (cH h M le W v') := fun x hx => by
    subst hx
    have R := wo_162 (acc := acc) (v := v') H' wf lW pl.2 (by omega) (k v') 0 () (Nat.zero_le _) trivial
    rw [putB_0] at R
    exact R
  have pe : pieceP c c.length i = if opLen c i c.length = 0 then c.length - i else opLen c i c.length := rfl
  by_cases o0 : opLen c i c.length = 0
  · rw [if_pos o0] at pe ⊢
    exact ⟨fun w => absurd w (by decide), fun _ => go _ (by rw [pe]; congr 1; omega)⟩
  · rw [if_neg o0] at pe ⊢
    exact pk_le 0 (i + opLen c i c.length) (fun _ => go _ (by rw [pe])) (fun w => absurd w (by omega))
/-- its bytes are compared -/
theorem wo_95 {v : Int32} {W : List Int32} {i o : Nat} (hd : 2 ≤ d) (H : CutAt h M cu le c) (wf : WF G h) (kg : h.kd ga = 101) (ng : ga ≠ le) (lg : g.length ≤ (h.ai ga).length) (lg2 : (h.ai ga).length < 2 ^ 20) (qg : eqN g.length (h.ai ga) g) (g255 : g.length ≤ 255) (hi : i + hdG g + g.length ≤ c.length)
    (yes : sub_ c (i + hdG g) g.length = g → Aw G mX24_without (d + 1) 0 h0 (kV (fun h' => CutAt h' M le cu (clnP c c.length g) ∧ CuF h h' M cu le) nE) 26 [vR M, vR ga, vI (nI g.length), vI (nI (hdG g)), vI (nI (i + hdG g + g.length)), vI (nI o), vU, vU] [] (cH h M le W v))
    (no : ¬ sub_ c (i + hdG g) g.length = g → Aw G mX24_without (d + 1) 0 h0 (kV (fun h' => CutAt h' M le cu (clnP c c.length g) ∧ CuF h h' M cu le) nE) 116 [vR M, vR ga, vI (nI g.length), vI (nI (hdG g)), vI (nI i), vI (nI o), vU, vU] [] (cH h M le W v)) :
    Aw G mX24_without (d + 1) 0 h0 (kV (fun h' => CutAt h' M le cu (clnP c c.length g) ∧ CuF h h' M cu le) nE) 95 [vR M, vR ga, vI (nI g.length), vI (nI (hdG g)), vI (nI i), vI (nI o), vU, vU] [] (cH h M le W v) := by
  obtain ⟨k0, r1, r2, ne, kc, kl, lc, ll, i9, cl, qc⟩ := H
  refine sX24_without_95 _ M ga (nI g.length) (nI (hdG g)) (nI i) (nI o) ⟨k0, fun r3 e3 => ?_⟩
  have e3' : r3 = cu := e3.trans r1
  subst e3'
  rw [nI_add]
  have a1 : (cH h M le W v).ai r3 = h.ai r3 := cH_c ne
  have a2 : (cH h M le W v).ai ga = h.ai ga := cH_c ng
  refine (MD_alike_spec (h := cH h M le W v) (k := 0) (by omega) kc kg (by rw [a1]; omega) (by rw [a2]; omega) (by rw [a1]; omega) (by rw [a2]; omega)).nI (fun x3 h4 Q => ?_)
  obtain ⟨ex, eh⟩ := Q
  rw [eh, ex, a1, a2, sub_cg qc (by omega), sub_cg qg (by omega), subF]
  clear eh ex
  refine ⟨fun w => no (of_decide_eq_false ((bB_0 _).mp w)), fun w => ⟨fun w2 => absurd w2 (by decide), fun _ => ?_⟩⟩
  rw [nI_add, nI_add, ← Nat.add_assoc]
  refine yes ?_
  by_cases z : sub_ c (i + hdG g) g.length = g
  · exact z
  · rw [decide_eq_false z] at w
    exact absurd rfl w
theorem MD_without_spec (hd : 3 ≤ d) (H : CutAt h M cu le c) (kg : h.kd ga = 101) (ng : ga ≠ le) (lg : g.length ≤ (h.ai ga).length) (lg2 : (h.ai ga).length < 2 ^ 20) (qg : eqN g.length (h.ai ga) g) (g255 : g.length ≤ 255) : Cw G mX24_without d 0 [vR M, vR ga, vI (nI g.length)] h (kV (fun h' => CutAt h' M le cu (clnP c c.length g) ∧ CuF h h' M cu le) nE) := by
  obtain ⟨d, rfl⟩ : ∃ d', d = d' + 1 := ⟨d - 1, by omega⟩
  refine eX24_without h M ga (nI g.length) (fun wf => sX24_without_0 h M ga (nI g.length) (pk_le g.length 255 (fun _ => ?_) (fun w => absurd w (by omega))))
  have H' := H
  obtain ⟨k0, r1, r2, ne, kc, kl, lc, ll, i9, cl, qc⟩ := H
  have hh := hdG_pos g
  have cl0 : clnT c c.length g 0 = clnP c c.length g := rfl
  have key := loop_wf (α := Nat × List Int32 × List Int32 × Int32) (P := fun s => Aw G mX24_without (d + 1) 0 h (kV (fun h' => CutAt h' M le cu (clnP c c.length g) ∧ CuF h h' M cu le) nE) 26 [vR M, vR ga, vI (nI g.length), vI (nI (hdG g)), vI (nI s.1), vI (nI s.2.2.1.length), vU, vU] [] (cH h M le s.2.1 s.2.2.2))
    (fun s => c.length - s.1) (fun s => s.1 ≤ c.length ∧ s.2.2.1.length ≤ s.1 ∧ s.2.1.length = 1700 ∧ sub_ s.2.1 0 s.2.2.1.length = s.2.2.1 ∧ s.2.2.1 ++ clnT c c.length g s.1 = clnP c c.length g) (fun s hI ih => ?_) (0, h.ai le, [], h.i 24063 M) ⟨Nat.zero_le _, Nat.le_refl _, ll, rfl, rfl⟩
  · dsimp only at key
    rw [cH_self H'] at key
    have hd2 : hdG g = if g.length < 76 then 1 else 2 := rfl
    refine pk_le 76 g.length (fun w => ?_) (fun w => ?_)
    · rw [if_neg (by omega)] at hd2
      rw [hd2] at key
      exact key
    · rw [if_pos (by omega)] at hd2
      rw [hd2] at key
      exact key
  · obtain ⟨i, W, acc, v⟩ := s
    dsimp only at hI ih ⊢
    obtain ⟨h1, h2, lW, sW, eU⟩ := hI
    refine sX24_without_26 _ M ga (nI g.length) (nI (hdG g)) (nI i) (nI acc.length) ⟨k0, ?_⟩
    rw [cH_i (by decide), i9]
    refine pk_le c.length i (fun z r3 e3 r4 e4 h5 e5 h7 e7 h9 e9 => ?_) (fun z => ?_)
    · have e3' : r3 = cu := e3.trans r1
      have e4' : r4 = le := e4.trans r2
      subst e3'
      subst e4'
      rw [clnT_end z, List.append_nil] at eU
      rw [← eU]
      exact cut_end H' lW sW (by omega) e5 e7 e9
    · have pl := pieceP_le (C := c) (n := c.length) (i := i) (by omega)
      have st := clnT_step (C := c) (g := g) (n := c.length) (i := i) (by omega)
      have hu := ub_lt c i
      have hu1 := ub_lt c (i + 1)
      have no : metB c c.length i g = false → Aw G mX24_without (d + 1) 0 h (kV (fun h' => CutAt h' M le cu (clnP c c.length g) ∧ CuF h h' M cu le) nE) 116 [vR M, vR ga, vI (nI g.length), vI (nI (hdG g)), vI (nI i), vI (nI acc.length), vU, vU] [] (cH h M le W v) := fun w => by
        rw [if_neg (by rw [w]; decide)] at st
        refine wo_116 (by omega) H' wf kg ng lg lg2 qg g255 lW (by omega) h2 (fun v' => ?_)
        have e1 : (acc ++ sub_ c i (pieceP c c.length i)).length = acc.length + pieceP c c.length i := by rw [List.length_append, sub_len]
        have J := ih (i + pieceP c c.length i, putB W acc.length (pieceP c c.length i) (fun j => c.getD (i + j) 0), acc ++ sub_ c i (pieceP c c.length i), v') ⟨pl.2, by dsimp only; omega, by rw [putB_len]; exact lW, by
          dsimp only
          rw [e1]
          exact sub_put sW (by omega) rfl, by
          dsimp only
          rw [List.append_assoc, ← st]
          exact eU⟩ (by dsimp only; omega)
        dsimp only at J
        rw [e1] at J
        exact J
      have mt : ∀ {P : Prop}, ¬ P → (metB c c.length i g = true → P) → metB c c.length i g = false := fun hp f => by
        cases q : metB c c.length i g with
        | false => rfl
        | true => exact absurd (f q) hp
      have m1 : metB c c.length i g = true → i + hdG g + g.length ≤ c.length ∧ (if g.length < 76 then ub c i = g.length else ub c i = 76 ∧ ub c (i + 1) = g.length) ∧ sub_ c (i + hdG g) g.length = g := fun q => by
        unfold metB sameB at q
        rw [Bool.and_eq_true, Bool.and_eq_true, decide_eq_true_eq, decide_eq_true_eq] at q
        refine ⟨q.1.1, ?_, q.2⟩
        by_cases q2 : g.length < 76
        · rw [if_pos q2] at q ⊢
          exact of_decide_eq_true q.1.2
        · rw [if_neg q2] at q ⊢
          have := (Bool.and_eq_true _ _).mp q.1.2
          exact ⟨of_decide_eq_true this.1, of_decide_eq_true this.2⟩
      have m2 : i + hdG g + g.length ≤ c.length → (if g.length < 76 then ub c i = g.length else ub c i = 76 ∧ ub c (i + 1) = g.length) → sub_ c (i + hdG g) g.length = g → metB c c.length i g = true := fun q1 q2 q3 => by
        unfold metB sameB
        rw [Bool.and_eq_true, Bool.and_eq_true, decide_eq_true_eq, decide_eq_true_eq]
        refine ⟨⟨q1, ?_⟩, q3⟩
        by_cases q4 : g.length < 76
        · rw [if_pos q4] at q2 ⊢
          exact decide_eq_true q2
        · rw [if_neg q4] at q2 ⊢
          rw [Bool.and_eq_true]
          exact ⟨decide_eq_true q2.1, decide_eq_true q2.2⟩
      rw [nI_add, nI_add]
      refine pk_lt c.length (i + hdG g + g.length) (fun w => no (mt (P := i + hdG g + g.length ≤ c.length) (by omega) (fun q => (m1 q).1))) (fun w r11 e11 => ?_)
      have e11' : r11 = cu := e11.trans r1
      subst e11'
      have to95 : (if g.length < 76 then ub c i = g.length else ub c i = 76 ∧ ub c (i + 1) = g.length) → Aw G mX24_without (d + 1) 0 h (kV (fun h' => CutAt h' M le r11 (clnP c c.length g) ∧ CuF h h' M r11 le) nE) 95 [vR M, vR ga, vI (nI g.length), vI (nI (hdG g)), vI (nI i), vI (nI acc.length), vU, vU] [] (cH h M le W v) := fun q => by
        refine wo_95 (by omega) H' wf kg ng lg lg2 qg g255 w (fun q3 => ?_) (fun q3 => no (mt q3 (fun z2 => (m1 z2).2.2)))
        rw [if_pos (m2 w q q3)] at st
        exact ih (i + hdG g + g.length, W, acc, v) ⟨w, by dsimp only; omega, lW, sW, by
          dsimp only
          rw [← st]
          exact eU⟩ (by dsimp only; omega)
      rw [cH_c ne, lc, nI_1, pk_cl i rfl (by omega), pk_cl (i + 1) rfl (by omega), and_ub, and_ub, qc.ub (show i < c.length by omega)]
      refine ⟨kc, pk_in i 1700 (by omega), ?_⟩
      have hd2 : hdG g = if g.length < 76 then 1 else 2 := rfl
      refine pk_eq' (hdG g) 1 (fun w1 => ?_) (fun w1 => ?_)
      · have g76 : ¬ g.length < 76 := fun q => w1 (by rw [hd2, if_pos q])
        rw [if_neg g76] at to95 m1
        refine pk_eq' (ub c i) 76 (fun w2 => no (mt w2 (fun q => (m1 q).2.1.1))) (fun w2 => pk_eq (hdG g) 1 (fun w3 => absurd w3 w1) (fun _ => ⟨pk_in (i + 1) 1700 (by omega), ?_⟩))
        rw [qc.ub (show i + 1 < c.length by omega)]
        exact pk_eq' (ub c (i + 1)) g.length (fun w3 => no (mt w3 (fun q => (m1 q).2.1.2))) (fun w3 => to95 ⟨w2, w3⟩)
      · have g76 : g.length < 76 := by
          by_cases q : g.length < 76
          · exact q
          · rw [if_neg q] at hd2
            omega
        rw [if_pos g76] at to95 m1
        exact pk_eq' (ub c i) g.length (fun w2 => no (mt w2 (fun q => (m1 q).2.1))) (fun w2 => pk_eq (hdG g) 1 (fun _ => to95 w2) (fun w3 => absurd w1 w3))
end With

/-! the reference: rows that are alike, the code that is signed -/
set_option maxRecDepth 100000
section Alike
variable {G : Gx} {d : Nat} {h : AH} {x y i k n : Nat}
theorem MD_alike_spec (hd : 1 ≤ d) (kx : h.kd x = 101) (ky : h.kd y = 101) (lx : i + n ≤ (h.ai x).length) (ly : k + n ≤ (h.ai y).length) (lx2 : (h.ai x).length < 2 ^ 31) (ly2 : (h.ai y).length < 2 ^ 31) :
    Cw G mX24_alike d 0 [vR x, vI (nI i), vR y, vI (nI k), vI (nI n)] h (kI (fun r h' => r = bB (decide (sub_ (h.ai x) i n = sub_ (h.ai y) k n)) ∧ h' = h) nE) := by
  obtain ⟨d, rfl⟩ : ∃ d', d = d' + 1 := ⟨d - 1, by omega⟩
  refine eX24_alike h x (nI i) y (nI k) (nI n) (fun _ => sX24_alike_0 h x (nI i) y (nI k) (nI n) ?_)
  refine loop_uc (n := n) (P := fun j (_ : Unit) => Aw G mX24_alike (d + 1) 0 h (kI (fun r h' => r = bB (decide (sub_ (h.ai x) i n = sub_ (h.ai y) k n)) ∧ h' = h) nE) 3 [vR x, vI (nI i), vR y, vI (nI k), vI (nI n), vI (nI j)] [] h)
    (fun j _ => ∀ m, m < j → (h.ai x).getD (i + m) 0 = (h.ai y).getD (k + m) 0) (fun j u hj hI ih => ?_) 0 () (Nat.zero_le _) (fun m hm => absurd hm (Nat.not_lt_zero _))
  refine sX24_alike_3 h x (nI i) y (nI k) (nI n) (nI j) (pk_le n j (fun z => ?_) (fun z => ?_))
  · obtain rfl : j = n := by omega
    have : sub_ (h.ai x) i j = sub_ (h.ai y) k j := by
      refine ext_getD (z := 0) (by rw [sub_len, sub_len]) (fun m hm => ?_)
      rw [sub_len] at hm
      rw [sub_getD hm, sub_getD hm]
      exact hI m hm
    exact ⟨by rw [decide_eq_true this]; rfl, rfl⟩
  · rw [nI_add, nI_add, nI_1, pk_cl (i + j) rfl (by omega), pk_cl (k + j) rfl (by omega)]
    refine ⟨kx, pk_in (i + j) _ (by omega), ky, pk_in (k + j) _ (by omega), fun e => ih (by omega) () (fun m hm => ?_), fun e => ⟨?_, rfl⟩⟩
    · by_cases c : m = j
      · rw [c]; exact e
      · exact hI m (by omega)
    · have : ¬ sub_ (h.ai x) i n = sub_ (h.ai y) k n := fun z2 => e (by
        have := congrArg (fun l => l.getD j 0) z2
        try dsimp only at this
        rw [sub_getD (by omega), sub_getD (by omega)] at this
        exact this)
      rw [decide_eq_false this]; rfl
end Alike
/-- the row of code that is cut, of these bytes, and the spare row -/
def CutAt (h : AH) (M cu le : Nat) (c : List Int32) : Prop := h.kd M = 24 ∧ h.r 24087 M = cu ∧ h.r 24088 M = le ∧ cu ≠ le ∧ h.kd cu = 101 ∧ h.kd le = 101 ∧ (h.ai cu).length = 1700 ∧ (h.ai le).length = 1700 ∧ h.i 24089 M = nI c.length ∧ c.length ≤ 1600 ∧ eqN c.length (h.ai cu) c
def cH (h : AH) (M le : Nat) (W : List Int32) (v : Int32) : AH := (h.wi le W).pi 24063 M v
/-- what it may change -/
def CuF (h h' : AH) (M c1 c2 : Nat) : Prop := Same (fun y => y = M ∨ y = c1 ∨ y = c2) h h' ∧ h'.z = h.z ∧ h'.s = h.s ∧ Kp [24063, 24087, 24088, 24089] M h h'
theorem CuF.rf {h : AH} {M c1 c2 : Nat} : CuF h h M c1 c2 := ⟨Same.rf, rfl, rfl, Kp.rf⟩
theorem CuF.trans {h h1 h2 : AH} {M c1 c2 : Nat} (a : CuF h h1 M c1 c2) (b : CuF h1 h2 M c1 c2) : CuF h h2 M c1 c2 := ⟨a.1.trans b.1 (fun _ _ m => m), b.2.1.trans a.2.1, b.2.2.1.trans a.2.2.1, a.2.2.2.trans b.2.2.2 (fun _ q => q)⟩
section Cut
variable {G : Gx} {d : Nat} {h h0 : AH} {M cu le : Nat} {c g : List Int32} {F : AH → Prop}
theorem cH_i {W : List Int32} {v : Int32} {k x : Nat} (hk : k ≠ 24063) : (cH h M le W v).i k x = h.i k x := by
  unfold cH
  rw [AH.i_pi, if_neg (fun q => hk q.1)]
  rfl
theorem cH_c {W : List Int32} {v : Int32} {x : Nat} (hx : x ≠ le) : (cH h M le W v).ai x = h.ai x := AH.ai_wiN hx
theorem cH_l {W : List Int32} {v : Int32} : (cH h M le W v).ai le = W := AH.ai_wiS ..
theorem cH_pi {W : List Int32} {v v' : Int32} : (cH h M le W v).pi 24063 M v' = cH h M le W v' := AH.pi_pi ..
theorem cH_w {W V : List Int32} {v : Int32} : (cH h M le W v).wi le V = cH h M le V v := by
  show ((h.wi le W).wi le V).pi 24063 M v = _
  rw [AH.wi_wi]
  rfl
theorem cH_self (H : CutAt h M cu le c) : cH h M le (h.ai le) (h.i 24063 M) = h := by
  unfold cH
  rw [AH.wi_self]
  exact AH.pi_self h rfl
/-- the rows are exchanged -/
theorem cut_end {W : List Int32} {v : Int32} {z : List Int32} {h5 h7 h9 : AH} (H : CutAt h M cu le c) (lW : W.length = 1700) (hz : sub_ W 0 z.length = z) (zl : z.length ≤ 1600) (e5 : h5 = (cH h M le W v).pr 24087 M le) (e7 : h7 = h5.pr 24088 M cu) (e9 : h9 = h7.pi 24089 M (nI z.length)) : CutAt h9 M le cu z ∧ CuF h h9 M cu le := by
  obtain ⟨k0, r1, r2, ne, kc, kl, lc, ll, i9, cl, qc⟩ := H
  have al : h9.ai le = W := by rw [e9, e7, e5]; exact cH_l (h := h) (M := M) (v := v)
  have ac : h9.ai cu = h.ai cu := by rw [e9, e7, e5]; exact cH_c (M := M) (W := W) (v := v) ne
  refine ⟨⟨by rw [e9, e7, e5]; exact k0, ?_, ?_, fun q => ne q.symm, by rw [e9, e7, e5]; exact kl, by rw [e9, e7, e5]; exact kc, by rw [al]; exact lW, by rw [ac]; exact lc, ?_, zl, fun i hi => ?_⟩, ?_, by rw [e9, e7, e5]; rfl, by rw [e9, e7, e5]; rfl, ?_⟩
  · rw [e9, e7, e5]
    show ((((cH h M le W v).pr 24087 M le).pr 24088 M cu)).r 24087 M = le
    rw [AH.r_pr, if_neg (fun q => absurd q.1 (by decide)), AH.r_pr, if_pos ⟨rfl, rfl⟩]
  · rw [e9, e7, e5]
    show ((((cH h M le W v).pr 24087 M le).pr 24088 M cu)).r 24088 M = cu
    rw [AH.r_pr, if_pos ⟨rfl, rfl⟩]
  · rw [e9, AH.i_pi, if_pos ⟨rfl, rfl⟩]
  · have g := sub_getD (L := W) (off := 0) hi
    rw [Nat.zero_add, hz] at g
    rw [al]
    exact g.symm
  · have s1 : Same (fun y => y = M ∨ y = cu ∨ y = le) h (cH h M le W v) := (Same.rf.wi W (by rw [lW, ll]) (Or.inl (Or.inr (Or.inr rfl)))).pi _ _ (Or.inl (Or.inl rfl))
    rw [e9, e7, e5]
    exact ((s1.pr _ _ (Or.inl (Or.inl rfl))).pr _ _ (Or.inl (Or.inl rfl))).pi _ _ (Or.inl (Or.inl rfl))
  · have s1 : Kp [24063, 24087, 24088, 24089] M h (cH h M le W v) := (Kp.rf.wi W).pi _ _ (Or.inl (by decide))
    rw [e9, e7, e5]
    exact ((s1.pr _ _ (Or.inl (by decide))).pr _ _ (Or.inl (by decide))).pi _ _ (Or.inl (by decide))
theorem k_behind {W : List Int32} {v : Int32} {i : Nat} {Q : Int32 → AH → Prop} {E : Nat → AH → Prop} (hd : 2 ≤ d) (H : CutAt h M cu le c) (hi : i < c.length)
    (hK : ∀ v', Q (if opLen c i c.length = 0 then -1 else nI (i + opLen c i c.length)) (cH h M le W v') ) : Cw G mX24_behind d 0 [vR M, vR cu, vI (nI i), vI (nI c.length)] (cH h M le W v) (kI Q E) := by
  obtain ⟨k0, r1, r2, ne, kc, kl, lc, ll, i9, cl, qc⟩ := H
  refine (MD_behind_spec (h := cH h M le W v) (L := h.ai cu) hd k0 kc (cH_c ne) hi (by omega) (by omega)).nI (fun x h' R => ?_)
  obtain ⟨ex, eh⟩ := R
  rw [ex, eh, opLen_cg qc hi, cH_pi]
  exact hK _
/-- a piece is copied -/
theorem unm_58 {v : Int32} {W acc : List Int32} {i p : Nat} (H : CutAt h M cu le c) (wf : WF G h) (lW : W.length = 1700) (hp : i + p ≤ c.length) (ha : acc.length + p ≤ 1700) 
    (k : Aw G mX24_unmarked (d + 1) 0 h0 (kV F nE) 4 [vR M, vI (nI (i + p)), vI (nI (acc.length + p)), vU, vU] [] (cH h M le (putB W acc.length p (fun j => c.getD (i + j) 0)) v)) : ∀ (j : Nat) (_ : Unit), j ≤ p → True →
    Aw G mX24_unmarked (d + 1) 0 h0 (kV F nE) 58 [vR M, vI (nI (i + j)), vI (nI (acc.length + j)), vI (nI (i + p)), vI 0] [] (cH h M le (putB W acc.length j (fun j => c.getD (i + j) 0)) v) := by
  obtain ⟨k0, r1, r2, ne, kc, kl, lc, ll, i9, cl, qc⟩ := H
  have B := wf.isB kc
  refine loop_uc (n := p) (P := fun j (_ : Unit) => Aw G mX24_unmarked (d + 1) 0 h0 (kV F nE) 58 [vR M, vI (nI (i + j)), vI (nI (acc.length + j)), vI (nI (i + p)), vI 0] [] (cH h M le (putB W acc.length j (fun j => c.getD (i + j) 0)) v)) (fun _ _ => True) (fun j _ hj _ ih => ?_)
  refine sX24_unmarked_58 _ M (nI (i + j)) (nI (acc.length + j)) (nI (i + p)) 0 (pk_le (i + p) (i + j) (fun z => ?_) (fun z => ⟨fun _ => ⟨k0, fun r4 e4 r5 e5 => ?_⟩, fun w => absurd rfl w⟩))
  · obtain rfl : j = p := by omega
    exact k
  · have e4' : r4 = le := e4.trans r2
    have e5' : r5 = cu := e5.trans r1
    subst e4'
    subst e5'
    have gi : (h.ai r5).getD (i + j) 0 = c.getD (i + j) 0 := qc (i + j) (by omega)
    rw [cH_c ne, cH_l, putB_len, lW, lc, pk_cl (i + j) rfl (by omega), pk_cl (acc.length + j) rfl (by omega), B, gi, nI_1, nI_1]
    refine ⟨kc, pk_in (i + j) 1700 (by omega), kl, pk_in (acc.length + j) 1700 (by omega), fun h10 e10 => ?_⟩
    have e10' : h10 = cH h M r4 (putB W acc.length (j + 1) (fun j => c.getD (i + j) 0)) v := by
      rw [e10, ← putB_succ (L := W) (off := acc.length) (n := j) (g := fun j => c.getD (i + j) 0) (x := c.getD (i + j) 0) (by omega) rfl]
      exact cH_w
    rw [e10']
    exact ih (by omega) () trivial
/-- a piece is passed -/
theorem unm_skip {v : Int32} {W : List Int32} {i p o : Nat} (hp : i + p ≤ 1700) 
    (k : Aw G mX24_unmarked (d + 1) 0 h0 (kV F nE) 4 [vR M, vI (nI (i + p)), vI (nI o), vU, vU] [] (cH h M le W v)) : ∀ (j : Nat) (_ : Unit), j ≤ p → True →
    Aw G mX24_unmarked (d + 1) 0 h0 (kV F nE) 58 [vR M, vI (nI (i + j)), vI (nI o), vI (nI (i + p)), vI 1] [] (cH h M le W v) := by
  refine loop_uc (n := p) (P := fun j (_ : Unit) => Aw G mX24_unmarked (d + 1) 0 h0 (kV F nE) 58 [vR M, vI (nI (i + j)), vI (nI o), vI (nI (i + p)), vI 1] [] (cH h M le W v)) (fun _ _ => True) (fun j _ hj _ ih => ?_)
  refine sX24_unmarked_58 _ M (nI (i + j)) (nI o) (nI (i + p)) 1 (pk_le (i + p) (i + j) (fun z => ?_) (fun z => ⟨fun w => absurd w (by decide), fun _ => ?_⟩))
  · obtain rfl : j = p := by omega
    exact k
  · rw [nI_1]
    exact ih (by omega) () trivial
theorem MD_unmarked_spec (hd : 3 ≤ d) (H : CutAt h M cu le c) : Cw G mX24_unmarked d 0 [vR M] h (kV (fun h' => CutAt h' M le cu (unmP c c.length 0) ∧ CuF h h' M cu le) nE) := by
  obtain ⟨d, rfl⟩ : ∃ d', d = d' + 1 := ⟨d - 1, by omega⟩
  refine eX24_unmarked h M (fun wf => sX24_unmarked_0 h M ?_)
  have H' := H
  obtain ⟨k0, r1, r2, ne, kc, kl, lc, ll, i9, cl, qc⟩ := H
  have ul := unmP_len c c.length (c.length - 0) 0 (Nat.le_refl _)
  have key := loop_wf (α := Nat × List Int32 × List Int32 × Int32) (P := fun s => Aw G mX24_unmarked (d + 1) 0 h (kV (fun h' => CutAt h' M le cu (unmP c c.length 0) ∧ CuF h h' M cu le) nE) 4 [vR M, vI (nI s.1), vI (nI s.2.2.1.length), vU, vU] [] (cH h M le s.2.1 s.2.2.2))
    (fun s => c.length - s.1) (fun s => s.1 ≤ c.length ∧ s.2.2.1.length ≤ s.1 ∧ s.2.1.length = 1700 ∧ sub_ s.2.1 0 s.2.2.1.length = s.2.2.1 ∧ s.2.2.1 ++ unmP c c.length s.1 = unmP c c.length 0) (fun s hI ih => ?_) (0, h.ai le, [], h.i 24063 M) ⟨Nat.zero_le _, Nat.le_refl _, ll, rfl, rfl⟩
  · dsimp only at key
    rw [cH_self H'] at key
    exact key
  · obtain ⟨i, W, acc, v⟩ := s
    dsimp only at hI ih ⊢
    obtain ⟨h1, h2, lW, sW, eU⟩ := hI
    refine sX24_unmarked_4 _ M (nI i) (nI acc.length) ⟨k0, ?_⟩
    rw [cH_i (by decide), i9]
    refine pk_le c.length i (fun z r3 e3 r4 e4 h5 e5 h7 e7 h9 e9 => ?_) (fun z r10 e10 => ?_)
    · have e3' : r3 = cu := e3.trans r1
      have e4' : r4 = le := e4.trans r2
      subst e3'
      subst e4'
      rw [unmP_end z, List.append_nil] at eU
      rw [← eU]
      exact cut_end H' lW sW (by omega) e5 e7 e9
    · have e10' : r10 = cu := e10.trans r1
      subst e10'
      refine k_behind (by omega) H' (by omega) (fun v' => ?_)
      have pl := pieceP_le (C := c) (n := c.length) (i := i) (by omega)
      have st := unmP_step (C := c) (e := c.length) (i := i) (by omega)
      have go : ∀ x : Int32, x = nI (i + pieceP c c.length i) → Aw G mX24_unmarked (d + 1) 0 h (kV (fun h' => CutAt h' M le r10 (unmP c c.length 0) ∧ CuF h h' M r10 le) nE) 35 [vR M, vI (nI i), vI (nI acc.length), vI x, vU] [] (cH h M le W v') := fun x hx => by
        subst hx
        refine sX24_unmarked_35 _ M (nI i) (nI acc.length) (nI (i + pieceP c c.length i)) ⟨k0, fun r2' e2 => ?_⟩
        have e2' : r2' = r10 := e2.trans r1
        subst e2'
        have hu := ub_lt c i
        rw [cH_c ne, lc, pk_cl i rfl (by omega), and_ub, qc.ub (by omega)]
        refine ⟨kc, pk_in i 1700 (by omega), pk_eq' (ub c i) 171 (fun w => ?_) (fun w => ?_)⟩
        · rw [if_neg w] at st
          have e1 : (acc ++ sub_ c i (pieceP c c.length i)).length = acc.length + pieceP c c.length i := by rw [List.length_append, sub_len]
          have J := ih (i + pieceP c c.length i, putB W acc.length (pieceP c c.length i) (fun j => c.getD (i + j) 0), acc ++ sub_ c i (pieceP c c.length i), v') ⟨pl.2, by dsimp only; omega, by rw [putB_len]; exact lW, by
            dsimp only
            rw [e1]
            exact sub_put sW (by omega) rfl, by
            dsimp only
            rw [List.append_assoc, ← st]
            exact eU⟩ (by dsimp only; omega)
          dsimp only at J
          rw [e1] at J
          have R := unm_58 (acc := acc) H' wf lW pl.2 (by omega) J 0 () (Nat.zero_le _) trivial
          rw [putB_0] at R
          exact R
        · rw [if_pos w, List.nil_append] at st
          have J := ih (i + pieceP c c.length i, W, acc, v') ⟨pl.2, by dsimp only; omega, lW, sW, by
            dsimp only
            rw [← st]
            exact eU⟩ (by dsimp only; omega)
          exact unm_skip (by omega) J 0 () (Nat.zero_le _) trivial
      have pe : pieceP c c.length i = if opLen c i c.length = 0 then c.length - i else opLen c i c.length := rfl
      by_cases o0 : opLen c i c.length = 0
      · rw [if_pos o0] at pe ⊢
        exact ⟨fun w => absurd w (by decide), fun _ => go _ (by rw [pe]; congr 1; omega)⟩
      · rw [if_neg o0] at pe ⊢
        exact pk_le 0 (i + opLen c i c.length) (fun _ => go _ (by rw [pe])) (fun w => absurd w (by omega))
end Cut

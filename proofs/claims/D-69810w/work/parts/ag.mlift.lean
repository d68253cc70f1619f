/-! the reference's stack machine: an element comes to the top -/
set_option maxRecDepth 100000
def ltH (h : AH) (Z : Nat) (R : List Nat) (S : List Int32) : AH := (h.wr Z R).wi (Z + 1) S
def rotI (l : List Int32) (i n : Nat) : List Int32 := (List.range l.length).map (fun j => if j < n then l.getD (rp i n j) 0 else l.getD j 0)
theorem rotI_len (l : List Int32) (i n : Nat) : (rotI l i n).length = l.length := mapR_len _ _
theorem rotI_getD {l : List Int32} {i n j : Nat} (h : j < l.length) : (rotI l i n).getD j 0 = if j < n then l.getD (rp i n j) 0 else l.getD j 0 := mapR_getD h
section MLift
variable {G : Gx} {d : Nat} {hB h h' h0 : AH} {M Z : Nat} {st alt : List (List Int32)} {fl : Bool}
theorem lt_R {R : List Nat} {S : List Int32} : (ltH h Z R S).ar Z = R := by
  show (h.wr Z R).ar Z = R
  rw [AH.ar_wr, if_pos rfl]
theorem lt_S {R : List Nat} {S : List Int32} : (ltH h Z R S).ai (Z + 1) = S := AH.ai_wiS ..
theorem lt_wr {R R' : List Nat} {S : List Int32} : (ltH h Z R S).wr Z R' = ltH h Z R' S := by
  show ((h.wr Z R).wr Z R').wi (Z + 1) S = _
  rw [AH.wr_wr]
  rfl
theorem lt_wi {R : List Nat} {S S' : List Int32} : (ltH h Z R S).wi (Z + 1) S' = ltH h Z R S' := by
  unfold ltH
  rw [AH.wi_wi]
/-- rows and sizes are turned round -/
theorem lift_end {i : Nat} (I : QI hB h M Z fl st alt) (hi : i < st.length) : QI hB (ltH h Z (rotR (h.ar Z) i st.length) (rotI (h.ai (Z + 1)) i st.length)) M Z fl (rollL st i) alt := by
  obtain ⟨⟨⟨Hs, T, E⟩, ⟨i1, i2, i3, i4⟩, S1, S2⟩, Fl, Fr, Kp_, Nn⟩ := I
  have hz := Hs.2.2.2.2.2
  have lr : (h.ar Z).length = 1002 := Hs.2.2.2.1.1
  have ls : (h.ai (Z + 1)).length = 1002 := Hs.2.2.2.1.2.1
  generalize hg : ltH h Z (rotR (h.ar Z) i st.length) (rotI (h.ai (Z + 1)) i st.length) = g
  have Sg : Same (fun y => y = Z ∨ y = Z + 1) h g := by
    rw [← hg]
    exact (Same.rf.wr _ (rotR_len _ _ _) (Or.inl (Or.inl rfl))).wi _ (by
      show _ = (h.ai (Z + 1)).length
      exact rotI_len _ _ _) (Or.inl (Or.inr rfl))
  have aR : g.ar Z = rotR (h.ar Z) i st.length := by rw [← hg]; exact lt_R
  have aO : ∀ y, y ≠ Z → g.ar y = h.ar y := fun y hy => by
    rw [← hg]
    show (h.wr Z _).ar y = _
    rw [AH.ar_wr, if_neg hy]
  have aS : g.ai (Z + 1) = rotI (h.ai (Z + 1)) i st.length := by rw [← hg]; exact lt_S
  have aI : ∀ y, y ≠ Z + 1 → g.ai y = h.ai y := fun y hy => by
    rw [← hg]
    show ((h.wr Z _).wi (Z + 1) _).ai y = _
    rw [AH.ai_wiN hy]
    rfl
  have gk : g.kd = h.kd := by rw [← hg]; rfl
  have gi : g.i = h.i := by rw [← hg]; rfl
  have gr : g.r = h.r := by rw [← hg]; rfl
  have gl : g.l = h.l := by rw [← hg]; rfl
  have gz : g.z = h.z := by rw [← hg]; rfl
  have gs : g.s = h.s := by rw [← hg]; rfl
  clear hg
  have eA : ∀ j, j < 1002 → rwA h Z j = (h.ar Z).getD j 0 := fun j hj => by
    have := rwA_w (h := h) (Z := Z) (w := 0) (k := j) hj
    rw [Nat.mul_zero, Nat.zero_add, Nat.add_zero] at this
    exact this
  have nz : ∀ j, j < st.length → (h.ar Z).getD j 0 ≠ 0 := fun j hj => by
    have := (S1 j hj).1
    rw [Nat.zero_add, eA j (by omega)] at this
    exact this
  have el : ∀ j, j < 3006 → rwA g Z j = rwA h Z (if j < st.length then rp i st.length j else j) := fun j hj => by
    by_cases q2 : j < 1002
    · have w := rwA_w (h := g) (Z := Z) (w := 0) (k := j) q2
      rw [Nat.mul_zero, Nat.zero_add, Nat.add_zero] at w
      rw [w, aR, rotR_getD (by omega)]
      by_cases q : j < st.length
      · have := rp_lt hi q
        rw [if_pos q, if_pos q, eA _ (by omega)]
      · rw [if_neg q, if_neg q, eA _ q2]
    · rw [if_neg (by omega)]
      unfold rwA
      rw [aO _ (by omega)]
  have pj : ∀ j, j < 3006 → (if j < st.length then rp i st.length j else j) < 3006 := fun j hj => by
    split
    · rename_i q; have := rp_lt hi q; omega
    · exact hj
  have pinj : ∀ a b, a < 3006 → b < 3006 → (if a < st.length then rp i st.length a else a) = (if b < st.length then rp i st.length b else b) → a = b := fun a b ha hb e => by
    by_cases qa : a < st.length
    · rw [if_pos qa] at e
      by_cases qb : b < st.length
      · rw [if_pos qb] at e; exact rp_inj hi qa qb e
      · rw [if_neg qb] at e; have := rp_lt hi qa; omega
    · rw [if_neg qa] at e
      by_cases qb : b < st.length
      · rw [if_pos qb] at e; have := rp_lt hi qb; omega
      · rw [if_neg qb] at e; exact e
  have hnul : nulM g Z = nulM h Z := by
    have hc : cz (g.ar Z) = cz (h.ar Z) := by
      rw [aR]
      refine cz_congr (rotR_len _ _ _).symm (fun j hj => ?_)
      rw [rotR_getD hj]
      by_cases q : j < st.length
      · rw [if_pos q]
        exact ⟨fun z => absurd z (nz _ (rp_lt hi q)), fun z => absurd z (nz _ q)⟩
      · rw [if_neg q]
    unfold nulM
    rw [hc, aO _ (by omega), aO _ (by omega)]
  have inb : ∀ y, inT g Z y → inT h Z y := fun y q => by
    obtain ⟨j, hj, h1, h2⟩ := q
    rw [el j (by omega)] at h1 h2
    refine ⟨_, ?_, h1, h2⟩
    split
    · rename_i q; have := rp_lt hi q; omega
    · exact hj
  refine ⟨⟨⟨Hs.same Sg (fun k _ => by rw [gr]) (aI _ (by omega)), fun j hj hj0 => ?_, E.same Sg gz⟩, ⟨by rw [gi, rollL_len]; exact i1, by rw [gi]; exact i2, by rw [rollL_len]; exact i3, i4⟩, fun j hj => ?_, S2.keep (by omega) (fun j hj => ?_)⟩, by rw [gi]; exact Fl, Fr.trans ⟨Sg.mono (fun y _ q => Or.inr (Or.inl (by omega))), fun y _ q => inb y q, by rw [gz, hnul], by rw [gs, hnul]⟩, fun k hk => ?_, Nn.trans (fun j hj hj0 => ?_)⟩
  · rw [el j hj] at hj0 ⊢
    obtain ⟨⟨t1, t2, t3, t4, t5⟩, t6⟩ := T _ (pj j hj) hj0
    refine ⟨⟨t1, by rw [gz]; exact t2, by rw [gk]; exact t3, by rw [aI _ (by omega)]; exact t4, by rw [gk]; exact t5⟩, fun i' hi' e => ?_⟩
    rw [el i' hi'] at e
    exact pinj i' j hi' hj (t6 _ (pj i' hi') e)
  · rw [rollL_len] at hj
    have q := rp_lt hi hj
    obtain ⟨s1, s2, s3, s4⟩ := S1 _ q
    rw [Nat.zero_add] at s1 s4
    have t0 := (T _ (show rp i st.length j < 3006 by omega) s1).1
    rw [rollL_getD hj, Nat.zero_add, el j (by omega), if_pos hj, aS, rotI_getD (by omega), if_pos hj, aI _ (by omega)]
    exact ⟨s1, s2, s3, s4⟩
  · obtain ⟨s1, s2, s3, s4⟩ := S2 j hj
    have t0 := (T _ (show 1002 + j < 3006 by omega) s1).1
    refine ⟨?_, aI _ (by omega), by rw [aI _ (by omega)]⟩
    rw [el _ (by omega), if_neg (by omega)]
  · obtain ⟨k1, k2, k3⟩ := Kp_ k hk
    exact ⟨by rw [gr]; exact k1, by rw [gi]; exact k2, by rw [gl]; exact k3⟩
  · rw [el j (by omega)]
    by_cases q : j < st.length
    · have q2 := rp_lt hi q
      rw [if_pos q, eA _ (by omega)]
      exact nz _ q2
    · rw [if_neg q]; exact hj0
theorem m_lift {k : Nat} {Q : AH → Prop} {E : Nat → AH → Prop} (hd : 1 ≤ d) (I : QI hB h M Z fl st alt) (hk : k < st.length) (yes : ∀ h', QI hB h' M Z fl (rollL st (st.length - 1 - k)) alt → Q h') : Cw G mX24_lift d 0 [vR M, vI (nI k)] h (kV Q E) := by
  obtain ⟨d, rfl⟩ : ∃ d', d = d' + 1 := ⟨d - 1, by omega⟩
  have H := I.1
  obtain ⟨r0, r1, r2, r3, r4, r5, r6, r7, r8⟩ := H.elt hk
  have l3 := H.2.1.2.2.1
  have Hs := H.1.1
  have lr : (h.ar Z).length = 1002 := Hs.2.2.2.1.1
  have ls : (h.ai (Z + 1)).length = 1002 := Hs.2.2.2.1.2.1
  refine eX24_lift h M (nI k) (fun _ => sX24_lift_0 h M (nI k) ⟨Hs.1, fun r2' e2 => ?_⟩)
  have e2' : r2' = Z := e2.trans Hs.2.1.1
  subst e2'
  rw [H.ix hk, lr, pk_cl (st.length - 1 - k) rfl (by omega)]
  refine ⟨Hs.2.2.1.1, pk_in (st.length - 1 - k) 1002 (by omega), fun x ex r6' e6 => ?_⟩
  have e6' : r6' = r2' + 1 := e6.trans Hs.2.1.2.1
  subst e6'
  rw [ls]
  refine ⟨Hs.2.2.1.2.1, pk_in (st.length - 1 - k) 1002 (by omega), fun u9 e9 => ?_⟩
  obtain ⟨n, hn⟩ : ∃ n, n = st.length := ⟨_, rfl⟩
  obtain ⟨i, hi⟩ : ∃ i, i = n - 1 - k := ⟨_, rfl⟩
  have hin : i < n := by omega
  have fin := lift_end I (i := i) (by omega)
  rw [← hn, ← hi] at yes
  rw [← hn] at fin ⊢
  rw [← hi] at ⊢
  rw [← hn, ← hi] at ex e9 r4 r5
  have i4' : ∀ (R : List Nat) (S : List Int32), (ltH h r2' R S).i 24067 M - 1 = nI (n - 1) := fun R S => by
    show h.i 24067 M - 1 = _
    rw [H.2.1.1, show (1 : Int32) = nI 1 from rfl, pk_sub (by omega), hn]
  have kdR : ∀ j, j < n → h.kd ((h.ar r2').getD j 0) = 101 := fun j hj => by
    have s := (H.2.2.1 j (by omega)).1
    rw [Nat.zero_add] at s
    have t := (H.1.2.1 j (by omega) s).1.2.2.1
    have w := rwA_w (h := h) (Z := r2') (w := 0) (k := j) (by omega)
    rw [Nat.mul_zero, Nat.zero_add, Nat.add_zero] at w
    rw [← w]
    exact t
  have key := loop_up (n := n - 1) (P := fun j (R : List Nat × List Int32) => Aw G mX24_lift (d + 1) 0 h (kV Q E) 24 [vR M, vU, vI (nI j), vR x, vI u9] [] (ltH h r2' R.1 R.2))
    (fun j R => i ≤ j ∧ R.1.length = 1002 ∧ R.2.length = 1002 ∧ (∀ m, R.1.getD m 0 = if i ≤ m ∧ m < j then (h.ar r2').getD (m + 1) 0 else (h.ar r2').getD m 0) ∧ ∀ m, R.2.getD m 0 = if i ≤ m ∧ m < j then (h.ai (r2' + 1)).getD (m + 1) 0 else (h.ai (r2' + 1)).getD m 0) (fun j R hj hI ih => ?_) (fun R hI => ?_) i (h.ar r2', h.ai (r2' + 1)) (by omega) ⟨Nat.le_refl _, lr, ls, fun m => by rw [if_neg (by omega)], fun m => by rw [if_neg (by omega)]⟩
  · have e0 : ltH h r2' (h.ar r2') (h.ai (r2' + 1)) = h := by
      unfold ltH
      rw [AH.wr_self, AH.wi_self]
    dsimp only at key
    rw [e0] at key
    exact key
  · obtain ⟨R, S⟩ := R
    obtain ⟨hij, lR, lS, gR, gS⟩ := hI
    dsimp only at lR lS gR gS ih ⊢
    refine sX24_lift_24 _ M (nI j) x u9 ⟨Hs.1, ?_⟩
    rw [i4']
    refine pk_le (n - 1) j (fun q => absurd q (by omega)) (fun _ r15 e15 => ?_)
    have e15' : r15 = r2' := e15.trans Hs.2.1.1
    subst e15'
    rw [lt_R, lR, nI_1, pk_cl (j + 1) rfl (by omega), pk_cl j rfl (by omega)]
    refine ⟨Hs.2.2.1.1, pk_in (j + 1) 1002 (by omega), fun r18 e18 => ⟨pk_in j 1002 (by omega), Or.inr ?_, fun h21 e21 r23 e23 => ?_⟩⟩
    · rw [e18, gR (j + 1), if_neg (by omega)]
      exact kdR (j + 1) (by omega)
    · rw [lt_wr] at e21
      rw [e21] at e23 ⊢
      have e23' : r23 = r15 + 1 := e23.trans Hs.2.1.2.1
      subst e23'
      rw [lt_S, lS, lt_wi]
      refine ⟨Hs.2.2.1.2.1, pk_in (j + 1) 1002 (by omega), pk_in j 1002 (by omega), fun h27 e27 => ?_⟩
      rw [e27]
      refine ih (R.set j r18, S.set j (S.getD (j + 1) 0)) ⟨by omega, by rw [List.length_set]; exact lR, by rw [List.length_set]; exact lS, fun m => ?_, fun m => ?_⟩
      · have g1 : R.getD (j + 1) 0 = (h.ar r15).getD (j + 1) 0 := by rw [gR, if_neg (by omega)]
        dsimp only
        rw [getD_sif, lR, e18, g1]
        by_cases q : m = j
        · rw [if_pos ⟨q, by omega⟩, if_pos (by omega), q]
        · rw [if_neg (fun z => q z.1), gR m]
          by_cases q2 : i ≤ m ∧ m < j
          · rw [if_pos q2, if_pos (by omega)]
          · rw [if_neg q2, if_neg (by omega)]
      · have g1 : S.getD (j + 1) 0 = (h.ai (r15 + 1)).getD (j + 1) 0 := by rw [gS, if_neg (by omega)]
        dsimp only
        rw [getD_sif, lS, g1]
        by_cases q : m = j
        · rw [if_pos ⟨q, by omega⟩, if_pos (by omega), q]
        · rw [if_neg (fun z => q z.1), gS m]
          by_cases q2 : i ≤ m ∧ m < j
          · rw [if_pos q2, if_pos (by omega)]
          · rw [if_neg q2, if_neg (by omega)]
  · obtain ⟨R, S⟩ := R
    obtain ⟨hij, lR, lS, gR, gS⟩ := hI
    dsimp only at lR lS gR gS ⊢
    refine sX24_lift_24 _ M (nI (n - 1)) x u9 ⟨Hs.1, ?_⟩
    rw [i4']
    refine pk_le (n - 1) (n - 1) (fun _ y3 e3 => ?_) (fun q => absurd q (by omega))
    have e3' : y3 = r2' := e3.trans Hs.2.1.1
    subst e3'
    rw [lt_R, lR, pk_cl (n - 1) rfl (by omega), lt_wr]
    refine ⟨Hs.2.2.1.1, pk_in (n - 1) 1002 (by omega), Or.inr (by rw [ex]; exact kdR i hin), fun h7 e7 r9 e9' => ?_⟩
    rw [e7] at e9' ⊢
    have e9'' : r9 = y3 + 1 := e9'.trans Hs.2.1.2.1
    subst e9''
    rw [lt_S, lS, lt_wi]
    refine ⟨Hs.2.2.1.2.1, pk_in (n - 1) 1002 (by omega), fun h14 e14 => ?_⟩
    have eR : R.set (n - 1) x = rotR (h.ar y3) i n := by
      refine ext_getD (z := 0) (by rw [List.length_set, lR, rotR_len, lr]) (fun m hm => ?_)
      rw [List.length_set, lR] at hm
      rw [getD_sif, lR, rotR_getD (by omega), ex]
      unfold rp
      by_cases q : m = n - 1
      · rw [if_pos ⟨q, by omega⟩, if_pos (by omega)]
        by_cases q2 : m < i
        · omega
        · rw [if_neg q2, if_neg (by omega)]
      · rw [if_neg (fun z => q z.1), gR m]
        by_cases q3 : m < n
        · rw [if_pos q3]
          by_cases q2 : m < i
          · rw [if_neg (by omega), if_pos q2]
          · rw [if_pos (by omega), if_neg q2, if_pos (by omega)]
        · rw [if_neg (by omega), if_neg q3]
    have eS : S.set (n - 1) u9 = rotI (h.ai (y3 + 1)) i n := by
      refine ext_getD (z := 0) (by rw [List.length_set, lS, rotI_len, ls]) (fun m hm => ?_)
      rw [List.length_set, lS] at hm
      rw [getD_sif, lS, rotI_getD (by omega), e9]
      unfold rp
      by_cases q : m = n - 1
      · rw [if_pos ⟨q, by omega⟩, if_pos (by omega)]
        by_cases q2 : m < i
        · omega
        · rw [if_neg q2, if_neg (by omega)]
      · rw [if_neg (fun z => q z.1), gS m]
        by_cases q3 : m < n
        · rw [if_pos q3]
          by_cases q2 : m < i
          · rw [if_neg (by omega), if_pos q2]
          · rw [if_pos (by omega), if_neg q2, if_pos (by omega)]
        · rw [if_neg (by omega), if_neg q3]
    rw [e14, eR, eS]
    exact yes _ fin
end MLift

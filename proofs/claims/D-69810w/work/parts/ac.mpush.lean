/-! the reference's stack machine: push, copy, truth -/
set_option maxRecDepth 100000
section MPush
variable {G : Gx} {d : Nat} {h h' h0 : AH} {M Z : Nat} {st alt : List (List Int32)}
/-- what a table of rows tells of one -/
theorem RwTb.ne (T : RwTb h Z) {i j : Nat} (hi : i < 3006) (hj : j < 3006) (hj0 : rwA h Z j ≠ 0) (hij : i ≠ j) : rwA h Z i ≠ rwA h Z j := fun e => hij ((T j hj hj0).2 i hi e)
/-- a field of the machine is told -/
theorem MWk.pi (H : MWk h M Z) (k : Nat) (v : Int32) : MWk (h.pi k M v) M Z := ⟨H.1, H.2.1, H.2.2⟩
theorem SkF.pi (k : Nat) (v : Int32) : SkF h (h.pi k M v) M Z := ⟨Same.rf.pi k v (Or.inl (Or.inl rfl)), fun _ _ q => q, rfl, rfl⟩
theorem StM.pi {o so : Nat} (S : StM h Z o so st) (k x : Nat) (v : Int32) : StM (h.pi k x v) Z o so st := S
/-- the rows of a stack stay -/
theorem StM.keep {o so : Nat} (S : StM h Z o so st) (ho : o + st.length ≤ 3006) (f : ∀ j, j < st.length → rwA h' Z (o + j) = rwA h Z (o + j) ∧ h'.ai (rwA h Z (o + j)) = h.ai (rwA h Z (o + j)) ∧ (h'.ai so).getD j 0 = (h.ai so).getD j 0) : StM h' Z o so st := fun j hj => by
  obtain ⟨s1, s2, s3, s4⟩ := S j hj
  obtain ⟨f1, f2, f3⟩ := f j hj
  rw [f1, f2, f3]
  exact ⟨s1, s2, s3, s4⟩
set_option maxHeartbeats 1000000 in
theorem MD_push_spec {a off n : Nat} {L : List Int32} (hd : 2 ≤ d) (H : MOm h M Z st alt) (ka : h.kd a = 101) (eL : h.ai a = L) (hl : off + n ≤ L.length) (hl2 : L.length < 2 ^ 31) (hn : n ≤ 520) (hs : st.length ≤ 1000) (az : a < h.z) (na : a ≠ rwA h Z st.length) : Cw G mX24_push d 0 [vR M, vR a, vI (nI off), vI (nI n)] h (kV (fun h' => MOm h' M Z (st ++ [sub_ L off n]) alt ∧ SkF h h' M Z ∧ Kp [24067] M h h' ∧ nnR h h' Z ∧ rwA h' Z st.length ≠ 0) nE) := by
  obtain ⟨d, rfl⟩ : ∃ d', d = d' + 1 := ⟨d - 1, by omega⟩
  obtain ⟨⟨Hs, T, E⟩, ⟨i1, i2, i3, i4⟩, S1, S2⟩ := H
  have hZ := Hs.2.2.2.2.2
  refine eX24_push h M a (nI off) (nI n) (fun wf => sX24_push_0 h M a (nI off) (nI n) (pk_lt 520 n (fun z => absurd z (by omega)) (fun _ => ⟨Hs.1, ?_⟩)))
  rw [i1]
  refine pk_le st.length 1000 (fun _ r6 e6 => ?_) (fun z => absurd z (by omega))
  rw [show r6 = Z + 2 * 0 from e6.trans Hs.2.1.1]
  refine (MD_row_spec (w := 0) (k := st.length) (by omega) ⟨Hs, T, E⟩ (by decide) (by omega)).nR (fun x h8 Q => ?_)
  obtain ⟨⟨x0, xe⟩, ⟨H8, T8, E8⟩, S8, en, eo, xo, z8, s8⟩ := Q
  rw [Nat.mul_zero, Nat.zero_add] at xe xo eo
  have S8' : Same (fun y => y = Z) h h8 := S8
  have ka8 : h8.kd a = 101 := (S8.kd az).trans ka
  have aZ : a ≠ Z := fun e => by
    have := Hs.2.2.1.1
    rw [← e, ka] at this
    exact absurd this (by decide)
  have a8 : h8.ai a = L := (S8'.ai az aZ).trans eL
  have xT := T8 st.length (by omega) (by rw [← xe]; exact x0)
  rw [← xe] at xT
  obtain ⟨⟨x1, x2, x3, x4, x5⟩, x6⟩ := xT
  have ax : a ≠ x := fun e => by
    by_cases c : x < h.z
    · exact na (e.trans (xo c))
    · omega
  have B : isB L := by rw [← eL]; exact wf.isB ka
  have i8 : h8.i 24067 M = nI st.length := (S8'.i (by omega) (by omega) 24067).trans i1
  have key := loop_uc (n := n) (P := fun j (_ : Unit) => Aw G mX24_push (d + 1) 0 h (kV (fun h' => MOm h' M Z (st ++ [sub_ L off n]) alt ∧ SkF h h' M Z ∧ Kp [24067] M h h' ∧ nnR h h' Z ∧ rwA h' Z st.length ≠ 0) nE) 39 [vR M, vR a, vI (nI off), vI (nI n), vR x, vI (nI j)] [] (h8.wi x (putB (h8.ai x) 0 j (fun i => L.getD (off + i) 0)))) (fun _ _ => True) (fun j _ hj _ ih => ?_) 0 () (Nat.zero_le _) trivial
  · rw [putB_0, AH.wi_self] at key
    exact key
  · refine sX24_push_39 _ M a (nI off) (nI n) x (nI j) (pk_le n j (fun z => ⟨H8.1, fun r3 e3 => ?_⟩) (fun z => ?_))
    · obtain rfl : j = n := by omega
      have e3' : r3 = Z + 1 := e3.trans H8.2.1.2.1
      subst e3'
      have xZ1 : Z + 1 ≠ x := by omega
      have iw : (h8.wi x (putB (h8.ai x) 0 j (fun i => L.getD (off + i) 0))).i 24067 M = nI st.length := i8
      rw [iw, AH.ai_wiN xZ1, H8.2.2.2.1.2.1, pk_cl st.length rfl (by omega), nI_1]
      refine ⟨H8.2.2.1.2.1, pk_in st.length 1002 (by omega), fun h6 e6' h10 e10 => ?_⟩
      generalize hT : putB (h8.ai x) 0 j (fun i => L.getD (off + i) 0) = Tx at e6'
      have lT : Tx.length = 520 := by rw [← hT, putB_len]; exact x4
      have gT : ∀ i, i < j → Tx.getD i 0 = L.getD (off + i) 0 := fun i hi => by
        rw [← hT, putB_getD _ _ _ _ (by omega), if_pos ⟨Nat.zero_le _, by omega⟩, Nat.sub_zero]
      clear hT
      generalize hS : (h8.ai (Z + 1)).set st.length (nI j) = Sx at e6'
      have lS : Sx.length = 1002 := by rw [← hS, List.length_set]; exact H8.2.2.2.1.2.1
      have gS : ∀ i, Sx.getD i 0 = if i = st.length then nI j else (h8.ai (Z + 1)).getD i 0 := fun i => by
        rw [← hS]
        by_cases c : i = st.length
        · rw [if_pos c, c, getD_set_eq (by rw [H8.2.2.2.1.2.1]; omega)]
        · rw [if_neg c, getD_set_ne c]
      clear hS
      have S6 : Same (fun y => y = x ∨ y = Z + 1) h8 h6 := by
        rw [e6']
        exact (Same.rf.wi Tx (by rw [lT, x4]) (Or.inl (Or.inl rfl))).wi Sx (by
          rw [AH.ai_wiN xZ1, lS]
          exact H8.2.2.2.1.2.1.symm) (Or.inl (Or.inr rfl))
      have S10 : Same (fun y => y = x ∨ y = Z + 1 ∨ y = M) h8 h10 := by
        rw [e10]
        exact (S6.mono (fun y _ q => q.elim Or.inl (fun q => Or.inr (Or.inl q)))).pi _ _ (Or.inl (Or.inr (Or.inr rfl)))
      have ar10 : h10.ar = h8.ar := by rw [e10, e6']; rfl
      have r10 : ∀ k y, h10.r k y = h8.r k y := fun k y => by rw [e10, e6']; rfl
      have kd10 : h10.kd = h8.kd := by rw [e10, e6']; rfl
      have z10 : h10.z = h8.z := by rw [e10, e6']; rfl
      have s10 : h10.s = h8.s := by rw [e10, e6']; rfl
      have ax10 : h10.ai x = Tx := by rw [e10, e6']; show ((h8.wi x Tx).wi (Z + 1) Sx).ai x = Tx; rw [AH.ai_wiN (fun q => xZ1 q.symm), AH.ai_wiS]
      have aZ10 : h10.ai (Z + 1) = Sx := by rw [e10, e6']; show ((h8.wi x Tx).wi (Z + 1) Sx).ai (Z + 1) = Sx; rw [AH.ai_wiS]
      have ao10 : ∀ y, y ≠ x → y ≠ Z + 1 → h10.ai y = h8.ai y := fun y h1 h2 => by rw [e10, e6']; show ((h8.wi x Tx).wi (Z + 1) Sx).ai y = _; rw [AH.ai_wiN h2, AH.ai_wiN h1]
      have it10 : h10.i 24067 M = nI (st.length + 1) := by rw [e10, AH.i_pi, if_pos ⟨rfl, rfl⟩]
      have io10 : ∀ k y, k ≠ 24067 → h10.i k y = h8.i k y := fun k y hk => by rw [e10, AH.i_pi, if_neg (fun q => hk q.1), e6']; rfl
      have l10 : ∀ k y, h10.l k y = h8.l k y := fun k y => by rw [e10, e6']; rfl
      clear e10 e6' h6 S6
      have rw10 : ∀ i, rwA h10 Z i = rwA h8 Z i := fun i => by unfold rwA; rw [ar10]
      have nul10 : nulM h10 Z = nulM h8 Z := by unfold nulM; rw [ar10]
      have xs : rwA h10 Z st.length = x := (rw10 _).trans xe.symm
      have lsub : (sub_ L off j).length = j := sub_len _ _ _
      have old : ∀ i, i < 3006 → i ≠ st.length → rwA h Z i ≠ 0 → rwA h10 Z i = rwA h Z i ∧ h10.ai (rwA h Z i) = h.ai (rwA h Z i) := fun i hi hne hi0 => by
        have e8 := en i hi hi0
        have t0 := (T i hi hi0).1
        have nx : rwA h8 Z i ≠ rwA h8 Z st.length := RwTb.ne T8 hi (by omega) (by rw [← xe]; exact x0) hne
        rw [e8, ← xe] at nx
        refine ⟨(rw10 i).trans e8, ?_⟩
        rw [ao10 _ nx (by omega)]
        exact S8'.ai t0.2.1 (by omega)
      refine ⟨⟨⟨H8.same S10 (fun k _ => r10 k M) (ao10 _ (by omega) (by omega)), fun i hi hi0 => ?_, E8.same S10 z10⟩, ⟨by rw [it10, List.length_append]; rfl, by rw [io10 _ _ (by decide), S8'.i (by omega) (by omega)]; exact i2, by rw [List.length_append]; show st.length + 1 ≤ 1001; omega, i4⟩, fun i hi => ?_, S2.keep (by omega) (fun i hi => ?_)⟩, ⟨?_, fun y hy q => ?_, by rw [nul10, z10]; exact z8, by rw [nul10, s10]; exact s8⟩, fun k hk => ?_, fun i hi hi0 => ?_, by rw [xs]; exact x0⟩
      · rw [rw10] at hi0 ⊢
        obtain ⟨⟨t1, t2, t3, t4, t5⟩, t6⟩ := T8 i hi hi0
        refine ⟨⟨t1, by rw [z10]; exact t2, by rw [kd10]; exact t3, ?_, by rw [kd10]; exact t5⟩, fun i' hi' e => t6 i' hi' (by rw [← rw10 i']; exact e)⟩
        by_cases c : rwA h8 Z i = x
        · rw [c, ax10]; exact lT
        · rw [ao10 _ c (by omega)]; exact t4
      · rw [List.length_append] at hi
        rw [getD_snoc, Nat.zero_add]
        by_cases c : i = st.length
        · rw [if_pos c, c, xs, ax10, aZ10, gS, if_pos rfl, lsub]
          refine ⟨x0, rfl, hn, fun m hm => ?_⟩
          rw [gT m hm, sub_getD hm]
        · have hi2 : i < st.length := by simp at hi; omega
          rw [if_neg c]
          obtain ⟨s1, s2, s3, s4⟩ := S1 i hi2
          rw [Nat.zero_add] at s1 s4
          have o := old i (by omega) c s1
          rw [o.1, o.2, aZ10, gS, if_neg c]
          refine ⟨s1, ?_, s3, s4⟩
          rw [S8'.ai (by omega) (by omega)]
          exact s2
      · obtain ⟨s1, s2, s3, s4⟩ := S2 i hi
        have o := old (1002 + i) (by omega) (by omega) s1
        refine ⟨o.1, o.2, ?_⟩
        rw [ao10 _ (by omega) (by omega), S8'.ai (by omega) (by omega)]
      · refine (S8.mono (Q := skP h M Z) (fun y _ q => Or.inr (Or.inl (by omega)))).trans S10 (fun y hy q => ?_)
        rcases q with q | q | q
        · rw [q] at hy ⊢
          have := xo hy
          exact Or.inr (Or.inr ⟨st.length, by omega, by rw [← this]; exact x0, this.symm⟩)
        · exact Or.inr (Or.inl (by omega))
        · exact Or.inl q
      · obtain ⟨i, hi, h1, h2⟩ := q
        rw [rw10] at h1 h2
        by_cases c : i = st.length
        · rw [c, ← xe] at h2
          rw [← h2] at hy ⊢
          have := xo hy
          exact ⟨st.length, by omega, by rw [← this]; exact x0, this.symm⟩
        · rw [eo i (by omega) c] at h1 h2
          exact ⟨i, hi, h1, h2⟩
      · have hk' : k ≠ 24067 := fun q => hk (by rw [q]; exact List.mem_singleton.mpr rfl)
        exact ⟨(r10 k M).trans (S8'.r (by omega) (by omega) k), (io10 k M hk').trans (S8'.i (by omega) (by omega) k), (l10 k M).trans (S8'.l (by omega) (by omega) k)⟩
      · rw [rw10]
        by_cases c : i = st.length
        · rw [c, ← xe]; exact x0
        · rw [eo i (by omega) c]; exact hi0
    · rw [AH.ai_wiN ax, a8, AH.ai_wiS, putB_len, x4, AH.wi_wi, nI_add, pk_cl (off + j) rfl (by omega), pk_cl j rfl (by omega), B, nI_1]
      refine ⟨ka8, pk_in (off + j) _ (by omega), x3, pk_in j 520 (by omega), fun h15 e15 => ?_⟩
      have := putB_succ (L := h8.ai x) (off := 0) (n := j) (g := fun i => L.getD (off + i) 0) (x := L.getD (off + j) 0) (by omega) rfl
      rw [Nat.zero_add] at this
      rw [e15, this]
      exact ih (by omega) () trivial
/-- push fails where the stack is full -/
theorem MD_push_full {a : Nat} {off n : Int32} (hd : 1 ≤ d) (H : MOm h M Z st alt) (hs : 1000 < st.length) (hn : ¬ (520 : Int32) < n) : Cw G mX24_push d 0 [vR M, vR a, vI off, vI n] h (kV (fun h' => h' = h.pi 24074 M 1) nE) := by
  obtain ⟨d, rfl⟩ : ∃ d', d = d' + 1 := ⟨d - 1, by omega⟩
  obtain ⟨⟨Hs, T, E⟩, ⟨i1, i2, i3, i4⟩, S1, S2⟩ := H
  refine eX24_push h M a off n (fun wf => sX24_push_0 h M a off n ⟨fun z => absurd z hn, fun _ => ⟨Hs.1, ?_⟩⟩)
  rw [i1]
  exact pk_le st.length 1000 (fun z => absurd z (by omega)) (fun _ h9 e9 => e9)
/-- the state of the reference's machine since hB, whether it has failed -/
def QI (hB h : AH) (M Z : Nat) (fl : Bool) (st alt : List (List Int32)) : Prop := MOm h M Z st alt ∧ h.i 24074 M = bB fl ∧ SkF hB h M Z ∧ Kp [24067, 24070, 24074] M hB h ∧ nnR hB h Z
theorem nnR.trans {h1 h2 : AH} (a : nnR h h1 Z) (b : nnR h1 h2 Z) : nnR h h2 Z := fun j hj q => b j hj (a j hj q)
theorem MOm.fl (H : MOm h M Z st alt) (v : Int32) : MOm (h.pi 24074 M v) M Z st alt := by
  obtain ⟨H1, ⟨i1, i2, i3, i4⟩, S1, S2⟩ := H
  exact ⟨H1.pi _ _, ⟨by rw [AH.i_pi, if_neg (fun q => absurd q.1 (by decide))]; exact i1, by rw [AH.i_pi, if_neg (fun q => absurd q.1 (by decide))]; exact i2, i3, i4⟩, S1, S2⟩
theorem QI.fail {hB : AH} {fl : Bool} (Q : QI hB h M Z fl st alt) : QI hB (h.pi 24074 M 1) M Z true st alt := ⟨Q.1.fl 1, by rw [AH.i_pi, if_pos ⟨rfl, rfl⟩]; rfl, Q.2.2.1.trans (SkF.pi _ _), Q.2.2.2.1.pi _ _ (Or.inl (by decide)), Q.2.2.2.2⟩
/-- the other way round: a heap where only the machine's rows have moved -/
theorem QI.push {hB : AH} {fl : Bool} {l : List Int32} (Q : QI hB h M Z fl st alt) (R : MOm h' M Z (st ++ [l]) alt ∧ SkF h h' M Z ∧ Kp [24067] M h h' ∧ nnR h h' Z ∧ rwA h' Z st.length ≠ 0) : QI hB h' M Z fl (st ++ [l]) alt :=
  ⟨R.1, (R.2.2.1 24074 (by decide)).2.1.trans Q.2.1, Q.2.2.1.trans R.2.1, Q.2.2.2.1.trans R.2.2.1 (fun k hk => by rw [List.mem_singleton.mp hk]; decide), Q.2.2.2.2.trans R.2.2.2.1⟩
end MPush

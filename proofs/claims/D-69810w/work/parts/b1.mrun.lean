/-! the reference: a run of a script -/
set_option maxRecDepth 100000
section MNever
variable {G : Gx} {d : Nat} {h : AH}
theorem mnever_27 {op : Nat} (hop : op < 256) (c1 : ¬ (126 ≤ op ∧ op ≤ 129)) (c2 : ¬ (131 ≤ op ∧ op ≤ 134)) : Aw G mX24_never (d + 1) 0 h (kI (fun x h' => x = bB (nvB op) ∧ h' = h) nE) 27 [vI (nI op)] [] h := by
  have yes : nvP op → (kI (fun x h' => x = bB (nvB op) ∧ h' = h) nE) (.inl (some (vI 1))) h := fun z => ⟨by rw [(nvB_iff op).mpr z]; rfl, rfl⟩
  have no : ¬ nvP op → (kI (fun x h' => x = bB (nvB op) ∧ h' = h) nE) (.inl (some (vI 0))) h := fun z => ⟨by rw [show nvB op = false from Bool.eq_false_iff.mpr (fun q => z ((nvB_iff op).mp q))]; rfl, rfl⟩
  have last : ¬ (op = 141 ∨ op = 142 ∨ (149 ≤ op ∧ op ≤ 153)) → ((nI op = 101 → (kI (fun x h' => x = bB (nvB op) ∧ h' = h) nE) (.inl (some (vI 1))) h) ∧ (¬ nI op = 101 → ((¬ nI op = 102 → (kI (fun x h' => x = bB (nvB op) ∧ h' = h) nE) (.inl (some (vI 0))) h) ∧ (nI op = 102 → (kI (fun x h' => x = bB (nvB op) ∧ h' = h) nE) (.inl (some (vI 1))) h)))) := fun c => by
    refine pk_eq op 101 (fun z => yes ((nvP_def op).mpr (by omega))) (fun z => pk_eq' op 102 (fun z2 => no (fun q => ?_)) (fun z2 => yes ((nvP_def op).mpr (by omega))) rfl rfl (by omega) (by omega))
    rw [nvP_def] at q
    omega
  exact sX24_never_27 h (nI op) (pk_eq op 141 (fun z => yes ((nvP_def op).mpr (by omega))) (fun z => pk_eq op 142 (fun z2 => yes ((nvP_def op).mpr (by omega))) (fun z2 => pk_lt op 149 (fun z3 => last (by omega)) (fun z3 => pk_le op 153 (fun z4 => yes ((nvP_def op).mpr (by omega))) (fun z4 => last (by omega))))))
theorem MD_never_spec {op : Nat} (hd : 1 ≤ d) (hop : op < 256) : Cw G mX24_never d 0 [vI (nI op)] h (kI (fun x h' => x = bB (nvB op) ∧ h' = h) nE) := by
  obtain ⟨d, rfl⟩ : ∃ d', d = d' + 1 := ⟨d - 1, by omega⟩
  have yes : nvP op → (kI (fun x h' => x = bB (nvB op) ∧ h' = h) nE) (.inl (some (vI 1))) h := fun z => ⟨by rw [(nvB_iff op).mpr z]; rfl, rfl⟩
  refine eX24_never h (nI op) (fun _ => sX24_never_0 h (nI op) ?_)
  exact pk_lt op 126 (fun z => pk_lt op 131 (fun z2 => mnever_27 hop (by omega) (by omega)) (fun z2 => absurd z2 (by omega))) (fun z => pk_le op 129 (fun z2 => yes ((nvP_def op).mpr (by omega))) (fun z2 => pk_lt op 131 (fun z3 => mnever_27 hop (by omega) (by omega)) (fun z3 => pk_le op 134 (fun z4 => yes ((nvP_def op).mpr (by omega))) (fun z4 => mnever_27 hop (by omega) (by omega)))))
end MNever
section MRun
variable {G : Gx} {d : Nat} {hB h h' h0 : AH} {M Z F O p N I J pp a n j inp : Nat} {K B L : List Int32} {t : TxP} {Bp : Pt} {st alt : List (List Int32)} {fl : Bool} {S : List Int32} {sa e off : Nat} {R : Option (List (List Int32))} {s : RSt} {op i b ops : Nat} {br : List Bool}
/-- a state of a run -/
def RL2 (hB h : AH) (M Z F O p N I J pp a n j inp : Nat) (K B L : List Int32) (t : TxP) (Bp : Pt) (s : RSt) : Prop :=
  (MOm h M Z s.2.2.1 s.2.2.2.1 ∧ h.i 24074 M = 0 ∧ h.i 24080 M = nI s.1 ∧ h.i 24082 M = nI s.2.1 ∧ BrM h M Z s.2.2.2.2) ∧ RnF hB h M Z F O ∧ MEnv h M Z F O p N I J pp a n j inp K B L t Bp
/-- what a run leaves -/
def RnE (hB h' : AH) (M Z F O p N I J pp a n j inp : Nat) (K B L : List Int32) (t : TxP) (Bp : Pt) (R : Option (List (List Int32))) (x : Int32) : Prop :=
  ((∃ st', R = some st' ∧ x = 1 ∧ st'.length ≤ 1000 ∧ ∃ alt', MOm h' M Z st' alt') ∨ (R = none ∧ x = 0)) ∧ MWk h' M Z ∧ RnF hB h' M Z F O ∧ MEnv h' M Z F O p N I J pp a n j inp K B L t Bp
/-- the script that is run -/
def CdA (h : AH) (M Z O sa e : Nat) (S : List Int32) : Prop := h.r 24079 M = sa ∧ h.i 24081 M = nI e ∧ h.kd sa = 101 ∧ h.ai sa = S ∧ (O + 7 < sa ∧ sa < h.z) ∧ ¬ inT h Z sa
theorem CdA.rn (C : CdA h M Z O sa e S) (x : RnF h h' M Z F O) (hM : M + 46 < Z ∧ Z + 12 < F ∧ F + 7 < O) : CdA h' M Z O sa e S := by
  obtain ⟨c1, c2, c3, c4, ⟨c5, c6⟩, c7⟩ := C
  have zz := x.1.1
  have eq_ : eqAt h h' sa := x.1.2.2 sa c6 (fun q => by
    rcases q with q | q | q
    · rcases q with q | q | q
      · omega
      · omega
      · exact c7 q
    · have := (go_rng hM q).1
      omega
    · omega)
  exact ⟨(x.2.2.2.2 24079 (by decide)).1.trans c1, (x.2.2.2.2 24081 (by decide)).2.1.trans c2, eq_.1.trans c3, eq_.2.2.2.2.1.trans c4, ⟨c5, by omega⟩, fun q => c7 (x.2.1 sa c6 q)⟩
theorem RL2.pi {q : Nat} (x : RL2 hB h M Z F O p N I J pp a n j inp K B L t Bp s) (v : Int32) (hq : q = 24063) : RL2 hB (h.pi q M v) M Z F O p N I J pp a n j inp K B L t Bp s := by
  subst hq
  obtain ⟨⟨x1, x2, x3, x4, x5⟩, x6, x7⟩ := x
  refine ⟨⟨x1.pk v (by decide) (by decide), ?_, ?_, ?_, ?_, x5.2⟩, x6.trans (RnF.pi v (by decide)), x7.pj v (Or.inr (Or.inr rfl))⟩
  · rw [AH.i_pi, if_neg (fun q => absurd q.1 (by decide))]; exact x2
  · rw [AH.i_pi, if_neg (fun q => absurd q.1 (by decide))]; exact x3
  · rw [AH.i_pi, if_neg (fun q => absurd q.1 (by decide))]; exact x4
  · rw [AH.i_pi, if_neg (fun q => absurd q.1 (by decide))]; exact x5.1
theorem RL2.cnt {o2 : Nat} (x : RL2 hB h M Z F O p N I J pp a n j inp K B L t Bp (b, ops, st, alt, br)) {v : Int32} (hv : v = nI o2) : RL2 hB (h.pi 24082 M v) M Z F O p N I J pp a n j inp K B L t Bp (b, o2, st, alt, br) := by
  obtain ⟨⟨x1, x2, x3, x4, x5⟩, x6, x7⟩ := x
  refine ⟨⟨x1.pk v (by decide) (by decide), ?_, ?_, ?_, ?_, x5.2⟩, x6.trans (RnF.pi v (by decide)), x7.pk x1.1 v (by decide)⟩
  · rw [AH.i_pi, if_neg (fun q => absurd q.1 (by decide))]; exact x2
  · rw [AH.i_pi, if_neg (fun q => absurd q.1 (by decide))]; exact x3
  · rw [AH.i_pi, if_pos ⟨rfl, rfl⟩]; exact hv
  · rw [AH.i_pi, if_neg (fun q => absurd q.1 (by decide))]; exact x5.1
theorem RL2.w (x : RL2 hB h M Z F O p N I J pp a n j inp K B L t Bp s) : MWk h M Z := x.1.1.1
/-- a run has failed -/
theorem RL2.no (x : RL2 hB h M Z F O p N I J pp a n j inp K B L t Bp s) (e_ : R = none) : RnE hB h M Z F O p N I J pp a n j inp K B L t Bp R 0 := ⟨Or.inr ⟨e_, rfl⟩, x.w, x.2⟩
/-- behind an operation -/
theorem mrun_212 {A : Option RSt} {nx : Nat} (X1 : RnF hB h M Z F O) (x : OkA h h' M Z F O p N I J pp a n j inp K B L t Bp A) (bad : (A = none ∨ ∃ r, A = some r ∧ 1000 < r.2.2.1.length + r.2.2.2.1.length) → R = none)
    (nxt : ∀ r, A = some r → r.2.2.1.length + r.2.2.2.1.length ≤ 1000 → RL2 hB h' M Z F O p N I J pp a n j inp K B L t Bp r → Aw G mX24_run (d + 1) 0 h0 (kI (fun x h' => RnE hB h' M Z F O p N I J pp a n j inp K B L t Bp R x) nE) 40 [vR M, vR sa, vU, vU, vI (nI nx), vU, vU, vU, vU] [] h') :
    Aw G mX24_run (d + 1) 0 h0 (kI (fun x h' => RnE hB h' M Z F O p N I J pp a n j inp K B L t Bp R x) nE) 212 [vR M, vR sa, vU, vU, vU, vU, vI (nI nx), vU, vU] [] h' := by
  obtain ⟨x1, x2, x3⟩ := x
  rcases x1 with ⟨r, eA, m, f, i1, i2, B1⟩ | ⟨eA, f, w⟩
  · have rl : RL2 hB h' M Z F O p N I J pp a n j inp K B L t Bp r := ⟨⟨m, f, i1, i2, B1⟩, X1.trans x2, x3⟩
    refine sX24_run_212 h' M sa (nI nx) ⟨m.1.1.1, ?_⟩
    have l1 := m.2.1.2.2.1
    have l2 := m.2.1.2.2.2
    rw [f, m.2.1.1, m.2.1.2.1, nI_add]
    exact ⟨fun q => absurd rfl q, fun _ => pk_le (r.2.2.1.length + r.2.2.2.1.length) 1000 (fun z => nxt r eA z rl) (fun z => rl.no (bad (Or.inr ⟨r, eA, z⟩)))⟩
  · refine sX24_run_212 h' M sa (nI nx) ⟨w.1.1, ?_⟩
    rw [f]
    exact ⟨fun _ => ⟨Or.inr ⟨bad eA, rfl⟩, w, X1.trans x2, x3⟩, fun q => absurd q (by decide)⟩
theorem actP_skip (hu : ub S i = op) (h1 : op < 99 ∨ 104 < op) (hT : allT br = false) : actP p N Bp K B L t inp S e i (b, ops, st, alt, br) = some (b, ops, st, alt, br) := by
  unfold actP
  rw [hu]
  by_cases z : op ≤ 78
  · rw [if_pos z, if_neg (show ¬ allT br = true by rw [hT]; decide)]
  · rw [if_neg z, if_neg (by omega), if_pos (show allT br = false from hT)]
theorem actP_br (hu : ub S i = op) (h1 : 99 ≤ op ∧ op ≤ 104) : actP p N Bp K B L t inp S e i (b, ops, st, alt, br) = (brP op (allT br) st br).map (fun r => (b, ops, r.1, alt, r.2)) := by
  unfold actP
  rw [hu, if_neg (by omega), if_pos h1]
  show (match brP op (allT br) st br with
    | none => none
    | some r => some (b, ops, r.1, alt, r.2)) = _
  cases brP op (allT br) st br <;> rfl
theorem k4_rn {k : Nat} (q : k ∈ [24067, 24070, 24074, 24084]) : k ∈ rnK := by
  rcases List.mem_cons.mp q with q | q
  · rw [q]; decide
  · rcases List.mem_cons.mp q with q | q
    · rw [q]; decide
    · rcases List.mem_cons.mp q with q | q
      · rw [q]; decide
      · rw [List.mem_singleton.mp q]; decide
theorem k4_sk {k : Nat} (q : k ∈ [24067, 24070, 24074, 24084]) : k ∈ skK := by
  rcases List.mem_cons.mp q with q | q
  · rw [q]; decide
  · rcases List.mem_cons.mp q with q | q
    · rw [q]; decide
    · rcases List.mem_cons.mp q with q | q
      · rw [q]; decide
      · rw [List.mem_singleton.mp q]; decide
theorem SkB.rn (x : SkB h h' M Z) (k : Kp [24067, 24070, 24074, 24084] M h h') : RnF h h' M Z F O := ⟨x.1.mono (fun _ _ q => q.elim Or.inl (fun q => Or.inr (Or.inr q))), x.2.1, x.2.2.1, x.2.2.2, fun j hj => k j (fun q => hj (k4_rn q))⟩
/-- the branches are looked at, then the operation -/
theorem mrun_132 {nx : Nat} (hd : 15 ≤ d) (C : CdA h M Z O sa e S) (T : MdT h M) (X : RL2 hB h M Z F O p N I J pp a n j inp K B L t Bp (b, ops, st, alt, br)) (f63 : h.i 24063 M = nI (opSz S i)) (hu : ub S i = op) (nv : nvB op = false) (hie : i < e) (n0 : opLen S i e ≠ 0) (h52 : op ≤ 78 → opSz S i ≤ 520) (hsa : st.length + alt.length ≤ 1000) (hops : ops ≤ 201) (hbr : br.length ≤ 201) (hbe : b ≤ e) (hl : e ≤ S.length) (hl2 : S.length < 2 ^ 16) (hn : e - b ≤ 1600) (hx : nx = i + opLen S i e)
    (fin : ∀ h', OkA h h' M Z F O p N I J pp a n j inp K B L t Bp (actP p N Bp K B L t inp S e i (b, ops, st, alt, br)) → Aw G mX24_run (d + 1) 0 h0 (kI (fun x h' => RnE hB h' M Z F O p N I J pp a n j inp K B L t Bp R x) nE) 212 [vR M, vR sa, vU, vU, vU, vU, vI (nI nx), vU, vU] [] h') :
    Aw G mX24_run (d + 1) 0 h0 (kI (fun x h' => RnE hB h' M Z F O p N I J pp a n j inp K B L t Bp R x) nE) 132 [vR M, vR sa, vU, vU, vU, vI (nI op), vI (nI nx), vI 1, vI 0] [] h := by
  subst hx
  obtain ⟨⟨x1, x2, x3, x4, x5⟩, x6, x7⟩ := X
  replace x1 : MOm h M Z st alt := x1
  replace x3 : h.i 24080 M = nI b := x3
  replace x4 : h.i 24082 M = nI ops := x4
  replace x5 : BrM h M Z br := x5
  have Hs := x1.1.1
  have l7 : (h.ai (Z + 7)).length = 1601 := Hs.2.2.2.1.2.2.2.2.2.2.2.1
  have ho : op < 256 := by rw [← hu]; exact ub_lt S i
  have nv' : ¬ (op = 101 ∨ op = 102) := fun q => by
    have : ¬ ((126 ≤ op ∧ op ≤ 129) ∨ (131 ≤ op ∧ op ≤ 134) ∨ op = 141 ∨ op = 142 ∨ (149 ≤ op ∧ op ≤ 153) ∨ op = 101 ∨ op = 102) := of_decide_eq_false nv
    omega
  refine loop_uc (n := br.length) (P := fun m (_ : Unit) => Aw G mX24_run (d + 1) 0 h0 (kI (fun x h' => RnE hB h' M Z F O p N I J pp a n j inp K B L t Bp R x) nE) 132 [vR M, vR sa, vU, vU, vU, vI (nI op), vI (nI (i + opLen S i e)), vI (bB (allT (br.take m))), vI (nI m)] [] h) (fun _ _ => True) (fun m _ hm _ ih => ?_) 0 () (Nat.zero_le _) trivial
  refine sX24_run_132 h M sa (nI op) (nI (i + opLen S i e)) (bB (allT (br.take m))) (nI m) ⟨Hs.1, ?_⟩
  rw [x5.1]
  refine pk_le br.length m (fun z => ?_) (fun z r21 e21 => ?_)
  · obtain rfl : m = br.length := by omega
    rw [List.take_length]
    have two : (op < 99 ∨ 104 < op) → ((bB (allT br) = 0 → Aw G mX24_run (d + 1) 0 h0 (kI (fun x h' => RnE hB h' M Z F O p N I J pp a n j inp K B L t Bp R x) nE) 212 [vR M, vR sa, vU, vU, vU, vU, vI (nI (i + opLen S i e)), vU, vU] [] h) ∧ (¬ bB (allT br) = 0 → Cw G mX24_act d 0 [vR M, vI (nI op), vR sa, vI (nI (i + opLen S i e))] h (kV (fun h6 => Aw G mX24_run (d + 1) 0 h0 (kI (fun x h' => RnE hB h' M Z F O p N I J pp a n j inp K B L t Bp R x) nE) 212 [vR M, vR sa, vU, vU, vU, vU, vI (nI (i + opLen S i e)), vU, vU] [] h6) (fun x h => (kI (fun x h' => RnE hB h' M Z F O p N I J pp a n j inp K B L t Bp R x) nE) (.inr x) h)))) := fun q => by
      refine ⟨fun q0 => fin h ?_, fun q0 => ?_⟩
      · rw [actP_skip hu q ((bB_0 _).mp q0)]
        exact ⟨Or.inl ⟨_, rfl, x1, x2, x3, x4, x5⟩, RnF.rf, x7⟩
      · have hT : allT br = true := by
          cases q1 : allT br
          · rw [q1] at q0
            exact absurd rfl q0
          · rfl
        exact (MD_act_spec (by omega) q nv hu hT x7 T x1 x2 hsa hops C.1 x3 C.2.1 x4 x5 C.2.2.1 C.2.2.2.1 C.2.2.2.2.1 hbe hl hl2 hn hie n0 h52 f63 C.2.2.2.2.2).nV (fun h6 Q => fin h6 Q)
    refine pk_lt op 99 (fun q => two (Or.inl q)) (fun q => pk_lt 104 op (fun q2 => two (Or.inr q2)) (fun q2 => pk_eq op 101 (fun q3 => absurd (Or.inl q3) nv') (fun q3 => pk_eq op 102 (fun q4 => absurd (Or.inr q4) nv') (fun q4 => ?_))))
    refine (MD_branch_spec (by omega) ho x1 x2 x5 (by omega)).nV (fun h20 Q => fin h20 ?_)
    rw [actP_br hu (by omega)]
    rcases Q with ⟨s2, eb, y1, y2, y3, y4, y5, y6⟩ | ⟨eb, y2, y1, y3, y4⟩
    · refine ⟨Or.inl ⟨(b, ops, s2.1, alt, s2.2), by rw [eb]; rfl, y1, y2, (y4 24080 (by decide)).2.1.trans x3, (y4 24082 (by decide)).2.1.trans x4, y6⟩, y3.rn y4, x7.skb x1.1 y3 (fun j hj => y4 j (fun q => hj (k4_sk q)))⟩
    · exact ⟨Or.inr ⟨Or.inl (by rw [eb]; rfl), y2, y1⟩, y3.rn y4, x7.skb x1.1 y3 (fun j hj => y4 j (fun q => hj (k4_sk q)))⟩
  · rw [show r21 = Z + 7 from e21.trans Hs.2.1.2.2.2.2.2.2.2.1, l7, pk_cl m rfl (by omega), x5.2 m (by omega), nI_1]
    refine ⟨Hs.2.2.1.2.2.2.2.2.2.2.1, pk_in m 1601 (by omega), fun u24 e24 => ?_⟩
    have := ih (by omega) () trivial
    rw [take_snoc br (by omega), allT_snoc] at this
    rw [e24, show bB (allT (br.take m)) &&& bB (br.getD m false) = bB (allT (br.take m) && br.getD m false) by cases allT (br.take m) <;> cases br.getD m false <;> decide]
    exact this
end MRun

/-! a run of a script, by the component -/
set_option maxRecDepth 100000
def nvB (op : Nat) : Bool := decide ((126 ≤ op ∧ op ≤ 129) ∨ (131 ≤ op ∧ op ≤ 134) ∨ op = 141 ∨ op = 142 ∨ (149 ≤ op ∧ op ≤ 153) ∨ op = 101 ∨ op = 102)
theorem nvB_iff (op : Nat) : nvB op = true ↔ nvP op := by
  unfold nvB
  rw [decide_eq_true_eq]
  exact (nvP_def op).symm
/-- all branches are taken -/
def allT : List Bool → Bool
  | [] => true
  | b :: r => b && allT r
theorem allT_snoc (l : List Bool) (b : Bool) : allT (l ++ [b]) = (allT l && b) := by
  induction l with
  | nil => exact Bool.and_true _
  | cons x r ih =>
    show (x && allT (r ++ [b])) = ((x && allT r) && b)
    rw [ih, Bool.and_assoc]
theorem take_snoc (l : List Bool) {j : Nat} (h : j < l.length) : l.take (j + 1) = l.take j ++ [l.getD j false] := by
  rw [List.take_succ, List.getD_eq_getElem?_getD, List.getElem?_eq_getElem h]
  rfl
/-- the state of a run: where the code that is signed begins, operations counted, stack, other stack, branches -/
abbrev RSt : Type := Nat × Nat × List (List Int32) × List (List Int32) × List Bool
/-- what one operation does -/
def actP (p N : Nat) (Bp : Pt) (K B L : List Int32) (t : TxP) (inp : Nat) (S : List Int32) (e i : Nat) (s : RSt) : Option RSt :=
  if ub S i ≤ 78 then some (if allT s.2.2.2.2 = true then (s.1, s.2.1, s.2.2.1 ++ [sub_ S (i + opHd (ub S i)) (opSz S i)], s.2.2.2.1, s.2.2.2.2) else s)
  else if 99 ≤ ub S i ∧ ub S i ≤ 104 then match brP (ub S i) (allT s.2.2.2.2) s.2.2.1 s.2.2.2.2 with
    | none => none
    | some r => some (s.1, s.2.1, r.1, s.2.2.2.1, r.2)
  else if allT s.2.2.2.2 = false then some s
  else if ub S i = 171 then some (i + 1, s.2.1, s.2.2.1, s.2.2.2.1, s.2.2.2.2)
  else if ub S i = 172 ∨ ub S i = 173 then match sinP p N Bp K B L t inp S s.1 e (ub S i) s.2.2.1 with
    | none => none
    | some r => some (s.1, s.2.1, r, s.2.2.2.1, s.2.2.2.2)
  else if ub S i = 174 ∨ ub S i = 175 then match sevP p N Bp K B L t inp S s.1 e (ub S i) s.2.1 s.2.2.1 with
    | none => none
    | some r => some (s.1, r.2, r.1, s.2.2.2.1, s.2.2.2.2)
  else match stepP K B (lkV L t) (sqV L t inp) (ub S i) s.2.2.1 s.2.2.2.1 with
    | none => none
    | some r => some (s.1, s.2.1, r.1, r.2, s.2.2.2.2)
/-- operations counted with this one -/
def opsC (op ops : Nat) : Nat := if op ≤ 96 then ops else ops + 1
/-- the whole step -/
def oneP (p N : Nat) (Bp : Pt) (K B L : List Int32) (t : TxP) (inp : Nat) (S : List Int32) (e i : Nat) (s : RSt) : Option RSt :=
  if opLen S i e = 0 then none else if ub S i ≤ 78 ∧ 520 < opSz S i then none else if 201 < opsC (ub S i) s.2.1 ∨ nvB (ub S i) = true then none
  else match actP p N Bp K B L t inp S e i (s.1, opsC (ub S i) s.2.1, s.2.2.1, s.2.2.2.1, s.2.2.2.2) with
    | none => none
    | some r => if 1000 < r.2.2.1.length + r.2.2.2.1.length then none else some r
def runF (p N : Nat) (Bp : Pt) (K B L : List Int32) (t : TxP) (inp : Nat) (S : List Int32) (e : Nat) : Nat → Nat → RSt → Option (List (List Int32))
  | 0, _, _ => none
  | k + 1, i, s => if e ≤ i then (if s.2.2.2.2.length = 0 then some s.2.2.1 else none) else match oneP p N Bp K B L t inp S e i s with
    | none => none
    | some r => runF p N Bp K B L t inp S e k (i + opLen S i e) r
/-- the stack that the script from b to e leaves -/
def runP (p N : Nat) (Bp : Pt) (K B L : List Int32) (t : TxP) (inp : Nat) (S : List Int32) (b e : Nat) (st : List (List Int32)) : Option (List (List Int32)) := runF p N Bp K B L t inp S e (e - b + 1) b (b, 0, st, [], [])
section Run1
variable {G : Gx} {d : Nat} {hB h h' h0 : AH} {Mc D b0 Sg q a C p N inp : Nat} {Bp : Pt} {K B L : List Int32} {t : TxP} {st alt : List (List Int32)} {h2 : AH}
theorem RFr.trans (a_ : RFr hB h Mc D Sg C) (hm : ¬ sdQ Sg D C (Mc + 3)) (b_ : RFr h h2 Mc D Sg C) : RFr hB h2 Mc D Sg C := ⟨a_.1.trans b_.1 (fun y hy m => rnP_back a_.1 (a_.e3 hm) hy m), by have := a_.2.1; have := b_.2.1; omega, by have := a_.2.2.1; have := b_.2.2.1; omega, fun j hj q => b_.2.2.2 j hj (a_.2.2.2 j hj q)⟩
theorem ThrR.aft {x : Nat} (a_ : RFr hB h Mc D Sg C) (T : ThrR h h2 Mc D b0 Sg q a C p N Bp K B L t inp x) : ThrR hB h2 Mc D b0 Sg q a C p N Bp K B L t inp x := by
  obtain ⟨t1, t2, t3, t4, t5, t6, t7⟩ := T
  exact ⟨t1, t2, t3, t4, a_.1.trans t5 (fun y hy m => rnP_back a_.1 (a_.e3 (sd_3 t4.1)) hy m), by have := a_.2.1; omega, by have := a_.2.2.1; omega⟩
theorem BrOk.kb {br : List Bool} (b_ : BrOk h Mc br) (k : KB h h2 Mc) : BrOk h2 Mc br := ⟨by rw [(k.1 7008 (by decide)).2.1]; exact b_.1, by rw [k.2]; exact b_.2⟩
/-- the machine, whatever stands on its other stack -/
def MOs (h : AH) (Mc D b0 : Nat) (st : List (List Int32)) : Prop := MchS h Mc D ∧ ElTb h Mc b0 ∧ b0 ≤ h.z ∧ Mc + 8 < b0 ∧ (h.i 7004 Mc = nI st.length ∧ st.length ≤ 1003) ∧ StAt h Mc 0 st
theorem MOk.s (H : MOk h Mc D b0 st alt) : MOs h Mc D b0 st := ⟨H.1, H.2.1, H.2.2.1, H.2.2.2.1, ⟨H.2.2.2.2.1.1, H.2.2.2.2.1.2.2.1⟩, H.2.2.2.2.2.1⟩
theorem MOs.start (H : MOs h Mc D b0 st) : MOk ((h.pi 7008 Mc 0).pi 7005 Mc 0) Mc D b0 st [] := by
  obtain ⟨H1, T, hb, hb2, ⟨i1, i2⟩, S1⟩ := H
  refine ⟨H1, T, hb, hb2, ⟨?_, ?_, i2, Nat.zero_le _⟩, fun j hj => ?_, fun j hj => absurd hj (Nat.not_lt_zero _)⟩
  · rw [AH.i_pi, if_neg (fun q => absurd q.1 (by decide)), AH.i_pi, if_neg (fun q => absurd q.1 (by decide))]
    exact i1
  · rw [AH.i_pi, if_pos ⟨rfl, rfl⟩]
    rfl
  · obtain ⟨s1, s2, s3, s4⟩ := S1 j hj
    refine ⟨s1, s2, ?_, s4⟩
    rw [AH.i_pi, if_neg (fun q => absurd q.1 (by decide)), AH.i_pi, if_neg (fun q => absurd q.1 (by decide))]
    exact s3
/-- the loop's state -/
def RL (hB h : AH) (Mc D b0 Sg q a C p N : Nat) (Bp : Pt) (K B L : List Int32) (t : TxP) (inp : Nat) (s : RSt) : Prop := MOk h Mc D b0 s.2.2.1 s.2.2.2.1 ∧ REnv h Mc D b0 Sg q a C p N Bp K B L t inp ∧ RFr hB h Mc D Sg C ∧ BrOk h Mc s.2.2.2.2 ∧ Kp [7004, 7005, 7008] Mc hB h
theorem RL.ri {s : RSt} (I : RL hB h Mc D b0 Sg q a C p N Bp K B L t inp s) : RI h h Mc D b0 Sg q a C p N Bp K B L t inp s.2.2.1 s.2.2.2.1 := ⟨I.1, I.2.1, RFr.rf, Kp.rf, rfl⟩
theorem RL.aft {s : RSt} {st' alt' : List (List Int32)} {bg ops : Nat} (I : RL hB h Mc D b0 Sg q a C p N Bp K B L t inp s) (J : RI h h2 Mc D b0 Sg q a C p N Bp K B L t inp st' alt') : RL hB h2 Mc D b0 Sg q a C p N Bp K B L t inp (bg, ops, st', alt', s.2.2.2.2) := ⟨J.1, J.2.1, I.2.2.1.trans (sd_3 J.2.1.1) J.2.2.1, I.2.2.2.1.kb J.2.2.2, I.2.2.2.2.trans J.2.2.2.1 (fun k hk => by
    rcases List.mem_cons.mp hk with z | z
    · rw [z]; decide
    · rw [List.mem_singleton.mp z]; decide)⟩
end Run1
section Run2
variable {G : Gx} {d : Nat} {hB h h' h0 : AH} {Mc D b0 Sg q a C p N inp : Nat} {Bp : Pt} {K B L : List Int32} {t : TxP} {st alt : List (List Int32)} {S : List Int32} {sa e i n bg ops op off : Nat} {br : List Bool} {s : RSt} {R : Option (List (List Int32))}
theorem scrR (hz : sa < hB.z) (hsa : ¬ rnP hB Mc D Sg C sa) (ks : hB.kd sa = 101) (eS : hB.ai sa = S) (F : RFr hB h Mc D Sg C) : h.kd sa = 101 ∧ h.ai sa = S ∧ sa < h.z := ⟨(F.1.kd hz).trans ks, (F.1.ai hz hsa).trans eS, by have := F.1.1; omega⟩
/-- behind an operation -/
theorem run_388 (hd : 16 ≤ d) (I : RL hB h Mc D b0 Sg q a C p N Bp K B L t inp (bg, ops, st, alt, br)) (hn : 1000 < st.length + alt.length → R = none)
    (ih : ¬ 1000 < st.length + alt.length → Aw G mX7_run (d + 1) 0 h0 (kV (fun h' => ∃ st', R = some st' ∧ (∃ alt', MOk h' Mc D b0 st' alt') ∧ st'.length ≤ 1000 ∧ REnv h' Mc D b0 Sg q a C p N Bp K B L t inp ∧ RFr hB h' Mc D Sg C ∧ Kp [7004, 7005, 7008] Mc hB h') (fun y h' => R = none ∧ ThrR hB h' Mc D b0 Sg q a C p N Bp K B L t inp y)) 24 [vR Mc, vR sa, vU, vU, vR Sg, vI (nI e), vI (nI bg), vI (nI ops), vI (nI (i + n)), vU, vU, vU, vU, vU] [] h) :
    Aw G mX7_run (d + 1) 0 h0 (kV (fun h' => ∃ st', R = some st' ∧ (∃ alt', MOk h' Mc D b0 st' alt') ∧ st'.length ≤ 1000 ∧ REnv h' Mc D b0 Sg q a C p N Bp K B L t inp ∧ RFr hB h' Mc D Sg C ∧ Kp [7004, 7005, 7008] Mc hB h') (fun y h' => R = none ∧ ThrR hB h' Mc D b0 Sg q a C p N Bp K B L t inp y)) 388 [vR Mc, vR sa, vU, vU, vR Sg, vI (nI e), vI (nI bg), vI (nI ops), vI (nI i), vU, vI (nI n), vU, vU, vU] [] h := by
  have H := I.1
  have ri := I.ri
  refine sX7_run_388 h Mc sa Sg (nI e) (nI bg) (nI ops) (nI i) (nI n) ⟨H.1.1, ?_⟩
  dsimp only at H ri
  obtain ⟨i1, i2, i3, i4⟩ := H.2.2.2.2.1
  rw [i1, i2, nI_add, nI_add]
  exact pk_lt 1000 (st.length + alt.length) (fun z => q_need (by omega) ri (fun w => absurd rfl w) (fun _ y h' T => ⟨hn z, T.aft I.2.2.1⟩)) (fun z => q_need (by omega) ri (fun _ => ih (by omega)) (fun w => absurd w (by decide)))
theorem run_344 (hd : 16 ≤ d) (hz : sa < hB.z) (hsa : ¬ rnP hB Mc D Sg C sa) (ks : hB.kd sa = 101) (eS : hB.ai sa = S) (hl : e ≤ S.length) (hl2 : S.length < 2 ^ 16) (hsb : hB.kd (sa - 1) ≠ 22) (hi : i < e) (hb : bg ≤ e) (hb2 : e - bg ≤ 1600) (ho : ops ≤ 201) (hs : st.length + alt.length ≤ 1000) (hn0 : n = opLen S i e) (hn1 : opLen S i e ≠ 0) (hop : op = ub S i) (I : RL hB h Mc D b0 Sg q a C p N Bp K B L t inp (bg, ops, st, alt, br)) (c1 : 78 < op) (c2 : ¬ (99 ≤ op ∧ op ≤ 104)) (c3 : allT br = true) (c4 : op ≠ 171) (c5 : ¬ (op = 172 ∨ op = 173)) (fin : ∀ r h', actP p N Bp K B L t inp S e i (bg, ops, st, alt, br) = some r → RL hB h' Mc D b0 Sg q a C p N Bp K B L t inp r → Aw G mX7_run (d + 1) 0 h0 (kV (fun h' => ∃ st', R = some st' ∧ (∃ alt', MOk h' Mc D b0 st' alt') ∧ st'.length ≤ 1000 ∧ REnv h' Mc D b0 Sg q a C p N Bp K B L t inp ∧ RFr hB h' Mc D Sg C ∧ Kp [7004, 7005, 7008] Mc hB h') (fun y h' => R = none ∧ ThrR hB h' Mc D b0 Sg q a C p N Bp K B L t inp y)) 388 [vR Mc, vR sa, vU, vU, vR Sg, vI (nI e), vI (nI r.1), vI (nI r.2.1), vI (nI i), vU, vI (nI n), vU, vU, vU] [] h') (thr : ∀ y h', actP p N Bp K B L t inp S e i (bg, ops, st, alt, br) = none → ThrR hB h' Mc D b0 Sg q a C p N Bp K B L t inp y → R = none ∧ ThrR hB h' Mc D b0 Sg q a C p N Bp K B L t inp y) :
    Aw G mX7_run (d + 1) 0 h0 (kV (fun h' => ∃ st', R = some st' ∧ (∃ alt', MOk h' Mc D b0 st' alt') ∧ st'.length ≤ 1000 ∧ REnv h' Mc D b0 Sg q a C p N Bp K B L t inp ∧ RFr hB h' Mc D Sg C ∧ Kp [7004, 7005, 7008] Mc hB h') (fun y h' => R = none ∧ ThrR hB h' Mc D b0 Sg q a C p N Bp K B L t inp y)) 344 [vR Mc, vR sa, vU, vU, vR Sg, vI (nI e), vI (nI bg), vI (nI ops), vI (nI i), vI (nI op), vI (nI n), vU, vU, vU] [] h := by
  have ri := I.ri
  dsimp only at ri
  have hu := ub_lt S i
  obtain ⟨s1, s2, s3⟩ := scrR hz hsa ks eS I.2.2.1
  have na : sa ≠ Mc + 5 := fun z => hsa (by rw [z]; exact Or.inr (Or.inl ⟨by omega, by omega⟩))
  have e0 : actP p N Bp K B L t inp S e i (bg, ops, st, alt, br) = if op = 174 ∨ op = 175 then (match sevP p N Bp K B L t inp S bg e op ops st with
    | none => none
    | some r => some (bg, r.2, r.1, alt, br)) else (match stepP K B (lkV L t) (sqV L t inp) op st alt with
    | none => none
    | some r => some (bg, ops, r.1, r.2, br)) := by
    unfold actP
    dsimp only
    rw [← hop, if_neg (by omega), if_neg c2, if_neg (by rw [c3]; decide), if_neg c4, if_neg c5]
  have stp : ¬ (op = 174 ∨ op = 175) → Cw G mX7_step d 0 [vR Mc, vI (nI op), vR Sg] h (kV (fun h3 => Aw G mX7_run (d + 1) 0 h0 (kV (fun h' => ∃ st', R = some st' ∧ (∃ alt', MOk h' Mc D b0 st' alt') ∧ st'.length ≤ 1000 ∧ REnv h' Mc D b0 Sg q a C p N Bp K B L t inp ∧ RFr hB h' Mc D Sg C ∧ Kp [7004, 7005, 7008] Mc hB h') (fun y h' => R = none ∧ ThrR hB h' Mc D b0 Sg q a C p N Bp K B L t inp y)) 388 [vR Mc, vR sa, vU, vU, vR Sg, vI (nI e), vI (nI bg), vI (nI ops), vI (nI i), vU, vI (nI n), vU, vU, vU] [] h3) (fun x h => (kV (fun h' => ∃ st', R = some st' ∧ (∃ alt', MOk h' Mc D b0 st' alt') ∧ st'.length ≤ 1000 ∧ REnv h' Mc D b0 Sg q a C p N Bp K B L t inp ∧ RFr hB h' Mc D Sg C ∧ Kp [7004, 7005, 7008] Mc hB h') (fun y h' => R = none ∧ ThrR hB h' Mc D b0 Sg q a C p N Bp K B L t inp y)) (.inr x) h)) := fun z => by
    rw [if_neg z] at e0
    have r := ri.2.1.1.1
    obtain ⟨_, A, eC, DA, T, ka, eL, CG, TI⟩ := ri.2.1
    refine (Mc_step_spec (by omega) (by omega) (by omega) hs DA ri.1 T).toV (fun h3 _ _ Q => ?_) (fun y h3 _ _ Q => ?_)
    · obtain ⟨s', es, M3, F3, K3⟩ := Q
      rw [es] at e0
      refine fin _ h3 e0 (I.aft (ri.go M3 F3.1 (fun y _ m => ?_) F3.2.1 F3.2.2 ⟨K3, mach4 ri.1 F3.1 (fun _ m => m) (by omega)⟩))
      rcases m with m | m | m
      · exact Or.inl m
      · exact Or.inr (Or.inl (by omega))
      · exact Or.inr (Or.inr m)
    · have en : actP p N Bp K B L t inp S e i (bg, ops, st, alt, br) = none := by rw [e0, Q.1]
      exact thr y h3 en ((ri.thr Q.2).aft I.2.2.1)
  refine sX7_run_344 h Mc sa Sg (nI e) (nI bg) (nI ops) (nI i) (nI op) (nI n) (pk_lt op 174 (fun z => ⟨I.1.1.1, stp (by omega)⟩) (fun z => pk_lt 175 op (fun z2 => ⟨I.1.1.1, stp (by omega)⟩) (fun z2 => ⟨I.1.1.1, ?_⟩)))
  rw [if_pos (by omega)] at e0
  refine (Mc_several_spec (S := S) (R := sevP p N Bp K B L t inp S bg e op ops st) (by omega) (by omega) ho ri hs s1 s2 na hb hl (by omega) hb2 rfl).toI (fun x h3 _ _ Q => ?_) (fun y h3 _ _ Q => ?_)
  · obtain ⟨s', es, ex, J⟩ := Q
    rw [es] at e0
    rw [ex]
    exact fin _ h3 e0 (I.aft J)
  · have en : actP p N Bp K B L t inp S e i (bg, ops, st, alt, br) = none := by rw [e0, Q.1]
    exact thr y h3 en (Q.2.aft I.2.2.1)
theorem run_290 (hd : 16 ≤ d) (hz : sa < hB.z) (hsa : ¬ rnP hB Mc D Sg C sa) (ks : hB.kd sa = 101) (eS : hB.ai sa = S) (hl : e ≤ S.length) (hl2 : S.length < 2 ^ 16) (hsb : hB.kd (sa - 1) ≠ 22) (hi : i < e) (hb : bg ≤ e) (hb2 : e - bg ≤ 1600) (ho : ops ≤ 201) (hs : st.length + alt.length ≤ 1000) (hn0 : n = opLen S i e) (hn1 : opLen S i e ≠ 0) (hop : op = ub S i) (I : RL hB h Mc D b0 Sg q a C p N Bp K B L t inp (bg, ops, st, alt, br)) (c1 : 78 < op) (c2 : ¬ (99 ≤ op ∧ op ≤ 104)) (fin : ∀ r h', actP p N Bp K B L t inp S e i (bg, ops, st, alt, br) = some r → RL hB h' Mc D b0 Sg q a C p N Bp K B L t inp r → Aw G mX7_run (d + 1) 0 h0 (kV (fun h' => ∃ st', R = some st' ∧ (∃ alt', MOk h' Mc D b0 st' alt') ∧ st'.length ≤ 1000 ∧ REnv h' Mc D b0 Sg q a C p N Bp K B L t inp ∧ RFr hB h' Mc D Sg C ∧ Kp [7004, 7005, 7008] Mc hB h') (fun y h' => R = none ∧ ThrR hB h' Mc D b0 Sg q a C p N Bp K B L t inp y)) 388 [vR Mc, vR sa, vU, vU, vR Sg, vI (nI e), vI (nI r.1), vI (nI r.2.1), vI (nI i), vU, vI (nI n), vU, vU, vU] [] h') (thr : ∀ y h', actP p N Bp K B L t inp S e i (bg, ops, st, alt, br) = none → ThrR hB h' Mc D b0 Sg q a C p N Bp K B L t inp y → R = none ∧ ThrR hB h' Mc D b0 Sg q a C p N Bp K B L t inp y) :
    Aw G mX7_run (d + 1) 0 h0 (kV (fun h' => ∃ st', R = some st' ∧ (∃ alt', MOk h' Mc D b0 st' alt') ∧ st'.length ≤ 1000 ∧ REnv h' Mc D b0 Sg q a C p N Bp K B L t inp ∧ RFr hB h' Mc D Sg C ∧ Kp [7004, 7005, 7008] Mc hB h') (fun y h' => R = none ∧ ThrR hB h' Mc D b0 Sg q a C p N Bp K B L t inp y)) 290 [vR Mc, vR sa, vU, vU, vR Sg, vI (nI e), vI (nI bg), vI (nI ops), vI (nI i), vI (nI op), vI (nI n), vU, vI (bB (allT br)), vU] [] h := by
  have ri := I.ri
  dsimp only at ri
  have hu := ub_lt S i
  obtain ⟨s1, s2, s3⟩ := scrR hz hsa ks eS I.2.2.1
  have na : sa ≠ Mc + 5 := fun z => hsa (by rw [z]; exact Or.inr (Or.inl ⟨by omega, by omega⟩))
  have e1 : allT br = false → actP p N Bp K B L t inp S e i (bg, ops, st, alt, br) = some (bg, ops, st, alt, br) := fun w1 => by
    unfold actP
    dsimp only
    rw [← hop, if_neg (by omega), if_neg c2, if_pos w1]
  have e2 : ¬ allT br = false → op = 171 → actP p N Bp K B L t inp S e i (bg, ops, st, alt, br) = some (i + 1, ops, st, alt, br) := fun w1 w2 => by
    unfold actP
    dsimp only
    rw [← hop, if_neg (by omega), if_neg c2, if_neg w1, if_pos w2]
  have e3 : ¬ allT br = false → ¬ op = 171 → (op = 172 ∨ op = 173) → actP p N Bp K B L t inp S e i (bg, ops, st, alt, br) = (match sinP p N Bp K B L t inp S bg e op st with
    | none => none
    | some r => some (bg, ops, r, alt, br)) := fun w1 w2 w3 => by
    unfold actP
    dsimp only
    rw [← hop, if_neg (by omega), if_neg c2, if_neg w1, if_neg w2, if_pos w3]
  refine sX7_run_290 h Mc sa Sg (nI e) (nI bg) (nI ops) (nI i) (nI op) (nI n) (bB (allT br)) ⟨fun z => ?_, fun z => ?_⟩
  · exact fin _ h (e1 ((bB_0 _).mp z)) I
  · have c3 : allT br = true := by
      cases w : allT br with
      | true => rfl
      | false => rw [w] at z; exact absurd rfl z
    have nc3 : ¬ allT br = false := by rw [c3]; decide
    refine pk_eq' op 171 (fun z1 => ?_) (fun z1 => ?_)
    · have go : ¬ (op = 172 ∨ op = 173) → Aw G mX7_run (d + 1) 0 h0 (kV (fun h' => ∃ st', R = some st' ∧ (∃ alt', MOk h' Mc D b0 st' alt') ∧ st'.length ≤ 1000 ∧ REnv h' Mc D b0 Sg q a C p N Bp K B L t inp ∧ RFr hB h' Mc D Sg C ∧ Kp [7004, 7005, 7008] Mc hB h') (fun y h' => R = none ∧ ThrR hB h' Mc D b0 Sg q a C p N Bp K B L t inp y)) 344 [vR Mc, vR sa, vU, vU, vR Sg, vI (nI e), vI (nI bg), vI (nI ops), vI (nI i), vI (nI op), vI (nI n), vU, vU, vU] [] h := fun z2 => run_344 hd hz hsa ks eS hl hl2 hsb hi hb hb2 ho hs hn0 hn1 hop I c1 c2 c3 z1 z2 fin thr
      refine pk_lt op 172 (fun z2 => go (by omega)) (fun z2 => pk_lt 173 op (fun z3 => go (by omega)) (fun z3 => ⟨I.1.1.1, ?_⟩))
      have e0 := e3 nc3 z1 (by omega)
      refine (Mc_single_spec (S := S) (by omega) (by omega) ri.1 ri.2.1 hs s1 s2 na hb hl (by omega) hb2).toV (fun h3 _ _ Q => ?_) (fun y h3 _ _ Q => ?_)
      · obtain ⟨s', es, J⟩ := Q
        rw [es] at e0
        exact fin _ h3 e0 (I.aft J)
      · have en : actP p N Bp K B L t inp S e i (bg, ops, st, alt, br) = none := by rw [e0, Q.1]
        exact thr y h3 en (Q.2.aft I.2.2.1)
    · rw [nI_1]
      exact fin _ h (e2 nc3 z1) I
theorem run_180 (hd : 16 ≤ d) (hz : sa < hB.z) (hsa : ¬ rnP hB Mc D Sg C sa) (ks : hB.kd sa = 101) (eS : hB.ai sa = S) (hl : e ≤ S.length) (hl2 : S.length < 2 ^ 16) (hsb : hB.kd (sa - 1) ≠ 22) (hi : i < e) (hb : bg ≤ e) (hb2 : e - bg ≤ 1600) (ho : ops ≤ 201) (hs : st.length + alt.length ≤ 1000) (hn0 : n = opLen S i e) (hn1 : opLen S i e ≠ 0) (hop : op = ub S i) (I : RL hB h Mc D b0 Sg q a C p N Bp K B L t inp (bg, ops, st, alt, br)) (hbr : br.length ≤ 201) (h520 : op ≤ 78 → opSz S i ≤ 520) (nv : ¬ nvP op) (fin : ∀ r h', actP p N Bp K B L t inp S e i (bg, ops, st, alt, br) = some r → RL hB h' Mc D b0 Sg q a C p N Bp K B L t inp r → Aw G mX7_run (d + 1) 0 h0 (kV (fun h' => ∃ st', R = some st' ∧ (∃ alt', MOk h' Mc D b0 st' alt') ∧ st'.length ≤ 1000 ∧ REnv h' Mc D b0 Sg q a C p N Bp K B L t inp ∧ RFr hB h' Mc D Sg C ∧ Kp [7004, 7005, 7008] Mc hB h') (fun y h' => R = none ∧ ThrR hB h' Mc D b0 Sg q a C p N Bp K B L t inp y)) 388 [vR Mc, vR sa, vU, vU, vR Sg, vI (nI e), vI (nI r.1), vI (nI r.2.1), vI (nI i), vU, vI (nI n), vU, vU, vU] [] h') (thr : ∀ y h', actP p N Bp K B L t inp S e i (bg, ops, st, alt, br) = none → ThrR hB h' Mc D b0 Sg q a C p N Bp K B L t inp y → R = none ∧ ThrR hB h' Mc D b0 Sg q a C p N Bp K B L t inp y) : ∀ (j : Nat) (u : Unit), j ≤ br.length → True →
    Aw G mX7_run (d + 1) 0 h0 (kV (fun h' => ∃ st', R = some st' ∧ (∃ alt', MOk h' Mc D b0 st' alt') ∧ st'.length ≤ 1000 ∧ REnv h' Mc D b0 Sg q a C p N Bp K B L t inp ∧ RFr hB h' Mc D Sg C ∧ Kp [7004, 7005, 7008] Mc hB h') (fun y h' => R = none ∧ ThrR hB h' Mc D b0 Sg q a C p N Bp K B L t inp y)) 180 [vR Mc, vR sa, vU, vU, vR Sg, vI (nI e), vI (nI bg), vI (nI ops), vI (nI i), vI (nI op), vI (nI n), vI (nI (opHd op)), vI (bB (allT (br.take j))), vI (nI j)] [] h := by
  have ri := I.ri
  have Br := I.2.2.2.1
  dsimp only at ri Br
  have hu := ub_lt S i
  have H := ri.1
  have l4 : (h.ai (Mc + 4)).length = 202 := H.1.2.2.2.2.2.2.1
  refine loop_uc (n := br.length) (P := fun j (u : Unit) => Aw G mX7_run (d + 1) 0 h0 (kV (fun h' => ∃ st', R = some st' ∧ (∃ alt', MOk h' Mc D b0 st' alt') ∧ st'.length ≤ 1000 ∧ REnv h' Mc D b0 Sg q a C p N Bp K B L t inp ∧ RFr hB h' Mc D Sg C ∧ Kp [7004, 7005, 7008] Mc hB h') (fun y h' => R = none ∧ ThrR hB h' Mc D b0 Sg q a C p N Bp K B L t inp y)) 180 [vR Mc, vR sa, vU, vU, vR Sg, vI (nI e), vI (nI bg), vI (nI ops), vI (nI i), vI (nI op), vI (nI n), vI (nI (opHd op)), vI (bB (allT (br.take j))), vI (nI j)] [] h) (fun _ _ => True) (fun j u hj _ ih => ?_)
  refine sX7_run_180 h Mc sa Sg (nI e) (nI bg) (nI ops) (nI i) (nI op) (nI n) (nI (opHd op)) (bB (allT (br.take j))) (nI j) ⟨H.1.1, ?_⟩
  rw [Br.1]
  refine pk_le br.length j (fun z => ?_) (fun z => ?_)
  · obtain rfl : j = br.length := by omega
    rw [List.take_length]
    refine pk_lt 78 op (fun c1 => ?_) (fun c1 => ?_)
    · have go : ¬ (99 ≤ op ∧ op ≤ 104) → Aw G mX7_run (d + 1) 0 h0 (kV (fun h' => ∃ st', R = some st' ∧ (∃ alt', MOk h' Mc D b0 st' alt') ∧ st'.length ≤ 1000 ∧ REnv h' Mc D b0 Sg q a C p N Bp K B L t inp ∧ RFr hB h' Mc D Sg C ∧ Kp [7004, 7005, 7008] Mc hB h') (fun y h' => R = none ∧ ThrR hB h' Mc D b0 Sg q a C p N Bp K B L t inp y)) 290 [vR Mc, vR sa, vU, vU, vR Sg, vI (nI e), vI (nI bg), vI (nI ops), vI (nI i), vI (nI op), vI (nI n), vU, vI (bB (allT br)), vU] [] h := fun c2 => run_290 hd hz hsa ks eS hl hl2 hsb hi hb hb2 ho hs hn0 hn1 hop I c1 c2 fin thr
      refine pk_lt op 99 (fun z1 => go (by omega)) (fun z1 => pk_lt 104 op (fun z2 => go (by omega)) (fun z2 => pk_eq op 101 (fun z3 => absurd ((nvP_def op).mpr (by omega)) nv) (fun z3 => pk_eq op 102 (fun z4 => absurd ((nvP_def op).mpr (by omega)) nv) (fun z4 => ?_))))
      have e0 : actP p N Bp K B L t inp S e i (bg, ops, st, alt, br) = match brP op (allT br) st br with
        | none => none
        | some r => some (bg, ops, r.1, alt, r.2) := by
        unfold actP
        dsimp only
        rw [← hop, if_neg (by omega), if_pos ⟨z1, z2⟩]
      have r := ri.2.1.1.1
      refine (Mc_branch_spec (does := allT br) (by omega) (by omega) H Br hbr).toV (fun h3 _ _ Q => ?_) (fun y h3 _ _ Q => ?_)
      · obtain ⟨s', es, M3, B3, F3, K3⟩ := Q
        rw [es] at e0
        have hP : ∀ y, y < h.z → (mP h Mc y ∨ y = Mc + 4) → muP h Mc D y := fun y _ m => by
          rcases m with m | m
          · exact Or.inl m
          · exact Or.inr (Or.inl (by omega))
        exact fin _ h3 e0 ⟨M3, ri.2.1.mach F3.1 (fun y hy m => mu_mo (hP y hy m)), I.2.2.1.mu (sd_3 ri.2.1.1) F3.1 hP F3.2.1 F3.2.2, B3, I.2.2.2.2.trans K3 (fun _ q => q)⟩
      · have en : actP p N Bp K B L t inp S e i (bg, ops, st, alt, br) = none := by rw [e0, Q.1]
        exact thr y h3 en ((ri.thr Q.2).aft I.2.2.1)
    · have e0 : actP p N Bp K B L t inp S e i (bg, ops, st, alt, br) = some (if allT br = true then (bg, ops, st ++ [sub_ S (i + opHd op) (opSz S i)], alt, br) else (bg, ops, st, alt, br)) := by
        unfold actP
        dsimp only
        rw [← hop, if_pos (by omega)]
      refine ⟨fun z1 => ?_, fun z1 => ?_⟩
      · rw [if_neg (by rw [(bB_0 _).mp z1]; decide)] at e0
        exact fin _ h e0 I
      · have c3 : allT br = true := by
          cases w : allT br with
          | true => rfl
          | false => rw [w] at z1; exact absurd rfl z1
        rw [if_pos c3] at e0
        obtain ⟨s1, s2, s3⟩ := scrR hz hsa ks eS I.2.2.1
        have MI0 := MI.rf H
        have ol := opLen_eq hn1
        rw [← hop, ← hn0] at ol
        have ole := opLen_le (L := S) (i := i) (e := e)
        rw [← hn0] at ole hn1
        refine k_push (by omega) (by omega) MI0 (fun x11 h12 P w12 es => ⟨es.1, ?_⟩)
        rw [nI_add, show nI n - nI (opHd op) = nI (opSz S i) by rw [pk_sub (by omega)]; congr 1; omega]
        have q12 : eqAt h h12 sa := P.2.2.2.2.2.2.2.2.2.2.2 sa s3 (fun v hv e_ => by
          by_cases v3 : v = 3
          · have h3 : h.kd (Mc + 3) = 104 := H.1.2.2.1.2.2.1
            rw [e_, v3] at s1
            rw [h3] at s1
            exact absurd s1 (by decide)
          · refine hsa (Or.inl (Or.inl ?_))
            omega)
        have nx : sa ≠ x11 + 1 := fun z2 => by
          refine hsb ?_
          have k22 : h12.kd x11 = 22 := es.1
          have hx : x11 < h.z := by omega
          have hxB : x11 < hB.z := by omega
          rw [z2, Nat.add_sub_cancel, ← I.2.2.1.1.kd hxB, ← P.2.2.2.2.2.2.2.2.1.1.kd hx]
          exact k22
        refine k_set (L := S) (by omega) MI0 P w12 es (q12.1.trans s1) (q12.2.2.2.2.1.trans s2) (by omega) (by omega) (h520 (by omega)) nx (fun h14 I14 => ?_)
        exact fin _ h14 e0 (I.aft (ri.mi I14))
  · have tk := take_snoc br (show j < br.length by omega)
    have J := ih (by omega) () trivial
    rw [tk, allT_snoc] at J
    rw [nI_1]
    refine ⟨fun z1 => ?_, fun z1 r17 e17 => ?_⟩
    · rw [(bB_0 _).mp z1, Bool.false_and] at J
      exact J
    · have c3 : allT (br.take j) = true := by
        cases w : allT (br.take j) with
        | true => rfl
        | false => rw [w] at z1; exact absurd rfl z1
      rw [c3, Bool.true_and] at J
      have e17' : r17 = Mc + 4 := e17.trans H.1.2.1.2.2.2.2.1
      subst e17'
      rw [l4, pk_cl j rfl (by omega), Br.2 j (by omega)]
      refine ⟨H.1.2.2.1.2.2.2.1, pk_in j 202 (by omega), fun z2 => ?_, fun z2 => ?_⟩
      · rw [(bB_0 _).mp z2] at J
        exact J
      · have : br.getD j false = true := by
          cases w : br.getD j false with
          | true => rfl
          | false => rw [w] at z2; exact absurd rfl z2
        rw [this] at J
        exact J
theorem run_149 (hd : 16 ≤ d) (I : RL hB h Mc D b0 Sg q a C p N Bp K B L t inp s) (hop : op < 256) (ho2 : ops ≤ 300) (bad : 201 < ops ∨ nvP op → R = none)
    (cont : ops ≤ 201 → ¬ nvP op → Aw G mX7_run (d + 1) 0 h0 (kV (fun h' => ∃ st', R = some st' ∧ (∃ alt', MOk h' Mc D b0 st' alt') ∧ st'.length ≤ 1000 ∧ REnv h' Mc D b0 Sg q a C p N Bp K B L t inp ∧ RFr hB h' Mc D Sg C ∧ Kp [7004, 7005, 7008] Mc hB h') (fun y h' => R = none ∧ ThrR hB h' Mc D b0 Sg q a C p N Bp K B L t inp y)) 180 [vR Mc, vR sa, vU, vU, vR Sg, vI (nI e), vI (nI bg), vI (nI ops), vI (nI i), vI (nI op), vI (nI n), vI (nI (opHd op)), vI (bB (allT (br.take 0))), vI (nI 0)] [] h) :
    Aw G mX7_run (d + 1) 0 h0 (kV (fun h' => ∃ st', R = some st' ∧ (∃ alt', MOk h' Mc D b0 st' alt') ∧ st'.length ≤ 1000 ∧ REnv h' Mc D b0 Sg q a C p N Bp K B L t inp ∧ RFr hB h' Mc D Sg C ∧ Kp [7004, 7005, 7008] Mc hB h') (fun y h' => R = none ∧ ThrR hB h' Mc D b0 Sg q a C p N Bp K B L t inp y)) 149 [vR Mc, vR sa, vU, vU, vR Sg, vI (nI e), vI (nI bg), vI (nI ops), vI (nI i), vI (nI op), vI (nI n), vI (nI (opHd op)), vU, vU] [] h := by
  have ri := I.ri
  refine sX7_run_149 h Mc sa Sg (nI e) (nI bg) (nI ops) (nI i) (nI op) (nI n) (nI (opHd op)) (pk_lt 201 ops (fun z => ⟨I.1.1.1, q_need (by omega) ri (fun w => absurd rfl w) (fun _ y h' T => ⟨bad (Or.inl z), T.aft I.2.2.1⟩)⟩) (fun z => ?_))
  refine (Mc_never_spec (by omega) hop).nI (fun x5 h6 Q => ?_)
  obtain ⟨x5e, rfl⟩ := Q
  rcases x5e with ⟨x5e, z1⟩ | ⟨x5e, z1⟩
  · subst x5e
    exact ⟨fun _ => ⟨I.1.1.1, q_need (by omega) ri (fun w => absurd rfl w) (fun _ y h' T => ⟨bad (Or.inr z1), T.aft I.2.2.1⟩)⟩, fun z2 => absurd z2 (by decide)⟩
  · subst x5e
    exact ⟨fun z2 => absurd rfl z2, fun _ => ⟨I.1.1.1, q_need (by omega) ri (fun _ => cont z z1) (fun w => absurd w (by decide))⟩⟩
end Run2

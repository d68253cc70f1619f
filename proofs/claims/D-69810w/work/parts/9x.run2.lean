/-! a run of a script: the loop -/
set_option maxRecDepth 100000
section RunB
variable {p N : Nat} {Bp : Pt} {K B L : List Int32} {t : TxP} {inp : Nat} {S : List Int32} {b e i op ops off : Nat} {st : List (List Int32)} {s r : RSt}
theorem sevP_ops {r : List (List Int32) × Nat} (h : sevP p N Bp K B L t inp S b e op ops st = some r) : ops ≤ r.2 ∧ r.2 ≤ 201 := by
  unfold sevP at h
  split at h
  · cases h
  · split at h
    · cases h
    · rename_i c
      split at h
      · cases h
      · split at h
        · cases h
        · split at h
          · cases h
          · split at h
            · cases h
            · split at h
              · cases h
              · cases h
                dsimp only
                omega
theorem brP_len {does : Bool} {br : List Bool} {r : List (List Int32) × List Bool} (h : brP op does st br = some r) : r.2.length ≤ br.length + 1 := by
  have tl : (br.take (br.length - 1)).length ≤ br.length := by
    rw [List.length_take]
    omega
  unfold brP at h
  split at h
  · split at h
    · split at h
      · cases h
      · cases h
        dsimp only
        rw [List.length_append]
        exact Nat.le_refl _
    · cases h
      dsimp only
      rw [List.length_append]
      exact Nat.le_refl _
  · split at h
    · cases h
    · split at h
      · cases h
        dsimp only
        rw [List.length_append]
        exact Nat.add_le_add_right tl 1
      · cases h
        dsimp only
        omega
theorem actP_bd (h : actP p N Bp K B L t inp S e i s = some r) (hi : i < e) (h1 : off ≤ s.1) (h2 : s.1 ≤ e) (h3 : off ≤ i) (h4 : s.2.1 ≤ 201) (h5 : s.2.2.2.2.length ≤ s.2.1) (h6 : 96 < ub S i → s.2.2.2.2.length + 1 ≤ s.2.1) : off ≤ r.1 ∧ r.1 ≤ e ∧ r.2.1 ≤ 201 ∧ r.2.2.2.2.length ≤ r.2.1 := by
  unfold actP at h
  split at h
  · cases h
    split
    · exact ⟨h1, h2, h4, h5⟩
    · exact ⟨h1, h2, h4, h5⟩
  · split at h
    · rename_i c1 c2
      split at h
      · cases h
      · rename_i r' er
        cases h
        have := brP_len er
        have := h6 (by omega)
        exact ⟨h1, h2, h4, by dsimp only; omega⟩
    · split at h
      · cases h
        exact ⟨h1, h2, h4, h5⟩
      · split at h
        · cases h
          exact ⟨by dsimp only; omega, by dsimp only; omega, h4, h5⟩
        · split at h
          · split at h
            · cases h
            · cases h
              exact ⟨h1, h2, h4, h5⟩
          · split at h
            · split at h
              · cases h
              · rename_i r' er
                cases h
                have := sevP_ops er
                exact ⟨h1, h2, by dsimp only; omega, by dsimp only; omega⟩
            · split at h
              · cases h
              · cases h
                exact ⟨h1, h2, h4, h5⟩
end RunB
section Run3
variable {G : Gx} {d : Nat} {hB h h' h0 : AH} {Mc D b0 Sg q a C p N inp : Nat} {Bp : Pt} {K B L : List Int32} {t : TxP} {st alt : List (List Int32)} {S : List Int32} {sa e off : Nat} {R : Option (List (List Int32))}
theorem run_24 (hd : 16 ≤ d) (hz : sa < hB.z) (hsa : ¬ rnP hB Mc D Sg C sa) (ks : hB.kd sa = 101) (eS : hB.ai sa = S) (hl : e ≤ S.length) (hl2 : S.length < 2 ^ 16) (hsb : hB.kd (sa - 1) ≠ 22) (hoff : e - off ≤ 1600) : ∀ (k i : Nat) (s : RSt) (h : AH), e - i < k → off ≤ i → i ≤ e → RL hB h Mc D b0 Sg q a C p N Bp K B L t inp s → off ≤ s.1 → s.1 ≤ e → s.2.1 ≤ 201 → s.2.2.2.2.length ≤ s.2.1 → s.2.2.1.length + s.2.2.2.1.length ≤ 1000 → runF p N Bp K B L t inp S e k i s = R →
    Aw G mX7_run (d + 1) 0 h0 (kV (fun h' => ∃ st', R = some st' ∧ (∃ alt', MOk h' Mc D b0 st' alt') ∧ st'.length ≤ 1000 ∧ REnv h' Mc D b0 Sg q a C p N Bp K B L t inp ∧ RFr hB h' Mc D Sg C ∧ Kp [7004, 7005, 7008] Mc hB h') (fun y h' => R = none ∧ ThrR hB h' Mc D b0 Sg q a C p N Bp K B L t inp y)) 24 [vR Mc, vR sa, vU, vU, vR Sg, vI (nI e), vI (nI s.1), vI (nI s.2.1), vI (nI i), vU, vU, vU, vU, vU] [] h := by
  intro k
  induction k with
  | zero => intro i s h hk; exact absurd hk (Nat.not_lt_zero _)
  | succ k ih =>
    intro i s h hk hi0 hie I b1 b2 b3 b4 b5 hR
    obtain ⟨bg, ops, st, alt, br⟩ := s
    dsimp only at b1 b2 b3 b4 b5 ⊢
    have ri := I.ri
    have Br := I.2.2.2.1
    dsimp only at ri Br
    obtain ⟨s1, s2, s3⟩ := scrR hz hsa ks eS I.2.2.1
    unfold runF at hR
    dsimp only at hR
    refine sX7_run_24 h Mc sa Sg (nI e) (nI bg) (nI ops) (nI i) (pk_le e i (fun z => ⟨I.1.1.1, ?_⟩) (fun z => ?_))
    · rw [if_pos z] at hR
      rw [Br.1]
      refine pk_eq' br.length 0 (fun w => q_need (by omega) ri (fun w2 => absurd rfl w2) (fun _ y h' T => ⟨?_, T.aft I.2.2.1⟩)) (fun w => q_need (by omega) ri (fun _ => ⟨st, ?_, ⟨alt, I.1⟩, by omega, I.2.1, I.2.2.1, I.2.2.2.2⟩) (fun w2 => absurd w2 (by decide)))
      · rw [← hR, if_neg w]
      · rw [← hR, if_pos w]
    · rw [if_neg (by omega)] at hR
      have hu := ub_lt S i
      rw [s2, pk_cl i rfl (by omega), and_ub]
      refine ⟨s1, pk_in i S.length (by omega), fun u10 eu => ?_⟩
      subst eu
      refine (Mc_length_spec (by omega) s1 (by omega) (by rw [s2]; exact hl) (by rw [s2]; omega)).nI (fun x11 h12 Q => ?_)
      obtain ⟨ex, rfl⟩ := Q
      rw [s2] at ex
      subst ex
      have ol := opLen_le (L := S) (i := i) (e := e)
      refine pk_le (opLen S i e) 0 (fun z1 => ⟨I.1.1.1, q_need (by omega) ri (fun w2 => absurd rfl w2) (fun _ y h' T => ⟨?_, T.aft I.2.2.1⟩)⟩) (fun z1 => ⟨I.1.1.1, q_need (by omega) ri (fun _ => ?_) (fun w2 => absurd w2 (by decide))⟩)
      · rw [← hR]
        unfold oneP
        rw [if_pos (by omega)]
      have n0 : opLen S i e ≠ 0 := by omega
      have oe := opLen_eq n0
      have hp := opHd_pos (ub S i)
      have hp5 := opHd_le (ub S i)
      have one : oneP p N Bp K B L t inp S e i (bg, ops, st, alt, br) = if ub S i ≤ 78 ∧ 520 < opSz S i then none else if 201 < opsC (ub S i) ops ∨ nvB (ub S i) = true then none
          else match actP p N Bp K B L t inp S e i (bg, opsC (ub S i) ops, st, alt, br) with
          | none => none
          | some r => if 1000 < r.2.2.1.length + r.2.2.2.1.length then none else some r := by
        unfold oneP
        rw [if_neg n0]
        rfl
      have oC : opsC (ub S i) ops ≤ ops + 1 ∧ ops ≤ opsC (ub S i) ops := by
        unfold opsC
        split <;> omega
      -- from here on the operation is counted
      have body : ¬ (ub S i ≤ 78 ∧ 520 < opSz S i) → ∀ v : Int32, v = nI (opsC (ub S i) ops) → Aw G mX7_run (d + 1) 0 h0 (kV (fun h' => ∃ st', R = some st' ∧ (∃ alt', MOk h' Mc D b0 st' alt') ∧ st'.length ≤ 1000 ∧ REnv h' Mc D b0 Sg q a C p N Bp K B L t inp ∧ RFr hB h' Mc D Sg C ∧ Kp [7004, 7005, 7008] Mc hB h') (fun y h' => R = none ∧ ThrR hB h' Mc D b0 Sg q a C p N Bp K B L t inp y)) 149 [vR Mc, vR sa, vU, vU, vR Sg, vI (nI e), vI (nI bg), vI v, vI (nI i), vI (nI (ub S i)), vI (nI (opLen S i e)), vI (nI (opHd (ub S i))), vU, vU] [] h12 := fun c520 v hv => by
        subst hv
        rw [if_neg c520] at one
        refine run_149 (br := br) hd I hu (by omega) (fun bad => ?_) (fun ho nv => ?_)
        · rw [← hR, one, if_pos (bad.elim Or.inl (fun q => Or.inr ((nvB_iff _).mpr q)))]
        · rw [if_neg (fun q => q.elim (fun q => by omega) (fun q => nv ((nvB_iff _).mp q)))] at one
          have I' : RL hB h12 Mc D b0 Sg q a C p N Bp K B L t inp (bg, opsC (ub S i) ops, st, alt, br) := I
          refine run_180 (n := opLen S i e) (op := ub S i) hd hz hsa ks eS hl hl2 hsb (by omega) b2 (by omega) ho b5 rfl n0 rfl I' (by omega) (fun q => by omega) nv (fun r h' er J => ?_) (fun y h' er T => ⟨?_, T⟩) 0 () (Nat.zero_le _) trivial
          · rw [er] at one
            dsimp only at one
            have bd := actP_bd (off := off) er (by omega) b1 b2 hi0 ho (by dsimp only; omega) (fun q => by
              dsimp only
              have : opsC (ub S i) ops = ops + 1 := by unfold opsC; rw [if_neg (by omega)]
              omega)
            refine run_388 (h := h') (bg := r.1) (ops := r.2.1) (st := r.2.2.1) (alt := r.2.2.2.1) (br := r.2.2.2.2) hd J (fun q => ?_) (fun q => ?_)
            · rw [← hR, one, if_pos q]
            · rw [if_neg q] at one
              rw [one] at hR
              dsimp only at hR
              exact ih (i + opLen S i e) r h' (by omega) (by omega) (by omega) J bd.1 bd.2.1 bd.2.2.1 bd.2.2.2 (by omega) hR
          · rw [← hR, one, er]
      have c149 : ¬ (ub S i ≤ 78 ∧ 520 < opSz S i) → ∀ w : Int32, w = nI (opHd (ub S i)) → ((nI (ub S i) ≤ 96 → Aw G mX7_run (d + 1) 0 h0 (kV (fun h' => ∃ st', R = some st' ∧ (∃ alt', MOk h' Mc D b0 st' alt') ∧ st'.length ≤ 1000 ∧ REnv h' Mc D b0 Sg q a C p N Bp K B L t inp ∧ RFr hB h' Mc D Sg C ∧ Kp [7004, 7005, 7008] Mc hB h') (fun y h' => R = none ∧ ThrR hB h' Mc D b0 Sg q a C p N Bp K B L t inp y)) 149 [vR Mc, vR sa, vU, vU, vR Sg, vI (nI e), vI (nI bg), vI (nI ops), vI (nI i), vI (nI (ub S i)), vI (nI (opLen S i e)), vI w, vU, vU] [] h12) ∧ (¬ nI (ub S i) ≤ 96 → Aw G mX7_run (d + 1) 0 h0 (kV (fun h' => ∃ st', R = some st' ∧ (∃ alt', MOk h' Mc D b0 st' alt') ∧ st'.length ≤ 1000 ∧ REnv h' Mc D b0 Sg q a C p N Bp K B L t inp ∧ RFr hB h' Mc D Sg C ∧ Kp [7004, 7005, 7008] Mc hB h') (fun y h' => R = none ∧ ThrR hB h' Mc D b0 Sg q a C p N Bp K B L t inp y)) 149 [vR Mc, vR sa, vU, vU, vR Sg, vI (nI e), vI (nI bg), vI (nI ops + 1), vI (nI i), vI (nI (ub S i)), vI (nI (opLen S i e)), vI w, vU, vU] [] h12)) := fun c520 w hw => by
        subst hw
        exact pk_le (ub S i) 96 (fun q => body c520 _ (by unfold opsC; rw [if_pos q])) (fun q => body c520 _ (by unfold opsC; rw [if_neg (by omega), nI_1]))
      have big : ub S i ≤ 78 → 520 < opSz S i → R = none := fun q1 q2 => by rw [← hR, one, if_pos ⟨q1, q2⟩]
      have X : ∀ w : Int32, w = nI (opHd (ub S i)) → ((78 < nI (ub S i) → Cw G mX7_need d 0 [vR Mc, vI 1] h12 (kV (fun h100 => ((nI (ub S i) ≤ 96 → Aw G mX7_run (d + 1) 0 h0 (kV (fun h' => ∃ st', R = some st' ∧ (∃ alt', MOk h' Mc D b0 st' alt') ∧ st'.length ≤ 1000 ∧ REnv h' Mc D b0 Sg q a C p N Bp K B L t inp ∧ RFr hB h' Mc D Sg C ∧ Kp [7004, 7005, 7008] Mc hB h') (fun y h' => R = none ∧ ThrR hB h' Mc D b0 Sg q a C p N Bp K B L t inp y)) 149 [vR Mc, vR sa, vU, vU, vR Sg, vI (nI e), vI (nI bg), vI (nI ops), vI (nI i), vI (nI (ub S i)), vI (nI (opLen S i e)), vI w, vU, vU] [] h100) ∧ (¬ nI (ub S i) ≤ 96 → Aw G mX7_run (d + 1) 0 h0 (kV (fun h' => ∃ st', R = some st' ∧ (∃ alt', MOk h' Mc D b0 st' alt') ∧ st'.length ≤ 1000 ∧ REnv h' Mc D b0 Sg q a C p N Bp K B L t inp ∧ RFr hB h' Mc D Sg C ∧ Kp [7004, 7005, 7008] Mc hB h') (fun y h' => R = none ∧ ThrR hB h' Mc D b0 Sg q a C p N Bp K B L t inp y)) 149 [vR Mc, vR sa, vU, vU, vR Sg, vI (nI e), vI (nI bg), vI (nI ops + 1), vI (nI i), vI (nI (ub S i)), vI (nI (opLen S i e)), vI w, vU, vU] [] h100))) (fun x h => (kV (fun h' => ∃ st', R = some st' ∧ (∃ alt', MOk h' Mc D b0 st' alt') ∧ st'.length ≤ 1000 ∧ REnv h' Mc D b0 Sg q a C p N Bp K B L t inp ∧ RFr hB h' Mc D Sg C ∧ Kp [7004, 7005, 7008] Mc hB h') (fun y h' => R = none ∧ ThrR hB h' Mc D b0 Sg q a C p N Bp K B L t inp y)) (.inr x) h))) ∧ (¬ 78 < nI (ub S i) → ((520 < (nI (opLen S i e) - w) → Cw G mX7_need d 0 [vR Mc, vI 0] h12 (kV (fun h105 => ((nI (ub S i) ≤ 96 → Aw G mX7_run (d + 1) 0 h0 (kV (fun h' => ∃ st', R = some st' ∧ (∃ alt', MOk h' Mc D b0 st' alt') ∧ st'.length ≤ 1000 ∧ REnv h' Mc D b0 Sg q a C p N Bp K B L t inp ∧ RFr hB h' Mc D Sg C ∧ Kp [7004, 7005, 7008] Mc hB h') (fun y h' => R = none ∧ ThrR hB h' Mc D b0 Sg q a C p N Bp K B L t inp y)) 149 [vR Mc, vR sa, vU, vU, vR Sg, vI (nI e), vI (nI bg), vI (nI ops), vI (nI i), vI (nI (ub S i)), vI (nI (opLen S i e)), vI w, vU, vU] [] h105) ∧ (¬ nI (ub S i) ≤ 96 → Aw G mX7_run (d + 1) 0 h0 (kV (fun h' => ∃ st', R = some st' ∧ (∃ alt', MOk h' Mc D b0 st' alt') ∧ st'.length ≤ 1000 ∧ REnv h' Mc D b0 Sg q a C p N Bp K B L t inp ∧ RFr hB h' Mc D Sg C ∧ Kp [7004, 7005, 7008] Mc hB h') (fun y h' => R = none ∧ ThrR hB h' Mc D b0 Sg q a C p N Bp K B L t inp y)) 149 [vR Mc, vR sa, vU, vU, vR Sg, vI (nI e), vI (nI bg), vI (nI ops + 1), vI (nI i), vI (nI (ub S i)), vI (nI (opLen S i e)), vI w, vU, vU] [] h105))) (fun x h => (kV (fun h' => ∃ st', R = some st' ∧ (∃ alt', MOk h' Mc D b0 st' alt') ∧ st'.length ≤ 1000 ∧ REnv h' Mc D b0 Sg q a C p N Bp K B L t inp ∧ RFr hB h' Mc D Sg C ∧ Kp [7004, 7005, 7008] Mc hB h') (fun y h' => R = none ∧ ThrR hB h' Mc D b0 Sg q a C p N Bp K B L t inp y)) (.inr x) h))) ∧ (¬ 520 < (nI (opLen S i e) - w) → Cw G mX7_need d 0 [vR Mc, vI 1] h12 (kV (fun h109 => ((nI (ub S i) ≤ 96 → Aw G mX7_run (d + 1) 0 h0 (kV (fun h' => ∃ st', R = some st' ∧ (∃ alt', MOk h' Mc D b0 st' alt') ∧ st'.length ≤ 1000 ∧ REnv h' Mc D b0 Sg q a C p N Bp K B L t inp ∧ RFr hB h' Mc D Sg C ∧ Kp [7004, 7005, 7008] Mc hB h') (fun y h' => R = none ∧ ThrR hB h' Mc D b0 Sg q a C p N Bp K B L t inp y)) 149 [vR Mc, vR sa, vU, vU, vR Sg, vI (nI e), vI (nI bg), vI (nI ops), vI (nI i), vI (nI (ub S i)), vI (nI (opLen S i e)), vI w, vU, vU] [] h109) ∧ (¬ nI (ub S i) ≤ 96 → Aw G mX7_run (d + 1) 0 h0 (kV (fun h' => ∃ st', R = some st' ∧ (∃ alt', MOk h' Mc D b0 st' alt') ∧ st'.length ≤ 1000 ∧ REnv h' Mc D b0 Sg q a C p N Bp K B L t inp ∧ RFr hB h' Mc D Sg C ∧ Kp [7004, 7005, 7008] Mc hB h') (fun y h' => R = none ∧ ThrR hB h' Mc D b0 Sg q a C p N Bp K B L t inp y)) 149 [vR Mc, vR sa, vU, vU, vR Sg, vI (nI e), vI (nI bg), vI (nI ops + 1), vI (nI i), vI (nI (ub S i)), vI (nI (opLen S i e)), vI w, vU, vU] [] h109))) (fun x h => (kV (fun h' => ∃ st', R = some st' ∧ (∃ alt', MOk h' Mc D b0 st' alt') ∧ st'.length ≤ 1000 ∧ REnv h' Mc D b0 Sg q a C p N Bp K B L t inp ∧ RFr hB h' Mc D Sg C ∧ Kp [7004, 7005, 7008] Mc hB h') (fun y h' => R = none ∧ ThrR hB h' Mc D b0 Sg q a C p N Bp K B L t inp y)) (.inr x) h)))))) := fun w hw => by
        have es : nI (opLen S i e) - w = nI (opSz S i) := by
          rw [hw, pk_sub (by omega)]
          congr 1
          omega
        rw [es]
        refine pk_lt 78 (ub S i) (fun q => q_need (by omega) ri (fun _ => c149 (by omega) w hw) (fun w2 => absurd w2 (by decide))) (fun q => pk_lt 520 (opSz S i) (fun q2 => q_need (by omega) ri (fun w2 => absurd rfl w2) (fun _ y h' T => ⟨big q q2, T.aft I.2.2.1⟩)) (fun q2 => q_need (by omega) ri (fun _ => c149 (by omega) w hw) (fun w2 => absurd w2 (by decide))))
      refine pk_le 76 (ub S i) (fun q => pk_eq' (ub S i) 76 (fun q1 => pk_eq' (ub S i) 77 (fun q2 => pk_eq' (ub S i) 78 (fun q3 => X 1 ?_) (fun q3 => X 5 ?_)) (fun q2 => X 3 ?_)) (fun q1 => X 2 ?_)) (fun q => X 1 ?_)
      · unfold opHd; rw [if_neg q1, if_neg q2, if_neg q3]; rfl
      · unfold opHd; rw [if_neg q1, if_neg q2, if_pos q3]; rfl
      · unfold opHd; rw [if_neg q1, if_pos q2]; rfl
      · unfold opHd; rw [if_pos q1]; rfl
      · unfold opHd; rw [if_neg (by omega), if_neg (by omega), if_neg (by omega)]; rfl
theorem Mc_run_spec {sz : Nat} (hd : 17 ≤ d) (hz : sa < h.z) (hsa : ¬ rnP h Mc D Sg C sa) (ks : h.kd sa = 101) (eS : h.ai sa = S) (hl : off + sz ≤ S.length) (hl2 : S.length < 2 ^ 16) (hsb : h.kd (sa - 1) ≠ 22) (hsz : sz ≤ 1600) (H : MOs h Mc D b0 st) (E : REnv h Mc D b0 Sg q a C p N Bp K B L t inp) (hst : st.length ≤ 1000) (hR : R = runP p N Bp K B L t inp S off (off + sz) st) :
    Cw G mX7_run d 0 [vR Mc, vR sa, vI (nI off), vI (nI sz), vR Sg] h (kV (fun h' => ∃ st', R = some st' ∧ (∃ alt', MOk h' Mc D b0 st' alt') ∧ st'.length ≤ 1000 ∧ REnv h' Mc D b0 Sg q a C p N Bp K B L t inp ∧ RFr h h' Mc D Sg C ∧ Kp [7004, 7005, 7008] Mc h h') (fun y h' => R = none ∧ ThrR h h' Mc D b0 Sg q a C p N Bp K B L t inp y)) := by
  obtain ⟨d, rfl⟩ : ∃ d', d = d' + 1 := ⟨d - 1, by omega⟩
  refine eX7_run h Mc sa (nI off) (nI sz) Sg (fun wf => sX7_run_0 h Mc sa (nI off) (nI sz) Sg ⟨H.1.1, fun h2 e2 h4 e4 => ?_⟩)
  rw [nI_add]
  have M4 : MOk h4 Mc D b0 st [] := by
    rw [e4, e2]
    exact H.start
  have S4 : Same (fun y => y = Mc) h h4 := by
    rw [e4, e2]
    exact ((Same.rf (P := fun y => y = Mc)).pi _ _ (Or.inl rfl)).pi _ _ (Or.inl rfl)
  have hP : ∀ y, y < h.z → y = Mc → muP h Mc D y := fun y _ m => Or.inl (Or.inl ⟨by omega, by omega⟩)
  have n4 : nul h4 Mc = nul h Mc := by rw [e4, e2]; rfl
  have z4 : h4.z = h.z := by rw [e4, e2]; rfl
  have s4 : h4.s = h.s := by rw [e4, e2]; rfl
  have I : RL h h4 Mc D b0 Sg q a C p N Bp K B L t inp (off, 0, st, [], []) := by
    refine ⟨M4, E.mach S4 (fun y hy m => mu_mo (hP y hy m)), RFr.rf.mu (sd_3 E.1) S4 hP (by rw [n4, z4]) ⟨by rw [n4, s4], fun j hj q => by rw [e4, e2]; exact q⟩, ⟨?_, fun j hj => absurd hj (Nat.not_lt_zero _)⟩, ?_⟩
    rotate_left
    · rw [e4, e2]
      exact (Kp.rf.pi _ _ (Or.inl (by decide))).pi _ _ (Or.inl (by decide))
    rw [e4, e2, AH.i_pi, if_neg (fun q => absurd q.1 (by decide)), AH.i_pi, if_pos ⟨rfl, rfl⟩]
    rfl
  exact run_24 (off := off) (e := off + sz) (by omega) hz hsa ks eS hl hl2 hsb (by omega) (off + sz - off + 1) off (off, 0, st, [], []) h4 (by omega) (Nat.le_refl _) (by omega) I (Nat.le_refl _) (by dsimp only; omega) (Nat.zero_le _) (Nat.zero_le _) (by dsimp only; simpa using hst) hR.symm
end Run3

/-! the component's table of coins: start, sameId, find, get -/
set_option maxRecDepth 100000
/-- the name of a coin: the identity of its transaction, its index -/
abbrev CK : Type := List Int32 × Int32
def kyC (h : AH) (c : Nat) : CK := (h.ai (h.r 18002 (h.r 23001 c)), h.i 23002 c)
def sfC (k : CK) : Nat := ((ub k.1 0 * 65536 + ub k.1 1 * 256 + ub k.1 2) * 31 + u32 k.2) % 1024
theorem sfC_lt (k : CK) : sfC k < 1024 := Nat.mod_lt _ (by decide)
/-- a coin is as it must be -/
def CnOk (h : AH) (c : Nat) : Prop := h.kd c = 23 ∧ h.kd (h.r 23001 c) = 18 ∧ (h.kd (h.r 18002 (h.r 23001 c)) = 101 ∧ (h.ai (h.r 18002 (h.r 23001 c))).length = 32) ∧
  ∃ o, h.i 23002 c = nI o ∧ h.kd (h.r 18006 (h.r 23001 c)) = 112 ∧ o < (h.ar (h.r 18006 (h.r 23001 c))).length ∧ (h.ar (h.r 18006 (h.r 23001 c))).length < 2 ^ 16 ∧ h.kd ((h.ar (h.r 18006 (h.r 23001 c))).getD o 0) = 20
/-- the place p of the table -/
def tbT (h : AH) (Co p : Nat) : Nat := (h.ar (Co + 1)).getD p 0
def TbS (h : AH) (Co : Nat) : Prop := h.kd Co = 9 ∧ h.r 9000 Co = Co + 1 ∧ h.kd (Co + 1) = 105 ∧ (h.ar (Co + 1)).length = 1024
def TbAt (h : AH) (Co : Nat) : Prop := TbS h Co ∧ (∀ p, p < 1024 → tbT h Co p ≠ 0 → CnOk h (tbT h Co p)) ∧ TbI (kyC h) sfC (tbT h Co) ∧ 0 < cz (h.ar (Co + 1))
section Coins
variable {G : Gx} {d : Nat} {h : AH} {Co ia off : Nat} {v : Int32} {id : List Int32}
theorem ub_sub {L : List Int32} {off n i : Nat} (hi : i < n) : ub (sub_ L off n) i = ub L (off + i) := by
  unfold ub
  rw [sub_getD hi]
theorem X9_start_spec (hd : 1 ≤ d) (ka : h.kd ia = 101) (hl : off + 32 ≤ (h.ai ia).length) (hl2 : (h.ai ia).length < 2 ^ 31) (ei : sub_ (h.ai ia) off 32 = id) : Cw G mX9_start d 0 [vR ia, vI (nI off), vI v] h (kI (fun x h' => x = nI (sfC (id, v)) ∧ h' = h) nE) := by
  obtain ⟨d, rfl⟩ : ∃ d', d = d' + 1 := ⟨d - 1, by omega⟩
  refine eX9_start h ia (nI off) v (fun _ => sX9_start_0 h ia (nI off) v ⟨ka, pk_in off (h.ai ia).length (by omega), ?_⟩)
  rw [show (1 : Int32) = nI 1 from rfl, nI_add, show (2 : Int32) = nI 2 from rfl, nI_add, pk_cl off rfl (by omega), pk_cl (off + 1) rfl (by omega), pk_cl (off + 2) rfl (by omega), and_ub, and_ub, and_ub]
  refine ⟨pk_in (off + 1) (h.ai ia).length (by omega), pk_in (off + 2) (h.ai ia).length (by omega), fun u5 e5 => ⟨?_, rfl⟩⟩
  have b0 := ub_lt (h.ai ia) off
  have b1 := ub_lt (h.ai ia) (off + 1)
  have b2 := ub_lt (h.ai ia) (off + 2)
  have e0 : ub id 0 = ub (h.ai ia) off := by rw [← ei, ub_sub (by decide), Nat.add_zero]
  have e1 : ub id 1 = ub (h.ai ia) (off + 1) := by rw [← ei, ub_sub (by decide)]
  have e2 : ub id 2 = ub (h.ai ia) (off + 2) := by rw [← ei, ub_sub (by decide)]
  have eu : u5 = nI (ub (h.ai ia) off * 65536 + ub (h.ai ia) (off + 1) * 256 + ub (h.ai ia) (off + 2)) := by
    rw [e5, show (16 : Int32) = nI 16 from rfl, jshl_n _ (by decide), show (8 : Int32) = nI 8 from rfl, jshl_n _ (by decide), nI_or, or_8 (p := 16) (by omega), nI_or, show ub (h.ai ia) off * 2 ^ 16 + ub (h.ai ia) (off + 1) * 2 ^ 8 = (ub (h.ai ia) off * 256 + ub (h.ai ia) (off + 1)) * 2 ^ 8 by omega, or_8 (p := 8) b2]
  have k2 : ∀ X, (nI X * 31 + v) &&& 1023 = nI ((X * 31 + u32 v) % 1024) := fun X => by
    have ev : nI X * 31 + v = nI (X * 31 + u32 v) := by
      have := nI_add (X * 31) (u32 v)
      rw [nI_u32] at this
      rw [← this, show (31 : Int32) = nI 31 from rfl, pk_mul]
    rw [ev, show ∀ x : Int32, x &&& 1023 = nI (u32 x % 2 ^ 10) from fun x => pk_and x 10 (by decide), u32_nI]
    congr 1
    omega
  rw [eu, k2]
  show _ = nI (((ub id 0 * 65536 + ub id 1 * 256 + ub id 2) * 31 + u32 v) % 1024)
  rw [e0, e1, e2]
theorem X18_sameId_spec {t : Nat} (hd : 1 ≤ d) (kt : h.kd t = 18) (ki : h.kd (h.r 18002 t) = 101) (li : (h.ai (h.r 18002 t)).length = 32) (ka : h.kd ia = 101) (hl : off + 32 ≤ (h.ai ia).length) (hl2 : (h.ai ia).length < 2 ^ 31) (ei : sub_ (h.ai ia) off 32 = id) : Cw G mX18_sameId d 0 [vR t, vR ia, vI (nI off)] h (kI (fun x h' => x = bB (decide (h.ai (h.r 18002 t) = id)) ∧ h' = h) nE) := by
  obtain ⟨d, rfl⟩ : ∃ d', d = d' + 1 := ⟨d - 1, by omega⟩
  have lid : id.length = 32 := by rw [← ei, sub_len]
  have gid : ∀ i, i < 32 → id.getD i 0 = (h.ai ia).getD (off + i) 0 := fun i hi => by rw [← ei, sub_getD hi]
  refine eX18_sameId h t ia (nI off) (fun _ => sX18_sameId_0 h t ia (nI off) ?_)
  refine loop_uc (n := 32) (P := fun k (_ : Unit) => Aw G mX18_sameId (d + 1) 0 h (kI (fun x h' => x = bB (decide (h.ai (h.r 18002 t) = id)) ∧ h' = h) nE) 2 [vR t, vR ia, vI (nI off), vI (nI k)] [] h) (fun k _ => ∀ i, i < k → (h.ai (h.r 18002 t)).getD i 0 = id.getD i 0) (fun k _ hk hI ih => ?_) 0 () (Nat.zero_le _) (fun i hi => absurd hi (Nat.not_lt_zero _))
  refine sX18_sameId_2 h t ia (nI off) (nI k) (pk_le 32 k (fun z => ⟨?_, rfl⟩) (fun z => ⟨kt, fun r3 e3 => ?_⟩))
  · rw [decide_eq_true (ext_getD (z := 0) (by rw [li, lid]) (fun i hi => hI i (by omega)))]
    rfl
  · rw [e3, li, nI_add, pk_cl k rfl (by omega), pk_cl (off + k) rfl (by omega), nI_1]
    refine ⟨ki, pk_in k 32 (by omega), ka, pk_in (off + k) (h.ai ia).length (by omega), fun c => ?_, fun c => ⟨?_, rfl⟩⟩
    · refine ih (by omega) () (fun i hi => ?_)
      by_cases e : i = k
      · rw [e, c, gid k (by omega)]
      · exact hI i (by omega)
    · rw [decide_eq_false (fun e => c (by rw [e]; exact gid k (by omega)))]
      rfl
/-- a table with room has an empty place -/
theorem cz_pos : ∀ {l : List Nat}, 0 < cz l → ∃ i, i < l.length ∧ l.getD i 0 = 0
  | [], h => absurd h (Nat.lt_irrefl _)
  | x :: r, h => by
    by_cases c : x = 0
    · exact ⟨0, Nat.zero_lt_succ _, c⟩
    · unfold cz at h
      rw [if_neg c] at h
      obtain ⟨i, h1, h2⟩ := cz_pos (l := r) (by omega)
      exact ⟨i + 1, Nat.succ_lt_succ h1, h2⟩
theorem X9_find_spec (hd : 2 ≤ d) (T : TbAt h Co) (ka : h.kd ia = 101) (hl : off + 32 ≤ (h.ai ia).length) (hl2 : (h.ai ia).length < 2 ^ 31) (ei : sub_ (h.ai ia) off 32 = id) : Cw G mX9_find d 0 [vR Co, vR ia, vI (nI off), vI v] h (kI (fun x h' => h' = h ∧ ((∃ p, p < 1024 ∧ tbT h Co p ≠ 0 ∧ kyC h (tbT h Co p) = (id, v) ∧ x = nI p) ∨ ((∀ p, p < 1024 → tbT h Co p ≠ 0 → kyC h (tbT h Co p) ≠ (id, v)) ∧ ∃ i, i < 1024 ∧ tbT h Co ((sfC (id, v) + i) % 1024) = 0 ∧ (∀ j, j < i → tbT h Co ((sfC (id, v) + j) % 1024) ≠ 0) ∧ x = -1 - nI ((sfC (id, v) + i) % 1024)))) nE) := by
  obtain ⟨d, rfl⟩ : ∃ d', d = d' + 1 := ⟨d - 1, by omega⟩
  obtain ⟨⟨t1, t2, t3, t4⟩, ok, I1, hz⟩ := T
  obtain ⟨ep, hp, h0⟩ := cz_pos hz
  rw [t4] at hp
  have hs := sfC_lt (id, v)
  refine eX9_find h Co ia (nI off) v (fun _ => sX9_find_0 h Co ia (nI off) v ((X9_start_spec (by omega) ka hl hl2 ei).nI (fun x1 h2 Q => ?_)))
  obtain ⟨e1, e2⟩ := Q
  rw [e1, e2]
  have key := loop_uc (n := cyc (sfC (id, v)) ep) (P := fun i (_ : Unit) => Aw G mX9_find (d + 1) 0 h (kI (fun x h' => h' = h ∧ ((∃ p, p < 1024 ∧ tbT h Co p ≠ 0 ∧ kyC h (tbT h Co p) = (id, v) ∧ x = nI p) ∨ ((∀ p, p < 1024 → tbT h Co p ≠ 0 → kyC h (tbT h Co p) ≠ (id, v)) ∧ ∃ i, i < 1024 ∧ tbT h Co ((sfC (id, v) + i) % 1024) = 0 ∧ (∀ j, j < i → tbT h Co ((sfC (id, v) + j) % 1024) ≠ 0) ∧ x = -1 - nI ((sfC (id, v) + i) % 1024)))) nE) 8 [vR Co, vR ia, vI (nI off), vI v, vI (nI ((sfC (id, v) + i) % 1024))] [] h) (fun i _ => ∀ j, j < i → tbT h Co ((sfC (id, v) + j) % 1024) ≠ 0 ∧ kyC h (tbT h Co ((sfC (id, v) + j) % 1024)) ≠ (id, v)) (fun i _ hi hI ih => ?_) 0 () (Nat.zero_le _) (fun i hi => absurd hi (Nat.not_lt_zero _))
  · have e0 : (sfC (id, v) + 0) % 1024 = sfC (id, v) := by rw [Nat.add_zero, Nat.mod_eq_of_lt hs]
    rw [e0] at key
    exact key
  · have hc := cyc_lt (sfC (id, v)) ep
    have hpos : (sfC (id, v) + i) % 1024 < 1024 := Nat.mod_lt _ (by decide)
    have enx : (nI ((sfC (id, v) + i) % 1024) + 1) &&& 1023 = nI ((sfC (id, v) + (i + 1)) % 1024) := by
      rw [nI_1, show nI ((sfC (id, v) + i) % 1024 + 1) &&& 1023 = nI (((sfC (id, v) + i) % 1024 + 1) % 2 ^ 10) from pk_andN (by omega) 10 (by decide)]
      congr 1
      omega
    refine sX9_find_8 h Co ia (nI off) v (nI ((sfC (id, v) + i) % 1024)) ⟨t1, fun r2 e2 => ?_⟩
    rw [show r2 = Co + 1 from e2.trans t2, t4, pk_cl ((sfC (id, v) + i) % 1024) rfl (by omega), enx]
    refine ⟨t3, pk_in _ 1024 hpos, fun r5 e5 => ⟨fun c => ⟨rfl, Or.inr ?_⟩, fun c => ⟨pk_in _ 1024 hpos, fun r8 e8 => ?_⟩⟩⟩
    · have z0 : tbT h Co ((sfC (id, v) + i) % 1024) = 0 := e5.symm.trans c
      exact ⟨tb_none I1 sfC_lt (by omega) z0 (fun j hj => (hI j hj).2), i, by omega, z0, fun j hj => (hI j hj).1, rfl⟩
    · have n0 : tbT h Co ((sfC (id, v) + i) % 1024) ≠ 0 := fun q => c (e5.trans q)
      have ne : i < cyc (sfC (id, v)) ep := by
        rcases Nat.lt_or_ge i (cyc (sfC (id, v)) ep) with w | w
        · exact w
        · exfalso
          apply n0
          rw [show i = cyc (sfC (id, v)) ep by omega, at_cyc hs hp]
          exact h0
      obtain ⟨k1, k2, ⟨k3, k4⟩, o, k5, _⟩ := ok _ hpos n0
      have er : r8 = tbT h Co ((sfC (id, v) + i) % 1024) := e8
      have nxt : kyC h (tbT h Co ((sfC (id, v) + i) % 1024)) ≠ (id, v) → Aw G mX9_find (d + 1) 0 h (kI (fun x h' => h' = h ∧ ((∃ p, p < 1024 ∧ tbT h Co p ≠ 0 ∧ kyC h (tbT h Co p) = (id, v) ∧ x = nI p) ∨ ((∀ p, p < 1024 → tbT h Co p ≠ 0 → kyC h (tbT h Co p) ≠ (id, v)) ∧ ∃ i, i < 1024 ∧ tbT h Co ((sfC (id, v) + i) % 1024) = 0 ∧ (∀ j, j < i → tbT h Co ((sfC (id, v) + j) % 1024) ≠ 0) ∧ x = -1 - nI ((sfC (id, v) + i) % 1024)))) nE) 8 [vR Co, vR ia, vI (nI off), vI v, vI (nI ((sfC (id, v) + (i + 1)) % 1024))] [] h := fun w => ih ne () (fun j hj => by
        by_cases e : j = i
        · rw [e]
          exact ⟨n0, w⟩
        · exact hI j (by omega))
      rw [er]
      refine ⟨k1, fun c1 => nxt (fun w => c1 (congrArg Prod.snd w)), fun c1 => ⟨pk_in _ 1024 hpos, fun r12 e12 => ?_⟩⟩
      rw [show r12 = tbT h Co ((sfC (id, v) + i) % 1024) from e12]
      refine ⟨k1, fun r14 e14 => ?_⟩
      rw [e14]
      refine ⟨k2, (X18_sameId_spec (by omega) k2 k3 k4 ka hl hl2 ei).nI (fun x15 h16 Q => ?_)⟩
      obtain ⟨e15, e16⟩ := Q
      rw [e16, e15]
      by_cases c2 : h.ai (h.r 18002 (h.r 23001 (tbT h Co ((sfC (id, v) + i) % 1024)))) = id
      · rw [decide_eq_true c2]
        refine ⟨fun w => absurd w (by decide), fun _ => ⟨rfl, Or.inl ⟨_, hpos, n0, ?_, rfl⟩⟩⟩
        unfold kyC
        rw [c2, c1]
      · rw [decide_eq_false c2]
        exact ⟨fun _ => nxt (fun w => c2 (congrArg Prod.fst w)), fun w => absurd rfl w⟩
/-- the coin with this name, 0 if there is none -/
def ofK (h : AH) (Co : Nat) (k : CK) (c : Nat) : Prop := (c = 0 ∧ ∀ p, p < 1024 → tbT h Co p ≠ 0 → kyC h (tbT h Co p) ≠ k) ∨ (c ≠ 0 ∧ ∃ p, p < 1024 ∧ tbT h Co p = c ∧ kyC h c = k)
theorem neg_p : ∀ p, p < 1024 → ¬ (0 : Int32) ≤ -1 - nI p := by decide +kernel
theorem X9_get_spec (hd : 3 ≤ d) (T : TbAt h Co) (ka : h.kd ia = 101) (hl : off + 32 ≤ (h.ai ia).length) (hl2 : (h.ai ia).length < 2 ^ 31) (ei : sub_ (h.ai ia) off 32 = id) : Cw G mX9_get d 0 [vR Co, vR ia, vI (nI off), vI v] h (kR (fun x h' => h' = h ∧ ofK h Co (id, v) x) nE) := by
  obtain ⟨d, rfl⟩ : ∃ d', d = d' + 1 := ⟨d - 1, by omega⟩
  have T' := T
  obtain ⟨⟨t1, t2, t3, t4⟩, ok, I1, hz⟩ := T
  refine eX9_get h Co ia (nI off) v (fun _ => sX9_get_0 h Co ia (nI off) v ⟨t1, (X9_find_spec (by omega) T' ka hl hl2 ei).nI (fun x1 h2 Q => ?_)⟩)
  obtain ⟨e2, Q⟩ := Q
  rw [e2]
  rcases Q with ⟨p, hp, n0, ek, ex⟩ | ⟨hn, i, hi, h0, hb, ex⟩
  · rw [ex]
    refine pk_le 0 p (fun _ r6 e6 => ?_) (fun q => absurd q (by omega))
    rw [show r6 = Co + 1 from e6.trans t2, t4, pk_cl p rfl (by omega)]
    exact ⟨t3, pk_in p 1024 hp, fun r9 e9 => ⟨rfl, Or.inr ⟨by rw [e9]; exact n0, p, hp, e9.symm, by rw [e9]; exact ek⟩⟩⟩
  · have hq : (sfC (id, v) + i) % 1024 < 1024 := Nat.mod_lt _ (by decide)
    rw [ex]
    exact ⟨fun q => absurd q (neg_p _ hq), fun _ => ⟨rfl, Or.inl ⟨rfl, hn⟩⟩⟩
end Coins

/-! bytes read one after another, by both: numbers, counts -/
set_option maxRecDepth 100000
theorem pk_eq' {x y : Int32} {A B : Prop} (a b : Nat) (f : a ≠ b → A) (g : a = b → B) (hx : x = nI a := by rfl) (hy : y = nI b := by rfl) (ha : a < 2 ^ 31 := by omega) (hb : b < 2 ^ 31 := by omega) : (¬ x = y → A) ∧ (x = y → B) :=
  ⟨(pk_eq a b g f hx hy ha hb).2, (pk_eq a b g f hx hy ha hb).1⟩
theorem lN_neg {m : Nat} (hm : m < 2 ^ 64) : lN m < 0 ↔ 2 ^ 63 ≤ m := by
  by_cases c : m < 2 ^ 63
  · rw [Int64.lt_iff_toInt_lt, lN_toInt63 c]
    refine ⟨fun q => ?_, fun q => by omega⟩
    have : ((0 : Int64).toInt) = 0 := by decide
    omega
  · refine ⟨fun _ => by omega, fun _ => ?_⟩
    rw [Int64.lt_iff_toInt_lt]
    have e : (lN m).toInt = (m : Int) - 2 ^ 64 := by
      unfold lN
      rw [Int64.toInt_ofNat']
      simp [Int.bmod]
      omega
    have : ((0 : Int64).toInt) = 0 := by decide
    omega
theorem lN_eq63 {a b : Nat} (ha : a < 2 ^ 63) (hb : b < 2 ^ 63) : lN a = lN b ↔ a = b := by
  refine ⟨fun e => ?_, fun e => by rw [e]⟩
  have := congrArg Int64.toInt e
  rw [lN_toInt63 ha, lN_toInt63 hb] at this
  omega
theorem lN_shl8 {v b : Nat} (hb : b < 256) (hv : v < 2 ^ 56) : Jshl (lN v) 8 ||| lN b = lN (b + 256 * v) := by
  unfold Jshl
  have e : ((8 : Int32).toInt64 &&& 63) = 8 := by decide
  rw [e]
  apply Int64.toBitVec_inj.mp
  have h1 : (lN v <<< (8 : Int64)).toBitVec = (BitVec.ofNat 64 v) <<< 8 := by
    rw [Int64.toBitVec_shiftLeft, lN_bv]
    rfl
  rw [Int64.toBitVec_or, lN_bv, lN_bv, h1]
  apply BitVec.eq_of_toNat_eq
  rw [BitVec.toNat_or, BitVec.toNat_shiftLeft, BitVec.toNat_ofNat, BitVec.toNat_ofNat, BitVec.toNat_ofNat, Nat.shiftLeft_eq, Nat.mod_eq_of_lt (show v < 2 ^ 64 by omega), Nat.mod_eq_of_lt (show v * 2 ^ 8 < 2 ^ 64 by omega), Nat.mod_eq_of_lt (show b < 2 ^ 64 by omega), Nat.mod_eq_of_lt (show b + 256 * v < 2 ^ 64 by omega), Nat.or_comm, or_add (c := 56) (by rw [Nat.div_eq_of_lt (by omega)]) hv]
  omega
theorem leV_lt (L : List Int32) (o n : Nat) : leV L o n < 256 ^ n := dv8_lt (fun i _ => ub_lt _ _)
theorem leV_0 (L : List Int32) (o : Nat) : leV L o 0 = 0 := rfl
theorem leV_1 (L : List Int32) (o : Nat) : leV L o 1 = ub L o := by simp [leV, dv8]
theorem leV_low (L : List Int32) (o n : Nat) : leV L o (n + 1) = ub L o + 256 * leV L (o + 1) n := by
  unfold leV
  rw [dv8_low]
  congr 1
  congr 1
  exact dv8_congr (fun i hi => by rw [show o + (i + 1) = o + 1 + i by omega])
theorem leV_64 (L : List Int32) (o : Nat) {n : Nat} (h : n ≤ 8) : leV L o n < 2 ^ 64 := by
  have h1 := leV_lt L o n
  have h2 : 256 ^ n ≤ 256 ^ 8 := Nat.pow_le_pow_right (by omega) h
  have h3 : (256 : Nat) ^ 8 = 2 ^ 64 := by decide
  omega
theorem nI_sub1 (k : Nat) : nI k - 1 = dI k := Int32.sub_eq_add_neg _ _
theorem AH.pi_pi (h : AH) (k a : Nat) (u v : Int32) : (h.pi k a u).pi k a v = h.pi k a v := by
  unfold AH.pi
  congr 1
  funext q x
  show (if q = k ∧ x = a then v else if q = k ∧ x = a then u else h.i q x) = if q = k ∧ x = a then v else h.i q x
  by_cases e : q = k ∧ x = a
  · rw [if_pos e, if_pos e]
  · rw [if_neg e, if_neg e, if_neg e]
theorem AH.pi_self (h : AH) {k a : Nat} {v : Int32} (e : h.i k a = v) : h.pi k a v = h := by
  have : up2 h.i k a v = h.i := by
    funext q x
    show (if q = k ∧ x = a then v else h.i q x) = h.i q x
    by_cases c : q = k ∧ x = a
    · rw [if_pos c, c.1, c.2, e]
    · rw [if_neg c]
  unfold AH.pi
  rw [this]
  rfl
theorem AH.pi_comm (h : AH) {k k' a b : Nat} (u v : Int32) (e : k ≠ k' ∨ a ≠ b) : (h.pi k a u).pi k' b v = (h.pi k' b v).pi k a u := by
  unfold AH.pi
  congr 1
  funext q x
  show (if q = k' ∧ x = b then v else if q = k ∧ x = a then u else h.i q x) = if q = k ∧ x = a then u else if q = k' ∧ x = b then v else h.i q x
  by_cases c1 : q = k' ∧ x = b
  · rw [if_pos c1, if_neg (fun c2 => by
      rcases e with e | e
      · exact e (c2.1.symm.trans c1.1)
      · exact e (c2.2.symm.trans c1.2)), if_pos c1]
  · rw [if_neg c1, if_neg c1]
/-! counts, plainly -/
def cntK (b : Nat) : Nat := if b = 253 then 2 else if b = 254 then 4 else 8
def cntLo (b : Nat) : Nat := if b = 253 then 253 else if b = 254 then 65536 else 4294967296
/-- a count in its shortest form at a, of bytes that end at n: its value, and behind it -/
def cntP (L : List Int32) (n a : Nat) : Option (Nat × Nat) :=
  if n < a + 1 then none else if ub L a < 253 then some (ub L a, a + 1) else if n < a + 1 + cntK (ub L a) then none
  else if leV L (a + 1) (cntK (ub L a)) < cntLo (ub L a) ∨ 2 ^ 63 ≤ leV L (a + 1) (cntK (ub L a)) then none else some (leV L (a + 1) (cntK (ub L a)), a + 1 + cntK (ub L a))
section Cnt
variable {L : List Int32} {n a k lo : Nat}
theorem cntP_a (h1 : n < a + 1) : cntP L n a = none := if_pos h1
theorem cntP_b (h1 : a + 1 ≤ n) (h2 : ub L a < 253) : cntP L n a = some (ub L a, a + 1) := by
  unfold cntP
  rw [if_neg (by omega), if_pos h2]
theorem cntP_c (ek : cntK (ub L a) = k) (h1 : a + 1 ≤ n) (h2 : 253 ≤ ub L a) (h3 : n < a + 1 + k) : cntP L n a = none := by
  unfold cntP
  rw [if_neg (by omega), if_neg (by omega), ek, if_pos h3]
theorem cntP_d (ek : cntK (ub L a) = k) (el : cntLo (ub L a) = lo) (h1 : a + 1 ≤ n) (h2 : 253 ≤ ub L a) (h4 : leV L (a + 1) k < lo ∨ 2 ^ 63 ≤ leV L (a + 1) k) : cntP L n a = none := by
  unfold cntP
  rw [if_neg (by omega), if_neg (by omega), ek, el]
  by_cases c : n < a + 1 + k
  · rw [if_pos c]
  · rw [if_neg c, if_pos h4]
theorem cntP_e (ek : cntK (ub L a) = k) (el : cntLo (ub L a) = lo) (h1 : a + 1 ≤ n) (h2 : 253 ≤ ub L a) (h3 : a + 1 + k ≤ n) (h4 : lo ≤ leV L (a + 1) k) (h5 : leV L (a + 1) k < 2 ^ 63) : cntP L n a = some (leV L (a + 1) k, a + 1 + k) := by
  unfold cntP
  rw [if_neg (by omega), if_neg (by omega), ek, el, if_neg (by omega), if_neg (by omega)]
theorem cntK_3 (e : ub L a = 253) : cntK (ub L a) = 2 ∧ cntLo (ub L a) = 253 := by rw [e]; decide
theorem cntK_4 (e : ub L a = 254) : cntK (ub L a) = 4 ∧ cntLo (ub L a) = 65536 := by rw [e]; decide
theorem cntK_5 (h2 : 253 ≤ ub L a) (e : ub L a ≠ 253) (e2 : ub L a ≠ 254) : cntK (ub L a) = 8 ∧ cntLo (ub L a) = 4294967296 := by
  unfold cntK cntLo
  rw [if_neg e, if_neg e2, if_neg e, if_neg e2]
  exact ⟨rfl, rfl⟩
/-- what a count tells -/
theorem cntP_inv {v b : Nat} (e : cntP L n a = some (v, b)) : a < b ∧ b ≤ n ∧ v < 2 ^ 63 ∧ ((ub L a < 253 ∧ v = ub L a ∧ b = a + 1) ∨ (253 ≤ ub L a ∧ v = leV L (a + 1) (cntK (ub L a)) ∧ b = a + 1 + cntK (ub L a))) := by
  unfold cntP at e
  split at e
  · cases e
  · split at e
    · cases e
      have := ub_lt L a
      exact ⟨by omega, by omega, by omega, Or.inl ⟨by assumption, rfl, rfl⟩⟩
    · split at e
      · cases e
      · split at e
        · cases e
        · cases e
          exact ⟨by omega, by omega, by omega, Or.inr ⟨by omega, rfl, rfl⟩⟩
end Cnt
/-! the component's Source -/
def SrcAt (h : AH) (s a : Nat) (L : List Int32) (at_ n : Nat) : Prop := h.kd s = 16 ∧ h.r 16000 s = a ∧ h.i 16001 s = nI at_ ∧ h.i 16002 s = nI n ∧ at_ ≤ n ∧ h.kd a = 101 ∧ h.ai a = L ∧ n ≤ L.length ∧ L.length < 2 ^ 31
section Src
variable {G : Gx} {d : Nat} {h : AH} {s a at_ n : Nat} {L : List Int32}
theorem SrcAt.adv (H : SrcAt h s a L at_ n) {b : Nat} (hb : b ≤ n) : SrcAt (h.pi 16001 s (nI b)) s a L b n :=
  ⟨H.1, H.2.1, by rw [AH.i_pi, if_pos ⟨rfl, rfl⟩], by rw [AH.i_pi, if_neg (fun e => absurd e.1 (by decide))]; exact H.2.2.2.1, hb, H.2.2.2.2.2⟩
theorem SrcAt.pi (H : SrcAt h s a L at_ n) (k q : Nat) (v : Int32) (hk : ¬ (16001 = k ∨ 16002 = k)) : SrcAt (h.pi k q v) s a L at_ n :=
  ⟨H.1, H.2.1, by rw [AH.i_pi, if_neg (fun e => hk (Or.inl e.1))]; exact H.2.2.1, by rw [AH.i_pi, if_neg (fun e => hk (Or.inr e.1))]; exact H.2.2.2.1, H.2.2.2.2⟩
theorem SrcAt.pr (H : SrcAt h s a L at_ n) (k q v : Nat) (hk : ¬ 16000 = k) : SrcAt (h.pr k q v) s a L at_ n :=
  ⟨H.1, by rw [AH.r_pr, if_neg (fun e => hk e.1)]; exact H.2.1, H.2.2⟩
theorem SrcAt.pl (H : SrcAt h s a L at_ n) (k q : Nat) (v : Int64) : SrcAt (h.pl k q v) s a L at_ n := H
theorem SrcAt.wr (H : SrcAt h s a L at_ n) (q : Nat) (v : List Nat) : SrcAt (h.wr q v) s a L at_ n := H
theorem SrcAt.new (H : SrcAt h s a L at_ n) (hs : s < h.z) (ha : a < h.z) (k m : Nat) (L1 : List Int32) (LL : List Int64) (LR : List Nat) : SrcAt (h.new k m L1 LL LR) s a L at_ n := by
  have e1 : ¬ s = h.z := by omega
  have e2 : ¬ a = h.z := by omega
  unfold SrcAt
  rw [AH.kd_nw, AH.r_nw, AH.i_nw, AH.i_nw, AH.kd_nw, AH.ai_nw, if_neg e1, if_neg e1, if_neg e1, if_neg e1, if_neg e2, if_neg e2]
  exact H
theorem Src_pass_spec {m : Nat} (hm : m < 2 ^ 64) (hd : 6 ≤ d) (H : SrcAt h s a L at_ n) : Cw G mX16_pass d 0 [vR s, vJ (lN m)] h (kI (fun x h' => at_ + m ≤ n ∧ x = nI at_ ∧ h' = h.pi 16001 s (nI (at_ + m))) (fun x h' => n < at_ + m ∧ Thr 17 (· = s) 1 6 h h' x)) := by
  obtain ⟨d, rfl⟩ : ∃ d', d = d' + 1 := ⟨d - 1, by omega⟩
  obtain ⟨k1, k2, k3, k4, k5, k6, kL, k7, k8⟩ := H
  refine eX16_pass h s (lN m) (fun _ => sX16_pass_0 h s (lN m) ⟨fun c q2 e2 _ h3 e3 => ⟨by omega, fun h6 e6 => ⟨?_, Thr.nw Same.rf e2 e3 (Nat.le_refl _) (Nat.le_refl _) e6⟩⟩, fun c => ⟨k1, ?_⟩⟩)
  · have := (lN_neg hm).mp c
    omega
  · have hm2 : m < 2 ^ 63 := Nat.lt_of_not_le (fun q => c ((lN_neg hm).mpr q))
    rw [k3, k4, pk_sub k5, nI_l (by omega), lN_le63 hm2 (by omega), lN_i, nI_add]
    exact ⟨fun c2 h10 e10 => ⟨by omega, rfl, e10⟩, fun c2 q2 e2 _ h3 e3 => ⟨by omega, fun h6 e6 => ⟨by omega, Thr.nw Same.rf e2 e3 (Nat.le_refl _) (Nat.le_refl _) e6⟩⟩⟩
theorem Src_number_spec {k : Nat} (hk : k ≤ 8) (hd : 7 ≤ d) (H : SrcAt h s a L at_ n) : Cw G mX16_number d 0 [vR s, vI (nI k)] h (kJ (fun x h' => at_ + k ≤ n ∧ x = lN (leV L at_ k) ∧ h' = h.pi 16001 s (nI (at_ + k))) (fun x h' => n < at_ + k ∧ Thr 17 (· = s) 1 6 h h' x)) := by
  obtain ⟨d, rfl⟩ : ∃ d', d = d' + 1 := ⟨d - 1, by omega⟩
  have H0 := H
  obtain ⟨k1, k2, k3, k4, k5, k6, kL, k7, k8⟩ := H
  refine eX16_number h s (nI k) (fun _ => sX16_number_0 h s (nI k) ⟨k1, ?_⟩)
  rw [nI_l (by omega), nI_sub1]
  refine (Src_pass_spec (m := k) (by omega) (by omega) H0).toI (fun x h2 _ _ Q => ?_) (fun x h2 _ _ Q => Q)
  obtain ⟨hl, rfl, rfl⟩ := Q
  refine loop_dn (P := fun j (v : Nat) => j ≤ k → Aw G mX16_number (d + 1) 0 h (kJ (fun x h' => at_ + k ≤ n ∧ x = lN (leV L at_ k) ∧ h' = h.pi 16001 s (nI (at_ + k))) (fun x h' => n < at_ + k ∧ Thr 17 (· = s) 1 6 h h' x)) 14 [vR s, vU, vI (nI at_), vJ (lN v), vU, vI (dI j)] [] (h.pi 16001 s (nI (at_ + k))))
    (fun j v => v = leV L (at_ + j) (k - j)) (fun j v hI ih hj => ?_) (fun v hI _ => ?_) k 0 (by rw [Nat.sub_self]; rfl) (Nat.le_refl k)
  · rw [dI_succ]
    refine sX16_number_14 _ s (nI at_) (lN v) (nI j) ⟨fun q => absurd q (nI_pos (by omega)), fun _ => ⟨k1, fun r3 e3 => ?_⟩⟩
    rw [e3.trans k2, AH.ai_pi, kL, nI_add, pk_cl (at_ + j) rfl (by omega), and_ub, nI_l (by have := ub_lt L (at_ + j); omega)]
    refine ⟨k6, pk_in (at_ + j) _ (by omega), fun u6 e6 => ?_⟩
    have hv : v < 2 ^ 56 := by
      have h1 := leV_lt L (at_ + (j + 1)) (k - (j + 1))
      have h2 : 256 ^ (k - (j + 1)) ≤ 256 ^ 7 := Nat.pow_le_pow_right (by omega) (by omega)
      have h3 : (256 : Nat) ^ 7 = 2 ^ 56 := by decide
      omega
    rw [lN_shl8 (ub_lt _ _) hv] at e6
    rw [e6]
    refine ih _ ?_ (by omega)
    rw [hI, show k - j = (k - (j + 1)) + 1 by omega, leV_low, Nat.add_assoc at_ j 1]
  · rw [Nat.sub_zero, Nat.add_zero] at hI
    refine sX16_number_14 _ s (nI at_) (lN v) (dI 0) ⟨fun _ => ⟨hl, by rw [hI], rfl⟩, fun q => absurd (by decide) q⟩
theorem Src_count_spec (hd : 8 ≤ d) (H : SrcAt h s a L at_ n) : Cw G mX16_count d 0 [vR s] h (kJ (fun x h' => ∃ v b, cntP L n at_ = some (v, b) ∧ x = lN v ∧ h' = h.pi 16001 s (nI b)) (fun x h' => cntP L n at_ = none ∧ Thr 17 (· = s) 1 6 h h' x)) := by
  obtain ⟨d, rfl⟩ : ∃ d', d = d' + 1 := ⟨d - 1, by omega⟩
  have H0 := H
  obtain ⟨k1, k2, k3, k4, k5, k6, kL, k7, k8⟩ := H
  refine eX16_count h s (fun _ => sX16_count_0 h s ⟨k1, (Src_number_spec (k := 1) (by omega) (by omega) H0).toJ (fun x h2 _ _ Q => ?_) (fun x h2 _ _ Q => ⟨cntP_a Q.1, Q.2⟩)⟩)
  obtain ⟨hl, rfl, rfl⟩ := Q
  have hb := ub_lt L at_
  have H1 := H0.adv (b := at_ + 1) hl
  have tail : ∀ {m : Nat} {x : Nat} {h' : AH}, n < at_ + 1 + m → Thr 17 (· = s) 1 6 (h.pi 16001 s (nI (at_ + 1))) h' x → Thr 17 (· = s) 1 6 h h' x := fun _ T =>
    Thr.aft (P := (· = s)) (Same.rf.pi _ _ (Or.inl rfl)) (Nat.le_refl _) (Nat.le_refl _) T (fun _ _ q => q)
  rw [leV_1, lN_i]
  refine pk_le 253 (ub L at_) (fun c => pk_eq' (ub L at_) 253 (fun c3 => pk_eq' (ub L at_) 254 (fun c4 => ?_) (fun c4 => ?_)) (fun c3 => ?_)) (fun c => ?_)
  · obtain ⟨ek, el⟩ := cntK_5 c c3 c4
    refine (Src_number_spec (k := 8) (by omega) (by omega) H1).toJ (fun x h8 _ _ Q => ?_) (fun x h8 _ _ Q => ⟨cntP_c ek hl c Q.1, tail Q.1 Q.2⟩)
    obtain ⟨hl2, rfl, rfl⟩ := Q
    rw [AH.pi_pi]
    have S : Same (· = s) h (h.pi 16001 s (nI (at_ + 1 + 8))) := Same.rf.pi _ _ (Or.inl rfl)
    have hv := leV_64 L (at_ + 1) (Nat.le_refl 8)
    refine ⟨fun c5 => fun q e w h12 e12 => ⟨by omega, fun h15 e15 => ⟨?_, Thr.nw S e e12 (Nat.le_refl _) (Nat.le_refl _) e15⟩⟩, fun c5 => ?_⟩
    · exact cntP_d ek el hl c (Or.inr ((lN_neg hv).mp c5))
    have h5 : leV L (at_ + 1) 8 < 2 ^ 63 := Nat.lt_of_not_le (fun q => c5 ((lN_neg hv).mpr q))
    have e6 : (4294967296 ≤ lN (leV L (at_ + 1) 8)) ↔ 4294967296 ≤ leV L (at_ + 1) 8 := lN_le63 (a := 4294967296) (by omega) h5
    refine ⟨fun _ => ⟨fun _ => ⟨fun c6 => ⟨_, _, cntP_e ek el hl c hl2 (e6.mp c6) h5, rfl, rfl⟩, fun c6 => fun q e w h12 e12 => ⟨by omega, fun h15 e15 => ⟨?_, Thr.nw S e e12 (Nat.le_refl _) (Nat.le_refl _) e15⟩⟩⟩, fun c => absurd c (by decide)⟩, fun c => absurd c (by decide)⟩
    exact cntP_d ek el hl c (Or.inl (Nat.lt_of_not_le (fun q => c6 (e6.mpr q))))
  · obtain ⟨ek, el⟩ := cntK_4 c4
    refine (Src_number_spec (k := 4) (by omega) (by omega) H1).toJ (fun x h8 _ _ Q => ?_) (fun x h8 _ _ Q => ⟨cntP_c ek hl c Q.1, tail Q.1 Q.2⟩)
    obtain ⟨hl2, rfl, rfl⟩ := Q
    rw [AH.pi_pi]
    have S : Same (· = s) h (h.pi 16001 s (nI (at_ + 1 + 4))) := Same.rf.pi _ _ (Or.inl rfl)
    have h5 : leV L (at_ + 1) 4 < 256 ^ 4 := leV_lt _ _ _
    have h6 : (256 : Nat) ^ 4 = 4294967296 := by decide
    have hn : ¬ lN (leV L (at_ + 1) 4) < 0 := fun q => by have := (lN_neg (by omega)).mp q; omega
    have e6 : (65536 ≤ lN (leV L (at_ + 1) 4)) ↔ 65536 ≤ leV L (at_ + 1) 4 := lN_le63 (a := 65536) (by omega) (by omega)
    refine ⟨fun c5 => absurd c5 hn, fun c5 => ⟨fun _ => ⟨fun c => absurd (by decide) c, fun _ => ⟨fun c6 => ⟨_, _, cntP_e ek el hl c hl2 (e6.mp c6) (by omega), rfl, rfl⟩, fun c6 => fun q e w h12 e12 => ⟨by omega, fun h15 e15 => ⟨?_, Thr.nw S e e12 (Nat.le_refl _) (Nat.le_refl _) e15⟩⟩⟩⟩, fun c => absurd c (by decide)⟩⟩
    exact cntP_d ek el hl c (Or.inl (Nat.lt_of_not_le (fun q => c6 (e6.mpr q))))
  · obtain ⟨ek, el⟩ := cntK_3 c3
    refine (Src_number_spec (k := 2) (by omega) (by omega) H1).toJ (fun x h8 _ _ Q => ?_) (fun x h8 _ _ Q => ⟨cntP_c ek hl c Q.1, tail Q.1 Q.2⟩)
    obtain ⟨hl2, rfl, rfl⟩ := Q
    rw [AH.pi_pi]
    have S : Same (· = s) h (h.pi 16001 s (nI (at_ + 1 + 2))) := Same.rf.pi _ _ (Or.inl rfl)
    have h5 : leV L (at_ + 1) 2 < 256 ^ 2 := leV_lt _ _ _
    have h6 : (256 : Nat) ^ 2 = 65536 := by decide
    have hn : ¬ lN (leV L (at_ + 1) 2) < 0 := fun q => by have := (lN_neg (by omega)).mp q; omega
    have e6 : (253 ≤ lN (leV L (at_ + 1) 2)) ↔ 253 ≤ leV L (at_ + 1) 2 := lN_le63 (a := 253) (by omega) (by omega)
    refine ⟨fun c5 => absurd c5 hn, fun c5 => ⟨fun c => absurd (by decide) c, fun _ => ⟨fun c6 => ⟨_, _, cntP_e ek el hl c hl2 (e6.mp c6) (by omega), rfl, rfl⟩, fun c6 => fun q e w h12 e12 => ⟨by omega, fun h15 e15 => ⟨?_, Thr.nw S e e12 (Nat.le_refl _) (Nat.le_refl _) e15⟩⟩⟩⟩⟩
    exact cntP_d ek el hl c (Or.inl (Nat.lt_of_not_le (fun q => c6 (e6.mpr q))))
  · rw [nI_l (by omega)]
    exact ⟨_, _, cntP_b hl c, rfl, rfl⟩
end Src

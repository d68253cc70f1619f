/-! bytes read one after another, by the reference -/
set_option maxRecDepth 100000
/-- where it reads, and whether it broke -/
def rd (h : AH) (M b : Nat) (c : Int32) : AH := (h.pi 24036 M (nI b)).pi 24039 M c
def RdB (h : AH) (M a : Nat) (L : List Int32) (n : Nat) : Prop := h.kd M = 24 ∧ h.i 24037 M = nI n ∧ h.r 24038 M = a ∧ h.kd a = 101 ∧ h.ai a = L ∧ n ≤ L.length ∧ L.length < 2 ^ 31
section Rd
variable (h : AH) (M b b' : Nat) (c c' : Int32)
theorem rd_pi1 : (rd h M b c).pi 24036 M (nI b') = rd h M b' c := by
  unfold rd
  rw [AH.pi_comm _ _ _ (Or.inl (by decide)), AH.pi_pi]
theorem rd_pi2 : (rd h M b c).pi 24039 M c' = rd h M b c' := by
  unfold rd
  rw [AH.pi_pi]
theorem rd_at : (rd h M b c).i 24036 M = nI b := by
  unfold rd
  rw [AH.i_pi, if_neg (fun e => absurd e.1 (by decide)), AH.i_pi, if_pos ⟨rfl, rfl⟩]
theorem rd_br : (rd h M b c).i 24039 M = c := by
  unfold rd
  rw [AH.i_pi, if_pos ⟨rfl, rfl⟩]
theorem rd_i {k x : Nat} (hk : ¬ (24036 = k ∨ 24039 = k) ∨ x ≠ M) : (rd h M b c).i k x = h.i k x := by
  unfold rd
  rw [AH.i_pi, if_neg (fun e => by
    rcases hk with q | q
    · exact q (Or.inr e.1.symm)
    · exact q e.2), AH.i_pi, if_neg (fun e => by
    rcases hk with q | q
    · exact q (Or.inl e.1.symm)
    · exact q e.2)]
end Rd
theorem Same.rd {P : Nat → Prop} {h h1 : AH} {M : Nat} (S : Same P h h1) (b : Nat) (c : Int32) (hM : P M) : Same P h (rd h1 M b c) := (S.pi _ _ (Or.inl hM)).pi _ _ (Or.inl hM)
section MRd
variable {G : Gx} {d : Nat} {h : AH} {M a b n : Nat} {L : List Int32} {c : Int32}
theorem RdB.wi {q : Nat} {v : List Int32} (H : RdB h M a L n) (hq : a ≠ q) : RdB (h.wi q v) M a L n := ⟨H.1, H.2.1, H.2.2.1, H.2.2.2.1, by rw [AH.ai_wiN hq]; exact H.2.2.2.2.1, H.2.2.2.2.2⟩
theorem MD_number_spec {t i k : Nat} (hk : k ≤ 8) (hd : 1 ≤ d) (kt : h.kd t = 101) (hl : i + k ≤ (h.ai t).length) (hl2 : (h.ai t).length < 2 ^ 31) : Cw G mX24_number d 0 [vR M, vR t, vI (nI i), vI (nI k)] h (kJ (fun x h' => x = lN (leV (h.ai t) i k) ∧ h' = h) nE) := by
  obtain ⟨d, rfl⟩ : ∃ d', d = d' + 1 := ⟨d - 1, by omega⟩
  refine eX24_number h M t (nI i) (nI k) (fun _ => sX24_number_0 h M t (nI i) (nI k) ?_)
  rw [nI_sub1]
  refine loop_dn (P := fun j (v : Nat) => j ≤ k → Aw G mX24_number (d + 1) 0 h (kJ (fun x h' => x = lN (leV (h.ai t) i k) ∧ h' = h) nE) 8 [vU, vR t, vI (nI i), vU, vJ (lN v), vU, vI (dI j)] [] h)
    (fun j v => v = leV (h.ai t) (i + j) (k - j)) (fun j v hI ih hj => ?_) (fun v hI _ => ?_) k 0 (by rw [Nat.sub_self]; rfl) (Nat.le_refl k)
  · rw [dI_succ]
    refine sX24_number_8 _ t (nI i) (lN v) (nI j) ⟨fun q => absurd q (nI_pos (by omega)), fun _ => ⟨kt, ?_⟩⟩
    rw [nI_add, pk_cl (i + j) rfl (by omega), and_ub, nI_l (by have := ub_lt (h.ai t) (i + j); omega)]
    refine ⟨pk_in (i + j) _ (by omega), fun u6 e6 => ?_⟩
    have hv : v < 2 ^ 56 := by
      have h1 := leV_lt (h.ai t) (i + (j + 1)) (k - (j + 1))
      have h2 : 256 ^ (k - (j + 1)) ≤ 256 ^ 7 := Nat.pow_le_pow_right (by omega) (by omega)
      have h3 : (256 : Nat) ^ 7 = 2 ^ 56 := by decide
      omega
    rw [lN_shl8 (ub_lt _ _) hv] at e6
    rw [e6]
    refine ih _ ?_ (by omega)
    rw [hI, show k - j = (k - (j + 1)) + 1 by omega, leV_low, Nat.add_assoc i j 1]
  · rw [Nat.sub_zero, Nat.add_zero] at hI
    exact sX24_number_8 _ t (nI i) (lN v) (dI 0) ⟨fun _ => ⟨by rw [hI], rfl⟩, fun q => absurd (by decide) q⟩
theorem MD_byteAt_spec {i : Nat} (hd : 1 ≤ d) (H : RdB h M a L n) (hi : i < L.length) : Cw G mX24_byteAt d 0 [vR M, vI (nI i)] (rd h M b c) (kI (fun x h' => x = nI (ub L i) ∧ h' = rd h M b c) nE) := by
  obtain ⟨d, rfl⟩ : ∃ d', d = d' + 1 := ⟨d - 1, by omega⟩
  obtain ⟨k1, k2, k3, k4, k5, k6, k7⟩ := H
  refine eX24_byteAt _ M (nI i) (fun _ => sX24_byteAt_0 _ M (nI i) ⟨k1, fun r2 e2 => ?_⟩)
  have e2' : r2 = a := e2.trans k3
  subst e2'
  have e5 : (rd h M b c).ai r2 = L := k5
  rw [e5, pk_cl i rfl (by omega), and_ub]
  exact ⟨k4, pk_in i _ hi, rfl, rfl⟩
theorem MD_skip_spec {m : Nat} (hm : m < 2 ^ 64) (hd : 1 ≤ d) (H : RdB h M a L n) (hb : b ≤ n) : Cw G mX24_skip d 0 [vR M, vJ (lN m)] (rd h M b c) (kV (fun h' => ∃ b' c', b' ≤ n ∧ h' = rd h M b' c' ∧ ((b + m ≤ n ∧ b' = b + m ∧ c' = c) ∨ (n < b + m ∧ b' = b ∧ c' = 1))) nE) := by
  obtain ⟨d, rfl⟩ : ∃ d', d = d' + 1 := ⟨d - 1, by omega⟩
  obtain ⟨k1, k2, k3, k4, k5, k6, k7⟩ := H
  refine eX24_skip _ M (lN m) (fun _ => sX24_skip_0 _ M (lN m) ⟨fun cc => ⟨k1, fun h3 e3 => ⟨b, 1, hb, by rw [e3, rd_pi2], Or.inr ⟨?_, rfl, rfl⟩⟩⟩, fun cc => ⟨k1, ?_⟩⟩)
  · have := (lN_neg hm).mp cc
    omega
  · have hm2 : m < 2 ^ 63 := Nat.lt_of_not_le (fun q => cc ((lN_neg hm).mpr q))
    rw [rd_at, rd_i _ _ _ _ (Or.inl (by decide)), k2, pk_sub hb, nI_l (by omega), lN_le63 hm2 (by omega), lN_i, nI_add]
    exact ⟨fun c2 h6 e6 => ⟨b + m, c, by omega, by rw [e6, rd_pi1], Or.inl ⟨by omega, rfl, rfl⟩⟩, fun c2 h6 e6 => ⟨b, 1, hb, by rw [e6, rd_pi2], Or.inr ⟨by omega, rfl, rfl⟩⟩⟩
theorem MD_count_spec (hd : 2 ≤ d) (H : RdB h M a L n) (hb : b ≤ n) : Cw G mX24_count d 0 [vR M] (rd h M b 0) (kJ (fun x h' => ∃ b' c', b' ≤ n ∧ h' = rd h M b' c' ∧ ((∃ v, cntP L n b = some (v, b') ∧ x = lN v ∧ c' = 0) ∨ (cntP L n b = none ∧ ∃ V, V < 2 ^ 64 ∧ x = lN V ∧ (c' = 1 ∨ (c' = 0 ∧ 2 ^ 63 ≤ V))))) nE) := by
  obtain ⟨d, rfl⟩ : ∃ d', d = d' + 1 := ⟨d - 1, by omega⟩
  have H0 := H
  obtain ⟨k1, k2, k3, k4, k5, k6, k7⟩ := H
  refine eX24_count _ M (fun _ => sX24_count_0 _ M ⟨k1, ?_⟩)
  rw [rd_at, rd_i _ _ _ _ (Or.inl (by decide)), k2]
  have hu := ub_lt L b
  have hd1 : 1 ≤ d := by omega
  refine pk_lt b n (fun cb => (MD_byteAt_spec (by omega) H0 (by omega)).nI (fun x3 h4 Q => ?_)) (fun cb h96 e96 => ⟨b, 1, hb, by rw [e96, rd_pi2], Or.inr ⟨cntP_a (by omega), 0, by decide, rfl, Or.inl rfl⟩⟩)
  obtain ⟨rfl, rfl⟩ := Q
  refine pk_le 253 (ub L b) (fun cc => pk_eq' (ub L b) 253 (fun c3 => pk_eq' (ub L b) 254 (fun c4 => ?_) (fun c4 => ?_)) (fun c3 => ?_)) (fun cc => ?_)
  · obtain ⟨ek, el⟩ := cntK_5 cc c3 c4
    rw [show Nat.toInt64 (1 + 8) = lN 9 from rfl]
    refine (MD_skip_spec (m := 9) (by decide) (by omega) H0 hb).nV (fun h12 Q => ?_)
    obtain ⟨b', c', hb', rfl, ⟨q1, rfl, rfl⟩ | ⟨q1, rfl, rfl⟩⟩ := Q
    · rw [rd_br]
      refine ⟨fun _ => ⟨fun _ r16 e16 => ?_, fun c => absurd c (by decide)⟩, fun q => absurd rfl q⟩
      have e16' : r16 = a := e16.trans k3
      subst e16'
      have e5 : (rd h M (b + 9) 0).ai r16 = L := k5
      rw [nI_1]
      refine (MD_number_spec (h := rd h M (b + 9) 0) (M := M) (t := r16) (i := b + 1) (k := 8) (by decide) hd1 k4 (by rw [e5]; omega) (by rw [e5]; exact k7)).nJ (fun x17 h18 Q => ?_)
      obtain ⟨rfl, rfl⟩ := Q
      rw [e5]
      have hv := leV_64 L (b + 1) (Nat.le_refl 8)
      rw [lN_ushr hv, show (0 : Int64) = lN 0 from rfl, lN_eq63 (by omega) (by decide)]
      refine ⟨fun _ => ⟨fun _ => ⟨fun c6 => ?_, fun c6 h23 e23 => ⟨b + 9, 1, hb', by rw [e23, rd_pi2], Or.inr ⟨cntP_d ek el cb cc (Or.inl (by omega)), _, hv, rfl, Or.inl rfl⟩⟩⟩, fun c => absurd c (by decide)⟩, fun c => absurd c (by decide)⟩
      by_cases c7 : leV L (b + 1) 8 < 2 ^ 63
      · exact ⟨b + 9, 0, hb', rfl, Or.inl ⟨_, cntP_e ek el cb cc q1 (by omega) c7, rfl, rfl⟩⟩
      · exact ⟨b + 9, 0, hb', rfl, Or.inr ⟨cntP_d ek el cb cc (Or.inr (by omega)), _, hv, rfl, Or.inr ⟨rfl, by omega⟩⟩⟩
    · rw [rd_br]
      exact ⟨fun c => absurd c (by decide), fun _ => ⟨b', 1, hb', rfl, Or.inr ⟨cntP_c ek cb cc (by omega), 0, by decide, rfl, Or.inl rfl⟩⟩⟩
  · obtain ⟨ek, el⟩ := cntK_4 c4
    rw [show Nat.toInt64 (1 + 4) = lN 5 from rfl]
    refine (MD_skip_spec (m := 5) (by decide) (by omega) H0 hb).nV (fun h12 Q => ?_)
    obtain ⟨b', c', hb', rfl, ⟨q1, rfl, rfl⟩ | ⟨q1, rfl, rfl⟩⟩ := Q
    · rw [rd_br]
      refine ⟨fun _ => ⟨fun _ r16 e16 => ?_, fun c => absurd c (by decide)⟩, fun q => absurd rfl q⟩
      have e16' : r16 = a := e16.trans k3
      subst e16'
      have e5 : (rd h M (b + 5) 0).ai r16 = L := k5
      rw [nI_1]
      refine (MD_number_spec (h := rd h M (b + 5) 0) (M := M) (t := r16) (i := b + 1) (k := 4) (by decide) hd1 k4 (by rw [e5]; omega) (by rw [e5]; exact k7)).nJ (fun x17 h18 Q => ?_)
      obtain ⟨rfl, rfl⟩ := Q
      rw [e5]
      have h5 : leV L (b + 1) 4 < 256 ^ 4 := leV_lt _ _ _
      have h6 : (256 : Nat) ^ 4 = 4294967296 := by decide
      have e6 : (65536 ≤ lN (leV L (b + 1) 4)) ↔ 65536 ≤ leV L (b + 1) 4 := lN_le63 (a := 65536) (by omega) (by omega)
      refine ⟨fun _ => ⟨fun c => absurd (by decide) c, fun _ => ⟨fun c6 => ⟨b + 5, 0, hb', rfl, Or.inl ⟨_, cntP_e ek el cb cc q1 (e6.mp c6) (by omega), rfl, rfl⟩⟩, fun c6 h23 e23 => ⟨b + 5, 1, hb', by rw [e23, rd_pi2], Or.inr ⟨cntP_d ek el cb cc (Or.inl (Nat.lt_of_not_le (fun q => c6 (e6.mpr q)))), _, by omega, rfl, Or.inl rfl⟩⟩⟩⟩, fun c => absurd c (by decide)⟩
    · rw [rd_br]
      exact ⟨fun c => absurd c (by decide), fun _ => ⟨b', 1, hb', rfl, Or.inr ⟨cntP_c ek cb cc (by omega), 0, by decide, rfl, Or.inl rfl⟩⟩⟩
  · obtain ⟨ek, el⟩ := cntK_3 c3
    rw [show Nat.toInt64 (1 + 2) = lN 3 from rfl]
    refine (MD_skip_spec (m := 3) (by decide) (by omega) H0 hb).nV (fun h12 Q => ?_)
    obtain ⟨b', c', hb', rfl, ⟨q1, rfl, rfl⟩ | ⟨q1, rfl, rfl⟩⟩ := Q
    · rw [rd_br]
      refine ⟨fun _ => ⟨fun _ r16 e16 => ?_, fun c => absurd c (by decide)⟩, fun q => absurd rfl q⟩
      have e16' : r16 = a := e16.trans k3
      subst e16'
      have e5 : (rd h M (b + 3) 0).ai r16 = L := k5
      rw [nI_1]
      refine (MD_number_spec (h := rd h M (b + 3) 0) (M := M) (t := r16) (i := b + 1) (k := 2) (by decide) hd1 k4 (by rw [e5]; omega) (by rw [e5]; exact k7)).nJ (fun x17 h18 Q => ?_)
      obtain ⟨rfl, rfl⟩ := Q
      rw [e5]
      have h5 : leV L (b + 1) 2 < 256 ^ 2 := leV_lt _ _ _
      have h6 : (256 : Nat) ^ 2 = 65536 := by decide
      have e6 : (253 ≤ lN (leV L (b + 1) 2)) ↔ 253 ≤ leV L (b + 1) 2 := lN_le63 (a := 253) (by omega) (by omega)
      refine ⟨fun c => absurd (by decide) c, fun _ => ⟨fun c6 => ⟨b + 3, 0, hb', rfl, Or.inl ⟨_, cntP_e ek el cb cc q1 (e6.mp c6) (by omega), rfl, rfl⟩⟩, fun c6 h23 e23 => ⟨b + 3, 1, hb', by rw [e23, rd_pi2], Or.inr ⟨cntP_d ek el cb cc (Or.inl (Nat.lt_of_not_le (fun q => c6 (e6.mpr q)))), _, by omega, rfl, Or.inl rfl⟩⟩⟩⟩
    · rw [rd_br]
      exact ⟨fun c => absurd c (by decide), fun _ => ⟨b', 1, hb', rfl, Or.inr ⟨cntP_c ek cb cc (by omega), 0, by decide, rfl, Or.inl rfl⟩⟩⟩
  · rw [show Nat.toInt64 (1 + 0) = lN 1 from rfl]
    refine (MD_skip_spec (m := 1) (by decide) (by omega) H0 hb).nV (fun h12 Q => ?_)
    obtain ⟨b', c', hb', rfl, ⟨q1, rfl, rfl⟩ | ⟨q1, rfl, rfl⟩⟩ := Q
    · rw [rd_br, nI_l (by omega)]
      exact ⟨fun _ => ⟨fun c => absurd (by decide) c, fun _ => ⟨b + 1, 0, hb', rfl, Or.inl ⟨_, cntP_b cb cc, rfl, rfl⟩⟩⟩, fun q => absurd rfl q⟩
    · omega
end MRd

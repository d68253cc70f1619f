/-! RIPEMD-160 by the reference: rows of any length -/
set_option maxRecDepth 100000
section MRip3
variable {G : Gx} {d : Nat} {h : AH} {M : Nat}
set_option maxHeartbeats 10000000 in
theorem MD_ripe_spec (hd : 4 ≤ d) (H : MdS h M) (T : MdT h M) {a off n : Nat} (ka : h.kd a = 101) (la : off + n ≤ (h.ai a).length) (la2 : (h.ai a).length < 2 ^ 31) (hn : 8 * n < 2 ^ 31) (pa : ¬ mdP M a) {t at_ : Nat} (kt : h.kd t = 101) (lt2 : (h.ai t).length < 2 ^ 31) (pt : ¬ mdP M t) (lt : at_ + 20 ≤ (h.ai t).length) :
    Cw G mX24_ripe d 0 [vR M, vR a, vI (nI off), vI (nI n), vR t, vI (nI at_)] h (kV (fun h' => Mod (fun x => mdP M x ∨ x = t) h h' ∧ h'.ai t = putB (h.ai t) at_ 20 (ripD n (sl (h.ai a) off))) nE) := by
  obtain ⟨d, rfl⟩ : ∃ d', d = d' + 1 := ⟨d - 1, by omega⟩
  have hd1 : 1 ≤ d := by omega
  have hd3 : 3 ≤ d := by omega
  have H' := H
  obtain ⟨kM, ⟨r0, r1, r2, r3, r4, r8, r9, r10, r11, r12, r13, r14⟩, ⟨k1, k2, k3, k4, k5, k9, k10, k11, k12, k13, k14, k15⟩, ⟨l1, l2, l3, l4, l5, l9, l10, l11, l12, l13, l14, l15⟩⟩ := H
  have p1 : mdP M (M + 1) := by unfold mdP; omega
  have p2 : mdP M (M + 2) := by unfold mdP; omega
  have z10 : ¬ mdP M (M + 10) := by unfold mdP; omega
  have z11 : ¬ mdP M (M + 11) := by unfold mdP; omega
  have z12 : ¬ mdP M (M + 12) := by unfold mdP; omega
  have na1 : a ≠ M + 1 := fun e => pa (e ▸ p1)
  have nt2 : M + 2 ≠ t := fun e => pt (e ▸ p2)
  have subB : ∀ x, (x = M + 2 ∨ x = M + 3 ∨ x = M + 13 ∨ x = M + 14) → mdP M x := fun x hx => by unfold mdP; omega
  have subP : ∀ x, x = M + 1 → mdP M x := fun x hx => by rw [hx]; exact p1
  have hw1 : n / 64 * 64 ≤ n := by omega
  have hw2 : n - n / 64 * 64 < 64 := by omega
  have hwn : n / 64 * 64 + (n - n / 64 * 64) = n := by omega
  have hEe : (n - n / 64 * 64 + 72) / 64 * 64 = 64 ∨ (n - n / 64 * 64 + 72) / 64 * 64 = 128 := by omega
  have hNN : (n + 72) / 64 = n / 64 + (n - n / 64 * 64 + 72) / 64 := by omega
  refine eX24_ripe h M a (nI off) (nI n) t (nI at_) (fun _ => sX24_ripe_0 h M a (nI off) (nI n) t (nI at_) ⟨kM, fun q2 e2 => ?_⟩)
  generalize hΦ : kV (fun h' => Mod (fun x => mdP M x ∨ x = t) h h' ∧ h'.ai t = putB (h.ai t) at_ 20 (ripD n (sl (h.ai a) off))) nE = Φ
  -- the answer comes out
  have k120 : ∀ h5, Mod (mdP M) h h5 → t5 (h5.ai (M + 2)) = flF [] 1 (pm 1 n (sl (h.ai a) off)) rpS0 ((n + 72) / 64) → Aw G mX24_ripe (d + 1) 0 h Φ 120 [vR M, vU, vU, vU, vR t, vI (nI at_), vU, vU, vI 0] [] h5 := by
    intro h5 M5 e5
    have t5' : h5.ai t = h.ai t := M5.ai pt
    have kt5 : h5.kd t = 101 := by rw [M5.kd]; exact kt
    have H5 := H'.mod M5
    have l25 : (h5.ai (M + 2)).length = 8 := by rw [M5.len, l2]
    have e0 : h5.wi t (putB (h.ai t) at_ 0 (ripD n (sl (h.ai a) off))) = h5 := by rw [putB_0, ← t5', AH.wi_self]
    have key := loop_uc (n := 20) (P := fun k (_ : Unit) => Aw G mX24_ripe (d + 1) 0 h Φ 120 [vR M, vU, vU, vU, vR t, vI (nI at_), vU, vU, vI (nI k)] [] (h5.wi t (putB (h.ai t) at_ k (ripD n (sl (h.ai a) off)))))
      (fun _ _ => True) (fun k _ hk _ ih => ?_) 0 () (by omega) trivial
    · rw [e0] at key; exact key
    · refine sX24_ripe_120 _ M t (nI at_) (nI k) (pk_le 20 k (fun h32 => ?_) (fun h32 => ⟨H5.1, fun q3 e3 => ?_⟩))
      · have : k = 20 := by omega
        subst this
        rw [← hΦ]
        exact ⟨(M5.mono (fun x hx => Or.inl hx)).trans (Mod.wi (by rw [putB_len, t5']) (Or.inr rfl)), AH.ai_wiS _ _ _⟩
      · have hk4 : k / 4 < 5 := by omega
        rw [e3.trans H5.2.1.2.1, AH.ai_wiN nt2, AH.ai_wiS, AH.wi_wi, l25, putB_len, show (4 : Int32) = nI 4 from rfl, pk_div (by omega) (by decide) (by decide), jrem_n (by omega) (by decide) (by decide), nI_add, pk_cl (k / 4) rfl (by omega), pk_cl (at_ + k) rfl (by omega), show (8 : Int32) = nI 8 from rfl, pk_mul, i2b_i2b, i2b_ushr _ (by omega), nI_1]
        refine ⟨H5.2.2.1.2.1, pk_in (k / 4) 8 (by omega), kt5, pk_in (at_ + k) _ (by omega), fun h8 e8 => ?_⟩
        rw [e8, putB_succ (by omega) (by rw [ripD, ← e5, t5_getD _ hk4])]
        exact ih h32 () trivial
  -- the padded blocks
  have k94 : ∀ j h5, j ≤ (n - n / 64 * 64 + 72) / 64 → (Mod (mdP M) h h5 ∧ (∀ i, i < (n - n / 64 * 64 + 72) / 64 * 64 → (h5.ai (M + 1)).getD i 0 = pm 1 n (sl (h.ai a) off) (n / 64 * 64 + i)) ∧ t5 (h5.ai (M + 2)) = flF [] 1 (pm 1 n (sl (h.ai a) off)) rpS0 (n / 64 + j)) → Aw G mX24_ripe (d + 1) 0 h Φ 94 [vR M, vU, vU, vU, vR t, vI (nI at_), vU, vI (nI ((n - n / 64 * 64 + 72) / 64 * 64)), vI (nI (64 * j))] [] h5 := by
    refine loop_uc (n := (n - n / 64 * 64 + 72) / 64) (P := fun j h5 => Aw G mX24_ripe (d + 1) 0 h Φ 94 [vR M, vU, vU, vU, vR t, vI (nI at_), vU, vI (nI ((n - n / 64 * 64 + 72) / 64 * 64)), vI (nI (64 * j))] [] h5) _ (fun j h5 hj hI ih => ?_)
    obtain ⟨M5, hp, e5⟩ := hI
    have H5 := H'.mod M5
    have T5 := T.mod M5 z10 z11 z12
    have l15 : (h5.ai (M + 1)).length = 128 := by rw [M5.len, l1]
    refine sX24_ripe_94 _ M t (nI at_) (nI ((n - n / 64 * 64 + 72) / 64 * 64)) (nI (64 * j)) (pk_le ((n - n / 64 * 64 + 72) / 64 * 64) (64 * j) (fun hl => ?_) (fun hl => ⟨H5.1, fun q3 e3 => ?_⟩) rfl rfl (by omega) (by omega))
    · have : j = (n - n / 64 * 64 + 72) / 64 := by omega
      rw [this, ← hNN] at e5
      exact k120 h5 M5 e5
    · rw [e3.trans H5.2.1.1]
      refine (MD_ripeBlock_spec (t := M + 1) (b := 64 * j) hd3 H5 T5 H5.2.2.1.1 (by rw [l15]; omega) (by rw [l15]; omega)).nV (fun h6 Q => ?_)
      obtain ⟨M6, e6⟩ := Q
      rw [show (64 : Int32) = nI 64 from rfl, nI_add, show 64 * j + 64 = 64 * (j + 1) by omega]
      have a1 : h6.ai (M + 1) = h5.ai (M + 1) := M6.ai (by omega)
      refine ih (by omega) h6 ⟨M5.trans (M6.mono subB), fun i hi => by rw [a1]; exact hp i hi, ?_⟩
      have eB : genL (sl (h5.ai (M + 1)) (64 * j)) = blkL (pm 1 n (sl (h.ai a) off)) (n / 64 + j) := by
        refine genL_congr (fun i hi => ?_)
        show (h5.ai (M + 1)).getD (64 * j + i) 0 = _
        rw [hp (64 * j + i) (by omega)]
        rw [show n / 64 * 64 + (64 * j + i) = 64 * (n / 64 + j) + i by omega]
      rw [e6, eB, e5, show n / 64 + (j + 1) = n / 64 + j + 1 by omega, flF]
      unfold cmF
      rw [if_neg (by decide)]
  -- whole blocks
  have k52 : ∀ j h5, j ≤ n / 64 → (Mod (mdP M) h h5 ∧ t5 (h5.ai (M + 2)) = flF [] 1 (pm 1 n (sl (h.ai a) off)) rpS0 j) → Aw G mX24_ripe (d + 1) 0 h Φ 52 [vR M, vR a, vI (nI off), vI (nI n), vR t, vI (nI at_), vI (nI (n / 64 * 64)), vI (nI (64 * j)), vU] [] h5 := by
    refine loop_uc (n := n / 64) (P := fun j h5 => Aw G mX24_ripe (d + 1) 0 h Φ 52 [vR M, vR a, vI (nI off), vI (nI n), vR t, vI (nI at_), vI (nI (n / 64 * 64)), vI (nI (64 * j)), vU] [] h5) _ (fun j h5 hj hI ih => ?_)
    obtain ⟨M5, e5⟩ := hI
    have H5 := H'.mod M5
    have T5 := T.mod M5 z10 z11 z12
    have aa : h5.ai a = h.ai a := M5.ai pa
    have ka5 : h5.kd a = 101 := by rw [M5.kd]; exact ka
    refine sX24_ripe_52 _ M a (nI off) (nI n) t (nI at_) (nI (n / 64 * 64)) (nI (64 * j)) (pk_le (n / 64 * 64) (64 * j) (fun hl => ⟨H5.1, ?_⟩) (fun hl => ⟨H5.1, ?_⟩) rfl rfl (by omega) (by omega))
    · have : j = n / 64 := by omega
      subst this
      rw [nI_add, pk_sub hw1]
      refine (MD_pad_spec (f := 1) (mb := sl (h.ai a) off) hd1 H5 (Or.inr rfl) hwn hw2 ka5 na1 (by rw [aa]; omega) (by rw [aa]; exact la2) hn (fun i hi => ?_)).nI (fun x2 h3 Q => ?_)
      · rw [aa]
        show _ = (h.ai a).getD (off + (n / 64 * 64 + i)) 0
        rw [show off + n / 64 * 64 + i = off + (n / 64 * 64 + i) by omega]
      · obtain ⟨rfl, M3, hp⟩ := Q
        refine k94 0 h3 (by omega) ⟨M5.trans (M3.mono subP), hp, ?_⟩
        rw [M3.ai (by omega), e5]
        rfl
    · rw [nI_add]
      refine (MD_ripeBlock_spec (t := a) (b := off + 64 * j) hd3 H5 T5 ka5 (by rw [aa]; omega) (by rw [aa]; exact la2)).nV (fun h6 Q => ?_)
      obtain ⟨M6, e6⟩ := Q
      rw [show (64 : Int32) = nI 64 from rfl, nI_add, show 64 * j + 64 = 64 * (j + 1) by omega]
      refine ih (by omega) h6 ⟨M5.trans (M6.mono subB), ?_⟩
      have eB : genL (sl (h5.ai a) (off + 64 * j)) = blkL (pm 1 n (sl (h.ai a) off)) j := by
        refine genL_congr (fun i hi => ?_)
        show (h5.ai a).getD (off + 64 * j + i) 0 = pm 1 n (sl (h.ai a) off) (64 * j + i)
        unfold pm
        rw [if_pos (by omega), aa]
        show _ = (h.ai a).getD (off + (64 * j + i)) 0
        rw [show off + 64 * j + i = off + (64 * j + i) by omega]
      rw [e6, eB, e5, flF]
      unfold cmF
      rw [if_neg (by decide)]
  -- the start
  rw [e2.trans r1, l2, cl0, cl1, cl2, cl3, cl4]
  refine ⟨k2, pk_in 0 8 (by decide), fun h5 e5 => ?_⟩
  subst e5
  rw [AH.ai_wiS, List.length_set, l2]
  refine ⟨pk_in 1 8 (by decide), fun h5 e5 => ?_⟩
  rw [AH.wi_wi] at e5
  subst e5
  rw [AH.ai_wiS, List.length_set, List.length_set, l2]
  refine ⟨pk_in 2 8 (by decide), fun h5 e5 => ?_⟩
  rw [AH.wi_wi] at e5
  subst e5
  rw [AH.ai_wiS, List.length_set, List.length_set, List.length_set, l2]
  refine ⟨pk_in 3 8 (by decide), fun h5 e5 => ?_⟩
  rw [AH.wi_wi] at e5
  subst e5
  rw [AH.ai_wiS, List.length_set, List.length_set, List.length_set, List.length_set, l2]
  refine ⟨pk_in 4 8 (by decide), fun h5 e5 => ?_⟩
  rw [AH.wi_wi] at e5
  subst e5
  rw [show (64 : Int32) = nI 64 from rfl, pk_div (by omega) (by decide) (by decide), pk_mul]
  refine k52 0 _ (by omega) ⟨Mod.wi (by simp only [List.length_set]) p2, ?_⟩
  rw [AH.ai_wiS, flF]
  refine five rfl ?_ ?_ ?_ ?_ ?_ <;> rw [t5_getD _ (by decide)] <;> simp [getD_sif, l2]
theorem MD_hash160_spec (hd : 5 ≤ d) (H : MdS h M) (T : MdT h M) {a off n : Nat} (ka : h.kd a = 101) (la : off + n ≤ (h.ai a).length) (la2 : (h.ai a).length < 2 ^ 31) (hn : 8 * n < 2 ^ 31) (pa : ¬ mdQ M a) {t at_ : Nat} (kt : h.kd t = 101) (lt2 : (h.ai t).length < 2 ^ 31) (pt : ¬ mdQ M t) (lt : at_ + 20 ≤ (h.ai t).length) :
    Cw G mX24_hash160 d 0 [vR M, vR a, vI (nI off), vI (nI n), vR t, vI (nI at_)] h (kV (fun h' => Mod (fun x => mdQ M x ∨ x = t) h h' ∧ h'.ai t = putB (h.ai t) at_ 20 (h160D (h.ai (M + 5)) (h.ai (M + 4)) n (sl (h.ai a) off))) nE) := by
  obtain ⟨d, rfl⟩ : ∃ d', d = d' + 1 := ⟨d - 1, by omega⟩
  have pa' : ¬ mdP M a := fun q => pa (Or.inl q)
  have pt' : ¬ mdP M t := fun q => pt (Or.inl q)
  have nt15 : t ≠ M + 15 := fun e => pt (Or.inr e)
  have p15 : ¬ mdP M (M + 15) := by unfold mdP; omega
  have z10 : ¬ (mdP M (M + 10) ∨ M + 10 = M + 15) := by unfold mdP; omega
  have z11 : ¬ (mdP M (M + 11) ∨ M + 11 = M + 15) := by unfold mdP; omega
  have z12 : ¬ (mdP M (M + 12) ∨ M + 12 = M + 15) := by unfold mdP; omega
  have l15 : (h.ai (M + 15)).length = 32 := H.2.2.2.2.2.2.2.2.2.2.2.2.2.2
  have k15 : h.kd (M + 15) = 101 := H.2.2.1.2.2.2.2.2.2.2.2.2.2.2
  refine eX24_hash160 h M a (nI off) (nI n) t (nI at_) (fun _ => sX24_hash160_0 h M a (nI off) (nI n) t (nI at_) ⟨H.1, fun q2 e2 => ?_⟩)
  rw [e2.trans H.2.1.2.2.2.2.2.2.2.2.2.2.2]
  refine (MD_sha_spec (t := M + 15) (at_ := 0) (by omega) H ka la la2 hn pa' k15 (by rw [l15]; omega) p15 (by rw [l15]; omega)).nV (fun h4 Q => ?_)
  obtain ⟨M1, e1⟩ := Q
  have t4 : h4.ai t = h.ai t := M1.ai (fun q => q.elim pt' nt15)
  have l154 : (h4.ai (M + 15)).length = 32 := by rw [M1.len, l15]
  refine (MD_ripe_spec (off := 0) (n := 32) (a := M + 15) (by omega) (H.mod M1) (T.mod M1 z10 z11 z12) (by rw [M1.kd]; exact k15) (by rw [l154]; omega) (by rw [l154]; omega) (by omega) p15 (by rw [M1.kd]; exact kt) (by rw [t4]; exact lt2) pt' (by rw [t4]; exact lt)).nV (fun h9 Q => ?_)
  obtain ⟨M2, e2⟩ := Q
  refine ⟨(M1.mono (fun x hx => Or.inl hx)).trans (M2.mono (fun x hx => hx.elim (fun q => Or.inl (Or.inl q)) Or.inr)), ?_⟩
  have e3 : ripD 32 (sl (h4.ai (M + 15)) 0) = ripD 32 (shaD (h.ai (M + 5)) (h.ai (M + 4)) n (sl (h.ai a) off)) := by
    refine ripD_congr (fun i hi => ?_)
    show (h4.ai (M + 15)).getD (0 + i) 0 = _
    rw [Nat.zero_add, e1, putB_getD _ _ _ _ (by rw [l15]; exact hi), if_pos (by omega), Nat.sub_zero]
  rw [e2, t4, h160D, e3]
end MRip3

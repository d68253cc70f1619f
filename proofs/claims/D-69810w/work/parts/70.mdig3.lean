/-! SHA-256 by the reference, whole -/
set_option maxRecDepth 100000
/-- the rows that the reference's digests write -/
def mdP (M x : Nat) : Prop := (M + 1 ≤ x ∧ x ≤ M + 3) ∨ x = M + 9 ∨ x = M + 13 ∨ x = M + 14
section MDig3
variable {G : Gx} {d : Nat} {h : AH} {M : Nat}
set_option maxHeartbeats 10000000 in
theorem MD_sha_spec (hd : 3 ≤ d) (H : MdS h M) {a off n : Nat} (ka : h.kd a = 101) (la : off + n ≤ (h.ai a).length) (la2 : (h.ai a).length < 2 ^ 31) (hn : 8 * n < 2 ^ 31) (pa : ¬ mdP M a) {t at_ : Nat} (kt : h.kd t = 101) (lt2 : (h.ai t).length < 2 ^ 31) (pt : ¬ mdP M t) (lt : at_ + 32 ≤ (h.ai t).length) :
    Cw G mX24_sha d 0 [vR M, vR a, vI (nI off), vI (nI n), vR t, vI (nI at_)] h (kV (fun h' => Mod (fun x => mdP M x ∨ x = t) h h' ∧ h'.ai t = putB (h.ai t) at_ 32 (shaD (h.ai (M + 5)) (h.ai (M + 4)) n (sl (h.ai a) off))) nE) := by
  obtain ⟨d, rfl⟩ : ∃ d', d = d' + 1 := ⟨d - 1, by omega⟩
  have hd1 : 1 ≤ d := by omega
  have hd2 : 2 ≤ d := by omega
  have H' := H
  obtain ⟨kM, ⟨r0, r1, r2, r3, r4, r8, r9, r10, r11, r12, r13, r14⟩, ⟨k1, k2, k3, k4, k5, k9, k10, k11, k12, k13, k14, k15⟩, ⟨l1, l2, l3, l4, l5, l9, l10, l11, l12, l13, l14, l15⟩⟩ := H
  have p1 : mdP M (M + 1) := by unfold mdP; omega
  have p2 : mdP M (M + 2) := by unfold mdP; omega
  have p4 : ¬ mdP M (M + 4) := by unfold mdP; omega
  have p5 : ¬ mdP M (M + 5) := by unfold mdP; omega
  have n42 : M + 4 ≠ M + 2 := by omega
  have n52 : M + 5 ≠ M + 2 := by omega
  have na1 : a ≠ M + 1 := fun e => pa (e ▸ p1)
  have na2 : a ≠ M + 2 := fun e => pa (e ▸ p2)
  have nt2 : M + 2 ≠ t := fun e => pt (e ▸ p2)
  have subB : ∀ x, (x = M + 2 ∨ x = M + 3 ∨ x = M + 9) → mdP M x := fun x hx => by unfold mdP; omega
  have subP : ∀ x, x = M + 1 → mdP M x := fun x hx => by rw [hx]; exact p1
  have hw1 : n / 64 * 64 ≤ n := by omega
  have hw2 : n - n / 64 * 64 < 64 := by omega
  have hwn : n / 64 * 64 + (n - n / 64 * 64) = n := by omega
  have hEe : (n - n / 64 * 64 + 72) / 64 * 64 = 64 ∨ (n - n / 64 * 64 + 72) / 64 * 64 = 128 := by omega
  have hNN : (n + 72) / 64 = n / 64 + (n - n / 64 * 64 + 72) / 64 := by omega
  refine eX24_sha h M a (nI off) (nI n) t (nI at_) (fun _ => sX24_sha_0 h M a (nI off) (nI n) t (nI at_) ?_)
  generalize hΦ : kV (fun h' => Mod (fun x => mdP M x ∨ x = t) h h' ∧ h'.ai t = putB (h.ai t) at_ 32 (shaD (h.ai (M + 5)) (h.ai (M + 4)) n (sl (h.ai a) off))) nE = Φ
  -- the answer comes out
  have k110 : ∀ h5, Mod (mdP M) h h5 → h5.ai (M + 2) = flF (h.ai (M + 5)) 0 (pm 0 n (sl (h.ai a) off)) (h.ai (M + 4)) ((n + 72) / 64) → Aw G mX24_sha (d + 1) 0 h Φ 110 [vR M, vU, vU, vU, vR t, vI (nI at_), vU, vU, vI 0] [] h5 := by
    intro h5 M5 e5
    have t5 : h5.ai t = h.ai t := M5.ai pt
    have kt5 : h5.kd t = 101 := by rw [M5.kd]; exact kt
    have H5 := H'.mod M5
    have l25 : (h5.ai (M + 2)).length = 8 := by rw [M5.len, l2]
    have e0 : h5.wi t (putB (h.ai t) at_ 0 (shaD (h.ai (M + 5)) (h.ai (M + 4)) n (sl (h.ai a) off))) = h5 := by rw [putB_0, ← t5, AH.wi_self]
    have key := loop_uc (n := 32) (P := fun k (_ : Unit) => Aw G mX24_sha (d + 1) 0 h Φ 110 [vR M, vU, vU, vU, vR t, vI (nI at_), vU, vU, vI (nI k)] [] (h5.wi t (putB (h.ai t) at_ k (shaD (h.ai (M + 5)) (h.ai (M + 4)) n (sl (h.ai a) off)))))
      (fun _ _ => True) (fun k _ hk _ ih => ?_) 0 () (by omega) trivial
    · rw [e0] at key; exact key
    · refine sX24_sha_110 _ M t (nI at_) (nI k) (pk_le 32 k (fun h32 => ?_) (fun h32 => ⟨H5.1, fun q3 e3 => ?_⟩))
      · have : k = 32 := by omega
        subst this
        rw [← hΦ]
        exact ⟨(M5.mono (fun x hx => Or.inl hx)).trans (Mod.wi (by rw [putB_len, t5]) (Or.inr rfl)), AH.ai_wiS _ _ _⟩
      · have hk4 : k / 4 < 8 := by omega
        rw [e3.trans H5.2.1.2.1, AH.ai_wiN nt2, AH.ai_wiS, AH.wi_wi, l25, putB_len, show (4 : Int32) = nI 4 from rfl, pk_div (by omega) (by decide) (by decide), jrem_n (by omega) (by decide) (by decide), nI_add, pk_cl (k / 4) rfl (by omega), pk_cl (at_ + k) rfl (by omega), show (8 : Int32) = nI 8 from rfl, show (24 : Int32) = nI 24 from rfl, pk_mul, pk_sub (by omega), show 24 - 8 * (k % 4) = 8 * (3 - k % 4) by omega, i2b_i2b, i2b_ushr _ (by omega), nI_1]
        refine ⟨H5.2.2.1.2.1, pk_in (k / 4) 8 hk4, kt5, pk_in (at_ + k) _ (by omega), fun h8 e8 => ?_⟩
        rw [e8, putB_succ (by omega) (by rw [shaD, e5])]
        exact ih h32 () trivial
  -- the padded blocks
  have k84 : ∀ j h5, j ≤ (n - n / 64 * 64 + 72) / 64 → (Mod (mdP M) h h5 ∧ (∀ i, i < (n - n / 64 * 64 + 72) / 64 * 64 → (h5.ai (M + 1)).getD i 0 = pm 0 n (sl (h.ai a) off) (n / 64 * 64 + i)) ∧ h5.ai (M + 2) = flF (h.ai (M + 5)) 0 (pm 0 n (sl (h.ai a) off)) (h.ai (M + 4)) (n / 64 + j)) → Aw G mX24_sha (d + 1) 0 h Φ 84 [vR M, vU, vU, vU, vR t, vI (nI at_), vU, vI (nI ((n - n / 64 * 64 + 72) / 64 * 64)), vI (nI (64 * j))] [] h5 := by
    refine loop_uc (n := (n - n / 64 * 64 + 72) / 64) (P := fun j h5 => Aw G mX24_sha (d + 1) 0 h Φ 84 [vR M, vU, vU, vU, vR t, vI (nI at_), vU, vI (nI ((n - n / 64 * 64 + 72) / 64 * 64)), vI (nI (64 * j))] [] h5) _ (fun j h5 hj hI ih => ?_)
    obtain ⟨M5, hp, e5⟩ := hI
    have H5 := H'.mod M5
    have l15 : (h5.ai (M + 1)).length = 128 := by rw [M5.len, l1]
    refine sX24_sha_84 _ M t (nI at_) (nI ((n - n / 64 * 64 + 72) / 64 * 64)) (nI (64 * j)) (pk_le ((n - n / 64 * 64 + 72) / 64 * 64) (64 * j) (fun hl => ?_) (fun hl => ⟨H5.1, fun q3 e3 => ?_⟩) rfl rfl (by omega) (by omega))
    · have : j = (n - n / 64 * 64 + 72) / 64 := by omega
      rw [this, ← hNN] at e5
      exact k110 h5 M5 e5
    · rw [e3.trans H5.2.1.1]
      refine (MD_shaBlock_spec (t := M + 1) (b := 64 * j) hd2 H5 H5.2.2.1.1 (by rw [l15]; omega) (by rw [l15]; omega)).nV (fun h6 Q => ?_)
      obtain ⟨M6, e6⟩ := Q
      rw [show (64 : Int32) = nI 64 from rfl, nI_add, show 64 * j + 64 = 64 * (j + 1) by omega]
      have a1 : h6.ai (M + 1) = h5.ai (M + 1) := M6.ai (by omega)
      have a5 : h5.ai (M + 5) = h.ai (M + 5) := M5.ai p5
      refine ih (by omega) h6 ⟨M5.trans (M6.mono subB), fun i hi => by rw [a1]; exact hp i hi, ?_⟩
      have eB : genL (sl (h5.ai (M + 1)) (64 * j)) = blkL (pm 0 n (sl (h.ai a) off)) (n / 64 + j) := by
        refine genL_congr (fun i hi => ?_)
        show (h5.ai (M + 1)).getD (64 * j + i) 0 = _
        rw [hp (64 * j + i) (by omega)]
        rw [show n / 64 * 64 + (64 * j + i) = 64 * (n / 64 + j) + i by omega]
      rw [e6, eB, e5, a5, show n / 64 + (j + 1) = n / 64 + j + 1 by omega, flF]
      unfold cmF
      rw [if_pos rfl]
  -- whole blocks
  have k42 : ∀ j h5, j ≤ n / 64 → (Mod (mdP M) h h5 ∧ h5.ai (M + 2) = flF (h.ai (M + 5)) 0 (pm 0 n (sl (h.ai a) off)) (h.ai (M + 4)) j) → Aw G mX24_sha (d + 1) 0 h Φ 42 [vR M, vR a, vI (nI off), vI (nI n), vR t, vI (nI at_), vI (nI (n / 64 * 64)), vI (nI (64 * j)), vU] [] h5 := by
    refine loop_uc (n := n / 64) (P := fun j h5 => Aw G mX24_sha (d + 1) 0 h Φ 42 [vR M, vR a, vI (nI off), vI (nI n), vR t, vI (nI at_), vI (nI (n / 64 * 64)), vI (nI (64 * j)), vU] [] h5) _ (fun j h5 hj hI ih => ?_)
    obtain ⟨M5, e5⟩ := hI
    have H5 := H'.mod M5
    have a5 : h5.ai (M + 5) = h.ai (M + 5) := M5.ai p5
    have aa : h5.ai a = h.ai a := M5.ai pa
    have ka5 : h5.kd a = 101 := by rw [M5.kd]; exact ka
    refine sX24_sha_42 _ M a (nI off) (nI n) t (nI at_) (nI (n / 64 * 64)) (nI (64 * j)) (pk_le (n / 64 * 64) (64 * j) (fun hl => ⟨H5.1, ?_⟩) (fun hl => ⟨H5.1, ?_⟩) rfl rfl (by omega) (by omega))
    · have : j = n / 64 := by omega
      subst this
      rw [nI_add, pk_sub hw1]
      refine (MD_pad_spec (f := 0) (mb := sl (h.ai a) off) hd1 H5 (Or.inl rfl) hwn hw2 ka5 na1 (by rw [aa]; omega) (by rw [aa]; exact la2) hn (fun i hi => ?_)).nI (fun x2 h3 Q => ?_)
      · rw [aa]
        show _ = (h.ai a).getD (off + (n / 64 * 64 + i)) 0
        rw [show off + n / 64 * 64 + i = off + (n / 64 * 64 + i) by omega]
      · obtain ⟨rfl, M3, hp⟩ := Q
        refine k84 0 h3 (by omega) ⟨M5.trans (M3.mono subP), hp, ?_⟩
        rw [M3.ai (by omega), e5]
        rfl
    · rw [nI_add]
      refine (MD_shaBlock_spec (t := a) (b := off + 64 * j) hd2 H5 ka5 (by rw [aa]; omega) (by rw [aa]; exact la2)).nV (fun h6 Q => ?_)
      obtain ⟨M6, e6⟩ := Q
      rw [show (64 : Int32) = nI 64 from rfl, nI_add, show 64 * j + 64 = 64 * (j + 1) by omega]
      refine ih (by omega) h6 ⟨M5.trans (M6.mono subB), ?_⟩
      have eB : genL (sl (h5.ai a) (off + 64 * j)) = blkL (pm 0 n (sl (h.ai a) off)) j := by
        refine genL_congr (fun i hi => ?_)
        show (h5.ai a).getD (off + 64 * j + i) 0 = pm 0 n (sl (h.ai a) off) (64 * j + i)
        unfold pm
        rw [if_pos (by omega), aa]
        show _ = (h.ai a).getD (off + (64 * j + i)) 0
        rw [show off + 64 * j + i = off + (64 * j + i) by omega]
      rw [e6, eB, e5, a5, flF]
      unfold cmF
      rw [if_pos rfl]
  -- the start
  have key := loop_uc (n := 8) (P := fun k L => Aw G mX24_sha (d + 1) 0 h Φ 3 [vR M, vR a, vI (nI off), vI (nI n), vR t, vI (nI at_), vI (nI k), vU, vU] [] (h.wi (M + 2) L))
    (fun k L => L.length = 8 ∧ ∀ i, i < k → L.getD i 0 = (h.ai (M + 4)).getD i 0) (fun k L hk hI ih => ?_) 0 (h.ai (M + 2)) (by omega) ⟨l2, fun i hi => absurd hi (by omega)⟩
  · rw [AH.wi_self] at key; exact key
  · obtain ⟨lL, hL⟩ := hI
    refine sX24_sha_3 _ M a (nI off) (nI n) t (nI at_) (nI k) (pk_le 8 k (fun h8 => ?_) (fun h8 => ⟨kM, fun q3 e3 q4 e4 => ?_⟩))
    · have eL : L = h.ai (M + 4) := ext_getD (z := 0) (by omega) (fun i hi => hL i (by omega))
      subst eL
      rw [show (64 : Int32) = nI 64 from rfl, pk_div (by omega) (by decide) (by decide), pk_mul]
      exact k42 0 _ (by omega) ⟨Mod.wi (by rw [l4, l2]) p2, AH.ai_wiS _ _ _⟩
    · rw [e3.trans r1, e4.trans r3, AH.ai_wiN n42, AH.ai_wiS, AH.wi_wi, l4, lL, pk_cl k, nI_1]
      refine ⟨k4, pk_in k 8 h8, k2, pk_in k 8 h8, fun h9 e9 => ?_⟩
      rw [e9]
      refine ih h8 _ ⟨by rw [List.length_set, lL], fun i hi => ?_⟩
      by_cases q : i = k
      · subst q; rw [getD_set_eq (by omega)]
      · rw [getD_set_ne q]; exact hL i (by omega)
/-- with the row between -/
def mdQ (M x : Nat) : Prop := mdP M x ∨ x = M + 15
theorem MD_again_spec (hd : 4 ≤ d) (H : MdS h M) {a off n : Nat} (ka : h.kd a = 101) (la : off + n ≤ (h.ai a).length) (la2 : (h.ai a).length < 2 ^ 31) (hn : 8 * n < 2 ^ 31) (pa : ¬ mdQ M a) {t at_ : Nat} (kt : h.kd t = 101) (lt2 : (h.ai t).length < 2 ^ 31) (pt : ¬ mdQ M t) (lt : at_ + 32 ≤ (h.ai t).length) :
    Cw G mX24_again d 0 [vR M, vR a, vI (nI off), vI (nI n), vR t, vI (nI at_)] h (kV (fun h' => Mod (fun x => mdQ M x ∨ x = t) h h' ∧ h'.ai t = putB (h.ai t) at_ 32 (dshD (h.ai (M + 5)) (h.ai (M + 4)) n (sl (h.ai a) off))) nE) := by
  obtain ⟨d, rfl⟩ : ∃ d', d = d' + 1 := ⟨d - 1, by omega⟩
  have pa' : ¬ mdP M a := fun q => pa (Or.inl q)
  have pt' : ¬ mdP M t := fun q => pt (Or.inl q)
  have nt15 : t ≠ M + 15 := fun e => pt (Or.inr e)
  have p15 : ¬ mdP M (M + 15) := by unfold mdP; omega
  have p4 : ¬ (mdP M (M + 4) ∨ M + 4 = M + 15) := by unfold mdP; omega
  have p5 : ¬ (mdP M (M + 5) ∨ M + 5 = M + 15) := by unfold mdP; omega
  have l15 : (h.ai (M + 15)).length = 32 := H.2.2.2.2.2.2.2.2.2.2.2.2.2.2
  have k15 : h.kd (M + 15) = 101 := H.2.2.1.2.2.2.2.2.2.2.2.2.2.2
  refine eX24_again h M a (nI off) (nI n) t (nI at_) (fun _ => sX24_again_0 h M a (nI off) (nI n) t (nI at_) ⟨H.1, fun q2 e2 => ?_⟩)
  rw [e2.trans H.2.1.2.2.2.2.2.2.2.2.2.2.2]
  refine (MD_sha_spec (t := M + 15) (at_ := 0) (by omega) H ka la la2 hn pa' k15 (by rw [l15]; omega) p15 (by rw [l15]; omega)).nV (fun h4 Q => ?_)
  obtain ⟨M1, e1⟩ := Q
  have e4 : h4.ai (M + 4) = h.ai (M + 4) := M1.ai p4
  have e5 : h4.ai (M + 5) = h.ai (M + 5) := M1.ai p5
  have t4 : h4.ai t = h.ai t := M1.ai (fun q => q.elim pt' nt15)
  have l154 : (h4.ai (M + 15)).length = 32 := by rw [M1.len, l15]
  refine (MD_sha_spec (off := 0) (n := 32) (a := M + 15) (by omega) (H.mod M1) (by rw [M1.kd]; exact k15) (by rw [l154]; omega) (by rw [l154]; omega) (by omega) p15 (by rw [M1.kd]; exact kt) (by rw [t4]; exact lt2) pt' (by rw [t4]; exact lt)).nV (fun h9 Q => ?_)
  obtain ⟨M2, e2⟩ := Q
  refine ⟨(M1.mono (fun x hx => Or.inl hx)).trans (M2.mono (fun x hx => hx.elim (fun q => Or.inl (Or.inl q)) Or.inr)), ?_⟩
  have e3 : shaD (h.ai (M + 5)) (h.ai (M + 4)) 32 (sl (h4.ai (M + 15)) 0) = shaD (h.ai (M + 5)) (h.ai (M + 4)) 32 (shaD (h.ai (M + 5)) (h.ai (M + 4)) n (sl (h.ai a) off)) := by
    refine shaD_congr (fun i hi => ?_)
    show (h4.ai (M + 15)).getD (0 + i) 0 = _
    rw [Nat.zero_add, e1, putB_getD _ _ _ _ (by rw [l15]; exact hi), if_pos (by omega), Nat.sub_zero]
  rw [e2, e4, e5, t4, dshD, e3]
end MDig3

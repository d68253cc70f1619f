/-! n times a point, by the reference -/
set_option maxRecDepth 100000
section MTimes
variable {G : Gx} {d : Nat} {h : AH} {M E F p I q o u : Nat} {f : Nat → Nat}
theorem Mtimes_reg (hd : 2 ≤ d) (A : MAdOk F 12 (adM E q o)) (H : McS h M E F) (hq : MPtS h q) (ho : MPtS h o) (S0 : MReg h F p I 12 (adM E q o) f) (hu : RowAt h u) (hu2 : ¬ MRP F 12 (adM E q o) u) :
    Cw G mX24_times_2 (d + 3) 0 [vR M, vR u, vR o, vR q] h (kV (fun h' => Mod (MRP F 12 (adM E q o)) h h' ∧ ∃ f', MReg h' F p I 12 (adM E q o) f' ∧ nrm (f' 6, f' 7, f' 8) = mulN p (f 9, f 10, f 11) (bv h u) 256 ∧ f' 9 = f 9 ∧ f' 10 = f 10 ∧ f' 11 = f 11) nE) := by
  have hq3 : h.r 25002 q = q + 3 := hq.2.2.2
  have Z := S0.2 8 (by decide)
  have hz : RowAt h (q + 3) := Z.1
  have hp0 : 0 < p := by have := S0.1.1.2.2.2; omega
  have hStM : ∀ {h1 : AH}, Mod (MRP F 12 (adM E q o)) h h1 → McS h1 M E F ∧ MPtS h1 q ∧ MPtS h1 o := by
    intro h1 m
    unfold McS MPtS
    rw [m.kd, m.r]
    exact ⟨H, hq, ho⟩
  refine eX24_times_2 h M u o q (fun _ => sX24_times_2_0 h M u o q ?_)
  generalize hΦ : kV (fun h' => Mod (MRP F 12 (adM E q o)) h h' ∧ ∃ f', MReg h' F p I 12 (adM E q o) f' ∧ nrm (f' 6, f' 7, f' 8) = mulN p (f 9, f 10, f 11) (bv h u) 256 ∧ f' 9 = f 9 ∧ f' 10 = f 10 ∧ f' 11 = f 11) nE = Φ
  have k29 : ∀ k (h1 : AH), (Mod (MRP F 12 (adM E q o)) h h1 ∧ ∃ f', MReg h1 F p I 12 (adM E q o) f' ∧ nrm (f' 6, f' 7, f' 8) = mulN p (f 9, f 10, f 11) (bv h u) (256 - k) ∧ f' 9 = f 9 ∧ f' 10 = f 10 ∧ f' 11 = f 11) → k ≤ 256 → Aw G mX24_times_2 (d + 2 + 1) 0 h Φ 29 [vR M, vR u, vR o, vR q, vI (dI k)] [] h1 := by
    refine loop_dn _ (fun k h1 hI ih hk => ?_) (fun h1 hI hk => ?_)
    · obtain ⟨M1, f1, S1, i1, i9, i10, i11⟩ := hI
      have hk3 : k < 256 := by omega
      have hk2 : k < 2 ^ 31 := by omega
      have hk4 : k ≤ 256 := by omega
      have hk8 : k / 32 < 8 := by omega
      have hidx : 256 - k = (256 - (k + 1)) + 1 := by omega
      have hbit : 255 - (256 - (k + 1)) = k := by omega
      obtain ⟨s1, s2, s3⟩ := hStM M1
      rw [dI_succ]
      refine sX24_times_2_29 _ M u o q (nI k) ⟨fun c => absurd c (nI_pos hk2), fun _ => ⟨s1.1, ((doubled_reg hd A s1 s2 s3 S1).up (by omega)).nV (fun h3 Q => ?_)⟩⟩
      obtain ⟨M3, f3, S3, j1, j9, j10, j11⟩ := Q
      have M' := M1.trans M3
      have u3 : h3.ai u = h.ai u := M'.ai hu2
      have ku : h3.kd u = 100 := by rw [M'.kd]; exact hu.1
      rw [u3, hu.2, show (32 : Int32) = nI 32 from rfl, pk_div hk2 (by decide) (by decide), jrem_n hk2 (by decide) (by decide), pk_cl (k / 32) rfl (Nat.lt_of_le_of_lt (Nat.div_le_self _ _) hk2), jshr_bit _ (Nat.mod_lt _ (by decide))]
      have hw : u32 ((h.ai u).getD (k / 32) 0) = bv h u / 4294967296 ^ (k / 32) % 4294967296 := dg_va (L := h.ai u) (n := 8) hk8
      rw [hw, bit_nat]
      have hn3 : nrm (f3 6, f3 7, f3 8) = nrm (dblF p (mulN p (f 9, f 10, f 11) (bv h u) (256 - (k + 1)))) := by rw [j1, ← i1, dbl_nrm]
      refine ⟨ku, pk_in (k / 32) 8 hk8, fun c => ?_, fun c => ?_⟩
      · refine ih h3 ⟨M', f3, S3, ?_, by rw [j9, i9], by rw [j10, i10], by rw [j11, i11]⟩ hk4
        have h0 : bv h u / 2 ^ k % 2 ≠ 1 := fun e => by rw [e] at c; exact c rfl
        rw [hidx, mulN, hbit, if_neg h0]
        exact hn3
      · obtain ⟨w1, w2, w3⟩ := hStM M'
        refine (plus_reg hd A w1 w2 w3 S3).nV (fun h9 Q => ?_)
        obtain ⟨M9, f9, S9, l1, l9, l10, l11⟩ := Q
        refine ih h9 ⟨M'.trans M9, f9, S9, ?_, by rw [l9, j9, i9], by rw [l10, j10, i10], by rw [l11, j11, i11]⟩ hk4
        have h1' : bv h u / 2 ^ k % 2 = 1 := by
          rcases Nat.mod_two_eq_zero_or_one (bv h u / 2 ^ k) with e | e
          · rw [e] at c
            exact absurd c (by decide)
          · exact e
        rw [hidx, mulN, hbit, if_pos h1', l1, j9, j10, j11, i9, i10, i11, ← hn3]
        have e1 := add_nrm p (f3 6, f3 7, f3 8) (f 9, f 10, f 11)
        have e2 := add_nrm p (nrm (f3 6, f3 7, f3 8)) (f 9, f 10, f 11)
        rw [nrm_nrm] at e2
        exact e1.symm.trans e2
    · refine sX24_times_2_29 _ M u o q (dI 0) ⟨fun _ => ?_, fun c => absurd (by decide) c⟩
      rw [← hΦ]
      exact hI
  have key := loop_uc (n := 8) (P := fun k T => Aw G mX24_times_2 (d + 2 + 1) 0 h Φ 3 [vR M, vR u, vR o, vR q, vI (nI k)] [] (h.wi (q + 3) T))
    (fun k T => T.length = 8 ∧ ∀ i, i < k → T.getD i 0 = 0) (fun k T hk hI ih => ?_) 0 (h.ai (q + 3)) (by omega) ⟨hz.2, fun i hi => absurd hi (by omega)⟩
  · rw [AH.wi_self] at key; exact key
  · obtain ⟨l, z⟩ := hI
    refine sX24_times_2_3 _ M u o q (nI k) (pk_le 8 k (fun hk8 => ?_) (fun hk8 => ⟨hq.1, fun r3 e3 => ?_⟩))
    · rw [lb_eq (L := T) (n := 0) l (va_0 (fun i hi => z i (by omega))), show (255 : Int32) = dI 256 from rfl]
      have Q := S0.put (t := 8) (v := 0) A (by decide) (Mod.wi (P := fun x => x = q + 3) (v := lb 0) (by rw [lb_len]; exact hz.2.symm) rfl) (fun x hx => Or.inr hx) (by rw [show adM E q o 8 = q + 3 from rfl, AH.ai_wiS, mM, Nat.zero_mul, Nat.zero_mod]) hp0
      exact k29 256 _ ⟨Q.1, _, Q.2, rfl, rfl, rfl, rfl⟩ (Nat.le_refl _)
    · rw [e3.trans hq3, AH.ai_wiS, AH.wi_wi, l, pk_cl k]
      refine ⟨hz.1, pk_in k 8 hk8, fun h6 e6 => ?_⟩
      rw [e6, nI_1]
      refine ih hk8 _ ⟨by rw [List.length_set, l], fun i hi => ?_⟩
      rw [getD_sif]
      by_cases e : i = k
      · rw [if_pos ⟨e, by omega⟩]
      · rw [if_neg (fun q => e q.1)]; exact z i (by omega)
end MTimes

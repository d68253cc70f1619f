/-! one number of a signature, by the reference -/
set_option maxRecDepth 100000
section MPart
variable {G : Gx} {d : Nat} {h : AH}
theorem MD_part_spec {M O m t a at_ n : Nat} (hd : 2 ≤ d) (kM : h.kd M = 24) (rO : h.r 24016 M = O) (kO : h.kd O = 27) (rm : h.r 27000 O = O + 1) (hm : RowAt h (O + 1)) (vm : bv h (O + 1) = m) (ht : RowAt h t) (nt : t ≠ O + 1) (ka : h.kd a = 101) (la : at_ + n ≤ (h.ai a).length) (la2 : (h.ai a).length < 2 ^ 31) :
    Cw G mX24_part d 0 [vR M, vR a, vI (nI at_), vI (nI n), vR t] h (kI (fun x h' => x = (if beV (h.ai a) at_ n < 4294967296 ^ 8 ∧ beV (h.ai a) at_ n ≠ 0 ∧ beV (h.ai a) at_ n < m then 1 else 0) ∧ Mod (fun x => x = t) h h' ∧ (beV (h.ai a) at_ n < 4294967296 ^ 8 → h'.ai t = lb (beV (h.ai a) at_ n))) nE) := by
  obtain ⟨d, rfl⟩ : ∃ d', d = d' + 1 := ⟨d - 1, by omega⟩
  have hd1 : 1 ≤ d := by omega
  have hne : a ≠ t := fun e => by rw [e, ht.1] at ka; omega
  have hW8 : (4294967296 : Nat) ^ 8 = 256 ^ 32 := by rw [p256_W]
  refine eX24_part h M a (nI at_) (nI n) t (fun w => sX24_part_0 h M a (nI at_) (nI n) t ?_)
  generalize hΦ : kI (fun x h' => x = (if beV (h.ai a) at_ n < 4294967296 ^ 8 ∧ beV (h.ai a) at_ n ≠ 0 ∧ beV (h.ai a) at_ n < m then 1 else 0) ∧ Mod (fun x => x = t) h h' ∧ (beV (h.ai a) at_ n < 4294967296 ^ 8 → h'.ai t = lb (beV (h.ai a) at_ n))) nE = Φ
  -- behind the zeros
  have k24 : ∀ k, k ≤ n → beV (h.ai a) (at_ + k) (n - k) = beV (h.ai a) at_ n → (k < n → (h.ai a).getD (at_ + k) 0 ≠ 0) → Aw G mX24_part (d + 1) 0 h Φ 24 [vR M, vR a, vI (nI at_), vI (nI n), vR t, vI (nI (at_ + k)), vU] [] h := by
    intro k hk hv hnz
    have es : nI at_ + nI n - nI (at_ + k) = nI (n - k) := by rw [nI_add, pk_sub (by omega), show at_ + n - (at_ + k) = n - k by omega]
    refine sX24_part_24 _ M a (nI at_) (nI n) t (nI (at_ + k)) ?_
    rw [es]
    refine pk_le (n - k) 32 (fun h32 => ?_) (fun h32 => ?_) rfl rfl (by omega) (by omega)
    · have hlt : beV (h.ai a) at_ n < 4294967296 ^ 8 := by
        have h1 : 256 ^ (n - k) ≤ 256 ^ 32 := Nat.pow_le_pow_right (by omega) h32
        rw [hW8, ← hv]
        exact Nat.lt_of_lt_of_le (beV_lt _ _ _) h1
      -- the number is laid
      have k62 : ∀ j (_ : Unit), j ≤ n - k → True → Aw G mX24_part (d + 1) 0 h Φ 62 [vR M, vR a, vI (nI at_), vI (nI n), vR t, vI (nI (at_ + k)), vI (nI j)] [] (h.wi t (lb (dv8 (fun i => ub (h.ai a) (at_ + n - 1 - i)) j))) := by
        refine loop_uc (n := n - k) (P := fun j (_ : Unit) => Aw G mX24_part (d + 1) 0 h Φ 62 [vR M, vR a, vI (nI at_), vI (nI n), vR t, vI (nI (at_ + k)), vI (nI j)] [] (h.wi t (lb (dv8 (fun i => ub (h.ai a) (at_ + n - 1 - i)) j)))) _ (fun j _ hj _ ih => ?_)
        have Mt : Mod (fun x => x = t) h (h.wi t (lb (dv8 (fun i => ub (h.ai a) (at_ + n - 1 - i)) j))) := Mod.wi (by rw [lb_len, ht.2]) rfl
        have hltj : dv8 (fun i => ub (h.ai a) (at_ + n - 1 - i)) j < 256 ^ j := dv8_lt (fun _ _ => ub_lt _ _)
        have hpj : 256 ^ j ≤ 256 ^ 32 := Nat.pow_le_pow_right (by omega) (by omega)
        have hb8 : dv8 (fun i => ub (h.ai a) (at_ + n - 1 - i)) j < 4294967296 ^ 8 := by rw [hW8]; exact Nat.lt_of_lt_of_le hltj hpj
        refine sX24_part_62 _ M a (nI at_) (nI n) t (nI (at_ + k)) (nI j) ?_
        rw [es]
        refine pk_le (n - k) j (fun hl => ?_) (fun hl => ?_) rfl rfl (by omega) (by omega)
        · have : j = n - k := by omega
          subst this
          have eV : dv8 (fun i => ub (h.ai a) (at_ + n - 1 - i)) (n - k) = beV (h.ai a) at_ n := by
            rw [← hv]
            exact dv8_congr (fun i hi => by rw [show at_ + n - 1 - i = at_ + k + (n - k - 1 - i) by omega])
          rw [eV] at Mt ⊢
          have bt : bv (h.wi t (lb (beV (h.ai a) at_ n))) t = beV (h.ai a) at_ n := by rw [bv_wiS, Nat.mod_eq_of_lt hlt]
          have bm : bv (h.wi t (lb (beV (h.ai a) at_ n))) (O + 1) = m := by rw [bv_wiN (fun e => nt e.symm)]; exact vm
          refine (Row_isZero_spec hd1 (ht.mod Mt)).nI (fun x2 h3 Q => ?_)
          obtain ⟨rfl, rfl⟩ := Q
          rw [bt]
          refine ⟨fun c => ?_, fun c => ⟨kM, fun r6 e6 => ?_⟩⟩
          · have h0 : beV (h.ai a) at_ n = 0 := by
              refine Decidable.byContradiction (fun e => ?_)
              exact c (if_neg e)
            rw [← hΦ]
            exact ⟨by rw [if_neg (fun q => q.2.1 h0)], Mt, fun _ => AH.ai_wiS _ _ _⟩
          · have h0 : beV (h.ai a) at_ n ≠ 0 := fun e => by
              rw [if_pos e] at c
              exact absurd c (by decide)
            rw [e6.trans rO]
            refine ⟨kO, fun r8 e8 => ?_⟩
            rw [e8.trans rm]
            refine (Row_compare_spec hd1 (ht.mod Mt) (hm.mod Mt)).nI (fun x9 h10 Q => ?_)
            obtain ⟨rfl, rfl⟩ := Q
            rw [bt, bm, cmpI_ge, ← hΦ]
            exact ⟨fun c => ⟨by rw [if_neg (fun q => by omega)], Mt, fun _ => AH.ai_wiS _ _ _⟩, fun c => ⟨by rw [if_pos ⟨hlt, h0, by omega⟩], Mt, fun _ => AH.ai_wiS _ _ _⟩⟩
        · have ei : nI at_ + nI n - 1 - nI j = nI (at_ + n - 1 - j) := by rw [nI_add, show (1 : Int32) = nI 1 from rfl, pk_sub (by omega), pk_sub (by omega)]
          rw [ei, AH.ai_wiS, AH.wi_wi, AH.ai_wiN hne, lb_len, show (4 : Int32) = nI 4 from rfl, pk_div (by omega) (by decide) (by decide), jrem_n (by omega) (by decide) (by decide), pk_cl (j / 4) rfl (by omega), pk_cl (at_ + n - 1 - j) rfl (by omega), and_ub, jshl_byte _ (by omega), nI_1]
          refine ⟨ht.1, pk_in (j / 4) 8 (by omega), ka, pk_in (at_ + n - 1 - j) _ (by omega), pk_in (j / 4) 8 (by omega), fun h17 e17 => ?_⟩
          rw [e17, lb_orB (X := ub (h.ai a) (at_ + n - 1 - j)) (j := j) hb8 (by omega) (by rw [Nat.div_eq_of_lt hltj]) (ub_lt _ _) rfl]
          exact ih hl () trivial
      have key := loop_uc (n := 8) (P := fun i T => Aw G mX24_part (d + 1) 0 h Φ 40 [vR M, vR a, vI (nI at_), vI (nI n), vR t, vI (nI (at_ + k)), vI (nI i)] [] (h.wi t T))
        (fun i T => T.length = 8 ∧ ∀ j, j < i → T.getD j 0 = 0) (fun i T hi hI ih => ?_) 0 (h.ai t) (by omega) ⟨ht.2, fun i hi => absurd hi (by omega)⟩
      · rw [AH.wi_self] at key; exact key
      · obtain ⟨l, z⟩ := hI
        refine sX24_part_40 _ M a (nI at_) (nI n) t (nI (at_ + k)) (nI i) (pk_le 8 i (fun h8 => ?_) (fun h8 => ⟨ht.1, ?_⟩))
        · rw [lb_eq (L := T) (n := 0) l (va_0 (fun j hj => z j (by omega)))]
          exact k62 0 () (by omega) trivial
        · rw [AH.ai_wiS, AH.wi_wi, l, pk_cl i, nI_1]
          refine ⟨pk_in i 8 h8, fun h4 e4 => ?_⟩
          rw [e4]
          refine ih h8 _ ⟨by rw [List.length_set, l], fun j hj => ?_⟩
          by_cases e : j = i
          · subst e; rw [getD_set_eq (by omega)]
          · rw [getD_set_ne e]; exact z j (by omega)
    · have hbig : ¬ beV (h.ai a) at_ n < 4294967296 ^ 8 := by
        rw [← hv, show n - k = (n - k - 1) + 1 by omega]
        exact beV_big (by omega) (fun e => hnz (by omega) (byte_0 e (w.byte ka _)))
      rw [← hΦ]
      exact ⟨by rw [if_neg (fun q => hbig q.1)], Mod.rf, fun q => absurd q hbig⟩
  have key : ∀ k (_ : Unit), k ≤ n → beV (h.ai a) (at_ + k) (n - k) = beV (h.ai a) at_ n → Aw G mX24_part (d + 1) 0 h Φ 3 [vR M, vR a, vI (nI at_), vI (nI n), vR t, vI (nI (at_ + k)), vU] [] h := by
    refine loop_uc (n := n) (P := fun k (_ : Unit) => Aw G mX24_part (d + 1) 0 h Φ 3 [vR M, vR a, vI (nI at_), vI (nI n), vR t, vI (nI (at_ + k)), vU] [] h) _ (fun k _ hk hv ih => ?_)
    refine sX24_part_3 _ M a (nI at_) (nI n) t (nI (at_ + k)) (pk_le (at_ + n) (at_ + k) (fun hl => ?_) (fun hl => ⟨ka, ?_⟩) (nI_add _ _) rfl (by omega) (by omega))
    · exact k24 k hk hv (fun q => by omega)
    · rw [pk_cl (at_ + k) rfl (by omega), nI_1]
      refine ⟨pk_in (at_ + k) _ (by omega), fun c => k24 k hk hv (fun _ => c), fun c => ih (by omega) () ?_⟩
      rw [← hv, show n - k = (n - (k + 1)) + 1 by omega, beV_lead, ub, c, show u32 (0 : Int32) % 256 = 0 from rfl, Nat.zero_mul, Nat.zero_add, Nat.add_assoc]
  exact key 0 () (by omega) rfl
end MPart

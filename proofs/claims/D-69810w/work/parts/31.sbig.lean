/-! printed by gen/segs.py: decode rows and segment lemmas of: X5_init X5_zero X5_small X5_compare X5_subtract X5_bit X5_copy X5_length X5_add X5_isZero X5_write X5_read X5_turned X5_up X5_divide X5_hex -/
set_option maxRecDepth 100000
theorem dX5_init_0 : decode cX5_init 0 = .ok (.aload_n 0, 1) := by decide +kernel
theorem dX5_init_1 : decode cX5_init 1 = .ok (.invokespecial 3, 3) := by decide +kernel
theorem dX5_init_4 : decode cX5_init 4 = .ok (.aload_n 0, 1) := by decide +kernel
theorem dX5_init_5 : decode cX5_init 5 = .ok (.bipush 8, 2) := by decide +kernel
theorem dX5_init_7 : decode cX5_init 7 = .ok (.newarray .int, 2) := by decide +kernel
theorem dX5_init_9 : decode cX5_init 9 = .ok (.putfield 9, 3) := by decide +kernel
theorem dX5_init_12 : decode cX5_init 12 = .ok (.return_, 1) := by decide +kernel
/-! CoinJudge$Big.<init>()V -/
set_option maxHeartbeats 4000000 in
theorem sX5_init_0 {G : Gx} {d t : Nat} {h0 : AH} {Φ : Out → AH → Prop} (h : AH) (v0 : Nat) (K : h.kd v0 = 5 ∧ ∀ q2 : Nat, q2 = h.z → WF G h → ∀ h3 : AH, h3 = h.new 100 8 (List.replicate 8 0) [] [] → ∀ h6 : AH, h6 = h3.pr 5000 v0 q2 → Φ (.inl none) h6) : Aw G mX5_init (d + 1) v0 h0 Φ 0 [vR v0] [] h := by
  refine r_aload_n (pc := 0) dX5_init_0 rfl ?_
  obtain ⟨hk1, K⟩ := K
  refine r_objInit (pc := 1) (nzk hk1 rfl) q298 q207 q208 dX5_init_1 (by decide) ?_
  refine r_aload_n (pc := 4) dX5_init_4 rfl ?_
  refine r_bipush (pc := 5) (x := 8) dX5_init_5 rfl ?_
  refine r_newaI (pc := 7) 100 (N := 8) rfl rfl (by decide) q283 (by decide) rfl (by decide) dX5_init_7 (fun q2 eq2 zq2 wq2 => ?_)
  refine r_nameH (fun h3 eh3 => ?_)
  have K := K q2 eq2 wq2 h3 eh3
  have hk4 := kd_newSE eh3 eq2
  have hk5 := kd_newE eh3 wq2 hk1 (nz rfl)
  refine r_putr (pc := 9) (T := TX5) (key := 5000) 5 0 (ty := (.array .int)) hk5 (Or.inl q299) dX5_init_9 kc5 rfl rfl (Or.inr q299) (Or.inr (Or.inl rfl)) ?_
  refine r_nameH (fun h6 eh6 => ?_)
  have K := K h6 eh6
  exact r_vret (pc := 12) rfl dX5_init_12 K
theorem eX5_init {G : Gx} {d : Nat} {Φ : Out → AH → Prop} (h : AH) (v0 : Nat) (K : WF G h → Aw G mX5_init (d + 1) v0 h Φ 0 [vR v0] [] h) : Cw G mX5_init (d + 1) v0 [vR v0] h Φ := Cw.of rfl K
theorem dX5_zero_0 : decode cX5_zero 0 = .ok (.iconst 0, 1) := by decide +kernel
theorem dX5_zero_1 : decode cX5_zero 1 = .ok (.istore_n 1, 1) := by decide +kernel
theorem dX5_zero_2 : decode cX5_zero 2 = .ok (.iload_n 1, 1) := by decide +kernel
theorem dX5_zero_3 : decode cX5_zero 3 = .ok (.bipush 8, 2) := by decide +kernel
theorem dX5_zero_5 : decode cX5_zero 5 = .ok (.if_icmp .ge 16, 3) := by decide +kernel
theorem dX5_zero_8 : decode cX5_zero 8 = .ok (.aload_n 0, 1) := by decide +kernel
theorem dX5_zero_9 : decode cX5_zero 9 = .ok (.getfield 9, 3) := by decide +kernel
theorem dX5_zero_12 : decode cX5_zero 12 = .ok (.iload_n 1, 1) := by decide +kernel
theorem dX5_zero_13 : decode cX5_zero 13 = .ok (.iconst 0, 1) := by decide +kernel
theorem dX5_zero_14 : decode cX5_zero 14 = .ok (.iastore, 1) := by decide +kernel
theorem dX5_zero_15 : decode cX5_zero 15 = .ok (.iinc 1 1, 3) := by decide +kernel
theorem dX5_zero_18 : decode cX5_zero 18 = .ok (.goto (-16), 3) := by decide +kernel
theorem dX5_zero_21 : decode cX5_zero 21 = .ok (.aload_n 0, 1) := by decide +kernel
theorem dX5_zero_22 : decode cX5_zero 22 = .ok (.areturn, 1) := by decide +kernel
/-! CoinJudge$Big.zero()LCoinJudge$Big; -/
set_option maxHeartbeats 4000000 in
theorem sX5_zero_0 {G : Gx} {d t : Nat} {h0 : AH} {Φ : Out → AH → Prop} (h : AH) (v0 : Nat) (K : Aw G mX5_zero (d + 1) t h0 Φ 2 [vR v0, vI 0] [] h) : Aw G mX5_zero (d + 1) t h0 Φ 0 [vR v0, vU] [] h := by
  refine r_iconst (pc := 0) (x := 0) dX5_zero_0 rfl ?_
  refine r_istore_n (pc := 1) (lv' := [_, _]) dX5_zero_1 (by decide) rfl ?_
  refine r_mask (pc := 2) [true, true] rfl ?_
  exact K
theorem eX5_zero {G : Gx} {d : Nat} {Φ : Out → AH → Prop} (h : AH) (v0 : Nat) (K : WF G h → Aw G mX5_zero (d + 1) 0 h Φ 0 [vR v0, vU] [] h) : Cw G mX5_zero (d + 1) 0 [vR v0] h Φ := Cw.of rfl K
set_option maxHeartbeats 4000000 in
theorem sX5_zero_2 {G : Gx} {d t : Nat} {h0 : AH} {Φ : Out → AH → Prop} (h : AH) (v0 : Nat) (v1 : Int32) (K : ((8 ≤ v1 → Φ (.inl (some (vR v0))) h) ∧ (¬ 8 ≤ v1 → h.kd v0 = 5 ∧ ∀ r3 : Nat, r3 = (h.r 5000 v0) → h.kd r3 = 100 ∧ vp_in v1 (h.ai r3).length ∧ ∀ h6 : AH, h6 = h.wi r3 ((h.ai r3).set (v1.toNatClampNeg) 0) → Aw G mX5_zero (d + 1) t h0 Φ 2 [vR v0, vI (v1 + 1)] [] h6))) : Aw G mX5_zero (d + 1) t h0 Φ 2 [vR v0, vI v1] [] h := by
  refine r_iload_n (pc := 2) dX5_zero_2 rfl ?_
  refine r_bipush (pc := 3) (x := 8) dX5_zero_3 rfl ?_
  refine r_icmp_ge (pc := 5) (tgt := 21) dX5_zero_5 rfl (fun c1 => ?_) (fun c1 => ?_)
  · have K := K.1 c1
    refine r_aload_n (pc := 21) dX5_zero_21 rfl ?_
    exact r_aret (pc := 22) rfl rfl dX5_zero_22 K
  · have K := K.2 c1
    refine r_aload_n (pc := 8) dX5_zero_8 rfl ?_
    obtain ⟨hk2, K⟩ := K
    have K := K _ rfl
    refine r_getr' (pc := 9) (T := TX5) 5 0 rfl hk2 (Or.inl q299) dX5_zero_9 kc5 g5000 ?_
    refine r_iload_n (pc := 12) dX5_zero_12 rfl ?_
    refine r_iconst (pc := 13) (x := 0) dX5_zero_13 rfl ?_
    obtain ⟨hk4, K⟩ := K
    obtain ⟨hi5, K⟩ := K
    refine r_iastore (pc := 14) hk4 hi5 (Or.inl (em rfl)) dX5_zero_14 ?_
    refine r_nameH (fun h6 eh6 => ?_)
    have K := K h6 eh6
    refine r_iinc (pc := 15) (lv' := [_, _]) dX5_zero_15 rfl rfl (by decide) rfl ?_
    refine r_goto (pc := 18) (tgt := 2) dX5_zero_18 rfl ?_
    refine r_mask (pc := 2) [true, true] rfl ?_
    exact K
theorem dX5_small_0 : decode cX5_small 0 = .ok (.aload_n 0, 1) := by decide +kernel
theorem dX5_small_1 : decode cX5_small 1 = .ok (.invokevirtual 15, 3) := by decide +kernel
theorem dX5_small_4 : decode cX5_small 4 = .ok (.pop, 1) := by decide +kernel
theorem dX5_small_5 : decode cX5_small 5 = .ok (.aload_n 0, 1) := by decide +kernel
theorem dX5_small_6 : decode cX5_small 6 = .ok (.getfield 9, 3) := by decide +kernel
theorem dX5_small_9 : decode cX5_small 9 = .ok (.iconst 0, 1) := by decide +kernel
theorem dX5_small_10 : decode cX5_small 10 = .ok (.lload_n 1, 1) := by decide +kernel
theorem dX5_small_11 : decode cX5_small 11 = .ok (.l2i, 1) := by decide +kernel
theorem dX5_small_12 : decode cX5_small 12 = .ok (.iastore, 1) := by decide +kernel
theorem dX5_small_13 : decode cX5_small 13 = .ok (.aload_n 0, 1) := by decide +kernel
theorem dX5_small_14 : decode cX5_small 14 = .ok (.getfield 9, 3) := by decide +kernel
theorem dX5_small_17 : decode cX5_small 17 = .ok (.iconst 1, 1) := by decide +kernel
theorem dX5_small_18 : decode cX5_small 18 = .ok (.lload_n 1, 1) := by decide +kernel
theorem dX5_small_19 : decode cX5_small 19 = .ok (.bipush 32, 2) := by decide +kernel
theorem dX5_small_21 : decode cX5_small 21 = .ok (.lushr, 1) := by decide +kernel
theorem dX5_small_22 : decode cX5_small 22 = .ok (.l2i, 1) := by decide +kernel
theorem dX5_small_23 : decode cX5_small 23 = .ok (.iastore, 1) := by decide +kernel
theorem dX5_small_24 : decode cX5_small 24 = .ok (.aload_n 0, 1) := by decide +kernel
theorem dX5_small_25 : decode cX5_small 25 = .ok (.areturn, 1) := by decide +kernel
/-! CoinJudge$Big.small(J)LCoinJudge$Big; -/
set_option maxHeartbeats 4000000 in
theorem sX5_small_0 {G : Gx} {d t : Nat} {h0 : AH} {Φ : Out → AH → Prop} (h : AH) (v0 : Nat) (v1 : Int64) (K : h.kd v0 = 5 ∧ Cw G mX5_zero d 0 [vR v0] h (kR (fun x1 h2 => ∀ r5 : Nat, r5 = (h2.r 5000 v0) → h2.kd r5 = 100 ∧ vp_in 0 (h2.ai r5).length ∧ ∀ h8 : AH, h8 = h2.wi r5 ((h2.ai r5).set ((0 : Int32).toNatClampNeg) v1.toInt32) → vp_in 1 (h8.ai r5).length ∧ ∀ h14 : AH, h14 = h8.wi r5 ((h8.ai r5).set ((1 : Int32).toNatClampNeg) ((Jushr v1 32).toInt32)) → Φ (.inl (some (vR v0))) h14) (fun x h => Φ (.inr x) h))) : Aw G mX5_small (d + 1) t h0 Φ 0 [vR v0, vJ v1, vU] [] h := by
  refine r_aload_n (pc := 0) dX5_small_0 rfl ?_
  obtain ⟨hk3, K⟩ := K
  refine r_callV_R (pc := 1) (Y := mX5_zero) (vs := []) (st := []) hk3 rfl kc5 q311 q312 q313 dX5_small_1 rfl cd_X5_zero rfl rfl fp_X5_small_X5_zero K (fun x1 h2 eh2 wh2 K => ?_) (fun x h1 _ _ e => Tw.out rfl e)
  refine r_pop (pc := 4) rfl dX5_small_4 ?_
  refine r_aload_n (pc := 5) dX5_small_5 rfl ?_
  have hk4 := kd_ext eh2 hk3 (nz rfl)
  have K := K _ rfl
  refine r_getr' (pc := 6) (T := TX5) 5 0 rfl hk4 (Or.inl q299) dX5_small_6 kc5 g5000 ?_
  refine r_iconst (pc := 9) (x := 0) dX5_small_9 rfl ?_
  refine r_lload_n (pc := 10) dX5_small_10 rfl ?_
  refine r_l2i (pc := 11) dX5_small_11 ?_
  obtain ⟨hk6, K⟩ := K
  obtain ⟨hi7, K⟩ := K
  refine r_iastore (pc := 12) hk6 hi7 (Or.inl (em rfl)) dX5_small_12 ?_
  refine r_nameH (fun h8 eh8 => ?_)
  have K := K h8 eh8
  refine r_aload_n (pc := 13) dX5_small_13 rfl ?_
  have hk9 := kd_wi eh8 hk4
  have hv10 := fr_self (key := 5000) hk4
  have hv11 := fr_wi (key := 5000) eh8 hv10
  refine r_getr' (pc := 14) (T := TX5) 5 0 hv11 hk9 (Or.inl q299) dX5_small_14 kc5 g5000 ?_
  refine r_iconst (pc := 17) (x := 1) dX5_small_17 rfl ?_
  refine r_lload_n (pc := 18) dX5_small_18 rfl ?_
  refine r_bipush (pc := 19) (x := 32) dX5_small_19 rfl ?_
  refine r_Jushr (pc := 21) dX5_small_21 ?_
  refine r_l2i (pc := 22) dX5_small_22 ?_
  have hk12 := kd_wi eh8 hk6
  obtain ⟨hi13, K⟩ := K
  refine r_iastore (pc := 23) hk12 hi13 (Or.inl (em rfl)) dX5_small_23 ?_
  refine r_nameH (fun h14 eh14 => ?_)
  have K := K h14 eh14
  refine r_aload_n (pc := 24) dX5_small_24 rfl ?_
  exact r_aret (pc := 25) rfl rfl dX5_small_25 K
theorem eX5_small {G : Gx} {d : Nat} {Φ : Out → AH → Prop} (h : AH) (v0 : Nat) (v1 : Int64) (K : WF G h → Aw G mX5_small (d + 1) 0 h Φ 0 [vR v0, vJ v1, vU] [] h) : Cw G mX5_small (d + 1) 0 [vR v0, vJ v1] h Φ := Cw.of rfl K
theorem dX5_compare_0 : decode cX5_compare 0 = .ok (.bipush 7, 2) := by decide +kernel
theorem dX5_compare_2 : decode cX5_compare 2 = .ok (.istore_n 2, 1) := by decide +kernel
theorem dX5_compare_3 : decode cX5_compare 3 = .ok (.iload_n 2, 1) := by decide +kernel
theorem dX5_compare_4 : decode cX5_compare 4 = .ok (.ifCond .lt 56, 3) := by decide +kernel
theorem dX5_compare_7 : decode cX5_compare 7 = .ok (.aload_n 0, 1) := by decide +kernel
theorem dX5_compare_8 : decode cX5_compare 8 = .ok (.getfield 9, 3) := by decide +kernel
theorem dX5_compare_11 : decode cX5_compare 11 = .ok (.iload_n 2, 1) := by decide +kernel
theorem dX5_compare_12 : decode cX5_compare 12 = .ok (.iaload, 1) := by decide +kernel
theorem dX5_compare_13 : decode cX5_compare 13 = .ok (.aload_n 1, 1) := by decide +kernel
theorem dX5_compare_14 : decode cX5_compare 14 = .ok (.getfield 9, 3) := by decide +kernel
theorem dX5_compare_17 : decode cX5_compare 17 = .ok (.iload_n 2, 1) := by decide +kernel
theorem dX5_compare_18 : decode cX5_compare 18 = .ok (.iaload, 1) := by decide +kernel
theorem dX5_compare_19 : decode cX5_compare 19 = .ok (.if_icmp .eq 35, 3) := by decide +kernel
theorem dX5_compare_22 : decode cX5_compare 22 = .ok (.aload_n 0, 1) := by decide +kernel
theorem dX5_compare_23 : decode cX5_compare 23 = .ok (.getfield 9, 3) := by decide +kernel
theorem dX5_compare_26 : decode cX5_compare 26 = .ok (.iload_n 2, 1) := by decide +kernel
theorem dX5_compare_27 : decode cX5_compare 27 = .ok (.iaload, 1) := by decide +kernel
theorem dX5_compare_28 : decode cX5_compare 28 = .ok (.i2l, 1) := by decide +kernel
theorem dX5_compare_29 : decode cX5_compare 29 = .ok (.ldc2_w 19, 3) := by decide +kernel
theorem dX5_compare_32 : decode cX5_compare 32 = .ok (.land, 1) := by decide +kernel
theorem dX5_compare_33 : decode cX5_compare 33 = .ok (.aload_n 1, 1) := by decide +kernel
theorem dX5_compare_34 : decode cX5_compare 34 = .ok (.getfield 9, 3) := by decide +kernel
theorem dX5_compare_37 : decode cX5_compare 37 = .ok (.iload_n 2, 1) := by decide +kernel
theorem dX5_compare_38 : decode cX5_compare 38 = .ok (.iaload, 1) := by decide +kernel
theorem dX5_compare_39 : decode cX5_compare 39 = .ok (.i2l, 1) := by decide +kernel
theorem dX5_compare_40 : decode cX5_compare 40 = .ok (.ldc2_w 19, 3) := by decide +kernel
theorem dX5_compare_43 : decode cX5_compare 43 = .ok (.land, 1) := by decide +kernel
theorem dX5_compare_44 : decode cX5_compare 44 = .ok (.lcmp, 1) := by decide +kernel
theorem dX5_compare_45 : decode cX5_compare 45 = .ok (.ifCond .ge 7, 3) := by decide +kernel
theorem dX5_compare_48 : decode cX5_compare 48 = .ok (.iconst (-1), 1) := by decide +kernel
theorem dX5_compare_49 : decode cX5_compare 49 = .ok (.goto 4, 3) := by decide +kernel
theorem dX5_compare_52 : decode cX5_compare 52 = .ok (.iconst 1, 1) := by decide +kernel
theorem dX5_compare_53 : decode cX5_compare 53 = .ok (.ireturn, 1) := by decide +kernel
theorem dX5_compare_54 : decode cX5_compare 54 = .ok (.iinc 2 (-1), 3) := by decide +kernel
theorem dX5_compare_57 : decode cX5_compare 57 = .ok (.goto (-54), 3) := by decide +kernel
theorem dX5_compare_60 : decode cX5_compare 60 = .ok (.iconst 0, 1) := by decide +kernel
theorem dX5_compare_61 : decode cX5_compare 61 = .ok (.ireturn, 1) := by decide +kernel
/-! CoinJudge$Big.compare(LCoinJudge$Big;)I -/
set_option maxHeartbeats 4000000 in
theorem sX5_compare_0 {G : Gx} {d t : Nat} {h0 : AH} {Φ : Out → AH → Prop} (h : AH) (v0 : Nat) (v1 : Nat) (K : Aw G mX5_compare (d + 1) t h0 Φ 3 [vR v0, vR v1, vI 7] [] h) : Aw G mX5_compare (d + 1) t h0 Φ 0 [vR v0, vR v1, vU] [] h := by
  refine r_bipush (pc := 0) (x := 7) dX5_compare_0 rfl ?_
  refine r_istore_n (pc := 2) (lv' := [_, _, _]) dX5_compare_2 (by decide) rfl ?_
  refine r_mask (pc := 3) [true, true, true] rfl ?_
  exact K
theorem eX5_compare {G : Gx} {d : Nat} {Φ : Out → AH → Prop} (h : AH) (v0 : Nat) (v1 : Nat) (K : WF G h → Aw G mX5_compare (d + 1) 0 h Φ 0 [vR v0, vR v1, vU] [] h) : Cw G mX5_compare (d + 1) 0 [vR v0, vR v1] h Φ := Cw.of rfl K
set_option maxHeartbeats 4000000 in
theorem sX5_compare_3 {G : Gx} {d t : Nat} {h0 : AH} {Φ : Out → AH → Prop} (h : AH) (v0 : Nat) (v1 : Nat) (v2 : Int32) (K : ((v2 < 0 → Φ (.inl (some (vI 0))) h) ∧ (¬ v2 < 0 → h.kd v0 = 5 ∧ ∀ r3 : Nat, r3 = (h.r 5000 v0) → h.kd r3 = 100 ∧ vp_in v2 (h.ai r3).length ∧ h.kd v1 = 5 ∧ ∀ r7 : Nat, r7 = (h.r 5000 v1) → h.kd r7 = 100 ∧ vp_in v2 (h.ai r7).length ∧ ((((h.ai r3).getD (v2.toNatClampNeg) 0) = ((h.ai r7).getD (v2.toNatClampNeg) 0) → Aw G mX5_compare (d + 1) t h0 Φ 3 [vR v0, vR v1, vI (v2 + (-1))] [] h) ∧ (¬ ((h.ai r3).getD (v2.toNatClampNeg) 0) = ((h.ai r7).getD (v2.toNatClampNeg) 0) → vp_in v2 (h.ai r3).length ∧ vp_in v2 (h.ai r7).length ∧ (((((h.ai r7).getD (v2.toNatClampNeg) 0).toInt64 &&& 4294967295) ≤ (((h.ai r3).getD (v2.toNatClampNeg) 0).toInt64 &&& 4294967295) → Φ (.inl (some (vI 1))) h) ∧ (¬ (((h.ai r7).getD (v2.toNatClampNeg) 0).toInt64 &&& 4294967295) ≤ (((h.ai r3).getD (v2.toNatClampNeg) 0).toInt64 &&& 4294967295) → Φ (.inl (some (vI (-1)))) h))))))) : Aw G mX5_compare (d + 1) t h0 Φ 3 [vR v0, vR v1, vI v2] [] h := by
  refine r_iload_n (pc := 3) dX5_compare_3 rfl ?_
  refine r_if_lt (pc := 4) (tgt := 60) dX5_compare_4 rfl (fun c1 => ?_) (fun c1 => ?_)
  · have K := K.1 c1
    refine r_iconst (pc := 60) (x := 0) dX5_compare_60 rfl ?_
    exact r_iret (pc := 61) rfl rfl dX5_compare_61 K
  · have K := K.2 c1
    refine r_aload_n (pc := 7) dX5_compare_7 rfl ?_
    obtain ⟨hk2, K⟩ := K
    have K := K _ rfl
    refine r_getr' (pc := 8) (T := TX5) 5 0 rfl hk2 (Or.inl q299) dX5_compare_8 kc5 g5000 ?_
    refine r_iload_n (pc := 11) dX5_compare_11 rfl ?_
    obtain ⟨hk4, K⟩ := K
    obtain ⟨hi5, K⟩ := K
    refine r_iaload (pc := 12) hk4 hi5 dX5_compare_12 ?_
    refine r_aload_n (pc := 13) dX5_compare_13 rfl ?_
    obtain ⟨hk6, K⟩ := K
    have K := K _ rfl
    refine r_getr' (pc := 14) (T := TX5) 5 0 rfl hk6 (Or.inl q299) dX5_compare_14 kc5 g5000 ?_
    refine r_iload_n (pc := 17) dX5_compare_17 rfl ?_
    obtain ⟨hk8, K⟩ := K
    obtain ⟨hi9, K⟩ := K
    refine r_iaload (pc := 18) hk8 hi9 dX5_compare_18 ?_
    refine r_icmp_eq (pc := 19) (tgt := 54) dX5_compare_19 rfl (fun c10 => ?_) (fun c10 => ?_)
    · have K := K.1 c10
      refine r_iinc (pc := 54) (lv' := [_, _, _]) dX5_compare_54 rfl rfl (by decide) rfl ?_
      refine r_goto (pc := 57) (tgt := 3) dX5_compare_57 rfl ?_
      refine r_mask (pc := 3) [true, true, true] rfl ?_
      exact K
    · have K := K.2 c10
      refine r_aload_n (pc := 22) dX5_compare_22 rfl ?_
      refine r_getr' (pc := 23) (T := TX5) 5 0 rfl hk2 (Or.inl q299) dX5_compare_23 kc5 g5000 ?_
      refine r_iload_n (pc := 26) dX5_compare_26 rfl ?_
      obtain ⟨hi11, K⟩ := K
      refine r_iaload (pc := 27) hk4 hi11 dX5_compare_27 ?_
      refine r_i2l (pc := 28) dX5_compare_28 ?_
      refine r_ldc2 (pc := 29) dX5_compare_29 q378 ?_
      refine r_land (pc := 32) dX5_compare_32 ?_
      refine r_aload_n (pc := 33) dX5_compare_33 rfl ?_
      refine r_getr' (pc := 34) (T := TX5) 5 0 rfl hk6 (Or.inl q299) dX5_compare_34 kc5 g5000 ?_
      refine r_iload_n (pc := 37) dX5_compare_37 rfl ?_
      obtain ⟨hi12, K⟩ := K
      refine r_iaload (pc := 38) hk8 hi12 dX5_compare_38 ?_
      refine r_i2l (pc := 39) dX5_compare_39 ?_
      refine r_ldc2 (pc := 40) dX5_compare_40 q378 ?_
      refine r_land (pc := 43) dX5_compare_43 ?_
      refine r_lcmp_ge (pc := 44) (tgt := 52) dX5_compare_44 dX5_compare_45 rfl (fun c13 => ?_) (fun c13 => ?_)
      · have K := K.1 c13
        refine r_iconst (pc := 52) (x := 1) dX5_compare_52 rfl ?_
        exact r_iret (pc := 53) rfl rfl dX5_compare_53 K
      · have K := K.2 c13
        refine r_iconst (pc := 48) (x := (-1)) dX5_compare_48 rfl ?_
        refine r_goto (pc := 49) (tgt := 53) dX5_compare_49 rfl ?_
        exact r_iret (pc := 53) rfl rfl dX5_compare_53 K
theorem dX5_subtract_0 : decode cX5_subtract 0 = .ok (.lconst 0, 1) := by decide +kernel
theorem dX5_subtract_1 : decode cX5_subtract 1 = .ok (.lstore_n 3, 1) := by decide +kernel
theorem dX5_subtract_2 : decode cX5_subtract 2 = .ok (.iconst 0, 1) := by decide +kernel
theorem dX5_subtract_3 : decode cX5_subtract 3 = .ok (.istore 5, 2) := by decide +kernel
theorem dX5_subtract_5 : decode cX5_subtract 5 = .ok (.iload 5, 2) := by decide +kernel
theorem dX5_subtract_7 : decode cX5_subtract 7 = .ok (.bipush 8, 2) := by decide +kernel
theorem dX5_subtract_9 : decode cX5_subtract 9 = .ok (.if_icmp .ge 51, 3) := by decide +kernel
theorem dX5_subtract_12 : decode cX5_subtract 12 = .ok (.lload_n 3, 1) := by decide +kernel
theorem dX5_subtract_13 : decode cX5_subtract 13 = .ok (.aload_n 1, 1) := by decide +kernel
theorem dX5_subtract_14 : decode cX5_subtract 14 = .ok (.getfield 9, 3) := by decide +kernel
theorem dX5_subtract_17 : decode cX5_subtract 17 = .ok (.iload 5, 2) := by decide +kernel
theorem dX5_subtract_19 : decode cX5_subtract 19 = .ok (.iaload, 1) := by decide +kernel
theorem dX5_subtract_20 : decode cX5_subtract 20 = .ok (.i2l, 1) := by decide +kernel
theorem dX5_subtract_21 : decode cX5_subtract 21 = .ok (.ldc2_w 19, 3) := by decide +kernel
theorem dX5_subtract_24 : decode cX5_subtract 24 = .ok (.land, 1) := by decide +kernel
theorem dX5_subtract_25 : decode cX5_subtract 25 = .ok (.aload_n 2, 1) := by decide +kernel
theorem dX5_subtract_26 : decode cX5_subtract 26 = .ok (.getfield 9, 3) := by decide +kernel
theorem dX5_subtract_29 : decode cX5_subtract 29 = .ok (.iload 5, 2) := by decide +kernel
theorem dX5_subtract_31 : decode cX5_subtract 31 = .ok (.iaload, 1) := by decide +kernel
theorem dX5_subtract_32 : decode cX5_subtract 32 = .ok (.i2l, 1) := by decide +kernel
theorem dX5_subtract_33 : decode cX5_subtract 33 = .ok (.ldc2_w 19, 3) := by decide +kernel
theorem dX5_subtract_36 : decode cX5_subtract 36 = .ok (.land, 1) := by decide +kernel
theorem dX5_subtract_37 : decode cX5_subtract 37 = .ok (.lsub, 1) := by decide +kernel
theorem dX5_subtract_38 : decode cX5_subtract 38 = .ok (.ladd, 1) := by decide +kernel
theorem dX5_subtract_39 : decode cX5_subtract 39 = .ok (.lstore_n 3, 1) := by decide +kernel
theorem dX5_subtract_40 : decode cX5_subtract 40 = .ok (.aload_n 0, 1) := by decide +kernel
theorem dX5_subtract_41 : decode cX5_subtract 41 = .ok (.getfield 9, 3) := by decide +kernel
theorem dX5_subtract_44 : decode cX5_subtract 44 = .ok (.iload 5, 2) := by decide +kernel
theorem dX5_subtract_46 : decode cX5_subtract 46 = .ok (.lload_n 3, 1) := by decide +kernel
theorem dX5_subtract_47 : decode cX5_subtract 47 = .ok (.l2i, 1) := by decide +kernel
theorem dX5_subtract_48 : decode cX5_subtract 48 = .ok (.iastore, 1) := by decide +kernel
theorem dX5_subtract_49 : decode cX5_subtract 49 = .ok (.lload_n 3, 1) := by decide +kernel
theorem dX5_subtract_50 : decode cX5_subtract 50 = .ok (.bipush 32, 2) := by decide +kernel
theorem dX5_subtract_52 : decode cX5_subtract 52 = .ok (.lshr, 1) := by decide +kernel
theorem dX5_subtract_53 : decode cX5_subtract 53 = .ok (.lstore_n 3, 1) := by decide +kernel
theorem dX5_subtract_54 : decode cX5_subtract 54 = .ok (.iinc 5 1, 3) := by decide +kernel
theorem dX5_subtract_57 : decode cX5_subtract 57 = .ok (.goto (-52), 3) := by decide +kernel
theorem dX5_subtract_60 : decode cX5_subtract 60 = .ok (.aload_n 0, 1) := by decide +kernel
theorem dX5_subtract_61 : decode cX5_subtract 61 = .ok (.areturn, 1) := by decide +kernel
/-! CoinJudge$Big.subtract(LCoinJudge$Big;LCoinJudge$Big;)LCoinJudge$Big; -/
set_option maxHeartbeats 4000000 in
theorem sX5_subtract_0 {G : Gx} {d t : Nat} {h0 : AH} {Φ : Out → AH → Prop} (h : AH) (v0 : Nat) (v1 : Nat) (v2 : Nat) (K : Aw G mX5_subtract (d + 1) t h0 Φ 5 [vR v0, vR v1, vR v2, vJ 0, vU, vI 0] [] h) : Aw G mX5_subtract (d + 1) t h0 Φ 0 [vR v0, vR v1, vR v2, vU, vU, vU] [] h := by
  refine r_lconst (pc := 0) (a := 0) dX5_subtract_0 rfl ?_
  refine r_lstore_n (pc := 1) (lv' := [_, _, _, _, _, _]) dX5_subtract_1 (by decide) rfl ?_
  refine r_iconst (pc := 2) (x := 0) dX5_subtract_2 rfl ?_
  refine r_istore (pc := 3) (lv' := [_, _, _, _, _, _]) dX5_subtract_3 (by decide) rfl ?_
  refine r_mask (pc := 5) [true, true, true, true, false, true] rfl ?_
  exact K
theorem eX5_subtract {G : Gx} {d : Nat} {Φ : Out → AH → Prop} (h : AH) (v0 : Nat) (v1 : Nat) (v2 : Nat) (K : WF G h → Aw G mX5_subtract (d + 1) 0 h Φ 0 [vR v0, vR v1, vR v2, vU, vU, vU] [] h) : Cw G mX5_subtract (d + 1) 0 [vR v0, vR v1, vR v2] h Φ := Cw.of rfl K
set_option maxHeartbeats 4000000 in
theorem sX5_subtract_5 {G : Gx} {d t : Nat} {h0 : AH} {Φ : Out → AH → Prop} (h : AH) (v0 : Nat) (v1 : Nat) (v2 : Nat) (v3 : Int64) (v5 : Int32) (K : ((8 ≤ v5 → Φ (.inl (some (vR v0))) h) ∧ (¬ 8 ≤ v5 → h.kd v1 = 5 ∧ ∀ r3 : Nat, r3 = (h.r 5000 v1) → h.kd r3 = 100 ∧ vp_in v5 (h.ai r3).length ∧ h.kd v2 = 5 ∧ ∀ r7 : Nat, r7 = (h.r 5000 v2) → h.kd r7 = 100 ∧ vp_in v5 (h.ai r7).length ∧ ∀ u10 : Int64, u10 = (v3 + ((((h.ai r3).getD (v5.toNatClampNeg) 0).toInt64 &&& 4294967295) - (((h.ai r7).getD (v5.toNatClampNeg) 0).toInt64 &&& 4294967295))) → h.kd v0 = 5 ∧ ∀ r12 : Nat, r12 = (h.r 5000 v0) → h.kd r12 = 100 ∧ vp_in v5 (h.ai r12).length ∧ ∀ h15 : AH, h15 = h.wi r12 ((h.ai r12).set (v5.toNatClampNeg) u10.toInt32) → Aw G mX5_subtract (d + 1) t h0 Φ 5 [vR v0, vR v1, vR v2, vJ (Jshr u10 32), vU, vI (v5 + 1)] [] h15))) : Aw G mX5_subtract (d + 1) t h0 Φ 5 [vR v0, vR v1, vR v2, vJ v3, vU, vI v5] [] h := by
  refine r_iload (pc := 5) dX5_subtract_5 rfl ?_
  refine r_bipush (pc := 7) (x := 8) dX5_subtract_7 rfl ?_
  refine r_icmp_ge (pc := 9) (tgt := 60) dX5_subtract_9 rfl (fun c1 => ?_) (fun c1 => ?_)
  · have K := K.1 c1
    refine r_aload_n (pc := 60) dX5_subtract_60 rfl ?_
    exact r_aret (pc := 61) rfl rfl dX5_subtract_61 K
  · have K := K.2 c1
    refine r_lload_n (pc := 12) dX5_subtract_12 rfl ?_
    refine r_aload_n (pc := 13) dX5_subtract_13 rfl ?_
    obtain ⟨hk2, K⟩ := K
    have K := K _ rfl
    refine r_getr' (pc := 14) (T := TX5) 5 0 rfl hk2 (Or.inl q299) dX5_subtract_14 kc5 g5000 ?_
    refine r_iload (pc := 17) dX5_subtract_17 rfl ?_
    obtain ⟨hk4, K⟩ := K
    obtain ⟨hi5, K⟩ := K
    refine r_iaload (pc := 19) hk4 hi5 dX5_subtract_19 ?_
    refine r_i2l (pc := 20) dX5_subtract_20 ?_
    refine r_ldc2 (pc := 21) dX5_subtract_21 q378 ?_
    refine r_land (pc := 24) dX5_subtract_24 ?_
    refine r_aload_n (pc := 25) dX5_subtract_25 rfl ?_
    obtain ⟨hk6, K⟩ := K
    have K := K _ rfl
    refine r_getr' (pc := 26) (T := TX5) 5 0 rfl hk6 (Or.inl q299) dX5_subtract_26 kc5 g5000 ?_
    refine r_iload (pc := 29) dX5_subtract_29 rfl ?_
    obtain ⟨hk8, K⟩ := K
    obtain ⟨hi9, K⟩ := K
    refine r_iaload (pc := 31) hk8 hi9 dX5_subtract_31 ?_
    refine r_i2l (pc := 32) dX5_subtract_32 ?_
    refine r_ldc2 (pc := 33) dX5_subtract_33 q378 ?_
    refine r_land (pc := 36) dX5_subtract_36 ?_
    refine r_lsub (pc := 37) dX5_subtract_37 ?_
    refine r_ladd (pc := 38) dX5_subtract_38 ?_
    have K := K _ rfl
    refine r_lstore_n (pc := 39) (lv' := [_, _, _, _, _, _]) dX5_subtract_39 (by decide) rfl ?_
    refine r_aload_n (pc := 40) dX5_subtract_40 rfl ?_
    obtain ⟨hk11, K⟩ := K
    have K := K _ rfl
    refine r_getr' (pc := 41) (T := TX5) 5 0 rfl hk11 (Or.inl q299) dX5_subtract_41 kc5 g5000 ?_
    refine r_iload (pc := 44) dX5_subtract_44 rfl ?_
    refine r_lload_n (pc := 46) dX5_subtract_46 rfl ?_
    refine r_l2i (pc := 47) dX5_subtract_47 ?_
    obtain ⟨hk13, K⟩ := K
    obtain ⟨hi14, K⟩ := K
    refine r_iastore (pc := 48) hk13 hi14 (Or.inl (em rfl)) dX5_subtract_48 ?_
    refine r_nameH (fun h15 eh15 => ?_)
    have K := K h15 eh15
    refine r_lload_n (pc := 49) dX5_subtract_49 rfl ?_
    refine r_bipush (pc := 50) (x := 32) dX5_subtract_50 rfl ?_
    refine r_Jshr (pc := 52) dX5_subtract_52 ?_
    refine r_lstore_n (pc := 53) (lv' := [_, _, _, _, _, _]) dX5_subtract_53 (by decide) rfl ?_
    refine r_iinc (pc := 54) (lv' := [_, _, _, _, _, _]) dX5_subtract_54 rfl rfl (by decide) rfl ?_
    refine r_goto (pc := 57) (tgt := 5) dX5_subtract_57 rfl ?_
    refine r_mask (pc := 5) [true, true, true, true, false, true] rfl ?_
    exact K
theorem dX5_bit_0 : decode cX5_bit 0 = .ok (.aload_n 0, 1) := by decide +kernel
theorem dX5_bit_1 : decode cX5_bit 1 = .ok (.getfield 9, 3) := by decide +kernel
theorem dX5_bit_4 : decode cX5_bit 4 = .ok (.iload_n 1, 1) := by decide +kernel
theorem dX5_bit_5 : decode cX5_bit 5 = .ok (.iconst 5, 1) := by decide +kernel
theorem dX5_bit_6 : decode cX5_bit 6 = .ok (.ishr, 1) := by decide +kernel
theorem dX5_bit_7 : decode cX5_bit 7 = .ok (.iaload, 1) := by decide +kernel
theorem dX5_bit_8 : decode cX5_bit 8 = .ok (.iload_n 1, 1) := by decide +kernel
theorem dX5_bit_9 : decode cX5_bit 9 = .ok (.bipush 31, 2) := by decide +kernel
theorem dX5_bit_11 : decode cX5_bit 11 = .ok (.iand, 1) := by decide +kernel
theorem dX5_bit_12 : decode cX5_bit 12 = .ok (.iushr, 1) := by decide +kernel
theorem dX5_bit_13 : decode cX5_bit 13 = .ok (.iconst 1, 1) := by decide +kernel
theorem dX5_bit_14 : decode cX5_bit 14 = .ok (.iand, 1) := by decide +kernel
theorem dX5_bit_15 : decode cX5_bit 15 = .ok (.ireturn, 1) := by decide +kernel
/-! CoinJudge$Big.bit(I)I -/
set_option maxHeartbeats 4000000 in
theorem sX5_bit_0 {G : Gx} {d t : Nat} {h0 : AH} {Φ : Out → AH → Prop} (h : AH) (v0 : Nat) (v1 : Int32) (K : h.kd v0 = 5 ∧ ∀ r2 : Nat, r2 = (h.r 5000 v0) → h.kd r2 = 100 ∧ vp_in (jshr v1 5) (h.ai r2).length ∧ Φ (.inl (some (vI ((jushr ((h.ai r2).getD ((jshr v1 5).toNatClampNeg) 0) (v1 &&& 31)) &&& 1)))) h) : Aw G mX5_bit (d + 1) t h0 Φ 0 [vR v0, vI v1] [] h := by
  refine r_aload_n (pc := 0) dX5_bit_0 rfl ?_
  obtain ⟨hk1, K⟩ := K
  have K := K _ rfl
  refine r_getr' (pc := 1) (T := TX5) 5 0 rfl hk1 (Or.inl q299) dX5_bit_1 kc5 g5000 ?_
  refine r_iload_n (pc := 4) dX5_bit_4 rfl ?_
  refine r_iconst (pc := 5) (x := 5) dX5_bit_5 rfl ?_
  refine r_jshr (pc := 6) dX5_bit_6 ?_
  obtain ⟨hk3, K⟩ := K
  obtain ⟨hi4, K⟩ := K
  refine r_iaload (pc := 7) hk3 hi4 dX5_bit_7 ?_
  refine r_iload_n (pc := 8) dX5_bit_8 rfl ?_
  refine r_bipush (pc := 9) (x := 31) dX5_bit_9 rfl ?_
  refine r_iand (pc := 11) dX5_bit_11 ?_
  refine r_jushr (pc := 12) dX5_bit_12 ?_
  refine r_iconst (pc := 13) (x := 1) dX5_bit_13 rfl ?_
  refine r_iand (pc := 14) dX5_bit_14 ?_
  exact r_iret (pc := 15) rfl rfl dX5_bit_15 K
theorem eX5_bit {G : Gx} {d : Nat} {Φ : Out → AH → Prop} (h : AH) (v0 : Nat) (v1 : Int32) (K : WF G h → Aw G mX5_bit (d + 1) 0 h Φ 0 [vR v0, vI v1] [] h) : Cw G mX5_bit (d + 1) 0 [vR v0, vI v1] h Φ := Cw.of rfl K
theorem dX5_copy_0 : decode cX5_copy 0 = .ok (.iconst 0, 1) := by decide +kernel
theorem dX5_copy_1 : decode cX5_copy 1 = .ok (.istore_n 2, 1) := by decide +kernel
theorem dX5_copy_2 : decode cX5_copy 2 = .ok (.iload_n 2, 1) := by decide +kernel
theorem dX5_copy_3 : decode cX5_copy 3 = .ok (.bipush 8, 2) := by decide +kernel
theorem dX5_copy_5 : decode cX5_copy 5 = .ok (.if_icmp .ge 21, 3) := by decide +kernel
theorem dX5_copy_8 : decode cX5_copy 8 = .ok (.aload_n 0, 1) := by decide +kernel
theorem dX5_copy_9 : decode cX5_copy 9 = .ok (.getfield 9, 3) := by decide +kernel
theorem dX5_copy_12 : decode cX5_copy 12 = .ok (.iload_n 2, 1) := by decide +kernel
theorem dX5_copy_13 : decode cX5_copy 13 = .ok (.aload_n 1, 1) := by decide +kernel
theorem dX5_copy_14 : decode cX5_copy 14 = .ok (.getfield 9, 3) := by decide +kernel
theorem dX5_copy_17 : decode cX5_copy 17 = .ok (.iload_n 2, 1) := by decide +kernel
theorem dX5_copy_18 : decode cX5_copy 18 = .ok (.iaload, 1) := by decide +kernel
theorem dX5_copy_19 : decode cX5_copy 19 = .ok (.iastore, 1) := by decide +kernel
theorem dX5_copy_20 : decode cX5_copy 20 = .ok (.iinc 2 1, 3) := by decide +kernel
theorem dX5_copy_23 : decode cX5_copy 23 = .ok (.goto (-21), 3) := by decide +kernel
theorem dX5_copy_26 : decode cX5_copy 26 = .ok (.aload_n 0, 1) := by decide +kernel
theorem dX5_copy_27 : decode cX5_copy 27 = .ok (.areturn, 1) := by decide +kernel
/-! CoinJudge$Big.copy(LCoinJudge$Big;)LCoinJudge$Big; -/
set_option maxHeartbeats 4000000 in
theorem sX5_copy_0 {G : Gx} {d t : Nat} {h0 : AH} {Φ : Out → AH → Prop} (h : AH) (v0 : Nat) (v1 : Nat) (K : Aw G mX5_copy (d + 1) t h0 Φ 2 [vR v0, vR v1, vI 0] [] h) : Aw G mX5_copy (d + 1) t h0 Φ 0 [vR v0, vR v1, vU] [] h := by
  refine r_iconst (pc := 0) (x := 0) dX5_copy_0 rfl ?_
  refine r_istore_n (pc := 1) (lv' := [_, _, _]) dX5_copy_1 (by decide) rfl ?_
  refine r_mask (pc := 2) [true, true, true] rfl ?_
  exact K
theorem eX5_copy {G : Gx} {d : Nat} {Φ : Out → AH → Prop} (h : AH) (v0 : Nat) (v1 : Nat) (K : WF G h → Aw G mX5_copy (d + 1) 0 h Φ 0 [vR v0, vR v1, vU] [] h) : Cw G mX5_copy (d + 1) 0 [vR v0, vR v1] h Φ := Cw.of rfl K
set_option maxHeartbeats 4000000 in
theorem sX5_copy_2 {G : Gx} {d t : Nat} {h0 : AH} {Φ : Out → AH → Prop} (h : AH) (v0 : Nat) (v1 : Nat) (v2 : Int32) (K : ((8 ≤ v2 → Φ (.inl (some (vR v0))) h) ∧ (¬ 8 ≤ v2 → h.kd v0 = 5 ∧ ∀ r3 : Nat, r3 = (h.r 5000 v0) → h.kd v1 = 5 ∧ ∀ r5 : Nat, r5 = (h.r 5000 v1) → h.kd r5 = 100 ∧ vp_in v2 (h.ai r5).length ∧ h.kd r3 = 100 ∧ vp_in v2 (h.ai r3).length ∧ ∀ h10 : AH, h10 = h.wi r3 ((h.ai r3).set (v2.toNatClampNeg) ((h.ai r5).getD (v2.toNatClampNeg) 0)) → Aw G mX5_copy (d + 1) t h0 Φ 2 [vR v0, vR v1, vI (v2 + 1)] [] h10))) : Aw G mX5_copy (d + 1) t h0 Φ 2 [vR v0, vR v1, vI v2] [] h := by
  refine r_iload_n (pc := 2) dX5_copy_2 rfl ?_
  refine r_bipush (pc := 3) (x := 8) dX5_copy_3 rfl ?_
  refine r_icmp_ge (pc := 5) (tgt := 26) dX5_copy_5 rfl (fun c1 => ?_) (fun c1 => ?_)
  · have K := K.1 c1
    refine r_aload_n (pc := 26) dX5_copy_26 rfl ?_
    exact r_aret (pc := 27) rfl rfl dX5_copy_27 K
  · have K := K.2 c1
    refine r_aload_n (pc := 8) dX5_copy_8 rfl ?_
    obtain ⟨hk2, K⟩ := K
    have K := K _ rfl
    refine r_getr' (pc := 9) (T := TX5) 5 0 rfl hk2 (Or.inl q299) dX5_copy_9 kc5 g5000 ?_
    refine r_iload_n (pc := 12) dX5_copy_12 rfl ?_
    refine r_aload_n (pc := 13) dX5_copy_13 rfl ?_
    obtain ⟨hk4, K⟩ := K
    have K := K _ rfl
    refine r_getr' (pc := 14) (T := TX5) 5 0 rfl hk4 (Or.inl q299) dX5_copy_14 kc5 g5000 ?_
    refine r_iload_n (pc := 17) dX5_copy_17 rfl ?_
    obtain ⟨hk6, K⟩ := K
    obtain ⟨hi7, K⟩ := K
    refine r_iaload (pc := 18) hk6 hi7 dX5_copy_18 ?_
    obtain ⟨hk8, K⟩ := K
    obtain ⟨hi9, K⟩ := K
    refine r_iastore (pc := 19) hk8 hi9 (Or.inl (em rfl)) dX5_copy_19 ?_
    refine r_nameH (fun h10 eh10 => ?_)
    have K := K h10 eh10
    refine r_iinc (pc := 20) (lv' := [_, _, _]) dX5_copy_20 rfl rfl (by decide) rfl ?_
    refine r_goto (pc := 23) (tgt := 2) dX5_copy_23 rfl ?_
    refine r_mask (pc := 2) [true, true, true] rfl ?_
    exact K
theorem dX5_length_0 : decode cX5_length 0 = .ok (.bipush 7, 2) := by decide +kernel
theorem dX5_length_2 : decode cX5_length 2 = .ok (.istore_n 1, 1) := by decide +kernel
theorem dX5_length_3 : decode cX5_length 3 = .ok (.iload_n 1, 1) := by decide +kernel
theorem dX5_length_4 : decode cX5_length 4 = .ok (.ifCond .lt 36, 3) := by decide +kernel
theorem dX5_length_7 : decode cX5_length 7 = .ok (.aload_n 0, 1) := by decide +kernel
theorem dX5_length_8 : decode cX5_length 8 = .ok (.getfield 9, 3) := by decide +kernel
theorem dX5_length_11 : decode cX5_length 11 = .ok (.iload_n 1, 1) := by decide +kernel
theorem dX5_length_12 : decode cX5_length 12 = .ok (.iaload, 1) := by decide +kernel
theorem dX5_length_13 : decode cX5_length 13 = .ok (.ifCond .eq 21, 3) := by decide +kernel
theorem dX5_length_16 : decode cX5_length 16 = .ok (.bipush 32, 2) := by decide +kernel
theorem dX5_length_18 : decode cX5_length 18 = .ok (.iload_n 1, 1) := by decide +kernel
theorem dX5_length_19 : decode cX5_length 19 = .ok (.imul, 1) := by decide +kernel
theorem dX5_length_20 : decode cX5_length 20 = .ok (.bipush 32, 2) := by decide +kernel
theorem dX5_length_22 : decode cX5_length 22 = .ok (.iadd, 1) := by decide +kernel
theorem dX5_length_23 : decode cX5_length 23 = .ok (.aload_n 0, 1) := by decide +kernel
theorem dX5_length_24 : decode cX5_length 24 = .ok (.getfield 9, 3) := by decide +kernel
theorem dX5_length_27 : decode cX5_length 27 = .ok (.iload_n 1, 1) := by decide +kernel
theorem dX5_length_28 : decode cX5_length 28 = .ok (.iaload, 1) := by decide +kernel
theorem dX5_length_29 : decode cX5_length 29 = .ok (.invokestatic 21, 3) := by decide +kernel
theorem dX5_length_32 : decode cX5_length 32 = .ok (.isub, 1) := by decide +kernel
theorem dX5_length_33 : decode cX5_length 33 = .ok (.ireturn, 1) := by decide +kernel
theorem dX5_length_34 : decode cX5_length 34 = .ok (.iinc 1 (-1), 3) := by decide +kernel
theorem dX5_length_37 : decode cX5_length 37 = .ok (.goto (-34), 3) := by decide +kernel
theorem dX5_length_40 : decode cX5_length 40 = .ok (.iconst 0, 1) := by decide +kernel
theorem dX5_length_41 : decode cX5_length 41 = .ok (.ireturn, 1) := by decide +kernel
/-! CoinJudge$Big.length()I -/
set_option maxHeartbeats 4000000 in
theorem sX5_length_0 {G : Gx} {d t : Nat} {h0 : AH} {Φ : Out → AH → Prop} (h : AH) (v0 : Nat) (K : Aw G mX5_length (d + 1) t h0 Φ 3 [vR v0, vI 7] [] h) : Aw G mX5_length (d + 1) t h0 Φ 0 [vR v0, vU] [] h := by
  refine r_bipush (pc := 0) (x := 7) dX5_length_0 rfl ?_
  refine r_istore_n (pc := 2) (lv' := [_, _]) dX5_length_2 (by decide) rfl ?_
  refine r_mask (pc := 3) [true, true] rfl ?_
  exact K
theorem eX5_length {G : Gx} {d : Nat} {Φ : Out → AH → Prop} (h : AH) (v0 : Nat) (K : WF G h → Aw G mX5_length (d + 1) 0 h Φ 0 [vR v0, vU] [] h) : Cw G mX5_length (d + 1) 0 [vR v0] h Φ := Cw.of rfl K
set_option maxHeartbeats 4000000 in
theorem sX5_length_3 {G : Gx} {d t : Nat} {h0 : AH} {Φ : Out → AH → Prop} (h : AH) (v0 : Nat) (v1 : Int32) (K : ((v1 < 0 → Φ (.inl (some (vI 0))) h) ∧ (¬ v1 < 0 → h.kd v0 = 5 ∧ ∀ r3 : Nat, r3 = (h.r 5000 v0) → h.kd r3 = 100 ∧ vp_in v1 (h.ai r3).length ∧ ((((h.ai r3).getD (v1.toNatClampNeg) 0) = 0 → Aw G mX5_length (d + 1) t h0 Φ 3 [vR v0, vI (v1 + (-1))] [] h) ∧ (¬ ((h.ai r3).getD (v1.toNatClampNeg) 0) = 0 → vp_in v1 (h.ai r3).length ∧ Cw G mJ9_numberOfLeadingZeros d 0 [vI ((h.ai r3).getD (v1.toNatClampNeg) 0)] h (kI (fun x8 h9 => Φ (.inl (some (vI (((32 * v1) + 32) - x8)))) h9) (fun x h => Φ (.inr x) h))))))) : Aw G mX5_length (d + 1) t h0 Φ 3 [vR v0, vI v1] [] h := by
  refine r_iload_n (pc := 3) dX5_length_3 rfl ?_
  refine r_if_lt (pc := 4) (tgt := 40) dX5_length_4 rfl (fun c1 => ?_) (fun c1 => ?_)
  · have K := K.1 c1
    refine r_iconst (pc := 40) (x := 0) dX5_length_40 rfl ?_
    exact r_iret (pc := 41) rfl rfl dX5_length_41 K
  · have K := K.2 c1
    refine r_aload_n (pc := 7) dX5_length_7 rfl ?_
    obtain ⟨hk2, K⟩ := K
    have K := K _ rfl
    refine r_getr' (pc := 8) (T := TX5) 5 0 rfl hk2 (Or.inl q299) dX5_length_8 kc5 g5000 ?_
    refine r_iload_n (pc := 11) dX5_length_11 rfl ?_
    obtain ⟨hk4, K⟩ := K
    obtain ⟨hi5, K⟩ := K
    refine r_iaload (pc := 12) hk4 hi5 dX5_length_12 ?_
    refine r_if_eq (pc := 13) (tgt := 34) dX5_length_13 rfl (fun c6 => ?_) (fun c6 => ?_)
    · have K := K.1 c6
      refine r_iinc (pc := 34) (lv' := [_, _]) dX5_length_34 rfl rfl (by decide) rfl ?_
      refine r_goto (pc := 37) (tgt := 3) dX5_length_37 rfl ?_
      refine r_mask (pc := 3) [true, true] rfl ?_
      exact K
    · have K := K.2 c6
      refine r_bipush (pc := 16) (x := 32) dX5_length_16 rfl ?_
      refine r_iload_n (pc := 18) dX5_length_18 rfl ?_
      refine r_imul (pc := 19) dX5_length_19 ?_
      refine r_bipush (pc := 20) (x := 32) dX5_length_20 rfl ?_
      refine r_iadd (pc := 22) dX5_length_22 ?_
      refine r_aload_n (pc := 23) dX5_length_23 rfl ?_
      refine r_getr' (pc := 24) (T := TX5) 5 0 rfl hk2 (Or.inl q299) dX5_length_24 kc5 g5000 ?_
      refine r_iload_n (pc := 27) dX5_length_27 rfl ?_
      obtain ⟨hi7, K⟩ := K
      refine r_iaload (pc := 28) hk4 hi7 dX5_length_28 ?_
      refine r_callS_I (pc := 29) (Y := mJ9_numberOfLeadingZeros) (vs := [_]) (st := [_]) q862 q863 q173 dX5_length_29 rfl cd_J9_numberOfLeadingZeros (cOk_of pf_J9_numberOfLeadingZeros rfl) rfl fp_X5_length_J9_numberOfLeadingZeros K (fun x8 h9 eh9 wh9 K => ?_) (fun x h1 _ _ e => Tw.out rfl e)
      refine r_isub (pc := 32) dX5_length_32 ?_
      exact r_iret (pc := 33) rfl rfl dX5_length_33 K
theorem dX5_add_0 : decode cX5_add 0 = .ok (.lconst 0, 1) := by decide +kernel
theorem dX5_add_1 : decode cX5_add 1 = .ok (.lstore_n 3, 1) := by decide +kernel
theorem dX5_add_2 : decode cX5_add 2 = .ok (.iconst 0, 1) := by decide +kernel
theorem dX5_add_3 : decode cX5_add 3 = .ok (.istore 5, 2) := by decide +kernel
theorem dX5_add_5 : decode cX5_add 5 = .ok (.iload 5, 2) := by decide +kernel
theorem dX5_add_7 : decode cX5_add 7 = .ok (.bipush 8, 2) := by decide +kernel
theorem dX5_add_9 : decode cX5_add 9 = .ok (.if_icmp .ge 51, 3) := by decide +kernel
theorem dX5_add_12 : decode cX5_add 12 = .ok (.lload_n 3, 1) := by decide +kernel
theorem dX5_add_13 : decode cX5_add 13 = .ok (.aload_n 1, 1) := by decide +kernel
theorem dX5_add_14 : decode cX5_add 14 = .ok (.getfield 9, 3) := by decide +kernel
theorem dX5_add_17 : decode cX5_add 17 = .ok (.iload 5, 2) := by decide +kernel
theorem dX5_add_19 : decode cX5_add 19 = .ok (.iaload, 1) := by decide +kernel
theorem dX5_add_20 : decode cX5_add 20 = .ok (.i2l, 1) := by decide +kernel
theorem dX5_add_21 : decode cX5_add 21 = .ok (.ldc2_w 19, 3) := by decide +kernel
theorem dX5_add_24 : decode cX5_add 24 = .ok (.land, 1) := by decide +kernel
theorem dX5_add_25 : decode cX5_add 25 = .ok (.aload_n 2, 1) := by decide +kernel
theorem dX5_add_26 : decode cX5_add 26 = .ok (.getfield 9, 3) := by decide +kernel
theorem dX5_add_29 : decode cX5_add 29 = .ok (.iload 5, 2) := by decide +kernel
theorem dX5_add_31 : decode cX5_add 31 = .ok (.iaload, 1) := by decide +kernel
theorem dX5_add_32 : decode cX5_add 32 = .ok (.i2l, 1) := by decide +kernel
theorem dX5_add_33 : decode cX5_add 33 = .ok (.ldc2_w 19, 3) := by decide +kernel
theorem dX5_add_36 : decode cX5_add 36 = .ok (.land, 1) := by decide +kernel
theorem dX5_add_37 : decode cX5_add 37 = .ok (.ladd, 1) := by decide +kernel
theorem dX5_add_38 : decode cX5_add 38 = .ok (.ladd, 1) := by decide +kernel
theorem dX5_add_39 : decode cX5_add 39 = .ok (.lstore_n 3, 1) := by decide +kernel
theorem dX5_add_40 : decode cX5_add 40 = .ok (.aload_n 0, 1) := by decide +kernel
theorem dX5_add_41 : decode cX5_add 41 = .ok (.getfield 9, 3) := by decide +kernel
theorem dX5_add_44 : decode cX5_add 44 = .ok (.iload 5, 2) := by decide +kernel
theorem dX5_add_46 : decode cX5_add 46 = .ok (.lload_n 3, 1) := by decide +kernel
theorem dX5_add_47 : decode cX5_add 47 = .ok (.l2i, 1) := by decide +kernel
theorem dX5_add_48 : decode cX5_add 48 = .ok (.iastore, 1) := by decide +kernel
theorem dX5_add_49 : decode cX5_add 49 = .ok (.lload_n 3, 1) := by decide +kernel
theorem dX5_add_50 : decode cX5_add 50 = .ok (.bipush 32, 2) := by decide +kernel
theorem dX5_add_52 : decode cX5_add 52 = .ok (.lushr, 1) := by decide +kernel
theorem dX5_add_53 : decode cX5_add 53 = .ok (.lstore_n 3, 1) := by decide +kernel
theorem dX5_add_54 : decode cX5_add 54 = .ok (.iinc 5 1, 3) := by decide +kernel
theorem dX5_add_57 : decode cX5_add 57 = .ok (.goto (-52), 3) := by decide +kernel
theorem dX5_add_60 : decode cX5_add 60 = .ok (.lload_n 3, 1) := by decide +kernel
theorem dX5_add_61 : decode cX5_add 61 = .ok (.l2i, 1) := by decide +kernel
theorem dX5_add_62 : decode cX5_add 62 = .ok (.ireturn, 1) := by decide +kernel
/-! CoinJudge$Big.add(LCoinJudge$Big;LCoinJudge$Big;)I -/
set_option maxHeartbeats 4000000 in
theorem sX5_add_0 {G : Gx} {d t : Nat} {h0 : AH} {Φ : Out → AH → Prop} (h : AH) (v0 : Nat) (v1 : Nat) (v2 : Nat) (K : Aw G mX5_add (d + 1) t h0 Φ 5 [vR v0, vR v1, vR v2, vJ 0, vU, vI 0] [] h) : Aw G mX5_add (d + 1) t h0 Φ 0 [vR v0, vR v1, vR v2, vU, vU, vU] [] h := by
  refine r_lconst (pc := 0) (a := 0) dX5_add_0 rfl ?_
  refine r_lstore_n (pc := 1) (lv' := [_, _, _, _, _, _]) dX5_add_1 (by decide) rfl ?_
  refine r_iconst (pc := 2) (x := 0) dX5_add_2 rfl ?_
  refine r_istore (pc := 3) (lv' := [_, _, _, _, _, _]) dX5_add_3 (by decide) rfl ?_
  refine r_mask (pc := 5) [true, true, true, true, false, true] rfl ?_
  exact K
theorem eX5_add {G : Gx} {d : Nat} {Φ : Out → AH → Prop} (h : AH) (v0 : Nat) (v1 : Nat) (v2 : Nat) (K : WF G h → Aw G mX5_add (d + 1) 0 h Φ 0 [vR v0, vR v1, vR v2, vU, vU, vU] [] h) : Cw G mX5_add (d + 1) 0 [vR v0, vR v1, vR v2] h Φ := Cw.of rfl K
set_option maxHeartbeats 4000000 in
theorem sX5_add_5 {G : Gx} {d t : Nat} {h0 : AH} {Φ : Out → AH → Prop} (h : AH) (v0 : Nat) (v1 : Nat) (v2 : Nat) (v3 : Int64) (v5 : Int32) (K : ((8 ≤ v5 → Φ (.inl (some (vI v3.toInt32))) h) ∧ (¬ 8 ≤ v5 → h.kd v1 = 5 ∧ ∀ r3 : Nat, r3 = (h.r 5000 v1) → h.kd r3 = 100 ∧ vp_in v5 (h.ai r3).length ∧ h.kd v2 = 5 ∧ ∀ r7 : Nat, r7 = (h.r 5000 v2) → h.kd r7 = 100 ∧ vp_in v5 (h.ai r7).length ∧ ∀ u10 : Int64, u10 = (v3 + ((((h.ai r3).getD (v5.toNatClampNeg) 0).toInt64 &&& 4294967295) + (((h.ai r7).getD (v5.toNatClampNeg) 0).toInt64 &&& 4294967295))) → h.kd v0 = 5 ∧ ∀ r12 : Nat, r12 = (h.r 5000 v0) → h.kd r12 = 100 ∧ vp_in v5 (h.ai r12).length ∧ ∀ h15 : AH, h15 = h.wi r12 ((h.ai r12).set (v5.toNatClampNeg) u10.toInt32) → Aw G mX5_add (d + 1) t h0 Φ 5 [vR v0, vR v1, vR v2, vJ (Jushr u10 32), vU, vI (v5 + 1)] [] h15))) : Aw G mX5_add (d + 1) t h0 Φ 5 [vR v0, vR v1, vR v2, vJ v3, vU, vI v5] [] h := by
  refine r_iload (pc := 5) dX5_add_5 rfl ?_
  refine r_bipush (pc := 7) (x := 8) dX5_add_7 rfl ?_
  refine r_icmp_ge (pc := 9) (tgt := 60) dX5_add_9 rfl (fun c1 => ?_) (fun c1 => ?_)
  · have K := K.1 c1
    refine r_lload_n (pc := 60) dX5_add_60 rfl ?_
    refine r_l2i (pc := 61) dX5_add_61 ?_
    exact r_iret (pc := 62) rfl rfl dX5_add_62 K
  · have K := K.2 c1
    refine r_lload_n (pc := 12) dX5_add_12 rfl ?_
    refine r_aload_n (pc := 13) dX5_add_13 rfl ?_
    obtain ⟨hk2, K⟩ := K
    have K := K _ rfl
    refine r_getr' (pc := 14) (T := TX5) 5 0 rfl hk2 (Or.inl q299) dX5_add_14 kc5 g5000 ?_
    refine r_iload (pc := 17) dX5_add_17 rfl ?_
    obtain ⟨hk4, K⟩ := K
    obtain ⟨hi5, K⟩ := K
    refine r_iaload (pc := 19) hk4 hi5 dX5_add_19 ?_
    refine r_i2l (pc := 20) dX5_add_20 ?_
    refine r_ldc2 (pc := 21) dX5_add_21 q378 ?_
    refine r_land (pc := 24) dX5_add_24 ?_
    refine r_aload_n (pc := 25) dX5_add_25 rfl ?_
    obtain ⟨hk6, K⟩ := K
    have K := K _ rfl
    refine r_getr' (pc := 26) (T := TX5) 5 0 rfl hk6 (Or.inl q299) dX5_add_26 kc5 g5000 ?_
    refine r_iload (pc := 29) dX5_add_29 rfl ?_
    obtain ⟨hk8, K⟩ := K
    obtain ⟨hi9, K⟩ := K
    refine r_iaload (pc := 31) hk8 hi9 dX5_add_31 ?_
    refine r_i2l (pc := 32) dX5_add_32 ?_
    refine r_ldc2 (pc := 33) dX5_add_33 q378 ?_
    refine r_land (pc := 36) dX5_add_36 ?_
    refine r_ladd (pc := 37) dX5_add_37 ?_
    refine r_ladd (pc := 38) dX5_add_38 ?_
    have K := K _ rfl
    refine r_lstore_n (pc := 39) (lv' := [_, _, _, _, _, _]) dX5_add_39 (by decide) rfl ?_
    refine r_aload_n (pc := 40) dX5_add_40 rfl ?_
    obtain ⟨hk11, K⟩ := K
    have K := K _ rfl
    refine r_getr' (pc := 41) (T := TX5) 5 0 rfl hk11 (Or.inl q299) dX5_add_41 kc5 g5000 ?_
    refine r_iload (pc := 44) dX5_add_44 rfl ?_
    refine r_lload_n (pc := 46) dX5_add_46 rfl ?_
    refine r_l2i (pc := 47) dX5_add_47 ?_
    obtain ⟨hk13, K⟩ := K
    obtain ⟨hi14, K⟩ := K
    refine r_iastore (pc := 48) hk13 hi14 (Or.inl (em rfl)) dX5_add_48 ?_
    refine r_nameH (fun h15 eh15 => ?_)
    have K := K h15 eh15
    refine r_lload_n (pc := 49) dX5_add_49 rfl ?_
    refine r_bipush (pc := 50) (x := 32) dX5_add_50 rfl ?_
    refine r_Jushr (pc := 52) dX5_add_52 ?_
    refine r_lstore_n (pc := 53) (lv' := [_, _, _, _, _, _]) dX5_add_53 (by decide) rfl ?_
    refine r_iinc (pc := 54) (lv' := [_, _, _, _, _, _]) dX5_add_54 rfl rfl (by decide) rfl ?_
    refine r_goto (pc := 57) (tgt := 5) dX5_add_57 rfl ?_
    refine r_mask (pc := 5) [true, true, true, true, false, true] rfl ?_
    exact K
theorem dX5_isZero_0 : decode cX5_isZero 0 = .ok (.iconst 0, 1) := by decide +kernel
theorem dX5_isZero_1 : decode cX5_isZero 1 = .ok (.istore_n 1, 1) := by decide +kernel
theorem dX5_isZero_2 : decode cX5_isZero 2 = .ok (.iload_n 1, 1) := by decide +kernel
theorem dX5_isZero_3 : decode cX5_isZero 3 = .ok (.bipush 8, 2) := by decide +kernel
theorem dX5_isZero_5 : decode cX5_isZero 5 = .ok (.if_icmp .ge 20, 3) := by decide +kernel
theorem dX5_isZero_8 : decode cX5_isZero 8 = .ok (.aload_n 0, 1) := by decide +kernel
theorem dX5_isZero_9 : decode cX5_isZero 9 = .ok (.getfield 9, 3) := by decide +kernel
theorem dX5_isZero_12 : decode cX5_isZero 12 = .ok (.iload_n 1, 1) := by decide +kernel
theorem dX5_isZero_13 : decode cX5_isZero 13 = .ok (.iaload, 1) := by decide +kernel
theorem dX5_isZero_14 : decode cX5_isZero 14 = .ok (.ifCond .eq 5, 3) := by decide +kernel
theorem dX5_isZero_17 : decode cX5_isZero 17 = .ok (.iconst 0, 1) := by decide +kernel
theorem dX5_isZero_18 : decode cX5_isZero 18 = .ok (.ireturn, 1) := by decide +kernel
theorem dX5_isZero_19 : decode cX5_isZero 19 = .ok (.iinc 1 1, 3) := by decide +kernel
theorem dX5_isZero_22 : decode cX5_isZero 22 = .ok (.goto (-20), 3) := by decide +kernel
theorem dX5_isZero_25 : decode cX5_isZero 25 = .ok (.iconst 1, 1) := by decide +kernel
theorem dX5_isZero_26 : decode cX5_isZero 26 = .ok (.ireturn, 1) := by decide +kernel
/-! CoinJudge$Big.isZero()Z -/
set_option maxHeartbeats 4000000 in
theorem sX5_isZero_0 {G : Gx} {d t : Nat} {h0 : AH} {Φ : Out → AH → Prop} (h : AH) (v0 : Nat) (K : Aw G mX5_isZero (d + 1) t h0 Φ 2 [vR v0, vI 0] [] h) : Aw G mX5_isZero (d + 1) t h0 Φ 0 [vR v0, vU] [] h := by
  refine r_iconst (pc := 0) (x := 0) dX5_isZero_0 rfl ?_
  refine r_istore_n (pc := 1) (lv' := [_, _]) dX5_isZero_1 (by decide) rfl ?_
  refine r_mask (pc := 2) [true, true] rfl ?_
  exact K
theorem eX5_isZero {G : Gx} {d : Nat} {Φ : Out → AH → Prop} (h : AH) (v0 : Nat) (K : WF G h → Aw G mX5_isZero (d + 1) 0 h Φ 0 [vR v0, vU] [] h) : Cw G mX5_isZero (d + 1) 0 [vR v0] h Φ := Cw.of rfl K
set_option maxHeartbeats 4000000 in
theorem sX5_isZero_2 {G : Gx} {d t : Nat} {h0 : AH} {Φ : Out → AH → Prop} (h : AH) (v0 : Nat) (v1 : Int32) (K : ((8 ≤ v1 → Φ (.inl (some (vI 1))) h) ∧ (¬ 8 ≤ v1 → h.kd v0 = 5 ∧ ∀ r3 : Nat, r3 = (h.r 5000 v0) → h.kd r3 = 100 ∧ vp_in v1 (h.ai r3).length ∧ ((((h.ai r3).getD (v1.toNatClampNeg) 0) = 0 → Aw G mX5_isZero (d + 1) t h0 Φ 2 [vR v0, vI (v1 + 1)] [] h) ∧ (¬ ((h.ai r3).getD (v1.toNatClampNeg) 0) = 0 → Φ (.inl (some (vI 0))) h))))) : Aw G mX5_isZero (d + 1) t h0 Φ 2 [vR v0, vI v1] [] h := by
  refine r_iload_n (pc := 2) dX5_isZero_2 rfl ?_
  refine r_bipush (pc := 3) (x := 8) dX5_isZero_3 rfl ?_
  refine r_icmp_ge (pc := 5) (tgt := 25) dX5_isZero_5 rfl (fun c1 => ?_) (fun c1 => ?_)
  · have K := K.1 c1
    refine r_iconst (pc := 25) (x := 1) dX5_isZero_25 rfl ?_
    exact r_iret (pc := 26) rfl rfl dX5_isZero_26 K
  · have K := K.2 c1
    refine r_aload_n (pc := 8) dX5_isZero_8 rfl ?_
    obtain ⟨hk2, K⟩ := K
    have K := K _ rfl
    refine r_getr' (pc := 9) (T := TX5) 5 0 rfl hk2 (Or.inl q299) dX5_isZero_9 kc5 g5000 ?_
    refine r_iload_n (pc := 12) dX5_isZero_12 rfl ?_
    obtain ⟨hk4, K⟩ := K
    obtain ⟨hi5, K⟩ := K
    refine r_iaload (pc := 13) hk4 hi5 dX5_isZero_13 ?_
    refine r_if_eq (pc := 14) (tgt := 19) dX5_isZero_14 rfl (fun c6 => ?_) (fun c6 => ?_)
    · have K := K.1 c6
      refine r_iinc (pc := 19) (lv' := [_, _]) dX5_isZero_19 rfl rfl (by decide) rfl ?_
      refine r_goto (pc := 22) (tgt := 2) dX5_isZero_22 rfl ?_
      refine r_mask (pc := 2) [true, true] rfl ?_
      exact K
    · have K := K.2 c6
      refine r_iconst (pc := 17) (x := 0) dX5_isZero_17 rfl ?_
      exact r_iret (pc := 18) rfl rfl dX5_isZero_18 K
theorem dX5_write_0 : decode cX5_write 0 = .ok (.iconst 0, 1) := by decide +kernel
theorem dX5_write_1 : decode cX5_write 1 = .ok (.istore_n 3, 1) := by decide +kernel
theorem dX5_write_2 : decode cX5_write 2 = .ok (.iload_n 3, 1) := by decide +kernel
theorem dX5_write_3 : decode cX5_write 3 = .ok (.bipush 32, 2) := by decide +kernel
theorem dX5_write_5 : decode cX5_write 5 = .ok (.if_icmp .ge 36, 3) := by decide +kernel
theorem dX5_write_8 : decode cX5_write 8 = .ok (.aload_n 1, 1) := by decide +kernel
theorem dX5_write_9 : decode cX5_write 9 = .ok (.iload_n 2, 1) := by decide +kernel
theorem dX5_write_10 : decode cX5_write 10 = .ok (.iload_n 3, 1) := by decide +kernel
theorem dX5_write_11 : decode cX5_write 11 = .ok (.iadd, 1) := by decide +kernel
theorem dX5_write_12 : decode cX5_write 12 = .ok (.aload_n 0, 1) := by decide +kernel
theorem dX5_write_13 : decode cX5_write 13 = .ok (.getfield 9, 3) := by decide +kernel
theorem dX5_write_16 : decode cX5_write 16 = .ok (.bipush 31, 2) := by decide +kernel
theorem dX5_write_18 : decode cX5_write 18 = .ok (.iload_n 3, 1) := by decide +kernel
theorem dX5_write_19 : decode cX5_write 19 = .ok (.isub, 1) := by decide +kernel
theorem dX5_write_20 : decode cX5_write 20 = .ok (.iconst 2, 1) := by decide +kernel
theorem dX5_write_21 : decode cX5_write 21 = .ok (.ishr, 1) := by decide +kernel
theorem dX5_write_22 : decode cX5_write 22 = .ok (.iaload, 1) := by decide +kernel
theorem dX5_write_23 : decode cX5_write 23 = .ok (.bipush 8, 2) := by decide +kernel
theorem dX5_write_25 : decode cX5_write 25 = .ok (.bipush 31, 2) := by decide +kernel
theorem dX5_write_27 : decode cX5_write 27 = .ok (.iload_n 3, 1) := by decide +kernel
theorem dX5_write_28 : decode cX5_write 28 = .ok (.isub, 1) := by decide +kernel
theorem dX5_write_29 : decode cX5_write 29 = .ok (.iconst 3, 1) := by decide +kernel
theorem dX5_write_30 : decode cX5_write 30 = .ok (.iand, 1) := by decide +kernel
theorem dX5_write_31 : decode cX5_write 31 = .ok (.imul, 1) := by decide +kernel
theorem dX5_write_32 : decode cX5_write 32 = .ok (.ishr, 1) := by decide +kernel
theorem dX5_write_33 : decode cX5_write 33 = .ok (.i2b, 1) := by decide +kernel
theorem dX5_write_34 : decode cX5_write 34 = .ok (.bastore, 1) := by decide +kernel
theorem dX5_write_35 : decode cX5_write 35 = .ok (.iinc 3 1, 3) := by decide +kernel
theorem dX5_write_38 : decode cX5_write 38 = .ok (.goto (-36), 3) := by decide +kernel
theorem dX5_write_41 : decode cX5_write 41 = .ok (.return_, 1) := by decide +kernel
/-! CoinJudge$Big.write([BI)V -/
set_option maxHeartbeats 4000000 in
theorem sX5_write_0 {G : Gx} {d t : Nat} {h0 : AH} {Φ : Out → AH → Prop} (h : AH) (v0 : Nat) (v1 : Nat) (v2 : Int32) (K : Aw G mX5_write (d + 1) t h0 Φ 2 [vR v0, vR v1, vI v2, vI 0] [] h) : Aw G mX5_write (d + 1) t h0 Φ 0 [vR v0, vR v1, vI v2, vU] [] h := by
  refine r_iconst (pc := 0) (x := 0) dX5_write_0 rfl ?_
  refine r_istore_n (pc := 1) (lv' := [_, _, _, _]) dX5_write_1 (by decide) rfl ?_
  refine r_mask (pc := 2) [true, true, true, true] rfl ?_
  exact K
theorem eX5_write {G : Gx} {d : Nat} {Φ : Out → AH → Prop} (h : AH) (v0 : Nat) (v1 : Nat) (v2 : Int32) (K : WF G h → Aw G mX5_write (d + 1) 0 h Φ 0 [vR v0, vR v1, vI v2, vU] [] h) : Cw G mX5_write (d + 1) 0 [vR v0, vR v1, vI v2] h Φ := Cw.of rfl K
set_option maxHeartbeats 4000000 in
theorem sX5_write_2 {G : Gx} {d t : Nat} {h0 : AH} {Φ : Out → AH → Prop} (h : AH) (v0 : Nat) (v1 : Nat) (v2 : Int32) (v3 : Int32) (K : ((32 ≤ v3 → Φ (.inl none) h) ∧ (¬ 32 ≤ v3 → h.kd v0 = 5 ∧ ∀ r3 : Nat, r3 = (h.r 5000 v0) → h.kd r3 = 100 ∧ vp_in (jshr (31 - v3) 2) (h.ai r3).length ∧ h.kd v1 = 101 ∧ vp_in (v2 + v3) (h.ai v1).length ∧ ∀ h8 : AH, h8 = h.wi v1 ((h.ai v1).set ((v2 + v3).toNatClampNeg) (i2b (i2b (jshr ((h.ai r3).getD ((jshr (31 - v3) 2).toNatClampNeg) 0) (8 * ((31 - v3) &&& 3)))))) → Aw G mX5_write (d + 1) t h0 Φ 2 [vR v0, vR v1, vI v2, vI (v3 + 1)] [] h8))) : Aw G mX5_write (d + 1) t h0 Φ 2 [vR v0, vR v1, vI v2, vI v3] [] h := by
  refine r_iload_n (pc := 2) dX5_write_2 rfl ?_
  refine r_bipush (pc := 3) (x := 32) dX5_write_3 rfl ?_
  refine r_icmp_ge (pc := 5) (tgt := 41) dX5_write_5 rfl (fun c1 => ?_) (fun c1 => ?_)
  · have K := K.1 c1
    exact r_vret (pc := 41) rfl dX5_write_41 K
  · have K := K.2 c1
    refine r_aload_n (pc := 8) dX5_write_8 rfl ?_
    refine r_iload_n (pc := 9) dX5_write_9 rfl ?_
    refine r_iload_n (pc := 10) dX5_write_10 rfl ?_
    refine r_iadd (pc := 11) dX5_write_11 ?_
    refine r_aload_n (pc := 12) dX5_write_12 rfl ?_
    obtain ⟨hk2, K⟩ := K
    have K := K _ rfl
    refine r_getr' (pc := 13) (T := TX5) 5 0 rfl hk2 (Or.inl q299) dX5_write_13 kc5 g5000 ?_
    refine r_bipush (pc := 16) (x := 31) dX5_write_16 rfl ?_
    refine r_iload_n (pc := 18) dX5_write_18 rfl ?_
    refine r_isub (pc := 19) dX5_write_19 ?_
    refine r_iconst (pc := 20) (x := 2) dX5_write_20 rfl ?_
    refine r_jshr (pc := 21) dX5_write_21 ?_
    obtain ⟨hk4, K⟩ := K
    obtain ⟨hi5, K⟩ := K
    refine r_iaload (pc := 22) hk4 hi5 dX5_write_22 ?_
    refine r_bipush (pc := 23) (x := 8) dX5_write_23 rfl ?_
    refine r_bipush (pc := 25) (x := 31) dX5_write_25 rfl ?_
    refine r_iload_n (pc := 27) dX5_write_27 rfl ?_
    refine r_isub (pc := 28) dX5_write_28 ?_
    refine r_iconst (pc := 29) (x := 3) dX5_write_29 rfl ?_
    refine r_iand (pc := 30) dX5_write_30 ?_
    refine r_imul (pc := 31) dX5_write_31 ?_
    refine r_jshr (pc := 32) dX5_write_32 ?_
    refine r_ji2b (pc := 33) dX5_write_33 ?_
    obtain ⟨hk6, K⟩ := K
    obtain ⟨hi7, K⟩ := K
    refine r_jbast (pc := 34) hk6 hi7 (Or.inl (em rfl)) dX5_write_34 ?_
    refine r_nameH (fun h8 eh8 => ?_)
    have K := K h8 eh8
    refine r_iinc (pc := 35) (lv' := [_, _, _, _]) dX5_write_35 rfl rfl (by decide) rfl ?_
    refine r_goto (pc := 38) (tgt := 2) dX5_write_38 rfl ?_
    refine r_mask (pc := 2) [true, true, true, true] rfl ?_
    exact K
theorem dX5_read_0 : decode cX5_read 0 = .ok (.aload_n 0, 1) := by decide +kernel
theorem dX5_read_1 : decode cX5_read 1 = .ok (.invokevirtual 15, 3) := by decide +kernel
theorem dX5_read_4 : decode cX5_read 4 = .ok (.pop, 1) := by decide +kernel
theorem dX5_read_5 : decode cX5_read 5 = .ok (.iconst 0, 1) := by decide +kernel
theorem dX5_read_6 : decode cX5_read 6 = .ok (.istore 4, 2) := by decide +kernel
theorem dX5_read_8 : decode cX5_read 8 = .ok (.iload 4, 2) := by decide +kernel
theorem dX5_read_10 : decode cX5_read 10 = .ok (.iload_n 3, 1) := by decide +kernel
theorem dX5_read_11 : decode cX5_read 11 = .ok (.if_icmp .ge 47, 3) := by decide +kernel
theorem dX5_read_14 : decode cX5_read 14 = .ok (.iload_n 3, 1) := by decide +kernel
theorem dX5_read_15 : decode cX5_read 15 = .ok (.iconst 1, 1) := by decide +kernel
theorem dX5_read_16 : decode cX5_read 16 = .ok (.isub, 1) := by decide +kernel
theorem dX5_read_17 : decode cX5_read 17 = .ok (.iload 4, 2) := by decide +kernel
theorem dX5_read_19 : decode cX5_read 19 = .ok (.isub, 1) := by decide +kernel
theorem dX5_read_20 : decode cX5_read 20 = .ok (.istore 5, 2) := by decide +kernel
theorem dX5_read_22 : decode cX5_read 22 = .ok (.aload_n 0, 1) := by decide +kernel
theorem dX5_read_23 : decode cX5_read 23 = .ok (.getfield 9, 3) := by decide +kernel
theorem dX5_read_26 : decode cX5_read 26 = .ok (.iload 5, 2) := by decide +kernel
theorem dX5_read_28 : decode cX5_read 28 = .ok (.iconst 2, 1) := by decide +kernel
theorem dX5_read_29 : decode cX5_read 29 = .ok (.ishr, 1) := by decide +kernel
theorem dX5_read_30 : decode cX5_read 30 = .ok (.dup2, 1) := by decide +kernel
theorem dX5_read_31 : decode cX5_read 31 = .ok (.iaload, 1) := by decide +kernel
theorem dX5_read_32 : decode cX5_read 32 = .ok (.aload_n 1, 1) := by decide +kernel
theorem dX5_read_33 : decode cX5_read 33 = .ok (.iload_n 2, 1) := by decide +kernel
theorem dX5_read_34 : decode cX5_read 34 = .ok (.iload 4, 2) := by decide +kernel
theorem dX5_read_36 : decode cX5_read 36 = .ok (.iadd, 1) := by decide +kernel
theorem dX5_read_37 : decode cX5_read 37 = .ok (.baload, 1) := by decide +kernel
theorem dX5_read_38 : decode cX5_read 38 = .ok (.sipush 255, 3) := by decide +kernel
theorem dX5_read_41 : decode cX5_read 41 = .ok (.iand, 1) := by decide +kernel
theorem dX5_read_42 : decode cX5_read 42 = .ok (.bipush 8, 2) := by decide +kernel
theorem dX5_read_44 : decode cX5_read 44 = .ok (.iload 5, 2) := by decide +kernel
theorem dX5_read_46 : decode cX5_read 46 = .ok (.iconst 3, 1) := by decide +kernel
theorem dX5_read_47 : decode cX5_read 47 = .ok (.iand, 1) := by decide +kernel
theorem dX5_read_48 : decode cX5_read 48 = .ok (.imul, 1) := by decide +kernel
theorem dX5_read_49 : decode cX5_read 49 = .ok (.ishl, 1) := by decide +kernel
theorem dX5_read_50 : decode cX5_read 50 = .ok (.ior, 1) := by decide +kernel
theorem dX5_read_51 : decode cX5_read 51 = .ok (.iastore, 1) := by decide +kernel
theorem dX5_read_52 : decode cX5_read 52 = .ok (.iinc 4 1, 3) := by decide +kernel
theorem dX5_read_55 : decode cX5_read 55 = .ok (.goto (-47), 3) := by decide +kernel
theorem dX5_read_58 : decode cX5_read 58 = .ok (.aload_n 0, 1) := by decide +kernel
theorem dX5_read_59 : decode cX5_read 59 = .ok (.areturn, 1) := by decide +kernel
/-! CoinJudge$Big.read([BII)LCoinJudge$Big; -/
set_option maxHeartbeats 4000000 in
theorem sX5_read_0 {G : Gx} {d t : Nat} {h0 : AH} {Φ : Out → AH → Prop} (h : AH) (v0 : Nat) (v1 : Nat) (v2 : Int32) (v3 : Int32) (K : h.kd v0 = 5 ∧ Cw G mX5_zero d 0 [vR v0] h (kR (fun x1 h2 => Aw G mX5_read (d + 1) t h0 Φ 8 [vR v0, vR v1, vI v2, vI v3, vI 0, vU] [] h2) (fun x h => Φ (.inr x) h))) : Aw G mX5_read (d + 1) t h0 Φ 0 [vR v0, vR v1, vI v2, vI v3, vU, vU] [] h := by
  refine r_aload_n (pc := 0) dX5_read_0 rfl ?_
  obtain ⟨hk3, K⟩ := K
  refine r_callV_R (pc := 1) (Y := mX5_zero) (vs := []) (st := []) hk3 rfl kc5 q311 q312 q313 dX5_read_1 rfl cd_X5_zero rfl rfl fp_X5_read_X5_zero K (fun x1 h2 eh2 wh2 K => ?_) (fun x h1 _ _ e => Tw.out rfl e)
  refine r_pop (pc := 4) rfl dX5_read_4 ?_
  refine r_iconst (pc := 5) (x := 0) dX5_read_5 rfl ?_
  refine r_istore (pc := 6) (lv' := [_, _, _, _, _, _]) dX5_read_6 (by decide) rfl ?_
  refine r_mask (pc := 8) [true, true, true, true, true, false] rfl ?_
  exact K
theorem eX5_read {G : Gx} {d : Nat} {Φ : Out → AH → Prop} (h : AH) (v0 : Nat) (v1 : Nat) (v2 : Int32) (v3 : Int32) (K : WF G h → Aw G mX5_read (d + 1) 0 h Φ 0 [vR v0, vR v1, vI v2, vI v3, vU, vU] [] h) : Cw G mX5_read (d + 1) 0 [vR v0, vR v1, vI v2, vI v3] h Φ := Cw.of rfl K
set_option maxHeartbeats 4000000 in
theorem sX5_read_8 {G : Gx} {d t : Nat} {h0 : AH} {Φ : Out → AH → Prop} (h : AH) (v0 : Nat) (v1 : Nat) (v2 : Int32) (v3 : Int32) (v4 : Int32) (K : ((v3 ≤ v4 → Φ (.inl (some (vR v0))) h) ∧ (¬ v3 ≤ v4 → h.kd v0 = 5 ∧ ∀ r3 : Nat, r3 = (h.r 5000 v0) → h.kd r3 = 100 ∧ vp_in (jshr ((v3 - 1) - v4) 2) (h.ai r3).length ∧ h.kd v1 = 101 ∧ vp_in (v2 + v4) (h.ai v1).length ∧ vp_in (jshr ((v3 - 1) - v4) 2) (h.ai r3).length ∧ ∀ h9 : AH, h9 = h.wi r3 ((h.ai r3).set ((jshr ((v3 - 1) - v4) 2).toNatClampNeg) (((h.ai r3).getD ((jshr ((v3 - 1) - v4) 2).toNatClampNeg) 0) ||| (jshl (((h.ai v1).getD ((v2 + v4).toNatClampNeg) 0) &&& 255) (8 * (((v3 - 1) - v4) &&& 3))))) → Aw G mX5_read (d + 1) t h0 Φ 8 [vR v0, vR v1, vI v2, vI v3, vI (v4 + 1), vU] [] h9))) : Aw G mX5_read (d + 1) t h0 Φ 8 [vR v0, vR v1, vI v2, vI v3, vI v4, vU] [] h := by
  refine r_iload (pc := 8) dX5_read_8 rfl ?_
  refine r_iload_n (pc := 10) dX5_read_10 rfl ?_
  refine r_icmp_ge (pc := 11) (tgt := 58) dX5_read_11 rfl (fun c1 => ?_) (fun c1 => ?_)
  · have K := K.1 c1
    refine r_aload_n (pc := 58) dX5_read_58 rfl ?_
    exact r_aret (pc := 59) rfl rfl dX5_read_59 K
  · have K := K.2 c1
    refine r_iload_n (pc := 14) dX5_read_14 rfl ?_
    refine r_iconst (pc := 15) (x := 1) dX5_read_15 rfl ?_
    refine r_isub (pc := 16) dX5_read_16 ?_
    refine r_iload (pc := 17) dX5_read_17 rfl ?_
    refine r_isub (pc := 19) dX5_read_19 ?_
    refine r_istore (pc := 20) (lv' := [_, _, _, _, _, _]) dX5_read_20 (by decide) rfl ?_
    refine r_aload_n (pc := 22) dX5_read_22 rfl ?_
    obtain ⟨hk2, K⟩ := K
    have K := K _ rfl
    refine r_getr' (pc := 23) (T := TX5) 5 0 rfl hk2 (Or.inl q299) dX5_read_23 kc5 g5000 ?_
    refine r_iload (pc := 26) dX5_read_26 rfl ?_
    refine r_iconst (pc := 28) (x := 2) dX5_read_28 rfl ?_
    refine r_jshr (pc := 29) dX5_read_29 ?_
    refine r_dup2 (pc := 30) rfl rfl dX5_read_30 ?_
    obtain ⟨hk4, K⟩ := K
    obtain ⟨hi5, K⟩ := K
    refine r_iaload (pc := 31) hk4 hi5 dX5_read_31 ?_
    refine r_aload_n (pc := 32) dX5_read_32 rfl ?_
    refine r_iload_n (pc := 33) dX5_read_33 rfl ?_
    refine r_iload (pc := 34) dX5_read_34 rfl ?_
    refine r_iadd (pc := 36) dX5_read_36 ?_
    obtain ⟨hk6, K⟩ := K
    obtain ⟨hi7, K⟩ := K
    refine r_baload (pc := 37) hk6 hi7 dX5_read_37 ?_
    refine r_sipush (pc := 38) (x := 255) dX5_read_38 rfl ?_
    refine r_iand (pc := 41) dX5_read_41 ?_
    refine r_bipush (pc := 42) (x := 8) dX5_read_42 rfl ?_
    refine r_iload (pc := 44) dX5_read_44 rfl ?_
    refine r_iconst (pc := 46) (x := 3) dX5_read_46 rfl ?_
    refine r_iand (pc := 47) dX5_read_47 ?_
    refine r_imul (pc := 48) dX5_read_48 ?_
    refine r_jshl (pc := 49) dX5_read_49 ?_
    refine r_ior (pc := 50) dX5_read_50 ?_
    obtain ⟨hi8, K⟩ := K
    refine r_iastore (pc := 51) hk4 hi8 (Or.inl (em rfl)) dX5_read_51 ?_
    refine r_nameH (fun h9 eh9 => ?_)
    have K := K h9 eh9
    refine r_iinc (pc := 52) (lv' := [_, _, _, _, _, _]) dX5_read_52 rfl rfl (by decide) rfl ?_
    refine r_goto (pc := 55) (tgt := 8) dX5_read_55 rfl ?_
    refine r_mask (pc := 8) [true, true, true, true, true, false] rfl ?_
    exact K
theorem dX5_turned_0 : decode cX5_turned 0 = .ok (.aload_n 0, 1) := by decide +kernel
theorem dX5_turned_1 : decode cX5_turned 1 = .ok (.invokevirtual 15, 3) := by decide +kernel
theorem dX5_turned_4 : decode cX5_turned 4 = .ok (.pop, 1) := by decide +kernel
theorem dX5_turned_5 : decode cX5_turned 5 = .ok (.iconst 0, 1) := by decide +kernel
theorem dX5_turned_6 : decode cX5_turned 6 = .ok (.istore_n 3, 1) := by decide +kernel
theorem dX5_turned_7 : decode cX5_turned 7 = .ok (.iload_n 3, 1) := by decide +kernel
theorem dX5_turned_8 : decode cX5_turned 8 = .ok (.bipush 32, 2) := by decide +kernel
theorem dX5_turned_10 : decode cX5_turned 10 = .ok (.if_icmp .ge 36, 3) := by decide +kernel
theorem dX5_turned_13 : decode cX5_turned 13 = .ok (.aload_n 0, 1) := by decide +kernel
theorem dX5_turned_14 : decode cX5_turned 14 = .ok (.getfield 9, 3) := by decide +kernel
theorem dX5_turned_17 : decode cX5_turned 17 = .ok (.iload_n 3, 1) := by decide +kernel
theorem dX5_turned_18 : decode cX5_turned 18 = .ok (.iconst 2, 1) := by decide +kernel
theorem dX5_turned_19 : decode cX5_turned 19 = .ok (.ishr, 1) := by decide +kernel
theorem dX5_turned_20 : decode cX5_turned 20 = .ok (.dup2, 1) := by decide +kernel
theorem dX5_turned_21 : decode cX5_turned 21 = .ok (.iaload, 1) := by decide +kernel
theorem dX5_turned_22 : decode cX5_turned 22 = .ok (.aload_n 1, 1) := by decide +kernel
theorem dX5_turned_23 : decode cX5_turned 23 = .ok (.iload_n 2, 1) := by decide +kernel
theorem dX5_turned_24 : decode cX5_turned 24 = .ok (.iload_n 3, 1) := by decide +kernel
theorem dX5_turned_25 : decode cX5_turned 25 = .ok (.iadd, 1) := by decide +kernel
theorem dX5_turned_26 : decode cX5_turned 26 = .ok (.baload, 1) := by decide +kernel
theorem dX5_turned_27 : decode cX5_turned 27 = .ok (.sipush 255, 3) := by decide +kernel
theorem dX5_turned_30 : decode cX5_turned 30 = .ok (.iand, 1) := by decide +kernel
theorem dX5_turned_31 : decode cX5_turned 31 = .ok (.bipush 8, 2) := by decide +kernel
theorem dX5_turned_33 : decode cX5_turned 33 = .ok (.iload_n 3, 1) := by decide +kernel
theorem dX5_turned_34 : decode cX5_turned 34 = .ok (.iconst 3, 1) := by decide +kernel
theorem dX5_turned_35 : decode cX5_turned 35 = .ok (.iand, 1) := by decide +kernel
theorem dX5_turned_36 : decode cX5_turned 36 = .ok (.imul, 1) := by decide +kernel
theorem dX5_turned_37 : decode cX5_turned 37 = .ok (.ishl, 1) := by decide +kernel
theorem dX5_turned_38 : decode cX5_turned 38 = .ok (.ior, 1) := by decide +kernel
theorem dX5_turned_39 : decode cX5_turned 39 = .ok (.iastore, 1) := by decide +kernel
theorem dX5_turned_40 : decode cX5_turned 40 = .ok (.iinc 3 1, 3) := by decide +kernel
theorem dX5_turned_43 : decode cX5_turned 43 = .ok (.goto (-36), 3) := by decide +kernel
theorem dX5_turned_46 : decode cX5_turned 46 = .ok (.aload_n 0, 1) := by decide +kernel
theorem dX5_turned_47 : decode cX5_turned 47 = .ok (.areturn, 1) := by decide +kernel
/-! CoinJudge$Big.turned([BI)LCoinJudge$Big; -/
set_option maxHeartbeats 4000000 in
theorem sX5_turned_0 {G : Gx} {d t : Nat} {h0 : AH} {Φ : Out → AH → Prop} (h : AH) (v0 : Nat) (v1 : Nat) (v2 : Int32) (K : h.kd v0 = 5 ∧ Cw G mX5_zero d 0 [vR v0] h (kR (fun x1 h2 => Aw G mX5_turned (d + 1) t h0 Φ 7 [vR v0, vR v1, vI v2, vI 0] [] h2) (fun x h => Φ (.inr x) h))) : Aw G mX5_turned (d + 1) t h0 Φ 0 [vR v0, vR v1, vI v2, vU] [] h := by
  refine r_aload_n (pc := 0) dX5_turned_0 rfl ?_
  obtain ⟨hk3, K⟩ := K
  refine r_callV_R (pc := 1) (Y := mX5_zero) (vs := []) (st := []) hk3 rfl kc5 q311 q312 q313 dX5_turned_1 rfl cd_X5_zero rfl rfl fp_X5_turned_X5_zero K (fun x1 h2 eh2 wh2 K => ?_) (fun x h1 _ _ e => Tw.out rfl e)
  refine r_pop (pc := 4) rfl dX5_turned_4 ?_
  refine r_iconst (pc := 5) (x := 0) dX5_turned_5 rfl ?_
  refine r_istore_n (pc := 6) (lv' := [_, _, _, _]) dX5_turned_6 (by decide) rfl ?_
  refine r_mask (pc := 7) [true, true, true, true] rfl ?_
  exact K
theorem eX5_turned {G : Gx} {d : Nat} {Φ : Out → AH → Prop} (h : AH) (v0 : Nat) (v1 : Nat) (v2 : Int32) (K : WF G h → Aw G mX5_turned (d + 1) 0 h Φ 0 [vR v0, vR v1, vI v2, vU] [] h) : Cw G mX5_turned (d + 1) 0 [vR v0, vR v1, vI v2] h Φ := Cw.of rfl K
set_option maxHeartbeats 4000000 in
theorem sX5_turned_7 {G : Gx} {d t : Nat} {h0 : AH} {Φ : Out → AH → Prop} (h : AH) (v0 : Nat) (v1 : Nat) (v2 : Int32) (v3 : Int32) (K : ((32 ≤ v3 → Φ (.inl (some (vR v0))) h) ∧ (¬ 32 ≤ v3 → h.kd v0 = 5 ∧ ∀ r3 : Nat, r3 = (h.r 5000 v0) → h.kd r3 = 100 ∧ vp_in (jshr v3 2) (h.ai r3).length ∧ h.kd v1 = 101 ∧ vp_in (v2 + v3) (h.ai v1).length ∧ vp_in (jshr v3 2) (h.ai r3).length ∧ ∀ h9 : AH, h9 = h.wi r3 ((h.ai r3).set ((jshr v3 2).toNatClampNeg) (((h.ai r3).getD ((jshr v3 2).toNatClampNeg) 0) ||| (jshl (((h.ai v1).getD ((v2 + v3).toNatClampNeg) 0) &&& 255) (8 * (v3 &&& 3))))) → Aw G mX5_turned (d + 1) t h0 Φ 7 [vR v0, vR v1, vI v2, vI (v3 + 1)] [] h9))) : Aw G mX5_turned (d + 1) t h0 Φ 7 [vR v0, vR v1, vI v2, vI v3] [] h := by
  refine r_iload_n (pc := 7) dX5_turned_7 rfl ?_
  refine r_bipush (pc := 8) (x := 32) dX5_turned_8 rfl ?_
  refine r_icmp_ge (pc := 10) (tgt := 46) dX5_turned_10 rfl (fun c1 => ?_) (fun c1 => ?_)
  · have K := K.1 c1
    refine r_aload_n (pc := 46) dX5_turned_46 rfl ?_
    exact r_aret (pc := 47) rfl rfl dX5_turned_47 K
  · have K := K.2 c1
    refine r_aload_n (pc := 13) dX5_turned_13 rfl ?_
    obtain ⟨hk2, K⟩ := K
    have K := K _ rfl
    refine r_getr' (pc := 14) (T := TX5) 5 0 rfl hk2 (Or.inl q299) dX5_turned_14 kc5 g5000 ?_
    refine r_iload_n (pc := 17) dX5_turned_17 rfl ?_
    refine r_iconst (pc := 18) (x := 2) dX5_turned_18 rfl ?_
    refine r_jshr (pc := 19) dX5_turned_19 ?_
    refine r_dup2 (pc := 20) rfl rfl dX5_turned_20 ?_
    obtain ⟨hk4, K⟩ := K
    obtain ⟨hi5, K⟩ := K
    refine r_iaload (pc := 21) hk4 hi5 dX5_turned_21 ?_
    refine r_aload_n (pc := 22) dX5_turned_22 rfl ?_
    refine r_iload_n (pc := 23) dX5_turned_23 rfl ?_
    refine r_iload_n (pc := 24) dX5_turned_24 rfl ?_
    refine r_iadd (pc := 25) dX5_turned_25 ?_
    obtain ⟨hk6, K⟩ := K
    obtain ⟨hi7, K⟩ := K
    refine r_baload (pc := 26) hk6 hi7 dX5_turned_26 ?_
    refine r_sipush (pc := 27) (x := 255) dX5_turned_27 rfl ?_
    refine r_iand (pc := 30) dX5_turned_30 ?_
    refine r_bipush (pc := 31) (x := 8) dX5_turned_31 rfl ?_
    refine r_iload_n (pc := 33) dX5_turned_33 rfl ?_
    refine r_iconst (pc := 34) (x := 3) dX5_turned_34 rfl ?_
    refine r_iand (pc := 35) dX5_turned_35 ?_
    refine r_imul (pc := 36) dX5_turned_36 ?_
    refine r_jshl (pc := 37) dX5_turned_37 ?_
    refine r_ior (pc := 38) dX5_turned_38 ?_
    obtain ⟨hi8, K⟩ := K
    refine r_iastore (pc := 39) hk4 hi8 (Or.inl (em rfl)) dX5_turned_39 ?_
    refine r_nameH (fun h9 eh9 => ?_)
    have K := K h9 eh9
    refine r_iinc (pc := 40) (lv' := [_, _, _, _]) dX5_turned_40 rfl rfl (by decide) rfl ?_
    refine r_goto (pc := 43) (tgt := 7) dX5_turned_43 rfl ?_
    refine r_mask (pc := 7) [true, true, true, true] rfl ?_
    exact K
theorem dX5_up_0 : decode cX5_up 0 = .ok (.bipush 7, 2) := by decide +kernel
theorem dX5_up_2 : decode cX5_up 2 = .ok (.istore_n 1, 1) := by decide +kernel
theorem dX5_up_3 : decode cX5_up 3 = .ok (.iload_n 1, 1) := by decide +kernel
theorem dX5_up_4 : decode cX5_up 4 = .ok (.ifCond .le 35, 3) := by decide +kernel
theorem dX5_up_7 : decode cX5_up 7 = .ok (.aload_n 0, 1) := by decide +kernel
theorem dX5_up_8 : decode cX5_up 8 = .ok (.getfield 9, 3) := by decide +kernel
theorem dX5_up_11 : decode cX5_up 11 = .ok (.iload_n 1, 1) := by decide +kernel
theorem dX5_up_12 : decode cX5_up 12 = .ok (.aload_n 0, 1) := by decide +kernel
theorem dX5_up_13 : decode cX5_up 13 = .ok (.getfield 9, 3) := by decide +kernel
theorem dX5_up_16 : decode cX5_up 16 = .ok (.iload_n 1, 1) := by decide +kernel
theorem dX5_up_17 : decode cX5_up 17 = .ok (.iaload, 1) := by decide +kernel
theorem dX5_up_18 : decode cX5_up 18 = .ok (.iconst 1, 1) := by decide +kernel
theorem dX5_up_19 : decode cX5_up 19 = .ok (.ishl, 1) := by decide +kernel
theorem dX5_up_20 : decode cX5_up 20 = .ok (.aload_n 0, 1) := by decide +kernel
theorem dX5_up_21 : decode cX5_up 21 = .ok (.getfield 9, 3) := by decide +kernel
theorem dX5_up_24 : decode cX5_up 24 = .ok (.iload_n 1, 1) := by decide +kernel
theorem dX5_up_25 : decode cX5_up 25 = .ok (.iconst 1, 1) := by decide +kernel
theorem dX5_up_26 : decode cX5_up 26 = .ok (.isub, 1) := by decide +kernel
theorem dX5_up_27 : decode cX5_up 27 = .ok (.iaload, 1) := by decide +kernel
theorem dX5_up_28 : decode cX5_up 28 = .ok (.bipush 31, 2) := by decide +kernel
theorem dX5_up_30 : decode cX5_up 30 = .ok (.iushr, 1) := by decide +kernel
theorem dX5_up_31 : decode cX5_up 31 = .ok (.ior, 1) := by decide +kernel
theorem dX5_up_32 : decode cX5_up 32 = .ok (.iastore, 1) := by decide +kernel
theorem dX5_up_33 : decode cX5_up 33 = .ok (.iinc 1 (-1), 3) := by decide +kernel
theorem dX5_up_36 : decode cX5_up 36 = .ok (.goto (-33), 3) := by decide +kernel
theorem dX5_up_39 : decode cX5_up 39 = .ok (.aload_n 0, 1) := by decide +kernel
theorem dX5_up_40 : decode cX5_up 40 = .ok (.getfield 9, 3) := by decide +kernel
theorem dX5_up_43 : decode cX5_up 43 = .ok (.iconst 0, 1) := by decide +kernel
theorem dX5_up_44 : decode cX5_up 44 = .ok (.dup2, 1) := by decide +kernel
theorem dX5_up_45 : decode cX5_up 45 = .ok (.iaload, 1) := by decide +kernel
theorem dX5_up_46 : decode cX5_up 46 = .ok (.iconst 1, 1) := by decide +kernel
theorem dX5_up_47 : decode cX5_up 47 = .ok (.ishl, 1) := by decide +kernel
theorem dX5_up_48 : decode cX5_up 48 = .ok (.iastore, 1) := by decide +kernel
theorem dX5_up_49 : decode cX5_up 49 = .ok (.return_, 1) := by decide +kernel
/-! CoinJudge$Big.up()V -/
set_option maxHeartbeats 4000000 in
theorem sX5_up_0 {G : Gx} {d t : Nat} {h0 : AH} {Φ : Out → AH → Prop} (h : AH) (v0 : Nat) (K : Aw G mX5_up (d + 1) t h0 Φ 3 [vR v0, vI 7] [] h) : Aw G mX5_up (d + 1) t h0 Φ 0 [vR v0, vU] [] h := by
  refine r_bipush (pc := 0) (x := 7) dX5_up_0 rfl ?_
  refine r_istore_n (pc := 2) (lv' := [_, _]) dX5_up_2 (by decide) rfl ?_
  refine r_mask (pc := 3) [true, true] rfl ?_
  exact K
theorem eX5_up {G : Gx} {d : Nat} {Φ : Out → AH → Prop} (h : AH) (v0 : Nat) (K : WF G h → Aw G mX5_up (d + 1) 0 h Φ 0 [vR v0, vU] [] h) : Cw G mX5_up (d + 1) 0 [vR v0] h Φ := Cw.of rfl K
set_option maxHeartbeats 4000000 in
theorem sX5_up_3 {G : Gx} {d t : Nat} {h0 : AH} {Φ : Out → AH → Prop} (h : AH) (v0 : Nat) (v1 : Int32) (K : ((v1 ≤ 0 → h.kd v0 = 5 ∧ ∀ r3 : Nat, r3 = (h.r 5000 v0) → h.kd r3 = 100 ∧ vp_in 0 (h.ai r3).length ∧ vp_in 0 (h.ai r3).length ∧ ∀ h7 : AH, h7 = h.wi r3 ((h.ai r3).set ((0 : Int32).toNatClampNeg) (jshl ((h.ai r3).getD ((0 : Int32).toNatClampNeg) 0) 1)) → Φ (.inl none) h7) ∧ (¬ v1 ≤ 0 → h.kd v0 = 5 ∧ ∀ r9 : Nat, r9 = (h.r 5000 v0) → h.kd r9 = 100 ∧ vp_in v1 (h.ai r9).length ∧ vp_in (v1 - 1) (h.ai r9).length ∧ vp_in v1 (h.ai r9).length ∧ ∀ h14 : AH, h14 = h.wi r9 ((h.ai r9).set (v1.toNatClampNeg) ((jshl ((h.ai r9).getD (v1.toNatClampNeg) 0) 1) ||| (jushr ((h.ai r9).getD ((v1 - 1).toNatClampNeg) 0) 31))) → Aw G mX5_up (d + 1) t h0 Φ 3 [vR v0, vI (v1 + (-1))] [] h14))) : Aw G mX5_up (d + 1) t h0 Φ 3 [vR v0, vI v1] [] h := by
  refine r_iload_n (pc := 3) dX5_up_3 rfl ?_
  refine r_if_le (pc := 4) (tgt := 39) dX5_up_4 rfl (fun c1 => ?_) (fun c1 => ?_)
  · have K := K.1 c1
    refine r_aload_n (pc := 39) dX5_up_39 rfl ?_
    obtain ⟨hk2, K⟩ := K
    have K := K _ rfl
    refine r_getr' (pc := 40) (T := TX5) 5 0 rfl hk2 (Or.inl q299) dX5_up_40 kc5 g5000 ?_
    refine r_iconst (pc := 43) (x := 0) dX5_up_43 rfl ?_
    refine r_dup2 (pc := 44) rfl rfl dX5_up_44 ?_
    obtain ⟨hk4, K⟩ := K
    obtain ⟨hi5, K⟩ := K
    refine r_iaload (pc := 45) hk4 hi5 dX5_up_45 ?_
    refine r_iconst (pc := 46) (x := 1) dX5_up_46 rfl ?_
    refine r_jshl (pc := 47) dX5_up_47 ?_
    obtain ⟨hi6, K⟩ := K
    refine r_iastore (pc := 48) hk4 hi6 (Or.inl (em rfl)) dX5_up_48 ?_
    refine r_nameH (fun h7 eh7 => ?_)
    have K := K h7 eh7
    exact r_vret (pc := 49) rfl dX5_up_49 K
  · have K := K.2 c1
    refine r_aload_n (pc := 7) dX5_up_7 rfl ?_
    obtain ⟨hk8, K⟩ := K
    have K := K _ rfl
    refine r_getr' (pc := 8) (T := TX5) 5 0 rfl hk8 (Or.inl q299) dX5_up_8 kc5 g5000 ?_
    refine r_iload_n (pc := 11) dX5_up_11 rfl ?_
    refine r_aload_n (pc := 12) dX5_up_12 rfl ?_
    refine r_getr' (pc := 13) (T := TX5) 5 0 rfl hk8 (Or.inl q299) dX5_up_13 kc5 g5000 ?_
    refine r_iload_n (pc := 16) dX5_up_16 rfl ?_
    obtain ⟨hk10, K⟩ := K
    obtain ⟨hi11, K⟩ := K
    refine r_iaload (pc := 17) hk10 hi11 dX5_up_17 ?_
    refine r_iconst (pc := 18) (x := 1) dX5_up_18 rfl ?_
    refine r_jshl (pc := 19) dX5_up_19 ?_
    refine r_aload_n (pc := 20) dX5_up_20 rfl ?_
    refine r_getr' (pc := 21) (T := TX5) 5 0 rfl hk8 (Or.inl q299) dX5_up_21 kc5 g5000 ?_
    refine r_iload_n (pc := 24) dX5_up_24 rfl ?_
    refine r_iconst (pc := 25) (x := 1) dX5_up_25 rfl ?_
    refine r_isub (pc := 26) dX5_up_26 ?_
    obtain ⟨hi12, K⟩ := K
    refine r_iaload (pc := 27) hk10 hi12 dX5_up_27 ?_
    refine r_bipush (pc := 28) (x := 31) dX5_up_28 rfl ?_
    refine r_jushr (pc := 30) dX5_up_30 ?_
    refine r_ior (pc := 31) dX5_up_31 ?_
    obtain ⟨hi13, K⟩ := K
    refine r_iastore (pc := 32) hk10 hi13 (Or.inl (em rfl)) dX5_up_32 ?_
    refine r_nameH (fun h14 eh14 => ?_)
    have K := K h14 eh14
    refine r_iinc (pc := 33) (lv' := [_, _]) dX5_up_33 rfl rfl (by decide) rfl ?_
    refine r_goto (pc := 36) (tgt := 3) dX5_up_36 rfl ?_
    refine r_mask (pc := 3) [true, true] rfl ?_
    exact K
theorem dX5_divide_0 : decode cX5_divide 0 = .ok (.new 10, 3) := by decide +kernel
theorem dX5_divide_3 : decode cX5_divide 3 = .ok (.dup, 1) := by decide +kernel
theorem dX5_divide_4 : decode cX5_divide 4 = .ok (.invokespecial 40, 3) := by decide +kernel
theorem dX5_divide_7 : decode cX5_divide 7 = .ok (.astore_n 3, 1) := by decide +kernel
theorem dX5_divide_8 : decode cX5_divide 8 = .ok (.new 10, 3) := by decide +kernel
theorem dX5_divide_11 : decode cX5_divide 11 = .ok (.dup, 1) := by decide +kernel
theorem dX5_divide_12 : decode cX5_divide 12 = .ok (.invokespecial 40, 3) := by decide +kernel
theorem dX5_divide_15 : decode cX5_divide 15 = .ok (.astore 4, 2) := by decide +kernel
theorem dX5_divide_17 : decode cX5_divide 17 = .ok (.sipush 255, 3) := by decide +kernel
theorem dX5_divide_20 : decode cX5_divide 20 = .ok (.istore 5, 2) := by decide +kernel
theorem dX5_divide_22 : decode cX5_divide 22 = .ok (.iload 5, 2) := by decide +kernel
theorem dX5_divide_24 : decode cX5_divide 24 = .ok (.ifCond .lt 89, 3) := by decide +kernel
theorem dX5_divide_27 : decode cX5_divide 27 = .ok (.aload_n 3, 1) := by decide +kernel
theorem dX5_divide_28 : decode cX5_divide 28 = .ok (.sipush 255, 3) := by decide +kernel
theorem dX5_divide_31 : decode cX5_divide 31 = .ok (.invokevirtual 41, 3) := by decide +kernel
theorem dX5_divide_34 : decode cX5_divide 34 = .ok (.iconst 1, 1) := by decide +kernel
theorem dX5_divide_35 : decode cX5_divide 35 = .ok (.if_icmp .ne 7, 3) := by decide +kernel
theorem dX5_divide_38 : decode cX5_divide 38 = .ok (.iconst 1, 1) := by decide +kernel
theorem dX5_divide_39 : decode cX5_divide 39 = .ok (.goto 4, 3) := by decide +kernel
theorem dX5_divide_42 : decode cX5_divide 42 = .ok (.iconst 0, 1) := by decide +kernel
theorem dX5_divide_43 : decode cX5_divide 43 = .ok (.istore 6, 2) := by decide +kernel
theorem dX5_divide_45 : decode cX5_divide 45 = .ok (.aload_n 3, 1) := by decide +kernel
theorem dX5_divide_46 : decode cX5_divide 46 = .ok (.invokevirtual 33, 3) := by decide +kernel
theorem dX5_divide_49 : decode cX5_divide 49 = .ok (.aload_n 3, 1) := by decide +kernel
theorem dX5_divide_50 : decode cX5_divide 50 = .ok (.getfield 9, 3) := by decide +kernel
theorem dX5_divide_53 : decode cX5_divide 53 = .ok (.iconst 0, 1) := by decide +kernel
theorem dX5_divide_54 : decode cX5_divide 54 = .ok (.dup2, 1) := by decide +kernel
theorem dX5_divide_55 : decode cX5_divide 55 = .ok (.iaload, 1) := by decide +kernel
theorem dX5_divide_56 : decode cX5_divide 56 = .ok (.aload_n 1, 1) := by decide +kernel
theorem dX5_divide_57 : decode cX5_divide 57 = .ok (.iload 5, 2) := by decide +kernel
theorem dX5_divide_59 : decode cX5_divide 59 = .ok (.invokevirtual 41, 3) := by decide +kernel
theorem dX5_divide_62 : decode cX5_divide 62 = .ok (.ior, 1) := by decide +kernel
theorem dX5_divide_63 : decode cX5_divide 63 = .ok (.iastore, 1) := by decide +kernel
theorem dX5_divide_64 : decode cX5_divide 64 = .ok (.iload 6, 2) := by decide +kernel
theorem dX5_divide_66 : decode cX5_divide 66 = .ok (.ifCond .ne 14, 3) := by decide +kernel
theorem dX5_divide_69 : decode cX5_divide 69 = .ok (.aload_n 3, 1) := by decide +kernel
theorem dX5_divide_70 : decode cX5_divide 70 = .ok (.aload_n 2, 1) := by decide +kernel
theorem dX5_divide_71 : decode cX5_divide 71 = .ok (.invokevirtual 44, 3) := by decide +kernel
theorem dX5_divide_74 : decode cX5_divide 74 = .ok (.ifCond .ge 6, 3) := by decide +kernel
theorem dX5_divide_77 : decode cX5_divide 77 = .ok (.goto 30, 3) := by decide +kernel
theorem dX5_divide_80 : decode cX5_divide 80 = .ok (.aload_n 3, 1) := by decide +kernel
theorem dX5_divide_81 : decode cX5_divide 81 = .ok (.aload_n 3, 1) := by decide +kernel
theorem dX5_divide_82 : decode cX5_divide 82 = .ok (.aload_n 2, 1) := by decide +kernel
theorem dX5_divide_83 : decode cX5_divide 83 = .ok (.invokevirtual 48, 3) := by decide +kernel
theorem dX5_divide_86 : decode cX5_divide 86 = .ok (.pop, 1) := by decide +kernel
theorem dX5_divide_87 : decode cX5_divide 87 = .ok (.aload 4, 2) := by decide +kernel
theorem dX5_divide_89 : decode cX5_divide 89 = .ok (.getfield 9, 3) := by decide +kernel
theorem dX5_divide_92 : decode cX5_divide 92 = .ok (.iload 5, 2) := by decide +kernel
theorem dX5_divide_94 : decode cX5_divide 94 = .ok (.iconst 5, 1) := by decide +kernel
theorem dX5_divide_95 : decode cX5_divide 95 = .ok (.ishr, 1) := by decide +kernel
theorem dX5_divide_96 : decode cX5_divide 96 = .ok (.dup2, 1) := by decide +kernel
theorem dX5_divide_97 : decode cX5_divide 97 = .ok (.iaload, 1) := by decide +kernel
theorem dX5_divide_98 : decode cX5_divide 98 = .ok (.iconst 1, 1) := by decide +kernel
theorem dX5_divide_99 : decode cX5_divide 99 = .ok (.iload 5, 2) := by decide +kernel
theorem dX5_divide_101 : decode cX5_divide 101 = .ok (.bipush 31, 2) := by decide +kernel
theorem dX5_divide_103 : decode cX5_divide 103 = .ok (.iand, 1) := by decide +kernel
theorem dX5_divide_104 : decode cX5_divide 104 = .ok (.ishl, 1) := by decide +kernel
theorem dX5_divide_105 : decode cX5_divide 105 = .ok (.ior, 1) := by decide +kernel
theorem dX5_divide_106 : decode cX5_divide 106 = .ok (.iastore, 1) := by decide +kernel
theorem dX5_divide_107 : decode cX5_divide 107 = .ok (.iinc 5 (-1), 3) := by decide +kernel
theorem dX5_divide_110 : decode cX5_divide 110 = .ok (.goto (-88), 3) := by decide +kernel
theorem dX5_divide_113 : decode cX5_divide 113 = .ok (.aload_n 0, 1) := by decide +kernel
theorem dX5_divide_114 : decode cX5_divide 114 = .ok (.aload 4, 2) := by decide +kernel
theorem dX5_divide_116 : decode cX5_divide 116 = .ok (.invokevirtual 52, 3) := by decide +kernel
theorem dX5_divide_119 : decode cX5_divide 119 = .ok (.areturn, 1) := by decide +kernel
/-! CoinJudge$Big.divide(LCoinJudge$Big;LCoinJudge$Big;)LCoinJudge$Big; -/
set_option maxHeartbeats 4000000 in
theorem sX5_divide_0 {G : Gx} {d t : Nat} {h0 : AH} {Φ : Out → AH → Prop} (h : AH) (v0 : Nat) (v1 : Nat) (v2 : Nat) (K : ∀ q1 : Nat, q1 = h.z → WF G h → ∀ h2 : AH, h2 = h.new 5 1 [] [] [] → Cw G mX5_init d q1 [vR q1] h2 (kV (fun h5 => ∀ q6 : Nat, q6 = h5.z → WF G h5 → ∀ h7 : AH, h7 = h5.new 5 1 [] [] [] → Cw G mX5_init d q6 [vR q6] h7 (kV (fun h10 => Aw G mX5_divide (d + 1) t h0 Φ 22 [vR v0, vR v1, vR v2, vR q1, vR q6, vI 255, vU] [] h10) (fun x h => Φ (.inr x) h))) (fun x h => Φ (.inr x) h))) : Aw G mX5_divide (d + 1) t h0 Φ 0 [vR v0, vR v1, vR v2, vU, vU, vU, vU] [] h := by
  refine r_new (pc := 0) 5 kc5 rfl q1176 q294 q155 dX5_divide_0 (fun q1 eq1 zq1 wq1 => ?_)
  refine r_nameH (fun h2 eh2 => ?_)
  have K := K q1 eq1 wq1 h2 eh2
  have hk3 := kd_newSE eh2 eq1
  refine r_dup (pc := 3) rfl dX5_divide_3 ?_
  refine r_callI_V (pc := 4) (Y := mX5_init) (vs := []) (st := [_]) (nzk hk3 rfl) q1177 q296 q297 rfl rfl rfl dX5_divide_4 rfl (Or.inr zq1) rfl rfl fp_X5_divide_X5_init K (fun h5 eh5 wh5 K => ?_) (fun x h1 _ _ e => Tw.out rfl e)
  refine r_astore_n (pc := 7) (lv' := [_, _, _, _, _, _, _]) dX5_divide_7 (by decide) rfl ?_
  refine r_new (pc := 8) 5 kc5 rfl q1176 q294 q155 dX5_divide_8 (fun q6 eq6 zq6 wq6 => ?_)
  refine r_nameH (fun h7 eh7 => ?_)
  have K := K q6 eq6 wq6 h7 eh7
  have hk8 := kd_newSE eh7 eq6
  refine r_dup (pc := 11) rfl dX5_divide_11 ?_
  refine r_callI_V (pc := 12) (Y := mX5_init) (vs := []) (st := [_]) (nzk hk8 rfl) q1177 q296 q297 rfl rfl rfl dX5_divide_12 rfl (Or.inr zq6) rfl rfl fp_X5_divide_X5_init K (fun h10 eh10 wh10 K => ?_) (fun x h1 _ _ e => Tw.out rfl e)
  refine r_astore (pc := 15) (lv' := [_, _, _, _, _, _, _]) dX5_divide_15 (by decide) rfl ?_
  refine r_sipush (pc := 17) (x := 255) dX5_divide_17 rfl ?_
  refine r_istore (pc := 20) (lv' := [_, _, _, _, _, _, _]) dX5_divide_20 (by decide) rfl ?_
  refine r_mask (pc := 22) [true, true, true, true, true, true, false] rfl ?_
  exact K
theorem eX5_divide {G : Gx} {d : Nat} {Φ : Out → AH → Prop} (h : AH) (v0 : Nat) (v1 : Nat) (v2 : Nat) (K : WF G h → Aw G mX5_divide (d + 1) 0 h Φ 0 [vR v0, vR v1, vR v2, vU, vU, vU, vU] [] h) : Cw G mX5_divide (d + 1) 0 [vR v0, vR v1, vR v2] h Φ := Cw.of rfl K
set_option maxHeartbeats 4000000 in
theorem sX5_divide_22 {G : Gx} {d t : Nat} {h0 : AH} {Φ : Out → AH → Prop} (h : AH) (v0 : Nat) (v1 : Nat) (v2 : Nat) (v3 : Nat) (v4 : Nat) (v5 : Int32) (K : ((v5 < 0 → h.kd v0 = 5 ∧ Cw G mX5_copy d 0 [vR v0, vR v4] h (kR (fun x2 h3 => Φ (.inl (some (vR x2))) h3) (fun x h => Φ (.inr x) h))) ∧ (¬ v5 < 0 → h.kd v3 = 5 ∧ Cw G mX5_bit d 0 [vR v3, vI 255] h (kI (fun x5 h6 => ((¬ x5 = 1 → Cw G mX5_up d 0 [vR v3] h6 (kV (fun h10 => ∀ r13 : Nat, r13 = (h10.r 5000 v3) → h10.kd r13 = 100 ∧ vp_in 0 (h10.ai r13).length ∧ h10.kd v1 = 5 ∧ Cw G mX5_bit d 0 [vR v1, vI v5] h10 (kI (fun x16 h17 => vp_in 0 (h17.ai r13).length ∧ ∀ h21 : AH, h21 = h17.wi r13 ((h17.ai r13).set ((0 : Int32).toNatClampNeg) (((h10.ai r13).getD ((0 : Int32).toNatClampNeg) 0) ||| x16)) → ((¬ (0 : Int32) = 0 → Aw G mX5_divide (d + 1) t h0 Φ 80 [vR v0, vR v1, vR v2, vR v3, vR v4, vI v5, vU] [] h21) ∧ ((0 : Int32) = 0 → Cw G mX5_compare d 0 [vR v3, vR v2] h21 (kI (fun x23 h24 => ((0 ≤ x23 → Aw G mX5_divide (d + 1) t h0 Φ 80 [vR v0, vR v1, vR v2, vR v3, vR v4, vI v5, vU] [] h24) ∧ (¬ 0 ≤ x23 → Aw G mX5_divide (d + 1) t h0 Φ 22 [vR v0, vR v1, vR v2, vR v3, vR v4, vI (v5 + (-1)), vU] [] h24))) (fun x h => Φ (.inr x) h))))) (fun x h => Φ (.inr x) h))) (fun x h => Φ (.inr x) h))) ∧ (x5 = 1 → Cw G mX5_up d 0 [vR v3] h6 (kV (fun h29 => ∀ r32 : Nat, r32 = (h29.r 5000 v3) → h29.kd r32 = 100 ∧ vp_in 0 (h29.ai r32).length ∧ h29.kd v1 = 5 ∧ Cw G mX5_bit d 0 [vR v1, vI v5] h29 (kI (fun x35 h36 => vp_in 0 (h36.ai r32).length ∧ ∀ h40 : AH, h40 = h36.wi r32 ((h36.ai r32).set ((0 : Int32).toNatClampNeg) (((h29.ai r32).getD ((0 : Int32).toNatClampNeg) 0) ||| x35)) → ((¬ (1 : Int32) = 0 → Aw G mX5_divide (d + 1) t h0 Φ 80 [vR v0, vR v1, vR v2, vR v3, vR v4, vI v5, vU] [] h40) ∧ ((1 : Int32) = 0 → Cw G mX5_compare d 0 [vR v3, vR v2] h40 (kI (fun x42 h43 => ((0 ≤ x42 → Aw G mX5_divide (d + 1) t h0 Φ 80 [vR v0, vR v1, vR v2, vR v3, vR v4, vI v5, vU] [] h43) ∧ (¬ 0 ≤ x42 → Aw G mX5_divide (d + 1) t h0 Φ 22 [vR v0, vR v1, vR v2, vR v3, vR v4, vI (v5 + (-1)), vU] [] h43))) (fun x h => Φ (.inr x) h))))) (fun x h => Φ (.inr x) h))) (fun x h => Φ (.inr x) h))))) (fun x h => Φ (.inr x) h))))) : Aw G mX5_divide (d + 1) t h0 Φ 22 [vR v0, vR v1, vR v2, vR v3, vR v4, vI v5, vU] [] h := by
  refine r_iload (pc := 22) dX5_divide_22 rfl ?_
  refine r_if_lt (pc := 24) (tgt := 113) dX5_divide_24 rfl (fun c1 => ?_) (fun c1 => ?_)
  · have K := K.1 c1
    refine r_aload_n (pc := 113) dX5_divide_113 rfl ?_
    refine r_aload (pc := 114) dX5_divide_114 rfl ?_
    obtain ⟨hk4, K⟩ := K
    refine r_callV_R (pc := 116) (Y := mX5_copy) (vs := [_]) (st := []) hk4 rfl kc5 q1184 q1185 q1186 dX5_divide_116 rfl cd_X5_copy rfl rfl fp_X5_divide_X5_copy K (fun x2 h3 eh3 wh3 K => ?_) (fun x h1 _ _ e => Tw.out rfl e)
    exact r_aret (pc := 119) rfl rfl dX5_divide_119 K
  · have K := K.2 c1
    refine r_aload_n (pc := 27) dX5_divide_27 rfl ?_
    refine r_sipush (pc := 28) (x := 255) dX5_divide_28 rfl ?_
    obtain ⟨hk7, K⟩ := K
    refine r_callV_I (pc := 31) (Y := mX5_bit) (vs := [_]) (st := []) hk7 rfl kc5 q1178 q1179 q1180 dX5_divide_31 rfl cd_X5_bit rfl rfl fp_X5_divide_X5_bit K (fun x5 h6 eh6 wh6 K => ?_) (fun x h1 _ _ e => Tw.out rfl e)
    refine r_iconst (pc := 34) (x := 1) dX5_divide_34 rfl ?_
    refine r_icmp_ne (pc := 35) (tgt := 42) dX5_divide_35 rfl (fun c8 => ?_) (fun c8 => ?_)
    · have K := K.1 c8
      refine r_iconst (pc := 42) (x := 0) dX5_divide_42 rfl ?_
      refine r_istore (pc := 43) (lv' := [_, _, _, _, _, _, _]) dX5_divide_43 (by decide) rfl ?_
      refine r_aload_n (pc := 45) dX5_divide_45 rfl ?_
      have hk11 := kd_ext eh6 hk7 (nz rfl)
      refine r_callV_V (pc := 46) (Y := mX5_up) (vs := []) (st := []) hk11 rfl kc5 q325 q326 q327 dX5_divide_46 rfl cd_X5_up rfl rfl fp_X5_divide_X5_up K (fun h10 eh10 wh10 K => ?_) (fun x h1 _ _ e => Tw.out rfl e)
      refine r_aload_n (pc := 49) dX5_divide_49 rfl ?_
      have hk12 := kd_ext eh10 hk11 (nz rfl)
      have K := K _ rfl
      refine r_getr' (pc := 50) (T := TX5) 5 0 rfl hk12 (Or.inl q299) dX5_divide_50 kc5 g5000 ?_
      refine r_iconst (pc := 53) (x := 0) dX5_divide_53 rfl ?_
      refine r_dup2 (pc := 54) rfl rfl dX5_divide_54 ?_
      obtain ⟨hk14, K⟩ := K
      obtain ⟨hi15, K⟩ := K
      refine r_iaload (pc := 55) hk14 hi15 dX5_divide_55 ?_
      refine r_aload_n (pc := 56) dX5_divide_56 rfl ?_
      refine r_iload (pc := 57) dX5_divide_57 rfl ?_
      obtain ⟨hk18, K⟩ := K
      refine r_callV_I (pc := 59) (Y := mX5_bit) (vs := [_]) (st := [_, _, _]) hk18 rfl kc5 q1178 q1179 q1180 dX5_divide_59 rfl cd_X5_bit rfl rfl fp_X5_divide_X5_bit K (fun x16 h17 eh17 wh17 K => ?_) (fun x h1 _ _ e => Tw.out rfl e)
      refine r_ior (pc := 62) dX5_divide_62 ?_
      have hk19 := kd_ext eh17 hk14 (nz rfl)
      obtain ⟨hi20, K⟩ := K
      refine r_iastore (pc := 63) hk19 hi20 (Or.inl (em rfl)) dX5_divide_63 ?_
      refine r_nameH (fun h21 eh21 => ?_)
      have K := K h21 eh21
      refine r_iload (pc := 64) dX5_divide_64 rfl ?_
      refine r_if_ne (pc := 66) (tgt := 80) dX5_divide_66 rfl (fun c22 => ?_) (fun c22 => ?_)
      · have K := K.1 c22
        refine r_mask (pc := 80) [true, true, true, true, true, true, false] rfl ?_
        exact K
      · have K := K.2 c22
        refine r_aload_n (pc := 69) dX5_divide_69 rfl ?_
        refine r_aload_n (pc := 70) dX5_divide_70 rfl ?_
        have hk25 := kd_ext eh17 hk12 (nz rfl)
        have hk26 := kd_wi eh21 hk25
        refine r_callV_I (pc := 71) (Y := mX5_compare) (vs := [_]) (st := []) hk26 rfl kc5 q1182 q852 q853 dX5_divide_71 rfl cd_X5_compare rfl rfl fp_X5_divide_X5_compare K (fun x23 h24 eh24 wh24 K => ?_) (fun x h1 _ _ e => Tw.out rfl e)
        refine r_if_ge (pc := 74) (tgt := 80) dX5_divide_74 rfl (fun c27 => ?_) (fun c27 => ?_)
        · have K := K.1 c27
          refine r_mask (pc := 80) [true, true, true, true, true, true, false] rfl ?_
          exact K
        · have K := K.2 c27
          refine r_goto (pc := 77) (tgt := 107) dX5_divide_77 rfl ?_
          refine r_iinc (pc := 107) (lv' := [_, _, _, _, _, _, _]) dX5_divide_107 rfl rfl (by decide) rfl ?_
          refine r_goto (pc := 110) (tgt := 22) dX5_divide_110 rfl ?_
          refine r_mask (pc := 22) [true, true, true, true, true, true, false] rfl ?_
          exact K
    · have K := K.2 c8
      refine r_iconst (pc := 38) (x := 1) dX5_divide_38 rfl ?_
      refine r_goto (pc := 39) (tgt := 43) dX5_divide_39 rfl ?_
      refine r_istore (pc := 43) (lv' := [_, _, _, _, _, _, _]) dX5_divide_43 (by decide) rfl ?_
      refine r_aload_n (pc := 45) dX5_divide_45 rfl ?_
      have hk30 := kd_ext eh6 hk7 (nz rfl)
      refine r_callV_V (pc := 46) (Y := mX5_up) (vs := []) (st := []) hk30 rfl kc5 q325 q326 q327 dX5_divide_46 rfl cd_X5_up rfl rfl fp_X5_divide_X5_up K (fun h29 eh29 wh29 K => ?_) (fun x h1 _ _ e => Tw.out rfl e)
      refine r_aload_n (pc := 49) dX5_divide_49 rfl ?_
      have hk31 := kd_ext eh29 hk30 (nz rfl)
      have K := K _ rfl
      refine r_getr' (pc := 50) (T := TX5) 5 0 rfl hk31 (Or.inl q299) dX5_divide_50 kc5 g5000 ?_
      refine r_iconst (pc := 53) (x := 0) dX5_divide_53 rfl ?_
      refine r_dup2 (pc := 54) rfl rfl dX5_divide_54 ?_
      obtain ⟨hk33, K⟩ := K
      obtain ⟨hi34, K⟩ := K
      refine r_iaload (pc := 55) hk33 hi34 dX5_divide_55 ?_
      refine r_aload_n (pc := 56) dX5_divide_56 rfl ?_
      refine r_iload (pc := 57) dX5_divide_57 rfl ?_
      obtain ⟨hk37, K⟩ := K
      refine r_callV_I (pc := 59) (Y := mX5_bit) (vs := [_]) (st := [_, _, _]) hk37 rfl kc5 q1178 q1179 q1180 dX5_divide_59 rfl cd_X5_bit rfl rfl fp_X5_divide_X5_bit K (fun x35 h36 eh36 wh36 K => ?_) (fun x h1 _ _ e => Tw.out rfl e)
      refine r_ior (pc := 62) dX5_divide_62 ?_
      have hk38 := kd_ext eh36 hk33 (nz rfl)
      obtain ⟨hi39, K⟩ := K
      refine r_iastore (pc := 63) hk38 hi39 (Or.inl (em rfl)) dX5_divide_63 ?_
      refine r_nameH (fun h40 eh40 => ?_)
      have K := K h40 eh40
      refine r_iload (pc := 64) dX5_divide_64 rfl ?_
      refine r_if_ne (pc := 66) (tgt := 80) dX5_divide_66 rfl (fun c41 => ?_) (fun c41 => ?_)
      · have K := K.1 c41
        refine r_mask (pc := 80) [true, true, true, true, true, true, false] rfl ?_
        exact K
      · have K := K.2 c41
        refine r_aload_n (pc := 69) dX5_divide_69 rfl ?_
        refine r_aload_n (pc := 70) dX5_divide_70 rfl ?_
        have hk44 := kd_ext eh36 hk31 (nz rfl)
        have hk45 := kd_wi eh40 hk44
        refine r_callV_I (pc := 71) (Y := mX5_compare) (vs := [_]) (st := []) hk45 rfl kc5 q1182 q852 q853 dX5_divide_71 rfl cd_X5_compare rfl rfl fp_X5_divide_X5_compare K (fun x42 h43 eh43 wh43 K => ?_) (fun x h1 _ _ e => Tw.out rfl e)
        refine r_if_ge (pc := 74) (tgt := 80) dX5_divide_74 rfl (fun c46 => ?_) (fun c46 => ?_)
        · have K := K.1 c46
          refine r_mask (pc := 80) [true, true, true, true, true, true, false] rfl ?_
          exact K
        · have K := K.2 c46
          refine r_goto (pc := 77) (tgt := 107) dX5_divide_77 rfl ?_
          refine r_iinc (pc := 107) (lv' := [_, _, _, _, _, _, _]) dX5_divide_107 rfl rfl (by decide) rfl ?_
          refine r_goto (pc := 110) (tgt := 22) dX5_divide_110 rfl ?_
          refine r_mask (pc := 22) [true, true, true, true, true, true, false] rfl ?_
          exact K
set_option maxHeartbeats 4000000 in
theorem sX5_divide_80 {G : Gx} {d t : Nat} {h0 : AH} {Φ : Out → AH → Prop} (h : AH) (v0 : Nat) (v1 : Nat) (v2 : Nat) (v3 : Nat) (v4 : Nat) (v5 : Int32) (K : h.kd v3 = 5 ∧ Cw G mX5_subtract d 0 [vR v3, vR v3, vR v2] h (kR (fun x1 h2 => h2.kd v4 = 5 ∧ ∀ r5 : Nat, r5 = (h2.r 5000 v4) → h2.kd r5 = 100 ∧ vp_in (jshr v5 5) (h2.ai r5).length ∧ vp_in (jshr v5 5) (h2.ai r5).length ∧ ∀ h9 : AH, h9 = h2.wi r5 ((h2.ai r5).set ((jshr v5 5).toNatClampNeg) (((h2.ai r5).getD ((jshr v5 5).toNatClampNeg) 0) ||| (jshl 1 (v5 &&& 31)))) → Aw G mX5_divide (d + 1) t h0 Φ 22 [vR v0, vR v1, vR v2, vR v3, vR v4, vI (v5 + (-1)), vU] [] h9) (fun x h => Φ (.inr x) h))) : Aw G mX5_divide (d + 1) t h0 Φ 80 [vR v0, vR v1, vR v2, vR v3, vR v4, vI v5, vU] [] h := by
  refine r_aload_n (pc := 80) dX5_divide_80 rfl ?_
  refine r_aload_n (pc := 81) dX5_divide_81 rfl ?_
  refine r_aload_n (pc := 82) dX5_divide_82 rfl ?_
  obtain ⟨hk3, K⟩ := K
  refine r_callV_R (pc := 83) (Y := mX5_subtract) (vs := [_, _]) (st := []) hk3 rfl kc5 q1183 q375 q376 dX5_divide_83 rfl cd_X5_subtract rfl rfl fp_X5_divide_X5_subtract K (fun x1 h2 eh2 wh2 K => ?_) (fun x h1 _ _ e => Tw.out rfl e)
  refine r_pop (pc := 86) rfl dX5_divide_86 ?_
  refine r_aload (pc := 87) dX5_divide_87 rfl ?_
  obtain ⟨hk4, K⟩ := K
  have K := K _ rfl
  refine r_getr' (pc := 89) (T := TX5) 5 0 rfl hk4 (Or.inl q299) dX5_divide_89 kc5 g5000 ?_
  refine r_iload (pc := 92) dX5_divide_92 rfl ?_
  refine r_iconst (pc := 94) (x := 5) dX5_divide_94 rfl ?_
  refine r_jshr (pc := 95) dX5_divide_95 ?_
  refine r_dup2 (pc := 96) rfl rfl dX5_divide_96 ?_
  obtain ⟨hk6, K⟩ := K
  obtain ⟨hi7, K⟩ := K
  refine r_iaload (pc := 97) hk6 hi7 dX5_divide_97 ?_
  refine r_iconst (pc := 98) (x := 1) dX5_divide_98 rfl ?_
  refine r_iload (pc := 99) dX5_divide_99 rfl ?_
  refine r_bipush (pc := 101) (x := 31) dX5_divide_101 rfl ?_
  refine r_iand (pc := 103) dX5_divide_103 ?_
  refine r_jshl (pc := 104) dX5_divide_104 ?_
  refine r_ior (pc := 105) dX5_divide_105 ?_
  obtain ⟨hi8, K⟩ := K
  refine r_iastore (pc := 106) hk6 hi8 (Or.inl (em rfl)) dX5_divide_106 ?_
  refine r_nameH (fun h9 eh9 => ?_)
  have K := K h9 eh9
  refine r_iinc (pc := 107) (lv' := [_, _, _, _, _, _, _]) dX5_divide_107 rfl rfl (by decide) rfl ?_
  refine r_goto (pc := 110) (tgt := 22) dX5_divide_110 rfl ?_
  refine r_mask (pc := 22) [true, true, true, true, true, true, false] rfl ?_
  exact K
theorem dX5_hex_0 : decode cX5_hex 0 = .ok (.aload_n 0, 1) := by decide +kernel
theorem dX5_hex_1 : decode cX5_hex 1 = .ok (.invokevirtual 15, 3) := by decide +kernel
theorem dX5_hex_4 : decode cX5_hex 4 = .ok (.pop, 1) := by decide +kernel
theorem dX5_hex_5 : decode cX5_hex 5 = .ok (.iconst 0, 1) := by decide +kernel
theorem dX5_hex_6 : decode cX5_hex 6 = .ok (.istore_n 2, 1) := by decide +kernel
theorem dX5_hex_7 : decode cX5_hex 7 = .ok (.iload_n 2, 1) := by decide +kernel
theorem dX5_hex_8 : decode cX5_hex 8 = .ok (.aload_n 1, 1) := by decide +kernel
theorem dX5_hex_9 : decode cX5_hex 9 = .ok (.invokevirtual 27, 3) := by decide +kernel
theorem dX5_hex_12 : decode cX5_hex 12 = .ok (.if_icmp .ge 61, 3) := by decide +kernel
theorem dX5_hex_15 : decode cX5_hex 15 = .ok (.iconst 0, 1) := by decide +kernel
theorem dX5_hex_16 : decode cX5_hex 16 = .ok (.istore_n 3, 1) := by decide +kernel
theorem dX5_hex_17 : decode cX5_hex 17 = .ok (.iload_n 3, 1) := by decide +kernel
theorem dX5_hex_18 : decode cX5_hex 18 = .ok (.iconst 4, 1) := by decide +kernel
theorem dX5_hex_19 : decode cX5_hex 19 = .ok (.if_icmp .ge 13, 3) := by decide +kernel
theorem dX5_hex_22 : decode cX5_hex 22 = .ok (.aload_n 0, 1) := by decide +kernel
theorem dX5_hex_23 : decode cX5_hex 23 = .ok (.invokevirtual 33, 3) := by decide +kernel
theorem dX5_hex_26 : decode cX5_hex 26 = .ok (.iinc 3 1, 3) := by decide +kernel
theorem dX5_hex_29 : decode cX5_hex 29 = .ok (.goto (-12), 3) := by decide +kernel
theorem dX5_hex_32 : decode cX5_hex 32 = .ok (.aload_n 1, 1) := by decide +kernel
theorem dX5_hex_33 : decode cX5_hex 33 = .ok (.iload_n 2, 1) := by decide +kernel
theorem dX5_hex_34 : decode cX5_hex 34 = .ok (.invokevirtual 36, 3) := by decide +kernel
theorem dX5_hex_37 : decode cX5_hex 37 = .ok (.istore_n 3, 1) := by decide +kernel
theorem dX5_hex_38 : decode cX5_hex 38 = .ok (.aload_n 0, 1) := by decide +kernel
theorem dX5_hex_39 : decode cX5_hex 39 = .ok (.getfield 9, 3) := by decide +kernel
theorem dX5_hex_42 : decode cX5_hex 42 = .ok (.iconst 0, 1) := by decide +kernel
theorem dX5_hex_43 : decode cX5_hex 43 = .ok (.dup2, 1) := by decide +kernel
theorem dX5_hex_44 : decode cX5_hex 44 = .ok (.iaload, 1) := by decide +kernel
theorem dX5_hex_45 : decode cX5_hex 45 = .ok (.iload_n 3, 1) := by decide +kernel
theorem dX5_hex_46 : decode cX5_hex 46 = .ok (.bipush 57, 2) := by decide +kernel
theorem dX5_hex_48 : decode cX5_hex 48 = .ok (.if_icmp .gt 10, 3) := by decide +kernel
theorem dX5_hex_51 : decode cX5_hex 51 = .ok (.iload_n 3, 1) := by decide +kernel
theorem dX5_hex_52 : decode cX5_hex 52 = .ok (.bipush 48, 2) := by decide +kernel
theorem dX5_hex_54 : decode cX5_hex 54 = .ok (.isub, 1) := by decide +kernel
theorem dX5_hex_55 : decode cX5_hex 55 = .ok (.goto 10, 3) := by decide +kernel
theorem dX5_hex_58 : decode cX5_hex 58 = .ok (.iload_n 3, 1) := by decide +kernel
theorem dX5_hex_59 : decode cX5_hex 59 = .ok (.bipush 65, 2) := by decide +kernel
theorem dX5_hex_61 : decode cX5_hex 61 = .ok (.isub, 1) := by decide +kernel
theorem dX5_hex_62 : decode cX5_hex 62 = .ok (.bipush 10, 2) := by decide +kernel
theorem dX5_hex_64 : decode cX5_hex 64 = .ok (.iadd, 1) := by decide +kernel
theorem dX5_hex_65 : decode cX5_hex 65 = .ok (.ior, 1) := by decide +kernel
theorem dX5_hex_66 : decode cX5_hex 66 = .ok (.iastore, 1) := by decide +kernel
theorem dX5_hex_67 : decode cX5_hex 67 = .ok (.iinc 2 1, 3) := by decide +kernel
theorem dX5_hex_70 : decode cX5_hex 70 = .ok (.goto (-63), 3) := by decide +kernel
theorem dX5_hex_73 : decode cX5_hex 73 = .ok (.aload_n 0, 1) := by decide +kernel
theorem dX5_hex_74 : decode cX5_hex 74 = .ok (.areturn, 1) := by decide +kernel
/-! CoinJudge$Big.hex(Ljava/lang/String;)LCoinJudge$Big; -/
set_option maxHeartbeats 4000000 in
theorem sX5_hex_0 {G : Gx} {d t : Nat} {h0 : AH} {Φ : Out → AH → Prop} (h : AH) (v0 : Nat) (v1 : Nat) (K : h.kd v0 = 5 ∧ Cw G mX5_zero d 0 [vR v0] h (kR (fun x1 h2 => Aw G mX5_hex (d + 1) t h0 Φ 7 [vR v0, vR v1, vI 0, vU] [] h2) (fun x h => Φ (.inr x) h))) : Aw G mX5_hex (d + 1) t h0 Φ 0 [vR v0, vR v1, vU, vU] [] h := by
  refine r_aload_n (pc := 0) dX5_hex_0 rfl ?_
  obtain ⟨hk3, K⟩ := K
  refine r_callV_R (pc := 1) (Y := mX5_zero) (vs := []) (st := []) hk3 rfl kc5 q311 q312 q313 dX5_hex_1 rfl cd_X5_zero rfl rfl fp_X5_hex_X5_zero K (fun x1 h2 eh2 wh2 K => ?_) (fun x h1 _ _ e => Tw.out rfl e)
  refine r_pop (pc := 4) rfl dX5_hex_4 ?_
  refine r_iconst (pc := 5) (x := 0) dX5_hex_5 rfl ?_
  refine r_istore_n (pc := 6) (lv' := [_, _, _, _]) dX5_hex_6 (by decide) rfl ?_
  refine r_mask (pc := 7) [true, true, true, false] rfl ?_
  exact K
theorem eX5_hex {G : Gx} {d : Nat} {Φ : Out → AH → Prop} (h : AH) (v0 : Nat) (v1 : Nat) (K : WF G h → Aw G mX5_hex (d + 1) 0 h Φ 0 [vR v0, vR v1, vU, vU] [] h) : Cw G mX5_hex (d + 1) 0 [vR v0, vR v1] h Φ := Cw.of rfl K
set_option maxHeartbeats 4000000 in
theorem sX5_hex_7 {G : Gx} {d t : Nat} {h0 : AH} {Φ : Out → AH → Prop} (h : AH) (v0 : Nat) (v1 : Nat) (v2 : Int32) (K : h.kd v1 = 35 ∧ Cw G mJ1_length d 0 [vR v1] h (kI (fun x1 h2 => ((x1 ≤ v2 → Φ (.inl (some (vR v0))) h2) ∧ (¬ x1 ≤ v2 → Aw G mX5_hex (d + 1) t h0 Φ 17 [vR v0, vR v1, vI v2, vI 0] [] h2))) (fun x h => Φ (.inr x) h))) : Aw G mX5_hex (d + 1) t h0 Φ 7 [vR v0, vR v1, vI v2, vU] [] h := by
  refine r_iload_n (pc := 7) dX5_hex_7 rfl ?_
  refine r_aload_n (pc := 8) dX5_hex_8 rfl ?_
  obtain ⟨hk3, K⟩ := K
  refine r_callV_I (pc := 9) (Y := mJ1_length) (vs := []) (st := [_]) hk3 rfl kc35 q315 q316 q317 dX5_hex_9 rfl cd_J1_length (cOk_of pf_J1_length rfl) rfl fp_X5_hex_J1_length K (fun x1 h2 eh2 wh2 K => ?_) (fun x h1 _ _ e => Tw.out rfl e)
  refine r_icmp_ge (pc := 12) (tgt := 73) dX5_hex_12 rfl (fun c4 => ?_) (fun c4 => ?_)
  · have K := K.1 c4
    refine r_aload_n (pc := 73) dX5_hex_73 rfl ?_
    exact r_aret (pc := 74) rfl rfl dX5_hex_74 K
  · have K := K.2 c4
    refine r_iconst (pc := 15) (x := 0) dX5_hex_15 rfl ?_
    refine r_istore_n (pc := 16) (lv' := [_, _, _, _]) dX5_hex_16 (by decide) rfl ?_
    refine r_mask (pc := 17) [true, true, true, true] rfl ?_
    exact K
set_option maxHeartbeats 4000000 in
theorem sX5_hex_17 {G : Gx} {d t : Nat} {h0 : AH} {Φ : Out → AH → Prop} (h : AH) (v0 : Nat) (v1 : Nat) (v2 : Int32) (v3 : Int32) (K : ((4 ≤ v3 → h.kd v1 = 35 ∧ Cw G mJ1_charAt d 0 [vR v1, vI v2] h (kI (fun x2 h3 => h3.kd v0 = 5 ∧ ∀ r6 : Nat, r6 = (h3.r 5000 v0) → h3.kd r6 = 100 ∧ vp_in 0 (h3.ai r6).length ∧ ((57 < x2 → vp_in 0 (h3.ai r6).length ∧ ∀ h11 : AH, h11 = h3.wi r6 ((h3.ai r6).set ((0 : Int32).toNatClampNeg) (((h3.ai r6).getD ((0 : Int32).toNatClampNeg) 0) ||| ((x2 - 65) + 10))) → Aw G mX5_hex (d + 1) t h0 Φ 7 [vR v0, vR v1, vI (v2 + 1), vU] [] h11) ∧ (¬ 57 < x2 → vp_in 0 (h3.ai r6).length ∧ ∀ h13 : AH, h13 = h3.wi r6 ((h3.ai r6).set ((0 : Int32).toNatClampNeg) (((h3.ai r6).getD ((0 : Int32).toNatClampNeg) 0) ||| (x2 - 48))) → Aw G mX5_hex (d + 1) t h0 Φ 7 [vR v0, vR v1, vI (v2 + 1), vU] [] h13))) (fun x h => Φ (.inr x) h))) ∧ (¬ 4 ≤ v3 → h.kd v0 = 5 ∧ Cw G mX5_up d 0 [vR v0] h (kV (fun h15 => Aw G mX5_hex (d + 1) t h0 Φ 17 [vR v0, vR v1, vI v2, vI (v3 + 1)] [] h15) (fun x h => Φ (.inr x) h))))) : Aw G mX5_hex (d + 1) t h0 Φ 17 [vR v0, vR v1, vI v2, vI v3] [] h := by
  refine r_iload_n (pc := 17) dX5_hex_17 rfl ?_
  refine r_iconst (pc := 18) (x := 4) dX5_hex_18 rfl ?_
  refine r_icmp_ge (pc := 19) (tgt := 32) dX5_hex_19 rfl (fun c1 => ?_) (fun c1 => ?_)
  · have K := K.1 c1
    refine r_aload_n (pc := 32) dX5_hex_32 rfl ?_
    refine r_iload_n (pc := 33) dX5_hex_33 rfl ?_
    obtain ⟨hk4, K⟩ := K
    refine r_callV_I (pc := 34) (Y := mJ1_charAt) (vs := [_]) (st := []) hk4 rfl kc35 q329 q330 q331 dX5_hex_34 rfl cd_J1_charAt (cOk_of pf_J1_charAt rfl) rfl fp_X5_hex_J1_charAt K (fun x2 h3 eh3 wh3 K => ?_) (fun x h1 _ _ e => Tw.out rfl e)
    refine r_istore_n (pc := 37) (lv' := [_, _, _, _]) dX5_hex_37 (by decide) rfl ?_
    refine r_aload_n (pc := 38) dX5_hex_38 rfl ?_
    obtain ⟨hk5, K⟩ := K
    have K := K _ rfl
    refine r_getr' (pc := 39) (T := TX5) 5 0 rfl hk5 (Or.inl q299) dX5_hex_39 kc5 g5000 ?_
    refine r_iconst (pc := 42) (x := 0) dX5_hex_42 rfl ?_
    refine r_dup2 (pc := 43) rfl rfl dX5_hex_43 ?_
    obtain ⟨hk7, K⟩ := K
    obtain ⟨hi8, K⟩ := K
    refine r_iaload (pc := 44) hk7 hi8 dX5_hex_44 ?_
    refine r_iload_n (pc := 45) dX5_hex_45 rfl ?_
    refine r_bipush (pc := 46) (x := 57) dX5_hex_46 rfl ?_
    refine r_icmp_gt (pc := 48) (tgt := 58) dX5_hex_48 rfl (fun c9 => ?_) (fun c9 => ?_)
    · have K := K.1 c9
      refine r_iload_n (pc := 58) dX5_hex_58 rfl ?_
      refine r_bipush (pc := 59) (x := 65) dX5_hex_59 rfl ?_
      refine r_isub (pc := 61) dX5_hex_61 ?_
      refine r_bipush (pc := 62) (x := 10) dX5_hex_62 rfl ?_
      refine r_iadd (pc := 64) dX5_hex_64 ?_
      refine r_ior (pc := 65) dX5_hex_65 ?_
      obtain ⟨hi10, K⟩ := K
      refine r_iastore (pc := 66) hk7 hi10 (Or.inl (em rfl)) dX5_hex_66 ?_
      refine r_nameH (fun h11 eh11 => ?_)
      have K := K h11 eh11
      refine r_iinc (pc := 67) (lv' := [_, _, _, _]) dX5_hex_67 rfl rfl (by decide) rfl ?_
      refine r_goto (pc := 70) (tgt := 7) dX5_hex_70 rfl ?_
      refine r_mask (pc := 7) [true, true, true, false] rfl ?_
      exact K
    · have K := K.2 c9
      refine r_iload_n (pc := 51) dX5_hex_51 rfl ?_
      refine r_bipush (pc := 52) (x := 48) dX5_hex_52 rfl ?_
      refine r_isub (pc := 54) dX5_hex_54 ?_
      refine r_goto (pc := 55) (tgt := 65) dX5_hex_55 rfl ?_
      refine r_ior (pc := 65) dX5_hex_65 ?_
      obtain ⟨hi12, K⟩ := K
      refine r_iastore (pc := 66) hk7 hi12 (Or.inl (em rfl)) dX5_hex_66 ?_
      refine r_nameH (fun h13 eh13 => ?_)
      have K := K h13 eh13
      refine r_iinc (pc := 67) (lv' := [_, _, _, _]) dX5_hex_67 rfl rfl (by decide) rfl ?_
      refine r_goto (pc := 70) (tgt := 7) dX5_hex_70 rfl ?_
      refine r_mask (pc := 7) [true, true, true, false] rfl ?_
      exact K
  · have K := K.2 c1
    refine r_aload_n (pc := 22) dX5_hex_22 rfl ?_
    obtain ⟨hk16, K⟩ := K
    refine r_callV_V (pc := 23) (Y := mX5_up) (vs := []) (st := []) hk16 rfl kc5 q325 q326 q327 dX5_hex_23 rfl cd_X5_up rfl rfl fp_X5_hex_X5_up K (fun h15 eh15 wh15 K => ?_) (fun x h1 _ _ e => Tw.out rfl e)
    refine r_iinc (pc := 26) (lv' := [_, _, _, _]) dX5_hex_26 rfl rfl (by decide) rfl ?_
    refine r_goto (pc := 29) (tgt := 17) dX5_hex_29 rfl ?_
    refine r_mask (pc := 17) [true, true, true, true] rfl ?_
    exact K

/-! printed by gen/segs.py: decode rows and segment lemmas of: X24_lay X24_lay_2 X24_layCount X24_unmarked X24_hashed X24_shortest X24_isDer X24_flat X24_part X24_doubled X24_plus X24_readKey X24_times_2 X24_isRight X24_isGood X24_load X24_without X24_asked X24_side X24_ripeBlock X24_ripe X24_hash160 X24_digested X24_locked X24_reckon -/
set_option maxRecDepth 100000
theorem dX24_lay_0 : decode cX24_lay 0 = .ok (.iconst 0, 1) := by decide +kernel
theorem dX24_lay_1 : decode cX24_lay 1 = .ok (.istore 4, 2) := by decide +kernel
theorem dX24_lay_3 : decode cX24_lay 3 = .ok (.iload 4, 2) := by decide +kernel
theorem dX24_lay_5 : decode cX24_lay 5 = .ok (.iload_n 3, 1) := by decide +kernel
theorem dX24_lay_6 : decode cX24_lay 6 = .ok (.if_icmp .ge 34, 3) := by decide +kernel
theorem dX24_lay_9 : decode cX24_lay 9 = .ok (.aload_n 0, 1) := by decide +kernel
theorem dX24_lay_10 : decode cX24_lay 10 = .ok (.getfield 650, 3) := by decide +kernel
theorem dX24_lay_13 : decode cX24_lay 13 = .ok (.aload_n 0, 1) := by decide +kernel
theorem dX24_lay_14 : decode cX24_lay 14 = .ok (.getfield 653, 3) := by decide +kernel
theorem dX24_lay_17 : decode cX24_lay 17 = .ok (.aload_n 1, 1) := by decide +kernel
theorem dX24_lay_18 : decode cX24_lay 18 = .ok (.iload_n 2, 1) := by decide +kernel
theorem dX24_lay_19 : decode cX24_lay 19 = .ok (.iload 4, 2) := by decide +kernel
theorem dX24_lay_21 : decode cX24_lay 21 = .ok (.iadd, 1) := by decide +kernel
theorem dX24_lay_22 : decode cX24_lay 22 = .ok (.baload, 1) := by decide +kernel
theorem dX24_lay_23 : decode cX24_lay 23 = .ok (.bastore, 1) := by decide +kernel
theorem dX24_lay_24 : decode cX24_lay 24 = .ok (.aload_n 0, 1) := by decide +kernel
theorem dX24_lay_25 : decode cX24_lay 25 = .ok (.dup, 1) := by decide +kernel
theorem dX24_lay_26 : decode cX24_lay 26 = .ok (.getfield 653, 3) := by decide +kernel
theorem dX24_lay_29 : decode cX24_lay 29 = .ok (.iconst 1, 1) := by decide +kernel
theorem dX24_lay_30 : decode cX24_lay 30 = .ok (.iadd, 1) := by decide +kernel
theorem dX24_lay_31 : decode cX24_lay 31 = .ok (.putfield 653, 3) := by decide +kernel
theorem dX24_lay_34 : decode cX24_lay 34 = .ok (.iinc 4 1, 3) := by decide +kernel
theorem dX24_lay_37 : decode cX24_lay 37 = .ok (.goto (-34), 3) := by decide +kernel
theorem dX24_lay_40 : decode cX24_lay 40 = .ok (.return_, 1) := by decide +kernel
/-! CoinJudgeModel.lay([BII)V -/
set_option maxHeartbeats 4000000 in
theorem sX24_lay_0 {G : Gx} {d t : Nat} {h0 : AH} {Φ : Out → AH → Prop} (h : AH) (v0 : Nat) (v1 : Nat) (v2 : Int32) (v3 : Int32) (K : Aw G mX24_lay (d + 1) t h0 Φ 3 [vR v0, vR v1, vI v2, vI v3, vI 0] [] h) : Aw G mX24_lay (d + 1) t h0 Φ 0 [vR v0, vR v1, vI v2, vI v3, vU] [] h := by
  refine r_iconst (pc := 0) (x := 0) dX24_lay_0 rfl ?_
  refine r_istore (pc := 1) (lv' := [_, _, _, _, _]) dX24_lay_1 (by decide) rfl ?_
  refine r_mask (pc := 3) [true, true, true, true, true] rfl ?_
  exact K
theorem eX24_lay {G : Gx} {d : Nat} {Φ : Out → AH → Prop} (h : AH) (v0 : Nat) (v1 : Nat) (v2 : Int32) (v3 : Int32) (K : WF G h → Aw G mX24_lay (d + 1) 0 h Φ 0 [vR v0, vR v1, vI v2, vI v3, vU] [] h) : Cw G mX24_lay (d + 1) 0 [vR v0, vR v1, vI v2, vI v3] h Φ := Cw.of rfl K
set_option maxHeartbeats 4000000 in
theorem sX24_lay_3 {G : Gx} {d t : Nat} {h0 : AH} {Φ : Out → AH → Prop} (h : AH) (v0 : Nat) (v1 : Nat) (v2 : Int32) (v3 : Int32) (v4 : Int32) (K : ((v3 ≤ v4 → Φ (.inl none) h) ∧ (¬ v3 ≤ v4 → h.kd v0 = 24 ∧ ∀ r3 : Nat, r3 = (h.r 24090 v0) → h.kd v1 = 101 ∧ vp_in (v2 + v4) (h.ai v1).length ∧ h.kd r3 = 101 ∧ vp_in (h.i 24091 v0) (h.ai r3).length ∧ ∀ h8 : AH, h8 = h.wi r3 ((h.ai r3).set ((h.i 24091 v0).toNatClampNeg) (i2b ((h.ai v1).getD ((v2 + v4).toNatClampNeg) 0))) → ∀ h12 : AH, h12 = h8.pi 24091 v0 ((h.i 24091 v0) + 1) → Aw G mX24_lay (d + 1) t h0 Φ 3 [vR v0, vR v1, vI v2, vI v3, vI (v4 + 1)] [] h12))) : Aw G mX24_lay (d + 1) t h0 Φ 3 [vR v0, vR v1, vI v2, vI v3, vI v4] [] h := by
  refine r_iload (pc := 3) dX24_lay_3 rfl ?_
  refine r_iload_n (pc := 5) dX24_lay_5 rfl ?_
  refine r_icmp_ge (pc := 6) (tgt := 40) dX24_lay_6 rfl (fun c1 => ?_) (fun c1 => ?_)
  · have K := K.1 c1
    exact r_vret (pc := 40) rfl dX24_lay_40 K
  · have K := K.2 c1
    refine r_aload_n (pc := 9) dX24_lay_9 rfl ?_
    obtain ⟨hk2, K⟩ := K
    have K := K _ rfl
    refine r_getr' (pc := 10) (T := TX24) 24 90 rfl hk2 (Or.inl q2788) dX24_lay_10 kc24 g24090 ?_
    refine r_aload_n (pc := 13) dX24_lay_13 rfl ?_
    refine r_geti' (pc := 14) (T := TX24) 24 91 rfl hk2 (Or.inl q2789) dX24_lay_14 kc24 g24091 ?_
    refine r_aload_n (pc := 17) dX24_lay_17 rfl ?_
    refine r_iload_n (pc := 18) dX24_lay_18 rfl ?_
    refine r_iload (pc := 19) dX24_lay_19 rfl ?_
    refine r_iadd (pc := 21) dX24_lay_21 ?_
    obtain ⟨hk4, K⟩ := K
    obtain ⟨hi5, K⟩ := K
    refine r_baload (pc := 22) hk4 hi5 dX24_lay_22 ?_
    obtain ⟨hk6, K⟩ := K
    obtain ⟨hi7, K⟩ := K
    refine r_jbast (pc := 23) hk6 hi7 (Or.inl (em rfl)) dX24_lay_23 ?_
    refine r_nameH (fun h8 eh8 => ?_)
    have K := K h8 eh8
    refine r_aload_n (pc := 24) dX24_lay_24 rfl ?_
    refine r_dup (pc := 25) rfl dX24_lay_25 ?_
    have hk9 := kd_wi eh8 hk2
    have hv10 := fi_self (key := 24091) hk2
    have hv11 := fi_wi (key := 24091) eh8 hv10
    refine r_geti' (pc := 26) (T := TX24) 24 91 hv11 hk9 (Or.inl q2789) dX24_lay_26 kc24 g24091 ?_
    refine r_iconst (pc := 29) (x := 1) dX24_lay_29 rfl ?_
    refine r_iadd (pc := 30) dX24_lay_30 ?_
    refine r_puti (pc := 31) (T := TX24) (key := 24091) 24 91 hk9 (Or.inl q2789) dX24_lay_31 kc24 rfl (Or.inl rfl) (Or.inl (em rfl)) ?_
    refine r_nameH (fun h12 eh12 => ?_)
    have K := K h12 eh12
    refine r_iinc (pc := 34) (lv' := [_, _, _, _, _]) dX24_lay_34 rfl rfl (by decide) rfl ?_
    refine r_goto (pc := 37) (tgt := 3) dX24_lay_37 rfl ?_
    refine r_mask (pc := 3) [true, true, true, true, true] rfl ?_
    exact K
theorem dX24_lay_2_0 : decode cX24_lay_2 0 = .ok (.iconst 0, 1) := by decide +kernel
theorem dX24_lay_2_1 : decode cX24_lay_2 1 = .ok (.istore 4, 2) := by decide +kernel
theorem dX24_lay_2_3 : decode cX24_lay_2 3 = .ok (.iload 4, 2) := by decide +kernel
theorem dX24_lay_2_5 : decode cX24_lay_2 5 = .ok (.iload_n 3, 1) := by decide +kernel
theorem dX24_lay_2_6 : decode cX24_lay_2 6 = .ok (.if_icmp .ge 37, 3) := by decide +kernel
theorem dX24_lay_2_9 : decode cX24_lay_2 9 = .ok (.aload_n 0, 1) := by decide +kernel
theorem dX24_lay_2_10 : decode cX24_lay_2 10 = .ok (.getfield 650, 3) := by decide +kernel
theorem dX24_lay_2_13 : decode cX24_lay_2 13 = .ok (.aload_n 0, 1) := by decide +kernel
theorem dX24_lay_2_14 : decode cX24_lay_2 14 = .ok (.getfield 653, 3) := by decide +kernel
theorem dX24_lay_2_17 : decode cX24_lay_2 17 = .ok (.lload_n 1, 1) := by decide +kernel
theorem dX24_lay_2_18 : decode cX24_lay_2 18 = .ok (.bipush 8, 2) := by decide +kernel
theorem dX24_lay_2_20 : decode cX24_lay_2 20 = .ok (.iload 4, 2) := by decide +kernel
theorem dX24_lay_2_22 : decode cX24_lay_2 22 = .ok (.imul, 1) := by decide +kernel
theorem dX24_lay_2_23 : decode cX24_lay_2 23 = .ok (.lushr, 1) := by decide +kernel
theorem dX24_lay_2_24 : decode cX24_lay_2 24 = .ok (.l2i, 1) := by decide +kernel
theorem dX24_lay_2_25 : decode cX24_lay_2 25 = .ok (.i2b, 1) := by decide +kernel
theorem dX24_lay_2_26 : decode cX24_lay_2 26 = .ok (.bastore, 1) := by decide +kernel
theorem dX24_lay_2_27 : decode cX24_lay_2 27 = .ok (.aload_n 0, 1) := by decide +kernel
theorem dX24_lay_2_28 : decode cX24_lay_2 28 = .ok (.dup, 1) := by decide +kernel
theorem dX24_lay_2_29 : decode cX24_lay_2 29 = .ok (.getfield 653, 3) := by decide +kernel
theorem dX24_lay_2_32 : decode cX24_lay_2 32 = .ok (.iconst 1, 1) := by decide +kernel
theorem dX24_lay_2_33 : decode cX24_lay_2 33 = .ok (.iadd, 1) := by decide +kernel
theorem dX24_lay_2_34 : decode cX24_lay_2 34 = .ok (.putfield 653, 3) := by decide +kernel
theorem dX24_lay_2_37 : decode cX24_lay_2 37 = .ok (.iinc 4 1, 3) := by decide +kernel
theorem dX24_lay_2_40 : decode cX24_lay_2 40 = .ok (.goto (-37), 3) := by decide +kernel
theorem dX24_lay_2_43 : decode cX24_lay_2 43 = .ok (.return_, 1) := by decide +kernel
/-! CoinJudgeModel.lay(JI)V -/
set_option maxHeartbeats 4000000 in
theorem sX24_lay_2_0 {G : Gx} {d t : Nat} {h0 : AH} {Φ : Out → AH → Prop} (h : AH) (v0 : Nat) (v1 : Int64) (v3 : Int32) (K : Aw G mX24_lay_2 (d + 1) t h0 Φ 3 [vR v0, vJ v1, vU, vI v3, vI 0] [] h) : Aw G mX24_lay_2 (d + 1) t h0 Φ 0 [vR v0, vJ v1, vU, vI v3, vU] [] h := by
  refine r_iconst (pc := 0) (x := 0) dX24_lay_2_0 rfl ?_
  refine r_istore (pc := 1) (lv' := [_, _, _, _, _]) dX24_lay_2_1 (by decide) rfl ?_
  refine r_mask (pc := 3) [true, true, false, true, true] rfl ?_
  exact K
theorem eX24_lay_2 {G : Gx} {d : Nat} {Φ : Out → AH → Prop} (h : AH) (v0 : Nat) (v1 : Int64) (v3 : Int32) (K : WF G h → Aw G mX24_lay_2 (d + 1) 0 h Φ 0 [vR v0, vJ v1, vU, vI v3, vU] [] h) : Cw G mX24_lay_2 (d + 1) 0 [vR v0, vJ v1, vI v3] h Φ := Cw.of rfl K
set_option maxHeartbeats 4000000 in
theorem sX24_lay_2_3 {G : Gx} {d t : Nat} {h0 : AH} {Φ : Out → AH → Prop} (h : AH) (v0 : Nat) (v1 : Int64) (v3 : Int32) (v4 : Int32) (K : ((v3 ≤ v4 → Φ (.inl none) h) ∧ (¬ v3 ≤ v4 → h.kd v0 = 24 ∧ ∀ r3 : Nat, r3 = (h.r 24090 v0) → h.kd r3 = 101 ∧ vp_in (h.i 24091 v0) (h.ai r3).length ∧ ∀ h6 : AH, h6 = h.wi r3 ((h.ai r3).set ((h.i 24091 v0).toNatClampNeg) (i2b (i2b ((Jushr v1 (8 * v4)).toInt32)))) → ∀ h10 : AH, h10 = h6.pi 24091 v0 ((h.i 24091 v0) + 1) → Aw G mX24_lay_2 (d + 1) t h0 Φ 3 [vR v0, vJ v1, vU, vI v3, vI (v4 + 1)] [] h10))) : Aw G mX24_lay_2 (d + 1) t h0 Φ 3 [vR v0, vJ v1, vU, vI v3, vI v4] [] h := by
  refine r_iload (pc := 3) dX24_lay_2_3 rfl ?_
  refine r_iload_n (pc := 5) dX24_lay_2_5 rfl ?_
  refine r_icmp_ge (pc := 6) (tgt := 43) dX24_lay_2_6 rfl (fun c1 => ?_) (fun c1 => ?_)
  · have K := K.1 c1
    exact r_vret (pc := 43) rfl dX24_lay_2_43 K
  · have K := K.2 c1
    refine r_aload_n (pc := 9) dX24_lay_2_9 rfl ?_
    obtain ⟨hk2, K⟩ := K
    have K := K _ rfl
    refine r_getr' (pc := 10) (T := TX24) 24 90 rfl hk2 (Or.inl q2788) dX24_lay_2_10 kc24 g24090 ?_
    refine r_aload_n (pc := 13) dX24_lay_2_13 rfl ?_
    refine r_geti' (pc := 14) (T := TX24) 24 91 rfl hk2 (Or.inl q2789) dX24_lay_2_14 kc24 g24091 ?_
    refine r_lload_n (pc := 17) dX24_lay_2_17 rfl ?_
    refine r_bipush (pc := 18) (x := 8) dX24_lay_2_18 rfl ?_
    refine r_iload (pc := 20) dX24_lay_2_20 rfl ?_
    refine r_imul (pc := 22) dX24_lay_2_22 ?_
    refine r_Jushr (pc := 23) dX24_lay_2_23 ?_
    refine r_l2i (pc := 24) dX24_lay_2_24 ?_
    refine r_ji2b (pc := 25) dX24_lay_2_25 ?_
    obtain ⟨hk4, K⟩ := K
    obtain ⟨hi5, K⟩ := K
    refine r_jbast (pc := 26) hk4 hi5 (Or.inl (em rfl)) dX24_lay_2_26 ?_
    refine r_nameH (fun h6 eh6 => ?_)
    have K := K h6 eh6
    refine r_aload_n (pc := 27) dX24_lay_2_27 rfl ?_
    refine r_dup (pc := 28) rfl dX24_lay_2_28 ?_
    have hk7 := kd_wi eh6 hk2
    have hv8 := fi_self (key := 24091) hk2
    have hv9 := fi_wi (key := 24091) eh6 hv8
    refine r_geti' (pc := 29) (T := TX24) 24 91 hv9 hk7 (Or.inl q2789) dX24_lay_2_29 kc24 g24091 ?_
    refine r_iconst (pc := 32) (x := 1) dX24_lay_2_32 rfl ?_
    refine r_iadd (pc := 33) dX24_lay_2_33 ?_
    refine r_puti (pc := 34) (T := TX24) (key := 24091) 24 91 hk7 (Or.inl q2789) dX24_lay_2_34 kc24 rfl (Or.inl rfl) (Or.inl (em rfl)) ?_
    refine r_nameH (fun h10 eh10 => ?_)
    have K := K h10 eh10
    refine r_iinc (pc := 37) (lv' := [_, _, _, _, _]) dX24_lay_2_37 rfl rfl (by decide) rfl ?_
    refine r_goto (pc := 40) (tgt := 3) dX24_lay_2_40 rfl ?_
    refine r_mask (pc := 3) [true, true, false, true, true] rfl ?_
    exact K
theorem dX24_layCount_0 : decode cX24_layCount 0 = .ok (.lload_n 1, 1) := by decide +kernel
theorem dX24_layCount_1 : decode cX24_layCount 1 = .ok (.ldc2_w 271, 3) := by decide +kernel
theorem dX24_layCount_4 : decode cX24_layCount 4 = .ok (.lcmp, 1) := by decide +kernel
theorem dX24_layCount_5 : decode cX24_layCount 5 = .ok (.ifCond .ge 12, 3) := by decide +kernel
theorem dX24_layCount_8 : decode cX24_layCount 8 = .ok (.aload_n 0, 1) := by decide +kernel
theorem dX24_layCount_9 : decode cX24_layCount 9 = .ok (.lload_n 1, 1) := by decide +kernel
theorem dX24_layCount_10 : decode cX24_layCount 10 = .ok (.iconst 1, 1) := by decide +kernel
theorem dX24_layCount_11 : decode cX24_layCount 11 = .ok (.invokevirtual 656, 3) := by decide +kernel
theorem dX24_layCount_14 : decode cX24_layCount 14 = .ok (.goto 17, 3) := by decide +kernel
theorem dX24_layCount_17 : decode cX24_layCount 17 = .ok (.aload_n 0, 1) := by decide +kernel
theorem dX24_layCount_18 : decode cX24_layCount 18 = .ok (.ldc2_w 271, 3) := by decide +kernel
theorem dX24_layCount_21 : decode cX24_layCount 21 = .ok (.iconst 1, 1) := by decide +kernel
theorem dX24_layCount_22 : decode cX24_layCount 22 = .ok (.invokevirtual 656, 3) := by decide +kernel
theorem dX24_layCount_25 : decode cX24_layCount 25 = .ok (.aload_n 0, 1) := by decide +kernel
theorem dX24_layCount_26 : decode cX24_layCount 26 = .ok (.lload_n 1, 1) := by decide +kernel
theorem dX24_layCount_27 : decode cX24_layCount 27 = .ok (.iconst 2, 1) := by decide +kernel
theorem dX24_layCount_28 : decode cX24_layCount 28 = .ok (.invokevirtual 656, 3) := by decide +kernel
theorem dX24_layCount_31 : decode cX24_layCount 31 = .ok (.return_, 1) := by decide +kernel
/-! CoinJudgeModel.layCount(J)V -/
set_option maxHeartbeats 4000000 in
theorem sX24_layCount_0 {G : Gx} {d t : Nat} {h0 : AH} {Φ : Out → AH → Prop} (h : AH) (v0 : Nat) (v1 : Int64) (K : ((253 ≤ v1 → h.kd v0 = 24 ∧ Cw G mX24_lay_2 d 0 [vR v0, vJ 253, vI 1] h (kV (fun h3 => Cw G mX24_lay_2 d 0 [vR v0, vJ v1, vI 2] h3 (kV (fun h6 => Φ (.inl none) h6) (fun x h => Φ (.inr x) h))) (fun x h => Φ (.inr x) h))) ∧ (¬ 253 ≤ v1 → h.kd v0 = 24 ∧ Cw G mX24_lay_2 d 0 [vR v0, vJ v1, vI 1] h (kV (fun h9 => Φ (.inl none) h9) (fun x h => Φ (.inr x) h))))) : Aw G mX24_layCount (d + 1) t h0 Φ 0 [vR v0, vJ v1, vU] [] h := by
  refine r_lload_n (pc := 0) dX24_layCount_0 rfl ?_
  refine r_ldc2 (pc := 1) dX24_layCount_1 q2313 ?_
  refine r_lcmp_ge (pc := 4) (tgt := 17) dX24_layCount_4 dX24_layCount_5 rfl (fun c1 => ?_) (fun c1 => ?_)
  · have K := K.1 c1
    refine r_aload_n (pc := 17) dX24_layCount_17 rfl ?_
    refine r_ldc2 (pc := 18) dX24_layCount_18 q2313 ?_
    refine r_iconst (pc := 21) (x := 1) dX24_layCount_21 rfl ?_
    obtain ⟨hk4, K⟩ := K
    refine r_callV_V (pc := 22) (Y := mX24_lay_2) (vs := [_, _]) (st := []) hk4 rfl kc24 q2602 q2604 qs117 dX24_layCount_22 rfl cd_X24_lay_2 rfl rfl fp_X24_layCount_X24_lay_2 K (fun h3 eh3 wh3 K => ?_) (fun x h1 _ _ e => Tw.out rfl e)
    refine r_aload_n (pc := 25) dX24_layCount_25 rfl ?_
    refine r_lload_n (pc := 26) dX24_layCount_26 rfl ?_
    refine r_iconst (pc := 27) (x := 2) dX24_layCount_27 rfl ?_
    have hk7 := kd_ext eh3 hk4 (nz rfl)
    refine r_callV_V (pc := 28) (Y := mX24_lay_2) (vs := [_, _]) (st := []) hk7 rfl kc24 q2602 q2604 qs117 dX24_layCount_28 rfl cd_X24_lay_2 rfl rfl fp_X24_layCount_X24_lay_2 K (fun h6 eh6 wh6 K => ?_) (fun x h1 _ _ e => Tw.out rfl e)
    exact r_vret (pc := 31) rfl dX24_layCount_31 K
  · have K := K.2 c1
    refine r_aload_n (pc := 8) dX24_layCount_8 rfl ?_
    refine r_lload_n (pc := 9) dX24_layCount_9 rfl ?_
    refine r_iconst (pc := 10) (x := 1) dX24_layCount_10 rfl ?_
    obtain ⟨hk10, K⟩ := K
    refine r_callV_V (pc := 11) (Y := mX24_lay_2) (vs := [_, _]) (st := []) hk10 rfl kc24 q2602 q2604 qs117 dX24_layCount_11 rfl cd_X24_lay_2 rfl rfl fp_X24_layCount_X24_lay_2 K (fun h9 eh9 wh9 K => ?_) (fun x h1 _ _ e => Tw.out rfl e)
    refine r_goto (pc := 14) (tgt := 31) dX24_layCount_14 rfl ?_
    exact r_vret (pc := 31) rfl dX24_layCount_31 K
theorem eX24_layCount {G : Gx} {d : Nat} {Φ : Out → AH → Prop} (h : AH) (v0 : Nat) (v1 : Int64) (K : WF G h → Aw G mX24_layCount (d + 1) 0 h Φ 0 [vR v0, vJ v1, vU] [] h) : Cw G mX24_layCount (d + 1) 0 [vR v0, vJ v1] h Φ := Cw.of rfl K
theorem dX24_unmarked_0 : decode cX24_unmarked 0 = .ok (.iconst 0, 1) := by decide +kernel
theorem dX24_unmarked_1 : decode cX24_unmarked 1 = .ok (.istore_n 1, 1) := by decide +kernel
theorem dX24_unmarked_2 : decode cX24_unmarked 2 = .ok (.iconst 0, 1) := by decide +kernel
theorem dX24_unmarked_3 : decode cX24_unmarked 3 = .ok (.istore_n 2, 1) := by decide +kernel
theorem dX24_unmarked_4 : decode cX24_unmarked 4 = .ok (.iload_n 1, 1) := by decide +kernel
theorem dX24_unmarked_5 : decode cX24_unmarked 5 = .ok (.aload_n 0, 1) := by decide +kernel
theorem dX24_unmarked_6 : decode cX24_unmarked 6 = .ok (.getfield 642, 3) := by decide +kernel
theorem dX24_unmarked_9 : decode cX24_unmarked 9 = .ok (.if_icmp .ge 86, 3) := by decide +kernel
theorem dX24_unmarked_12 : decode cX24_unmarked 12 = .ok (.aload_n 0, 1) := by decide +kernel
theorem dX24_unmarked_13 : decode cX24_unmarked 13 = .ok (.aload_n 0, 1) := by decide +kernel
theorem dX24_unmarked_14 : decode cX24_unmarked 14 = .ok (.getfield 645, 3) := by decide +kernel
theorem dX24_unmarked_17 : decode cX24_unmarked 17 = .ok (.iload_n 1, 1) := by decide +kernel
theorem dX24_unmarked_18 : decode cX24_unmarked 18 = .ok (.aload_n 0, 1) := by decide +kernel
theorem dX24_unmarked_19 : decode cX24_unmarked 19 = .ok (.getfield 642, 3) := by decide +kernel
theorem dX24_unmarked_22 : decode cX24_unmarked 22 = .ok (.invokevirtual 423, 3) := by decide +kernel
theorem dX24_unmarked_25 : decode cX24_unmarked 25 = .ok (.istore_n 3, 1) := by decide +kernel
theorem dX24_unmarked_26 : decode cX24_unmarked 26 = .ok (.iload_n 3, 1) := by decide +kernel
theorem dX24_unmarked_27 : decode cX24_unmarked 27 = .ok (.ifCond .ge 8, 3) := by decide +kernel
theorem dX24_unmarked_30 : decode cX24_unmarked 30 = .ok (.aload_n 0, 1) := by decide +kernel
theorem dX24_unmarked_31 : decode cX24_unmarked 31 = .ok (.getfield 642, 3) := by decide +kernel
theorem dX24_unmarked_34 : decode cX24_unmarked 34 = .ok (.istore_n 3, 1) := by decide +kernel
theorem dX24_unmarked_35 : decode cX24_unmarked 35 = .ok (.aload_n 0, 1) := by decide +kernel
theorem dX24_unmarked_36 : decode cX24_unmarked 36 = .ok (.getfield 645, 3) := by decide +kernel
theorem dX24_unmarked_39 : decode cX24_unmarked 39 = .ok (.iload_n 1, 1) := by decide +kernel
theorem dX24_unmarked_40 : decode cX24_unmarked 40 = .ok (.baload, 1) := by decide +kernel
theorem dX24_unmarked_41 : decode cX24_unmarked 41 = .ok (.sipush 255, 3) := by decide +kernel
theorem dX24_unmarked_44 : decode cX24_unmarked 44 = .ok (.iand, 1) := by decide +kernel
theorem dX24_unmarked_45 : decode cX24_unmarked 45 = .ok (.sipush 171, 3) := by decide +kernel
theorem dX24_unmarked_48 : decode cX24_unmarked 48 = .ok (.if_icmp .ne 7, 3) := by decide +kernel
theorem dX24_unmarked_51 : decode cX24_unmarked 51 = .ok (.iconst 1, 1) := by decide +kernel
theorem dX24_unmarked_52 : decode cX24_unmarked 52 = .ok (.goto 4, 3) := by decide +kernel
theorem dX24_unmarked_55 : decode cX24_unmarked 55 = .ok (.iconst 0, 1) := by decide +kernel
theorem dX24_unmarked_56 : decode cX24_unmarked 56 = .ok (.istore 4, 2) := by decide +kernel
theorem dX24_unmarked_58 : decode cX24_unmarked 58 = .ok (.iload_n 1, 1) := by decide +kernel
theorem dX24_unmarked_59 : decode cX24_unmarked 59 = .ok (.iload_n 3, 1) := by decide +kernel
theorem dX24_unmarked_60 : decode cX24_unmarked 60 = .ok (.if_icmp .ge 32, 3) := by decide +kernel
theorem dX24_unmarked_63 : decode cX24_unmarked 63 = .ok (.iload 4, 2) := by decide +kernel
theorem dX24_unmarked_65 : decode cX24_unmarked 65 = .ok (.ifCond .eq 6, 3) := by decide +kernel
theorem dX24_unmarked_68 : decode cX24_unmarked 68 = .ok (.goto 18, 3) := by decide +kernel
theorem dX24_unmarked_71 : decode cX24_unmarked 71 = .ok (.aload_n 0, 1) := by decide +kernel
theorem dX24_unmarked_72 : decode cX24_unmarked 72 = .ok (.getfield 648, 3) := by decide +kernel
theorem dX24_unmarked_75 : decode cX24_unmarked 75 = .ok (.iload_n 2, 1) := by decide +kernel
theorem dX24_unmarked_76 : decode cX24_unmarked 76 = .ok (.aload_n 0, 1) := by decide +kernel
theorem dX24_unmarked_77 : decode cX24_unmarked 77 = .ok (.getfield 645, 3) := by decide +kernel
theorem dX24_unmarked_80 : decode cX24_unmarked 80 = .ok (.iload_n 1, 1) := by decide +kernel
theorem dX24_unmarked_81 : decode cX24_unmarked 81 = .ok (.baload, 1) := by decide +kernel
theorem dX24_unmarked_82 : decode cX24_unmarked 82 = .ok (.bastore, 1) := by decide +kernel
theorem dX24_unmarked_83 : decode cX24_unmarked 83 = .ok (.iinc 2 1, 3) := by decide +kernel
theorem dX24_unmarked_86 : decode cX24_unmarked 86 = .ok (.iinc 1 1, 3) := by decide +kernel
theorem dX24_unmarked_89 : decode cX24_unmarked 89 = .ok (.goto (-31), 3) := by decide +kernel
theorem dX24_unmarked_92 : decode cX24_unmarked 92 = .ok (.goto (-88), 3) := by decide +kernel
theorem dX24_unmarked_95 : decode cX24_unmarked 95 = .ok (.aload_n 0, 1) := by decide +kernel
theorem dX24_unmarked_96 : decode cX24_unmarked 96 = .ok (.getfield 645, 3) := by decide +kernel
theorem dX24_unmarked_99 : decode cX24_unmarked 99 = .ok (.astore_n 3, 1) := by decide +kernel
theorem dX24_unmarked_100 : decode cX24_unmarked 100 = .ok (.aload_n 0, 1) := by decide +kernel
theorem dX24_unmarked_101 : decode cX24_unmarked 101 = .ok (.aload_n 0, 1) := by decide +kernel
theorem dX24_unmarked_102 : decode cX24_unmarked 102 = .ok (.getfield 648, 3) := by decide +kernel
theorem dX24_unmarked_105 : decode cX24_unmarked 105 = .ok (.putfield 645, 3) := by decide +kernel
theorem dX24_unmarked_108 : decode cX24_unmarked 108 = .ok (.aload_n 0, 1) := by decide +kernel
theorem dX24_unmarked_109 : decode cX24_unmarked 109 = .ok (.aload_n 3, 1) := by decide +kernel
theorem dX24_unmarked_110 : decode cX24_unmarked 110 = .ok (.putfield 648, 3) := by decide +kernel
theorem dX24_unmarked_113 : decode cX24_unmarked 113 = .ok (.aload_n 0, 1) := by decide +kernel
theorem dX24_unmarked_114 : decode cX24_unmarked 114 = .ok (.iload_n 2, 1) := by decide +kernel
theorem dX24_unmarked_115 : decode cX24_unmarked 115 = .ok (.putfield 642, 3) := by decide +kernel
theorem dX24_unmarked_118 : decode cX24_unmarked 118 = .ok (.return_, 1) := by decide +kernel
/-! CoinJudgeModel.unmarked()V -/
set_option maxHeartbeats 4000000 in
theorem sX24_unmarked_0 {G : Gx} {d t : Nat} {h0 : AH} {Φ : Out → AH → Prop} (h : AH) (v0 : Nat) (K : Aw G mX24_unmarked (d + 1) t h0 Φ 4 [vR v0, vI 0, vI 0, vU, vU] [] h) : Aw G mX24_unmarked (d + 1) t h0 Φ 0 [vR v0, vU, vU, vU, vU] [] h := by
  refine r_iconst (pc := 0) (x := 0) dX24_unmarked_0 rfl ?_
  refine r_istore_n (pc := 1) (lv' := [_, _, _, _, _]) dX24_unmarked_1 (by decide) rfl ?_
  refine r_iconst (pc := 2) (x := 0) dX24_unmarked_2 rfl ?_
  refine r_istore_n (pc := 3) (lv' := [_, _, _, _, _]) dX24_unmarked_3 (by decide) rfl ?_
  refine r_mask (pc := 4) [true, true, true, false, false] rfl ?_
  exact K
theorem eX24_unmarked {G : Gx} {d : Nat} {Φ : Out → AH → Prop} (h : AH) (v0 : Nat) (K : WF G h → Aw G mX24_unmarked (d + 1) 0 h Φ 0 [vR v0, vU, vU, vU, vU] [] h) : Cw G mX24_unmarked (d + 1) 0 [vR v0] h Φ := Cw.of rfl K
set_option maxHeartbeats 4000000 in
theorem sX24_unmarked_4 {G : Gx} {d t : Nat} {h0 : AH} {Φ : Out → AH → Prop} (h : AH) (v0 : Nat) (v1 : Int32) (v2 : Int32) (K : h.kd v0 = 24 ∧ (((h.i 24089 v0) ≤ v1 → ∀ r3 : Nat, r3 = (h.r 24087 v0) → ∀ r4 : Nat, r4 = (h.r 24088 v0) → ∀ h5 : AH, h5 = h.pr 24087 v0 r4 → ∀ h7 : AH, h7 = h5.pr 24088 v0 r3 → ∀ h9 : AH, h9 = h7.pi 24089 v0 v2 → Φ (.inl none) h9) ∧ (¬ (h.i 24089 v0) ≤ v1 → ∀ r10 : Nat, r10 = (h.r 24087 v0) → Cw G mX24_behind d 0 [vR v0, vR r10, vI v1, vI (h.i 24089 v0)] h (kI (fun x11 h12 => ((0 ≤ x11 → Aw G mX24_unmarked (d + 1) t h0 Φ 35 [vR v0, vI v1, vI v2, vI x11, vU] [] h12) ∧ (¬ 0 ≤ x11 → Aw G mX24_unmarked (d + 1) t h0 Φ 35 [vR v0, vI v1, vI v2, vI (h.i 24089 v0), vU] [] h12))) (fun x h => Φ (.inr x) h))))) : Aw G mX24_unmarked (d + 1) t h0 Φ 4 [vR v0, vI v1, vI v2, vU, vU] [] h := by
  refine r_iload_n (pc := 4) dX24_unmarked_4 rfl ?_
  refine r_aload_n (pc := 5) dX24_unmarked_5 rfl ?_
  obtain ⟨hk1, K⟩ := K
  refine r_geti' (pc := 6) (T := TX24) 24 89 rfl hk1 (Or.inl q2787) dX24_unmarked_6 kc24 g24089 ?_
  refine r_icmp_ge (pc := 9) (tgt := 95) dX24_unmarked_9 rfl (fun c2 => ?_) (fun c2 => ?_)
  · have K := K.1 c2
    refine r_aload_n (pc := 95) dX24_unmarked_95 rfl ?_
    have K := K _ rfl
    refine r_getr' (pc := 96) (T := TX24) 24 87 rfl hk1 (Or.inl q2785) dX24_unmarked_96 kc24 g24087 ?_
    refine r_astore_n (pc := 99) (lv' := [_, _, _, _, _]) dX24_unmarked_99 (by decide) rfl ?_
    refine r_aload_n (pc := 100) dX24_unmarked_100 rfl ?_
    refine r_aload_n (pc := 101) dX24_unmarked_101 rfl ?_
    have K := K _ rfl
    refine r_getr' (pc := 102) (T := TX24) 24 88 rfl hk1 (Or.inl q2786) dX24_unmarked_102 kc24 g24088 ?_
    refine r_putr (pc := 105) (T := TX24) (key := 24087) 24 87 (ty := (.array .byte)) hk1 (Or.inl q2785) dX24_unmarked_105 kc24 rfl rfl (Or.inl rfl) (Or.inl (em rfl)) ?_
    refine r_nameH (fun h5 eh5 => ?_)
    have K := K h5 eh5
    refine r_aload_n (pc := 108) dX24_unmarked_108 rfl ?_
    refine r_aload_n (pc := 109) dX24_unmarked_109 rfl ?_
    have hk6 := kd_pr eh5 hk1
    refine r_putr (pc := 110) (T := TX24) (key := 24088) 24 88 (ty := (.array .byte)) hk6 (Or.inl q2786) dX24_unmarked_110 kc24 rfl rfl (Or.inl rfl) (Or.inl (em rfl)) ?_
    refine r_nameH (fun h7 eh7 => ?_)
    have K := K h7 eh7
    refine r_aload_n (pc := 113) dX24_unmarked_113 rfl ?_
    refine r_iload_n (pc := 114) dX24_unmarked_114 rfl ?_
    have hk8 := kd_pr eh7 hk6
    refine r_puti (pc := 115) (T := TX24) (key := 24089) 24 89 hk8 (Or.inl q2787) dX24_unmarked_115 kc24 rfl (Or.inl rfl) (Or.inl (em rfl)) ?_
    refine r_nameH (fun h9 eh9 => ?_)
    have K := K h9 eh9
    exact r_vret (pc := 118) rfl dX24_unmarked_118 K
  · have K := K.2 c2
    refine r_aload_n (pc := 12) dX24_unmarked_12 rfl ?_
    refine r_aload_n (pc := 13) dX24_unmarked_13 rfl ?_
    have K := K _ rfl
    refine r_getr' (pc := 14) (T := TX24) 24 87 rfl hk1 (Or.inl q2785) dX24_unmarked_14 kc24 g24087 ?_
    refine r_iload_n (pc := 17) dX24_unmarked_17 rfl ?_
    refine r_aload_n (pc := 18) dX24_unmarked_18 rfl ?_
    refine r_geti' (pc := 19) (T := TX24) 24 89 rfl hk1 (Or.inl q2787) dX24_unmarked_19 kc24 g24089 ?_
    refine r_callV_I (pc := 22) (Y := mX24_behind) (vs := [_, _, _]) (st := []) hk1 rfl kc24 q2484 q2486 qs91 dX24_unmarked_22 rfl cd_X24_behind rfl rfl fp_X24_unmarked_X24_behind K (fun x11 h12 eh12 wh12 K => ?_) (fun x h1 _ _ e => Tw.out rfl e)
    refine r_istore_n (pc := 25) (lv' := [_, _, _, _, _]) dX24_unmarked_25 (by decide) rfl ?_
    refine r_iload_n (pc := 26) dX24_unmarked_26 rfl ?_
    refine r_if_ge (pc := 27) (tgt := 35) dX24_unmarked_27 rfl (fun c13 => ?_) (fun c13 => ?_)
    · have K := K.1 c13
      refine r_mask (pc := 35) [true, true, true, true, false] rfl ?_
      exact K
    · have K := K.2 c13
      refine r_aload_n (pc := 30) dX24_unmarked_30 rfl ?_
      have hk14 := kd_ext eh12 hk1 (nz rfl)
      have hv15 := fi_self (key := 24089) hk1
      have hv16 := (fi_ext (key := 24089) eh12 hk1 (nz rfl) (ne0 wh12 hk14 (nz rfl)) (nm rfl)).trans hv15
      refine r_geti' (pc := 31) (T := TX24) 24 89 hv16 hk14 (Or.inl q2787) dX24_unmarked_31 kc24 g24089 ?_
      refine r_istore_n (pc := 34) (lv' := [_, _, _, _, _]) dX24_unmarked_34 (by decide) rfl ?_
      refine r_mask (pc := 35) [true, true, true, true, false] rfl ?_
      exact K
set_option maxHeartbeats 4000000 in
theorem sX24_unmarked_35 {G : Gx} {d t : Nat} {h0 : AH} {Φ : Out → AH → Prop} (h : AH) (v0 : Nat) (v1 : Int32) (v2 : Int32) (v3 : Int32) (K : h.kd v0 = 24 ∧ ∀ r2 : Nat, r2 = (h.r 24087 v0) → h.kd r2 = 101 ∧ vp_in v1 (h.ai r2).length ∧ ((¬ (((h.ai r2).getD (v1.toNatClampNeg) 0) &&& 255) = 171 → Aw G mX24_unmarked (d + 1) t h0 Φ 58 [vR v0, vI v1, vI v2, vI v3, vI 0] [] h) ∧ ((((h.ai r2).getD (v1.toNatClampNeg) 0) &&& 255) = 171 → Aw G mX24_unmarked (d + 1) t h0 Φ 58 [vR v0, vI v1, vI v2, vI v3, vI 1] [] h))) : Aw G mX24_unmarked (d + 1) t h0 Φ 35 [vR v0, vI v1, vI v2, vI v3, vU] [] h := by
  refine r_aload_n (pc := 35) dX24_unmarked_35 rfl ?_
  obtain ⟨hk1, K⟩ := K
  have K := K _ rfl
  refine r_getr' (pc := 36) (T := TX24) 24 87 rfl hk1 (Or.inl q2785) dX24_unmarked_36 kc24 g24087 ?_
  refine r_iload_n (pc := 39) dX24_unmarked_39 rfl ?_
  obtain ⟨hk3, K⟩ := K
  obtain ⟨hi4, K⟩ := K
  refine r_baload (pc := 40) hk3 hi4 dX24_unmarked_40 ?_
  refine r_sipush (pc := 41) (x := 255) dX24_unmarked_41 rfl ?_
  refine r_iand (pc := 44) dX24_unmarked_44 ?_
  refine r_sipush (pc := 45) (x := 171) dX24_unmarked_45 rfl ?_
  refine r_icmp_ne (pc := 48) (tgt := 55) dX24_unmarked_48 rfl (fun c5 => ?_) (fun c5 => ?_)
  · have K := K.1 c5
    refine r_iconst (pc := 55) (x := 0) dX24_unmarked_55 rfl ?_
    refine r_istore (pc := 56) (lv' := [_, _, _, _, _]) dX24_unmarked_56 (by decide) rfl ?_
    refine r_mask (pc := 58) [true, true, true, true, true] rfl ?_
    exact K
  · have K := K.2 c5
    refine r_iconst (pc := 51) (x := 1) dX24_unmarked_51 rfl ?_
    refine r_goto (pc := 52) (tgt := 56) dX24_unmarked_52 rfl ?_
    refine r_istore (pc := 56) (lv' := [_, _, _, _, _]) dX24_unmarked_56 (by decide) rfl ?_
    refine r_mask (pc := 58) [true, true, true, true, true] rfl ?_
    exact K
set_option maxHeartbeats 4000000 in
theorem sX24_unmarked_58 {G : Gx} {d t : Nat} {h0 : AH} {Φ : Out → AH → Prop} (h : AH) (v0 : Nat) (v1 : Int32) (v2 : Int32) (v3 : Int32) (v4 : Int32) (K : ((v3 ≤ v1 → Aw G mX24_unmarked (d + 1) t h0 Φ 4 [vR v0, vI v1, vI v2, vU, vU] [] h) ∧ (¬ v3 ≤ v1 → ((v4 = 0 → h.kd v0 = 24 ∧ ∀ r4 : Nat, r4 = (h.r 24088 v0) → ∀ r5 : Nat, r5 = (h.r 24087 v0) → h.kd r5 = 101 ∧ vp_in v1 (h.ai r5).length ∧ h.kd r4 = 101 ∧ vp_in v2 (h.ai r4).length ∧ ∀ h10 : AH, h10 = h.wi r4 ((h.ai r4).set (v2.toNatClampNeg) (i2b ((h.ai r5).getD (v1.toNatClampNeg) 0))) → Aw G mX24_unmarked (d + 1) t h0 Φ 58 [vR v0, vI (v1 + 1), vI (v2 + 1), vI v3, vI v4] [] h10) ∧ (¬ v4 = 0 → Aw G mX24_unmarked (d + 1) t h0 Φ 58 [vR v0, vI (v1 + 1), vI v2, vI v3, vI v4] [] h))))) : Aw G mX24_unmarked (d + 1) t h0 Φ 58 [vR v0, vI v1, vI v2, vI v3, vI v4] [] h := by
  refine r_iload_n (pc := 58) dX24_unmarked_58 rfl ?_
  refine r_iload_n (pc := 59) dX24_unmarked_59 rfl ?_
  refine r_icmp_ge (pc := 60) (tgt := 92) dX24_unmarked_60 rfl (fun c1 => ?_) (fun c1 => ?_)
  · have K := K.1 c1
    refine r_goto (pc := 92) (tgt := 4) dX24_unmarked_92 rfl ?_
    refine r_mask (pc := 4) [true, true, true, false, false] rfl ?_
    exact K
  · have K := K.2 c1
    refine r_iload (pc := 63) dX24_unmarked_63 rfl ?_
    refine r_if_eq (pc := 65) (tgt := 71) dX24_unmarked_65 rfl (fun c2 => ?_) (fun c2 => ?_)
    · have K := K.1 c2
      refine r_aload_n (pc := 71) dX24_unmarked_71 rfl ?_
      obtain ⟨hk3, K⟩ := K
      have K := K _ rfl
      refine r_getr' (pc := 72) (T := TX24) 24 88 rfl hk3 (Or.inl q2786) dX24_unmarked_72 kc24 g24088 ?_
      refine r_iload_n (pc := 75) dX24_unmarked_75 rfl ?_
      refine r_aload_n (pc := 76) dX24_unmarked_76 rfl ?_
      have K := K _ rfl
      refine r_getr' (pc := 77) (T := TX24) 24 87 rfl hk3 (Or.inl q2785) dX24_unmarked_77 kc24 g24087 ?_
      refine r_iload_n (pc := 80) dX24_unmarked_80 rfl ?_
      obtain ⟨hk6, K⟩ := K
      obtain ⟨hi7, K⟩ := K
      refine r_baload (pc := 81) hk6 hi7 dX24_unmarked_81 ?_
      obtain ⟨hk8, K⟩ := K
      obtain ⟨hi9, K⟩ := K
      refine r_jbast (pc := 82) hk8 hi9 (Or.inl (em rfl)) dX24_unmarked_82 ?_
      refine r_nameH (fun h10 eh10 => ?_)
      have K := K h10 eh10
      refine r_iinc (pc := 83) (lv' := [_, _, _, _, _]) dX24_unmarked_83 rfl rfl (by decide) rfl ?_
      refine r_iinc (pc := 86) (lv' := [_, _, _, _, _]) dX24_unmarked_86 rfl rfl (by decide) rfl ?_
      refine r_goto (pc := 89) (tgt := 58) dX24_unmarked_89 rfl ?_
      refine r_mask (pc := 58) [true, true, true, true, true] rfl ?_
      exact K
    · have K := K.2 c2
      refine r_goto (pc := 68) (tgt := 86) dX24_unmarked_68 rfl ?_
      refine r_iinc (pc := 86) (lv' := [_, _, _, _, _]) dX24_unmarked_86 rfl rfl (by decide) rfl ?_
      refine r_goto (pc := 89) (tgt := 58) dX24_unmarked_89 rfl ?_
      refine r_mask (pc := 58) [true, true, true, true, true] rfl ?_
      exact K
theorem dX24_hashed_0 : decode cX24_hashed 0 = .ok (.aload_n 0, 1) := by decide +kernel
theorem dX24_hashed_1 : decode cX24_hashed 1 = .ok (.invokevirtual 660, 3) := by decide +kernel
theorem dX24_hashed_4 : decode cX24_hashed 4 = .ok (.iload 4, 2) := by decide +kernel
theorem dX24_hashed_6 : decode cX24_hashed 6 = .ok (.bipush 31, 2) := by decide +kernel
theorem dX24_hashed_8 : decode cX24_hashed 8 = .ok (.iand, 1) := by decide +kernel
theorem dX24_hashed_9 : decode cX24_hashed 9 = .ok (.istore 5, 2) := by decide +kernel
theorem dX24_hashed_11 : decode cX24_hashed 11 = .ok (.iconst 0, 1) := by decide +kernel
theorem dX24_hashed_12 : decode cX24_hashed 12 = .ok (.istore 6, 2) := by decide +kernel
theorem dX24_hashed_14 : decode cX24_hashed 14 = .ok (.iload 6, 2) := by decide +kernel
theorem dX24_hashed_16 : decode cX24_hashed 16 = .ok (.bipush 32, 2) := by decide +kernel
theorem dX24_hashed_18 : decode cX24_hashed 18 = .ok (.if_icmp .ge 27, 3) := by decide +kernel
theorem dX24_hashed_21 : decode cX24_hashed 21 = .ok (.aload_n 0, 1) := by decide +kernel
theorem dX24_hashed_22 : decode cX24_hashed 22 = .ok (.getfield 213, 3) := by decide +kernel
theorem dX24_hashed_25 : decode cX24_hashed 25 = .ok (.iload 6, 2) := by decide +kernel
theorem dX24_hashed_27 : decode cX24_hashed 27 = .ok (.iload 6, 2) := by decide +kernel
theorem dX24_hashed_29 : decode cX24_hashed 29 = .ok (.ifCond .ne 7, 3) := by decide +kernel
theorem dX24_hashed_32 : decode cX24_hashed 32 = .ok (.iconst 1, 1) := by decide +kernel
theorem dX24_hashed_33 : decode cX24_hashed 33 = .ok (.goto 4, 3) := by decide +kernel
theorem dX24_hashed_36 : decode cX24_hashed 36 = .ok (.iconst 0, 1) := by decide +kernel
theorem dX24_hashed_37 : decode cX24_hashed 37 = .ok (.i2b, 1) := by decide +kernel
theorem dX24_hashed_38 : decode cX24_hashed 38 = .ok (.bastore, 1) := by decide +kernel
theorem dX24_hashed_39 : decode cX24_hashed 39 = .ok (.iinc 6 1, 3) := by decide +kernel
theorem dX24_hashed_42 : decode cX24_hashed 42 = .ok (.goto (-28), 3) := by decide +kernel
theorem dX24_hashed_45 : decode cX24_hashed 45 = .ok (.iload 5, 2) := by decide +kernel
theorem dX24_hashed_47 : decode cX24_hashed 47 = .ok (.iconst 3, 1) := by decide +kernel
theorem dX24_hashed_48 : decode cX24_hashed 48 = .ok (.if_icmp .ne 14, 3) := by decide +kernel
theorem dX24_hashed_51 : decode cX24_hashed 51 = .ok (.iload_n 3, 1) := by decide +kernel
theorem dX24_hashed_52 : decode cX24_hashed 52 = .ok (.aload_n 1, 1) := by decide +kernel
theorem dX24_hashed_53 : decode cX24_hashed 53 = .ok (.getfield 307, 3) := by decide +kernel
theorem dX24_hashed_56 : decode cX24_hashed 56 = .ok (.iload_n 2, 1) := by decide +kernel
theorem dX24_hashed_57 : decode cX24_hashed 57 = .ok (.iaload, 1) := by decide +kernel
theorem dX24_hashed_58 : decode cX24_hashed 58 = .ok (.if_icmp .lt 4, 3) := by decide +kernel
theorem dX24_hashed_61 : decode cX24_hashed 61 = .ok (.return_, 1) := by decide +kernel
theorem dX24_hashed_62 : decode cX24_hashed 62 = .ok (.aload_n 0, 1) := by decide +kernel
theorem dX24_hashed_63 : decode cX24_hashed 63 = .ok (.iconst 0, 1) := by decide +kernel
theorem dX24_hashed_64 : decode cX24_hashed 64 = .ok (.putfield 653, 3) := by decide +kernel
theorem dX24_hashed_67 : decode cX24_hashed 67 = .ok (.aload_n 0, 1) := by decide +kernel
theorem dX24_hashed_68 : decode cX24_hashed 68 = .ok (.aload_n 1, 1) := by decide +kernel
theorem dX24_hashed_69 : decode cX24_hashed 69 = .ok (.getfield 275, 3) := by decide +kernel
theorem dX24_hashed_72 : decode cX24_hashed 72 = .ok (.aload_n 1, 1) := by decide +kernel
theorem dX24_hashed_73 : decode cX24_hashed 73 = .ok (.getfield 290, 3) := by decide +kernel
theorem dX24_hashed_76 : decode cX24_hashed 76 = .ok (.iload_n 2, 1) := by decide +kernel
theorem dX24_hashed_77 : decode cX24_hashed 77 = .ok (.iaload, 1) := by decide +kernel
theorem dX24_hashed_78 : decode cX24_hashed 78 = .ok (.iconst 4, 1) := by decide +kernel
theorem dX24_hashed_79 : decode cX24_hashed 79 = .ok (.invokevirtual 663, 3) := by decide +kernel
theorem dX24_hashed_82 : decode cX24_hashed 82 = .ok (.iload 4, 2) := by decide +kernel
theorem dX24_hashed_84 : decode cX24_hashed 84 = .ok (.sipush 128, 3) := by decide +kernel
theorem dX24_hashed_87 : decode cX24_hashed 87 = .ok (.iand, 1) := by decide +kernel
theorem dX24_hashed_88 : decode cX24_hashed 88 = .ok (.ifCond .eq 7, 3) := by decide +kernel
theorem dX24_hashed_91 : decode cX24_hashed 91 = .ok (.iconst 1, 1) := by decide +kernel
theorem dX24_hashed_92 : decode cX24_hashed 92 = .ok (.goto 4, 3) := by decide +kernel
theorem dX24_hashed_95 : decode cX24_hashed 95 = .ok (.iconst 0, 1) := by decide +kernel
theorem dX24_hashed_96 : decode cX24_hashed 96 = .ok (.istore 6, 2) := by decide +kernel
theorem dX24_hashed_98 : decode cX24_hashed 98 = .ok (.aload_n 0, 1) := by decide +kernel
theorem dX24_hashed_99 : decode cX24_hashed 99 = .ok (.iload 6, 2) := by decide +kernel
theorem dX24_hashed_101 : decode cX24_hashed 101 = .ok (.ifCond .eq 7, 3) := by decide +kernel
theorem dX24_hashed_104 : decode cX24_hashed 104 = .ok (.lconst 1, 1) := by decide +kernel
theorem dX24_hashed_105 : decode cX24_hashed 105 = .ok (.goto 10, 3) := by decide +kernel
theorem dX24_hashed_108 : decode cX24_hashed 108 = .ok (.aload_n 1, 1) := by decide +kernel
theorem dX24_hashed_109 : decode cX24_hashed 109 = .ok (.getfield 297, 3) := by decide +kernel
theorem dX24_hashed_112 : decode cX24_hashed 112 = .ok (.iload_n 2, 1) := by decide +kernel
theorem dX24_hashed_113 : decode cX24_hashed 113 = .ok (.iaload, 1) := by decide +kernel
theorem dX24_hashed_114 : decode cX24_hashed 114 = .ok (.i2l, 1) := by decide +kernel
theorem dX24_hashed_115 : decode cX24_hashed 115 = .ok (.invokevirtual 665, 3) := by decide +kernel
theorem dX24_hashed_118 : decode cX24_hashed 118 = .ok (.iconst 0, 1) := by decide +kernel
theorem dX24_hashed_119 : decode cX24_hashed 119 = .ok (.istore 7, 2) := by decide +kernel
theorem dX24_hashed_121 : decode cX24_hashed 121 = .ok (.iload 7, 2) := by decide +kernel
theorem dX24_hashed_123 : decode cX24_hashed 123 = .ok (.aload_n 1, 1) := by decide +kernel
theorem dX24_hashed_124 : decode cX24_hashed 124 = .ok (.getfield 297, 3) := by decide +kernel
theorem dX24_hashed_127 : decode cX24_hashed 127 = .ok (.iload_n 2, 1) := by decide +kernel
theorem dX24_hashed_128 : decode cX24_hashed 128 = .ok (.iaload, 1) := by decide +kernel
theorem dX24_hashed_129 : decode cX24_hashed 129 = .ok (.if_icmp .ge 136, 3) := by decide +kernel
theorem dX24_hashed_132 : decode cX24_hashed 132 = .ok (.iload 6, 2) := by decide +kernel
theorem dX24_hashed_134 : decode cX24_hashed 134 = .ok (.ifCond .eq 12, 3) := by decide +kernel
theorem dX24_hashed_137 : decode cX24_hashed 137 = .ok (.iload 7, 2) := by decide +kernel
theorem dX24_hashed_139 : decode cX24_hashed 139 = .ok (.iload_n 3, 1) := by decide +kernel
theorem dX24_hashed_140 : decode cX24_hashed 140 = .ok (.if_icmp .eq 6, 3) := by decide +kernel
theorem dX24_hashed_143 : decode cX24_hashed 143 = .ok (.goto 116, 3) := by decide +kernel
theorem dX24_hashed_146 : decode cX24_hashed 146 = .ok (.aload_n 0, 1) := by decide +kernel
theorem dX24_hashed_147 : decode cX24_hashed 147 = .ok (.aload_n 1, 1) := by decide +kernel
theorem dX24_hashed_148 : decode cX24_hashed 148 = .ok (.iload_n 2, 1) := by decide +kernel
theorem dX24_hashed_149 : decode cX24_hashed 149 = .ok (.iload 7, 2) := by decide +kernel
theorem dX24_hashed_151 : decode cX24_hashed 151 = .ok (.invokevirtual 419, 3) := by decide +kernel
theorem dX24_hashed_154 : decode cX24_hashed 154 = .ok (.istore 8, 2) := by decide +kernel
theorem dX24_hashed_156 : decode cX24_hashed 156 = .ok (.aload_n 0, 1) := by decide +kernel
theorem dX24_hashed_157 : decode cX24_hashed 157 = .ok (.aload_n 1, 1) := by decide +kernel
theorem dX24_hashed_158 : decode cX24_hashed 158 = .ok (.getfield 275, 3) := by decide +kernel
theorem dX24_hashed_161 : decode cX24_hashed 161 = .ok (.iload 8, 2) := by decide +kernel
theorem dX24_hashed_163 : decode cX24_hashed 163 = .ok (.bipush 36, 2) := by decide +kernel
theorem dX24_hashed_165 : decode cX24_hashed 165 = .ok (.invokevirtual 663, 3) := by decide +kernel
theorem dX24_hashed_168 : decode cX24_hashed 168 = .ok (.aload_n 0, 1) := by decide +kernel
theorem dX24_hashed_169 : decode cX24_hashed 169 = .ok (.aload_n 1, 1) := by decide +kernel
theorem dX24_hashed_170 : decode cX24_hashed 170 = .ok (.getfield 275, 3) := by decide +kernel
theorem dX24_hashed_173 : decode cX24_hashed 173 = .ok (.iload 8, 2) := by decide +kernel
theorem dX24_hashed_175 : decode cX24_hashed 175 = .ok (.bipush 36, 2) := by decide +kernel
theorem dX24_hashed_177 : decode cX24_hashed 177 = .ok (.iadd, 1) := by decide +kernel
theorem dX24_hashed_178 : decode cX24_hashed 178 = .ok (.invokevirtual 328, 3) := by decide +kernel
theorem dX24_hashed_181 : decode cX24_hashed 181 = .ok (.istore 9, 2) := by decide +kernel
theorem dX24_hashed_183 : decode cX24_hashed 183 = .ok (.aload_n 0, 1) := by decide +kernel
theorem dX24_hashed_184 : decode cX24_hashed 184 = .ok (.iload 7, 2) := by decide +kernel
theorem dX24_hashed_186 : decode cX24_hashed 186 = .ok (.iload_n 3, 1) := by decide +kernel
theorem dX24_hashed_187 : decode cX24_hashed 187 = .ok (.if_icmp .ne 11, 3) := by decide +kernel
theorem dX24_hashed_190 : decode cX24_hashed 190 = .ok (.aload_n 0, 1) := by decide +kernel
theorem dX24_hashed_191 : decode cX24_hashed 191 = .ok (.getfield 642, 3) := by decide +kernel
theorem dX24_hashed_194 : decode cX24_hashed 194 = .ok (.i2l, 1) := by decide +kernel
theorem dX24_hashed_195 : decode cX24_hashed 195 = .ok (.goto 4, 3) := by decide +kernel
theorem dX24_hashed_198 : decode cX24_hashed 198 = .ok (.lconst 0, 1) := by decide +kernel
theorem dX24_hashed_199 : decode cX24_hashed 199 = .ok (.invokevirtual 665, 3) := by decide +kernel
theorem dX24_hashed_202 : decode cX24_hashed 202 = .ok (.iload 7, 2) := by decide +kernel
theorem dX24_hashed_204 : decode cX24_hashed 204 = .ok (.iload_n 3, 1) := by decide +kernel
theorem dX24_hashed_205 : decode cX24_hashed 205 = .ok (.if_icmp .ne 16, 3) := by decide +kernel
theorem dX24_hashed_208 : decode cX24_hashed 208 = .ok (.aload_n 0, 1) := by decide +kernel
theorem dX24_hashed_209 : decode cX24_hashed 209 = .ok (.aload_n 0, 1) := by decide +kernel
theorem dX24_hashed_210 : decode cX24_hashed 210 = .ok (.getfield 645, 3) := by decide +kernel
theorem dX24_hashed_213 : decode cX24_hashed 213 = .ok (.iconst 0, 1) := by decide +kernel
theorem dX24_hashed_214 : decode cX24_hashed 214 = .ok (.aload_n 0, 1) := by decide +kernel
theorem dX24_hashed_215 : decode cX24_hashed 215 = .ok (.getfield 642, 3) := by decide +kernel
theorem dX24_hashed_218 : decode cX24_hashed 218 = .ok (.invokevirtual 663, 3) := by decide +kernel
theorem dX24_hashed_221 : decode cX24_hashed 221 = .ok (.aload_n 0, 1) := by decide +kernel
theorem dX24_hashed_222 : decode cX24_hashed 222 = .ok (.iload 7, 2) := by decide +kernel
theorem dX24_hashed_224 : decode cX24_hashed 224 = .ok (.iload_n 3, 1) := by decide +kernel
theorem dX24_hashed_225 : decode cX24_hashed 225 = .ok (.if_icmp .eq 19, 3) := by decide +kernel
theorem dX24_hashed_228 : decode cX24_hashed 228 = .ok (.iload 5, 2) := by decide +kernel
theorem dX24_hashed_230 : decode cX24_hashed 230 = .ok (.iconst 2, 1) := by decide +kernel
theorem dX24_hashed_231 : decode cX24_hashed 231 = .ok (.if_icmp .eq 9, 3) := by decide +kernel
theorem dX24_hashed_234 : decode cX24_hashed 234 = .ok (.iload 5, 2) := by decide +kernel
theorem dX24_hashed_236 : decode cX24_hashed 236 = .ok (.iconst 3, 1) := by decide +kernel
theorem dX24_hashed_237 : decode cX24_hashed 237 = .ok (.if_icmp .ne 7, 3) := by decide +kernel
theorem dX24_hashed_240 : decode cX24_hashed 240 = .ok (.lconst 0, 1) := by decide +kernel
theorem dX24_hashed_241 : decode cX24_hashed 241 = .ok (.goto 14, 3) := by decide +kernel
theorem dX24_hashed_244 : decode cX24_hashed 244 = .ok (.aload_n 0, 1) := by decide +kernel
theorem dX24_hashed_245 : decode cX24_hashed 245 = .ok (.aload_n 1, 1) := by decide +kernel
theorem dX24_hashed_246 : decode cX24_hashed 246 = .ok (.getfield 275, 3) := by decide +kernel
theorem dX24_hashed_249 : decode cX24_hashed 249 = .ok (.iload 9, 2) := by decide +kernel
theorem dX24_hashed_251 : decode cX24_hashed 251 = .ok (.iconst 4, 1) := by decide +kernel
theorem dX24_hashed_252 : decode cX24_hashed 252 = .ok (.invokevirtual 267, 3) := by decide +kernel
theorem dX24_hashed_255 : decode cX24_hashed 255 = .ok (.iconst 4, 1) := by decide +kernel
theorem dX24_hashed_256 : decode cX24_hashed 256 = .ok (.invokevirtual 656, 3) := by decide +kernel
theorem dX24_hashed_259 : decode cX24_hashed 259 = .ok (.iinc 7 1, 3) := by decide +kernel
theorem dX24_hashed_262 : decode cX24_hashed 262 = .ok (.goto (-141), 3) := by decide +kernel
theorem dX24_hashed_265 : decode cX24_hashed 265 = .ok (.iload 5, 2) := by decide +kernel
theorem dX24_hashed_267 : decode cX24_hashed 267 = .ok (.iconst 2, 1) := by decide +kernel
theorem dX24_hashed_268 : decode cX24_hashed 268 = .ok (.if_icmp .ne 7, 3) := by decide +kernel
theorem dX24_hashed_271 : decode cX24_hashed 271 = .ok (.iconst 0, 1) := by decide +kernel
theorem dX24_hashed_272 : decode cX24_hashed 272 = .ok (.goto 21, 3) := by decide +kernel
theorem dX24_hashed_275 : decode cX24_hashed 275 = .ok (.iload 5, 2) := by decide +kernel
theorem dX24_hashed_277 : decode cX24_hashed 277 = .ok (.iconst 3, 1) := by decide +kernel
theorem dX24_hashed_278 : decode cX24_hashed 278 = .ok (.if_icmp .ne 9, 3) := by decide +kernel
theorem dX24_hashed_281 : decode cX24_hashed 281 = .ok (.iload_n 3, 1) := by decide +kernel
theorem dX24_hashed_282 : decode cX24_hashed 282 = .ok (.iconst 1, 1) := by decide +kernel
theorem dX24_hashed_283 : decode cX24_hashed 283 = .ok (.iadd, 1) := by decide +kernel
theorem dX24_hashed_284 : decode cX24_hashed 284 = .ok (.goto 9, 3) := by decide +kernel
theorem dX24_hashed_287 : decode cX24_hashed 287 = .ok (.aload_n 1, 1) := by decide +kernel
theorem dX24_hashed_288 : decode cX24_hashed 288 = .ok (.getfield 307, 3) := by decide +kernel
theorem dX24_hashed_291 : decode cX24_hashed 291 = .ok (.iload_n 2, 1) := by decide +kernel
theorem dX24_hashed_292 : decode cX24_hashed 292 = .ok (.iaload, 1) := by decide +kernel
theorem dX24_hashed_293 : decode cX24_hashed 293 = .ok (.istore 7, 2) := by decide +kernel
theorem dX24_hashed_295 : decode cX24_hashed 295 = .ok (.aload_n 0, 1) := by decide +kernel
theorem dX24_hashed_296 : decode cX24_hashed 296 = .ok (.iload 7, 2) := by decide +kernel
theorem dX24_hashed_298 : decode cX24_hashed 298 = .ok (.i2l, 1) := by decide +kernel
theorem dX24_hashed_299 : decode cX24_hashed 299 = .ok (.invokevirtual 665, 3) := by decide +kernel
theorem dX24_hashed_302 : decode cX24_hashed 302 = .ok (.iconst 0, 1) := by decide +kernel
theorem dX24_hashed_303 : decode cX24_hashed 303 = .ok (.istore 8, 2) := by decide +kernel
theorem dX24_hashed_305 : decode cX24_hashed 305 = .ok (.iload 8, 2) := by decide +kernel
theorem dX24_hashed_307 : decode cX24_hashed 307 = .ok (.iload 7, 2) := by decide +kernel
theorem dX24_hashed_309 : decode cX24_hashed 309 = .ok (.if_icmp .ge 78, 3) := by decide +kernel
theorem dX24_hashed_312 : decode cX24_hashed 312 = .ok (.aload_n 0, 1) := by decide +kernel
theorem dX24_hashed_313 : decode cX24_hashed 313 = .ok (.aload_n 1, 1) := by decide +kernel
theorem dX24_hashed_314 : decode cX24_hashed 314 = .ok (.iload_n 2, 1) := by decide +kernel
theorem dX24_hashed_315 : decode cX24_hashed 315 = .ok (.iload 8, 2) := by decide +kernel
theorem dX24_hashed_317 : decode cX24_hashed 317 = .ok (.invokevirtual 450, 3) := by decide +kernel
theorem dX24_hashed_320 : decode cX24_hashed 320 = .ok (.istore 9, 2) := by decide +kernel
theorem dX24_hashed_322 : decode cX24_hashed 322 = .ok (.aload_n 0, 1) := by decide +kernel
theorem dX24_hashed_323 : decode cX24_hashed 323 = .ok (.aload_n 1, 1) := by decide +kernel
theorem dX24_hashed_324 : decode cX24_hashed 324 = .ok (.getfield 275, 3) := by decide +kernel
theorem dX24_hashed_327 : decode cX24_hashed 327 = .ok (.iload 9, 2) := by decide +kernel
theorem dX24_hashed_329 : decode cX24_hashed 329 = .ok (.bipush 8, 2) := by decide +kernel
theorem dX24_hashed_331 : decode cX24_hashed 331 = .ok (.iadd, 1) := by decide +kernel
theorem dX24_hashed_332 : decode cX24_hashed 332 = .ok (.invokevirtual 328, 3) := by decide +kernel
theorem dX24_hashed_335 : decode cX24_hashed 335 = .ok (.istore 10, 2) := by decide +kernel
theorem dX24_hashed_337 : decode cX24_hashed 337 = .ok (.iload 5, 2) := by decide +kernel
theorem dX24_hashed_339 : decode cX24_hashed 339 = .ok (.iconst 3, 1) := by decide +kernel
theorem dX24_hashed_340 : decode cX24_hashed 340 = .ok (.if_icmp .ne 26, 3) := by decide +kernel
theorem dX24_hashed_343 : decode cX24_hashed 343 = .ok (.iload 8, 2) := by decide +kernel
theorem dX24_hashed_345 : decode cX24_hashed 345 = .ok (.iload_n 3, 1) := by decide +kernel
theorem dX24_hashed_346 : decode cX24_hashed 346 = .ok (.if_icmp .ge 20, 3) := by decide +kernel
theorem dX24_hashed_349 : decode cX24_hashed 349 = .ok (.aload_n 0, 1) := by decide +kernel
theorem dX24_hashed_350 : decode cX24_hashed 350 = .ok (.ldc2_w 668, 3) := by decide +kernel
theorem dX24_hashed_353 : decode cX24_hashed 353 = .ok (.bipush 8, 2) := by decide +kernel
theorem dX24_hashed_355 : decode cX24_hashed 355 = .ok (.invokevirtual 656, 3) := by decide +kernel
theorem dX24_hashed_358 : decode cX24_hashed 358 = .ok (.aload_n 0, 1) := by decide +kernel
theorem dX24_hashed_359 : decode cX24_hashed 359 = .ok (.lconst 0, 1) := by decide +kernel
theorem dX24_hashed_360 : decode cX24_hashed 360 = .ok (.invokevirtual 665, 3) := by decide +kernel
theorem dX24_hashed_363 : decode cX24_hashed 363 = .ok (.goto 18, 3) := by decide +kernel
theorem dX24_hashed_366 : decode cX24_hashed 366 = .ok (.aload_n 0, 1) := by decide +kernel
theorem dX24_hashed_367 : decode cX24_hashed 367 = .ok (.aload_n 1, 1) := by decide +kernel
theorem dX24_hashed_368 : decode cX24_hashed 368 = .ok (.getfield 275, 3) := by decide +kernel
theorem dX24_hashed_371 : decode cX24_hashed 371 = .ok (.iload 9, 2) := by decide +kernel
theorem dX24_hashed_373 : decode cX24_hashed 373 = .ok (.iload 10, 2) := by decide +kernel
theorem dX24_hashed_375 : decode cX24_hashed 375 = .ok (.iload 9, 2) := by decide +kernel
theorem dX24_hashed_377 : decode cX24_hashed 377 = .ok (.isub, 1) := by decide +kernel
theorem dX24_hashed_378 : decode cX24_hashed 378 = .ok (.invokevirtual 663, 3) := by decide +kernel
theorem dX24_hashed_381 : decode cX24_hashed 381 = .ok (.iinc 8 1, 3) := by decide +kernel
theorem dX24_hashed_384 : decode cX24_hashed 384 = .ok (.goto (-79), 3) := by decide +kernel
theorem dX24_hashed_387 : decode cX24_hashed 387 = .ok (.aload_n 0, 1) := by decide +kernel
theorem dX24_hashed_388 : decode cX24_hashed 388 = .ok (.aload_n 1, 1) := by decide +kernel
theorem dX24_hashed_389 : decode cX24_hashed 389 = .ok (.getfield 275, 3) := by decide +kernel
theorem dX24_hashed_392 : decode cX24_hashed 392 = .ok (.aload_n 1, 1) := by decide +kernel
theorem dX24_hashed_393 : decode cX24_hashed 393 = .ok (.getfield 313, 3) := by decide +kernel
theorem dX24_hashed_396 : decode cX24_hashed 396 = .ok (.iload_n 2, 1) := by decide +kernel
theorem dX24_hashed_397 : decode cX24_hashed 397 = .ok (.iaload, 1) := by decide +kernel
theorem dX24_hashed_398 : decode cX24_hashed 398 = .ok (.iconst 4, 1) := by decide +kernel
theorem dX24_hashed_399 : decode cX24_hashed 399 = .ok (.isub, 1) := by decide +kernel
theorem dX24_hashed_400 : decode cX24_hashed 400 = .ok (.iconst 4, 1) := by decide +kernel
theorem dX24_hashed_401 : decode cX24_hashed 401 = .ok (.invokevirtual 663, 3) := by decide +kernel
theorem dX24_hashed_404 : decode cX24_hashed 404 = .ok (.aload_n 0, 1) := by decide +kernel
theorem dX24_hashed_405 : decode cX24_hashed 405 = .ok (.iload 4, 2) := by decide +kernel
theorem dX24_hashed_407 : decode cX24_hashed 407 = .ok (.i2l, 1) := by decide +kernel
theorem dX24_hashed_408 : decode cX24_hashed 408 = .ok (.iconst 4, 1) := by decide +kernel
theorem dX24_hashed_409 : decode cX24_hashed 409 = .ok (.invokevirtual 656, 3) := by decide +kernel
theorem dX24_hashed_412 : decode cX24_hashed 412 = .ok (.aload_n 0, 1) := by decide +kernel
theorem dX24_hashed_413 : decode cX24_hashed 413 = .ok (.aload_n 0, 1) := by decide +kernel
theorem dX24_hashed_414 : decode cX24_hashed 414 = .ok (.getfield 650, 3) := by decide +kernel
theorem dX24_hashed_417 : decode cX24_hashed 417 = .ok (.iconst 0, 1) := by decide +kernel
theorem dX24_hashed_418 : decode cX24_hashed 418 = .ok (.aload_n 0, 1) := by decide +kernel
theorem dX24_hashed_419 : decode cX24_hashed 419 = .ok (.getfield 653, 3) := by decide +kernel
theorem dX24_hashed_422 : decode cX24_hashed 422 = .ok (.aload_n 0, 1) := by decide +kernel
theorem dX24_hashed_423 : decode cX24_hashed 423 = .ok (.getfield 213, 3) := by decide +kernel
theorem dX24_hashed_426 : decode cX24_hashed 426 = .ok (.iconst 0, 1) := by decide +kernel
theorem dX24_hashed_427 : decode cX24_hashed 427 = .ok (.invokevirtual 319, 3) := by decide +kernel
theorem dX24_hashed_430 : decode cX24_hashed 430 = .ok (.return_, 1) := by decide +kernel
/-! CoinJudgeModel.hashed(LCoinJudgeModel$Parsed;III)V -/
set_option maxHeartbeats 4000000 in
theorem sX24_hashed_0 {G : Gx} {d t : Nat} {h0 : AH} {Φ : Out → AH → Prop} (h : AH) (v0 : Nat) (v1 : Nat) (v2 : Int32) (v3 : Int32) (v4 : Int32) (K : h.kd v0 = 24 ∧ Cw G mX24_unmarked d 0 [vR v0] h (kV (fun h2 => Aw G mX24_hashed (d + 1) t h0 Φ 14 [vR v0, vR v1, vI v2, vI v3, vI v4, vI (v4 &&& 31), vI 0, vU, vU, vU, vU] [] h2) (fun x h => Φ (.inr x) h))) : Aw G mX24_hashed (d + 1) t h0 Φ 0 [vR v0, vR v1, vI v2, vI v3, vI v4, vU, vU, vU, vU, vU, vU] [] h := by
  refine r_aload_n (pc := 0) dX24_hashed_0 rfl ?_
  obtain ⟨hk3, K⟩ := K
  refine r_callV_V (pc := 1) (Y := mX24_unmarked) (vs := []) (st := []) hk3 rfl kc24 q2590 q2592 qs114 dX24_hashed_1 rfl cd_X24_unmarked rfl rfl fp_X24_hashed_X24_unmarked K (fun h2 eh2 wh2 K => ?_) (fun x h1 _ _ e => Tw.out rfl e)
  refine r_iload (pc := 4) dX24_hashed_4 rfl ?_
  refine r_bipush (pc := 6) (x := 31) dX24_hashed_6 rfl ?_
  refine r_iand (pc := 8) dX24_hashed_8 ?_
  refine r_istore (pc := 9) (lv' := [_, _, _, _, _, _, _, _, _, _, _]) dX24_hashed_9 (by decide) rfl ?_
  refine r_iconst (pc := 11) (x := 0) dX24_hashed_11 rfl ?_
  refine r_istore (pc := 12) (lv' := [_, _, _, _, _, _, _, _, _, _, _]) dX24_hashed_12 (by decide) rfl ?_
  refine r_mask (pc := 14) [true, true, true, true, true, true, true, false, false, false, false] rfl ?_
  exact K
theorem eX24_hashed {G : Gx} {d : Nat} {Φ : Out → AH → Prop} (h : AH) (v0 : Nat) (v1 : Nat) (v2 : Int32) (v3 : Int32) (v4 : Int32) (K : WF G h → Aw G mX24_hashed (d + 1) 0 h Φ 0 [vR v0, vR v1, vI v2, vI v3, vI v4, vU, vU, vU, vU, vU, vU] [] h) : Cw G mX24_hashed (d + 1) 0 [vR v0, vR v1, vI v2, vI v3, vI v4] h Φ := Cw.of rfl K
set_option maxHeartbeats 4000000 in
theorem sX24_hashed_14 {G : Gx} {d t : Nat} {h0 : AH} {Φ : Out → AH → Prop} (h : AH) (v0 : Nat) (v1 : Nat) (v2 : Int32) (v3 : Int32) (v4 : Int32) (v5 : Int32) (v6 : Int32) (K : ((32 ≤ v6 → ((¬ v5 = 3 → Aw G mX24_hashed (d + 1) t h0 Φ 62 [vR v0, vR v1, vI v2, vI v3, vI v4, vI v5, vU, vU, vU, vU, vU] [] h) ∧ (v5 = 3 → h.kd v1 = 26 ∧ ∀ r4 : Nat, r4 = (h.r 26005 v1) → h.kd r4 = 100 ∧ vp_in v2 (h.ai r4).length ∧ ((v3 < ((h.ai r4).getD (v2.toNatClampNeg) 0) → Aw G mX24_hashed (d + 1) t h0 Φ 62 [vR v0, vR v1, vI v2, vI v3, vI v4, vI v5, vU, vU, vU, vU, vU] [] h) ∧ (¬ v3 < ((h.ai r4).getD (v2.toNatClampNeg) 0) → Φ (.inl none) h))))) ∧ (¬ 32 ≤ v6 → h.kd v0 = 24 ∧ ∀ r9 : Nat, r9 = (h.r 24035 v0) → ((¬ v6 = 0 → h.kd r9 = 101 ∧ vp_in v6 (h.ai r9).length ∧ ∀ h13 : AH, h13 = h.wi r9 ((h.ai r9).set (v6.toNatClampNeg) (i2b (i2b 0))) → Aw G mX24_hashed (d + 1) t h0 Φ 14 [vR v0, vR v1, vI v2, vI v3, vI v4, vI v5, vI (v6 + 1), vU, vU, vU, vU] [] h13) ∧ (v6 = 0 → h.kd r9 = 101 ∧ vp_in v6 (h.ai r9).length ∧ ∀ h16 : AH, h16 = h.wi r9 ((h.ai r9).set (v6.toNatClampNeg) (i2b (i2b 1))) → Aw G mX24_hashed (d + 1) t h0 Φ 14 [vR v0, vR v1, vI v2, vI v3, vI v4, vI v5, vI (v6 + 1), vU, vU, vU, vU] [] h16))))) : Aw G mX24_hashed (d + 1) t h0 Φ 14 [vR v0, vR v1, vI v2, vI v3, vI v4, vI v5, vI v6, vU, vU, vU, vU] [] h := by
  refine r_iload (pc := 14) dX24_hashed_14 rfl ?_
  refine r_bipush (pc := 16) (x := 32) dX24_hashed_16 rfl ?_
  refine r_icmp_ge (pc := 18) (tgt := 45) dX24_hashed_18 rfl (fun c1 => ?_) (fun c1 => ?_)
  · have K := K.1 c1
    refine r_iload (pc := 45) dX24_hashed_45 rfl ?_
    refine r_iconst (pc := 47) (x := 3) dX24_hashed_47 rfl ?_
    refine r_icmp_ne (pc := 48) (tgt := 62) dX24_hashed_48 rfl (fun c2 => ?_) (fun c2 => ?_)
    · have K := K.1 c2
      refine r_mask (pc := 62) [true, true, true, true, true, true, false, false, false, false, false] rfl ?_
      exact K
    · have K := K.2 c2
      refine r_iload_n (pc := 51) dX24_hashed_51 rfl ?_
      refine r_aload_n (pc := 52) dX24_hashed_52 rfl ?_
      obtain ⟨hk3, K⟩ := K
      have K := K _ rfl
      refine r_getr' (pc := 53) (T := TX26) 26 5 rfl hk3 (Or.inr (Or.inl ⟨_, q2151⟩)) dX24_hashed_53 kc26 g26005 ?_
      refine r_iload_n (pc := 56) dX24_hashed_56 rfl ?_
      obtain ⟨hk5, K⟩ := K
      obtain ⟨hi6, K⟩ := K
      refine r_iaload (pc := 57) hk5 hi6 dX24_hashed_57 ?_
      refine r_icmp_lt (pc := 58) (tgt := 62) dX24_hashed_58 rfl (fun c7 => ?_) (fun c7 => ?_)
      · have K := K.1 c7
        refine r_mask (pc := 62) [true, true, true, true, true, true, false, false, false, false, false] rfl ?_
        exact K
      · have K := K.2 c7
        exact r_vret (pc := 61) rfl dX24_hashed_61 K
  · have K := K.2 c1
    refine r_aload_n (pc := 21) dX24_hashed_21 rfl ?_
    obtain ⟨hk8, K⟩ := K
    have K := K _ rfl
    refine r_getr' (pc := 22) (T := TX24) 24 35 rfl hk8 (Or.inl q2733) dX24_hashed_22 kc24 g24035 ?_
    refine r_iload (pc := 25) dX24_hashed_25 rfl ?_
    refine r_iload (pc := 27) dX24_hashed_27 rfl ?_
    refine r_if_ne (pc := 29) (tgt := 36) dX24_hashed_29 rfl (fun c10 => ?_) (fun c10 => ?_)
    · have K := K.1 c10
      refine r_iconst (pc := 36) (x := 0) dX24_hashed_36 rfl ?_
      refine r_ji2b (pc := 37) dX24_hashed_37 ?_
      obtain ⟨hk11, K⟩ := K
      obtain ⟨hi12, K⟩ := K
      refine r_jbast (pc := 38) hk11 hi12 (Or.inl (em rfl)) dX24_hashed_38 ?_
      refine r_nameH (fun h13 eh13 => ?_)
      have K := K h13 eh13
      refine r_iinc (pc := 39) (lv' := [_, _, _, _, _, _, _, _, _, _, _]) dX24_hashed_39 rfl rfl (by decide) rfl ?_
      refine r_goto (pc := 42) (tgt := 14) dX24_hashed_42 rfl ?_
      refine r_mask (pc := 14) [true, true, true, true, true, true, true, false, false, false, false] rfl ?_
      exact K
    · have K := K.2 c10
      refine r_iconst (pc := 32) (x := 1) dX24_hashed_32 rfl ?_
      refine r_goto (pc := 33) (tgt := 37) dX24_hashed_33 rfl ?_
      refine r_ji2b (pc := 37) dX24_hashed_37 ?_
      obtain ⟨hk14, K⟩ := K
      obtain ⟨hi15, K⟩ := K
      refine r_jbast (pc := 38) hk14 hi15 (Or.inl (em rfl)) dX24_hashed_38 ?_
      refine r_nameH (fun h16 eh16 => ?_)
      have K := K h16 eh16
      refine r_iinc (pc := 39) (lv' := [_, _, _, _, _, _, _, _, _, _, _]) dX24_hashed_39 rfl rfl (by decide) rfl ?_
      refine r_goto (pc := 42) (tgt := 14) dX24_hashed_42 rfl ?_
      refine r_mask (pc := 14) [true, true, true, true, true, true, true, false, false, false, false] rfl ?_
      exact K
set_option maxHeartbeats 4000000 in
theorem sX24_hashed_62 {G : Gx} {d t : Nat} {h0 : AH} {Φ : Out → AH → Prop} (h : AH) (v0 : Nat) (v1 : Nat) (v2 : Int32) (v3 : Int32) (v4 : Int32) (v5 : Int32) (K : h.kd v0 = 24 ∧ ∀ h2 : AH, h2 = h.pi 24091 v0 0 → h2.kd v1 = 26 ∧ ∀ r4 : Nat, r4 = (h2.r 26000 v1) → ∀ r5 : Nat, r5 = (h2.r 26002 v1) → h2.kd r5 = 100 ∧ vp_in v2 (h2.ai r5).length ∧ Cw G mX24_lay d 0 [vR v0, vR r4, vI ((h2.ai r5).getD (v2.toNatClampNeg) 0), vI 4] h2 (kV (fun h9 => (((v4 &&& 128) = 0 → (((0 : Int32) = 0 → ∀ r14 : Nat, r14 = (h9.r 26004 v1) → h9.kd r14 = 100 ∧ vp_in v2 (h9.ai r14).length ∧ Cw G mX24_layCount d 0 [vR v0, vJ (((h9.ai r14).getD (v2.toNatClampNeg) 0).toInt64)] h9 (kV (fun h18 => Aw G mX24_hashed (d + 1) t h0 Φ 121 [vR v0, vR v1, vI v2, vI v3, vI v4, vI v5, vI 0, vI 0, vU, vU, vU] [] h18) (fun x h => Φ (.inr x) h))) ∧ (¬ (0 : Int32) = 0 → Cw G mX24_layCount d 0 [vR v0, vJ 1] h9 (kV (fun h21 => Aw G mX24_hashed (d + 1) t h0 Φ 121 [vR v0, vR v1, vI v2, vI v3, vI v4, vI v5, vI 0, vI 0, vU, vU, vU] [] h21) (fun x h => Φ (.inr x) h))))) ∧ (¬ (v4 &&& 128) = 0 → (((1 : Int32) = 0 → ∀ r25 : Nat, r25 = (h9.r 26004 v1) → h9.kd r25 = 100 ∧ vp_in v2 (h9.ai r25).length ∧ Cw G mX24_layCount d 0 [vR v0, vJ (((h9.ai r25).getD (v2.toNatClampNeg) 0).toInt64)] h9 (kV (fun h29 => Aw G mX24_hashed (d + 1) t h0 Φ 121 [vR v0, vR v1, vI v2, vI v3, vI v4, vI v5, vI 1, vI 0, vU, vU, vU] [] h29) (fun x h => Φ (.inr x) h))) ∧ (¬ (1 : Int32) = 0 → Cw G mX24_layCount d 0 [vR v0, vJ 1] h9 (kV (fun h32 => Aw G mX24_hashed (d + 1) t h0 Φ 121 [vR v0, vR v1, vI v2, vI v3, vI v4, vI v5, vI 1, vI 0, vU, vU, vU] [] h32) (fun x h => Φ (.inr x) h))))))) (fun x h => Φ (.inr x) h))) : Aw G mX24_hashed (d + 1) t h0 Φ 62 [vR v0, vR v1, vI v2, vI v3, vI v4, vI v5, vU, vU, vU, vU, vU] [] h := by
  refine r_aload_n (pc := 62) dX24_hashed_62 rfl ?_
  refine r_iconst (pc := 63) (x := 0) dX24_hashed_63 rfl ?_
  obtain ⟨hk1, K⟩ := K
  refine r_puti (pc := 64) (T := TX24) (key := 24091) 24 91 hk1 (Or.inl q2789) dX24_hashed_64 kc24 rfl (Or.inl rfl) (Or.inl (em rfl)) ?_
  refine r_nameH (fun h2 eh2 => ?_)
  have K := K h2 eh2
  refine r_aload_n (pc := 67) dX24_hashed_67 rfl ?_
  refine r_aload_n (pc := 68) dX24_hashed_68 rfl ?_
  obtain ⟨hk3, K⟩ := K
  have K := K _ rfl
  refine r_getr' (pc := 69) (T := TX26) 26 0 rfl hk3 (Or.inr (Or.inl ⟨_, q2142⟩)) dX24_hashed_69 kc26 g26000 ?_
  refine r_aload_n (pc := 72) dX24_hashed_72 rfl ?_
  have K := K _ rfl
  refine r_getr' (pc := 73) (T := TX26) 26 2 rfl hk3 (Or.inr (Or.inl ⟨_, q2145⟩)) dX24_hashed_73 kc26 g26002 ?_
  refine r_iload_n (pc := 76) dX24_hashed_76 rfl ?_
  obtain ⟨hk6, K⟩ := K
  obtain ⟨hi7, K⟩ := K
  refine r_iaload (pc := 77) hk6 hi7 dX24_hashed_77 ?_
  refine r_iconst (pc := 78) (x := 4) dX24_hashed_78 rfl ?_
  have hk10 := kd_pi eh2 hk1
  refine r_callV_V (pc := 79) (Y := mX24_lay) (vs := [_, _, _]) (st := []) hk10 rfl kc24 q2594 q2596 qs115 dX24_hashed_79 rfl cd_X24_lay rfl rfl fp_X24_hashed_X24_lay K (fun h9 eh9 wh9 K => ?_) (fun x h1 _ _ e => Tw.out rfl e)
  refine r_iload (pc := 82) dX24_hashed_82 rfl ?_
  refine r_sipush (pc := 84) (x := 128) dX24_hashed_84 rfl ?_
  refine r_iand (pc := 87) dX24_hashed_87 ?_
  refine r_if_eq (pc := 88) (tgt := 95) dX24_hashed_88 rfl (fun c11 => ?_) (fun c11 => ?_)
  · have K := K.1 c11
    refine r_iconst (pc := 95) (x := 0) dX24_hashed_95 rfl ?_
    refine r_istore (pc := 96) (lv' := [_, _, _, _, _, _, _, _, _, _, _]) dX24_hashed_96 (by decide) rfl ?_
    refine r_aload_n (pc := 98) dX24_hashed_98 rfl ?_
    refine r_iload (pc := 99) dX24_hashed_99 rfl ?_
    refine r_if_eq (pc := 101) (tgt := 108) dX24_hashed_101 rfl (fun c12 => ?_) (fun c12 => ?_)
    · have K := K.1 c12
      refine r_aload_n (pc := 108) dX24_hashed_108 rfl ?_
      have hk13 := kd_ext eh9 hk3 (nz rfl)
      have K := K _ rfl
      refine r_getr' (pc := 109) (T := TX26) 26 4 rfl hk13 (Or.inr (Or.inl ⟨_, q2149⟩)) dX24_hashed_109 kc26 g26004 ?_
      refine r_iload_n (pc := 112) dX24_hashed_112 rfl ?_
      obtain ⟨hk15, K⟩ := K
      obtain ⟨hi16, K⟩ := K
      refine r_iaload (pc := 113) hk15 hi16 dX24_hashed_113 ?_
      refine r_i2l (pc := 114) dX24_hashed_114 ?_
      have hk19 := kd_ext eh9 hk10 (nz rfl)
      refine r_callV_V (pc := 115) (Y := mX24_layCount) (vs := [_]) (st := []) hk19 rfl kc24 q2598 q2600 qs116 dX24_hashed_115 rfl cd_X24_layCount rfl rfl fp_X24_hashed_X24_layCount K (fun h18 eh18 wh18 K => ?_) (fun x h1 _ _ e => Tw.out rfl e)
      refine r_iconst (pc := 118) (x := 0) dX24_hashed_118 rfl ?_
      refine r_istore (pc := 119) (lv' := [_, _, _, _, _, _, _, _, _, _, _]) dX24_hashed_119 (by decide) rfl ?_
      refine r_mask (pc := 121) [true, true, true, true, true, true, true, true, false, false, false] rfl ?_
      exact K
    · have K := K.2 c12
      refine r_lconst (pc := 104) (a := 1) dX24_hashed_104 rfl ?_
      refine r_goto (pc := 105) (tgt := 115) dX24_hashed_105 rfl ?_
      have hk22 := kd_ext eh9 hk10 (nz rfl)
      refine r_callV_V (pc := 115) (Y := mX24_layCount) (vs := [_]) (st := []) hk22 rfl kc24 q2598 q2600 qs116 dX24_hashed_115 rfl cd_X24_layCount rfl rfl fp_X24_hashed_X24_layCount K (fun h21 eh21 wh21 K => ?_) (fun x h1 _ _ e => Tw.out rfl e)
      refine r_iconst (pc := 118) (x := 0) dX24_hashed_118 rfl ?_
      refine r_istore (pc := 119) (lv' := [_, _, _, _, _, _, _, _, _, _, _]) dX24_hashed_119 (by decide) rfl ?_
      refine r_mask (pc := 121) [true, true, true, true, true, true, true, true, false, false, false] rfl ?_
      exact K
  · have K := K.2 c11
    refine r_iconst (pc := 91) (x := 1) dX24_hashed_91 rfl ?_
    refine r_goto (pc := 92) (tgt := 96) dX24_hashed_92 rfl ?_
    refine r_istore (pc := 96) (lv' := [_, _, _, _, _, _, _, _, _, _, _]) dX24_hashed_96 (by decide) rfl ?_
    refine r_aload_n (pc := 98) dX24_hashed_98 rfl ?_
    refine r_iload (pc := 99) dX24_hashed_99 rfl ?_
    refine r_if_eq (pc := 101) (tgt := 108) dX24_hashed_101 rfl (fun c23 => ?_) (fun c23 => ?_)
    · have K := K.1 c23
      refine r_aload_n (pc := 108) dX24_hashed_108 rfl ?_
      have hk24 := kd_ext eh9 hk3 (nz rfl)
      have K := K _ rfl
      refine r_getr' (pc := 109) (T := TX26) 26 4 rfl hk24 (Or.inr (Or.inl ⟨_, q2149⟩)) dX24_hashed_109 kc26 g26004 ?_
      refine r_iload_n (pc := 112) dX24_hashed_112 rfl ?_
      obtain ⟨hk26, K⟩ := K
      obtain ⟨hi27, K⟩ := K
      refine r_iaload (pc := 113) hk26 hi27 dX24_hashed_113 ?_
      refine r_i2l (pc := 114) dX24_hashed_114 ?_
      have hk30 := kd_ext eh9 hk10 (nz rfl)
      refine r_callV_V (pc := 115) (Y := mX24_layCount) (vs := [_]) (st := []) hk30 rfl kc24 q2598 q2600 qs116 dX24_hashed_115 rfl cd_X24_layCount rfl rfl fp_X24_hashed_X24_layCount K (fun h29 eh29 wh29 K => ?_) (fun x h1 _ _ e => Tw.out rfl e)
      refine r_iconst (pc := 118) (x := 0) dX24_hashed_118 rfl ?_
      refine r_istore (pc := 119) (lv' := [_, _, _, _, _, _, _, _, _, _, _]) dX24_hashed_119 (by decide) rfl ?_
      refine r_mask (pc := 121) [true, true, true, true, true, true, true, true, false, false, false] rfl ?_
      exact K
    · have K := K.2 c23
      refine r_lconst (pc := 104) (a := 1) dX24_hashed_104 rfl ?_
      refine r_goto (pc := 105) (tgt := 115) dX24_hashed_105 rfl ?_
      have hk33 := kd_ext eh9 hk10 (nz rfl)
      refine r_callV_V (pc := 115) (Y := mX24_layCount) (vs := [_]) (st := []) hk33 rfl kc24 q2598 q2600 qs116 dX24_hashed_115 rfl cd_X24_layCount rfl rfl fp_X24_hashed_X24_layCount K (fun h32 eh32 wh32 K => ?_) (fun x h1 _ _ e => Tw.out rfl e)
      refine r_iconst (pc := 118) (x := 0) dX24_hashed_118 rfl ?_
      refine r_istore (pc := 119) (lv' := [_, _, _, _, _, _, _, _, _, _, _]) dX24_hashed_119 (by decide) rfl ?_
      refine r_mask (pc := 121) [true, true, true, true, true, true, true, true, false, false, false] rfl ?_
      exact K
set_option maxHeartbeats 4000000 in
theorem sX24_hashed_121 {G : Gx} {d t : Nat} {h0 : AH} {Φ : Out → AH → Prop} (h : AH) (v0 : Nat) (v1 : Nat) (v2 : Int32) (v3 : Int32) (v4 : Int32) (v5 : Int32) (v6 : Int32) (v7 : Int32) (K : h.kd v1 = 26 ∧ ∀ r2 : Nat, r2 = (h.r 26004 v1) → h.kd r2 = 100 ∧ vp_in v2 (h.ai r2).length ∧ ((((h.ai r2).getD (v2.toNatClampNeg) 0) ≤ v7 → ((¬ v5 = 2 → ((¬ v5 = 3 → ∀ r8 : Nat, r8 = (h.r 26005 v1) → h.kd r8 = 100 ∧ vp_in v2 (h.ai r8).length ∧ ∀ u11 : Int32, u11 = ((h.ai r8).getD (v2.toNatClampNeg) 0) → h.kd v0 = 24 ∧ Cw G mX24_layCount d 0 [vR v0, vJ u11.toInt64] h (kV (fun h13 => Aw G mX24_hashed (d + 1) t h0 Φ 305 [vR v0, vR v1, vI v2, vI v3, vI v4, vI v5, vU, vI u11, vI 0, vU, vU] [] h13) (fun x h => Φ (.inr x) h))) ∧ (v5 = 3 → h.kd v0 = 24 ∧ Cw G mX24_layCount d 0 [vR v0, vJ ((v3 + 1).toInt64)] h (kV (fun h16 => Aw G mX24_hashed (d + 1) t h0 Φ 305 [vR v0, vR v1, vI v2, vI v3, vI v4, vI v5, vU, vI (v3 + 1), vI 0, vU, vU] [] h16) (fun x h => Φ (.inr x) h))))) ∧ (v5 = 2 → h.kd v0 = 24 ∧ Cw G mX24_layCount d 0 [vR v0, vJ ((0 : Int32).toInt64)] h (kV (fun h19 => Aw G mX24_hashed (d + 1) t h0 Φ 305 [vR v0, vR v1, vI v2, vI v3, vI v4, vI v5, vU, vI 0, vI 0, vU, vU] [] h19) (fun x h => Φ (.inr x) h))))) ∧ (¬ ((h.ai r2).getD (v2.toNatClampNeg) 0) ≤ v7 → ((v6 = 0 → Aw G mX24_hashed (d + 1) t h0 Φ 146 [vR v0, vR v1, vI v2, vI v3, vI v4, vI v5, vI v6, vI v7, vU, vU, vU] [] h) ∧ (¬ v6 = 0 → ((v7 = v3 → Aw G mX24_hashed (d + 1) t h0 Φ 146 [vR v0, vR v1, vI v2, vI v3, vI v4, vI v5, vI v6, vI v7, vU, vU, vU] [] h) ∧ (¬ v7 = v3 → Aw G mX24_hashed (d + 1) t h0 Φ 121 [vR v0, vR v1, vI v2, vI v3, vI v4, vI v5, vI v6, vI (v7 + 1), vU, vU, vU] [] h))))))) : Aw G mX24_hashed (d + 1) t h0 Φ 121 [vR v0, vR v1, vI v2, vI v3, vI v4, vI v5, vI v6, vI v7, vU, vU, vU] [] h := by
  refine r_iload (pc := 121) dX24_hashed_121 rfl ?_
  refine r_aload_n (pc := 123) dX24_hashed_123 rfl ?_
  obtain ⟨hk1, K⟩ := K
  have K := K _ rfl
  refine r_getr' (pc := 124) (T := TX26) 26 4 rfl hk1 (Or.inr (Or.inl ⟨_, q2149⟩)) dX24_hashed_124 kc26 g26004 ?_
  refine r_iload_n (pc := 127) dX24_hashed_127 rfl ?_
  obtain ⟨hk3, K⟩ := K
  obtain ⟨hi4, K⟩ := K
  refine r_iaload (pc := 128) hk3 hi4 dX24_hashed_128 ?_
  refine r_icmp_ge (pc := 129) (tgt := 265) dX24_hashed_129 rfl (fun c5 => ?_) (fun c5 => ?_)
  · have K := K.1 c5
    refine r_iload (pc := 265) dX24_hashed_265 rfl ?_
    refine r_iconst (pc := 267) (x := 2) dX24_hashed_267 rfl ?_
    refine r_icmp_ne (pc := 268) (tgt := 275) dX24_hashed_268 rfl (fun c6 => ?_) (fun c6 => ?_)
    · have K := K.1 c6
      refine r_iload (pc := 275) dX24_hashed_275 rfl ?_
      refine r_iconst (pc := 277) (x := 3) dX24_hashed_277 rfl ?_
      refine r_icmp_ne (pc := 278) (tgt := 287) dX24_hashed_278 rfl (fun c7 => ?_) (fun c7 => ?_)
      · have K := K.1 c7
        refine r_aload_n (pc := 287) dX24_hashed_287 rfl ?_
        have K := K _ rfl
        refine r_getr' (pc := 288) (T := TX26) 26 5 rfl hk1 (Or.inr (Or.inl ⟨_, q2151⟩)) dX24_hashed_288 kc26 g26005 ?_
        refine r_iload_n (pc := 291) dX24_hashed_291 rfl ?_
        obtain ⟨hk9, K⟩ := K
        obtain ⟨hi10, K⟩ := K
        refine r_iaload (pc := 292) hk9 hi10 dX24_hashed_292 ?_
        have K := K _ rfl
        refine r_istore (pc := 293) (lv' := [_, _, _, _, _, _, _, _, _, _, _]) dX24_hashed_293 (by decide) rfl ?_
        refine r_aload_n (pc := 295) dX24_hashed_295 rfl ?_
        refine r_iload (pc := 296) dX24_hashed_296 rfl ?_
        refine r_i2l (pc := 298) dX24_hashed_298 ?_
        obtain ⟨hk14, K⟩ := K
        refine r_callV_V (pc := 299) (Y := mX24_layCount) (vs := [_]) (st := []) hk14 rfl kc24 q2598 q2600 qs116 dX24_hashed_299 rfl cd_X24_layCount rfl rfl fp_X24_hashed_X24_layCount K (fun h13 eh13 wh13 K => ?_) (fun x h1 _ _ e => Tw.out rfl e)
        refine r_iconst (pc := 302) (x := 0) dX24_hashed_302 rfl ?_
        refine r_istore (pc := 303) (lv' := [_, _, _, _, _, _, _, _, _, _, _]) dX24_hashed_303 (by decide) rfl ?_
        refine r_mask (pc := 305) [true, true, true, true, true, true, false, true, true, false, false] rfl ?_
        exact K
      · have K := K.2 c7
        refine r_iload_n (pc := 281) dX24_hashed_281 rfl ?_
        refine r_iconst (pc := 282) (x := 1) dX24_hashed_282 rfl ?_
        refine r_iadd (pc := 283) dX24_hashed_283 ?_
        refine r_goto (pc := 284) (tgt := 293) dX24_hashed_284 rfl ?_
        refine r_istore (pc := 293) (lv' := [_, _, _, _, _, _, _, _, _, _, _]) dX24_hashed_293 (by decide) rfl ?_
        refine r_aload_n (pc := 295) dX24_hashed_295 rfl ?_
        refine r_iload (pc := 296) dX24_hashed_296 rfl ?_
        refine r_i2l (pc := 298) dX24_hashed_298 ?_
        obtain ⟨hk17, K⟩ := K
        refine r_callV_V (pc := 299) (Y := mX24_layCount) (vs := [_]) (st := []) hk17 rfl kc24 q2598 q2600 qs116 dX24_hashed_299 rfl cd_X24_layCount rfl rfl fp_X24_hashed_X24_layCount K (fun h16 eh16 wh16 K => ?_) (fun x h1 _ _ e => Tw.out rfl e)
        refine r_iconst (pc := 302) (x := 0) dX24_hashed_302 rfl ?_
        refine r_istore (pc := 303) (lv' := [_, _, _, _, _, _, _, _, _, _, _]) dX24_hashed_303 (by decide) rfl ?_
        refine r_mask (pc := 305) [true, true, true, true, true, true, false, true, true, false, false] rfl ?_
        exact K
    · have K := K.2 c6
      refine r_iconst (pc := 271) (x := 0) dX24_hashed_271 rfl ?_
      refine r_goto (pc := 272) (tgt := 293) dX24_hashed_272 rfl ?_
      refine r_istore (pc := 293) (lv' := [_, _, _, _, _, _, _, _, _, _, _]) dX24_hashed_293 (by decide) rfl ?_
      refine r_aload_n (pc := 295) dX24_hashed_295 rfl ?_
      refine r_iload (pc := 296) dX24_hashed_296 rfl ?_
      refine r_i2l (pc := 298) dX24_hashed_298 ?_
      obtain ⟨hk20, K⟩ := K
      refine r_callV_V (pc := 299) (Y := mX24_layCount) (vs := [_]) (st := []) hk20 rfl kc24 q2598 q2600 qs116 dX24_hashed_299 rfl cd_X24_layCount rfl rfl fp_X24_hashed_X24_layCount K (fun h19 eh19 wh19 K => ?_) (fun x h1 _ _ e => Tw.out rfl e)
      refine r_iconst (pc := 302) (x := 0) dX24_hashed_302 rfl ?_
      refine r_istore (pc := 303) (lv' := [_, _, _, _, _, _, _, _, _, _, _]) dX24_hashed_303 (by decide) rfl ?_
      refine r_mask (pc := 305) [true, true, true, true, true, true, false, true, true, false, false] rfl ?_
      exact K
  · have K := K.2 c5
    refine r_iload (pc := 132) dX24_hashed_132 rfl ?_
    refine r_if_eq (pc := 134) (tgt := 146) dX24_hashed_134 rfl (fun c21 => ?_) (fun c21 => ?_)
    · have K := K.1 c21
      refine r_mask (pc := 146) [true, true, true, true, true, true, true, true, false, false, false] rfl ?_
      exact K
    · have K := K.2 c21
      refine r_iload (pc := 137) dX24_hashed_137 rfl ?_
      refine r_iload_n (pc := 139) dX24_hashed_139 rfl ?_
      refine r_icmp_eq (pc := 140) (tgt := 146) dX24_hashed_140 rfl (fun c22 => ?_) (fun c22 => ?_)
      · have K := K.1 c22
        refine r_mask (pc := 146) [true, true, true, true, true, true, true, true, false, false, false] rfl ?_
        exact K
      · have K := K.2 c22
        refine r_goto (pc := 143) (tgt := 259) dX24_hashed_143 rfl ?_
        refine r_iinc (pc := 259) (lv' := [_, _, _, _, _, _, _, _, _, _, _]) dX24_hashed_259 rfl rfl (by decide) rfl ?_
        refine r_goto (pc := 262) (tgt := 121) dX24_hashed_262 rfl ?_
        refine r_mask (pc := 121) [true, true, true, true, true, true, true, true, false, false, false] rfl ?_
        exact K
set_option maxHeartbeats 4000000 in
theorem sX24_hashed_146 {G : Gx} {d t : Nat} {h0 : AH} {Φ : Out → AH → Prop} (h : AH) (v0 : Nat) (v1 : Nat) (v2 : Int32) (v3 : Int32) (v4 : Int32) (v5 : Int32) (v6 : Int32) (v7 : Int32) (K : h.kd v0 = 24 ∧ Cw G mX24_input d 0 [vR v0, vR v1, vI v2, vI v7] h (kI (fun x1 h2 => h2.kd v1 = 26 ∧ ∀ r5 : Nat, r5 = (h2.r 26000 v1) → Cw G mX24_lay d 0 [vR v0, vR r5, vI x1, vI 36] h2 (kV (fun h7 => Cw G mX24_script d 0 [vR v0, vR r5, vI (x1 + 36)] h7 (kI (fun x12 h13 => ((¬ v7 = v3 → Cw G mX24_layCount d 0 [vR v0, vJ 0] h13 (kV (fun h17 => ((¬ v7 = v3 → Aw G mX24_hashed (d + 1) t h0 Φ 221 [vR v0, vR v1, vI v2, vI v3, vI v4, vI v5, vI v6, vI v7, vU, vI x12, vU] [] h17) ∧ (v7 = v3 → ∀ r21 : Nat, r21 = (h17.r 24087 v0) → Cw G mX24_lay d 0 [vR v0, vR r21, vI 0, vI (h17.i 24089 v0)] h17 (kV (fun h23 => Aw G mX24_hashed (d + 1) t h0 Φ 221 [vR v0, vR v1, vI v2, vI v3, vI v4, vI v5, vI v6, vI v7, vU, vI x12, vU] [] h23) (fun x h => Φ (.inr x) h))))) (fun x h => Φ (.inr x) h))) ∧ (v7 = v3 → Cw G mX24_layCount d 0 [vR v0, vJ ((h13.i 24089 v0).toInt64)] h13 (kV (fun h26 => ((¬ v7 = v3 → Aw G mX24_hashed (d + 1) t h0 Φ 221 [vR v0, vR v1, vI v2, vI v3, vI v4, vI v5, vI v6, vI v7, vU, vI x12, vU] [] h26) ∧ (v7 = v3 → ∀ r29 : Nat, r29 = (h26.r 24087 v0) → Cw G mX24_lay d 0 [vR v0, vR r29, vI 0, vI (h13.i 24089 v0)] h26 (kV (fun h33 => Aw G mX24_hashed (d + 1) t h0 Φ 221 [vR v0, vR v1, vI v2, vI v3, vI v4, vI v5, vI v6, vI v7, vU, vI x12, vU] [] h33) (fun x h => Φ (.inr x) h))))) (fun x h => Φ (.inr x) h))))) (fun x h => Φ (.inr x) h))) (fun x h => Φ (.inr x) h))) (fun x h => Φ (.inr x) h))) : Aw G mX24_hashed (d + 1) t h0 Φ 146 [vR v0, vR v1, vI v2, vI v3, vI v4, vI v5, vI v6, vI v7, vU, vU, vU] [] h := by
  refine r_aload_n (pc := 146) dX24_hashed_146 rfl ?_
  refine r_aload_n (pc := 147) dX24_hashed_147 rfl ?_
  refine r_iload_n (pc := 148) dX24_hashed_148 rfl ?_
  refine r_iload (pc := 149) dX24_hashed_149 rfl ?_
  obtain ⟨hk3, K⟩ := K
  refine r_callV_I (pc := 151) (Y := mX24_input) (vs := [_, _, _]) (st := []) hk3 rfl kc24 q2452 q2454 qs84 dX24_hashed_151 rfl cd_X24_input rfl rfl fp_X24_hashed_X24_input K (fun x1 h2 eh2 wh2 K => ?_) (fun x h1 _ _ e => Tw.out rfl e)
  refine r_istore (pc := 154) (lv' := [_, _, _, _, _, _, _, _, _, _, _]) dX24_hashed_154 (by decide) rfl ?_
  refine r_aload_n (pc := 156) dX24_hashed_156 rfl ?_
  refine r_aload_n (pc := 157) dX24_hashed_157 rfl ?_
  obtain ⟨hk4, K⟩ := K
  have K := K _ rfl
  refine r_getr' (pc := 158) (T := TX26) 26 0 rfl hk4 (Or.inr (Or.inl ⟨_, q2142⟩)) dX24_hashed_158 kc26 g26000 ?_
  refine r_iload (pc := 161) dX24_hashed_161 rfl ?_
  refine r_bipush (pc := 163) (x := 36) dX24_hashed_163 rfl ?_
  have hk8 := kd_ext eh2 hk3 (nz rfl)
  refine r_callV_V (pc := 165) (Y := mX24_lay) (vs := [_, _, _]) (st := []) hk8 rfl kc24 q2594 q2596 qs115 dX24_hashed_165 rfl cd_X24_lay rfl rfl fp_X24_hashed_X24_lay K (fun h7 eh7 wh7 K => ?_) (fun x h1 _ _ e => Tw.out rfl e)
  refine r_aload_n (pc := 168) dX24_hashed_168 rfl ?_
  refine r_aload_n (pc := 169) dX24_hashed_169 rfl ?_
  have hk9 := kd_ext eh7 hk4 (nz rfl)
  have hv10 := fr_self (key := 26000) hk4
  have hv11 := (fr_ext (key := 26000) eh7 hk4 (nz rfl) (ne0 wh7 hk9 (nz rfl)) (nm rfl)).trans hv10
  refine r_getr' (pc := 170) (T := TX26) 26 0 hv11 hk9 (Or.inr (Or.inl ⟨_, q2142⟩)) dX24_hashed_170 kc26 g26000 ?_
  refine r_iload (pc := 173) dX24_hashed_173 rfl ?_
  refine r_bipush (pc := 175) (x := 36) dX24_hashed_175 rfl ?_
  refine r_iadd (pc := 177) dX24_hashed_177 ?_
  have hk14 := kd_ext eh7 hk8 (nz rfl)
  refine r_callV_I (pc := 178) (Y := mX24_script) (vs := [_, _]) (st := []) hk14 rfl kc24 q2456 q2458 qs85 dX24_hashed_178 rfl cd_X24_script rfl rfl fp_X24_hashed_X24_script K (fun x12 h13 eh13 wh13 K => ?_) (fun x h1 _ _ e => Tw.out rfl e)
  refine r_istore (pc := 181) (lv' := [_, _, _, _, _, _, _, _, _, _, _]) dX24_hashed_181 (by decide) rfl ?_
  refine r_aload_n (pc := 183) dX24_hashed_183 rfl ?_
  refine r_iload (pc := 184) dX24_hashed_184 rfl ?_
  refine r_iload_n (pc := 186) dX24_hashed_186 rfl ?_
  refine r_icmp_ne (pc := 187) (tgt := 198) dX24_hashed_187 rfl (fun c15 => ?_) (fun c15 => ?_)
  · have K := K.1 c15
    refine r_lconst (pc := 198) (a := 0) dX24_hashed_198 rfl ?_
    have hk18 := kd_ext eh13 hk14 (nz rfl)
    refine r_callV_V (pc := 199) (Y := mX24_layCount) (vs := [_]) (st := []) hk18 rfl kc24 q2598 q2600 qs116 dX24_hashed_199 rfl cd_X24_layCount rfl rfl fp_X24_hashed_X24_layCount K (fun h17 eh17 wh17 K => ?_) (fun x h1 _ _ e => Tw.out rfl e)
    refine r_iload (pc := 202) dX24_hashed_202 rfl ?_
    refine r_iload_n (pc := 204) dX24_hashed_204 rfl ?_
    refine r_icmp_ne (pc := 205) (tgt := 221) dX24_hashed_205 rfl (fun c19 => ?_) (fun c19 => ?_)
    · have K := K.1 c19
      refine r_mask (pc := 221) [true, true, true, true, true, true, true, true, false, true, false] rfl ?_
      exact K
    · have K := K.2 c19
      refine r_aload_n (pc := 208) dX24_hashed_208 rfl ?_
      refine r_aload_n (pc := 209) dX24_hashed_209 rfl ?_
      have hk20 := kd_ext eh17 hk18 (nz rfl)
      have K := K _ rfl
      refine r_getr' (pc := 210) (T := TX24) 24 87 rfl hk20 (Or.inl q2785) dX24_hashed_210 kc24 g24087 ?_
      refine r_iconst (pc := 213) (x := 0) dX24_hashed_213 rfl ?_
      refine r_aload_n (pc := 214) dX24_hashed_214 rfl ?_
      refine r_geti' (pc := 215) (T := TX24) 24 89 rfl hk20 (Or.inl q2787) dX24_hashed_215 kc24 g24089 ?_
      refine r_callV_V (pc := 218) (Y := mX24_lay) (vs := [_, _, _]) (st := []) hk20 rfl kc24 q2594 q2596 qs115 dX24_hashed_218 rfl cd_X24_lay rfl rfl fp_X24_hashed_X24_lay K (fun h23 eh23 wh23 K => ?_) (fun x h1 _ _ e => Tw.out rfl e)
      refine r_mask (pc := 221) [true, true, true, true, true, true, true, true, false, true, false] rfl ?_
      exact K
  · have K := K.2 c15
    refine r_aload_n (pc := 190) dX24_hashed_190 rfl ?_
    have hk24 := kd_ext eh13 hk14 (nz rfl)
    refine r_geti' (pc := 191) (T := TX24) 24 89 rfl hk24 (Or.inl q2787) dX24_hashed_191 kc24 g24089 ?_
    refine r_i2l (pc := 194) dX24_hashed_194 ?_
    refine r_goto (pc := 195) (tgt := 199) dX24_hashed_195 rfl ?_
    refine r_callV_V (pc := 199) (Y := mX24_layCount) (vs := [_]) (st := []) hk24 rfl kc24 q2598 q2600 qs116 dX24_hashed_199 rfl cd_X24_layCount rfl rfl fp_X24_hashed_X24_layCount K (fun h26 eh26 wh26 K => ?_) (fun x h1 _ _ e => Tw.out rfl e)
    refine r_iload (pc := 202) dX24_hashed_202 rfl ?_
    refine r_iload_n (pc := 204) dX24_hashed_204 rfl ?_
    refine r_icmp_ne (pc := 205) (tgt := 221) dX24_hashed_205 rfl (fun c27 => ?_) (fun c27 => ?_)
    · have K := K.1 c27
      refine r_mask (pc := 221) [true, true, true, true, true, true, true, true, false, true, false] rfl ?_
      exact K
    · have K := K.2 c27
      refine r_aload_n (pc := 208) dX24_hashed_208 rfl ?_
      refine r_aload_n (pc := 209) dX24_hashed_209 rfl ?_
      have hk28 := kd_ext eh26 hk24 (nz rfl)
      have K := K _ rfl
      refine r_getr' (pc := 210) (T := TX24) 24 87 rfl hk28 (Or.inl q2785) dX24_hashed_210 kc24 g24087 ?_
      refine r_iconst (pc := 213) (x := 0) dX24_hashed_213 rfl ?_
      refine r_aload_n (pc := 214) dX24_hashed_214 rfl ?_
      have hv30 := fi_self (key := 24089) hk24
      have hv31 := (fi_ext (key := 24089) eh26 hk24 (nz rfl) (ne0 wh26 hk28 (nz rfl)) (nm rfl)).trans hv30
      refine r_geti' (pc := 215) (T := TX24) 24 89 hv31 hk28 (Or.inl q2787) dX24_hashed_215 kc24 g24089 ?_
      refine r_callV_V (pc := 218) (Y := mX24_lay) (vs := [_, _, _]) (st := []) hk28 rfl kc24 q2594 q2596 qs115 dX24_hashed_218 rfl cd_X24_lay rfl rfl fp_X24_hashed_X24_lay K (fun h33 eh33 wh33 K => ?_) (fun x h1 _ _ e => Tw.out rfl e)
      refine r_mask (pc := 221) [true, true, true, true, true, true, true, true, false, true, false] rfl ?_
      exact K
set_option maxHeartbeats 4000000 in
theorem sX24_hashed_221 {G : Gx} {d t : Nat} {h0 : AH} {Φ : Out → AH → Prop} (h : AH) (v0 : Nat) (v1 : Nat) (v2 : Int32) (v3 : Int32) (v4 : Int32) (v5 : Int32) (v6 : Int32) (v7 : Int32) (v9 : Int32) (K : ((v7 = v3 → h.kd v1 = 26 ∧ ∀ r3 : Nat, r3 = (h.r 26000 v1) → h.kd v0 = 24 ∧ Cw G mX24_number d 0 [vR v0, vR r3, vI v9, vI 4] h (kJ (fun x4 h5 => Cw G mX24_lay_2 d 0 [vR v0, vJ x4, vI 4] h5 (kV (fun h8 => Aw G mX24_hashed (d + 1) t h0 Φ 121 [vR v0, vR v1, vI v2, vI v3, vI v4, vI v5, vI v6, vI (v7 + 1), vU, vU, vU] [] h8) (fun x h => Φ (.inr x) h))) (fun x h => Φ (.inr x) h))) ∧ (¬ v7 = v3 → ((v5 = 2 → h.kd v0 = 24 ∧ Cw G mX24_lay_2 d 0 [vR v0, vJ 0, vI 4] h (kV (fun h12 => Aw G mX24_hashed (d + 1) t h0 Φ 121 [vR v0, vR v1, vI v2, vI v3, vI v4, vI v5, vI v6, vI (v7 + 1), vU, vU, vU] [] h12) (fun x h => Φ (.inr x) h))) ∧ (¬ v5 = 2 → ((¬ v5 = 3 → h.kd v1 = 26 ∧ ∀ r16 : Nat, r16 = (h.r 26000 v1) → h.kd v0 = 24 ∧ Cw G mX24_number d 0 [vR v0, vR r16, vI v9, vI 4] h (kJ (fun x17 h18 => Cw G mX24_lay_2 d 0 [vR v0, vJ x17, vI 4] h18 (kV (fun h21 => Aw G mX24_hashed (d + 1) t h0 Φ 121 [vR v0, vR v1, vI v2, vI v3, vI v4, vI v5, vI v6, vI (v7 + 1), vU, vU, vU] [] h21) (fun x h => Φ (.inr x) h))) (fun x h => Φ (.inr x) h))) ∧ (v5 = 3 → h.kd v0 = 24 ∧ Cw G mX24_lay_2 d 0 [vR v0, vJ 0, vI 4] h (kV (fun h24 => Aw G mX24_hashed (d + 1) t h0 Φ 121 [vR v0, vR v1, vI v2, vI v3, vI v4, vI v5, vI v6, vI (v7 + 1), vU, vU, vU] [] h24) (fun x h => Φ (.inr x) h))))))))) : Aw G mX24_hashed (d + 1) t h0 Φ 221 [vR v0, vR v1, vI v2, vI v3, vI v4, vI v5, vI v6, vI v7, vU, vI v9, vU] [] h := by
  refine r_aload_n (pc := 221) dX24_hashed_221 rfl ?_
  refine r_iload (pc := 222) dX24_hashed_222 rfl ?_
  refine r_iload_n (pc := 224) dX24_hashed_224 rfl ?_
  refine r_icmp_eq (pc := 225) (tgt := 244) dX24_hashed_225 rfl (fun c1 => ?_) (fun c1 => ?_)
  · have K := K.1 c1
    refine r_aload_n (pc := 244) dX24_hashed_244 rfl ?_
    refine r_aload_n (pc := 245) dX24_hashed_245 rfl ?_
    obtain ⟨hk2, K⟩ := K
    have K := K _ rfl
    refine r_getr' (pc := 246) (T := TX26) 26 0 rfl hk2 (Or.inr (Or.inl ⟨_, q2142⟩)) dX24_hashed_246 kc26 g26000 ?_
    refine r_iload (pc := 249) dX24_hashed_249 rfl ?_
    refine r_iconst (pc := 251) (x := 4) dX24_hashed_251 rfl ?_
    obtain ⟨hk6, K⟩ := K
    refine r_callV_J (pc := 252) (Y := mX24_number) (vs := [_, _, _]) (st := [_]) hk6 rfl kc24 q2350 q2352 qs74 dX24_hashed_252 rfl cd_X24_number rfl rfl fp_X24_hashed_X24_number K (fun x4 h5 eh5 wh5 K => ?_) (fun x h1 _ _ e => Tw.out rfl e)
    refine r_iconst (pc := 255) (x := 4) dX24_hashed_255 rfl ?_
    have hk9 := kd_ext eh5 hk6 (nz rfl)
    refine r_callV_V (pc := 256) (Y := mX24_lay_2) (vs := [_, _]) (st := []) hk9 rfl kc24 q2602 q2604 qs117 dX24_hashed_256 rfl cd_X24_lay_2 rfl rfl fp_X24_hashed_X24_lay_2 K (fun h8 eh8 wh8 K => ?_) (fun x h1 _ _ e => Tw.out rfl e)
    refine r_iinc (pc := 259) (lv' := [_, _, _, _, _, _, _, _, _, _, _]) dX24_hashed_259 rfl rfl (by decide) rfl ?_
    refine r_goto (pc := 262) (tgt := 121) dX24_hashed_262 rfl ?_
    refine r_mask (pc := 121) [true, true, true, true, true, true, true, true, false, false, false] rfl ?_
    exact K
  · have K := K.2 c1
    refine r_iload (pc := 228) dX24_hashed_228 rfl ?_
    refine r_iconst (pc := 230) (x := 2) dX24_hashed_230 rfl ?_
    refine r_icmp_eq (pc := 231) (tgt := 240) dX24_hashed_231 rfl (fun c10 => ?_) (fun c10 => ?_)
    · have K := K.1 c10
      refine r_lconst (pc := 240) (a := 0) dX24_hashed_240 rfl ?_
      refine r_goto (pc := 241) (tgt := 255) dX24_hashed_241 rfl ?_
      refine r_iconst (pc := 255) (x := 4) dX24_hashed_255 rfl ?_
      obtain ⟨hk13, K⟩ := K
      refine r_callV_V (pc := 256) (Y := mX24_lay_2) (vs := [_, _]) (st := []) hk13 rfl kc24 q2602 q2604 qs117 dX24_hashed_256 rfl cd_X24_lay_2 rfl rfl fp_X24_hashed_X24_lay_2 K (fun h12 eh12 wh12 K => ?_) (fun x h1 _ _ e => Tw.out rfl e)
      refine r_iinc (pc := 259) (lv' := [_, _, _, _, _, _, _, _, _, _, _]) dX24_hashed_259 rfl rfl (by decide) rfl ?_
      refine r_goto (pc := 262) (tgt := 121) dX24_hashed_262 rfl ?_
      refine r_mask (pc := 121) [true, true, true, true, true, true, true, true, false, false, false] rfl ?_
      exact K
    · have K := K.2 c10
      refine r_iload (pc := 234) dX24_hashed_234 rfl ?_
      refine r_iconst (pc := 236) (x := 3) dX24_hashed_236 rfl ?_
      refine r_icmp_ne (pc := 237) (tgt := 244) dX24_hashed_237 rfl (fun c14 => ?_) (fun c14 => ?_)
      · have K := K.1 c14
        refine r_aload_n (pc := 244) dX24_hashed_244 rfl ?_
        refine r_aload_n (pc := 245) dX24_hashed_245 rfl ?_
        obtain ⟨hk15, K⟩ := K
        have K := K _ rfl
        refine r_getr' (pc := 246) (T := TX26) 26 0 rfl hk15 (Or.inr (Or.inl ⟨_, q2142⟩)) dX24_hashed_246 kc26 g26000 ?_
        refine r_iload (pc := 249) dX24_hashed_249 rfl ?_
        refine r_iconst (pc := 251) (x := 4) dX24_hashed_251 rfl ?_
        obtain ⟨hk19, K⟩ := K
        refine r_callV_J (pc := 252) (Y := mX24_number) (vs := [_, _, _]) (st := [_]) hk19 rfl kc24 q2350 q2352 qs74 dX24_hashed_252 rfl cd_X24_number rfl rfl fp_X24_hashed_X24_number K (fun x17 h18 eh18 wh18 K => ?_) (fun x h1 _ _ e => Tw.out rfl e)
        refine r_iconst (pc := 255) (x := 4) dX24_hashed_255 rfl ?_
        have hk22 := kd_ext eh18 hk19 (nz rfl)
        refine r_callV_V (pc := 256) (Y := mX24_lay_2) (vs := [_, _]) (st := []) hk22 rfl kc24 q2602 q2604 qs117 dX24_hashed_256 rfl cd_X24_lay_2 rfl rfl fp_X24_hashed_X24_lay_2 K (fun h21 eh21 wh21 K => ?_) (fun x h1 _ _ e => Tw.out rfl e)
        refine r_iinc (pc := 259) (lv' := [_, _, _, _, _, _, _, _, _, _, _]) dX24_hashed_259 rfl rfl (by decide) rfl ?_
        refine r_goto (pc := 262) (tgt := 121) dX24_hashed_262 rfl ?_
        refine r_mask (pc := 121) [true, true, true, true, true, true, true, true, false, false, false] rfl ?_
        exact K
      · have K := K.2 c14
        refine r_lconst (pc := 240) (a := 0) dX24_hashed_240 rfl ?_
        refine r_goto (pc := 241) (tgt := 255) dX24_hashed_241 rfl ?_
        refine r_iconst (pc := 255) (x := 4) dX24_hashed_255 rfl ?_
        obtain ⟨hk25, K⟩ := K
        refine r_callV_V (pc := 256) (Y := mX24_lay_2) (vs := [_, _]) (st := []) hk25 rfl kc24 q2602 q2604 qs117 dX24_hashed_256 rfl cd_X24_lay_2 rfl rfl fp_X24_hashed_X24_lay_2 K (fun h24 eh24 wh24 K => ?_) (fun x h1 _ _ e => Tw.out rfl e)
        refine r_iinc (pc := 259) (lv' := [_, _, _, _, _, _, _, _, _, _, _]) dX24_hashed_259 rfl rfl (by decide) rfl ?_
        refine r_goto (pc := 262) (tgt := 121) dX24_hashed_262 rfl ?_
        refine r_mask (pc := 121) [true, true, true, true, true, true, true, true, false, false, false] rfl ?_
        exact K
set_option maxHeartbeats 4000000 in
theorem sX24_hashed_305 {G : Gx} {d t : Nat} {h0 : AH} {Φ : Out → AH → Prop} (h : AH) (v0 : Nat) (v1 : Nat) (v2 : Int32) (v3 : Int32) (v4 : Int32) (v5 : Int32) (v7 : Int32) (v8 : Int32) (K : ((v7 ≤ v8 → h.kd v1 = 26 ∧ ∀ r3 : Nat, r3 = (h.r 26000 v1) → ∀ r4 : Nat, r4 = (h.r 26003 v1) → h.kd r4 = 100 ∧ vp_in v2 (h.ai r4).length ∧ h.kd v0 = 24 ∧ Cw G mX24_lay d 0 [vR v0, vR r3, vI (((h.ai r4).getD (v2.toNatClampNeg) 0) - 4), vI 4] h (kV (fun h8 => Cw G mX24_lay_2 d 0 [vR v0, vJ v4.toInt64, vI 4] h8 (kV (fun h11 => ∀ r14 : Nat, r14 = (h11.r 24090 v0) → ∀ r15 : Nat, r15 = (h11.r 24035 v0) → Cw G mX24_again d 0 [vR v0, vR r14, vI 0, vI (h11.i 24091 v0), vR r15, vI 0] h11 (kV (fun h17 => Φ (.inl none) h17) (fun x h => Φ (.inr x) h))) (fun x h => Φ (.inr x) h))) (fun x h => Φ (.inr x) h))) ∧ (¬ v7 ≤ v8 → h.kd v0 = 24 ∧ Cw G mX24_output d 0 [vR v0, vR v1, vI v2, vI v8] h (kI (fun x18 h19 => h19.kd v1 = 26 ∧ ∀ r22 : Nat, r22 = (h19.r 26000 v1) → Cw G mX24_script d 0 [vR v0, vR r22, vI (x18 + 8)] h19 (kI (fun x23 h24 => ((¬ v5 = 3 → Cw G mX24_lay d 0 [vR v0, vR r22, vI x18, vI (x23 - x18)] h24 (kV (fun h31 => Aw G mX24_hashed (d + 1) t h0 Φ 305 [vR v0, vR v1, vI v2, vI v3, vI v4, vI v5, vU, vI v7, vI (v8 + 1), vU, vU] [] h31) (fun x h => Φ (.inr x) h))) ∧ (v5 = 3 → ((v3 ≤ v8 → Cw G mX24_lay d 0 [vR v0, vR r22, vI x18, vI (x23 - x18)] h24 (kV (fun h38 => Aw G mX24_hashed (d + 1) t h0 Φ 305 [vR v0, vR v1, vI v2, vI v3, vI v4, vI v5, vU, vI v7, vI (v8 + 1), vU, vU] [] h38) (fun x h => Φ (.inr x) h))) ∧ (¬ v3 ≤ v8 → Cw G mX24_lay_2 d 0 [vR v0, vJ (-1), vI 8] h24 (kV (fun h41 => Cw G mX24_layCount d 0 [vR v0, vJ 0] h41 (kV (fun h44 => Aw G mX24_hashed (d + 1) t h0 Φ 305 [vR v0, vR v1, vI v2, vI v3, vI v4, vI v5, vU, vI v7, vI (v8 + 1), vU, vU] [] h44) (fun x h => Φ (.inr x) h))) (fun x h => Φ (.inr x) h))))))) (fun x h => Φ (.inr x) h))) (fun x h => Φ (.inr x) h))))) : Aw G mX24_hashed (d + 1) t h0 Φ 305 [vR v0, vR v1, vI v2, vI v3, vI v4, vI v5, vU, vI v7, vI v8, vU, vU] [] h := by
  refine r_iload (pc := 305) dX24_hashed_305 rfl ?_
  refine r_iload (pc := 307) dX24_hashed_307 rfl ?_
  refine r_icmp_ge (pc := 309) (tgt := 387) dX24_hashed_309 rfl (fun c1 => ?_) (fun c1 => ?_)
  · have K := K.1 c1
    refine r_aload_n (pc := 387) dX24_hashed_387 rfl ?_
    refine r_aload_n (pc := 388) dX24_hashed_388 rfl ?_
    obtain ⟨hk2, K⟩ := K
    have K := K _ rfl
    refine r_getr' (pc := 389) (T := TX26) 26 0 rfl hk2 (Or.inr (Or.inl ⟨_, q2142⟩)) dX24_hashed_389 kc26 g26000 ?_
    refine r_aload_n (pc := 392) dX24_hashed_392 rfl ?_
    have K := K _ rfl
    refine r_getr' (pc := 393) (T := TX26) 26 3 rfl hk2 (Or.inr (Or.inl ⟨_, q2147⟩)) dX24_hashed_393 kc26 g26003 ?_
    refine r_iload_n (pc := 396) dX24_hashed_396 rfl ?_
    obtain ⟨hk5, K⟩ := K
    obtain ⟨hi6, K⟩ := K
    refine r_iaload (pc := 397) hk5 hi6 dX24_hashed_397 ?_
    refine r_iconst (pc := 398) (x := 4) dX24_hashed_398 rfl ?_
    refine r_isub (pc := 399) dX24_hashed_399 ?_
    refine r_iconst (pc := 400) (x := 4) dX24_hashed_400 rfl ?_
    obtain ⟨hk9, K⟩ := K
    refine r_callV_V (pc := 401) (Y := mX24_lay) (vs := [_, _, _]) (st := []) hk9 rfl kc24 q2594 q2596 qs115 dX24_hashed_401 rfl cd_X24_lay rfl rfl fp_X24_hashed_X24_lay K (fun h8 eh8 wh8 K => ?_) (fun x h1 _ _ e => Tw.out rfl e)
    refine r_aload_n (pc := 404) dX24_hashed_404 rfl ?_
    refine r_iload (pc := 405) dX24_hashed_405 rfl ?_
    refine r_i2l (pc := 407) dX24_hashed_407 ?_
    refine r_iconst (pc := 408) (x := 4) dX24_hashed_408 rfl ?_
    have hk12 := kd_ext eh8 hk9 (nz rfl)
    refine r_callV_V (pc := 409) (Y := mX24_lay_2) (vs := [_, _]) (st := []) hk12 rfl kc24 q2602 q2604 qs117 dX24_hashed_409 rfl cd_X24_lay_2 rfl rfl fp_X24_hashed_X24_lay_2 K (fun h11 eh11 wh11 K => ?_) (fun x h1 _ _ e => Tw.out rfl e)
    refine r_aload_n (pc := 412) dX24_hashed_412 rfl ?_
    refine r_aload_n (pc := 413) dX24_hashed_413 rfl ?_
    have hk13 := kd_ext eh11 hk12 (nz rfl)
    have K := K _ rfl
    refine r_getr' (pc := 414) (T := TX24) 24 90 rfl hk13 (Or.inl q2788) dX24_hashed_414 kc24 g24090 ?_
    refine r_iconst (pc := 417) (x := 0) dX24_hashed_417 rfl ?_
    refine r_aload_n (pc := 418) dX24_hashed_418 rfl ?_
    refine r_geti' (pc := 419) (T := TX24) 24 91 rfl hk13 (Or.inl q2789) dX24_hashed_419 kc24 g24091 ?_
    refine r_aload_n (pc := 422) dX24_hashed_422 rfl ?_
    have K := K _ rfl
    refine r_getr' (pc := 423) (T := TX24) 24 35 rfl hk13 (Or.inl q2733) dX24_hashed_423 kc24 g24035 ?_
    refine r_iconst (pc := 426) (x := 0) dX24_hashed_426 rfl ?_
    refine r_callV_V (pc := 427) (Y := mX24_again) (vs := [_, _, _, _, _]) (st := []) hk13 rfl kc24 q2318 q2320 qs67 dX24_hashed_427 rfl cd_X24_again rfl rfl fp_X24_hashed_X24_again K (fun h17 eh17 wh17 K => ?_) (fun x h1 _ _ e => Tw.out rfl e)
    exact r_vret (pc := 430) rfl dX24_hashed_430 K
  · have K := K.2 c1
    refine r_aload_n (pc := 312) dX24_hashed_312 rfl ?_
    refine r_aload_n (pc := 313) dX24_hashed_313 rfl ?_
    refine r_iload_n (pc := 314) dX24_hashed_314 rfl ?_
    refine r_iload (pc := 315) dX24_hashed_315 rfl ?_
    obtain ⟨hk20, K⟩ := K
    refine r_callV_I (pc := 317) (Y := mX24_output) (vs := [_, _, _]) (st := []) hk20 rfl kc24 q2471 q2473 qs88 dX24_hashed_317 rfl cd_X24_output rfl rfl fp_X24_hashed_X24_output K (fun x18 h19 eh19 wh19 K => ?_) (fun x h1 _ _ e => Tw.out rfl e)
    refine r_istore (pc := 320) (lv' := [_, _, _, _, _, _, _, _, _, _, _]) dX24_hashed_320 (by decide) rfl ?_
    refine r_aload_n (pc := 322) dX24_hashed_322 rfl ?_
    refine r_aload_n (pc := 323) dX24_hashed_323 rfl ?_
    obtain ⟨hk21, K⟩ := K
    have K := K _ rfl
    refine r_getr' (pc := 324) (T := TX26) 26 0 rfl hk21 (Or.inr (Or.inl ⟨_, q2142⟩)) dX24_hashed_324 kc26 g26000 ?_
    refine r_iload (pc := 327) dX24_hashed_327 rfl ?_
    refine r_bipush (pc := 329) (x := 8) dX24_hashed_329 rfl ?_
    refine r_iadd (pc := 331) dX24_hashed_331 ?_
    have hk25 := kd_ext eh19 hk20 (nz rfl)
    refine r_callV_I (pc := 332) (Y := mX24_script) (vs := [_, _]) (st := []) hk25 rfl kc24 q2456 q2458 qs85 dX24_hashed_332 rfl cd_X24_script rfl rfl fp_X24_hashed_X24_script K (fun x23 h24 eh24 wh24 K => ?_) (fun x h1 _ _ e => Tw.out rfl e)
    refine r_istore (pc := 335) (lv' := [_, _, _, _, _, _, _, _, _, _, _]) dX24_hashed_335 (by decide) rfl ?_
    refine r_iload (pc := 337) dX24_hashed_337 rfl ?_
    refine r_iconst (pc := 339) (x := 3) dX24_hashed_339 rfl ?_
    refine r_icmp_ne (pc := 340) (tgt := 366) dX24_hashed_340 rfl (fun c26 => ?_) (fun c26 => ?_)
    · have K := K.1 c26
      refine r_aload_n (pc := 366) dX24_hashed_366 rfl ?_
      refine r_aload_n (pc := 367) dX24_hashed_367 rfl ?_
      have hk27 := kd_ext eh24 hk21 (nz rfl)
      have hv28 := fr_self (key := 26000) hk21
      have hv29 := (fr_ext (key := 26000) eh24 hk21 (nz rfl) (ne0 wh24 hk27 (nz rfl)) (nm rfl)).trans hv28
      refine r_getr' (pc := 368) (T := TX26) 26 0 hv29 hk27 (Or.inr (Or.inl ⟨_, q2142⟩)) dX24_hashed_368 kc26 g26000 ?_
      refine r_iload (pc := 371) dX24_hashed_371 rfl ?_
      refine r_iload (pc := 373) dX24_hashed_373 rfl ?_
      refine r_iload (pc := 375) dX24_hashed_375 rfl ?_
      refine r_isub (pc := 377) dX24_hashed_377 ?_
      have hk32 := kd_ext eh24 hk25 (nz rfl)
      refine r_callV_V (pc := 378) (Y := mX24_lay) (vs := [_, _, _]) (st := []) hk32 rfl kc24 q2594 q2596 qs115 dX24_hashed_378 rfl cd_X24_lay rfl rfl fp_X24_hashed_X24_lay K (fun h31 eh31 wh31 K => ?_) (fun x h1 _ _ e => Tw.out rfl e)
      refine r_iinc (pc := 381) (lv' := [_, _, _, _, _, _, _, _, _, _, _]) dX24_hashed_381 rfl rfl (by decide) rfl ?_
      refine r_goto (pc := 384) (tgt := 305) dX24_hashed_384 rfl ?_
      refine r_mask (pc := 305) [true, true, true, true, true, true, false, true, true, false, false] rfl ?_
      exact K
    · have K := K.2 c26
      refine r_iload (pc := 343) dX24_hashed_343 rfl ?_
      refine r_iload_n (pc := 345) dX24_hashed_345 rfl ?_
      refine r_icmp_ge (pc := 346) (tgt := 366) dX24_hashed_346 rfl (fun c33 => ?_) (fun c33 => ?_)
      · have K := K.1 c33
        refine r_aload_n (pc := 366) dX24_hashed_366 rfl ?_
        refine r_aload_n (pc := 367) dX24_hashed_367 rfl ?_
        have hk34 := kd_ext eh24 hk21 (nz rfl)
        have hv35 := fr_self (key := 26000) hk21
        have hv36 := (fr_ext (key := 26000) eh24 hk21 (nz rfl) (ne0 wh24 hk34 (nz rfl)) (nm rfl)).trans hv35
        refine r_getr' (pc := 368) (T := TX26) 26 0 hv36 hk34 (Or.inr (Or.inl ⟨_, q2142⟩)) dX24_hashed_368 kc26 g26000 ?_
        refine r_iload (pc := 371) dX24_hashed_371 rfl ?_
        refine r_iload (pc := 373) dX24_hashed_373 rfl ?_
        refine r_iload (pc := 375) dX24_hashed_375 rfl ?_
        refine r_isub (pc := 377) dX24_hashed_377 ?_
        have hk39 := kd_ext eh24 hk25 (nz rfl)
        refine r_callV_V (pc := 378) (Y := mX24_lay) (vs := [_, _, _]) (st := []) hk39 rfl kc24 q2594 q2596 qs115 dX24_hashed_378 rfl cd_X24_lay rfl rfl fp_X24_hashed_X24_lay K (fun h38 eh38 wh38 K => ?_) (fun x h1 _ _ e => Tw.out rfl e)
        refine r_iinc (pc := 381) (lv' := [_, _, _, _, _, _, _, _, _, _, _]) dX24_hashed_381 rfl rfl (by decide) rfl ?_
        refine r_goto (pc := 384) (tgt := 305) dX24_hashed_384 rfl ?_
        refine r_mask (pc := 305) [true, true, true, true, true, true, false, true, true, false, false] rfl ?_
        exact K
      · have K := K.2 c33
        refine r_aload_n (pc := 349) dX24_hashed_349 rfl ?_
        refine r_ldc2 (pc := 350) dX24_hashed_350 q2606 ?_
        refine r_bipush (pc := 353) (x := 8) dX24_hashed_353 rfl ?_
        have hk42 := kd_ext eh24 hk25 (nz rfl)
        refine r_callV_V (pc := 355) (Y := mX24_lay_2) (vs := [_, _]) (st := []) hk42 rfl kc24 q2602 q2604 qs117 dX24_hashed_355 rfl cd_X24_lay_2 rfl rfl fp_X24_hashed_X24_lay_2 K (fun h41 eh41 wh41 K => ?_) (fun x h1 _ _ e => Tw.out rfl e)
        refine r_aload_n (pc := 358) dX24_hashed_358 rfl ?_
        refine r_lconst (pc := 359) (a := 0) dX24_hashed_359 rfl ?_
        have hk45 := kd_ext eh41 hk42 (nz rfl)
        refine r_callV_V (pc := 360) (Y := mX24_layCount) (vs := [_]) (st := []) hk45 rfl kc24 q2598 q2600 qs116 dX24_hashed_360 rfl cd_X24_layCount rfl rfl fp_X24_hashed_X24_layCount K (fun h44 eh44 wh44 K => ?_) (fun x h1 _ _ e => Tw.out rfl e)
        refine r_goto (pc := 363) (tgt := 381) dX24_hashed_363 rfl ?_
        refine r_iinc (pc := 381) (lv' := [_, _, _, _, _, _, _, _, _, _, _]) dX24_hashed_381 rfl rfl (by decide) rfl ?_
        refine r_goto (pc := 384) (tgt := 305) dX24_hashed_384 rfl ?_
        refine r_mask (pc := 305) [true, true, true, true, true, true, false, true, true, false, false] rfl ?_
        exact K
theorem dX24_shortest_0 : decode cX24_shortest 0 = .ok (.aload_n 0, 1) := by decide +kernel
theorem dX24_shortest_1 : decode cX24_shortest 1 = .ok (.iload_n 1, 1) := by decide +kernel
theorem dX24_shortest_2 : decode cX24_shortest 2 = .ok (.baload, 1) := by decide +kernel
theorem dX24_shortest_3 : decode cX24_shortest 3 = .ok (.ifCond .lt 26, 3) := by decide +kernel
theorem dX24_shortest_6 : decode cX24_shortest 6 = .ok (.iload_n 2, 1) := by decide +kernel
theorem dX24_shortest_7 : decode cX24_shortest 7 = .ok (.iconst 1, 1) := by decide +kernel
theorem dX24_shortest_8 : decode cX24_shortest 8 = .ok (.if_icmp .eq 17, 3) := by decide +kernel
theorem dX24_shortest_11 : decode cX24_shortest 11 = .ok (.aload_n 0, 1) := by decide +kernel
theorem dX24_shortest_12 : decode cX24_shortest 12 = .ok (.iload_n 1, 1) := by decide +kernel
theorem dX24_shortest_13 : decode cX24_shortest 13 = .ok (.baload, 1) := by decide +kernel
theorem dX24_shortest_14 : decode cX24_shortest 14 = .ok (.ifCond .ne 11, 3) := by decide +kernel
theorem dX24_shortest_17 : decode cX24_shortest 17 = .ok (.aload_n 0, 1) := by decide +kernel
theorem dX24_shortest_18 : decode cX24_shortest 18 = .ok (.iload_n 1, 1) := by decide +kernel
theorem dX24_shortest_19 : decode cX24_shortest 19 = .ok (.iconst 1, 1) := by decide +kernel
theorem dX24_shortest_20 : decode cX24_shortest 20 = .ok (.iadd, 1) := by decide +kernel
theorem dX24_shortest_21 : decode cX24_shortest 21 = .ok (.baload, 1) := by decide +kernel
theorem dX24_shortest_22 : decode cX24_shortest 22 = .ok (.ifCond .ge 7, 3) := by decide +kernel
theorem dX24_shortest_25 : decode cX24_shortest 25 = .ok (.iconst 1, 1) := by decide +kernel
theorem dX24_shortest_26 : decode cX24_shortest 26 = .ok (.goto 4, 3) := by decide +kernel
theorem dX24_shortest_29 : decode cX24_shortest 29 = .ok (.iconst 0, 1) := by decide +kernel
theorem dX24_shortest_30 : decode cX24_shortest 30 = .ok (.ireturn, 1) := by decide +kernel
/-! CoinJudgeModel.shortest([BII)Z -/
set_option maxHeartbeats 4000000 in
theorem sX24_shortest_0 {G : Gx} {d t : Nat} {h0 : AH} {Φ : Out → AH → Prop} (h : AH) (v0 : Nat) (v1 : Int32) (v2 : Int32) (K : h.kd v0 = 101 ∧ vp_in v1 (h.ai v0).length ∧ ((((h.ai v0).getD (v1.toNatClampNeg) 0) < 0 → Φ (.inl (some (vI 0))) h) ∧ (¬ ((h.ai v0).getD (v1.toNatClampNeg) 0) < 0 → ((v2 = 1 → Φ (.inl (some (vI 1))) h) ∧ (¬ v2 = 1 → vp_in v1 (h.ai v0).length ∧ ((¬ ((h.ai v0).getD (v1.toNatClampNeg) 0) = 0 → Φ (.inl (some (vI 1))) h) ∧ (((h.ai v0).getD (v1.toNatClampNeg) 0) = 0 → vp_in (v1 + 1) (h.ai v0).length ∧ ((0 ≤ ((h.ai v0).getD ((v1 + 1).toNatClampNeg) 0) → Φ (.inl (some (vI 0))) h) ∧ (¬ 0 ≤ ((h.ai v0).getD ((v1 + 1).toNatClampNeg) 0) → Φ (.inl (some (vI 1))) h))))))))) : Aw G mX24_shortest (d + 1) t h0 Φ 0 [vR v0, vI v1, vI v2] [] h := by
  refine r_aload_n (pc := 0) dX24_shortest_0 rfl ?_
  refine r_iload_n (pc := 1) dX24_shortest_1 rfl ?_
  obtain ⟨hk1, K⟩ := K
  obtain ⟨hi2, K⟩ := K
  refine r_baload (pc := 2) hk1 hi2 dX24_shortest_2 ?_
  refine r_if_lt (pc := 3) (tgt := 29) dX24_shortest_3 rfl (fun c3 => ?_) (fun c3 => ?_)
  · have K := K.1 c3
    refine r_iconst (pc := 29) (x := 0) dX24_shortest_29 rfl ?_
    exact r_iret (pc := 30) rfl rfl dX24_shortest_30 K
  · have K := K.2 c3
    refine r_iload_n (pc := 6) dX24_shortest_6 rfl ?_
    refine r_iconst (pc := 7) (x := 1) dX24_shortest_7 rfl ?_
    refine r_icmp_eq (pc := 8) (tgt := 25) dX24_shortest_8 rfl (fun c4 => ?_) (fun c4 => ?_)
    · have K := K.1 c4
      refine r_iconst (pc := 25) (x := 1) dX24_shortest_25 rfl ?_
      refine r_goto (pc := 26) (tgt := 30) dX24_shortest_26 rfl ?_
      exact r_iret (pc := 30) rfl rfl dX24_shortest_30 K
    · have K := K.2 c4
      refine r_aload_n (pc := 11) dX24_shortest_11 rfl ?_
      refine r_iload_n (pc := 12) dX24_shortest_12 rfl ?_
      obtain ⟨hi5, K⟩ := K
      refine r_baload (pc := 13) hk1 hi5 dX24_shortest_13 ?_
      refine r_if_ne (pc := 14) (tgt := 25) dX24_shortest_14 rfl (fun c6 => ?_) (fun c6 => ?_)
      · have K := K.1 c6
        refine r_iconst (pc := 25) (x := 1) dX24_shortest_25 rfl ?_
        refine r_goto (pc := 26) (tgt := 30) dX24_shortest_26 rfl ?_
        exact r_iret (pc := 30) rfl rfl dX24_shortest_30 K
      · have K := K.2 c6
        refine r_aload_n (pc := 17) dX24_shortest_17 rfl ?_
        refine r_iload_n (pc := 18) dX24_shortest_18 rfl ?_
        refine r_iconst (pc := 19) (x := 1) dX24_shortest_19 rfl ?_
        refine r_iadd (pc := 20) dX24_shortest_20 ?_
        obtain ⟨hi7, K⟩ := K
        refine r_baload (pc := 21) hk1 hi7 dX24_shortest_21 ?_
        refine r_if_ge (pc := 22) (tgt := 29) dX24_shortest_22 rfl (fun c8 => ?_) (fun c8 => ?_)
        · have K := K.1 c8
          refine r_iconst (pc := 29) (x := 0) dX24_shortest_29 rfl ?_
          exact r_iret (pc := 30) rfl rfl dX24_shortest_30 K
        · have K := K.2 c8
          refine r_iconst (pc := 25) (x := 1) dX24_shortest_25 rfl ?_
          refine r_goto (pc := 26) (tgt := 30) dX24_shortest_26 rfl ?_
          exact r_iret (pc := 30) rfl rfl dX24_shortest_30 K
theorem eX24_shortest {G : Gx} {d : Nat} {Φ : Out → AH → Prop} (h : AH) (v0 : Nat) (v1 : Int32) (v2 : Int32) (K : WF G h → Aw G mX24_shortest (d + 1) 0 h Φ 0 [vR v0, vI v1, vI v2] [] h) : Cw G mX24_shortest (d + 1) 0 [vR v0, vI v1, vI v2] h Φ := Cw.of rfl K
theorem dX24_isDer_0 : decode cX24_isDer 0 = .ok (.iload_n 2, 1) := by decide +kernel
theorem dX24_isDer_1 : decode cX24_isDer 1 = .ok (.bipush 9, 2) := by decide +kernel
theorem dX24_isDer_3 : decode cX24_isDer 3 = .ok (.if_icmp .lt 37, 3) := by decide +kernel
theorem dX24_isDer_6 : decode cX24_isDer 6 = .ok (.iload_n 2, 1) := by decide +kernel
theorem dX24_isDer_7 : decode cX24_isDer 7 = .ok (.bipush 73, 2) := by decide +kernel
theorem dX24_isDer_9 : decode cX24_isDer 9 = .ok (.if_icmp .gt 31, 3) := by decide +kernel
theorem dX24_isDer_12 : decode cX24_isDer 12 = .ok (.aload_n 1, 1) := by decide +kernel
theorem dX24_isDer_13 : decode cX24_isDer 13 = .ok (.iconst 0, 1) := by decide +kernel
theorem dX24_isDer_14 : decode cX24_isDer 14 = .ok (.baload, 1) := by decide +kernel
theorem dX24_isDer_15 : decode cX24_isDer 15 = .ok (.bipush 48, 2) := by decide +kernel
theorem dX24_isDer_17 : decode cX24_isDer 17 = .ok (.if_icmp .ne 23, 3) := by decide +kernel
theorem dX24_isDer_20 : decode cX24_isDer 20 = .ok (.aload_n 1, 1) := by decide +kernel
theorem dX24_isDer_21 : decode cX24_isDer 21 = .ok (.iconst 1, 1) := by decide +kernel
theorem dX24_isDer_22 : decode cX24_isDer 22 = .ok (.baload, 1) := by decide +kernel
theorem dX24_isDer_23 : decode cX24_isDer 23 = .ok (.sipush 255, 3) := by decide +kernel
theorem dX24_isDer_26 : decode cX24_isDer 26 = .ok (.iand, 1) := by decide +kernel
theorem dX24_isDer_27 : decode cX24_isDer 27 = .ok (.iload_n 2, 1) := by decide +kernel
theorem dX24_isDer_28 : decode cX24_isDer 28 = .ok (.iconst 3, 1) := by decide +kernel
theorem dX24_isDer_29 : decode cX24_isDer 29 = .ok (.isub, 1) := by decide +kernel
theorem dX24_isDer_30 : decode cX24_isDer 30 = .ok (.if_icmp .ne 10, 3) := by decide +kernel
theorem dX24_isDer_33 : decode cX24_isDer 33 = .ok (.aload_n 1, 1) := by decide +kernel
theorem dX24_isDer_34 : decode cX24_isDer 34 = .ok (.iconst 2, 1) := by decide +kernel
theorem dX24_isDer_35 : decode cX24_isDer 35 = .ok (.baload, 1) := by decide +kernel
theorem dX24_isDer_36 : decode cX24_isDer 36 = .ok (.iconst 2, 1) := by decide +kernel
theorem dX24_isDer_37 : decode cX24_isDer 37 = .ok (.if_icmp .eq 5, 3) := by decide +kernel
theorem dX24_isDer_40 : decode cX24_isDer 40 = .ok (.iconst 0, 1) := by decide +kernel
theorem dX24_isDer_41 : decode cX24_isDer 41 = .ok (.ireturn, 1) := by decide +kernel
theorem dX24_isDer_42 : decode cX24_isDer 42 = .ok (.aload_n 1, 1) := by decide +kernel
theorem dX24_isDer_43 : decode cX24_isDer 43 = .ok (.iconst 3, 1) := by decide +kernel
theorem dX24_isDer_44 : decode cX24_isDer 44 = .ok (.baload, 1) := by decide +kernel
theorem dX24_isDer_45 : decode cX24_isDer 45 = .ok (.sipush 255, 3) := by decide +kernel
theorem dX24_isDer_48 : decode cX24_isDer 48 = .ok (.iand, 1) := by decide +kernel
theorem dX24_isDer_49 : decode cX24_isDer 49 = .ok (.istore_n 3, 1) := by decide +kernel
theorem dX24_isDer_50 : decode cX24_isDer 50 = .ok (.iload_n 3, 1) := by decide +kernel
theorem dX24_isDer_51 : decode cX24_isDer 51 = .ok (.ifCond .eq 20, 3) := by decide +kernel
theorem dX24_isDer_54 : decode cX24_isDer 54 = .ok (.bipush 6, 2) := by decide +kernel
theorem dX24_isDer_56 : decode cX24_isDer 56 = .ok (.iload_n 3, 1) := by decide +kernel
theorem dX24_isDer_57 : decode cX24_isDer 57 = .ok (.iadd, 1) := by decide +kernel
theorem dX24_isDer_58 : decode cX24_isDer 58 = .ok (.iload_n 2, 1) := by decide +kernel
theorem dX24_isDer_59 : decode cX24_isDer 59 = .ok (.if_icmp .ge 12, 3) := by decide +kernel
theorem dX24_isDer_62 : decode cX24_isDer 62 = .ok (.aload_n 1, 1) := by decide +kernel
theorem dX24_isDer_63 : decode cX24_isDer 63 = .ok (.iconst 4, 1) := by decide +kernel
theorem dX24_isDer_64 : decode cX24_isDer 64 = .ok (.iload_n 3, 1) := by decide +kernel
theorem dX24_isDer_65 : decode cX24_isDer 65 = .ok (.iadd, 1) := by decide +kernel
theorem dX24_isDer_66 : decode cX24_isDer 66 = .ok (.baload, 1) := by decide +kernel
theorem dX24_isDer_67 : decode cX24_isDer 67 = .ok (.iconst 2, 1) := by decide +kernel
theorem dX24_isDer_68 : decode cX24_isDer 68 = .ok (.if_icmp .eq 5, 3) := by decide +kernel
theorem dX24_isDer_71 : decode cX24_isDer 71 = .ok (.iconst 0, 1) := by decide +kernel
theorem dX24_isDer_72 : decode cX24_isDer 72 = .ok (.ireturn, 1) := by decide +kernel
theorem dX24_isDer_73 : decode cX24_isDer 73 = .ok (.aload_n 1, 1) := by decide +kernel
theorem dX24_isDer_74 : decode cX24_isDer 74 = .ok (.iconst 5, 1) := by decide +kernel
theorem dX24_isDer_75 : decode cX24_isDer 75 = .ok (.iload_n 3, 1) := by decide +kernel
theorem dX24_isDer_76 : decode cX24_isDer 76 = .ok (.iadd, 1) := by decide +kernel
theorem dX24_isDer_77 : decode cX24_isDer 77 = .ok (.baload, 1) := by decide +kernel
theorem dX24_isDer_78 : decode cX24_isDer 78 = .ok (.sipush 255, 3) := by decide +kernel
theorem dX24_isDer_81 : decode cX24_isDer 81 = .ok (.iand, 1) := by decide +kernel
theorem dX24_isDer_82 : decode cX24_isDer 82 = .ok (.istore 4, 2) := by decide +kernel
theorem dX24_isDer_84 : decode cX24_isDer 84 = .ok (.iload 4, 2) := by decide +kernel
theorem dX24_isDer_86 : decode cX24_isDer 86 = .ok (.ifCond .eq 14, 3) := by decide +kernel
theorem dX24_isDer_89 : decode cX24_isDer 89 = .ok (.iload_n 3, 1) := by decide +kernel
theorem dX24_isDer_90 : decode cX24_isDer 90 = .ok (.iload 4, 2) := by decide +kernel
theorem dX24_isDer_92 : decode cX24_isDer 92 = .ok (.iadd, 1) := by decide +kernel
theorem dX24_isDer_93 : decode cX24_isDer 93 = .ok (.bipush 7, 2) := by decide +kernel
theorem dX24_isDer_95 : decode cX24_isDer 95 = .ok (.iadd, 1) := by decide +kernel
theorem dX24_isDer_96 : decode cX24_isDer 96 = .ok (.iload_n 2, 1) := by decide +kernel
theorem dX24_isDer_97 : decode cX24_isDer 97 = .ok (.if_icmp .eq 5, 3) := by decide +kernel
theorem dX24_isDer_100 : decode cX24_isDer 100 = .ok (.iconst 0, 1) := by decide +kernel
theorem dX24_isDer_101 : decode cX24_isDer 101 = .ok (.ireturn, 1) := by decide +kernel
theorem dX24_isDer_102 : decode cX24_isDer 102 = .ok (.aload_n 1, 1) := by decide +kernel
theorem dX24_isDer_103 : decode cX24_isDer 103 = .ok (.iconst 4, 1) := by decide +kernel
theorem dX24_isDer_104 : decode cX24_isDer 104 = .ok (.iload_n 3, 1) := by decide +kernel
theorem dX24_isDer_105 : decode cX24_isDer 105 = .ok (.invokestatic 195, 3) := by decide +kernel
theorem dX24_isDer_108 : decode cX24_isDer 108 = .ok (.ifCond .eq 20, 3) := by decide +kernel
theorem dX24_isDer_111 : decode cX24_isDer 111 = .ok (.aload_n 1, 1) := by decide +kernel
theorem dX24_isDer_112 : decode cX24_isDer 112 = .ok (.bipush 6, 2) := by decide +kernel
theorem dX24_isDer_114 : decode cX24_isDer 114 = .ok (.iload_n 3, 1) := by decide +kernel
theorem dX24_isDer_115 : decode cX24_isDer 115 = .ok (.iadd, 1) := by decide +kernel
theorem dX24_isDer_116 : decode cX24_isDer 116 = .ok (.iload 4, 2) := by decide +kernel
theorem dX24_isDer_118 : decode cX24_isDer 118 = .ok (.invokestatic 195, 3) := by decide +kernel
theorem dX24_isDer_121 : decode cX24_isDer 121 = .ok (.ifCond .eq 7, 3) := by decide +kernel
theorem dX24_isDer_124 : decode cX24_isDer 124 = .ok (.iconst 1, 1) := by decide +kernel
theorem dX24_isDer_125 : decode cX24_isDer 125 = .ok (.goto 4, 3) := by decide +kernel
theorem dX24_isDer_128 : decode cX24_isDer 128 = .ok (.iconst 0, 1) := by decide +kernel
theorem dX24_isDer_129 : decode cX24_isDer 129 = .ok (.ireturn, 1) := by decide +kernel
/-! CoinJudgeModel.isDer([BI)Z -/
set_option maxHeartbeats 4000000 in
theorem sX24_isDer_0 {G : Gx} {d t : Nat} {h0 : AH} {Φ : Out → AH → Prop} (h : AH) (v0 : Nat) (v1 : Nat) (v2 : Int32) (K : ((v2 < 9 → Φ (.inl (some (vI 0))) h) ∧ (¬ v2 < 9 → ((73 < v2 → Φ (.inl (some (vI 0))) h) ∧ (¬ 73 < v2 → h.kd v1 = 101 ∧ vp_in 0 (h.ai v1).length ∧ ((¬ ((h.ai v1).getD ((0 : Int32).toNatClampNeg) 0) = 48 → Φ (.inl (some (vI 0))) h) ∧ (((h.ai v1).getD ((0 : Int32).toNatClampNeg) 0) = 48 → vp_in 1 (h.ai v1).length ∧ ((¬ (((h.ai v1).getD ((1 : Int32).toNatClampNeg) 0) &&& 255) = (v2 - 3) → Φ (.inl (some (vI 0))) h) ∧ ((((h.ai v1).getD ((1 : Int32).toNatClampNeg) 0) &&& 255) = (v2 - 3) → vp_in 2 (h.ai v1).length ∧ ((((h.ai v1).getD ((2 : Int32).toNatClampNeg) 0) = 2 → vp_in 3 (h.ai v1).length ∧ ∀ u11 : Int32, u11 = (((h.ai v1).getD ((3 : Int32).toNatClampNeg) 0) &&& 255) → ((u11 = 0 → Φ (.inl (some (vI 0))) h) ∧ (¬ u11 = 0 → ((v2 ≤ (6 + u11) → Φ (.inl (some (vI 0))) h) ∧ (¬ v2 ≤ (6 + u11) → vp_in (4 + u11) (h.ai v1).length ∧ ((((h.ai v1).getD ((4 + u11).toNatClampNeg) 0) = 2 → vp_in (5 + u11) (h.ai v1).length ∧ ∀ u17 : Int32, u17 = (((h.ai v1).getD ((5 + u11).toNatClampNeg) 0) &&& 255) → ((u17 = 0 → Φ (.inl (some (vI 0))) h) ∧ (¬ u17 = 0 → ((((u11 + u17) + 7) = v2 → Cw G mX24_shortest d 0 [vR v1, vI 4, vI u11] h (kI (fun x20 h21 => ((x20 = 0 → Φ (.inl (some (vI 0))) h21) ∧ (¬ x20 = 0 → Cw G mX24_shortest d 0 [vR v1, vI (6 + u11), vI u17] h21 (kI (fun x23 h24 => ((x23 = 0 → Φ (.inl (some (vI 0))) h24) ∧ (¬ x23 = 0 → Φ (.inl (some (vI 1))) h24))) (fun x h => Φ (.inr x) h))))) (fun x h => Φ (.inr x) h))) ∧ (¬ ((u11 + u17) + 7) = v2 → Φ (.inl (some (vI 0))) h))))) ∧ (¬ ((h.ai v1).getD ((4 + u11).toNatClampNeg) 0) = 2 → Φ (.inl (some (vI 0))) h))))))) ∧ (¬ ((h.ai v1).getD ((2 : Int32).toNatClampNeg) 0) = 2 → Φ (.inl (some (vI 0))) h))))))))))) : Aw G mX24_isDer (d + 1) t h0 Φ 0 [vR v0, vR v1, vI v2, vU, vU] [] h := by
  refine r_iload_n (pc := 0) dX24_isDer_0 rfl ?_
  refine r_bipush (pc := 1) (x := 9) dX24_isDer_1 rfl ?_
  refine r_icmp_lt (pc := 3) (tgt := 40) dX24_isDer_3 rfl (fun c1 => ?_) (fun c1 => ?_)
  · have K := K.1 c1
    refine r_iconst (pc := 40) (x := 0) dX24_isDer_40 rfl ?_
    exact r_iret (pc := 41) rfl rfl dX24_isDer_41 K
  · have K := K.2 c1
    refine r_iload_n (pc := 6) dX24_isDer_6 rfl ?_
    refine r_bipush (pc := 7) (x := 73) dX24_isDer_7 rfl ?_
    refine r_icmp_gt (pc := 9) (tgt := 40) dX24_isDer_9 rfl (fun c2 => ?_) (fun c2 => ?_)
    · have K := K.1 c2
      refine r_iconst (pc := 40) (x := 0) dX24_isDer_40 rfl ?_
      exact r_iret (pc := 41) rfl rfl dX24_isDer_41 K
    · have K := K.2 c2
      refine r_aload_n (pc := 12) dX24_isDer_12 rfl ?_
      refine r_iconst (pc := 13) (x := 0) dX24_isDer_13 rfl ?_
      obtain ⟨hk3, K⟩ := K
      obtain ⟨hi4, K⟩ := K
      refine r_baload (pc := 14) hk3 hi4 dX24_isDer_14 ?_
      refine r_bipush (pc := 15) (x := 48) dX24_isDer_15 rfl ?_
      refine r_icmp_ne (pc := 17) (tgt := 40) dX24_isDer_17 rfl (fun c5 => ?_) (fun c5 => ?_)
      · have K := K.1 c5
        refine r_iconst (pc := 40) (x := 0) dX24_isDer_40 rfl ?_
        exact r_iret (pc := 41) rfl rfl dX24_isDer_41 K
      · have K := K.2 c5
        refine r_aload_n (pc := 20) dX24_isDer_20 rfl ?_
        refine r_iconst (pc := 21) (x := 1) dX24_isDer_21 rfl ?_
        obtain ⟨hi6, K⟩ := K
        refine r_baload (pc := 22) hk3 hi6 dX24_isDer_22 ?_
        refine r_sipush (pc := 23) (x := 255) dX24_isDer_23 rfl ?_
        refine r_iand (pc := 26) dX24_isDer_26 ?_
        refine r_iload_n (pc := 27) dX24_isDer_27 rfl ?_
        refine r_iconst (pc := 28) (x := 3) dX24_isDer_28 rfl ?_
        refine r_isub (pc := 29) dX24_isDer_29 ?_
        refine r_icmp_ne (pc := 30) (tgt := 40) dX24_isDer_30 rfl (fun c7 => ?_) (fun c7 => ?_)
        · have K := K.1 c7
          refine r_iconst (pc := 40) (x := 0) dX24_isDer_40 rfl ?_
          exact r_iret (pc := 41) rfl rfl dX24_isDer_41 K
        · have K := K.2 c7
          refine r_aload_n (pc := 33) dX24_isDer_33 rfl ?_
          refine r_iconst (pc := 34) (x := 2) dX24_isDer_34 rfl ?_
          obtain ⟨hi8, K⟩ := K
          refine r_baload (pc := 35) hk3 hi8 dX24_isDer_35 ?_
          refine r_iconst (pc := 36) (x := 2) dX24_isDer_36 rfl ?_
          refine r_icmp_eq (pc := 37) (tgt := 42) dX24_isDer_37 rfl (fun c9 => ?_) (fun c9 => ?_)
          · have K := K.1 c9
            refine r_aload_n (pc := 42) dX24_isDer_42 rfl ?_
            refine r_iconst (pc := 43) (x := 3) dX24_isDer_43 rfl ?_
            obtain ⟨hi10, K⟩ := K
            refine r_baload (pc := 44) hk3 hi10 dX24_isDer_44 ?_
            refine r_sipush (pc := 45) (x := 255) dX24_isDer_45 rfl ?_
            refine r_iand (pc := 48) dX24_isDer_48 ?_
            have K := K _ rfl
            refine r_istore_n (pc := 49) (lv' := [_, _, _, _, _]) dX24_isDer_49 (by decide) rfl ?_
            refine r_iload_n (pc := 50) dX24_isDer_50 rfl ?_
            refine r_if_eq (pc := 51) (tgt := 71) dX24_isDer_51 rfl (fun c12 => ?_) (fun c12 => ?_)
            · have K := K.1 c12
              refine r_iconst (pc := 71) (x := 0) dX24_isDer_71 rfl ?_
              exact r_iret (pc := 72) rfl rfl dX24_isDer_72 K
            · have K := K.2 c12
              refine r_bipush (pc := 54) (x := 6) dX24_isDer_54 rfl ?_
              refine r_iload_n (pc := 56) dX24_isDer_56 rfl ?_
              refine r_iadd (pc := 57) dX24_isDer_57 ?_
              refine r_iload_n (pc := 58) dX24_isDer_58 rfl ?_
              refine r_icmp_ge (pc := 59) (tgt := 71) dX24_isDer_59 rfl (fun c13 => ?_) (fun c13 => ?_)
              · have K := K.1 c13
                refine r_iconst (pc := 71) (x := 0) dX24_isDer_71 rfl ?_
                exact r_iret (pc := 72) rfl rfl dX24_isDer_72 K
              · have K := K.2 c13
                refine r_aload_n (pc := 62) dX24_isDer_62 rfl ?_
                refine r_iconst (pc := 63) (x := 4) dX24_isDer_63 rfl ?_
                refine r_iload_n (pc := 64) dX24_isDer_64 rfl ?_
                refine r_iadd (pc := 65) dX24_isDer_65 ?_
                obtain ⟨hi14, K⟩ := K
                refine r_baload (pc := 66) hk3 hi14 dX24_isDer_66 ?_
                refine r_iconst (pc := 67) (x := 2) dX24_isDer_67 rfl ?_
                refine r_icmp_eq (pc := 68) (tgt := 73) dX24_isDer_68 rfl (fun c15 => ?_) (fun c15 => ?_)
                · have K := K.1 c15
                  refine r_aload_n (pc := 73) dX24_isDer_73 rfl ?_
                  refine r_iconst (pc := 74) (x := 5) dX24_isDer_74 rfl ?_
                  refine r_iload_n (pc := 75) dX24_isDer_75 rfl ?_
                  refine r_iadd (pc := 76) dX24_isDer_76 ?_
                  obtain ⟨hi16, K⟩ := K
                  refine r_baload (pc := 77) hk3 hi16 dX24_isDer_77 ?_
                  refine r_sipush (pc := 78) (x := 255) dX24_isDer_78 rfl ?_
                  refine r_iand (pc := 81) dX24_isDer_81 ?_
                  have K := K _ rfl
                  refine r_istore (pc := 82) (lv' := [_, _, _, _, _]) dX24_isDer_82 (by decide) rfl ?_
                  refine r_iload (pc := 84) dX24_isDer_84 rfl ?_
                  refine r_if_eq (pc := 86) (tgt := 100) dX24_isDer_86 rfl (fun c18 => ?_) (fun c18 => ?_)
                  · have K := K.1 c18
                    refine r_iconst (pc := 100) (x := 0) dX24_isDer_100 rfl ?_
                    exact r_iret (pc := 101) rfl rfl dX24_isDer_101 K
                  · have K := K.2 c18
                    refine r_iload_n (pc := 89) dX24_isDer_89 rfl ?_
                    refine r_iload (pc := 90) dX24_isDer_90 rfl ?_
                    refine r_iadd (pc := 92) dX24_isDer_92 ?_
                    refine r_bipush (pc := 93) (x := 7) dX24_isDer_93 rfl ?_
                    refine r_iadd (pc := 95) dX24_isDer_95 ?_
                    refine r_iload_n (pc := 96) dX24_isDer_96 rfl ?_
                    refine r_icmp_eq (pc := 97) (tgt := 102) dX24_isDer_97 rfl (fun c19 => ?_) (fun c19 => ?_)
                    · have K := K.1 c19
                      refine r_aload_n (pc := 102) dX24_isDer_102 rfl ?_
                      refine r_iconst (pc := 103) (x := 4) dX24_isDer_103 rfl ?_
                      refine r_iload_n (pc := 104) dX24_isDer_104 rfl ?_
                      refine r_callS_I (pc := 105) (Y := mX24_shortest) (vs := [_, _, _]) (st := []) q2583 q2584 q192 dX24_isDer_105 rfl cd_X24_shortest rfl rfl fp_X24_isDer_X24_shortest K (fun x20 h21 eh21 wh21 K => ?_) (fun x h1 _ _ e => Tw.out rfl e)
                      refine r_if_eq (pc := 108) (tgt := 128) dX24_isDer_108 rfl (fun c22 => ?_) (fun c22 => ?_)
                      · have K := K.1 c22
                        refine r_iconst (pc := 128) (x := 0) dX24_isDer_128 rfl ?_
                        exact r_iret (pc := 129) rfl rfl dX24_isDer_129 K
                      · have K := K.2 c22
                        refine r_aload_n (pc := 111) dX24_isDer_111 rfl ?_
                        refine r_bipush (pc := 112) (x := 6) dX24_isDer_112 rfl ?_
                        refine r_iload_n (pc := 114) dX24_isDer_114 rfl ?_
                        refine r_iadd (pc := 115) dX24_isDer_115 ?_
                        refine r_iload (pc := 116) dX24_isDer_116 rfl ?_
                        refine r_callS_I (pc := 118) (Y := mX24_shortest) (vs := [_, _, _]) (st := []) q2583 q2584 q192 dX24_isDer_118 rfl cd_X24_shortest rfl rfl fp_X24_isDer_X24_shortest K (fun x23 h24 eh24 wh24 K => ?_) (fun x h1 _ _ e => Tw.out rfl e)
                        refine r_if_eq (pc := 121) (tgt := 128) dX24_isDer_121 rfl (fun c25 => ?_) (fun c25 => ?_)
                        · have K := K.1 c25
                          refine r_iconst (pc := 128) (x := 0) dX24_isDer_128 rfl ?_
                          exact r_iret (pc := 129) rfl rfl dX24_isDer_129 K
                        · have K := K.2 c25
                          refine r_iconst (pc := 124) (x := 1) dX24_isDer_124 rfl ?_
                          refine r_goto (pc := 125) (tgt := 129) dX24_isDer_125 rfl ?_
                          exact r_iret (pc := 129) rfl rfl dX24_isDer_129 K
                    · have K := K.2 c19
                      refine r_iconst (pc := 100) (x := 0) dX24_isDer_100 rfl ?_
                      exact r_iret (pc := 101) rfl rfl dX24_isDer_101 K
                · have K := K.2 c15
                  refine r_iconst (pc := 71) (x := 0) dX24_isDer_71 rfl ?_
                  exact r_iret (pc := 72) rfl rfl dX24_isDer_72 K
          · have K := K.2 c9
            refine r_iconst (pc := 40) (x := 0) dX24_isDer_40 rfl ?_
            exact r_iret (pc := 41) rfl rfl dX24_isDer_41 K
theorem eX24_isDer {G : Gx} {d : Nat} {Φ : Out → AH → Prop} (h : AH) (v0 : Nat) (v1 : Nat) (v2 : Int32) (K : WF G h → Aw G mX24_isDer (d + 1) 0 h Φ 0 [vR v0, vR v1, vI v2, vU, vU] [] h) : Cw G mX24_isDer (d + 1) 0 [vR v0, vR v1, vI v2] h Φ := Cw.of rfl K
theorem dX24_flat_0 : decode cX24_flat 0 = .ok (.aload_n 0, 1) := by decide +kernel
theorem dX24_flat_1 : decode cX24_flat 1 = .ok (.getfield 101, 3) := by decide +kernel
theorem dX24_flat_4 : decode cX24_flat 4 = .ok (.aload_n 1, 1) := by decide +kernel
theorem dX24_flat_5 : decode cX24_flat 5 = .ok (.getfield 90, 3) := by decide +kernel
theorem dX24_flat_8 : decode cX24_flat 8 = .ok (.bipush (-2), 2) := by decide +kernel
theorem dX24_flat_10 : decode cX24_flat 10 = .ok (.iconst 0, 1) := by decide +kernel
theorem dX24_flat_11 : decode cX24_flat 11 = .ok (.aload_n 0, 1) := by decide +kernel
theorem dX24_flat_12 : decode cX24_flat 12 = .ok (.getfield 108, 3) := by decide +kernel
theorem dX24_flat_15 : decode cX24_flat 15 = .ok (.invokevirtual 147, 3) := by decide +kernel
theorem dX24_flat_18 : decode cX24_flat 18 = .ok (.aload_n 0, 1) := by decide +kernel
theorem dX24_flat_19 : decode cX24_flat 19 = .ok (.getfield 101, 3) := by decide +kernel
theorem dX24_flat_22 : decode cX24_flat 22 = .ok (.aload_n 0, 1) := by decide +kernel
theorem dX24_flat_23 : decode cX24_flat 23 = .ok (.getfield 108, 3) := by decide +kernel
theorem dX24_flat_26 : decode cX24_flat 26 = .ok (.aload_n 0, 1) := by decide +kernel
theorem dX24_flat_27 : decode cX24_flat 27 = .ok (.getfield 108, 3) := by decide +kernel
theorem dX24_flat_30 : decode cX24_flat 30 = .ok (.aload_n 0, 1) := by decide +kernel
theorem dX24_flat_31 : decode cX24_flat 31 = .ok (.getfield 118, 3) := by decide +kernel
theorem dX24_flat_34 : decode cX24_flat 34 = .ok (.invokevirtual 111, 3) := by decide +kernel
theorem dX24_flat_37 : decode cX24_flat 37 = .ok (.aload_n 0, 1) := by decide +kernel
theorem dX24_flat_38 : decode cX24_flat 38 = .ok (.getfield 101, 3) := by decide +kernel
theorem dX24_flat_41 : decode cX24_flat 41 = .ok (.aload_n 1, 1) := by decide +kernel
theorem dX24_flat_42 : decode cX24_flat 42 = .ok (.getfield 115, 3) := by decide +kernel
theorem dX24_flat_45 : decode cX24_flat 45 = .ok (.aload_n 0, 1) := by decide +kernel
theorem dX24_flat_46 : decode cX24_flat 46 = .ok (.getfield 118, 3) := by decide +kernel
theorem dX24_flat_49 : decode cX24_flat 49 = .ok (.aload_n 2, 1) := by decide +kernel
theorem dX24_flat_50 : decode cX24_flat 50 = .ok (.invokevirtual 111, 3) := by decide +kernel
theorem dX24_flat_53 : decode cX24_flat 53 = .ok (.aload_n 0, 1) := by decide +kernel
theorem dX24_flat_54 : decode cX24_flat 54 = .ok (.getfield 101, 3) := by decide +kernel
theorem dX24_flat_57 : decode cX24_flat 57 = .ok (.aload_n 0, 1) := by decide +kernel
theorem dX24_flat_58 : decode cX24_flat 58 = .ok (.getfield 118, 3) := by decide +kernel
theorem dX24_flat_61 : decode cX24_flat 61 = .ok (.aload_n 0, 1) := by decide +kernel
theorem dX24_flat_62 : decode cX24_flat 62 = .ok (.getfield 108, 3) := by decide +kernel
theorem dX24_flat_65 : decode cX24_flat 65 = .ok (.aload_n 0, 1) := by decide +kernel
theorem dX24_flat_66 : decode cX24_flat 66 = .ok (.getfield 118, 3) := by decide +kernel
theorem dX24_flat_69 : decode cX24_flat 69 = .ok (.invokevirtual 111, 3) := by decide +kernel
theorem dX24_flat_72 : decode cX24_flat 72 = .ok (.aload_n 0, 1) := by decide +kernel
theorem dX24_flat_73 : decode cX24_flat 73 = .ok (.getfield 101, 3) := by decide +kernel
theorem dX24_flat_76 : decode cX24_flat 76 = .ok (.aload_n 1, 1) := by decide +kernel
theorem dX24_flat_77 : decode cX24_flat 77 = .ok (.getfield 105, 3) := by decide +kernel
theorem dX24_flat_80 : decode cX24_flat 80 = .ok (.aload_n 0, 1) := by decide +kernel
theorem dX24_flat_81 : decode cX24_flat 81 = .ok (.getfield 118, 3) := by decide +kernel
theorem dX24_flat_84 : decode cX24_flat 84 = .ok (.aload_n 3, 1) := by decide +kernel
theorem dX24_flat_85 : decode cX24_flat 85 = .ok (.invokevirtual 111, 3) := by decide +kernel
theorem dX24_flat_88 : decode cX24_flat 88 = .ok (.aload_n 0, 1) := by decide +kernel
theorem dX24_flat_89 : decode cX24_flat 89 = .ok (.getfield 101, 3) := by decide +kernel
theorem dX24_flat_92 : decode cX24_flat 92 = .ok (.aload_n 2, 1) := by decide +kernel
theorem dX24_flat_93 : decode cX24_flat 93 = .ok (.aload_n 2, 1) := by decide +kernel
theorem dX24_flat_94 : decode cX24_flat 94 = .ok (.invokevirtual 151, 3) := by decide +kernel
theorem dX24_flat_97 : decode cX24_flat 97 = .ok (.aload_n 0, 1) := by decide +kernel
theorem dX24_flat_98 : decode cX24_flat 98 = .ok (.getfield 101, 3) := by decide +kernel
theorem dX24_flat_101 : decode cX24_flat 101 = .ok (.aload_n 3, 1) := by decide +kernel
theorem dX24_flat_102 : decode cX24_flat 102 = .ok (.aload_n 3, 1) := by decide +kernel
theorem dX24_flat_103 : decode cX24_flat 103 = .ok (.invokevirtual 151, 3) := by decide +kernel
theorem dX24_flat_106 : decode cX24_flat 106 = .ok (.return_, 1) := by decide +kernel
/-! CoinJudgeModel.flat(LCoinJudgeModel$Point;[I[I)V -/
set_option maxHeartbeats 4000000 in
theorem sX24_flat_0 {G : Gx} {d t : Nat} {h0 : AH} {Φ : Out → AH → Prop} (h : AH) (v0 : Nat) (v1 : Nat) (v2 : Nat) (v3 : Nat) (K : h.kd v0 = 24 ∧ ∀ r2 : Nat, r2 = (h.r 24015 v0) → h.kd v1 = 25 ∧ ∀ r4 : Nat, r4 = (h.r 25002 v1) → ∀ r5 : Nat, r5 = (h.r 24022 v0) → h.kd r2 = 27 ∧ Cw G mX27_power d 0 [vR r2, vR r4, vI (-2), vI 0, vR r5] h (kV (fun h7 => ∀ r14 : Nat, r14 = (h7.r 24023 v0) → Cw G mX27_multiply d 0 [vR r2, vR r5, vR r5, vR r14] h7 (kV (fun h16 => ∀ r22 : Nat, r22 = (h16.r 25000 v1) → Cw G mX27_multiply d 0 [vR r2, vR r22, vR r14, vR v2] h16 (kV (fun h26 => Cw G mX27_multiply d 0 [vR r2, vR r14, vR r5, vR r14] h26 (kV (fun h34 => ∀ r40 : Nat, r40 = (h34.r 25001 v1) → Cw G mX27_multiply d 0 [vR r2, vR r40, vR r14, vR v3] h34 (kV (fun h43 => Cw G mX27_leave d 0 [vR r2, vR v2, vR v2] h43 (kV (fun h48 => Cw G mX27_leave d 0 [vR r2, vR v3, vR v3] h48 (kV (fun h53 => Φ (.inl none) h53) (fun x h => Φ (.inr x) h))) (fun x h => Φ (.inr x) h))) (fun x h => Φ (.inr x) h))) (fun x h => Φ (.inr x) h))) (fun x h => Φ (.inr x) h))) (fun x h => Φ (.inr x) h))) (fun x h => Φ (.inr x) h))) : Aw G mX24_flat (d + 1) t h0 Φ 0 [vR v0, vR v1, vR v2, vR v3] [] h := by
  refine r_aload_n (pc := 0) dX24_flat_0 rfl ?_
  obtain ⟨hk1, K⟩ := K
  have K := K _ rfl
  refine r_getr' (pc := 1) (T := TX24) 24 15 rfl hk1 (Or.inl q2713) dX24_flat_1 kc24 g24015 ?_
  refine r_aload_n (pc := 4) dX24_flat_4 rfl ?_
  obtain ⟨hk3, K⟩ := K
  have K := K _ rfl
  refine r_getr' (pc := 5) (T := TX25) 25 2 rfl hk3 (Or.inr (Or.inl ⟨_, q2126⟩)) dX24_flat_5 kc25 g25002 ?_
  refine r_bipush (pc := 8) (x := (-2)) dX24_flat_8 rfl ?_
  refine r_iconst (pc := 10) (x := 0) dX24_flat_10 rfl ?_
  refine r_aload_n (pc := 11) dX24_flat_11 rfl ?_
  have K := K _ rfl
  refine r_getr' (pc := 12) (T := TX24) 24 22 rfl hk1 (Or.inl q2720) dX24_flat_12 kc24 g24022 ?_
  obtain ⟨hk8, K⟩ := K
  refine r_callV_V (pc := 15) (Y := mX27_power) (vs := [_, _, _, _]) (st := []) hk8 rfl kc27 q2620 q2621 q2622 dX24_flat_15 rfl cd_X27_power rfl rfl fp_X24_flat_X27_power K (fun h7 eh7 wh7 K => ?_) (fun x h1 _ _ e => Tw.out rfl e)
  refine r_aload_n (pc := 18) dX24_flat_18 rfl ?_
  have hk9 := kd_ext eh7 hk1 (nz rfl)
  have hv10 := fr_self (key := 24015) hk1
  have hv11 := (fr_ext (key := 24015) eh7 hk1 (nz rfl) (ne0 wh7 hk9 (nz rfl)) (nm rfl)).trans hv10
  refine r_getr' (pc := 19) (T := TX24) 24 15 hv11 hk9 (Or.inl q2713) dX24_flat_19 kc24 g24015 ?_
  refine r_aload_n (pc := 22) dX24_flat_22 rfl ?_
  have hv12 := fr_self (key := 24022) hk1
  have hv13 := (fr_ext (key := 24022) eh7 hk1 (nz rfl) (ne0 wh7 hk9 (nz rfl)) (nm rfl)).trans hv12
  refine r_getr' (pc := 23) (T := TX24) 24 22 hv13 hk9 (Or.inl q2720) dX24_flat_23 kc24 g24022 ?_
  refine r_aload_n (pc := 26) dX24_flat_26 rfl ?_
  refine r_getr' (pc := 27) (T := TX24) 24 22 hv13 hk9 (Or.inl q2720) dX24_flat_27 kc24 g24022 ?_
  refine r_aload_n (pc := 30) dX24_flat_30 rfl ?_
  have K := K _ rfl
  refine r_getr' (pc := 31) (T := TX24) 24 23 rfl hk9 (Or.inl q2721) dX24_flat_31 kc24 g24023 ?_
  have hk17 := kd_ext eh7 hk8 (nz rfl)
  refine r_callV_V (pc := 34) (Y := mX27_multiply) (vs := [_, _, _]) (st := []) hk17 rfl kc27 q2615 q2252 q2253 dX24_flat_34 rfl cd_X27_multiply rfl rfl fp_X24_flat_X27_multiply K (fun h16 eh16 wh16 K => ?_) (fun x h1 _ _ e => Tw.out rfl e)
  refine r_aload_n (pc := 37) dX24_flat_37 rfl ?_
  have hk18 := kd_ext eh16 hk9 (nz rfl)
  have hv19 := (fr_ext (key := 24015) eh16 hk9 (nz rfl) (ne0 wh16 hk18 (nz rfl)) (nm rfl)).trans hv11
  refine r_getr' (pc := 38) (T := TX24) 24 15 hv19 hk18 (Or.inl q2713) dX24_flat_38 kc24 g24015 ?_
  refine r_aload_n (pc := 41) dX24_flat_41 rfl ?_
  have hk20 := kd_ext eh7 hk3 (nz rfl)
  have hk21 := kd_ext eh16 hk20 (nz rfl)
  have K := K _ rfl
  refine r_getr' (pc := 42) (T := TX25) 25 0 rfl hk21 (Or.inr (Or.inl ⟨_, q2122⟩)) dX24_flat_42 kc25 g25000 ?_
  refine r_aload_n (pc := 45) dX24_flat_45 rfl ?_
  have hv23 := fr_self (key := 24023) hk9
  have hv24 := (fr_ext (key := 24023) eh16 hk9 (nz rfl) (ne0 wh16 hk18 (nz rfl)) (nm rfl)).trans hv23
  refine r_getr' (pc := 46) (T := TX24) 24 23 hv24 hk18 (Or.inl q2721) dX24_flat_46 kc24 g24023 ?_
  refine r_aload_n (pc := 49) dX24_flat_49 rfl ?_
  have hk27 := kd_ext eh16 hk17 (nz rfl)
  refine r_callV_V (pc := 50) (Y := mX27_multiply) (vs := [_, _, _]) (st := []) hk27 rfl kc27 q2615 q2252 q2253 dX24_flat_50 rfl cd_X27_multiply rfl rfl fp_X24_flat_X27_multiply K (fun h26 eh26 wh26 K => ?_) (fun x h1 _ _ e => Tw.out rfl e)
  refine r_aload_n (pc := 53) dX24_flat_53 rfl ?_
  have hk28 := kd_ext eh26 hk18 (nz rfl)
  have hv29 := (fr_ext (key := 24015) eh26 hk18 (nz rfl) (ne0 wh26 hk28 (nz rfl)) (nm rfl)).trans hv19
  refine r_getr' (pc := 54) (T := TX24) 24 15 hv29 hk28 (Or.inl q2713) dX24_flat_54 kc24 g24015 ?_
  refine r_aload_n (pc := 57) dX24_flat_57 rfl ?_
  have hv30 := (fr_ext (key := 24023) eh26 hk18 (nz rfl) (ne0 wh26 hk28 (nz rfl)) (nm rfl)).trans hv24
  refine r_getr' (pc := 58) (T := TX24) 24 23 hv30 hk28 (Or.inl q2721) dX24_flat_58 kc24 g24023 ?_
  refine r_aload_n (pc := 61) dX24_flat_61 rfl ?_
  have hv31 := (fr_ext (key := 24022) eh16 hk9 (nz rfl) (ne0 wh16 hk18 (nz rfl)) (nm rfl)).trans hv13
  have hv32 := (fr_ext (key := 24022) eh26 hk18 (nz rfl) (ne0 wh26 hk28 (nz rfl)) (nm rfl)).trans hv31
  refine r_getr' (pc := 62) (T := TX24) 24 22 hv32 hk28 (Or.inl q2720) dX24_flat_62 kc24 g24022 ?_
  refine r_aload_n (pc := 65) dX24_flat_65 rfl ?_
  refine r_getr' (pc := 66) (T := TX24) 24 23 hv30 hk28 (Or.inl q2721) dX24_flat_66 kc24 g24023 ?_
  have hk35 := kd_ext eh26 hk27 (nz rfl)
  refine r_callV_V (pc := 69) (Y := mX27_multiply) (vs := [_, _, _]) (st := []) hk35 rfl kc27 q2615 q2252 q2253 dX24_flat_69 rfl cd_X27_multiply rfl rfl fp_X24_flat_X27_multiply K (fun h34 eh34 wh34 K => ?_) (fun x h1 _ _ e => Tw.out rfl e)
  refine r_aload_n (pc := 72) dX24_flat_72 rfl ?_
  have hk36 := kd_ext eh34 hk28 (nz rfl)
  have hv37 := (fr_ext (key := 24015) eh34 hk28 (nz rfl) (ne0 wh34 hk36 (nz rfl)) (nm rfl)).trans hv29
  refine r_getr' (pc := 73) (T := TX24) 24 15 hv37 hk36 (Or.inl q2713) dX24_flat_73 kc24 g24015 ?_
  refine r_aload_n (pc := 76) dX24_flat_76 rfl ?_
  have hk38 := kd_ext eh26 hk21 (nz rfl)
  have hk39 := kd_ext eh34 hk38 (nz rfl)
  have K := K _ rfl
  refine r_getr' (pc := 77) (T := TX25) 25 1 rfl hk39 (Or.inr (Or.inl ⟨_, q2124⟩)) dX24_flat_77 kc25 g25001 ?_
  refine r_aload_n (pc := 80) dX24_flat_80 rfl ?_
  have hv41 := (fr_ext (key := 24023) eh34 hk28 (nz rfl) (ne0 wh34 hk36 (nz rfl)) (nm rfl)).trans hv30
  refine r_getr' (pc := 81) (T := TX24) 24 23 hv41 hk36 (Or.inl q2721) dX24_flat_81 kc24 g24023 ?_
  refine r_aload_n (pc := 84) dX24_flat_84 rfl ?_
  have hk44 := kd_ext eh34 hk35 (nz rfl)
  refine r_callV_V (pc := 85) (Y := mX27_multiply) (vs := [_, _, _]) (st := []) hk44 rfl kc27 q2615 q2252 q2253 dX24_flat_85 rfl cd_X27_multiply rfl rfl fp_X24_flat_X27_multiply K (fun h43 eh43 wh43 K => ?_) (fun x h1 _ _ e => Tw.out rfl e)
  refine r_aload_n (pc := 88) dX24_flat_88 rfl ?_
  have hk45 := kd_ext eh43 hk36 (nz rfl)
  have hv46 := (fr_ext (key := 24015) eh43 hk36 (nz rfl) (ne0 wh43 hk45 (nz rfl)) (nm rfl)).trans hv37
  refine r_getr' (pc := 89) (T := TX24) 24 15 hv46 hk45 (Or.inl q2713) dX24_flat_89 kc24 g24015 ?_
  refine r_aload_n (pc := 92) dX24_flat_92 rfl ?_
  refine r_aload_n (pc := 93) dX24_flat_93 rfl ?_
  have hk49 := kd_ext eh43 hk44 (nz rfl)
  refine r_callV_V (pc := 94) (Y := mX27_leave) (vs := [_, _]) (st := []) hk49 rfl kc27 q2624 q2625 q2626 dX24_flat_94 rfl cd_X27_leave rfl rfl fp_X24_flat_X27_leave K (fun h48 eh48 wh48 K => ?_) (fun x h1 _ _ e => Tw.out rfl e)
  refine r_aload_n (pc := 97) dX24_flat_97 rfl ?_
  have hk50 := kd_ext eh48 hk45 (nz rfl)
  have hv51 := (fr_ext (key := 24015) eh48 hk45 (nz rfl) (ne0 wh48 hk50 (nz rfl)) (nm rfl)).trans hv46
  refine r_getr' (pc := 98) (T := TX24) 24 15 hv51 hk50 (Or.inl q2713) dX24_flat_98 kc24 g24015 ?_
  refine r_aload_n (pc := 101) dX24_flat_101 rfl ?_
  refine r_aload_n (pc := 102) dX24_flat_102 rfl ?_
  have hk54 := kd_ext eh48 hk49 (nz rfl)
  refine r_callV_V (pc := 103) (Y := mX27_leave) (vs := [_, _]) (st := []) hk54 rfl kc27 q2624 q2625 q2626 dX24_flat_103 rfl cd_X27_leave rfl rfl fp_X24_flat_X27_leave K (fun h53 eh53 wh53 K => ?_) (fun x h1 _ _ e => Tw.out rfl e)
  exact r_vret (pc := 106) rfl dX24_flat_106 K
theorem eX24_flat {G : Gx} {d : Nat} {Φ : Out → AH → Prop} (h : AH) (v0 : Nat) (v1 : Nat) (v2 : Nat) (v3 : Nat) (K : WF G h → Aw G mX24_flat (d + 1) 0 h Φ 0 [vR v0, vR v1, vR v2, vR v3] [] h) : Cw G mX24_flat (d + 1) 0 [vR v0, vR v1, vR v2, vR v3] h Φ := Cw.of rfl K
theorem dX24_part_0 : decode cX24_part 0 = .ok (.iload_n 2, 1) := by decide +kernel
theorem dX24_part_1 : decode cX24_part 1 = .ok (.istore 5, 2) := by decide +kernel
theorem dX24_part_3 : decode cX24_part 3 = .ok (.iload 5, 2) := by decide +kernel
theorem dX24_part_5 : decode cX24_part 5 = .ok (.iload_n 2, 1) := by decide +kernel
theorem dX24_part_6 : decode cX24_part 6 = .ok (.iload_n 3, 1) := by decide +kernel
theorem dX24_part_7 : decode cX24_part 7 = .ok (.iadd, 1) := by decide +kernel
theorem dX24_part_8 : decode cX24_part 8 = .ok (.if_icmp .ge 16, 3) := by decide +kernel
theorem dX24_part_11 : decode cX24_part 11 = .ok (.aload_n 1, 1) := by decide +kernel
theorem dX24_part_12 : decode cX24_part 12 = .ok (.iload 5, 2) := by decide +kernel
theorem dX24_part_14 : decode cX24_part 14 = .ok (.baload, 1) := by decide +kernel
theorem dX24_part_15 : decode cX24_part 15 = .ok (.ifCond .ne 9, 3) := by decide +kernel
theorem dX24_part_18 : decode cX24_part 18 = .ok (.iinc 5 1, 3) := by decide +kernel
theorem dX24_part_21 : decode cX24_part 21 = .ok (.goto (-18), 3) := by decide +kernel
theorem dX24_part_24 : decode cX24_part 24 = .ok (.iload_n 2, 1) := by decide +kernel
theorem dX24_part_25 : decode cX24_part 25 = .ok (.iload_n 3, 1) := by decide +kernel
theorem dX24_part_26 : decode cX24_part 26 = .ok (.iadd, 1) := by decide +kernel
theorem dX24_part_27 : decode cX24_part 27 = .ok (.iload 5, 2) := by decide +kernel
theorem dX24_part_29 : decode cX24_part 29 = .ok (.isub, 1) := by decide +kernel
theorem dX24_part_30 : decode cX24_part 30 = .ok (.bipush 32, 2) := by decide +kernel
theorem dX24_part_32 : decode cX24_part 32 = .ok (.if_icmp .le 5, 3) := by decide +kernel
theorem dX24_part_35 : decode cX24_part 35 = .ok (.iconst 0, 1) := by decide +kernel
theorem dX24_part_36 : decode cX24_part 36 = .ok (.ireturn, 1) := by decide +kernel
theorem dX24_part_37 : decode cX24_part 37 = .ok (.iconst 0, 1) := by decide +kernel
theorem dX24_part_38 : decode cX24_part 38 = .ok (.istore 6, 2) := by decide +kernel
theorem dX24_part_40 : decode cX24_part 40 = .ok (.iload 6, 2) := by decide +kernel
theorem dX24_part_42 : decode cX24_part 42 = .ok (.bipush 8, 2) := by decide +kernel
theorem dX24_part_44 : decode cX24_part 44 = .ok (.if_icmp .ge 15, 3) := by decide +kernel
theorem dX24_part_47 : decode cX24_part 47 = .ok (.aload 4, 2) := by decide +kernel
theorem dX24_part_49 : decode cX24_part 49 = .ok (.iload 6, 2) := by decide +kernel
theorem dX24_part_51 : decode cX24_part 51 = .ok (.iconst 0, 1) := by decide +kernel
theorem dX24_part_52 : decode cX24_part 52 = .ok (.iastore, 1) := by decide +kernel
theorem dX24_part_53 : decode cX24_part 53 = .ok (.iinc 6 1, 3) := by decide +kernel
theorem dX24_part_56 : decode cX24_part 56 = .ok (.goto (-16), 3) := by decide +kernel
theorem dX24_part_59 : decode cX24_part 59 = .ok (.iconst 0, 1) := by decide +kernel
theorem dX24_part_60 : decode cX24_part 60 = .ok (.istore 6, 2) := by decide +kernel
theorem dX24_part_62 : decode cX24_part 62 = .ok (.iload 6, 2) := by decide +kernel
theorem dX24_part_64 : decode cX24_part 64 = .ok (.iload_n 2, 1) := by decide +kernel
theorem dX24_part_65 : decode cX24_part 65 = .ok (.iload_n 3, 1) := by decide +kernel
theorem dX24_part_66 : decode cX24_part 66 = .ok (.iadd, 1) := by decide +kernel
theorem dX24_part_67 : decode cX24_part 67 = .ok (.iload 5, 2) := by decide +kernel
theorem dX24_part_69 : decode cX24_part 69 = .ok (.isub, 1) := by decide +kernel
theorem dX24_part_70 : decode cX24_part 70 = .ok (.if_icmp .ge 41, 3) := by decide +kernel
theorem dX24_part_73 : decode cX24_part 73 = .ok (.aload 4, 2) := by decide +kernel
theorem dX24_part_75 : decode cX24_part 75 = .ok (.iload 6, 2) := by decide +kernel
theorem dX24_part_77 : decode cX24_part 77 = .ok (.iconst 4, 1) := by decide +kernel
theorem dX24_part_78 : decode cX24_part 78 = .ok (.idiv, 1) := by decide +kernel
theorem dX24_part_79 : decode cX24_part 79 = .ok (.dup2, 1) := by decide +kernel
theorem dX24_part_80 : decode cX24_part 80 = .ok (.iaload, 1) := by decide +kernel
theorem dX24_part_81 : decode cX24_part 81 = .ok (.aload_n 1, 1) := by decide +kernel
theorem dX24_part_82 : decode cX24_part 82 = .ok (.iload_n 2, 1) := by decide +kernel
theorem dX24_part_83 : decode cX24_part 83 = .ok (.iload_n 3, 1) := by decide +kernel
theorem dX24_part_84 : decode cX24_part 84 = .ok (.iadd, 1) := by decide +kernel
theorem dX24_part_85 : decode cX24_part 85 = .ok (.iconst 1, 1) := by decide +kernel
theorem dX24_part_86 : decode cX24_part 86 = .ok (.isub, 1) := by decide +kernel
theorem dX24_part_87 : decode cX24_part 87 = .ok (.iload 6, 2) := by decide +kernel
theorem dX24_part_89 : decode cX24_part 89 = .ok (.isub, 1) := by decide +kernel
theorem dX24_part_90 : decode cX24_part 90 = .ok (.baload, 1) := by decide +kernel
theorem dX24_part_91 : decode cX24_part 91 = .ok (.sipush 255, 3) := by decide +kernel
theorem dX24_part_94 : decode cX24_part 94 = .ok (.iand, 1) := by decide +kernel
theorem dX24_part_95 : decode cX24_part 95 = .ok (.bipush 8, 2) := by decide +kernel
theorem dX24_part_97 : decode cX24_part 97 = .ok (.iload 6, 2) := by decide +kernel
theorem dX24_part_99 : decode cX24_part 99 = .ok (.iconst 4, 1) := by decide +kernel
theorem dX24_part_100 : decode cX24_part 100 = .ok (.irem, 1) := by decide +kernel
theorem dX24_part_101 : decode cX24_part 101 = .ok (.imul, 1) := by decide +kernel
theorem dX24_part_102 : decode cX24_part 102 = .ok (.ishl, 1) := by decide +kernel
theorem dX24_part_103 : decode cX24_part 103 = .ok (.ior, 1) := by decide +kernel
theorem dX24_part_104 : decode cX24_part 104 = .ok (.iastore, 1) := by decide +kernel
theorem dX24_part_105 : decode cX24_part 105 = .ok (.iinc 6 1, 3) := by decide +kernel
theorem dX24_part_108 : decode cX24_part 108 = .ok (.goto (-46), 3) := by decide +kernel
theorem dX24_part_111 : decode cX24_part 111 = .ok (.aload 4, 2) := by decide +kernel
theorem dX24_part_113 : decode cX24_part 113 = .ok (.invokestatic 95, 3) := by decide +kernel
theorem dX24_part_116 : decode cX24_part 116 = .ok (.ifCond .ne 22, 3) := by decide +kernel
theorem dX24_part_119 : decode cX24_part 119 = .ok (.aload 4, 2) := by decide +kernel
theorem dX24_part_121 : decode cX24_part 121 = .ok (.aload_n 0, 1) := by decide +kernel
theorem dX24_part_122 : decode cX24_part 122 = .ok (.getfield 192, 3) := by decide +kernel
theorem dX24_part_125 : decode cX24_part 125 = .ok (.getfield 162, 3) := by decide +kernel
theorem dX24_part_128 : decode cX24_part 128 = .ok (.invokestatic 165, 3) := by decide +kernel
theorem dX24_part_131 : decode cX24_part 131 = .ok (.ifCond .ge 7, 3) := by decide +kernel
theorem dX24_part_134 : decode cX24_part 134 = .ok (.iconst 1, 1) := by decide +kernel
theorem dX24_part_135 : decode cX24_part 135 = .ok (.goto 4, 3) := by decide +kernel
theorem dX24_part_138 : decode cX24_part 138 = .ok (.iconst 0, 1) := by decide +kernel
theorem dX24_part_139 : decode cX24_part 139 = .ok (.ireturn, 1) := by decide +kernel
/-! CoinJudgeModel.part([BII[I)Z -/
set_option maxHeartbeats 4000000 in
theorem sX24_part_0 {G : Gx} {d t : Nat} {h0 : AH} {Φ : Out → AH → Prop} (h : AH) (v0 : Nat) (v1 : Nat) (v2 : Int32) (v3 : Int32) (v4 : Nat) (K : Aw G mX24_part (d + 1) t h0 Φ 3 [vR v0, vR v1, vI v2, vI v3, vR v4, vI v2, vU] [] h) : Aw G mX24_part (d + 1) t h0 Φ 0 [vR v0, vR v1, vI v2, vI v3, vR v4, vU, vU] [] h := by
  refine r_iload_n (pc := 0) dX24_part_0 rfl ?_
  refine r_istore (pc := 1) (lv' := [_, _, _, _, _, _, _]) dX24_part_1 (by decide) rfl ?_
  refine r_mask (pc := 3) [true, true, true, true, true, true, false] rfl ?_
  exact K
theorem eX24_part {G : Gx} {d : Nat} {Φ : Out → AH → Prop} (h : AH) (v0 : Nat) (v1 : Nat) (v2 : Int32) (v3 : Int32) (v4 : Nat) (K : WF G h → Aw G mX24_part (d + 1) 0 h Φ 0 [vR v0, vR v1, vI v2, vI v3, vR v4, vU, vU] [] h) : Cw G mX24_part (d + 1) 0 [vR v0, vR v1, vI v2, vI v3, vR v4] h Φ := Cw.of rfl K
set_option maxHeartbeats 4000000 in
theorem sX24_part_3 {G : Gx} {d t : Nat} {h0 : AH} {Φ : Out → AH → Prop} (h : AH) (v0 : Nat) (v1 : Nat) (v2 : Int32) (v3 : Int32) (v4 : Nat) (v5 : Int32) (K : (((v2 + v3) ≤ v5 → Aw G mX24_part (d + 1) t h0 Φ 24 [vR v0, vR v1, vI v2, vI v3, vR v4, vI v5, vU] [] h) ∧ (¬ (v2 + v3) ≤ v5 → h.kd v1 = 101 ∧ vp_in v5 (h.ai v1).length ∧ ((¬ ((h.ai v1).getD (v5.toNatClampNeg) 0) = 0 → Aw G mX24_part (d + 1) t h0 Φ 24 [vR v0, vR v1, vI v2, vI v3, vR v4, vI v5, vU] [] h) ∧ (((h.ai v1).getD (v5.toNatClampNeg) 0) = 0 → Aw G mX24_part (d + 1) t h0 Φ 3 [vR v0, vR v1, vI v2, vI v3, vR v4, vI (v5 + 1), vU] [] h))))) : Aw G mX24_part (d + 1) t h0 Φ 3 [vR v0, vR v1, vI v2, vI v3, vR v4, vI v5, vU] [] h := by
  refine r_iload (pc := 3) dX24_part_3 rfl ?_
  refine r_iload_n (pc := 5) dX24_part_5 rfl ?_
  refine r_iload_n (pc := 6) dX24_part_6 rfl ?_
  refine r_iadd (pc := 7) dX24_part_7 ?_
  refine r_icmp_ge (pc := 8) (tgt := 24) dX24_part_8 rfl (fun c1 => ?_) (fun c1 => ?_)
  · have K := K.1 c1
    refine r_mask (pc := 24) [true, true, true, true, true, true, false] rfl ?_
    exact K
  · have K := K.2 c1
    refine r_aload_n (pc := 11) dX24_part_11 rfl ?_
    refine r_iload (pc := 12) dX24_part_12 rfl ?_
    obtain ⟨hk2, K⟩ := K
    obtain ⟨hi3, K⟩ := K
    refine r_baload (pc := 14) hk2 hi3 dX24_part_14 ?_
    refine r_if_ne (pc := 15) (tgt := 24) dX24_part_15 rfl (fun c4 => ?_) (fun c4 => ?_)
    · have K := K.1 c4
      refine r_mask (pc := 24) [true, true, true, true, true, true, false] rfl ?_
      exact K
    · have K := K.2 c4
      refine r_iinc (pc := 18) (lv' := [_, _, _, _, _, _, _]) dX24_part_18 rfl rfl (by decide) rfl ?_
      refine r_goto (pc := 21) (tgt := 3) dX24_part_21 rfl ?_
      refine r_mask (pc := 3) [true, true, true, true, true, true, false] rfl ?_
      exact K
set_option maxHeartbeats 4000000 in
theorem sX24_part_24 {G : Gx} {d t : Nat} {h0 : AH} {Φ : Out → AH → Prop} (h : AH) (v0 : Nat) (v1 : Nat) (v2 : Int32) (v3 : Int32) (v4 : Nat) (v5 : Int32) (K : ((((v2 + v3) - v5) ≤ 32 → Aw G mX24_part (d + 1) t h0 Φ 40 [vR v0, vR v1, vI v2, vI v3, vR v4, vI v5, vI 0] [] h) ∧ (¬ ((v2 + v3) - v5) ≤ 32 → Φ (.inl (some (vI 0))) h))) : Aw G mX24_part (d + 1) t h0 Φ 24 [vR v0, vR v1, vI v2, vI v3, vR v4, vI v5, vU] [] h := by
  refine r_iload_n (pc := 24) dX24_part_24 rfl ?_
  refine r_iload_n (pc := 25) dX24_part_25 rfl ?_
  refine r_iadd (pc := 26) dX24_part_26 ?_
  refine r_iload (pc := 27) dX24_part_27 rfl ?_
  refine r_isub (pc := 29) dX24_part_29 ?_
  refine r_bipush (pc := 30) (x := 32) dX24_part_30 rfl ?_
  refine r_icmp_le (pc := 32) (tgt := 37) dX24_part_32 rfl (fun c1 => ?_) (fun c1 => ?_)
  · have K := K.1 c1
    refine r_iconst (pc := 37) (x := 0) dX24_part_37 rfl ?_
    refine r_istore (pc := 38) (lv' := [_, _, _, _, _, _, _]) dX24_part_38 (by decide) rfl ?_
    refine r_mask (pc := 40) [true, true, true, true, true, true, true] rfl ?_
    exact K
  · have K := K.2 c1
    refine r_iconst (pc := 35) (x := 0) dX24_part_35 rfl ?_
    exact r_iret (pc := 36) rfl rfl dX24_part_36 K
set_option maxHeartbeats 4000000 in
theorem sX24_part_40 {G : Gx} {d t : Nat} {h0 : AH} {Φ : Out → AH → Prop} (h : AH) (v0 : Nat) (v1 : Nat) (v2 : Int32) (v3 : Int32) (v4 : Nat) (v5 : Int32) (v6 : Int32) (K : ((8 ≤ v6 → Aw G mX24_part (d + 1) t h0 Φ 62 [vR v0, vR v1, vI v2, vI v3, vR v4, vI v5, vI 0] [] h) ∧ (¬ 8 ≤ v6 → h.kd v4 = 100 ∧ vp_in v6 (h.ai v4).length ∧ ∀ h4 : AH, h4 = h.wi v4 ((h.ai v4).set (v6.toNatClampNeg) 0) → Aw G mX24_part (d + 1) t h0 Φ 40 [vR v0, vR v1, vI v2, vI v3, vR v4, vI v5, vI (v6 + 1)] [] h4))) : Aw G mX24_part (d + 1) t h0 Φ 40 [vR v0, vR v1, vI v2, vI v3, vR v4, vI v5, vI v6] [] h := by
  refine r_iload (pc := 40) dX24_part_40 rfl ?_
  refine r_bipush (pc := 42) (x := 8) dX24_part_42 rfl ?_
  refine r_icmp_ge (pc := 44) (tgt := 59) dX24_part_44 rfl (fun c1 => ?_) (fun c1 => ?_)
  · have K := K.1 c1
    refine r_iconst (pc := 59) (x := 0) dX24_part_59 rfl ?_
    refine r_istore (pc := 60) (lv' := [_, _, _, _, _, _, _]) dX24_part_60 (by decide) rfl ?_
    refine r_mask (pc := 62) [true, true, true, true, true, true, true] rfl ?_
    exact K
  · have K := K.2 c1
    refine r_aload (pc := 47) dX24_part_47 rfl ?_
    refine r_iload (pc := 49) dX24_part_49 rfl ?_
    refine r_iconst (pc := 51) (x := 0) dX24_part_51 rfl ?_
    obtain ⟨hk2, K⟩ := K
    obtain ⟨hi3, K⟩ := K
    refine r_iastore (pc := 52) hk2 hi3 (Or.inl (em rfl)) dX24_part_52 ?_
    refine r_nameH (fun h4 eh4 => ?_)
    have K := K h4 eh4
    refine r_iinc (pc := 53) (lv' := [_, _, _, _, _, _, _]) dX24_part_53 rfl rfl (by decide) rfl ?_
    refine r_goto (pc := 56) (tgt := 40) dX24_part_56 rfl ?_
    refine r_mask (pc := 40) [true, true, true, true, true, true, true] rfl ?_
    exact K
set_option maxHeartbeats 4000000 in
theorem sX24_part_62 {G : Gx} {d t : Nat} {h0 : AH} {Φ : Out → AH → Prop} (h : AH) (v0 : Nat) (v1 : Nat) (v2 : Int32) (v3 : Int32) (v4 : Nat) (v5 : Int32) (v6 : Int32) (K : ((((v2 + v3) - v5) ≤ v6 → Cw G mX27_isZero d 0 [vR v4] h (kI (fun x2 h3 => ((¬ x2 = 0 → Φ (.inl (some (vI 0))) h3) ∧ (x2 = 0 → h3.kd v0 = 24 ∧ ∀ r6 : Nat, r6 = (h3.r 24016 v0) → h3.kd r6 = 27 ∧ ∀ r8 : Nat, r8 = (h3.r 27000 r6) → Cw G mX27_compare d 0 [vR v4, vR r8] h3 (kI (fun x9 h10 => ((0 ≤ x9 → Φ (.inl (some (vI 0))) h10) ∧ (¬ 0 ≤ x9 → Φ (.inl (some (vI 1))) h10))) (fun x h => Φ (.inr x) h))))) (fun x h => Φ (.inr x) h))) ∧ (¬ ((v2 + v3) - v5) ≤ v6 → h.kd v4 = 100 ∧ vp_in (v6 / 4) (h.ai v4).length ∧ h.kd v1 = 101 ∧ vp_in (((v2 + v3) - 1) - v6) (h.ai v1).length ∧ vp_in (v6 / 4) (h.ai v4).length ∧ ∀ h17 : AH, h17 = h.wi v4 ((h.ai v4).set ((v6 / 4).toNatClampNeg) (((h.ai v4).getD ((v6 / 4).toNatClampNeg) 0) ||| (jshl (((h.ai v1).getD ((((v2 + v3) - 1) - v6).toNatClampNeg) 0) &&& 255) (8 * (jrem v6 4))))) → Aw G mX24_part (d + 1) t h0 Φ 62 [vR v0, vR v1, vI v2, vI v3, vR v4, vI v5, vI (v6 + 1)] [] h17))) : Aw G mX24_part (d + 1) t h0 Φ 62 [vR v0, vR v1, vI v2, vI v3, vR v4, vI v5, vI v6] [] h := by
  refine r_iload (pc := 62) dX24_part_62 rfl ?_
  refine r_iload_n (pc := 64) dX24_part_64 rfl ?_
  refine r_iload_n (pc := 65) dX24_part_65 rfl ?_
  refine r_iadd (pc := 66) dX24_part_66 ?_
  refine r_iload (pc := 67) dX24_part_67 rfl ?_
  refine r_isub (pc := 69) dX24_part_69 ?_
  refine r_icmp_ge (pc := 70) (tgt := 111) dX24_part_70 rfl (fun c1 => ?_) (fun c1 => ?_)
  · have K := K.1 c1
    refine r_aload (pc := 111) dX24_part_111 rfl ?_
    refine r_callS_I (pc := 113) (Y := mX27_isZero) (vs := [_]) (st := []) q2636 q2637 q195 dX24_part_113 rfl cd_X27_isZero rfl rfl fp_X24_part_X27_isZero K (fun x2 h3 eh3 wh3 K => ?_) (fun x h1 _ _ e => Tw.out rfl e)
    refine r_if_ne (pc := 116) (tgt := 138) dX24_part_116 rfl (fun c4 => ?_) (fun c4 => ?_)
    · have K := K.1 c4
      refine r_iconst (pc := 138) (x := 0) dX24_part_138 rfl ?_
      exact r_iret (pc := 139) rfl rfl dX24_part_139 K
    · have K := K.2 c4
      refine r_aload (pc := 119) dX24_part_119 rfl ?_
      refine r_aload_n (pc := 121) dX24_part_121 rfl ?_
      obtain ⟨hk5, K⟩ := K
      have K := K _ rfl
      refine r_getr' (pc := 122) (T := TX24) 24 16 rfl hk5 (Or.inl q2714) dX24_part_122 kc24 g24016 ?_
      obtain ⟨hk7, K⟩ := K
      have K := K _ rfl
      refine r_getr' (pc := 125) (T := TX27) 27 0 rfl hk7 (Or.inr (Or.inl ⟨_, q2209⟩)) dX24_part_125 kc27 g27000 ?_
      refine r_callS_I (pc := 128) (Y := mX27_compare) (vs := [_, _]) (st := []) q2365 q2200 q195 dX24_part_128 rfl cd_X27_compare rfl rfl fp_X24_part_X27_compare K (fun x9 h10 eh10 wh10 K => ?_) (fun x h1 _ _ e => Tw.out rfl e)
      refine r_if_ge (pc := 131) (tgt := 138) dX24_part_131 rfl (fun c11 => ?_) (fun c11 => ?_)
      · have K := K.1 c11
        refine r_iconst (pc := 138) (x := 0) dX24_part_138 rfl ?_
        exact r_iret (pc := 139) rfl rfl dX24_part_139 K
      · have K := K.2 c11
        refine r_iconst (pc := 134) (x := 1) dX24_part_134 rfl ?_
        refine r_goto (pc := 135) (tgt := 139) dX24_part_135 rfl ?_
        exact r_iret (pc := 139) rfl rfl dX24_part_139 K
  · have K := K.2 c1
    refine r_aload (pc := 73) dX24_part_73 rfl ?_
    refine r_iload (pc := 75) dX24_part_75 rfl ?_
    refine r_iconst (pc := 77) (x := 4) dX24_part_77 rfl ?_
    refine r_idiv (pc := 78) (by decide) dX24_part_78 ?_
    refine r_dup2 (pc := 79) rfl rfl dX24_part_79 ?_
    obtain ⟨hk12, K⟩ := K
    obtain ⟨hi13, K⟩ := K
    refine r_iaload (pc := 80) hk12 hi13 dX24_part_80 ?_
    refine r_aload_n (pc := 81) dX24_part_81 rfl ?_
    refine r_iload_n (pc := 82) dX24_part_82 rfl ?_
    refine r_iload_n (pc := 83) dX24_part_83 rfl ?_
    refine r_iadd (pc := 84) dX24_part_84 ?_
    refine r_iconst (pc := 85) (x := 1) dX24_part_85 rfl ?_
    refine r_isub (pc := 86) dX24_part_86 ?_
    refine r_iload (pc := 87) dX24_part_87 rfl ?_
    refine r_isub (pc := 89) dX24_part_89 ?_
    obtain ⟨hk14, K⟩ := K
    obtain ⟨hi15, K⟩ := K
    refine r_baload (pc := 90) hk14 hi15 dX24_part_90 ?_
    refine r_sipush (pc := 91) (x := 255) dX24_part_91 rfl ?_
    refine r_iand (pc := 94) dX24_part_94 ?_
    refine r_bipush (pc := 95) (x := 8) dX24_part_95 rfl ?_
    refine r_iload (pc := 97) dX24_part_97 rfl ?_
    refine r_iconst (pc := 99) (x := 4) dX24_part_99 rfl ?_
    refine r_jrem (pc := 100) (by decide) dX24_part_100 ?_
    refine r_imul (pc := 101) dX24_part_101 ?_
    refine r_jshl (pc := 102) dX24_part_102 ?_
    refine r_ior (pc := 103) dX24_part_103 ?_
    obtain ⟨hi16, K⟩ := K
    refine r_iastore (pc := 104) hk12 hi16 (Or.inl (em rfl)) dX24_part_104 ?_
    refine r_nameH (fun h17 eh17 => ?_)
    have K := K h17 eh17
    refine r_iinc (pc := 105) (lv' := [_, _, _, _, _, _, _]) dX24_part_105 rfl rfl (by decide) rfl ?_
    refine r_goto (pc := 108) (tgt := 62) dX24_part_108 rfl ?_
    refine r_mask (pc := 62) [true, true, true, true, true, true, true] rfl ?_
    exact K
theorem dX24_doubled_0 : decode cX24_doubled 0 = .ok (.aload_n 1, 1) := by decide +kernel
theorem dX24_doubled_1 : decode cX24_doubled 1 = .ok (.getfield 90, 3) := by decide +kernel
theorem dX24_doubled_4 : decode cX24_doubled 4 = .ok (.invokestatic 95, 3) := by decide +kernel
theorem dX24_doubled_7 : decode cX24_doubled 7 = .ok (.ifCond .eq 4, 3) := by decide +kernel
theorem dX24_doubled_10 : decode cX24_doubled 10 = .ok (.return_, 1) := by decide +kernel
theorem dX24_doubled_11 : decode cX24_doubled 11 = .ok (.aload_n 0, 1) := by decide +kernel
theorem dX24_doubled_12 : decode cX24_doubled 12 = .ok (.getfield 101, 3) := by decide +kernel
theorem dX24_doubled_15 : decode cX24_doubled 15 = .ok (.aload_n 1, 1) := by decide +kernel
theorem dX24_doubled_16 : decode cX24_doubled 16 = .ok (.getfield 105, 3) := by decide +kernel
theorem dX24_doubled_19 : decode cX24_doubled 19 = .ok (.aload_n 1, 1) := by decide +kernel
theorem dX24_doubled_20 : decode cX24_doubled 20 = .ok (.getfield 105, 3) := by decide +kernel
theorem dX24_doubled_23 : decode cX24_doubled 23 = .ok (.aload_n 0, 1) := by decide +kernel
theorem dX24_doubled_24 : decode cX24_doubled 24 = .ok (.getfield 108, 3) := by decide +kernel
theorem dX24_doubled_27 : decode cX24_doubled 27 = .ok (.invokevirtual 111, 3) := by decide +kernel
theorem dX24_doubled_30 : decode cX24_doubled 30 = .ok (.aload_n 0, 1) := by decide +kernel
theorem dX24_doubled_31 : decode cX24_doubled 31 = .ok (.getfield 101, 3) := by decide +kernel
theorem dX24_doubled_34 : decode cX24_doubled 34 = .ok (.aload_n 1, 1) := by decide +kernel
theorem dX24_doubled_35 : decode cX24_doubled 35 = .ok (.getfield 115, 3) := by decide +kernel
theorem dX24_doubled_38 : decode cX24_doubled 38 = .ok (.aload_n 0, 1) := by decide +kernel
theorem dX24_doubled_39 : decode cX24_doubled 39 = .ok (.getfield 108, 3) := by decide +kernel
theorem dX24_doubled_42 : decode cX24_doubled 42 = .ok (.aload_n 0, 1) := by decide +kernel
theorem dX24_doubled_43 : decode cX24_doubled 43 = .ok (.getfield 118, 3) := by decide +kernel
theorem dX24_doubled_46 : decode cX24_doubled 46 = .ok (.invokevirtual 111, 3) := by decide +kernel
theorem dX24_doubled_49 : decode cX24_doubled 49 = .ok (.aload_n 0, 1) := by decide +kernel
theorem dX24_doubled_50 : decode cX24_doubled 50 = .ok (.getfield 101, 3) := by decide +kernel
theorem dX24_doubled_53 : decode cX24_doubled 53 = .ok (.aload_n 0, 1) := by decide +kernel
theorem dX24_doubled_54 : decode cX24_doubled 54 = .ok (.getfield 118, 3) := by decide +kernel
theorem dX24_doubled_57 : decode cX24_doubled 57 = .ok (.aload_n 0, 1) := by decide +kernel
theorem dX24_doubled_58 : decode cX24_doubled 58 = .ok (.getfield 118, 3) := by decide +kernel
theorem dX24_doubled_61 : decode cX24_doubled 61 = .ok (.aload_n 0, 1) := by decide +kernel
theorem dX24_doubled_62 : decode cX24_doubled 62 = .ok (.getfield 118, 3) := by decide +kernel
theorem dX24_doubled_65 : decode cX24_doubled 65 = .ok (.invokevirtual 121, 3) := by decide +kernel
theorem dX24_doubled_68 : decode cX24_doubled 68 = .ok (.aload_n 0, 1) := by decide +kernel
theorem dX24_doubled_69 : decode cX24_doubled 69 = .ok (.getfield 101, 3) := by decide +kernel
theorem dX24_doubled_72 : decode cX24_doubled 72 = .ok (.aload_n 0, 1) := by decide +kernel
theorem dX24_doubled_73 : decode cX24_doubled 73 = .ok (.getfield 118, 3) := by decide +kernel
theorem dX24_doubled_76 : decode cX24_doubled 76 = .ok (.aload_n 0, 1) := by decide +kernel
theorem dX24_doubled_77 : decode cX24_doubled 77 = .ok (.getfield 118, 3) := by decide +kernel
theorem dX24_doubled_80 : decode cX24_doubled 80 = .ok (.aload_n 0, 1) := by decide +kernel
theorem dX24_doubled_81 : decode cX24_doubled 81 = .ok (.getfield 118, 3) := by decide +kernel
theorem dX24_doubled_84 : decode cX24_doubled 84 = .ok (.invokevirtual 121, 3) := by decide +kernel
theorem dX24_doubled_87 : decode cX24_doubled 87 = .ok (.aload_n 0, 1) := by decide +kernel
theorem dX24_doubled_88 : decode cX24_doubled 88 = .ok (.getfield 101, 3) := by decide +kernel
theorem dX24_doubled_91 : decode cX24_doubled 91 = .ok (.aload_n 0, 1) := by decide +kernel
theorem dX24_doubled_92 : decode cX24_doubled 92 = .ok (.getfield 108, 3) := by decide +kernel
theorem dX24_doubled_95 : decode cX24_doubled 95 = .ok (.aload_n 0, 1) := by decide +kernel
theorem dX24_doubled_96 : decode cX24_doubled 96 = .ok (.getfield 108, 3) := by decide +kernel
theorem dX24_doubled_99 : decode cX24_doubled 99 = .ok (.aload_n 0, 1) := by decide +kernel
theorem dX24_doubled_100 : decode cX24_doubled 100 = .ok (.getfield 124, 3) := by decide +kernel
theorem dX24_doubled_103 : decode cX24_doubled 103 = .ok (.invokevirtual 111, 3) := by decide +kernel
theorem dX24_doubled_106 : decode cX24_doubled 106 = .ok (.aload_n 0, 1) := by decide +kernel
theorem dX24_doubled_107 : decode cX24_doubled 107 = .ok (.getfield 101, 3) := by decide +kernel
theorem dX24_doubled_110 : decode cX24_doubled 110 = .ok (.aload_n 0, 1) := by decide +kernel
theorem dX24_doubled_111 : decode cX24_doubled 111 = .ok (.getfield 124, 3) := by decide +kernel
theorem dX24_doubled_114 : decode cX24_doubled 114 = .ok (.aload_n 0, 1) := by decide +kernel
theorem dX24_doubled_115 : decode cX24_doubled 115 = .ok (.getfield 124, 3) := by decide +kernel
theorem dX24_doubled_118 : decode cX24_doubled 118 = .ok (.aload_n 0, 1) := by decide +kernel
theorem dX24_doubled_119 : decode cX24_doubled 119 = .ok (.getfield 124, 3) := by decide +kernel
theorem dX24_doubled_122 : decode cX24_doubled 122 = .ok (.invokevirtual 121, 3) := by decide +kernel
theorem dX24_doubled_125 : decode cX24_doubled 125 = .ok (.aload_n 0, 1) := by decide +kernel
theorem dX24_doubled_126 : decode cX24_doubled 126 = .ok (.getfield 101, 3) := by decide +kernel
theorem dX24_doubled_129 : decode cX24_doubled 129 = .ok (.aload_n 0, 1) := by decide +kernel
theorem dX24_doubled_130 : decode cX24_doubled 130 = .ok (.getfield 124, 3) := by decide +kernel
theorem dX24_doubled_133 : decode cX24_doubled 133 = .ok (.aload_n 0, 1) := by decide +kernel
theorem dX24_doubled_134 : decode cX24_doubled 134 = .ok (.getfield 124, 3) := by decide +kernel
theorem dX24_doubled_137 : decode cX24_doubled 137 = .ok (.aload_n 0, 1) := by decide +kernel
theorem dX24_doubled_138 : decode cX24_doubled 138 = .ok (.getfield 124, 3) := by decide +kernel
theorem dX24_doubled_141 : decode cX24_doubled 141 = .ok (.invokevirtual 121, 3) := by decide +kernel
theorem dX24_doubled_144 : decode cX24_doubled 144 = .ok (.aload_n 0, 1) := by decide +kernel
theorem dX24_doubled_145 : decode cX24_doubled 145 = .ok (.getfield 101, 3) := by decide +kernel
theorem dX24_doubled_148 : decode cX24_doubled 148 = .ok (.aload_n 0, 1) := by decide +kernel
theorem dX24_doubled_149 : decode cX24_doubled 149 = .ok (.getfield 124, 3) := by decide +kernel
theorem dX24_doubled_152 : decode cX24_doubled 152 = .ok (.aload_n 0, 1) := by decide +kernel
theorem dX24_doubled_153 : decode cX24_doubled 153 = .ok (.getfield 124, 3) := by decide +kernel
theorem dX24_doubled_156 : decode cX24_doubled 156 = .ok (.aload_n 0, 1) := by decide +kernel
theorem dX24_doubled_157 : decode cX24_doubled 157 = .ok (.getfield 124, 3) := by decide +kernel
theorem dX24_doubled_160 : decode cX24_doubled 160 = .ok (.invokevirtual 121, 3) := by decide +kernel
theorem dX24_doubled_163 : decode cX24_doubled 163 = .ok (.aload_n 0, 1) := by decide +kernel
theorem dX24_doubled_164 : decode cX24_doubled 164 = .ok (.getfield 101, 3) := by decide +kernel
theorem dX24_doubled_167 : decode cX24_doubled 167 = .ok (.aload_n 1, 1) := by decide +kernel
theorem dX24_doubled_168 : decode cX24_doubled 168 = .ok (.getfield 115, 3) := by decide +kernel
theorem dX24_doubled_171 : decode cX24_doubled 171 = .ok (.aload_n 1, 1) := by decide +kernel
theorem dX24_doubled_172 : decode cX24_doubled 172 = .ok (.getfield 115, 3) := by decide +kernel
theorem dX24_doubled_175 : decode cX24_doubled 175 = .ok (.aload_n 0, 1) := by decide +kernel
theorem dX24_doubled_176 : decode cX24_doubled 176 = .ok (.getfield 127, 3) := by decide +kernel
theorem dX24_doubled_179 : decode cX24_doubled 179 = .ok (.invokevirtual 111, 3) := by decide +kernel
theorem dX24_doubled_182 : decode cX24_doubled 182 = .ok (.aload_n 0, 1) := by decide +kernel
theorem dX24_doubled_183 : decode cX24_doubled 183 = .ok (.getfield 101, 3) := by decide +kernel
theorem dX24_doubled_186 : decode cX24_doubled 186 = .ok (.aload_n 0, 1) := by decide +kernel
theorem dX24_doubled_187 : decode cX24_doubled 187 = .ok (.getfield 127, 3) := by decide +kernel
theorem dX24_doubled_190 : decode cX24_doubled 190 = .ok (.aload_n 0, 1) := by decide +kernel
theorem dX24_doubled_191 : decode cX24_doubled 191 = .ok (.getfield 127, 3) := by decide +kernel
theorem dX24_doubled_194 : decode cX24_doubled 194 = .ok (.aload_n 0, 1) := by decide +kernel
theorem dX24_doubled_195 : decode cX24_doubled 195 = .ok (.getfield 130, 3) := by decide +kernel
theorem dX24_doubled_198 : decode cX24_doubled 198 = .ok (.invokevirtual 121, 3) := by decide +kernel
theorem dX24_doubled_201 : decode cX24_doubled 201 = .ok (.aload_n 0, 1) := by decide +kernel
theorem dX24_doubled_202 : decode cX24_doubled 202 = .ok (.getfield 101, 3) := by decide +kernel
theorem dX24_doubled_205 : decode cX24_doubled 205 = .ok (.aload_n 0, 1) := by decide +kernel
theorem dX24_doubled_206 : decode cX24_doubled 206 = .ok (.getfield 127, 3) := by decide +kernel
theorem dX24_doubled_209 : decode cX24_doubled 209 = .ok (.aload_n 0, 1) := by decide +kernel
theorem dX24_doubled_210 : decode cX24_doubled 210 = .ok (.getfield 130, 3) := by decide +kernel
theorem dX24_doubled_213 : decode cX24_doubled 213 = .ok (.aload_n 0, 1) := by decide +kernel
theorem dX24_doubled_214 : decode cX24_doubled 214 = .ok (.getfield 127, 3) := by decide +kernel
theorem dX24_doubled_217 : decode cX24_doubled 217 = .ok (.invokevirtual 121, 3) := by decide +kernel
theorem dX24_doubled_220 : decode cX24_doubled 220 = .ok (.aload_n 0, 1) := by decide +kernel
theorem dX24_doubled_221 : decode cX24_doubled 221 = .ok (.getfield 101, 3) := by decide +kernel
theorem dX24_doubled_224 : decode cX24_doubled 224 = .ok (.aload_n 1, 1) := by decide +kernel
theorem dX24_doubled_225 : decode cX24_doubled 225 = .ok (.getfield 105, 3) := by decide +kernel
theorem dX24_doubled_228 : decode cX24_doubled 228 = .ok (.aload_n 1, 1) := by decide +kernel
theorem dX24_doubled_229 : decode cX24_doubled 229 = .ok (.getfield 90, 3) := by decide +kernel
theorem dX24_doubled_232 : decode cX24_doubled 232 = .ok (.aload_n 1, 1) := by decide +kernel
theorem dX24_doubled_233 : decode cX24_doubled 233 = .ok (.getfield 90, 3) := by decide +kernel
theorem dX24_doubled_236 : decode cX24_doubled 236 = .ok (.invokevirtual 111, 3) := by decide +kernel
theorem dX24_doubled_239 : decode cX24_doubled 239 = .ok (.aload_n 0, 1) := by decide +kernel
theorem dX24_doubled_240 : decode cX24_doubled 240 = .ok (.getfield 101, 3) := by decide +kernel
theorem dX24_doubled_243 : decode cX24_doubled 243 = .ok (.aload_n 1, 1) := by decide +kernel
theorem dX24_doubled_244 : decode cX24_doubled 244 = .ok (.getfield 90, 3) := by decide +kernel
theorem dX24_doubled_247 : decode cX24_doubled 247 = .ok (.aload_n 1, 1) := by decide +kernel
theorem dX24_doubled_248 : decode cX24_doubled 248 = .ok (.getfield 90, 3) := by decide +kernel
theorem dX24_doubled_251 : decode cX24_doubled 251 = .ok (.aload_n 1, 1) := by decide +kernel
theorem dX24_doubled_252 : decode cX24_doubled 252 = .ok (.getfield 90, 3) := by decide +kernel
theorem dX24_doubled_255 : decode cX24_doubled 255 = .ok (.invokevirtual 121, 3) := by decide +kernel
theorem dX24_doubled_258 : decode cX24_doubled 258 = .ok (.aload_n 0, 1) := by decide +kernel
theorem dX24_doubled_259 : decode cX24_doubled 259 = .ok (.getfield 101, 3) := by decide +kernel
theorem dX24_doubled_262 : decode cX24_doubled 262 = .ok (.aload_n 0, 1) := by decide +kernel
theorem dX24_doubled_263 : decode cX24_doubled 263 = .ok (.getfield 127, 3) := by decide +kernel
theorem dX24_doubled_266 : decode cX24_doubled 266 = .ok (.aload_n 0, 1) := by decide +kernel
theorem dX24_doubled_267 : decode cX24_doubled 267 = .ok (.getfield 127, 3) := by decide +kernel
theorem dX24_doubled_270 : decode cX24_doubled 270 = .ok (.aload_n 1, 1) := by decide +kernel
theorem dX24_doubled_271 : decode cX24_doubled 271 = .ok (.getfield 115, 3) := by decide +kernel
theorem dX24_doubled_274 : decode cX24_doubled 274 = .ok (.invokevirtual 111, 3) := by decide +kernel
theorem dX24_doubled_277 : decode cX24_doubled 277 = .ok (.aload_n 0, 1) := by decide +kernel
theorem dX24_doubled_278 : decode cX24_doubled 278 = .ok (.getfield 101, 3) := by decide +kernel
theorem dX24_doubled_281 : decode cX24_doubled 281 = .ok (.aload_n 1, 1) := by decide +kernel
theorem dX24_doubled_282 : decode cX24_doubled 282 = .ok (.getfield 115, 3) := by decide +kernel
theorem dX24_doubled_285 : decode cX24_doubled 285 = .ok (.aload_n 0, 1) := by decide +kernel
theorem dX24_doubled_286 : decode cX24_doubled 286 = .ok (.getfield 118, 3) := by decide +kernel
theorem dX24_doubled_289 : decode cX24_doubled 289 = .ok (.aload_n 1, 1) := by decide +kernel
theorem dX24_doubled_290 : decode cX24_doubled 290 = .ok (.getfield 115, 3) := by decide +kernel
theorem dX24_doubled_293 : decode cX24_doubled 293 = .ok (.invokevirtual 133, 3) := by decide +kernel
theorem dX24_doubled_296 : decode cX24_doubled 296 = .ok (.aload_n 0, 1) := by decide +kernel
theorem dX24_doubled_297 : decode cX24_doubled 297 = .ok (.getfield 101, 3) := by decide +kernel
theorem dX24_doubled_300 : decode cX24_doubled 300 = .ok (.aload_n 1, 1) := by decide +kernel
theorem dX24_doubled_301 : decode cX24_doubled 301 = .ok (.getfield 115, 3) := by decide +kernel
theorem dX24_doubled_304 : decode cX24_doubled 304 = .ok (.aload_n 0, 1) := by decide +kernel
theorem dX24_doubled_305 : decode cX24_doubled 305 = .ok (.getfield 118, 3) := by decide +kernel
theorem dX24_doubled_308 : decode cX24_doubled 308 = .ok (.aload_n 1, 1) := by decide +kernel
theorem dX24_doubled_309 : decode cX24_doubled 309 = .ok (.getfield 115, 3) := by decide +kernel
theorem dX24_doubled_312 : decode cX24_doubled 312 = .ok (.invokevirtual 133, 3) := by decide +kernel
theorem dX24_doubled_315 : decode cX24_doubled 315 = .ok (.aload_n 0, 1) := by decide +kernel
theorem dX24_doubled_316 : decode cX24_doubled 316 = .ok (.getfield 101, 3) := by decide +kernel
theorem dX24_doubled_319 : decode cX24_doubled 319 = .ok (.aload_n 0, 1) := by decide +kernel
theorem dX24_doubled_320 : decode cX24_doubled 320 = .ok (.getfield 118, 3) := by decide +kernel
theorem dX24_doubled_323 : decode cX24_doubled 323 = .ok (.aload_n 1, 1) := by decide +kernel
theorem dX24_doubled_324 : decode cX24_doubled 324 = .ok (.getfield 115, 3) := by decide +kernel
theorem dX24_doubled_327 : decode cX24_doubled 327 = .ok (.aload_n 0, 1) := by decide +kernel
theorem dX24_doubled_328 : decode cX24_doubled 328 = .ok (.getfield 118, 3) := by decide +kernel
theorem dX24_doubled_331 : decode cX24_doubled 331 = .ok (.invokevirtual 133, 3) := by decide +kernel
theorem dX24_doubled_334 : decode cX24_doubled 334 = .ok (.aload_n 0, 1) := by decide +kernel
theorem dX24_doubled_335 : decode cX24_doubled 335 = .ok (.getfield 101, 3) := by decide +kernel
theorem dX24_doubled_338 : decode cX24_doubled 338 = .ok (.aload_n 0, 1) := by decide +kernel
theorem dX24_doubled_339 : decode cX24_doubled 339 = .ok (.getfield 127, 3) := by decide +kernel
theorem dX24_doubled_342 : decode cX24_doubled 342 = .ok (.aload_n 0, 1) := by decide +kernel
theorem dX24_doubled_343 : decode cX24_doubled 343 = .ok (.getfield 118, 3) := by decide +kernel
theorem dX24_doubled_346 : decode cX24_doubled 346 = .ok (.aload_n 1, 1) := by decide +kernel
theorem dX24_doubled_347 : decode cX24_doubled 347 = .ok (.getfield 105, 3) := by decide +kernel
theorem dX24_doubled_350 : decode cX24_doubled 350 = .ok (.invokevirtual 111, 3) := by decide +kernel
theorem dX24_doubled_353 : decode cX24_doubled 353 = .ok (.aload_n 0, 1) := by decide +kernel
theorem dX24_doubled_354 : decode cX24_doubled 354 = .ok (.getfield 101, 3) := by decide +kernel
theorem dX24_doubled_357 : decode cX24_doubled 357 = .ok (.aload_n 1, 1) := by decide +kernel
theorem dX24_doubled_358 : decode cX24_doubled 358 = .ok (.getfield 105, 3) := by decide +kernel
theorem dX24_doubled_361 : decode cX24_doubled 361 = .ok (.aload_n 0, 1) := by decide +kernel
theorem dX24_doubled_362 : decode cX24_doubled 362 = .ok (.getfield 124, 3) := by decide +kernel
theorem dX24_doubled_365 : decode cX24_doubled 365 = .ok (.aload_n 1, 1) := by decide +kernel
theorem dX24_doubled_366 : decode cX24_doubled 366 = .ok (.getfield 105, 3) := by decide +kernel
theorem dX24_doubled_369 : decode cX24_doubled 369 = .ok (.invokevirtual 133, 3) := by decide +kernel
theorem dX24_doubled_372 : decode cX24_doubled 372 = .ok (.return_, 1) := by decide +kernel
/-! CoinJudgeModel.doubled(LCoinJudgeModel$Point;)V -/
set_option maxHeartbeats 4000000 in
theorem sX24_doubled_0 {G : Gx} {d t : Nat} {h0 : AH} {Φ : Out → AH → Prop} (h : AH) (v0 : Nat) (v1 : Nat) (K : h.kd v1 = 25 ∧ ∀ r2 : Nat, r2 = (h.r 25002 v1) → Cw G mX27_isZero d 0 [vR r2] h (kI (fun x3 h4 => ((x3 = 0 → h4.kd v0 = 24 ∧ ∀ r7 : Nat, r7 = (h4.r 24015 v0) → ∀ r9 : Nat, r9 = (h4.r 25001 v1) → ∀ r10 : Nat, r10 = (h4.r 24022 v0) → h4.kd r7 = 27 ∧ Cw G mX27_multiply d 0 [vR r7, vR r9, vR r9, vR r10] h4 (kV (fun h12 => ∀ r18 : Nat, r18 = (h12.r 25000 v1) → ∀ r21 : Nat, r21 = (h12.r 24023 v0) → Cw G mX27_multiply d 0 [vR r7, vR r18, vR r10, vR r21] h12 (kV (fun h23 => Cw G mX27_add d 0 [vR r7, vR r21, vR r21, vR r21] h23 (kV (fun h30 => Cw G mX27_add d 0 [vR r7, vR r21, vR r21, vR r21] h30 (kV (fun h36 => ∀ r43 : Nat, r43 = (h36.r 24024 v0) → Cw G mX27_multiply d 0 [vR r7, vR r10, vR r10, vR r43] h36 (kV (fun h45 => Cw G mX27_add d 0 [vR r7, vR r43, vR r43, vR r43] h45 (kV (fun h52 => Cw G mX27_add d 0 [vR r7, vR r43, vR r43, vR r43] h52 (kV (fun h58 => Cw G mX27_add d 0 [vR r7, vR r43, vR r43, vR r43] h58 (kV (fun h64 => ∀ r83 : Nat, r83 = (h64.r 24025 v0) → Cw G mX27_multiply d 0 [vR r7, vR r18, vR r18, vR r83] h64 (kV (fun h85 => ∀ r91 : Nat, r91 = (h85.r 24026 v0) → Cw G mX27_add d 0 [vR r7, vR r83, vR r83, vR r91] h85 (kV (fun h93 => Cw G mX27_add d 0 [vR r7, vR r83, vR r91, vR r83] h93 (kV (fun h101 => Cw G mX27_multiply d 0 [vR r7, vR r9, vR r2, vR r2] h101 (kV (fun h134 => Cw G mX27_add d 0 [vR r7, vR r2, vR r2, vR r2] h134 (kV (fun h141 => Cw G mX27_multiply d 0 [vR r7, vR r83, vR r83, vR r18] h141 (kV (fun h155 => Cw G mX27_subtract d 0 [vR r7, vR r18, vR r21, vR r18] h155 (kV (fun h173 => Cw G mX27_subtract d 0 [vR r7, vR r18, vR r21, vR r18] h173 (kV (fun h181 => Cw G mX27_subtract d 0 [vR r7, vR r21, vR r18, vR r21] h181 (kV (fun h189 => Cw G mX27_multiply d 0 [vR r7, vR r83, vR r21, vR r9] h189 (kV (fun h206 => Cw G mX27_subtract d 0 [vR r7, vR r9, vR r43, vR r9] h206 (kV (fun h224 => Φ (.inl none) h224) (fun x h => Φ (.inr x) h))) (fun x h => Φ (.inr x) h))) (fun x h => Φ (.inr x) h))) (fun x h => Φ (.inr x) h))) (fun x h => Φ (.inr x) h))) (fun x h => Φ (.inr x) h))) (fun x h => Φ (.inr x) h))) (fun x h => Φ (.inr x) h))) (fun x h => Φ (.inr x) h))) (fun x h => Φ (.inr x) h))) (fun x h => Φ (.inr x) h))) (fun x h => Φ (.inr x) h))) (fun x h => Φ (.inr x) h))) (fun x h => Φ (.inr x) h))) (fun x h => Φ (.inr x) h))) (fun x h => Φ (.inr x) h))) (fun x h => Φ (.inr x) h))) (fun x h => Φ (.inr x) h))) (fun x h => Φ (.inr x) h))) ∧ (¬ x3 = 0 → Φ (.inl none) h4))) (fun x h => Φ (.inr x) h))) : Aw G mX24_doubled (d + 1) t h0 Φ 0 [vR v0, vR v1] [] h := by
  refine r_aload_n (pc := 0) dX24_doubled_0 rfl ?_
  obtain ⟨hk1, K⟩ := K
  have K := K _ rfl
  refine r_getr' (pc := 1) (T := TX25) 25 2 rfl hk1 (Or.inr (Or.inl ⟨_, q2126⟩)) dX24_doubled_1 kc25 g25002 ?_
  refine r_callS_I (pc := 4) (Y := mX27_isZero) (vs := [_]) (st := []) q2636 q2637 q195 dX24_doubled_4 rfl cd_X27_isZero rfl rfl fp_X24_doubled_X27_isZero K (fun x3 h4 eh4 wh4 K => ?_) (fun x h1 _ _ e => Tw.out rfl e)
  refine r_if_eq (pc := 7) (tgt := 11) dX24_doubled_7 rfl (fun c5 => ?_) (fun c5 => ?_)
  · have K := K.1 c5
    refine r_aload_n (pc := 11) dX24_doubled_11 rfl ?_
    obtain ⟨hk6, K⟩ := K
    have K := K _ rfl
    refine r_getr' (pc := 12) (T := TX24) 24 15 rfl hk6 (Or.inl q2713) dX24_doubled_12 kc24 g24015 ?_
    refine r_aload_n (pc := 15) dX24_doubled_15 rfl ?_
    have hk8 := kd_ext eh4 hk1 (nz rfl)
    have K := K _ rfl
    refine r_getr' (pc := 16) (T := TX25) 25 1 rfl hk8 (Or.inr (Or.inl ⟨_, q2124⟩)) dX24_doubled_16 kc25 g25001 ?_
    refine r_aload_n (pc := 19) dX24_doubled_19 rfl ?_
    refine r_getr' (pc := 20) (T := TX25) 25 1 rfl hk8 (Or.inr (Or.inl ⟨_, q2124⟩)) dX24_doubled_20 kc25 g25001 ?_
    refine r_aload_n (pc := 23) dX24_doubled_23 rfl ?_
    have K := K _ rfl
    refine r_getr' (pc := 24) (T := TX24) 24 22 rfl hk6 (Or.inl q2720) dX24_doubled_24 kc24 g24022 ?_
    obtain ⟨hk13, K⟩ := K
    refine r_callV_V (pc := 27) (Y := mX27_multiply) (vs := [_, _, _]) (st := []) hk13 rfl kc27 q2615 q2252 q2253 dX24_doubled_27 rfl cd_X27_multiply rfl rfl fp_X24_doubled_X27_multiply K (fun h12 eh12 wh12 K => ?_) (fun x h1 _ _ e => Tw.out rfl e)
    refine r_aload_n (pc := 30) dX24_doubled_30 rfl ?_
    have hk14 := kd_ext eh12 hk6 (nz rfl)
    have hv15 := fr_self (key := 24015) hk6
    have hv16 := (fr_ext (key := 24015) eh12 hk6 (nz rfl) (ne0 wh12 hk14 (nz rfl)) (nm rfl)).trans hv15
    refine r_getr' (pc := 31) (T := TX24) 24 15 hv16 hk14 (Or.inl q2713) dX24_doubled_31 kc24 g24015 ?_
    refine r_aload_n (pc := 34) dX24_doubled_34 rfl ?_
    have hk17 := kd_ext eh12 hk8 (nz rfl)
    have K := K _ rfl
    refine r_getr' (pc := 35) (T := TX25) 25 0 rfl hk17 (Or.inr (Or.inl ⟨_, q2122⟩)) dX24_doubled_35 kc25 g25000 ?_
    refine r_aload_n (pc := 38) dX24_doubled_38 rfl ?_
    have hv19 := fr_self (key := 24022) hk6
    have hv20 := (fr_ext (key := 24022) eh12 hk6 (nz rfl) (ne0 wh12 hk14 (nz rfl)) (nm rfl)).trans hv19
    refine r_getr' (pc := 39) (T := TX24) 24 22 hv20 hk14 (Or.inl q2720) dX24_doubled_39 kc24 g24022 ?_
    refine r_aload_n (pc := 42) dX24_doubled_42 rfl ?_
    have K := K _ rfl
    refine r_getr' (pc := 43) (T := TX24) 24 23 rfl hk14 (Or.inl q2721) dX24_doubled_43 kc24 g24023 ?_
    have hk24 := kd_ext eh12 hk13 (nz rfl)
    refine r_callV_V (pc := 46) (Y := mX27_multiply) (vs := [_, _, _]) (st := []) hk24 rfl kc27 q2615 q2252 q2253 dX24_doubled_46 rfl cd_X27_multiply rfl rfl fp_X24_doubled_X27_multiply K (fun h23 eh23 wh23 K => ?_) (fun x h1 _ _ e => Tw.out rfl e)
    refine r_aload_n (pc := 49) dX24_doubled_49 rfl ?_
    have hk25 := kd_ext eh23 hk14 (nz rfl)
    have hv26 := (fr_ext (key := 24015) eh23 hk14 (nz rfl) (ne0 wh23 hk25 (nz rfl)) (nm rfl)).trans hv16
    refine r_getr' (pc := 50) (T := TX24) 24 15 hv26 hk25 (Or.inl q2713) dX24_doubled_50 kc24 g24015 ?_
    refine r_aload_n (pc := 53) dX24_doubled_53 rfl ?_
    have hv27 := fr_self (key := 24023) hk14
    have hv28 := (fr_ext (key := 24023) eh23 hk14 (nz rfl) (ne0 wh23 hk25 (nz rfl)) (nm rfl)).trans hv27
    refine r_getr' (pc := 54) (T := TX24) 24 23 hv28 hk25 (Or.inl q2721) dX24_doubled_54 kc24 g24023 ?_
    refine r_aload_n (pc := 57) dX24_doubled_57 rfl ?_
    refine r_getr' (pc := 58) (T := TX24) 24 23 hv28 hk25 (Or.inl q2721) dX24_doubled_58 kc24 g24023 ?_
    refine r_aload_n (pc := 61) dX24_doubled_61 rfl ?_
    refine r_getr' (pc := 62) (T := TX24) 24 23 hv28 hk25 (Or.inl q2721) dX24_doubled_62 kc24 g24023 ?_
    have hk31 := kd_ext eh23 hk24 (nz rfl)
    refine r_callV_V (pc := 65) (Y := mX27_add) (vs := [_, _, _]) (st := []) hk31 rfl kc27 q2616 q2192 q2193 dX24_doubled_65 rfl cd_X27_add rfl rfl fp_X24_doubled_X27_add K (fun h30 eh30 wh30 K => ?_) (fun x h1 _ _ e => Tw.out rfl e)
    refine r_aload_n (pc := 68) dX24_doubled_68 rfl ?_
    have hk32 := kd_ext eh30 hk25 (nz rfl)
    have hv33 := (fr_ext (key := 24015) eh30 hk25 (nz rfl) (ne0 wh30 hk32 (nz rfl)) (nm rfl)).trans hv26
    refine r_getr' (pc := 69) (T := TX24) 24 15 hv33 hk32 (Or.inl q2713) dX24_doubled_69 kc24 g24015 ?_
    refine r_aload_n (pc := 72) dX24_doubled_72 rfl ?_
    have hv34 := (fr_ext (key := 24023) eh30 hk25 (nz rfl) (ne0 wh30 hk32 (nz rfl)) (nm rfl)).trans hv28
    refine r_getr' (pc := 73) (T := TX24) 24 23 hv34 hk32 (Or.inl q2721) dX24_doubled_73 kc24 g24023 ?_
    refine r_aload_n (pc := 76) dX24_doubled_76 rfl ?_
    refine r_getr' (pc := 77) (T := TX24) 24 23 hv34 hk32 (Or.inl q2721) dX24_doubled_77 kc24 g24023 ?_
    refine r_aload_n (pc := 80) dX24_doubled_80 rfl ?_
    refine r_getr' (pc := 81) (T := TX24) 24 23 hv34 hk32 (Or.inl q2721) dX24_doubled_81 kc24 g24023 ?_
    have hk37 := kd_ext eh30 hk31 (nz rfl)
    refine r_callV_V (pc := 84) (Y := mX27_add) (vs := [_, _, _]) (st := []) hk37 rfl kc27 q2616 q2192 q2193 dX24_doubled_84 rfl cd_X27_add rfl rfl fp_X24_doubled_X27_add K (fun h36 eh36 wh36 K => ?_) (fun x h1 _ _ e => Tw.out rfl e)
    refine r_aload_n (pc := 87) dX24_doubled_87 rfl ?_
    have hk38 := kd_ext eh36 hk32 (nz rfl)
    have hv39 := (fr_ext (key := 24015) eh36 hk32 (nz rfl) (ne0 wh36 hk38 (nz rfl)) (nm rfl)).trans hv33
    refine r_getr' (pc := 88) (T := TX24) 24 15 hv39 hk38 (Or.inl q2713) dX24_doubled_88 kc24 g24015 ?_
    refine r_aload_n (pc := 91) dX24_doubled_91 rfl ?_
    have hv40 := (fr_ext (key := 24022) eh23 hk14 (nz rfl) (ne0 wh23 hk25 (nz rfl)) (nm rfl)).trans hv20
    have hv41 := (fr_ext (key := 24022) eh30 hk25 (nz rfl) (ne0 wh30 hk32 (nz rfl)) (nm rfl)).trans hv40
    have hv42 := (fr_ext (key := 24022) eh36 hk32 (nz rfl) (ne0 wh36 hk38 (nz rfl)) (nm rfl)).trans hv41
    refine r_getr' (pc := 92) (T := TX24) 24 22 hv42 hk38 (Or.inl q2720) dX24_doubled_92 kc24 g24022 ?_
    refine r_aload_n (pc := 95) dX24_doubled_95 rfl ?_
    refine r_getr' (pc := 96) (T := TX24) 24 22 hv42 hk38 (Or.inl q2720) dX24_doubled_96 kc24 g24022 ?_
    refine r_aload_n (pc := 99) dX24_doubled_99 rfl ?_
    have K := K _ rfl
    refine r_getr' (pc := 100) (T := TX24) 24 24 rfl hk38 (Or.inl q2722) dX24_doubled_100 kc24 g24024 ?_
    have hk46 := kd_ext eh36 hk37 (nz rfl)
    refine r_callV_V (pc := 103) (Y := mX27_multiply) (vs := [_, _, _]) (st := []) hk46 rfl kc27 q2615 q2252 q2253 dX24_doubled_103 rfl cd_X27_multiply rfl rfl fp_X24_doubled_X27_multiply K (fun h45 eh45 wh45 K => ?_) (fun x h1 _ _ e => Tw.out rfl e)
    refine r_aload_n (pc := 106) dX24_doubled_106 rfl ?_
    have hk47 := kd_ext eh45 hk38 (nz rfl)
    have hv48 := (fr_ext (key := 24015) eh45 hk38 (nz rfl) (ne0 wh45 hk47 (nz rfl)) (nm rfl)).trans hv39
    refine r_getr' (pc := 107) (T := TX24) 24 15 hv48 hk47 (Or.inl q2713) dX24_doubled_107 kc24 g24015 ?_
    refine r_aload_n (pc := 110) dX24_doubled_110 rfl ?_
    have hv49 := fr_self (key := 24024) hk38
    have hv50 := (fr_ext (key := 24024) eh45 hk38 (nz rfl) (ne0 wh45 hk47 (nz rfl)) (nm rfl)).trans hv49
    refine r_getr' (pc := 111) (T := TX24) 24 24 hv50 hk47 (Or.inl q2722) dX24_doubled_111 kc24 g24024 ?_
    refine r_aload_n (pc := 114) dX24_doubled_114 rfl ?_
    refine r_getr' (pc := 115) (T := TX24) 24 24 hv50 hk47 (Or.inl q2722) dX24_doubled_115 kc24 g24024 ?_
    refine r_aload_n (pc := 118) dX24_doubled_118 rfl ?_
    refine r_getr' (pc := 119) (T := TX24) 24 24 hv50 hk47 (Or.inl q2722) dX24_doubled_119 kc24 g24024 ?_
    have hk53 := kd_ext eh45 hk46 (nz rfl)
    refine r_callV_V (pc := 122) (Y := mX27_add) (vs := [_, _, _]) (st := []) hk53 rfl kc27 q2616 q2192 q2193 dX24_doubled_122 rfl cd_X27_add rfl rfl fp_X24_doubled_X27_add K (fun h52 eh52 wh52 K => ?_) (fun x h1 _ _ e => Tw.out rfl e)
    refine r_aload_n (pc := 125) dX24_doubled_125 rfl ?_
    have hk54 := kd_ext eh52 hk47 (nz rfl)
    have hv55 := (fr_ext (key := 24015) eh52 hk47 (nz rfl) (ne0 wh52 hk54 (nz rfl)) (nm rfl)).trans hv48
    refine r_getr' (pc := 126) (T := TX24) 24 15 hv55 hk54 (Or.inl q2713) dX24_doubled_126 kc24 g24015 ?_
    refine r_aload_n (pc := 129) dX24_doubled_129 rfl ?_
    have hv56 := (fr_ext (key := 24024) eh52 hk47 (nz rfl) (ne0 wh52 hk54 (nz rfl)) (nm rfl)).trans hv50
    refine r_getr' (pc := 130) (T := TX24) 24 24 hv56 hk54 (Or.inl q2722) dX24_doubled_130 kc24 g24024 ?_
    refine r_aload_n (pc := 133) dX24_doubled_133 rfl ?_
    refine r_getr' (pc := 134) (T := TX24) 24 24 hv56 hk54 (Or.inl q2722) dX24_doubled_134 kc24 g24024 ?_
    refine r_aload_n (pc := 137) dX24_doubled_137 rfl ?_
    refine r_getr' (pc := 138) (T := TX24) 24 24 hv56 hk54 (Or.inl q2722) dX24_doubled_138 kc24 g24024 ?_
    have hk59 := kd_ext eh52 hk53 (nz rfl)
    refine r_callV_V (pc := 141) (Y := mX27_add) (vs := [_, _, _]) (st := []) hk59 rfl kc27 q2616 q2192 q2193 dX24_doubled_141 rfl cd_X27_add rfl rfl fp_X24_doubled_X27_add K (fun h58 eh58 wh58 K => ?_) (fun x h1 _ _ e => Tw.out rfl e)
    refine r_aload_n (pc := 144) dX24_doubled_144 rfl ?_
    have hk60 := kd_ext eh58 hk54 (nz rfl)
    have hv61 := (fr_ext (key := 24015) eh58 hk54 (nz rfl) (ne0 wh58 hk60 (nz rfl)) (nm rfl)).trans hv55
    refine r_getr' (pc := 145) (T := TX24) 24 15 hv61 hk60 (Or.inl q2713) dX24_doubled_145 kc24 g24015 ?_
    refine r_aload_n (pc := 148) dX24_doubled_148 rfl ?_
    have hv62 := (fr_ext (key := 24024) eh58 hk54 (nz rfl) (ne0 wh58 hk60 (nz rfl)) (nm rfl)).trans hv56
    refine r_getr' (pc := 149) (T := TX24) 24 24 hv62 hk60 (Or.inl q2722) dX24_doubled_149 kc24 g24024 ?_
    refine r_aload_n (pc := 152) dX24_doubled_152 rfl ?_
    refine r_getr' (pc := 153) (T := TX24) 24 24 hv62 hk60 (Or.inl q2722) dX24_doubled_153 kc24 g24024 ?_
    refine r_aload_n (pc := 156) dX24_doubled_156 rfl ?_
    refine r_getr' (pc := 157) (T := TX24) 24 24 hv62 hk60 (Or.inl q2722) dX24_doubled_157 kc24 g24024 ?_
    have hk65 := kd_ext eh58 hk59 (nz rfl)
    refine r_callV_V (pc := 160) (Y := mX27_add) (vs := [_, _, _]) (st := []) hk65 rfl kc27 q2616 q2192 q2193 dX24_doubled_160 rfl cd_X27_add rfl rfl fp_X24_doubled_X27_add K (fun h64 eh64 wh64 K => ?_) (fun x h1 _ _ e => Tw.out rfl e)
    refine r_aload_n (pc := 163) dX24_doubled_163 rfl ?_
    have hk66 := kd_ext eh64 hk60 (nz rfl)
    have hv67 := (fr_ext (key := 24015) eh64 hk60 (nz rfl) (ne0 wh64 hk66 (nz rfl)) (nm rfl)).trans hv61
    refine r_getr' (pc := 164) (T := TX24) 24 15 hv67 hk66 (Or.inl q2713) dX24_doubled_164 kc24 g24015 ?_
    refine r_aload_n (pc := 167) dX24_doubled_167 rfl ?_
    have hk68 := kd_ext eh23 hk17 (nz rfl)
    have hk69 := kd_ext eh30 hk68 (nz rfl)
    have hk70 := kd_ext eh36 hk69 (nz rfl)
    have hk71 := kd_ext eh45 hk70 (nz rfl)
    have hk72 := kd_ext eh52 hk71 (nz rfl)
    have hk73 := kd_ext eh58 hk72 (nz rfl)
    have hk74 := kd_ext eh64 hk73 (nz rfl)
    have hv75 := fr_self (key := 25000) hk17
    have hv76 := (fr_ext (key := 25000) eh23 hk17 (nz rfl) (ne0 wh23 hk68 (nz rfl)) (nm rfl)).trans hv75
    have hv77 := (fr_ext (key := 25000) eh30 hk68 (nz rfl) (ne0 wh30 hk69 (nz rfl)) (nm rfl)).trans hv76
    have hv78 := (fr_ext (key := 25000) eh36 hk69 (nz rfl) (ne0 wh36 hk70 (nz rfl)) (nm rfl)).trans hv77
    have hv79 := (fr_ext (key := 25000) eh45 hk70 (nz rfl) (ne0 wh45 hk71 (nz rfl)) (nm rfl)).trans hv78
    have hv80 := (fr_ext (key := 25000) eh52 hk71 (nz rfl) (ne0 wh52 hk72 (nz rfl)) (nm rfl)).trans hv79
    have hv81 := (fr_ext (key := 25000) eh58 hk72 (nz rfl) (ne0 wh58 hk73 (nz rfl)) (nm rfl)).trans hv80
    have hv82 := (fr_ext (key := 25000) eh64 hk73 (nz rfl) (ne0 wh64 hk74 (nz rfl)) (nm rfl)).trans hv81
    refine r_getr' (pc := 168) (T := TX25) 25 0 hv82 hk74 (Or.inr (Or.inl ⟨_, q2122⟩)) dX24_doubled_168 kc25 g25000 ?_
    refine r_aload_n (pc := 171) dX24_doubled_171 rfl ?_
    refine r_getr' (pc := 172) (T := TX25) 25 0 hv82 hk74 (Or.inr (Or.inl ⟨_, q2122⟩)) dX24_doubled_172 kc25 g25000 ?_
    refine r_aload_n (pc := 175) dX24_doubled_175 rfl ?_
    have K := K _ rfl
    refine r_getr' (pc := 176) (T := TX24) 24 25 rfl hk66 (Or.inl q2723) dX24_doubled_176 kc24 g24025 ?_
    have hk86 := kd_ext eh64 hk65 (nz rfl)
    refine r_callV_V (pc := 179) (Y := mX27_multiply) (vs := [_, _, _]) (st := []) hk86 rfl kc27 q2615 q2252 q2253 dX24_doubled_179 rfl cd_X27_multiply rfl rfl fp_X24_doubled_X27_multiply K (fun h85 eh85 wh85 K => ?_) (fun x h1 _ _ e => Tw.out rfl e)
    refine r_aload_n (pc := 182) dX24_doubled_182 rfl ?_
    have hk87 := kd_ext eh85 hk66 (nz rfl)
    have hv88 := (fr_ext (key := 24015) eh85 hk66 (nz rfl) (ne0 wh85 hk87 (nz rfl)) (nm rfl)).trans hv67
    refine r_getr' (pc := 183) (T := TX24) 24 15 hv88 hk87 (Or.inl q2713) dX24_doubled_183 kc24 g24015 ?_
    refine r_aload_n (pc := 186) dX24_doubled_186 rfl ?_
    have hv89 := fr_self (key := 24025) hk66
    have hv90 := (fr_ext (key := 24025) eh85 hk66 (nz rfl) (ne0 wh85 hk87 (nz rfl)) (nm rfl)).trans hv89
    refine r_getr' (pc := 187) (T := TX24) 24 25 hv90 hk87 (Or.inl q2723) dX24_doubled_187 kc24 g24025 ?_
    refine r_aload_n (pc := 190) dX24_doubled_190 rfl ?_
    refine r_getr' (pc := 191) (T := TX24) 24 25 hv90 hk87 (Or.inl q2723) dX24_doubled_191 kc24 g24025 ?_
    refine r_aload_n (pc := 194) dX24_doubled_194 rfl ?_
    have K := K _ rfl
    refine r_getr' (pc := 195) (T := TX24) 24 26 rfl hk87 (Or.inl q2724) dX24_doubled_195 kc24 g24026 ?_
    have hk94 := kd_ext eh85 hk86 (nz rfl)
    refine r_callV_V (pc := 198) (Y := mX27_add) (vs := [_, _, _]) (st := []) hk94 rfl kc27 q2616 q2192 q2193 dX24_doubled_198 rfl cd_X27_add rfl rfl fp_X24_doubled_X27_add K (fun h93 eh93 wh93 K => ?_) (fun x h1 _ _ e => Tw.out rfl e)
    refine r_aload_n (pc := 201) dX24_doubled_201 rfl ?_
    have hk95 := kd_ext eh93 hk87 (nz rfl)
    have hv96 := (fr_ext (key := 24015) eh93 hk87 (nz rfl) (ne0 wh93 hk95 (nz rfl)) (nm rfl)).trans hv88
    refine r_getr' (pc := 202) (T := TX24) 24 15 hv96 hk95 (Or.inl q2713) dX24_doubled_202 kc24 g24015 ?_
    refine r_aload_n (pc := 205) dX24_doubled_205 rfl ?_
    have hv97 := (fr_ext (key := 24025) eh93 hk87 (nz rfl) (ne0 wh93 hk95 (nz rfl)) (nm rfl)).trans hv90
    refine r_getr' (pc := 206) (T := TX24) 24 25 hv97 hk95 (Or.inl q2723) dX24_doubled_206 kc24 g24025 ?_
    refine r_aload_n (pc := 209) dX24_doubled_209 rfl ?_
    have hv98 := fr_self (key := 24026) hk87
    have hv99 := (fr_ext (key := 24026) eh93 hk87 (nz rfl) (ne0 wh93 hk95 (nz rfl)) (nm rfl)).trans hv98
    refine r_getr' (pc := 210) (T := TX24) 24 26 hv99 hk95 (Or.inl q2724) dX24_doubled_210 kc24 g24026 ?_
    refine r_aload_n (pc := 213) dX24_doubled_213 rfl ?_
    refine r_getr' (pc := 214) (T := TX24) 24 25 hv97 hk95 (Or.inl q2723) dX24_doubled_214 kc24 g24025 ?_
    have hk102 := kd_ext eh93 hk94 (nz rfl)
    refine r_callV_V (pc := 217) (Y := mX27_add) (vs := [_, _, _]) (st := []) hk102 rfl kc27 q2616 q2192 q2193 dX24_doubled_217 rfl cd_X27_add rfl rfl fp_X24_doubled_X27_add K (fun h101 eh101 wh101 K => ?_) (fun x h1 _ _ e => Tw.out rfl e)
    refine r_aload_n (pc := 220) dX24_doubled_220 rfl ?_
    have hk103 := kd_ext eh101 hk95 (nz rfl)
    have hv104 := (fr_ext (key := 24015) eh101 hk95 (nz rfl) (ne0 wh101 hk103 (nz rfl)) (nm rfl)).trans hv96
    refine r_getr' (pc := 221) (T := TX24) 24 15 hv104 hk103 (Or.inl q2713) dX24_doubled_221 kc24 g24015 ?_
    refine r_aload_n (pc := 224) dX24_doubled_224 rfl ?_
    have hk105 := kd_ext eh85 hk74 (nz rfl)
    have hk106 := kd_ext eh93 hk105 (nz rfl)
    have hk107 := kd_ext eh101 hk106 (nz rfl)
    have hv108 := fr_self (key := 25001) hk8
    have hv109 := (fr_ext (key := 25001) eh12 hk8 (nz rfl) (ne0 wh12 hk17 (nz rfl)) (nm rfl)).trans hv108
    have hv110 := (fr_ext (key := 25001) eh23 hk17 (nz rfl) (ne0 wh23 hk68 (nz rfl)) (nm rfl)).trans hv109
    have hv111 := (fr_ext (key := 25001) eh30 hk68 (nz rfl) (ne0 wh30 hk69 (nz rfl)) (nm rfl)).trans hv110
    have hv112 := (fr_ext (key := 25001) eh36 hk69 (nz rfl) (ne0 wh36 hk70 (nz rfl)) (nm rfl)).trans hv111
    have hv113 := (fr_ext (key := 25001) eh45 hk70 (nz rfl) (ne0 wh45 hk71 (nz rfl)) (nm rfl)).trans hv112
    have hv114 := (fr_ext (key := 25001) eh52 hk71 (nz rfl) (ne0 wh52 hk72 (nz rfl)) (nm rfl)).trans hv113
    have hv115 := (fr_ext (key := 25001) eh58 hk72 (nz rfl) (ne0 wh58 hk73 (nz rfl)) (nm rfl)).trans hv114
    have hv116 := (fr_ext (key := 25001) eh64 hk73 (nz rfl) (ne0 wh64 hk74 (nz rfl)) (nm rfl)).trans hv115
    have hv117 := (fr_ext (key := 25001) eh85 hk74 (nz rfl) (ne0 wh85 hk105 (nz rfl)) (nm rfl)).trans hv116
    have hv118 := (fr_ext (key := 25001) eh93 hk105 (nz rfl) (ne0 wh93 hk106 (nz rfl)) (nm rfl)).trans hv117
    have hv119 := (fr_ext (key := 25001) eh101 hk106 (nz rfl) (ne0 wh101 hk107 (nz rfl)) (nm rfl)).trans hv118
    refine r_getr' (pc := 225) (T := TX25) 25 1 hv119 hk107 (Or.inr (Or.inl ⟨_, q2124⟩)) dX24_doubled_225 kc25 g25001 ?_
    refine r_aload_n (pc := 228) dX24_doubled_228 rfl ?_
    have hv120 := fr_self (key := 25002) hk1
    have hv121 := (fr_ext (key := 25002) eh4 hk1 (nz rfl) (ne0 wh4 hk8 (nz rfl)) (nm rfl)).trans hv120
    have hv122 := (fr_ext (key := 25002) eh12 hk8 (nz rfl) (ne0 wh12 hk17 (nz rfl)) (nm rfl)).trans hv121
    have hv123 := (fr_ext (key := 25002) eh23 hk17 (nz rfl) (ne0 wh23 hk68 (nz rfl)) (nm rfl)).trans hv122
    have hv124 := (fr_ext (key := 25002) eh30 hk68 (nz rfl) (ne0 wh30 hk69 (nz rfl)) (nm rfl)).trans hv123
    have hv125 := (fr_ext (key := 25002) eh36 hk69 (nz rfl) (ne0 wh36 hk70 (nz rfl)) (nm rfl)).trans hv124
    have hv126 := (fr_ext (key := 25002) eh45 hk70 (nz rfl) (ne0 wh45 hk71 (nz rfl)) (nm rfl)).trans hv125
    have hv127 := (fr_ext (key := 25002) eh52 hk71 (nz rfl) (ne0 wh52 hk72 (nz rfl)) (nm rfl)).trans hv126
    have hv128 := (fr_ext (key := 25002) eh58 hk72 (nz rfl) (ne0 wh58 hk73 (nz rfl)) (nm rfl)).trans hv127
    have hv129 := (fr_ext (key := 25002) eh64 hk73 (nz rfl) (ne0 wh64 hk74 (nz rfl)) (nm rfl)).trans hv128
    have hv130 := (fr_ext (key := 25002) eh85 hk74 (nz rfl) (ne0 wh85 hk105 (nz rfl)) (nm rfl)).trans hv129
    have hv131 := (fr_ext (key := 25002) eh93 hk105 (nz rfl) (ne0 wh93 hk106 (nz rfl)) (nm rfl)).trans hv130
    have hv132 := (fr_ext (key := 25002) eh101 hk106 (nz rfl) (ne0 wh101 hk107 (nz rfl)) (nm rfl)).trans hv131
    refine r_getr' (pc := 229) (T := TX25) 25 2 hv132 hk107 (Or.inr (Or.inl ⟨_, q2126⟩)) dX24_doubled_229 kc25 g25002 ?_
    refine r_aload_n (pc := 232) dX24_doubled_232 rfl ?_
    refine r_getr' (pc := 233) (T := TX25) 25 2 hv132 hk107 (Or.inr (Or.inl ⟨_, q2126⟩)) dX24_doubled_233 kc25 g25002 ?_
    have hk135 := kd_ext eh101 hk102 (nz rfl)
    refine r_callV_V (pc := 236) (Y := mX27_multiply) (vs := [_, _, _]) (st := []) hk135 rfl kc27 q2615 q2252 q2253 dX24_doubled_236 rfl cd_X27_multiply rfl rfl fp_X24_doubled_X27_multiply K (fun h134 eh134 wh134 K => ?_) (fun x h1 _ _ e => Tw.out rfl e)
    refine r_aload_n (pc := 239) dX24_doubled_239 rfl ?_
    have hk136 := kd_ext eh134 hk103 (nz rfl)
    have hv137 := (fr_ext (key := 24015) eh134 hk103 (nz rfl) (ne0 wh134 hk136 (nz rfl)) (nm rfl)).trans hv104
    refine r_getr' (pc := 240) (T := TX24) 24 15 hv137 hk136 (Or.inl q2713) dX24_doubled_240 kc24 g24015 ?_
    refine r_aload_n (pc := 243) dX24_doubled_243 rfl ?_
    have hk138 := kd_ext eh134 hk107 (nz rfl)
    have hv139 := (fr_ext (key := 25002) eh134 hk107 (nz rfl) (ne0 wh134 hk138 (nz rfl)) (nm rfl)).trans hv132
    refine r_getr' (pc := 244) (T := TX25) 25 2 hv139 hk138 (Or.inr (Or.inl ⟨_, q2126⟩)) dX24_doubled_244 kc25 g25002 ?_
    refine r_aload_n (pc := 247) dX24_doubled_247 rfl ?_
    refine r_getr' (pc := 248) (T := TX25) 25 2 hv139 hk138 (Or.inr (Or.inl ⟨_, q2126⟩)) dX24_doubled_248 kc25 g25002 ?_
    refine r_aload_n (pc := 251) dX24_doubled_251 rfl ?_
    refine r_getr' (pc := 252) (T := TX25) 25 2 hv139 hk138 (Or.inr (Or.inl ⟨_, q2126⟩)) dX24_doubled_252 kc25 g25002 ?_
    have hk142 := kd_ext eh134 hk135 (nz rfl)
    refine r_callV_V (pc := 255) (Y := mX27_add) (vs := [_, _, _]) (st := []) hk142 rfl kc27 q2616 q2192 q2193 dX24_doubled_255 rfl cd_X27_add rfl rfl fp_X24_doubled_X27_add K (fun h141 eh141 wh141 K => ?_) (fun x h1 _ _ e => Tw.out rfl e)
    refine r_aload_n (pc := 258) dX24_doubled_258 rfl ?_
    have hk143 := kd_ext eh141 hk136 (nz rfl)
    have hv144 := (fr_ext (key := 24015) eh141 hk136 (nz rfl) (ne0 wh141 hk143 (nz rfl)) (nm rfl)).trans hv137
    refine r_getr' (pc := 259) (T := TX24) 24 15 hv144 hk143 (Or.inl q2713) dX24_doubled_259 kc24 g24015 ?_
    refine r_aload_n (pc := 262) dX24_doubled_262 rfl ?_
    have hv145 := (fr_ext (key := 24025) eh101 hk95 (nz rfl) (ne0 wh101 hk103 (nz rfl)) (nm rfl)).trans hv97
    have hv146 := (fr_ext (key := 24025) eh134 hk103 (nz rfl) (ne0 wh134 hk136 (nz rfl)) (nm rfl)).trans hv145
    have hv147 := (fr_ext (key := 24025) eh141 hk136 (nz rfl) (ne0 wh141 hk143 (nz rfl)) (nm rfl)).trans hv146
    refine r_getr' (pc := 263) (T := TX24) 24 25 hv147 hk143 (Or.inl q2723) dX24_doubled_263 kc24 g24025 ?_
    refine r_aload_n (pc := 266) dX24_doubled_266 rfl ?_
    refine r_getr' (pc := 267) (T := TX24) 24 25 hv147 hk143 (Or.inl q2723) dX24_doubled_267 kc24 g24025 ?_
    refine r_aload_n (pc := 270) dX24_doubled_270 rfl ?_
    have hk148 := kd_ext eh141 hk138 (nz rfl)
    have hv149 := (fr_ext (key := 25000) eh85 hk74 (nz rfl) (ne0 wh85 hk105 (nz rfl)) (nm rfl)).trans hv82
    have hv150 := (fr_ext (key := 25000) eh93 hk105 (nz rfl) (ne0 wh93 hk106 (nz rfl)) (nm rfl)).trans hv149
    have hv151 := (fr_ext (key := 25000) eh101 hk106 (nz rfl) (ne0 wh101 hk107 (nz rfl)) (nm rfl)).trans hv150
    have hv152 := (fr_ext (key := 25000) eh134 hk107 (nz rfl) (ne0 wh134 hk138 (nz rfl)) (nm rfl)).trans hv151
    have hv153 := (fr_ext (key := 25000) eh141 hk138 (nz rfl) (ne0 wh141 hk148 (nz rfl)) (nm rfl)).trans hv152
    refine r_getr' (pc := 271) (T := TX25) 25 0 hv153 hk148 (Or.inr (Or.inl ⟨_, q2122⟩)) dX24_doubled_271 kc25 g25000 ?_
    have hk156 := kd_ext eh141 hk142 (nz rfl)
    refine r_callV_V (pc := 274) (Y := mX27_multiply) (vs := [_, _, _]) (st := []) hk156 rfl kc27 q2615 q2252 q2253 dX24_doubled_274 rfl cd_X27_multiply rfl rfl fp_X24_doubled_X27_multiply K (fun h155 eh155 wh155 K => ?_) (fun x h1 _ _ e => Tw.out rfl e)
    refine r_aload_n (pc := 277) dX24_doubled_277 rfl ?_
    have hk157 := kd_ext eh155 hk143 (nz rfl)
    have hv158 := (fr_ext (key := 24015) eh155 hk143 (nz rfl) (ne0 wh155 hk157 (nz rfl)) (nm rfl)).trans hv144
    refine r_getr' (pc := 278) (T := TX24) 24 15 hv158 hk157 (Or.inl q2713) dX24_doubled_278 kc24 g24015 ?_
    refine r_aload_n (pc := 281) dX24_doubled_281 rfl ?_
    have hk159 := kd_ext eh155 hk148 (nz rfl)
    have hv160 := (fr_ext (key := 25000) eh155 hk148 (nz rfl) (ne0 wh155 hk159 (nz rfl)) (nm rfl)).trans hv153
    refine r_getr' (pc := 282) (T := TX25) 25 0 hv160 hk159 (Or.inr (Or.inl ⟨_, q2122⟩)) dX24_doubled_282 kc25 g25000 ?_
    refine r_aload_n (pc := 285) dX24_doubled_285 rfl ?_
    have hv161 := (fr_ext (key := 24023) eh36 hk32 (nz rfl) (ne0 wh36 hk38 (nz rfl)) (nm rfl)).trans hv34
    have hv162 := (fr_ext (key := 24023) eh45 hk38 (nz rfl) (ne0 wh45 hk47 (nz rfl)) (nm rfl)).trans hv161
    have hv163 := (fr_ext (key := 24023) eh52 hk47 (nz rfl) (ne0 wh52 hk54 (nz rfl)) (nm rfl)).trans hv162
    have hv164 := (fr_ext (key := 24023) eh58 hk54 (nz rfl) (ne0 wh58 hk60 (nz rfl)) (nm rfl)).trans hv163
    have hv165 := (fr_ext (key := 24023) eh64 hk60 (nz rfl) (ne0 wh64 hk66 (nz rfl)) (nm rfl)).trans hv164
    have hv166 := (fr_ext (key := 24023) eh85 hk66 (nz rfl) (ne0 wh85 hk87 (nz rfl)) (nm rfl)).trans hv165
    have hv167 := (fr_ext (key := 24023) eh93 hk87 (nz rfl) (ne0 wh93 hk95 (nz rfl)) (nm rfl)).trans hv166
    have hv168 := (fr_ext (key := 24023) eh101 hk95 (nz rfl) (ne0 wh101 hk103 (nz rfl)) (nm rfl)).trans hv167
    have hv169 := (fr_ext (key := 24023) eh134 hk103 (nz rfl) (ne0 wh134 hk136 (nz rfl)) (nm rfl)).trans hv168
    have hv170 := (fr_ext (key := 24023) eh141 hk136 (nz rfl) (ne0 wh141 hk143 (nz rfl)) (nm rfl)).trans hv169
    have hv171 := (fr_ext (key := 24023) eh155 hk143 (nz rfl) (ne0 wh155 hk157 (nz rfl)) (nm rfl)).trans hv170
    refine r_getr' (pc := 286) (T := TX24) 24 23 hv171 hk157 (Or.inl q2721) dX24_doubled_286 kc24 g24023 ?_
    refine r_aload_n (pc := 289) dX24_doubled_289 rfl ?_
    refine r_getr' (pc := 290) (T := TX25) 25 0 hv160 hk159 (Or.inr (Or.inl ⟨_, q2122⟩)) dX24_doubled_290 kc25 g25000 ?_
    have hk174 := kd_ext eh155 hk156 (nz rfl)
    refine r_callV_V (pc := 293) (Y := mX27_subtract) (vs := [_, _, _]) (st := []) hk174 rfl kc27 q2628 q2629 q2630 dX24_doubled_293 rfl cd_X27_subtract rfl rfl fp_X24_doubled_X27_subtract K (fun h173 eh173 wh173 K => ?_) (fun x h1 _ _ e => Tw.out rfl e)
    refine r_aload_n (pc := 296) dX24_doubled_296 rfl ?_
    have hk175 := kd_ext eh173 hk157 (nz rfl)
    have hv176 := (fr_ext (key := 24015) eh173 hk157 (nz rfl) (ne0 wh173 hk175 (nz rfl)) (nm rfl)).trans hv158
    refine r_getr' (pc := 297) (T := TX24) 24 15 hv176 hk175 (Or.inl q2713) dX24_doubled_297 kc24 g24015 ?_
    refine r_aload_n (pc := 300) dX24_doubled_300 rfl ?_
    have hk177 := kd_ext eh173 hk159 (nz rfl)
    have hv178 := (fr_ext (key := 25000) eh173 hk159 (nz rfl) (ne0 wh173 hk177 (nz rfl)) (nm rfl)).trans hv160
    refine r_getr' (pc := 301) (T := TX25) 25 0 hv178 hk177 (Or.inr (Or.inl ⟨_, q2122⟩)) dX24_doubled_301 kc25 g25000 ?_
    refine r_aload_n (pc := 304) dX24_doubled_304 rfl ?_
    have hv179 := (fr_ext (key := 24023) eh173 hk157 (nz rfl) (ne0 wh173 hk175 (nz rfl)) (nm rfl)).trans hv171
    refine r_getr' (pc := 305) (T := TX24) 24 23 hv179 hk175 (Or.inl q2721) dX24_doubled_305 kc24 g24023 ?_
    refine r_aload_n (pc := 308) dX24_doubled_308 rfl ?_
    refine r_getr' (pc := 309) (T := TX25) 25 0 hv178 hk177 (Or.inr (Or.inl ⟨_, q2122⟩)) dX24_doubled_309 kc25 g25000 ?_
    have hk182 := kd_ext eh173 hk174 (nz rfl)
    refine r_callV_V (pc := 312) (Y := mX27_subtract) (vs := [_, _, _]) (st := []) hk182 rfl kc27 q2628 q2629 q2630 dX24_doubled_312 rfl cd_X27_subtract rfl rfl fp_X24_doubled_X27_subtract K (fun h181 eh181 wh181 K => ?_) (fun x h1 _ _ e => Tw.out rfl e)
    refine r_aload_n (pc := 315) dX24_doubled_315 rfl ?_
    have hk183 := kd_ext eh181 hk175 (nz rfl)
    have hv184 := (fr_ext (key := 24015) eh181 hk175 (nz rfl) (ne0 wh181 hk183 (nz rfl)) (nm rfl)).trans hv176
    refine r_getr' (pc := 316) (T := TX24) 24 15 hv184 hk183 (Or.inl q2713) dX24_doubled_316 kc24 g24015 ?_
    refine r_aload_n (pc := 319) dX24_doubled_319 rfl ?_
    have hv185 := (fr_ext (key := 24023) eh181 hk175 (nz rfl) (ne0 wh181 hk183 (nz rfl)) (nm rfl)).trans hv179
    refine r_getr' (pc := 320) (T := TX24) 24 23 hv185 hk183 (Or.inl q2721) dX24_doubled_320 kc24 g24023 ?_
    refine r_aload_n (pc := 323) dX24_doubled_323 rfl ?_
    have hk186 := kd_ext eh181 hk177 (nz rfl)
    have hv187 := (fr_ext (key := 25000) eh181 hk177 (nz rfl) (ne0 wh181 hk186 (nz rfl)) (nm rfl)).trans hv178
    refine r_getr' (pc := 324) (T := TX25) 25 0 hv187 hk186 (Or.inr (Or.inl ⟨_, q2122⟩)) dX24_doubled_324 kc25 g25000 ?_
    refine r_aload_n (pc := 327) dX24_doubled_327 rfl ?_
    refine r_getr' (pc := 328) (T := TX24) 24 23 hv185 hk183 (Or.inl q2721) dX24_doubled_328 kc24 g24023 ?_
    have hk190 := kd_ext eh181 hk182 (nz rfl)
    refine r_callV_V (pc := 331) (Y := mX27_subtract) (vs := [_, _, _]) (st := []) hk190 rfl kc27 q2628 q2629 q2630 dX24_doubled_331 rfl cd_X27_subtract rfl rfl fp_X24_doubled_X27_subtract K (fun h189 eh189 wh189 K => ?_) (fun x h1 _ _ e => Tw.out rfl e)
    refine r_aload_n (pc := 334) dX24_doubled_334 rfl ?_
    have hk191 := kd_ext eh189 hk183 (nz rfl)
    have hv192 := (fr_ext (key := 24015) eh189 hk183 (nz rfl) (ne0 wh189 hk191 (nz rfl)) (nm rfl)).trans hv184
    refine r_getr' (pc := 335) (T := TX24) 24 15 hv192 hk191 (Or.inl q2713) dX24_doubled_335 kc24 g24015 ?_
    refine r_aload_n (pc := 338) dX24_doubled_338 rfl ?_
    have hv193 := (fr_ext (key := 24025) eh155 hk143 (nz rfl) (ne0 wh155 hk157 (nz rfl)) (nm rfl)).trans hv147
    have hv194 := (fr_ext (key := 24025) eh173 hk157 (nz rfl) (ne0 wh173 hk175 (nz rfl)) (nm rfl)).trans hv193
    have hv195 := (fr_ext (key := 24025) eh181 hk175 (nz rfl) (ne0 wh181 hk183 (nz rfl)) (nm rfl)).trans hv194
    have hv196 := (fr_ext (key := 24025) eh189 hk183 (nz rfl) (ne0 wh189 hk191 (nz rfl)) (nm rfl)).trans hv195
    refine r_getr' (pc := 339) (T := TX24) 24 25 hv196 hk191 (Or.inl q2723) dX24_doubled_339 kc24 g24025 ?_
    refine r_aload_n (pc := 342) dX24_doubled_342 rfl ?_
    have hv197 := (fr_ext (key := 24023) eh189 hk183 (nz rfl) (ne0 wh189 hk191 (nz rfl)) (nm rfl)).trans hv185
    refine r_getr' (pc := 343) (T := TX24) 24 23 hv197 hk191 (Or.inl q2721) dX24_doubled_343 kc24 g24023 ?_
    refine r_aload_n (pc := 346) dX24_doubled_346 rfl ?_
    have hk198 := kd_ext eh189 hk186 (nz rfl)
    have hv199 := (fr_ext (key := 25001) eh134 hk107 (nz rfl) (ne0 wh134 hk138 (nz rfl)) (nm rfl)).trans hv119
    have hv200 := (fr_ext (key := 25001) eh141 hk138 (nz rfl) (ne0 wh141 hk148 (nz rfl)) (nm rfl)).trans hv199
    have hv201 := (fr_ext (key := 25001) eh155 hk148 (nz rfl) (ne0 wh155 hk159 (nz rfl)) (nm rfl)).trans hv200
    have hv202 := (fr_ext (key := 25001) eh173 hk159 (nz rfl) (ne0 wh173 hk177 (nz rfl)) (nm rfl)).trans hv201
    have hv203 := (fr_ext (key := 25001) eh181 hk177 (nz rfl) (ne0 wh181 hk186 (nz rfl)) (nm rfl)).trans hv202
    have hv204 := (fr_ext (key := 25001) eh189 hk186 (nz rfl) (ne0 wh189 hk198 (nz rfl)) (nm rfl)).trans hv203
    refine r_getr' (pc := 347) (T := TX25) 25 1 hv204 hk198 (Or.inr (Or.inl ⟨_, q2124⟩)) dX24_doubled_347 kc25 g25001 ?_
    have hk207 := kd_ext eh189 hk190 (nz rfl)
    refine r_callV_V (pc := 350) (Y := mX27_multiply) (vs := [_, _, _]) (st := []) hk207 rfl kc27 q2615 q2252 q2253 dX24_doubled_350 rfl cd_X27_multiply rfl rfl fp_X24_doubled_X27_multiply K (fun h206 eh206 wh206 K => ?_) (fun x h1 _ _ e => Tw.out rfl e)
    refine r_aload_n (pc := 353) dX24_doubled_353 rfl ?_
    have hk208 := kd_ext eh206 hk191 (nz rfl)
    have hv209 := (fr_ext (key := 24015) eh206 hk191 (nz rfl) (ne0 wh206 hk208 (nz rfl)) (nm rfl)).trans hv192
    refine r_getr' (pc := 354) (T := TX24) 24 15 hv209 hk208 (Or.inl q2713) dX24_doubled_354 kc24 g24015 ?_
    refine r_aload_n (pc := 357) dX24_doubled_357 rfl ?_
    have hk210 := kd_ext eh206 hk198 (nz rfl)
    have hv211 := (fr_ext (key := 25001) eh206 hk198 (nz rfl) (ne0 wh206 hk210 (nz rfl)) (nm rfl)).trans hv204
    refine r_getr' (pc := 358) (T := TX25) 25 1 hv211 hk210 (Or.inr (Or.inl ⟨_, q2124⟩)) dX24_doubled_358 kc25 g25001 ?_
    refine r_aload_n (pc := 361) dX24_doubled_361 rfl ?_
    have hv212 := (fr_ext (key := 24024) eh64 hk60 (nz rfl) (ne0 wh64 hk66 (nz rfl)) (nm rfl)).trans hv62
    have hv213 := (fr_ext (key := 24024) eh85 hk66 (nz rfl) (ne0 wh85 hk87 (nz rfl)) (nm rfl)).trans hv212
    have hv214 := (fr_ext (key := 24024) eh93 hk87 (nz rfl) (ne0 wh93 hk95 (nz rfl)) (nm rfl)).trans hv213
    have hv215 := (fr_ext (key := 24024) eh101 hk95 (nz rfl) (ne0 wh101 hk103 (nz rfl)) (nm rfl)).trans hv214
    have hv216 := (fr_ext (key := 24024) eh134 hk103 (nz rfl) (ne0 wh134 hk136 (nz rfl)) (nm rfl)).trans hv215
    have hv217 := (fr_ext (key := 24024) eh141 hk136 (nz rfl) (ne0 wh141 hk143 (nz rfl)) (nm rfl)).trans hv216
    have hv218 := (fr_ext (key := 24024) eh155 hk143 (nz rfl) (ne0 wh155 hk157 (nz rfl)) (nm rfl)).trans hv217
    have hv219 := (fr_ext (key := 24024) eh173 hk157 (nz rfl) (ne0 wh173 hk175 (nz rfl)) (nm rfl)).trans hv218
    have hv220 := (fr_ext (key := 24024) eh181 hk175 (nz rfl) (ne0 wh181 hk183 (nz rfl)) (nm rfl)).trans hv219
    have hv221 := (fr_ext (key := 24024) eh189 hk183 (nz rfl) (ne0 wh189 hk191 (nz rfl)) (nm rfl)).trans hv220
    have hv222 := (fr_ext (key := 24024) eh206 hk191 (nz rfl) (ne0 wh206 hk208 (nz rfl)) (nm rfl)).trans hv221
    refine r_getr' (pc := 362) (T := TX24) 24 24 hv222 hk208 (Or.inl q2722) dX24_doubled_362 kc24 g24024 ?_
    refine r_aload_n (pc := 365) dX24_doubled_365 rfl ?_
    refine r_getr' (pc := 366) (T := TX25) 25 1 hv211 hk210 (Or.inr (Or.inl ⟨_, q2124⟩)) dX24_doubled_366 kc25 g25001 ?_
    have hk225 := kd_ext eh206 hk207 (nz rfl)
    refine r_callV_V (pc := 369) (Y := mX27_subtract) (vs := [_, _, _]) (st := []) hk225 rfl kc27 q2628 q2629 q2630 dX24_doubled_369 rfl cd_X27_subtract rfl rfl fp_X24_doubled_X27_subtract K (fun h224 eh224 wh224 K => ?_) (fun x h1 _ _ e => Tw.out rfl e)
    exact r_vret (pc := 372) rfl dX24_doubled_372 K
  · have K := K.2 c5
    exact r_vret (pc := 10) rfl dX24_doubled_10 K
theorem eX24_doubled {G : Gx} {d : Nat} {Φ : Out → AH → Prop} (h : AH) (v0 : Nat) (v1 : Nat) (K : WF G h → Aw G mX24_doubled (d + 1) 0 h Φ 0 [vR v0, vR v1] [] h) : Cw G mX24_doubled (d + 1) 0 [vR v0, vR v1] h Φ := Cw.of rfl K
theorem dX24_plus_0 : decode cX24_plus 0 = .ok (.aload_n 2, 1) := by decide +kernel
theorem dX24_plus_1 : decode cX24_plus 1 = .ok (.getfield 90, 3) := by decide +kernel
theorem dX24_plus_4 : decode cX24_plus 4 = .ok (.invokestatic 95, 3) := by decide +kernel
theorem dX24_plus_7 : decode cX24_plus 7 = .ok (.ifCond .eq 4, 3) := by decide +kernel
theorem dX24_plus_10 : decode cX24_plus 10 = .ok (.return_, 1) := by decide +kernel
theorem dX24_plus_11 : decode cX24_plus 11 = .ok (.aload_n 1, 1) := by decide +kernel
theorem dX24_plus_12 : decode cX24_plus 12 = .ok (.getfield 90, 3) := by decide +kernel
theorem dX24_plus_15 : decode cX24_plus 15 = .ok (.invokestatic 95, 3) := by decide +kernel
theorem dX24_plus_18 : decode cX24_plus 18 = .ok (.ifCond .eq 9, 3) := by decide +kernel
theorem dX24_plus_21 : decode cX24_plus 21 = .ok (.aload_n 1, 1) := by decide +kernel
theorem dX24_plus_22 : decode cX24_plus 22 = .ok (.aload_n 2, 1) := by decide +kernel
theorem dX24_plus_23 : decode cX24_plus 23 = .ok (.invokevirtual 136, 3) := by decide +kernel
theorem dX24_plus_26 : decode cX24_plus 26 = .ok (.return_, 1) := by decide +kernel
theorem dX24_plus_27 : decode cX24_plus 27 = .ok (.aload_n 0, 1) := by decide +kernel
theorem dX24_plus_28 : decode cX24_plus 28 = .ok (.getfield 101, 3) := by decide +kernel
theorem dX24_plus_31 : decode cX24_plus 31 = .ok (.aload_n 2, 1) := by decide +kernel
theorem dX24_plus_32 : decode cX24_plus 32 = .ok (.getfield 90, 3) := by decide +kernel
theorem dX24_plus_35 : decode cX24_plus 35 = .ok (.aload_n 2, 1) := by decide +kernel
theorem dX24_plus_36 : decode cX24_plus 36 = .ok (.getfield 90, 3) := by decide +kernel
theorem dX24_plus_39 : decode cX24_plus 39 = .ok (.aload_n 0, 1) := by decide +kernel
theorem dX24_plus_40 : decode cX24_plus 40 = .ok (.getfield 108, 3) := by decide +kernel
theorem dX24_plus_43 : decode cX24_plus 43 = .ok (.invokevirtual 111, 3) := by decide +kernel
theorem dX24_plus_46 : decode cX24_plus 46 = .ok (.aload_n 0, 1) := by decide +kernel
theorem dX24_plus_47 : decode cX24_plus 47 = .ok (.getfield 101, 3) := by decide +kernel
theorem dX24_plus_50 : decode cX24_plus 50 = .ok (.aload_n 1, 1) := by decide +kernel
theorem dX24_plus_51 : decode cX24_plus 51 = .ok (.getfield 115, 3) := by decide +kernel
theorem dX24_plus_54 : decode cX24_plus 54 = .ok (.aload_n 0, 1) := by decide +kernel
theorem dX24_plus_55 : decode cX24_plus 55 = .ok (.getfield 108, 3) := by decide +kernel
theorem dX24_plus_58 : decode cX24_plus 58 = .ok (.aload_n 0, 1) := by decide +kernel
theorem dX24_plus_59 : decode cX24_plus 59 = .ok (.getfield 118, 3) := by decide +kernel
theorem dX24_plus_62 : decode cX24_plus 62 = .ok (.invokevirtual 111, 3) := by decide +kernel
theorem dX24_plus_65 : decode cX24_plus 65 = .ok (.aload_n 0, 1) := by decide +kernel
theorem dX24_plus_66 : decode cX24_plus 66 = .ok (.getfield 101, 3) := by decide +kernel
theorem dX24_plus_69 : decode cX24_plus 69 = .ok (.aload_n 0, 1) := by decide +kernel
theorem dX24_plus_70 : decode cX24_plus 70 = .ok (.getfield 108, 3) := by decide +kernel
theorem dX24_plus_73 : decode cX24_plus 73 = .ok (.aload_n 2, 1) := by decide +kernel
theorem dX24_plus_74 : decode cX24_plus 74 = .ok (.getfield 90, 3) := by decide +kernel
theorem dX24_plus_77 : decode cX24_plus 77 = .ok (.aload_n 0, 1) := by decide +kernel
theorem dX24_plus_78 : decode cX24_plus 78 = .ok (.getfield 108, 3) := by decide +kernel
theorem dX24_plus_81 : decode cX24_plus 81 = .ok (.invokevirtual 111, 3) := by decide +kernel
theorem dX24_plus_84 : decode cX24_plus 84 = .ok (.aload_n 0, 1) := by decide +kernel
theorem dX24_plus_85 : decode cX24_plus 85 = .ok (.getfield 101, 3) := by decide +kernel
theorem dX24_plus_88 : decode cX24_plus 88 = .ok (.aload_n 1, 1) := by decide +kernel
theorem dX24_plus_89 : decode cX24_plus 89 = .ok (.getfield 105, 3) := by decide +kernel
theorem dX24_plus_92 : decode cX24_plus 92 = .ok (.aload_n 0, 1) := by decide +kernel
theorem dX24_plus_93 : decode cX24_plus 93 = .ok (.getfield 108, 3) := by decide +kernel
theorem dX24_plus_96 : decode cX24_plus 96 = .ok (.aload_n 0, 1) := by decide +kernel
theorem dX24_plus_97 : decode cX24_plus 97 = .ok (.getfield 108, 3) := by decide +kernel
theorem dX24_plus_100 : decode cX24_plus 100 = .ok (.invokevirtual 111, 3) := by decide +kernel
theorem dX24_plus_103 : decode cX24_plus 103 = .ok (.aload_n 0, 1) := by decide +kernel
theorem dX24_plus_104 : decode cX24_plus 104 = .ok (.getfield 101, 3) := by decide +kernel
theorem dX24_plus_107 : decode cX24_plus 107 = .ok (.aload_n 1, 1) := by decide +kernel
theorem dX24_plus_108 : decode cX24_plus 108 = .ok (.getfield 90, 3) := by decide +kernel
theorem dX24_plus_111 : decode cX24_plus 111 = .ok (.aload_n 1, 1) := by decide +kernel
theorem dX24_plus_112 : decode cX24_plus 112 = .ok (.getfield 90, 3) := by decide +kernel
theorem dX24_plus_115 : decode cX24_plus 115 = .ok (.aload_n 0, 1) := by decide +kernel
theorem dX24_plus_116 : decode cX24_plus 116 = .ok (.getfield 124, 3) := by decide +kernel
theorem dX24_plus_119 : decode cX24_plus 119 = .ok (.invokevirtual 111, 3) := by decide +kernel
theorem dX24_plus_122 : decode cX24_plus 122 = .ok (.aload_n 0, 1) := by decide +kernel
theorem dX24_plus_123 : decode cX24_plus 123 = .ok (.getfield 101, 3) := by decide +kernel
theorem dX24_plus_126 : decode cX24_plus 126 = .ok (.aload_n 2, 1) := by decide +kernel
theorem dX24_plus_127 : decode cX24_plus 127 = .ok (.getfield 115, 3) := by decide +kernel
theorem dX24_plus_130 : decode cX24_plus 130 = .ok (.aload_n 0, 1) := by decide +kernel
theorem dX24_plus_131 : decode cX24_plus 131 = .ok (.getfield 124, 3) := by decide +kernel
theorem dX24_plus_134 : decode cX24_plus 134 = .ok (.aload_n 0, 1) := by decide +kernel
theorem dX24_plus_135 : decode cX24_plus 135 = .ok (.getfield 127, 3) := by decide +kernel
theorem dX24_plus_138 : decode cX24_plus 138 = .ok (.invokevirtual 111, 3) := by decide +kernel
theorem dX24_plus_141 : decode cX24_plus 141 = .ok (.aload_n 0, 1) := by decide +kernel
theorem dX24_plus_142 : decode cX24_plus 142 = .ok (.getfield 101, 3) := by decide +kernel
theorem dX24_plus_145 : decode cX24_plus 145 = .ok (.aload_n 0, 1) := by decide +kernel
theorem dX24_plus_146 : decode cX24_plus 146 = .ok (.getfield 124, 3) := by decide +kernel
theorem dX24_plus_149 : decode cX24_plus 149 = .ok (.aload_n 1, 1) := by decide +kernel
theorem dX24_plus_150 : decode cX24_plus 150 = .ok (.getfield 90, 3) := by decide +kernel
theorem dX24_plus_153 : decode cX24_plus 153 = .ok (.aload_n 0, 1) := by decide +kernel
theorem dX24_plus_154 : decode cX24_plus 154 = .ok (.getfield 124, 3) := by decide +kernel
theorem dX24_plus_157 : decode cX24_plus 157 = .ok (.invokevirtual 111, 3) := by decide +kernel
theorem dX24_plus_160 : decode cX24_plus 160 = .ok (.aload_n 0, 1) := by decide +kernel
theorem dX24_plus_161 : decode cX24_plus 161 = .ok (.getfield 101, 3) := by decide +kernel
theorem dX24_plus_164 : decode cX24_plus 164 = .ok (.aload_n 2, 1) := by decide +kernel
theorem dX24_plus_165 : decode cX24_plus 165 = .ok (.getfield 105, 3) := by decide +kernel
theorem dX24_plus_168 : decode cX24_plus 168 = .ok (.aload_n 0, 1) := by decide +kernel
theorem dX24_plus_169 : decode cX24_plus 169 = .ok (.getfield 124, 3) := by decide +kernel
theorem dX24_plus_172 : decode cX24_plus 172 = .ok (.aload_n 0, 1) := by decide +kernel
theorem dX24_plus_173 : decode cX24_plus 173 = .ok (.getfield 124, 3) := by decide +kernel
theorem dX24_plus_176 : decode cX24_plus 176 = .ok (.invokevirtual 111, 3) := by decide +kernel
theorem dX24_plus_179 : decode cX24_plus 179 = .ok (.aload_n 0, 1) := by decide +kernel
theorem dX24_plus_180 : decode cX24_plus 180 = .ok (.getfield 101, 3) := by decide +kernel
theorem dX24_plus_183 : decode cX24_plus 183 = .ok (.aload_n 0, 1) := by decide +kernel
theorem dX24_plus_184 : decode cX24_plus 184 = .ok (.getfield 127, 3) := by decide +kernel
theorem dX24_plus_187 : decode cX24_plus 187 = .ok (.aload_n 0, 1) := by decide +kernel
theorem dX24_plus_188 : decode cX24_plus 188 = .ok (.getfield 118, 3) := by decide +kernel
theorem dX24_plus_191 : decode cX24_plus 191 = .ok (.aload_n 0, 1) := by decide +kernel
theorem dX24_plus_192 : decode cX24_plus 192 = .ok (.getfield 127, 3) := by decide +kernel
theorem dX24_plus_195 : decode cX24_plus 195 = .ok (.invokevirtual 133, 3) := by decide +kernel
theorem dX24_plus_198 : decode cX24_plus 198 = .ok (.aload_n 0, 1) := by decide +kernel
theorem dX24_plus_199 : decode cX24_plus 199 = .ok (.getfield 101, 3) := by decide +kernel
theorem dX24_plus_202 : decode cX24_plus 202 = .ok (.aload_n 0, 1) := by decide +kernel
theorem dX24_plus_203 : decode cX24_plus 203 = .ok (.getfield 124, 3) := by decide +kernel
theorem dX24_plus_206 : decode cX24_plus 206 = .ok (.aload_n 0, 1) := by decide +kernel
theorem dX24_plus_207 : decode cX24_plus 207 = .ok (.getfield 108, 3) := by decide +kernel
theorem dX24_plus_210 : decode cX24_plus 210 = .ok (.aload_n 0, 1) := by decide +kernel
theorem dX24_plus_211 : decode cX24_plus 211 = .ok (.getfield 124, 3) := by decide +kernel
theorem dX24_plus_214 : decode cX24_plus 214 = .ok (.invokevirtual 133, 3) := by decide +kernel
theorem dX24_plus_217 : decode cX24_plus 217 = .ok (.aload_n 0, 1) := by decide +kernel
theorem dX24_plus_218 : decode cX24_plus 218 = .ok (.getfield 127, 3) := by decide +kernel
theorem dX24_plus_221 : decode cX24_plus 221 = .ok (.invokestatic 95, 3) := by decide +kernel
theorem dX24_plus_224 : decode cX24_plus 224 = .ok (.ifCond .eq 43, 3) := by decide +kernel
theorem dX24_plus_227 : decode cX24_plus 227 = .ok (.aload_n 0, 1) := by decide +kernel
theorem dX24_plus_228 : decode cX24_plus 228 = .ok (.getfield 124, 3) := by decide +kernel
theorem dX24_plus_231 : decode cX24_plus 231 = .ok (.invokestatic 95, 3) := by decide +kernel
theorem dX24_plus_234 : decode cX24_plus 234 = .ok (.ifCond .eq 11, 3) := by decide +kernel
theorem dX24_plus_237 : decode cX24_plus 237 = .ok (.aload_n 0, 1) := by decide +kernel
theorem dX24_plus_238 : decode cX24_plus 238 = .ok (.aload_n 1, 1) := by decide +kernel
theorem dX24_plus_239 : decode cX24_plus 239 = .ok (.invokevirtual 140, 3) := by decide +kernel
theorem dX24_plus_242 : decode cX24_plus 242 = .ok (.goto 24, 3) := by decide +kernel
theorem dX24_plus_245 : decode cX24_plus 245 = .ok (.iconst 0, 1) := by decide +kernel
theorem dX24_plus_246 : decode cX24_plus 246 = .ok (.istore_n 3, 1) := by decide +kernel
theorem dX24_plus_247 : decode cX24_plus 247 = .ok (.iload_n 3, 1) := by decide +kernel
theorem dX24_plus_248 : decode cX24_plus 248 = .ok (.bipush 8, 2) := by decide +kernel
theorem dX24_plus_250 : decode cX24_plus 250 = .ok (.if_icmp .ge 16, 3) := by decide +kernel
theorem dX24_plus_253 : decode cX24_plus 253 = .ok (.aload_n 1, 1) := by decide +kernel
theorem dX24_plus_254 : decode cX24_plus 254 = .ok (.getfield 90, 3) := by decide +kernel
theorem dX24_plus_257 : decode cX24_plus 257 = .ok (.iload_n 3, 1) := by decide +kernel
theorem dX24_plus_258 : decode cX24_plus 258 = .ok (.iconst 0, 1) := by decide +kernel
theorem dX24_plus_259 : decode cX24_plus 259 = .ok (.iastore, 1) := by decide +kernel
theorem dX24_plus_260 : decode cX24_plus 260 = .ok (.iinc 3 1, 3) := by decide +kernel
theorem dX24_plus_263 : decode cX24_plus 263 = .ok (.goto (-16), 3) := by decide +kernel
theorem dX24_plus_266 : decode cX24_plus 266 = .ok (.return_, 1) := by decide +kernel
theorem dX24_plus_267 : decode cX24_plus 267 = .ok (.aload_n 0, 1) := by decide +kernel
theorem dX24_plus_268 : decode cX24_plus 268 = .ok (.getfield 101, 3) := by decide +kernel
theorem dX24_plus_271 : decode cX24_plus 271 = .ok (.aload_n 1, 1) := by decide +kernel
theorem dX24_plus_272 : decode cX24_plus 272 = .ok (.getfield 90, 3) := by decide +kernel
theorem dX24_plus_275 : decode cX24_plus 275 = .ok (.aload_n 2, 1) := by decide +kernel
theorem dX24_plus_276 : decode cX24_plus 276 = .ok (.getfield 90, 3) := by decide +kernel
theorem dX24_plus_279 : decode cX24_plus 279 = .ok (.aload_n 1, 1) := by decide +kernel
theorem dX24_plus_280 : decode cX24_plus 280 = .ok (.getfield 90, 3) := by decide +kernel
theorem dX24_plus_283 : decode cX24_plus 283 = .ok (.invokevirtual 111, 3) := by decide +kernel
theorem dX24_plus_286 : decode cX24_plus 286 = .ok (.aload_n 0, 1) := by decide +kernel
theorem dX24_plus_287 : decode cX24_plus 287 = .ok (.getfield 101, 3) := by decide +kernel
theorem dX24_plus_290 : decode cX24_plus 290 = .ok (.aload_n 1, 1) := by decide +kernel
theorem dX24_plus_291 : decode cX24_plus 291 = .ok (.getfield 90, 3) := by decide +kernel
theorem dX24_plus_294 : decode cX24_plus 294 = .ok (.aload_n 0, 1) := by decide +kernel
theorem dX24_plus_295 : decode cX24_plus 295 = .ok (.getfield 127, 3) := by decide +kernel
theorem dX24_plus_298 : decode cX24_plus 298 = .ok (.aload_n 1, 1) := by decide +kernel
theorem dX24_plus_299 : decode cX24_plus 299 = .ok (.getfield 90, 3) := by decide +kernel
theorem dX24_plus_302 : decode cX24_plus 302 = .ok (.invokevirtual 111, 3) := by decide +kernel
theorem dX24_plus_305 : decode cX24_plus 305 = .ok (.aload_n 0, 1) := by decide +kernel
theorem dX24_plus_306 : decode cX24_plus 306 = .ok (.getfield 101, 3) := by decide +kernel
theorem dX24_plus_309 : decode cX24_plus 309 = .ok (.aload_n 0, 1) := by decide +kernel
theorem dX24_plus_310 : decode cX24_plus 310 = .ok (.getfield 127, 3) := by decide +kernel
theorem dX24_plus_313 : decode cX24_plus 313 = .ok (.aload_n 0, 1) := by decide +kernel
theorem dX24_plus_314 : decode cX24_plus 314 = .ok (.getfield 127, 3) := by decide +kernel
theorem dX24_plus_317 : decode cX24_plus 317 = .ok (.aload_n 0, 1) := by decide +kernel
theorem dX24_plus_318 : decode cX24_plus 318 = .ok (.getfield 130, 3) := by decide +kernel
theorem dX24_plus_321 : decode cX24_plus 321 = .ok (.invokevirtual 111, 3) := by decide +kernel
theorem dX24_plus_324 : decode cX24_plus 324 = .ok (.aload_n 0, 1) := by decide +kernel
theorem dX24_plus_325 : decode cX24_plus 325 = .ok (.getfield 101, 3) := by decide +kernel
theorem dX24_plus_328 : decode cX24_plus 328 = .ok (.aload_n 0, 1) := by decide +kernel
theorem dX24_plus_329 : decode cX24_plus 329 = .ok (.getfield 118, 3) := by decide +kernel
theorem dX24_plus_332 : decode cX24_plus 332 = .ok (.aload_n 0, 1) := by decide +kernel
theorem dX24_plus_333 : decode cX24_plus 333 = .ok (.getfield 130, 3) := by decide +kernel
theorem dX24_plus_336 : decode cX24_plus 336 = .ok (.aload_n 0, 1) := by decide +kernel
theorem dX24_plus_337 : decode cX24_plus 337 = .ok (.getfield 118, 3) := by decide +kernel
theorem dX24_plus_340 : decode cX24_plus 340 = .ok (.invokevirtual 111, 3) := by decide +kernel
theorem dX24_plus_343 : decode cX24_plus 343 = .ok (.aload_n 0, 1) := by decide +kernel
theorem dX24_plus_344 : decode cX24_plus 344 = .ok (.getfield 101, 3) := by decide +kernel
theorem dX24_plus_347 : decode cX24_plus 347 = .ok (.aload_n 0, 1) := by decide +kernel
theorem dX24_plus_348 : decode cX24_plus 348 = .ok (.getfield 130, 3) := by decide +kernel
theorem dX24_plus_351 : decode cX24_plus 351 = .ok (.aload_n 0, 1) := by decide +kernel
theorem dX24_plus_352 : decode cX24_plus 352 = .ok (.getfield 127, 3) := by decide +kernel
theorem dX24_plus_355 : decode cX24_plus 355 = .ok (.aload_n 0, 1) := by decide +kernel
theorem dX24_plus_356 : decode cX24_plus 356 = .ok (.getfield 130, 3) := by decide +kernel
theorem dX24_plus_359 : decode cX24_plus 359 = .ok (.invokevirtual 111, 3) := by decide +kernel
theorem dX24_plus_362 : decode cX24_plus 362 = .ok (.aload_n 0, 1) := by decide +kernel
theorem dX24_plus_363 : decode cX24_plus 363 = .ok (.getfield 101, 3) := by decide +kernel
theorem dX24_plus_366 : decode cX24_plus 366 = .ok (.aload_n 0, 1) := by decide +kernel
theorem dX24_plus_367 : decode cX24_plus 367 = .ok (.getfield 124, 3) := by decide +kernel
theorem dX24_plus_370 : decode cX24_plus 370 = .ok (.aload_n 0, 1) := by decide +kernel
theorem dX24_plus_371 : decode cX24_plus 371 = .ok (.getfield 124, 3) := by decide +kernel
theorem dX24_plus_374 : decode cX24_plus 374 = .ok (.aload_n 1, 1) := by decide +kernel
theorem dX24_plus_375 : decode cX24_plus 375 = .ok (.getfield 115, 3) := by decide +kernel
theorem dX24_plus_378 : decode cX24_plus 378 = .ok (.invokevirtual 111, 3) := by decide +kernel
theorem dX24_plus_381 : decode cX24_plus 381 = .ok (.aload_n 0, 1) := by decide +kernel
theorem dX24_plus_382 : decode cX24_plus 382 = .ok (.getfield 101, 3) := by decide +kernel
theorem dX24_plus_385 : decode cX24_plus 385 = .ok (.aload_n 1, 1) := by decide +kernel
theorem dX24_plus_386 : decode cX24_plus 386 = .ok (.getfield 115, 3) := by decide +kernel
theorem dX24_plus_389 : decode cX24_plus 389 = .ok (.aload_n 0, 1) := by decide +kernel
theorem dX24_plus_390 : decode cX24_plus 390 = .ok (.getfield 130, 3) := by decide +kernel
theorem dX24_plus_393 : decode cX24_plus 393 = .ok (.aload_n 1, 1) := by decide +kernel
theorem dX24_plus_394 : decode cX24_plus 394 = .ok (.getfield 115, 3) := by decide +kernel
theorem dX24_plus_397 : decode cX24_plus 397 = .ok (.invokevirtual 133, 3) := by decide +kernel
theorem dX24_plus_400 : decode cX24_plus 400 = .ok (.aload_n 0, 1) := by decide +kernel
theorem dX24_plus_401 : decode cX24_plus 401 = .ok (.getfield 101, 3) := by decide +kernel
theorem dX24_plus_404 : decode cX24_plus 404 = .ok (.aload_n 1, 1) := by decide +kernel
theorem dX24_plus_405 : decode cX24_plus 405 = .ok (.getfield 115, 3) := by decide +kernel
theorem dX24_plus_408 : decode cX24_plus 408 = .ok (.aload_n 0, 1) := by decide +kernel
theorem dX24_plus_409 : decode cX24_plus 409 = .ok (.getfield 118, 3) := by decide +kernel
theorem dX24_plus_412 : decode cX24_plus 412 = .ok (.aload_n 1, 1) := by decide +kernel
theorem dX24_plus_413 : decode cX24_plus 413 = .ok (.getfield 115, 3) := by decide +kernel
theorem dX24_plus_416 : decode cX24_plus 416 = .ok (.invokevirtual 133, 3) := by decide +kernel
theorem dX24_plus_419 : decode cX24_plus 419 = .ok (.aload_n 0, 1) := by decide +kernel
theorem dX24_plus_420 : decode cX24_plus 420 = .ok (.getfield 101, 3) := by decide +kernel
theorem dX24_plus_423 : decode cX24_plus 423 = .ok (.aload_n 1, 1) := by decide +kernel
theorem dX24_plus_424 : decode cX24_plus 424 = .ok (.getfield 115, 3) := by decide +kernel
theorem dX24_plus_427 : decode cX24_plus 427 = .ok (.aload_n 0, 1) := by decide +kernel
theorem dX24_plus_428 : decode cX24_plus 428 = .ok (.getfield 118, 3) := by decide +kernel
theorem dX24_plus_431 : decode cX24_plus 431 = .ok (.aload_n 1, 1) := by decide +kernel
theorem dX24_plus_432 : decode cX24_plus 432 = .ok (.getfield 115, 3) := by decide +kernel
theorem dX24_plus_435 : decode cX24_plus 435 = .ok (.invokevirtual 133, 3) := by decide +kernel
theorem dX24_plus_438 : decode cX24_plus 438 = .ok (.aload_n 0, 1) := by decide +kernel
theorem dX24_plus_439 : decode cX24_plus 439 = .ok (.getfield 101, 3) := by decide +kernel
theorem dX24_plus_442 : decode cX24_plus 442 = .ok (.aload_n 0, 1) := by decide +kernel
theorem dX24_plus_443 : decode cX24_plus 443 = .ok (.getfield 118, 3) := by decide +kernel
theorem dX24_plus_446 : decode cX24_plus 446 = .ok (.aload_n 1, 1) := by decide +kernel
theorem dX24_plus_447 : decode cX24_plus 447 = .ok (.getfield 115, 3) := by decide +kernel
theorem dX24_plus_450 : decode cX24_plus 450 = .ok (.aload_n 0, 1) := by decide +kernel
theorem dX24_plus_451 : decode cX24_plus 451 = .ok (.getfield 118, 3) := by decide +kernel
theorem dX24_plus_454 : decode cX24_plus 454 = .ok (.invokevirtual 133, 3) := by decide +kernel
theorem dX24_plus_457 : decode cX24_plus 457 = .ok (.aload_n 0, 1) := by decide +kernel
theorem dX24_plus_458 : decode cX24_plus 458 = .ok (.getfield 101, 3) := by decide +kernel
theorem dX24_plus_461 : decode cX24_plus 461 = .ok (.aload_n 0, 1) := by decide +kernel
theorem dX24_plus_462 : decode cX24_plus 462 = .ok (.getfield 124, 3) := by decide +kernel
theorem dX24_plus_465 : decode cX24_plus 465 = .ok (.aload_n 0, 1) := by decide +kernel
theorem dX24_plus_466 : decode cX24_plus 466 = .ok (.getfield 118, 3) := by decide +kernel
theorem dX24_plus_469 : decode cX24_plus 469 = .ok (.aload_n 1, 1) := by decide +kernel
theorem dX24_plus_470 : decode cX24_plus 470 = .ok (.getfield 105, 3) := by decide +kernel
theorem dX24_plus_473 : decode cX24_plus 473 = .ok (.invokevirtual 111, 3) := by decide +kernel
theorem dX24_plus_476 : decode cX24_plus 476 = .ok (.aload_n 0, 1) := by decide +kernel
theorem dX24_plus_477 : decode cX24_plus 477 = .ok (.getfield 101, 3) := by decide +kernel
theorem dX24_plus_480 : decode cX24_plus 480 = .ok (.aload_n 0, 1) := by decide +kernel
theorem dX24_plus_481 : decode cX24_plus 481 = .ok (.getfield 108, 3) := by decide +kernel
theorem dX24_plus_484 : decode cX24_plus 484 = .ok (.aload_n 0, 1) := by decide +kernel
theorem dX24_plus_485 : decode cX24_plus 485 = .ok (.getfield 130, 3) := by decide +kernel
theorem dX24_plus_488 : decode cX24_plus 488 = .ok (.aload_n 0, 1) := by decide +kernel
theorem dX24_plus_489 : decode cX24_plus 489 = .ok (.getfield 108, 3) := by decide +kernel
theorem dX24_plus_492 : decode cX24_plus 492 = .ok (.invokevirtual 111, 3) := by decide +kernel
theorem dX24_plus_495 : decode cX24_plus 495 = .ok (.aload_n 0, 1) := by decide +kernel
theorem dX24_plus_496 : decode cX24_plus 496 = .ok (.getfield 101, 3) := by decide +kernel
theorem dX24_plus_499 : decode cX24_plus 499 = .ok (.aload_n 1, 1) := by decide +kernel
theorem dX24_plus_500 : decode cX24_plus 500 = .ok (.getfield 105, 3) := by decide +kernel
theorem dX24_plus_503 : decode cX24_plus 503 = .ok (.aload_n 0, 1) := by decide +kernel
theorem dX24_plus_504 : decode cX24_plus 504 = .ok (.getfield 108, 3) := by decide +kernel
theorem dX24_plus_507 : decode cX24_plus 507 = .ok (.aload_n 1, 1) := by decide +kernel
theorem dX24_plus_508 : decode cX24_plus 508 = .ok (.getfield 105, 3) := by decide +kernel
theorem dX24_plus_511 : decode cX24_plus 511 = .ok (.invokevirtual 133, 3) := by decide +kernel
theorem dX24_plus_514 : decode cX24_plus 514 = .ok (.return_, 1) := by decide +kernel
/-! CoinJudgeModel.plus(LCoinJudgeModel$Point;LCoinJudgeModel$Point;)V -/
set_option maxHeartbeats 4000000 in
theorem sX24_plus_0 {G : Gx} {d t : Nat} {h0 : AH} {Φ : Out → AH → Prop} (h : AH) (v0 : Nat) (v1 : Nat) (v2 : Nat) (K : h.kd v2 = 25 ∧ ∀ r2 : Nat, r2 = (h.r 25002 v2) → Cw G mX27_isZero d 0 [vR r2] h (kI (fun x3 h4 => ((x3 = 0 → h4.kd v1 = 25 ∧ ∀ r7 : Nat, r7 = (h4.r 25002 v1) → Cw G mX27_isZero d 0 [vR r7] h4 (kI (fun x8 h9 => ((x8 = 0 → h9.kd v0 = 24 ∧ ∀ r12 : Nat, r12 = (h9.r 24015 v0) → ∀ r18 : Nat, r18 = (h9.r 24022 v0) → h9.kd r12 = 27 ∧ Cw G mX27_multiply d 0 [vR r12, vR r2, vR r2, vR r18] h9 (kV (fun h20 => ∀ r27 : Nat, r27 = (h20.r 25000 v1) → ∀ r30 : Nat, r30 = (h20.r 24023 v0) → Cw G mX27_multiply d 0 [vR r12, vR r27, vR r18, vR r30] h20 (kV (fun h32 => Cw G mX27_multiply d 0 [vR r12, vR r18, vR r2, vR r18] h32 (kV (fun h42 => ∀ r48 : Nat, r48 = (h42.r 25001 v1) → Cw G mX27_multiply d 0 [vR r12, vR r48, vR r18, vR r18] h42 (kV (fun h51 => ∀ r62 : Nat, r62 = (h51.r 24024 v0) → Cw G mX27_multiply d 0 [vR r12, vR r7, vR r7, vR r62] h51 (kV (fun h64 => ∀ r71 : Nat, r71 = (h64.r 25000 v2) → ∀ r74 : Nat, r74 = (h64.r 24025 v0) → Cw G mX27_multiply d 0 [vR r12, vR r71, vR r62, vR r74] h64 (kV (fun h76 => Cw G mX27_multiply d 0 [vR r12, vR r62, vR r7, vR r62] h76 (kV (fun h86 => ∀ r92 : Nat, r92 = (h86.r 25001 v2) → Cw G mX27_multiply d 0 [vR r12, vR r92, vR r62, vR r62] h86 (kV (fun h95 => Cw G mX27_subtract d 0 [vR r12, vR r74, vR r30, vR r74] h95 (kV (fun h112 => Cw G mX27_subtract d 0 [vR r12, vR r62, vR r18, vR r62] h112 (kV (fun h125 => Cw G mX27_isZero d 0 [vR r74] h125 (kI (fun x130 h131 => ((x130 = 0 → Cw G mX27_multiply d 0 [vR r12, vR r7, vR r2, vR r7] h131 (kV (fun h160 => Cw G mX27_multiply d 0 [vR r12, vR r7, vR r74, vR r7] h160 (kV (fun h170 => ∀ r175 : Nat, r175 = (h170.r 24026 v0) → Cw G mX27_multiply d 0 [vR r12, vR r74, vR r74, vR r175] h170 (kV (fun h177 => Cw G mX27_multiply d 0 [vR r12, vR r30, vR r175, vR r30] h177 (kV (fun h190 => Cw G mX27_multiply d 0 [vR r12, vR r175, vR r74, vR r175] h190 (kV (fun h198 => Cw G mX27_multiply d 0 [vR r12, vR r62, vR r62, vR r27] h198 (kV (fun h230 => Cw G mX27_subtract d 0 [vR r12, vR r27, vR r175, vR r27] h230 (kV (fun h239 => Cw G mX27_subtract d 0 [vR r12, vR r27, vR r30, vR r27] h239 (kV (fun h250 => Cw G mX27_subtract d 0 [vR r12, vR r27, vR r30, vR r27] h250 (kV (fun h258 => Cw G mX27_subtract d 0 [vR r12, vR r30, vR r27, vR r30] h258 (kV (fun h266 => Cw G mX27_multiply d 0 [vR r12, vR r62, vR r30, vR r48] h266 (kV (fun h297 => Cw G mX27_multiply d 0 [vR r12, vR r18, vR r175, vR r18] h297 (kV (fun h320 => Cw G mX27_subtract d 0 [vR r12, vR r48, vR r18, vR r48] h320 (kV (fun h330 => Φ (.inl none) h330) (fun x h => Φ (.inr x) h))) (fun x h => Φ (.inr x) h))) (fun x h => Φ (.inr x) h))) (fun x h => Φ (.inr x) h))) (fun x h => Φ (.inr x) h))) (fun x h => Φ (.inr x) h))) (fun x h => Φ (.inr x) h))) (fun x h => Φ (.inr x) h))) (fun x h => Φ (.inr x) h))) (fun x h => Φ (.inr x) h))) (fun x h => Φ (.inr x) h))) (fun x h => Φ (.inr x) h))) (fun x h => Φ (.inr x) h))) ∧ (¬ x130 = 0 → Cw G mX27_isZero d 0 [vR r62] h131 (kI (fun x335 h336 => ((x335 = 0 → Aw G mX24_plus (d + 1) t h0 Φ 247 [vU, vR v1, vU, vI 0] [] h336) ∧ (¬ x335 = 0 → Cw G mX24_doubled d 0 [vR v0, vR v1] h336 (kV (fun h339 => Φ (.inl none) h339) (fun x h => Φ (.inr x) h))))) (fun x h => Φ (.inr x) h))))) (fun x h => Φ (.inr x) h))) (fun x h => Φ (.inr x) h))) (fun x h => Φ (.inr x) h))) (fun x h => Φ (.inr x) h))) (fun x h => Φ (.inr x) h))) (fun x h => Φ (.inr x) h))) (fun x h => Φ (.inr x) h))) (fun x h => Φ (.inr x) h))) (fun x h => Φ (.inr x) h))) (fun x h => Φ (.inr x) h))) (fun x h => Φ (.inr x) h))) ∧ (¬ x8 = 0 → Cw G mX25_take d 0 [vR v1, vR v2] h9 (kV (fun h342 => Φ (.inl none) h342) (fun x h => Φ (.inr x) h))))) (fun x h => Φ (.inr x) h))) ∧ (¬ x3 = 0 → Φ (.inl none) h4))) (fun x h => Φ (.inr x) h))) : Aw G mX24_plus (d + 1) t h0 Φ 0 [vR v0, vR v1, vR v2, vU] [] h := by
  refine r_aload_n (pc := 0) dX24_plus_0 rfl ?_
  obtain ⟨hk1, K⟩ := K
  have K := K _ rfl
  refine r_getr' (pc := 1) (T := TX25) 25 2 rfl hk1 (Or.inr (Or.inl ⟨_, q2126⟩)) dX24_plus_1 kc25 g25002 ?_
  refine r_callS_I (pc := 4) (Y := mX27_isZero) (vs := [_]) (st := []) q2636 q2637 q195 dX24_plus_4 rfl cd_X27_isZero rfl rfl fp_X24_plus_X27_isZero K (fun x3 h4 eh4 wh4 K => ?_) (fun x h1 _ _ e => Tw.out rfl e)
  refine r_if_eq (pc := 7) (tgt := 11) dX24_plus_7 rfl (fun c5 => ?_) (fun c5 => ?_)
  · have K := K.1 c5
    refine r_aload_n (pc := 11) dX24_plus_11 rfl ?_
    obtain ⟨hk6, K⟩ := K
    have K := K _ rfl
    refine r_getr' (pc := 12) (T := TX25) 25 2 rfl hk6 (Or.inr (Or.inl ⟨_, q2126⟩)) dX24_plus_12 kc25 g25002 ?_
    refine r_callS_I (pc := 15) (Y := mX27_isZero) (vs := [_]) (st := []) q2636 q2637 q195 dX24_plus_15 rfl cd_X27_isZero rfl rfl fp_X24_plus_X27_isZero K (fun x8 h9 eh9 wh9 K => ?_) (fun x h1 _ _ e => Tw.out rfl e)
    refine r_if_eq (pc := 18) (tgt := 27) dX24_plus_18 rfl (fun c10 => ?_) (fun c10 => ?_)
    · have K := K.1 c10
      refine r_aload_n (pc := 27) dX24_plus_27 rfl ?_
      obtain ⟨hk11, K⟩ := K
      have K := K _ rfl
      refine r_getr' (pc := 28) (T := TX24) 24 15 rfl hk11 (Or.inl q2713) dX24_plus_28 kc24 g24015 ?_
      refine r_aload_n (pc := 31) dX24_plus_31 rfl ?_
      have hk13 := kd_ext eh4 hk1 (nz rfl)
      have hk14 := kd_ext eh9 hk13 (nz rfl)
      have hv15 := fr_self (key := 25002) hk1
      have hv16 := (fr_ext (key := 25002) eh4 hk1 (nz rfl) (ne0 wh4 hk13 (nz rfl)) (nm rfl)).trans hv15
      have hv17 := (fr_ext (key := 25002) eh9 hk13 (nz rfl) (ne0 wh9 hk14 (nz rfl)) (nm rfl)).trans hv16
      refine r_getr' (pc := 32) (T := TX25) 25 2 hv17 hk14 (Or.inr (Or.inl ⟨_, q2126⟩)) dX24_plus_32 kc25 g25002 ?_
      refine r_aload_n (pc := 35) dX24_plus_35 rfl ?_
      refine r_getr' (pc := 36) (T := TX25) 25 2 hv17 hk14 (Or.inr (Or.inl ⟨_, q2126⟩)) dX24_plus_36 kc25 g25002 ?_
      refine r_aload_n (pc := 39) dX24_plus_39 rfl ?_
      have K := K _ rfl
      refine r_getr' (pc := 40) (T := TX24) 24 22 rfl hk11 (Or.inl q2720) dX24_plus_40 kc24 g24022 ?_
      obtain ⟨hk21, K⟩ := K
      refine r_callV_V (pc := 43) (Y := mX27_multiply) (vs := [_, _, _]) (st := []) hk21 rfl kc27 q2615 q2252 q2253 dX24_plus_43 rfl cd_X27_multiply rfl rfl fp_X24_plus_X27_multiply K (fun h20 eh20 wh20 K => ?_) (fun x h1 _ _ e => Tw.out rfl e)
      refine r_aload_n (pc := 46) dX24_plus_46 rfl ?_
      have hk22 := kd_ext eh20 hk11 (nz rfl)
      have hv23 := fr_self (key := 24015) hk11
      have hv24 := (fr_ext (key := 24015) eh20 hk11 (nz rfl) (ne0 wh20 hk22 (nz rfl)) (nm rfl)).trans hv23
      refine r_getr' (pc := 47) (T := TX24) 24 15 hv24 hk22 (Or.inl q2713) dX24_plus_47 kc24 g24015 ?_
      refine r_aload_n (pc := 50) dX24_plus_50 rfl ?_
      have hk25 := kd_ext eh9 hk6 (nz rfl)
      have hk26 := kd_ext eh20 hk25 (nz rfl)
      have K := K _ rfl
      refine r_getr' (pc := 51) (T := TX25) 25 0 rfl hk26 (Or.inr (Or.inl ⟨_, q2122⟩)) dX24_plus_51 kc25 g25000 ?_
      refine r_aload_n (pc := 54) dX24_plus_54 rfl ?_
      have hv28 := fr_self (key := 24022) hk11
      have hv29 := (fr_ext (key := 24022) eh20 hk11 (nz rfl) (ne0 wh20 hk22 (nz rfl)) (nm rfl)).trans hv28
      refine r_getr' (pc := 55) (T := TX24) 24 22 hv29 hk22 (Or.inl q2720) dX24_plus_55 kc24 g24022 ?_
      refine r_aload_n (pc := 58) dX24_plus_58 rfl ?_
      have K := K _ rfl
      refine r_getr' (pc := 59) (T := TX24) 24 23 rfl hk22 (Or.inl q2721) dX24_plus_59 kc24 g24023 ?_
      have hk33 := kd_ext eh20 hk21 (nz rfl)
      refine r_callV_V (pc := 62) (Y := mX27_multiply) (vs := [_, _, _]) (st := []) hk33 rfl kc27 q2615 q2252 q2253 dX24_plus_62 rfl cd_X27_multiply rfl rfl fp_X24_plus_X27_multiply K (fun h32 eh32 wh32 K => ?_) (fun x h1 _ _ e => Tw.out rfl e)
      refine r_aload_n (pc := 65) dX24_plus_65 rfl ?_
      have hk34 := kd_ext eh32 hk22 (nz rfl)
      have hv35 := (fr_ext (key := 24015) eh32 hk22 (nz rfl) (ne0 wh32 hk34 (nz rfl)) (nm rfl)).trans hv24
      refine r_getr' (pc := 66) (T := TX24) 24 15 hv35 hk34 (Or.inl q2713) dX24_plus_66 kc24 g24015 ?_
      refine r_aload_n (pc := 69) dX24_plus_69 rfl ?_
      have hv36 := (fr_ext (key := 24022) eh32 hk22 (nz rfl) (ne0 wh32 hk34 (nz rfl)) (nm rfl)).trans hv29
      refine r_getr' (pc := 70) (T := TX24) 24 22 hv36 hk34 (Or.inl q2720) dX24_plus_70 kc24 g24022 ?_
      refine r_aload_n (pc := 73) dX24_plus_73 rfl ?_
      have hk37 := kd_ext eh20 hk14 (nz rfl)
      have hk38 := kd_ext eh32 hk37 (nz rfl)
      have hv39 := (fr_ext (key := 25002) eh20 hk14 (nz rfl) (ne0 wh20 hk37 (nz rfl)) (nm rfl)).trans hv17
      have hv40 := (fr_ext (key := 25002) eh32 hk37 (nz rfl) (ne0 wh32 hk38 (nz rfl)) (nm rfl)).trans hv39
      refine r_getr' (pc := 74) (T := TX25) 25 2 hv40 hk38 (Or.inr (Or.inl ⟨_, q2126⟩)) dX24_plus_74 kc25 g25002 ?_
      refine r_aload_n (pc := 77) dX24_plus_77 rfl ?_
      refine r_getr' (pc := 78) (T := TX24) 24 22 hv36 hk34 (Or.inl q2720) dX24_plus_78 kc24 g24022 ?_
      have hk43 := kd_ext eh32 hk33 (nz rfl)
      refine r_callV_V (pc := 81) (Y := mX27_multiply) (vs := [_, _, _]) (st := []) hk43 rfl kc27 q2615 q2252 q2253 dX24_plus_81 rfl cd_X27_multiply rfl rfl fp_X24_plus_X27_multiply K (fun h42 eh42 wh42 K => ?_) (fun x h1 _ _ e => Tw.out rfl e)
      refine r_aload_n (pc := 84) dX24_plus_84 rfl ?_
      have hk44 := kd_ext eh42 hk34 (nz rfl)
      have hv45 := (fr_ext (key := 24015) eh42 hk34 (nz rfl) (ne0 wh42 hk44 (nz rfl)) (nm rfl)).trans hv35
      refine r_getr' (pc := 85) (T := TX24) 24 15 hv45 hk44 (Or.inl q2713) dX24_plus_85 kc24 g24015 ?_
      refine r_aload_n (pc := 88) dX24_plus_88 rfl ?_
      have hk46 := kd_ext eh32 hk26 (nz rfl)
      have hk47 := kd_ext eh42 hk46 (nz rfl)
      have K := K _ rfl
      refine r_getr' (pc := 89) (T := TX25) 25 1 rfl hk47 (Or.inr (Or.inl ⟨_, q2124⟩)) dX24_plus_89 kc25 g25001 ?_
      refine r_aload_n (pc := 92) dX24_plus_92 rfl ?_
      have hv49 := (fr_ext (key := 24022) eh42 hk34 (nz rfl) (ne0 wh42 hk44 (nz rfl)) (nm rfl)).trans hv36
      refine r_getr' (pc := 93) (T := TX24) 24 22 hv49 hk44 (Or.inl q2720) dX24_plus_93 kc24 g24022 ?_
      refine r_aload_n (pc := 96) dX24_plus_96 rfl ?_
      refine r_getr' (pc := 97) (T := TX24) 24 22 hv49 hk44 (Or.inl q2720) dX24_plus_97 kc24 g24022 ?_
      have hk52 := kd_ext eh42 hk43 (nz rfl)
      refine r_callV_V (pc := 100) (Y := mX27_multiply) (vs := [_, _, _]) (st := []) hk52 rfl kc27 q2615 q2252 q2253 dX24_plus_100 rfl cd_X27_multiply rfl rfl fp_X24_plus_X27_multiply K (fun h51 eh51 wh51 K => ?_) (fun x h1 _ _ e => Tw.out rfl e)
      refine r_aload_n (pc := 103) dX24_plus_103 rfl ?_
      have hk53 := kd_ext eh51 hk44 (nz rfl)
      have hv54 := (fr_ext (key := 24015) eh51 hk44 (nz rfl) (ne0 wh51 hk53 (nz rfl)) (nm rfl)).trans hv45
      refine r_getr' (pc := 104) (T := TX24) 24 15 hv54 hk53 (Or.inl q2713) dX24_plus_104 kc24 g24015 ?_
      refine r_aload_n (pc := 107) dX24_plus_107 rfl ?_
      have hk55 := kd_ext eh51 hk47 (nz rfl)
      have hv56 := fr_self (key := 25002) hk6
      have hv57 := (fr_ext (key := 25002) eh9 hk6 (nz rfl) (ne0 wh9 hk25 (nz rfl)) (nm rfl)).trans hv56
      have hv58 := (fr_ext (key := 25002) eh20 hk25 (nz rfl) (ne0 wh20 hk26 (nz rfl)) (nm rfl)).trans hv57
      have hv59 := (fr_ext (key := 25002) eh32 hk26 (nz rfl) (ne0 wh32 hk46 (nz rfl)) (nm rfl)).trans hv58
      have hv60 := (fr_ext (key := 25002) eh42 hk46 (nz rfl) (ne0 wh42 hk47 (nz rfl)) (nm rfl)).trans hv59
      have hv61 := (fr_ext (key := 25002) eh51 hk47 (nz rfl) (ne0 wh51 hk55 (nz rfl)) (nm rfl)).trans hv60
      refine r_getr' (pc := 108) (T := TX25) 25 2 hv61 hk55 (Or.inr (Or.inl ⟨_, q2126⟩)) dX24_plus_108 kc25 g25002 ?_
      refine r_aload_n (pc := 111) dX24_plus_111 rfl ?_
      refine r_getr' (pc := 112) (T := TX25) 25 2 hv61 hk55 (Or.inr (Or.inl ⟨_, q2126⟩)) dX24_plus_112 kc25 g25002 ?_
      refine r_aload_n (pc := 115) dX24_plus_115 rfl ?_
      have K := K _ rfl
      refine r_getr' (pc := 116) (T := TX24) 24 24 rfl hk53 (Or.inl q2722) dX24_plus_116 kc24 g24024 ?_
      have hk65 := kd_ext eh51 hk52 (nz rfl)
      refine r_callV_V (pc := 119) (Y := mX27_multiply) (vs := [_, _, _]) (st := []) hk65 rfl kc27 q2615 q2252 q2253 dX24_plus_119 rfl cd_X27_multiply rfl rfl fp_X24_plus_X27_multiply K (fun h64 eh64 wh64 K => ?_) (fun x h1 _ _ e => Tw.out rfl e)
      refine r_aload_n (pc := 122) dX24_plus_122 rfl ?_
      have hk66 := kd_ext eh64 hk53 (nz rfl)
      have hv67 := (fr_ext (key := 24015) eh64 hk53 (nz rfl) (ne0 wh64 hk66 (nz rfl)) (nm rfl)).trans hv54
      refine r_getr' (pc := 123) (T := TX24) 24 15 hv67 hk66 (Or.inl q2713) dX24_plus_123 kc24 g24015 ?_
      refine r_aload_n (pc := 126) dX24_plus_126 rfl ?_
      have hk68 := kd_ext eh42 hk38 (nz rfl)
      have hk69 := kd_ext eh51 hk68 (nz rfl)
      have hk70 := kd_ext eh64 hk69 (nz rfl)
      have K := K _ rfl
      refine r_getr' (pc := 127) (T := TX25) 25 0 rfl hk70 (Or.inr (Or.inl ⟨_, q2122⟩)) dX24_plus_127 kc25 g25000 ?_
      refine r_aload_n (pc := 130) dX24_plus_130 rfl ?_
      have hv72 := fr_self (key := 24024) hk53
      have hv73 := (fr_ext (key := 24024) eh64 hk53 (nz rfl) (ne0 wh64 hk66 (nz rfl)) (nm rfl)).trans hv72
      refine r_getr' (pc := 131) (T := TX24) 24 24 hv73 hk66 (Or.inl q2722) dX24_plus_131 kc24 g24024 ?_
      refine r_aload_n (pc := 134) dX24_plus_134 rfl ?_
      have K := K _ rfl
      refine r_getr' (pc := 135) (T := TX24) 24 25 rfl hk66 (Or.inl q2723) dX24_plus_135 kc24 g24025 ?_
      have hk77 := kd_ext eh64 hk65 (nz rfl)
      refine r_callV_V (pc := 138) (Y := mX27_multiply) (vs := [_, _, _]) (st := []) hk77 rfl kc27 q2615 q2252 q2253 dX24_plus_138 rfl cd_X27_multiply rfl rfl fp_X24_plus_X27_multiply K (fun h76 eh76 wh76 K => ?_) (fun x h1 _ _ e => Tw.out rfl e)
      refine r_aload_n (pc := 141) dX24_plus_141 rfl ?_
      have hk78 := kd_ext eh76 hk66 (nz rfl)
      have hv79 := (fr_ext (key := 24015) eh76 hk66 (nz rfl) (ne0 wh76 hk78 (nz rfl)) (nm rfl)).trans hv67
      refine r_getr' (pc := 142) (T := TX24) 24 15 hv79 hk78 (Or.inl q2713) dX24_plus_142 kc24 g24015 ?_
      refine r_aload_n (pc := 145) dX24_plus_145 rfl ?_
      have hv80 := (fr_ext (key := 24024) eh76 hk66 (nz rfl) (ne0 wh76 hk78 (nz rfl)) (nm rfl)).trans hv73
      refine r_getr' (pc := 146) (T := TX24) 24 24 hv80 hk78 (Or.inl q2722) dX24_plus_146 kc24 g24024 ?_
      refine r_aload_n (pc := 149) dX24_plus_149 rfl ?_
      have hk81 := kd_ext eh64 hk55 (nz rfl)
      have hk82 := kd_ext eh76 hk81 (nz rfl)
      have hv83 := (fr_ext (key := 25002) eh64 hk55 (nz rfl) (ne0 wh64 hk81 (nz rfl)) (nm rfl)).trans hv61
      have hv84 := (fr_ext (key := 25002) eh76 hk81 (nz rfl) (ne0 wh76 hk82 (nz rfl)) (nm rfl)).trans hv83
      refine r_getr' (pc := 150) (T := TX25) 25 2 hv84 hk82 (Or.inr (Or.inl ⟨_, q2126⟩)) dX24_plus_150 kc25 g25002 ?_
      refine r_aload_n (pc := 153) dX24_plus_153 rfl ?_
      refine r_getr' (pc := 154) (T := TX24) 24 24 hv80 hk78 (Or.inl q2722) dX24_plus_154 kc24 g24024 ?_
      have hk87 := kd_ext eh76 hk77 (nz rfl)
      refine r_callV_V (pc := 157) (Y := mX27_multiply) (vs := [_, _, _]) (st := []) hk87 rfl kc27 q2615 q2252 q2253 dX24_plus_157 rfl cd_X27_multiply rfl rfl fp_X24_plus_X27_multiply K (fun h86 eh86 wh86 K => ?_) (fun x h1 _ _ e => Tw.out rfl e)
      refine r_aload_n (pc := 160) dX24_plus_160 rfl ?_
      have hk88 := kd_ext eh86 hk78 (nz rfl)
      have hv89 := (fr_ext (key := 24015) eh86 hk78 (nz rfl) (ne0 wh86 hk88 (nz rfl)) (nm rfl)).trans hv79
      refine r_getr' (pc := 161) (T := TX24) 24 15 hv89 hk88 (Or.inl q2713) dX24_plus_161 kc24 g24015 ?_
      refine r_aload_n (pc := 164) dX24_plus_164 rfl ?_
      have hk90 := kd_ext eh76 hk70 (nz rfl)
      have hk91 := kd_ext eh86 hk90 (nz rfl)
      have K := K _ rfl
      refine r_getr' (pc := 165) (T := TX25) 25 1 rfl hk91 (Or.inr (Or.inl ⟨_, q2124⟩)) dX24_plus_165 kc25 g25001 ?_
      refine r_aload_n (pc := 168) dX24_plus_168 rfl ?_
      have hv93 := (fr_ext (key := 24024) eh86 hk78 (nz rfl) (ne0 wh86 hk88 (nz rfl)) (nm rfl)).trans hv80
      refine r_getr' (pc := 169) (T := TX24) 24 24 hv93 hk88 (Or.inl q2722) dX24_plus_169 kc24 g24024 ?_
      refine r_aload_n (pc := 172) dX24_plus_172 rfl ?_
      refine r_getr' (pc := 173) (T := TX24) 24 24 hv93 hk88 (Or.inl q2722) dX24_plus_173 kc24 g24024 ?_
      have hk96 := kd_ext eh86 hk87 (nz rfl)
      refine r_callV_V (pc := 176) (Y := mX27_multiply) (vs := [_, _, _]) (st := []) hk96 rfl kc27 q2615 q2252 q2253 dX24_plus_176 rfl cd_X27_multiply rfl rfl fp_X24_plus_X27_multiply K (fun h95 eh95 wh95 K => ?_) (fun x h1 _ _ e => Tw.out rfl e)
      refine r_aload_n (pc := 179) dX24_plus_179 rfl ?_
      have hk97 := kd_ext eh95 hk88 (nz rfl)
      have hv98 := (fr_ext (key := 24015) eh95 hk88 (nz rfl) (ne0 wh95 hk97 (nz rfl)) (nm rfl)).trans hv89
      refine r_getr' (pc := 180) (T := TX24) 24 15 hv98 hk97 (Or.inl q2713) dX24_plus_180 kc24 g24015 ?_
      refine r_aload_n (pc := 183) dX24_plus_183 rfl ?_
      have hv99 := fr_self (key := 24025) hk66
      have hv100 := (fr_ext (key := 24025) eh76 hk66 (nz rfl) (ne0 wh76 hk78 (nz rfl)) (nm rfl)).trans hv99
      have hv101 := (fr_ext (key := 24025) eh86 hk78 (nz rfl) (ne0 wh86 hk88 (nz rfl)) (nm rfl)).trans hv100
      have hv102 := (fr_ext (key := 24025) eh95 hk88 (nz rfl) (ne0 wh95 hk97 (nz rfl)) (nm rfl)).trans hv101
      refine r_getr' (pc := 184) (T := TX24) 24 25 hv102 hk97 (Or.inl q2723) dX24_plus_184 kc24 g24025 ?_
      refine r_aload_n (pc := 187) dX24_plus_187 rfl ?_
      have hv103 := fr_self (key := 24023) hk22
      have hv104 := (fr_ext (key := 24023) eh32 hk22 (nz rfl) (ne0 wh32 hk34 (nz rfl)) (nm rfl)).trans hv103
      have hv105 := (fr_ext (key := 24023) eh42 hk34 (nz rfl) (ne0 wh42 hk44 (nz rfl)) (nm rfl)).trans hv104
      have hv106 := (fr_ext (key := 24023) eh51 hk44 (nz rfl) (ne0 wh51 hk53 (nz rfl)) (nm rfl)).trans hv105
      have hv107 := (fr_ext (key := 24023) eh64 hk53 (nz rfl) (ne0 wh64 hk66 (nz rfl)) (nm rfl)).trans hv106
      have hv108 := (fr_ext (key := 24023) eh76 hk66 (nz rfl) (ne0 wh76 hk78 (nz rfl)) (nm rfl)).trans hv107
      have hv109 := (fr_ext (key := 24023) eh86 hk78 (nz rfl) (ne0 wh86 hk88 (nz rfl)) (nm rfl)).trans hv108
      have hv110 := (fr_ext (key := 24023) eh95 hk88 (nz rfl) (ne0 wh95 hk97 (nz rfl)) (nm rfl)).trans hv109
      refine r_getr' (pc := 188) (T := TX24) 24 23 hv110 hk97 (Or.inl q2721) dX24_plus_188 kc24 g24023 ?_
      refine r_aload_n (pc := 191) dX24_plus_191 rfl ?_
      refine r_getr' (pc := 192) (T := TX24) 24 25 hv102 hk97 (Or.inl q2723) dX24_plus_192 kc24 g24025 ?_
      have hk113 := kd_ext eh95 hk96 (nz rfl)
      refine r_callV_V (pc := 195) (Y := mX27_subtract) (vs := [_, _, _]) (st := []) hk113 rfl kc27 q2628 q2629 q2630 dX24_plus_195 rfl cd_X27_subtract rfl rfl fp_X24_plus_X27_subtract K (fun h112 eh112 wh112 K => ?_) (fun x h1 _ _ e => Tw.out rfl e)
      refine r_aload_n (pc := 198) dX24_plus_198 rfl ?_
      have hk114 := kd_ext eh112 hk97 (nz rfl)
      have hv115 := (fr_ext (key := 24015) eh112 hk97 (nz rfl) (ne0 wh112 hk114 (nz rfl)) (nm rfl)).trans hv98
      refine r_getr' (pc := 199) (T := TX24) 24 15 hv115 hk114 (Or.inl q2713) dX24_plus_199 kc24 g24015 ?_
      refine r_aload_n (pc := 202) dX24_plus_202 rfl ?_
      have hv116 := (fr_ext (key := 24024) eh95 hk88 (nz rfl) (ne0 wh95 hk97 (nz rfl)) (nm rfl)).trans hv93
      have hv117 := (fr_ext (key := 24024) eh112 hk97 (nz rfl) (ne0 wh112 hk114 (nz rfl)) (nm rfl)).trans hv116
      refine r_getr' (pc := 203) (T := TX24) 24 24 hv117 hk114 (Or.inl q2722) dX24_plus_203 kc24 g24024 ?_
      refine r_aload_n (pc := 206) dX24_plus_206 rfl ?_
      have hv118 := (fr_ext (key := 24022) eh51 hk44 (nz rfl) (ne0 wh51 hk53 (nz rfl)) (nm rfl)).trans hv49
      have hv119 := (fr_ext (key := 24022) eh64 hk53 (nz rfl) (ne0 wh64 hk66 (nz rfl)) (nm rfl)).trans hv118
      have hv120 := (fr_ext (key := 24022) eh76 hk66 (nz rfl) (ne0 wh76 hk78 (nz rfl)) (nm rfl)).trans hv119
      have hv121 := (fr_ext (key := 24022) eh86 hk78 (nz rfl) (ne0 wh86 hk88 (nz rfl)) (nm rfl)).trans hv120
      have hv122 := (fr_ext (key := 24022) eh95 hk88 (nz rfl) (ne0 wh95 hk97 (nz rfl)) (nm rfl)).trans hv121
      have hv123 := (fr_ext (key := 24022) eh112 hk97 (nz rfl) (ne0 wh112 hk114 (nz rfl)) (nm rfl)).trans hv122
      refine r_getr' (pc := 207) (T := TX24) 24 22 hv123 hk114 (Or.inl q2720) dX24_plus_207 kc24 g24022 ?_
      refine r_aload_n (pc := 210) dX24_plus_210 rfl ?_
      refine r_getr' (pc := 211) (T := TX24) 24 24 hv117 hk114 (Or.inl q2722) dX24_plus_211 kc24 g24024 ?_
      have hk126 := kd_ext eh112 hk113 (nz rfl)
      refine r_callV_V (pc := 214) (Y := mX27_subtract) (vs := [_, _, _]) (st := []) hk126 rfl kc27 q2628 q2629 q2630 dX24_plus_214 rfl cd_X27_subtract rfl rfl fp_X24_plus_X27_subtract K (fun h125 eh125 wh125 K => ?_) (fun x h1 _ _ e => Tw.out rfl e)
      refine r_aload_n (pc := 217) dX24_plus_217 rfl ?_
      have hk127 := kd_ext eh125 hk114 (nz rfl)
      have hv128 := (fr_ext (key := 24025) eh112 hk97 (nz rfl) (ne0 wh112 hk114 (nz rfl)) (nm rfl)).trans hv102
      have hv129 := (fr_ext (key := 24025) eh125 hk114 (nz rfl) (ne0 wh125 hk127 (nz rfl)) (nm rfl)).trans hv128
      refine r_getr' (pc := 218) (T := TX24) 24 25 hv129 hk127 (Or.inl q2723) dX24_plus_218 kc24 g24025 ?_
      refine r_callS_I (pc := 221) (Y := mX27_isZero) (vs := [_]) (st := []) q2636 q2637 q195 dX24_plus_221 rfl cd_X27_isZero rfl rfl fp_X24_plus_X27_isZero K (fun x130 h131 eh131 wh131 K => ?_) (fun x h1 _ _ e => Tw.out rfl e)
      refine r_if_eq (pc := 224) (tgt := 267) dX24_plus_224 rfl (fun c132 => ?_) (fun c132 => ?_)
      · have K := K.1 c132
        refine r_aload_n (pc := 267) dX24_plus_267 rfl ?_
        have hk133 := kd_ext eh131 hk127 (nz rfl)
        have hv134 := (fr_ext (key := 24015) eh125 hk114 (nz rfl) (ne0 wh125 hk127 (nz rfl)) (nm rfl)).trans hv115
        have hv135 := (fr_ext (key := 24015) eh131 hk127 (nz rfl) (ne0 wh131 hk133 (nz rfl)) (nm rfl)).trans hv134
        refine r_getr' (pc := 268) (T := TX24) 24 15 hv135 hk133 (Or.inl q2713) dX24_plus_268 kc24 g24015 ?_
        refine r_aload_n (pc := 271) dX24_plus_271 rfl ?_
        have hk136 := kd_ext eh86 hk82 (nz rfl)
        have hk137 := kd_ext eh95 hk136 (nz rfl)
        have hk138 := kd_ext eh112 hk137 (nz rfl)
        have hk139 := kd_ext eh125 hk138 (nz rfl)
        have hk140 := kd_ext eh131 hk139 (nz rfl)
        have hv141 := (fr_ext (key := 25002) eh86 hk82 (nz rfl) (ne0 wh86 hk136 (nz rfl)) (nm rfl)).trans hv84
        have hv142 := (fr_ext (key := 25002) eh95 hk136 (nz rfl) (ne0 wh95 hk137 (nz rfl)) (nm rfl)).trans hv141
        have hv143 := (fr_ext (key := 25002) eh112 hk137 (nz rfl) (ne0 wh112 hk138 (nz rfl)) (nm rfl)).trans hv142
        have hv144 := (fr_ext (key := 25002) eh125 hk138 (nz rfl) (ne0 wh125 hk139 (nz rfl)) (nm rfl)).trans hv143
        have hv145 := (fr_ext (key := 25002) eh131 hk139 (nz rfl) (ne0 wh131 hk140 (nz rfl)) (nm rfl)).trans hv144
        refine r_getr' (pc := 272) (T := TX25) 25 2 hv145 hk140 (Or.inr (Or.inl ⟨_, q2126⟩)) dX24_plus_272 kc25 g25002 ?_
        refine r_aload_n (pc := 275) dX24_plus_275 rfl ?_
        have hk146 := kd_ext eh95 hk91 (nz rfl)
        have hk147 := kd_ext eh112 hk146 (nz rfl)
        have hk148 := kd_ext eh125 hk147 (nz rfl)
        have hk149 := kd_ext eh131 hk148 (nz rfl)
        have hv150 := (fr_ext (key := 25002) eh42 hk38 (nz rfl) (ne0 wh42 hk68 (nz rfl)) (nm rfl)).trans hv40
        have hv151 := (fr_ext (key := 25002) eh51 hk68 (nz rfl) (ne0 wh51 hk69 (nz rfl)) (nm rfl)).trans hv150
        have hv152 := (fr_ext (key := 25002) eh64 hk69 (nz rfl) (ne0 wh64 hk70 (nz rfl)) (nm rfl)).trans hv151
        have hv153 := (fr_ext (key := 25002) eh76 hk70 (nz rfl) (ne0 wh76 hk90 (nz rfl)) (nm rfl)).trans hv152
        have hv154 := (fr_ext (key := 25002) eh86 hk90 (nz rfl) (ne0 wh86 hk91 (nz rfl)) (nm rfl)).trans hv153
        have hv155 := (fr_ext (key := 25002) eh95 hk91 (nz rfl) (ne0 wh95 hk146 (nz rfl)) (nm rfl)).trans hv154
        have hv156 := (fr_ext (key := 25002) eh112 hk146 (nz rfl) (ne0 wh112 hk147 (nz rfl)) (nm rfl)).trans hv155
        have hv157 := (fr_ext (key := 25002) eh125 hk147 (nz rfl) (ne0 wh125 hk148 (nz rfl)) (nm rfl)).trans hv156
        have hv158 := (fr_ext (key := 25002) eh131 hk148 (nz rfl) (ne0 wh131 hk149 (nz rfl)) (nm rfl)).trans hv157
        refine r_getr' (pc := 276) (T := TX25) 25 2 hv158 hk149 (Or.inr (Or.inl ⟨_, q2126⟩)) dX24_plus_276 kc25 g25002 ?_
        refine r_aload_n (pc := 279) dX24_plus_279 rfl ?_
        refine r_getr' (pc := 280) (T := TX25) 25 2 hv145 hk140 (Or.inr (Or.inl ⟨_, q2126⟩)) dX24_plus_280 kc25 g25002 ?_
        have hk161 := kd_ext eh125 hk126 (nz rfl)
        have hk162 := kd_ext eh131 hk161 (nz rfl)
        refine r_callV_V (pc := 283) (Y := mX27_multiply) (vs := [_, _, _]) (st := []) hk162 rfl kc27 q2615 q2252 q2253 dX24_plus_283 rfl cd_X27_multiply rfl rfl fp_X24_plus_X27_multiply K (fun h160 eh160 wh160 K => ?_) (fun x h1 _ _ e => Tw.out rfl e)
        refine r_aload_n (pc := 286) dX24_plus_286 rfl ?_
        have hk163 := kd_ext eh160 hk133 (nz rfl)
        have hv164 := (fr_ext (key := 24015) eh160 hk133 (nz rfl) (ne0 wh160 hk163 (nz rfl)) (nm rfl)).trans hv135
        refine r_getr' (pc := 287) (T := TX24) 24 15 hv164 hk163 (Or.inl q2713) dX24_plus_287 kc24 g24015 ?_
        refine r_aload_n (pc := 290) dX24_plus_290 rfl ?_
        have hk165 := kd_ext eh160 hk140 (nz rfl)
        have hv166 := (fr_ext (key := 25002) eh160 hk140 (nz rfl) (ne0 wh160 hk165 (nz rfl)) (nm rfl)).trans hv145
        refine r_getr' (pc := 291) (T := TX25) 25 2 hv166 hk165 (Or.inr (Or.inl ⟨_, q2126⟩)) dX24_plus_291 kc25 g25002 ?_
        refine r_aload_n (pc := 294) dX24_plus_294 rfl ?_
        have hv167 := (fr_ext (key := 24025) eh131 hk127 (nz rfl) (ne0 wh131 hk133 (nz rfl)) (nm rfl)).trans hv129
        have hv168 := (fr_ext (key := 24025) eh160 hk133 (nz rfl) (ne0 wh160 hk163 (nz rfl)) (nm rfl)).trans hv167
        refine r_getr' (pc := 295) (T := TX24) 24 25 hv168 hk163 (Or.inl q2723) dX24_plus_295 kc24 g24025 ?_
        refine r_aload_n (pc := 298) dX24_plus_298 rfl ?_
        refine r_getr' (pc := 299) (T := TX25) 25 2 hv166 hk165 (Or.inr (Or.inl ⟨_, q2126⟩)) dX24_plus_299 kc25 g25002 ?_
        have hk171 := kd_ext eh160 hk162 (nz rfl)
        refine r_callV_V (pc := 302) (Y := mX27_multiply) (vs := [_, _, _]) (st := []) hk171 rfl kc27 q2615 q2252 q2253 dX24_plus_302 rfl cd_X27_multiply rfl rfl fp_X24_plus_X27_multiply K (fun h170 eh170 wh170 K => ?_) (fun x h1 _ _ e => Tw.out rfl e)
        refine r_aload_n (pc := 305) dX24_plus_305 rfl ?_
        have hk172 := kd_ext eh170 hk163 (nz rfl)
        have hv173 := (fr_ext (key := 24015) eh170 hk163 (nz rfl) (ne0 wh170 hk172 (nz rfl)) (nm rfl)).trans hv164
        refine r_getr' (pc := 306) (T := TX24) 24 15 hv173 hk172 (Or.inl q2713) dX24_plus_306 kc24 g24015 ?_
        refine r_aload_n (pc := 309) dX24_plus_309 rfl ?_
        have hv174 := (fr_ext (key := 24025) eh170 hk163 (nz rfl) (ne0 wh170 hk172 (nz rfl)) (nm rfl)).trans hv168
        refine r_getr' (pc := 310) (T := TX24) 24 25 hv174 hk172 (Or.inl q2723) dX24_plus_310 kc24 g24025 ?_
        refine r_aload_n (pc := 313) dX24_plus_313 rfl ?_
        refine r_getr' (pc := 314) (T := TX24) 24 25 hv174 hk172 (Or.inl q2723) dX24_plus_314 kc24 g24025 ?_
        refine r_aload_n (pc := 317) dX24_plus_317 rfl ?_
        have K := K _ rfl
        refine r_getr' (pc := 318) (T := TX24) 24 26 rfl hk172 (Or.inl q2724) dX24_plus_318 kc24 g24026 ?_
        have hk178 := kd_ext eh170 hk171 (nz rfl)
        refine r_callV_V (pc := 321) (Y := mX27_multiply) (vs := [_, _, _]) (st := []) hk178 rfl kc27 q2615 q2252 q2253 dX24_plus_321 rfl cd_X27_multiply rfl rfl fp_X24_plus_X27_multiply K (fun h177 eh177 wh177 K => ?_) (fun x h1 _ _ e => Tw.out rfl e)
        refine r_aload_n (pc := 324) dX24_plus_324 rfl ?_
        have hk179 := kd_ext eh177 hk172 (nz rfl)
        have hv180 := (fr_ext (key := 24015) eh177 hk172 (nz rfl) (ne0 wh177 hk179 (nz rfl)) (nm rfl)).trans hv173
        refine r_getr' (pc := 325) (T := TX24) 24 15 hv180 hk179 (Or.inl q2713) dX24_plus_325 kc24 g24015 ?_
        refine r_aload_n (pc := 328) dX24_plus_328 rfl ?_
        have hv181 := (fr_ext (key := 24023) eh112 hk97 (nz rfl) (ne0 wh112 hk114 (nz rfl)) (nm rfl)).trans hv110
        have hv182 := (fr_ext (key := 24023) eh125 hk114 (nz rfl) (ne0 wh125 hk127 (nz rfl)) (nm rfl)).trans hv181
        have hv183 := (fr_ext (key := 24023) eh131 hk127 (nz rfl) (ne0 wh131 hk133 (nz rfl)) (nm rfl)).trans hv182
        have hv184 := (fr_ext (key := 24023) eh160 hk133 (nz rfl) (ne0 wh160 hk163 (nz rfl)) (nm rfl)).trans hv183
        have hv185 := (fr_ext (key := 24023) eh170 hk163 (nz rfl) (ne0 wh170 hk172 (nz rfl)) (nm rfl)).trans hv184
        have hv186 := (fr_ext (key := 24023) eh177 hk172 (nz rfl) (ne0 wh177 hk179 (nz rfl)) (nm rfl)).trans hv185
        refine r_getr' (pc := 329) (T := TX24) 24 23 hv186 hk179 (Or.inl q2721) dX24_plus_329 kc24 g24023 ?_
        refine r_aload_n (pc := 332) dX24_plus_332 rfl ?_
        have hv187 := fr_self (key := 24026) hk172
        have hv188 := (fr_ext (key := 24026) eh177 hk172 (nz rfl) (ne0 wh177 hk179 (nz rfl)) (nm rfl)).trans hv187
        refine r_getr' (pc := 333) (T := TX24) 24 26 hv188 hk179 (Or.inl q2724) dX24_plus_333 kc24 g24026 ?_
        refine r_aload_n (pc := 336) dX24_plus_336 rfl ?_
        refine r_getr' (pc := 337) (T := TX24) 24 23 hv186 hk179 (Or.inl q2721) dX24_plus_337 kc24 g24023 ?_
        have hk191 := kd_ext eh177 hk178 (nz rfl)
        refine r_callV_V (pc := 340) (Y := mX27_multiply) (vs := [_, _, _]) (st := []) hk191 rfl kc27 q2615 q2252 q2253 dX24_plus_340 rfl cd_X27_multiply rfl rfl fp_X24_plus_X27_multiply K (fun h190 eh190 wh190 K => ?_) (fun x h1 _ _ e => Tw.out rfl e)
        refine r_aload_n (pc := 343) dX24_plus_343 rfl ?_
        have hk192 := kd_ext eh190 hk179 (nz rfl)
        have hv193 := (fr_ext (key := 24015) eh190 hk179 (nz rfl) (ne0 wh190 hk192 (nz rfl)) (nm rfl)).trans hv180
        refine r_getr' (pc := 344) (T := TX24) 24 15 hv193 hk192 (Or.inl q2713) dX24_plus_344 kc24 g24015 ?_
        refine r_aload_n (pc := 347) dX24_plus_347 rfl ?_
        have hv194 := (fr_ext (key := 24026) eh190 hk179 (nz rfl) (ne0 wh190 hk192 (nz rfl)) (nm rfl)).trans hv188
        refine r_getr' (pc := 348) (T := TX24) 24 26 hv194 hk192 (Or.inl q2724) dX24_plus_348 kc24 g24026 ?_
        refine r_aload_n (pc := 351) dX24_plus_351 rfl ?_
        have hv195 := (fr_ext (key := 24025) eh177 hk172 (nz rfl) (ne0 wh177 hk179 (nz rfl)) (nm rfl)).trans hv174
        have hv196 := (fr_ext (key := 24025) eh190 hk179 (nz rfl) (ne0 wh190 hk192 (nz rfl)) (nm rfl)).trans hv195
        refine r_getr' (pc := 352) (T := TX24) 24 25 hv196 hk192 (Or.inl q2723) dX24_plus_352 kc24 g24025 ?_
        refine r_aload_n (pc := 355) dX24_plus_355 rfl ?_
        refine r_getr' (pc := 356) (T := TX24) 24 26 hv194 hk192 (Or.inl q2724) dX24_plus_356 kc24 g24026 ?_
        have hk199 := kd_ext eh190 hk191 (nz rfl)
        refine r_callV_V (pc := 359) (Y := mX27_multiply) (vs := [_, _, _]) (st := []) hk199 rfl kc27 q2615 q2252 q2253 dX24_plus_359 rfl cd_X27_multiply rfl rfl fp_X24_plus_X27_multiply K (fun h198 eh198 wh198 K => ?_) (fun x h1 _ _ e => Tw.out rfl e)
        refine r_aload_n (pc := 362) dX24_plus_362 rfl ?_
        have hk200 := kd_ext eh198 hk192 (nz rfl)
        have hv201 := (fr_ext (key := 24015) eh198 hk192 (nz rfl) (ne0 wh198 hk200 (nz rfl)) (nm rfl)).trans hv193
        refine r_getr' (pc := 363) (T := TX24) 24 15 hv201 hk200 (Or.inl q2713) dX24_plus_363 kc24 g24015 ?_
        refine r_aload_n (pc := 366) dX24_plus_366 rfl ?_
        have hv202 := (fr_ext (key := 24024) eh125 hk114 (nz rfl) (ne0 wh125 hk127 (nz rfl)) (nm rfl)).trans hv117
        have hv203 := (fr_ext (key := 24024) eh131 hk127 (nz rfl) (ne0 wh131 hk133 (nz rfl)) (nm rfl)).trans hv202
        have hv204 := (fr_ext (key := 24024) eh160 hk133 (nz rfl) (ne0 wh160 hk163 (nz rfl)) (nm rfl)).trans hv203
        have hv205 := (fr_ext (key := 24024) eh170 hk163 (nz rfl) (ne0 wh170 hk172 (nz rfl)) (nm rfl)).trans hv204
        have hv206 := (fr_ext (key := 24024) eh177 hk172 (nz rfl) (ne0 wh177 hk179 (nz rfl)) (nm rfl)).trans hv205
        have hv207 := (fr_ext (key := 24024) eh190 hk179 (nz rfl) (ne0 wh190 hk192 (nz rfl)) (nm rfl)).trans hv206
        have hv208 := (fr_ext (key := 24024) eh198 hk192 (nz rfl) (ne0 wh198 hk200 (nz rfl)) (nm rfl)).trans hv207
        refine r_getr' (pc := 367) (T := TX24) 24 24 hv208 hk200 (Or.inl q2722) dX24_plus_367 kc24 g24024 ?_
        refine r_aload_n (pc := 370) dX24_plus_370 rfl ?_
        refine r_getr' (pc := 371) (T := TX24) 24 24 hv208 hk200 (Or.inl q2722) dX24_plus_371 kc24 g24024 ?_
        refine r_aload_n (pc := 374) dX24_plus_374 rfl ?_
        have hk209 := kd_ext eh170 hk165 (nz rfl)
        have hk210 := kd_ext eh177 hk209 (nz rfl)
        have hk211 := kd_ext eh190 hk210 (nz rfl)
        have hk212 := kd_ext eh198 hk211 (nz rfl)
        have hv213 := fr_self (key := 25000) hk26
        have hv214 := (fr_ext (key := 25000) eh32 hk26 (nz rfl) (ne0 wh32 hk46 (nz rfl)) (nm rfl)).trans hv213
        have hv215 := (fr_ext (key := 25000) eh42 hk46 (nz rfl) (ne0 wh42 hk47 (nz rfl)) (nm rfl)).trans hv214
        have hv216 := (fr_ext (key := 25000) eh51 hk47 (nz rfl) (ne0 wh51 hk55 (nz rfl)) (nm rfl)).trans hv215
        have hv217 := (fr_ext (key := 25000) eh64 hk55 (nz rfl) (ne0 wh64 hk81 (nz rfl)) (nm rfl)).trans hv216
        have hv218 := (fr_ext (key := 25000) eh76 hk81 (nz rfl) (ne0 wh76 hk82 (nz rfl)) (nm rfl)).trans hv217
        have hv219 := (fr_ext (key := 25000) eh86 hk82 (nz rfl) (ne0 wh86 hk136 (nz rfl)) (nm rfl)).trans hv218
        have hv220 := (fr_ext (key := 25000) eh95 hk136 (nz rfl) (ne0 wh95 hk137 (nz rfl)) (nm rfl)).trans hv219
        have hv221 := (fr_ext (key := 25000) eh112 hk137 (nz rfl) (ne0 wh112 hk138 (nz rfl)) (nm rfl)).trans hv220
        have hv222 := (fr_ext (key := 25000) eh125 hk138 (nz rfl) (ne0 wh125 hk139 (nz rfl)) (nm rfl)).trans hv221
        have hv223 := (fr_ext (key := 25000) eh131 hk139 (nz rfl) (ne0 wh131 hk140 (nz rfl)) (nm rfl)).trans hv222
        have hv224 := (fr_ext (key := 25000) eh160 hk140 (nz rfl) (ne0 wh160 hk165 (nz rfl)) (nm rfl)).trans hv223
        have hv225 := (fr_ext (key := 25000) eh170 hk165 (nz rfl) (ne0 wh170 hk209 (nz rfl)) (nm rfl)).trans hv224
        have hv226 := (fr_ext (key := 25000) eh177 hk209 (nz rfl) (ne0 wh177 hk210 (nz rfl)) (nm rfl)).trans hv225
        have hv227 := (fr_ext (key := 25000) eh190 hk210 (nz rfl) (ne0 wh190 hk211 (nz rfl)) (nm rfl)).trans hv226
        have hv228 := (fr_ext (key := 25000) eh198 hk211 (nz rfl) (ne0 wh198 hk212 (nz rfl)) (nm rfl)).trans hv227
        refine r_getr' (pc := 375) (T := TX25) 25 0 hv228 hk212 (Or.inr (Or.inl ⟨_, q2122⟩)) dX24_plus_375 kc25 g25000 ?_
        have hk231 := kd_ext eh198 hk199 (nz rfl)
        refine r_callV_V (pc := 378) (Y := mX27_multiply) (vs := [_, _, _]) (st := []) hk231 rfl kc27 q2615 q2252 q2253 dX24_plus_378 rfl cd_X27_multiply rfl rfl fp_X24_plus_X27_multiply K (fun h230 eh230 wh230 K => ?_) (fun x h1 _ _ e => Tw.out rfl e)
        refine r_aload_n (pc := 381) dX24_plus_381 rfl ?_
        have hk232 := kd_ext eh230 hk200 (nz rfl)
        have hv233 := (fr_ext (key := 24015) eh230 hk200 (nz rfl) (ne0 wh230 hk232 (nz rfl)) (nm rfl)).trans hv201
        refine r_getr' (pc := 382) (T := TX24) 24 15 hv233 hk232 (Or.inl q2713) dX24_plus_382 kc24 g24015 ?_
        refine r_aload_n (pc := 385) dX24_plus_385 rfl ?_
        have hk234 := kd_ext eh230 hk212 (nz rfl)
        have hv235 := (fr_ext (key := 25000) eh230 hk212 (nz rfl) (ne0 wh230 hk234 (nz rfl)) (nm rfl)).trans hv228
        refine r_getr' (pc := 386) (T := TX25) 25 0 hv235 hk234 (Or.inr (Or.inl ⟨_, q2122⟩)) dX24_plus_386 kc25 g25000 ?_
        refine r_aload_n (pc := 389) dX24_plus_389 rfl ?_
        have hv236 := (fr_ext (key := 24026) eh198 hk192 (nz rfl) (ne0 wh198 hk200 (nz rfl)) (nm rfl)).trans hv194
        have hv237 := (fr_ext (key := 24026) eh230 hk200 (nz rfl) (ne0 wh230 hk232 (nz rfl)) (nm rfl)).trans hv236
        refine r_getr' (pc := 390) (T := TX24) 24 26 hv237 hk232 (Or.inl q2724) dX24_plus_390 kc24 g24026 ?_
        refine r_aload_n (pc := 393) dX24_plus_393 rfl ?_
        refine r_getr' (pc := 394) (T := TX25) 25 0 hv235 hk234 (Or.inr (Or.inl ⟨_, q2122⟩)) dX24_plus_394 kc25 g25000 ?_
        have hk240 := kd_ext eh230 hk231 (nz rfl)
        refine r_callV_V (pc := 397) (Y := mX27_subtract) (vs := [_, _, _]) (st := []) hk240 rfl kc27 q2628 q2629 q2630 dX24_plus_397 rfl cd_X27_subtract rfl rfl fp_X24_plus_X27_subtract K (fun h239 eh239 wh239 K => ?_) (fun x h1 _ _ e => Tw.out rfl e)
        refine r_aload_n (pc := 400) dX24_plus_400 rfl ?_
        have hk241 := kd_ext eh239 hk232 (nz rfl)
        have hv242 := (fr_ext (key := 24015) eh239 hk232 (nz rfl) (ne0 wh239 hk241 (nz rfl)) (nm rfl)).trans hv233
        refine r_getr' (pc := 401) (T := TX24) 24 15 hv242 hk241 (Or.inl q2713) dX24_plus_401 kc24 g24015 ?_
        refine r_aload_n (pc := 404) dX24_plus_404 rfl ?_
        have hk243 := kd_ext eh239 hk234 (nz rfl)
        have hv244 := (fr_ext (key := 25000) eh239 hk234 (nz rfl) (ne0 wh239 hk243 (nz rfl)) (nm rfl)).trans hv235
        refine r_getr' (pc := 405) (T := TX25) 25 0 hv244 hk243 (Or.inr (Or.inl ⟨_, q2122⟩)) dX24_plus_405 kc25 g25000 ?_
        refine r_aload_n (pc := 408) dX24_plus_408 rfl ?_
        have hv245 := (fr_ext (key := 24023) eh190 hk179 (nz rfl) (ne0 wh190 hk192 (nz rfl)) (nm rfl)).trans hv186
        have hv246 := (fr_ext (key := 24023) eh198 hk192 (nz rfl) (ne0 wh198 hk200 (nz rfl)) (nm rfl)).trans hv245
        have hv247 := (fr_ext (key := 24023) eh230 hk200 (nz rfl) (ne0 wh230 hk232 (nz rfl)) (nm rfl)).trans hv246
        have hv248 := (fr_ext (key := 24023) eh239 hk232 (nz rfl) (ne0 wh239 hk241 (nz rfl)) (nm rfl)).trans hv247
        refine r_getr' (pc := 409) (T := TX24) 24 23 hv248 hk241 (Or.inl q2721) dX24_plus_409 kc24 g24023 ?_
        refine r_aload_n (pc := 412) dX24_plus_412 rfl ?_
        refine r_getr' (pc := 413) (T := TX25) 25 0 hv244 hk243 (Or.inr (Or.inl ⟨_, q2122⟩)) dX24_plus_413 kc25 g25000 ?_
        have hk251 := kd_ext eh239 hk240 (nz rfl)
        refine r_callV_V (pc := 416) (Y := mX27_subtract) (vs := [_, _, _]) (st := []) hk251 rfl kc27 q2628 q2629 q2630 dX24_plus_416 rfl cd_X27_subtract rfl rfl fp_X24_plus_X27_subtract K (fun h250 eh250 wh250 K => ?_) (fun x h1 _ _ e => Tw.out rfl e)
        refine r_aload_n (pc := 419) dX24_plus_419 rfl ?_
        have hk252 := kd_ext eh250 hk241 (nz rfl)
        have hv253 := (fr_ext (key := 24015) eh250 hk241 (nz rfl) (ne0 wh250 hk252 (nz rfl)) (nm rfl)).trans hv242
        refine r_getr' (pc := 420) (T := TX24) 24 15 hv253 hk252 (Or.inl q2713) dX24_plus_420 kc24 g24015 ?_
        refine r_aload_n (pc := 423) dX24_plus_423 rfl ?_
        have hk254 := kd_ext eh250 hk243 (nz rfl)
        have hv255 := (fr_ext (key := 25000) eh250 hk243 (nz rfl) (ne0 wh250 hk254 (nz rfl)) (nm rfl)).trans hv244
        refine r_getr' (pc := 424) (T := TX25) 25 0 hv255 hk254 (Or.inr (Or.inl ⟨_, q2122⟩)) dX24_plus_424 kc25 g25000 ?_
        refine r_aload_n (pc := 427) dX24_plus_427 rfl ?_
        have hv256 := (fr_ext (key := 24023) eh250 hk241 (nz rfl) (ne0 wh250 hk252 (nz rfl)) (nm rfl)).trans hv248
        refine r_getr' (pc := 428) (T := TX24) 24 23 hv256 hk252 (Or.inl q2721) dX24_plus_428 kc24 g24023 ?_
        refine r_aload_n (pc := 431) dX24_plus_431 rfl ?_
        refine r_getr' (pc := 432) (T := TX25) 25 0 hv255 hk254 (Or.inr (Or.inl ⟨_, q2122⟩)) dX24_plus_432 kc25 g25000 ?_
        have hk259 := kd_ext eh250 hk251 (nz rfl)
        refine r_callV_V (pc := 435) (Y := mX27_subtract) (vs := [_, _, _]) (st := []) hk259 rfl kc27 q2628 q2629 q2630 dX24_plus_435 rfl cd_X27_subtract rfl rfl fp_X24_plus_X27_subtract K (fun h258 eh258 wh258 K => ?_) (fun x h1 _ _ e => Tw.out rfl e)
        refine r_aload_n (pc := 438) dX24_plus_438 rfl ?_
        have hk260 := kd_ext eh258 hk252 (nz rfl)
        have hv261 := (fr_ext (key := 24015) eh258 hk252 (nz rfl) (ne0 wh258 hk260 (nz rfl)) (nm rfl)).trans hv253
        refine r_getr' (pc := 439) (T := TX24) 24 15 hv261 hk260 (Or.inl q2713) dX24_plus_439 kc24 g24015 ?_
        refine r_aload_n (pc := 442) dX24_plus_442 rfl ?_
        have hv262 := (fr_ext (key := 24023) eh258 hk252 (nz rfl) (ne0 wh258 hk260 (nz rfl)) (nm rfl)).trans hv256
        refine r_getr' (pc := 443) (T := TX24) 24 23 hv262 hk260 (Or.inl q2721) dX24_plus_443 kc24 g24023 ?_
        refine r_aload_n (pc := 446) dX24_plus_446 rfl ?_
        have hk263 := kd_ext eh258 hk254 (nz rfl)
        have hv264 := (fr_ext (key := 25000) eh258 hk254 (nz rfl) (ne0 wh258 hk263 (nz rfl)) (nm rfl)).trans hv255
        refine r_getr' (pc := 447) (T := TX25) 25 0 hv264 hk263 (Or.inr (Or.inl ⟨_, q2122⟩)) dX24_plus_447 kc25 g25000 ?_
        refine r_aload_n (pc := 450) dX24_plus_450 rfl ?_
        refine r_getr' (pc := 451) (T := TX24) 24 23 hv262 hk260 (Or.inl q2721) dX24_plus_451 kc24 g24023 ?_
        have hk267 := kd_ext eh258 hk259 (nz rfl)
        refine r_callV_V (pc := 454) (Y := mX27_subtract) (vs := [_, _, _]) (st := []) hk267 rfl kc27 q2628 q2629 q2630 dX24_plus_454 rfl cd_X27_subtract rfl rfl fp_X24_plus_X27_subtract K (fun h266 eh266 wh266 K => ?_) (fun x h1 _ _ e => Tw.out rfl e)
        refine r_aload_n (pc := 457) dX24_plus_457 rfl ?_
        have hk268 := kd_ext eh266 hk260 (nz rfl)
        have hv269 := (fr_ext (key := 24015) eh266 hk260 (nz rfl) (ne0 wh266 hk268 (nz rfl)) (nm rfl)).trans hv261
        refine r_getr' (pc := 458) (T := TX24) 24 15 hv269 hk268 (Or.inl q2713) dX24_plus_458 kc24 g24015 ?_
        refine r_aload_n (pc := 461) dX24_plus_461 rfl ?_
        have hv270 := (fr_ext (key := 24024) eh230 hk200 (nz rfl) (ne0 wh230 hk232 (nz rfl)) (nm rfl)).trans hv208
        have hv271 := (fr_ext (key := 24024) eh239 hk232 (nz rfl) (ne0 wh239 hk241 (nz rfl)) (nm rfl)).trans hv270
        have hv272 := (fr_ext (key := 24024) eh250 hk241 (nz rfl) (ne0 wh250 hk252 (nz rfl)) (nm rfl)).trans hv271
        have hv273 := (fr_ext (key := 24024) eh258 hk252 (nz rfl) (ne0 wh258 hk260 (nz rfl)) (nm rfl)).trans hv272
        have hv274 := (fr_ext (key := 24024) eh266 hk260 (nz rfl) (ne0 wh266 hk268 (nz rfl)) (nm rfl)).trans hv273
        refine r_getr' (pc := 462) (T := TX24) 24 24 hv274 hk268 (Or.inl q2722) dX24_plus_462 kc24 g24024 ?_
        refine r_aload_n (pc := 465) dX24_plus_465 rfl ?_
        have hv275 := (fr_ext (key := 24023) eh266 hk260 (nz rfl) (ne0 wh266 hk268 (nz rfl)) (nm rfl)).trans hv262
        refine r_getr' (pc := 466) (T := TX24) 24 23 hv275 hk268 (Or.inl q2721) dX24_plus_466 kc24 g24023 ?_
        refine r_aload_n (pc := 469) dX24_plus_469 rfl ?_
        have hk276 := kd_ext eh266 hk263 (nz rfl)
        have hv277 := fr_self (key := 25001) hk47
        have hv278 := (fr_ext (key := 25001) eh51 hk47 (nz rfl) (ne0 wh51 hk55 (nz rfl)) (nm rfl)).trans hv277
        have hv279 := (fr_ext (key := 25001) eh64 hk55 (nz rfl) (ne0 wh64 hk81 (nz rfl)) (nm rfl)).trans hv278
        have hv280 := (fr_ext (key := 25001) eh76 hk81 (nz rfl) (ne0 wh76 hk82 (nz rfl)) (nm rfl)).trans hv279
        have hv281 := (fr_ext (key := 25001) eh86 hk82 (nz rfl) (ne0 wh86 hk136 (nz rfl)) (nm rfl)).trans hv280
        have hv282 := (fr_ext (key := 25001) eh95 hk136 (nz rfl) (ne0 wh95 hk137 (nz rfl)) (nm rfl)).trans hv281
        have hv283 := (fr_ext (key := 25001) eh112 hk137 (nz rfl) (ne0 wh112 hk138 (nz rfl)) (nm rfl)).trans hv282
        have hv284 := (fr_ext (key := 25001) eh125 hk138 (nz rfl) (ne0 wh125 hk139 (nz rfl)) (nm rfl)).trans hv283
        have hv285 := (fr_ext (key := 25001) eh131 hk139 (nz rfl) (ne0 wh131 hk140 (nz rfl)) (nm rfl)).trans hv284
        have hv286 := (fr_ext (key := 25001) eh160 hk140 (nz rfl) (ne0 wh160 hk165 (nz rfl)) (nm rfl)).trans hv285
        have hv287 := (fr_ext (key := 25001) eh170 hk165 (nz rfl) (ne0 wh170 hk209 (nz rfl)) (nm rfl)).trans hv286
        have hv288 := (fr_ext (key := 25001) eh177 hk209 (nz rfl) (ne0 wh177 hk210 (nz rfl)) (nm rfl)).trans hv287
        have hv289 := (fr_ext (key := 25001) eh190 hk210 (nz rfl) (ne0 wh190 hk211 (nz rfl)) (nm rfl)).trans hv288
        have hv290 := (fr_ext (key := 25001) eh198 hk211 (nz rfl) (ne0 wh198 hk212 (nz rfl)) (nm rfl)).trans hv289
        have hv291 := (fr_ext (key := 25001) eh230 hk212 (nz rfl) (ne0 wh230 hk234 (nz rfl)) (nm rfl)).trans hv290
        have hv292 := (fr_ext (key := 25001) eh239 hk234 (nz rfl) (ne0 wh239 hk243 (nz rfl)) (nm rfl)).trans hv291
        have hv293 := (fr_ext (key := 25001) eh250 hk243 (nz rfl) (ne0 wh250 hk254 (nz rfl)) (nm rfl)).trans hv292
        have hv294 := (fr_ext (key := 25001) eh258 hk254 (nz rfl) (ne0 wh258 hk263 (nz rfl)) (nm rfl)).trans hv293
        have hv295 := (fr_ext (key := 25001) eh266 hk263 (nz rfl) (ne0 wh266 hk276 (nz rfl)) (nm rfl)).trans hv294
        refine r_getr' (pc := 470) (T := TX25) 25 1 hv295 hk276 (Or.inr (Or.inl ⟨_, q2124⟩)) dX24_plus_470 kc25 g25001 ?_
        have hk298 := kd_ext eh266 hk267 (nz rfl)
        refine r_callV_V (pc := 473) (Y := mX27_multiply) (vs := [_, _, _]) (st := []) hk298 rfl kc27 q2615 q2252 q2253 dX24_plus_473 rfl cd_X27_multiply rfl rfl fp_X24_plus_X27_multiply K (fun h297 eh297 wh297 K => ?_) (fun x h1 _ _ e => Tw.out rfl e)
        refine r_aload_n (pc := 476) dX24_plus_476 rfl ?_
        have hk299 := kd_ext eh297 hk268 (nz rfl)
        have hv300 := (fr_ext (key := 24015) eh297 hk268 (nz rfl) (ne0 wh297 hk299 (nz rfl)) (nm rfl)).trans hv269
        refine r_getr' (pc := 477) (T := TX24) 24 15 hv300 hk299 (Or.inl q2713) dX24_plus_477 kc24 g24015 ?_
        refine r_aload_n (pc := 480) dX24_plus_480 rfl ?_
        have hv301 := (fr_ext (key := 24022) eh125 hk114 (nz rfl) (ne0 wh125 hk127 (nz rfl)) (nm rfl)).trans hv123
        have hv302 := (fr_ext (key := 24022) eh131 hk127 (nz rfl) (ne0 wh131 hk133 (nz rfl)) (nm rfl)).trans hv301
        have hv303 := (fr_ext (key := 24022) eh160 hk133 (nz rfl) (ne0 wh160 hk163 (nz rfl)) (nm rfl)).trans hv302
        have hv304 := (fr_ext (key := 24022) eh170 hk163 (nz rfl) (ne0 wh170 hk172 (nz rfl)) (nm rfl)).trans hv303
        have hv305 := (fr_ext (key := 24022) eh177 hk172 (nz rfl) (ne0 wh177 hk179 (nz rfl)) (nm rfl)).trans hv304
        have hv306 := (fr_ext (key := 24022) eh190 hk179 (nz rfl) (ne0 wh190 hk192 (nz rfl)) (nm rfl)).trans hv305
        have hv307 := (fr_ext (key := 24022) eh198 hk192 (nz rfl) (ne0 wh198 hk200 (nz rfl)) (nm rfl)).trans hv306
        have hv308 := (fr_ext (key := 24022) eh230 hk200 (nz rfl) (ne0 wh230 hk232 (nz rfl)) (nm rfl)).trans hv307
        have hv309 := (fr_ext (key := 24022) eh239 hk232 (nz rfl) (ne0 wh239 hk241 (nz rfl)) (nm rfl)).trans hv308
        have hv310 := (fr_ext (key := 24022) eh250 hk241 (nz rfl) (ne0 wh250 hk252 (nz rfl)) (nm rfl)).trans hv309
        have hv311 := (fr_ext (key := 24022) eh258 hk252 (nz rfl) (ne0 wh258 hk260 (nz rfl)) (nm rfl)).trans hv310
        have hv312 := (fr_ext (key := 24022) eh266 hk260 (nz rfl) (ne0 wh266 hk268 (nz rfl)) (nm rfl)).trans hv311
        have hv313 := (fr_ext (key := 24022) eh297 hk268 (nz rfl) (ne0 wh297 hk299 (nz rfl)) (nm rfl)).trans hv312
        refine r_getr' (pc := 481) (T := TX24) 24 22 hv313 hk299 (Or.inl q2720) dX24_plus_481 kc24 g24022 ?_
        refine r_aload_n (pc := 484) dX24_plus_484 rfl ?_
        have hv314 := (fr_ext (key := 24026) eh239 hk232 (nz rfl) (ne0 wh239 hk241 (nz rfl)) (nm rfl)).trans hv237
        have hv315 := (fr_ext (key := 24026) eh250 hk241 (nz rfl) (ne0 wh250 hk252 (nz rfl)) (nm rfl)).trans hv314
        have hv316 := (fr_ext (key := 24026) eh258 hk252 (nz rfl) (ne0 wh258 hk260 (nz rfl)) (nm rfl)).trans hv315
        have hv317 := (fr_ext (key := 24026) eh266 hk260 (nz rfl) (ne0 wh266 hk268 (nz rfl)) (nm rfl)).trans hv316
        have hv318 := (fr_ext (key := 24026) eh297 hk268 (nz rfl) (ne0 wh297 hk299 (nz rfl)) (nm rfl)).trans hv317
        refine r_getr' (pc := 485) (T := TX24) 24 26 hv318 hk299 (Or.inl q2724) dX24_plus_485 kc24 g24026 ?_
        refine r_aload_n (pc := 488) dX24_plus_488 rfl ?_
        refine r_getr' (pc := 489) (T := TX24) 24 22 hv313 hk299 (Or.inl q2720) dX24_plus_489 kc24 g24022 ?_
        have hk321 := kd_ext eh297 hk298 (nz rfl)
        refine r_callV_V (pc := 492) (Y := mX27_multiply) (vs := [_, _, _]) (st := []) hk321 rfl kc27 q2615 q2252 q2253 dX24_plus_492 rfl cd_X27_multiply rfl rfl fp_X24_plus_X27_multiply K (fun h320 eh320 wh320 K => ?_) (fun x h1 _ _ e => Tw.out rfl e)
        refine r_aload_n (pc := 495) dX24_plus_495 rfl ?_
        have hk322 := kd_ext eh320 hk299 (nz rfl)
        have hv323 := (fr_ext (key := 24015) eh320 hk299 (nz rfl) (ne0 wh320 hk322 (nz rfl)) (nm rfl)).trans hv300
        refine r_getr' (pc := 496) (T := TX24) 24 15 hv323 hk322 (Or.inl q2713) dX24_plus_496 kc24 g24015 ?_
        refine r_aload_n (pc := 499) dX24_plus_499 rfl ?_
        have hk324 := kd_ext eh297 hk276 (nz rfl)
        have hk325 := kd_ext eh320 hk324 (nz rfl)
        have hv326 := (fr_ext (key := 25001) eh297 hk276 (nz rfl) (ne0 wh297 hk324 (nz rfl)) (nm rfl)).trans hv295
        have hv327 := (fr_ext (key := 25001) eh320 hk324 (nz rfl) (ne0 wh320 hk325 (nz rfl)) (nm rfl)).trans hv326
        refine r_getr' (pc := 500) (T := TX25) 25 1 hv327 hk325 (Or.inr (Or.inl ⟨_, q2124⟩)) dX24_plus_500 kc25 g25001 ?_
        refine r_aload_n (pc := 503) dX24_plus_503 rfl ?_
        have hv328 := (fr_ext (key := 24022) eh320 hk299 (nz rfl) (ne0 wh320 hk322 (nz rfl)) (nm rfl)).trans hv313
        refine r_getr' (pc := 504) (T := TX24) 24 22 hv328 hk322 (Or.inl q2720) dX24_plus_504 kc24 g24022 ?_
        refine r_aload_n (pc := 507) dX24_plus_507 rfl ?_
        refine r_getr' (pc := 508) (T := TX25) 25 1 hv327 hk325 (Or.inr (Or.inl ⟨_, q2124⟩)) dX24_plus_508 kc25 g25001 ?_
        have hk331 := kd_ext eh320 hk321 (nz rfl)
        refine r_callV_V (pc := 511) (Y := mX27_subtract) (vs := [_, _, _]) (st := []) hk331 rfl kc27 q2628 q2629 q2630 dX24_plus_511 rfl cd_X27_subtract rfl rfl fp_X24_plus_X27_subtract K (fun h330 eh330 wh330 K => ?_) (fun x h1 _ _ e => Tw.out rfl e)
        exact r_vret (pc := 514) rfl dX24_plus_514 K
      · have K := K.2 c132
        refine r_aload_n (pc := 227) dX24_plus_227 rfl ?_
        have hk332 := kd_ext eh131 hk127 (nz rfl)
        have hv333 := (fr_ext (key := 24024) eh125 hk114 (nz rfl) (ne0 wh125 hk127 (nz rfl)) (nm rfl)).trans hv117
        have hv334 := (fr_ext (key := 24024) eh131 hk127 (nz rfl) (ne0 wh131 hk332 (nz rfl)) (nm rfl)).trans hv333
        refine r_getr' (pc := 228) (T := TX24) 24 24 hv334 hk332 (Or.inl q2722) dX24_plus_228 kc24 g24024 ?_
        refine r_callS_I (pc := 231) (Y := mX27_isZero) (vs := [_]) (st := []) q2636 q2637 q195 dX24_plus_231 rfl cd_X27_isZero rfl rfl fp_X24_plus_X27_isZero K (fun x335 h336 eh336 wh336 K => ?_) (fun x h1 _ _ e => Tw.out rfl e)
        refine r_if_eq (pc := 234) (tgt := 245) dX24_plus_234 rfl (fun c337 => ?_) (fun c337 => ?_)
        · have K := K.1 c337
          refine r_iconst (pc := 245) (x := 0) dX24_plus_245 rfl ?_
          refine r_istore_n (pc := 246) (lv' := [_, _, _, _]) dX24_plus_246 (by decide) rfl ?_
          refine r_mask (pc := 247) [false, true, false, true] rfl ?_
          exact K
        · have K := K.2 c337
          refine r_aload_n (pc := 237) dX24_plus_237 rfl ?_
          refine r_aload_n (pc := 238) dX24_plus_238 rfl ?_
          have hk340 := kd_ext eh336 hk332 (nz rfl)
          refine r_callV_V (pc := 239) (Y := mX24_doubled) (vs := [_]) (st := []) hk340 rfl kc24 q2643 q2645 qs122 dX24_plus_239 rfl cd_X24_doubled rfl rfl fp_X24_plus_X24_doubled K (fun h339 eh339 wh339 K => ?_) (fun x h1 _ _ e => Tw.out rfl e)
          refine r_goto (pc := 242) (tgt := 266) dX24_plus_242 rfl ?_
          exact r_vret (pc := 266) rfl dX24_plus_266 K
    · have K := K.2 c10
      refine r_aload_n (pc := 21) dX24_plus_21 rfl ?_
      refine r_aload_n (pc := 22) dX24_plus_22 rfl ?_
      have hk343 := kd_ext eh9 hk6 (nz rfl)
      refine r_callV_V (pc := 23) (Y := mX25_take) (vs := [_]) (st := []) hk343 rfl kc25 q2651 q2652 q2653 dX24_plus_23 rfl cd_X25_take rfl rfl fp_X24_plus_X25_take K (fun h342 eh342 wh342 K => ?_) (fun x h1 _ _ e => Tw.out rfl e)
      exact r_vret (pc := 26) rfl dX24_plus_26 K
  · have K := K.2 c5
    exact r_vret (pc := 10) rfl dX24_plus_10 K
theorem eX24_plus {G : Gx} {d : Nat} {Φ : Out → AH → Prop} (h : AH) (v0 : Nat) (v1 : Nat) (v2 : Nat) (K : WF G h → Aw G mX24_plus (d + 1) 0 h Φ 0 [vR v0, vR v1, vR v2, vU] [] h) : Cw G mX24_plus (d + 1) 0 [vR v0, vR v1, vR v2] h Φ := Cw.of rfl K
set_option maxHeartbeats 4000000 in
theorem sX24_plus_247 {G : Gx} {d t : Nat} {h0 : AH} {Φ : Out → AH → Prop} (h : AH) (v1 : Nat) (v3 : Int32) (K : ((8 ≤ v3 → Φ (.inl none) h) ∧ (¬ 8 ≤ v3 → h.kd v1 = 25 ∧ ∀ r3 : Nat, r3 = (h.r 25002 v1) → h.kd r3 = 100 ∧ vp_in v3 (h.ai r3).length ∧ ∀ h6 : AH, h6 = h.wi r3 ((h.ai r3).set (v3.toNatClampNeg) 0) → Aw G mX24_plus (d + 1) t h0 Φ 247 [vU, vR v1, vU, vI (v3 + 1)] [] h6))) : Aw G mX24_plus (d + 1) t h0 Φ 247 [vU, vR v1, vU, vI v3] [] h := by
  refine r_iload_n (pc := 247) dX24_plus_247 rfl ?_
  refine r_bipush (pc := 248) (x := 8) dX24_plus_248 rfl ?_
  refine r_icmp_ge (pc := 250) (tgt := 266) dX24_plus_250 rfl (fun c1 => ?_) (fun c1 => ?_)
  · have K := K.1 c1
    exact r_vret (pc := 266) rfl dX24_plus_266 K
  · have K := K.2 c1
    refine r_aload_n (pc := 253) dX24_plus_253 rfl ?_
    obtain ⟨hk2, K⟩ := K
    have K := K _ rfl
    refine r_getr' (pc := 254) (T := TX25) 25 2 rfl hk2 (Or.inr (Or.inl ⟨_, q2126⟩)) dX24_plus_254 kc25 g25002 ?_
    refine r_iload_n (pc := 257) dX24_plus_257 rfl ?_
    refine r_iconst (pc := 258) (x := 0) dX24_plus_258 rfl ?_
    obtain ⟨hk4, K⟩ := K
    obtain ⟨hi5, K⟩ := K
    refine r_iastore (pc := 259) hk4 hi5 (Or.inl (em rfl)) dX24_plus_259 ?_
    refine r_nameH (fun h6 eh6 => ?_)
    have K := K h6 eh6
    refine r_iinc (pc := 260) (lv' := [_, _, _, _]) dX24_plus_260 rfl rfl (by decide) rfl ?_
    refine r_goto (pc := 263) (tgt := 247) dX24_plus_263 rfl ?_
    refine r_mask (pc := 247) [false, true, false, true] rfl ?_
    exact K
theorem dX24_readKey_0 : decode cX24_readKey 0 = .ok (.iload_n 2, 1) := by decide +kernel
theorem dX24_readKey_1 : decode cX24_readKey 1 = .ok (.bipush 33, 2) := by decide +kernel
theorem dX24_readKey_3 : decode cX24_readKey 3 = .ok (.if_icmp .ne 21, 3) := by decide +kernel
theorem dX24_readKey_6 : decode cX24_readKey 6 = .ok (.aload_n 1, 1) := by decide +kernel
theorem dX24_readKey_7 : decode cX24_readKey 7 = .ok (.iconst 0, 1) := by decide +kernel
theorem dX24_readKey_8 : decode cX24_readKey 8 = .ok (.baload, 1) := by decide +kernel
theorem dX24_readKey_9 : decode cX24_readKey 9 = .ok (.iconst 2, 1) := by decide +kernel
theorem dX24_readKey_10 : decode cX24_readKey 10 = .ok (.if_icmp .eq 10, 3) := by decide +kernel
theorem dX24_readKey_13 : decode cX24_readKey 13 = .ok (.aload_n 1, 1) := by decide +kernel
theorem dX24_readKey_14 : decode cX24_readKey 14 = .ok (.iconst 0, 1) := by decide +kernel
theorem dX24_readKey_15 : decode cX24_readKey 15 = .ok (.baload, 1) := by decide +kernel
theorem dX24_readKey_16 : decode cX24_readKey 16 = .ok (.iconst 3, 1) := by decide +kernel
theorem dX24_readKey_17 : decode cX24_readKey 17 = .ok (.if_icmp .ne 7, 3) := by decide +kernel
theorem dX24_readKey_20 : decode cX24_readKey 20 = .ok (.iconst 1, 1) := by decide +kernel
theorem dX24_readKey_21 : decode cX24_readKey 21 = .ok (.goto 4, 3) := by decide +kernel
theorem dX24_readKey_24 : decode cX24_readKey 24 = .ok (.iconst 0, 1) := by decide +kernel
theorem dX24_readKey_25 : decode cX24_readKey 25 = .ok (.istore_n 3, 1) := by decide +kernel
theorem dX24_readKey_26 : decode cX24_readKey 26 = .ok (.iload_n 3, 1) := by decide +kernel
theorem dX24_readKey_27 : decode cX24_readKey 27 = .ok (.ifCond .ne 18, 3) := by decide +kernel
theorem dX24_readKey_30 : decode cX24_readKey 30 = .ok (.iload_n 2, 1) := by decide +kernel
theorem dX24_readKey_31 : decode cX24_readKey 31 = .ok (.bipush 65, 2) := by decide +kernel
theorem dX24_readKey_33 : decode cX24_readKey 33 = .ok (.if_icmp .ne 10, 3) := by decide +kernel
theorem dX24_readKey_36 : decode cX24_readKey 36 = .ok (.aload_n 1, 1) := by decide +kernel
theorem dX24_readKey_37 : decode cX24_readKey 37 = .ok (.iconst 0, 1) := by decide +kernel
theorem dX24_readKey_38 : decode cX24_readKey 38 = .ok (.baload, 1) := by decide +kernel
theorem dX24_readKey_39 : decode cX24_readKey 39 = .ok (.iconst 4, 1) := by decide +kernel
theorem dX24_readKey_40 : decode cX24_readKey 40 = .ok (.if_icmp .eq 5, 3) := by decide +kernel
theorem dX24_readKey_43 : decode cX24_readKey 43 = .ok (.iconst 0, 1) := by decide +kernel
theorem dX24_readKey_44 : decode cX24_readKey 44 = .ok (.ireturn, 1) := by decide +kernel
theorem dX24_readKey_45 : decode cX24_readKey 45 = .ok (.aload_n 1, 1) := by decide +kernel
theorem dX24_readKey_46 : decode cX24_readKey 46 = .ok (.iconst 1, 1) := by decide +kernel
theorem dX24_readKey_47 : decode cX24_readKey 47 = .ok (.iconst 1, 1) := by decide +kernel
theorem dX24_readKey_48 : decode cX24_readKey 48 = .ok (.aload_n 0, 1) := by decide +kernel
theorem dX24_readKey_49 : decode cX24_readKey 49 = .ok (.getfield 155, 3) := by decide +kernel
theorem dX24_readKey_52 : decode cX24_readKey 52 = .ok (.invokestatic 158, 3) := by decide +kernel
theorem dX24_readKey_55 : decode cX24_readKey 55 = .ok (.aload_n 0, 1) := by decide +kernel
theorem dX24_readKey_56 : decode cX24_readKey 56 = .ok (.getfield 155, 3) := by decide +kernel
theorem dX24_readKey_59 : decode cX24_readKey 59 = .ok (.aload_n 0, 1) := by decide +kernel
theorem dX24_readKey_60 : decode cX24_readKey 60 = .ok (.getfield 101, 3) := by decide +kernel
theorem dX24_readKey_63 : decode cX24_readKey 63 = .ok (.getfield 162, 3) := by decide +kernel
theorem dX24_readKey_66 : decode cX24_readKey 66 = .ok (.invokestatic 165, 3) := by decide +kernel
theorem dX24_readKey_69 : decode cX24_readKey 69 = .ok (.ifCond .lt 5, 3) := by decide +kernel
theorem dX24_readKey_72 : decode cX24_readKey 72 = .ok (.iconst 0, 1) := by decide +kernel
theorem dX24_readKey_73 : decode cX24_readKey 73 = .ok (.ireturn, 1) := by decide +kernel
theorem dX24_readKey_74 : decode cX24_readKey 74 = .ok (.aload_n 0, 1) := by decide +kernel
theorem dX24_readKey_75 : decode cX24_readKey 75 = .ok (.getfield 101, 3) := by decide +kernel
theorem dX24_readKey_78 : decode cX24_readKey 78 = .ok (.aload_n 0, 1) := by decide +kernel
theorem dX24_readKey_79 : decode cX24_readKey 79 = .ok (.getfield 155, 3) := by decide +kernel
theorem dX24_readKey_82 : decode cX24_readKey 82 = .ok (.aload_n 0, 1) := by decide +kernel
theorem dX24_readKey_83 : decode cX24_readKey 83 = .ok (.getfield 169, 3) := by decide +kernel
theorem dX24_readKey_86 : decode cX24_readKey 86 = .ok (.getfield 115, 3) := by decide +kernel
theorem dX24_readKey_89 : decode cX24_readKey 89 = .ok (.invokevirtual 173, 3) := by decide +kernel
theorem dX24_readKey_92 : decode cX24_readKey 92 = .ok (.aload_n 0, 1) := by decide +kernel
theorem dX24_readKey_93 : decode cX24_readKey 93 = .ok (.getfield 101, 3) := by decide +kernel
theorem dX24_readKey_96 : decode cX24_readKey 96 = .ok (.aload_n 0, 1) := by decide +kernel
theorem dX24_readKey_97 : decode cX24_readKey 97 = .ok (.getfield 169, 3) := by decide +kernel
theorem dX24_readKey_100 : decode cX24_readKey 100 = .ok (.getfield 115, 3) := by decide +kernel
theorem dX24_readKey_103 : decode cX24_readKey 103 = .ok (.aload_n 0, 1) := by decide +kernel
theorem dX24_readKey_104 : decode cX24_readKey 104 = .ok (.getfield 169, 3) := by decide +kernel
theorem dX24_readKey_107 : decode cX24_readKey 107 = .ok (.getfield 115, 3) := by decide +kernel
theorem dX24_readKey_110 : decode cX24_readKey 110 = .ok (.aload_n 0, 1) := by decide +kernel
theorem dX24_readKey_111 : decode cX24_readKey 111 = .ok (.getfield 108, 3) := by decide +kernel
theorem dX24_readKey_114 : decode cX24_readKey 114 = .ok (.invokevirtual 111, 3) := by decide +kernel
theorem dX24_readKey_117 : decode cX24_readKey 117 = .ok (.aload_n 0, 1) := by decide +kernel
theorem dX24_readKey_118 : decode cX24_readKey 118 = .ok (.getfield 101, 3) := by decide +kernel
theorem dX24_readKey_121 : decode cX24_readKey 121 = .ok (.aload_n 0, 1) := by decide +kernel
theorem dX24_readKey_122 : decode cX24_readKey 122 = .ok (.getfield 108, 3) := by decide +kernel
theorem dX24_readKey_125 : decode cX24_readKey 125 = .ok (.aload_n 0, 1) := by decide +kernel
theorem dX24_readKey_126 : decode cX24_readKey 126 = .ok (.getfield 169, 3) := by decide +kernel
theorem dX24_readKey_129 : decode cX24_readKey 129 = .ok (.getfield 115, 3) := by decide +kernel
theorem dX24_readKey_132 : decode cX24_readKey 132 = .ok (.aload_n 0, 1) := by decide +kernel
theorem dX24_readKey_133 : decode cX24_readKey 133 = .ok (.getfield 108, 3) := by decide +kernel
theorem dX24_readKey_136 : decode cX24_readKey 136 = .ok (.invokevirtual 111, 3) := by decide +kernel
theorem dX24_readKey_139 : decode cX24_readKey 139 = .ok (.aload_n 0, 1) := by decide +kernel
theorem dX24_readKey_140 : decode cX24_readKey 140 = .ok (.getfield 101, 3) := by decide +kernel
theorem dX24_readKey_143 : decode cX24_readKey 143 = .ok (.aload_n 0, 1) := by decide +kernel
theorem dX24_readKey_144 : decode cX24_readKey 144 = .ok (.getfield 108, 3) := by decide +kernel
theorem dX24_readKey_147 : decode cX24_readKey 147 = .ok (.aload_n 0, 1) := by decide +kernel
theorem dX24_readKey_148 : decode cX24_readKey 148 = .ok (.getfield 176, 3) := by decide +kernel
theorem dX24_readKey_151 : decode cX24_readKey 151 = .ok (.aload_n 0, 1) := by decide +kernel
theorem dX24_readKey_152 : decode cX24_readKey 152 = .ok (.getfield 108, 3) := by decide +kernel
theorem dX24_readKey_155 : decode cX24_readKey 155 = .ok (.invokevirtual 121, 3) := by decide +kernel
theorem dX24_readKey_158 : decode cX24_readKey 158 = .ok (.aload_n 0, 1) := by decide +kernel
theorem dX24_readKey_159 : decode cX24_readKey 159 = .ok (.getfield 101, 3) := by decide +kernel
theorem dX24_readKey_162 : decode cX24_readKey 162 = .ok (.getfield 179, 3) := by decide +kernel
theorem dX24_readKey_165 : decode cX24_readKey 165 = .ok (.aload_n 0, 1) := by decide +kernel
theorem dX24_readKey_166 : decode cX24_readKey 166 = .ok (.getfield 169, 3) := by decide +kernel
theorem dX24_readKey_169 : decode cX24_readKey 169 = .ok (.getfield 90, 3) := by decide +kernel
theorem dX24_readKey_172 : decode cX24_readKey 172 = .ok (.invokestatic 182, 3) := by decide +kernel
theorem dX24_readKey_175 : decode cX24_readKey 175 = .ok (.iload_n 3, 1) := by decide +kernel
theorem dX24_readKey_176 : decode cX24_readKey 176 = .ok (.ifCond .ne 88, 3) := by decide +kernel
theorem dX24_readKey_179 : decode cX24_readKey 179 = .ok (.aload_n 1, 1) := by decide +kernel
theorem dX24_readKey_180 : decode cX24_readKey 180 = .ok (.bipush 33, 2) := by decide +kernel
theorem dX24_readKey_182 : decode cX24_readKey 182 = .ok (.iconst 1, 1) := by decide +kernel
theorem dX24_readKey_183 : decode cX24_readKey 183 = .ok (.aload_n 0, 1) := by decide +kernel
theorem dX24_readKey_184 : decode cX24_readKey 184 = .ok (.getfield 185, 3) := by decide +kernel
theorem dX24_readKey_187 : decode cX24_readKey 187 = .ok (.invokestatic 158, 3) := by decide +kernel
theorem dX24_readKey_190 : decode cX24_readKey 190 = .ok (.aload_n 0, 1) := by decide +kernel
theorem dX24_readKey_191 : decode cX24_readKey 191 = .ok (.getfield 185, 3) := by decide +kernel
theorem dX24_readKey_194 : decode cX24_readKey 194 = .ok (.aload_n 0, 1) := by decide +kernel
theorem dX24_readKey_195 : decode cX24_readKey 195 = .ok (.getfield 101, 3) := by decide +kernel
theorem dX24_readKey_198 : decode cX24_readKey 198 = .ok (.getfield 162, 3) := by decide +kernel
theorem dX24_readKey_201 : decode cX24_readKey 201 = .ok (.invokestatic 165, 3) := by decide +kernel
theorem dX24_readKey_204 : decode cX24_readKey 204 = .ok (.ifCond .lt 5, 3) := by decide +kernel
theorem dX24_readKey_207 : decode cX24_readKey 207 = .ok (.iconst 0, 1) := by decide +kernel
theorem dX24_readKey_208 : decode cX24_readKey 208 = .ok (.ireturn, 1) := by decide +kernel
theorem dX24_readKey_209 : decode cX24_readKey 209 = .ok (.aload_n 0, 1) := by decide +kernel
theorem dX24_readKey_210 : decode cX24_readKey 210 = .ok (.getfield 101, 3) := by decide +kernel
theorem dX24_readKey_213 : decode cX24_readKey 213 = .ok (.aload_n 0, 1) := by decide +kernel
theorem dX24_readKey_214 : decode cX24_readKey 214 = .ok (.getfield 185, 3) := by decide +kernel
theorem dX24_readKey_217 : decode cX24_readKey 217 = .ok (.aload_n 0, 1) := by decide +kernel
theorem dX24_readKey_218 : decode cX24_readKey 218 = .ok (.getfield 169, 3) := by decide +kernel
theorem dX24_readKey_221 : decode cX24_readKey 221 = .ok (.getfield 105, 3) := by decide +kernel
theorem dX24_readKey_224 : decode cX24_readKey 224 = .ok (.invokevirtual 173, 3) := by decide +kernel
theorem dX24_readKey_227 : decode cX24_readKey 227 = .ok (.aload_n 0, 1) := by decide +kernel
theorem dX24_readKey_228 : decode cX24_readKey 228 = .ok (.getfield 101, 3) := by decide +kernel
theorem dX24_readKey_231 : decode cX24_readKey 231 = .ok (.aload_n 0, 1) := by decide +kernel
theorem dX24_readKey_232 : decode cX24_readKey 232 = .ok (.getfield 169, 3) := by decide +kernel
theorem dX24_readKey_235 : decode cX24_readKey 235 = .ok (.getfield 105, 3) := by decide +kernel
theorem dX24_readKey_238 : decode cX24_readKey 238 = .ok (.aload_n 0, 1) := by decide +kernel
theorem dX24_readKey_239 : decode cX24_readKey 239 = .ok (.getfield 169, 3) := by decide +kernel
theorem dX24_readKey_242 : decode cX24_readKey 242 = .ok (.getfield 105, 3) := by decide +kernel
theorem dX24_readKey_245 : decode cX24_readKey 245 = .ok (.aload_n 0, 1) := by decide +kernel
theorem dX24_readKey_246 : decode cX24_readKey 246 = .ok (.getfield 118, 3) := by decide +kernel
theorem dX24_readKey_249 : decode cX24_readKey 249 = .ok (.invokevirtual 111, 3) := by decide +kernel
theorem dX24_readKey_252 : decode cX24_readKey 252 = .ok (.aload_n 0, 1) := by decide +kernel
theorem dX24_readKey_253 : decode cX24_readKey 253 = .ok (.getfield 108, 3) := by decide +kernel
theorem dX24_readKey_256 : decode cX24_readKey 256 = .ok (.aload_n 0, 1) := by decide +kernel
theorem dX24_readKey_257 : decode cX24_readKey 257 = .ok (.getfield 118, 3) := by decide +kernel
theorem dX24_readKey_260 : decode cX24_readKey 260 = .ok (.invokestatic 188, 3) := by decide +kernel
theorem dX24_readKey_263 : decode cX24_readKey 263 = .ok (.ireturn, 1) := by decide +kernel
theorem dX24_readKey_264 : decode cX24_readKey 264 = .ok (.aload_n 0, 1) := by decide +kernel
theorem dX24_readKey_265 : decode cX24_readKey 265 = .ok (.getfield 108, 3) := by decide +kernel
theorem dX24_readKey_268 : decode cX24_readKey 268 = .ok (.aload_n 0, 1) := by decide +kernel
theorem dX24_readKey_269 : decode cX24_readKey 269 = .ok (.getfield 124, 3) := by decide +kernel
theorem dX24_readKey_272 : decode cX24_readKey 272 = .ok (.invokestatic 182, 3) := by decide +kernel
theorem dX24_readKey_275 : decode cX24_readKey 275 = .ok (.aload_n 0, 1) := by decide +kernel
theorem dX24_readKey_276 : decode cX24_readKey 276 = .ok (.getfield 101, 3) := by decide +kernel
theorem dX24_readKey_279 : decode cX24_readKey 279 = .ok (.aload_n 0, 1) := by decide +kernel
theorem dX24_readKey_280 : decode cX24_readKey 280 = .ok (.getfield 108, 3) := by decide +kernel
theorem dX24_readKey_283 : decode cX24_readKey 283 = .ok (.iconst 1, 1) := by decide +kernel
theorem dX24_readKey_284 : decode cX24_readKey 284 = .ok (.iconst 2, 1) := by decide +kernel
theorem dX24_readKey_285 : decode cX24_readKey 285 = .ok (.aload_n 0, 1) := by decide +kernel
theorem dX24_readKey_286 : decode cX24_readKey 286 = .ok (.getfield 169, 3) := by decide +kernel
theorem dX24_readKey_289 : decode cX24_readKey 289 = .ok (.getfield 105, 3) := by decide +kernel
theorem dX24_readKey_292 : decode cX24_readKey 292 = .ok (.invokevirtual 147, 3) := by decide +kernel
theorem dX24_readKey_295 : decode cX24_readKey 295 = .ok (.aload_n 0, 1) := by decide +kernel
theorem dX24_readKey_296 : decode cX24_readKey 296 = .ok (.getfield 101, 3) := by decide +kernel
theorem dX24_readKey_299 : decode cX24_readKey 299 = .ok (.aload_n 0, 1) := by decide +kernel
theorem dX24_readKey_300 : decode cX24_readKey 300 = .ok (.getfield 169, 3) := by decide +kernel
theorem dX24_readKey_303 : decode cX24_readKey 303 = .ok (.getfield 105, 3) := by decide +kernel
theorem dX24_readKey_306 : decode cX24_readKey 306 = .ok (.aload_n 0, 1) := by decide +kernel
theorem dX24_readKey_307 : decode cX24_readKey 307 = .ok (.getfield 169, 3) := by decide +kernel
theorem dX24_readKey_310 : decode cX24_readKey 310 = .ok (.getfield 105, 3) := by decide +kernel
theorem dX24_readKey_313 : decode cX24_readKey 313 = .ok (.aload_n 0, 1) := by decide +kernel
theorem dX24_readKey_314 : decode cX24_readKey 314 = .ok (.getfield 118, 3) := by decide +kernel
theorem dX24_readKey_317 : decode cX24_readKey 317 = .ok (.invokevirtual 111, 3) := by decide +kernel
theorem dX24_readKey_320 : decode cX24_readKey 320 = .ok (.aload_n 0, 1) := by decide +kernel
theorem dX24_readKey_321 : decode cX24_readKey 321 = .ok (.getfield 118, 3) := by decide +kernel
theorem dX24_readKey_324 : decode cX24_readKey 324 = .ok (.aload_n 0, 1) := by decide +kernel
theorem dX24_readKey_325 : decode cX24_readKey 325 = .ok (.getfield 124, 3) := by decide +kernel
theorem dX24_readKey_328 : decode cX24_readKey 328 = .ok (.invokestatic 188, 3) := by decide +kernel
theorem dX24_readKey_331 : decode cX24_readKey 331 = .ok (.ifCond .ne 5, 3) := by decide +kernel
theorem dX24_readKey_334 : decode cX24_readKey 334 = .ok (.iconst 0, 1) := by decide +kernel
theorem dX24_readKey_335 : decode cX24_readKey 335 = .ok (.ireturn, 1) := by decide +kernel
theorem dX24_readKey_336 : decode cX24_readKey 336 = .ok (.aload_n 0, 1) := by decide +kernel
theorem dX24_readKey_337 : decode cX24_readKey 337 = .ok (.getfield 101, 3) := by decide +kernel
theorem dX24_readKey_340 : decode cX24_readKey 340 = .ok (.aload_n 0, 1) := by decide +kernel
theorem dX24_readKey_341 : decode cX24_readKey 341 = .ok (.getfield 169, 3) := by decide +kernel
theorem dX24_readKey_344 : decode cX24_readKey 344 = .ok (.getfield 105, 3) := by decide +kernel
theorem dX24_readKey_347 : decode cX24_readKey 347 = .ok (.aload_n 0, 1) := by decide +kernel
theorem dX24_readKey_348 : decode cX24_readKey 348 = .ok (.getfield 185, 3) := by decide +kernel
theorem dX24_readKey_351 : decode cX24_readKey 351 = .ok (.invokevirtual 151, 3) := by decide +kernel
theorem dX24_readKey_354 : decode cX24_readKey 354 = .ok (.aload_n 0, 1) := by decide +kernel
theorem dX24_readKey_355 : decode cX24_readKey 355 = .ok (.getfield 185, 3) := by decide +kernel
theorem dX24_readKey_358 : decode cX24_readKey 358 = .ok (.iconst 0, 1) := by decide +kernel
theorem dX24_readKey_359 : decode cX24_readKey 359 = .ok (.iaload, 1) := by decide +kernel
theorem dX24_readKey_360 : decode cX24_readKey 360 = .ok (.iconst 1, 1) := by decide +kernel
theorem dX24_readKey_361 : decode cX24_readKey 361 = .ok (.iand, 1) := by decide +kernel
theorem dX24_readKey_362 : decode cX24_readKey 362 = .ok (.aload_n 1, 1) := by decide +kernel
theorem dX24_readKey_363 : decode cX24_readKey 363 = .ok (.iconst 0, 1) := by decide +kernel
theorem dX24_readKey_364 : decode cX24_readKey 364 = .ok (.baload, 1) := by decide +kernel
theorem dX24_readKey_365 : decode cX24_readKey 365 = .ok (.iconst 2, 1) := by decide +kernel
theorem dX24_readKey_366 : decode cX24_readKey 366 = .ok (.isub, 1) := by decide +kernel
theorem dX24_readKey_367 : decode cX24_readKey 367 = .ok (.if_icmp .eq 52, 3) := by decide +kernel
theorem dX24_readKey_370 : decode cX24_readKey 370 = .ok (.iconst 0, 1) := by decide +kernel
theorem dX24_readKey_371 : decode cX24_readKey 371 = .ok (.istore 4, 2) := by decide +kernel
theorem dX24_readKey_373 : decode cX24_readKey 373 = .ok (.iload 4, 2) := by decide +kernel
theorem dX24_readKey_375 : decode cX24_readKey 375 = .ok (.bipush 8, 2) := by decide +kernel
theorem dX24_readKey_377 : decode cX24_readKey 377 = .ok (.if_icmp .ge 17, 3) := by decide +kernel
theorem dX24_readKey_380 : decode cX24_readKey 380 = .ok (.aload_n 0, 1) := by decide +kernel
theorem dX24_readKey_381 : decode cX24_readKey 381 = .ok (.getfield 127, 3) := by decide +kernel
theorem dX24_readKey_384 : decode cX24_readKey 384 = .ok (.iload 4, 2) := by decide +kernel
theorem dX24_readKey_386 : decode cX24_readKey 386 = .ok (.iconst 0, 1) := by decide +kernel
theorem dX24_readKey_387 : decode cX24_readKey 387 = .ok (.iastore, 1) := by decide +kernel
theorem dX24_readKey_388 : decode cX24_readKey 388 = .ok (.iinc 4 1, 3) := by decide +kernel
theorem dX24_readKey_391 : decode cX24_readKey 391 = .ok (.goto (-18), 3) := by decide +kernel
theorem dX24_readKey_394 : decode cX24_readKey 394 = .ok (.aload_n 0, 1) := by decide +kernel
theorem dX24_readKey_395 : decode cX24_readKey 395 = .ok (.getfield 101, 3) := by decide +kernel
theorem dX24_readKey_398 : decode cX24_readKey 398 = .ok (.aload_n 0, 1) := by decide +kernel
theorem dX24_readKey_399 : decode cX24_readKey 399 = .ok (.getfield 127, 3) := by decide +kernel
theorem dX24_readKey_402 : decode cX24_readKey 402 = .ok (.aload_n 0, 1) := by decide +kernel
theorem dX24_readKey_403 : decode cX24_readKey 403 = .ok (.getfield 169, 3) := by decide +kernel
theorem dX24_readKey_406 : decode cX24_readKey 406 = .ok (.getfield 105, 3) := by decide +kernel
theorem dX24_readKey_409 : decode cX24_readKey 409 = .ok (.aload_n 0, 1) := by decide +kernel
theorem dX24_readKey_410 : decode cX24_readKey 410 = .ok (.getfield 169, 3) := by decide +kernel
theorem dX24_readKey_413 : decode cX24_readKey 413 = .ok (.getfield 105, 3) := by decide +kernel
theorem dX24_readKey_416 : decode cX24_readKey 416 = .ok (.invokevirtual 133, 3) := by decide +kernel
theorem dX24_readKey_419 : decode cX24_readKey 419 = .ok (.iconst 1, 1) := by decide +kernel
theorem dX24_readKey_420 : decode cX24_readKey 420 = .ok (.ireturn, 1) := by decide +kernel
/-! CoinJudgeModel.readKey([BI)Z -/
set_option maxHeartbeats 4000000 in
theorem sX24_readKey_0 {G : Gx} {d t : Nat} {h0 : AH} {Φ : Out → AH → Prop} (h : AH) (v0 : Nat) (v1 : Nat) (v2 : Int32) (K : ((¬ v2 = 33 → Aw G mX24_readKey (d + 1) t h0 Φ 24 [vR v0, vR v1, vI v2, vU, vU] [] h) ∧ (v2 = 33 → h.kd v1 = 101 ∧ vp_in 0 (h.ai v1).length ∧ ((((h.ai v1).getD ((0 : Int32).toNatClampNeg) 0) = 2 → Aw G mX24_readKey (d + 1) t h0 Φ 20 [vR v0, vR v1, vI v2, vU, vU] [] h) ∧ (¬ ((h.ai v1).getD ((0 : Int32).toNatClampNeg) 0) = 2 → vp_in 0 (h.ai v1).length ∧ ((¬ ((h.ai v1).getD ((0 : Int32).toNatClampNeg) 0) = 3 → Aw G mX24_readKey (d + 1) t h0 Φ 24 [vR v0, vR v1, vI v2, vU, vU] [] h) ∧ (((h.ai v1).getD ((0 : Int32).toNatClampNeg) 0) = 3 → Aw G mX24_readKey (d + 1) t h0 Φ 20 [vR v0, vR v1, vI v2, vU, vU] [] h))))))) : Aw G mX24_readKey (d + 1) t h0 Φ 0 [vR v0, vR v1, vI v2, vU, vU] [] h := by
  refine r_iload_n (pc := 0) dX24_readKey_0 rfl ?_
  refine r_bipush (pc := 1) (x := 33) dX24_readKey_1 rfl ?_
  refine r_icmp_ne (pc := 3) (tgt := 24) dX24_readKey_3 rfl (fun c1 => ?_) (fun c1 => ?_)
  · have K := K.1 c1
    refine r_mask (pc := 24) [true, true, true, false, false] rfl ?_
    exact K
  · have K := K.2 c1
    refine r_aload_n (pc := 6) dX24_readKey_6 rfl ?_
    refine r_iconst (pc := 7) (x := 0) dX24_readKey_7 rfl ?_
    obtain ⟨hk2, K⟩ := K
    obtain ⟨hi3, K⟩ := K
    refine r_baload (pc := 8) hk2 hi3 dX24_readKey_8 ?_
    refine r_iconst (pc := 9) (x := 2) dX24_readKey_9 rfl ?_
    refine r_icmp_eq (pc := 10) (tgt := 20) dX24_readKey_10 rfl (fun c4 => ?_) (fun c4 => ?_)
    · have K := K.1 c4
      refine r_mask (pc := 20) [true, true, true, false, false] rfl ?_
      exact K
    · have K := K.2 c4
      refine r_aload_n (pc := 13) dX24_readKey_13 rfl ?_
      refine r_iconst (pc := 14) (x := 0) dX24_readKey_14 rfl ?_
      obtain ⟨hi5, K⟩ := K
      refine r_baload (pc := 15) hk2 hi5 dX24_readKey_15 ?_
      refine r_iconst (pc := 16) (x := 3) dX24_readKey_16 rfl ?_
      refine r_icmp_ne (pc := 17) (tgt := 24) dX24_readKey_17 rfl (fun c6 => ?_) (fun c6 => ?_)
      · have K := K.1 c6
        refine r_mask (pc := 24) [true, true, true, false, false] rfl ?_
        exact K
      · have K := K.2 c6
        refine r_mask (pc := 20) [true, true, true, false, false] rfl ?_
        exact K
theorem eX24_readKey {G : Gx} {d : Nat} {Φ : Out → AH → Prop} (h : AH) (v0 : Nat) (v1 : Nat) (v2 : Int32) (K : WF G h → Aw G mX24_readKey (d + 1) 0 h Φ 0 [vR v0, vR v1, vI v2, vU, vU] [] h) : Cw G mX24_readKey (d + 1) 0 [vR v0, vR v1, vI v2] h Φ := Cw.of rfl K
set_option maxHeartbeats 4000000 in
theorem sX24_readKey_20 {G : Gx} {d t : Nat} {h0 : AH} {Φ : Out → AH → Prop} (h : AH) (v0 : Nat) (v1 : Nat) (v2 : Int32) (K : ((¬ (1 : Int32) = 0 → Aw G mX24_readKey (d + 1) t h0 Φ 45 [vR v0, vR v1, vU, vI 1, vU] [] h) ∧ ((1 : Int32) = 0 → ((¬ v2 = 65 → Φ (.inl (some (vI 0))) h) ∧ (v2 = 65 → h.kd v1 = 101 ∧ vp_in 0 (h.ai v1).length ∧ ((((h.ai v1).getD ((0 : Int32).toNatClampNeg) 0) = 4 → Aw G mX24_readKey (d + 1) t h0 Φ 45 [vR v0, vR v1, vU, vI 1, vU] [] h) ∧ (¬ ((h.ai v1).getD ((0 : Int32).toNatClampNeg) 0) = 4 → Φ (.inl (some (vI 0))) h))))))) : Aw G mX24_readKey (d + 1) t h0 Φ 20 [vR v0, vR v1, vI v2, vU, vU] [] h := by
  refine r_iconst (pc := 20) (x := 1) dX24_readKey_20 rfl ?_
  refine r_goto (pc := 21) (tgt := 25) dX24_readKey_21 rfl ?_
  refine r_istore_n (pc := 25) (lv' := [_, _, _, _, _]) dX24_readKey_25 (by decide) rfl ?_
  refine r_iload_n (pc := 26) dX24_readKey_26 rfl ?_
  refine r_if_ne (pc := 27) (tgt := 45) dX24_readKey_27 rfl (fun c1 => ?_) (fun c1 => ?_)
  · have K := K.1 c1
    refine r_mask (pc := 45) [true, true, false, true, false] rfl ?_
    exact K
  · have K := K.2 c1
    refine r_iload_n (pc := 30) dX24_readKey_30 rfl ?_
    refine r_bipush (pc := 31) (x := 65) dX24_readKey_31 rfl ?_
    refine r_icmp_ne (pc := 33) (tgt := 43) dX24_readKey_33 rfl (fun c2 => ?_) (fun c2 => ?_)
    · have K := K.1 c2
      refine r_iconst (pc := 43) (x := 0) dX24_readKey_43 rfl ?_
      exact r_iret (pc := 44) rfl rfl dX24_readKey_44 K
    · have K := K.2 c2
      refine r_aload_n (pc := 36) dX24_readKey_36 rfl ?_
      refine r_iconst (pc := 37) (x := 0) dX24_readKey_37 rfl ?_
      obtain ⟨hk3, K⟩ := K
      obtain ⟨hi4, K⟩ := K
      refine r_baload (pc := 38) hk3 hi4 dX24_readKey_38 ?_
      refine r_iconst (pc := 39) (x := 4) dX24_readKey_39 rfl ?_
      refine r_icmp_eq (pc := 40) (tgt := 45) dX24_readKey_40 rfl (fun c5 => ?_) (fun c5 => ?_)
      · have K := K.1 c5
        refine r_mask (pc := 45) [true, true, false, true, false] rfl ?_
        exact K
      · have K := K.2 c5
        refine r_iconst (pc := 43) (x := 0) dX24_readKey_43 rfl ?_
        exact r_iret (pc := 44) rfl rfl dX24_readKey_44 K
set_option maxHeartbeats 4000000 in
theorem sX24_readKey_24 {G : Gx} {d t : Nat} {h0 : AH} {Φ : Out → AH → Prop} (h : AH) (v0 : Nat) (v1 : Nat) (v2 : Int32) (K : ((¬ (0 : Int32) = 0 → Aw G mX24_readKey (d + 1) t h0 Φ 45 [vR v0, vR v1, vU, vI 0, vU] [] h) ∧ ((0 : Int32) = 0 → ((¬ v2 = 65 → Φ (.inl (some (vI 0))) h) ∧ (v2 = 65 → h.kd v1 = 101 ∧ vp_in 0 (h.ai v1).length ∧ ((((h.ai v1).getD ((0 : Int32).toNatClampNeg) 0) = 4 → Aw G mX24_readKey (d + 1) t h0 Φ 45 [vR v0, vR v1, vU, vI 0, vU] [] h) ∧ (¬ ((h.ai v1).getD ((0 : Int32).toNatClampNeg) 0) = 4 → Φ (.inl (some (vI 0))) h))))))) : Aw G mX24_readKey (d + 1) t h0 Φ 24 [vR v0, vR v1, vI v2, vU, vU] [] h := by
  refine r_iconst (pc := 24) (x := 0) dX24_readKey_24 rfl ?_
  refine r_istore_n (pc := 25) (lv' := [_, _, _, _, _]) dX24_readKey_25 (by decide) rfl ?_
  refine r_iload_n (pc := 26) dX24_readKey_26 rfl ?_
  refine r_if_ne (pc := 27) (tgt := 45) dX24_readKey_27 rfl (fun c1 => ?_) (fun c1 => ?_)
  · have K := K.1 c1
    refine r_mask (pc := 45) [true, true, false, true, false] rfl ?_
    exact K
  · have K := K.2 c1
    refine r_iload_n (pc := 30) dX24_readKey_30 rfl ?_
    refine r_bipush (pc := 31) (x := 65) dX24_readKey_31 rfl ?_
    refine r_icmp_ne (pc := 33) (tgt := 43) dX24_readKey_33 rfl (fun c2 => ?_) (fun c2 => ?_)
    · have K := K.1 c2
      refine r_iconst (pc := 43) (x := 0) dX24_readKey_43 rfl ?_
      exact r_iret (pc := 44) rfl rfl dX24_readKey_44 K
    · have K := K.2 c2
      refine r_aload_n (pc := 36) dX24_readKey_36 rfl ?_
      refine r_iconst (pc := 37) (x := 0) dX24_readKey_37 rfl ?_
      obtain ⟨hk3, K⟩ := K
      obtain ⟨hi4, K⟩ := K
      refine r_baload (pc := 38) hk3 hi4 dX24_readKey_38 ?_
      refine r_iconst (pc := 39) (x := 4) dX24_readKey_39 rfl ?_
      refine r_icmp_eq (pc := 40) (tgt := 45) dX24_readKey_40 rfl (fun c5 => ?_) (fun c5 => ?_)
      · have K := K.1 c5
        refine r_mask (pc := 45) [true, true, false, true, false] rfl ?_
        exact K
      · have K := K.2 c5
        refine r_iconst (pc := 43) (x := 0) dX24_readKey_43 rfl ?_
        exact r_iret (pc := 44) rfl rfl dX24_readKey_44 K
set_option maxHeartbeats 4000000 in
theorem sX24_readKey_45 {G : Gx} {d t : Nat} {h0 : AH} {Φ : Out → AH → Prop} (h : AH) (v0 : Nat) (v1 : Nat) (v3 : Int32) (K : h.kd v0 = 24 ∧ ∀ r2 : Nat, r2 = (h.r 24028 v0) → Cw G mX24_fromBytes d 0 [vR v1, vI 1, vI 1, vR r2] h (kV (fun h4 => ∀ r8 : Nat, r8 = (h4.r 24015 v0) → h4.kd r8 = 27 ∧ ∀ r10 : Nat, r10 = (h4.r 27000 r8) → Cw G mX27_compare d 0 [vR r2, vR r10] h4 (kI (fun x11 h12 => ((x11 < 0 → ∀ r18 : Nat, r18 = (h12.r 24019 v0) → h12.kd r18 = 25 ∧ ∀ r20 : Nat, r20 = (h12.r 25000 r18) → Cw G mX27_enter d 0 [vR r8, vR r2, vR r20] h12 (kV (fun h22 => ∀ r31 : Nat, r31 = (h22.r 24022 v0) → Cw G mX27_multiply d 0 [vR r8, vR r20, vR r20, vR r31] h22 (kV (fun h33 => Cw G mX27_multiply d 0 [vR r8, vR r31, vR r20, vR r31] h33 (kV (fun h43 => ∀ r48 : Nat, r48 = (h43.r 24017 v0) → Cw G mX27_add d 0 [vR r8, vR r31, vR r48, vR r31] h43 (kV (fun h50 => ∀ r55 : Nat, r55 = (h50.r 27002 r8) → ∀ r60 : Nat, r60 = (h50.r 25002 r18) → Cw G mX27_copy d 0 [vR r55, vR r60] h50 (kV (fun h62 => ((¬ v3 = 0 → ∀ r67 : Nat, r67 = (h62.r 24024 v0) → Cw G mX27_copy d 0 [vR r31, vR r67] h62 (kV (fun h69 => ∀ r78 : Nat, r78 = (h69.r 25001 r18) → Cw G mX27_power d 0 [vR r8, vR r31, vI 1, vI 2, vR r78] h69 (kV (fun h80 => ∀ r89 : Nat, r89 = (h80.r 24023 v0) → Cw G mX27_multiply d 0 [vR r8, vR r78, vR r78, vR r89] h80 (kV (fun h91 => Cw G mX27_same d 0 [vR r89, vR r67] h91 (kI (fun x100 h101 => ((¬ x100 = 0 → ∀ r112 : Nat, r112 = (h101.r 24029 v0) → Cw G mX27_leave d 0 [vR r8, vR r78, vR r112] h101 (kV (fun h114 => h114.kd r112 = 100 ∧ vp_in 0 (h114.ai r112).length ∧ h114.kd v1 = 101 ∧ vp_in 0 (h114.ai v1).length ∧ (((((h114.ai r112).getD ((0 : Int32).toNatClampNeg) 0) &&& 1) = (((h114.ai v1).getD ((0 : Int32).toNatClampNeg) 0) - 2) → Φ (.inl (some (vI 1))) h114) ∧ (¬ (((h114.ai r112).getD ((0 : Int32).toNatClampNeg) 0) &&& 1) = (((h114.ai v1).getD ((0 : Int32).toNatClampNeg) 0) - 2) → Aw G mX24_readKey (d + 1) t h0 Φ 373 [vR v0, vU, vU, vU, vI 0] [] h114))) (fun x h => Φ (.inr x) h))) ∧ (x100 = 0 → Φ (.inl (some (vI 0))) h101))) (fun x h => Φ (.inr x) h))) (fun x h => Φ (.inr x) h))) (fun x h => Φ (.inr x) h))) (fun x h => Φ (.inr x) h))) ∧ (v3 = 0 → ∀ r126 : Nat, r126 = (h62.r 24029 v0) → Cw G mX24_fromBytes d 0 [vR v1, vI 33, vI 1, vR r126] h62 (kV (fun h128 => Cw G mX27_compare d 0 [vR r126, vR r10] h128 (kI (fun x144 h145 => ((x144 < 0 → ∀ r156 : Nat, r156 = (h145.r 25001 r18) → Cw G mX27_enter d 0 [vR r8, vR r126, vR r156] h145 (kV (fun h158 => ∀ r166 : Nat, r166 = (h158.r 24023 v0) → Cw G mX27_multiply d 0 [vR r8, vR r156, vR r156, vR r166] h158 (kV (fun h168 => Cw G mX27_same d 0 [vR r31, vR r166] h168 (kI (fun x179 h180 => (x179 = 0 ∨ x179 = 1) ∧ Φ (.inl (some (vI x179))) h180) (fun x h => Φ (.inr x) h))) (fun x h => Φ (.inr x) h))) (fun x h => Φ (.inr x) h))) ∧ (¬ x144 < 0 → Φ (.inl (some (vI 0))) h145))) (fun x h => Φ (.inr x) h))) (fun x h => Φ (.inr x) h))))) (fun x h => Φ (.inr x) h))) (fun x h => Φ (.inr x) h))) (fun x h => Φ (.inr x) h))) (fun x h => Φ (.inr x) h))) (fun x h => Φ (.inr x) h))) ∧ (¬ x11 < 0 → Φ (.inl (some (vI 0))) h12))) (fun x h => Φ (.inr x) h))) (fun x h => Φ (.inr x) h))) : Aw G mX24_readKey (d + 1) t h0 Φ 45 [vR v0, vR v1, vU, vI v3, vU] [] h := by
  refine r_aload_n (pc := 45) dX24_readKey_45 rfl ?_
  refine r_iconst (pc := 46) (x := 1) dX24_readKey_46 rfl ?_
  refine r_iconst (pc := 47) (x := 1) dX24_readKey_47 rfl ?_
  refine r_aload_n (pc := 48) dX24_readKey_48 rfl ?_
  obtain ⟨hk1, K⟩ := K
  have K := K _ rfl
  refine r_getr' (pc := 49) (T := TX24) 24 28 rfl hk1 (Or.inl q2726) dX24_readKey_49 kc24 g24028 ?_
  refine r_callS_V (pc := 52) (Y := mX24_fromBytes) (vs := [_, _, _, _]) (st := []) q2373 q2374 q192 dX24_readKey_52 rfl cd_X24_fromBytes rfl rfl fp_X24_readKey_X24_fromBytes K (fun h4 eh4 wh4 K => ?_) (fun x h1 _ _ e => Tw.out rfl e)
  refine r_aload_n (pc := 55) dX24_readKey_55 rfl ?_
  have hk5 := kd_ext eh4 hk1 (nz rfl)
  have hv6 := fr_self (key := 24028) hk1
  have hv7 := (fr_ext (key := 24028) eh4 hk1 (nz rfl) (ne0 wh4 hk5 (nz rfl)) (nm rfl)).trans hv6
  refine r_getr' (pc := 56) (T := TX24) 24 28 hv7 hk5 (Or.inl q2726) dX24_readKey_56 kc24 g24028 ?_
  refine r_aload_n (pc := 59) dX24_readKey_59 rfl ?_
  have K := K _ rfl
  refine r_getr' (pc := 60) (T := TX24) 24 15 rfl hk5 (Or.inl q2713) dX24_readKey_60 kc24 g24015 ?_
  obtain ⟨hk9, K⟩ := K
  have K := K _ rfl
  refine r_getr' (pc := 63) (T := TX27) 27 0 rfl hk9 (Or.inr (Or.inl ⟨_, q2209⟩)) dX24_readKey_63 kc27 g27000 ?_
  refine r_callS_I (pc := 66) (Y := mX27_compare) (vs := [_, _]) (st := []) q2365 q2200 q195 dX24_readKey_66 rfl cd_X27_compare rfl rfl fp_X24_readKey_X27_compare K (fun x11 h12 eh12 wh12 K => ?_) (fun x h1 _ _ e => Tw.out rfl e)
  refine r_if_lt (pc := 69) (tgt := 74) dX24_readKey_69 rfl (fun c13 => ?_) (fun c13 => ?_)
  · have K := K.1 c13
    refine r_aload_n (pc := 74) dX24_readKey_74 rfl ?_
    have hk14 := kd_ext eh12 hk5 (nz rfl)
    have hv15 := fr_self (key := 24015) hk5
    have hv16 := (fr_ext (key := 24015) eh12 hk5 (nz rfl) (ne0 wh12 hk14 (nz rfl)) (nm rfl)).trans hv15
    refine r_getr' (pc := 75) (T := TX24) 24 15 hv16 hk14 (Or.inl q2713) dX24_readKey_75 kc24 g24015 ?_
    refine r_aload_n (pc := 78) dX24_readKey_78 rfl ?_
    have hv17 := (fr_ext (key := 24028) eh12 hk5 (nz rfl) (ne0 wh12 hk14 (nz rfl)) (nm rfl)).trans hv7
    refine r_getr' (pc := 79) (T := TX24) 24 28 hv17 hk14 (Or.inl q2726) dX24_readKey_79 kc24 g24028 ?_
    refine r_aload_n (pc := 82) dX24_readKey_82 rfl ?_
    have K := K _ rfl
    refine r_getr' (pc := 83) (T := TX24) 24 19 rfl hk14 (Or.inl q2717) dX24_readKey_83 kc24 g24019 ?_
    obtain ⟨hk19, K⟩ := K
    have K := K _ rfl
    refine r_getr' (pc := 86) (T := TX25) 25 0 rfl hk19 (Or.inr (Or.inl ⟨_, q2122⟩)) dX24_readKey_86 kc25 g25000 ?_
    have hk23 := kd_ext eh12 hk9 (nz rfl)
    refine r_callV_V (pc := 89) (Y := mX27_enter) (vs := [_, _]) (st := []) hk23 rfl kc27 q2247 q2248 q2249 dX24_readKey_89 rfl cd_X27_enter rfl rfl fp_X24_readKey_X27_enter K (fun h22 eh22 wh22 K => ?_) (fun x h1 _ _ e => Tw.out rfl e)
    refine r_aload_n (pc := 92) dX24_readKey_92 rfl ?_
    have hk24 := kd_ext eh22 hk14 (nz rfl)
    have hv25 := (fr_ext (key := 24015) eh22 hk14 (nz rfl) (ne0 wh22 hk24 (nz rfl)) (nm rfl)).trans hv16
    refine r_getr' (pc := 93) (T := TX24) 24 15 hv25 hk24 (Or.inl q2713) dX24_readKey_93 kc24 g24015 ?_
    refine r_aload_n (pc := 96) dX24_readKey_96 rfl ?_
    have hv26 := fr_self (key := 24019) hk14
    have hv27 := (fr_ext (key := 24019) eh22 hk14 (nz rfl) (ne0 wh22 hk24 (nz rfl)) (nm rfl)).trans hv26
    refine r_getr' (pc := 97) (T := TX24) 24 19 hv27 hk24 (Or.inl q2717) dX24_readKey_97 kc24 g24019 ?_
    have hk28 := kd_ext eh22 hk19 (nz rfl)
    have hv29 := fr_self (key := 25000) hk19
    have hv30 := (fr_ext (key := 25000) eh22 hk19 (nz rfl) (ne0 wh22 hk28 (nz rfl)) (nm rfl)).trans hv29
    refine r_getr' (pc := 100) (T := TX25) 25 0 hv30 hk28 (Or.inr (Or.inl ⟨_, q2122⟩)) dX24_readKey_100 kc25 g25000 ?_
    refine r_aload_n (pc := 103) dX24_readKey_103 rfl ?_
    refine r_getr' (pc := 104) (T := TX24) 24 19 hv27 hk24 (Or.inl q2717) dX24_readKey_104 kc24 g24019 ?_
    refine r_getr' (pc := 107) (T := TX25) 25 0 hv30 hk28 (Or.inr (Or.inl ⟨_, q2122⟩)) dX24_readKey_107 kc25 g25000 ?_
    refine r_aload_n (pc := 110) dX24_readKey_110 rfl ?_
    have K := K _ rfl
    refine r_getr' (pc := 111) (T := TX24) 24 22 rfl hk24 (Or.inl q2720) dX24_readKey_111 kc24 g24022 ?_
    have hk34 := kd_ext eh22 hk23 (nz rfl)
    refine r_callV_V (pc := 114) (Y := mX27_multiply) (vs := [_, _, _]) (st := []) hk34 rfl kc27 q2615 q2252 q2253 dX24_readKey_114 rfl cd_X27_multiply rfl rfl fp_X24_readKey_X27_multiply K (fun h33 eh33 wh33 K => ?_) (fun x h1 _ _ e => Tw.out rfl e)
    refine r_aload_n (pc := 117) dX24_readKey_117 rfl ?_
    have hk35 := kd_ext eh33 hk24 (nz rfl)
    have hv36 := (fr_ext (key := 24015) eh33 hk24 (nz rfl) (ne0 wh33 hk35 (nz rfl)) (nm rfl)).trans hv25
    refine r_getr' (pc := 118) (T := TX24) 24 15 hv36 hk35 (Or.inl q2713) dX24_readKey_118 kc24 g24015 ?_
    refine r_aload_n (pc := 121) dX24_readKey_121 rfl ?_
    have hv37 := fr_self (key := 24022) hk24
    have hv38 := (fr_ext (key := 24022) eh33 hk24 (nz rfl) (ne0 wh33 hk35 (nz rfl)) (nm rfl)).trans hv37
    refine r_getr' (pc := 122) (T := TX24) 24 22 hv38 hk35 (Or.inl q2720) dX24_readKey_122 kc24 g24022 ?_
    refine r_aload_n (pc := 125) dX24_readKey_125 rfl ?_
    have hv39 := (fr_ext (key := 24019) eh33 hk24 (nz rfl) (ne0 wh33 hk35 (nz rfl)) (nm rfl)).trans hv27
    refine r_getr' (pc := 126) (T := TX24) 24 19 hv39 hk35 (Or.inl q2717) dX24_readKey_126 kc24 g24019 ?_
    have hk40 := kd_ext eh33 hk28 (nz rfl)
    have hv41 := (fr_ext (key := 25000) eh33 hk28 (nz rfl) (ne0 wh33 hk40 (nz rfl)) (nm rfl)).trans hv30
    refine r_getr' (pc := 129) (T := TX25) 25 0 hv41 hk40 (Or.inr (Or.inl ⟨_, q2122⟩)) dX24_readKey_129 kc25 g25000 ?_
    refine r_aload_n (pc := 132) dX24_readKey_132 rfl ?_
    refine r_getr' (pc := 133) (T := TX24) 24 22 hv38 hk35 (Or.inl q2720) dX24_readKey_133 kc24 g24022 ?_
    have hk44 := kd_ext eh33 hk34 (nz rfl)
    refine r_callV_V (pc := 136) (Y := mX27_multiply) (vs := [_, _, _]) (st := []) hk44 rfl kc27 q2615 q2252 q2253 dX24_readKey_136 rfl cd_X27_multiply rfl rfl fp_X24_readKey_X27_multiply K (fun h43 eh43 wh43 K => ?_) (fun x h1 _ _ e => Tw.out rfl e)
    refine r_aload_n (pc := 139) dX24_readKey_139 rfl ?_
    have hk45 := kd_ext eh43 hk35 (nz rfl)
    have hv46 := (fr_ext (key := 24015) eh43 hk35 (nz rfl) (ne0 wh43 hk45 (nz rfl)) (nm rfl)).trans hv36
    refine r_getr' (pc := 140) (T := TX24) 24 15 hv46 hk45 (Or.inl q2713) dX24_readKey_140 kc24 g24015 ?_
    refine r_aload_n (pc := 143) dX24_readKey_143 rfl ?_
    have hv47 := (fr_ext (key := 24022) eh43 hk35 (nz rfl) (ne0 wh43 hk45 (nz rfl)) (nm rfl)).trans hv38
    refine r_getr' (pc := 144) (T := TX24) 24 22 hv47 hk45 (Or.inl q2720) dX24_readKey_144 kc24 g24022 ?_
    refine r_aload_n (pc := 147) dX24_readKey_147 rfl ?_
    have K := K _ rfl
    refine r_getr' (pc := 148) (T := TX24) 24 17 rfl hk45 (Or.inl q2715) dX24_readKey_148 kc24 g24017 ?_
    refine r_aload_n (pc := 151) dX24_readKey_151 rfl ?_
    refine r_getr' (pc := 152) (T := TX24) 24 22 hv47 hk45 (Or.inl q2720) dX24_readKey_152 kc24 g24022 ?_
    have hk51 := kd_ext eh43 hk44 (nz rfl)
    refine r_callV_V (pc := 155) (Y := mX27_add) (vs := [_, _, _]) (st := []) hk51 rfl kc27 q2616 q2192 q2193 dX24_readKey_155 rfl cd_X27_add rfl rfl fp_X24_readKey_X27_add K (fun h50 eh50 wh50 K => ?_) (fun x h1 _ _ e => Tw.out rfl e)
    refine r_aload_n (pc := 158) dX24_readKey_158 rfl ?_
    have hk52 := kd_ext eh50 hk45 (nz rfl)
    have hv53 := (fr_ext (key := 24015) eh50 hk45 (nz rfl) (ne0 wh50 hk52 (nz rfl)) (nm rfl)).trans hv46
    refine r_getr' (pc := 159) (T := TX24) 24 15 hv53 hk52 (Or.inl q2713) dX24_readKey_159 kc24 g24015 ?_
    have hk54 := kd_ext eh50 hk51 (nz rfl)
    have K := K _ rfl
    refine r_getr' (pc := 162) (T := TX27) 27 2 rfl hk54 (Or.inr (Or.inl ⟨_, q2212⟩)) dX24_readKey_162 kc27 g27002 ?_
    refine r_aload_n (pc := 165) dX24_readKey_165 rfl ?_
    have hv56 := (fr_ext (key := 24019) eh43 hk35 (nz rfl) (ne0 wh43 hk45 (nz rfl)) (nm rfl)).trans hv39
    have hv57 := (fr_ext (key := 24019) eh50 hk45 (nz rfl) (ne0 wh50 hk52 (nz rfl)) (nm rfl)).trans hv56
    refine r_getr' (pc := 166) (T := TX24) 24 19 hv57 hk52 (Or.inl q2717) dX24_readKey_166 kc24 g24019 ?_
    have hk58 := kd_ext eh43 hk40 (nz rfl)
    have hk59 := kd_ext eh50 hk58 (nz rfl)
    have K := K _ rfl
    refine r_getr' (pc := 169) (T := TX25) 25 2 rfl hk59 (Or.inr (Or.inl ⟨_, q2126⟩)) dX24_readKey_169 kc25 g25002 ?_
    refine r_callS_V (pc := 172) (Y := mX27_copy) (vs := [_, _]) (st := []) q2275 q2206 q195 dX24_readKey_172 rfl cd_X27_copy rfl rfl fp_X24_readKey_X27_copy K (fun h62 eh62 wh62 K => ?_) (fun x h1 _ _ e => Tw.out rfl e)
    refine r_iload_n (pc := 175) dX24_readKey_175 rfl ?_
    refine r_if_ne (pc := 176) (tgt := 264) dX24_readKey_176 rfl (fun c63 => ?_) (fun c63 => ?_)
    · have K := K.1 c63
      refine r_aload_n (pc := 264) dX24_readKey_264 rfl ?_
      have hk64 := kd_ext eh62 hk52 (nz rfl)
      have hv65 := (fr_ext (key := 24022) eh50 hk45 (nz rfl) (ne0 wh50 hk52 (nz rfl)) (nm rfl)).trans hv47
      have hv66 := (fr_ext (key := 24022) eh62 hk52 (nz rfl) (ne0 wh62 hk64 (nz rfl)) (nm rfl)).trans hv65
      refine r_getr' (pc := 265) (T := TX24) 24 22 hv66 hk64 (Or.inl q2720) dX24_readKey_265 kc24 g24022 ?_
      refine r_aload_n (pc := 268) dX24_readKey_268 rfl ?_
      have K := K _ rfl
      refine r_getr' (pc := 269) (T := TX24) 24 24 rfl hk64 (Or.inl q2722) dX24_readKey_269 kc24 g24024 ?_
      refine r_callS_V (pc := 272) (Y := mX27_copy) (vs := [_, _]) (st := []) q2275 q2206 q195 dX24_readKey_272 rfl cd_X27_copy rfl rfl fp_X24_readKey_X27_copy K (fun h69 eh69 wh69 K => ?_) (fun x h1 _ _ e => Tw.out rfl e)
      refine r_aload_n (pc := 275) dX24_readKey_275 rfl ?_
      have hk70 := kd_ext eh69 hk64 (nz rfl)
      have hv71 := (fr_ext (key := 24015) eh62 hk52 (nz rfl) (ne0 wh62 hk64 (nz rfl)) (nm rfl)).trans hv53
      have hv72 := (fr_ext (key := 24015) eh69 hk64 (nz rfl) (ne0 wh69 hk70 (nz rfl)) (nm rfl)).trans hv71
      refine r_getr' (pc := 276) (T := TX24) 24 15 hv72 hk70 (Or.inl q2713) dX24_readKey_276 kc24 g24015 ?_
      refine r_aload_n (pc := 279) dX24_readKey_279 rfl ?_
      have hv73 := (fr_ext (key := 24022) eh69 hk64 (nz rfl) (ne0 wh69 hk70 (nz rfl)) (nm rfl)).trans hv66
      refine r_getr' (pc := 280) (T := TX24) 24 22 hv73 hk70 (Or.inl q2720) dX24_readKey_280 kc24 g24022 ?_
      refine r_iconst (pc := 283) (x := 1) dX24_readKey_283 rfl ?_
      refine r_iconst (pc := 284) (x := 2) dX24_readKey_284 rfl ?_
      refine r_aload_n (pc := 285) dX24_readKey_285 rfl ?_
      have hv74 := (fr_ext (key := 24019) eh62 hk52 (nz rfl) (ne0 wh62 hk64 (nz rfl)) (nm rfl)).trans hv57
      have hv75 := (fr_ext (key := 24019) eh69 hk64 (nz rfl) (ne0 wh69 hk70 (nz rfl)) (nm rfl)).trans hv74
      refine r_getr' (pc := 286) (T := TX24) 24 19 hv75 hk70 (Or.inl q2717) dX24_readKey_286 kc24 g24019 ?_
      have hk76 := kd_ext eh62 hk59 (nz rfl)
      have hk77 := kd_ext eh69 hk76 (nz rfl)
      have K := K _ rfl
      refine r_getr' (pc := 289) (T := TX25) 25 1 rfl hk77 (Or.inr (Or.inl ⟨_, q2124⟩)) dX24_readKey_289 kc25 g25001 ?_
      have hk81 := kd_ext eh62 hk54 (nz rfl)
      have hk82 := kd_ext eh69 hk81 (nz rfl)
      refine r_callV_V (pc := 292) (Y := mX27_power) (vs := [_, _, _, _]) (st := []) hk82 rfl kc27 q2620 q2621 q2622 dX24_readKey_292 rfl cd_X27_power rfl rfl fp_X24_readKey_X27_power K (fun h80 eh80 wh80 K => ?_) (fun x h1 _ _ e => Tw.out rfl e)
      refine r_aload_n (pc := 295) dX24_readKey_295 rfl ?_
      have hk83 := kd_ext eh80 hk70 (nz rfl)
      have hv84 := (fr_ext (key := 24015) eh80 hk70 (nz rfl) (ne0 wh80 hk83 (nz rfl)) (nm rfl)).trans hv72
      refine r_getr' (pc := 296) (T := TX24) 24 15 hv84 hk83 (Or.inl q2713) dX24_readKey_296 kc24 g24015 ?_
      refine r_aload_n (pc := 299) dX24_readKey_299 rfl ?_
      have hv85 := (fr_ext (key := 24019) eh80 hk70 (nz rfl) (ne0 wh80 hk83 (nz rfl)) (nm rfl)).trans hv75
      refine r_getr' (pc := 300) (T := TX24) 24 19 hv85 hk83 (Or.inl q2717) dX24_readKey_300 kc24 g24019 ?_
      have hk86 := kd_ext eh80 hk77 (nz rfl)
      have hv87 := fr_self (key := 25001) hk77
      have hv88 := (fr_ext (key := 25001) eh80 hk77 (nz rfl) (ne0 wh80 hk86 (nz rfl)) (nm rfl)).trans hv87
      refine r_getr' (pc := 303) (T := TX25) 25 1 hv88 hk86 (Or.inr (Or.inl ⟨_, q2124⟩)) dX24_readKey_303 kc25 g25001 ?_
      refine r_aload_n (pc := 306) dX24_readKey_306 rfl ?_
      refine r_getr' (pc := 307) (T := TX24) 24 19 hv85 hk83 (Or.inl q2717) dX24_readKey_307 kc24 g24019 ?_
      refine r_getr' (pc := 310) (T := TX25) 25 1 hv88 hk86 (Or.inr (Or.inl ⟨_, q2124⟩)) dX24_readKey_310 kc25 g25001 ?_
      refine r_aload_n (pc := 313) dX24_readKey_313 rfl ?_
      have K := K _ rfl
      refine r_getr' (pc := 314) (T := TX24) 24 23 rfl hk83 (Or.inl q2721) dX24_readKey_314 kc24 g24023 ?_
      have hk92 := kd_ext eh80 hk82 (nz rfl)
      refine r_callV_V (pc := 317) (Y := mX27_multiply) (vs := [_, _, _]) (st := []) hk92 rfl kc27 q2615 q2252 q2253 dX24_readKey_317 rfl cd_X27_multiply rfl rfl fp_X24_readKey_X27_multiply K (fun h91 eh91 wh91 K => ?_) (fun x h1 _ _ e => Tw.out rfl e)
      refine r_aload_n (pc := 320) dX24_readKey_320 rfl ?_
      have hk93 := kd_ext eh91 hk83 (nz rfl)
      have hv94 := fr_self (key := 24023) hk83
      have hv95 := (fr_ext (key := 24023) eh91 hk83 (nz rfl) (ne0 wh91 hk93 (nz rfl)) (nm rfl)).trans hv94
      refine r_getr' (pc := 321) (T := TX24) 24 23 hv95 hk93 (Or.inl q2721) dX24_readKey_321 kc24 g24023 ?_
      refine r_aload_n (pc := 324) dX24_readKey_324 rfl ?_
      have hv96 := fr_self (key := 24024) hk64
      have hv97 := (fr_ext (key := 24024) eh69 hk64 (nz rfl) (ne0 wh69 hk70 (nz rfl)) (nm rfl)).trans hv96
      have hv98 := (fr_ext (key := 24024) eh80 hk70 (nz rfl) (ne0 wh80 hk83 (nz rfl)) (nm rfl)).trans hv97
      have hv99 := (fr_ext (key := 24024) eh91 hk83 (nz rfl) (ne0 wh91 hk93 (nz rfl)) (nm rfl)).trans hv98
      refine r_getr' (pc := 325) (T := TX24) 24 24 hv99 hk93 (Or.inl q2722) dX24_readKey_325 kc24 g24024 ?_
      refine r_callS_I (pc := 328) (Y := mX27_same) (vs := [_, _]) (st := []) q2617 q2618 q195 dX24_readKey_328 rfl cd_X27_same rfl rfl fp_X24_readKey_X27_same K (fun x100 h101 eh101 wh101 K => ?_) (fun x h1 _ _ e => Tw.out rfl e)
      refine r_if_ne (pc := 331) (tgt := 336) dX24_readKey_331 rfl (fun c102 => ?_) (fun c102 => ?_)
      · have K := K.1 c102
        refine r_aload_n (pc := 336) dX24_readKey_336 rfl ?_
        have hk103 := kd_ext eh101 hk93 (nz rfl)
        have hv104 := (fr_ext (key := 24015) eh91 hk83 (nz rfl) (ne0 wh91 hk93 (nz rfl)) (nm rfl)).trans hv84
        have hv105 := (fr_ext (key := 24015) eh101 hk93 (nz rfl) (ne0 wh101 hk103 (nz rfl)) (nm rfl)).trans hv104
        refine r_getr' (pc := 337) (T := TX24) 24 15 hv105 hk103 (Or.inl q2713) dX24_readKey_337 kc24 g24015 ?_
        refine r_aload_n (pc := 340) dX24_readKey_340 rfl ?_
        have hv106 := (fr_ext (key := 24019) eh91 hk83 (nz rfl) (ne0 wh91 hk93 (nz rfl)) (nm rfl)).trans hv85
        have hv107 := (fr_ext (key := 24019) eh101 hk93 (nz rfl) (ne0 wh101 hk103 (nz rfl)) (nm rfl)).trans hv106
        refine r_getr' (pc := 341) (T := TX24) 24 19 hv107 hk103 (Or.inl q2717) dX24_readKey_341 kc24 g24019 ?_
        have hk108 := kd_ext eh91 hk86 (nz rfl)
        have hk109 := kd_ext eh101 hk108 (nz rfl)
        have hv110 := (fr_ext (key := 25001) eh91 hk86 (nz rfl) (ne0 wh91 hk108 (nz rfl)) (nm rfl)).trans hv88
        have hv111 := (fr_ext (key := 25001) eh101 hk108 (nz rfl) (ne0 wh101 hk109 (nz rfl)) (nm rfl)).trans hv110
        refine r_getr' (pc := 344) (T := TX25) 25 1 hv111 hk109 (Or.inr (Or.inl ⟨_, q2124⟩)) dX24_readKey_344 kc25 g25001 ?_
        refine r_aload_n (pc := 347) dX24_readKey_347 rfl ?_
        have K := K _ rfl
        refine r_getr' (pc := 348) (T := TX24) 24 29 rfl hk103 (Or.inl q2727) dX24_readKey_348 kc24 g24029 ?_
        have hk115 := kd_ext eh91 hk92 (nz rfl)
        have hk116 := kd_ext eh101 hk115 (nz rfl)
        refine r_callV_V (pc := 351) (Y := mX27_leave) (vs := [_, _]) (st := []) hk116 rfl kc27 q2624 q2625 q2626 dX24_readKey_351 rfl cd_X27_leave rfl rfl fp_X24_readKey_X27_leave K (fun h114 eh114 wh114 K => ?_) (fun x h1 _ _ e => Tw.out rfl e)
        refine r_aload_n (pc := 354) dX24_readKey_354 rfl ?_
        have hk117 := kd_ext eh114 hk103 (nz rfl)
        have hv118 := fr_self (key := 24029) hk103
        have hv119 := (fr_ext (key := 24029) eh114 hk103 (nz rfl) (ne0 wh114 hk117 (nz rfl)) (nm rfl)).trans hv118
        refine r_getr' (pc := 355) (T := TX24) 24 29 hv119 hk117 (Or.inl q2727) dX24_readKey_355 kc24 g24029 ?_
        refine r_iconst (pc := 358) (x := 0) dX24_readKey_358 rfl ?_
        obtain ⟨hk120, K⟩ := K
        obtain ⟨hi121, K⟩ := K
        refine r_iaload (pc := 359) hk120 hi121 dX24_readKey_359 ?_
        refine r_iconst (pc := 360) (x := 1) dX24_readKey_360 rfl ?_
        refine r_iand (pc := 361) dX24_readKey_361 ?_
        refine r_aload_n (pc := 362) dX24_readKey_362 rfl ?_
        refine r_iconst (pc := 363) (x := 0) dX24_readKey_363 rfl ?_
        obtain ⟨hk122, K⟩ := K
        obtain ⟨hi123, K⟩ := K
        refine r_baload (pc := 364) hk122 hi123 dX24_readKey_364 ?_
        refine r_iconst (pc := 365) (x := 2) dX24_readKey_365 rfl ?_
        refine r_isub (pc := 366) dX24_readKey_366 ?_
        refine r_icmp_eq (pc := 367) (tgt := 419) dX24_readKey_367 rfl (fun c124 => ?_) (fun c124 => ?_)
        · have K := K.1 c124
          refine r_iconst (pc := 419) (x := 1) dX24_readKey_419 rfl ?_
          exact r_iret (pc := 420) rfl rfl dX24_readKey_420 K
        · have K := K.2 c124
          refine r_iconst (pc := 370) (x := 0) dX24_readKey_370 rfl ?_
          refine r_istore (pc := 371) (lv' := [_, _, _, _, _]) dX24_readKey_371 (by decide) rfl ?_
          refine r_mask (pc := 373) [true, false, false, false, true] rfl ?_
          exact K
      · have K := K.2 c102
        refine r_iconst (pc := 334) (x := 0) dX24_readKey_334 rfl ?_
        exact r_iret (pc := 335) rfl rfl dX24_readKey_335 K
    · have K := K.2 c63
      refine r_aload_n (pc := 179) dX24_readKey_179 rfl ?_
      refine r_bipush (pc := 180) (x := 33) dX24_readKey_180 rfl ?_
      refine r_iconst (pc := 182) (x := 1) dX24_readKey_182 rfl ?_
      refine r_aload_n (pc := 183) dX24_readKey_183 rfl ?_
      have hk125 := kd_ext eh62 hk52 (nz rfl)
      have K := K _ rfl
      refine r_getr' (pc := 184) (T := TX24) 24 29 rfl hk125 (Or.inl q2727) dX24_readKey_184 kc24 g24029 ?_
      refine r_callS_V (pc := 187) (Y := mX24_fromBytes) (vs := [_, _, _, _]) (st := []) q2373 q2374 q192 dX24_readKey_187 rfl cd_X24_fromBytes rfl rfl fp_X24_readKey_X24_fromBytes K (fun h128 eh128 wh128 K => ?_) (fun x h1 _ _ e => Tw.out rfl e)
      refine r_aload_n (pc := 190) dX24_readKey_190 rfl ?_
      have hk129 := kd_ext eh128 hk125 (nz rfl)
      have hv130 := fr_self (key := 24029) hk125
      have hv131 := (fr_ext (key := 24029) eh128 hk125 (nz rfl) (ne0 wh128 hk129 (nz rfl)) (nm rfl)).trans hv130
      refine r_getr' (pc := 191) (T := TX24) 24 29 hv131 hk129 (Or.inl q2727) dX24_readKey_191 kc24 g24029 ?_
      refine r_aload_n (pc := 194) dX24_readKey_194 rfl ?_
      have hv132 := (fr_ext (key := 24015) eh62 hk52 (nz rfl) (ne0 wh62 hk125 (nz rfl)) (nm rfl)).trans hv53
      have hv133 := (fr_ext (key := 24015) eh128 hk125 (nz rfl) (ne0 wh128 hk129 (nz rfl)) (nm rfl)).trans hv132
      refine r_getr' (pc := 195) (T := TX24) 24 15 hv133 hk129 (Or.inl q2713) dX24_readKey_195 kc24 g24015 ?_
      have hk134 := kd_ext eh62 hk54 (nz rfl)
      have hk135 := kd_ext eh128 hk134 (nz rfl)
      have hv136 := fr_self (key := 27000) hk9
      have hv137 := (fr_ext (key := 27000) eh12 hk9 (nz rfl) (ne0 wh12 hk23 (nz rfl)) (nm rfl)).trans hv136
      have hv138 := (fr_ext (key := 27000) eh22 hk23 (nz rfl) (ne0 wh22 hk34 (nz rfl)) (nm rfl)).trans hv137
      have hv139 := (fr_ext (key := 27000) eh33 hk34 (nz rfl) (ne0 wh33 hk44 (nz rfl)) (nm rfl)).trans hv138
      have hv140 := (fr_ext (key := 27000) eh43 hk44 (nz rfl) (ne0 wh43 hk51 (nz rfl)) (nm rfl)).trans hv139
      have hv141 := (fr_ext (key := 27000) eh50 hk51 (nz rfl) (ne0 wh50 hk54 (nz rfl)) (nm rfl)).trans hv140
      have hv142 := (fr_ext (key := 27000) eh62 hk54 (nz rfl) (ne0 wh62 hk134 (nz rfl)) (nm rfl)).trans hv141
      have hv143 := (fr_ext (key := 27000) eh128 hk134 (nz rfl) (ne0 wh128 hk135 (nz rfl)) (nm rfl)).trans hv142
      refine r_getr' (pc := 198) (T := TX27) 27 0 hv143 hk135 (Or.inr (Or.inl ⟨_, q2209⟩)) dX24_readKey_198 kc27 g27000 ?_
      refine r_callS_I (pc := 201) (Y := mX27_compare) (vs := [_, _]) (st := []) q2365 q2200 q195 dX24_readKey_201 rfl cd_X27_compare rfl rfl fp_X24_readKey_X27_compare K (fun x144 h145 eh145 wh145 K => ?_) (fun x h1 _ _ e => Tw.out rfl e)
      refine r_if_lt (pc := 204) (tgt := 209) dX24_readKey_204 rfl (fun c146 => ?_) (fun c146 => ?_)
      · have K := K.1 c146
        refine r_aload_n (pc := 209) dX24_readKey_209 rfl ?_
        have hk147 := kd_ext eh145 hk129 (nz rfl)
        have hv148 := (fr_ext (key := 24015) eh145 hk129 (nz rfl) (ne0 wh145 hk147 (nz rfl)) (nm rfl)).trans hv133
        refine r_getr' (pc := 210) (T := TX24) 24 15 hv148 hk147 (Or.inl q2713) dX24_readKey_210 kc24 g24015 ?_
        refine r_aload_n (pc := 213) dX24_readKey_213 rfl ?_
        have hv149 := (fr_ext (key := 24029) eh145 hk129 (nz rfl) (ne0 wh145 hk147 (nz rfl)) (nm rfl)).trans hv131
        refine r_getr' (pc := 214) (T := TX24) 24 29 hv149 hk147 (Or.inl q2727) dX24_readKey_214 kc24 g24029 ?_
        refine r_aload_n (pc := 217) dX24_readKey_217 rfl ?_
        have hv150 := (fr_ext (key := 24019) eh62 hk52 (nz rfl) (ne0 wh62 hk125 (nz rfl)) (nm rfl)).trans hv57
        have hv151 := (fr_ext (key := 24019) eh128 hk125 (nz rfl) (ne0 wh128 hk129 (nz rfl)) (nm rfl)).trans hv150
        have hv152 := (fr_ext (key := 24019) eh145 hk129 (nz rfl) (ne0 wh145 hk147 (nz rfl)) (nm rfl)).trans hv151
        refine r_getr' (pc := 218) (T := TX24) 24 19 hv152 hk147 (Or.inl q2717) dX24_readKey_218 kc24 g24019 ?_
        have hk153 := kd_ext eh62 hk59 (nz rfl)
        have hk154 := kd_ext eh128 hk153 (nz rfl)
        have hk155 := kd_ext eh145 hk154 (nz rfl)
        have K := K _ rfl
        refine r_getr' (pc := 221) (T := TX25) 25 1 rfl hk155 (Or.inr (Or.inl ⟨_, q2124⟩)) dX24_readKey_221 kc25 g25001 ?_
        have hk159 := kd_ext eh145 hk135 (nz rfl)
        refine r_callV_V (pc := 224) (Y := mX27_enter) (vs := [_, _]) (st := []) hk159 rfl kc27 q2247 q2248 q2249 dX24_readKey_224 rfl cd_X27_enter rfl rfl fp_X24_readKey_X27_enter K (fun h158 eh158 wh158 K => ?_) (fun x h1 _ _ e => Tw.out rfl e)
        refine r_aload_n (pc := 227) dX24_readKey_227 rfl ?_
        have hk160 := kd_ext eh158 hk147 (nz rfl)
        have hv161 := (fr_ext (key := 24015) eh158 hk147 (nz rfl) (ne0 wh158 hk160 (nz rfl)) (nm rfl)).trans hv148
        refine r_getr' (pc := 228) (T := TX24) 24 15 hv161 hk160 (Or.inl q2713) dX24_readKey_228 kc24 g24015 ?_
        refine r_aload_n (pc := 231) dX24_readKey_231 rfl ?_
        have hv162 := (fr_ext (key := 24019) eh158 hk147 (nz rfl) (ne0 wh158 hk160 (nz rfl)) (nm rfl)).trans hv152
        refine r_getr' (pc := 232) (T := TX24) 24 19 hv162 hk160 (Or.inl q2717) dX24_readKey_232 kc24 g24019 ?_
        have hk163 := kd_ext eh158 hk155 (nz rfl)
        have hv164 := fr_self (key := 25001) hk155
        have hv165 := (fr_ext (key := 25001) eh158 hk155 (nz rfl) (ne0 wh158 hk163 (nz rfl)) (nm rfl)).trans hv164
        refine r_getr' (pc := 235) (T := TX25) 25 1 hv165 hk163 (Or.inr (Or.inl ⟨_, q2124⟩)) dX24_readKey_235 kc25 g25001 ?_
        refine r_aload_n (pc := 238) dX24_readKey_238 rfl ?_
        refine r_getr' (pc := 239) (T := TX24) 24 19 hv162 hk160 (Or.inl q2717) dX24_readKey_239 kc24 g24019 ?_
        refine r_getr' (pc := 242) (T := TX25) 25 1 hv165 hk163 (Or.inr (Or.inl ⟨_, q2124⟩)) dX24_readKey_242 kc25 g25001 ?_
        refine r_aload_n (pc := 245) dX24_readKey_245 rfl ?_
        have K := K _ rfl
        refine r_getr' (pc := 246) (T := TX24) 24 23 rfl hk160 (Or.inl q2721) dX24_readKey_246 kc24 g24023 ?_
        have hk169 := kd_ext eh158 hk159 (nz rfl)
        refine r_callV_V (pc := 249) (Y := mX27_multiply) (vs := [_, _, _]) (st := []) hk169 rfl kc27 q2615 q2252 q2253 dX24_readKey_249 rfl cd_X27_multiply rfl rfl fp_X24_readKey_X27_multiply K (fun h168 eh168 wh168 K => ?_) (fun x h1 _ _ e => Tw.out rfl e)
        refine r_aload_n (pc := 252) dX24_readKey_252 rfl ?_
        have hk170 := kd_ext eh168 hk160 (nz rfl)
        have hv171 := (fr_ext (key := 24022) eh50 hk45 (nz rfl) (ne0 wh50 hk52 (nz rfl)) (nm rfl)).trans hv47
        have hv172 := (fr_ext (key := 24022) eh62 hk52 (nz rfl) (ne0 wh62 hk125 (nz rfl)) (nm rfl)).trans hv171
        have hv173 := (fr_ext (key := 24022) eh128 hk125 (nz rfl) (ne0 wh128 hk129 (nz rfl)) (nm rfl)).trans hv172
        have hv174 := (fr_ext (key := 24022) eh145 hk129 (nz rfl) (ne0 wh145 hk147 (nz rfl)) (nm rfl)).trans hv173
        have hv175 := (fr_ext (key := 24022) eh158 hk147 (nz rfl) (ne0 wh158 hk160 (nz rfl)) (nm rfl)).trans hv174
        have hv176 := (fr_ext (key := 24022) eh168 hk160 (nz rfl) (ne0 wh168 hk170 (nz rfl)) (nm rfl)).trans hv175
        refine r_getr' (pc := 253) (T := TX24) 24 22 hv176 hk170 (Or.inl q2720) dX24_readKey_253 kc24 g24022 ?_
        refine r_aload_n (pc := 256) dX24_readKey_256 rfl ?_
        have hv177 := fr_self (key := 24023) hk160
        have hv178 := (fr_ext (key := 24023) eh168 hk160 (nz rfl) (ne0 wh168 hk170 (nz rfl)) (nm rfl)).trans hv177
        refine r_getr' (pc := 257) (T := TX24) 24 23 hv178 hk170 (Or.inl q2721) dX24_readKey_257 kc24 g24023 ?_
        refine r_callS_I (pc := 260) (Y := mX27_same) (vs := [_, _]) (st := []) q2617 q2618 q195 dX24_readKey_260 rfl cd_X27_same rfl rfl fp_X24_readKey_X27_same K (fun x179 h180 eh180 wh180 K => ?_) (fun x h1 _ _ e => Tw.out rfl e)
        obtain ⟨hb181, K⟩ := K
        exact r_iret (pc := 263) rfl (nar_z hb181) dX24_readKey_263 K
      · have K := K.2 c146
        refine r_iconst (pc := 207) (x := 0) dX24_readKey_207 rfl ?_
        exact r_iret (pc := 208) rfl rfl dX24_readKey_208 K
  · have K := K.2 c13
    refine r_iconst (pc := 72) (x := 0) dX24_readKey_72 rfl ?_
    exact r_iret (pc := 73) rfl rfl dX24_readKey_73 K
set_option maxHeartbeats 4000000 in
theorem sX24_readKey_373 {G : Gx} {d t : Nat} {h0 : AH} {Φ : Out → AH → Prop} (h : AH) (v0 : Nat) (v4 : Int32) (K : ((8 ≤ v4 → h.kd v0 = 24 ∧ ∀ r3 : Nat, r3 = (h.r 24015 v0) → ∀ r4 : Nat, r4 = (h.r 24025 v0) → ∀ r5 : Nat, r5 = (h.r 24019 v0) → h.kd r5 = 25 ∧ ∀ r7 : Nat, r7 = (h.r 25001 r5) → h.kd r3 = 27 ∧ Cw G mX27_subtract d 0 [vR r3, vR r4, vR r7, vR r7] h (kV (fun h9 => Φ (.inl (some (vI 1))) h9) (fun x h => Φ (.inr x) h))) ∧ (¬ 8 ≤ v4 → h.kd v0 = 24 ∧ ∀ r12 : Nat, r12 = (h.r 24025 v0) → h.kd r12 = 100 ∧ vp_in v4 (h.ai r12).length ∧ ∀ h15 : AH, h15 = h.wi r12 ((h.ai r12).set (v4.toNatClampNeg) 0) → Aw G mX24_readKey (d + 1) t h0 Φ 373 [vR v0, vU, vU, vU, vI (v4 + 1)] [] h15))) : Aw G mX24_readKey (d + 1) t h0 Φ 373 [vR v0, vU, vU, vU, vI v4] [] h := by
  refine r_iload (pc := 373) dX24_readKey_373 rfl ?_
  refine r_bipush (pc := 375) (x := 8) dX24_readKey_375 rfl ?_
  refine r_icmp_ge (pc := 377) (tgt := 394) dX24_readKey_377 rfl (fun c1 => ?_) (fun c1 => ?_)
  · have K := K.1 c1
    refine r_aload_n (pc := 394) dX24_readKey_394 rfl ?_
    obtain ⟨hk2, K⟩ := K
    have K := K _ rfl
    refine r_getr' (pc := 395) (T := TX24) 24 15 rfl hk2 (Or.inl q2713) dX24_readKey_395 kc24 g24015 ?_
    refine r_aload_n (pc := 398) dX24_readKey_398 rfl ?_
    have K := K _ rfl
    refine r_getr' (pc := 399) (T := TX24) 24 25 rfl hk2 (Or.inl q2723) dX24_readKey_399 kc24 g24025 ?_
    refine r_aload_n (pc := 402) dX24_readKey_402 rfl ?_
    have K := K _ rfl
    refine r_getr' (pc := 403) (T := TX24) 24 19 rfl hk2 (Or.inl q2717) dX24_readKey_403 kc24 g24019 ?_
    obtain ⟨hk6, K⟩ := K
    have K := K _ rfl
    refine r_getr' (pc := 406) (T := TX25) 25 1 rfl hk6 (Or.inr (Or.inl ⟨_, q2124⟩)) dX24_readKey_406 kc25 g25001 ?_
    refine r_aload_n (pc := 409) dX24_readKey_409 rfl ?_
    refine r_getr' (pc := 410) (T := TX24) 24 19 rfl hk2 (Or.inl q2717) dX24_readKey_410 kc24 g24019 ?_
    refine r_getr' (pc := 413) (T := TX25) 25 1 rfl hk6 (Or.inr (Or.inl ⟨_, q2124⟩)) dX24_readKey_413 kc25 g25001 ?_
    obtain ⟨hk10, K⟩ := K
    refine r_callV_V (pc := 416) (Y := mX27_subtract) (vs := [_, _, _]) (st := []) hk10 rfl kc27 q2628 q2629 q2630 dX24_readKey_416 rfl cd_X27_subtract rfl rfl fp_X24_readKey_X27_subtract K (fun h9 eh9 wh9 K => ?_) (fun x h1 _ _ e => Tw.out rfl e)
    refine r_iconst (pc := 419) (x := 1) dX24_readKey_419 rfl ?_
    exact r_iret (pc := 420) rfl rfl dX24_readKey_420 K
  · have K := K.2 c1
    refine r_aload_n (pc := 380) dX24_readKey_380 rfl ?_
    obtain ⟨hk11, K⟩ := K
    have K := K _ rfl
    refine r_getr' (pc := 381) (T := TX24) 24 25 rfl hk11 (Or.inl q2723) dX24_readKey_381 kc24 g24025 ?_
    refine r_iload (pc := 384) dX24_readKey_384 rfl ?_
    refine r_iconst (pc := 386) (x := 0) dX24_readKey_386 rfl ?_
    obtain ⟨hk13, K⟩ := K
    obtain ⟨hi14, K⟩ := K
    refine r_iastore (pc := 387) hk13 hi14 (Or.inl (em rfl)) dX24_readKey_387 ?_
    refine r_nameH (fun h15 eh15 => ?_)
    have K := K h15 eh15
    refine r_iinc (pc := 388) (lv' := [_, _, _, _, _]) dX24_readKey_388 rfl rfl (by decide) rfl ?_
    refine r_goto (pc := 391) (tgt := 373) dX24_readKey_391 rfl ?_
    refine r_mask (pc := 373) [true, false, false, false, true] rfl ?_
    exact K
theorem dX24_times_2_0 : decode cX24_times_2 0 = .ok (.iconst 0, 1) := by decide +kernel
theorem dX24_times_2_1 : decode cX24_times_2 1 = .ok (.istore 4, 2) := by decide +kernel
theorem dX24_times_2_3 : decode cX24_times_2 3 = .ok (.iload 4, 2) := by decide +kernel
theorem dX24_times_2_5 : decode cX24_times_2 5 = .ok (.bipush 8, 2) := by decide +kernel
theorem dX24_times_2_7 : decode cX24_times_2 7 = .ok (.if_icmp .ge 17, 3) := by decide +kernel
theorem dX24_times_2_10 : decode cX24_times_2 10 = .ok (.aload_n 3, 1) := by decide +kernel
theorem dX24_times_2_11 : decode cX24_times_2 11 = .ok (.getfield 90, 3) := by decide +kernel
theorem dX24_times_2_14 : decode cX24_times_2 14 = .ok (.iload 4, 2) := by decide +kernel
theorem dX24_times_2_16 : decode cX24_times_2 16 = .ok (.iconst 0, 1) := by decide +kernel
theorem dX24_times_2_17 : decode cX24_times_2 17 = .ok (.iastore, 1) := by decide +kernel
theorem dX24_times_2_18 : decode cX24_times_2 18 = .ok (.iinc 4 1, 3) := by decide +kernel
theorem dX24_times_2_21 : decode cX24_times_2 21 = .ok (.goto (-18), 3) := by decide +kernel
theorem dX24_times_2_24 : decode cX24_times_2 24 = .ok (.sipush 255, 3) := by decide +kernel
theorem dX24_times_2_27 : decode cX24_times_2 27 = .ok (.istore 4, 2) := by decide +kernel
theorem dX24_times_2_29 : decode cX24_times_2 29 = .ok (.iload 4, 2) := by decide +kernel
theorem dX24_times_2_31 : decode cX24_times_2 31 = .ok (.ifCond .lt 39, 3) := by decide +kernel
theorem dX24_times_2_34 : decode cX24_times_2 34 = .ok (.aload_n 0, 1) := by decide +kernel
theorem dX24_times_2_35 : decode cX24_times_2 35 = .ok (.aload_n 3, 1) := by decide +kernel
theorem dX24_times_2_36 : decode cX24_times_2 36 = .ok (.invokevirtual 140, 3) := by decide +kernel
theorem dX24_times_2_39 : decode cX24_times_2 39 = .ok (.aload_n 1, 1) := by decide +kernel
theorem dX24_times_2_40 : decode cX24_times_2 40 = .ok (.iload 4, 2) := by decide +kernel
theorem dX24_times_2_42 : decode cX24_times_2 42 = .ok (.bipush 32, 2) := by decide +kernel
theorem dX24_times_2_44 : decode cX24_times_2 44 = .ok (.idiv, 1) := by decide +kernel
theorem dX24_times_2_45 : decode cX24_times_2 45 = .ok (.iaload, 1) := by decide +kernel
theorem dX24_times_2_46 : decode cX24_times_2 46 = .ok (.iload 4, 2) := by decide +kernel
theorem dX24_times_2_48 : decode cX24_times_2 48 = .ok (.bipush 32, 2) := by decide +kernel
theorem dX24_times_2_50 : decode cX24_times_2 50 = .ok (.irem, 1) := by decide +kernel
theorem dX24_times_2_51 : decode cX24_times_2 51 = .ok (.ishr, 1) := by decide +kernel
theorem dX24_times_2_52 : decode cX24_times_2 52 = .ok (.iconst 1, 1) := by decide +kernel
theorem dX24_times_2_53 : decode cX24_times_2 53 = .ok (.iand, 1) := by decide +kernel
theorem dX24_times_2_54 : decode cX24_times_2 54 = .ok (.iconst 1, 1) := by decide +kernel
theorem dX24_times_2_55 : decode cX24_times_2 55 = .ok (.if_icmp .ne 9, 3) := by decide +kernel
theorem dX24_times_2_58 : decode cX24_times_2 58 = .ok (.aload_n 0, 1) := by decide +kernel
theorem dX24_times_2_59 : decode cX24_times_2 59 = .ok (.aload_n 3, 1) := by decide +kernel
theorem dX24_times_2_60 : decode cX24_times_2 60 = .ok (.aload_n 2, 1) := by decide +kernel
theorem dX24_times_2_61 : decode cX24_times_2 61 = .ok (.invokevirtual 143, 3) := by decide +kernel
theorem dX24_times_2_64 : decode cX24_times_2 64 = .ok (.iinc 4 (-1), 3) := by decide +kernel
theorem dX24_times_2_67 : decode cX24_times_2 67 = .ok (.goto (-38), 3) := by decide +kernel
theorem dX24_times_2_70 : decode cX24_times_2 70 = .ok (.return_, 1) := by decide +kernel
/-! CoinJudgeModel.times([ILCoinJudgeModel$Point;LCoinJudgeModel$Point;)V -/
set_option maxHeartbeats 4000000 in
theorem sX24_times_2_0 {G : Gx} {d t : Nat} {h0 : AH} {Φ : Out → AH → Prop} (h : AH) (v0 : Nat) (v1 : Nat) (v2 : Nat) (v3 : Nat) (K : Aw G mX24_times_2 (d + 1) t h0 Φ 3 [vR v0, vR v1, vR v2, vR v3, vI 0] [] h) : Aw G mX24_times_2 (d + 1) t h0 Φ 0 [vR v0, vR v1, vR v2, vR v3, vU] [] h := by
  refine r_iconst (pc := 0) (x := 0) dX24_times_2_0 rfl ?_
  refine r_istore (pc := 1) (lv' := [_, _, _, _, _]) dX24_times_2_1 (by decide) rfl ?_
  refine r_mask (pc := 3) [true, true, true, true, true] rfl ?_
  exact K
theorem eX24_times_2 {G : Gx} {d : Nat} {Φ : Out → AH → Prop} (h : AH) (v0 : Nat) (v1 : Nat) (v2 : Nat) (v3 : Nat) (K : WF G h → Aw G mX24_times_2 (d + 1) 0 h Φ 0 [vR v0, vR v1, vR v2, vR v3, vU] [] h) : Cw G mX24_times_2 (d + 1) 0 [vR v0, vR v1, vR v2, vR v3] h Φ := Cw.of rfl K
set_option maxHeartbeats 4000000 in
theorem sX24_times_2_3 {G : Gx} {d t : Nat} {h0 : AH} {Φ : Out → AH → Prop} (h : AH) (v0 : Nat) (v1 : Nat) (v2 : Nat) (v3 : Nat) (v4 : Int32) (K : ((8 ≤ v4 → Aw G mX24_times_2 (d + 1) t h0 Φ 29 [vR v0, vR v1, vR v2, vR v3, vI 255] [] h) ∧ (¬ 8 ≤ v4 → h.kd v3 = 25 ∧ ∀ r3 : Nat, r3 = (h.r 25002 v3) → h.kd r3 = 100 ∧ vp_in v4 (h.ai r3).length ∧ ∀ h6 : AH, h6 = h.wi r3 ((h.ai r3).set (v4.toNatClampNeg) 0) → Aw G mX24_times_2 (d + 1) t h0 Φ 3 [vR v0, vR v1, vR v2, vR v3, vI (v4 + 1)] [] h6))) : Aw G mX24_times_2 (d + 1) t h0 Φ 3 [vR v0, vR v1, vR v2, vR v3, vI v4] [] h := by
  refine r_iload (pc := 3) dX24_times_2_3 rfl ?_
  refine r_bipush (pc := 5) (x := 8) dX24_times_2_5 rfl ?_
  refine r_icmp_ge (pc := 7) (tgt := 24) dX24_times_2_7 rfl (fun c1 => ?_) (fun c1 => ?_)
  · have K := K.1 c1
    refine r_sipush (pc := 24) (x := 255) dX24_times_2_24 rfl ?_
    refine r_istore (pc := 27) (lv' := [_, _, _, _, _]) dX24_times_2_27 (by decide) rfl ?_
    refine r_mask (pc := 29) [true, true, true, true, true] rfl ?_
    exact K
  · have K := K.2 c1
    refine r_aload_n (pc := 10) dX24_times_2_10 rfl ?_
    obtain ⟨hk2, K⟩ := K
    have K := K _ rfl
    refine r_getr' (pc := 11) (T := TX25) 25 2 rfl hk2 (Or.inr (Or.inl ⟨_, q2126⟩)) dX24_times_2_11 kc25 g25002 ?_
    refine r_iload (pc := 14) dX24_times_2_14 rfl ?_
    refine r_iconst (pc := 16) (x := 0) dX24_times_2_16 rfl ?_
    obtain ⟨hk4, K⟩ := K
    obtain ⟨hi5, K⟩ := K
    refine r_iastore (pc := 17) hk4 hi5 (Or.inl (em rfl)) dX24_times_2_17 ?_
    refine r_nameH (fun h6 eh6 => ?_)
    have K := K h6 eh6
    refine r_iinc (pc := 18) (lv' := [_, _, _, _, _]) dX24_times_2_18 rfl rfl (by decide) rfl ?_
    refine r_goto (pc := 21) (tgt := 3) dX24_times_2_21 rfl ?_
    refine r_mask (pc := 3) [true, true, true, true, true] rfl ?_
    exact K
set_option maxHeartbeats 4000000 in
theorem sX24_times_2_29 {G : Gx} {d t : Nat} {h0 : AH} {Φ : Out → AH → Prop} (h : AH) (v0 : Nat) (v1 : Nat) (v2 : Nat) (v3 : Nat) (v4 : Int32) (K : ((v4 < 0 → Φ (.inl none) h) ∧ (¬ v4 < 0 → h.kd v0 = 24 ∧ Cw G mX24_doubled d 0 [vR v0, vR v3] h (kV (fun h3 => h3.kd v1 = 100 ∧ vp_in (v4 / 32) (h3.ai v1).length ∧ ((¬ ((jshr ((h3.ai v1).getD ((v4 / 32).toNatClampNeg) 0) (jrem v4 32)) &&& 1) = 1 → Aw G mX24_times_2 (d + 1) t h0 Φ 29 [vR v0, vR v1, vR v2, vR v3, vI (v4 + (-1))] [] h3) ∧ (((jshr ((h3.ai v1).getD ((v4 / 32).toNatClampNeg) 0) (jrem v4 32)) &&& 1) = 1 → Cw G mX24_plus d 0 [vR v0, vR v3, vR v2] h3 (kV (fun h9 => Aw G mX24_times_2 (d + 1) t h0 Φ 29 [vR v0, vR v1, vR v2, vR v3, vI (v4 + (-1))] [] h9) (fun x h => Φ (.inr x) h))))) (fun x h => Φ (.inr x) h))))) : Aw G mX24_times_2 (d + 1) t h0 Φ 29 [vR v0, vR v1, vR v2, vR v3, vI v4] [] h := by
  refine r_iload (pc := 29) dX24_times_2_29 rfl ?_
  refine r_if_lt (pc := 31) (tgt := 70) dX24_times_2_31 rfl (fun c1 => ?_) (fun c1 => ?_)
  · have K := K.1 c1
    exact r_vret (pc := 70) rfl dX24_times_2_70 K
  · have K := K.2 c1
    refine r_aload_n (pc := 34) dX24_times_2_34 rfl ?_
    refine r_aload_n (pc := 35) dX24_times_2_35 rfl ?_
    obtain ⟨hk4, K⟩ := K
    refine r_callV_V (pc := 36) (Y := mX24_doubled) (vs := [_]) (st := []) hk4 rfl kc24 q2643 q2645 qs122 dX24_times_2_36 rfl cd_X24_doubled rfl rfl fp_X24_times_2_X24_doubled K (fun h3 eh3 wh3 K => ?_) (fun x h1 _ _ e => Tw.out rfl e)
    refine r_aload_n (pc := 39) dX24_times_2_39 rfl ?_
    refine r_iload (pc := 40) dX24_times_2_40 rfl ?_
    refine r_bipush (pc := 42) (x := 32) dX24_times_2_42 rfl ?_
    refine r_idiv (pc := 44) (by decide) dX24_times_2_44 ?_
    obtain ⟨hk5, K⟩ := K
    obtain ⟨hi6, K⟩ := K
    refine r_iaload (pc := 45) hk5 hi6 dX24_times_2_45 ?_
    refine r_iload (pc := 46) dX24_times_2_46 rfl ?_
    refine r_bipush (pc := 48) (x := 32) dX24_times_2_48 rfl ?_
    refine r_jrem (pc := 50) (by decide) dX24_times_2_50 ?_
    refine r_jshr (pc := 51) dX24_times_2_51 ?_
    refine r_iconst (pc := 52) (x := 1) dX24_times_2_52 rfl ?_
    refine r_iand (pc := 53) dX24_times_2_53 ?_
    refine r_iconst (pc := 54) (x := 1) dX24_times_2_54 rfl ?_
    refine r_icmp_ne (pc := 55) (tgt := 64) dX24_times_2_55 rfl (fun c7 => ?_) (fun c7 => ?_)
    · have K := K.1 c7
      refine r_iinc (pc := 64) (lv' := [_, _, _, _, _]) dX24_times_2_64 rfl rfl (by decide) rfl ?_
      refine r_goto (pc := 67) (tgt := 29) dX24_times_2_67 rfl ?_
      refine r_mask (pc := 29) [true, true, true, true, true] rfl ?_
      exact K
    · have K := K.2 c7
      refine r_aload_n (pc := 58) dX24_times_2_58 rfl ?_
      refine r_aload_n (pc := 59) dX24_times_2_59 rfl ?_
      refine r_aload_n (pc := 60) dX24_times_2_60 rfl ?_
      have hk10 := kd_ext eh3 hk4 (nz rfl)
      refine r_callV_V (pc := 61) (Y := mX24_plus) (vs := [_, _]) (st := []) hk10 rfl kc24 q2647 q2649 qs123 dX24_times_2_61 rfl cd_X24_plus rfl rfl fp_X24_times_2_X24_plus K (fun h9 eh9 wh9 K => ?_) (fun x h1 _ _ e => Tw.out rfl e)
      refine r_iinc (pc := 64) (lv' := [_, _, _, _, _]) dX24_times_2_64 rfl rfl (by decide) rfl ?_
      refine r_goto (pc := 67) (tgt := 29) dX24_times_2_67 rfl ?_
      refine r_mask (pc := 29) [true, true, true, true, true] rfl ?_
      exact K
theorem dX24_isRight_0 : decode cX24_isRight 0 = .ok (.aload_n 1, 1) := by decide +kernel
theorem dX24_isRight_1 : decode cX24_isRight 1 = .ok (.iconst 3, 1) := by decide +kernel
theorem dX24_isRight_2 : decode cX24_isRight 2 = .ok (.baload, 1) := by decide +kernel
theorem dX24_isRight_3 : decode cX24_isRight 3 = .ok (.sipush 255, 3) := by decide +kernel
theorem dX24_isRight_6 : decode cX24_isRight 6 = .ok (.iand, 1) := by decide +kernel
theorem dX24_isRight_7 : decode cX24_isRight 7 = .ok (.istore 4, 2) := by decide +kernel
theorem dX24_isRight_9 : decode cX24_isRight 9 = .ok (.aload_n 1, 1) := by decide +kernel
theorem dX24_isRight_10 : decode cX24_isRight 10 = .ok (.iconst 5, 1) := by decide +kernel
theorem dX24_isRight_11 : decode cX24_isRight 11 = .ok (.iload 4, 2) := by decide +kernel
theorem dX24_isRight_13 : decode cX24_isRight 13 = .ok (.iadd, 1) := by decide +kernel
theorem dX24_isRight_14 : decode cX24_isRight 14 = .ok (.baload, 1) := by decide +kernel
theorem dX24_isRight_15 : decode cX24_isRight 15 = .ok (.sipush 255, 3) := by decide +kernel
theorem dX24_isRight_18 : decode cX24_isRight 18 = .ok (.iand, 1) := by decide +kernel
theorem dX24_isRight_19 : decode cX24_isRight 19 = .ok (.istore 5, 2) := by decide +kernel
theorem dX24_isRight_21 : decode cX24_isRight 21 = .ok (.aload_n 0, 1) := by decide +kernel
theorem dX24_isRight_22 : decode cX24_isRight 22 = .ok (.aload_n 2, 1) := by decide +kernel
theorem dX24_isRight_23 : decode cX24_isRight 23 = .ok (.iload_n 3, 1) := by decide +kernel
theorem dX24_isRight_24 : decode cX24_isRight 24 = .ok (.invokevirtual 199, 3) := by decide +kernel
theorem dX24_isRight_27 : decode cX24_isRight 27 = .ok (.ifCond .eq 37, 3) := by decide +kernel
theorem dX24_isRight_30 : decode cX24_isRight 30 = .ok (.aload_n 0, 1) := by decide +kernel
theorem dX24_isRight_31 : decode cX24_isRight 31 = .ok (.aload_n 1, 1) := by decide +kernel
theorem dX24_isRight_32 : decode cX24_isRight 32 = .ok (.iconst 4, 1) := by decide +kernel
theorem dX24_isRight_33 : decode cX24_isRight 33 = .ok (.iload 4, 2) := by decide +kernel
theorem dX24_isRight_35 : decode cX24_isRight 35 = .ok (.aload_n 0, 1) := by decide +kernel
theorem dX24_isRight_36 : decode cX24_isRight 36 = .ok (.getfield 203, 3) := by decide +kernel
theorem dX24_isRight_39 : decode cX24_isRight 39 = .ok (.invokevirtual 206, 3) := by decide +kernel
theorem dX24_isRight_42 : decode cX24_isRight 42 = .ok (.ifCond .eq 22, 3) := by decide +kernel
theorem dX24_isRight_45 : decode cX24_isRight 45 = .ok (.aload_n 0, 1) := by decide +kernel
theorem dX24_isRight_46 : decode cX24_isRight 46 = .ok (.aload_n 1, 1) := by decide +kernel
theorem dX24_isRight_47 : decode cX24_isRight 47 = .ok (.bipush 6, 2) := by decide +kernel
theorem dX24_isRight_49 : decode cX24_isRight 49 = .ok (.iload 4, 2) := by decide +kernel
theorem dX24_isRight_51 : decode cX24_isRight 51 = .ok (.iadd, 1) := by decide +kernel
theorem dX24_isRight_52 : decode cX24_isRight 52 = .ok (.iload 5, 2) := by decide +kernel
theorem dX24_isRight_54 : decode cX24_isRight 54 = .ok (.aload_n 0, 1) := by decide +kernel
theorem dX24_isRight_55 : decode cX24_isRight 55 = .ok (.getfield 210, 3) := by decide +kernel
theorem dX24_isRight_58 : decode cX24_isRight 58 = .ok (.invokevirtual 206, 3) := by decide +kernel
theorem dX24_isRight_61 : decode cX24_isRight 61 = .ok (.ifCond .ne 5, 3) := by decide +kernel
theorem dX24_isRight_64 : decode cX24_isRight 64 = .ok (.iconst 0, 1) := by decide +kernel
theorem dX24_isRight_65 : decode cX24_isRight 65 = .ok (.ireturn, 1) := by decide +kernel
theorem dX24_isRight_66 : decode cX24_isRight 66 = .ok (.aload_n 0, 1) := by decide +kernel
theorem dX24_isRight_67 : decode cX24_isRight 67 = .ok (.getfield 213, 3) := by decide +kernel
theorem dX24_isRight_70 : decode cX24_isRight 70 = .ok (.iconst 0, 1) := by decide +kernel
theorem dX24_isRight_71 : decode cX24_isRight 71 = .ok (.iconst 1, 1) := by decide +kernel
theorem dX24_isRight_72 : decode cX24_isRight 72 = .ok (.aload_n 0, 1) := by decide +kernel
theorem dX24_isRight_73 : decode cX24_isRight 73 = .ok (.getfield 216, 3) := by decide +kernel
theorem dX24_isRight_76 : decode cX24_isRight 76 = .ok (.invokestatic 158, 3) := by decide +kernel
theorem dX24_isRight_79 : decode cX24_isRight 79 = .ok (.aload_n 0, 1) := by decide +kernel
theorem dX24_isRight_80 : decode cX24_isRight 80 = .ok (.getfield 192, 3) := by decide +kernel
theorem dX24_isRight_83 : decode cX24_isRight 83 = .ok (.aload_n 0, 1) := by decide +kernel
theorem dX24_isRight_84 : decode cX24_isRight 84 = .ok (.getfield 210, 3) := by decide +kernel
theorem dX24_isRight_87 : decode cX24_isRight 87 = .ok (.aload_n 0, 1) := by decide +kernel
theorem dX24_isRight_88 : decode cX24_isRight 88 = .ok (.getfield 210, 3) := by decide +kernel
theorem dX24_isRight_91 : decode cX24_isRight 91 = .ok (.invokevirtual 173, 3) := by decide +kernel
theorem dX24_isRight_94 : decode cX24_isRight 94 = .ok (.aload_n 0, 1) := by decide +kernel
theorem dX24_isRight_95 : decode cX24_isRight 95 = .ok (.getfield 192, 3) := by decide +kernel
theorem dX24_isRight_98 : decode cX24_isRight 98 = .ok (.aload_n 0, 1) := by decide +kernel
theorem dX24_isRight_99 : decode cX24_isRight 99 = .ok (.getfield 210, 3) := by decide +kernel
theorem dX24_isRight_102 : decode cX24_isRight 102 = .ok (.bipush (-2), 2) := by decide +kernel
theorem dX24_isRight_104 : decode cX24_isRight 104 = .ok (.iconst 0, 1) := by decide +kernel
theorem dX24_isRight_105 : decode cX24_isRight 105 = .ok (.aload_n 0, 1) := by decide +kernel
theorem dX24_isRight_106 : decode cX24_isRight 106 = .ok (.getfield 210, 3) := by decide +kernel
theorem dX24_isRight_109 : decode cX24_isRight 109 = .ok (.invokevirtual 147, 3) := by decide +kernel
theorem dX24_isRight_112 : decode cX24_isRight 112 = .ok (.aload_n 0, 1) := by decide +kernel
theorem dX24_isRight_113 : decode cX24_isRight 113 = .ok (.getfield 192, 3) := by decide +kernel
theorem dX24_isRight_116 : decode cX24_isRight 116 = .ok (.aload_n 0, 1) := by decide +kernel
theorem dX24_isRight_117 : decode cX24_isRight 117 = .ok (.getfield 216, 3) := by decide +kernel
theorem dX24_isRight_120 : decode cX24_isRight 120 = .ok (.aload_n 0, 1) := by decide +kernel
theorem dX24_isRight_121 : decode cX24_isRight 121 = .ok (.getfield 219, 3) := by decide +kernel
theorem dX24_isRight_124 : decode cX24_isRight 124 = .ok (.invokevirtual 173, 3) := by decide +kernel
theorem dX24_isRight_127 : decode cX24_isRight 127 = .ok (.aload_n 0, 1) := by decide +kernel
theorem dX24_isRight_128 : decode cX24_isRight 128 = .ok (.getfield 192, 3) := by decide +kernel
theorem dX24_isRight_131 : decode cX24_isRight 131 = .ok (.aload_n 0, 1) := by decide +kernel
theorem dX24_isRight_132 : decode cX24_isRight 132 = .ok (.getfield 219, 3) := by decide +kernel
theorem dX24_isRight_135 : decode cX24_isRight 135 = .ok (.aload_n 0, 1) := by decide +kernel
theorem dX24_isRight_136 : decode cX24_isRight 136 = .ok (.getfield 210, 3) := by decide +kernel
theorem dX24_isRight_139 : decode cX24_isRight 139 = .ok (.aload_n 0, 1) := by decide +kernel
theorem dX24_isRight_140 : decode cX24_isRight 140 = .ok (.getfield 219, 3) := by decide +kernel
theorem dX24_isRight_143 : decode cX24_isRight 143 = .ok (.invokevirtual 111, 3) := by decide +kernel
theorem dX24_isRight_146 : decode cX24_isRight 146 = .ok (.aload_n 0, 1) := by decide +kernel
theorem dX24_isRight_147 : decode cX24_isRight 147 = .ok (.getfield 192, 3) := by decide +kernel
theorem dX24_isRight_150 : decode cX24_isRight 150 = .ok (.aload_n 0, 1) := by decide +kernel
theorem dX24_isRight_151 : decode cX24_isRight 151 = .ok (.getfield 219, 3) := by decide +kernel
theorem dX24_isRight_154 : decode cX24_isRight 154 = .ok (.aload_n 0, 1) := by decide +kernel
theorem dX24_isRight_155 : decode cX24_isRight 155 = .ok (.getfield 219, 3) := by decide +kernel
theorem dX24_isRight_158 : decode cX24_isRight 158 = .ok (.invokevirtual 151, 3) := by decide +kernel
theorem dX24_isRight_161 : decode cX24_isRight 161 = .ok (.aload_n 0, 1) := by decide +kernel
theorem dX24_isRight_162 : decode cX24_isRight 162 = .ok (.getfield 192, 3) := by decide +kernel
theorem dX24_isRight_165 : decode cX24_isRight 165 = .ok (.aload_n 0, 1) := by decide +kernel
theorem dX24_isRight_166 : decode cX24_isRight 166 = .ok (.getfield 203, 3) := by decide +kernel
theorem dX24_isRight_169 : decode cX24_isRight 169 = .ok (.aload_n 0, 1) := by decide +kernel
theorem dX24_isRight_170 : decode cX24_isRight 170 = .ok (.getfield 222, 3) := by decide +kernel
theorem dX24_isRight_173 : decode cX24_isRight 173 = .ok (.invokevirtual 173, 3) := by decide +kernel
theorem dX24_isRight_176 : decode cX24_isRight 176 = .ok (.aload_n 0, 1) := by decide +kernel
theorem dX24_isRight_177 : decode cX24_isRight 177 = .ok (.getfield 192, 3) := by decide +kernel
theorem dX24_isRight_180 : decode cX24_isRight 180 = .ok (.aload_n 0, 1) := by decide +kernel
theorem dX24_isRight_181 : decode cX24_isRight 181 = .ok (.getfield 222, 3) := by decide +kernel
theorem dX24_isRight_184 : decode cX24_isRight 184 = .ok (.aload_n 0, 1) := by decide +kernel
theorem dX24_isRight_185 : decode cX24_isRight 185 = .ok (.getfield 210, 3) := by decide +kernel
theorem dX24_isRight_188 : decode cX24_isRight 188 = .ok (.aload_n 0, 1) := by decide +kernel
theorem dX24_isRight_189 : decode cX24_isRight 189 = .ok (.getfield 222, 3) := by decide +kernel
theorem dX24_isRight_192 : decode cX24_isRight 192 = .ok (.invokevirtual 111, 3) := by decide +kernel
theorem dX24_isRight_195 : decode cX24_isRight 195 = .ok (.aload_n 0, 1) := by decide +kernel
theorem dX24_isRight_196 : decode cX24_isRight 196 = .ok (.getfield 192, 3) := by decide +kernel
theorem dX24_isRight_199 : decode cX24_isRight 199 = .ok (.aload_n 0, 1) := by decide +kernel
theorem dX24_isRight_200 : decode cX24_isRight 200 = .ok (.getfield 222, 3) := by decide +kernel
theorem dX24_isRight_203 : decode cX24_isRight 203 = .ok (.aload_n 0, 1) := by decide +kernel
theorem dX24_isRight_204 : decode cX24_isRight 204 = .ok (.getfield 222, 3) := by decide +kernel
theorem dX24_isRight_207 : decode cX24_isRight 207 = .ok (.invokevirtual 151, 3) := by decide +kernel
theorem dX24_isRight_210 : decode cX24_isRight 210 = .ok (.aload_n 0, 1) := by decide +kernel
theorem dX24_isRight_211 : decode cX24_isRight 211 = .ok (.aload_n 0, 1) := by decide +kernel
theorem dX24_isRight_212 : decode cX24_isRight 212 = .ok (.getfield 219, 3) := by decide +kernel
theorem dX24_isRight_215 : decode cX24_isRight 215 = .ok (.aload_n 0, 1) := by decide +kernel
theorem dX24_isRight_216 : decode cX24_isRight 216 = .ok (.getfield 225, 3) := by decide +kernel
theorem dX24_isRight_219 : decode cX24_isRight 219 = .ok (.aload_n 0, 1) := by decide +kernel
theorem dX24_isRight_220 : decode cX24_isRight 220 = .ok (.getfield 228, 3) := by decide +kernel
theorem dX24_isRight_223 : decode cX24_isRight 223 = .ok (.invokevirtual 231, 3) := by decide +kernel
theorem dX24_isRight_226 : decode cX24_isRight 226 = .ok (.aload_n 0, 1) := by decide +kernel
theorem dX24_isRight_227 : decode cX24_isRight 227 = .ok (.aload_n 0, 1) := by decide +kernel
theorem dX24_isRight_228 : decode cX24_isRight 228 = .ok (.getfield 222, 3) := by decide +kernel
theorem dX24_isRight_231 : decode cX24_isRight 231 = .ok (.aload_n 0, 1) := by decide +kernel
theorem dX24_isRight_232 : decode cX24_isRight 232 = .ok (.getfield 169, 3) := by decide +kernel
theorem dX24_isRight_235 : decode cX24_isRight 235 = .ok (.aload_n 0, 1) := by decide +kernel
theorem dX24_isRight_236 : decode cX24_isRight 236 = .ok (.getfield 234, 3) := by decide +kernel
theorem dX24_isRight_239 : decode cX24_isRight 239 = .ok (.invokevirtual 231, 3) := by decide +kernel
theorem dX24_isRight_242 : decode cX24_isRight 242 = .ok (.aload_n 0, 1) := by decide +kernel
theorem dX24_isRight_243 : decode cX24_isRight 243 = .ok (.aload_n 0, 1) := by decide +kernel
theorem dX24_isRight_244 : decode cX24_isRight 244 = .ok (.getfield 228, 3) := by decide +kernel
theorem dX24_isRight_247 : decode cX24_isRight 247 = .ok (.aload_n 0, 1) := by decide +kernel
theorem dX24_isRight_248 : decode cX24_isRight 248 = .ok (.getfield 234, 3) := by decide +kernel
theorem dX24_isRight_251 : decode cX24_isRight 251 = .ok (.invokevirtual 143, 3) := by decide +kernel
theorem dX24_isRight_254 : decode cX24_isRight 254 = .ok (.aload_n 0, 1) := by decide +kernel
theorem dX24_isRight_255 : decode cX24_isRight 255 = .ok (.getfield 228, 3) := by decide +kernel
theorem dX24_isRight_258 : decode cX24_isRight 258 = .ok (.getfield 90, 3) := by decide +kernel
theorem dX24_isRight_261 : decode cX24_isRight 261 = .ok (.invokestatic 95, 3) := by decide +kernel
theorem dX24_isRight_264 : decode cX24_isRight 264 = .ok (.ifCond .eq 5, 3) := by decide +kernel
theorem dX24_isRight_267 : decode cX24_isRight 267 = .ok (.iconst 0, 1) := by decide +kernel
theorem dX24_isRight_268 : decode cX24_isRight 268 = .ok (.ireturn, 1) := by decide +kernel
theorem dX24_isRight_269 : decode cX24_isRight 269 = .ok (.aload_n 0, 1) := by decide +kernel
theorem dX24_isRight_270 : decode cX24_isRight 270 = .ok (.aload_n 0, 1) := by decide +kernel
theorem dX24_isRight_271 : decode cX24_isRight 271 = .ok (.getfield 228, 3) := by decide +kernel
theorem dX24_isRight_274 : decode cX24_isRight 274 = .ok (.aload_n 0, 1) := by decide +kernel
theorem dX24_isRight_275 : decode cX24_isRight 275 = .ok (.getfield 155, 3) := by decide +kernel
theorem dX24_isRight_278 : decode cX24_isRight 278 = .ok (.aload_n 0, 1) := by decide +kernel
theorem dX24_isRight_279 : decode cX24_isRight 279 = .ok (.getfield 185, 3) := by decide +kernel
theorem dX24_isRight_282 : decode cX24_isRight 282 = .ok (.invokevirtual 237, 3) := by decide +kernel
theorem dX24_isRight_285 : decode cX24_isRight 285 = .ok (.aload_n 0, 1) := by decide +kernel
theorem dX24_isRight_286 : decode cX24_isRight 286 = .ok (.getfield 155, 3) := by decide +kernel
theorem dX24_isRight_289 : decode cX24_isRight 289 = .ok (.aload_n 0, 1) := by decide +kernel
theorem dX24_isRight_290 : decode cX24_isRight 290 = .ok (.getfield 192, 3) := by decide +kernel
theorem dX24_isRight_293 : decode cX24_isRight 293 = .ok (.getfield 162, 3) := by decide +kernel
theorem dX24_isRight_296 : decode cX24_isRight 296 = .ok (.invokestatic 165, 3) := by decide +kernel
theorem dX24_isRight_299 : decode cX24_isRight 299 = .ok (.ifCond .lt 22, 3) := by decide +kernel
theorem dX24_isRight_302 : decode cX24_isRight 302 = .ok (.aload_n 0, 1) := by decide +kernel
theorem dX24_isRight_303 : decode cX24_isRight 303 = .ok (.getfield 155, 3) := by decide +kernel
theorem dX24_isRight_306 : decode cX24_isRight 306 = .ok (.aload_n 0, 1) := by decide +kernel
theorem dX24_isRight_307 : decode cX24_isRight 307 = .ok (.getfield 192, 3) := by decide +kernel
theorem dX24_isRight_310 : decode cX24_isRight 310 = .ok (.getfield 162, 3) := by decide +kernel
theorem dX24_isRight_313 : decode cX24_isRight 313 = .ok (.aload_n 0, 1) := by decide +kernel
theorem dX24_isRight_314 : decode cX24_isRight 314 = .ok (.getfield 155, 3) := by decide +kernel
theorem dX24_isRight_317 : decode cX24_isRight 317 = .ok (.invokestatic 241, 3) := by decide +kernel
theorem dX24_isRight_320 : decode cX24_isRight 320 = .ok (.pop2, 1) := by decide +kernel
theorem dX24_isRight_321 : decode cX24_isRight 321 = .ok (.aload_n 0, 1) := by decide +kernel
theorem dX24_isRight_322 : decode cX24_isRight 322 = .ok (.getfield 155, 3) := by decide +kernel
theorem dX24_isRight_325 : decode cX24_isRight 325 = .ok (.aload_n 0, 1) := by decide +kernel
theorem dX24_isRight_326 : decode cX24_isRight 326 = .ok (.getfield 203, 3) := by decide +kernel
theorem dX24_isRight_329 : decode cX24_isRight 329 = .ok (.invokestatic 188, 3) := by decide +kernel
theorem dX24_isRight_332 : decode cX24_isRight 332 = .ok (.ireturn, 1) := by decide +kernel
/-! CoinJudgeModel.isRight([B[BI)Z -/
set_option maxHeartbeats 4000000 in
theorem sX24_isRight_0 {G : Gx} {d t : Nat} {h0 : AH} {Φ : Out → AH → Prop} (h : AH) (v0 : Nat) (v1 : Nat) (v2 : Nat) (v3 : Int32) (K : h.kd v1 = 101 ∧ vp_in 3 (h.ai v1).length ∧ ∀ u3 : Int32, u3 = (((h.ai v1).getD ((3 : Int32).toNatClampNeg) 0) &&& 255) → vp_in (5 + u3) (h.ai v1).length ∧ ∀ u5 : Int32, u5 = (((h.ai v1).getD ((5 + u3).toNatClampNeg) 0) &&& 255) → h.kd v0 = 24 ∧ Cw G mX24_readKey d 0 [vR v0, vR v2, vI v3] h (kI (fun x6 h7 => ((x6 = 0 → Φ (.inl (some (vI 0))) h7) ∧ (¬ x6 = 0 → ∀ r11 : Nat, r11 = (h7.r 24030 v0) → Cw G mX24_part d 0 [vR v0, vR v1, vI 4, vI u3, vR r11] h7 (kI (fun x12 h13 => ((x12 = 0 → Φ (.inl (some (vI 0))) h13) ∧ (¬ x12 = 0 → ∀ r16 : Nat, r16 = (h13.r 24031 v0) → Cw G mX24_part d 0 [vR v0, vR v1, vI (6 + u3), vI u5, vR r16] h13 (kI (fun x17 h18 => ((¬ x17 = 0 → ∀ r21 : Nat, r21 = (h18.r 24035 v0) → ∀ r22 : Nat, r22 = (h18.r 24032 v0) → Cw G mX24_fromBytes d 0 [vR r21, vI 0, vI 1, vR r22] h18 (kV (fun h24 => ∀ r26 : Nat, r26 = (h24.r 24016 v0) → h24.kd r26 = 27 ∧ Cw G mX27_enter d 0 [vR r26, vR r16, vR r16] h24 (kV (fun h31 => Cw G mX27_power d 0 [vR r26, vR r16, vI (-2), vI 0, vR r16] h31 (kV (fun h38 => ∀ r46 : Nat, r46 = (h38.r 24033 v0) → Cw G mX27_enter d 0 [vR r26, vR r22, vR r46] h38 (kV (fun h48 => Cw G mX27_multiply d 0 [vR r26, vR r46, vR r16, vR r46] h48 (kV (fun h57 => Cw G mX27_leave d 0 [vR r26, vR r46, vR r46] h57 (kV (fun h63 => ∀ r76 : Nat, r76 = (h63.r 24034 v0) → Cw G mX27_enter d 0 [vR r26, vR r11, vR r76] h63 (kV (fun h78 => Cw G mX27_multiply d 0 [vR r26, vR r76, vR r16, vR r76] h78 (kV (fun h88 => Cw G mX27_leave d 0 [vR r26, vR r76, vR r76] h88 (kV (fun h94 => ∀ r101 : Nat, r101 = (h94.r 24018 v0) → ∀ r102 : Nat, r102 = (h94.r 24020 v0) → Cw G mX24_times_2 d 0 [vR v0, vR r46, vR r101, vR r102] h94 (kV (fun h104 => ∀ r108 : Nat, r108 = (h104.r 24019 v0) → ∀ r109 : Nat, r109 = (h104.r 24021 v0) → Cw G mX24_times_2 d 0 [vR v0, vR r76, vR r108, vR r109] h104 (kV (fun h111 => Cw G mX24_plus d 0 [vR v0, vR r102, vR r109] h111 (kV (fun h119 => h119.kd r102 = 25 ∧ ∀ r123 : Nat, r123 = (h119.r 25002 r102) → Cw G mX27_isZero d 0 [vR r123] h119 (kI (fun x124 h125 => ((x124 = 0 → ∀ r129 : Nat, r129 = (h125.r 24028 v0) → ∀ r130 : Nat, r130 = (h125.r 24029 v0) → Cw G mX24_flat d 0 [vR v0, vR r102, vR r129, vR r130] h125 (kV (fun h132 => ∀ r148 : Nat, r148 = (h132.r 27000 r26) → Cw G mX27_compare d 0 [vR r129, vR r148] h132 (kI (fun x149 h150 => ((x149 < 0 → Cw G mX27_same d 0 [vR r129, vR r11] h150 (kI (fun x163 h164 => (x163 = 0 ∨ x163 = 1) ∧ Φ (.inl (some (vI x163))) h164) (fun x h => Φ (.inr x) h))) ∧ (¬ x149 < 0 → Cw G mX27_less d 0 [vR r129, vR r148, vR r129] h150 (kJ (fun x172 h173 => Cw G mX27_same d 0 [vR r129, vR r11] h173 (kI (fun x186 h187 => (x186 = 0 ∨ x186 = 1) ∧ Φ (.inl (some (vI x186))) h187) (fun x h => Φ (.inr x) h))) (fun x h => Φ (.inr x) h))))) (fun x h => Φ (.inr x) h))) (fun x h => Φ (.inr x) h))) ∧ (¬ x124 = 0 → Φ (.inl (some (vI 0))) h125))) (fun x h => Φ (.inr x) h))) (fun x h => Φ (.inr x) h))) (fun x h => Φ (.inr x) h))) (fun x h => Φ (.inr x) h))) (fun x h => Φ (.inr x) h))) (fun x h => Φ (.inr x) h))) (fun x h => Φ (.inr x) h))) (fun x h => Φ (.inr x) h))) (fun x h => Φ (.inr x) h))) (fun x h => Φ (.inr x) h))) (fun x h => Φ (.inr x) h))) (fun x h => Φ (.inr x) h))) (fun x h => Φ (.inr x) h))) ∧ (x17 = 0 → Φ (.inl (some (vI 0))) h18))) (fun x h => Φ (.inr x) h))))) (fun x h => Φ (.inr x) h))))) (fun x h => Φ (.inr x) h))) : Aw G mX24_isRight (d + 1) t h0 Φ 0 [vR v0, vR v1, vR v2, vI v3, vU, vU] [] h := by
  refine r_aload_n (pc := 0) dX24_isRight_0 rfl ?_
  refine r_iconst (pc := 1) (x := 3) dX24_isRight_1 rfl ?_
  obtain ⟨hk1, K⟩ := K
  obtain ⟨hi2, K⟩ := K
  refine r_baload (pc := 2) hk1 hi2 dX24_isRight_2 ?_
  refine r_sipush (pc := 3) (x := 255) dX24_isRight_3 rfl ?_
  refine r_iand (pc := 6) dX24_isRight_6 ?_
  have K := K _ rfl
  refine r_istore (pc := 7) (lv' := [_, _, _, _, _, _]) dX24_isRight_7 (by decide) rfl ?_
  refine r_aload_n (pc := 9) dX24_isRight_9 rfl ?_
  refine r_iconst (pc := 10) (x := 5) dX24_isRight_10 rfl ?_
  refine r_iload (pc := 11) dX24_isRight_11 rfl ?_
  refine r_iadd (pc := 13) dX24_isRight_13 ?_
  obtain ⟨hi4, K⟩ := K
  refine r_baload (pc := 14) hk1 hi4 dX24_isRight_14 ?_
  refine r_sipush (pc := 15) (x := 255) dX24_isRight_15 rfl ?_
  refine r_iand (pc := 18) dX24_isRight_18 ?_
  have K := K _ rfl
  refine r_istore (pc := 19) (lv' := [_, _, _, _, _, _]) dX24_isRight_19 (by decide) rfl ?_
  refine r_aload_n (pc := 21) dX24_isRight_21 rfl ?_
  refine r_aload_n (pc := 22) dX24_isRight_22 rfl ?_
  refine r_iload_n (pc := 23) dX24_isRight_23 rfl ?_
  obtain ⟨hk8, K⟩ := K
  refine r_callV_I (pc := 24) (Y := mX24_readKey) (vs := [_, _]) (st := []) hk8 rfl kc24 q2611 q2613 qs119 dX24_isRight_24 rfl cd_X24_readKey rfl rfl fp_X24_isRight_X24_readKey K (fun x6 h7 eh7 wh7 K => ?_) (fun x h1 _ _ e => Tw.out rfl e)
  refine r_if_eq (pc := 27) (tgt := 64) dX24_isRight_27 rfl (fun c9 => ?_) (fun c9 => ?_)
  · have K := K.1 c9
    refine r_iconst (pc := 64) (x := 0) dX24_isRight_64 rfl ?_
    exact r_iret (pc := 65) rfl rfl dX24_isRight_65 K
  · have K := K.2 c9
    refine r_aload_n (pc := 30) dX24_isRight_30 rfl ?_
    refine r_aload_n (pc := 31) dX24_isRight_31 rfl ?_
    refine r_iconst (pc := 32) (x := 4) dX24_isRight_32 rfl ?_
    refine r_iload (pc := 33) dX24_isRight_33 rfl ?_
    refine r_aload_n (pc := 35) dX24_isRight_35 rfl ?_
    have hk10 := kd_ext eh7 hk8 (nz rfl)
    have K := K _ rfl
    refine r_getr' (pc := 36) (T := TX24) 24 30 rfl hk10 (Or.inl q2728) dX24_isRight_36 kc24 g24030 ?_
    refine r_callV_I (pc := 39) (Y := mX24_part) (vs := [_, _, _, _]) (st := []) hk10 rfl kc24 q2632 q2634 qs120 dX24_isRight_39 rfl cd_X24_part rfl rfl fp_X24_isRight_X24_part K (fun x12 h13 eh13 wh13 K => ?_) (fun x h1 _ _ e => Tw.out rfl e)
    refine r_if_eq (pc := 42) (tgt := 64) dX24_isRight_42 rfl (fun c14 => ?_) (fun c14 => ?_)
    · have K := K.1 c14
      refine r_iconst (pc := 64) (x := 0) dX24_isRight_64 rfl ?_
      exact r_iret (pc := 65) rfl rfl dX24_isRight_65 K
    · have K := K.2 c14
      refine r_aload_n (pc := 45) dX24_isRight_45 rfl ?_
      refine r_aload_n (pc := 46) dX24_isRight_46 rfl ?_
      refine r_bipush (pc := 47) (x := 6) dX24_isRight_47 rfl ?_
      refine r_iload (pc := 49) dX24_isRight_49 rfl ?_
      refine r_iadd (pc := 51) dX24_isRight_51 ?_
      refine r_iload (pc := 52) dX24_isRight_52 rfl ?_
      refine r_aload_n (pc := 54) dX24_isRight_54 rfl ?_
      have hk15 := kd_ext eh13 hk10 (nz rfl)
      have K := K _ rfl
      refine r_getr' (pc := 55) (T := TX24) 24 31 rfl hk15 (Or.inl q2729) dX24_isRight_55 kc24 g24031 ?_
      refine r_callV_I (pc := 58) (Y := mX24_part) (vs := [_, _, _, _]) (st := []) hk15 rfl kc24 q2632 q2634 qs120 dX24_isRight_58 rfl cd_X24_part rfl rfl fp_X24_isRight_X24_part K (fun x17 h18 eh18 wh18 K => ?_) (fun x h1 _ _ e => Tw.out rfl e)
      refine r_if_ne (pc := 61) (tgt := 66) dX24_isRight_61 rfl (fun c19 => ?_) (fun c19 => ?_)
      · have K := K.1 c19
        refine r_aload_n (pc := 66) dX24_isRight_66 rfl ?_
        have hk20 := kd_ext eh18 hk15 (nz rfl)
        have K := K _ rfl
        refine r_getr' (pc := 67) (T := TX24) 24 35 rfl hk20 (Or.inl q2733) dX24_isRight_67 kc24 g24035 ?_
        refine r_iconst (pc := 70) (x := 0) dX24_isRight_70 rfl ?_
        refine r_iconst (pc := 71) (x := 1) dX24_isRight_71 rfl ?_
        refine r_aload_n (pc := 72) dX24_isRight_72 rfl ?_
        have K := K _ rfl
        refine r_getr' (pc := 73) (T := TX24) 24 32 rfl hk20 (Or.inl q2730) dX24_isRight_73 kc24 g24032 ?_
        refine r_callS_V (pc := 76) (Y := mX24_fromBytes) (vs := [_, _, _, _]) (st := []) q2373 q2374 q192 dX24_isRight_76 rfl cd_X24_fromBytes rfl rfl fp_X24_isRight_X24_fromBytes K (fun h24 eh24 wh24 K => ?_) (fun x h1 _ _ e => Tw.out rfl e)
        refine r_aload_n (pc := 79) dX24_isRight_79 rfl ?_
        have hk25 := kd_ext eh24 hk20 (nz rfl)
        have K := K _ rfl
        refine r_getr' (pc := 80) (T := TX24) 24 16 rfl hk25 (Or.inl q2714) dX24_isRight_80 kc24 g24016 ?_
        refine r_aload_n (pc := 83) dX24_isRight_83 rfl ?_
        have hv27 := fr_self (key := 24031) hk15
        have hv28 := (fr_ext (key := 24031) eh18 hk15 (nz rfl) (ne0 wh18 hk20 (nz rfl)) (nm rfl)).trans hv27
        have hv29 := (fr_ext (key := 24031) eh24 hk20 (nz rfl) (ne0 wh24 hk25 (nz rfl)) (nm rfl)).trans hv28
        refine r_getr' (pc := 84) (T := TX24) 24 31 hv29 hk25 (Or.inl q2729) dX24_isRight_84 kc24 g24031 ?_
        refine r_aload_n (pc := 87) dX24_isRight_87 rfl ?_
        refine r_getr' (pc := 88) (T := TX24) 24 31 hv29 hk25 (Or.inl q2729) dX24_isRight_88 kc24 g24031 ?_
        obtain ⟨hk32, K⟩ := K
        refine r_callV_V (pc := 91) (Y := mX27_enter) (vs := [_, _]) (st := []) hk32 rfl kc27 q2247 q2248 q2249 dX24_isRight_91 rfl cd_X27_enter rfl rfl fp_X24_isRight_X27_enter K (fun h31 eh31 wh31 K => ?_) (fun x h1 _ _ e => Tw.out rfl e)
        refine r_aload_n (pc := 94) dX24_isRight_94 rfl ?_
        have hk33 := kd_ext eh31 hk25 (nz rfl)
        have hv34 := fr_self (key := 24016) hk25
        have hv35 := (fr_ext (key := 24016) eh31 hk25 (nz rfl) (ne0 wh31 hk33 (nz rfl)) (nm rfl)).trans hv34
        refine r_getr' (pc := 95) (T := TX24) 24 16 hv35 hk33 (Or.inl q2714) dX24_isRight_95 kc24 g24016 ?_
        refine r_aload_n (pc := 98) dX24_isRight_98 rfl ?_
        have hv36 := (fr_ext (key := 24031) eh31 hk25 (nz rfl) (ne0 wh31 hk33 (nz rfl)) (nm rfl)).trans hv29
        refine r_getr' (pc := 99) (T := TX24) 24 31 hv36 hk33 (Or.inl q2729) dX24_isRight_99 kc24 g24031 ?_
        refine r_bipush (pc := 102) (x := (-2)) dX24_isRight_102 rfl ?_
        refine r_iconst (pc := 104) (x := 0) dX24_isRight_104 rfl ?_
        refine r_aload_n (pc := 105) dX24_isRight_105 rfl ?_
        refine r_getr' (pc := 106) (T := TX24) 24 31 hv36 hk33 (Or.inl q2729) dX24_isRight_106 kc24 g24031 ?_
        have hk39 := kd_ext eh31 hk32 (nz rfl)
        refine r_callV_V (pc := 109) (Y := mX27_power) (vs := [_, _, _, _]) (st := []) hk39 rfl kc27 q2620 q2621 q2622 dX24_isRight_109 rfl cd_X27_power rfl rfl fp_X24_isRight_X27_power K (fun h38 eh38 wh38 K => ?_) (fun x h1 _ _ e => Tw.out rfl e)
        refine r_aload_n (pc := 112) dX24_isRight_112 rfl ?_
        have hk40 := kd_ext eh38 hk33 (nz rfl)
        have hv41 := (fr_ext (key := 24016) eh38 hk33 (nz rfl) (ne0 wh38 hk40 (nz rfl)) (nm rfl)).trans hv35
        refine r_getr' (pc := 113) (T := TX24) 24 16 hv41 hk40 (Or.inl q2714) dX24_isRight_113 kc24 g24016 ?_
        refine r_aload_n (pc := 116) dX24_isRight_116 rfl ?_
        have hv42 := fr_self (key := 24032) hk20
        have hv43 := (fr_ext (key := 24032) eh24 hk20 (nz rfl) (ne0 wh24 hk25 (nz rfl)) (nm rfl)).trans hv42
        have hv44 := (fr_ext (key := 24032) eh31 hk25 (nz rfl) (ne0 wh31 hk33 (nz rfl)) (nm rfl)).trans hv43
        have hv45 := (fr_ext (key := 24032) eh38 hk33 (nz rfl) (ne0 wh38 hk40 (nz rfl)) (nm rfl)).trans hv44
        refine r_getr' (pc := 117) (T := TX24) 24 32 hv45 hk40 (Or.inl q2730) dX24_isRight_117 kc24 g24032 ?_
        refine r_aload_n (pc := 120) dX24_isRight_120 rfl ?_
        have K := K _ rfl
        refine r_getr' (pc := 121) (T := TX24) 24 33 rfl hk40 (Or.inl q2731) dX24_isRight_121 kc24 g24033 ?_
        have hk49 := kd_ext eh38 hk39 (nz rfl)
        refine r_callV_V (pc := 124) (Y := mX27_enter) (vs := [_, _]) (st := []) hk49 rfl kc27 q2247 q2248 q2249 dX24_isRight_124 rfl cd_X27_enter rfl rfl fp_X24_isRight_X27_enter K (fun h48 eh48 wh48 K => ?_) (fun x h1 _ _ e => Tw.out rfl e)
        refine r_aload_n (pc := 127) dX24_isRight_127 rfl ?_
        have hk50 := kd_ext eh48 hk40 (nz rfl)
        have hv51 := (fr_ext (key := 24016) eh48 hk40 (nz rfl) (ne0 wh48 hk50 (nz rfl)) (nm rfl)).trans hv41
        refine r_getr' (pc := 128) (T := TX24) 24 16 hv51 hk50 (Or.inl q2714) dX24_isRight_128 kc24 g24016 ?_
        refine r_aload_n (pc := 131) dX24_isRight_131 rfl ?_
        have hv52 := fr_self (key := 24033) hk40
        have hv53 := (fr_ext (key := 24033) eh48 hk40 (nz rfl) (ne0 wh48 hk50 (nz rfl)) (nm rfl)).trans hv52
        refine r_getr' (pc := 132) (T := TX24) 24 33 hv53 hk50 (Or.inl q2731) dX24_isRight_132 kc24 g24033 ?_
        refine r_aload_n (pc := 135) dX24_isRight_135 rfl ?_
        have hv54 := (fr_ext (key := 24031) eh38 hk33 (nz rfl) (ne0 wh38 hk40 (nz rfl)) (nm rfl)).trans hv36
        have hv55 := (fr_ext (key := 24031) eh48 hk40 (nz rfl) (ne0 wh48 hk50 (nz rfl)) (nm rfl)).trans hv54
        refine r_getr' (pc := 136) (T := TX24) 24 31 hv55 hk50 (Or.inl q2729) dX24_isRight_136 kc24 g24031 ?_
        refine r_aload_n (pc := 139) dX24_isRight_139 rfl ?_
        refine r_getr' (pc := 140) (T := TX24) 24 33 hv53 hk50 (Or.inl q2731) dX24_isRight_140 kc24 g24033 ?_
        have hk58 := kd_ext eh48 hk49 (nz rfl)
        refine r_callV_V (pc := 143) (Y := mX27_multiply) (vs := [_, _, _]) (st := []) hk58 rfl kc27 q2615 q2252 q2253 dX24_isRight_143 rfl cd_X27_multiply rfl rfl fp_X24_isRight_X27_multiply K (fun h57 eh57 wh57 K => ?_) (fun x h1 _ _ e => Tw.out rfl e)
        refine r_aload_n (pc := 146) dX24_isRight_146 rfl ?_
        have hk59 := kd_ext eh57 hk50 (nz rfl)
        have hv60 := (fr_ext (key := 24016) eh57 hk50 (nz rfl) (ne0 wh57 hk59 (nz rfl)) (nm rfl)).trans hv51
        refine r_getr' (pc := 147) (T := TX24) 24 16 hv60 hk59 (Or.inl q2714) dX24_isRight_147 kc24 g24016 ?_
        refine r_aload_n (pc := 150) dX24_isRight_150 rfl ?_
        have hv61 := (fr_ext (key := 24033) eh57 hk50 (nz rfl) (ne0 wh57 hk59 (nz rfl)) (nm rfl)).trans hv53
        refine r_getr' (pc := 151) (T := TX24) 24 33 hv61 hk59 (Or.inl q2731) dX24_isRight_151 kc24 g24033 ?_
        refine r_aload_n (pc := 154) dX24_isRight_154 rfl ?_
        refine r_getr' (pc := 155) (T := TX24) 24 33 hv61 hk59 (Or.inl q2731) dX24_isRight_155 kc24 g24033 ?_
        have hk64 := kd_ext eh57 hk58 (nz rfl)
        refine r_callV_V (pc := 158) (Y := mX27_leave) (vs := [_, _]) (st := []) hk64 rfl kc27 q2624 q2625 q2626 dX24_isRight_158 rfl cd_X27_leave rfl rfl fp_X24_isRight_X27_leave K (fun h63 eh63 wh63 K => ?_) (fun x h1 _ _ e => Tw.out rfl e)
        refine r_aload_n (pc := 161) dX24_isRight_161 rfl ?_
        have hk65 := kd_ext eh63 hk59 (nz rfl)
        have hv66 := (fr_ext (key := 24016) eh63 hk59 (nz rfl) (ne0 wh63 hk65 (nz rfl)) (nm rfl)).trans hv60
        refine r_getr' (pc := 162) (T := TX24) 24 16 hv66 hk65 (Or.inl q2714) dX24_isRight_162 kc24 g24016 ?_
        refine r_aload_n (pc := 165) dX24_isRight_165 rfl ?_
        have hv67 := fr_self (key := 24030) hk10
        have hv68 := (fr_ext (key := 24030) eh13 hk10 (nz rfl) (ne0 wh13 hk15 (nz rfl)) (nm rfl)).trans hv67
        have hv69 := (fr_ext (key := 24030) eh18 hk15 (nz rfl) (ne0 wh18 hk20 (nz rfl)) (nm rfl)).trans hv68
        have hv70 := (fr_ext (key := 24030) eh24 hk20 (nz rfl) (ne0 wh24 hk25 (nz rfl)) (nm rfl)).trans hv69
        have hv71 := (fr_ext (key := 24030) eh31 hk25 (nz rfl) (ne0 wh31 hk33 (nz rfl)) (nm rfl)).trans hv70
        have hv72 := (fr_ext (key := 24030) eh38 hk33 (nz rfl) (ne0 wh38 hk40 (nz rfl)) (nm rfl)).trans hv71
        have hv73 := (fr_ext (key := 24030) eh48 hk40 (nz rfl) (ne0 wh48 hk50 (nz rfl)) (nm rfl)).trans hv72
        have hv74 := (fr_ext (key := 24030) eh57 hk50 (nz rfl) (ne0 wh57 hk59 (nz rfl)) (nm rfl)).trans hv73
        have hv75 := (fr_ext (key := 24030) eh63 hk59 (nz rfl) (ne0 wh63 hk65 (nz rfl)) (nm rfl)).trans hv74
        refine r_getr' (pc := 166) (T := TX24) 24 30 hv75 hk65 (Or.inl q2728) dX24_isRight_166 kc24 g24030 ?_
        refine r_aload_n (pc := 169) dX24_isRight_169 rfl ?_
        have K := K _ rfl
        refine r_getr' (pc := 170) (T := TX24) 24 34 rfl hk65 (Or.inl q2732) dX24_isRight_170 kc24 g24034 ?_
        have hk79 := kd_ext eh63 hk64 (nz rfl)
        refine r_callV_V (pc := 173) (Y := mX27_enter) (vs := [_, _]) (st := []) hk79 rfl kc27 q2247 q2248 q2249 dX24_isRight_173 rfl cd_X27_enter rfl rfl fp_X24_isRight_X27_enter K (fun h78 eh78 wh78 K => ?_) (fun x h1 _ _ e => Tw.out rfl e)
        refine r_aload_n (pc := 176) dX24_isRight_176 rfl ?_
        have hk80 := kd_ext eh78 hk65 (nz rfl)
        have hv81 := (fr_ext (key := 24016) eh78 hk65 (nz rfl) (ne0 wh78 hk80 (nz rfl)) (nm rfl)).trans hv66
        refine r_getr' (pc := 177) (T := TX24) 24 16 hv81 hk80 (Or.inl q2714) dX24_isRight_177 kc24 g24016 ?_
        refine r_aload_n (pc := 180) dX24_isRight_180 rfl ?_
        have hv82 := fr_self (key := 24034) hk65
        have hv83 := (fr_ext (key := 24034) eh78 hk65 (nz rfl) (ne0 wh78 hk80 (nz rfl)) (nm rfl)).trans hv82
        refine r_getr' (pc := 181) (T := TX24) 24 34 hv83 hk80 (Or.inl q2732) dX24_isRight_181 kc24 g24034 ?_
        refine r_aload_n (pc := 184) dX24_isRight_184 rfl ?_
        have hv84 := (fr_ext (key := 24031) eh57 hk50 (nz rfl) (ne0 wh57 hk59 (nz rfl)) (nm rfl)).trans hv55
        have hv85 := (fr_ext (key := 24031) eh63 hk59 (nz rfl) (ne0 wh63 hk65 (nz rfl)) (nm rfl)).trans hv84
        have hv86 := (fr_ext (key := 24031) eh78 hk65 (nz rfl) (ne0 wh78 hk80 (nz rfl)) (nm rfl)).trans hv85
        refine r_getr' (pc := 185) (T := TX24) 24 31 hv86 hk80 (Or.inl q2729) dX24_isRight_185 kc24 g24031 ?_
        refine r_aload_n (pc := 188) dX24_isRight_188 rfl ?_
        refine r_getr' (pc := 189) (T := TX24) 24 34 hv83 hk80 (Or.inl q2732) dX24_isRight_189 kc24 g24034 ?_
        have hk89 := kd_ext eh78 hk79 (nz rfl)
        refine r_callV_V (pc := 192) (Y := mX27_multiply) (vs := [_, _, _]) (st := []) hk89 rfl kc27 q2615 q2252 q2253 dX24_isRight_192 rfl cd_X27_multiply rfl rfl fp_X24_isRight_X27_multiply K (fun h88 eh88 wh88 K => ?_) (fun x h1 _ _ e => Tw.out rfl e)
        refine r_aload_n (pc := 195) dX24_isRight_195 rfl ?_
        have hk90 := kd_ext eh88 hk80 (nz rfl)
        have hv91 := (fr_ext (key := 24016) eh88 hk80 (nz rfl) (ne0 wh88 hk90 (nz rfl)) (nm rfl)).trans hv81
        refine r_getr' (pc := 196) (T := TX24) 24 16 hv91 hk90 (Or.inl q2714) dX24_isRight_196 kc24 g24016 ?_
        refine r_aload_n (pc := 199) dX24_isRight_199 rfl ?_
        have hv92 := (fr_ext (key := 24034) eh88 hk80 (nz rfl) (ne0 wh88 hk90 (nz rfl)) (nm rfl)).trans hv83
        refine r_getr' (pc := 200) (T := TX24) 24 34 hv92 hk90 (Or.inl q2732) dX24_isRight_200 kc24 g24034 ?_
        refine r_aload_n (pc := 203) dX24_isRight_203 rfl ?_
        refine r_getr' (pc := 204) (T := TX24) 24 34 hv92 hk90 (Or.inl q2732) dX24_isRight_204 kc24 g24034 ?_
        have hk95 := kd_ext eh88 hk89 (nz rfl)
        refine r_callV_V (pc := 207) (Y := mX27_leave) (vs := [_, _]) (st := []) hk95 rfl kc27 q2624 q2625 q2626 dX24_isRight_207 rfl cd_X27_leave rfl rfl fp_X24_isRight_X27_leave K (fun h94 eh94 wh94 K => ?_) (fun x h1 _ _ e => Tw.out rfl e)
        refine r_aload_n (pc := 210) dX24_isRight_210 rfl ?_
        refine r_aload_n (pc := 211) dX24_isRight_211 rfl ?_
        have hk96 := kd_ext eh94 hk90 (nz rfl)
        have hv97 := (fr_ext (key := 24033) eh63 hk59 (nz rfl) (ne0 wh63 hk65 (nz rfl)) (nm rfl)).trans hv61
        have hv98 := (fr_ext (key := 24033) eh78 hk65 (nz rfl) (ne0 wh78 hk80 (nz rfl)) (nm rfl)).trans hv97
        have hv99 := (fr_ext (key := 24033) eh88 hk80 (nz rfl) (ne0 wh88 hk90 (nz rfl)) (nm rfl)).trans hv98
        have hv100 := (fr_ext (key := 24033) eh94 hk90 (nz rfl) (ne0 wh94 hk96 (nz rfl)) (nm rfl)).trans hv99
        refine r_getr' (pc := 212) (T := TX24) 24 33 hv100 hk96 (Or.inl q2731) dX24_isRight_212 kc24 g24033 ?_
        refine r_aload_n (pc := 215) dX24_isRight_215 rfl ?_
        have K := K _ rfl
        refine r_getr' (pc := 216) (T := TX24) 24 18 rfl hk96 (Or.inl q2716) dX24_isRight_216 kc24 g24018 ?_
        refine r_aload_n (pc := 219) dX24_isRight_219 rfl ?_
        have K := K _ rfl
        refine r_getr' (pc := 220) (T := TX24) 24 20 rfl hk96 (Or.inl q2718) dX24_isRight_220 kc24 g24020 ?_
        refine r_callV_V (pc := 223) (Y := mX24_times_2) (vs := [_, _, _]) (st := []) hk96 rfl kc24 q2639 q2641 qs121 dX24_isRight_223 rfl cd_X24_times_2 rfl rfl fp_X24_isRight_X24_times_2 K (fun h104 eh104 wh104 K => ?_) (fun x h1 _ _ e => Tw.out rfl e)
        refine r_aload_n (pc := 226) dX24_isRight_226 rfl ?_
        refine r_aload_n (pc := 227) dX24_isRight_227 rfl ?_
        have hk105 := kd_ext eh104 hk96 (nz rfl)
        have hv106 := (fr_ext (key := 24034) eh94 hk90 (nz rfl) (ne0 wh94 hk96 (nz rfl)) (nm rfl)).trans hv92
        have hv107 := (fr_ext (key := 24034) eh104 hk96 (nz rfl) (ne0 wh104 hk105 (nz rfl)) (nm rfl)).trans hv106
        refine r_getr' (pc := 228) (T := TX24) 24 34 hv107 hk105 (Or.inl q2732) dX24_isRight_228 kc24 g24034 ?_
        refine r_aload_n (pc := 231) dX24_isRight_231 rfl ?_
        have K := K _ rfl
        refine r_getr' (pc := 232) (T := TX24) 24 19 rfl hk105 (Or.inl q2717) dX24_isRight_232 kc24 g24019 ?_
        refine r_aload_n (pc := 235) dX24_isRight_235 rfl ?_
        have K := K _ rfl
        refine r_getr' (pc := 236) (T := TX24) 24 21 rfl hk105 (Or.inl q2719) dX24_isRight_236 kc24 g24021 ?_
        refine r_callV_V (pc := 239) (Y := mX24_times_2) (vs := [_, _, _]) (st := []) hk105 rfl kc24 q2639 q2641 qs121 dX24_isRight_239 rfl cd_X24_times_2 rfl rfl fp_X24_isRight_X24_times_2 K (fun h111 eh111 wh111 K => ?_) (fun x h1 _ _ e => Tw.out rfl e)
        refine r_aload_n (pc := 242) dX24_isRight_242 rfl ?_
        refine r_aload_n (pc := 243) dX24_isRight_243 rfl ?_
        have hk112 := kd_ext eh111 hk105 (nz rfl)
        have hv113 := fr_self (key := 24020) hk96
        have hv114 := (fr_ext (key := 24020) eh104 hk96 (nz rfl) (ne0 wh104 hk105 (nz rfl)) (nm rfl)).trans hv113
        have hv115 := (fr_ext (key := 24020) eh111 hk105 (nz rfl) (ne0 wh111 hk112 (nz rfl)) (nm rfl)).trans hv114
        refine r_getr' (pc := 244) (T := TX24) 24 20 hv115 hk112 (Or.inl q2718) dX24_isRight_244 kc24 g24020 ?_
        refine r_aload_n (pc := 247) dX24_isRight_247 rfl ?_
        have hv116 := fr_self (key := 24021) hk105
        have hv117 := (fr_ext (key := 24021) eh111 hk105 (nz rfl) (ne0 wh111 hk112 (nz rfl)) (nm rfl)).trans hv116
        refine r_getr' (pc := 248) (T := TX24) 24 21 hv117 hk112 (Or.inl q2719) dX24_isRight_248 kc24 g24021 ?_
        refine r_callV_V (pc := 251) (Y := mX24_plus) (vs := [_, _]) (st := []) hk112 rfl kc24 q2647 q2649 qs123 dX24_isRight_251 rfl cd_X24_plus rfl rfl fp_X24_isRight_X24_plus K (fun h119 eh119 wh119 K => ?_) (fun x h1 _ _ e => Tw.out rfl e)
        refine r_aload_n (pc := 254) dX24_isRight_254 rfl ?_
        have hk120 := kd_ext eh119 hk112 (nz rfl)
        have hv121 := (fr_ext (key := 24020) eh119 hk112 (nz rfl) (ne0 wh119 hk120 (nz rfl)) (nm rfl)).trans hv115
        refine r_getr' (pc := 255) (T := TX24) 24 20 hv121 hk120 (Or.inl q2718) dX24_isRight_255 kc24 g24020 ?_
        obtain ⟨hk122, K⟩ := K
        have K := K _ rfl
        refine r_getr' (pc := 258) (T := TX25) 25 2 rfl hk122 (Or.inr (Or.inl ⟨_, q2126⟩)) dX24_isRight_258 kc25 g25002 ?_
        refine r_callS_I (pc := 261) (Y := mX27_isZero) (vs := [_]) (st := []) q2636 q2637 q195 dX24_isRight_261 rfl cd_X27_isZero rfl rfl fp_X24_isRight_X27_isZero K (fun x124 h125 eh125 wh125 K => ?_) (fun x h1 _ _ e => Tw.out rfl e)
        refine r_if_eq (pc := 264) (tgt := 269) dX24_isRight_264 rfl (fun c126 => ?_) (fun c126 => ?_)
        · have K := K.1 c126
          refine r_aload_n (pc := 269) dX24_isRight_269 rfl ?_
          refine r_aload_n (pc := 270) dX24_isRight_270 rfl ?_
          have hk127 := kd_ext eh125 hk120 (nz rfl)
          have hv128 := (fr_ext (key := 24020) eh125 hk120 (nz rfl) (ne0 wh125 hk127 (nz rfl)) (nm rfl)).trans hv121
          refine r_getr' (pc := 271) (T := TX24) 24 20 hv128 hk127 (Or.inl q2718) dX24_isRight_271 kc24 g24020 ?_
          refine r_aload_n (pc := 274) dX24_isRight_274 rfl ?_
          have K := K _ rfl
          refine r_getr' (pc := 275) (T := TX24) 24 28 rfl hk127 (Or.inl q2726) dX24_isRight_275 kc24 g24028 ?_
          refine r_aload_n (pc := 278) dX24_isRight_278 rfl ?_
          have K := K _ rfl
          refine r_getr' (pc := 279) (T := TX24) 24 29 rfl hk127 (Or.inl q2727) dX24_isRight_279 kc24 g24029 ?_
          refine r_callV_V (pc := 282) (Y := mX24_flat) (vs := [_, _, _]) (st := []) hk127 rfl kc24 q2656 q2658 qs124 dX24_isRight_282 rfl cd_X24_flat rfl rfl fp_X24_isRight_X24_flat K (fun h132 eh132 wh132 K => ?_) (fun x h1 _ _ e => Tw.out rfl e)
          refine r_aload_n (pc := 285) dX24_isRight_285 rfl ?_
          have hk133 := kd_ext eh132 hk127 (nz rfl)
          have hv134 := fr_self (key := 24028) hk127
          have hv135 := (fr_ext (key := 24028) eh132 hk127 (nz rfl) (ne0 wh132 hk133 (nz rfl)) (nm rfl)).trans hv134
          refine r_getr' (pc := 286) (T := TX24) 24 28 hv135 hk133 (Or.inl q2726) dX24_isRight_286 kc24 g24028 ?_
          refine r_aload_n (pc := 289) dX24_isRight_289 rfl ?_
          have hv136 := (fr_ext (key := 24016) eh94 hk90 (nz rfl) (ne0 wh94 hk96 (nz rfl)) (nm rfl)).trans hv91
          have hv137 := (fr_ext (key := 24016) eh104 hk96 (nz rfl) (ne0 wh104 hk105 (nz rfl)) (nm rfl)).trans hv136
          have hv138 := (fr_ext (key := 24016) eh111 hk105 (nz rfl) (ne0 wh111 hk112 (nz rfl)) (nm rfl)).trans hv137
          have hv139 := (fr_ext (key := 24016) eh119 hk112 (nz rfl) (ne0 wh119 hk120 (nz rfl)) (nm rfl)).trans hv138
          have hv140 := (fr_ext (key := 24016) eh125 hk120 (nz rfl) (ne0 wh125 hk127 (nz rfl)) (nm rfl)).trans hv139
          have hv141 := (fr_ext (key := 24016) eh132 hk127 (nz rfl) (ne0 wh132 hk133 (nz rfl)) (nm rfl)).trans hv140
          refine r_getr' (pc := 290) (T := TX24) 24 16 hv141 hk133 (Or.inl q2714) dX24_isRight_290 kc24 g24016 ?_
          have hk142 := kd_ext eh94 hk95 (nz rfl)
          have hk143 := kd_ext eh104 hk142 (nz rfl)
          have hk144 := kd_ext eh111 hk143 (nz rfl)
          have hk145 := kd_ext eh119 hk144 (nz rfl)
          have hk146 := kd_ext eh125 hk145 (nz rfl)
          have hk147 := kd_ext eh132 hk146 (nz rfl)
          have K := K _ rfl
          refine r_getr' (pc := 293) (T := TX27) 27 0 rfl hk147 (Or.inr (Or.inl ⟨_, q2209⟩)) dX24_isRight_293 kc27 g27000 ?_
          refine r_callS_I (pc := 296) (Y := mX27_compare) (vs := [_, _]) (st := []) q2365 q2200 q195 dX24_isRight_296 rfl cd_X27_compare rfl rfl fp_X24_isRight_X27_compare K (fun x149 h150 eh150 wh150 K => ?_) (fun x h1 _ _ e => Tw.out rfl e)
          refine r_if_lt (pc := 299) (tgt := 321) dX24_isRight_299 rfl (fun c151 => ?_) (fun c151 => ?_)
          · have K := K.1 c151
            refine r_aload_n (pc := 321) dX24_isRight_321 rfl ?_
            have hk152 := kd_ext eh150 hk133 (nz rfl)
            have hv153 := (fr_ext (key := 24028) eh150 hk133 (nz rfl) (ne0 wh150 hk152 (nz rfl)) (nm rfl)).trans hv135
            refine r_getr' (pc := 322) (T := TX24) 24 28 hv153 hk152 (Or.inl q2726) dX24_isRight_322 kc24 g24028 ?_
            refine r_aload_n (pc := 325) dX24_isRight_325 rfl ?_
            have hv154 := (fr_ext (key := 24030) eh78 hk65 (nz rfl) (ne0 wh78 hk80 (nz rfl)) (nm rfl)).trans hv75
            have hv155 := (fr_ext (key := 24030) eh88 hk80 (nz rfl) (ne0 wh88 hk90 (nz rfl)) (nm rfl)).trans hv154
            have hv156 := (fr_ext (key := 24030) eh94 hk90 (nz rfl) (ne0 wh94 hk96 (nz rfl)) (nm rfl)).trans hv155
            have hv157 := (fr_ext (key := 24030) eh104 hk96 (nz rfl) (ne0 wh104 hk105 (nz rfl)) (nm rfl)).trans hv156
            have hv158 := (fr_ext (key := 24030) eh111 hk105 (nz rfl) (ne0 wh111 hk112 (nz rfl)) (nm rfl)).trans hv157
            have hv159 := (fr_ext (key := 24030) eh119 hk112 (nz rfl) (ne0 wh119 hk120 (nz rfl)) (nm rfl)).trans hv158
            have hv160 := (fr_ext (key := 24030) eh125 hk120 (nz rfl) (ne0 wh125 hk127 (nz rfl)) (nm rfl)).trans hv159
            have hv161 := (fr_ext (key := 24030) eh132 hk127 (nz rfl) (ne0 wh132 hk133 (nz rfl)) (nm rfl)).trans hv160
            have hv162 := (fr_ext (key := 24030) eh150 hk133 (nz rfl) (ne0 wh150 hk152 (nz rfl)) (nm rfl)).trans hv161
            refine r_getr' (pc := 326) (T := TX24) 24 30 hv162 hk152 (Or.inl q2728) dX24_isRight_326 kc24 g24030 ?_
            refine r_callS_I (pc := 329) (Y := mX27_same) (vs := [_, _]) (st := []) q2617 q2618 q195 dX24_isRight_329 rfl cd_X27_same rfl rfl fp_X24_isRight_X27_same K (fun x163 h164 eh164 wh164 K => ?_) (fun x h1 _ _ e => Tw.out rfl e)
            obtain ⟨hb165, K⟩ := K
            exact r_iret (pc := 332) rfl (nar_z hb165) dX24_isRight_332 K
          · have K := K.2 c151
            refine r_aload_n (pc := 302) dX24_isRight_302 rfl ?_
            have hk166 := kd_ext eh150 hk133 (nz rfl)
            have hv167 := (fr_ext (key := 24028) eh150 hk133 (nz rfl) (ne0 wh150 hk166 (nz rfl)) (nm rfl)).trans hv135
            refine r_getr' (pc := 303) (T := TX24) 24 28 hv167 hk166 (Or.inl q2726) dX24_isRight_303 kc24 g24028 ?_
            refine r_aload_n (pc := 306) dX24_isRight_306 rfl ?_
            have hv168 := (fr_ext (key := 24016) eh150 hk133 (nz rfl) (ne0 wh150 hk166 (nz rfl)) (nm rfl)).trans hv141
            refine r_getr' (pc := 307) (T := TX24) 24 16 hv168 hk166 (Or.inl q2714) dX24_isRight_307 kc24 g24016 ?_
            have hk169 := kd_ext eh150 hk147 (nz rfl)
            have hv170 := fr_self (key := 27000) hk147
            have hv171 := (fr_ext (key := 27000) eh150 hk147 (nz rfl) (ne0 wh150 hk169 (nz rfl)) (nm rfl)).trans hv170
            refine r_getr' (pc := 310) (T := TX27) 27 0 hv171 hk169 (Or.inr (Or.inl ⟨_, q2209⟩)) dX24_isRight_310 kc27 g27000 ?_
            refine r_aload_n (pc := 313) dX24_isRight_313 rfl ?_
            refine r_getr' (pc := 314) (T := TX24) 24 28 hv167 hk166 (Or.inl q2726) dX24_isRight_314 kc24 g24028 ?_
            refine r_callS_J (pc := 317) (Y := mX27_less) (vs := [_, _, _]) (st := []) q2447 q2203 q195 dX24_isRight_317 rfl cd_X27_less rfl rfl fp_X24_isRight_X27_less K (fun x172 h173 eh173 wh173 K => ?_) (fun x h1 _ _ e => Tw.out rfl e)
            refine r_pop2L (pc := 320) rfl dX24_isRight_320 ?_
            refine r_aload_n (pc := 321) dX24_isRight_321 rfl ?_
            have hk174 := kd_ext eh173 hk166 (nz rfl)
            have hv175 := (fr_ext (key := 24028) eh173 hk166 (nz rfl) (ne0 wh173 hk174 (nz rfl)) (nm rfl)).trans hv167
            refine r_getr' (pc := 322) (T := TX24) 24 28 hv175 hk174 (Or.inl q2726) dX24_isRight_322 kc24 g24028 ?_
            refine r_aload_n (pc := 325) dX24_isRight_325 rfl ?_
            have hv176 := (fr_ext (key := 24030) eh78 hk65 (nz rfl) (ne0 wh78 hk80 (nz rfl)) (nm rfl)).trans hv75
            have hv177 := (fr_ext (key := 24030) eh88 hk80 (nz rfl) (ne0 wh88 hk90 (nz rfl)) (nm rfl)).trans hv176
            have hv178 := (fr_ext (key := 24030) eh94 hk90 (nz rfl) (ne0 wh94 hk96 (nz rfl)) (nm rfl)).trans hv177
            have hv179 := (fr_ext (key := 24030) eh104 hk96 (nz rfl) (ne0 wh104 hk105 (nz rfl)) (nm rfl)).trans hv178
            have hv180 := (fr_ext (key := 24030) eh111 hk105 (nz rfl) (ne0 wh111 hk112 (nz rfl)) (nm rfl)).trans hv179
            have hv181 := (fr_ext (key := 24030) eh119 hk112 (nz rfl) (ne0 wh119 hk120 (nz rfl)) (nm rfl)).trans hv180
            have hv182 := (fr_ext (key := 24030) eh125 hk120 (nz rfl) (ne0 wh125 hk127 (nz rfl)) (nm rfl)).trans hv181
            have hv183 := (fr_ext (key := 24030) eh132 hk127 (nz rfl) (ne0 wh132 hk133 (nz rfl)) (nm rfl)).trans hv182
            have hv184 := (fr_ext (key := 24030) eh150 hk133 (nz rfl) (ne0 wh150 hk166 (nz rfl)) (nm rfl)).trans hv183
            have hv185 := (fr_ext (key := 24030) eh173 hk166 (nz rfl) (ne0 wh173 hk174 (nz rfl)) (nm rfl)).trans hv184
            refine r_getr' (pc := 326) (T := TX24) 24 30 hv185 hk174 (Or.inl q2728) dX24_isRight_326 kc24 g24030 ?_
            refine r_callS_I (pc := 329) (Y := mX27_same) (vs := [_, _]) (st := []) q2617 q2618 q195 dX24_isRight_329 rfl cd_X27_same rfl rfl fp_X24_isRight_X27_same K (fun x186 h187 eh187 wh187 K => ?_) (fun x h1 _ _ e => Tw.out rfl e)
            obtain ⟨hb188, K⟩ := K
            exact r_iret (pc := 332) rfl (nar_z hb188) dX24_isRight_332 K
        · have K := K.2 c126
          refine r_iconst (pc := 267) (x := 0) dX24_isRight_267 rfl ?_
          exact r_iret (pc := 268) rfl rfl dX24_isRight_268 K
      · have K := K.2 c19
        refine r_iconst (pc := 64) (x := 0) dX24_isRight_64 rfl ?_
        exact r_iret (pc := 65) rfl rfl dX24_isRight_65 K
theorem eX24_isRight {G : Gx} {d : Nat} {Φ : Out → AH → Prop} (h : AH) (v0 : Nat) (v1 : Nat) (v2 : Nat) (v3 : Int32) (K : WF G h → Aw G mX24_isRight (d + 1) 0 h Φ 0 [vR v0, vR v1, vR v2, vI v3, vU, vU] [] h) : Cw G mX24_isRight (d + 1) 0 [vR v0, vR v1, vR v2, vI v3] h Φ := Cw.of rfl K
theorem dX24_isGood_0 : decode cX24_isGood 0 = .ok (.iload_n 2, 1) := by decide +kernel
theorem dX24_isGood_1 : decode cX24_isGood 1 = .ok (.ifCond .ne 5, 3) := by decide +kernel
theorem dX24_isGood_4 : decode cX24_isGood 4 = .ok (.iconst 0, 1) := by decide +kernel
theorem dX24_isGood_5 : decode cX24_isGood 5 = .ok (.ireturn, 1) := by decide +kernel
theorem dX24_isGood_6 : decode cX24_isGood 6 = .ok (.aload_n 0, 1) := by decide +kernel
theorem dX24_isGood_7 : decode cX24_isGood 7 = .ok (.aload_n 1, 1) := by decide +kernel
theorem dX24_isGood_8 : decode cX24_isGood 8 = .ok (.iload_n 2, 1) := by decide +kernel
theorem dX24_isGood_9 : decode cX24_isGood 9 = .ok (.invokevirtual 670, 3) := by decide +kernel
theorem dX24_isGood_12 : decode cX24_isGood 12 = .ok (.ifCond .ne 10, 3) := by decide +kernel
theorem dX24_isGood_15 : decode cX24_isGood 15 = .ok (.aload_n 0, 1) := by decide +kernel
theorem dX24_isGood_16 : decode cX24_isGood 16 = .ok (.iconst 1, 1) := by decide +kernel
theorem dX24_isGood_17 : decode cX24_isGood 17 = .ok (.putfield 524, 3) := by decide +kernel
theorem dX24_isGood_20 : decode cX24_isGood 20 = .ok (.iconst 0, 1) := by decide +kernel
theorem dX24_isGood_21 : decode cX24_isGood 21 = .ok (.ireturn, 1) := by decide +kernel
theorem dX24_isGood_22 : decode cX24_isGood 22 = .ok (.aload_n 0, 1) := by decide +kernel
theorem dX24_isGood_23 : decode cX24_isGood 23 = .ok (.aload_n 0, 1) := by decide +kernel
theorem dX24_isGood_24 : decode cX24_isGood 24 = .ok (.getfield 673, 3) := by decide +kernel
theorem dX24_isGood_27 : decode cX24_isGood 27 = .ok (.aload_n 0, 1) := by decide +kernel
theorem dX24_isGood_28 : decode cX24_isGood 28 = .ok (.getfield 676, 3) := by decide +kernel
theorem dX24_isGood_31 : decode cX24_isGood 31 = .ok (.aload_n 0, 1) := by decide +kernel
theorem dX24_isGood_32 : decode cX24_isGood 32 = .ok (.getfield 679, 3) := by decide +kernel
theorem dX24_isGood_35 : decode cX24_isGood 35 = .ok (.aload_n 1, 1) := by decide +kernel
theorem dX24_isGood_36 : decode cX24_isGood 36 = .ok (.iload_n 2, 1) := by decide +kernel
theorem dX24_isGood_37 : decode cX24_isGood 37 = .ok (.iconst 1, 1) := by decide +kernel
theorem dX24_isGood_38 : decode cX24_isGood 38 = .ok (.isub, 1) := by decide +kernel
theorem dX24_isGood_39 : decode cX24_isGood 39 = .ok (.baload, 1) := by decide +kernel
theorem dX24_isGood_40 : decode cX24_isGood 40 = .ok (.sipush 255, 3) := by decide +kernel
theorem dX24_isGood_43 : decode cX24_isGood 43 = .ok (.iand, 1) := by decide +kernel
theorem dX24_isGood_44 : decode cX24_isGood 44 = .ok (.invokevirtual 682, 3) := by decide +kernel
theorem dX24_isGood_47 : decode cX24_isGood 47 = .ok (.aload_n 0, 1) := by decide +kernel
theorem dX24_isGood_48 : decode cX24_isGood 48 = .ok (.aload_n 1, 1) := by decide +kernel
theorem dX24_isGood_49 : decode cX24_isGood 49 = .ok (.aload_n 3, 1) := by decide +kernel
theorem dX24_isGood_50 : decode cX24_isGood 50 = .ok (.iload 4, 2) := by decide +kernel
theorem dX24_isGood_52 : decode cX24_isGood 52 = .ok (.invokevirtual 686, 3) := by decide +kernel
theorem dX24_isGood_55 : decode cX24_isGood 55 = .ok (.ireturn, 1) := by decide +kernel
/-! CoinJudgeModel.isGood([BI[BI)Z -/
set_option maxHeartbeats 4000000 in
theorem sX24_isGood_0 {G : Gx} {d t : Nat} {h0 : AH} {Φ : Out → AH → Prop} (h : AH) (v0 : Nat) (v1 : Nat) (v2 : Int32) (v3 : Nat) (v4 : Int32) (K : ((¬ v2 = 0 → h.kd v0 = 24 ∧ Cw G mX24_isDer d 0 [vR v0, vR v1, vI v2] h (kI (fun x2 h3 => ((¬ x2 = 0 → ∀ r7 : Nat, r7 = (h3.r 24076 v0) → h3.kd v1 = 101 ∧ vp_in (v2 - 1) (h3.ai v1).length ∧ Cw G mX24_hashed d 0 [vR v0, vR r7, vI (h3.i 24077 v0), vI (h3.i 24078 v0), vI (((h3.ai v1).getD ((v2 - 1).toNatClampNeg) 0) &&& 255)] h3 (kV (fun h11 => Cw G mX24_isRight d 0 [vR v0, vR v1, vR v3, vI v4] h11 (kI (fun x12 h13 => (x12 = 0 ∨ x12 = 1) ∧ Φ (.inl (some (vI x12))) h13) (fun x h => Φ (.inr x) h))) (fun x h => Φ (.inr x) h))) ∧ (x2 = 0 → ∀ h17 : AH, h17 = h3.pi 24074 v0 1 → Φ (.inl (some (vI 0))) h17))) (fun x h => Φ (.inr x) h))) ∧ (v2 = 0 → Φ (.inl (some (vI 0))) h))) : Aw G mX24_isGood (d + 1) t h0 Φ 0 [vR v0, vR v1, vI v2, vR v3, vI v4] [] h := by
  refine r_iload_n (pc := 0) dX24_isGood_0 rfl ?_
  refine r_if_ne (pc := 1) (tgt := 6) dX24_isGood_1 rfl (fun c1 => ?_) (fun c1 => ?_)
  · have K := K.1 c1
    refine r_aload_n (pc := 6) dX24_isGood_6 rfl ?_
    refine r_aload_n (pc := 7) dX24_isGood_7 rfl ?_
    refine r_iload_n (pc := 8) dX24_isGood_8 rfl ?_
    obtain ⟨hk4, K⟩ := K
    refine r_callV_I (pc := 9) (Y := mX24_isDer) (vs := [_, _]) (st := []) hk4 rfl kc24 q2579 q2581 qs112 dX24_isGood_9 rfl cd_X24_isDer rfl rfl fp_X24_isGood_X24_isDer K (fun x2 h3 eh3 wh3 K => ?_) (fun x h1 _ _ e => Tw.out rfl e)
    refine r_if_ne (pc := 12) (tgt := 22) dX24_isGood_12 rfl (fun c5 => ?_) (fun c5 => ?_)
    · have K := K.1 c5
      refine r_aload_n (pc := 22) dX24_isGood_22 rfl ?_
      refine r_aload_n (pc := 23) dX24_isGood_23 rfl ?_
      have hk6 := kd_ext eh3 hk4 (nz rfl)
      have K := K _ rfl
      refine r_getr' (pc := 24) (T := TX24) 24 76 rfl hk6 (Or.inl q2774) dX24_isGood_24 kc24 g24076 ?_
      refine r_aload_n (pc := 27) dX24_isGood_27 rfl ?_
      refine r_geti' (pc := 28) (T := TX24) 24 77 rfl hk6 (Or.inl q2775) dX24_isGood_28 kc24 g24077 ?_
      refine r_aload_n (pc := 31) dX24_isGood_31 rfl ?_
      refine r_geti' (pc := 32) (T := TX24) 24 78 rfl hk6 (Or.inl q2776) dX24_isGood_32 kc24 g24078 ?_
      refine r_aload_n (pc := 35) dX24_isGood_35 rfl ?_
      refine r_iload_n (pc := 36) dX24_isGood_36 rfl ?_
      refine r_iconst (pc := 37) (x := 1) dX24_isGood_37 rfl ?_
      refine r_isub (pc := 38) dX24_isGood_38 ?_
      obtain ⟨hk8, K⟩ := K
      obtain ⟨hi9, K⟩ := K
      refine r_baload (pc := 39) hk8 hi9 dX24_isGood_39 ?_
      refine r_sipush (pc := 40) (x := 255) dX24_isGood_40 rfl ?_
      refine r_iand (pc := 43) dX24_isGood_43 ?_
      refine r_callV_V (pc := 44) (Y := mX24_hashed) (vs := [_, _, _, _]) (st := []) hk6 rfl kc24 q2586 q2588 qs113 dX24_isGood_44 rfl cd_X24_hashed rfl rfl fp_X24_isGood_X24_hashed K (fun h11 eh11 wh11 K => ?_) (fun x h1 _ _ e => Tw.out rfl e)
      refine r_aload_n (pc := 47) dX24_isGood_47 rfl ?_
      refine r_aload_n (pc := 48) dX24_isGood_48 rfl ?_
      refine r_aload_n (pc := 49) dX24_isGood_49 rfl ?_
      refine r_iload (pc := 50) dX24_isGood_50 rfl ?_
      have hk14 := kd_ext eh11 hk6 (nz rfl)
      refine r_callV_I (pc := 52) (Y := mX24_isRight) (vs := [_, _, _]) (st := []) hk14 rfl kc24 q2607 q2609 qs118 dX24_isGood_52 rfl cd_X24_isRight rfl rfl fp_X24_isGood_X24_isRight K (fun x12 h13 eh13 wh13 K => ?_) (fun x h1 _ _ e => Tw.out rfl e)
      obtain ⟨hb15, K⟩ := K
      exact r_iret (pc := 55) rfl (nar_z hb15) dX24_isGood_55 K
    · have K := K.2 c5
      refine r_aload_n (pc := 15) dX24_isGood_15 rfl ?_
      refine r_iconst (pc := 16) (x := 1) dX24_isGood_16 rfl ?_
      have hk16 := kd_ext eh3 hk4 (nz rfl)
      refine r_putz (pc := 17) (T := TX24) (key := 24074) 24 74 hk16 (Or.inl q2772) dX24_isGood_17 kc24 rfl (Or.inl rfl) (Or.inl (em rfl)) (by decide) ?_
      refine r_nameH (fun h17 eh17 => ?_)
      have K := K h17 eh17
      refine r_iconst (pc := 20) (x := 0) dX24_isGood_20 rfl ?_
      exact r_iret (pc := 21) rfl rfl dX24_isGood_21 K
  · have K := K.2 c1
    refine r_iconst (pc := 4) (x := 0) dX24_isGood_4 rfl ?_
    exact r_iret (pc := 5) rfl rfl dX24_isGood_5 K
theorem eX24_isGood {G : Gx} {d : Nat} {Φ : Out → AH → Prop} (h : AH) (v0 : Nat) (v1 : Nat) (v2 : Int32) (v3 : Nat) (v4 : Int32) (K : WF G h → Aw G mX24_isGood (d + 1) 0 h Φ 0 [vR v0, vR v1, vI v2, vR v3, vI v4] [] h) : Cw G mX24_isGood (d + 1) 0 [vR v0, vR v1, vI v2, vR v3, vI v4] h Φ := Cw.of rfl K
theorem dX24_load_0 : decode cX24_load 0 = .ok (.iconst 0, 1) := by decide +kernel
theorem dX24_load_1 : decode cX24_load 1 = .ok (.istore 4, 2) := by decide +kernel
theorem dX24_load_3 : decode cX24_load 3 = .ok (.iload 4, 2) := by decide +kernel
theorem dX24_load_5 : decode cX24_load 5 = .ok (.iload_n 3, 1) := by decide +kernel
theorem dX24_load_6 : decode cX24_load 6 = .ok (.if_icmp .ge 22, 3) := by decide +kernel
theorem dX24_load_9 : decode cX24_load 9 = .ok (.aload_n 0, 1) := by decide +kernel
theorem dX24_load_10 : decode cX24_load 10 = .ok (.getfield 645, 3) := by decide +kernel
theorem dX24_load_13 : decode cX24_load 13 = .ok (.iload 4, 2) := by decide +kernel
theorem dX24_load_15 : decode cX24_load 15 = .ok (.aload_n 1, 1) := by decide +kernel
theorem dX24_load_16 : decode cX24_load 16 = .ok (.iload_n 2, 1) := by decide +kernel
theorem dX24_load_17 : decode cX24_load 17 = .ok (.iload 4, 2) := by decide +kernel
theorem dX24_load_19 : decode cX24_load 19 = .ok (.iadd, 1) := by decide +kernel
theorem dX24_load_20 : decode cX24_load 20 = .ok (.baload, 1) := by decide +kernel
theorem dX24_load_21 : decode cX24_load 21 = .ok (.bastore, 1) := by decide +kernel
theorem dX24_load_22 : decode cX24_load 22 = .ok (.iinc 4 1, 3) := by decide +kernel
theorem dX24_load_25 : decode cX24_load 25 = .ok (.goto (-22), 3) := by decide +kernel
theorem dX24_load_28 : decode cX24_load 28 = .ok (.aload_n 0, 1) := by decide +kernel
theorem dX24_load_29 : decode cX24_load 29 = .ok (.iload_n 3, 1) := by decide +kernel
theorem dX24_load_30 : decode cX24_load 30 = .ok (.putfield 642, 3) := by decide +kernel
theorem dX24_load_33 : decode cX24_load 33 = .ok (.return_, 1) := by decide +kernel
/-! CoinJudgeModel.load([BII)V -/
set_option maxHeartbeats 4000000 in
theorem sX24_load_0 {G : Gx} {d t : Nat} {h0 : AH} {Φ : Out → AH → Prop} (h : AH) (v0 : Nat) (v1 : Nat) (v2 : Int32) (v3 : Int32) (K : Aw G mX24_load (d + 1) t h0 Φ 3 [vR v0, vR v1, vI v2, vI v3, vI 0] [] h) : Aw G mX24_load (d + 1) t h0 Φ 0 [vR v0, vR v1, vI v2, vI v3, vU] [] h := by
  refine r_iconst (pc := 0) (x := 0) dX24_load_0 rfl ?_
  refine r_istore (pc := 1) (lv' := [_, _, _, _, _]) dX24_load_1 (by decide) rfl ?_
  refine r_mask (pc := 3) [true, true, true, true, true] rfl ?_
  exact K
theorem eX24_load {G : Gx} {d : Nat} {Φ : Out → AH → Prop} (h : AH) (v0 : Nat) (v1 : Nat) (v2 : Int32) (v3 : Int32) (K : WF G h → Aw G mX24_load (d + 1) 0 h Φ 0 [vR v0, vR v1, vI v2, vI v3, vU] [] h) : Cw G mX24_load (d + 1) 0 [vR v0, vR v1, vI v2, vI v3] h Φ := Cw.of rfl K
set_option maxHeartbeats 4000000 in
theorem sX24_load_3 {G : Gx} {d t : Nat} {h0 : AH} {Φ : Out → AH → Prop} (h : AH) (v0 : Nat) (v1 : Nat) (v2 : Int32) (v3 : Int32) (v4 : Int32) (K : ((v3 ≤ v4 → h.kd v0 = 24 ∧ ∀ h3 : AH, h3 = h.pi 24089 v0 v3 → Φ (.inl none) h3) ∧ (¬ v3 ≤ v4 → h.kd v0 = 24 ∧ ∀ r5 : Nat, r5 = (h.r 24087 v0) → h.kd v1 = 101 ∧ vp_in (v2 + v4) (h.ai v1).length ∧ h.kd r5 = 101 ∧ vp_in v4 (h.ai r5).length ∧ ∀ h10 : AH, h10 = h.wi r5 ((h.ai r5).set (v4.toNatClampNeg) (i2b ((h.ai v1).getD ((v2 + v4).toNatClampNeg) 0))) → Aw G mX24_load (d + 1) t h0 Φ 3 [vR v0, vR v1, vI v2, vI v3, vI (v4 + 1)] [] h10))) : Aw G mX24_load (d + 1) t h0 Φ 3 [vR v0, vR v1, vI v2, vI v3, vI v4] [] h := by
  refine r_iload (pc := 3) dX24_load_3 rfl ?_
  refine r_iload_n (pc := 5) dX24_load_5 rfl ?_
  refine r_icmp_ge (pc := 6) (tgt := 28) dX24_load_6 rfl (fun c1 => ?_) (fun c1 => ?_)
  · have K := K.1 c1
    refine r_aload_n (pc := 28) dX24_load_28 rfl ?_
    refine r_iload_n (pc := 29) dX24_load_29 rfl ?_
    obtain ⟨hk2, K⟩ := K
    refine r_puti (pc := 30) (T := TX24) (key := 24089) 24 89 hk2 (Or.inl q2787) dX24_load_30 kc24 rfl (Or.inl rfl) (Or.inl (em rfl)) ?_
    refine r_nameH (fun h3 eh3 => ?_)
    have K := K h3 eh3
    exact r_vret (pc := 33) rfl dX24_load_33 K
  · have K := K.2 c1
    refine r_aload_n (pc := 9) dX24_load_9 rfl ?_
    obtain ⟨hk4, K⟩ := K
    have K := K _ rfl
    refine r_getr' (pc := 10) (T := TX24) 24 87 rfl hk4 (Or.inl q2785) dX24_load_10 kc24 g24087 ?_
    refine r_iload (pc := 13) dX24_load_13 rfl ?_
    refine r_aload_n (pc := 15) dX24_load_15 rfl ?_
    refine r_iload_n (pc := 16) dX24_load_16 rfl ?_
    refine r_iload (pc := 17) dX24_load_17 rfl ?_
    refine r_iadd (pc := 19) dX24_load_19 ?_
    obtain ⟨hk6, K⟩ := K
    obtain ⟨hi7, K⟩ := K
    refine r_baload (pc := 20) hk6 hi7 dX24_load_20 ?_
    obtain ⟨hk8, K⟩ := K
    obtain ⟨hi9, K⟩ := K
    refine r_jbast (pc := 21) hk8 hi9 (Or.inl (em rfl)) dX24_load_21 ?_
    refine r_nameH (fun h10 eh10 => ?_)
    have K := K h10 eh10
    refine r_iinc (pc := 22) (lv' := [_, _, _, _, _]) dX24_load_22 rfl rfl (by decide) rfl ?_
    refine r_goto (pc := 25) (tgt := 3) dX24_load_25 rfl ?_
    refine r_mask (pc := 3) [true, true, true, true, true] rfl ?_
    exact K
theorem dX24_without_0 : decode cX24_without 0 = .ok (.iload_n 2, 1) := by decide +kernel
theorem dX24_without_1 : decode cX24_without 1 = .ok (.sipush 255, 3) := by decide +kernel
theorem dX24_without_4 : decode cX24_without 4 = .ok (.if_icmp .le 4, 3) := by decide +kernel
theorem dX24_without_7 : decode cX24_without 7 = .ok (.return_, 1) := by decide +kernel
theorem dX24_without_8 : decode cX24_without 8 = .ok (.iload_n 2, 1) := by decide +kernel
theorem dX24_without_9 : decode cX24_without 9 = .ok (.bipush 76, 2) := by decide +kernel
theorem dX24_without_11 : decode cX24_without 11 = .ok (.if_icmp .ge 7, 3) := by decide +kernel
theorem dX24_without_14 : decode cX24_without 14 = .ok (.iconst 1, 1) := by decide +kernel
theorem dX24_without_15 : decode cX24_without 15 = .ok (.goto 4, 3) := by decide +kernel
theorem dX24_without_18 : decode cX24_without 18 = .ok (.iconst 2, 1) := by decide +kernel
theorem dX24_without_19 : decode cX24_without 19 = .ok (.istore_n 3, 1) := by decide +kernel
theorem dX24_without_20 : decode cX24_without 20 = .ok (.iconst 0, 1) := by decide +kernel
theorem dX24_without_21 : decode cX24_without 21 = .ok (.istore 4, 2) := by decide +kernel
theorem dX24_without_23 : decode cX24_without 23 = .ok (.iconst 0, 1) := by decide +kernel
theorem dX24_without_24 : decode cX24_without 24 = .ok (.istore 5, 2) := by decide +kernel
theorem dX24_without_26 : decode cX24_without 26 = .ok (.iload 4, 2) := by decide +kernel
theorem dX24_without_28 : decode cX24_without 28 = .ok (.aload_n 0, 1) := by decide +kernel
theorem dX24_without_29 : decode cX24_without 29 = .ok (.getfield 642, 3) := by decide +kernel
theorem dX24_without_32 : decode cX24_without 32 = .ok (.if_icmp .ge 163, 3) := by decide +kernel
theorem dX24_without_35 : decode cX24_without 35 = .ok (.iload 4, 2) := by decide +kernel
theorem dX24_without_37 : decode cX24_without 37 = .ok (.iload_n 3, 1) := by decide +kernel
theorem dX24_without_38 : decode cX24_without 38 = .ok (.iadd, 1) := by decide +kernel
theorem dX24_without_39 : decode cX24_without 39 = .ok (.iload_n 2, 1) := by decide +kernel
theorem dX24_without_40 : decode cX24_without 40 = .ok (.iadd, 1) := by decide +kernel
theorem dX24_without_41 : decode cX24_without 41 = .ok (.aload_n 0, 1) := by decide +kernel
theorem dX24_without_42 : decode cX24_without 42 = .ok (.getfield 642, 3) := by decide +kernel
theorem dX24_without_45 : decode cX24_without 45 = .ok (.if_icmp .gt 71, 3) := by decide +kernel
theorem dX24_without_48 : decode cX24_without 48 = .ok (.aload_n 0, 1) := by decide +kernel
theorem dX24_without_49 : decode cX24_without 49 = .ok (.getfield 645, 3) := by decide +kernel
theorem dX24_without_52 : decode cX24_without 52 = .ok (.iload 4, 2) := by decide +kernel
theorem dX24_without_54 : decode cX24_without 54 = .ok (.baload, 1) := by decide +kernel
theorem dX24_without_55 : decode cX24_without 55 = .ok (.sipush 255, 3) := by decide +kernel
theorem dX24_without_58 : decode cX24_without 58 = .ok (.iand, 1) := by decide +kernel
theorem dX24_without_59 : decode cX24_without 59 = .ok (.iload_n 3, 1) := by decide +kernel
theorem dX24_without_60 : decode cX24_without 60 = .ok (.iconst 1, 1) := by decide +kernel
theorem dX24_without_61 : decode cX24_without 61 = .ok (.if_icmp .ne 7, 3) := by decide +kernel
theorem dX24_without_64 : decode cX24_without 64 = .ok (.iload_n 2, 1) := by decide +kernel
theorem dX24_without_65 : decode cX24_without 65 = .ok (.goto 5, 3) := by decide +kernel
theorem dX24_without_68 : decode cX24_without 68 = .ok (.bipush 76, 2) := by decide +kernel
theorem dX24_without_70 : decode cX24_without 70 = .ok (.if_icmp .ne 46, 3) := by decide +kernel
theorem dX24_without_73 : decode cX24_without 73 = .ok (.iload_n 3, 1) := by decide +kernel
theorem dX24_without_74 : decode cX24_without 74 = .ok (.iconst 1, 1) := by decide +kernel
theorem dX24_without_75 : decode cX24_without 75 = .ok (.if_icmp .eq 20, 3) := by decide +kernel
theorem dX24_without_78 : decode cX24_without 78 = .ok (.aload_n 0, 1) := by decide +kernel
theorem dX24_without_79 : decode cX24_without 79 = .ok (.getfield 645, 3) := by decide +kernel
theorem dX24_without_82 : decode cX24_without 82 = .ok (.iload 4, 2) := by decide +kernel
theorem dX24_without_84 : decode cX24_without 84 = .ok (.iconst 1, 1) := by decide +kernel
theorem dX24_without_85 : decode cX24_without 85 = .ok (.iadd, 1) := by decide +kernel
theorem dX24_without_86 : decode cX24_without 86 = .ok (.baload, 1) := by decide +kernel
theorem dX24_without_87 : decode cX24_without 87 = .ok (.sipush 255, 3) := by decide +kernel
theorem dX24_without_90 : decode cX24_without 90 = .ok (.iand, 1) := by decide +kernel
theorem dX24_without_91 : decode cX24_without 91 = .ok (.iload_n 2, 1) := by decide +kernel
theorem dX24_without_92 : decode cX24_without 92 = .ok (.if_icmp .ne 24, 3) := by decide +kernel
theorem dX24_without_95 : decode cX24_without 95 = .ok (.aload_n 0, 1) := by decide +kernel
theorem dX24_without_96 : decode cX24_without 96 = .ok (.getfield 645, 3) := by decide +kernel
theorem dX24_without_99 : decode cX24_without 99 = .ok (.iload 4, 2) := by decide +kernel
theorem dX24_without_101 : decode cX24_without 101 = .ok (.iload_n 3, 1) := by decide +kernel
theorem dX24_without_102 : decode cX24_without 102 = .ok (.iadd, 1) := by decide +kernel
theorem dX24_without_103 : decode cX24_without 103 = .ok (.aload_n 1, 1) := by decide +kernel
theorem dX24_without_104 : decode cX24_without 104 = .ok (.iconst 0, 1) := by decide +kernel
theorem dX24_without_105 : decode cX24_without 105 = .ok (.iload_n 2, 1) := by decide +kernel
theorem dX24_without_106 : decode cX24_without 106 = .ok (.invokestatic 409, 3) := by decide +kernel
theorem dX24_without_109 : decode cX24_without 109 = .ok (.ifCond .eq 7, 3) := by decide +kernel
theorem dX24_without_112 : decode cX24_without 112 = .ok (.iconst 1, 1) := by decide +kernel
theorem dX24_without_113 : decode cX24_without 113 = .ok (.goto 4, 3) := by decide +kernel
theorem dX24_without_116 : decode cX24_without 116 = .ok (.iconst 0, 1) := by decide +kernel
theorem dX24_without_117 : decode cX24_without 117 = .ok (.istore 6, 2) := by decide +kernel
theorem dX24_without_119 : decode cX24_without 119 = .ok (.iload 6, 2) := by decide +kernel
theorem dX24_without_121 : decode cX24_without 121 = .ok (.ifCond .eq 14, 3) := by decide +kernel
theorem dX24_without_124 : decode cX24_without 124 = .ok (.iload 4, 2) := by decide +kernel
theorem dX24_without_126 : decode cX24_without 126 = .ok (.iload_n 3, 1) := by decide +kernel
theorem dX24_without_127 : decode cX24_without 127 = .ok (.iload_n 2, 1) := by decide +kernel
theorem dX24_without_128 : decode cX24_without 128 = .ok (.iadd, 1) := by decide +kernel
theorem dX24_without_129 : decode cX24_without 129 = .ok (.iadd, 1) := by decide +kernel
theorem dX24_without_130 : decode cX24_without 130 = .ok (.istore 4, 2) := by decide +kernel
theorem dX24_without_132 : decode cX24_without 132 = .ok (.goto (-106), 3) := by decide +kernel
theorem dX24_without_135 : decode cX24_without 135 = .ok (.aload_n 0, 1) := by decide +kernel
theorem dX24_without_136 : decode cX24_without 136 = .ok (.aload_n 0, 1) := by decide +kernel
theorem dX24_without_137 : decode cX24_without 137 = .ok (.getfield 645, 3) := by decide +kernel
theorem dX24_without_140 : decode cX24_without 140 = .ok (.iload 4, 2) := by decide +kernel
theorem dX24_without_142 : decode cX24_without 142 = .ok (.aload_n 0, 1) := by decide +kernel
theorem dX24_without_143 : decode cX24_without 143 = .ok (.getfield 642, 3) := by decide +kernel
theorem dX24_without_146 : decode cX24_without 146 = .ok (.invokevirtual 423, 3) := by decide +kernel
theorem dX24_without_149 : decode cX24_without 149 = .ok (.istore 7, 2) := by decide +kernel
theorem dX24_without_151 : decode cX24_without 151 = .ok (.iload 7, 2) := by decide +kernel
theorem dX24_without_153 : decode cX24_without 153 = .ok (.ifCond .ge 9, 3) := by decide +kernel
theorem dX24_without_156 : decode cX24_without 156 = .ok (.aload_n 0, 1) := by decide +kernel
theorem dX24_without_157 : decode cX24_without 157 = .ok (.getfield 642, 3) := by decide +kernel
theorem dX24_without_160 : decode cX24_without 160 = .ok (.istore 7, 2) := by decide +kernel
theorem dX24_without_162 : decode cX24_without 162 = .ok (.iload 4, 2) := by decide +kernel
theorem dX24_without_164 : decode cX24_without 164 = .ok (.iload 7, 2) := by decide +kernel
theorem dX24_without_166 : decode cX24_without 166 = .ok (.if_icmp .ge 26, 3) := by decide +kernel
theorem dX24_without_169 : decode cX24_without 169 = .ok (.aload_n 0, 1) := by decide +kernel
theorem dX24_without_170 : decode cX24_without 170 = .ok (.getfield 648, 3) := by decide +kernel
theorem dX24_without_173 : decode cX24_without 173 = .ok (.iload 5, 2) := by decide +kernel
theorem dX24_without_175 : decode cX24_without 175 = .ok (.aload_n 0, 1) := by decide +kernel
theorem dX24_without_176 : decode cX24_without 176 = .ok (.getfield 645, 3) := by decide +kernel
theorem dX24_without_179 : decode cX24_without 179 = .ok (.iload 4, 2) := by decide +kernel
theorem dX24_without_181 : decode cX24_without 181 = .ok (.baload, 1) := by decide +kernel
theorem dX24_without_182 : decode cX24_without 182 = .ok (.bastore, 1) := by decide +kernel
theorem dX24_without_183 : decode cX24_without 183 = .ok (.iinc 5 1, 3) := by decide +kernel
theorem dX24_without_186 : decode cX24_without 186 = .ok (.iinc 4 1, 3) := by decide +kernel
theorem dX24_without_189 : decode cX24_without 189 = .ok (.goto (-27), 3) := by decide +kernel
theorem dX24_without_192 : decode cX24_without 192 = .ok (.goto (-166), 3) := by decide +kernel
theorem dX24_without_195 : decode cX24_without 195 = .ok (.aload_n 0, 1) := by decide +kernel
theorem dX24_without_196 : decode cX24_without 196 = .ok (.getfield 645, 3) := by decide +kernel
theorem dX24_without_199 : decode cX24_without 199 = .ok (.astore 6, 2) := by decide +kernel
theorem dX24_without_201 : decode cX24_without 201 = .ok (.aload_n 0, 1) := by decide +kernel
theorem dX24_without_202 : decode cX24_without 202 = .ok (.aload_n 0, 1) := by decide +kernel
theorem dX24_without_203 : decode cX24_without 203 = .ok (.getfield 648, 3) := by decide +kernel
theorem dX24_without_206 : decode cX24_without 206 = .ok (.putfield 645, 3) := by decide +kernel
theorem dX24_without_209 : decode cX24_without 209 = .ok (.aload_n 0, 1) := by decide +kernel
theorem dX24_without_210 : decode cX24_without 210 = .ok (.aload 6, 2) := by decide +kernel
theorem dX24_without_212 : decode cX24_without 212 = .ok (.putfield 648, 3) := by decide +kernel
theorem dX24_without_215 : decode cX24_without 215 = .ok (.aload_n 0, 1) := by decide +kernel
theorem dX24_without_216 : decode cX24_without 216 = .ok (.iload 5, 2) := by decide +kernel
theorem dX24_without_218 : decode cX24_without 218 = .ok (.putfield 642, 3) := by decide +kernel
theorem dX24_without_221 : decode cX24_without 221 = .ok (.return_, 1) := by decide +kernel
/-! CoinJudgeModel.without([BI)V -/
set_option maxHeartbeats 4000000 in
theorem sX24_without_0 {G : Gx} {d t : Nat} {h0 : AH} {Φ : Out → AH → Prop} (h : AH) (v0 : Nat) (v1 : Nat) (v2 : Int32) (K : ((v2 ≤ 255 → ((76 ≤ v2 → Aw G mX24_without (d + 1) t h0 Φ 26 [vR v0, vR v1, vI v2, vI 2, vI 0, vI 0, vU, vU] [] h) ∧ (¬ 76 ≤ v2 → Aw G mX24_without (d + 1) t h0 Φ 26 [vR v0, vR v1, vI v2, vI 1, vI 0, vI 0, vU, vU] [] h))) ∧ (¬ v2 ≤ 255 → Φ (.inl none) h))) : Aw G mX24_without (d + 1) t h0 Φ 0 [vR v0, vR v1, vI v2, vU, vU, vU, vU, vU] [] h := by
  refine r_iload_n (pc := 0) dX24_without_0 rfl ?_
  refine r_sipush (pc := 1) (x := 255) dX24_without_1 rfl ?_
  refine r_icmp_le (pc := 4) (tgt := 8) dX24_without_4 rfl (fun c1 => ?_) (fun c1 => ?_)
  · have K := K.1 c1
    refine r_iload_n (pc := 8) dX24_without_8 rfl ?_
    refine r_bipush (pc := 9) (x := 76) dX24_without_9 rfl ?_
    refine r_icmp_ge (pc := 11) (tgt := 18) dX24_without_11 rfl (fun c2 => ?_) (fun c2 => ?_)
    · have K := K.1 c2
      refine r_iconst (pc := 18) (x := 2) dX24_without_18 rfl ?_
      refine r_istore_n (pc := 19) (lv' := [_, _, _, _, _, _, _, _]) dX24_without_19 (by decide) rfl ?_
      refine r_iconst (pc := 20) (x := 0) dX24_without_20 rfl ?_
      refine r_istore (pc := 21) (lv' := [_, _, _, _, _, _, _, _]) dX24_without_21 (by decide) rfl ?_
      refine r_iconst (pc := 23) (x := 0) dX24_without_23 rfl ?_
      refine r_istore (pc := 24) (lv' := [_, _, _, _, _, _, _, _]) dX24_without_24 (by decide) rfl ?_
      refine r_mask (pc := 26) [true, true, true, true, true, true, false, false] rfl ?_
      exact K
    · have K := K.2 c2
      refine r_iconst (pc := 14) (x := 1) dX24_without_14 rfl ?_
      refine r_goto (pc := 15) (tgt := 19) dX24_without_15 rfl ?_
      refine r_istore_n (pc := 19) (lv' := [_, _, _, _, _, _, _, _]) dX24_without_19 (by decide) rfl ?_
      refine r_iconst (pc := 20) (x := 0) dX24_without_20 rfl ?_
      refine r_istore (pc := 21) (lv' := [_, _, _, _, _, _, _, _]) dX24_without_21 (by decide) rfl ?_
      refine r_iconst (pc := 23) (x := 0) dX24_without_23 rfl ?_
      refine r_istore (pc := 24) (lv' := [_, _, _, _, _, _, _, _]) dX24_without_24 (by decide) rfl ?_
      refine r_mask (pc := 26) [true, true, true, true, true, true, false, false] rfl ?_
      exact K
  · have K := K.2 c1
    exact r_vret (pc := 7) rfl dX24_without_7 K
theorem eX24_without {G : Gx} {d : Nat} {Φ : Out → AH → Prop} (h : AH) (v0 : Nat) (v1 : Nat) (v2 : Int32) (K : WF G h → Aw G mX24_without (d + 1) 0 h Φ 0 [vR v0, vR v1, vI v2, vU, vU, vU, vU, vU] [] h) : Cw G mX24_without (d + 1) 0 [vR v0, vR v1, vI v2] h Φ := Cw.of rfl K
set_option maxHeartbeats 4000000 in
theorem sX24_without_26 {G : Gx} {d t : Nat} {h0 : AH} {Φ : Out → AH → Prop} (h : AH) (v0 : Nat) (v1 : Nat) (v2 : Int32) (v3 : Int32) (v4 : Int32) (v5 : Int32) (K : h.kd v0 = 24 ∧ (((h.i 24089 v0) ≤ v4 → ∀ r3 : Nat, r3 = (h.r 24087 v0) → ∀ r4 : Nat, r4 = (h.r 24088 v0) → ∀ h5 : AH, h5 = h.pr 24087 v0 r4 → ∀ h7 : AH, h7 = h5.pr 24088 v0 r3 → ∀ h9 : AH, h9 = h7.pi 24089 v0 v5 → Φ (.inl none) h9) ∧ (¬ (h.i 24089 v0) ≤ v4 → (((h.i 24089 v0) < ((v4 + v3) + v2) → Aw G mX24_without (d + 1) t h0 Φ 116 [vR v0, vR v1, vI v2, vI v3, vI v4, vI v5, vU, vU] [] h) ∧ (¬ (h.i 24089 v0) < ((v4 + v3) + v2) → ∀ r11 : Nat, r11 = (h.r 24087 v0) → h.kd r11 = 101 ∧ vp_in v4 (h.ai r11).length ∧ ((¬ v3 = 1 → ((¬ (((h.ai r11).getD (v4.toNatClampNeg) 0) &&& 255) = 76 → Aw G mX24_without (d + 1) t h0 Φ 116 [vR v0, vR v1, vI v2, vI v3, vI v4, vI v5, vU, vU] [] h) ∧ ((((h.ai r11).getD (v4.toNatClampNeg) 0) &&& 255) = 76 → ((v3 = 1 → Aw G mX24_without (d + 1) t h0 Φ 95 [vR v0, vR v1, vI v2, vI v3, vI v4, vI v5, vU, vU] [] h) ∧ (¬ v3 = 1 → vp_in (v4 + 1) (h.ai r11).length ∧ ((¬ (((h.ai r11).getD ((v4 + 1).toNatClampNeg) 0) &&& 255) = v2 → Aw G mX24_without (d + 1) t h0 Φ 116 [vR v0, vR v1, vI v2, vI v3, vI v4, vI v5, vU, vU] [] h) ∧ ((((h.ai r11).getD ((v4 + 1).toNatClampNeg) 0) &&& 255) = v2 → Aw G mX24_without (d + 1) t h0 Φ 95 [vR v0, vR v1, vI v2, vI v3, vI v4, vI v5, vU, vU] [] h))))))) ∧ (v3 = 1 → ((¬ (((h.ai r11).getD (v4.toNatClampNeg) 0) &&& 255) = v2 → Aw G mX24_without (d + 1) t h0 Φ 116 [vR v0, vR v1, vI v2, vI v3, vI v4, vI v5, vU, vU] [] h) ∧ ((((h.ai r11).getD (v4.toNatClampNeg) 0) &&& 255) = v2 → ((v3 = 1 → Aw G mX24_without (d + 1) t h0 Φ 95 [vR v0, vR v1, vI v2, vI v3, vI v4, vI v5, vU, vU] [] h) ∧ (¬ v3 = 1 → vp_in (v4 + 1) (h.ai r11).length ∧ ((¬ (((h.ai r11).getD ((v4 + 1).toNatClampNeg) 0) &&& 255) = v2 → Aw G mX24_without (d + 1) t h0 Φ 116 [vR v0, vR v1, vI v2, vI v3, vI v4, vI v5, vU, vU] [] h) ∧ ((((h.ai r11).getD ((v4 + 1).toNatClampNeg) 0) &&& 255) = v2 → Aw G mX24_without (d + 1) t h0 Φ 95 [vR v0, vR v1, vI v2, vI v3, vI v4, vI v5, vU, vU] [] h))))))))))))) : Aw G mX24_without (d + 1) t h0 Φ 26 [vR v0, vR v1, vI v2, vI v3, vI v4, vI v5, vU, vU] [] h := by
  refine r_iload (pc := 26) dX24_without_26 rfl ?_
  refine r_aload_n (pc := 28) dX24_without_28 rfl ?_
  obtain ⟨hk1, K⟩ := K
  refine r_geti' (pc := 29) (T := TX24) 24 89 rfl hk1 (Or.inl q2787) dX24_without_29 kc24 g24089 ?_
  refine r_icmp_ge (pc := 32) (tgt := 195) dX24_without_32 rfl (fun c2 => ?_) (fun c2 => ?_)
  · have K := K.1 c2
    refine r_aload_n (pc := 195) dX24_without_195 rfl ?_
    have K := K _ rfl
    refine r_getr' (pc := 196) (T := TX24) 24 87 rfl hk1 (Or.inl q2785) dX24_without_196 kc24 g24087 ?_
    refine r_astore (pc := 199) (lv' := [_, _, _, _, _, _, _, _]) dX24_without_199 (by decide) rfl ?_
    refine r_aload_n (pc := 201) dX24_without_201 rfl ?_
    refine r_aload_n (pc := 202) dX24_without_202 rfl ?_
    have K := K _ rfl
    refine r_getr' (pc := 203) (T := TX24) 24 88 rfl hk1 (Or.inl q2786) dX24_without_203 kc24 g24088 ?_
    refine r_putr (pc := 206) (T := TX24) (key := 24087) 24 87 (ty := (.array .byte)) hk1 (Or.inl q2785) dX24_without_206 kc24 rfl rfl (Or.inl rfl) (Or.inl (em rfl)) ?_
    refine r_nameH (fun h5 eh5 => ?_)
    have K := K h5 eh5
    refine r_aload_n (pc := 209) dX24_without_209 rfl ?_
    refine r_aload (pc := 210) dX24_without_210 rfl ?_
    have hk6 := kd_pr eh5 hk1
    refine r_putr (pc := 212) (T := TX24) (key := 24088) 24 88 (ty := (.array .byte)) hk6 (Or.inl q2786) dX24_without_212 kc24 rfl rfl (Or.inl rfl) (Or.inl (em rfl)) ?_
    refine r_nameH (fun h7 eh7 => ?_)
    have K := K h7 eh7
    refine r_aload_n (pc := 215) dX24_without_215 rfl ?_
    refine r_iload (pc := 216) dX24_without_216 rfl ?_
    have hk8 := kd_pr eh7 hk6
    refine r_puti (pc := 218) (T := TX24) (key := 24089) 24 89 hk8 (Or.inl q2787) dX24_without_218 kc24 rfl (Or.inl rfl) (Or.inl (em rfl)) ?_
    refine r_nameH (fun h9 eh9 => ?_)
    have K := K h9 eh9
    exact r_vret (pc := 221) rfl dX24_without_221 K
  · have K := K.2 c2
    refine r_iload (pc := 35) dX24_without_35 rfl ?_
    refine r_iload_n (pc := 37) dX24_without_37 rfl ?_
    refine r_iadd (pc := 38) dX24_without_38 ?_
    refine r_iload_n (pc := 39) dX24_without_39 rfl ?_
    refine r_iadd (pc := 40) dX24_without_40 ?_
    refine r_aload_n (pc := 41) dX24_without_41 rfl ?_
    refine r_geti' (pc := 42) (T := TX24) 24 89 rfl hk1 (Or.inl q2787) dX24_without_42 kc24 g24089 ?_
    refine r_icmp_gt (pc := 45) (tgt := 116) dX24_without_45 rfl (fun c10 => ?_) (fun c10 => ?_)
    · have K := K.1 c10
      refine r_mask (pc := 116) [true, true, true, true, true, true, false, false] rfl ?_
      exact K
    · have K := K.2 c10
      refine r_aload_n (pc := 48) dX24_without_48 rfl ?_
      have K := K _ rfl
      refine r_getr' (pc := 49) (T := TX24) 24 87 rfl hk1 (Or.inl q2785) dX24_without_49 kc24 g24087 ?_
      refine r_iload (pc := 52) dX24_without_52 rfl ?_
      obtain ⟨hk12, K⟩ := K
      obtain ⟨hi13, K⟩ := K
      refine r_baload (pc := 54) hk12 hi13 dX24_without_54 ?_
      refine r_sipush (pc := 55) (x := 255) dX24_without_55 rfl ?_
      refine r_iand (pc := 58) dX24_without_58 ?_
      refine r_iload_n (pc := 59) dX24_without_59 rfl ?_
      refine r_iconst (pc := 60) (x := 1) dX24_without_60 rfl ?_
      refine r_icmp_ne (pc := 61) (tgt := 68) dX24_without_61 rfl (fun c14 => ?_) (fun c14 => ?_)
      · have K := K.1 c14
        refine r_bipush (pc := 68) (x := 76) dX24_without_68 rfl ?_
        refine r_icmp_ne (pc := 70) (tgt := 116) dX24_without_70 rfl (fun c15 => ?_) (fun c15 => ?_)
        · have K := K.1 c15
          refine r_mask (pc := 116) [true, true, true, true, true, true, false, false] rfl ?_
          exact K
        · have K := K.2 c15
          refine r_iload_n (pc := 73) dX24_without_73 rfl ?_
          refine r_iconst (pc := 74) (x := 1) dX24_without_74 rfl ?_
          refine r_icmp_eq (pc := 75) (tgt := 95) dX24_without_75 rfl (fun c16 => ?_) (fun c16 => ?_)
          · have K := K.1 c16
            refine r_mask (pc := 95) [true, true, true, true, true, true, false, false] rfl ?_
            exact K
          · have K := K.2 c16
            refine r_aload_n (pc := 78) dX24_without_78 rfl ?_
            refine r_getr' (pc := 79) (T := TX24) 24 87 rfl hk1 (Or.inl q2785) dX24_without_79 kc24 g24087 ?_
            refine r_iload (pc := 82) dX24_without_82 rfl ?_
            refine r_iconst (pc := 84) (x := 1) dX24_without_84 rfl ?_
            refine r_iadd (pc := 85) dX24_without_85 ?_
            obtain ⟨hi17, K⟩ := K
            refine r_baload (pc := 86) hk12 hi17 dX24_without_86 ?_
            refine r_sipush (pc := 87) (x := 255) dX24_without_87 rfl ?_
            refine r_iand (pc := 90) dX24_without_90 ?_
            refine r_iload_n (pc := 91) dX24_without_91 rfl ?_
            refine r_icmp_ne (pc := 92) (tgt := 116) dX24_without_92 rfl (fun c18 => ?_) (fun c18 => ?_)
            · have K := K.1 c18
              refine r_mask (pc := 116) [true, true, true, true, true, true, false, false] rfl ?_
              exact K
            · have K := K.2 c18
              refine r_mask (pc := 95) [true, true, true, true, true, true, false, false] rfl ?_
              exact K
      · have K := K.2 c14
        refine r_iload_n (pc := 64) dX24_without_64 rfl ?_
        refine r_goto (pc := 65) (tgt := 70) dX24_without_65 rfl ?_
        refine r_icmp_ne (pc := 70) (tgt := 116) dX24_without_70 rfl (fun c19 => ?_) (fun c19 => ?_)
        · have K := K.1 c19
          refine r_mask (pc := 116) [true, true, true, true, true, true, false, false] rfl ?_
          exact K
        · have K := K.2 c19
          refine r_iload_n (pc := 73) dX24_without_73 rfl ?_
          refine r_iconst (pc := 74) (x := 1) dX24_without_74 rfl ?_
          refine r_icmp_eq (pc := 75) (tgt := 95) dX24_without_75 rfl (fun c20 => ?_) (fun c20 => ?_)
          · have K := K.1 c20
            refine r_mask (pc := 95) [true, true, true, true, true, true, false, false] rfl ?_
            exact K
          · have K := K.2 c20
            refine r_aload_n (pc := 78) dX24_without_78 rfl ?_
            refine r_getr' (pc := 79) (T := TX24) 24 87 rfl hk1 (Or.inl q2785) dX24_without_79 kc24 g24087 ?_
            refine r_iload (pc := 82) dX24_without_82 rfl ?_
            refine r_iconst (pc := 84) (x := 1) dX24_without_84 rfl ?_
            refine r_iadd (pc := 85) dX24_without_85 ?_
            obtain ⟨hi21, K⟩ := K
            refine r_baload (pc := 86) hk12 hi21 dX24_without_86 ?_
            refine r_sipush (pc := 87) (x := 255) dX24_without_87 rfl ?_
            refine r_iand (pc := 90) dX24_without_90 ?_
            refine r_iload_n (pc := 91) dX24_without_91 rfl ?_
            refine r_icmp_ne (pc := 92) (tgt := 116) dX24_without_92 rfl (fun c22 => ?_) (fun c22 => ?_)
            · have K := K.1 c22
              refine r_mask (pc := 116) [true, true, true, true, true, true, false, false] rfl ?_
              exact K
            · have K := K.2 c22
              refine r_mask (pc := 95) [true, true, true, true, true, true, false, false] rfl ?_
              exact K
set_option maxHeartbeats 4000000 in
theorem sX24_without_95 {G : Gx} {d t : Nat} {h0 : AH} {Φ : Out → AH → Prop} (h : AH) (v0 : Nat) (v1 : Nat) (v2 : Int32) (v3 : Int32) (v4 : Int32) (v5 : Int32) (K : h.kd v0 = 24 ∧ ∀ r2 : Nat, r2 = (h.r 24087 v0) → Cw G mX24_alike d 0 [vR r2, vI (v4 + v3), vR v1, vI 0, vI v2] h (kI (fun x3 h4 => ((x3 = 0 → Aw G mX24_without (d + 1) t h0 Φ 116 [vR v0, vR v1, vI v2, vI v3, vI v4, vI v5, vU, vU] [] h4) ∧ (¬ x3 = 0 → (((1 : Int32) = 0 → Cw G mX24_behind d 0 [vR v0, vR r2, vI v4, vI (h4.i 24089 v0)] h4 (kI (fun x10 h11 => ((0 ≤ x10 → Aw G mX24_without (d + 1) t h0 Φ 162 [vR v0, vR v1, vI v2, vI v3, vI v4, vI v5, vU, vI x10] [] h11) ∧ (¬ 0 ≤ x10 → Aw G mX24_without (d + 1) t h0 Φ 162 [vR v0, vR v1, vI v2, vI v3, vI v4, vI v5, vU, vI (h4.i 24089 v0)] [] h11))) (fun x h => Φ (.inr x) h))) ∧ (¬ (1 : Int32) = 0 → Aw G mX24_without (d + 1) t h0 Φ 26 [vR v0, vR v1, vI v2, vI v3, vI (v4 + (v3 + v2)), vI v5, vU, vU] [] h4))))) (fun x h => Φ (.inr x) h))) : Aw G mX24_without (d + 1) t h0 Φ 95 [vR v0, vR v1, vI v2, vI v3, vI v4, vI v5, vU, vU] [] h := by
  refine r_aload_n (pc := 95) dX24_without_95 rfl ?_
  obtain ⟨hk1, K⟩ := K
  have K := K _ rfl
  refine r_getr' (pc := 96) (T := TX24) 24 87 rfl hk1 (Or.inl q2785) dX24_without_96 kc24 g24087 ?_
  refine r_iload (pc := 99) dX24_without_99 rfl ?_
  refine r_iload_n (pc := 101) dX24_without_101 rfl ?_
  refine r_iadd (pc := 102) dX24_without_102 ?_
  refine r_aload_n (pc := 103) dX24_without_103 rfl ?_
  refine r_iconst (pc := 104) (x := 0) dX24_without_104 rfl ?_
  refine r_iload_n (pc := 105) dX24_without_105 rfl ?_
  refine r_callS_I (pc := 106) (Y := mX24_alike) (vs := [_, _, _, _, _]) (st := []) q2464 q2465 q192 dX24_without_106 rfl cd_X24_alike rfl rfl fp_X24_without_X24_alike K (fun x3 h4 eh4 wh4 K => ?_) (fun x h1 _ _ e => Tw.out rfl e)
  refine r_if_eq (pc := 109) (tgt := 116) dX24_without_109 rfl (fun c5 => ?_) (fun c5 => ?_)
  · have K := K.1 c5
    refine r_mask (pc := 116) [true, true, true, true, true, true, false, false] rfl ?_
    exact K
  · have K := K.2 c5
    refine r_iconst (pc := 112) (x := 1) dX24_without_112 rfl ?_
    refine r_goto (pc := 113) (tgt := 117) dX24_without_113 rfl ?_
    refine r_istore (pc := 117) (lv' := [_, _, _, _, _, _, _, _]) dX24_without_117 (by decide) rfl ?_
    refine r_iload (pc := 119) dX24_without_119 rfl ?_
    refine r_if_eq (pc := 121) (tgt := 135) dX24_without_121 rfl (fun c6 => ?_) (fun c6 => ?_)
    · have K := K.1 c6
      refine r_aload_n (pc := 135) dX24_without_135 rfl ?_
      refine r_aload_n (pc := 136) dX24_without_136 rfl ?_
      have hk7 := kd_ext eh4 hk1 (nz rfl)
      have hv8 := fr_self (key := 24087) hk1
      have hv9 := (fr_ext (key := 24087) eh4 hk1 (nz rfl) (ne0 wh4 hk7 (nz rfl)) (nm rfl)).trans hv8
      refine r_getr' (pc := 137) (T := TX24) 24 87 hv9 hk7 (Or.inl q2785) dX24_without_137 kc24 g24087 ?_
      refine r_iload (pc := 140) dX24_without_140 rfl ?_
      refine r_aload_n (pc := 142) dX24_without_142 rfl ?_
      refine r_geti' (pc := 143) (T := TX24) 24 89 rfl hk7 (Or.inl q2787) dX24_without_143 kc24 g24089 ?_
      refine r_callV_I (pc := 146) (Y := mX24_behind) (vs := [_, _, _]) (st := []) hk7 rfl kc24 q2484 q2486 qs91 dX24_without_146 rfl cd_X24_behind rfl rfl fp_X24_without_X24_behind K (fun x10 h11 eh11 wh11 K => ?_) (fun x h1 _ _ e => Tw.out rfl e)
      refine r_istore (pc := 149) (lv' := [_, _, _, _, _, _, _, _]) dX24_without_149 (by decide) rfl ?_
      refine r_iload (pc := 151) dX24_without_151 rfl ?_
      refine r_if_ge (pc := 153) (tgt := 162) dX24_without_153 rfl (fun c12 => ?_) (fun c12 => ?_)
      · have K := K.1 c12
        refine r_mask (pc := 162) [true, true, true, true, true, true, false, true] rfl ?_
        exact K
      · have K := K.2 c12
        refine r_aload_n (pc := 156) dX24_without_156 rfl ?_
        have hk13 := kd_ext eh11 hk7 (nz rfl)
        have hv14 := fi_self (key := 24089) hk7
        have hv15 := (fi_ext (key := 24089) eh11 hk7 (nz rfl) (ne0 wh11 hk13 (nz rfl)) (nm rfl)).trans hv14
        refine r_geti' (pc := 157) (T := TX24) 24 89 hv15 hk13 (Or.inl q2787) dX24_without_157 kc24 g24089 ?_
        refine r_istore (pc := 160) (lv' := [_, _, _, _, _, _, _, _]) dX24_without_160 (by decide) rfl ?_
        refine r_mask (pc := 162) [true, true, true, true, true, true, false, true] rfl ?_
        exact K
    · have K := K.2 c6
      refine r_iload (pc := 124) dX24_without_124 rfl ?_
      refine r_iload_n (pc := 126) dX24_without_126 rfl ?_
      refine r_iload_n (pc := 127) dX24_without_127 rfl ?_
      refine r_iadd (pc := 128) dX24_without_128 ?_
      refine r_iadd (pc := 129) dX24_without_129 ?_
      refine r_istore (pc := 130) (lv' := [_, _, _, _, _, _, _, _]) dX24_without_130 (by decide) rfl ?_
      refine r_goto (pc := 132) (tgt := 26) dX24_without_132 rfl ?_
      refine r_mask (pc := 26) [true, true, true, true, true, true, false, false] rfl ?_
      exact K
set_option maxHeartbeats 4000000 in
theorem sX24_without_116 {G : Gx} {d t : Nat} {h0 : AH} {Φ : Out → AH → Prop} (h : AH) (v0 : Nat) (v1 : Nat) (v2 : Int32) (v3 : Int32) (v4 : Int32) (v5 : Int32) (K : (((0 : Int32) = 0 → h.kd v0 = 24 ∧ ∀ r3 : Nat, r3 = (h.r 24087 v0) → Cw G mX24_behind d 0 [vR v0, vR r3, vI v4, vI (h.i 24089 v0)] h (kI (fun x4 h5 => ((0 ≤ x4 → Aw G mX24_without (d + 1) t h0 Φ 162 [vR v0, vR v1, vI v2, vI v3, vI v4, vI v5, vU, vI x4] [] h5) ∧ (¬ 0 ≤ x4 → Aw G mX24_without (d + 1) t h0 Φ 162 [vR v0, vR v1, vI v2, vI v3, vI v4, vI v5, vU, vI (h.i 24089 v0)] [] h5))) (fun x h => Φ (.inr x) h))) ∧ (¬ (0 : Int32) = 0 → Aw G mX24_without (d + 1) t h0 Φ 26 [vR v0, vR v1, vI v2, vI v3, vI (v4 + (v3 + v2)), vI v5, vU, vU] [] h))) : Aw G mX24_without (d + 1) t h0 Φ 116 [vR v0, vR v1, vI v2, vI v3, vI v4, vI v5, vU, vU] [] h := by
  refine r_iconst (pc := 116) (x := 0) dX24_without_116 rfl ?_
  refine r_istore (pc := 117) (lv' := [_, _, _, _, _, _, _, _]) dX24_without_117 (by decide) rfl ?_
  refine r_iload (pc := 119) dX24_without_119 rfl ?_
  refine r_if_eq (pc := 121) (tgt := 135) dX24_without_121 rfl (fun c1 => ?_) (fun c1 => ?_)
  · have K := K.1 c1
    refine r_aload_n (pc := 135) dX24_without_135 rfl ?_
    refine r_aload_n (pc := 136) dX24_without_136 rfl ?_
    obtain ⟨hk2, K⟩ := K
    have K := K _ rfl
    refine r_getr' (pc := 137) (T := TX24) 24 87 rfl hk2 (Or.inl q2785) dX24_without_137 kc24 g24087 ?_
    refine r_iload (pc := 140) dX24_without_140 rfl ?_
    refine r_aload_n (pc := 142) dX24_without_142 rfl ?_
    refine r_geti' (pc := 143) (T := TX24) 24 89 rfl hk2 (Or.inl q2787) dX24_without_143 kc24 g24089 ?_
    refine r_callV_I (pc := 146) (Y := mX24_behind) (vs := [_, _, _]) (st := []) hk2 rfl kc24 q2484 q2486 qs91 dX24_without_146 rfl cd_X24_behind rfl rfl fp_X24_without_X24_behind K (fun x4 h5 eh5 wh5 K => ?_) (fun x h1 _ _ e => Tw.out rfl e)
    refine r_istore (pc := 149) (lv' := [_, _, _, _, _, _, _, _]) dX24_without_149 (by decide) rfl ?_
    refine r_iload (pc := 151) dX24_without_151 rfl ?_
    refine r_if_ge (pc := 153) (tgt := 162) dX24_without_153 rfl (fun c6 => ?_) (fun c6 => ?_)
    · have K := K.1 c6
      refine r_mask (pc := 162) [true, true, true, true, true, true, false, true] rfl ?_
      exact K
    · have K := K.2 c6
      refine r_aload_n (pc := 156) dX24_without_156 rfl ?_
      have hk7 := kd_ext eh5 hk2 (nz rfl)
      have hv8 := fi_self (key := 24089) hk2
      have hv9 := (fi_ext (key := 24089) eh5 hk2 (nz rfl) (ne0 wh5 hk7 (nz rfl)) (nm rfl)).trans hv8
      refine r_geti' (pc := 157) (T := TX24) 24 89 hv9 hk7 (Or.inl q2787) dX24_without_157 kc24 g24089 ?_
      refine r_istore (pc := 160) (lv' := [_, _, _, _, _, _, _, _]) dX24_without_160 (by decide) rfl ?_
      refine r_mask (pc := 162) [true, true, true, true, true, true, false, true] rfl ?_
      exact K
  · have K := K.2 c1
    refine r_iload (pc := 124) dX24_without_124 rfl ?_
    refine r_iload_n (pc := 126) dX24_without_126 rfl ?_
    refine r_iload_n (pc := 127) dX24_without_127 rfl ?_
    refine r_iadd (pc := 128) dX24_without_128 ?_
    refine r_iadd (pc := 129) dX24_without_129 ?_
    refine r_istore (pc := 130) (lv' := [_, _, _, _, _, _, _, _]) dX24_without_130 (by decide) rfl ?_
    refine r_goto (pc := 132) (tgt := 26) dX24_without_132 rfl ?_
    refine r_mask (pc := 26) [true, true, true, true, true, true, false, false] rfl ?_
    exact K
set_option maxHeartbeats 4000000 in
theorem sX24_without_162 {G : Gx} {d t : Nat} {h0 : AH} {Φ : Out → AH → Prop} (h : AH) (v0 : Nat) (v1 : Nat) (v2 : Int32) (v3 : Int32) (v4 : Int32) (v5 : Int32) (v7 : Int32) (K : ((v7 ≤ v4 → Aw G mX24_without (d + 1) t h0 Φ 26 [vR v0, vR v1, vI v2, vI v3, vI v4, vI v5, vU, vU] [] h) ∧ (¬ v7 ≤ v4 → h.kd v0 = 24 ∧ ∀ r3 : Nat, r3 = (h.r 24088 v0) → ∀ r4 : Nat, r4 = (h.r 24087 v0) → h.kd r4 = 101 ∧ vp_in v4 (h.ai r4).length ∧ h.kd r3 = 101 ∧ vp_in v5 (h.ai r3).length ∧ ∀ h9 : AH, h9 = h.wi r3 ((h.ai r3).set (v5.toNatClampNeg) (i2b ((h.ai r4).getD (v4.toNatClampNeg) 0))) → Aw G mX24_without (d + 1) t h0 Φ 162 [vR v0, vR v1, vI v2, vI v3, vI (v4 + 1), vI (v5 + 1), vU, vI v7] [] h9))) : Aw G mX24_without (d + 1) t h0 Φ 162 [vR v0, vR v1, vI v2, vI v3, vI v4, vI v5, vU, vI v7] [] h := by
  refine r_iload (pc := 162) dX24_without_162 rfl ?_
  refine r_iload (pc := 164) dX24_without_164 rfl ?_
  refine r_icmp_ge (pc := 166) (tgt := 192) dX24_without_166 rfl (fun c1 => ?_) (fun c1 => ?_)
  · have K := K.1 c1
    refine r_goto (pc := 192) (tgt := 26) dX24_without_192 rfl ?_
    refine r_mask (pc := 26) [true, true, true, true, true, true, false, false] rfl ?_
    exact K
  · have K := K.2 c1
    refine r_aload_n (pc := 169) dX24_without_169 rfl ?_
    obtain ⟨hk2, K⟩ := K
    have K := K _ rfl
    refine r_getr' (pc := 170) (T := TX24) 24 88 rfl hk2 (Or.inl q2786) dX24_without_170 kc24 g24088 ?_
    refine r_iload (pc := 173) dX24_without_173 rfl ?_
    refine r_aload_n (pc := 175) dX24_without_175 rfl ?_
    have K := K _ rfl
    refine r_getr' (pc := 176) (T := TX24) 24 87 rfl hk2 (Or.inl q2785) dX24_without_176 kc24 g24087 ?_
    refine r_iload (pc := 179) dX24_without_179 rfl ?_
    obtain ⟨hk5, K⟩ := K
    obtain ⟨hi6, K⟩ := K
    refine r_baload (pc := 181) hk5 hi6 dX24_without_181 ?_
    obtain ⟨hk7, K⟩ := K
    obtain ⟨hi8, K⟩ := K
    refine r_jbast (pc := 182) hk7 hi8 (Or.inl (em rfl)) dX24_without_182 ?_
    refine r_nameH (fun h9 eh9 => ?_)
    have K := K h9 eh9
    refine r_iinc (pc := 183) (lv' := [_, _, _, _, _, _, _, _]) dX24_without_183 rfl rfl (by decide) rfl ?_
    refine r_iinc (pc := 186) (lv' := [_, _, _, _, _, _, _, _]) dX24_without_186 rfl rfl (by decide) rfl ?_
    refine r_goto (pc := 189) (tgt := 162) dX24_without_189 rfl ?_
    refine r_mask (pc := 162) [true, true, true, true, true, true, false, true] rfl ?_
    exact K
theorem dX24_asked_0 : decode cX24_asked 0 = .ok (.aload_n 0, 1) := by decide +kernel
theorem dX24_asked_1 : decode cX24_asked 1 = .ok (.getfield 527, 3) := by decide +kernel
theorem dX24_asked_4 : decode cX24_asked 4 = .ok (.aload_n 0, 1) := by decide +kernel
theorem dX24_asked_5 : decode cX24_asked 5 = .ok (.getfield 521, 3) := by decide +kernel
theorem dX24_asked_8 : decode cX24_asked 8 = .ok (.iconst 1, 1) := by decide +kernel
theorem dX24_asked_9 : decode cX24_asked 9 = .ok (.isub, 1) := by decide +kernel
theorem dX24_asked_10 : decode cX24_asked 10 = .ok (.aaload, 1) := by decide +kernel
theorem dX24_asked_11 : decode cX24_asked 11 = .ok (.astore_n 2, 1) := by decide +kernel
theorem dX24_asked_12 : decode cX24_asked 12 = .ok (.aload_n 0, 1) := by decide +kernel
theorem dX24_asked_13 : decode cX24_asked 13 = .ok (.getfield 527, 3) := by decide +kernel
theorem dX24_asked_16 : decode cX24_asked 16 = .ok (.aload_n 0, 1) := by decide +kernel
theorem dX24_asked_17 : decode cX24_asked 17 = .ok (.getfield 521, 3) := by decide +kernel
theorem dX24_asked_20 : decode cX24_asked 20 = .ok (.iconst 2, 1) := by decide +kernel
theorem dX24_asked_21 : decode cX24_asked 21 = .ok (.isub, 1) := by decide +kernel
theorem dX24_asked_22 : decode cX24_asked 22 = .ok (.aaload, 1) := by decide +kernel
theorem dX24_asked_23 : decode cX24_asked 23 = .ok (.astore_n 3, 1) := by decide +kernel
theorem dX24_asked_24 : decode cX24_asked 24 = .ok (.aload_n 0, 1) := by decide +kernel
theorem dX24_asked_25 : decode cX24_asked 25 = .ok (.getfield 535, 3) := by decide +kernel
theorem dX24_asked_28 : decode cX24_asked 28 = .ok (.aload_n 0, 1) := by decide +kernel
theorem dX24_asked_29 : decode cX24_asked 29 = .ok (.getfield 521, 3) := by decide +kernel
theorem dX24_asked_32 : decode cX24_asked 32 = .ok (.iconst 1, 1) := by decide +kernel
theorem dX24_asked_33 : decode cX24_asked 33 = .ok (.isub, 1) := by decide +kernel
theorem dX24_asked_34 : decode cX24_asked 34 = .ok (.iaload, 1) := by decide +kernel
theorem dX24_asked_35 : decode cX24_asked 35 = .ok (.istore 4, 2) := by decide +kernel
theorem dX24_asked_37 : decode cX24_asked 37 = .ok (.aload_n 0, 1) := by decide +kernel
theorem dX24_asked_38 : decode cX24_asked 38 = .ok (.getfield 535, 3) := by decide +kernel
theorem dX24_asked_41 : decode cX24_asked 41 = .ok (.aload_n 0, 1) := by decide +kernel
theorem dX24_asked_42 : decode cX24_asked 42 = .ok (.getfield 521, 3) := by decide +kernel
theorem dX24_asked_45 : decode cX24_asked 45 = .ok (.iconst 2, 1) := by decide +kernel
theorem dX24_asked_46 : decode cX24_asked 46 = .ok (.isub, 1) := by decide +kernel
theorem dX24_asked_47 : decode cX24_asked 47 = .ok (.iaload, 1) := by decide +kernel
theorem dX24_asked_48 : decode cX24_asked 48 = .ok (.istore 5, 2) := by decide +kernel
theorem dX24_asked_50 : decode cX24_asked 50 = .ok (.aload_n 0, 1) := by decide +kernel
theorem dX24_asked_51 : decode cX24_asked 51 = .ok (.aload_n 0, 1) := by decide +kernel
theorem dX24_asked_52 : decode cX24_asked 52 = .ok (.getfield 548, 3) := by decide +kernel
theorem dX24_asked_55 : decode cX24_asked 55 = .ok (.aload_n 0, 1) := by decide +kernel
theorem dX24_asked_56 : decode cX24_asked 56 = .ok (.getfield 551, 3) := by decide +kernel
theorem dX24_asked_59 : decode cX24_asked 59 = .ok (.aload_n 0, 1) := by decide +kernel
theorem dX24_asked_60 : decode cX24_asked 60 = .ok (.getfield 554, 3) := by decide +kernel
theorem dX24_asked_63 : decode cX24_asked 63 = .ok (.aload_n 0, 1) := by decide +kernel
theorem dX24_asked_64 : decode cX24_asked 64 = .ok (.getfield 551, 3) := by decide +kernel
theorem dX24_asked_67 : decode cX24_asked 67 = .ok (.isub, 1) := by decide +kernel
theorem dX24_asked_68 : decode cX24_asked 68 = .ok (.invokevirtual 690, 3) := by decide +kernel
theorem dX24_asked_71 : decode cX24_asked 71 = .ok (.aload_n 0, 1) := by decide +kernel
theorem dX24_asked_72 : decode cX24_asked 72 = .ok (.aload_n 3, 1) := by decide +kernel
theorem dX24_asked_73 : decode cX24_asked 73 = .ok (.iload 5, 2) := by decide +kernel
theorem dX24_asked_75 : decode cX24_asked 75 = .ok (.invokevirtual 693, 3) := by decide +kernel
theorem dX24_asked_78 : decode cX24_asked 78 = .ok (.aload_n 0, 1) := by decide +kernel
theorem dX24_asked_79 : decode cX24_asked 79 = .ok (.aload_n 3, 1) := by decide +kernel
theorem dX24_asked_80 : decode cX24_asked 80 = .ok (.iload 5, 2) := by decide +kernel
theorem dX24_asked_82 : decode cX24_asked 82 = .ok (.aload_n 2, 1) := by decide +kernel
theorem dX24_asked_83 : decode cX24_asked 83 = .ok (.iload 4, 2) := by decide +kernel
theorem dX24_asked_85 : decode cX24_asked 85 = .ok (.invokevirtual 696, 3) := by decide +kernel
theorem dX24_asked_88 : decode cX24_asked 88 = .ok (.istore 6, 2) := by decide +kernel
theorem dX24_asked_90 : decode cX24_asked 90 = .ok (.aload_n 0, 1) := by decide +kernel
theorem dX24_asked_91 : decode cX24_asked 91 = .ok (.dup, 1) := by decide +kernel
theorem dX24_asked_92 : decode cX24_asked 92 = .ok (.getfield 521, 3) := by decide +kernel
theorem dX24_asked_95 : decode cX24_asked 95 = .ok (.iconst 2, 1) := by decide +kernel
theorem dX24_asked_96 : decode cX24_asked 96 = .ok (.isub, 1) := by decide +kernel
theorem dX24_asked_97 : decode cX24_asked 97 = .ok (.putfield 521, 3) := by decide +kernel
theorem dX24_asked_100 : decode cX24_asked 100 = .ok (.aload_n 0, 1) := by decide +kernel
theorem dX24_asked_101 : decode cX24_asked 101 = .ok (.getfield 524, 3) := by decide +kernel
theorem dX24_asked_104 : decode cX24_asked 104 = .ok (.ifCond .ne 21, 3) := by decide +kernel
theorem dX24_asked_107 : decode cX24_asked 107 = .ok (.aload_n 0, 1) := by decide +kernel
theorem dX24_asked_108 : decode cX24_asked 108 = .ok (.iload 6, 2) := by decide +kernel
theorem dX24_asked_110 : decode cX24_asked 110 = .ok (.iload_n 1, 1) := by decide +kernel
theorem dX24_asked_111 : decode cX24_asked 111 = .ok (.sipush 173, 3) := by decide +kernel
theorem dX24_asked_114 : decode cX24_asked 114 = .ok (.if_icmp .ne 7, 3) := by decide +kernel
theorem dX24_asked_117 : decode cX24_asked 117 = .ok (.iconst 1, 1) := by decide +kernel
theorem dX24_asked_118 : decode cX24_asked 118 = .ok (.goto 4, 3) := by decide +kernel
theorem dX24_asked_121 : decode cX24_asked 121 = .ok (.iconst 0, 1) := by decide +kernel
theorem dX24_asked_122 : decode cX24_asked 122 = .ok (.invokevirtual 595, 3) := by decide +kernel
theorem dX24_asked_125 : decode cX24_asked 125 = .ok (.return_, 1) := by decide +kernel
/-! CoinJudgeModel.asked(I)V -/
set_option maxHeartbeats 4000000 in
theorem sX24_asked_0 {G : Gx} {d t : Nat} {h0 : AH} {Φ : Out → AH → Prop} (h : AH) (v0 : Nat) (v1 : Int32) (K : h.kd v0 = 24 ∧ ∀ r2 : Nat, r2 = (h.r 24065 v0) → h.kd r2 = 115 ∧ vp_in ((h.i 24067 v0) - 1) (h.ar r2).length ∧ ∀ r5 : Nat, r5 = ((h.ar r2).getD (((h.i 24067 v0) - 1).toNatClampNeg) 0) → vp_in ((h.i 24067 v0) - 2) (h.ar r2).length ∧ ∀ r7 : Nat, r7 = ((h.ar r2).getD (((h.i 24067 v0) - 2).toNatClampNeg) 0) → ∀ r8 : Nat, r8 = (h.r 24066 v0) → h.kd r8 = 100 ∧ vp_in ((h.i 24067 v0) - 1) (h.ai r8).length ∧ ∀ u11 : Int32, u11 = ((h.ai r8).getD (((h.i 24067 v0) - 1).toNatClampNeg) 0) → vp_in ((h.i 24067 v0) - 2) (h.ai r8).length ∧ ∀ u13 : Int32, u13 = ((h.ai r8).getD (((h.i 24067 v0) - 2).toNatClampNeg) 0) → ∀ r14 : Nat, r14 = (h.r 24079 v0) → Cw G mX24_load d 0 [vR v0, vR r14, vI (h.i 24080 v0), vI ((h.i 24081 v0) - (h.i 24080 v0))] h (kV (fun h16 => Cw G mX24_without d 0 [vR v0, vR r7, vI u13] h16 (kV (fun h18 => Cw G mX24_isGood d 0 [vR v0, vR r7, vI u13, vR r5, vI u11] h18 (kI (fun x20 h21 => ∀ h28 : AH, h28 = h21.pi 24067 v0 ((h.i 24067 v0) - 2) → ((¬ (h28.i 24074 v0) = 0 → Φ (.inl none) h28) ∧ ((h28.i 24074 v0) = 0 → ((¬ v1 = 173 → Cw G mX24_answer d 0 [vR v0, vI x20, vI 0] h28 (kV (fun h33 => Φ (.inl none) h33) (fun x h => Φ (.inr x) h))) ∧ (v1 = 173 → Cw G mX24_answer d 0 [vR v0, vI x20, vI 1] h28 (kV (fun h35 => Φ (.inl none) h35) (fun x h => Φ (.inr x) h))))))) (fun x h => Φ (.inr x) h))) (fun x h => Φ (.inr x) h))) (fun x h => Φ (.inr x) h))) : Aw G mX24_asked (d + 1) t h0 Φ 0 [vR v0, vI v1, vU, vU, vU, vU, vU] [] h := by
  refine r_aload_n (pc := 0) dX24_asked_0 rfl ?_
  obtain ⟨hk1, K⟩ := K
  have K := K _ rfl
  refine r_getr' (pc := 1) (T := TX24) 24 65 rfl hk1 (Or.inl q2763) dX24_asked_1 kc24 g24065 ?_
  refine r_aload_n (pc := 4) dX24_asked_4 rfl ?_
  refine r_geti' (pc := 5) (T := TX24) 24 67 rfl hk1 (Or.inl q2765) dX24_asked_5 kc24 g24067 ?_
  refine r_iconst (pc := 8) (x := 1) dX24_asked_8 rfl ?_
  refine r_isub (pc := 9) dX24_asked_9 ?_
  obtain ⟨hk3, K⟩ := K
  obtain ⟨hi4, K⟩ := K
  have K := K _ rfl
  refine r_aaload (pc := 10) (le_of_eq_r hk3 (by decide)) hi4 dX24_asked_10 ?_
  refine r_astore_n (pc := 11) (lv' := [_, _, _, _, _, _, _]) dX24_asked_11 (by decide) rfl ?_
  refine r_aload_n (pc := 12) dX24_asked_12 rfl ?_
  refine r_getr' (pc := 13) (T := TX24) 24 65 rfl hk1 (Or.inl q2763) dX24_asked_13 kc24 g24065 ?_
  refine r_aload_n (pc := 16) dX24_asked_16 rfl ?_
  refine r_geti' (pc := 17) (T := TX24) 24 67 rfl hk1 (Or.inl q2765) dX24_asked_17 kc24 g24067 ?_
  refine r_iconst (pc := 20) (x := 2) dX24_asked_20 rfl ?_
  refine r_isub (pc := 21) dX24_asked_21 ?_
  obtain ⟨hi6, K⟩ := K
  have K := K _ rfl
  refine r_aaload (pc := 22) (le_of_eq_r hk3 (by decide)) hi6 dX24_asked_22 ?_
  refine r_astore_n (pc := 23) (lv' := [_, _, _, _, _, _, _]) dX24_asked_23 (by decide) rfl ?_
  refine r_aload_n (pc := 24) dX24_asked_24 rfl ?_
  have K := K _ rfl
  refine r_getr' (pc := 25) (T := TX24) 24 66 rfl hk1 (Or.inl q2764) dX24_asked_25 kc24 g24066 ?_
  refine r_aload_n (pc := 28) dX24_asked_28 rfl ?_
  refine r_geti' (pc := 29) (T := TX24) 24 67 rfl hk1 (Or.inl q2765) dX24_asked_29 kc24 g24067 ?_
  refine r_iconst (pc := 32) (x := 1) dX24_asked_32 rfl ?_
  refine r_isub (pc := 33) dX24_asked_33 ?_
  obtain ⟨hk9, K⟩ := K
  obtain ⟨hi10, K⟩ := K
  refine r_iaload (pc := 34) hk9 hi10 dX24_asked_34 ?_
  have K := K _ rfl
  refine r_istore (pc := 35) (lv' := [_, _, _, _, _, _, _]) dX24_asked_35 (by decide) rfl ?_
  refine r_aload_n (pc := 37) dX24_asked_37 rfl ?_
  refine r_getr' (pc := 38) (T := TX24) 24 66 rfl hk1 (Or.inl q2764) dX24_asked_38 kc24 g24066 ?_
  refine r_aload_n (pc := 41) dX24_asked_41 rfl ?_
  refine r_geti' (pc := 42) (T := TX24) 24 67 rfl hk1 (Or.inl q2765) dX24_asked_42 kc24 g24067 ?_
  refine r_iconst (pc := 45) (x := 2) dX24_asked_45 rfl ?_
  refine r_isub (pc := 46) dX24_asked_46 ?_
  obtain ⟨hi12, K⟩ := K
  refine r_iaload (pc := 47) hk9 hi12 dX24_asked_47 ?_
  have K := K _ rfl
  refine r_istore (pc := 48) (lv' := [_, _, _, _, _, _, _]) dX24_asked_48 (by decide) rfl ?_
  refine r_aload_n (pc := 50) dX24_asked_50 rfl ?_
  refine r_aload_n (pc := 51) dX24_asked_51 rfl ?_
  have K := K _ rfl
  refine r_getr' (pc := 52) (T := TX24) 24 79 rfl hk1 (Or.inl q2777) dX24_asked_52 kc24 g24079 ?_
  refine r_aload_n (pc := 55) dX24_asked_55 rfl ?_
  refine r_geti' (pc := 56) (T := TX24) 24 80 rfl hk1 (Or.inl q2778) dX24_asked_56 kc24 g24080 ?_
  refine r_aload_n (pc := 59) dX24_asked_59 rfl ?_
  refine r_geti' (pc := 60) (T := TX24) 24 81 rfl hk1 (Or.inl q2779) dX24_asked_60 kc24 g24081 ?_
  refine r_aload_n (pc := 63) dX24_asked_63 rfl ?_
  refine r_geti' (pc := 64) (T := TX24) 24 80 rfl hk1 (Or.inl q2778) dX24_asked_64 kc24 g24080 ?_
  refine r_isub (pc := 67) dX24_asked_67 ?_
  refine r_callV_V (pc := 68) (Y := mX24_load) (vs := [_, _, _]) (st := []) hk1 rfl kc24 q2567 q2569 qs109 dX24_asked_68 rfl cd_X24_load rfl rfl fp_X24_asked_X24_load K (fun h16 eh16 wh16 K => ?_) (fun x h1 _ _ e => Tw.out rfl e)
  refine r_aload_n (pc := 71) dX24_asked_71 rfl ?_
  refine r_aload_n (pc := 72) dX24_asked_72 rfl ?_
  refine r_iload (pc := 73) dX24_asked_73 rfl ?_
  have hk19 := kd_ext eh16 hk1 (nz rfl)
  refine r_callV_V (pc := 75) (Y := mX24_without) (vs := [_, _]) (st := []) hk19 rfl kc24 q2571 q2573 qs110 dX24_asked_75 rfl cd_X24_without rfl rfl fp_X24_asked_X24_without K (fun h18 eh18 wh18 K => ?_) (fun x h1 _ _ e => Tw.out rfl e)
  refine r_aload_n (pc := 78) dX24_asked_78 rfl ?_
  refine r_aload_n (pc := 79) dX24_asked_79 rfl ?_
  refine r_iload (pc := 80) dX24_asked_80 rfl ?_
  refine r_aload_n (pc := 82) dX24_asked_82 rfl ?_
  refine r_iload (pc := 83) dX24_asked_83 rfl ?_
  have hk22 := kd_ext eh18 hk19 (nz rfl)
  refine r_callV_I (pc := 85) (Y := mX24_isGood) (vs := [_, _, _, _]) (st := []) hk22 rfl kc24 q2575 q2577 qs111 dX24_asked_85 rfl cd_X24_isGood rfl rfl fp_X24_asked_X24_isGood K (fun x20 h21 eh21 wh21 K => ?_) (fun x h1 _ _ e => Tw.out rfl e)
  refine r_istore (pc := 88) (lv' := [_, _, _, _, _, _, _]) dX24_asked_88 (by decide) rfl ?_
  refine r_aload_n (pc := 90) dX24_asked_90 rfl ?_
  refine r_dup (pc := 91) rfl dX24_asked_91 ?_
  have hk23 := kd_ext eh21 hk22 (nz rfl)
  have hv24 := fi_self (key := 24067) hk1
  have hv25 := (fi_ext (key := 24067) eh16 hk1 (nz rfl) (ne0 wh16 hk19 (nz rfl)) (nm rfl)).trans hv24
  have hv26 := (fi_ext (key := 24067) eh18 hk19 (nz rfl) (ne0 wh18 hk22 (nz rfl)) (nm rfl)).trans hv25
  have hv27 := (fi_ext (key := 24067) eh21 hk22 (nz rfl) (ne0 wh21 hk23 (nz rfl)) (nm rfl)).trans hv26
  refine r_geti' (pc := 92) (T := TX24) 24 67 hv27 hk23 (Or.inl q2765) dX24_asked_92 kc24 g24067 ?_
  refine r_iconst (pc := 95) (x := 2) dX24_asked_95 rfl ?_
  refine r_isub (pc := 96) dX24_asked_96 ?_
  refine r_puti (pc := 97) (T := TX24) (key := 24067) 24 67 hk23 (Or.inl q2765) dX24_asked_97 kc24 rfl (Or.inl rfl) (Or.inl (em rfl)) ?_
  refine r_nameH (fun h28 eh28 => ?_)
  have K := K h28 eh28
  refine r_aload_n (pc := 100) dX24_asked_100 rfl ?_
  have hk29 := kd_pi eh28 hk23
  refine r_geti' (pc := 101) (T := TX24) 24 74 rfl hk29 (Or.inl q2772) dX24_asked_101 kc24 g24074 ?_
  refine r_if_ne (pc := 104) (tgt := 125) dX24_asked_104 rfl (fun c30 => ?_) (fun c30 => ?_)
  · have K := K.1 c30
    exact r_vret (pc := 125) rfl dX24_asked_125 K
  · have K := K.2 c30
    refine r_aload_n (pc := 107) dX24_asked_107 rfl ?_
    refine r_iload (pc := 108) dX24_asked_108 rfl ?_
    refine r_iload_n (pc := 110) dX24_asked_110 rfl ?_
    refine r_sipush (pc := 111) (x := 173) dX24_asked_111 rfl ?_
    refine r_icmp_ne (pc := 114) (tgt := 121) dX24_asked_114 rfl (fun c31 => ?_) (fun c31 => ?_)
    · have K := K.1 c31
      refine r_iconst (pc := 121) (x := 0) dX24_asked_121 rfl ?_
      refine r_callV_V (pc := 122) (Y := mX24_answer) (vs := [_, _]) (st := []) hk29 rfl kc24 q2534 q2536 qs102 dX24_asked_122 rfl cd_X24_answer rfl rfl fp_X24_asked_X24_answer K (fun h33 eh33 wh33 K => ?_) (fun x h1 _ _ e => Tw.out rfl e)
      exact r_vret (pc := 125) rfl dX24_asked_125 K
    · have K := K.2 c31
      refine r_iconst (pc := 117) (x := 1) dX24_asked_117 rfl ?_
      refine r_goto (pc := 118) (tgt := 122) dX24_asked_118 rfl ?_
      refine r_callV_V (pc := 122) (Y := mX24_answer) (vs := [_, _]) (st := []) hk29 rfl kc24 q2534 q2536 qs102 dX24_asked_122 rfl cd_X24_answer rfl rfl fp_X24_asked_X24_answer K (fun h35 eh35 wh35 K => ?_) (fun x h1 _ _ e => Tw.out rfl e)
      exact r_vret (pc := 125) rfl dX24_asked_125 K
theorem eX24_asked {G : Gx} {d : Nat} {Φ : Out → AH → Prop} (h : AH) (v0 : Nat) (v1 : Int32) (K : WF G h → Aw G mX24_asked (d + 1) 0 h Φ 0 [vR v0, vI v1, vU, vU, vU, vU, vU] [] h) : Cw G mX24_asked (d + 1) 0 [vR v0, vI v1] h Φ := Cw.of rfl K
theorem dX24_side_0 : decode cX24_side 0 = .ok (.aload_n 1, 1) := by decide +kernel
theorem dX24_side_1 : decode cX24_side 1 = .ok (.iconst 1, 1) := by decide +kernel
theorem dX24_side_2 : decode cX24_side 2 = .ok (.iaload, 1) := by decide +kernel
theorem dX24_side_3 : decode cX24_side 3 = .ok (.istore 5, 2) := by decide +kernel
theorem dX24_side_5 : decode cX24_side 5 = .ok (.aload_n 1, 1) := by decide +kernel
theorem dX24_side_6 : decode cX24_side 6 = .ok (.iconst 2, 1) := by decide +kernel
theorem dX24_side_7 : decode cX24_side 7 = .ok (.iaload, 1) := by decide +kernel
theorem dX24_side_8 : decode cX24_side 8 = .ok (.istore 6, 2) := by decide +kernel
theorem dX24_side_10 : decode cX24_side 10 = .ok (.aload_n 1, 1) := by decide +kernel
theorem dX24_side_11 : decode cX24_side 11 = .ok (.iconst 3, 1) := by decide +kernel
theorem dX24_side_12 : decode cX24_side 12 = .ok (.iaload, 1) := by decide +kernel
theorem dX24_side_13 : decode cX24_side 13 = .ok (.istore 7, 2) := by decide +kernel
theorem dX24_side_15 : decode cX24_side 15 = .ok (.iload_n 2, 1) := by decide +kernel
theorem dX24_side_16 : decode cX24_side 16 = .ok (.ifCond .ne 14, 3) := by decide +kernel
theorem dX24_side_19 : decode cX24_side 19 = .ok (.iload 5, 2) := by decide +kernel
theorem dX24_side_21 : decode cX24_side 21 = .ok (.iload 6, 2) := by decide +kernel
theorem dX24_side_23 : decode cX24_side 23 = .ok (.ixor, 1) := by decide +kernel
theorem dX24_side_24 : decode cX24_side 24 = .ok (.iload 7, 2) := by decide +kernel
theorem dX24_side_26 : decode cX24_side 26 = .ok (.ixor, 1) := by decide +kernel
theorem dX24_side_27 : decode cX24_side 27 = .ok (.goto 73, 3) := by decide +kernel
theorem dX24_side_30 : decode cX24_side 30 = .ok (.iload_n 2, 1) := by decide +kernel
theorem dX24_side_31 : decode cX24_side 31 = .ok (.iconst 1, 1) := by decide +kernel
theorem dX24_side_32 : decode cX24_side 32 = .ok (.if_icmp .ne 19, 3) := by decide +kernel
theorem dX24_side_35 : decode cX24_side 35 = .ok (.iload 5, 2) := by decide +kernel
theorem dX24_side_37 : decode cX24_side 37 = .ok (.iload 6, 2) := by decide +kernel
theorem dX24_side_39 : decode cX24_side 39 = .ok (.iand, 1) := by decide +kernel
theorem dX24_side_40 : decode cX24_side 40 = .ok (.iload 5, 2) := by decide +kernel
theorem dX24_side_42 : decode cX24_side 42 = .ok (.iconst (-1), 1) := by decide +kernel
theorem dX24_side_43 : decode cX24_side 43 = .ok (.ixor, 1) := by decide +kernel
theorem dX24_side_44 : decode cX24_side 44 = .ok (.iload 7, 2) := by decide +kernel
theorem dX24_side_46 : decode cX24_side 46 = .ok (.iand, 1) := by decide +kernel
theorem dX24_side_47 : decode cX24_side 47 = .ok (.ior, 1) := by decide +kernel
theorem dX24_side_48 : decode cX24_side 48 = .ok (.goto 52, 3) := by decide +kernel
theorem dX24_side_51 : decode cX24_side 51 = .ok (.iload_n 2, 1) := by decide +kernel
theorem dX24_side_52 : decode cX24_side 52 = .ok (.iconst 2, 1) := by decide +kernel
theorem dX24_side_53 : decode cX24_side 53 = .ok (.if_icmp .ne 16, 3) := by decide +kernel
theorem dX24_side_56 : decode cX24_side 56 = .ok (.iload 5, 2) := by decide +kernel
theorem dX24_side_58 : decode cX24_side 58 = .ok (.iload 6, 2) := by decide +kernel
theorem dX24_side_60 : decode cX24_side 60 = .ok (.iconst (-1), 1) := by decide +kernel
theorem dX24_side_61 : decode cX24_side 61 = .ok (.ixor, 1) := by decide +kernel
theorem dX24_side_62 : decode cX24_side 62 = .ok (.ior, 1) := by decide +kernel
theorem dX24_side_63 : decode cX24_side 63 = .ok (.iload 7, 2) := by decide +kernel
theorem dX24_side_65 : decode cX24_side 65 = .ok (.ixor, 1) := by decide +kernel
theorem dX24_side_66 : decode cX24_side 66 = .ok (.goto 34, 3) := by decide +kernel
theorem dX24_side_69 : decode cX24_side 69 = .ok (.iload_n 2, 1) := by decide +kernel
theorem dX24_side_70 : decode cX24_side 70 = .ok (.iconst 3, 1) := by decide +kernel
theorem dX24_side_71 : decode cX24_side 71 = .ok (.if_icmp .ne 19, 3) := by decide +kernel
theorem dX24_side_74 : decode cX24_side 74 = .ok (.iload 5, 2) := by decide +kernel
theorem dX24_side_76 : decode cX24_side 76 = .ok (.iload 7, 2) := by decide +kernel
theorem dX24_side_78 : decode cX24_side 78 = .ok (.iand, 1) := by decide +kernel
theorem dX24_side_79 : decode cX24_side 79 = .ok (.iload 6, 2) := by decide +kernel
theorem dX24_side_81 : decode cX24_side 81 = .ok (.iload 7, 2) := by decide +kernel
theorem dX24_side_83 : decode cX24_side 83 = .ok (.iconst (-1), 1) := by decide +kernel
theorem dX24_side_84 : decode cX24_side 84 = .ok (.ixor, 1) := by decide +kernel
theorem dX24_side_85 : decode cX24_side 85 = .ok (.iand, 1) := by decide +kernel
theorem dX24_side_86 : decode cX24_side 86 = .ok (.ior, 1) := by decide +kernel
theorem dX24_side_87 : decode cX24_side 87 = .ok (.goto 13, 3) := by decide +kernel
theorem dX24_side_90 : decode cX24_side 90 = .ok (.iload 5, 2) := by decide +kernel
theorem dX24_side_92 : decode cX24_side 92 = .ok (.iload 6, 2) := by decide +kernel
theorem dX24_side_94 : decode cX24_side 94 = .ok (.iload 7, 2) := by decide +kernel
theorem dX24_side_96 : decode cX24_side 96 = .ok (.iconst (-1), 1) := by decide +kernel
theorem dX24_side_97 : decode cX24_side 97 = .ok (.ixor, 1) := by decide +kernel
theorem dX24_side_98 : decode cX24_side 98 = .ok (.ior, 1) := by decide +kernel
theorem dX24_side_99 : decode cX24_side 99 = .ok (.ixor, 1) := by decide +kernel
theorem dX24_side_100 : decode cX24_side 100 = .ok (.istore 8, 2) := by decide +kernel
theorem dX24_side_102 : decode cX24_side 102 = .ok (.aload_n 1, 1) := by decide +kernel
theorem dX24_side_103 : decode cX24_side 103 = .ok (.iconst 0, 1) := by decide +kernel
theorem dX24_side_104 : decode cX24_side 104 = .ok (.iaload, 1) := by decide +kernel
theorem dX24_side_105 : decode cX24_side 105 = .ok (.iload 8, 2) := by decide +kernel
theorem dX24_side_107 : decode cX24_side 107 = .ok (.iadd, 1) := by decide +kernel
theorem dX24_side_108 : decode cX24_side 108 = .ok (.aload_n 0, 1) := by decide +kernel
theorem dX24_side_109 : decode cX24_side 109 = .ok (.getfield 38, 3) := by decide +kernel
theorem dX24_side_112 : decode cX24_side 112 = .ok (.aload_n 0, 1) := by decide +kernel
theorem dX24_side_113 : decode cX24_side 113 = .ok (.getfield 74, 3) := by decide +kernel
theorem dX24_side_116 : decode cX24_side 116 = .ok (.iload_n 3, 1) := by decide +kernel
theorem dX24_side_117 : decode cX24_side 117 = .ok (.iaload, 1) := by decide +kernel
theorem dX24_side_118 : decode cX24_side 118 = .ok (.iaload, 1) := by decide +kernel
theorem dX24_side_119 : decode cX24_side 119 = .ok (.iadd, 1) := by decide +kernel
theorem dX24_side_120 : decode cX24_side 120 = .ok (.iload 4, 2) := by decide +kernel
theorem dX24_side_122 : decode cX24_side 122 = .ok (.iadd, 1) := by decide +kernel
theorem dX24_side_123 : decode cX24_side 123 = .ok (.aload_n 0, 1) := by decide +kernel
theorem dX24_side_124 : decode cX24_side 124 = .ok (.getfield 77, 3) := by decide +kernel
theorem dX24_side_127 : decode cX24_side 127 = .ok (.iload_n 3, 1) := by decide +kernel
theorem dX24_side_128 : decode cX24_side 128 = .ok (.iaload, 1) := by decide +kernel
theorem dX24_side_129 : decode cX24_side 129 = .ok (.invokestatic 41, 3) := by decide +kernel
theorem dX24_side_132 : decode cX24_side 132 = .ok (.aload_n 1, 1) := by decide +kernel
theorem dX24_side_133 : decode cX24_side 133 = .ok (.iconst 4, 1) := by decide +kernel
theorem dX24_side_134 : decode cX24_side 134 = .ok (.iaload, 1) := by decide +kernel
theorem dX24_side_135 : decode cX24_side 135 = .ok (.iadd, 1) := by decide +kernel
theorem dX24_side_136 : decode cX24_side 136 = .ok (.istore 9, 2) := by decide +kernel
theorem dX24_side_138 : decode cX24_side 138 = .ok (.aload_n 1, 1) := by decide +kernel
theorem dX24_side_139 : decode cX24_side 139 = .ok (.iconst 0, 1) := by decide +kernel
theorem dX24_side_140 : decode cX24_side 140 = .ok (.aload_n 1, 1) := by decide +kernel
theorem dX24_side_141 : decode cX24_side 141 = .ok (.iconst 4, 1) := by decide +kernel
theorem dX24_side_142 : decode cX24_side 142 = .ok (.iaload, 1) := by decide +kernel
theorem dX24_side_143 : decode cX24_side 143 = .ok (.iastore, 1) := by decide +kernel
theorem dX24_side_144 : decode cX24_side 144 = .ok (.aload_n 1, 1) := by decide +kernel
theorem dX24_side_145 : decode cX24_side 145 = .ok (.iconst 4, 1) := by decide +kernel
theorem dX24_side_146 : decode cX24_side 146 = .ok (.iload 7, 2) := by decide +kernel
theorem dX24_side_148 : decode cX24_side 148 = .ok (.iastore, 1) := by decide +kernel
theorem dX24_side_149 : decode cX24_side 149 = .ok (.aload_n 1, 1) := by decide +kernel
theorem dX24_side_150 : decode cX24_side 150 = .ok (.iconst 3, 1) := by decide +kernel
theorem dX24_side_151 : decode cX24_side 151 = .ok (.iload 6, 2) := by decide +kernel
theorem dX24_side_153 : decode cX24_side 153 = .ok (.bipush 10, 2) := by decide +kernel
theorem dX24_side_155 : decode cX24_side 155 = .ok (.invokestatic 41, 3) := by decide +kernel
theorem dX24_side_158 : decode cX24_side 158 = .ok (.iastore, 1) := by decide +kernel
theorem dX24_side_159 : decode cX24_side 159 = .ok (.aload_n 1, 1) := by decide +kernel
theorem dX24_side_160 : decode cX24_side 160 = .ok (.iconst 2, 1) := by decide +kernel
theorem dX24_side_161 : decode cX24_side 161 = .ok (.iload 5, 2) := by decide +kernel
theorem dX24_side_163 : decode cX24_side 163 = .ok (.iastore, 1) := by decide +kernel
theorem dX24_side_164 : decode cX24_side 164 = .ok (.aload_n 1, 1) := by decide +kernel
theorem dX24_side_165 : decode cX24_side 165 = .ok (.iconst 1, 1) := by decide +kernel
theorem dX24_side_166 : decode cX24_side 166 = .ok (.iload 9, 2) := by decide +kernel
theorem dX24_side_168 : decode cX24_side 168 = .ok (.iastore, 1) := by decide +kernel
theorem dX24_side_169 : decode cX24_side 169 = .ok (.return_, 1) := by decide +kernel
/-! CoinJudgeModel.side([IIII)V -/
set_option maxHeartbeats 4000000 in
theorem sX24_side_0 {G : Gx} {d t : Nat} {h0 : AH} {Φ : Out → AH → Prop} (h : AH) (v0 : Nat) (v1 : Nat) (v2 : Int32) (v3 : Int32) (v4 : Int32) (K : h.kd v1 = 100 ∧ vp_in 1 (h.ai v1).length ∧ ∀ u3 : Int32, u3 = ((h.ai v1).getD ((1 : Int32).toNatClampNeg) 0) → vp_in 2 (h.ai v1).length ∧ ∀ u5 : Int32, u5 = ((h.ai v1).getD ((2 : Int32).toNatClampNeg) 0) → vp_in 3 (h.ai v1).length ∧ ∀ u7 : Int32, u7 = ((h.ai v1).getD ((3 : Int32).toNatClampNeg) 0) → ((¬ v2 = 0 → ((¬ v2 = 1 → ((¬ v2 = 2 → ((¬ v2 = 3 → ∀ u12 : Int32, u12 = (u3 ^^^ (u5 ||| (u7 ^^^ (-1)))) → vp_in 0 (h.ai v1).length ∧ h.kd v0 = 24 ∧ ∀ r15 : Nat, r15 = (h.r 24002 v0) → ∀ r16 : Nat, r16 = (h.r 24009 v0) → h.kd r16 = 100 ∧ vp_in v3 (h.ai r16).length ∧ h.kd r15 = 100 ∧ vp_in ((h.ai r16).getD (v3.toNatClampNeg) 0) (h.ai r15).length ∧ ∀ r21 : Nat, r21 = (h.r 24010 v0) → h.kd r21 = 100 ∧ vp_in v3 (h.ai r21).length ∧ Cw G mX24_turn d 0 [vI (((((h.ai v1).getD ((0 : Int32).toNatClampNeg) 0) + u12) + ((h.ai r15).getD (((h.ai r16).getD (v3.toNatClampNeg) 0).toNatClampNeg) 0)) + v4), vI ((h.ai r21).getD (v3.toNatClampNeg) 0)] h (kI (fun x24 h25 => vp_in 4 (h25.ai v1).length ∧ ∀ u28 : Int32, u28 = (x24 + ((h25.ai v1).getD ((4 : Int32).toNatClampNeg) 0)) → vp_in 4 (h25.ai v1).length ∧ vp_in 0 (h25.ai v1).length ∧ ∀ h31 : AH, h31 = h25.wi v1 ((h25.ai v1).set ((0 : Int32).toNatClampNeg) ((h25.ai v1).getD ((4 : Int32).toNatClampNeg) 0)) → vp_in 4 (h31.ai v1).length ∧ ∀ h34 : AH, h34 = h31.wi v1 ((h31.ai v1).set ((4 : Int32).toNatClampNeg) u7) → Cw G mX24_turn d 0 [vI u5, vI 10] h34 (kI (fun x35 h36 => vp_in 3 (h36.ai v1).length ∧ ∀ h40 : AH, h40 = h36.wi v1 ((h36.ai v1).set ((3 : Int32).toNatClampNeg) x35) → vp_in 2 (h40.ai v1).length ∧ ∀ h43 : AH, h43 = h40.wi v1 ((h40.ai v1).set ((2 : Int32).toNatClampNeg) u3) → vp_in 1 (h43.ai v1).length ∧ ∀ h46 : AH, h46 = h43.wi v1 ((h43.ai v1).set ((1 : Int32).toNatClampNeg) u28) → Φ (.inl none) h46) (fun x h => Φ (.inr x) h))) (fun x h => Φ (.inr x) h))) ∧ (v2 = 3 → ∀ u47 : Int32, u47 = ((u3 &&& u7) ||| (u5 &&& (u7 ^^^ (-1)))) → vp_in 0 (h.ai v1).length ∧ h.kd v0 = 24 ∧ ∀ r50 : Nat, r50 = (h.r 24002 v0) → ∀ r51 : Nat, r51 = (h.r 24009 v0) → h.kd r51 = 100 ∧ vp_in v3 (h.ai r51).length ∧ h.kd r50 = 100 ∧ vp_in ((h.ai r51).getD (v3.toNatClampNeg) 0) (h.ai r50).length ∧ ∀ r56 : Nat, r56 = (h.r 24010 v0) → h.kd r56 = 100 ∧ vp_in v3 (h.ai r56).length ∧ Cw G mX24_turn d 0 [vI (((((h.ai v1).getD ((0 : Int32).toNatClampNeg) 0) + u47) + ((h.ai r50).getD (((h.ai r51).getD (v3.toNatClampNeg) 0).toNatClampNeg) 0)) + v4), vI ((h.ai r56).getD (v3.toNatClampNeg) 0)] h (kI (fun x59 h60 => vp_in 4 (h60.ai v1).length ∧ ∀ u63 : Int32, u63 = (x59 + ((h60.ai v1).getD ((4 : Int32).toNatClampNeg) 0)) → vp_in 4 (h60.ai v1).length ∧ vp_in 0 (h60.ai v1).length ∧ ∀ h66 : AH, h66 = h60.wi v1 ((h60.ai v1).set ((0 : Int32).toNatClampNeg) ((h60.ai v1).getD ((4 : Int32).toNatClampNeg) 0)) → vp_in 4 (h66.ai v1).length ∧ ∀ h69 : AH, h69 = h66.wi v1 ((h66.ai v1).set ((4 : Int32).toNatClampNeg) u7) → Cw G mX24_turn d 0 [vI u5, vI 10] h69 (kI (fun x70 h71 => vp_in 3 (h71.ai v1).length ∧ ∀ h75 : AH, h75 = h71.wi v1 ((h71.ai v1).set ((3 : Int32).toNatClampNeg) x70) → vp_in 2 (h75.ai v1).length ∧ ∀ h78 : AH, h78 = h75.wi v1 ((h75.ai v1).set ((2 : Int32).toNatClampNeg) u3) → vp_in 1 (h78.ai v1).length ∧ ∀ h81 : AH, h81 = h78.wi v1 ((h78.ai v1).set ((1 : Int32).toNatClampNeg) u63) → Φ (.inl none) h81) (fun x h => Φ (.inr x) h))) (fun x h => Φ (.inr x) h))))) ∧ (v2 = 2 → ∀ u82 : Int32, u82 = ((u3 ||| (u5 ^^^ (-1))) ^^^ u7) → vp_in 0 (h.ai v1).length ∧ h.kd v0 = 24 ∧ ∀ r85 : Nat, r85 = (h.r 24002 v0) → ∀ r86 : Nat, r86 = (h.r 24009 v0) → h.kd r86 = 100 ∧ vp_in v3 (h.ai r86).length ∧ h.kd r85 = 100 ∧ vp_in ((h.ai r86).getD (v3.toNatClampNeg) 0) (h.ai r85).length ∧ ∀ r91 : Nat, r91 = (h.r 24010 v0) → h.kd r91 = 100 ∧ vp_in v3 (h.ai r91).length ∧ Cw G mX24_turn d 0 [vI (((((h.ai v1).getD ((0 : Int32).toNatClampNeg) 0) + u82) + ((h.ai r85).getD (((h.ai r86).getD (v3.toNatClampNeg) 0).toNatClampNeg) 0)) + v4), vI ((h.ai r91).getD (v3.toNatClampNeg) 0)] h (kI (fun x94 h95 => vp_in 4 (h95.ai v1).length ∧ ∀ u98 : Int32, u98 = (x94 + ((h95.ai v1).getD ((4 : Int32).toNatClampNeg) 0)) → vp_in 4 (h95.ai v1).length ∧ vp_in 0 (h95.ai v1).length ∧ ∀ h101 : AH, h101 = h95.wi v1 ((h95.ai v1).set ((0 : Int32).toNatClampNeg) ((h95.ai v1).getD ((4 : Int32).toNatClampNeg) 0)) → vp_in 4 (h101.ai v1).length ∧ ∀ h104 : AH, h104 = h101.wi v1 ((h101.ai v1).set ((4 : Int32).toNatClampNeg) u7) → Cw G mX24_turn d 0 [vI u5, vI 10] h104 (kI (fun x105 h106 => vp_in 3 (h106.ai v1).length ∧ ∀ h110 : AH, h110 = h106.wi v1 ((h106.ai v1).set ((3 : Int32).toNatClampNeg) x105) → vp_in 2 (h110.ai v1).length ∧ ∀ h113 : AH, h113 = h110.wi v1 ((h110.ai v1).set ((2 : Int32).toNatClampNeg) u3) → vp_in 1 (h113.ai v1).length ∧ ∀ h116 : AH, h116 = h113.wi v1 ((h113.ai v1).set ((1 : Int32).toNatClampNeg) u98) → Φ (.inl none) h116) (fun x h => Φ (.inr x) h))) (fun x h => Φ (.inr x) h))))) ∧ (v2 = 1 → ∀ u117 : Int32, u117 = ((u3 &&& u5) ||| ((u3 ^^^ (-1)) &&& u7)) → vp_in 0 (h.ai v1).length ∧ h.kd v0 = 24 ∧ ∀ r120 : Nat, r120 = (h.r 24002 v0) → ∀ r121 : Nat, r121 = (h.r 24009 v0) → h.kd r121 = 100 ∧ vp_in v3 (h.ai r121).length ∧ h.kd r120 = 100 ∧ vp_in ((h.ai r121).getD (v3.toNatClampNeg) 0) (h.ai r120).length ∧ ∀ r126 : Nat, r126 = (h.r 24010 v0) → h.kd r126 = 100 ∧ vp_in v3 (h.ai r126).length ∧ Cw G mX24_turn d 0 [vI (((((h.ai v1).getD ((0 : Int32).toNatClampNeg) 0) + u117) + ((h.ai r120).getD (((h.ai r121).getD (v3.toNatClampNeg) 0).toNatClampNeg) 0)) + v4), vI ((h.ai r126).getD (v3.toNatClampNeg) 0)] h (kI (fun x129 h130 => vp_in 4 (h130.ai v1).length ∧ ∀ u133 : Int32, u133 = (x129 + ((h130.ai v1).getD ((4 : Int32).toNatClampNeg) 0)) → vp_in 4 (h130.ai v1).length ∧ vp_in 0 (h130.ai v1).length ∧ ∀ h136 : AH, h136 = h130.wi v1 ((h130.ai v1).set ((0 : Int32).toNatClampNeg) ((h130.ai v1).getD ((4 : Int32).toNatClampNeg) 0)) → vp_in 4 (h136.ai v1).length ∧ ∀ h139 : AH, h139 = h136.wi v1 ((h136.ai v1).set ((4 : Int32).toNatClampNeg) u7) → Cw G mX24_turn d 0 [vI u5, vI 10] h139 (kI (fun x140 h141 => vp_in 3 (h141.ai v1).length ∧ ∀ h145 : AH, h145 = h141.wi v1 ((h141.ai v1).set ((3 : Int32).toNatClampNeg) x140) → vp_in 2 (h145.ai v1).length ∧ ∀ h148 : AH, h148 = h145.wi v1 ((h145.ai v1).set ((2 : Int32).toNatClampNeg) u3) → vp_in 1 (h148.ai v1).length ∧ ∀ h151 : AH, h151 = h148.wi v1 ((h148.ai v1).set ((1 : Int32).toNatClampNeg) u133) → Φ (.inl none) h151) (fun x h => Φ (.inr x) h))) (fun x h => Φ (.inr x) h))))) ∧ (v2 = 0 → vp_in 0 (h.ai v1).length ∧ h.kd v0 = 24 ∧ ∀ r154 : Nat, r154 = (h.r 24002 v0) → ∀ r155 : Nat, r155 = (h.r 24009 v0) → h.kd r155 = 100 ∧ vp_in v3 (h.ai r155).length ∧ h.kd r154 = 100 ∧ vp_in ((h.ai r155).getD (v3.toNatClampNeg) 0) (h.ai r154).length ∧ ∀ r160 : Nat, r160 = (h.r 24010 v0) → h.kd r160 = 100 ∧ vp_in v3 (h.ai r160).length ∧ Cw G mX24_turn d 0 [vI (((((h.ai v1).getD ((0 : Int32).toNatClampNeg) 0) + ((u3 ^^^ u5) ^^^ u7)) + ((h.ai r154).getD (((h.ai r155).getD (v3.toNatClampNeg) 0).toNatClampNeg) 0)) + v4), vI ((h.ai r160).getD (v3.toNatClampNeg) 0)] h (kI (fun x163 h164 => vp_in 4 (h164.ai v1).length ∧ ∀ u167 : Int32, u167 = (x163 + ((h164.ai v1).getD ((4 : Int32).toNatClampNeg) 0)) → vp_in 4 (h164.ai v1).length ∧ vp_in 0 (h164.ai v1).length ∧ ∀ h170 : AH, h170 = h164.wi v1 ((h164.ai v1).set ((0 : Int32).toNatClampNeg) ((h164.ai v1).getD ((4 : Int32).toNatClampNeg) 0)) → vp_in 4 (h170.ai v1).length ∧ ∀ h173 : AH, h173 = h170.wi v1 ((h170.ai v1).set ((4 : Int32).toNatClampNeg) u7) → Cw G mX24_turn d 0 [vI u5, vI 10] h173 (kI (fun x174 h175 => vp_in 3 (h175.ai v1).length ∧ ∀ h179 : AH, h179 = h175.wi v1 ((h175.ai v1).set ((3 : Int32).toNatClampNeg) x174) → vp_in 2 (h179.ai v1).length ∧ ∀ h182 : AH, h182 = h179.wi v1 ((h179.ai v1).set ((2 : Int32).toNatClampNeg) u3) → vp_in 1 (h182.ai v1).length ∧ ∀ h185 : AH, h185 = h182.wi v1 ((h182.ai v1).set ((1 : Int32).toNatClampNeg) u167) → Φ (.inl none) h185) (fun x h => Φ (.inr x) h))) (fun x h => Φ (.inr x) h))))) : Aw G mX24_side (d + 1) t h0 Φ 0 [vR v0, vR v1, vI v2, vI v3, vI v4, vU, vU, vU, vU, vU] [] h := by
  refine r_aload_n (pc := 0) dX24_side_0 rfl ?_
  refine r_iconst (pc := 1) (x := 1) dX24_side_1 rfl ?_
  obtain ⟨hk1, K⟩ := K
  obtain ⟨hi2, K⟩ := K
  refine r_iaload (pc := 2) hk1 hi2 dX24_side_2 ?_
  have K := K _ rfl
  refine r_istore (pc := 3) (lv' := [_, _, _, _, _, _, _, _, _, _]) dX24_side_3 (by decide) rfl ?_
  refine r_aload_n (pc := 5) dX24_side_5 rfl ?_
  refine r_iconst (pc := 6) (x := 2) dX24_side_6 rfl ?_
  obtain ⟨hi4, K⟩ := K
  refine r_iaload (pc := 7) hk1 hi4 dX24_side_7 ?_
  have K := K _ rfl
  refine r_istore (pc := 8) (lv' := [_, _, _, _, _, _, _, _, _, _]) dX24_side_8 (by decide) rfl ?_
  refine r_aload_n (pc := 10) dX24_side_10 rfl ?_
  refine r_iconst (pc := 11) (x := 3) dX24_side_11 rfl ?_
  obtain ⟨hi6, K⟩ := K
  refine r_iaload (pc := 12) hk1 hi6 dX24_side_12 ?_
  have K := K _ rfl
  refine r_istore (pc := 13) (lv' := [_, _, _, _, _, _, _, _, _, _]) dX24_side_13 (by decide) rfl ?_
  refine r_iload_n (pc := 15) dX24_side_15 rfl ?_
  refine r_if_ne (pc := 16) (tgt := 30) dX24_side_16 rfl (fun c8 => ?_) (fun c8 => ?_)
  · have K := K.1 c8
    refine r_iload_n (pc := 30) dX24_side_30 rfl ?_
    refine r_iconst (pc := 31) (x := 1) dX24_side_31 rfl ?_
    refine r_icmp_ne (pc := 32) (tgt := 51) dX24_side_32 rfl (fun c9 => ?_) (fun c9 => ?_)
    · have K := K.1 c9
      refine r_iload_n (pc := 51) dX24_side_51 rfl ?_
      refine r_iconst (pc := 52) (x := 2) dX24_side_52 rfl ?_
      refine r_icmp_ne (pc := 53) (tgt := 69) dX24_side_53 rfl (fun c10 => ?_) (fun c10 => ?_)
      · have K := K.1 c10
        refine r_iload_n (pc := 69) dX24_side_69 rfl ?_
        refine r_iconst (pc := 70) (x := 3) dX24_side_70 rfl ?_
        refine r_icmp_ne (pc := 71) (tgt := 90) dX24_side_71 rfl (fun c11 => ?_) (fun c11 => ?_)
        · have K := K.1 c11
          refine r_iload (pc := 90) dX24_side_90 rfl ?_
          refine r_iload (pc := 92) dX24_side_92 rfl ?_
          refine r_iload (pc := 94) dX24_side_94 rfl ?_
          refine r_iconst (pc := 96) (x := (-1)) dX24_side_96 rfl ?_
          refine r_ixor (pc := 97) dX24_side_97 ?_
          refine r_ior (pc := 98) dX24_side_98 ?_
          refine r_ixor (pc := 99) dX24_side_99 ?_
          have K := K _ rfl
          refine r_istore (pc := 100) (lv' := [_, _, _, _, _, _, _, _, _, _]) dX24_side_100 (by decide) rfl ?_
          refine r_aload_n (pc := 102) dX24_side_102 rfl ?_
          refine r_iconst (pc := 103) (x := 0) dX24_side_103 rfl ?_
          obtain ⟨hi13, K⟩ := K
          refine r_iaload (pc := 104) hk1 hi13 dX24_side_104 ?_
          refine r_iload (pc := 105) dX24_side_105 rfl ?_
          refine r_iadd (pc := 107) dX24_side_107 ?_
          refine r_aload_n (pc := 108) dX24_side_108 rfl ?_
          obtain ⟨hk14, K⟩ := K
          have K := K _ rfl
          refine r_getr' (pc := 109) (T := TX24) 24 2 rfl hk14 (Or.inl q2700) dX24_side_109 kc24 g24002 ?_
          refine r_aload_n (pc := 112) dX24_side_112 rfl ?_
          have K := K _ rfl
          refine r_getr' (pc := 113) (T := TX24) 24 9 rfl hk14 (Or.inl q2707) dX24_side_113 kc24 g24009 ?_
          refine r_iload_n (pc := 116) dX24_side_116 rfl ?_
          obtain ⟨hk17, K⟩ := K
          obtain ⟨hi18, K⟩ := K
          refine r_iaload (pc := 117) hk17 hi18 dX24_side_117 ?_
          obtain ⟨hk19, K⟩ := K
          obtain ⟨hi20, K⟩ := K
          refine r_iaload (pc := 118) hk19 hi20 dX24_side_118 ?_
          refine r_iadd (pc := 119) dX24_side_119 ?_
          refine r_iload (pc := 120) dX24_side_120 rfl ?_
          refine r_iadd (pc := 122) dX24_side_122 ?_
          refine r_aload_n (pc := 123) dX24_side_123 rfl ?_
          have K := K _ rfl
          refine r_getr' (pc := 124) (T := TX24) 24 10 rfl hk14 (Or.inl q2708) dX24_side_124 kc24 g24010 ?_
          refine r_iload_n (pc := 127) dX24_side_127 rfl ?_
          obtain ⟨hk22, K⟩ := K
          obtain ⟨hi23, K⟩ := K
          refine r_iaload (pc := 128) hk22 hi23 dX24_side_128 ?_
          refine r_callS_I (pc := 129) (Y := mX24_turn) (vs := [_, _]) (st := []) q2330 q2331 q192 dX24_side_129 rfl cd_X24_turn rfl rfl fp_X24_side_X24_turn K (fun x24 h25 eh25 wh25 K => ?_) (fun x h1 _ _ e => Tw.out rfl e)
          refine r_aload_n (pc := 132) dX24_side_132 rfl ?_
          refine r_iconst (pc := 133) (x := 4) dX24_side_133 rfl ?_
          have hk26 := kd_ext eh25 hk1 (nz rfl)
          obtain ⟨hi27, K⟩ := K
          refine r_iaload (pc := 134) hk26 hi27 dX24_side_134 ?_
          refine r_iadd (pc := 135) dX24_side_135 ?_
          have K := K _ rfl
          refine r_istore (pc := 136) (lv' := [_, _, _, _, _, _, _, _, _, _]) dX24_side_136 (by decide) rfl ?_
          refine r_aload_n (pc := 138) dX24_side_138 rfl ?_
          refine r_iconst (pc := 139) (x := 0) dX24_side_139 rfl ?_
          refine r_aload_n (pc := 140) dX24_side_140 rfl ?_
          refine r_iconst (pc := 141) (x := 4) dX24_side_141 rfl ?_
          obtain ⟨hi29, K⟩ := K
          refine r_iaload (pc := 142) hk26 hi29 dX24_side_142 ?_
          obtain ⟨hi30, K⟩ := K
          refine r_iastore (pc := 143) hk26 hi30 (Or.inl (em rfl)) dX24_side_143 ?_
          refine r_nameH (fun h31 eh31 => ?_)
          have K := K h31 eh31
          refine r_aload_n (pc := 144) dX24_side_144 rfl ?_
          refine r_iconst (pc := 145) (x := 4) dX24_side_145 rfl ?_
          refine r_iload (pc := 146) dX24_side_146 rfl ?_
          have hk32 := kd_wi eh31 hk26
          obtain ⟨hi33, K⟩ := K
          refine r_iastore (pc := 148) hk32 hi33 (Or.inl (em rfl)) dX24_side_148 ?_
          refine r_nameH (fun h34 eh34 => ?_)
          have K := K h34 eh34
          refine r_aload_n (pc := 149) dX24_side_149 rfl ?_
          refine r_iconst (pc := 150) (x := 3) dX24_side_150 rfl ?_
          refine r_iload (pc := 151) dX24_side_151 rfl ?_
          refine r_bipush (pc := 153) (x := 10) dX24_side_153 rfl ?_
          refine r_callS_I (pc := 155) (Y := mX24_turn) (vs := [_, _]) (st := [_, _]) q2330 q2331 q192 dX24_side_155 rfl cd_X24_turn rfl rfl fp_X24_side_X24_turn K (fun x35 h36 eh36 wh36 K => ?_) (fun x h1 _ _ e => Tw.out rfl e)
          have hk37 := kd_wi eh34 hk32
          have hk38 := kd_ext eh36 hk37 (nz rfl)
          obtain ⟨hi39, K⟩ := K
          refine r_iastore (pc := 158) hk38 hi39 (Or.inl (em rfl)) dX24_side_158 ?_
          refine r_nameH (fun h40 eh40 => ?_)
          have K := K h40 eh40
          refine r_aload_n (pc := 159) dX24_side_159 rfl ?_
          refine r_iconst (pc := 160) (x := 2) dX24_side_160 rfl ?_
          refine r_iload (pc := 161) dX24_side_161 rfl ?_
          have hk41 := kd_wi eh40 hk38
          obtain ⟨hi42, K⟩ := K
          refine r_iastore (pc := 163) hk41 hi42 (Or.inl (em rfl)) dX24_side_163 ?_
          refine r_nameH (fun h43 eh43 => ?_)
          have K := K h43 eh43
          refine r_aload_n (pc := 164) dX24_side_164 rfl ?_
          refine r_iconst (pc := 165) (x := 1) dX24_side_165 rfl ?_
          refine r_iload (pc := 166) dX24_side_166 rfl ?_
          have hk44 := kd_wi eh43 hk41
          obtain ⟨hi45, K⟩ := K
          refine r_iastore (pc := 168) hk44 hi45 (Or.inl (em rfl)) dX24_side_168 ?_
          refine r_nameH (fun h46 eh46 => ?_)
          have K := K h46 eh46
          exact r_vret (pc := 169) rfl dX24_side_169 K
        · have K := K.2 c11
          refine r_iload (pc := 74) dX24_side_74 rfl ?_
          refine r_iload (pc := 76) dX24_side_76 rfl ?_
          refine r_iand (pc := 78) dX24_side_78 ?_
          refine r_iload (pc := 79) dX24_side_79 rfl ?_
          refine r_iload (pc := 81) dX24_side_81 rfl ?_
          refine r_iconst (pc := 83) (x := (-1)) dX24_side_83 rfl ?_
          refine r_ixor (pc := 84) dX24_side_84 ?_
          refine r_iand (pc := 85) dX24_side_85 ?_
          refine r_ior (pc := 86) dX24_side_86 ?_
          refine r_goto (pc := 87) (tgt := 100) dX24_side_87 rfl ?_
          have K := K _ rfl
          refine r_istore (pc := 100) (lv' := [_, _, _, _, _, _, _, _, _, _]) dX24_side_100 (by decide) rfl ?_
          refine r_aload_n (pc := 102) dX24_side_102 rfl ?_
          refine r_iconst (pc := 103) (x := 0) dX24_side_103 rfl ?_
          obtain ⟨hi48, K⟩ := K
          refine r_iaload (pc := 104) hk1 hi48 dX24_side_104 ?_
          refine r_iload (pc := 105) dX24_side_105 rfl ?_
          refine r_iadd (pc := 107) dX24_side_107 ?_
          refine r_aload_n (pc := 108) dX24_side_108 rfl ?_
          obtain ⟨hk49, K⟩ := K
          have K := K _ rfl
          refine r_getr' (pc := 109) (T := TX24) 24 2 rfl hk49 (Or.inl q2700) dX24_side_109 kc24 g24002 ?_
          refine r_aload_n (pc := 112) dX24_side_112 rfl ?_
          have K := K _ rfl
          refine r_getr' (pc := 113) (T := TX24) 24 9 rfl hk49 (Or.inl q2707) dX24_side_113 kc24 g24009 ?_
          refine r_iload_n (pc := 116) dX24_side_116 rfl ?_
          obtain ⟨hk52, K⟩ := K
          obtain ⟨hi53, K⟩ := K
          refine r_iaload (pc := 117) hk52 hi53 dX24_side_117 ?_
          obtain ⟨hk54, K⟩ := K
          obtain ⟨hi55, K⟩ := K
          refine r_iaload (pc := 118) hk54 hi55 dX24_side_118 ?_
          refine r_iadd (pc := 119) dX24_side_119 ?_
          refine r_iload (pc := 120) dX24_side_120 rfl ?_
          refine r_iadd (pc := 122) dX24_side_122 ?_
          refine r_aload_n (pc := 123) dX24_side_123 rfl ?_
          have K := K _ rfl
          refine r_getr' (pc := 124) (T := TX24) 24 10 rfl hk49 (Or.inl q2708) dX24_side_124 kc24 g24010 ?_
          refine r_iload_n (pc := 127) dX24_side_127 rfl ?_
          obtain ⟨hk57, K⟩ := K
          obtain ⟨hi58, K⟩ := K
          refine r_iaload (pc := 128) hk57 hi58 dX24_side_128 ?_
          refine r_callS_I (pc := 129) (Y := mX24_turn) (vs := [_, _]) (st := []) q2330 q2331 q192 dX24_side_129 rfl cd_X24_turn rfl rfl fp_X24_side_X24_turn K (fun x59 h60 eh60 wh60 K => ?_) (fun x h1 _ _ e => Tw.out rfl e)
          refine r_aload_n (pc := 132) dX24_side_132 rfl ?_
          refine r_iconst (pc := 133) (x := 4) dX24_side_133 rfl ?_
          have hk61 := kd_ext eh60 hk1 (nz rfl)
          obtain ⟨hi62, K⟩ := K
          refine r_iaload (pc := 134) hk61 hi62 dX24_side_134 ?_
          refine r_iadd (pc := 135) dX24_side_135 ?_
          have K := K _ rfl
          refine r_istore (pc := 136) (lv' := [_, _, _, _, _, _, _, _, _, _]) dX24_side_136 (by decide) rfl ?_
          refine r_aload_n (pc := 138) dX24_side_138 rfl ?_
          refine r_iconst (pc := 139) (x := 0) dX24_side_139 rfl ?_
          refine r_aload_n (pc := 140) dX24_side_140 rfl ?_
          refine r_iconst (pc := 141) (x := 4) dX24_side_141 rfl ?_
          obtain ⟨hi64, K⟩ := K
          refine r_iaload (pc := 142) hk61 hi64 dX24_side_142 ?_
          obtain ⟨hi65, K⟩ := K
          refine r_iastore (pc := 143) hk61 hi65 (Or.inl (em rfl)) dX24_side_143 ?_
          refine r_nameH (fun h66 eh66 => ?_)
          have K := K h66 eh66
          refine r_aload_n (pc := 144) dX24_side_144 rfl ?_
          refine r_iconst (pc := 145) (x := 4) dX24_side_145 rfl ?_
          refine r_iload (pc := 146) dX24_side_146 rfl ?_
          have hk67 := kd_wi eh66 hk61
          obtain ⟨hi68, K⟩ := K
          refine r_iastore (pc := 148) hk67 hi68 (Or.inl (em rfl)) dX24_side_148 ?_
          refine r_nameH (fun h69 eh69 => ?_)
          have K := K h69 eh69
          refine r_aload_n (pc := 149) dX24_side_149 rfl ?_
          refine r_iconst (pc := 150) (x := 3) dX24_side_150 rfl ?_
          refine r_iload (pc := 151) dX24_side_151 rfl ?_
          refine r_bipush (pc := 153) (x := 10) dX24_side_153 rfl ?_
          refine r_callS_I (pc := 155) (Y := mX24_turn) (vs := [_, _]) (st := [_, _]) q2330 q2331 q192 dX24_side_155 rfl cd_X24_turn rfl rfl fp_X24_side_X24_turn K (fun x70 h71 eh71 wh71 K => ?_) (fun x h1 _ _ e => Tw.out rfl e)
          have hk72 := kd_wi eh69 hk67
          have hk73 := kd_ext eh71 hk72 (nz rfl)
          obtain ⟨hi74, K⟩ := K
          refine r_iastore (pc := 158) hk73 hi74 (Or.inl (em rfl)) dX24_side_158 ?_
          refine r_nameH (fun h75 eh75 => ?_)
          have K := K h75 eh75
          refine r_aload_n (pc := 159) dX24_side_159 rfl ?_
          refine r_iconst (pc := 160) (x := 2) dX24_side_160 rfl ?_
          refine r_iload (pc := 161) dX24_side_161 rfl ?_
          have hk76 := kd_wi eh75 hk73
          obtain ⟨hi77, K⟩ := K
          refine r_iastore (pc := 163) hk76 hi77 (Or.inl (em rfl)) dX24_side_163 ?_
          refine r_nameH (fun h78 eh78 => ?_)
          have K := K h78 eh78
          refine r_aload_n (pc := 164) dX24_side_164 rfl ?_
          refine r_iconst (pc := 165) (x := 1) dX24_side_165 rfl ?_
          refine r_iload (pc := 166) dX24_side_166 rfl ?_
          have hk79 := kd_wi eh78 hk76
          obtain ⟨hi80, K⟩ := K
          refine r_iastore (pc := 168) hk79 hi80 (Or.inl (em rfl)) dX24_side_168 ?_
          refine r_nameH (fun h81 eh81 => ?_)
          have K := K h81 eh81
          exact r_vret (pc := 169) rfl dX24_side_169 K
      · have K := K.2 c10
        refine r_iload (pc := 56) dX24_side_56 rfl ?_
        refine r_iload (pc := 58) dX24_side_58 rfl ?_
        refine r_iconst (pc := 60) (x := (-1)) dX24_side_60 rfl ?_
        refine r_ixor (pc := 61) dX24_side_61 ?_
        refine r_ior (pc := 62) dX24_side_62 ?_
        refine r_iload (pc := 63) dX24_side_63 rfl ?_
        refine r_ixor (pc := 65) dX24_side_65 ?_
        refine r_goto (pc := 66) (tgt := 100) dX24_side_66 rfl ?_
        have K := K _ rfl
        refine r_istore (pc := 100) (lv' := [_, _, _, _, _, _, _, _, _, _]) dX24_side_100 (by decide) rfl ?_
        refine r_aload_n (pc := 102) dX24_side_102 rfl ?_
        refine r_iconst (pc := 103) (x := 0) dX24_side_103 rfl ?_
        obtain ⟨hi83, K⟩ := K
        refine r_iaload (pc := 104) hk1 hi83 dX24_side_104 ?_
        refine r_iload (pc := 105) dX24_side_105 rfl ?_
        refine r_iadd (pc := 107) dX24_side_107 ?_
        refine r_aload_n (pc := 108) dX24_side_108 rfl ?_
        obtain ⟨hk84, K⟩ := K
        have K := K _ rfl
        refine r_getr' (pc := 109) (T := TX24) 24 2 rfl hk84 (Or.inl q2700) dX24_side_109 kc24 g24002 ?_
        refine r_aload_n (pc := 112) dX24_side_112 rfl ?_
        have K := K _ rfl
        refine r_getr' (pc := 113) (T := TX24) 24 9 rfl hk84 (Or.inl q2707) dX24_side_113 kc24 g24009 ?_
        refine r_iload_n (pc := 116) dX24_side_116 rfl ?_
        obtain ⟨hk87, K⟩ := K
        obtain ⟨hi88, K⟩ := K
        refine r_iaload (pc := 117) hk87 hi88 dX24_side_117 ?_
        obtain ⟨hk89, K⟩ := K
        obtain ⟨hi90, K⟩ := K
        refine r_iaload (pc := 118) hk89 hi90 dX24_side_118 ?_
        refine r_iadd (pc := 119) dX24_side_119 ?_
        refine r_iload (pc := 120) dX24_side_120 rfl ?_
        refine r_iadd (pc := 122) dX24_side_122 ?_
        refine r_aload_n (pc := 123) dX24_side_123 rfl ?_
        have K := K _ rfl
        refine r_getr' (pc := 124) (T := TX24) 24 10 rfl hk84 (Or.inl q2708) dX24_side_124 kc24 g24010 ?_
        refine r_iload_n (pc := 127) dX24_side_127 rfl ?_
        obtain ⟨hk92, K⟩ := K
        obtain ⟨hi93, K⟩ := K
        refine r_iaload (pc := 128) hk92 hi93 dX24_side_128 ?_
        refine r_callS_I (pc := 129) (Y := mX24_turn) (vs := [_, _]) (st := []) q2330 q2331 q192 dX24_side_129 rfl cd_X24_turn rfl rfl fp_X24_side_X24_turn K (fun x94 h95 eh95 wh95 K => ?_) (fun x h1 _ _ e => Tw.out rfl e)
        refine r_aload_n (pc := 132) dX24_side_132 rfl ?_
        refine r_iconst (pc := 133) (x := 4) dX24_side_133 rfl ?_
        have hk96 := kd_ext eh95 hk1 (nz rfl)
        obtain ⟨hi97, K⟩ := K
        refine r_iaload (pc := 134) hk96 hi97 dX24_side_134 ?_
        refine r_iadd (pc := 135) dX24_side_135 ?_
        have K := K _ rfl
        refine r_istore (pc := 136) (lv' := [_, _, _, _, _, _, _, _, _, _]) dX24_side_136 (by decide) rfl ?_
        refine r_aload_n (pc := 138) dX24_side_138 rfl ?_
        refine r_iconst (pc := 139) (x := 0) dX24_side_139 rfl ?_
        refine r_aload_n (pc := 140) dX24_side_140 rfl ?_
        refine r_iconst (pc := 141) (x := 4) dX24_side_141 rfl ?_
        obtain ⟨hi99, K⟩ := K
        refine r_iaload (pc := 142) hk96 hi99 dX24_side_142 ?_
        obtain ⟨hi100, K⟩ := K
        refine r_iastore (pc := 143) hk96 hi100 (Or.inl (em rfl)) dX24_side_143 ?_
        refine r_nameH (fun h101 eh101 => ?_)
        have K := K h101 eh101
        refine r_aload_n (pc := 144) dX24_side_144 rfl ?_
        refine r_iconst (pc := 145) (x := 4) dX24_side_145 rfl ?_
        refine r_iload (pc := 146) dX24_side_146 rfl ?_
        have hk102 := kd_wi eh101 hk96
        obtain ⟨hi103, K⟩ := K
        refine r_iastore (pc := 148) hk102 hi103 (Or.inl (em rfl)) dX24_side_148 ?_
        refine r_nameH (fun h104 eh104 => ?_)
        have K := K h104 eh104
        refine r_aload_n (pc := 149) dX24_side_149 rfl ?_
        refine r_iconst (pc := 150) (x := 3) dX24_side_150 rfl ?_
        refine r_iload (pc := 151) dX24_side_151 rfl ?_
        refine r_bipush (pc := 153) (x := 10) dX24_side_153 rfl ?_
        refine r_callS_I (pc := 155) (Y := mX24_turn) (vs := [_, _]) (st := [_, _]) q2330 q2331 q192 dX24_side_155 rfl cd_X24_turn rfl rfl fp_X24_side_X24_turn K (fun x105 h106 eh106 wh106 K => ?_) (fun x h1 _ _ e => Tw.out rfl e)
        have hk107 := kd_wi eh104 hk102
        have hk108 := kd_ext eh106 hk107 (nz rfl)
        obtain ⟨hi109, K⟩ := K
        refine r_iastore (pc := 158) hk108 hi109 (Or.inl (em rfl)) dX24_side_158 ?_
        refine r_nameH (fun h110 eh110 => ?_)
        have K := K h110 eh110
        refine r_aload_n (pc := 159) dX24_side_159 rfl ?_
        refine r_iconst (pc := 160) (x := 2) dX24_side_160 rfl ?_
        refine r_iload (pc := 161) dX24_side_161 rfl ?_
        have hk111 := kd_wi eh110 hk108
        obtain ⟨hi112, K⟩ := K
        refine r_iastore (pc := 163) hk111 hi112 (Or.inl (em rfl)) dX24_side_163 ?_
        refine r_nameH (fun h113 eh113 => ?_)
        have K := K h113 eh113
        refine r_aload_n (pc := 164) dX24_side_164 rfl ?_
        refine r_iconst (pc := 165) (x := 1) dX24_side_165 rfl ?_
        refine r_iload (pc := 166) dX24_side_166 rfl ?_
        have hk114 := kd_wi eh113 hk111
        obtain ⟨hi115, K⟩ := K
        refine r_iastore (pc := 168) hk114 hi115 (Or.inl (em rfl)) dX24_side_168 ?_
        refine r_nameH (fun h116 eh116 => ?_)
        have K := K h116 eh116
        exact r_vret (pc := 169) rfl dX24_side_169 K
    · have K := K.2 c9
      refine r_iload (pc := 35) dX24_side_35 rfl ?_
      refine r_iload (pc := 37) dX24_side_37 rfl ?_
      refine r_iand (pc := 39) dX24_side_39 ?_
      refine r_iload (pc := 40) dX24_side_40 rfl ?_
      refine r_iconst (pc := 42) (x := (-1)) dX24_side_42 rfl ?_
      refine r_ixor (pc := 43) dX24_side_43 ?_
      refine r_iload (pc := 44) dX24_side_44 rfl ?_
      refine r_iand (pc := 46) dX24_side_46 ?_
      refine r_ior (pc := 47) dX24_side_47 ?_
      refine r_goto (pc := 48) (tgt := 100) dX24_side_48 rfl ?_
      have K := K _ rfl
      refine r_istore (pc := 100) (lv' := [_, _, _, _, _, _, _, _, _, _]) dX24_side_100 (by decide) rfl ?_
      refine r_aload_n (pc := 102) dX24_side_102 rfl ?_
      refine r_iconst (pc := 103) (x := 0) dX24_side_103 rfl ?_
      obtain ⟨hi118, K⟩ := K
      refine r_iaload (pc := 104) hk1 hi118 dX24_side_104 ?_
      refine r_iload (pc := 105) dX24_side_105 rfl ?_
      refine r_iadd (pc := 107) dX24_side_107 ?_
      refine r_aload_n (pc := 108) dX24_side_108 rfl ?_
      obtain ⟨hk119, K⟩ := K
      have K := K _ rfl
      refine r_getr' (pc := 109) (T := TX24) 24 2 rfl hk119 (Or.inl q2700) dX24_side_109 kc24 g24002 ?_
      refine r_aload_n (pc := 112) dX24_side_112 rfl ?_
      have K := K _ rfl
      refine r_getr' (pc := 113) (T := TX24) 24 9 rfl hk119 (Or.inl q2707) dX24_side_113 kc24 g24009 ?_
      refine r_iload_n (pc := 116) dX24_side_116 rfl ?_
      obtain ⟨hk122, K⟩ := K
      obtain ⟨hi123, K⟩ := K
      refine r_iaload (pc := 117) hk122 hi123 dX24_side_117 ?_
      obtain ⟨hk124, K⟩ := K
      obtain ⟨hi125, K⟩ := K
      refine r_iaload (pc := 118) hk124 hi125 dX24_side_118 ?_
      refine r_iadd (pc := 119) dX24_side_119 ?_
      refine r_iload (pc := 120) dX24_side_120 rfl ?_
      refine r_iadd (pc := 122) dX24_side_122 ?_
      refine r_aload_n (pc := 123) dX24_side_123 rfl ?_
      have K := K _ rfl
      refine r_getr' (pc := 124) (T := TX24) 24 10 rfl hk119 (Or.inl q2708) dX24_side_124 kc24 g24010 ?_
      refine r_iload_n (pc := 127) dX24_side_127 rfl ?_
      obtain ⟨hk127, K⟩ := K
      obtain ⟨hi128, K⟩ := K
      refine r_iaload (pc := 128) hk127 hi128 dX24_side_128 ?_
      refine r_callS_I (pc := 129) (Y := mX24_turn) (vs := [_, _]) (st := []) q2330 q2331 q192 dX24_side_129 rfl cd_X24_turn rfl rfl fp_X24_side_X24_turn K (fun x129 h130 eh130 wh130 K => ?_) (fun x h1 _ _ e => Tw.out rfl e)
      refine r_aload_n (pc := 132) dX24_side_132 rfl ?_
      refine r_iconst (pc := 133) (x := 4) dX24_side_133 rfl ?_
      have hk131 := kd_ext eh130 hk1 (nz rfl)
      obtain ⟨hi132, K⟩ := K
      refine r_iaload (pc := 134) hk131 hi132 dX24_side_134 ?_
      refine r_iadd (pc := 135) dX24_side_135 ?_
      have K := K _ rfl
      refine r_istore (pc := 136) (lv' := [_, _, _, _, _, _, _, _, _, _]) dX24_side_136 (by decide) rfl ?_
      refine r_aload_n (pc := 138) dX24_side_138 rfl ?_
      refine r_iconst (pc := 139) (x := 0) dX24_side_139 rfl ?_
      refine r_aload_n (pc := 140) dX24_side_140 rfl ?_
      refine r_iconst (pc := 141) (x := 4) dX24_side_141 rfl ?_
      obtain ⟨hi134, K⟩ := K
      refine r_iaload (pc := 142) hk131 hi134 dX24_side_142 ?_
      obtain ⟨hi135, K⟩ := K
      refine r_iastore (pc := 143) hk131 hi135 (Or.inl (em rfl)) dX24_side_143 ?_
      refine r_nameH (fun h136 eh136 => ?_)
      have K := K h136 eh136
      refine r_aload_n (pc := 144) dX24_side_144 rfl ?_
      refine r_iconst (pc := 145) (x := 4) dX24_side_145 rfl ?_
      refine r_iload (pc := 146) dX24_side_146 rfl ?_
      have hk137 := kd_wi eh136 hk131
      obtain ⟨hi138, K⟩ := K
      refine r_iastore (pc := 148) hk137 hi138 (Or.inl (em rfl)) dX24_side_148 ?_
      refine r_nameH (fun h139 eh139 => ?_)
      have K := K h139 eh139
      refine r_aload_n (pc := 149) dX24_side_149 rfl ?_
      refine r_iconst (pc := 150) (x := 3) dX24_side_150 rfl ?_
      refine r_iload (pc := 151) dX24_side_151 rfl ?_
      refine r_bipush (pc := 153) (x := 10) dX24_side_153 rfl ?_
      refine r_callS_I (pc := 155) (Y := mX24_turn) (vs := [_, _]) (st := [_, _]) q2330 q2331 q192 dX24_side_155 rfl cd_X24_turn rfl rfl fp_X24_side_X24_turn K (fun x140 h141 eh141 wh141 K => ?_) (fun x h1 _ _ e => Tw.out rfl e)
      have hk142 := kd_wi eh139 hk137
      have hk143 := kd_ext eh141 hk142 (nz rfl)
      obtain ⟨hi144, K⟩ := K
      refine r_iastore (pc := 158) hk143 hi144 (Or.inl (em rfl)) dX24_side_158 ?_
      refine r_nameH (fun h145 eh145 => ?_)
      have K := K h145 eh145
      refine r_aload_n (pc := 159) dX24_side_159 rfl ?_
      refine r_iconst (pc := 160) (x := 2) dX24_side_160 rfl ?_
      refine r_iload (pc := 161) dX24_side_161 rfl ?_
      have hk146 := kd_wi eh145 hk143
      obtain ⟨hi147, K⟩ := K
      refine r_iastore (pc := 163) hk146 hi147 (Or.inl (em rfl)) dX24_side_163 ?_
      refine r_nameH (fun h148 eh148 => ?_)
      have K := K h148 eh148
      refine r_aload_n (pc := 164) dX24_side_164 rfl ?_
      refine r_iconst (pc := 165) (x := 1) dX24_side_165 rfl ?_
      refine r_iload (pc := 166) dX24_side_166 rfl ?_
      have hk149 := kd_wi eh148 hk146
      obtain ⟨hi150, K⟩ := K
      refine r_iastore (pc := 168) hk149 hi150 (Or.inl (em rfl)) dX24_side_168 ?_
      refine r_nameH (fun h151 eh151 => ?_)
      have K := K h151 eh151
      exact r_vret (pc := 169) rfl dX24_side_169 K
  · have K := K.2 c8
    refine r_iload (pc := 19) dX24_side_19 rfl ?_
    refine r_iload (pc := 21) dX24_side_21 rfl ?_
    refine r_ixor (pc := 23) dX24_side_23 ?_
    refine r_iload (pc := 24) dX24_side_24 rfl ?_
    refine r_ixor (pc := 26) dX24_side_26 ?_
    refine r_goto (pc := 27) (tgt := 100) dX24_side_27 rfl ?_
    refine r_istore (pc := 100) (lv' := [_, _, _, _, _, _, _, _, _, _]) dX24_side_100 (by decide) rfl ?_
    refine r_aload_n (pc := 102) dX24_side_102 rfl ?_
    refine r_iconst (pc := 103) (x := 0) dX24_side_103 rfl ?_
    obtain ⟨hi152, K⟩ := K
    refine r_iaload (pc := 104) hk1 hi152 dX24_side_104 ?_
    refine r_iload (pc := 105) dX24_side_105 rfl ?_
    refine r_iadd (pc := 107) dX24_side_107 ?_
    refine r_aload_n (pc := 108) dX24_side_108 rfl ?_
    obtain ⟨hk153, K⟩ := K
    have K := K _ rfl
    refine r_getr' (pc := 109) (T := TX24) 24 2 rfl hk153 (Or.inl q2700) dX24_side_109 kc24 g24002 ?_
    refine r_aload_n (pc := 112) dX24_side_112 rfl ?_
    have K := K _ rfl
    refine r_getr' (pc := 113) (T := TX24) 24 9 rfl hk153 (Or.inl q2707) dX24_side_113 kc24 g24009 ?_
    refine r_iload_n (pc := 116) dX24_side_116 rfl ?_
    obtain ⟨hk156, K⟩ := K
    obtain ⟨hi157, K⟩ := K
    refine r_iaload (pc := 117) hk156 hi157 dX24_side_117 ?_
    obtain ⟨hk158, K⟩ := K
    obtain ⟨hi159, K⟩ := K
    refine r_iaload (pc := 118) hk158 hi159 dX24_side_118 ?_
    refine r_iadd (pc := 119) dX24_side_119 ?_
    refine r_iload (pc := 120) dX24_side_120 rfl ?_
    refine r_iadd (pc := 122) dX24_side_122 ?_
    refine r_aload_n (pc := 123) dX24_side_123 rfl ?_
    have K := K _ rfl
    refine r_getr' (pc := 124) (T := TX24) 24 10 rfl hk153 (Or.inl q2708) dX24_side_124 kc24 g24010 ?_
    refine r_iload_n (pc := 127) dX24_side_127 rfl ?_
    obtain ⟨hk161, K⟩ := K
    obtain ⟨hi162, K⟩ := K
    refine r_iaload (pc := 128) hk161 hi162 dX24_side_128 ?_
    refine r_callS_I (pc := 129) (Y := mX24_turn) (vs := [_, _]) (st := []) q2330 q2331 q192 dX24_side_129 rfl cd_X24_turn rfl rfl fp_X24_side_X24_turn K (fun x163 h164 eh164 wh164 K => ?_) (fun x h1 _ _ e => Tw.out rfl e)
    refine r_aload_n (pc := 132) dX24_side_132 rfl ?_
    refine r_iconst (pc := 133) (x := 4) dX24_side_133 rfl ?_
    have hk165 := kd_ext eh164 hk1 (nz rfl)
    obtain ⟨hi166, K⟩ := K
    refine r_iaload (pc := 134) hk165 hi166 dX24_side_134 ?_
    refine r_iadd (pc := 135) dX24_side_135 ?_
    have K := K _ rfl
    refine r_istore (pc := 136) (lv' := [_, _, _, _, _, _, _, _, _, _]) dX24_side_136 (by decide) rfl ?_
    refine r_aload_n (pc := 138) dX24_side_138 rfl ?_
    refine r_iconst (pc := 139) (x := 0) dX24_side_139 rfl ?_
    refine r_aload_n (pc := 140) dX24_side_140 rfl ?_
    refine r_iconst (pc := 141) (x := 4) dX24_side_141 rfl ?_
    obtain ⟨hi168, K⟩ := K
    refine r_iaload (pc := 142) hk165 hi168 dX24_side_142 ?_
    obtain ⟨hi169, K⟩ := K
    refine r_iastore (pc := 143) hk165 hi169 (Or.inl (em rfl)) dX24_side_143 ?_
    refine r_nameH (fun h170 eh170 => ?_)
    have K := K h170 eh170
    refine r_aload_n (pc := 144) dX24_side_144 rfl ?_
    refine r_iconst (pc := 145) (x := 4) dX24_side_145 rfl ?_
    refine r_iload (pc := 146) dX24_side_146 rfl ?_
    have hk171 := kd_wi eh170 hk165
    obtain ⟨hi172, K⟩ := K
    refine r_iastore (pc := 148) hk171 hi172 (Or.inl (em rfl)) dX24_side_148 ?_
    refine r_nameH (fun h173 eh173 => ?_)
    have K := K h173 eh173
    refine r_aload_n (pc := 149) dX24_side_149 rfl ?_
    refine r_iconst (pc := 150) (x := 3) dX24_side_150 rfl ?_
    refine r_iload (pc := 151) dX24_side_151 rfl ?_
    refine r_bipush (pc := 153) (x := 10) dX24_side_153 rfl ?_
    refine r_callS_I (pc := 155) (Y := mX24_turn) (vs := [_, _]) (st := [_, _]) q2330 q2331 q192 dX24_side_155 rfl cd_X24_turn rfl rfl fp_X24_side_X24_turn K (fun x174 h175 eh175 wh175 K => ?_) (fun x h1 _ _ e => Tw.out rfl e)
    have hk176 := kd_wi eh173 hk171
    have hk177 := kd_ext eh175 hk176 (nz rfl)
    obtain ⟨hi178, K⟩ := K
    refine r_iastore (pc := 158) hk177 hi178 (Or.inl (em rfl)) dX24_side_158 ?_
    refine r_nameH (fun h179 eh179 => ?_)
    have K := K h179 eh179
    refine r_aload_n (pc := 159) dX24_side_159 rfl ?_
    refine r_iconst (pc := 160) (x := 2) dX24_side_160 rfl ?_
    refine r_iload (pc := 161) dX24_side_161 rfl ?_
    have hk180 := kd_wi eh179 hk177
    obtain ⟨hi181, K⟩ := K
    refine r_iastore (pc := 163) hk180 hi181 (Or.inl (em rfl)) dX24_side_163 ?_
    refine r_nameH (fun h182 eh182 => ?_)
    have K := K h182 eh182
    refine r_aload_n (pc := 164) dX24_side_164 rfl ?_
    refine r_iconst (pc := 165) (x := 1) dX24_side_165 rfl ?_
    refine r_iload (pc := 166) dX24_side_166 rfl ?_
    have hk183 := kd_wi eh182 hk180
    obtain ⟨hi184, K⟩ := K
    refine r_iastore (pc := 168) hk183 hi184 (Or.inl (em rfl)) dX24_side_168 ?_
    refine r_nameH (fun h185 eh185 => ?_)
    have K := K h185 eh185
    exact r_vret (pc := 169) rfl dX24_side_169 K
theorem eX24_side {G : Gx} {d : Nat} {Φ : Out → AH → Prop} (h : AH) (v0 : Nat) (v1 : Nat) (v2 : Int32) (v3 : Int32) (v4 : Int32) (K : WF G h → Aw G mX24_side (d + 1) 0 h Φ 0 [vR v0, vR v1, vI v2, vI v3, vI v4, vU, vU, vU, vU, vU] [] h) : Cw G mX24_side (d + 1) 0 [vR v0, vR v1, vI v2, vI v3, vI v4] h Φ := Cw.of rfl K
theorem dX24_ripeBlock_0 : decode cX24_ripeBlock 0 = .ok (.iconst 0, 1) := by decide +kernel
theorem dX24_ripeBlock_1 : decode cX24_ripeBlock 1 = .ok (.istore_n 3, 1) := by decide +kernel
theorem dX24_ripeBlock_2 : decode cX24_ripeBlock 2 = .ok (.iload_n 3, 1) := by decide +kernel
theorem dX24_ripeBlock_3 : decode cX24_ripeBlock 3 = .ok (.bipush 16, 2) := by decide +kernel
theorem dX24_ripeBlock_5 : decode cX24_ripeBlock 5 = .ok (.if_icmp .ge 77, 3) := by decide +kernel
theorem dX24_ripeBlock_8 : decode cX24_ripeBlock 8 = .ok (.aload_n 0, 1) := by decide +kernel
theorem dX24_ripeBlock_9 : decode cX24_ripeBlock 9 = .ok (.getfield 38, 3) := by decide +kernel
theorem dX24_ripeBlock_12 : decode cX24_ripeBlock 12 = .ok (.iload_n 3, 1) := by decide +kernel
theorem dX24_ripeBlock_13 : decode cX24_ripeBlock 13 = .ok (.aload_n 1, 1) := by decide +kernel
theorem dX24_ripeBlock_14 : decode cX24_ripeBlock 14 = .ok (.iload_n 2, 1) := by decide +kernel
theorem dX24_ripeBlock_15 : decode cX24_ripeBlock 15 = .ok (.iconst 4, 1) := by decide +kernel
theorem dX24_ripeBlock_16 : decode cX24_ripeBlock 16 = .ok (.iload_n 3, 1) := by decide +kernel
theorem dX24_ripeBlock_17 : decode cX24_ripeBlock 17 = .ok (.imul, 1) := by decide +kernel
theorem dX24_ripeBlock_18 : decode cX24_ripeBlock 18 = .ok (.iadd, 1) := by decide +kernel
theorem dX24_ripeBlock_19 : decode cX24_ripeBlock 19 = .ok (.baload, 1) := by decide +kernel
theorem dX24_ripeBlock_20 : decode cX24_ripeBlock 20 = .ok (.sipush 255, 3) := by decide +kernel
theorem dX24_ripeBlock_23 : decode cX24_ripeBlock 23 = .ok (.iand, 1) := by decide +kernel
theorem dX24_ripeBlock_24 : decode cX24_ripeBlock 24 = .ok (.aload_n 1, 1) := by decide +kernel
theorem dX24_ripeBlock_25 : decode cX24_ripeBlock 25 = .ok (.iload_n 2, 1) := by decide +kernel
theorem dX24_ripeBlock_26 : decode cX24_ripeBlock 26 = .ok (.iconst 4, 1) := by decide +kernel
theorem dX24_ripeBlock_27 : decode cX24_ripeBlock 27 = .ok (.iload_n 3, 1) := by decide +kernel
theorem dX24_ripeBlock_28 : decode cX24_ripeBlock 28 = .ok (.imul, 1) := by decide +kernel
theorem dX24_ripeBlock_29 : decode cX24_ripeBlock 29 = .ok (.iadd, 1) := by decide +kernel
theorem dX24_ripeBlock_30 : decode cX24_ripeBlock 30 = .ok (.iconst 1, 1) := by decide +kernel
theorem dX24_ripeBlock_31 : decode cX24_ripeBlock 31 = .ok (.iadd, 1) := by decide +kernel
theorem dX24_ripeBlock_32 : decode cX24_ripeBlock 32 = .ok (.baload, 1) := by decide +kernel
theorem dX24_ripeBlock_33 : decode cX24_ripeBlock 33 = .ok (.sipush 255, 3) := by decide +kernel
theorem dX24_ripeBlock_36 : decode cX24_ripeBlock 36 = .ok (.iand, 1) := by decide +kernel
theorem dX24_ripeBlock_37 : decode cX24_ripeBlock 37 = .ok (.bipush 8, 2) := by decide +kernel
theorem dX24_ripeBlock_39 : decode cX24_ripeBlock 39 = .ok (.ishl, 1) := by decide +kernel
theorem dX24_ripeBlock_40 : decode cX24_ripeBlock 40 = .ok (.ior, 1) := by decide +kernel
theorem dX24_ripeBlock_41 : decode cX24_ripeBlock 41 = .ok (.aload_n 1, 1) := by decide +kernel
theorem dX24_ripeBlock_42 : decode cX24_ripeBlock 42 = .ok (.iload_n 2, 1) := by decide +kernel
theorem dX24_ripeBlock_43 : decode cX24_ripeBlock 43 = .ok (.iconst 4, 1) := by decide +kernel
theorem dX24_ripeBlock_44 : decode cX24_ripeBlock 44 = .ok (.iload_n 3, 1) := by decide +kernel
theorem dX24_ripeBlock_45 : decode cX24_ripeBlock 45 = .ok (.imul, 1) := by decide +kernel
theorem dX24_ripeBlock_46 : decode cX24_ripeBlock 46 = .ok (.iadd, 1) := by decide +kernel
theorem dX24_ripeBlock_47 : decode cX24_ripeBlock 47 = .ok (.iconst 2, 1) := by decide +kernel
theorem dX24_ripeBlock_48 : decode cX24_ripeBlock 48 = .ok (.iadd, 1) := by decide +kernel
theorem dX24_ripeBlock_49 : decode cX24_ripeBlock 49 = .ok (.baload, 1) := by decide +kernel
theorem dX24_ripeBlock_50 : decode cX24_ripeBlock 50 = .ok (.sipush 255, 3) := by decide +kernel
theorem dX24_ripeBlock_53 : decode cX24_ripeBlock 53 = .ok (.iand, 1) := by decide +kernel
theorem dX24_ripeBlock_54 : decode cX24_ripeBlock 54 = .ok (.bipush 16, 2) := by decide +kernel
theorem dX24_ripeBlock_56 : decode cX24_ripeBlock 56 = .ok (.ishl, 1) := by decide +kernel
theorem dX24_ripeBlock_57 : decode cX24_ripeBlock 57 = .ok (.ior, 1) := by decide +kernel
theorem dX24_ripeBlock_58 : decode cX24_ripeBlock 58 = .ok (.aload_n 1, 1) := by decide +kernel
theorem dX24_ripeBlock_59 : decode cX24_ripeBlock 59 = .ok (.iload_n 2, 1) := by decide +kernel
theorem dX24_ripeBlock_60 : decode cX24_ripeBlock 60 = .ok (.iconst 4, 1) := by decide +kernel
theorem dX24_ripeBlock_61 : decode cX24_ripeBlock 61 = .ok (.iload_n 3, 1) := by decide +kernel
theorem dX24_ripeBlock_62 : decode cX24_ripeBlock 62 = .ok (.imul, 1) := by decide +kernel
theorem dX24_ripeBlock_63 : decode cX24_ripeBlock 63 = .ok (.iadd, 1) := by decide +kernel
theorem dX24_ripeBlock_64 : decode cX24_ripeBlock 64 = .ok (.iconst 3, 1) := by decide +kernel
theorem dX24_ripeBlock_65 : decode cX24_ripeBlock 65 = .ok (.iadd, 1) := by decide +kernel
theorem dX24_ripeBlock_66 : decode cX24_ripeBlock 66 = .ok (.baload, 1) := by decide +kernel
theorem dX24_ripeBlock_67 : decode cX24_ripeBlock 67 = .ok (.sipush 255, 3) := by decide +kernel
theorem dX24_ripeBlock_70 : decode cX24_ripeBlock 70 = .ok (.iand, 1) := by decide +kernel
theorem dX24_ripeBlock_71 : decode cX24_ripeBlock 71 = .ok (.bipush 24, 2) := by decide +kernel
theorem dX24_ripeBlock_73 : decode cX24_ripeBlock 73 = .ok (.ishl, 1) := by decide +kernel
theorem dX24_ripeBlock_74 : decode cX24_ripeBlock 74 = .ok (.ior, 1) := by decide +kernel
theorem dX24_ripeBlock_75 : decode cX24_ripeBlock 75 = .ok (.iastore, 1) := by decide +kernel
theorem dX24_ripeBlock_76 : decode cX24_ripeBlock 76 = .ok (.iinc 3 1, 3) := by decide +kernel
theorem dX24_ripeBlock_79 : decode cX24_ripeBlock 79 = .ok (.goto (-77), 3) := by decide +kernel
theorem dX24_ripeBlock_82 : decode cX24_ripeBlock 82 = .ok (.iconst 0, 1) := by decide +kernel
theorem dX24_ripeBlock_83 : decode cX24_ripeBlock 83 = .ok (.istore_n 3, 1) := by decide +kernel
theorem dX24_ripeBlock_84 : decode cX24_ripeBlock 84 = .ok (.iload_n 3, 1) := by decide +kernel
theorem dX24_ripeBlock_85 : decode cX24_ripeBlock 85 = .ok (.iconst 5, 1) := by decide +kernel
theorem dX24_ripeBlock_86 : decode cX24_ripeBlock 86 = .ok (.if_icmp .ge 33, 3) := by decide +kernel
theorem dX24_ripeBlock_89 : decode cX24_ripeBlock 89 = .ok (.aload_n 0, 1) := by decide +kernel
theorem dX24_ripeBlock_90 : decode cX24_ripeBlock 90 = .ok (.getfield 61, 3) := by decide +kernel
theorem dX24_ripeBlock_93 : decode cX24_ripeBlock 93 = .ok (.iload_n 3, 1) := by decide +kernel
theorem dX24_ripeBlock_94 : decode cX24_ripeBlock 94 = .ok (.aload_n 0, 1) := by decide +kernel
theorem dX24_ripeBlock_95 : decode cX24_ripeBlock 95 = .ok (.getfield 19, 3) := by decide +kernel
theorem dX24_ripeBlock_98 : decode cX24_ripeBlock 98 = .ok (.iload_n 3, 1) := by decide +kernel
theorem dX24_ripeBlock_99 : decode cX24_ripeBlock 99 = .ok (.iaload, 1) := by decide +kernel
theorem dX24_ripeBlock_100 : decode cX24_ripeBlock 100 = .ok (.iastore, 1) := by decide +kernel
theorem dX24_ripeBlock_101 : decode cX24_ripeBlock 101 = .ok (.aload_n 0, 1) := by decide +kernel
theorem dX24_ripeBlock_102 : decode cX24_ripeBlock 102 = .ok (.getfield 64, 3) := by decide +kernel
theorem dX24_ripeBlock_105 : decode cX24_ripeBlock 105 = .ok (.iload_n 3, 1) := by decide +kernel
theorem dX24_ripeBlock_106 : decode cX24_ripeBlock 106 = .ok (.aload_n 0, 1) := by decide +kernel
theorem dX24_ripeBlock_107 : decode cX24_ripeBlock 107 = .ok (.getfield 19, 3) := by decide +kernel
theorem dX24_ripeBlock_110 : decode cX24_ripeBlock 110 = .ok (.iload_n 3, 1) := by decide +kernel
theorem dX24_ripeBlock_111 : decode cX24_ripeBlock 111 = .ok (.iaload, 1) := by decide +kernel
theorem dX24_ripeBlock_112 : decode cX24_ripeBlock 112 = .ok (.iastore, 1) := by decide +kernel
theorem dX24_ripeBlock_113 : decode cX24_ripeBlock 113 = .ok (.iinc 3 1, 3) := by decide +kernel
theorem dX24_ripeBlock_116 : decode cX24_ripeBlock 116 = .ok (.goto (-32), 3) := by decide +kernel
theorem dX24_ripeBlock_119 : decode cX24_ripeBlock 119 = .ok (.iconst 0, 1) := by decide +kernel
theorem dX24_ripeBlock_120 : decode cX24_ripeBlock 120 = .ok (.istore_n 3, 1) := by decide +kernel
theorem dX24_ripeBlock_121 : decode cX24_ripeBlock 121 = .ok (.iload_n 3, 1) := by decide +kernel
theorem dX24_ripeBlock_122 : decode cX24_ripeBlock 122 = .ok (.bipush 80, 2) := by decide +kernel
theorem dX24_ripeBlock_124 : decode cX24_ripeBlock 124 = .ok (.if_icmp .ge 60, 3) := by decide +kernel
theorem dX24_ripeBlock_127 : decode cX24_ripeBlock 127 = .ok (.aload_n 0, 1) := by decide +kernel
theorem dX24_ripeBlock_128 : decode cX24_ripeBlock 128 = .ok (.aload_n 0, 1) := by decide +kernel
theorem dX24_ripeBlock_129 : decode cX24_ripeBlock 129 = .ok (.getfield 61, 3) := by decide +kernel
theorem dX24_ripeBlock_132 : decode cX24_ripeBlock 132 = .ok (.iload_n 3, 1) := by decide +kernel
theorem dX24_ripeBlock_133 : decode cX24_ripeBlock 133 = .ok (.bipush 16, 2) := by decide +kernel
theorem dX24_ripeBlock_135 : decode cX24_ripeBlock 135 = .ok (.idiv, 1) := by decide +kernel
theorem dX24_ripeBlock_136 : decode cX24_ripeBlock 136 = .ok (.iload_n 3, 1) := by decide +kernel
theorem dX24_ripeBlock_137 : decode cX24_ripeBlock 137 = .ok (.aload_n 0, 1) := by decide +kernel
theorem dX24_ripeBlock_138 : decode cX24_ripeBlock 138 = .ok (.getfield 67, 3) := by decide +kernel
theorem dX24_ripeBlock_141 : decode cX24_ripeBlock 141 = .ok (.iload_n 3, 1) := by decide +kernel
theorem dX24_ripeBlock_142 : decode cX24_ripeBlock 142 = .ok (.bipush 16, 2) := by decide +kernel
theorem dX24_ripeBlock_144 : decode cX24_ripeBlock 144 = .ok (.idiv, 1) := by decide +kernel
theorem dX24_ripeBlock_145 : decode cX24_ripeBlock 145 = .ok (.iaload, 1) := by decide +kernel
theorem dX24_ripeBlock_146 : decode cX24_ripeBlock 146 = .ok (.invokevirtual 70, 3) := by decide +kernel
theorem dX24_ripeBlock_149 : decode cX24_ripeBlock 149 = .ok (.aload_n 0, 1) := by decide +kernel
theorem dX24_ripeBlock_150 : decode cX24_ripeBlock 150 = .ok (.aload_n 0, 1) := by decide +kernel
theorem dX24_ripeBlock_151 : decode cX24_ripeBlock 151 = .ok (.getfield 64, 3) := by decide +kernel
theorem dX24_ripeBlock_154 : decode cX24_ripeBlock 154 = .ok (.iconst 4, 1) := by decide +kernel
theorem dX24_ripeBlock_155 : decode cX24_ripeBlock 155 = .ok (.iload_n 3, 1) := by decide +kernel
theorem dX24_ripeBlock_156 : decode cX24_ripeBlock 156 = .ok (.bipush 16, 2) := by decide +kernel
theorem dX24_ripeBlock_158 : decode cX24_ripeBlock 158 = .ok (.idiv, 1) := by decide +kernel
theorem dX24_ripeBlock_159 : decode cX24_ripeBlock 159 = .ok (.isub, 1) := by decide +kernel
theorem dX24_ripeBlock_160 : decode cX24_ripeBlock 160 = .ok (.bipush 80, 2) := by decide +kernel
theorem dX24_ripeBlock_162 : decode cX24_ripeBlock 162 = .ok (.iload_n 3, 1) := by decide +kernel
theorem dX24_ripeBlock_163 : decode cX24_ripeBlock 163 = .ok (.iadd, 1) := by decide +kernel
theorem dX24_ripeBlock_164 : decode cX24_ripeBlock 164 = .ok (.aload_n 0, 1) := by decide +kernel
theorem dX24_ripeBlock_165 : decode cX24_ripeBlock 165 = .ok (.getfield 67, 3) := by decide +kernel
theorem dX24_ripeBlock_168 : decode cX24_ripeBlock 168 = .ok (.iconst 5, 1) := by decide +kernel
theorem dX24_ripeBlock_169 : decode cX24_ripeBlock 169 = .ok (.iload_n 3, 1) := by decide +kernel
theorem dX24_ripeBlock_170 : decode cX24_ripeBlock 170 = .ok (.bipush 16, 2) := by decide +kernel
theorem dX24_ripeBlock_172 : decode cX24_ripeBlock 172 = .ok (.idiv, 1) := by decide +kernel
theorem dX24_ripeBlock_173 : decode cX24_ripeBlock 173 = .ok (.iadd, 1) := by decide +kernel
theorem dX24_ripeBlock_174 : decode cX24_ripeBlock 174 = .ok (.iaload, 1) := by decide +kernel
theorem dX24_ripeBlock_175 : decode cX24_ripeBlock 175 = .ok (.invokevirtual 70, 3) := by decide +kernel
theorem dX24_ripeBlock_178 : decode cX24_ripeBlock 178 = .ok (.iinc 3 1, 3) := by decide +kernel
theorem dX24_ripeBlock_181 : decode cX24_ripeBlock 181 = .ok (.goto (-60), 3) := by decide +kernel
theorem dX24_ripeBlock_184 : decode cX24_ripeBlock 184 = .ok (.aload_n 0, 1) := by decide +kernel
theorem dX24_ripeBlock_185 : decode cX24_ripeBlock 185 = .ok (.getfield 19, 3) := by decide +kernel
theorem dX24_ripeBlock_188 : decode cX24_ripeBlock 188 = .ok (.iconst 1, 1) := by decide +kernel
theorem dX24_ripeBlock_189 : decode cX24_ripeBlock 189 = .ok (.iaload, 1) := by decide +kernel
theorem dX24_ripeBlock_190 : decode cX24_ripeBlock 190 = .ok (.aload_n 0, 1) := by decide +kernel
theorem dX24_ripeBlock_191 : decode cX24_ripeBlock 191 = .ok (.getfield 61, 3) := by decide +kernel
theorem dX24_ripeBlock_194 : decode cX24_ripeBlock 194 = .ok (.iconst 2, 1) := by decide +kernel
theorem dX24_ripeBlock_195 : decode cX24_ripeBlock 195 = .ok (.iaload, 1) := by decide +kernel
theorem dX24_ripeBlock_196 : decode cX24_ripeBlock 196 = .ok (.iadd, 1) := by decide +kernel
theorem dX24_ripeBlock_197 : decode cX24_ripeBlock 197 = .ok (.aload_n 0, 1) := by decide +kernel
theorem dX24_ripeBlock_198 : decode cX24_ripeBlock 198 = .ok (.getfield 64, 3) := by decide +kernel
theorem dX24_ripeBlock_201 : decode cX24_ripeBlock 201 = .ok (.iconst 3, 1) := by decide +kernel
theorem dX24_ripeBlock_202 : decode cX24_ripeBlock 202 = .ok (.iaload, 1) := by decide +kernel
theorem dX24_ripeBlock_203 : decode cX24_ripeBlock 203 = .ok (.iadd, 1) := by decide +kernel
theorem dX24_ripeBlock_204 : decode cX24_ripeBlock 204 = .ok (.istore_n 3, 1) := by decide +kernel
theorem dX24_ripeBlock_205 : decode cX24_ripeBlock 205 = .ok (.aload_n 0, 1) := by decide +kernel
theorem dX24_ripeBlock_206 : decode cX24_ripeBlock 206 = .ok (.getfield 19, 3) := by decide +kernel
theorem dX24_ripeBlock_209 : decode cX24_ripeBlock 209 = .ok (.iconst 1, 1) := by decide +kernel
theorem dX24_ripeBlock_210 : decode cX24_ripeBlock 210 = .ok (.aload_n 0, 1) := by decide +kernel
theorem dX24_ripeBlock_211 : decode cX24_ripeBlock 211 = .ok (.getfield 19, 3) := by decide +kernel
theorem dX24_ripeBlock_214 : decode cX24_ripeBlock 214 = .ok (.iconst 2, 1) := by decide +kernel
theorem dX24_ripeBlock_215 : decode cX24_ripeBlock 215 = .ok (.iaload, 1) := by decide +kernel
theorem dX24_ripeBlock_216 : decode cX24_ripeBlock 216 = .ok (.aload_n 0, 1) := by decide +kernel
theorem dX24_ripeBlock_217 : decode cX24_ripeBlock 217 = .ok (.getfield 61, 3) := by decide +kernel
theorem dX24_ripeBlock_220 : decode cX24_ripeBlock 220 = .ok (.iconst 3, 1) := by decide +kernel
theorem dX24_ripeBlock_221 : decode cX24_ripeBlock 221 = .ok (.iaload, 1) := by decide +kernel
theorem dX24_ripeBlock_222 : decode cX24_ripeBlock 222 = .ok (.iadd, 1) := by decide +kernel
theorem dX24_ripeBlock_223 : decode cX24_ripeBlock 223 = .ok (.aload_n 0, 1) := by decide +kernel
theorem dX24_ripeBlock_224 : decode cX24_ripeBlock 224 = .ok (.getfield 64, 3) := by decide +kernel
theorem dX24_ripeBlock_227 : decode cX24_ripeBlock 227 = .ok (.iconst 4, 1) := by decide +kernel
theorem dX24_ripeBlock_228 : decode cX24_ripeBlock 228 = .ok (.iaload, 1) := by decide +kernel
theorem dX24_ripeBlock_229 : decode cX24_ripeBlock 229 = .ok (.iadd, 1) := by decide +kernel
theorem dX24_ripeBlock_230 : decode cX24_ripeBlock 230 = .ok (.iastore, 1) := by decide +kernel
theorem dX24_ripeBlock_231 : decode cX24_ripeBlock 231 = .ok (.aload_n 0, 1) := by decide +kernel
theorem dX24_ripeBlock_232 : decode cX24_ripeBlock 232 = .ok (.getfield 19, 3) := by decide +kernel
theorem dX24_ripeBlock_235 : decode cX24_ripeBlock 235 = .ok (.iconst 2, 1) := by decide +kernel
theorem dX24_ripeBlock_236 : decode cX24_ripeBlock 236 = .ok (.aload_n 0, 1) := by decide +kernel
theorem dX24_ripeBlock_237 : decode cX24_ripeBlock 237 = .ok (.getfield 19, 3) := by decide +kernel
theorem dX24_ripeBlock_240 : decode cX24_ripeBlock 240 = .ok (.iconst 3, 1) := by decide +kernel
theorem dX24_ripeBlock_241 : decode cX24_ripeBlock 241 = .ok (.iaload, 1) := by decide +kernel
theorem dX24_ripeBlock_242 : decode cX24_ripeBlock 242 = .ok (.aload_n 0, 1) := by decide +kernel
theorem dX24_ripeBlock_243 : decode cX24_ripeBlock 243 = .ok (.getfield 61, 3) := by decide +kernel
theorem dX24_ripeBlock_246 : decode cX24_ripeBlock 246 = .ok (.iconst 4, 1) := by decide +kernel
theorem dX24_ripeBlock_247 : decode cX24_ripeBlock 247 = .ok (.iaload, 1) := by decide +kernel
theorem dX24_ripeBlock_248 : decode cX24_ripeBlock 248 = .ok (.iadd, 1) := by decide +kernel
theorem dX24_ripeBlock_249 : decode cX24_ripeBlock 249 = .ok (.aload_n 0, 1) := by decide +kernel
theorem dX24_ripeBlock_250 : decode cX24_ripeBlock 250 = .ok (.getfield 64, 3) := by decide +kernel
theorem dX24_ripeBlock_253 : decode cX24_ripeBlock 253 = .ok (.iconst 0, 1) := by decide +kernel
theorem dX24_ripeBlock_254 : decode cX24_ripeBlock 254 = .ok (.iaload, 1) := by decide +kernel
theorem dX24_ripeBlock_255 : decode cX24_ripeBlock 255 = .ok (.iadd, 1) := by decide +kernel
theorem dX24_ripeBlock_256 : decode cX24_ripeBlock 256 = .ok (.iastore, 1) := by decide +kernel
theorem dX24_ripeBlock_257 : decode cX24_ripeBlock 257 = .ok (.aload_n 0, 1) := by decide +kernel
theorem dX24_ripeBlock_258 : decode cX24_ripeBlock 258 = .ok (.getfield 19, 3) := by decide +kernel
theorem dX24_ripeBlock_261 : decode cX24_ripeBlock 261 = .ok (.iconst 3, 1) := by decide +kernel
theorem dX24_ripeBlock_262 : decode cX24_ripeBlock 262 = .ok (.aload_n 0, 1) := by decide +kernel
theorem dX24_ripeBlock_263 : decode cX24_ripeBlock 263 = .ok (.getfield 19, 3) := by decide +kernel
theorem dX24_ripeBlock_266 : decode cX24_ripeBlock 266 = .ok (.iconst 4, 1) := by decide +kernel
theorem dX24_ripeBlock_267 : decode cX24_ripeBlock 267 = .ok (.iaload, 1) := by decide +kernel
theorem dX24_ripeBlock_268 : decode cX24_ripeBlock 268 = .ok (.aload_n 0, 1) := by decide +kernel
theorem dX24_ripeBlock_269 : decode cX24_ripeBlock 269 = .ok (.getfield 61, 3) := by decide +kernel
theorem dX24_ripeBlock_272 : decode cX24_ripeBlock 272 = .ok (.iconst 0, 1) := by decide +kernel
theorem dX24_ripeBlock_273 : decode cX24_ripeBlock 273 = .ok (.iaload, 1) := by decide +kernel
theorem dX24_ripeBlock_274 : decode cX24_ripeBlock 274 = .ok (.iadd, 1) := by decide +kernel
theorem dX24_ripeBlock_275 : decode cX24_ripeBlock 275 = .ok (.aload_n 0, 1) := by decide +kernel
theorem dX24_ripeBlock_276 : decode cX24_ripeBlock 276 = .ok (.getfield 64, 3) := by decide +kernel
theorem dX24_ripeBlock_279 : decode cX24_ripeBlock 279 = .ok (.iconst 1, 1) := by decide +kernel
theorem dX24_ripeBlock_280 : decode cX24_ripeBlock 280 = .ok (.iaload, 1) := by decide +kernel
theorem dX24_ripeBlock_281 : decode cX24_ripeBlock 281 = .ok (.iadd, 1) := by decide +kernel
theorem dX24_ripeBlock_282 : decode cX24_ripeBlock 282 = .ok (.iastore, 1) := by decide +kernel
theorem dX24_ripeBlock_283 : decode cX24_ripeBlock 283 = .ok (.aload_n 0, 1) := by decide +kernel
theorem dX24_ripeBlock_284 : decode cX24_ripeBlock 284 = .ok (.getfield 19, 3) := by decide +kernel
theorem dX24_ripeBlock_287 : decode cX24_ripeBlock 287 = .ok (.iconst 4, 1) := by decide +kernel
theorem dX24_ripeBlock_288 : decode cX24_ripeBlock 288 = .ok (.aload_n 0, 1) := by decide +kernel
theorem dX24_ripeBlock_289 : decode cX24_ripeBlock 289 = .ok (.getfield 19, 3) := by decide +kernel
theorem dX24_ripeBlock_292 : decode cX24_ripeBlock 292 = .ok (.iconst 0, 1) := by decide +kernel
theorem dX24_ripeBlock_293 : decode cX24_ripeBlock 293 = .ok (.iaload, 1) := by decide +kernel
theorem dX24_ripeBlock_294 : decode cX24_ripeBlock 294 = .ok (.aload_n 0, 1) := by decide +kernel
theorem dX24_ripeBlock_295 : decode cX24_ripeBlock 295 = .ok (.getfield 61, 3) := by decide +kernel
theorem dX24_ripeBlock_298 : decode cX24_ripeBlock 298 = .ok (.iconst 1, 1) := by decide +kernel
theorem dX24_ripeBlock_299 : decode cX24_ripeBlock 299 = .ok (.iaload, 1) := by decide +kernel
theorem dX24_ripeBlock_300 : decode cX24_ripeBlock 300 = .ok (.iadd, 1) := by decide +kernel
theorem dX24_ripeBlock_301 : decode cX24_ripeBlock 301 = .ok (.aload_n 0, 1) := by decide +kernel
theorem dX24_ripeBlock_302 : decode cX24_ripeBlock 302 = .ok (.getfield 64, 3) := by decide +kernel
theorem dX24_ripeBlock_305 : decode cX24_ripeBlock 305 = .ok (.iconst 2, 1) := by decide +kernel
theorem dX24_ripeBlock_306 : decode cX24_ripeBlock 306 = .ok (.iaload, 1) := by decide +kernel
theorem dX24_ripeBlock_307 : decode cX24_ripeBlock 307 = .ok (.iadd, 1) := by decide +kernel
theorem dX24_ripeBlock_308 : decode cX24_ripeBlock 308 = .ok (.iastore, 1) := by decide +kernel
theorem dX24_ripeBlock_309 : decode cX24_ripeBlock 309 = .ok (.aload_n 0, 1) := by decide +kernel
theorem dX24_ripeBlock_310 : decode cX24_ripeBlock 310 = .ok (.getfield 19, 3) := by decide +kernel
theorem dX24_ripeBlock_313 : decode cX24_ripeBlock 313 = .ok (.iconst 0, 1) := by decide +kernel
theorem dX24_ripeBlock_314 : decode cX24_ripeBlock 314 = .ok (.iload_n 3, 1) := by decide +kernel
theorem dX24_ripeBlock_315 : decode cX24_ripeBlock 315 = .ok (.iastore, 1) := by decide +kernel
theorem dX24_ripeBlock_316 : decode cX24_ripeBlock 316 = .ok (.return_, 1) := by decide +kernel
/-! CoinJudgeModel.ripeBlock([BI)V -/
set_option maxHeartbeats 4000000 in
theorem sX24_ripeBlock_0 {G : Gx} {d t : Nat} {h0 : AH} {Φ : Out → AH → Prop} (h : AH) (v0 : Nat) (v1 : Nat) (v2 : Int32) (K : Aw G mX24_ripeBlock (d + 1) t h0 Φ 2 [vR v0, vR v1, vI v2, vI 0] [] h) : Aw G mX24_ripeBlock (d + 1) t h0 Φ 0 [vR v0, vR v1, vI v2, vU] [] h := by
  refine r_iconst (pc := 0) (x := 0) dX24_ripeBlock_0 rfl ?_
  refine r_istore_n (pc := 1) (lv' := [_, _, _, _]) dX24_ripeBlock_1 (by decide) rfl ?_
  refine r_mask (pc := 2) [true, true, true, true] rfl ?_
  exact K
theorem eX24_ripeBlock {G : Gx} {d : Nat} {Φ : Out → AH → Prop} (h : AH) (v0 : Nat) (v1 : Nat) (v2 : Int32) (K : WF G h → Aw G mX24_ripeBlock (d + 1) 0 h Φ 0 [vR v0, vR v1, vI v2, vU] [] h) : Cw G mX24_ripeBlock (d + 1) 0 [vR v0, vR v1, vI v2] h Φ := Cw.of rfl K
set_option maxHeartbeats 4000000 in
theorem sX24_ripeBlock_2 {G : Gx} {d t : Nat} {h0 : AH} {Φ : Out → AH → Prop} (h : AH) (v0 : Nat) (v1 : Nat) (v2 : Int32) (v3 : Int32) (K : ((16 ≤ v3 → Aw G mX24_ripeBlock (d + 1) t h0 Φ 84 [vR v0, vU, vU, vI 0] [] h) ∧ (¬ 16 ≤ v3 → h.kd v0 = 24 ∧ ∀ r3 : Nat, r3 = (h.r 24002 v0) → h.kd v1 = 101 ∧ vp_in (v2 + (4 * v3)) (h.ai v1).length ∧ vp_in ((v2 + (4 * v3)) + 1) (h.ai v1).length ∧ vp_in ((v2 + (4 * v3)) + 2) (h.ai v1).length ∧ vp_in ((v2 + (4 * v3)) + 3) (h.ai v1).length ∧ h.kd r3 = 100 ∧ vp_in v3 (h.ai r3).length ∧ ∀ h11 : AH, h11 = h.wi r3 ((h.ai r3).set (v3.toNatClampNeg) ((((((h.ai v1).getD ((v2 + (4 * v3)).toNatClampNeg) 0) &&& 255) ||| (jshl (((h.ai v1).getD (((v2 + (4 * v3)) + 1).toNatClampNeg) 0) &&& 255) 8)) ||| (jshl (((h.ai v1).getD (((v2 + (4 * v3)) + 2).toNatClampNeg) 0) &&& 255) 16)) ||| (jshl (((h.ai v1).getD (((v2 + (4 * v3)) + 3).toNatClampNeg) 0) &&& 255) 24))) → Aw G mX24_ripeBlock (d + 1) t h0 Φ 2 [vR v0, vR v1, vI v2, vI (v3 + 1)] [] h11))) : Aw G mX24_ripeBlock (d + 1) t h0 Φ 2 [vR v0, vR v1, vI v2, vI v3] [] h := by
  refine r_iload_n (pc := 2) dX24_ripeBlock_2 rfl ?_
  refine r_bipush (pc := 3) (x := 16) dX24_ripeBlock_3 rfl ?_
  refine r_icmp_ge (pc := 5) (tgt := 82) dX24_ripeBlock_5 rfl (fun c1 => ?_) (fun c1 => ?_)
  · have K := K.1 c1
    refine r_iconst (pc := 82) (x := 0) dX24_ripeBlock_82 rfl ?_
    refine r_istore_n (pc := 83) (lv' := [_, _, _, _]) dX24_ripeBlock_83 (by decide) rfl ?_
    refine r_mask (pc := 84) [true, false, false, true] rfl ?_
    exact K
  · have K := K.2 c1
    refine r_aload_n (pc := 8) dX24_ripeBlock_8 rfl ?_
    obtain ⟨hk2, K⟩ := K
    have K := K _ rfl
    refine r_getr' (pc := 9) (T := TX24) 24 2 rfl hk2 (Or.inl q2700) dX24_ripeBlock_9 kc24 g24002 ?_
    refine r_iload_n (pc := 12) dX24_ripeBlock_12 rfl ?_
    refine r_aload_n (pc := 13) dX24_ripeBlock_13 rfl ?_
    refine r_iload_n (pc := 14) dX24_ripeBlock_14 rfl ?_
    refine r_iconst (pc := 15) (x := 4) dX24_ripeBlock_15 rfl ?_
    refine r_iload_n (pc := 16) dX24_ripeBlock_16 rfl ?_
    refine r_imul (pc := 17) dX24_ripeBlock_17 ?_
    refine r_iadd (pc := 18) dX24_ripeBlock_18 ?_
    obtain ⟨hk4, K⟩ := K
    obtain ⟨hi5, K⟩ := K
    refine r_baload (pc := 19) hk4 hi5 dX24_ripeBlock_19 ?_
    refine r_sipush (pc := 20) (x := 255) dX24_ripeBlock_20 rfl ?_
    refine r_iand (pc := 23) dX24_ripeBlock_23 ?_
    refine r_aload_n (pc := 24) dX24_ripeBlock_24 rfl ?_
    refine r_iload_n (pc := 25) dX24_ripeBlock_25 rfl ?_
    refine r_iconst (pc := 26) (x := 4) dX24_ripeBlock_26 rfl ?_
    refine r_iload_n (pc := 27) dX24_ripeBlock_27 rfl ?_
    refine r_imul (pc := 28) dX24_ripeBlock_28 ?_
    refine r_iadd (pc := 29) dX24_ripeBlock_29 ?_
    refine r_iconst (pc := 30) (x := 1) dX24_ripeBlock_30 rfl ?_
    refine r_iadd (pc := 31) dX24_ripeBlock_31 ?_
    obtain ⟨hi6, K⟩ := K
    refine r_baload (pc := 32) hk4 hi6 dX24_ripeBlock_32 ?_
    refine r_sipush (pc := 33) (x := 255) dX24_ripeBlock_33 rfl ?_
    refine r_iand (pc := 36) dX24_ripeBlock_36 ?_
    refine r_bipush (pc := 37) (x := 8) dX24_ripeBlock_37 rfl ?_
    refine r_jshl (pc := 39) dX24_ripeBlock_39 ?_
    refine r_ior (pc := 40) dX24_ripeBlock_40 ?_
    refine r_aload_n (pc := 41) dX24_ripeBlock_41 rfl ?_
    refine r_iload_n (pc := 42) dX24_ripeBlock_42 rfl ?_
    refine r_iconst (pc := 43) (x := 4) dX24_ripeBlock_43 rfl ?_
    refine r_iload_n (pc := 44) dX24_ripeBlock_44 rfl ?_
    refine r_imul (pc := 45) dX24_ripeBlock_45 ?_
    refine r_iadd (pc := 46) dX24_ripeBlock_46 ?_
    refine r_iconst (pc := 47) (x := 2) dX24_ripeBlock_47 rfl ?_
    refine r_iadd (pc := 48) dX24_ripeBlock_48 ?_
    obtain ⟨hi7, K⟩ := K
    refine r_baload (pc := 49) hk4 hi7 dX24_ripeBlock_49 ?_
    refine r_sipush (pc := 50) (x := 255) dX24_ripeBlock_50 rfl ?_
    refine r_iand (pc := 53) dX24_ripeBlock_53 ?_
    refine r_bipush (pc := 54) (x := 16) dX24_ripeBlock_54 rfl ?_
    refine r_jshl (pc := 56) dX24_ripeBlock_56 ?_
    refine r_ior (pc := 57) dX24_ripeBlock_57 ?_
    refine r_aload_n (pc := 58) dX24_ripeBlock_58 rfl ?_
    refine r_iload_n (pc := 59) dX24_ripeBlock_59 rfl ?_
    refine r_iconst (pc := 60) (x := 4) dX24_ripeBlock_60 rfl ?_
    refine r_iload_n (pc := 61) dX24_ripeBlock_61 rfl ?_
    refine r_imul (pc := 62) dX24_ripeBlock_62 ?_
    refine r_iadd (pc := 63) dX24_ripeBlock_63 ?_
    refine r_iconst (pc := 64) (x := 3) dX24_ripeBlock_64 rfl ?_
    refine r_iadd (pc := 65) dX24_ripeBlock_65 ?_
    obtain ⟨hi8, K⟩ := K
    refine r_baload (pc := 66) hk4 hi8 dX24_ripeBlock_66 ?_
    refine r_sipush (pc := 67) (x := 255) dX24_ripeBlock_67 rfl ?_
    refine r_iand (pc := 70) dX24_ripeBlock_70 ?_
    refine r_bipush (pc := 71) (x := 24) dX24_ripeBlock_71 rfl ?_
    refine r_jshl (pc := 73) dX24_ripeBlock_73 ?_
    refine r_ior (pc := 74) dX24_ripeBlock_74 ?_
    obtain ⟨hk9, K⟩ := K
    obtain ⟨hi10, K⟩ := K
    refine r_iastore (pc := 75) hk9 hi10 (Or.inl (em rfl)) dX24_ripeBlock_75 ?_
    refine r_nameH (fun h11 eh11 => ?_)
    have K := K h11 eh11
    refine r_iinc (pc := 76) (lv' := [_, _, _, _]) dX24_ripeBlock_76 rfl rfl (by decide) rfl ?_
    refine r_goto (pc := 79) (tgt := 2) dX24_ripeBlock_79 rfl ?_
    refine r_mask (pc := 2) [true, true, true, true] rfl ?_
    exact K
set_option maxHeartbeats 4000000 in
theorem sX24_ripeBlock_84 {G : Gx} {d t : Nat} {h0 : AH} {Φ : Out → AH → Prop} (h : AH) (v0 : Nat) (v3 : Int32) (K : ((5 ≤ v3 → Aw G mX24_ripeBlock (d + 1) t h0 Φ 121 [vR v0, vU, vU, vI 0] [] h) ∧ (¬ 5 ≤ v3 → h.kd v0 = 24 ∧ ∀ r3 : Nat, r3 = (h.r 24012 v0) → ∀ r4 : Nat, r4 = (h.r 24001 v0) → h.kd r4 = 100 ∧ vp_in v3 (h.ai r4).length ∧ h.kd r3 = 100 ∧ vp_in v3 (h.ai r3).length ∧ ∀ h9 : AH, h9 = h.wi r3 ((h.ai r3).set (v3.toNatClampNeg) ((h.ai r4).getD (v3.toNatClampNeg) 0)) → ∀ r11 : Nat, r11 = (h9.r 24013 v0) → vp_in v3 (h9.ai r4).length ∧ h9.kd r11 = 100 ∧ vp_in v3 (h9.ai r11).length ∧ ∀ h18 : AH, h18 = h9.wi r11 ((h9.ai r11).set (v3.toNatClampNeg) ((h9.ai r4).getD (v3.toNatClampNeg) 0)) → Aw G mX24_ripeBlock (d + 1) t h0 Φ 84 [vR v0, vU, vU, vI (v3 + 1)] [] h18))) : Aw G mX24_ripeBlock (d + 1) t h0 Φ 84 [vR v0, vU, vU, vI v3] [] h := by
  refine r_iload_n (pc := 84) dX24_ripeBlock_84 rfl ?_
  refine r_iconst (pc := 85) (x := 5) dX24_ripeBlock_85 rfl ?_
  refine r_icmp_ge (pc := 86) (tgt := 119) dX24_ripeBlock_86 rfl (fun c1 => ?_) (fun c1 => ?_)
  · have K := K.1 c1
    refine r_iconst (pc := 119) (x := 0) dX24_ripeBlock_119 rfl ?_
    refine r_istore_n (pc := 120) (lv' := [_, _, _, _]) dX24_ripeBlock_120 (by decide) rfl ?_
    refine r_mask (pc := 121) [true, false, false, true] rfl ?_
    exact K
  · have K := K.2 c1
    refine r_aload_n (pc := 89) dX24_ripeBlock_89 rfl ?_
    obtain ⟨hk2, K⟩ := K
    have K := K _ rfl
    refine r_getr' (pc := 90) (T := TX24) 24 12 rfl hk2 (Or.inl q2710) dX24_ripeBlock_90 kc24 g24012 ?_
    refine r_iload_n (pc := 93) dX24_ripeBlock_93 rfl ?_
    refine r_aload_n (pc := 94) dX24_ripeBlock_94 rfl ?_
    have K := K _ rfl
    refine r_getr' (pc := 95) (T := TX24) 24 1 rfl hk2 (Or.inl q2699) dX24_ripeBlock_95 kc24 g24001 ?_
    refine r_iload_n (pc := 98) dX24_ripeBlock_98 rfl ?_
    obtain ⟨hk5, K⟩ := K
    obtain ⟨hi6, K⟩ := K
    refine r_iaload (pc := 99) hk5 hi6 dX24_ripeBlock_99 ?_
    obtain ⟨hk7, K⟩ := K
    obtain ⟨hi8, K⟩ := K
    refine r_iastore (pc := 100) hk7 hi8 (Or.inl (em rfl)) dX24_ripeBlock_100 ?_
    refine r_nameH (fun h9 eh9 => ?_)
    have K := K h9 eh9
    refine r_aload_n (pc := 101) dX24_ripeBlock_101 rfl ?_
    have hk10 := kd_wi eh9 hk2
    have K := K _ rfl
    refine r_getr' (pc := 102) (T := TX24) 24 13 rfl hk10 (Or.inl q2711) dX24_ripeBlock_102 kc24 g24013 ?_
    refine r_iload_n (pc := 105) dX24_ripeBlock_105 rfl ?_
    refine r_aload_n (pc := 106) dX24_ripeBlock_106 rfl ?_
    have hv12 := fr_self (key := 24001) hk2
    have hv13 := fr_wi (key := 24001) eh9 hv12
    refine r_getr' (pc := 107) (T := TX24) 24 1 hv13 hk10 (Or.inl q2699) dX24_ripeBlock_107 kc24 g24001 ?_
    refine r_iload_n (pc := 110) dX24_ripeBlock_110 rfl ?_
    have hk14 := kd_wi eh9 hk5
    obtain ⟨hi15, K⟩ := K
    refine r_iaload (pc := 111) hk14 hi15 dX24_ripeBlock_111 ?_
    obtain ⟨hk16, K⟩ := K
    obtain ⟨hi17, K⟩ := K
    refine r_iastore (pc := 112) hk16 hi17 (Or.inl (em rfl)) dX24_ripeBlock_112 ?_
    refine r_nameH (fun h18 eh18 => ?_)
    have K := K h18 eh18
    refine r_iinc (pc := 113) (lv' := [_, _, _, _]) dX24_ripeBlock_113 rfl rfl (by decide) rfl ?_
    refine r_goto (pc := 116) (tgt := 84) dX24_ripeBlock_116 rfl ?_
    refine r_mask (pc := 84) [true, false, false, true] rfl ?_
    exact K
set_option maxHeartbeats 4000000 in
theorem sX24_ripeBlock_121 {G : Gx} {d t : Nat} {h0 : AH} {Φ : Out → AH → Prop} (h : AH) (v0 : Nat) (v3 : Int32) (K : ((80 ≤ v3 → h.kd v0 = 24 ∧ ∀ r3 : Nat, r3 = (h.r 24001 v0) → h.kd r3 = 100 ∧ vp_in 1 (h.ai r3).length ∧ ∀ r6 : Nat, r6 = (h.r 24012 v0) → h.kd r6 = 100 ∧ vp_in 2 (h.ai r6).length ∧ ∀ r9 : Nat, r9 = (h.r 24013 v0) → h.kd r9 = 100 ∧ vp_in 3 (h.ai r9).length ∧ ∀ u12 : Int32, u12 = ((((h.ai r3).getD ((1 : Int32).toNatClampNeg) 0) + ((h.ai r6).getD ((2 : Int32).toNatClampNeg) 0)) + ((h.ai r9).getD ((3 : Int32).toNatClampNeg) 0)) → vp_in 2 (h.ai r3).length ∧ vp_in 3 (h.ai r6).length ∧ vp_in 4 (h.ai r9).length ∧ vp_in 1 (h.ai r3).length ∧ ∀ h17 : AH, h17 = h.wi r3 ((h.ai r3).set ((1 : Int32).toNatClampNeg) ((((h.ai r3).getD ((2 : Int32).toNatClampNeg) 0) + ((h.ai r6).getD ((3 : Int32).toNatClampNeg) 0)) + ((h.ai r9).getD ((4 : Int32).toNatClampNeg) 0))) → vp_in 3 (h17.ai r3).length ∧ vp_in 4 (h17.ai r6).length ∧ vp_in 0 (h17.ai r9).length ∧ vp_in 2 (h17.ai r3).length ∧ ∀ h32 : AH, h32 = h17.wi r3 ((h17.ai r3).set ((2 : Int32).toNatClampNeg) ((((h17.ai r3).getD ((3 : Int32).toNatClampNeg) 0) + ((h17.ai r6).getD ((4 : Int32).toNatClampNeg) 0)) + ((h17.ai r9).getD ((0 : Int32).toNatClampNeg) 0))) → vp_in 4 (h32.ai r3).length ∧ vp_in 0 (h32.ai r6).length ∧ vp_in 1 (h32.ai r9).length ∧ vp_in 3 (h32.ai r3).length ∧ ∀ h44 : AH, h44 = h32.wi r3 ((h32.ai r3).set ((3 : Int32).toNatClampNeg) ((((h32.ai r3).getD ((4 : Int32).toNatClampNeg) 0) + ((h32.ai r6).getD ((0 : Int32).toNatClampNeg) 0)) + ((h32.ai r9).getD ((1 : Int32).toNatClampNeg) 0))) → vp_in 0 (h44.ai r3).length ∧ vp_in 1 (h44.ai r6).length ∧ vp_in 2 (h44.ai r9).length ∧ vp_in 4 (h44.ai r3).length ∧ ∀ h56 : AH, h56 = h44.wi r3 ((h44.ai r3).set ((4 : Int32).toNatClampNeg) ((((h44.ai r3).getD ((0 : Int32).toNatClampNeg) 0) + ((h44.ai r6).getD ((1 : Int32).toNatClampNeg) 0)) + ((h44.ai r9).getD ((2 : Int32).toNatClampNeg) 0))) → vp_in 0 (h56.ai r3).length ∧ ∀ h61 : AH, h61 = h56.wi r3 ((h56.ai r3).set ((0 : Int32).toNatClampNeg) u12) → Φ (.inl none) h61) ∧ (¬ 80 ≤ v3 → h.kd v0 = 24 ∧ ∀ r63 : Nat, r63 = (h.r 24012 v0) → ∀ r64 : Nat, r64 = (h.r 24011 v0) → h.kd r64 = 100 ∧ vp_in (v3 / 16) (h.ai r64).length ∧ Cw G mX24_side d 0 [vR v0, vR r63, vI (v3 / 16), vI v3, vI ((h.ai r64).getD ((v3 / 16).toNatClampNeg) 0)] h (kV (fun h68 => ∀ r70 : Nat, r70 = (h68.r 24013 v0) → vp_in (5 + (v3 / 16)) (h68.ai r64).length ∧ Cw G mX24_side d 0 [vR v0, vR r70, vI (4 - (v3 / 16)), vI (80 + v3), vI ((h68.ai r64).getD ((5 + (v3 / 16)).toNatClampNeg) 0)] h68 (kV (fun h76 => Aw G mX24_ripeBlock (d + 1) t h0 Φ 121 [vR v0, vU, vU, vI (v3 + 1)] [] h76) (fun x h => Φ (.inr x) h))) (fun x h => Φ (.inr x) h))))) : Aw G mX24_ripeBlock (d + 1) t h0 Φ 121 [vR v0, vU, vU, vI v3] [] h := by
  refine r_iload_n (pc := 121) dX24_ripeBlock_121 rfl ?_
  refine r_bipush (pc := 122) (x := 80) dX24_ripeBlock_122 rfl ?_
  refine r_icmp_ge (pc := 124) (tgt := 184) dX24_ripeBlock_124 rfl (fun c1 => ?_) (fun c1 => ?_)
  · have K := K.1 c1
    refine r_aload_n (pc := 184) dX24_ripeBlock_184 rfl ?_
    obtain ⟨hk2, K⟩ := K
    have K := K _ rfl
    refine r_getr' (pc := 185) (T := TX24) 24 1 rfl hk2 (Or.inl q2699) dX24_ripeBlock_185 kc24 g24001 ?_
    refine r_iconst (pc := 188) (x := 1) dX24_ripeBlock_188 rfl ?_
    obtain ⟨hk4, K⟩ := K
    obtain ⟨hi5, K⟩ := K
    refine r_iaload (pc := 189) hk4 hi5 dX24_ripeBlock_189 ?_
    refine r_aload_n (pc := 190) dX24_ripeBlock_190 rfl ?_
    have K := K _ rfl
    refine r_getr' (pc := 191) (T := TX24) 24 12 rfl hk2 (Or.inl q2710) dX24_ripeBlock_191 kc24 g24012 ?_
    refine r_iconst (pc := 194) (x := 2) dX24_ripeBlock_194 rfl ?_
    obtain ⟨hk7, K⟩ := K
    obtain ⟨hi8, K⟩ := K
    refine r_iaload (pc := 195) hk7 hi8 dX24_ripeBlock_195 ?_
    refine r_iadd (pc := 196) dX24_ripeBlock_196 ?_
    refine r_aload_n (pc := 197) dX24_ripeBlock_197 rfl ?_
    have K := K _ rfl
    refine r_getr' (pc := 198) (T := TX24) 24 13 rfl hk2 (Or.inl q2711) dX24_ripeBlock_198 kc24 g24013 ?_
    refine r_iconst (pc := 201) (x := 3) dX24_ripeBlock_201 rfl ?_
    obtain ⟨hk10, K⟩ := K
    obtain ⟨hi11, K⟩ := K
    refine r_iaload (pc := 202) hk10 hi11 dX24_ripeBlock_202 ?_
    refine r_iadd (pc := 203) dX24_ripeBlock_203 ?_
    have K := K _ rfl
    refine r_istore_n (pc := 204) (lv' := [_, _, _, _]) dX24_ripeBlock_204 (by decide) rfl ?_
    refine r_aload_n (pc := 205) dX24_ripeBlock_205 rfl ?_
    refine r_getr' (pc := 206) (T := TX24) 24 1 rfl hk2 (Or.inl q2699) dX24_ripeBlock_206 kc24 g24001 ?_
    refine r_iconst (pc := 209) (x := 1) dX24_ripeBlock_209 rfl ?_
    refine r_aload_n (pc := 210) dX24_ripeBlock_210 rfl ?_
    refine r_getr' (pc := 211) (T := TX24) 24 1 rfl hk2 (Or.inl q2699) dX24_ripeBlock_211 kc24 g24001 ?_
    refine r_iconst (pc := 214) (x := 2) dX24_ripeBlock_214 rfl ?_
    obtain ⟨hi13, K⟩ := K
    refine r_iaload (pc := 215) hk4 hi13 dX24_ripeBlock_215 ?_
    refine r_aload_n (pc := 216) dX24_ripeBlock_216 rfl ?_
    refine r_getr' (pc := 217) (T := TX24) 24 12 rfl hk2 (Or.inl q2710) dX24_ripeBlock_217 kc24 g24012 ?_
    refine r_iconst (pc := 220) (x := 3) dX24_ripeBlock_220 rfl ?_
    obtain ⟨hi14, K⟩ := K
    refine r_iaload (pc := 221) hk7 hi14 dX24_ripeBlock_221 ?_
    refine r_iadd (pc := 222) dX24_ripeBlock_222 ?_
    refine r_aload_n (pc := 223) dX24_ripeBlock_223 rfl ?_
    refine r_getr' (pc := 224) (T := TX24) 24 13 rfl hk2 (Or.inl q2711) dX24_ripeBlock_224 kc24 g24013 ?_
    refine r_iconst (pc := 227) (x := 4) dX24_ripeBlock_227 rfl ?_
    obtain ⟨hi15, K⟩ := K
    refine r_iaload (pc := 228) hk10 hi15 dX24_ripeBlock_228 ?_
    refine r_iadd (pc := 229) dX24_ripeBlock_229 ?_
    obtain ⟨hi16, K⟩ := K
    refine r_iastore (pc := 230) hk4 hi16 (Or.inl (em rfl)) dX24_ripeBlock_230 ?_
    refine r_nameH (fun h17 eh17 => ?_)
    have K := K h17 eh17
    refine r_aload_n (pc := 231) dX24_ripeBlock_231 rfl ?_
    have hk18 := kd_wi eh17 hk2
    have hv19 := fr_self (key := 24001) hk2
    have hv20 := fr_wi (key := 24001) eh17 hv19
    refine r_getr' (pc := 232) (T := TX24) 24 1 hv20 hk18 (Or.inl q2699) dX24_ripeBlock_232 kc24 g24001 ?_
    refine r_iconst (pc := 235) (x := 2) dX24_ripeBlock_235 rfl ?_
    refine r_aload_n (pc := 236) dX24_ripeBlock_236 rfl ?_
    refine r_getr' (pc := 237) (T := TX24) 24 1 hv20 hk18 (Or.inl q2699) dX24_ripeBlock_237 kc24 g24001 ?_
    refine r_iconst (pc := 240) (x := 3) dX24_ripeBlock_240 rfl ?_
    have hk21 := kd_wi eh17 hk4
    obtain ⟨hi22, K⟩ := K
    refine r_iaload (pc := 241) hk21 hi22 dX24_ripeBlock_241 ?_
    refine r_aload_n (pc := 242) dX24_ripeBlock_242 rfl ?_
    have hv23 := fr_self (key := 24012) hk2
    have hv24 := fr_wi (key := 24012) eh17 hv23
    refine r_getr' (pc := 243) (T := TX24) 24 12 hv24 hk18 (Or.inl q2710) dX24_ripeBlock_243 kc24 g24012 ?_
    refine r_iconst (pc := 246) (x := 4) dX24_ripeBlock_246 rfl ?_
    have hk25 := kd_wi eh17 hk7
    obtain ⟨hi26, K⟩ := K
    refine r_iaload (pc := 247) hk25 hi26 dX24_ripeBlock_247 ?_
    refine r_iadd (pc := 248) dX24_ripeBlock_248 ?_
    refine r_aload_n (pc := 249) dX24_ripeBlock_249 rfl ?_
    have hv27 := fr_self (key := 24013) hk2
    have hv28 := fr_wi (key := 24013) eh17 hv27
    refine r_getr' (pc := 250) (T := TX24) 24 13 hv28 hk18 (Or.inl q2711) dX24_ripeBlock_250 kc24 g24013 ?_
    refine r_iconst (pc := 253) (x := 0) dX24_ripeBlock_253 rfl ?_
    have hk29 := kd_wi eh17 hk10
    obtain ⟨hi30, K⟩ := K
    refine r_iaload (pc := 254) hk29 hi30 dX24_ripeBlock_254 ?_
    refine r_iadd (pc := 255) dX24_ripeBlock_255 ?_
    obtain ⟨hi31, K⟩ := K
    refine r_iastore (pc := 256) hk21 hi31 (Or.inl (em rfl)) dX24_ripeBlock_256 ?_
    refine r_nameH (fun h32 eh32 => ?_)
    have K := K h32 eh32
    refine r_aload_n (pc := 257) dX24_ripeBlock_257 rfl ?_
    have hk33 := kd_wi eh32 hk18
    have hv34 := fr_wi (key := 24001) eh32 hv20
    refine r_getr' (pc := 258) (T := TX24) 24 1 hv34 hk33 (Or.inl q2699) dX24_ripeBlock_258 kc24 g24001 ?_
    refine r_iconst (pc := 261) (x := 3) dX24_ripeBlock_261 rfl ?_
    refine r_aload_n (pc := 262) dX24_ripeBlock_262 rfl ?_
    refine r_getr' (pc := 263) (T := TX24) 24 1 hv34 hk33 (Or.inl q2699) dX24_ripeBlock_263 kc24 g24001 ?_
    refine r_iconst (pc := 266) (x := 4) dX24_ripeBlock_266 rfl ?_
    have hk35 := kd_wi eh32 hk21
    obtain ⟨hi36, K⟩ := K
    refine r_iaload (pc := 267) hk35 hi36 dX24_ripeBlock_267 ?_
    refine r_aload_n (pc := 268) dX24_ripeBlock_268 rfl ?_
    have hv37 := fr_wi (key := 24012) eh32 hv24
    refine r_getr' (pc := 269) (T := TX24) 24 12 hv37 hk33 (Or.inl q2710) dX24_ripeBlock_269 kc24 g24012 ?_
    refine r_iconst (pc := 272) (x := 0) dX24_ripeBlock_272 rfl ?_
    have hk38 := kd_wi eh32 hk25
    obtain ⟨hi39, K⟩ := K
    refine r_iaload (pc := 273) hk38 hi39 dX24_ripeBlock_273 ?_
    refine r_iadd (pc := 274) dX24_ripeBlock_274 ?_
    refine r_aload_n (pc := 275) dX24_ripeBlock_275 rfl ?_
    have hv40 := fr_wi (key := 24013) eh32 hv28
    refine r_getr' (pc := 276) (T := TX24) 24 13 hv40 hk33 (Or.inl q2711) dX24_ripeBlock_276 kc24 g24013 ?_
    refine r_iconst (pc := 279) (x := 1) dX24_ripeBlock_279 rfl ?_
    have hk41 := kd_wi eh32 hk29
    obtain ⟨hi42, K⟩ := K
    refine r_iaload (pc := 280) hk41 hi42 dX24_ripeBlock_280 ?_
    refine r_iadd (pc := 281) dX24_ripeBlock_281 ?_
    obtain ⟨hi43, K⟩ := K
    refine r_iastore (pc := 282) hk35 hi43 (Or.inl (em rfl)) dX24_ripeBlock_282 ?_
    refine r_nameH (fun h44 eh44 => ?_)
    have K := K h44 eh44
    refine r_aload_n (pc := 283) dX24_ripeBlock_283 rfl ?_
    have hk45 := kd_wi eh44 hk33
    have hv46 := fr_wi (key := 24001) eh44 hv34
    refine r_getr' (pc := 284) (T := TX24) 24 1 hv46 hk45 (Or.inl q2699) dX24_ripeBlock_284 kc24 g24001 ?_
    refine r_iconst (pc := 287) (x := 4) dX24_ripeBlock_287 rfl ?_
    refine r_aload_n (pc := 288) dX24_ripeBlock_288 rfl ?_
    refine r_getr' (pc := 289) (T := TX24) 24 1 hv46 hk45 (Or.inl q2699) dX24_ripeBlock_289 kc24 g24001 ?_
    refine r_iconst (pc := 292) (x := 0) dX24_ripeBlock_292 rfl ?_
    have hk47 := kd_wi eh44 hk35
    obtain ⟨hi48, K⟩ := K
    refine r_iaload (pc := 293) hk47 hi48 dX24_ripeBlock_293 ?_
    refine r_aload_n (pc := 294) dX24_ripeBlock_294 rfl ?_
    have hv49 := fr_wi (key := 24012) eh44 hv37
    refine r_getr' (pc := 295) (T := TX24) 24 12 hv49 hk45 (Or.inl q2710) dX24_ripeBlock_295 kc24 g24012 ?_
    refine r_iconst (pc := 298) (x := 1) dX24_ripeBlock_298 rfl ?_
    have hk50 := kd_wi eh44 hk38
    obtain ⟨hi51, K⟩ := K
    refine r_iaload (pc := 299) hk50 hi51 dX24_ripeBlock_299 ?_
    refine r_iadd (pc := 300) dX24_ripeBlock_300 ?_
    refine r_aload_n (pc := 301) dX24_ripeBlock_301 rfl ?_
    have hv52 := fr_wi (key := 24013) eh44 hv40
    refine r_getr' (pc := 302) (T := TX24) 24 13 hv52 hk45 (Or.inl q2711) dX24_ripeBlock_302 kc24 g24013 ?_
    refine r_iconst (pc := 305) (x := 2) dX24_ripeBlock_305 rfl ?_
    have hk53 := kd_wi eh44 hk41
    obtain ⟨hi54, K⟩ := K
    refine r_iaload (pc := 306) hk53 hi54 dX24_ripeBlock_306 ?_
    refine r_iadd (pc := 307) dX24_ripeBlock_307 ?_
    obtain ⟨hi55, K⟩ := K
    refine r_iastore (pc := 308) hk47 hi55 (Or.inl (em rfl)) dX24_ripeBlock_308 ?_
    refine r_nameH (fun h56 eh56 => ?_)
    have K := K h56 eh56
    refine r_aload_n (pc := 309) dX24_ripeBlock_309 rfl ?_
    have hk57 := kd_wi eh56 hk45
    have hv58 := fr_wi (key := 24001) eh56 hv46
    refine r_getr' (pc := 310) (T := TX24) 24 1 hv58 hk57 (Or.inl q2699) dX24_ripeBlock_310 kc24 g24001 ?_
    refine r_iconst (pc := 313) (x := 0) dX24_ripeBlock_313 rfl ?_
    refine r_iload_n (pc := 314) dX24_ripeBlock_314 rfl ?_
    have hk59 := kd_wi eh56 hk47
    obtain ⟨hi60, K⟩ := K
    refine r_iastore (pc := 315) hk59 hi60 (Or.inl (em rfl)) dX24_ripeBlock_315 ?_
    refine r_nameH (fun h61 eh61 => ?_)
    have K := K h61 eh61
    exact r_vret (pc := 316) rfl dX24_ripeBlock_316 K
  · have K := K.2 c1
    refine r_aload_n (pc := 127) dX24_ripeBlock_127 rfl ?_
    refine r_aload_n (pc := 128) dX24_ripeBlock_128 rfl ?_
    obtain ⟨hk62, K⟩ := K
    have K := K _ rfl
    refine r_getr' (pc := 129) (T := TX24) 24 12 rfl hk62 (Or.inl q2710) dX24_ripeBlock_129 kc24 g24012 ?_
    refine r_iload_n (pc := 132) dX24_ripeBlock_132 rfl ?_
    refine r_bipush (pc := 133) (x := 16) dX24_ripeBlock_133 rfl ?_
    refine r_idiv (pc := 135) (by decide) dX24_ripeBlock_135 ?_
    refine r_iload_n (pc := 136) dX24_ripeBlock_136 rfl ?_
    refine r_aload_n (pc := 137) dX24_ripeBlock_137 rfl ?_
    have K := K _ rfl
    refine r_getr' (pc := 138) (T := TX24) 24 11 rfl hk62 (Or.inl q2709) dX24_ripeBlock_138 kc24 g24011 ?_
    refine r_iload_n (pc := 141) dX24_ripeBlock_141 rfl ?_
    refine r_bipush (pc := 142) (x := 16) dX24_ripeBlock_142 rfl ?_
    refine r_idiv (pc := 144) (by decide) dX24_ripeBlock_144 ?_
    obtain ⟨hk65, K⟩ := K
    obtain ⟨hi66, K⟩ := K
    refine r_iaload (pc := 145) hk65 hi66 dX24_ripeBlock_145 ?_
    refine r_callV_V (pc := 146) (Y := mX24_side) (vs := [_, _, _, _]) (st := []) hk62 rfl kc24 q2555 q2557 qs106 dX24_ripeBlock_146 rfl cd_X24_side rfl rfl fp_X24_ripeBlock_X24_side K (fun h68 eh68 wh68 K => ?_) (fun x h1 _ _ e => Tw.out rfl e)
    refine r_aload_n (pc := 149) dX24_ripeBlock_149 rfl ?_
    refine r_aload_n (pc := 150) dX24_ripeBlock_150 rfl ?_
    have hk69 := kd_ext eh68 hk62 (nz rfl)
    have K := K _ rfl
    refine r_getr' (pc := 151) (T := TX24) 24 13 rfl hk69 (Or.inl q2711) dX24_ripeBlock_151 kc24 g24013 ?_
    refine r_iconst (pc := 154) (x := 4) dX24_ripeBlock_154 rfl ?_
    refine r_iload_n (pc := 155) dX24_ripeBlock_155 rfl ?_
    refine r_bipush (pc := 156) (x := 16) dX24_ripeBlock_156 rfl ?_
    refine r_idiv (pc := 158) (by decide) dX24_ripeBlock_158 ?_
    refine r_isub (pc := 159) dX24_ripeBlock_159 ?_
    refine r_bipush (pc := 160) (x := 80) dX24_ripeBlock_160 rfl ?_
    refine r_iload_n (pc := 162) dX24_ripeBlock_162 rfl ?_
    refine r_iadd (pc := 163) dX24_ripeBlock_163 ?_
    refine r_aload_n (pc := 164) dX24_ripeBlock_164 rfl ?_
    have hv71 := fr_self (key := 24011) hk62
    have hv72 := (fr_ext (key := 24011) eh68 hk62 (nz rfl) (ne0 wh68 hk69 (nz rfl)) (nm rfl)).trans hv71
    refine r_getr' (pc := 165) (T := TX24) 24 11 hv72 hk69 (Or.inl q2709) dX24_ripeBlock_165 kc24 g24011 ?_
    refine r_iconst (pc := 168) (x := 5) dX24_ripeBlock_168 rfl ?_
    refine r_iload_n (pc := 169) dX24_ripeBlock_169 rfl ?_
    refine r_bipush (pc := 170) (x := 16) dX24_ripeBlock_170 rfl ?_
    refine r_idiv (pc := 172) (by decide) dX24_ripeBlock_172 ?_
    refine r_iadd (pc := 173) dX24_ripeBlock_173 ?_
    have hk73 := kd_ext eh68 hk65 (nz rfl)
    obtain ⟨hi74, K⟩ := K
    refine r_iaload (pc := 174) hk73 hi74 dX24_ripeBlock_174 ?_
    refine r_callV_V (pc := 175) (Y := mX24_side) (vs := [_, _, _, _]) (st := []) hk69 rfl kc24 q2555 q2557 qs106 dX24_ripeBlock_175 rfl cd_X24_side rfl rfl fp_X24_ripeBlock_X24_side K (fun h76 eh76 wh76 K => ?_) (fun x h1 _ _ e => Tw.out rfl e)
    refine r_iinc (pc := 178) (lv' := [_, _, _, _]) dX24_ripeBlock_178 rfl rfl (by decide) rfl ?_
    refine r_goto (pc := 181) (tgt := 121) dX24_ripeBlock_181 rfl ?_
    refine r_mask (pc := 121) [true, false, false, true] rfl ?_
    exact K
theorem dX24_ripe_0 : decode cX24_ripe 0 = .ok (.iload_n 3, 1) := by decide +kernel
theorem dX24_ripe_1 : decode cX24_ripe 1 = .ok (.bipush 64, 2) := by decide +kernel
theorem dX24_ripe_3 : decode cX24_ripe 3 = .ok (.idiv, 1) := by decide +kernel
theorem dX24_ripe_4 : decode cX24_ripe 4 = .ok (.bipush 64, 2) := by decide +kernel
theorem dX24_ripe_6 : decode cX24_ripe 6 = .ok (.imul, 1) := by decide +kernel
theorem dX24_ripe_7 : decode cX24_ripe 7 = .ok (.istore 6, 2) := by decide +kernel
theorem dX24_ripe_9 : decode cX24_ripe 9 = .ok (.aload_n 0, 1) := by decide +kernel
theorem dX24_ripe_10 : decode cX24_ripe 10 = .ok (.getfield 19, 3) := by decide +kernel
theorem dX24_ripe_13 : decode cX24_ripe 13 = .ok (.iconst 0, 1) := by decide +kernel
theorem dX24_ripe_14 : decode cX24_ripe 14 = .ok (.ldc 53, 2) := by decide +kernel
theorem dX24_ripe_16 : decode cX24_ripe 16 = .ok (.iastore, 1) := by decide +kernel
theorem dX24_ripe_17 : decode cX24_ripe 17 = .ok (.aload_n 0, 1) := by decide +kernel
theorem dX24_ripe_18 : decode cX24_ripe 18 = .ok (.getfield 19, 3) := by decide +kernel
theorem dX24_ripe_21 : decode cX24_ripe 21 = .ok (.iconst 1, 1) := by decide +kernel
theorem dX24_ripe_22 : decode cX24_ripe 22 = .ok (.ldc 54, 2) := by decide +kernel
theorem dX24_ripe_24 : decode cX24_ripe 24 = .ok (.iastore, 1) := by decide +kernel
theorem dX24_ripe_25 : decode cX24_ripe 25 = .ok (.aload_n 0, 1) := by decide +kernel
theorem dX24_ripe_26 : decode cX24_ripe 26 = .ok (.getfield 19, 3) := by decide +kernel
theorem dX24_ripe_29 : decode cX24_ripe 29 = .ok (.iconst 2, 1) := by decide +kernel
theorem dX24_ripe_30 : decode cX24_ripe 30 = .ok (.ldc 55, 2) := by decide +kernel
theorem dX24_ripe_32 : decode cX24_ripe 32 = .ok (.iastore, 1) := by decide +kernel
theorem dX24_ripe_33 : decode cX24_ripe 33 = .ok (.aload_n 0, 1) := by decide +kernel
theorem dX24_ripe_34 : decode cX24_ripe 34 = .ok (.getfield 19, 3) := by decide +kernel
theorem dX24_ripe_37 : decode cX24_ripe 37 = .ok (.iconst 3, 1) := by decide +kernel
theorem dX24_ripe_38 : decode cX24_ripe 38 = .ok (.ldc 56, 2) := by decide +kernel
theorem dX24_ripe_40 : decode cX24_ripe 40 = .ok (.iastore, 1) := by decide +kernel
theorem dX24_ripe_41 : decode cX24_ripe 41 = .ok (.aload_n 0, 1) := by decide +kernel
theorem dX24_ripe_42 : decode cX24_ripe 42 = .ok (.getfield 19, 3) := by decide +kernel
theorem dX24_ripe_45 : decode cX24_ripe 45 = .ok (.iconst 4, 1) := by decide +kernel
theorem dX24_ripe_46 : decode cX24_ripe 46 = .ok (.ldc 57, 2) := by decide +kernel
theorem dX24_ripe_48 : decode cX24_ripe 48 = .ok (.iastore, 1) := by decide +kernel
theorem dX24_ripe_49 : decode cX24_ripe 49 = .ok (.iconst 0, 1) := by decide +kernel
theorem dX24_ripe_50 : decode cX24_ripe 50 = .ok (.istore 7, 2) := by decide +kernel
theorem dX24_ripe_52 : decode cX24_ripe 52 = .ok (.iload 7, 2) := by decide +kernel
theorem dX24_ripe_54 : decode cX24_ripe 54 = .ok (.iload 6, 2) := by decide +kernel
theorem dX24_ripe_56 : decode cX24_ripe 56 = .ok (.if_icmp .ge 18, 3) := by decide +kernel
theorem dX24_ripe_59 : decode cX24_ripe 59 = .ok (.aload_n 0, 1) := by decide +kernel
theorem dX24_ripe_60 : decode cX24_ripe 60 = .ok (.aload_n 1, 1) := by decide +kernel
theorem dX24_ripe_61 : decode cX24_ripe 61 = .ok (.iload_n 2, 1) := by decide +kernel
theorem dX24_ripe_62 : decode cX24_ripe 62 = .ok (.iload 7, 2) := by decide +kernel
theorem dX24_ripe_64 : decode cX24_ripe 64 = .ok (.iadd, 1) := by decide +kernel
theorem dX24_ripe_65 : decode cX24_ripe 65 = .ok (.invokevirtual 58, 3) := by decide +kernel
theorem dX24_ripe_68 : decode cX24_ripe 68 = .ok (.iinc 7 64, 3) := by decide +kernel
theorem dX24_ripe_71 : decode cX24_ripe 71 = .ok (.goto (-19), 3) := by decide +kernel
theorem dX24_ripe_74 : decode cX24_ripe 74 = .ok (.aload_n 0, 1) := by decide +kernel
theorem dX24_ripe_75 : decode cX24_ripe 75 = .ok (.aload_n 1, 1) := by decide +kernel
theorem dX24_ripe_76 : decode cX24_ripe 76 = .ok (.iload_n 2, 1) := by decide +kernel
theorem dX24_ripe_77 : decode cX24_ripe 77 = .ok (.iload 6, 2) := by decide +kernel
theorem dX24_ripe_79 : decode cX24_ripe 79 = .ok (.iadd, 1) := by decide +kernel
theorem dX24_ripe_80 : decode cX24_ripe 80 = .ok (.iload_n 3, 1) := by decide +kernel
theorem dX24_ripe_81 : decode cX24_ripe 81 = .ok (.iload 6, 2) := by decide +kernel
theorem dX24_ripe_83 : decode cX24_ripe 83 = .ok (.isub, 1) := by decide +kernel
theorem dX24_ripe_84 : decode cX24_ripe 84 = .ok (.iload_n 3, 1) := by decide +kernel
theorem dX24_ripe_85 : decode cX24_ripe 85 = .ok (.iconst 0, 1) := by decide +kernel
theorem dX24_ripe_86 : decode cX24_ripe 86 = .ok (.invokevirtual 30, 3) := by decide +kernel
theorem dX24_ripe_89 : decode cX24_ripe 89 = .ok (.istore 7, 2) := by decide +kernel
theorem dX24_ripe_91 : decode cX24_ripe 91 = .ok (.iconst 0, 1) := by decide +kernel
theorem dX24_ripe_92 : decode cX24_ripe 92 = .ok (.istore 8, 2) := by decide +kernel
theorem dX24_ripe_94 : decode cX24_ripe 94 = .ok (.iload 8, 2) := by decide +kernel
theorem dX24_ripe_96 : decode cX24_ripe 96 = .ok (.iload 7, 2) := by decide +kernel
theorem dX24_ripe_98 : decode cX24_ripe 98 = .ok (.if_icmp .ge 19, 3) := by decide +kernel
theorem dX24_ripe_101 : decode cX24_ripe 101 = .ok (.aload_n 0, 1) := by decide +kernel
theorem dX24_ripe_102 : decode cX24_ripe 102 = .ok (.aload_n 0, 1) := by decide +kernel
theorem dX24_ripe_103 : decode cX24_ripe 103 = .ok (.getfield 34, 3) := by decide +kernel
theorem dX24_ripe_106 : decode cX24_ripe 106 = .ok (.iload 8, 2) := by decide +kernel
theorem dX24_ripe_108 : decode cX24_ripe 108 = .ok (.invokevirtual 58, 3) := by decide +kernel
theorem dX24_ripe_111 : decode cX24_ripe 111 = .ok (.iinc 8 64, 3) := by decide +kernel
theorem dX24_ripe_114 : decode cX24_ripe 114 = .ok (.goto (-20), 3) := by decide +kernel
theorem dX24_ripe_117 : decode cX24_ripe 117 = .ok (.iconst 0, 1) := by decide +kernel
theorem dX24_ripe_118 : decode cX24_ripe 118 = .ok (.istore 8, 2) := by decide +kernel
theorem dX24_ripe_120 : decode cX24_ripe 120 = .ok (.iload 8, 2) := by decide +kernel
theorem dX24_ripe_122 : decode cX24_ripe 122 = .ok (.bipush 20, 2) := by decide +kernel
theorem dX24_ripe_124 : decode cX24_ripe 124 = .ok (.if_icmp .ge 35, 3) := by decide +kernel
theorem dX24_ripe_127 : decode cX24_ripe 127 = .ok (.aload 4, 2) := by decide +kernel
theorem dX24_ripe_129 : decode cX24_ripe 129 = .ok (.iload 5, 2) := by decide +kernel
theorem dX24_ripe_131 : decode cX24_ripe 131 = .ok (.iload 8, 2) := by decide +kernel
theorem dX24_ripe_133 : decode cX24_ripe 133 = .ok (.iadd, 1) := by decide +kernel
theorem dX24_ripe_134 : decode cX24_ripe 134 = .ok (.aload_n 0, 1) := by decide +kernel
theorem dX24_ripe_135 : decode cX24_ripe 135 = .ok (.getfield 19, 3) := by decide +kernel
theorem dX24_ripe_138 : decode cX24_ripe 138 = .ok (.iload 8, 2) := by decide +kernel
theorem dX24_ripe_140 : decode cX24_ripe 140 = .ok (.iconst 4, 1) := by decide +kernel
theorem dX24_ripe_141 : decode cX24_ripe 141 = .ok (.idiv, 1) := by decide +kernel
theorem dX24_ripe_142 : decode cX24_ripe 142 = .ok (.iaload, 1) := by decide +kernel
theorem dX24_ripe_143 : decode cX24_ripe 143 = .ok (.bipush 8, 2) := by decide +kernel
theorem dX24_ripe_145 : decode cX24_ripe 145 = .ok (.iload 8, 2) := by decide +kernel
theorem dX24_ripe_147 : decode cX24_ripe 147 = .ok (.iconst 4, 1) := by decide +kernel
theorem dX24_ripe_148 : decode cX24_ripe 148 = .ok (.irem, 1) := by decide +kernel
theorem dX24_ripe_149 : decode cX24_ripe 149 = .ok (.imul, 1) := by decide +kernel
theorem dX24_ripe_150 : decode cX24_ripe 150 = .ok (.iushr, 1) := by decide +kernel
theorem dX24_ripe_151 : decode cX24_ripe 151 = .ok (.i2b, 1) := by decide +kernel
theorem dX24_ripe_152 : decode cX24_ripe 152 = .ok (.bastore, 1) := by decide +kernel
theorem dX24_ripe_153 : decode cX24_ripe 153 = .ok (.iinc 8 1, 3) := by decide +kernel
theorem dX24_ripe_156 : decode cX24_ripe 156 = .ok (.goto (-36), 3) := by decide +kernel
theorem dX24_ripe_159 : decode cX24_ripe 159 = .ok (.return_, 1) := by decide +kernel
/-! CoinJudgeModel.ripe([BII[BI)V -/
set_option maxHeartbeats 4000000 in
theorem sX24_ripe_0 {G : Gx} {d t : Nat} {h0 : AH} {Φ : Out → AH → Prop} (h : AH) (v0 : Nat) (v1 : Nat) (v2 : Int32) (v3 : Int32) (v4 : Nat) (v5 : Int32) (K : h.kd v0 = 24 ∧ ∀ r2 : Nat, r2 = (h.r 24001 v0) → h.kd r2 = 100 ∧ vp_in 0 (h.ai r2).length ∧ ∀ h5 : AH, h5 = h.wi r2 ((h.ai r2).set ((0 : Int32).toNatClampNeg) 1732584193) → vp_in 1 (h5.ai r2).length ∧ ∀ h11 : AH, h11 = h5.wi r2 ((h5.ai r2).set ((1 : Int32).toNatClampNeg) (-271733879)) → vp_in 2 (h11.ai r2).length ∧ ∀ h16 : AH, h16 = h11.wi r2 ((h11.ai r2).set ((2 : Int32).toNatClampNeg) (-1732584194)) → vp_in 3 (h16.ai r2).length ∧ ∀ h21 : AH, h21 = h16.wi r2 ((h16.ai r2).set ((3 : Int32).toNatClampNeg) 271733878) → vp_in 4 (h21.ai r2).length ∧ ∀ h26 : AH, h26 = h21.wi r2 ((h21.ai r2).set ((4 : Int32).toNatClampNeg) (-1009589776)) → Aw G mX24_ripe (d + 1) t h0 Φ 52 [vR v0, vR v1, vI v2, vI v3, vR v4, vI v5, vI ((v3 / 64) * 64), vI 0, vU] [] h26) : Aw G mX24_ripe (d + 1) t h0 Φ 0 [vR v0, vR v1, vI v2, vI v3, vR v4, vI v5, vU, vU, vU] [] h := by
  refine r_iload_n (pc := 0) dX24_ripe_0 rfl ?_
  refine r_bipush (pc := 1) (x := 64) dX24_ripe_1 rfl ?_
  refine r_idiv (pc := 3) (by decide) dX24_ripe_3 ?_
  refine r_bipush (pc := 4) (x := 64) dX24_ripe_4 rfl ?_
  refine r_imul (pc := 6) dX24_ripe_6 ?_
  refine r_istore (pc := 7) (lv' := [_, _, _, _, _, _, _, _, _]) dX24_ripe_7 (by decide) rfl ?_
  refine r_aload_n (pc := 9) dX24_ripe_9 rfl ?_
  obtain ⟨hk1, K⟩ := K
  have K := K _ rfl
  refine r_getr' (pc := 10) (T := TX24) 24 1 rfl hk1 (Or.inl q2699) dX24_ripe_10 kc24 g24001 ?_
  refine r_iconst (pc := 13) (x := 0) dX24_ripe_13 rfl ?_
  refine r_ldc (pc := 14) dX24_ripe_14 q2546 ?_
  obtain ⟨hk3, K⟩ := K
  obtain ⟨hi4, K⟩ := K
  refine r_iastore (pc := 16) hk3 hi4 (Or.inl (em rfl)) dX24_ripe_16 ?_
  refine r_nameH (fun h5 eh5 => ?_)
  have K := K h5 eh5
  refine r_aload_n (pc := 17) dX24_ripe_17 rfl ?_
  have hk6 := kd_wi eh5 hk1
  have hv7 := fr_self (key := 24001) hk1
  have hv8 := fr_wi (key := 24001) eh5 hv7
  refine r_getr' (pc := 18) (T := TX24) 24 1 hv8 hk6 (Or.inl q2699) dX24_ripe_18 kc24 g24001 ?_
  refine r_iconst (pc := 21) (x := 1) dX24_ripe_21 rfl ?_
  refine r_ldc (pc := 22) dX24_ripe_22 q2547 ?_
  have hk9 := kd_wi eh5 hk3
  obtain ⟨hi10, K⟩ := K
  refine r_iastore (pc := 24) hk9 hi10 (Or.inl (em rfl)) dX24_ripe_24 ?_
  refine r_nameH (fun h11 eh11 => ?_)
  have K := K h11 eh11
  refine r_aload_n (pc := 25) dX24_ripe_25 rfl ?_
  have hk12 := kd_wi eh11 hk6
  have hv13 := fr_wi (key := 24001) eh11 hv8
  refine r_getr' (pc := 26) (T := TX24) 24 1 hv13 hk12 (Or.inl q2699) dX24_ripe_26 kc24 g24001 ?_
  refine r_iconst (pc := 29) (x := 2) dX24_ripe_29 rfl ?_
  refine r_ldc (pc := 30) dX24_ripe_30 q2548 ?_
  have hk14 := kd_wi eh11 hk9
  obtain ⟨hi15, K⟩ := K
  refine r_iastore (pc := 32) hk14 hi15 (Or.inl (em rfl)) dX24_ripe_32 ?_
  refine r_nameH (fun h16 eh16 => ?_)
  have K := K h16 eh16
  refine r_aload_n (pc := 33) dX24_ripe_33 rfl ?_
  have hk17 := kd_wi eh16 hk12
  have hv18 := fr_wi (key := 24001) eh16 hv13
  refine r_getr' (pc := 34) (T := TX24) 24 1 hv18 hk17 (Or.inl q2699) dX24_ripe_34 kc24 g24001 ?_
  refine r_iconst (pc := 37) (x := 3) dX24_ripe_37 rfl ?_
  refine r_ldc (pc := 38) dX24_ripe_38 q2549 ?_
  have hk19 := kd_wi eh16 hk14
  obtain ⟨hi20, K⟩ := K
  refine r_iastore (pc := 40) hk19 hi20 (Or.inl (em rfl)) dX24_ripe_40 ?_
  refine r_nameH (fun h21 eh21 => ?_)
  have K := K h21 eh21
  refine r_aload_n (pc := 41) dX24_ripe_41 rfl ?_
  have hk22 := kd_wi eh21 hk17
  have hv23 := fr_wi (key := 24001) eh21 hv18
  refine r_getr' (pc := 42) (T := TX24) 24 1 hv23 hk22 (Or.inl q2699) dX24_ripe_42 kc24 g24001 ?_
  refine r_iconst (pc := 45) (x := 4) dX24_ripe_45 rfl ?_
  refine r_ldc (pc := 46) dX24_ripe_46 q2550 ?_
  have hk24 := kd_wi eh21 hk19
  obtain ⟨hi25, K⟩ := K
  refine r_iastore (pc := 48) hk24 hi25 (Or.inl (em rfl)) dX24_ripe_48 ?_
  refine r_nameH (fun h26 eh26 => ?_)
  have K := K h26 eh26
  refine r_iconst (pc := 49) (x := 0) dX24_ripe_49 rfl ?_
  refine r_istore (pc := 50) (lv' := [_, _, _, _, _, _, _, _, _]) dX24_ripe_50 (by decide) rfl ?_
  refine r_mask (pc := 52) [true, true, true, true, true, true, true, true, false] rfl ?_
  exact K
theorem eX24_ripe {G : Gx} {d : Nat} {Φ : Out → AH → Prop} (h : AH) (v0 : Nat) (v1 : Nat) (v2 : Int32) (v3 : Int32) (v4 : Nat) (v5 : Int32) (K : WF G h → Aw G mX24_ripe (d + 1) 0 h Φ 0 [vR v0, vR v1, vI v2, vI v3, vR v4, vI v5, vU, vU, vU] [] h) : Cw G mX24_ripe (d + 1) 0 [vR v0, vR v1, vI v2, vI v3, vR v4, vI v5] h Φ := Cw.of rfl K
set_option maxHeartbeats 4000000 in
theorem sX24_ripe_52 {G : Gx} {d t : Nat} {h0 : AH} {Φ : Out → AH → Prop} (h : AH) (v0 : Nat) (v1 : Nat) (v2 : Int32) (v3 : Int32) (v4 : Nat) (v5 : Int32) (v6 : Int32) (v7 : Int32) (K : ((v6 ≤ v7 → h.kd v0 = 24 ∧ Cw G mX24_pad d 0 [vR v0, vR v1, vI (v2 + v6), vI (v3 - v6), vI v3, vI 0] h (kI (fun x2 h3 => Aw G mX24_ripe (d + 1) t h0 Φ 94 [vR v0, vU, vU, vU, vR v4, vI v5, vU, vI x2, vI 0] [] h3) (fun x h => Φ (.inr x) h))) ∧ (¬ v6 ≤ v7 → h.kd v0 = 24 ∧ Cw G mX24_ripeBlock d 0 [vR v0, vR v1, vI (v2 + v7)] h (kV (fun h6 => Aw G mX24_ripe (d + 1) t h0 Φ 52 [vR v0, vR v1, vI v2, vI v3, vR v4, vI v5, vI v6, vI (v7 + 64), vU] [] h6) (fun x h => Φ (.inr x) h))))) : Aw G mX24_ripe (d + 1) t h0 Φ 52 [vR v0, vR v1, vI v2, vI v3, vR v4, vI v5, vI v6, vI v7, vU] [] h := by
  refine r_iload (pc := 52) dX24_ripe_52 rfl ?_
  refine r_iload (pc := 54) dX24_ripe_54 rfl ?_
  refine r_icmp_ge (pc := 56) (tgt := 74) dX24_ripe_56 rfl (fun c1 => ?_) (fun c1 => ?_)
  · have K := K.1 c1
    refine r_aload_n (pc := 74) dX24_ripe_74 rfl ?_
    refine r_aload_n (pc := 75) dX24_ripe_75 rfl ?_
    refine r_iload_n (pc := 76) dX24_ripe_76 rfl ?_
    refine r_iload (pc := 77) dX24_ripe_77 rfl ?_
    refine r_iadd (pc := 79) dX24_ripe_79 ?_
    refine r_iload_n (pc := 80) dX24_ripe_80 rfl ?_
    refine r_iload (pc := 81) dX24_ripe_81 rfl ?_
    refine r_isub (pc := 83) dX24_ripe_83 ?_
    refine r_iload_n (pc := 84) dX24_ripe_84 rfl ?_
    refine r_iconst (pc := 85) (x := 0) dX24_ripe_85 rfl ?_
    obtain ⟨hk4, K⟩ := K
    refine r_callV_I (pc := 86) (Y := mX24_pad) (vs := [_, _, _, _, _]) (st := []) hk4 rfl kc24 q2333 q2335 qs70 dX24_ripe_86 rfl cd_X24_pad rfl rfl fp_X24_ripe_X24_pad K (fun x2 h3 eh3 wh3 K => ?_) (fun x h1 _ _ e => Tw.out rfl e)
    refine r_istore (pc := 89) (lv' := [_, _, _, _, _, _, _, _, _]) dX24_ripe_89 (by decide) rfl ?_
    refine r_iconst (pc := 91) (x := 0) dX24_ripe_91 rfl ?_
    refine r_istore (pc := 92) (lv' := [_, _, _, _, _, _, _, _, _]) dX24_ripe_92 (by decide) rfl ?_
    refine r_mask (pc := 94) [true, false, false, false, true, true, false, true, true] rfl ?_
    exact K
  · have K := K.2 c1
    refine r_aload_n (pc := 59) dX24_ripe_59 rfl ?_
    refine r_aload_n (pc := 60) dX24_ripe_60 rfl ?_
    refine r_iload_n (pc := 61) dX24_ripe_61 rfl ?_
    refine r_iload (pc := 62) dX24_ripe_62 rfl ?_
    refine r_iadd (pc := 64) dX24_ripe_64 ?_
    obtain ⟨hk7, K⟩ := K
    refine r_callV_V (pc := 65) (Y := mX24_ripeBlock) (vs := [_, _]) (st := []) hk7 rfl kc24 q2551 q2553 qs105 dX24_ripe_65 rfl cd_X24_ripeBlock rfl rfl fp_X24_ripe_X24_ripeBlock K (fun h6 eh6 wh6 K => ?_) (fun x h1 _ _ e => Tw.out rfl e)
    refine r_iinc (pc := 68) (lv' := [_, _, _, _, _, _, _, _, _]) dX24_ripe_68 rfl rfl (by decide) rfl ?_
    refine r_goto (pc := 71) (tgt := 52) dX24_ripe_71 rfl ?_
    refine r_mask (pc := 52) [true, true, true, true, true, true, true, true, false] rfl ?_
    exact K
set_option maxHeartbeats 4000000 in
theorem sX24_ripe_94 {G : Gx} {d t : Nat} {h0 : AH} {Φ : Out → AH → Prop} (h : AH) (v0 : Nat) (v4 : Nat) (v5 : Int32) (v7 : Int32) (v8 : Int32) (K : ((v7 ≤ v8 → Aw G mX24_ripe (d + 1) t h0 Φ 120 [vR v0, vU, vU, vU, vR v4, vI v5, vU, vU, vI 0] [] h) ∧ (¬ v7 ≤ v8 → h.kd v0 = 24 ∧ ∀ r3 : Nat, r3 = (h.r 24000 v0) → Cw G mX24_ripeBlock d 0 [vR v0, vR r3, vI v8] h (kV (fun h5 => Aw G mX24_ripe (d + 1) t h0 Φ 94 [vR v0, vU, vU, vU, vR v4, vI v5, vU, vI v7, vI (v8 + 64)] [] h5) (fun x h => Φ (.inr x) h))))) : Aw G mX24_ripe (d + 1) t h0 Φ 94 [vR v0, vU, vU, vU, vR v4, vI v5, vU, vI v7, vI v8] [] h := by
  refine r_iload (pc := 94) dX24_ripe_94 rfl ?_
  refine r_iload (pc := 96) dX24_ripe_96 rfl ?_
  refine r_icmp_ge (pc := 98) (tgt := 117) dX24_ripe_98 rfl (fun c1 => ?_) (fun c1 => ?_)
  · have K := K.1 c1
    refine r_iconst (pc := 117) (x := 0) dX24_ripe_117 rfl ?_
    refine r_istore (pc := 118) (lv' := [_, _, _, _, _, _, _, _, _]) dX24_ripe_118 (by decide) rfl ?_
    refine r_mask (pc := 120) [true, false, false, false, true, true, false, false, true] rfl ?_
    exact K
  · have K := K.2 c1
    refine r_aload_n (pc := 101) dX24_ripe_101 rfl ?_
    refine r_aload_n (pc := 102) dX24_ripe_102 rfl ?_
    obtain ⟨hk2, K⟩ := K
    have K := K _ rfl
    refine r_getr' (pc := 103) (T := TX24) 24 0 rfl hk2 (Or.inl q2698) dX24_ripe_103 kc24 g24000 ?_
    refine r_iload (pc := 106) dX24_ripe_106 rfl ?_
    refine r_callV_V (pc := 108) (Y := mX24_ripeBlock) (vs := [_, _]) (st := []) hk2 rfl kc24 q2551 q2553 qs105 dX24_ripe_108 rfl cd_X24_ripeBlock rfl rfl fp_X24_ripe_X24_ripeBlock K (fun h5 eh5 wh5 K => ?_) (fun x h1 _ _ e => Tw.out rfl e)
    refine r_iinc (pc := 111) (lv' := [_, _, _, _, _, _, _, _, _]) dX24_ripe_111 rfl rfl (by decide) rfl ?_
    refine r_goto (pc := 114) (tgt := 94) dX24_ripe_114 rfl ?_
    refine r_mask (pc := 94) [true, false, false, false, true, true, false, true, true] rfl ?_
    exact K
set_option maxHeartbeats 4000000 in
theorem sX24_ripe_120 {G : Gx} {d t : Nat} {h0 : AH} {Φ : Out → AH → Prop} (h : AH) (v0 : Nat) (v4 : Nat) (v5 : Int32) (v8 : Int32) (K : ((20 ≤ v8 → Φ (.inl none) h) ∧ (¬ 20 ≤ v8 → h.kd v0 = 24 ∧ ∀ r3 : Nat, r3 = (h.r 24001 v0) → h.kd r3 = 100 ∧ vp_in (v8 / 4) (h.ai r3).length ∧ h.kd v4 = 101 ∧ vp_in (v5 + v8) (h.ai v4).length ∧ ∀ h8 : AH, h8 = h.wi v4 ((h.ai v4).set ((v5 + v8).toNatClampNeg) (i2b (i2b (jushr ((h.ai r3).getD ((v8 / 4).toNatClampNeg) 0) (8 * (jrem v8 4)))))) → Aw G mX24_ripe (d + 1) t h0 Φ 120 [vR v0, vU, vU, vU, vR v4, vI v5, vU, vU, vI (v8 + 1)] [] h8))) : Aw G mX24_ripe (d + 1) t h0 Φ 120 [vR v0, vU, vU, vU, vR v4, vI v5, vU, vU, vI v8] [] h := by
  refine r_iload (pc := 120) dX24_ripe_120 rfl ?_
  refine r_bipush (pc := 122) (x := 20) dX24_ripe_122 rfl ?_
  refine r_icmp_ge (pc := 124) (tgt := 159) dX24_ripe_124 rfl (fun c1 => ?_) (fun c1 => ?_)
  · have K := K.1 c1
    exact r_vret (pc := 159) rfl dX24_ripe_159 K
  · have K := K.2 c1
    refine r_aload (pc := 127) dX24_ripe_127 rfl ?_
    refine r_iload (pc := 129) dX24_ripe_129 rfl ?_
    refine r_iload (pc := 131) dX24_ripe_131 rfl ?_
    refine r_iadd (pc := 133) dX24_ripe_133 ?_
    refine r_aload_n (pc := 134) dX24_ripe_134 rfl ?_
    obtain ⟨hk2, K⟩ := K
    have K := K _ rfl
    refine r_getr' (pc := 135) (T := TX24) 24 1 rfl hk2 (Or.inl q2699) dX24_ripe_135 kc24 g24001 ?_
    refine r_iload (pc := 138) dX24_ripe_138 rfl ?_
    refine r_iconst (pc := 140) (x := 4) dX24_ripe_140 rfl ?_
    refine r_idiv (pc := 141) (by decide) dX24_ripe_141 ?_
    obtain ⟨hk4, K⟩ := K
    obtain ⟨hi5, K⟩ := K
    refine r_iaload (pc := 142) hk4 hi5 dX24_ripe_142 ?_
    refine r_bipush (pc := 143) (x := 8) dX24_ripe_143 rfl ?_
    refine r_iload (pc := 145) dX24_ripe_145 rfl ?_
    refine r_iconst (pc := 147) (x := 4) dX24_ripe_147 rfl ?_
    refine r_jrem (pc := 148) (by decide) dX24_ripe_148 ?_
    refine r_imul (pc := 149) dX24_ripe_149 ?_
    refine r_jushr (pc := 150) dX24_ripe_150 ?_
    refine r_ji2b (pc := 151) dX24_ripe_151 ?_
    obtain ⟨hk6, K⟩ := K
    obtain ⟨hi7, K⟩ := K
    refine r_jbast (pc := 152) hk6 hi7 (Or.inl (em rfl)) dX24_ripe_152 ?_
    refine r_nameH (fun h8 eh8 => ?_)
    have K := K h8 eh8
    refine r_iinc (pc := 153) (lv' := [_, _, _, _, _, _, _, _, _]) dX24_ripe_153 rfl rfl (by decide) rfl ?_
    refine r_goto (pc := 156) (tgt := 120) dX24_ripe_156 rfl ?_
    refine r_mask (pc := 120) [true, false, false, false, true, true, false, false, true] rfl ?_
    exact K
theorem dX24_hash160_0 : decode cX24_hash160 0 = .ok (.aload_n 0, 1) := by decide +kernel
theorem dX24_hash160_1 : decode cX24_hash160 1 = .ok (.aload_n 1, 1) := by decide +kernel
theorem dX24_hash160_2 : decode cX24_hash160 2 = .ok (.iload_n 2, 1) := by decide +kernel
theorem dX24_hash160_3 : decode cX24_hash160 3 = .ok (.iload_n 3, 1) := by decide +kernel
theorem dX24_hash160_4 : decode cX24_hash160 4 = .ok (.aload_n 0, 1) := by decide +kernel
theorem dX24_hash160_5 : decode cX24_hash160 5 = .ok (.getfield 80, 3) := by decide +kernel
theorem dX24_hash160_8 : decode cX24_hash160 8 = .ok (.iconst 0, 1) := by decide +kernel
theorem dX24_hash160_9 : decode cX24_hash160 9 = .ok (.invokevirtual 83, 3) := by decide +kernel
theorem dX24_hash160_12 : decode cX24_hash160 12 = .ok (.aload_n 0, 1) := by decide +kernel
theorem dX24_hash160_13 : decode cX24_hash160 13 = .ok (.aload_n 0, 1) := by decide +kernel
theorem dX24_hash160_14 : decode cX24_hash160 14 = .ok (.getfield 80, 3) := by decide +kernel
theorem dX24_hash160_17 : decode cX24_hash160 17 = .ok (.iconst 0, 1) := by decide +kernel
theorem dX24_hash160_18 : decode cX24_hash160 18 = .ok (.bipush 32, 2) := by decide +kernel
theorem dX24_hash160_20 : decode cX24_hash160 20 = .ok (.aload 4, 2) := by decide +kernel
theorem dX24_hash160_22 : decode cX24_hash160 22 = .ok (.iload 5, 2) := by decide +kernel
theorem dX24_hash160_24 : decode cX24_hash160 24 = .ok (.invokevirtual 87, 3) := by decide +kernel
theorem dX24_hash160_27 : decode cX24_hash160 27 = .ok (.return_, 1) := by decide +kernel
/-! CoinJudgeModel.hash160([BII[BI)V -/
set_option maxHeartbeats 4000000 in
theorem sX24_hash160_0 {G : Gx} {d t : Nat} {h0 : AH} {Φ : Out → AH → Prop} (h : AH) (v0 : Nat) (v1 : Nat) (v2 : Int32) (v3 : Int32) (v4 : Nat) (v5 : Int32) (K : h.kd v0 = 24 ∧ ∀ r2 : Nat, r2 = (h.r 24014 v0) → Cw G mX24_sha d 0 [vR v0, vR v1, vI v2, vI v3, vR r2, vI 0] h (kV (fun h4 => Cw G mX24_ripe d 0 [vR v0, vR r2, vI 0, vI 32, vR v4, vI v5] h4 (kV (fun h9 => Φ (.inl none) h9) (fun x h => Φ (.inr x) h))) (fun x h => Φ (.inr x) h))) : Aw G mX24_hash160 (d + 1) t h0 Φ 0 [vR v0, vR v1, vI v2, vI v3, vR v4, vI v5] [] h := by
  refine r_aload_n (pc := 0) dX24_hash160_0 rfl ?_
  refine r_aload_n (pc := 1) dX24_hash160_1 rfl ?_
  refine r_iload_n (pc := 2) dX24_hash160_2 rfl ?_
  refine r_iload_n (pc := 3) dX24_hash160_3 rfl ?_
  refine r_aload_n (pc := 4) dX24_hash160_4 rfl ?_
  obtain ⟨hk1, K⟩ := K
  have K := K _ rfl
  refine r_getr' (pc := 5) (T := TX24) 24 14 rfl hk1 (Or.inl q2712) dX24_hash160_5 kc24 g24014 ?_
  refine r_iconst (pc := 8) (x := 0) dX24_hash160_8 rfl ?_
  refine r_callV_V (pc := 9) (Y := mX24_sha) (vs := [_, _, _, _, _]) (st := []) hk1 rfl kc24 q2322 q2324 qs68 dX24_hash160_9 rfl cd_X24_sha rfl rfl fp_X24_hash160_X24_sha K (fun h4 eh4 wh4 K => ?_) (fun x h1 _ _ e => Tw.out rfl e)
  refine r_aload_n (pc := 12) dX24_hash160_12 rfl ?_
  refine r_aload_n (pc := 13) dX24_hash160_13 rfl ?_
  have hk5 := kd_ext eh4 hk1 (nz rfl)
  have hv6 := fr_self (key := 24014) hk1
  have hv7 := (fr_ext (key := 24014) eh4 hk1 (nz rfl) (ne0 wh4 hk5 (nz rfl)) (nm rfl)).trans hv6
  refine r_getr' (pc := 14) (T := TX24) 24 14 hv7 hk5 (Or.inl q2712) dX24_hash160_14 kc24 g24014 ?_
  refine r_iconst (pc := 17) (x := 0) dX24_hash160_17 rfl ?_
  refine r_bipush (pc := 18) (x := 32) dX24_hash160_18 rfl ?_
  refine r_aload (pc := 20) dX24_hash160_20 rfl ?_
  refine r_iload (pc := 22) dX24_hash160_22 rfl ?_
  refine r_callV_V (pc := 24) (Y := mX24_ripe) (vs := [_, _, _, _, _]) (st := []) hk5 rfl kc24 q2542 q2544 qs104 dX24_hash160_24 rfl cd_X24_ripe rfl rfl fp_X24_hash160_X24_ripe K (fun h9 eh9 wh9 K => ?_) (fun x h1 _ _ e => Tw.out rfl e)
  exact r_vret (pc := 27) rfl dX24_hash160_27 K
theorem eX24_hash160 {G : Gx} {d : Nat} {Φ : Out → AH → Prop} (h : AH) (v0 : Nat) (v1 : Nat) (v2 : Int32) (v3 : Int32) (v4 : Nat) (v5 : Int32) (K : WF G h → Aw G mX24_hash160 (d + 1) 0 h Φ 0 [vR v0, vR v1, vI v2, vI v3, vR v4, vI v5] [] h) : Cw G mX24_hash160 (d + 1) 0 [vR v0, vR v1, vI v2, vI v3, vR v4, vI v5] h Φ := Cw.of rfl K
theorem dX24_digested_0 : decode cX24_digested 0 = .ok (.aload_n 0, 1) := by decide +kernel
theorem dX24_digested_1 : decode cX24_digested 1 = .ok (.getfield 527, 3) := by decide +kernel
theorem dX24_digested_4 : decode cX24_digested 4 = .ok (.aload_n 0, 1) := by decide +kernel
theorem dX24_digested_5 : decode cX24_digested 5 = .ok (.getfield 521, 3) := by decide +kernel
theorem dX24_digested_8 : decode cX24_digested 8 = .ok (.iconst 1, 1) := by decide +kernel
theorem dX24_digested_9 : decode cX24_digested 9 = .ok (.isub, 1) := by decide +kernel
theorem dX24_digested_10 : decode cX24_digested 10 = .ok (.aaload, 1) := by decide +kernel
theorem dX24_digested_11 : decode cX24_digested 11 = .ok (.astore_n 2, 1) := by decide +kernel
theorem dX24_digested_12 : decode cX24_digested 12 = .ok (.aload_n 0, 1) := by decide +kernel
theorem dX24_digested_13 : decode cX24_digested 13 = .ok (.getfield 535, 3) := by decide +kernel
theorem dX24_digested_16 : decode cX24_digested 16 = .ok (.aload_n 0, 1) := by decide +kernel
theorem dX24_digested_17 : decode cX24_digested 17 = .ok (.getfield 521, 3) := by decide +kernel
theorem dX24_digested_20 : decode cX24_digested 20 = .ok (.iconst 1, 1) := by decide +kernel
theorem dX24_digested_21 : decode cX24_digested 21 = .ok (.isub, 1) := by decide +kernel
theorem dX24_digested_22 : decode cX24_digested 22 = .ok (.iaload, 1) := by decide +kernel
theorem dX24_digested_23 : decode cX24_digested 23 = .ok (.istore_n 3, 1) := by decide +kernel
theorem dX24_digested_24 : decode cX24_digested 24 = .ok (.iload_n 1, 1) := by decide +kernel
theorem dX24_digested_25 : decode cX24_digested 25 = .ok (.sipush 166, 3) := by decide +kernel
theorem dX24_digested_28 : decode cX24_digested 28 = .ok (.if_icmp .ne 18, 3) := by decide +kernel
theorem dX24_digested_31 : decode cX24_digested 31 = .ok (.aload_n 0, 1) := by decide +kernel
theorem dX24_digested_32 : decode cX24_digested 32 = .ok (.aload_n 2, 1) := by decide +kernel
theorem dX24_digested_33 : decode cX24_digested 33 = .ok (.iconst 0, 1) := by decide +kernel
theorem dX24_digested_34 : decode cX24_digested 34 = .ok (.iload_n 3, 1) := by decide +kernel
theorem dX24_digested_35 : decode cX24_digested 35 = .ok (.aload_n 0, 1) := by decide +kernel
theorem dX24_digested_36 : decode cX24_digested 36 = .ok (.getfield 636, 3) := by decide +kernel
theorem dX24_digested_39 : decode cX24_digested 39 = .ok (.iconst 0, 1) := by decide +kernel
theorem dX24_digested_40 : decode cX24_digested 40 = .ok (.invokevirtual 87, 3) := by decide +kernel
theorem dX24_digested_43 : decode cX24_digested 43 = .ok (.goto 59, 3) := by decide +kernel
theorem dX24_digested_46 : decode cX24_digested 46 = .ok (.iload_n 1, 1) := by decide +kernel
theorem dX24_digested_47 : decode cX24_digested 47 = .ok (.sipush 168, 3) := by decide +kernel
theorem dX24_digested_50 : decode cX24_digested 50 = .ok (.if_icmp .ne 18, 3) := by decide +kernel
theorem dX24_digested_53 : decode cX24_digested 53 = .ok (.aload_n 0, 1) := by decide +kernel
theorem dX24_digested_54 : decode cX24_digested 54 = .ok (.aload_n 2, 1) := by decide +kernel
theorem dX24_digested_55 : decode cX24_digested 55 = .ok (.iconst 0, 1) := by decide +kernel
theorem dX24_digested_56 : decode cX24_digested 56 = .ok (.iload_n 3, 1) := by decide +kernel
theorem dX24_digested_57 : decode cX24_digested 57 = .ok (.aload_n 0, 1) := by decide +kernel
theorem dX24_digested_58 : decode cX24_digested 58 = .ok (.getfield 636, 3) := by decide +kernel
theorem dX24_digested_61 : decode cX24_digested 61 = .ok (.iconst 0, 1) := by decide +kernel
theorem dX24_digested_62 : decode cX24_digested 62 = .ok (.invokevirtual 83, 3) := by decide +kernel
theorem dX24_digested_65 : decode cX24_digested 65 = .ok (.goto 37, 3) := by decide +kernel
theorem dX24_digested_68 : decode cX24_digested 68 = .ok (.iload_n 1, 1) := by decide +kernel
theorem dX24_digested_69 : decode cX24_digested 69 = .ok (.sipush 169, 3) := by decide +kernel
theorem dX24_digested_72 : decode cX24_digested 72 = .ok (.if_icmp .ne 18, 3) := by decide +kernel
theorem dX24_digested_75 : decode cX24_digested 75 = .ok (.aload_n 0, 1) := by decide +kernel
theorem dX24_digested_76 : decode cX24_digested 76 = .ok (.aload_n 2, 1) := by decide +kernel
theorem dX24_digested_77 : decode cX24_digested 77 = .ok (.iconst 0, 1) := by decide +kernel
theorem dX24_digested_78 : decode cX24_digested 78 = .ok (.iload_n 3, 1) := by decide +kernel
theorem dX24_digested_79 : decode cX24_digested 79 = .ok (.aload_n 0, 1) := by decide +kernel
theorem dX24_digested_80 : decode cX24_digested 80 = .ok (.getfield 636, 3) := by decide +kernel
theorem dX24_digested_83 : decode cX24_digested 83 = .ok (.iconst 0, 1) := by decide +kernel
theorem dX24_digested_84 : decode cX24_digested 84 = .ok (.invokevirtual 639, 3) := by decide +kernel
theorem dX24_digested_87 : decode cX24_digested 87 = .ok (.goto 15, 3) := by decide +kernel
theorem dX24_digested_90 : decode cX24_digested 90 = .ok (.aload_n 0, 1) := by decide +kernel
theorem dX24_digested_91 : decode cX24_digested 91 = .ok (.aload_n 2, 1) := by decide +kernel
theorem dX24_digested_92 : decode cX24_digested 92 = .ok (.iconst 0, 1) := by decide +kernel
theorem dX24_digested_93 : decode cX24_digested 93 = .ok (.iload_n 3, 1) := by decide +kernel
theorem dX24_digested_94 : decode cX24_digested 94 = .ok (.aload_n 0, 1) := by decide +kernel
theorem dX24_digested_95 : decode cX24_digested 95 = .ok (.getfield 636, 3) := by decide +kernel
theorem dX24_digested_98 : decode cX24_digested 98 = .ok (.iconst 0, 1) := by decide +kernel
theorem dX24_digested_99 : decode cX24_digested 99 = .ok (.invokevirtual 319, 3) := by decide +kernel
theorem dX24_digested_102 : decode cX24_digested 102 = .ok (.aload_n 0, 1) := by decide +kernel
theorem dX24_digested_103 : decode cX24_digested 103 = .ok (.dup, 1) := by decide +kernel
theorem dX24_digested_104 : decode cX24_digested 104 = .ok (.getfield 521, 3) := by decide +kernel
theorem dX24_digested_107 : decode cX24_digested 107 = .ok (.iconst 1, 1) := by decide +kernel
theorem dX24_digested_108 : decode cX24_digested 108 = .ok (.isub, 1) := by decide +kernel
theorem dX24_digested_109 : decode cX24_digested 109 = .ok (.putfield 521, 3) := by decide +kernel
theorem dX24_digested_112 : decode cX24_digested 112 = .ok (.aload_n 0, 1) := by decide +kernel
theorem dX24_digested_113 : decode cX24_digested 113 = .ok (.aload_n 0, 1) := by decide +kernel
theorem dX24_digested_114 : decode cX24_digested 114 = .ok (.getfield 636, 3) := by decide +kernel
theorem dX24_digested_117 : decode cX24_digested 117 = .ok (.iconst 0, 1) := by decide +kernel
theorem dX24_digested_118 : decode cX24_digested 118 = .ok (.iload_n 1, 1) := by decide +kernel
theorem dX24_digested_119 : decode cX24_digested 119 = .ok (.sipush 166, 3) := by decide +kernel
theorem dX24_digested_122 : decode cX24_digested 122 = .ok (.if_icmp .eq 10, 3) := by decide +kernel
theorem dX24_digested_125 : decode cX24_digested 125 = .ok (.iload_n 1, 1) := by decide +kernel
theorem dX24_digested_126 : decode cX24_digested 126 = .ok (.sipush 169, 3) := by decide +kernel
theorem dX24_digested_129 : decode cX24_digested 129 = .ok (.if_icmp .ne 8, 3) := by decide +kernel
theorem dX24_digested_132 : decode cX24_digested 132 = .ok (.bipush 20, 2) := by decide +kernel
theorem dX24_digested_134 : decode cX24_digested 134 = .ok (.goto 5, 3) := by decide +kernel
theorem dX24_digested_137 : decode cX24_digested 137 = .ok (.bipush 32, 2) := by decide +kernel
theorem dX24_digested_139 : decode cX24_digested 139 = .ok (.invokevirtual 538, 3) := by decide +kernel
theorem dX24_digested_142 : decode cX24_digested 142 = .ok (.return_, 1) := by decide +kernel
/-! CoinJudgeModel.digested(I)V -/
set_option maxHeartbeats 4000000 in
theorem sX24_digested_0 {G : Gx} {d t : Nat} {h0 : AH} {Φ : Out → AH → Prop} (h : AH) (v0 : Nat) (v1 : Int32) (K : h.kd v0 = 24 ∧ ∀ r2 : Nat, r2 = (h.r 24065 v0) → h.kd r2 = 115 ∧ vp_in ((h.i 24067 v0) - 1) (h.ar r2).length ∧ ∀ r5 : Nat, r5 = ((h.ar r2).getD (((h.i 24067 v0) - 1).toNatClampNeg) 0) → ∀ r6 : Nat, r6 = (h.r 24066 v0) → h.kd r6 = 100 ∧ vp_in ((h.i 24067 v0) - 1) (h.ai r6).length ∧ ∀ u9 : Int32, u9 = ((h.ai r6).getD (((h.i 24067 v0) - 1).toNatClampNeg) 0) → ((¬ v1 = 166 → ((¬ v1 = 168 → ((¬ v1 = 169 → ∀ r13 : Nat, r13 = (h.r 24086 v0) → Cw G mX24_again d 0 [vR v0, vR r5, vI 0, vI u9, vR r13, vI 0] h (kV (fun h15 => Aw G mX24_digested (d + 1) t h0 Φ 102 [vR v0, vI v1, vU, vU] [] h15) (fun x h => Φ (.inr x) h))) ∧ (v1 = 169 → ∀ r16 : Nat, r16 = (h.r 24086 v0) → Cw G mX24_hash160 d 0 [vR v0, vR r5, vI 0, vI u9, vR r16, vI 0] h (kV (fun h18 => Aw G mX24_digested (d + 1) t h0 Φ 102 [vR v0, vI v1, vU, vU] [] h18) (fun x h => Φ (.inr x) h))))) ∧ (v1 = 168 → ∀ r19 : Nat, r19 = (h.r 24086 v0) → Cw G mX24_sha d 0 [vR v0, vR r5, vI 0, vI u9, vR r19, vI 0] h (kV (fun h21 => Aw G mX24_digested (d + 1) t h0 Φ 102 [vR v0, vI v1, vU, vU] [] h21) (fun x h => Φ (.inr x) h))))) ∧ (v1 = 166 → ∀ r22 : Nat, r22 = (h.r 24086 v0) → Cw G mX24_ripe d 0 [vR v0, vR r5, vI 0, vI u9, vR r22, vI 0] h (kV (fun h24 => Aw G mX24_digested (d + 1) t h0 Φ 102 [vR v0, vI v1, vU, vU] [] h24) (fun x h => Φ (.inr x) h))))) : Aw G mX24_digested (d + 1) t h0 Φ 0 [vR v0, vI v1, vU, vU] [] h := by
  refine r_aload_n (pc := 0) dX24_digested_0 rfl ?_
  obtain ⟨hk1, K⟩ := K
  have K := K _ rfl
  refine r_getr' (pc := 1) (T := TX24) 24 65 rfl hk1 (Or.inl q2763) dX24_digested_1 kc24 g24065 ?_
  refine r_aload_n (pc := 4) dX24_digested_4 rfl ?_
  refine r_geti' (pc := 5) (T := TX24) 24 67 rfl hk1 (Or.inl q2765) dX24_digested_5 kc24 g24067 ?_
  refine r_iconst (pc := 8) (x := 1) dX24_digested_8 rfl ?_
  refine r_isub (pc := 9) dX24_digested_9 ?_
  obtain ⟨hk3, K⟩ := K
  obtain ⟨hi4, K⟩ := K
  have K := K _ rfl
  refine r_aaload (pc := 10) (le_of_eq_r hk3 (by decide)) hi4 dX24_digested_10 ?_
  refine r_astore_n (pc := 11) (lv' := [_, _, _, _]) dX24_digested_11 (by decide) rfl ?_
  refine r_aload_n (pc := 12) dX24_digested_12 rfl ?_
  have K := K _ rfl
  refine r_getr' (pc := 13) (T := TX24) 24 66 rfl hk1 (Or.inl q2764) dX24_digested_13 kc24 g24066 ?_
  refine r_aload_n (pc := 16) dX24_digested_16 rfl ?_
  refine r_geti' (pc := 17) (T := TX24) 24 67 rfl hk1 (Or.inl q2765) dX24_digested_17 kc24 g24067 ?_
  refine r_iconst (pc := 20) (x := 1) dX24_digested_20 rfl ?_
  refine r_isub (pc := 21) dX24_digested_21 ?_
  obtain ⟨hk7, K⟩ := K
  obtain ⟨hi8, K⟩ := K
  refine r_iaload (pc := 22) hk7 hi8 dX24_digested_22 ?_
  have K := K _ rfl
  refine r_istore_n (pc := 23) (lv' := [_, _, _, _]) dX24_digested_23 (by decide) rfl ?_
  refine r_iload_n (pc := 24) dX24_digested_24 rfl ?_
  refine r_sipush (pc := 25) (x := 166) dX24_digested_25 rfl ?_
  refine r_icmp_ne (pc := 28) (tgt := 46) dX24_digested_28 rfl (fun c10 => ?_) (fun c10 => ?_)
  · have K := K.1 c10
    refine r_iload_n (pc := 46) dX24_digested_46 rfl ?_
    refine r_sipush (pc := 47) (x := 168) dX24_digested_47 rfl ?_
    refine r_icmp_ne (pc := 50) (tgt := 68) dX24_digested_50 rfl (fun c11 => ?_) (fun c11 => ?_)
    · have K := K.1 c11
      refine r_iload_n (pc := 68) dX24_digested_68 rfl ?_
      refine r_sipush (pc := 69) (x := 169) dX24_digested_69 rfl ?_
      refine r_icmp_ne (pc := 72) (tgt := 90) dX24_digested_72 rfl (fun c12 => ?_) (fun c12 => ?_)
      · have K := K.1 c12
        refine r_aload_n (pc := 90) dX24_digested_90 rfl ?_
        refine r_aload_n (pc := 91) dX24_digested_91 rfl ?_
        refine r_iconst (pc := 92) (x := 0) dX24_digested_92 rfl ?_
        refine r_iload_n (pc := 93) dX24_digested_93 rfl ?_
        refine r_aload_n (pc := 94) dX24_digested_94 rfl ?_
        have K := K _ rfl
        refine r_getr' (pc := 95) (T := TX24) 24 86 rfl hk1 (Or.inl q2784) dX24_digested_95 kc24 g24086 ?_
        refine r_iconst (pc := 98) (x := 0) dX24_digested_98 rfl ?_
        refine r_callV_V (pc := 99) (Y := mX24_again) (vs := [_, _, _, _, _]) (st := []) hk1 rfl kc24 q2318 q2320 qs67 dX24_digested_99 rfl cd_X24_again rfl rfl fp_X24_digested_X24_again K (fun h15 eh15 wh15 K => ?_) (fun x h1 _ _ e => Tw.out rfl e)
        refine r_mask (pc := 102) [true, true, false, false] rfl ?_
        exact K
      · have K := K.2 c12
        refine r_aload_n (pc := 75) dX24_digested_75 rfl ?_
        refine r_aload_n (pc := 76) dX24_digested_76 rfl ?_
        refine r_iconst (pc := 77) (x := 0) dX24_digested_77 rfl ?_
        refine r_iload_n (pc := 78) dX24_digested_78 rfl ?_
        refine r_aload_n (pc := 79) dX24_digested_79 rfl ?_
        have K := K _ rfl
        refine r_getr' (pc := 80) (T := TX24) 24 86 rfl hk1 (Or.inl q2784) dX24_digested_80 kc24 g24086 ?_
        refine r_iconst (pc := 83) (x := 0) dX24_digested_83 rfl ?_
        refine r_callV_V (pc := 84) (Y := mX24_hash160) (vs := [_, _, _, _, _]) (st := []) hk1 rfl kc24 q2559 q2561 qs107 dX24_digested_84 rfl cd_X24_hash160 rfl rfl fp_X24_digested_X24_hash160 K (fun h18 eh18 wh18 K => ?_) (fun x h1 _ _ e => Tw.out rfl e)
        refine r_goto (pc := 87) (tgt := 102) dX24_digested_87 rfl ?_
        refine r_mask (pc := 102) [true, true, false, false] rfl ?_
        exact K
    · have K := K.2 c11
      refine r_aload_n (pc := 53) dX24_digested_53 rfl ?_
      refine r_aload_n (pc := 54) dX24_digested_54 rfl ?_
      refine r_iconst (pc := 55) (x := 0) dX24_digested_55 rfl ?_
      refine r_iload_n (pc := 56) dX24_digested_56 rfl ?_
      refine r_aload_n (pc := 57) dX24_digested_57 rfl ?_
      have K := K _ rfl
      refine r_getr' (pc := 58) (T := TX24) 24 86 rfl hk1 (Or.inl q2784) dX24_digested_58 kc24 g24086 ?_
      refine r_iconst (pc := 61) (x := 0) dX24_digested_61 rfl ?_
      refine r_callV_V (pc := 62) (Y := mX24_sha) (vs := [_, _, _, _, _]) (st := []) hk1 rfl kc24 q2322 q2324 qs68 dX24_digested_62 rfl cd_X24_sha rfl rfl fp_X24_digested_X24_sha K (fun h21 eh21 wh21 K => ?_) (fun x h1 _ _ e => Tw.out rfl e)
      refine r_goto (pc := 65) (tgt := 102) dX24_digested_65 rfl ?_
      refine r_mask (pc := 102) [true, true, false, false] rfl ?_
      exact K
  · have K := K.2 c10
    refine r_aload_n (pc := 31) dX24_digested_31 rfl ?_
    refine r_aload_n (pc := 32) dX24_digested_32 rfl ?_
    refine r_iconst (pc := 33) (x := 0) dX24_digested_33 rfl ?_
    refine r_iload_n (pc := 34) dX24_digested_34 rfl ?_
    refine r_aload_n (pc := 35) dX24_digested_35 rfl ?_
    have K := K _ rfl
    refine r_getr' (pc := 36) (T := TX24) 24 86 rfl hk1 (Or.inl q2784) dX24_digested_36 kc24 g24086 ?_
    refine r_iconst (pc := 39) (x := 0) dX24_digested_39 rfl ?_
    refine r_callV_V (pc := 40) (Y := mX24_ripe) (vs := [_, _, _, _, _]) (st := []) hk1 rfl kc24 q2542 q2544 qs104 dX24_digested_40 rfl cd_X24_ripe rfl rfl fp_X24_digested_X24_ripe K (fun h24 eh24 wh24 K => ?_) (fun x h1 _ _ e => Tw.out rfl e)
    refine r_goto (pc := 43) (tgt := 102) dX24_digested_43 rfl ?_
    refine r_mask (pc := 102) [true, true, false, false] rfl ?_
    exact K
theorem eX24_digested {G : Gx} {d : Nat} {Φ : Out → AH → Prop} (h : AH) (v0 : Nat) (v1 : Int32) (K : WF G h → Aw G mX24_digested (d + 1) 0 h Φ 0 [vR v0, vI v1, vU, vU] [] h) : Cw G mX24_digested (d + 1) 0 [vR v0, vI v1] h Φ := Cw.of rfl K
set_option maxHeartbeats 4000000 in
theorem sX24_digested_102 {G : Gx} {d t : Nat} {h0 : AH} {Φ : Out → AH → Prop} (h : AH) (v0 : Nat) (v1 : Int32) (K : h.kd v0 = 24 ∧ ∀ h2 : AH, h2 = h.pi 24067 v0 ((h.i 24067 v0) - 1) → ∀ r4 : Nat, r4 = (h2.r 24086 v0) → ((v1 = 166 → Cw G mX24_push d 0 [vR v0, vR r4, vI 0, vI 20] h2 (kV (fun h7 => Φ (.inl none) h7) (fun x h => Φ (.inr x) h))) ∧ (¬ v1 = 166 → ((¬ v1 = 169 → Cw G mX24_push d 0 [vR v0, vR r4, vI 0, vI 32] h2 (kV (fun h10 => Φ (.inl none) h10) (fun x h => Φ (.inr x) h))) ∧ (v1 = 169 → Cw G mX24_push d 0 [vR v0, vR r4, vI 0, vI 20] h2 (kV (fun h12 => Φ (.inl none) h12) (fun x h => Φ (.inr x) h))))))) : Aw G mX24_digested (d + 1) t h0 Φ 102 [vR v0, vI v1, vU, vU] [] h := by
  refine r_aload_n (pc := 102) dX24_digested_102 rfl ?_
  refine r_dup (pc := 103) rfl dX24_digested_103 ?_
  obtain ⟨hk1, K⟩ := K
  refine r_geti' (pc := 104) (T := TX24) 24 67 rfl hk1 (Or.inl q2765) dX24_digested_104 kc24 g24067 ?_
  refine r_iconst (pc := 107) (x := 1) dX24_digested_107 rfl ?_
  refine r_isub (pc := 108) dX24_digested_108 ?_
  refine r_puti (pc := 109) (T := TX24) (key := 24067) 24 67 hk1 (Or.inl q2765) dX24_digested_109 kc24 rfl (Or.inl rfl) (Or.inl (em rfl)) ?_
  refine r_nameH (fun h2 eh2 => ?_)
  have K := K h2 eh2
  refine r_aload_n (pc := 112) dX24_digested_112 rfl ?_
  refine r_aload_n (pc := 113) dX24_digested_113 rfl ?_
  have hk3 := kd_pi eh2 hk1
  have K := K _ rfl
  refine r_getr' (pc := 114) (T := TX24) 24 86 rfl hk3 (Or.inl q2784) dX24_digested_114 kc24 g24086 ?_
  refine r_iconst (pc := 117) (x := 0) dX24_digested_117 rfl ?_
  refine r_iload_n (pc := 118) dX24_digested_118 rfl ?_
  refine r_sipush (pc := 119) (x := 166) dX24_digested_119 rfl ?_
  refine r_icmp_eq (pc := 122) (tgt := 132) dX24_digested_122 rfl (fun c5 => ?_) (fun c5 => ?_)
  · have K := K.1 c5
    refine r_bipush (pc := 132) (x := 20) dX24_digested_132 rfl ?_
    refine r_goto (pc := 134) (tgt := 139) dX24_digested_134 rfl ?_
    refine r_callV_V (pc := 139) (Y := mX24_push) (vs := [_, _, _]) (st := []) hk3 rfl kc24 q2507 q2509 qs96 dX24_digested_139 rfl cd_X24_push rfl rfl fp_X24_digested_X24_push K (fun h7 eh7 wh7 K => ?_) (fun x h1 _ _ e => Tw.out rfl e)
    exact r_vret (pc := 142) rfl dX24_digested_142 K
  · have K := K.2 c5
    refine r_iload_n (pc := 125) dX24_digested_125 rfl ?_
    refine r_sipush (pc := 126) (x := 169) dX24_digested_126 rfl ?_
    refine r_icmp_ne (pc := 129) (tgt := 137) dX24_digested_129 rfl (fun c8 => ?_) (fun c8 => ?_)
    · have K := K.1 c8
      refine r_bipush (pc := 137) (x := 32) dX24_digested_137 rfl ?_
      refine r_callV_V (pc := 139) (Y := mX24_push) (vs := [_, _, _]) (st := []) hk3 rfl kc24 q2507 q2509 qs96 dX24_digested_139 rfl cd_X24_push rfl rfl fp_X24_digested_X24_push K (fun h10 eh10 wh10 K => ?_) (fun x h1 _ _ e => Tw.out rfl e)
      exact r_vret (pc := 142) rfl dX24_digested_142 K
    · have K := K.2 c8
      refine r_bipush (pc := 132) (x := 20) dX24_digested_132 rfl ?_
      refine r_goto (pc := 134) (tgt := 139) dX24_digested_134 rfl ?_
      refine r_callV_V (pc := 139) (Y := mX24_push) (vs := [_, _, _]) (st := []) hk3 rfl kc24 q2507 q2509 qs96 dX24_digested_139 rfl cd_X24_push rfl rfl fp_X24_digested_X24_push K (fun h12 eh12 wh12 K => ?_) (fun x h1 _ _ e => Tw.out rfl e)
      exact r_vret (pc := 142) rfl dX24_digested_142 K
theorem dX24_locked_0 : decode cX24_locked 0 = .ok (.aload_n 0, 1) := by decide +kernel
theorem dX24_locked_1 : decode cX24_locked 1 = .ok (.iconst 0, 1) := by decide +kernel
theorem dX24_locked_2 : decode cX24_locked 2 = .ok (.iconst 5, 1) := by decide +kernel
theorem dX24_locked_3 : decode cX24_locked 3 = .ok (.invokevirtual 617, 3) := by decide +kernel
theorem dX24_locked_6 : decode cX24_locked 6 = .ok (.lstore_n 1, 1) := by decide +kernel
theorem dX24_locked_7 : decode cX24_locked 7 = .ok (.aload_n 0, 1) := by decide +kernel
theorem dX24_locked_8 : decode cX24_locked 8 = .ok (.aload_n 0, 1) := by decide +kernel
theorem dX24_locked_9 : decode cX24_locked 9 = .ok (.getfield 673, 3) := by decide +kernel
theorem dX24_locked_12 : decode cX24_locked 12 = .ok (.getfield 275, 3) := by decide +kernel
theorem dX24_locked_15 : decode cX24_locked 15 = .ok (.aload_n 0, 1) := by decide +kernel
theorem dX24_locked_16 : decode cX24_locked 16 = .ok (.getfield 673, 3) := by decide +kernel
theorem dX24_locked_19 : decode cX24_locked 19 = .ok (.getfield 313, 3) := by decide +kernel
theorem dX24_locked_22 : decode cX24_locked 22 = .ok (.aload_n 0, 1) := by decide +kernel
theorem dX24_locked_23 : decode cX24_locked 23 = .ok (.getfield 676, 3) := by decide +kernel
theorem dX24_locked_26 : decode cX24_locked 26 = .ok (.iaload, 1) := by decide +kernel
theorem dX24_locked_27 : decode cX24_locked 27 = .ok (.iconst 4, 1) := by decide +kernel
theorem dX24_locked_28 : decode cX24_locked 28 = .ok (.isub, 1) := by decide +kernel
theorem dX24_locked_29 : decode cX24_locked 29 = .ok (.iconst 4, 1) := by decide +kernel
theorem dX24_locked_30 : decode cX24_locked 30 = .ok (.invokevirtual 267, 3) := by decide +kernel
theorem dX24_locked_33 : decode cX24_locked 33 = .ok (.lstore_n 3, 1) := by decide +kernel
theorem dX24_locked_34 : decode cX24_locked 34 = .ok (.aload_n 0, 1) := by decide +kernel
theorem dX24_locked_35 : decode cX24_locked 35 = .ok (.aload_n 0, 1) := by decide +kernel
theorem dX24_locked_36 : decode cX24_locked 36 = .ok (.getfield 673, 3) := by decide +kernel
theorem dX24_locked_39 : decode cX24_locked 39 = .ok (.getfield 275, 3) := by decide +kernel
theorem dX24_locked_42 : decode cX24_locked 42 = .ok (.aload_n 0, 1) := by decide +kernel
theorem dX24_locked_43 : decode cX24_locked 43 = .ok (.aload_n 0, 1) := by decide +kernel
theorem dX24_locked_44 : decode cX24_locked 44 = .ok (.getfield 673, 3) := by decide +kernel
theorem dX24_locked_47 : decode cX24_locked 47 = .ok (.aload_n 0, 1) := by decide +kernel
theorem dX24_locked_48 : decode cX24_locked 48 = .ok (.getfield 676, 3) := by decide +kernel
theorem dX24_locked_51 : decode cX24_locked 51 = .ok (.aload_n 0, 1) := by decide +kernel
theorem dX24_locked_52 : decode cX24_locked 52 = .ok (.getfield 679, 3) := by decide +kernel
theorem dX24_locked_55 : decode cX24_locked 55 = .ok (.invokevirtual 419, 3) := by decide +kernel
theorem dX24_locked_58 : decode cX24_locked 58 = .ok (.bipush 36, 2) := by decide +kernel
theorem dX24_locked_60 : decode cX24_locked 60 = .ok (.iadd, 1) := by decide +kernel
theorem dX24_locked_61 : decode cX24_locked 61 = .ok (.invokevirtual 328, 3) := by decide +kernel
theorem dX24_locked_64 : decode cX24_locked 64 = .ok (.istore 5, 2) := by decide +kernel
theorem dX24_locked_66 : decode cX24_locked 66 = .ok (.aload_n 0, 1) := by decide +kernel
theorem dX24_locked_67 : decode cX24_locked 67 = .ok (.dup, 1) := by decide +kernel
theorem dX24_locked_68 : decode cX24_locked 68 = .ok (.getfield 524, 3) := by decide +kernel
theorem dX24_locked_71 : decode cX24_locked 71 = .ok (.lload_n 1, 1) := by decide +kernel
theorem dX24_locked_72 : decode cX24_locked 72 = .ok (.lconst 0, 1) := by decide +kernel
theorem dX24_locked_73 : decode cX24_locked 73 = .ok (.lcmp, 1) := by decide +kernel
theorem dX24_locked_74 : decode cX24_locked 74 = .ok (.ifCond .lt 59, 3) := by decide +kernel
theorem dX24_locked_77 : decode cX24_locked 77 = .ok (.lload_n 1, 1) := by decide +kernel
theorem dX24_locked_78 : decode cX24_locked 78 = .ok (.ldc2_w 430, 3) := by decide +kernel
theorem dX24_locked_81 : decode cX24_locked 81 = .ok (.lcmp, 1) := by decide +kernel
theorem dX24_locked_82 : decode cX24_locked 82 = .ok (.ifCond .ge 7, 3) := by decide +kernel
theorem dX24_locked_85 : decode cX24_locked 85 = .ok (.iconst 1, 1) := by decide +kernel
theorem dX24_locked_86 : decode cX24_locked 86 = .ok (.goto 4, 3) := by decide +kernel
theorem dX24_locked_89 : decode cX24_locked 89 = .ok (.iconst 0, 1) := by decide +kernel
theorem dX24_locked_90 : decode cX24_locked 90 = .ok (.lload_n 3, 1) := by decide +kernel
theorem dX24_locked_91 : decode cX24_locked 91 = .ok (.ldc2_w 430, 3) := by decide +kernel
theorem dX24_locked_94 : decode cX24_locked 94 = .ok (.lcmp, 1) := by decide +kernel
theorem dX24_locked_95 : decode cX24_locked 95 = .ok (.ifCond .ge 7, 3) := by decide +kernel
theorem dX24_locked_98 : decode cX24_locked 98 = .ok (.iconst 1, 1) := by decide +kernel
theorem dX24_locked_99 : decode cX24_locked 99 = .ok (.goto 4, 3) := by decide +kernel
theorem dX24_locked_102 : decode cX24_locked 102 = .ok (.iconst 0, 1) := by decide +kernel
theorem dX24_locked_103 : decode cX24_locked 103 = .ok (.if_icmp .ne 30, 3) := by decide +kernel
theorem dX24_locked_106 : decode cX24_locked 106 = .ok (.lload_n 1, 1) := by decide +kernel
theorem dX24_locked_107 : decode cX24_locked 107 = .ok (.lload_n 3, 1) := by decide +kernel
theorem dX24_locked_108 : decode cX24_locked 108 = .ok (.lcmp, 1) := by decide +kernel
theorem dX24_locked_109 : decode cX24_locked 109 = .ok (.ifCond .gt 24, 3) := by decide +kernel
theorem dX24_locked_112 : decode cX24_locked 112 = .ok (.aload_n 0, 1) := by decide +kernel
theorem dX24_locked_113 : decode cX24_locked 113 = .ok (.aload_n 0, 1) := by decide +kernel
theorem dX24_locked_114 : decode cX24_locked 114 = .ok (.getfield 673, 3) := by decide +kernel
theorem dX24_locked_117 : decode cX24_locked 117 = .ok (.getfield 275, 3) := by decide +kernel
theorem dX24_locked_120 : decode cX24_locked 120 = .ok (.iload 5, 2) := by decide +kernel
theorem dX24_locked_122 : decode cX24_locked 122 = .ok (.iconst 4, 1) := by decide +kernel
theorem dX24_locked_123 : decode cX24_locked 123 = .ok (.invokevirtual 267, 3) := by decide +kernel
theorem dX24_locked_126 : decode cX24_locked 126 = .ok (.ldc2_w 380, 3) := by decide +kernel
theorem dX24_locked_129 : decode cX24_locked 129 = .ok (.lcmp, 1) := by decide +kernel
theorem dX24_locked_130 : decode cX24_locked 130 = .ok (.ifCond .ne 7, 3) := by decide +kernel
theorem dX24_locked_133 : decode cX24_locked 133 = .ok (.iconst 1, 1) := by decide +kernel
theorem dX24_locked_134 : decode cX24_locked 134 = .ok (.goto 4, 3) := by decide +kernel
theorem dX24_locked_137 : decode cX24_locked 137 = .ok (.iconst 0, 1) := by decide +kernel
theorem dX24_locked_138 : decode cX24_locked 138 = .ok (.ior, 1) := by decide +kernel
theorem dX24_locked_139 : decode cX24_locked 139 = .ok (.putfield 524, 3) := by decide +kernel
theorem dX24_locked_142 : decode cX24_locked 142 = .ok (.return_, 1) := by decide +kernel
/-! CoinJudgeModel.locked()V -/
set_option maxHeartbeats 4000000 in
theorem sX24_locked_0 {G : Gx} {d t : Nat} {h0 : AH} {Φ : Out → AH → Prop} (h : AH) (v0 : Nat) (K : h.kd v0 = 24 ∧ Cw G mX24_numberAt d 0 [vR v0, vI 0, vI 5] h (kJ (fun x1 h2 => ∀ r5 : Nat, r5 = (h2.r 24076 v0) → h2.kd r5 = 26 ∧ ∀ r7 : Nat, r7 = (h2.r 26000 r5) → ∀ r8 : Nat, r8 = (h2.r 26003 r5) → h2.kd r8 = 100 ∧ vp_in (h2.i 24077 v0) (h2.ai r8).length ∧ Cw G mX24_number d 0 [vR v0, vR r7, vI (((h2.ai r8).getD ((h2.i 24077 v0).toNatClampNeg) 0) - 4), vI 4] h2 (kJ (fun x11 h12 => Cw G mX24_input d 0 [vR v0, vR r5, vI (h2.i 24077 v0), vI (h12.i 24078 v0)] h12 (kI (fun x21 h22 => Cw G mX24_script d 0 [vR v0, vR r7, vI (x21 + 36)] h22 (kI (fun x23 h24 => ((x1 < 0 → (((h24.i 24074 v0) ||| 1) = 0 ∨ ((h24.i 24074 v0) ||| 1) = 1) ∧ ∀ h29 : AH, h29 = h24.pi 24074 v0 ((h24.i 24074 v0) ||| 1) → Φ (.inl none) h29) ∧ (¬ x1 < 0 → ((500000000 ≤ x1 → ((500000000 ≤ x11 → ((¬ (0 : Int32) = 0 → (((h24.i 24074 v0) ||| 1) = 0 ∨ ((h24.i 24074 v0) ||| 1) = 1) ∧ ∀ h34 : AH, h34 = h24.pi 24074 v0 ((h24.i 24074 v0) ||| 1) → Φ (.inl none) h34) ∧ ((0 : Int32) = 0 → ((x11 < x1 → (((h24.i 24074 v0) ||| 1) = 0 ∨ ((h24.i 24074 v0) ||| 1) = 1) ∧ ∀ h37 : AH, h37 = h24.pi 24074 v0 ((h24.i 24074 v0) ||| 1) → Φ (.inl none) h37) ∧ (¬ x11 < x1 → Cw G mX24_number d 0 [vR v0, vR r7, vI x23, vI 4] h24 (kJ (fun x44 h45 => ((¬ x44 = 4294967295 → (((h24.i 24074 v0) ||| 0) = 0 ∨ ((h24.i 24074 v0) ||| 0) = 1) ∧ ∀ h49 : AH, h49 = h45.pi 24074 v0 ((h24.i 24074 v0) ||| 0) → Φ (.inl none) h49) ∧ (x44 = 4294967295 → (((h24.i 24074 v0) ||| 1) = 0 ∨ ((h24.i 24074 v0) ||| 1) = 1) ∧ ∀ h52 : AH, h52 = h45.pi 24074 v0 ((h24.i 24074 v0) ||| 1) → Φ (.inl none) h52))) (fun x h => Φ (.inr x) h))))))) ∧ (¬ 500000000 ≤ x11 → ((¬ (0 : Int32) = 1 → (((h24.i 24074 v0) ||| 1) = 0 ∨ ((h24.i 24074 v0) ||| 1) = 1) ∧ ∀ h55 : AH, h55 = h24.pi 24074 v0 ((h24.i 24074 v0) ||| 1) → Φ (.inl none) h55) ∧ ((0 : Int32) = 1 → ((x11 < x1 → (((h24.i 24074 v0) ||| 1) = 0 ∨ ((h24.i 24074 v0) ||| 1) = 1) ∧ ∀ h58 : AH, h58 = h24.pi 24074 v0 ((h24.i 24074 v0) ||| 1) → Φ (.inl none) h58) ∧ (¬ x11 < x1 → Cw G mX24_number d 0 [vR v0, vR r7, vI x23, vI 4] h24 (kJ (fun x65 h66 => ((¬ x65 = 4294967295 → (((h24.i 24074 v0) ||| 0) = 0 ∨ ((h24.i 24074 v0) ||| 0) = 1) ∧ ∀ h70 : AH, h70 = h66.pi 24074 v0 ((h24.i 24074 v0) ||| 0) → Φ (.inl none) h70) ∧ (x65 = 4294967295 → (((h24.i 24074 v0) ||| 1) = 0 ∨ ((h24.i 24074 v0) ||| 1) = 1) ∧ ∀ h73 : AH, h73 = h66.pi 24074 v0 ((h24.i 24074 v0) ||| 1) → Φ (.inl none) h73))) (fun x h => Φ (.inr x) h))))))))) ∧ (¬ 500000000 ≤ x1 → ((500000000 ≤ x11 → ((¬ (1 : Int32) = 0 → (((h24.i 24074 v0) ||| 1) = 0 ∨ ((h24.i 24074 v0) ||| 1) = 1) ∧ ∀ h77 : AH, h77 = h24.pi 24074 v0 ((h24.i 24074 v0) ||| 1) → Φ (.inl none) h77) ∧ ((1 : Int32) = 0 → ((x11 < x1 → (((h24.i 24074 v0) ||| 1) = 0 ∨ ((h24.i 24074 v0) ||| 1) = 1) ∧ ∀ h80 : AH, h80 = h24.pi 24074 v0 ((h24.i 24074 v0) ||| 1) → Φ (.inl none) h80) ∧ (¬ x11 < x1 → Cw G mX24_number d 0 [vR v0, vR r7, vI x23, vI 4] h24 (kJ (fun x87 h88 => ((¬ x87 = 4294967295 → (((h24.i 24074 v0) ||| 0) = 0 ∨ ((h24.i 24074 v0) ||| 0) = 1) ∧ ∀ h92 : AH, h92 = h88.pi 24074 v0 ((h24.i 24074 v0) ||| 0) → Φ (.inl none) h92) ∧ (x87 = 4294967295 → (((h24.i 24074 v0) ||| 1) = 0 ∨ ((h24.i 24074 v0) ||| 1) = 1) ∧ ∀ h95 : AH, h95 = h88.pi 24074 v0 ((h24.i 24074 v0) ||| 1) → Φ (.inl none) h95))) (fun x h => Φ (.inr x) h))))))) ∧ (¬ 500000000 ≤ x11 → ((¬ (1 : Int32) = 1 → (((h24.i 24074 v0) ||| 1) = 0 ∨ ((h24.i 24074 v0) ||| 1) = 1) ∧ ∀ h98 : AH, h98 = h24.pi 24074 v0 ((h24.i 24074 v0) ||| 1) → Φ (.inl none) h98) ∧ ((1 : Int32) = 1 → ((x11 < x1 → (((h24.i 24074 v0) ||| 1) = 0 ∨ ((h24.i 24074 v0) ||| 1) = 1) ∧ ∀ h101 : AH, h101 = h24.pi 24074 v0 ((h24.i 24074 v0) ||| 1) → Φ (.inl none) h101) ∧ (¬ x11 < x1 → Cw G mX24_number d 0 [vR v0, vR r7, vI x23, vI 4] h24 (kJ (fun x108 h109 => ((¬ x108 = 4294967295 → (((h24.i 24074 v0) ||| 0) = 0 ∨ ((h24.i 24074 v0) ||| 0) = 1) ∧ ∀ h113 : AH, h113 = h109.pi 24074 v0 ((h24.i 24074 v0) ||| 0) → Φ (.inl none) h113) ∧ (x108 = 4294967295 → (((h24.i 24074 v0) ||| 1) = 0 ∨ ((h24.i 24074 v0) ||| 1) = 1) ∧ ∀ h116 : AH, h116 = h109.pi 24074 v0 ((h24.i 24074 v0) ||| 1) → Φ (.inl none) h116))) (fun x h => Φ (.inr x) h))))))))))))) (fun x h => Φ (.inr x) h))) (fun x h => Φ (.inr x) h))) (fun x h => Φ (.inr x) h))) (fun x h => Φ (.inr x) h))) : Aw G mX24_locked (d + 1) t h0 Φ 0 [vR v0, vU, vU, vU, vU, vU] [] h := by
  refine r_aload_n (pc := 0) dX24_locked_0 rfl ?_
  refine r_iconst (pc := 1) (x := 0) dX24_locked_1 rfl ?_
  refine r_iconst (pc := 2) (x := 5) dX24_locked_2 rfl ?_
  obtain ⟨hk3, K⟩ := K
  refine r_callV_J (pc := 3) (Y := mX24_numberAt) (vs := [_, _]) (st := []) hk3 rfl kc24 q2526 q2528 qs100 dX24_locked_3 rfl cd_X24_numberAt rfl rfl fp_X24_locked_X24_numberAt K (fun x1 h2 eh2 wh2 K => ?_) (fun x h1 _ _ e => Tw.out rfl e)
  refine r_lstore_n (pc := 6) (lv' := [_, _, _, _, _, _]) dX24_locked_6 (by decide) rfl ?_
  refine r_aload_n (pc := 7) dX24_locked_7 rfl ?_
  refine r_aload_n (pc := 8) dX24_locked_8 rfl ?_
  have hk4 := kd_ext eh2 hk3 (nz rfl)
  have K := K _ rfl
  refine r_getr' (pc := 9) (T := TX24) 24 76 rfl hk4 (Or.inl q2774) dX24_locked_9 kc24 g24076 ?_
  obtain ⟨hk6, K⟩ := K
  have K := K _ rfl
  refine r_getr' (pc := 12) (T := TX26) 26 0 rfl hk6 (Or.inr (Or.inl ⟨_, q2142⟩)) dX24_locked_12 kc26 g26000 ?_
  refine r_aload_n (pc := 15) dX24_locked_15 rfl ?_
  refine r_getr' (pc := 16) (T := TX24) 24 76 rfl hk4 (Or.inl q2774) dX24_locked_16 kc24 g24076 ?_
  have K := K _ rfl
  refine r_getr' (pc := 19) (T := TX26) 26 3 rfl hk6 (Or.inr (Or.inl ⟨_, q2147⟩)) dX24_locked_19 kc26 g26003 ?_
  refine r_aload_n (pc := 22) dX24_locked_22 rfl ?_
  refine r_geti' (pc := 23) (T := TX24) 24 77 rfl hk4 (Or.inl q2775) dX24_locked_23 kc24 g24077 ?_
  obtain ⟨hk9, K⟩ := K
  obtain ⟨hi10, K⟩ := K
  refine r_iaload (pc := 26) hk9 hi10 dX24_locked_26 ?_
  refine r_iconst (pc := 27) (x := 4) dX24_locked_27 rfl ?_
  refine r_isub (pc := 28) dX24_locked_28 ?_
  refine r_iconst (pc := 29) (x := 4) dX24_locked_29 rfl ?_
  refine r_callV_J (pc := 30) (Y := mX24_number) (vs := [_, _, _]) (st := []) hk4 rfl kc24 q2350 q2352 qs74 dX24_locked_30 rfl cd_X24_number rfl rfl fp_X24_locked_X24_number K (fun x11 h12 eh12 wh12 K => ?_) (fun x h1 _ _ e => Tw.out rfl e)
  refine r_lstore_n (pc := 33) (lv' := [_, _, _, _, _, _]) dX24_locked_33 (by decide) rfl ?_
  refine r_aload_n (pc := 34) dX24_locked_34 rfl ?_
  refine r_aload_n (pc := 35) dX24_locked_35 rfl ?_
  have hk13 := kd_ext eh12 hk4 (nz rfl)
  have hv14 := fr_self (key := 24076) hk4
  have hv15 := (fr_ext (key := 24076) eh12 hk4 (nz rfl) (ne0 wh12 hk13 (nz rfl)) (nm rfl)).trans hv14
  refine r_getr' (pc := 36) (T := TX24) 24 76 hv15 hk13 (Or.inl q2774) dX24_locked_36 kc24 g24076 ?_
  have hk16 := kd_ext eh12 hk6 (nz rfl)
  have hv17 := fr_self (key := 26000) hk6
  have hv18 := (fr_ext (key := 26000) eh12 hk6 (nz rfl) (ne0 wh12 hk16 (nz rfl)) (nm rfl)).trans hv17
  refine r_getr' (pc := 39) (T := TX26) 26 0 hv18 hk16 (Or.inr (Or.inl ⟨_, q2142⟩)) dX24_locked_39 kc26 g26000 ?_
  refine r_aload_n (pc := 42) dX24_locked_42 rfl ?_
  refine r_aload_n (pc := 43) dX24_locked_43 rfl ?_
  refine r_getr' (pc := 44) (T := TX24) 24 76 hv15 hk13 (Or.inl q2774) dX24_locked_44 kc24 g24076 ?_
  refine r_aload_n (pc := 47) dX24_locked_47 rfl ?_
  have hv19 := fi_self (key := 24077) hk4
  have hv20 := (fi_ext (key := 24077) eh12 hk4 (nz rfl) (ne0 wh12 hk13 (nz rfl)) (nm rfl)).trans hv19
  refine r_geti' (pc := 48) (T := TX24) 24 77 hv20 hk13 (Or.inl q2775) dX24_locked_48 kc24 g24077 ?_
  refine r_aload_n (pc := 51) dX24_locked_51 rfl ?_
  refine r_geti' (pc := 52) (T := TX24) 24 78 rfl hk13 (Or.inl q2776) dX24_locked_52 kc24 g24078 ?_
  refine r_callV_I (pc := 55) (Y := mX24_input) (vs := [_, _, _]) (st := [_, _]) hk13 rfl kc24 q2452 q2454 qs84 dX24_locked_55 rfl cd_X24_input rfl rfl fp_X24_locked_X24_input K (fun x21 h22 eh22 wh22 K => ?_) (fun x h1 _ _ e => Tw.out rfl e)
  refine r_bipush (pc := 58) (x := 36) dX24_locked_58 rfl ?_
  refine r_iadd (pc := 60) dX24_locked_60 ?_
  have hk25 := kd_ext eh22 hk13 (nz rfl)
  refine r_callV_I (pc := 61) (Y := mX24_script) (vs := [_, _]) (st := []) hk25 rfl kc24 q2456 q2458 qs85 dX24_locked_61 rfl cd_X24_script rfl rfl fp_X24_locked_X24_script K (fun x23 h24 eh24 wh24 K => ?_) (fun x h1 _ _ e => Tw.out rfl e)
  refine r_istore (pc := 64) (lv' := [_, _, _, _, _, _]) dX24_locked_64 (by decide) rfl ?_
  refine r_aload_n (pc := 66) dX24_locked_66 rfl ?_
  refine r_dup (pc := 67) rfl dX24_locked_67 ?_
  have hk26 := kd_ext eh24 hk25 (nz rfl)
  refine r_geti' (pc := 68) (T := TX24) 24 74 rfl hk26 (Or.inl q2772) dX24_locked_68 kc24 g24074 ?_
  refine r_lload_n (pc := 71) dX24_locked_71 rfl ?_
  refine r_lconst (pc := 72) (a := 0) dX24_locked_72 rfl ?_
  refine r_lcmp_lt (pc := 73) (tgt := 133) dX24_locked_73 dX24_locked_74 rfl (fun c27 => ?_) (fun c27 => ?_)
  · have K := K.1 c27
    refine r_iconst (pc := 133) (x := 1) dX24_locked_133 rfl ?_
    refine r_goto (pc := 134) (tgt := 138) dX24_locked_134 rfl ?_
    refine r_ior (pc := 138) dX24_locked_138 ?_
    obtain ⟨hb28, K⟩ := K
    refine r_putz (pc := 139) (T := TX24) (key := 24074) 24 74 hk26 (Or.inl q2772) dX24_locked_139 kc24 rfl (Or.inl rfl) (Or.inl (em rfl)) hb28 ?_
    refine r_nameH (fun h29 eh29 => ?_)
    have K := K h29 eh29
    exact r_vret (pc := 142) rfl dX24_locked_142 K
  · have K := K.2 c27
    refine r_lload_n (pc := 77) dX24_locked_77 rfl ?_
    refine r_ldc2 (pc := 78) dX24_locked_78 q2669 ?_
    refine r_lcmp_ge (pc := 81) (tgt := 89) dX24_locked_81 dX24_locked_82 rfl (fun c30 => ?_) (fun c30 => ?_)
    · have K := K.1 c30
      refine r_iconst (pc := 89) (x := 0) dX24_locked_89 rfl ?_
      refine r_lload_n (pc := 90) dX24_locked_90 rfl ?_
      refine r_ldc2 (pc := 91) dX24_locked_91 q2669 ?_
      refine r_lcmp_ge (pc := 94) (tgt := 102) dX24_locked_94 dX24_locked_95 rfl (fun c31 => ?_) (fun c31 => ?_)
      · have K := K.1 c31
        refine r_iconst (pc := 102) (x := 0) dX24_locked_102 rfl ?_
        refine r_icmp_ne (pc := 103) (tgt := 133) dX24_locked_103 rfl (fun c32 => ?_) (fun c32 => ?_)
        · have K := K.1 c32
          refine r_iconst (pc := 133) (x := 1) dX24_locked_133 rfl ?_
          refine r_goto (pc := 134) (tgt := 138) dX24_locked_134 rfl ?_
          refine r_ior (pc := 138) dX24_locked_138 ?_
          obtain ⟨hb33, K⟩ := K
          refine r_putz (pc := 139) (T := TX24) (key := 24074) 24 74 hk26 (Or.inl q2772) dX24_locked_139 kc24 rfl (Or.inl rfl) (Or.inl (em rfl)) hb33 ?_
          refine r_nameH (fun h34 eh34 => ?_)
          have K := K h34 eh34
          exact r_vret (pc := 142) rfl dX24_locked_142 K
        · have K := K.2 c32
          refine r_lload_n (pc := 106) dX24_locked_106 rfl ?_
          refine r_lload_n (pc := 107) dX24_locked_107 rfl ?_
          refine r_lcmp_gt (pc := 108) (tgt := 133) dX24_locked_108 dX24_locked_109 rfl (fun c35 => ?_) (fun c35 => ?_)
          · have K := K.1 c35
            refine r_iconst (pc := 133) (x := 1) dX24_locked_133 rfl ?_
            refine r_goto (pc := 134) (tgt := 138) dX24_locked_134 rfl ?_
            refine r_ior (pc := 138) dX24_locked_138 ?_
            obtain ⟨hb36, K⟩ := K
            refine r_putz (pc := 139) (T := TX24) (key := 24074) 24 74 hk26 (Or.inl q2772) dX24_locked_139 kc24 rfl (Or.inl rfl) (Or.inl (em rfl)) hb36 ?_
            refine r_nameH (fun h37 eh37 => ?_)
            have K := K h37 eh37
            exact r_vret (pc := 142) rfl dX24_locked_142 K
          · have K := K.2 c35
            refine r_aload_n (pc := 112) dX24_locked_112 rfl ?_
            refine r_aload_n (pc := 113) dX24_locked_113 rfl ?_
            have hv38 := (fr_ext (key := 24076) eh22 hk13 (nz rfl) (ne0 wh22 hk25 (nz rfl)) (nm rfl)).trans hv15
            have hv39 := (fr_ext (key := 24076) eh24 hk25 (nz rfl) (ne0 wh24 hk26 (nz rfl)) (nm rfl)).trans hv38
            refine r_getr' (pc := 114) (T := TX24) 24 76 hv39 hk26 (Or.inl q2774) dX24_locked_114 kc24 g24076 ?_
            have hk40 := kd_ext eh22 hk16 (nz rfl)
            have hk41 := kd_ext eh24 hk40 (nz rfl)
            have hv42 := (fr_ext (key := 26000) eh22 hk16 (nz rfl) (ne0 wh22 hk40 (nz rfl)) (nm rfl)).trans hv18
            have hv43 := (fr_ext (key := 26000) eh24 hk40 (nz rfl) (ne0 wh24 hk41 (nz rfl)) (nm rfl)).trans hv42
            refine r_getr' (pc := 117) (T := TX26) 26 0 hv43 hk41 (Or.inr (Or.inl ⟨_, q2142⟩)) dX24_locked_117 kc26 g26000 ?_
            refine r_iload (pc := 120) dX24_locked_120 rfl ?_
            refine r_iconst (pc := 122) (x := 4) dX24_locked_122 rfl ?_
            refine r_callV_J (pc := 123) (Y := mX24_number) (vs := [_, _, _]) (st := [_, _]) hk26 rfl kc24 q2350 q2352 qs74 dX24_locked_123 rfl cd_X24_number rfl rfl fp_X24_locked_X24_number K (fun x44 h45 eh45 wh45 K => ?_) (fun x h1 _ _ e => Tw.out rfl e)
            refine r_ldc2 (pc := 126) dX24_locked_126 q2283 ?_
            refine r_lcmp_ne (pc := 129) (tgt := 137) dX24_locked_129 dX24_locked_130 rfl (fun c46 => ?_) (fun c46 => ?_)
            · have K := K.1 c46
              refine r_iconst (pc := 137) (x := 0) dX24_locked_137 rfl ?_
              refine r_ior (pc := 138) dX24_locked_138 ?_
              have hk47 := kd_ext eh45 hk26 (nz rfl)
              obtain ⟨hb48, K⟩ := K
              refine r_putz (pc := 139) (T := TX24) (key := 24074) 24 74 hk47 (Or.inl q2772) dX24_locked_139 kc24 rfl (Or.inl rfl) (Or.inl (em rfl)) hb48 ?_
              refine r_nameH (fun h49 eh49 => ?_)
              have K := K h49 eh49
              exact r_vret (pc := 142) rfl dX24_locked_142 K
            · have K := K.2 c46
              refine r_iconst (pc := 133) (x := 1) dX24_locked_133 rfl ?_
              refine r_goto (pc := 134) (tgt := 138) dX24_locked_134 rfl ?_
              refine r_ior (pc := 138) dX24_locked_138 ?_
              have hk50 := kd_ext eh45 hk26 (nz rfl)
              obtain ⟨hb51, K⟩ := K
              refine r_putz (pc := 139) (T := TX24) (key := 24074) 24 74 hk50 (Or.inl q2772) dX24_locked_139 kc24 rfl (Or.inl rfl) (Or.inl (em rfl)) hb51 ?_
              refine r_nameH (fun h52 eh52 => ?_)
              have K := K h52 eh52
              exact r_vret (pc := 142) rfl dX24_locked_142 K
      · have K := K.2 c31
        refine r_iconst (pc := 98) (x := 1) dX24_locked_98 rfl ?_
        refine r_goto (pc := 99) (tgt := 103) dX24_locked_99 rfl ?_
        refine r_icmp_ne (pc := 103) (tgt := 133) dX24_locked_103 rfl (fun c53 => ?_) (fun c53 => ?_)
        · have K := K.1 c53
          refine r_iconst (pc := 133) (x := 1) dX24_locked_133 rfl ?_
          refine r_goto (pc := 134) (tgt := 138) dX24_locked_134 rfl ?_
          refine r_ior (pc := 138) dX24_locked_138 ?_
          obtain ⟨hb54, K⟩ := K
          refine r_putz (pc := 139) (T := TX24) (key := 24074) 24 74 hk26 (Or.inl q2772) dX24_locked_139 kc24 rfl (Or.inl rfl) (Or.inl (em rfl)) hb54 ?_
          refine r_nameH (fun h55 eh55 => ?_)
          have K := K h55 eh55
          exact r_vret (pc := 142) rfl dX24_locked_142 K
        · have K := K.2 c53
          refine r_lload_n (pc := 106) dX24_locked_106 rfl ?_
          refine r_lload_n (pc := 107) dX24_locked_107 rfl ?_
          refine r_lcmp_gt (pc := 108) (tgt := 133) dX24_locked_108 dX24_locked_109 rfl (fun c56 => ?_) (fun c56 => ?_)
          · have K := K.1 c56
            refine r_iconst (pc := 133) (x := 1) dX24_locked_133 rfl ?_
            refine r_goto (pc := 134) (tgt := 138) dX24_locked_134 rfl ?_
            refine r_ior (pc := 138) dX24_locked_138 ?_
            obtain ⟨hb57, K⟩ := K
            refine r_putz (pc := 139) (T := TX24) (key := 24074) 24 74 hk26 (Or.inl q2772) dX24_locked_139 kc24 rfl (Or.inl rfl) (Or.inl (em rfl)) hb57 ?_
            refine r_nameH (fun h58 eh58 => ?_)
            have K := K h58 eh58
            exact r_vret (pc := 142) rfl dX24_locked_142 K
          · have K := K.2 c56
            refine r_aload_n (pc := 112) dX24_locked_112 rfl ?_
            refine r_aload_n (pc := 113) dX24_locked_113 rfl ?_
            have hv59 := (fr_ext (key := 24076) eh22 hk13 (nz rfl) (ne0 wh22 hk25 (nz rfl)) (nm rfl)).trans hv15
            have hv60 := (fr_ext (key := 24076) eh24 hk25 (nz rfl) (ne0 wh24 hk26 (nz rfl)) (nm rfl)).trans hv59
            refine r_getr' (pc := 114) (T := TX24) 24 76 hv60 hk26 (Or.inl q2774) dX24_locked_114 kc24 g24076 ?_
            have hk61 := kd_ext eh22 hk16 (nz rfl)
            have hk62 := kd_ext eh24 hk61 (nz rfl)
            have hv63 := (fr_ext (key := 26000) eh22 hk16 (nz rfl) (ne0 wh22 hk61 (nz rfl)) (nm rfl)).trans hv18
            have hv64 := (fr_ext (key := 26000) eh24 hk61 (nz rfl) (ne0 wh24 hk62 (nz rfl)) (nm rfl)).trans hv63
            refine r_getr' (pc := 117) (T := TX26) 26 0 hv64 hk62 (Or.inr (Or.inl ⟨_, q2142⟩)) dX24_locked_117 kc26 g26000 ?_
            refine r_iload (pc := 120) dX24_locked_120 rfl ?_
            refine r_iconst (pc := 122) (x := 4) dX24_locked_122 rfl ?_
            refine r_callV_J (pc := 123) (Y := mX24_number) (vs := [_, _, _]) (st := [_, _]) hk26 rfl kc24 q2350 q2352 qs74 dX24_locked_123 rfl cd_X24_number rfl rfl fp_X24_locked_X24_number K (fun x65 h66 eh66 wh66 K => ?_) (fun x h1 _ _ e => Tw.out rfl e)
            refine r_ldc2 (pc := 126) dX24_locked_126 q2283 ?_
            refine r_lcmp_ne (pc := 129) (tgt := 137) dX24_locked_129 dX24_locked_130 rfl (fun c67 => ?_) (fun c67 => ?_)
            · have K := K.1 c67
              refine r_iconst (pc := 137) (x := 0) dX24_locked_137 rfl ?_
              refine r_ior (pc := 138) dX24_locked_138 ?_
              have hk68 := kd_ext eh66 hk26 (nz rfl)
              obtain ⟨hb69, K⟩ := K
              refine r_putz (pc := 139) (T := TX24) (key := 24074) 24 74 hk68 (Or.inl q2772) dX24_locked_139 kc24 rfl (Or.inl rfl) (Or.inl (em rfl)) hb69 ?_
              refine r_nameH (fun h70 eh70 => ?_)
              have K := K h70 eh70
              exact r_vret (pc := 142) rfl dX24_locked_142 K
            · have K := K.2 c67
              refine r_iconst (pc := 133) (x := 1) dX24_locked_133 rfl ?_
              refine r_goto (pc := 134) (tgt := 138) dX24_locked_134 rfl ?_
              refine r_ior (pc := 138) dX24_locked_138 ?_
              have hk71 := kd_ext eh66 hk26 (nz rfl)
              obtain ⟨hb72, K⟩ := K
              refine r_putz (pc := 139) (T := TX24) (key := 24074) 24 74 hk71 (Or.inl q2772) dX24_locked_139 kc24 rfl (Or.inl rfl) (Or.inl (em rfl)) hb72 ?_
              refine r_nameH (fun h73 eh73 => ?_)
              have K := K h73 eh73
              exact r_vret (pc := 142) rfl dX24_locked_142 K
    · have K := K.2 c30
      refine r_iconst (pc := 85) (x := 1) dX24_locked_85 rfl ?_
      refine r_goto (pc := 86) (tgt := 90) dX24_locked_86 rfl ?_
      refine r_lload_n (pc := 90) dX24_locked_90 rfl ?_
      refine r_ldc2 (pc := 91) dX24_locked_91 q2669 ?_
      refine r_lcmp_ge (pc := 94) (tgt := 102) dX24_locked_94 dX24_locked_95 rfl (fun c74 => ?_) (fun c74 => ?_)
      · have K := K.1 c74
        refine r_iconst (pc := 102) (x := 0) dX24_locked_102 rfl ?_
        refine r_icmp_ne (pc := 103) (tgt := 133) dX24_locked_103 rfl (fun c75 => ?_) (fun c75 => ?_)
        · have K := K.1 c75
          refine r_iconst (pc := 133) (x := 1) dX24_locked_133 rfl ?_
          refine r_goto (pc := 134) (tgt := 138) dX24_locked_134 rfl ?_
          refine r_ior (pc := 138) dX24_locked_138 ?_
          obtain ⟨hb76, K⟩ := K
          refine r_putz (pc := 139) (T := TX24) (key := 24074) 24 74 hk26 (Or.inl q2772) dX24_locked_139 kc24 rfl (Or.inl rfl) (Or.inl (em rfl)) hb76 ?_
          refine r_nameH (fun h77 eh77 => ?_)
          have K := K h77 eh77
          exact r_vret (pc := 142) rfl dX24_locked_142 K
        · have K := K.2 c75
          refine r_lload_n (pc := 106) dX24_locked_106 rfl ?_
          refine r_lload_n (pc := 107) dX24_locked_107 rfl ?_
          refine r_lcmp_gt (pc := 108) (tgt := 133) dX24_locked_108 dX24_locked_109 rfl (fun c78 => ?_) (fun c78 => ?_)
          · have K := K.1 c78
            refine r_iconst (pc := 133) (x := 1) dX24_locked_133 rfl ?_
            refine r_goto (pc := 134) (tgt := 138) dX24_locked_134 rfl ?_
            refine r_ior (pc := 138) dX24_locked_138 ?_
            obtain ⟨hb79, K⟩ := K
            refine r_putz (pc := 139) (T := TX24) (key := 24074) 24 74 hk26 (Or.inl q2772) dX24_locked_139 kc24 rfl (Or.inl rfl) (Or.inl (em rfl)) hb79 ?_
            refine r_nameH (fun h80 eh80 => ?_)
            have K := K h80 eh80
            exact r_vret (pc := 142) rfl dX24_locked_142 K
          · have K := K.2 c78
            refine r_aload_n (pc := 112) dX24_locked_112 rfl ?_
            refine r_aload_n (pc := 113) dX24_locked_113 rfl ?_
            have hv81 := (fr_ext (key := 24076) eh22 hk13 (nz rfl) (ne0 wh22 hk25 (nz rfl)) (nm rfl)).trans hv15
            have hv82 := (fr_ext (key := 24076) eh24 hk25 (nz rfl) (ne0 wh24 hk26 (nz rfl)) (nm rfl)).trans hv81
            refine r_getr' (pc := 114) (T := TX24) 24 76 hv82 hk26 (Or.inl q2774) dX24_locked_114 kc24 g24076 ?_
            have hk83 := kd_ext eh22 hk16 (nz rfl)
            have hk84 := kd_ext eh24 hk83 (nz rfl)
            have hv85 := (fr_ext (key := 26000) eh22 hk16 (nz rfl) (ne0 wh22 hk83 (nz rfl)) (nm rfl)).trans hv18
            have hv86 := (fr_ext (key := 26000) eh24 hk83 (nz rfl) (ne0 wh24 hk84 (nz rfl)) (nm rfl)).trans hv85
            refine r_getr' (pc := 117) (T := TX26) 26 0 hv86 hk84 (Or.inr (Or.inl ⟨_, q2142⟩)) dX24_locked_117 kc26 g26000 ?_
            refine r_iload (pc := 120) dX24_locked_120 rfl ?_
            refine r_iconst (pc := 122) (x := 4) dX24_locked_122 rfl ?_
            refine r_callV_J (pc := 123) (Y := mX24_number) (vs := [_, _, _]) (st := [_, _]) hk26 rfl kc24 q2350 q2352 qs74 dX24_locked_123 rfl cd_X24_number rfl rfl fp_X24_locked_X24_number K (fun x87 h88 eh88 wh88 K => ?_) (fun x h1 _ _ e => Tw.out rfl e)
            refine r_ldc2 (pc := 126) dX24_locked_126 q2283 ?_
            refine r_lcmp_ne (pc := 129) (tgt := 137) dX24_locked_129 dX24_locked_130 rfl (fun c89 => ?_) (fun c89 => ?_)
            · have K := K.1 c89
              refine r_iconst (pc := 137) (x := 0) dX24_locked_137 rfl ?_
              refine r_ior (pc := 138) dX24_locked_138 ?_
              have hk90 := kd_ext eh88 hk26 (nz rfl)
              obtain ⟨hb91, K⟩ := K
              refine r_putz (pc := 139) (T := TX24) (key := 24074) 24 74 hk90 (Or.inl q2772) dX24_locked_139 kc24 rfl (Or.inl rfl) (Or.inl (em rfl)) hb91 ?_
              refine r_nameH (fun h92 eh92 => ?_)
              have K := K h92 eh92
              exact r_vret (pc := 142) rfl dX24_locked_142 K
            · have K := K.2 c89
              refine r_iconst (pc := 133) (x := 1) dX24_locked_133 rfl ?_
              refine r_goto (pc := 134) (tgt := 138) dX24_locked_134 rfl ?_
              refine r_ior (pc := 138) dX24_locked_138 ?_
              have hk93 := kd_ext eh88 hk26 (nz rfl)
              obtain ⟨hb94, K⟩ := K
              refine r_putz (pc := 139) (T := TX24) (key := 24074) 24 74 hk93 (Or.inl q2772) dX24_locked_139 kc24 rfl (Or.inl rfl) (Or.inl (em rfl)) hb94 ?_
              refine r_nameH (fun h95 eh95 => ?_)
              have K := K h95 eh95
              exact r_vret (pc := 142) rfl dX24_locked_142 K
      · have K := K.2 c74
        refine r_iconst (pc := 98) (x := 1) dX24_locked_98 rfl ?_
        refine r_goto (pc := 99) (tgt := 103) dX24_locked_99 rfl ?_
        refine r_icmp_ne (pc := 103) (tgt := 133) dX24_locked_103 rfl (fun c96 => ?_) (fun c96 => ?_)
        · have K := K.1 c96
          refine r_iconst (pc := 133) (x := 1) dX24_locked_133 rfl ?_
          refine r_goto (pc := 134) (tgt := 138) dX24_locked_134 rfl ?_
          refine r_ior (pc := 138) dX24_locked_138 ?_
          obtain ⟨hb97, K⟩ := K
          refine r_putz (pc := 139) (T := TX24) (key := 24074) 24 74 hk26 (Or.inl q2772) dX24_locked_139 kc24 rfl (Or.inl rfl) (Or.inl (em rfl)) hb97 ?_
          refine r_nameH (fun h98 eh98 => ?_)
          have K := K h98 eh98
          exact r_vret (pc := 142) rfl dX24_locked_142 K
        · have K := K.2 c96
          refine r_lload_n (pc := 106) dX24_locked_106 rfl ?_
          refine r_lload_n (pc := 107) dX24_locked_107 rfl ?_
          refine r_lcmp_gt (pc := 108) (tgt := 133) dX24_locked_108 dX24_locked_109 rfl (fun c99 => ?_) (fun c99 => ?_)
          · have K := K.1 c99
            refine r_iconst (pc := 133) (x := 1) dX24_locked_133 rfl ?_
            refine r_goto (pc := 134) (tgt := 138) dX24_locked_134 rfl ?_
            refine r_ior (pc := 138) dX24_locked_138 ?_
            obtain ⟨hb100, K⟩ := K
            refine r_putz (pc := 139) (T := TX24) (key := 24074) 24 74 hk26 (Or.inl q2772) dX24_locked_139 kc24 rfl (Or.inl rfl) (Or.inl (em rfl)) hb100 ?_
            refine r_nameH (fun h101 eh101 => ?_)
            have K := K h101 eh101
            exact r_vret (pc := 142) rfl dX24_locked_142 K
          · have K := K.2 c99
            refine r_aload_n (pc := 112) dX24_locked_112 rfl ?_
            refine r_aload_n (pc := 113) dX24_locked_113 rfl ?_
            have hv102 := (fr_ext (key := 24076) eh22 hk13 (nz rfl) (ne0 wh22 hk25 (nz rfl)) (nm rfl)).trans hv15
            have hv103 := (fr_ext (key := 24076) eh24 hk25 (nz rfl) (ne0 wh24 hk26 (nz rfl)) (nm rfl)).trans hv102
            refine r_getr' (pc := 114) (T := TX24) 24 76 hv103 hk26 (Or.inl q2774) dX24_locked_114 kc24 g24076 ?_
            have hk104 := kd_ext eh22 hk16 (nz rfl)
            have hk105 := kd_ext eh24 hk104 (nz rfl)
            have hv106 := (fr_ext (key := 26000) eh22 hk16 (nz rfl) (ne0 wh22 hk104 (nz rfl)) (nm rfl)).trans hv18
            have hv107 := (fr_ext (key := 26000) eh24 hk104 (nz rfl) (ne0 wh24 hk105 (nz rfl)) (nm rfl)).trans hv106
            refine r_getr' (pc := 117) (T := TX26) 26 0 hv107 hk105 (Or.inr (Or.inl ⟨_, q2142⟩)) dX24_locked_117 kc26 g26000 ?_
            refine r_iload (pc := 120) dX24_locked_120 rfl ?_
            refine r_iconst (pc := 122) (x := 4) dX24_locked_122 rfl ?_
            refine r_callV_J (pc := 123) (Y := mX24_number) (vs := [_, _, _]) (st := [_, _]) hk26 rfl kc24 q2350 q2352 qs74 dX24_locked_123 rfl cd_X24_number rfl rfl fp_X24_locked_X24_number K (fun x108 h109 eh109 wh109 K => ?_) (fun x h1 _ _ e => Tw.out rfl e)
            refine r_ldc2 (pc := 126) dX24_locked_126 q2283 ?_
            refine r_lcmp_ne (pc := 129) (tgt := 137) dX24_locked_129 dX24_locked_130 rfl (fun c110 => ?_) (fun c110 => ?_)
            · have K := K.1 c110
              refine r_iconst (pc := 137) (x := 0) dX24_locked_137 rfl ?_
              refine r_ior (pc := 138) dX24_locked_138 ?_
              have hk111 := kd_ext eh109 hk26 (nz rfl)
              obtain ⟨hb112, K⟩ := K
              refine r_putz (pc := 139) (T := TX24) (key := 24074) 24 74 hk111 (Or.inl q2772) dX24_locked_139 kc24 rfl (Or.inl rfl) (Or.inl (em rfl)) hb112 ?_
              refine r_nameH (fun h113 eh113 => ?_)
              have K := K h113 eh113
              exact r_vret (pc := 142) rfl dX24_locked_142 K
            · have K := K.2 c110
              refine r_iconst (pc := 133) (x := 1) dX24_locked_133 rfl ?_
              refine r_goto (pc := 134) (tgt := 138) dX24_locked_134 rfl ?_
              refine r_ior (pc := 138) dX24_locked_138 ?_
              have hk114 := kd_ext eh109 hk26 (nz rfl)
              obtain ⟨hb115, K⟩ := K
              refine r_putz (pc := 139) (T := TX24) (key := 24074) 24 74 hk114 (Or.inl q2772) dX24_locked_139 kc24 rfl (Or.inl rfl) (Or.inl (em rfl)) hb115 ?_
              refine r_nameH (fun h116 eh116 => ?_)
              have K := K h116 eh116
              exact r_vret (pc := 142) rfl dX24_locked_142 K
theorem eX24_locked {G : Gx} {d : Nat} {Φ : Out → AH → Prop} (h : AH) (v0 : Nat) (K : WF G h → Aw G mX24_locked (d + 1) 0 h Φ 0 [vR v0, vU, vU, vU, vU, vU] [] h) : Cw G mX24_locked (d + 1) 0 [vR v0] h Φ := Cw.of rfl K
theorem dX24_reckon_0 : decode cX24_reckon 0 = .ok (.iload_n 1, 1) := by decide +kernel
theorem dX24_reckon_1 : decode cX24_reckon 1 = .ok (.sipush 165, 3) := by decide +kernel
theorem dX24_reckon_4 : decode cX24_reckon 4 = .ok (.if_icmp .ne 7, 3) := by decide +kernel
theorem dX24_reckon_7 : decode cX24_reckon 7 = .ok (.iconst 3, 1) := by decide +kernel
theorem dX24_reckon_8 : decode cX24_reckon 8 = .ok (.goto 15, 3) := by decide +kernel
theorem dX24_reckon_11 : decode cX24_reckon 11 = .ok (.iload_n 1, 1) := by decide +kernel
theorem dX24_reckon_12 : decode cX24_reckon 12 = .ok (.sipush 147, 3) := by decide +kernel
theorem dX24_reckon_15 : decode cX24_reckon 15 = .ok (.if_icmp .lt 7, 3) := by decide +kernel
theorem dX24_reckon_18 : decode cX24_reckon 18 = .ok (.iconst 2, 1) := by decide +kernel
theorem dX24_reckon_19 : decode cX24_reckon 19 = .ok (.goto 4, 3) := by decide +kernel
theorem dX24_reckon_22 : decode cX24_reckon 22 = .ok (.iconst 1, 1) := by decide +kernel
theorem dX24_reckon_23 : decode cX24_reckon 23 = .ok (.istore_n 2, 1) := by decide +kernel
theorem dX24_reckon_24 : decode cX24_reckon 24 = .ok (.aload_n 0, 1) := by decide +kernel
theorem dX24_reckon_25 : decode cX24_reckon 25 = .ok (.iload_n 2, 1) := by decide +kernel
theorem dX24_reckon_26 : decode cX24_reckon 26 = .ok (.invokevirtual 582, 3) := by decide +kernel
theorem dX24_reckon_29 : decode cX24_reckon 29 = .ok (.ifCond .ne 4, 3) := by decide +kernel
theorem dX24_reckon_32 : decode cX24_reckon 32 = .ok (.return_, 1) := by decide +kernel
theorem dX24_reckon_33 : decode cX24_reckon 33 = .ok (.aload_n 0, 1) := by decide +kernel
theorem dX24_reckon_34 : decode cX24_reckon 34 = .ok (.iconst 0, 1) := by decide +kernel
theorem dX24_reckon_35 : decode cX24_reckon 35 = .ok (.iconst 4, 1) := by decide +kernel
theorem dX24_reckon_36 : decode cX24_reckon 36 = .ok (.invokevirtual 617, 3) := by decide +kernel
theorem dX24_reckon_39 : decode cX24_reckon 39 = .ok (.lstore_n 3, 1) := by decide +kernel
theorem dX24_reckon_40 : decode cX24_reckon 40 = .ok (.iload_n 2, 1) := by decide +kernel
theorem dX24_reckon_41 : decode cX24_reckon 41 = .ok (.iconst 1, 1) := by decide +kernel
theorem dX24_reckon_42 : decode cX24_reckon 42 = .ok (.if_icmp .le 12, 3) := by decide +kernel
theorem dX24_reckon_45 : decode cX24_reckon 45 = .ok (.aload_n 0, 1) := by decide +kernel
theorem dX24_reckon_46 : decode cX24_reckon 46 = .ok (.iconst 1, 1) := by decide +kernel
theorem dX24_reckon_47 : decode cX24_reckon 47 = .ok (.iconst 4, 1) := by decide +kernel
theorem dX24_reckon_48 : decode cX24_reckon 48 = .ok (.invokevirtual 617, 3) := by decide +kernel
theorem dX24_reckon_51 : decode cX24_reckon 51 = .ok (.goto 4, 3) := by decide +kernel
theorem dX24_reckon_54 : decode cX24_reckon 54 = .ok (.lconst 0, 1) := by decide +kernel
theorem dX24_reckon_55 : decode cX24_reckon 55 = .ok (.lstore 5, 2) := by decide +kernel
theorem dX24_reckon_57 : decode cX24_reckon 57 = .ok (.iload_n 2, 1) := by decide +kernel
theorem dX24_reckon_58 : decode cX24_reckon 58 = .ok (.iconst 2, 1) := by decide +kernel
theorem dX24_reckon_59 : decode cX24_reckon 59 = .ok (.if_icmp .le 12, 3) := by decide +kernel
theorem dX24_reckon_62 : decode cX24_reckon 62 = .ok (.aload_n 0, 1) := by decide +kernel
theorem dX24_reckon_63 : decode cX24_reckon 63 = .ok (.iconst 2, 1) := by decide +kernel
theorem dX24_reckon_64 : decode cX24_reckon 64 = .ok (.iconst 4, 1) := by decide +kernel
theorem dX24_reckon_65 : decode cX24_reckon 65 = .ok (.invokevirtual 617, 3) := by decide +kernel
theorem dX24_reckon_68 : decode cX24_reckon 68 = .ok (.goto 4, 3) := by decide +kernel
theorem dX24_reckon_71 : decode cX24_reckon 71 = .ok (.lconst 0, 1) := by decide +kernel
theorem dX24_reckon_72 : decode cX24_reckon 72 = .ok (.lstore 7, 2) := by decide +kernel
theorem dX24_reckon_74 : decode cX24_reckon 74 = .ok (.aload_n 0, 1) := by decide +kernel
theorem dX24_reckon_75 : decode cX24_reckon 75 = .ok (.getfield 524, 3) := by decide +kernel
theorem dX24_reckon_78 : decode cX24_reckon 78 = .ok (.ifCond .eq 4, 3) := by decide +kernel
theorem dX24_reckon_81 : decode cX24_reckon 81 = .ok (.return_, 1) := by decide +kernel
theorem dX24_reckon_82 : decode cX24_reckon 82 = .ok (.aload_n 0, 1) := by decide +kernel
theorem dX24_reckon_83 : decode cX24_reckon 83 = .ok (.dup, 1) := by decide +kernel
theorem dX24_reckon_84 : decode cX24_reckon 84 = .ok (.getfield 521, 3) := by decide +kernel
theorem dX24_reckon_87 : decode cX24_reckon 87 = .ok (.iload_n 2, 1) := by decide +kernel
theorem dX24_reckon_88 : decode cX24_reckon 88 = .ok (.isub, 1) := by decide +kernel
theorem dX24_reckon_89 : decode cX24_reckon 89 = .ok (.putfield 521, 3) := by decide +kernel
theorem dX24_reckon_92 : decode cX24_reckon 92 = .ok (.iload_n 1, 1) := by decide +kernel
theorem dX24_reckon_93 : decode cX24_reckon 93 = .ok (.tableswitch 443 139 164 #[119, 129, 443, 443, 139, 148, 167, 167, 205, 216, 443, 443, 443, 443, 443, 227, 252, 277, 277, 308, 327, 346, 365, 384, 403, 423], 119) := by decide +kernel
theorem dX24_reckon_212 : decode cX24_reckon 212 = .ok (.aload_n 0, 1) := by decide +kernel
theorem dX24_reckon_213 : decode cX24_reckon 213 = .ok (.lload_n 3, 1) := by decide +kernel
theorem dX24_reckon_214 : decode cX24_reckon 214 = .ok (.lconst 1, 1) := by decide +kernel
theorem dX24_reckon_215 : decode cX24_reckon 215 = .ok (.ladd, 1) := by decide +kernel
theorem dX24_reckon_216 : decode cX24_reckon 216 = .ok (.invokevirtual 545, 3) := by decide +kernel
theorem dX24_reckon_219 : decode cX24_reckon 219 = .ok (.goto 341, 3) := by decide +kernel
theorem dX24_reckon_222 : decode cX24_reckon 222 = .ok (.aload_n 0, 1) := by decide +kernel
theorem dX24_reckon_223 : decode cX24_reckon 223 = .ok (.lload_n 3, 1) := by decide +kernel
theorem dX24_reckon_224 : decode cX24_reckon 224 = .ok (.lconst 1, 1) := by decide +kernel
theorem dX24_reckon_225 : decode cX24_reckon 225 = .ok (.lsub, 1) := by decide +kernel
theorem dX24_reckon_226 : decode cX24_reckon 226 = .ok (.invokevirtual 545, 3) := by decide +kernel
theorem dX24_reckon_229 : decode cX24_reckon 229 = .ok (.goto 331, 3) := by decide +kernel
theorem dX24_reckon_232 : decode cX24_reckon 232 = .ok (.aload_n 0, 1) := by decide +kernel
theorem dX24_reckon_233 : decode cX24_reckon 233 = .ok (.lload_n 3, 1) := by decide +kernel
theorem dX24_reckon_234 : decode cX24_reckon 234 = .ok (.lneg, 1) := by decide +kernel
theorem dX24_reckon_235 : decode cX24_reckon 235 = .ok (.invokevirtual 545, 3) := by decide +kernel
theorem dX24_reckon_238 : decode cX24_reckon 238 = .ok (.goto 322, 3) := by decide +kernel
theorem dX24_reckon_241 : decode cX24_reckon 241 = .ok (.aload_n 0, 1) := by decide +kernel
theorem dX24_reckon_242 : decode cX24_reckon 242 = .ok (.lload_n 3, 1) := by decide +kernel
theorem dX24_reckon_243 : decode cX24_reckon 243 = .ok (.lconst 0, 1) := by decide +kernel
theorem dX24_reckon_244 : decode cX24_reckon 244 = .ok (.lcmp, 1) := by decide +kernel
theorem dX24_reckon_245 : decode cX24_reckon 245 = .ok (.ifCond .ge 8, 3) := by decide +kernel
theorem dX24_reckon_248 : decode cX24_reckon 248 = .ok (.lload_n 3, 1) := by decide +kernel
theorem dX24_reckon_249 : decode cX24_reckon 249 = .ok (.lneg, 1) := by decide +kernel
theorem dX24_reckon_250 : decode cX24_reckon 250 = .ok (.goto 4, 3) := by decide +kernel
theorem dX24_reckon_253 : decode cX24_reckon 253 = .ok (.lload_n 3, 1) := by decide +kernel
theorem dX24_reckon_254 : decode cX24_reckon 254 = .ok (.invokevirtual 545, 3) := by decide +kernel
theorem dX24_reckon_257 : decode cX24_reckon 257 = .ok (.goto 303, 3) := by decide +kernel
theorem dX24_reckon_260 : decode cX24_reckon 260 = .ok (.aload_n 0, 1) := by decide +kernel
theorem dX24_reckon_261 : decode cX24_reckon 261 = .ok (.lload_n 3, 1) := by decide +kernel
theorem dX24_reckon_262 : decode cX24_reckon 262 = .ok (.lconst 0, 1) := by decide +kernel
theorem dX24_reckon_263 : decode cX24_reckon 263 = .ok (.lcmp, 1) := by decide +kernel
theorem dX24_reckon_264 : decode cX24_reckon 264 = .ok (.ifCond .ne 7, 3) := by decide +kernel
theorem dX24_reckon_267 : decode cX24_reckon 267 = .ok (.iconst 1, 1) := by decide +kernel
theorem dX24_reckon_268 : decode cX24_reckon 268 = .ok (.goto 4, 3) := by decide +kernel
theorem dX24_reckon_271 : decode cX24_reckon 271 = .ok (.iconst 0, 1) := by decide +kernel
theorem dX24_reckon_272 : decode cX24_reckon 272 = .ok (.iload_n 1, 1) := by decide +kernel
theorem dX24_reckon_273 : decode cX24_reckon 273 = .ok (.sipush 145, 3) := by decide +kernel
theorem dX24_reckon_276 : decode cX24_reckon 276 = .ok (.if_icmp .ne 7, 3) := by decide +kernel
theorem dX24_reckon_279 : decode cX24_reckon 279 = .ok (.iconst 1, 1) := by decide +kernel
theorem dX24_reckon_280 : decode cX24_reckon 280 = .ok (.goto 4, 3) := by decide +kernel
theorem dX24_reckon_283 : decode cX24_reckon 283 = .ok (.iconst 0, 1) := by decide +kernel
theorem dX24_reckon_284 : decode cX24_reckon 284 = .ok (.if_icmp .ne 7, 3) := by decide +kernel
theorem dX24_reckon_287 : decode cX24_reckon 287 = .ok (.iconst 1, 1) := by decide +kernel
theorem dX24_reckon_288 : decode cX24_reckon 288 = .ok (.goto 4, 3) := by decide +kernel
theorem dX24_reckon_291 : decode cX24_reckon 291 = .ok (.iconst 0, 1) := by decide +kernel
theorem dX24_reckon_292 : decode cX24_reckon 292 = .ok (.invokevirtual 599, 3) := by decide +kernel
theorem dX24_reckon_295 : decode cX24_reckon 295 = .ok (.goto 265, 3) := by decide +kernel
theorem dX24_reckon_298 : decode cX24_reckon 298 = .ok (.aload_n 0, 1) := by decide +kernel
theorem dX24_reckon_299 : decode cX24_reckon 299 = .ok (.lload 5, 2) := by decide +kernel
theorem dX24_reckon_301 : decode cX24_reckon 301 = .ok (.lload_n 3, 1) := by decide +kernel
theorem dX24_reckon_302 : decode cX24_reckon 302 = .ok (.ladd, 1) := by decide +kernel
theorem dX24_reckon_303 : decode cX24_reckon 303 = .ok (.invokevirtual 545, 3) := by decide +kernel
theorem dX24_reckon_306 : decode cX24_reckon 306 = .ok (.goto 254, 3) := by decide +kernel
theorem dX24_reckon_309 : decode cX24_reckon 309 = .ok (.aload_n 0, 1) := by decide +kernel
theorem dX24_reckon_310 : decode cX24_reckon 310 = .ok (.lload 5, 2) := by decide +kernel
theorem dX24_reckon_312 : decode cX24_reckon 312 = .ok (.lload_n 3, 1) := by decide +kernel
theorem dX24_reckon_313 : decode cX24_reckon 313 = .ok (.lsub, 1) := by decide +kernel
theorem dX24_reckon_314 : decode cX24_reckon 314 = .ok (.invokevirtual 545, 3) := by decide +kernel
theorem dX24_reckon_317 : decode cX24_reckon 317 = .ok (.goto 243, 3) := by decide +kernel
theorem dX24_reckon_320 : decode cX24_reckon 320 = .ok (.aload_n 0, 1) := by decide +kernel
theorem dX24_reckon_321 : decode cX24_reckon 321 = .ok (.lload 5, 2) := by decide +kernel
theorem dX24_reckon_323 : decode cX24_reckon 323 = .ok (.lconst 0, 1) := by decide +kernel
theorem dX24_reckon_324 : decode cX24_reckon 324 = .ok (.lcmp, 1) := by decide +kernel
theorem dX24_reckon_325 : decode cX24_reckon 325 = .ok (.ifCond .eq 13, 3) := by decide +kernel
theorem dX24_reckon_328 : decode cX24_reckon 328 = .ok (.lload_n 3, 1) := by decide +kernel
theorem dX24_reckon_329 : decode cX24_reckon 329 = .ok (.lconst 0, 1) := by decide +kernel
theorem dX24_reckon_330 : decode cX24_reckon 330 = .ok (.lcmp, 1) := by decide +kernel
theorem dX24_reckon_331 : decode cX24_reckon 331 = .ok (.ifCond .eq 7, 3) := by decide +kernel
theorem dX24_reckon_334 : decode cX24_reckon 334 = .ok (.iconst 1, 1) := by decide +kernel
theorem dX24_reckon_335 : decode cX24_reckon 335 = .ok (.goto 4, 3) := by decide +kernel
theorem dX24_reckon_338 : decode cX24_reckon 338 = .ok (.iconst 0, 1) := by decide +kernel
theorem dX24_reckon_339 : decode cX24_reckon 339 = .ok (.invokevirtual 599, 3) := by decide +kernel
theorem dX24_reckon_342 : decode cX24_reckon 342 = .ok (.goto 218, 3) := by decide +kernel
theorem dX24_reckon_345 : decode cX24_reckon 345 = .ok (.aload_n 0, 1) := by decide +kernel
theorem dX24_reckon_346 : decode cX24_reckon 346 = .ok (.lload 5, 2) := by decide +kernel
theorem dX24_reckon_348 : decode cX24_reckon 348 = .ok (.lconst 0, 1) := by decide +kernel
theorem dX24_reckon_349 : decode cX24_reckon 349 = .ok (.lcmp, 1) := by decide +kernel
theorem dX24_reckon_350 : decode cX24_reckon 350 = .ok (.ifCond .ne 9, 3) := by decide +kernel
theorem dX24_reckon_353 : decode cX24_reckon 353 = .ok (.lload_n 3, 1) := by decide +kernel
theorem dX24_reckon_354 : decode cX24_reckon 354 = .ok (.lconst 0, 1) := by decide +kernel
theorem dX24_reckon_355 : decode cX24_reckon 355 = .ok (.lcmp, 1) := by decide +kernel
theorem dX24_reckon_356 : decode cX24_reckon 356 = .ok (.ifCond .eq 7, 3) := by decide +kernel
theorem dX24_reckon_359 : decode cX24_reckon 359 = .ok (.iconst 1, 1) := by decide +kernel
theorem dX24_reckon_360 : decode cX24_reckon 360 = .ok (.goto 4, 3) := by decide +kernel
theorem dX24_reckon_363 : decode cX24_reckon 363 = .ok (.iconst 0, 1) := by decide +kernel
theorem dX24_reckon_364 : decode cX24_reckon 364 = .ok (.invokevirtual 599, 3) := by decide +kernel
theorem dX24_reckon_367 : decode cX24_reckon 367 = .ok (.goto 193, 3) := by decide +kernel
theorem dX24_reckon_370 : decode cX24_reckon 370 = .ok (.aload_n 0, 1) := by decide +kernel
theorem dX24_reckon_371 : decode cX24_reckon 371 = .ok (.lload 5, 2) := by decide +kernel
theorem dX24_reckon_373 : decode cX24_reckon 373 = .ok (.lload_n 3, 1) := by decide +kernel
theorem dX24_reckon_374 : decode cX24_reckon 374 = .ok (.lcmp, 1) := by decide +kernel
theorem dX24_reckon_375 : decode cX24_reckon 375 = .ok (.ifCond .ne 7, 3) := by decide +kernel
theorem dX24_reckon_378 : decode cX24_reckon 378 = .ok (.iconst 1, 1) := by decide +kernel
theorem dX24_reckon_379 : decode cX24_reckon 379 = .ok (.goto 4, 3) := by decide +kernel
theorem dX24_reckon_382 : decode cX24_reckon 382 = .ok (.iconst 0, 1) := by decide +kernel
theorem dX24_reckon_383 : decode cX24_reckon 383 = .ok (.iload_n 1, 1) := by decide +kernel
theorem dX24_reckon_384 : decode cX24_reckon 384 = .ok (.sipush 157, 3) := by decide +kernel
theorem dX24_reckon_387 : decode cX24_reckon 387 = .ok (.if_icmp .ne 7, 3) := by decide +kernel
theorem dX24_reckon_390 : decode cX24_reckon 390 = .ok (.iconst 1, 1) := by decide +kernel
theorem dX24_reckon_391 : decode cX24_reckon 391 = .ok (.goto 4, 3) := by decide +kernel
theorem dX24_reckon_394 : decode cX24_reckon 394 = .ok (.iconst 0, 1) := by decide +kernel
theorem dX24_reckon_395 : decode cX24_reckon 395 = .ok (.invokevirtual 595, 3) := by decide +kernel
theorem dX24_reckon_398 : decode cX24_reckon 398 = .ok (.goto 162, 3) := by decide +kernel
theorem dX24_reckon_401 : decode cX24_reckon 401 = .ok (.aload_n 0, 1) := by decide +kernel
theorem dX24_reckon_402 : decode cX24_reckon 402 = .ok (.lload 5, 2) := by decide +kernel
theorem dX24_reckon_404 : decode cX24_reckon 404 = .ok (.lload_n 3, 1) := by decide +kernel
theorem dX24_reckon_405 : decode cX24_reckon 405 = .ok (.lcmp, 1) := by decide +kernel
theorem dX24_reckon_406 : decode cX24_reckon 406 = .ok (.ifCond .eq 7, 3) := by decide +kernel
theorem dX24_reckon_409 : decode cX24_reckon 409 = .ok (.iconst 1, 1) := by decide +kernel
theorem dX24_reckon_410 : decode cX24_reckon 410 = .ok (.goto 4, 3) := by decide +kernel
theorem dX24_reckon_413 : decode cX24_reckon 413 = .ok (.iconst 0, 1) := by decide +kernel
theorem dX24_reckon_414 : decode cX24_reckon 414 = .ok (.invokevirtual 599, 3) := by decide +kernel
theorem dX24_reckon_417 : decode cX24_reckon 417 = .ok (.goto 143, 3) := by decide +kernel
theorem dX24_reckon_420 : decode cX24_reckon 420 = .ok (.aload_n 0, 1) := by decide +kernel
theorem dX24_reckon_421 : decode cX24_reckon 421 = .ok (.lload 5, 2) := by decide +kernel
theorem dX24_reckon_423 : decode cX24_reckon 423 = .ok (.lload_n 3, 1) := by decide +kernel
theorem dX24_reckon_424 : decode cX24_reckon 424 = .ok (.lcmp, 1) := by decide +kernel
theorem dX24_reckon_425 : decode cX24_reckon 425 = .ok (.ifCond .ge 7, 3) := by decide +kernel
theorem dX24_reckon_428 : decode cX24_reckon 428 = .ok (.iconst 1, 1) := by decide +kernel
theorem dX24_reckon_429 : decode cX24_reckon 429 = .ok (.goto 4, 3) := by decide +kernel
theorem dX24_reckon_432 : decode cX24_reckon 432 = .ok (.iconst 0, 1) := by decide +kernel
theorem dX24_reckon_433 : decode cX24_reckon 433 = .ok (.invokevirtual 599, 3) := by decide +kernel
theorem dX24_reckon_436 : decode cX24_reckon 436 = .ok (.goto 124, 3) := by decide +kernel
theorem dX24_reckon_439 : decode cX24_reckon 439 = .ok (.aload_n 0, 1) := by decide +kernel
theorem dX24_reckon_440 : decode cX24_reckon 440 = .ok (.lload 5, 2) := by decide +kernel
theorem dX24_reckon_442 : decode cX24_reckon 442 = .ok (.lload_n 3, 1) := by decide +kernel
theorem dX24_reckon_443 : decode cX24_reckon 443 = .ok (.lcmp, 1) := by decide +kernel
theorem dX24_reckon_444 : decode cX24_reckon 444 = .ok (.ifCond .le 7, 3) := by decide +kernel
theorem dX24_reckon_447 : decode cX24_reckon 447 = .ok (.iconst 1, 1) := by decide +kernel
theorem dX24_reckon_448 : decode cX24_reckon 448 = .ok (.goto 4, 3) := by decide +kernel
theorem dX24_reckon_451 : decode cX24_reckon 451 = .ok (.iconst 0, 1) := by decide +kernel
theorem dX24_reckon_452 : decode cX24_reckon 452 = .ok (.invokevirtual 599, 3) := by decide +kernel
theorem dX24_reckon_455 : decode cX24_reckon 455 = .ok (.goto 105, 3) := by decide +kernel
theorem dX24_reckon_458 : decode cX24_reckon 458 = .ok (.aload_n 0, 1) := by decide +kernel
theorem dX24_reckon_459 : decode cX24_reckon 459 = .ok (.lload 5, 2) := by decide +kernel
theorem dX24_reckon_461 : decode cX24_reckon 461 = .ok (.lload_n 3, 1) := by decide +kernel
theorem dX24_reckon_462 : decode cX24_reckon 462 = .ok (.lcmp, 1) := by decide +kernel
theorem dX24_reckon_463 : decode cX24_reckon 463 = .ok (.ifCond .gt 7, 3) := by decide +kernel
theorem dX24_reckon_466 : decode cX24_reckon 466 = .ok (.iconst 1, 1) := by decide +kernel
theorem dX24_reckon_467 : decode cX24_reckon 467 = .ok (.goto 4, 3) := by decide +kernel
theorem dX24_reckon_470 : decode cX24_reckon 470 = .ok (.iconst 0, 1) := by decide +kernel
theorem dX24_reckon_471 : decode cX24_reckon 471 = .ok (.invokevirtual 599, 3) := by decide +kernel
theorem dX24_reckon_474 : decode cX24_reckon 474 = .ok (.goto 86, 3) := by decide +kernel
theorem dX24_reckon_477 : decode cX24_reckon 477 = .ok (.aload_n 0, 1) := by decide +kernel
theorem dX24_reckon_478 : decode cX24_reckon 478 = .ok (.lload 5, 2) := by decide +kernel
theorem dX24_reckon_480 : decode cX24_reckon 480 = .ok (.lload_n 3, 1) := by decide +kernel
theorem dX24_reckon_481 : decode cX24_reckon 481 = .ok (.lcmp, 1) := by decide +kernel
theorem dX24_reckon_482 : decode cX24_reckon 482 = .ok (.ifCond .lt 7, 3) := by decide +kernel
theorem dX24_reckon_485 : decode cX24_reckon 485 = .ok (.iconst 1, 1) := by decide +kernel
theorem dX24_reckon_486 : decode cX24_reckon 486 = .ok (.goto 4, 3) := by decide +kernel
theorem dX24_reckon_489 : decode cX24_reckon 489 = .ok (.iconst 0, 1) := by decide +kernel
theorem dX24_reckon_490 : decode cX24_reckon 490 = .ok (.invokevirtual 599, 3) := by decide +kernel
theorem dX24_reckon_493 : decode cX24_reckon 493 = .ok (.goto 67, 3) := by decide +kernel
theorem dX24_reckon_496 : decode cX24_reckon 496 = .ok (.aload_n 0, 1) := by decide +kernel
theorem dX24_reckon_497 : decode cX24_reckon 497 = .ok (.lload 5, 2) := by decide +kernel
theorem dX24_reckon_499 : decode cX24_reckon 499 = .ok (.lload_n 3, 1) := by decide +kernel
theorem dX24_reckon_500 : decode cX24_reckon 500 = .ok (.lcmp, 1) := by decide +kernel
theorem dX24_reckon_501 : decode cX24_reckon 501 = .ok (.ifCond .ge 8, 3) := by decide +kernel
theorem dX24_reckon_504 : decode cX24_reckon 504 = .ok (.lload 5, 2) := by decide +kernel
theorem dX24_reckon_506 : decode cX24_reckon 506 = .ok (.goto 4, 3) := by decide +kernel
theorem dX24_reckon_509 : decode cX24_reckon 509 = .ok (.lload_n 3, 1) := by decide +kernel
theorem dX24_reckon_510 : decode cX24_reckon 510 = .ok (.invokevirtual 545, 3) := by decide +kernel
theorem dX24_reckon_513 : decode cX24_reckon 513 = .ok (.goto 47, 3) := by decide +kernel
theorem dX24_reckon_516 : decode cX24_reckon 516 = .ok (.aload_n 0, 1) := by decide +kernel
theorem dX24_reckon_517 : decode cX24_reckon 517 = .ok (.lload 5, 2) := by decide +kernel
theorem dX24_reckon_519 : decode cX24_reckon 519 = .ok (.lload_n 3, 1) := by decide +kernel
theorem dX24_reckon_520 : decode cX24_reckon 520 = .ok (.lcmp, 1) := by decide +kernel
theorem dX24_reckon_521 : decode cX24_reckon 521 = .ok (.ifCond .le 8, 3) := by decide +kernel
theorem dX24_reckon_524 : decode cX24_reckon 524 = .ok (.lload 5, 2) := by decide +kernel
theorem dX24_reckon_526 : decode cX24_reckon 526 = .ok (.goto 4, 3) := by decide +kernel
theorem dX24_reckon_529 : decode cX24_reckon 529 = .ok (.lload_n 3, 1) := by decide +kernel
theorem dX24_reckon_530 : decode cX24_reckon 530 = .ok (.invokevirtual 545, 3) := by decide +kernel
theorem dX24_reckon_533 : decode cX24_reckon 533 = .ok (.goto 27, 3) := by decide +kernel
theorem dX24_reckon_536 : decode cX24_reckon 536 = .ok (.aload_n 0, 1) := by decide +kernel
theorem dX24_reckon_537 : decode cX24_reckon 537 = .ok (.lload 5, 2) := by decide +kernel
theorem dX24_reckon_539 : decode cX24_reckon 539 = .ok (.lload 7, 2) := by decide +kernel
theorem dX24_reckon_541 : decode cX24_reckon 541 = .ok (.lcmp, 1) := by decide +kernel
theorem dX24_reckon_542 : decode cX24_reckon 542 = .ok (.ifCond .gt 14, 3) := by decide +kernel
theorem dX24_reckon_545 : decode cX24_reckon 545 = .ok (.lload 7, 2) := by decide +kernel
theorem dX24_reckon_547 : decode cX24_reckon 547 = .ok (.lload_n 3, 1) := by decide +kernel
theorem dX24_reckon_548 : decode cX24_reckon 548 = .ok (.lcmp, 1) := by decide +kernel
theorem dX24_reckon_549 : decode cX24_reckon 549 = .ok (.ifCond .ge 7, 3) := by decide +kernel
theorem dX24_reckon_552 : decode cX24_reckon 552 = .ok (.iconst 1, 1) := by decide +kernel
theorem dX24_reckon_553 : decode cX24_reckon 553 = .ok (.goto 4, 3) := by decide +kernel
theorem dX24_reckon_556 : decode cX24_reckon 556 = .ok (.iconst 0, 1) := by decide +kernel
theorem dX24_reckon_557 : decode cX24_reckon 557 = .ok (.invokevirtual 599, 3) := by decide +kernel
theorem dX24_reckon_560 : decode cX24_reckon 560 = .ok (.return_, 1) := by decide +kernel
/-! CoinJudgeModel.reckon(I)V -/
set_option maxHeartbeats 4000000 in
theorem sX24_reckon_0 {G : Gx} {d t : Nat} {h0 : AH} {Φ : Out → AH → Prop} (h : AH) (v0 : Nat) (v1 : Int32) (K : ((¬ v1 = 165 → ((v1 < 147 → Aw G mX24_reckon (d + 1) t h0 Φ 24 [vR v0, vI v1, vI 1, vU, vU, vU, vU, vU, vU] [] h) ∧ (¬ v1 < 147 → Aw G mX24_reckon (d + 1) t h0 Φ 24 [vR v0, vI v1, vI 2, vU, vU, vU, vU, vU, vU] [] h))) ∧ (v1 = 165 → Aw G mX24_reckon (d + 1) t h0 Φ 24 [vR v0, vI v1, vI 3, vU, vU, vU, vU, vU, vU] [] h))) : Aw G mX24_reckon (d + 1) t h0 Φ 0 [vR v0, vI v1, vU, vU, vU, vU, vU, vU, vU] [] h := by
  refine r_iload_n (pc := 0) dX24_reckon_0 rfl ?_
  refine r_sipush (pc := 1) (x := 165) dX24_reckon_1 rfl ?_
  refine r_icmp_ne (pc := 4) (tgt := 11) dX24_reckon_4 rfl (fun c1 => ?_) (fun c1 => ?_)
  · have K := K.1 c1
    refine r_iload_n (pc := 11) dX24_reckon_11 rfl ?_
    refine r_sipush (pc := 12) (x := 147) dX24_reckon_12 rfl ?_
    refine r_icmp_lt (pc := 15) (tgt := 22) dX24_reckon_15 rfl (fun c2 => ?_) (fun c2 => ?_)
    · have K := K.1 c2
      refine r_iconst (pc := 22) (x := 1) dX24_reckon_22 rfl ?_
      refine r_istore_n (pc := 23) (lv' := [_, _, _, _, _, _, _, _, _]) dX24_reckon_23 (by decide) rfl ?_
      refine r_mask (pc := 24) [true, true, true, false, false, false, false, false, false] rfl ?_
      exact K
    · have K := K.2 c2
      refine r_iconst (pc := 18) (x := 2) dX24_reckon_18 rfl ?_
      refine r_goto (pc := 19) (tgt := 23) dX24_reckon_19 rfl ?_
      refine r_istore_n (pc := 23) (lv' := [_, _, _, _, _, _, _, _, _]) dX24_reckon_23 (by decide) rfl ?_
      refine r_mask (pc := 24) [true, true, true, false, false, false, false, false, false] rfl ?_
      exact K
  · have K := K.2 c1
    refine r_iconst (pc := 7) (x := 3) dX24_reckon_7 rfl ?_
    refine r_goto (pc := 8) (tgt := 23) dX24_reckon_8 rfl ?_
    refine r_istore_n (pc := 23) (lv' := [_, _, _, _, _, _, _, _, _]) dX24_reckon_23 (by decide) rfl ?_
    refine r_mask (pc := 24) [true, true, true, false, false, false, false, false, false] rfl ?_
    exact K
theorem eX24_reckon {G : Gx} {d : Nat} {Φ : Out → AH → Prop} (h : AH) (v0 : Nat) (v1 : Int32) (K : WF G h → Aw G mX24_reckon (d + 1) 0 h Φ 0 [vR v0, vI v1, vU, vU, vU, vU, vU, vU, vU] [] h) : Cw G mX24_reckon (d + 1) 0 [vR v0, vI v1] h Φ := Cw.of rfl K
set_option maxHeartbeats 4000000 in
theorem sX24_reckon_24 {G : Gx} {d t : Nat} {h0 : AH} {Φ : Out → AH → Prop} (h : AH) (v0 : Nat) (v1 : Int32) (v2 : Int32) (K : h.kd v0 = 24 ∧ Cw G mX24_need d 0 [vR v0, vI v2] h (kI (fun x1 h2 => ((¬ x1 = 0 → Cw G mX24_numberAt d 0 [vR v0, vI 0, vI 4] h2 (kJ (fun x5 h6 => ((v2 ≤ 1 → Aw G mX24_reckon (d + 1) t h0 Φ 57 [vR v0, vI v1, vI v2, vJ x5, vU, vJ 0, vU, vU, vU] [] h6) ∧ (¬ v2 ≤ 1 → Cw G mX24_numberAt d 0 [vR v0, vI 1, vI 4] h6 (kJ (fun x9 h10 => Aw G mX24_reckon (d + 1) t h0 Φ 57 [vR v0, vI v1, vI v2, vJ x5, vU, vJ x9, vU, vU, vU] [] h10) (fun x h => Φ (.inr x) h))))) (fun x h => Φ (.inr x) h))) ∧ (x1 = 0 → Φ (.inl none) h2))) (fun x h => Φ (.inr x) h))) : Aw G mX24_reckon (d + 1) t h0 Φ 24 [vR v0, vI v1, vI v2, vU, vU, vU, vU, vU, vU] [] h := by
  refine r_aload_n (pc := 24) dX24_reckon_24 rfl ?_
  refine r_iload_n (pc := 25) dX24_reckon_25 rfl ?_
  obtain ⟨hk3, K⟩ := K
  refine r_callV_I (pc := 26) (Y := mX24_need) (vs := [_]) (st := []) hk3 rfl kc24 q2495 q2497 qs93 dX24_reckon_26 rfl cd_X24_need rfl rfl fp_X24_reckon_X24_need K (fun x1 h2 eh2 wh2 K => ?_) (fun x h1 _ _ e => Tw.out rfl e)
  refine r_if_ne (pc := 29) (tgt := 33) dX24_reckon_29 rfl (fun c4 => ?_) (fun c4 => ?_)
  · have K := K.1 c4
    refine r_aload_n (pc := 33) dX24_reckon_33 rfl ?_
    refine r_iconst (pc := 34) (x := 0) dX24_reckon_34 rfl ?_
    refine r_iconst (pc := 35) (x := 4) dX24_reckon_35 rfl ?_
    have hk7 := kd_ext eh2 hk3 (nz rfl)
    refine r_callV_J (pc := 36) (Y := mX24_numberAt) (vs := [_, _]) (st := []) hk7 rfl kc24 q2526 q2528 qs100 dX24_reckon_36 rfl cd_X24_numberAt rfl rfl fp_X24_reckon_X24_numberAt K (fun x5 h6 eh6 wh6 K => ?_) (fun x h1 _ _ e => Tw.out rfl e)
    refine r_lstore_n (pc := 39) (lv' := [_, _, _, _, _, _, _, _, _]) dX24_reckon_39 (by decide) rfl ?_
    refine r_iload_n (pc := 40) dX24_reckon_40 rfl ?_
    refine r_iconst (pc := 41) (x := 1) dX24_reckon_41 rfl ?_
    refine r_icmp_le (pc := 42) (tgt := 54) dX24_reckon_42 rfl (fun c8 => ?_) (fun c8 => ?_)
    · have K := K.1 c8
      refine r_lconst (pc := 54) (a := 0) dX24_reckon_54 rfl ?_
      refine r_lstore (pc := 55) (lv' := [_, _, _, _, _, _, _, _, _]) dX24_reckon_55 (by decide) rfl ?_
      refine r_mask (pc := 57) [true, true, true, true, false, true, false, false, false] rfl ?_
      exact K
    · have K := K.2 c8
      refine r_aload_n (pc := 45) dX24_reckon_45 rfl ?_
      refine r_iconst (pc := 46) (x := 1) dX24_reckon_46 rfl ?_
      refine r_iconst (pc := 47) (x := 4) dX24_reckon_47 rfl ?_
      have hk11 := kd_ext eh6 hk7 (nz rfl)
      refine r_callV_J (pc := 48) (Y := mX24_numberAt) (vs := [_, _]) (st := []) hk11 rfl kc24 q2526 q2528 qs100 dX24_reckon_48 rfl cd_X24_numberAt rfl rfl fp_X24_reckon_X24_numberAt K (fun x9 h10 eh10 wh10 K => ?_) (fun x h1 _ _ e => Tw.out rfl e)
      refine r_goto (pc := 51) (tgt := 55) dX24_reckon_51 rfl ?_
      refine r_lstore (pc := 55) (lv' := [_, _, _, _, _, _, _, _, _]) dX24_reckon_55 (by decide) rfl ?_
      refine r_mask (pc := 57) [true, true, true, true, false, true, false, false, false] rfl ?_
      exact K
  · have K := K.2 c4
    exact r_vret (pc := 32) rfl dX24_reckon_32 K
set_option maxHeartbeats 4000000 in
theorem sX24_reckon_57 {G : Gx} {d t : Nat} {h0 : AH} {Φ : Out → AH → Prop} (h : AH) (v0 : Nat) (v1 : Int32) (v2 : Int32) (v3 : Int64) (v5 : Int64) (K : ((v2 ≤ 2 → Aw G mX24_reckon (d + 1) t h0 Φ 74 [vR v0, vI v1, vI v2, vJ v3, vU, vJ v5, vU, vJ 0, vU] [] h) ∧ (¬ v2 ≤ 2 → h.kd v0 = 24 ∧ Cw G mX24_numberAt d 0 [vR v0, vI 2, vI 4] h (kJ (fun x2 h3 => Aw G mX24_reckon (d + 1) t h0 Φ 74 [vR v0, vI v1, vI v2, vJ v3, vU, vJ v5, vU, vJ x2, vU] [] h3) (fun x h => Φ (.inr x) h))))) : Aw G mX24_reckon (d + 1) t h0 Φ 57 [vR v0, vI v1, vI v2, vJ v3, vU, vJ v5, vU, vU, vU] [] h := by
  refine r_iload_n (pc := 57) dX24_reckon_57 rfl ?_
  refine r_iconst (pc := 58) (x := 2) dX24_reckon_58 rfl ?_
  refine r_icmp_le (pc := 59) (tgt := 71) dX24_reckon_59 rfl (fun c1 => ?_) (fun c1 => ?_)
  · have K := K.1 c1
    refine r_lconst (pc := 71) (a := 0) dX24_reckon_71 rfl ?_
    refine r_lstore (pc := 72) (lv' := [_, _, _, _, _, _, _, _, _]) dX24_reckon_72 (by decide) rfl ?_
    refine r_mask (pc := 74) [true, true, true, true, false, true, false, true, false] rfl ?_
    exact K
  · have K := K.2 c1
    refine r_aload_n (pc := 62) dX24_reckon_62 rfl ?_
    refine r_iconst (pc := 63) (x := 2) dX24_reckon_63 rfl ?_
    refine r_iconst (pc := 64) (x := 4) dX24_reckon_64 rfl ?_
    obtain ⟨hk4, K⟩ := K
    refine r_callV_J (pc := 65) (Y := mX24_numberAt) (vs := [_, _]) (st := []) hk4 rfl kc24 q2526 q2528 qs100 dX24_reckon_65 rfl cd_X24_numberAt rfl rfl fp_X24_reckon_X24_numberAt K (fun x2 h3 eh3 wh3 K => ?_) (fun x h1 _ _ e => Tw.out rfl e)
    refine r_goto (pc := 68) (tgt := 72) dX24_reckon_68 rfl ?_
    refine r_lstore (pc := 72) (lv' := [_, _, _, _, _, _, _, _, _]) dX24_reckon_72 (by decide) rfl ?_
    refine r_mask (pc := 74) [true, true, true, true, false, true, false, true, false] rfl ?_
    exact K
set_option maxHeartbeats 4000000 in
theorem sX24_reckon_74 {G : Gx} {d t : Nat} {h0 : AH} {Φ : Out → AH → Prop} (h : AH) (v0 : Nat) (v1 : Int32) (v2 : Int32) (v3 : Int64) (v5 : Int64) (v7 : Int64) (K : h.kd v0 = 24 ∧ (((h.i 24074 v0) = 0 → ∀ h3 : AH, h3 = h.pi 24067 v0 ((h.i 24067 v0) - v2) → Aw G mX24_reckon (d + 1) t h0 Φ 92 [vR v0, vI v1, vU, vJ v3, vU, vJ v5, vU, vJ v7, vU] [] h3) ∧ (¬ (h.i 24074 v0) = 0 → Φ (.inl none) h))) : Aw G mX24_reckon (d + 1) t h0 Φ 74 [vR v0, vI v1, vI v2, vJ v3, vU, vJ v5, vU, vJ v7, vU] [] h := by
  refine r_aload_n (pc := 74) dX24_reckon_74 rfl ?_
  obtain ⟨hk1, K⟩ := K
  refine r_geti' (pc := 75) (T := TX24) 24 74 rfl hk1 (Or.inl q2772) dX24_reckon_75 kc24 g24074 ?_
  refine r_if_eq (pc := 78) (tgt := 82) dX24_reckon_78 rfl (fun c2 => ?_) (fun c2 => ?_)
  · have K := K.1 c2
    refine r_aload_n (pc := 82) dX24_reckon_82 rfl ?_
    refine r_dup (pc := 83) rfl dX24_reckon_83 ?_
    refine r_geti' (pc := 84) (T := TX24) 24 67 rfl hk1 (Or.inl q2765) dX24_reckon_84 kc24 g24067 ?_
    refine r_iload_n (pc := 87) dX24_reckon_87 rfl ?_
    refine r_isub (pc := 88) dX24_reckon_88 ?_
    refine r_puti (pc := 89) (T := TX24) (key := 24067) 24 67 hk1 (Or.inl q2765) dX24_reckon_89 kc24 rfl (Or.inl rfl) (Or.inl (em rfl)) ?_
    refine r_nameH (fun h3 eh3 => ?_)
    have K := K h3 eh3
    refine r_mask (pc := 92) [true, true, false, true, false, true, false, true, false] rfl ?_
    exact K
  · have K := K.2 c2
    exact r_vret (pc := 81) rfl dX24_reckon_81 K
set_option maxHeartbeats 4000000 in
theorem sX24_reckon_92 {G : Gx} {d t : Nat} {h0 : AH} {Φ : Out → AH → Prop} (h : AH) (v0 : Nat) (v1 : Int32) (v3 : Int64) (v5 : Int64) (v7 : Int64) (K : ((v1 = 139 → h.kd v0 = 24 ∧ Cw G mX24_pushNumber d 0 [vR v0, vJ (v3 + 1)] h (kV (fun h3 => Φ (.inl none) h3) (fun x h => Φ (.inr x) h))) ∧ (v1 = 140 → h.kd v0 = 24 ∧ Cw G mX24_pushNumber d 0 [vR v0, vJ (v3 - 1)] h (kV (fun h7 => Φ (.inl none) h7) (fun x h => Φ (.inr x) h))) ∧ (v1 = 143 → h.kd v0 = 24 ∧ Cw G mX24_pushNumber d 0 [vR v0, vJ (-v3)] h (kV (fun h11 => Φ (.inl none) h11) (fun x h => Φ (.inr x) h))) ∧ (v1 = 144 → ((0 ≤ v3 → h.kd v0 = 24 ∧ Cw G mX24_pushNumber d 0 [vR v0, vJ v3] h (kV (fun h16 => Φ (.inl none) h16) (fun x h => Φ (.inr x) h))) ∧ (¬ 0 ≤ v3 → h.kd v0 = 24 ∧ Cw G mX24_pushNumber d 0 [vR v0, vJ (-v3)] h (kV (fun h19 => Φ (.inl none) h19) (fun x h => Φ (.inr x) h))))) ∧ (v1 = 145 → ((¬ v3 = 0 → ((¬ v1 = 145 → ((¬ (0 : Int32) = 0 → h.kd v0 = 24 ∧ Cw G mX24_pushTruth d 0 [vR v0, vI 0] h (kV (fun h26 => Φ (.inl none) h26) (fun x h => Φ (.inr x) h))) ∧ ((0 : Int32) = 0 → h.kd v0 = 24 ∧ Cw G mX24_pushTruth d 0 [vR v0, vI 1] h (kV (fun h29 => Φ (.inl none) h29) (fun x h => Φ (.inr x) h))))) ∧ (v1 = 145 → ((¬ (0 : Int32) = 1 → h.kd v0 = 24 ∧ Cw G mX24_pushTruth d 0 [vR v0, vI 0] h (kV (fun h33 => Φ (.inl none) h33) (fun x h => Φ (.inr x) h))) ∧ ((0 : Int32) = 1 → h.kd v0 = 24 ∧ Cw G mX24_pushTruth d 0 [vR v0, vI 1] h (kV (fun h36 => Φ (.inl none) h36) (fun x h => Φ (.inr x) h))))))) ∧ (v3 = 0 → ((¬ v1 = 145 → ((¬ (1 : Int32) = 0 → h.kd v0 = 24 ∧ Cw G mX24_pushTruth d 0 [vR v0, vI 0] h (kV (fun h41 => Φ (.inl none) h41) (fun x h => Φ (.inr x) h))) ∧ ((1 : Int32) = 0 → h.kd v0 = 24 ∧ Cw G mX24_pushTruth d 0 [vR v0, vI 1] h (kV (fun h44 => Φ (.inl none) h44) (fun x h => Φ (.inr x) h))))) ∧ (v1 = 145 → ((¬ (1 : Int32) = 1 → h.kd v0 = 24 ∧ Cw G mX24_pushTruth d 0 [vR v0, vI 0] h (kV (fun h48 => Φ (.inl none) h48) (fun x h => Φ (.inr x) h))) ∧ ((1 : Int32) = 1 → h.kd v0 = 24 ∧ Cw G mX24_pushTruth d 0 [vR v0, vI 1] h (kV (fun h51 => Φ (.inl none) h51) (fun x h => Φ (.inr x) h))))))))) ∧ (v1 = 146 → ((¬ v3 = 0 → ((¬ v1 = 145 → ((¬ (0 : Int32) = 0 → h.kd v0 = 24 ∧ Cw G mX24_pushTruth d 0 [vR v0, vI 0] h (kV (fun h58 => Φ (.inl none) h58) (fun x h => Φ (.inr x) h))) ∧ ((0 : Int32) = 0 → h.kd v0 = 24 ∧ Cw G mX24_pushTruth d 0 [vR v0, vI 1] h (kV (fun h61 => Φ (.inl none) h61) (fun x h => Φ (.inr x) h))))) ∧ (v1 = 145 → ((¬ (0 : Int32) = 1 → h.kd v0 = 24 ∧ Cw G mX24_pushTruth d 0 [vR v0, vI 0] h (kV (fun h65 => Φ (.inl none) h65) (fun x h => Φ (.inr x) h))) ∧ ((0 : Int32) = 1 → h.kd v0 = 24 ∧ Cw G mX24_pushTruth d 0 [vR v0, vI 1] h (kV (fun h68 => Φ (.inl none) h68) (fun x h => Φ (.inr x) h))))))) ∧ (v3 = 0 → ((¬ v1 = 145 → ((¬ (1 : Int32) = 0 → h.kd v0 = 24 ∧ Cw G mX24_pushTruth d 0 [vR v0, vI 0] h (kV (fun h73 => Φ (.inl none) h73) (fun x h => Φ (.inr x) h))) ∧ ((1 : Int32) = 0 → h.kd v0 = 24 ∧ Cw G mX24_pushTruth d 0 [vR v0, vI 1] h (kV (fun h76 => Φ (.inl none) h76) (fun x h => Φ (.inr x) h))))) ∧ (v1 = 145 → ((¬ (1 : Int32) = 1 → h.kd v0 = 24 ∧ Cw G mX24_pushTruth d 0 [vR v0, vI 0] h (kV (fun h80 => Φ (.inl none) h80) (fun x h => Φ (.inr x) h))) ∧ ((1 : Int32) = 1 → h.kd v0 = 24 ∧ Cw G mX24_pushTruth d 0 [vR v0, vI 1] h (kV (fun h83 => Φ (.inl none) h83) (fun x h => Φ (.inr x) h))))))))) ∧ (v1 = 147 → h.kd v0 = 24 ∧ Cw G mX24_pushNumber d 0 [vR v0, vJ (v5 + v3)] h (kV (fun h87 => Φ (.inl none) h87) (fun x h => Φ (.inr x) h))) ∧ (v1 = 148 → h.kd v0 = 24 ∧ Cw G mX24_pushNumber d 0 [vR v0, vJ (v5 - v3)] h (kV (fun h91 => Φ (.inl none) h91) (fun x h => Φ (.inr x) h))) ∧ (v1 = 154 → ((v5 = 0 → h.kd v0 = 24 ∧ Cw G mX24_pushTruth d 0 [vR v0, vI 0] h (kV (fun h96 => Φ (.inl none) h96) (fun x h => Φ (.inr x) h))) ∧ (¬ v5 = 0 → ((v3 = 0 → h.kd v0 = 24 ∧ Cw G mX24_pushTruth d 0 [vR v0, vI 0] h (kV (fun h100 => Φ (.inl none) h100) (fun x h => Φ (.inr x) h))) ∧ (¬ v3 = 0 → h.kd v0 = 24 ∧ Cw G mX24_pushTruth d 0 [vR v0, vI 1] h (kV (fun h103 => Φ (.inl none) h103) (fun x h => Φ (.inr x) h))))))) ∧ (v1 = 155 → ((¬ v5 = 0 → h.kd v0 = 24 ∧ Cw G mX24_pushTruth d 0 [vR v0, vI 1] h (kV (fun h108 => Φ (.inl none) h108) (fun x h => Φ (.inr x) h))) ∧ (v5 = 0 → ((v3 = 0 → h.kd v0 = 24 ∧ Cw G mX24_pushTruth d 0 [vR v0, vI 0] h (kV (fun h112 => Φ (.inl none) h112) (fun x h => Φ (.inr x) h))) ∧ (¬ v3 = 0 → h.kd v0 = 24 ∧ Cw G mX24_pushTruth d 0 [vR v0, vI 1] h (kV (fun h115 => Φ (.inl none) h115) (fun x h => Φ (.inr x) h))))))) ∧ (v1 = 156 → ((¬ v5 = v3 → ((¬ v1 = 157 → h.kd v0 = 24 ∧ Cw G mX24_answer d 0 [vR v0, vI 0, vI 0] h (kV (fun h121 => Φ (.inl none) h121) (fun x h => Φ (.inr x) h))) ∧ (v1 = 157 → h.kd v0 = 24 ∧ Cw G mX24_answer d 0 [vR v0, vI 0, vI 1] h (kV (fun h124 => Φ (.inl none) h124) (fun x h => Φ (.inr x) h))))) ∧ (v5 = v3 → ((¬ v1 = 157 → h.kd v0 = 24 ∧ Cw G mX24_answer d 0 [vR v0, vI 1, vI 0] h (kV (fun h128 => Φ (.inl none) h128) (fun x h => Φ (.inr x) h))) ∧ (v1 = 157 → h.kd v0 = 24 ∧ Cw G mX24_answer d 0 [vR v0, vI 1, vI 1] h (kV (fun h131 => Φ (.inl none) h131) (fun x h => Φ (.inr x) h))))))) ∧ (v1 = 157 → ((¬ v5 = v3 → ((¬ v1 = 157 → h.kd v0 = 24 ∧ Cw G mX24_answer d 0 [vR v0, vI 0, vI 0] h (kV (fun h137 => Φ (.inl none) h137) (fun x h => Φ (.inr x) h))) ∧ (v1 = 157 → h.kd v0 = 24 ∧ Cw G mX24_answer d 0 [vR v0, vI 0, vI 1] h (kV (fun h140 => Φ (.inl none) h140) (fun x h => Φ (.inr x) h))))) ∧ (v5 = v3 → ((¬ v1 = 157 → h.kd v0 = 24 ∧ Cw G mX24_answer d 0 [vR v0, vI 1, vI 0] h (kV (fun h144 => Φ (.inl none) h144) (fun x h => Φ (.inr x) h))) ∧ (v1 = 157 → h.kd v0 = 24 ∧ Cw G mX24_answer d 0 [vR v0, vI 1, vI 1] h (kV (fun h147 => Φ (.inl none) h147) (fun x h => Φ (.inr x) h))))))) ∧ (v1 = 158 → ((v5 = v3 → h.kd v0 = 24 ∧ Cw G mX24_pushTruth d 0 [vR v0, vI 0] h (kV (fun h152 => Φ (.inl none) h152) (fun x h => Φ (.inr x) h))) ∧ (¬ v5 = v3 → h.kd v0 = 24 ∧ Cw G mX24_pushTruth d 0 [vR v0, vI 1] h (kV (fun h155 => Φ (.inl none) h155) (fun x h => Φ (.inr x) h))))) ∧ (v1 = 159 → ((v3 ≤ v5 → h.kd v0 = 24 ∧ Cw G mX24_pushTruth d 0 [vR v0, vI 0] h (kV (fun h160 => Φ (.inl none) h160) (fun x h => Φ (.inr x) h))) ∧ (¬ v3 ≤ v5 → h.kd v0 = 24 ∧ Cw G mX24_pushTruth d 0 [vR v0, vI 1] h (kV (fun h163 => Φ (.inl none) h163) (fun x h => Φ (.inr x) h))))) ∧ (v1 = 160 → ((v5 ≤ v3 → h.kd v0 = 24 ∧ Cw G mX24_pushTruth d 0 [vR v0, vI 0] h (kV (fun h168 => Φ (.inl none) h168) (fun x h => Φ (.inr x) h))) ∧ (¬ v5 ≤ v3 → h.kd v0 = 24 ∧ Cw G mX24_pushTruth d 0 [vR v0, vI 1] h (kV (fun h171 => Φ (.inl none) h171) (fun x h => Φ (.inr x) h))))) ∧ (v1 = 161 → ((v3 < v5 → h.kd v0 = 24 ∧ Cw G mX24_pushTruth d 0 [vR v0, vI 0] h (kV (fun h176 => Φ (.inl none) h176) (fun x h => Φ (.inr x) h))) ∧ (¬ v3 < v5 → h.kd v0 = 24 ∧ Cw G mX24_pushTruth d 0 [vR v0, vI 1] h (kV (fun h179 => Φ (.inl none) h179) (fun x h => Φ (.inr x) h))))) ∧ (v1 = 162 → ((v5 < v3 → h.kd v0 = 24 ∧ Cw G mX24_pushTruth d 0 [vR v0, vI 0] h (kV (fun h184 => Φ (.inl none) h184) (fun x h => Φ (.inr x) h))) ∧ (¬ v5 < v3 → h.kd v0 = 24 ∧ Cw G mX24_pushTruth d 0 [vR v0, vI 1] h (kV (fun h187 => Φ (.inl none) h187) (fun x h => Φ (.inr x) h))))) ∧ (v1 = 163 → ((v3 ≤ v5 → h.kd v0 = 24 ∧ Cw G mX24_pushNumber d 0 [vR v0, vJ v3] h (kV (fun h192 => Φ (.inl none) h192) (fun x h => Φ (.inr x) h))) ∧ (¬ v3 ≤ v5 → h.kd v0 = 24 ∧ Cw G mX24_pushNumber d 0 [vR v0, vJ v5] h (kV (fun h195 => Φ (.inl none) h195) (fun x h => Φ (.inr x) h))))) ∧ (v1 = 164 → ((v5 ≤ v3 → h.kd v0 = 24 ∧ Cw G mX24_pushNumber d 0 [vR v0, vJ v3] h (kV (fun h200 => Φ (.inl none) h200) (fun x h => Φ (.inr x) h))) ∧ (¬ v5 ≤ v3 → h.kd v0 = 24 ∧ Cw G mX24_pushNumber d 0 [vR v0, vJ v5] h (kV (fun h203 => Φ (.inl none) h203) (fun x h => Φ (.inr x) h))))) ∧ (¬ v1 = 139 ∧ ¬ v1 = 140 ∧ ¬ v1 = 143 ∧ ¬ v1 = 144 ∧ ¬ v1 = 145 ∧ ¬ v1 = 146 ∧ ¬ v1 = 147 ∧ ¬ v1 = 148 ∧ ¬ v1 = 154 ∧ ¬ v1 = 155 ∧ ¬ v1 = 156 ∧ ¬ v1 = 157 ∧ ¬ v1 = 158 ∧ ¬ v1 = 159 ∧ ¬ v1 = 160 ∧ ¬ v1 = 161 ∧ ¬ v1 = 162 ∧ ¬ v1 = 163 ∧ ¬ v1 = 164 → ((v7 < v5 → h.kd v0 = 24 ∧ Cw G mX24_pushTruth d 0 [vR v0, vI 0] h (kV (fun h207 => Φ (.inl none) h207) (fun x h => Φ (.inr x) h))) ∧ (¬ v7 < v5 → ((v3 ≤ v7 → h.kd v0 = 24 ∧ Cw G mX24_pushTruth d 0 [vR v0, vI 0] h (kV (fun h211 => Φ (.inl none) h211) (fun x h => Φ (.inr x) h))) ∧ (¬ v3 ≤ v7 → h.kd v0 = 24 ∧ Cw G mX24_pushTruth d 0 [vR v0, vI 1] h (kV (fun h214 => Φ (.inl none) h214) (fun x h => Φ (.inr x) h))))))))) : Aw G mX24_reckon (d + 1) t h0 Φ 92 [vR v0, vI v1, vU, vJ v3, vU, vJ v5, vU, vJ v7, vU] [] h := by
  refine r_iload_n (pc := 92) dX24_reckon_92 rfl ?_
  have K217 := K
  by_cases c1 : v1 = 139
  · have K := K217.1 c1
    refine r_tableIn (pc := 93) (tgt := 212) dX24_reckon_93 (by rw [c1]; decide) (by rw [c1]; decide) (by rw [c1]; rfl) rfl ?_
    refine r_aload_n (pc := 212) dX24_reckon_212 rfl ?_
    refine r_lload_n (pc := 213) dX24_reckon_213 rfl ?_
    refine r_lconst (pc := 214) (a := 1) dX24_reckon_214 rfl ?_
    refine r_ladd (pc := 215) dX24_reckon_215 ?_
    obtain ⟨hk4, K⟩ := K
    refine r_callV_V (pc := 216) (Y := mX24_pushNumber) (vs := [_]) (st := []) hk4 rfl kc24 q2514 q2516 qs97 dX24_reckon_216 rfl cd_X24_pushNumber rfl rfl fp_X24_reckon_X24_pushNumber K (fun h3 eh3 wh3 K => ?_) (fun x h1 _ _ e => Tw.out rfl e)
    refine r_goto (pc := 219) (tgt := 560) dX24_reckon_219 rfl ?_
    exact r_vret (pc := 560) rfl dX24_reckon_560 K
  · by_cases c5 : v1 = 140
    · have K := K217.2.1 c5
      refine r_tableIn (pc := 93) (tgt := 222) dX24_reckon_93 (by rw [c5]; decide) (by rw [c5]; decide) (by rw [c5]; rfl) rfl ?_
      refine r_aload_n (pc := 222) dX24_reckon_222 rfl ?_
      refine r_lload_n (pc := 223) dX24_reckon_223 rfl ?_
      refine r_lconst (pc := 224) (a := 1) dX24_reckon_224 rfl ?_
      refine r_lsub (pc := 225) dX24_reckon_225 ?_
      obtain ⟨hk8, K⟩ := K
      refine r_callV_V (pc := 226) (Y := mX24_pushNumber) (vs := [_]) (st := []) hk8 rfl kc24 q2514 q2516 qs97 dX24_reckon_226 rfl cd_X24_pushNumber rfl rfl fp_X24_reckon_X24_pushNumber K (fun h7 eh7 wh7 K => ?_) (fun x h1 _ _ e => Tw.out rfl e)
      refine r_goto (pc := 229) (tgt := 560) dX24_reckon_229 rfl ?_
      exact r_vret (pc := 560) rfl dX24_reckon_560 K
    · by_cases c9 : v1 = 143
      · have K := K217.2.2.1 c9
        refine r_tableIn (pc := 93) (tgt := 232) dX24_reckon_93 (by rw [c9]; decide) (by rw [c9]; decide) (by rw [c9]; rfl) rfl ?_
        refine r_aload_n (pc := 232) dX24_reckon_232 rfl ?_
        refine r_lload_n (pc := 233) dX24_reckon_233 rfl ?_
        refine r_lneg (pc := 234) dX24_reckon_234 ?_
        obtain ⟨hk12, K⟩ := K
        refine r_callV_V (pc := 235) (Y := mX24_pushNumber) (vs := [_]) (st := []) hk12 rfl kc24 q2514 q2516 qs97 dX24_reckon_235 rfl cd_X24_pushNumber rfl rfl fp_X24_reckon_X24_pushNumber K (fun h11 eh11 wh11 K => ?_) (fun x h1 _ _ e => Tw.out rfl e)
        refine r_goto (pc := 238) (tgt := 560) dX24_reckon_238 rfl ?_
        exact r_vret (pc := 560) rfl dX24_reckon_560 K
      · by_cases c13 : v1 = 144
        · have K := K217.2.2.2.1 c13
          refine r_tableIn (pc := 93) (tgt := 241) dX24_reckon_93 (by rw [c13]; decide) (by rw [c13]; decide) (by rw [c13]; rfl) rfl ?_
          refine r_aload_n (pc := 241) dX24_reckon_241 rfl ?_
          refine r_lload_n (pc := 242) dX24_reckon_242 rfl ?_
          refine r_lconst (pc := 243) (a := 0) dX24_reckon_243 rfl ?_
          refine r_lcmp_ge (pc := 244) (tgt := 253) dX24_reckon_244 dX24_reckon_245 rfl (fun c14 => ?_) (fun c14 => ?_)
          · have K := K.1 c14
            refine r_lload_n (pc := 253) dX24_reckon_253 rfl ?_
            obtain ⟨hk17, K⟩ := K
            refine r_callV_V (pc := 254) (Y := mX24_pushNumber) (vs := [_]) (st := []) hk17 rfl kc24 q2514 q2516 qs97 dX24_reckon_254 rfl cd_X24_pushNumber rfl rfl fp_X24_reckon_X24_pushNumber K (fun h16 eh16 wh16 K => ?_) (fun x h1 _ _ e => Tw.out rfl e)
            refine r_goto (pc := 257) (tgt := 560) dX24_reckon_257 rfl ?_
            exact r_vret (pc := 560) rfl dX24_reckon_560 K
          · have K := K.2 c14
            refine r_lload_n (pc := 248) dX24_reckon_248 rfl ?_
            refine r_lneg (pc := 249) dX24_reckon_249 ?_
            refine r_goto (pc := 250) (tgt := 254) dX24_reckon_250 rfl ?_
            obtain ⟨hk20, K⟩ := K
            refine r_callV_V (pc := 254) (Y := mX24_pushNumber) (vs := [_]) (st := []) hk20 rfl kc24 q2514 q2516 qs97 dX24_reckon_254 rfl cd_X24_pushNumber rfl rfl fp_X24_reckon_X24_pushNumber K (fun h19 eh19 wh19 K => ?_) (fun x h1 _ _ e => Tw.out rfl e)
            refine r_goto (pc := 257) (tgt := 560) dX24_reckon_257 rfl ?_
            exact r_vret (pc := 560) rfl dX24_reckon_560 K
        · by_cases c21 : v1 = 145
          · have K := K217.2.2.2.2.1 c21
            refine r_tableIn (pc := 93) (tgt := 260) dX24_reckon_93 (by rw [c21]; decide) (by rw [c21]; decide) (by rw [c21]; rfl) rfl ?_
            refine r_aload_n (pc := 260) dX24_reckon_260 rfl ?_
            refine r_lload_n (pc := 261) dX24_reckon_261 rfl ?_
            refine r_lconst (pc := 262) (a := 0) dX24_reckon_262 rfl ?_
            refine r_lcmp_ne (pc := 263) (tgt := 271) dX24_reckon_263 dX24_reckon_264 rfl (fun c22 => ?_) (fun c22 => ?_)
            · have K := K.1 c22
              refine r_iconst (pc := 271) (x := 0) dX24_reckon_271 rfl ?_
              refine r_iload_n (pc := 272) dX24_reckon_272 rfl ?_
              refine r_sipush (pc := 273) (x := 145) dX24_reckon_273 rfl ?_
              refine r_icmp_ne (pc := 276) (tgt := 283) dX24_reckon_276 rfl (fun c23 => ?_) (fun c23 => ?_)
              · have K := K.1 c23
                refine r_iconst (pc := 283) (x := 0) dX24_reckon_283 rfl ?_
                refine r_icmp_ne (pc := 284) (tgt := 291) dX24_reckon_284 rfl (fun c24 => ?_) (fun c24 => ?_)
                · have K := K.1 c24
                  refine r_iconst (pc := 291) (x := 0) dX24_reckon_291 rfl ?_
                  obtain ⟨hk27, K⟩ := K
                  refine r_callV_V (pc := 292) (Y := mX24_pushTruth) (vs := [_]) (st := []) hk27 rfl kc24 q2530 q2532 qs101 dX24_reckon_292 rfl cd_X24_pushTruth rfl rfl fp_X24_reckon_X24_pushTruth K (fun h26 eh26 wh26 K => ?_) (fun x h1 _ _ e => Tw.out rfl e)
                  refine r_goto (pc := 295) (tgt := 560) dX24_reckon_295 rfl ?_
                  exact r_vret (pc := 560) rfl dX24_reckon_560 K
                · have K := K.2 c24
                  refine r_iconst (pc := 287) (x := 1) dX24_reckon_287 rfl ?_
                  refine r_goto (pc := 288) (tgt := 292) dX24_reckon_288 rfl ?_
                  obtain ⟨hk30, K⟩ := K
                  refine r_callV_V (pc := 292) (Y := mX24_pushTruth) (vs := [_]) (st := []) hk30 rfl kc24 q2530 q2532 qs101 dX24_reckon_292 rfl cd_X24_pushTruth rfl rfl fp_X24_reckon_X24_pushTruth K (fun h29 eh29 wh29 K => ?_) (fun x h1 _ _ e => Tw.out rfl e)
                  refine r_goto (pc := 295) (tgt := 560) dX24_reckon_295 rfl ?_
                  exact r_vret (pc := 560) rfl dX24_reckon_560 K
              · have K := K.2 c23
                refine r_iconst (pc := 279) (x := 1) dX24_reckon_279 rfl ?_
                refine r_goto (pc := 280) (tgt := 284) dX24_reckon_280 rfl ?_
                refine r_icmp_ne (pc := 284) (tgt := 291) dX24_reckon_284 rfl (fun c31 => ?_) (fun c31 => ?_)
                · have K := K.1 c31
                  refine r_iconst (pc := 291) (x := 0) dX24_reckon_291 rfl ?_
                  obtain ⟨hk34, K⟩ := K
                  refine r_callV_V (pc := 292) (Y := mX24_pushTruth) (vs := [_]) (st := []) hk34 rfl kc24 q2530 q2532 qs101 dX24_reckon_292 rfl cd_X24_pushTruth rfl rfl fp_X24_reckon_X24_pushTruth K (fun h33 eh33 wh33 K => ?_) (fun x h1 _ _ e => Tw.out rfl e)
                  refine r_goto (pc := 295) (tgt := 560) dX24_reckon_295 rfl ?_
                  exact r_vret (pc := 560) rfl dX24_reckon_560 K
                · have K := K.2 c31
                  refine r_iconst (pc := 287) (x := 1) dX24_reckon_287 rfl ?_
                  refine r_goto (pc := 288) (tgt := 292) dX24_reckon_288 rfl ?_
                  obtain ⟨hk37, K⟩ := K
                  refine r_callV_V (pc := 292) (Y := mX24_pushTruth) (vs := [_]) (st := []) hk37 rfl kc24 q2530 q2532 qs101 dX24_reckon_292 rfl cd_X24_pushTruth rfl rfl fp_X24_reckon_X24_pushTruth K (fun h36 eh36 wh36 K => ?_) (fun x h1 _ _ e => Tw.out rfl e)
                  refine r_goto (pc := 295) (tgt := 560) dX24_reckon_295 rfl ?_
                  exact r_vret (pc := 560) rfl dX24_reckon_560 K
            · have K := K.2 c22
              refine r_iconst (pc := 267) (x := 1) dX24_reckon_267 rfl ?_
              refine r_goto (pc := 268) (tgt := 272) dX24_reckon_268 rfl ?_
              refine r_iload_n (pc := 272) dX24_reckon_272 rfl ?_
              refine r_sipush (pc := 273) (x := 145) dX24_reckon_273 rfl ?_
              refine r_icmp_ne (pc := 276) (tgt := 283) dX24_reckon_276 rfl (fun c38 => ?_) (fun c38 => ?_)
              · have K := K.1 c38
                refine r_iconst (pc := 283) (x := 0) dX24_reckon_283 rfl ?_
                refine r_icmp_ne (pc := 284) (tgt := 291) dX24_reckon_284 rfl (fun c39 => ?_) (fun c39 => ?_)
                · have K := K.1 c39
                  refine r_iconst (pc := 291) (x := 0) dX24_reckon_291 rfl ?_
                  obtain ⟨hk42, K⟩ := K
                  refine r_callV_V (pc := 292) (Y := mX24_pushTruth) (vs := [_]) (st := []) hk42 rfl kc24 q2530 q2532 qs101 dX24_reckon_292 rfl cd_X24_pushTruth rfl rfl fp_X24_reckon_X24_pushTruth K (fun h41 eh41 wh41 K => ?_) (fun x h1 _ _ e => Tw.out rfl e)
                  refine r_goto (pc := 295) (tgt := 560) dX24_reckon_295 rfl ?_
                  exact r_vret (pc := 560) rfl dX24_reckon_560 K
                · have K := K.2 c39
                  refine r_iconst (pc := 287) (x := 1) dX24_reckon_287 rfl ?_
                  refine r_goto (pc := 288) (tgt := 292) dX24_reckon_288 rfl ?_
                  obtain ⟨hk45, K⟩ := K
                  refine r_callV_V (pc := 292) (Y := mX24_pushTruth) (vs := [_]) (st := []) hk45 rfl kc24 q2530 q2532 qs101 dX24_reckon_292 rfl cd_X24_pushTruth rfl rfl fp_X24_reckon_X24_pushTruth K (fun h44 eh44 wh44 K => ?_) (fun x h1 _ _ e => Tw.out rfl e)
                  refine r_goto (pc := 295) (tgt := 560) dX24_reckon_295 rfl ?_
                  exact r_vret (pc := 560) rfl dX24_reckon_560 K
              · have K := K.2 c38
                refine r_iconst (pc := 279) (x := 1) dX24_reckon_279 rfl ?_
                refine r_goto (pc := 280) (tgt := 284) dX24_reckon_280 rfl ?_
                refine r_icmp_ne (pc := 284) (tgt := 291) dX24_reckon_284 rfl (fun c46 => ?_) (fun c46 => ?_)
                · have K := K.1 c46
                  refine r_iconst (pc := 291) (x := 0) dX24_reckon_291 rfl ?_
                  obtain ⟨hk49, K⟩ := K
                  refine r_callV_V (pc := 292) (Y := mX24_pushTruth) (vs := [_]) (st := []) hk49 rfl kc24 q2530 q2532 qs101 dX24_reckon_292 rfl cd_X24_pushTruth rfl rfl fp_X24_reckon_X24_pushTruth K (fun h48 eh48 wh48 K => ?_) (fun x h1 _ _ e => Tw.out rfl e)
                  refine r_goto (pc := 295) (tgt := 560) dX24_reckon_295 rfl ?_
                  exact r_vret (pc := 560) rfl dX24_reckon_560 K
                · have K := K.2 c46
                  refine r_iconst (pc := 287) (x := 1) dX24_reckon_287 rfl ?_
                  refine r_goto (pc := 288) (tgt := 292) dX24_reckon_288 rfl ?_
                  obtain ⟨hk52, K⟩ := K
                  refine r_callV_V (pc := 292) (Y := mX24_pushTruth) (vs := [_]) (st := []) hk52 rfl kc24 q2530 q2532 qs101 dX24_reckon_292 rfl cd_X24_pushTruth rfl rfl fp_X24_reckon_X24_pushTruth K (fun h51 eh51 wh51 K => ?_) (fun x h1 _ _ e => Tw.out rfl e)
                  refine r_goto (pc := 295) (tgt := 560) dX24_reckon_295 rfl ?_
                  exact r_vret (pc := 560) rfl dX24_reckon_560 K
          · by_cases c53 : v1 = 146
            · have K := K217.2.2.2.2.2.1 c53
              refine r_tableIn (pc := 93) (tgt := 260) dX24_reckon_93 (by rw [c53]; decide) (by rw [c53]; decide) (by rw [c53]; rfl) rfl ?_
              refine r_aload_n (pc := 260) dX24_reckon_260 rfl ?_
              refine r_lload_n (pc := 261) dX24_reckon_261 rfl ?_
              refine r_lconst (pc := 262) (a := 0) dX24_reckon_262 rfl ?_
              refine r_lcmp_ne (pc := 263) (tgt := 271) dX24_reckon_263 dX24_reckon_264 rfl (fun c54 => ?_) (fun c54 => ?_)
              · have K := K.1 c54
                refine r_iconst (pc := 271) (x := 0) dX24_reckon_271 rfl ?_
                refine r_iload_n (pc := 272) dX24_reckon_272 rfl ?_
                refine r_sipush (pc := 273) (x := 145) dX24_reckon_273 rfl ?_
                refine r_icmp_ne (pc := 276) (tgt := 283) dX24_reckon_276 rfl (fun c55 => ?_) (fun c55 => ?_)
                · have K := K.1 c55
                  refine r_iconst (pc := 283) (x := 0) dX24_reckon_283 rfl ?_
                  refine r_icmp_ne (pc := 284) (tgt := 291) dX24_reckon_284 rfl (fun c56 => ?_) (fun c56 => ?_)
                  · have K := K.1 c56
                    refine r_iconst (pc := 291) (x := 0) dX24_reckon_291 rfl ?_
                    obtain ⟨hk59, K⟩ := K
                    refine r_callV_V (pc := 292) (Y := mX24_pushTruth) (vs := [_]) (st := []) hk59 rfl kc24 q2530 q2532 qs101 dX24_reckon_292 rfl cd_X24_pushTruth rfl rfl fp_X24_reckon_X24_pushTruth K (fun h58 eh58 wh58 K => ?_) (fun x h1 _ _ e => Tw.out rfl e)
                    refine r_goto (pc := 295) (tgt := 560) dX24_reckon_295 rfl ?_
                    exact r_vret (pc := 560) rfl dX24_reckon_560 K
                  · have K := K.2 c56
                    refine r_iconst (pc := 287) (x := 1) dX24_reckon_287 rfl ?_
                    refine r_goto (pc := 288) (tgt := 292) dX24_reckon_288 rfl ?_
                    obtain ⟨hk62, K⟩ := K
                    refine r_callV_V (pc := 292) (Y := mX24_pushTruth) (vs := [_]) (st := []) hk62 rfl kc24 q2530 q2532 qs101 dX24_reckon_292 rfl cd_X24_pushTruth rfl rfl fp_X24_reckon_X24_pushTruth K (fun h61 eh61 wh61 K => ?_) (fun x h1 _ _ e => Tw.out rfl e)
                    refine r_goto (pc := 295) (tgt := 560) dX24_reckon_295 rfl ?_
                    exact r_vret (pc := 560) rfl dX24_reckon_560 K
                · have K := K.2 c55
                  refine r_iconst (pc := 279) (x := 1) dX24_reckon_279 rfl ?_
                  refine r_goto (pc := 280) (tgt := 284) dX24_reckon_280 rfl ?_
                  refine r_icmp_ne (pc := 284) (tgt := 291) dX24_reckon_284 rfl (fun c63 => ?_) (fun c63 => ?_)
                  · have K := K.1 c63
                    refine r_iconst (pc := 291) (x := 0) dX24_reckon_291 rfl ?_
                    obtain ⟨hk66, K⟩ := K
                    refine r_callV_V (pc := 292) (Y := mX24_pushTruth) (vs := [_]) (st := []) hk66 rfl kc24 q2530 q2532 qs101 dX24_reckon_292 rfl cd_X24_pushTruth rfl rfl fp_X24_reckon_X24_pushTruth K (fun h65 eh65 wh65 K => ?_) (fun x h1 _ _ e => Tw.out rfl e)
                    refine r_goto (pc := 295) (tgt := 560) dX24_reckon_295 rfl ?_
                    exact r_vret (pc := 560) rfl dX24_reckon_560 K
                  · have K := K.2 c63
                    refine r_iconst (pc := 287) (x := 1) dX24_reckon_287 rfl ?_
                    refine r_goto (pc := 288) (tgt := 292) dX24_reckon_288 rfl ?_
                    obtain ⟨hk69, K⟩ := K
                    refine r_callV_V (pc := 292) (Y := mX24_pushTruth) (vs := [_]) (st := []) hk69 rfl kc24 q2530 q2532 qs101 dX24_reckon_292 rfl cd_X24_pushTruth rfl rfl fp_X24_reckon_X24_pushTruth K (fun h68 eh68 wh68 K => ?_) (fun x h1 _ _ e => Tw.out rfl e)
                    refine r_goto (pc := 295) (tgt := 560) dX24_reckon_295 rfl ?_
                    exact r_vret (pc := 560) rfl dX24_reckon_560 K
              · have K := K.2 c54
                refine r_iconst (pc := 267) (x := 1) dX24_reckon_267 rfl ?_
                refine r_goto (pc := 268) (tgt := 272) dX24_reckon_268 rfl ?_
                refine r_iload_n (pc := 272) dX24_reckon_272 rfl ?_
                refine r_sipush (pc := 273) (x := 145) dX24_reckon_273 rfl ?_
                refine r_icmp_ne (pc := 276) (tgt := 283) dX24_reckon_276 rfl (fun c70 => ?_) (fun c70 => ?_)
                · have K := K.1 c70
                  refine r_iconst (pc := 283) (x := 0) dX24_reckon_283 rfl ?_
                  refine r_icmp_ne (pc := 284) (tgt := 291) dX24_reckon_284 rfl (fun c71 => ?_) (fun c71 => ?_)
                  · have K := K.1 c71
                    refine r_iconst (pc := 291) (x := 0) dX24_reckon_291 rfl ?_
                    obtain ⟨hk74, K⟩ := K
                    refine r_callV_V (pc := 292) (Y := mX24_pushTruth) (vs := [_]) (st := []) hk74 rfl kc24 q2530 q2532 qs101 dX24_reckon_292 rfl cd_X24_pushTruth rfl rfl fp_X24_reckon_X24_pushTruth K (fun h73 eh73 wh73 K => ?_) (fun x h1 _ _ e => Tw.out rfl e)
                    refine r_goto (pc := 295) (tgt := 560) dX24_reckon_295 rfl ?_
                    exact r_vret (pc := 560) rfl dX24_reckon_560 K
                  · have K := K.2 c71
                    refine r_iconst (pc := 287) (x := 1) dX24_reckon_287 rfl ?_
                    refine r_goto (pc := 288) (tgt := 292) dX24_reckon_288 rfl ?_
                    obtain ⟨hk77, K⟩ := K
                    refine r_callV_V (pc := 292) (Y := mX24_pushTruth) (vs := [_]) (st := []) hk77 rfl kc24 q2530 q2532 qs101 dX24_reckon_292 rfl cd_X24_pushTruth rfl rfl fp_X24_reckon_X24_pushTruth K (fun h76 eh76 wh76 K => ?_) (fun x h1 _ _ e => Tw.out rfl e)
                    refine r_goto (pc := 295) (tgt := 560) dX24_reckon_295 rfl ?_
                    exact r_vret (pc := 560) rfl dX24_reckon_560 K
                · have K := K.2 c70
                  refine r_iconst (pc := 279) (x := 1) dX24_reckon_279 rfl ?_
                  refine r_goto (pc := 280) (tgt := 284) dX24_reckon_280 rfl ?_
                  refine r_icmp_ne (pc := 284) (tgt := 291) dX24_reckon_284 rfl (fun c78 => ?_) (fun c78 => ?_)
                  · have K := K.1 c78
                    refine r_iconst (pc := 291) (x := 0) dX24_reckon_291 rfl ?_
                    obtain ⟨hk81, K⟩ := K
                    refine r_callV_V (pc := 292) (Y := mX24_pushTruth) (vs := [_]) (st := []) hk81 rfl kc24 q2530 q2532 qs101 dX24_reckon_292 rfl cd_X24_pushTruth rfl rfl fp_X24_reckon_X24_pushTruth K (fun h80 eh80 wh80 K => ?_) (fun x h1 _ _ e => Tw.out rfl e)
                    refine r_goto (pc := 295) (tgt := 560) dX24_reckon_295 rfl ?_
                    exact r_vret (pc := 560) rfl dX24_reckon_560 K
                  · have K := K.2 c78
                    refine r_iconst (pc := 287) (x := 1) dX24_reckon_287 rfl ?_
                    refine r_goto (pc := 288) (tgt := 292) dX24_reckon_288 rfl ?_
                    obtain ⟨hk84, K⟩ := K
                    refine r_callV_V (pc := 292) (Y := mX24_pushTruth) (vs := [_]) (st := []) hk84 rfl kc24 q2530 q2532 qs101 dX24_reckon_292 rfl cd_X24_pushTruth rfl rfl fp_X24_reckon_X24_pushTruth K (fun h83 eh83 wh83 K => ?_) (fun x h1 _ _ e => Tw.out rfl e)
                    refine r_goto (pc := 295) (tgt := 560) dX24_reckon_295 rfl ?_
                    exact r_vret (pc := 560) rfl dX24_reckon_560 K
            · by_cases c85 : v1 = 147
              · have K := K217.2.2.2.2.2.2.1 c85
                refine r_tableIn (pc := 93) (tgt := 298) dX24_reckon_93 (by rw [c85]; decide) (by rw [c85]; decide) (by rw [c85]; rfl) rfl ?_
                refine r_aload_n (pc := 298) dX24_reckon_298 rfl ?_
                refine r_lload (pc := 299) dX24_reckon_299 rfl ?_
                refine r_lload_n (pc := 301) dX24_reckon_301 rfl ?_
                refine r_ladd (pc := 302) dX24_reckon_302 ?_
                obtain ⟨hk88, K⟩ := K
                refine r_callV_V (pc := 303) (Y := mX24_pushNumber) (vs := [_]) (st := []) hk88 rfl kc24 q2514 q2516 qs97 dX24_reckon_303 rfl cd_X24_pushNumber rfl rfl fp_X24_reckon_X24_pushNumber K (fun h87 eh87 wh87 K => ?_) (fun x h1 _ _ e => Tw.out rfl e)
                refine r_goto (pc := 306) (tgt := 560) dX24_reckon_306 rfl ?_
                exact r_vret (pc := 560) rfl dX24_reckon_560 K
              · by_cases c89 : v1 = 148
                · have K := K217.2.2.2.2.2.2.2.1 c89
                  refine r_tableIn (pc := 93) (tgt := 309) dX24_reckon_93 (by rw [c89]; decide) (by rw [c89]; decide) (by rw [c89]; rfl) rfl ?_
                  refine r_aload_n (pc := 309) dX24_reckon_309 rfl ?_
                  refine r_lload (pc := 310) dX24_reckon_310 rfl ?_
                  refine r_lload_n (pc := 312) dX24_reckon_312 rfl ?_
                  refine r_lsub (pc := 313) dX24_reckon_313 ?_
                  obtain ⟨hk92, K⟩ := K
                  refine r_callV_V (pc := 314) (Y := mX24_pushNumber) (vs := [_]) (st := []) hk92 rfl kc24 q2514 q2516 qs97 dX24_reckon_314 rfl cd_X24_pushNumber rfl rfl fp_X24_reckon_X24_pushNumber K (fun h91 eh91 wh91 K => ?_) (fun x h1 _ _ e => Tw.out rfl e)
                  refine r_goto (pc := 317) (tgt := 560) dX24_reckon_317 rfl ?_
                  exact r_vret (pc := 560) rfl dX24_reckon_560 K
                · by_cases c93 : v1 = 154
                  · have K := K217.2.2.2.2.2.2.2.2.1 c93
                    refine r_tableIn (pc := 93) (tgt := 320) dX24_reckon_93 (by rw [c93]; decide) (by rw [c93]; decide) (by rw [c93]; rfl) rfl ?_
                    refine r_aload_n (pc := 320) dX24_reckon_320 rfl ?_
                    refine r_lload (pc := 321) dX24_reckon_321 rfl ?_
                    refine r_lconst (pc := 323) (a := 0) dX24_reckon_323 rfl ?_
                    refine r_lcmp_eq (pc := 324) (tgt := 338) dX24_reckon_324 dX24_reckon_325 rfl (fun c94 => ?_) (fun c94 => ?_)
                    · have K := K.1 c94
                      refine r_iconst (pc := 338) (x := 0) dX24_reckon_338 rfl ?_
                      obtain ⟨hk97, K⟩ := K
                      refine r_callV_V (pc := 339) (Y := mX24_pushTruth) (vs := [_]) (st := []) hk97 rfl kc24 q2530 q2532 qs101 dX24_reckon_339 rfl cd_X24_pushTruth rfl rfl fp_X24_reckon_X24_pushTruth K (fun h96 eh96 wh96 K => ?_) (fun x h1 _ _ e => Tw.out rfl e)
                      refine r_goto (pc := 342) (tgt := 560) dX24_reckon_342 rfl ?_
                      exact r_vret (pc := 560) rfl dX24_reckon_560 K
                    · have K := K.2 c94
                      refine r_lload_n (pc := 328) dX24_reckon_328 rfl ?_
                      refine r_lconst (pc := 329) (a := 0) dX24_reckon_329 rfl ?_
                      refine r_lcmp_eq (pc := 330) (tgt := 338) dX24_reckon_330 dX24_reckon_331 rfl (fun c98 => ?_) (fun c98 => ?_)
                      · have K := K.1 c98
                        refine r_iconst (pc := 338) (x := 0) dX24_reckon_338 rfl ?_
                        obtain ⟨hk101, K⟩ := K
                        refine r_callV_V (pc := 339) (Y := mX24_pushTruth) (vs := [_]) (st := []) hk101 rfl kc24 q2530 q2532 qs101 dX24_reckon_339 rfl cd_X24_pushTruth rfl rfl fp_X24_reckon_X24_pushTruth K (fun h100 eh100 wh100 K => ?_) (fun x h1 _ _ e => Tw.out rfl e)
                        refine r_goto (pc := 342) (tgt := 560) dX24_reckon_342 rfl ?_
                        exact r_vret (pc := 560) rfl dX24_reckon_560 K
                      · have K := K.2 c98
                        refine r_iconst (pc := 334) (x := 1) dX24_reckon_334 rfl ?_
                        refine r_goto (pc := 335) (tgt := 339) dX24_reckon_335 rfl ?_
                        obtain ⟨hk104, K⟩ := K
                        refine r_callV_V (pc := 339) (Y := mX24_pushTruth) (vs := [_]) (st := []) hk104 rfl kc24 q2530 q2532 qs101 dX24_reckon_339 rfl cd_X24_pushTruth rfl rfl fp_X24_reckon_X24_pushTruth K (fun h103 eh103 wh103 K => ?_) (fun x h1 _ _ e => Tw.out rfl e)
                        refine r_goto (pc := 342) (tgt := 560) dX24_reckon_342 rfl ?_
                        exact r_vret (pc := 560) rfl dX24_reckon_560 K
                  · by_cases c105 : v1 = 155
                    · have K := K217.2.2.2.2.2.2.2.2.2.1 c105
                      refine r_tableIn (pc := 93) (tgt := 345) dX24_reckon_93 (by rw [c105]; decide) (by rw [c105]; decide) (by rw [c105]; rfl) rfl ?_
                      refine r_aload_n (pc := 345) dX24_reckon_345 rfl ?_
                      refine r_lload (pc := 346) dX24_reckon_346 rfl ?_
                      refine r_lconst (pc := 348) (a := 0) dX24_reckon_348 rfl ?_
                      refine r_lcmp_ne (pc := 349) (tgt := 359) dX24_reckon_349 dX24_reckon_350 rfl (fun c106 => ?_) (fun c106 => ?_)
                      · have K := K.1 c106
                        refine r_iconst (pc := 359) (x := 1) dX24_reckon_359 rfl ?_
                        refine r_goto (pc := 360) (tgt := 364) dX24_reckon_360 rfl ?_
                        obtain ⟨hk109, K⟩ := K
                        refine r_callV_V (pc := 364) (Y := mX24_pushTruth) (vs := [_]) (st := []) hk109 rfl kc24 q2530 q2532 qs101 dX24_reckon_364 rfl cd_X24_pushTruth rfl rfl fp_X24_reckon_X24_pushTruth K (fun h108 eh108 wh108 K => ?_) (fun x h1 _ _ e => Tw.out rfl e)
                        refine r_goto (pc := 367) (tgt := 560) dX24_reckon_367 rfl ?_
                        exact r_vret (pc := 560) rfl dX24_reckon_560 K
                      · have K := K.2 c106
                        refine r_lload_n (pc := 353) dX24_reckon_353 rfl ?_
                        refine r_lconst (pc := 354) (a := 0) dX24_reckon_354 rfl ?_
                        refine r_lcmp_eq (pc := 355) (tgt := 363) dX24_reckon_355 dX24_reckon_356 rfl (fun c110 => ?_) (fun c110 => ?_)
                        · have K := K.1 c110
                          refine r_iconst (pc := 363) (x := 0) dX24_reckon_363 rfl ?_
                          obtain ⟨hk113, K⟩ := K
                          refine r_callV_V (pc := 364) (Y := mX24_pushTruth) (vs := [_]) (st := []) hk113 rfl kc24 q2530 q2532 qs101 dX24_reckon_364 rfl cd_X24_pushTruth rfl rfl fp_X24_reckon_X24_pushTruth K (fun h112 eh112 wh112 K => ?_) (fun x h1 _ _ e => Tw.out rfl e)
                          refine r_goto (pc := 367) (tgt := 560) dX24_reckon_367 rfl ?_
                          exact r_vret (pc := 560) rfl dX24_reckon_560 K
                        · have K := K.2 c110
                          refine r_iconst (pc := 359) (x := 1) dX24_reckon_359 rfl ?_
                          refine r_goto (pc := 360) (tgt := 364) dX24_reckon_360 rfl ?_
                          obtain ⟨hk116, K⟩ := K
                          refine r_callV_V (pc := 364) (Y := mX24_pushTruth) (vs := [_]) (st := []) hk116 rfl kc24 q2530 q2532 qs101 dX24_reckon_364 rfl cd_X24_pushTruth rfl rfl fp_X24_reckon_X24_pushTruth K (fun h115 eh115 wh115 K => ?_) (fun x h1 _ _ e => Tw.out rfl e)
                          refine r_goto (pc := 367) (tgt := 560) dX24_reckon_367 rfl ?_
                          exact r_vret (pc := 560) rfl dX24_reckon_560 K
                    · by_cases c117 : v1 = 156
                      · have K := K217.2.2.2.2.2.2.2.2.2.2.1 c117
                        refine r_tableIn (pc := 93) (tgt := 370) dX24_reckon_93 (by rw [c117]; decide) (by rw [c117]; decide) (by rw [c117]; rfl) rfl ?_
                        refine r_aload_n (pc := 370) dX24_reckon_370 rfl ?_
                        refine r_lload (pc := 371) dX24_reckon_371 rfl ?_
                        refine r_lload_n (pc := 373) dX24_reckon_373 rfl ?_
                        refine r_lcmp_ne (pc := 374) (tgt := 382) dX24_reckon_374 dX24_reckon_375 rfl (fun c118 => ?_) (fun c118 => ?_)
                        · have K := K.1 c118
                          refine r_iconst (pc := 382) (x := 0) dX24_reckon_382 rfl ?_
                          refine r_iload_n (pc := 383) dX24_reckon_383 rfl ?_
                          refine r_sipush (pc := 384) (x := 157) dX24_reckon_384 rfl ?_
                          refine r_icmp_ne (pc := 387) (tgt := 394) dX24_reckon_387 rfl (fun c119 => ?_) (fun c119 => ?_)
                          · have K := K.1 c119
                            refine r_iconst (pc := 394) (x := 0) dX24_reckon_394 rfl ?_
                            obtain ⟨hk122, K⟩ := K
                            refine r_callV_V (pc := 395) (Y := mX24_answer) (vs := [_, _]) (st := []) hk122 rfl kc24 q2534 q2536 qs102 dX24_reckon_395 rfl cd_X24_answer rfl rfl fp_X24_reckon_X24_answer K (fun h121 eh121 wh121 K => ?_) (fun x h1 _ _ e => Tw.out rfl e)
                            refine r_goto (pc := 398) (tgt := 560) dX24_reckon_398 rfl ?_
                            exact r_vret (pc := 560) rfl dX24_reckon_560 K
                          · have K := K.2 c119
                            refine r_iconst (pc := 390) (x := 1) dX24_reckon_390 rfl ?_
                            refine r_goto (pc := 391) (tgt := 395) dX24_reckon_391 rfl ?_
                            obtain ⟨hk125, K⟩ := K
                            refine r_callV_V (pc := 395) (Y := mX24_answer) (vs := [_, _]) (st := []) hk125 rfl kc24 q2534 q2536 qs102 dX24_reckon_395 rfl cd_X24_answer rfl rfl fp_X24_reckon_X24_answer K (fun h124 eh124 wh124 K => ?_) (fun x h1 _ _ e => Tw.out rfl e)
                            refine r_goto (pc := 398) (tgt := 560) dX24_reckon_398 rfl ?_
                            exact r_vret (pc := 560) rfl dX24_reckon_560 K
                        · have K := K.2 c118
                          refine r_iconst (pc := 378) (x := 1) dX24_reckon_378 rfl ?_
                          refine r_goto (pc := 379) (tgt := 383) dX24_reckon_379 rfl ?_
                          refine r_iload_n (pc := 383) dX24_reckon_383 rfl ?_
                          refine r_sipush (pc := 384) (x := 157) dX24_reckon_384 rfl ?_
                          refine r_icmp_ne (pc := 387) (tgt := 394) dX24_reckon_387 rfl (fun c126 => ?_) (fun c126 => ?_)
                          · have K := K.1 c126
                            refine r_iconst (pc := 394) (x := 0) dX24_reckon_394 rfl ?_
                            obtain ⟨hk129, K⟩ := K
                            refine r_callV_V (pc := 395) (Y := mX24_answer) (vs := [_, _]) (st := []) hk129 rfl kc24 q2534 q2536 qs102 dX24_reckon_395 rfl cd_X24_answer rfl rfl fp_X24_reckon_X24_answer K (fun h128 eh128 wh128 K => ?_) (fun x h1 _ _ e => Tw.out rfl e)
                            refine r_goto (pc := 398) (tgt := 560) dX24_reckon_398 rfl ?_
                            exact r_vret (pc := 560) rfl dX24_reckon_560 K
                          · have K := K.2 c126
                            refine r_iconst (pc := 390) (x := 1) dX24_reckon_390 rfl ?_
                            refine r_goto (pc := 391) (tgt := 395) dX24_reckon_391 rfl ?_
                            obtain ⟨hk132, K⟩ := K
                            refine r_callV_V (pc := 395) (Y := mX24_answer) (vs := [_, _]) (st := []) hk132 rfl kc24 q2534 q2536 qs102 dX24_reckon_395 rfl cd_X24_answer rfl rfl fp_X24_reckon_X24_answer K (fun h131 eh131 wh131 K => ?_) (fun x h1 _ _ e => Tw.out rfl e)
                            refine r_goto (pc := 398) (tgt := 560) dX24_reckon_398 rfl ?_
                            exact r_vret (pc := 560) rfl dX24_reckon_560 K
                      · by_cases c133 : v1 = 157
                        · have K := K217.2.2.2.2.2.2.2.2.2.2.2.1 c133
                          refine r_tableIn (pc := 93) (tgt := 370) dX24_reckon_93 (by rw [c133]; decide) (by rw [c133]; decide) (by rw [c133]; rfl) rfl ?_
                          refine r_aload_n (pc := 370) dX24_reckon_370 rfl ?_
                          refine r_lload (pc := 371) dX24_reckon_371 rfl ?_
                          refine r_lload_n (pc := 373) dX24_reckon_373 rfl ?_
                          refine r_lcmp_ne (pc := 374) (tgt := 382) dX24_reckon_374 dX24_reckon_375 rfl (fun c134 => ?_) (fun c134 => ?_)
                          · have K := K.1 c134
                            refine r_iconst (pc := 382) (x := 0) dX24_reckon_382 rfl ?_
                            refine r_iload_n (pc := 383) dX24_reckon_383 rfl ?_
                            refine r_sipush (pc := 384) (x := 157) dX24_reckon_384 rfl ?_
                            refine r_icmp_ne (pc := 387) (tgt := 394) dX24_reckon_387 rfl (fun c135 => ?_) (fun c135 => ?_)
                            · have K := K.1 c135
                              refine r_iconst (pc := 394) (x := 0) dX24_reckon_394 rfl ?_
                              obtain ⟨hk138, K⟩ := K
                              refine r_callV_V (pc := 395) (Y := mX24_answer) (vs := [_, _]) (st := []) hk138 rfl kc24 q2534 q2536 qs102 dX24_reckon_395 rfl cd_X24_answer rfl rfl fp_X24_reckon_X24_answer K (fun h137 eh137 wh137 K => ?_) (fun x h1 _ _ e => Tw.out rfl e)
                              refine r_goto (pc := 398) (tgt := 560) dX24_reckon_398 rfl ?_
                              exact r_vret (pc := 560) rfl dX24_reckon_560 K
                            · have K := K.2 c135
                              refine r_iconst (pc := 390) (x := 1) dX24_reckon_390 rfl ?_
                              refine r_goto (pc := 391) (tgt := 395) dX24_reckon_391 rfl ?_
                              obtain ⟨hk141, K⟩ := K
                              refine r_callV_V (pc := 395) (Y := mX24_answer) (vs := [_, _]) (st := []) hk141 rfl kc24 q2534 q2536 qs102 dX24_reckon_395 rfl cd_X24_answer rfl rfl fp_X24_reckon_X24_answer K (fun h140 eh140 wh140 K => ?_) (fun x h1 _ _ e => Tw.out rfl e)
                              refine r_goto (pc := 398) (tgt := 560) dX24_reckon_398 rfl ?_
                              exact r_vret (pc := 560) rfl dX24_reckon_560 K
                          · have K := K.2 c134
                            refine r_iconst (pc := 378) (x := 1) dX24_reckon_378 rfl ?_
                            refine r_goto (pc := 379) (tgt := 383) dX24_reckon_379 rfl ?_
                            refine r_iload_n (pc := 383) dX24_reckon_383 rfl ?_
                            refine r_sipush (pc := 384) (x := 157) dX24_reckon_384 rfl ?_
                            refine r_icmp_ne (pc := 387) (tgt := 394) dX24_reckon_387 rfl (fun c142 => ?_) (fun c142 => ?_)
                            · have K := K.1 c142
                              refine r_iconst (pc := 394) (x := 0) dX24_reckon_394 rfl ?_
                              obtain ⟨hk145, K⟩ := K
                              refine r_callV_V (pc := 395) (Y := mX24_answer) (vs := [_, _]) (st := []) hk145 rfl kc24 q2534 q2536 qs102 dX24_reckon_395 rfl cd_X24_answer rfl rfl fp_X24_reckon_X24_answer K (fun h144 eh144 wh144 K => ?_) (fun x h1 _ _ e => Tw.out rfl e)
                              refine r_goto (pc := 398) (tgt := 560) dX24_reckon_398 rfl ?_
                              exact r_vret (pc := 560) rfl dX24_reckon_560 K
                            · have K := K.2 c142
                              refine r_iconst (pc := 390) (x := 1) dX24_reckon_390 rfl ?_
                              refine r_goto (pc := 391) (tgt := 395) dX24_reckon_391 rfl ?_
                              obtain ⟨hk148, K⟩ := K
                              refine r_callV_V (pc := 395) (Y := mX24_answer) (vs := [_, _]) (st := []) hk148 rfl kc24 q2534 q2536 qs102 dX24_reckon_395 rfl cd_X24_answer rfl rfl fp_X24_reckon_X24_answer K (fun h147 eh147 wh147 K => ?_) (fun x h1 _ _ e => Tw.out rfl e)
                              refine r_goto (pc := 398) (tgt := 560) dX24_reckon_398 rfl ?_
                              exact r_vret (pc := 560) rfl dX24_reckon_560 K
                        · by_cases c149 : v1 = 158
                          · have K := K217.2.2.2.2.2.2.2.2.2.2.2.2.1 c149
                            refine r_tableIn (pc := 93) (tgt := 401) dX24_reckon_93 (by rw [c149]; decide) (by rw [c149]; decide) (by rw [c149]; rfl) rfl ?_
                            refine r_aload_n (pc := 401) dX24_reckon_401 rfl ?_
                            refine r_lload (pc := 402) dX24_reckon_402 rfl ?_
                            refine r_lload_n (pc := 404) dX24_reckon_404 rfl ?_
                            refine r_lcmp_eq (pc := 405) (tgt := 413) dX24_reckon_405 dX24_reckon_406 rfl (fun c150 => ?_) (fun c150 => ?_)
                            · have K := K.1 c150
                              refine r_iconst (pc := 413) (x := 0) dX24_reckon_413 rfl ?_
                              obtain ⟨hk153, K⟩ := K
                              refine r_callV_V (pc := 414) (Y := mX24_pushTruth) (vs := [_]) (st := []) hk153 rfl kc24 q2530 q2532 qs101 dX24_reckon_414 rfl cd_X24_pushTruth rfl rfl fp_X24_reckon_X24_pushTruth K (fun h152 eh152 wh152 K => ?_) (fun x h1 _ _ e => Tw.out rfl e)
                              refine r_goto (pc := 417) (tgt := 560) dX24_reckon_417 rfl ?_
                              exact r_vret (pc := 560) rfl dX24_reckon_560 K
                            · have K := K.2 c150
                              refine r_iconst (pc := 409) (x := 1) dX24_reckon_409 rfl ?_
                              refine r_goto (pc := 410) (tgt := 414) dX24_reckon_410 rfl ?_
                              obtain ⟨hk156, K⟩ := K
                              refine r_callV_V (pc := 414) (Y := mX24_pushTruth) (vs := [_]) (st := []) hk156 rfl kc24 q2530 q2532 qs101 dX24_reckon_414 rfl cd_X24_pushTruth rfl rfl fp_X24_reckon_X24_pushTruth K (fun h155 eh155 wh155 K => ?_) (fun x h1 _ _ e => Tw.out rfl e)
                              refine r_goto (pc := 417) (tgt := 560) dX24_reckon_417 rfl ?_
                              exact r_vret (pc := 560) rfl dX24_reckon_560 K
                          · by_cases c157 : v1 = 159
                            · have K := K217.2.2.2.2.2.2.2.2.2.2.2.2.2.1 c157
                              refine r_tableIn (pc := 93) (tgt := 420) dX24_reckon_93 (by rw [c157]; decide) (by rw [c157]; decide) (by rw [c157]; rfl) rfl ?_
                              refine r_aload_n (pc := 420) dX24_reckon_420 rfl ?_
                              refine r_lload (pc := 421) dX24_reckon_421 rfl ?_
                              refine r_lload_n (pc := 423) dX24_reckon_423 rfl ?_
                              refine r_lcmp_ge (pc := 424) (tgt := 432) dX24_reckon_424 dX24_reckon_425 rfl (fun c158 => ?_) (fun c158 => ?_)
                              · have K := K.1 c158
                                refine r_iconst (pc := 432) (x := 0) dX24_reckon_432 rfl ?_
                                obtain ⟨hk161, K⟩ := K
                                refine r_callV_V (pc := 433) (Y := mX24_pushTruth) (vs := [_]) (st := []) hk161 rfl kc24 q2530 q2532 qs101 dX24_reckon_433 rfl cd_X24_pushTruth rfl rfl fp_X24_reckon_X24_pushTruth K (fun h160 eh160 wh160 K => ?_) (fun x h1 _ _ e => Tw.out rfl e)
                                refine r_goto (pc := 436) (tgt := 560) dX24_reckon_436 rfl ?_
                                exact r_vret (pc := 560) rfl dX24_reckon_560 K
                              · have K := K.2 c158
                                refine r_iconst (pc := 428) (x := 1) dX24_reckon_428 rfl ?_
                                refine r_goto (pc := 429) (tgt := 433) dX24_reckon_429 rfl ?_
                                obtain ⟨hk164, K⟩ := K
                                refine r_callV_V (pc := 433) (Y := mX24_pushTruth) (vs := [_]) (st := []) hk164 rfl kc24 q2530 q2532 qs101 dX24_reckon_433 rfl cd_X24_pushTruth rfl rfl fp_X24_reckon_X24_pushTruth K (fun h163 eh163 wh163 K => ?_) (fun x h1 _ _ e => Tw.out rfl e)
                                refine r_goto (pc := 436) (tgt := 560) dX24_reckon_436 rfl ?_
                                exact r_vret (pc := 560) rfl dX24_reckon_560 K
                            · by_cases c165 : v1 = 160
                              · have K := K217.2.2.2.2.2.2.2.2.2.2.2.2.2.2.1 c165
                                refine r_tableIn (pc := 93) (tgt := 439) dX24_reckon_93 (by rw [c165]; decide) (by rw [c165]; decide) (by rw [c165]; rfl) rfl ?_
                                refine r_aload_n (pc := 439) dX24_reckon_439 rfl ?_
                                refine r_lload (pc := 440) dX24_reckon_440 rfl ?_
                                refine r_lload_n (pc := 442) dX24_reckon_442 rfl ?_
                                refine r_lcmp_le (pc := 443) (tgt := 451) dX24_reckon_443 dX24_reckon_444 rfl (fun c166 => ?_) (fun c166 => ?_)
                                · have K := K.1 c166
                                  refine r_iconst (pc := 451) (x := 0) dX24_reckon_451 rfl ?_
                                  obtain ⟨hk169, K⟩ := K
                                  refine r_callV_V (pc := 452) (Y := mX24_pushTruth) (vs := [_]) (st := []) hk169 rfl kc24 q2530 q2532 qs101 dX24_reckon_452 rfl cd_X24_pushTruth rfl rfl fp_X24_reckon_X24_pushTruth K (fun h168 eh168 wh168 K => ?_) (fun x h1 _ _ e => Tw.out rfl e)
                                  refine r_goto (pc := 455) (tgt := 560) dX24_reckon_455 rfl ?_
                                  exact r_vret (pc := 560) rfl dX24_reckon_560 K
                                · have K := K.2 c166
                                  refine r_iconst (pc := 447) (x := 1) dX24_reckon_447 rfl ?_
                                  refine r_goto (pc := 448) (tgt := 452) dX24_reckon_448 rfl ?_
                                  obtain ⟨hk172, K⟩ := K
                                  refine r_callV_V (pc := 452) (Y := mX24_pushTruth) (vs := [_]) (st := []) hk172 rfl kc24 q2530 q2532 qs101 dX24_reckon_452 rfl cd_X24_pushTruth rfl rfl fp_X24_reckon_X24_pushTruth K (fun h171 eh171 wh171 K => ?_) (fun x h1 _ _ e => Tw.out rfl e)
                                  refine r_goto (pc := 455) (tgt := 560) dX24_reckon_455 rfl ?_
                                  exact r_vret (pc := 560) rfl dX24_reckon_560 K
                              · by_cases c173 : v1 = 161
                                · have K := K217.2.2.2.2.2.2.2.2.2.2.2.2.2.2.2.1 c173
                                  refine r_tableIn (pc := 93) (tgt := 458) dX24_reckon_93 (by rw [c173]; decide) (by rw [c173]; decide) (by rw [c173]; rfl) rfl ?_
                                  refine r_aload_n (pc := 458) dX24_reckon_458 rfl ?_
                                  refine r_lload (pc := 459) dX24_reckon_459 rfl ?_
                                  refine r_lload_n (pc := 461) dX24_reckon_461 rfl ?_
                                  refine r_lcmp_gt (pc := 462) (tgt := 470) dX24_reckon_462 dX24_reckon_463 rfl (fun c174 => ?_) (fun c174 => ?_)
                                  · have K := K.1 c174
                                    refine r_iconst (pc := 470) (x := 0) dX24_reckon_470 rfl ?_
                                    obtain ⟨hk177, K⟩ := K
                                    refine r_callV_V (pc := 471) (Y := mX24_pushTruth) (vs := [_]) (st := []) hk177 rfl kc24 q2530 q2532 qs101 dX24_reckon_471 rfl cd_X24_pushTruth rfl rfl fp_X24_reckon_X24_pushTruth K (fun h176 eh176 wh176 K => ?_) (fun x h1 _ _ e => Tw.out rfl e)
                                    refine r_goto (pc := 474) (tgt := 560) dX24_reckon_474 rfl ?_
                                    exact r_vret (pc := 560) rfl dX24_reckon_560 K
                                  · have K := K.2 c174
                                    refine r_iconst (pc := 466) (x := 1) dX24_reckon_466 rfl ?_
                                    refine r_goto (pc := 467) (tgt := 471) dX24_reckon_467 rfl ?_
                                    obtain ⟨hk180, K⟩ := K
                                    refine r_callV_V (pc := 471) (Y := mX24_pushTruth) (vs := [_]) (st := []) hk180 rfl kc24 q2530 q2532 qs101 dX24_reckon_471 rfl cd_X24_pushTruth rfl rfl fp_X24_reckon_X24_pushTruth K (fun h179 eh179 wh179 K => ?_) (fun x h1 _ _ e => Tw.out rfl e)
                                    refine r_goto (pc := 474) (tgt := 560) dX24_reckon_474 rfl ?_
                                    exact r_vret (pc := 560) rfl dX24_reckon_560 K
                                · by_cases c181 : v1 = 162
                                  · have K := K217.2.2.2.2.2.2.2.2.2.2.2.2.2.2.2.2.1 c181
                                    refine r_tableIn (pc := 93) (tgt := 477) dX24_reckon_93 (by rw [c181]; decide) (by rw [c181]; decide) (by rw [c181]; rfl) rfl ?_
                                    refine r_aload_n (pc := 477) dX24_reckon_477 rfl ?_
                                    refine r_lload (pc := 478) dX24_reckon_478 rfl ?_
                                    refine r_lload_n (pc := 480) dX24_reckon_480 rfl ?_
                                    refine r_lcmp_lt (pc := 481) (tgt := 489) dX24_reckon_481 dX24_reckon_482 rfl (fun c182 => ?_) (fun c182 => ?_)
                                    · have K := K.1 c182
                                      refine r_iconst (pc := 489) (x := 0) dX24_reckon_489 rfl ?_
                                      obtain ⟨hk185, K⟩ := K
                                      refine r_callV_V (pc := 490) (Y := mX24_pushTruth) (vs := [_]) (st := []) hk185 rfl kc24 q2530 q2532 qs101 dX24_reckon_490 rfl cd_X24_pushTruth rfl rfl fp_X24_reckon_X24_pushTruth K (fun h184 eh184 wh184 K => ?_) (fun x h1 _ _ e => Tw.out rfl e)
                                      refine r_goto (pc := 493) (tgt := 560) dX24_reckon_493 rfl ?_
                                      exact r_vret (pc := 560) rfl dX24_reckon_560 K
                                    · have K := K.2 c182
                                      refine r_iconst (pc := 485) (x := 1) dX24_reckon_485 rfl ?_
                                      refine r_goto (pc := 486) (tgt := 490) dX24_reckon_486 rfl ?_
                                      obtain ⟨hk188, K⟩ := K
                                      refine r_callV_V (pc := 490) (Y := mX24_pushTruth) (vs := [_]) (st := []) hk188 rfl kc24 q2530 q2532 qs101 dX24_reckon_490 rfl cd_X24_pushTruth rfl rfl fp_X24_reckon_X24_pushTruth K (fun h187 eh187 wh187 K => ?_) (fun x h1 _ _ e => Tw.out rfl e)
                                      refine r_goto (pc := 493) (tgt := 560) dX24_reckon_493 rfl ?_
                                      exact r_vret (pc := 560) rfl dX24_reckon_560 K
                                  · by_cases c189 : v1 = 163
                                    · have K := K217.2.2.2.2.2.2.2.2.2.2.2.2.2.2.2.2.2.1 c189
                                      refine r_tableIn (pc := 93) (tgt := 496) dX24_reckon_93 (by rw [c189]; decide) (by rw [c189]; decide) (by rw [c189]; rfl) rfl ?_
                                      refine r_aload_n (pc := 496) dX24_reckon_496 rfl ?_
                                      refine r_lload (pc := 497) dX24_reckon_497 rfl ?_
                                      refine r_lload_n (pc := 499) dX24_reckon_499 rfl ?_
                                      refine r_lcmp_ge (pc := 500) (tgt := 509) dX24_reckon_500 dX24_reckon_501 rfl (fun c190 => ?_) (fun c190 => ?_)
                                      · have K := K.1 c190
                                        refine r_lload_n (pc := 509) dX24_reckon_509 rfl ?_
                                        obtain ⟨hk193, K⟩ := K
                                        refine r_callV_V (pc := 510) (Y := mX24_pushNumber) (vs := [_]) (st := []) hk193 rfl kc24 q2514 q2516 qs97 dX24_reckon_510 rfl cd_X24_pushNumber rfl rfl fp_X24_reckon_X24_pushNumber K (fun h192 eh192 wh192 K => ?_) (fun x h1 _ _ e => Tw.out rfl e)
                                        refine r_goto (pc := 513) (tgt := 560) dX24_reckon_513 rfl ?_
                                        exact r_vret (pc := 560) rfl dX24_reckon_560 K
                                      · have K := K.2 c190
                                        refine r_lload (pc := 504) dX24_reckon_504 rfl ?_
                                        refine r_goto (pc := 506) (tgt := 510) dX24_reckon_506 rfl ?_
                                        obtain ⟨hk196, K⟩ := K
                                        refine r_callV_V (pc := 510) (Y := mX24_pushNumber) (vs := [_]) (st := []) hk196 rfl kc24 q2514 q2516 qs97 dX24_reckon_510 rfl cd_X24_pushNumber rfl rfl fp_X24_reckon_X24_pushNumber K (fun h195 eh195 wh195 K => ?_) (fun x h1 _ _ e => Tw.out rfl e)
                                        refine r_goto (pc := 513) (tgt := 560) dX24_reckon_513 rfl ?_
                                        exact r_vret (pc := 560) rfl dX24_reckon_560 K
                                    · by_cases c197 : v1 = 164
                                      · have K := K217.2.2.2.2.2.2.2.2.2.2.2.2.2.2.2.2.2.2.1 c197
                                        refine r_tableIn (pc := 93) (tgt := 516) dX24_reckon_93 (by rw [c197]; decide) (by rw [c197]; decide) (by rw [c197]; rfl) rfl ?_
                                        refine r_aload_n (pc := 516) dX24_reckon_516 rfl ?_
                                        refine r_lload (pc := 517) dX24_reckon_517 rfl ?_
                                        refine r_lload_n (pc := 519) dX24_reckon_519 rfl ?_
                                        refine r_lcmp_le (pc := 520) (tgt := 529) dX24_reckon_520 dX24_reckon_521 rfl (fun c198 => ?_) (fun c198 => ?_)
                                        · have K := K.1 c198
                                          refine r_lload_n (pc := 529) dX24_reckon_529 rfl ?_
                                          obtain ⟨hk201, K⟩ := K
                                          refine r_callV_V (pc := 530) (Y := mX24_pushNumber) (vs := [_]) (st := []) hk201 rfl kc24 q2514 q2516 qs97 dX24_reckon_530 rfl cd_X24_pushNumber rfl rfl fp_X24_reckon_X24_pushNumber K (fun h200 eh200 wh200 K => ?_) (fun x h1 _ _ e => Tw.out rfl e)
                                          refine r_goto (pc := 533) (tgt := 560) dX24_reckon_533 rfl ?_
                                          exact r_vret (pc := 560) rfl dX24_reckon_560 K
                                        · have K := K.2 c198
                                          refine r_lload (pc := 524) dX24_reckon_524 rfl ?_
                                          refine r_goto (pc := 526) (tgt := 530) dX24_reckon_526 rfl ?_
                                          obtain ⟨hk204, K⟩ := K
                                          refine r_callV_V (pc := 530) (Y := mX24_pushNumber) (vs := [_]) (st := []) hk204 rfl kc24 q2514 q2516 qs97 dX24_reckon_530 rfl cd_X24_pushNumber rfl rfl fp_X24_reckon_X24_pushNumber K (fun h203 eh203 wh203 K => ?_) (fun x h1 _ _ e => Tw.out rfl e)
                                          refine r_goto (pc := 533) (tgt := 560) dX24_reckon_533 rfl ?_
                                          exact r_vret (pc := 560) rfl dX24_reckon_560 K
                                      · have K := K217.2.2.2.2.2.2.2.2.2.2.2.2.2.2.2.2.2.2.2 ⟨c1, c5, c9, c13, c21, c53, c85, c89, c93, c105, c117, c133, c149, c157, c165, c173, c181, c189, c197⟩
                                        refine r_tableD (pc := 93) (tgt := 536) dX24_reckon_93 (by decide) ?_ rfl ?_
                                        · intro i hi hq
                                          match i, hi with
                                          | 0, _ => exact c1
                                          | 1, _ => exact c5
                                          | 2, _ => exact absurd rfl hq
                                          | 3, _ => exact absurd rfl hq
                                          | 4, _ => exact c9
                                          | 5, _ => exact c13
                                          | 6, _ => exact c21
                                          | 7, _ => exact c53
                                          | 8, _ => exact c85
                                          | 9, _ => exact c89
                                          | 10, _ => exact absurd rfl hq
                                          | 11, _ => exact absurd rfl hq
                                          | 12, _ => exact absurd rfl hq
                                          | 13, _ => exact absurd rfl hq
                                          | 14, _ => exact absurd rfl hq
                                          | 15, _ => exact c93
                                          | 16, _ => exact c105
                                          | 17, _ => exact c117
                                          | 18, _ => exact c133
                                          | 19, _ => exact c149
                                          | 20, _ => exact c157
                                          | 21, _ => exact c165
                                          | 22, _ => exact c173
                                          | 23, _ => exact c181
                                          | 24, _ => exact c189
                                          | 25, _ => exact c197
                                          | i + 26, hi => exact absurd hi (Nat.not_lt.mpr (Nat.le_add_left 26 i))
                                        · refine r_aload_n (pc := 536) dX24_reckon_536 rfl ?_
                                          refine r_lload (pc := 537) dX24_reckon_537 rfl ?_
                                          refine r_lload (pc := 539) dX24_reckon_539 rfl ?_
                                          refine r_lcmp_gt (pc := 541) (tgt := 556) dX24_reckon_541 dX24_reckon_542 rfl (fun c205 => ?_) (fun c205 => ?_)
                                          · have K := K.1 c205
                                            refine r_iconst (pc := 556) (x := 0) dX24_reckon_556 rfl ?_
                                            obtain ⟨hk208, K⟩ := K
                                            refine r_callV_V (pc := 557) (Y := mX24_pushTruth) (vs := [_]) (st := []) hk208 rfl kc24 q2530 q2532 qs101 dX24_reckon_557 rfl cd_X24_pushTruth rfl rfl fp_X24_reckon_X24_pushTruth K (fun h207 eh207 wh207 K => ?_) (fun x h1 _ _ e => Tw.out rfl e)
                                            exact r_vret (pc := 560) rfl dX24_reckon_560 K
                                          · have K := K.2 c205
                                            refine r_lload (pc := 545) dX24_reckon_545 rfl ?_
                                            refine r_lload_n (pc := 547) dX24_reckon_547 rfl ?_
                                            refine r_lcmp_ge (pc := 548) (tgt := 556) dX24_reckon_548 dX24_reckon_549 rfl (fun c209 => ?_) (fun c209 => ?_)
                                            · have K := K.1 c209
                                              refine r_iconst (pc := 556) (x := 0) dX24_reckon_556 rfl ?_
                                              obtain ⟨hk212, K⟩ := K
                                              refine r_callV_V (pc := 557) (Y := mX24_pushTruth) (vs := [_]) (st := []) hk212 rfl kc24 q2530 q2532 qs101 dX24_reckon_557 rfl cd_X24_pushTruth rfl rfl fp_X24_reckon_X24_pushTruth K (fun h211 eh211 wh211 K => ?_) (fun x h1 _ _ e => Tw.out rfl e)
                                              exact r_vret (pc := 560) rfl dX24_reckon_560 K
                                            · have K := K.2 c209
                                              refine r_iconst (pc := 552) (x := 1) dX24_reckon_552 rfl ?_
                                              refine r_goto (pc := 553) (tgt := 557) dX24_reckon_553 rfl ?_
                                              obtain ⟨hk215, K⟩ := K
                                              refine r_callV_V (pc := 557) (Y := mX24_pushTruth) (vs := [_]) (st := []) hk215 rfl kc24 q2530 q2532 qs101 dX24_reckon_557 rfl cd_X24_pushTruth rfl rfl fp_X24_reckon_X24_pushTruth K (fun h214 eh214 wh214 K => ?_) (fun x h1 _ _ e => Tw.out rfl e)
                                              exact r_vret (pc := 560) rfl dX24_reckon_560 K

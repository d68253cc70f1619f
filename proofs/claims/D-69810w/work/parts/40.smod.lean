/-! printed by gen/segs.py: decode rows and segment lemmas of: X24_addInput X24_addOutput X24_pad X24_turn X24_shaBlock X24_sha X24_again X24_make X24_makeCount X24_make_2 X24_makeTx X24_draftId X24_byteOf X24_bits X24_number X24_bitsOf X24_target X24_timeOf X24_up X24_due X24_fromBytes X24_root X24_assemble X24_alike X24_findCoin X24_script X24_input X24_mark X24_output X24_behind X24_isPushes X24_isTrue X24_row X24_keepStack X24_push X24_pushNumber X24_pushTruth X24_answer X24_copy X24_lift X24_need X24_numberAt X24_move -/
set_option maxRecDepth 100000
theorem dX24_addInput_0 : decode cX24_addInput 0 = .ok (.bipush 6, 2) := by decide +kernel
theorem dX24_addInput_2 : decode cX24_addInput 2 = .ok (.iload_n 1, 1) := by decide +kernel
theorem dX24_addInput_3 : decode cX24_addInput 3 = .ok (.imul, 1) := by decide +kernel
theorem dX24_addInput_4 : decode cX24_addInput 4 = .ok (.aload_n 0, 1) := by decide +kernel
theorem dX24_addInput_5 : decode cX24_addInput 5 = .ok (.getfield 732, 3) := by decide +kernel
theorem dX24_addInput_8 : decode cX24_addInput 8 = .ok (.iload_n 1, 1) := by decide +kernel
theorem dX24_addInput_9 : decode cX24_addInput 9 = .ok (.iaload, 1) := by decide +kernel
theorem dX24_addInput_10 : decode cX24_addInput 10 = .ok (.iadd, 1) := by decide +kernel
theorem dX24_addInput_11 : decode cX24_addInput 11 = .ok (.istore 4, 2) := by decide +kernel
theorem dX24_addInput_13 : decode cX24_addInput 13 = .ok (.iconst 0, 1) := by decide +kernel
theorem dX24_addInput_14 : decode cX24_addInput 14 = .ok (.istore 5, 2) := by decide +kernel
theorem dX24_addInput_16 : decode cX24_addInput 16 = .ok (.iload 5, 2) := by decide +kernel
theorem dX24_addInput_18 : decode cX24_addInput 18 = .ok (.bipush 36, 2) := by decide +kernel
theorem dX24_addInput_20 : decode cX24_addInput 20 = .ok (.if_icmp .ge 35, 3) := by decide +kernel
theorem dX24_addInput_23 : decode cX24_addInput 23 = .ok (.aload_n 0, 1) := by decide +kernel
theorem dX24_addInput_24 : decode cX24_addInput 24 = .ok (.getfield 738, 3) := by decide +kernel
theorem dX24_addInput_27 : decode cX24_addInput 27 = .ok (.bipush 36, 2) := by decide +kernel
theorem dX24_addInput_29 : decode cX24_addInput 29 = .ok (.iload 4, 2) := by decide +kernel
theorem dX24_addInput_31 : decode cX24_addInput 31 = .ok (.imul, 1) := by decide +kernel
theorem dX24_addInput_32 : decode cX24_addInput 32 = .ok (.iload 5, 2) := by decide +kernel
theorem dX24_addInput_34 : decode cX24_addInput 34 = .ok (.iadd, 1) := by decide +kernel
theorem dX24_addInput_35 : decode cX24_addInput 35 = .ok (.iload 5, 2) := by decide +kernel
theorem dX24_addInput_37 : decode cX24_addInput 37 = .ok (.bipush 32, 2) := by decide +kernel
theorem dX24_addInput_39 : decode cX24_addInput 39 = .ok (.if_icmp .ge 7, 3) := by decide +kernel
theorem dX24_addInput_42 : decode cX24_addInput 42 = .ok (.iconst 0, 1) := by decide +kernel
theorem dX24_addInput_43 : decode cX24_addInput 43 = .ok (.goto 4, 3) := by decide +kernel
theorem dX24_addInput_46 : decode cX24_addInput 46 = .ok (.iconst (-1), 1) := by decide +kernel
theorem dX24_addInput_47 : decode cX24_addInput 47 = .ok (.i2b, 1) := by decide +kernel
theorem dX24_addInput_48 : decode cX24_addInput 48 = .ok (.bastore, 1) := by decide +kernel
theorem dX24_addInput_49 : decode cX24_addInput 49 = .ok (.iinc 5 1, 3) := by decide +kernel
theorem dX24_addInput_52 : decode cX24_addInput 52 = .ok (.goto (-36), 3) := by decide +kernel
theorem dX24_addInput_55 : decode cX24_addInput 55 = .ok (.aload_n 0, 1) := by decide +kernel
theorem dX24_addInput_56 : decode cX24_addInput 56 = .ok (.getfield 749, 3) := by decide +kernel
theorem dX24_addInput_59 : decode cX24_addInput 59 = .ok (.iload 4, 2) := by decide +kernel
theorem dX24_addInput_61 : decode cX24_addInput 61 = .ok (.lload_n 2, 1) := by decide +kernel
theorem dX24_addInput_62 : decode cX24_addInput 62 = .ok (.lastore, 1) := by decide +kernel
theorem dX24_addInput_63 : decode cX24_addInput 63 = .ok (.iconst 0, 1) := by decide +kernel
theorem dX24_addInput_64 : decode cX24_addInput 64 = .ok (.istore 5, 2) := by decide +kernel
theorem dX24_addInput_66 : decode cX24_addInput 66 = .ok (.iload 5, 2) := by decide +kernel
theorem dX24_addInput_68 : decode cX24_addInput 68 = .ok (.aload_n 0, 1) := by decide +kernel
theorem dX24_addInput_69 : decode cX24_addInput 69 = .ok (.getfield 862, 3) := by decide +kernel
theorem dX24_addInput_72 : decode cX24_addInput 72 = .ok (.if_icmp .ge 26, 3) := by decide +kernel
theorem dX24_addInput_75 : decode cX24_addInput 75 = .ok (.aload_n 0, 1) := by decide +kernel
theorem dX24_addInput_76 : decode cX24_addInput 76 = .ok (.getfield 746, 3) := by decide +kernel
theorem dX24_addInput_79 : decode cX24_addInput 79 = .ok (.iload 4, 2) := by decide +kernel
theorem dX24_addInput_81 : decode cX24_addInput 81 = .ok (.aaload, 1) := by decide +kernel
theorem dX24_addInput_82 : decode cX24_addInput 82 = .ok (.iload 5, 2) := by decide +kernel
theorem dX24_addInput_84 : decode cX24_addInput 84 = .ok (.aload_n 0, 1) := by decide +kernel
theorem dX24_addInput_85 : decode cX24_addInput 85 = .ok (.getfield 801, 3) := by decide +kernel
theorem dX24_addInput_88 : decode cX24_addInput 88 = .ok (.iload 5, 2) := by decide +kernel
theorem dX24_addInput_90 : decode cX24_addInput 90 = .ok (.baload, 1) := by decide +kernel
theorem dX24_addInput_91 : decode cX24_addInput 91 = .ok (.bastore, 1) := by decide +kernel
theorem dX24_addInput_92 : decode cX24_addInput 92 = .ok (.iinc 5 1, 3) := by decide +kernel
theorem dX24_addInput_95 : decode cX24_addInput 95 = .ok (.goto (-29), 3) := by decide +kernel
theorem dX24_addInput_98 : decode cX24_addInput 98 = .ok (.aload_n 0, 1) := by decide +kernel
theorem dX24_addInput_99 : decode cX24_addInput 99 = .ok (.getfield 743, 3) := by decide +kernel
theorem dX24_addInput_102 : decode cX24_addInput 102 = .ok (.iload 4, 2) := by decide +kernel
theorem dX24_addInput_104 : decode cX24_addInput 104 = .ok (.aload_n 0, 1) := by decide +kernel
theorem dX24_addInput_105 : decode cX24_addInput 105 = .ok (.getfield 862, 3) := by decide +kernel
theorem dX24_addInput_108 : decode cX24_addInput 108 = .ok (.iastore, 1) := by decide +kernel
theorem dX24_addInput_109 : decode cX24_addInput 109 = .ok (.aload_n 0, 1) := by decide +kernel
theorem dX24_addInput_110 : decode cX24_addInput 110 = .ok (.iconst 0, 1) := by decide +kernel
theorem dX24_addInput_111 : decode cX24_addInput 111 = .ok (.putfield 862, 3) := by decide +kernel
theorem dX24_addInput_114 : decode cX24_addInput 114 = .ok (.aload_n 0, 1) := by decide +kernel
theorem dX24_addInput_115 : decode cX24_addInput 115 = .ok (.getfield 732, 3) := by decide +kernel
theorem dX24_addInput_118 : decode cX24_addInput 118 = .ok (.iload_n 1, 1) := by decide +kernel
theorem dX24_addInput_119 : decode cX24_addInput 119 = .ok (.dup2, 1) := by decide +kernel
theorem dX24_addInput_120 : decode cX24_addInput 120 = .ok (.iaload, 1) := by decide +kernel
theorem dX24_addInput_121 : decode cX24_addInput 121 = .ok (.iconst 1, 1) := by decide +kernel
theorem dX24_addInput_122 : decode cX24_addInput 122 = .ok (.iadd, 1) := by decide +kernel
theorem dX24_addInput_123 : decode cX24_addInput 123 = .ok (.iastore, 1) := by decide +kernel
theorem dX24_addInput_124 : decode cX24_addInput 124 = .ok (.return_, 1) := by decide +kernel
/-! CoinJudgeModel.addInput(IJ)V -/
set_option maxHeartbeats 4000000 in
theorem sX24_addInput_0 {G : Gx} {d t : Nat} {h0 : AH} {Φ : Out → AH → Prop} (h : AH) (v0 : Nat) (v1 : Int32) (v2 : Int64) (K : h.kd v0 = 24 ∧ ∀ r2 : Nat, r2 = (h.r 24097 v0) → h.kd r2 = 100 ∧ vp_in v1 (h.ai r2).length ∧ ∀ u5 : Int32, u5 = ((6 * v1) + ((h.ai r2).getD (v1.toNatClampNeg) 0)) → Aw G mX24_addInput (d + 1) t h0 Φ 16 [vR v0, vI v1, vJ v2, vU, vI u5, vI 0] [] h) : Aw G mX24_addInput (d + 1) t h0 Φ 0 [vR v0, vI v1, vJ v2, vU, vU, vU] [] h := by
  refine r_bipush (pc := 0) (x := 6) dX24_addInput_0 rfl ?_
  refine r_iload_n (pc := 2) dX24_addInput_2 rfl ?_
  refine r_imul (pc := 3) dX24_addInput_3 ?_
  refine r_aload_n (pc := 4) dX24_addInput_4 rfl ?_
  obtain ⟨hk1, K⟩ := K
  have K := K _ rfl
  refine r_getr' (pc := 5) (T := TX24) 24 97 rfl hk1 (Or.inl q2795) dX24_addInput_5 kc24 g24097 ?_
  refine r_iload_n (pc := 8) dX24_addInput_8 rfl ?_
  obtain ⟨hk3, K⟩ := K
  obtain ⟨hi4, K⟩ := K
  refine r_iaload (pc := 9) hk3 hi4 dX24_addInput_9 ?_
  refine r_iadd (pc := 10) dX24_addInput_10 ?_
  have K := K _ rfl
  refine r_istore (pc := 11) (lv' := [_, _, _, _, _, _]) dX24_addInput_11 (by decide) rfl ?_
  refine r_iconst (pc := 13) (x := 0) dX24_addInput_13 rfl ?_
  refine r_istore (pc := 14) (lv' := [_, _, _, _, _, _]) dX24_addInput_14 (by decide) rfl ?_
  refine r_mask (pc := 16) [true, true, true, false, true, true] rfl ?_
  exact K
theorem eX24_addInput {G : Gx} {d : Nat} {Φ : Out → AH → Prop} (h : AH) (v0 : Nat) (v1 : Int32) (v2 : Int64) (K : WF G h → Aw G mX24_addInput (d + 1) 0 h Φ 0 [vR v0, vI v1, vJ v2, vU, vU, vU] [] h) : Cw G mX24_addInput (d + 1) 0 [vR v0, vI v1, vJ v2] h Φ := Cw.of rfl K
set_option maxHeartbeats 4000000 in
theorem sX24_addInput_16 {G : Gx} {d t : Nat} {h0 : AH} {Φ : Out → AH → Prop} (h : AH) (v0 : Nat) (v1 : Int32) (v2 : Int64) (v4 : Int32) (v5 : Int32) (K : ((36 ≤ v5 → h.kd v0 = 24 ∧ ∀ r3 : Nat, r3 = (h.r 24100 v0) → h.kd r3 = 103 ∧ vp_in v4 (h.al r3).length ∧ ∀ h6 : AH, h6 = h.wl r3 ((h.al r3).set (v4.toNatClampNeg) v2) → Aw G mX24_addInput (d + 1) t h0 Φ 66 [vR v0, vI v1, vU, vU, vI v4, vI 0] [] h6) ∧ (¬ 36 ≤ v5 → h.kd v0 = 24 ∧ ∀ r8 : Nat, r8 = (h.r 24099 v0) → ((32 ≤ v5 → h.kd r8 = 101 ∧ vp_in ((36 * v4) + v5) (h.ai r8).length ∧ ∀ h12 : AH, h12 = h.wi r8 ((h.ai r8).set (((36 * v4) + v5).toNatClampNeg) (i2b (i2b (-1)))) → Aw G mX24_addInput (d + 1) t h0 Φ 16 [vR v0, vI v1, vJ v2, vU, vI v4, vI (v5 + 1)] [] h12) ∧ (¬ 32 ≤ v5 → h.kd r8 = 101 ∧ vp_in ((36 * v4) + v5) (h.ai r8).length ∧ ∀ h15 : AH, h15 = h.wi r8 ((h.ai r8).set (((36 * v4) + v5).toNatClampNeg) (i2b (i2b 0))) → Aw G mX24_addInput (d + 1) t h0 Φ 16 [vR v0, vI v1, vJ v2, vU, vI v4, vI (v5 + 1)] [] h15))))) : Aw G mX24_addInput (d + 1) t h0 Φ 16 [vR v0, vI v1, vJ v2, vU, vI v4, vI v5] [] h := by
  refine r_iload (pc := 16) dX24_addInput_16 rfl ?_
  refine r_bipush (pc := 18) (x := 36) dX24_addInput_18 rfl ?_
  refine r_icmp_ge (pc := 20) (tgt := 55) dX24_addInput_20 rfl (fun c1 => ?_) (fun c1 => ?_)
  · have K := K.1 c1
    refine r_aload_n (pc := 55) dX24_addInput_55 rfl ?_
    obtain ⟨hk2, K⟩ := K
    have K := K _ rfl
    refine r_getr' (pc := 56) (T := TX24) 24 100 rfl hk2 (Or.inl q2798) dX24_addInput_56 kc24 g24100 ?_
    refine r_iload (pc := 59) dX24_addInput_59 rfl ?_
    refine r_lload_n (pc := 61) dX24_addInput_61 rfl ?_
    obtain ⟨hk4, K⟩ := K
    obtain ⟨hi5, K⟩ := K
    refine r_lastore (pc := 62) hk4 hi5 (Or.inl (em rfl)) dX24_addInput_62 ?_
    refine r_nameH (fun h6 eh6 => ?_)
    have K := K h6 eh6
    refine r_iconst (pc := 63) (x := 0) dX24_addInput_63 rfl ?_
    refine r_istore (pc := 64) (lv' := [_, _, _, _, _, _]) dX24_addInput_64 (by decide) rfl ?_
    refine r_mask (pc := 66) [true, true, false, false, true, true] rfl ?_
    exact K
  · have K := K.2 c1
    refine r_aload_n (pc := 23) dX24_addInput_23 rfl ?_
    obtain ⟨hk7, K⟩ := K
    have K := K _ rfl
    refine r_getr' (pc := 24) (T := TX24) 24 99 rfl hk7 (Or.inl q2797) dX24_addInput_24 kc24 g24099 ?_
    refine r_bipush (pc := 27) (x := 36) dX24_addInput_27 rfl ?_
    refine r_iload (pc := 29) dX24_addInput_29 rfl ?_
    refine r_imul (pc := 31) dX24_addInput_31 ?_
    refine r_iload (pc := 32) dX24_addInput_32 rfl ?_
    refine r_iadd (pc := 34) dX24_addInput_34 ?_
    refine r_iload (pc := 35) dX24_addInput_35 rfl ?_
    refine r_bipush (pc := 37) (x := 32) dX24_addInput_37 rfl ?_
    refine r_icmp_ge (pc := 39) (tgt := 46) dX24_addInput_39 rfl (fun c9 => ?_) (fun c9 => ?_)
    · have K := K.1 c9
      refine r_iconst (pc := 46) (x := (-1)) dX24_addInput_46 rfl ?_
      refine r_ji2b (pc := 47) dX24_addInput_47 ?_
      obtain ⟨hk10, K⟩ := K
      obtain ⟨hi11, K⟩ := K
      refine r_jbast (pc := 48) hk10 hi11 (Or.inl (em rfl)) dX24_addInput_48 ?_
      refine r_nameH (fun h12 eh12 => ?_)
      have K := K h12 eh12
      refine r_iinc (pc := 49) (lv' := [_, _, _, _, _, _]) dX24_addInput_49 rfl rfl (by decide) rfl ?_
      refine r_goto (pc := 52) (tgt := 16) dX24_addInput_52 rfl ?_
      refine r_mask (pc := 16) [true, true, true, false, true, true] rfl ?_
      exact K
    · have K := K.2 c9
      refine r_iconst (pc := 42) (x := 0) dX24_addInput_42 rfl ?_
      refine r_goto (pc := 43) (tgt := 47) dX24_addInput_43 rfl ?_
      refine r_ji2b (pc := 47) dX24_addInput_47 ?_
      obtain ⟨hk13, K⟩ := K
      obtain ⟨hi14, K⟩ := K
      refine r_jbast (pc := 48) hk13 hi14 (Or.inl (em rfl)) dX24_addInput_48 ?_
      refine r_nameH (fun h15 eh15 => ?_)
      have K := K h15 eh15
      refine r_iinc (pc := 49) (lv' := [_, _, _, _, _, _]) dX24_addInput_49 rfl rfl (by decide) rfl ?_
      refine r_goto (pc := 52) (tgt := 16) dX24_addInput_52 rfl ?_
      refine r_mask (pc := 16) [true, true, true, false, true, true] rfl ?_
      exact K
set_option maxHeartbeats 4000000 in
theorem sX24_addInput_66 {G : Gx} {d t : Nat} {h0 : AH} {Φ : Out → AH → Prop} (h : AH) (v0 : Nat) (v1 : Int32) (v4 : Int32) (v5 : Int32) (K : h.kd v0 = 24 ∧ (((h.i 24110 v0) ≤ v5 → ∀ r3 : Nat, r3 = (h.r 24102 v0) → h.kd r3 = 100 ∧ vp_in v4 (h.ai r3).length ∧ ∀ h6 : AH, h6 = h.wi r3 ((h.ai r3).set (v4.toNatClampNeg) (h.i 24110 v0)) → ∀ h8 : AH, h8 = h6.pi 24110 v0 0 → ∀ r10 : Nat, r10 = (h8.r 24097 v0) → h8.kd r10 = 100 ∧ vp_in v1 (h8.ai r10).length ∧ vp_in v1 (h8.ai r10).length ∧ ∀ h14 : AH, h14 = h8.wi r10 ((h8.ai r10).set (v1.toNatClampNeg) (((h8.ai r10).getD (v1.toNatClampNeg) 0) + 1)) → Φ (.inl none) h14) ∧ (¬ (h.i 24110 v0) ≤ v5 → ∀ r15 : Nat, r15 = (h.r 24101 v0) → h.kd r15 = 115 ∧ vp_in v4 (h.ar r15).length ∧ ∀ r18 : Nat, r18 = ((h.ar r15).getD (v4.toNatClampNeg) 0) → ∀ r19 : Nat, r19 = (h.r 24109 v0) → h.kd r19 = 101 ∧ vp_in v5 (h.ai r19).length ∧ h.kd r18 = 101 ∧ vp_in v5 (h.ai r18).length ∧ ∀ h24 : AH, h24 = h.wi r18 ((h.ai r18).set (v5.toNatClampNeg) (i2b ((h.ai r19).getD (v5.toNatClampNeg) 0))) → Aw G mX24_addInput (d + 1) t h0 Φ 66 [vR v0, vI v1, vU, vU, vI v4, vI (v5 + 1)] [] h24))) : Aw G mX24_addInput (d + 1) t h0 Φ 66 [vR v0, vI v1, vU, vU, vI v4, vI v5] [] h := by
  refine r_iload (pc := 66) dX24_addInput_66 rfl ?_
  refine r_aload_n (pc := 68) dX24_addInput_68 rfl ?_
  obtain ⟨hk1, K⟩ := K
  refine r_geti' (pc := 69) (T := TX24) 24 110 rfl hk1 (Or.inl q2808) dX24_addInput_69 kc24 g24110 ?_
  refine r_icmp_ge (pc := 72) (tgt := 98) dX24_addInput_72 rfl (fun c2 => ?_) (fun c2 => ?_)
  · have K := K.1 c2
    refine r_aload_n (pc := 98) dX24_addInput_98 rfl ?_
    have K := K _ rfl
    refine r_getr' (pc := 99) (T := TX24) 24 102 rfl hk1 (Or.inl q2800) dX24_addInput_99 kc24 g24102 ?_
    refine r_iload (pc := 102) dX24_addInput_102 rfl ?_
    refine r_aload_n (pc := 104) dX24_addInput_104 rfl ?_
    refine r_geti' (pc := 105) (T := TX24) 24 110 rfl hk1 (Or.inl q2808) dX24_addInput_105 kc24 g24110 ?_
    obtain ⟨hk4, K⟩ := K
    obtain ⟨hi5, K⟩ := K
    refine r_iastore (pc := 108) hk4 hi5 (Or.inl (em rfl)) dX24_addInput_108 ?_
    refine r_nameH (fun h6 eh6 => ?_)
    have K := K h6 eh6
    refine r_aload_n (pc := 109) dX24_addInput_109 rfl ?_
    refine r_iconst (pc := 110) (x := 0) dX24_addInput_110 rfl ?_
    have hk7 := kd_wi eh6 hk1
    refine r_puti (pc := 111) (T := TX24) (key := 24110) 24 110 hk7 (Or.inl q2808) dX24_addInput_111 kc24 rfl (Or.inl rfl) (Or.inl (em rfl)) ?_
    refine r_nameH (fun h8 eh8 => ?_)
    have K := K h8 eh8
    refine r_aload_n (pc := 114) dX24_addInput_114 rfl ?_
    have hk9 := kd_pi eh8 hk7
    have K := K _ rfl
    refine r_getr' (pc := 115) (T := TX24) 24 97 rfl hk9 (Or.inl q2795) dX24_addInput_115 kc24 g24097 ?_
    refine r_iload_n (pc := 118) dX24_addInput_118 rfl ?_
    refine r_dup2 (pc := 119) rfl rfl dX24_addInput_119 ?_
    obtain ⟨hk11, K⟩ := K
    obtain ⟨hi12, K⟩ := K
    refine r_iaload (pc := 120) hk11 hi12 dX24_addInput_120 ?_
    refine r_iconst (pc := 121) (x := 1) dX24_addInput_121 rfl ?_
    refine r_iadd (pc := 122) dX24_addInput_122 ?_
    obtain ⟨hi13, K⟩ := K
    refine r_iastore (pc := 123) hk11 hi13 (Or.inl (em rfl)) dX24_addInput_123 ?_
    refine r_nameH (fun h14 eh14 => ?_)
    have K := K h14 eh14
    exact r_vret (pc := 124) rfl dX24_addInput_124 K
  · have K := K.2 c2
    refine r_aload_n (pc := 75) dX24_addInput_75 rfl ?_
    have K := K _ rfl
    refine r_getr' (pc := 76) (T := TX24) 24 101 rfl hk1 (Or.inl q2799) dX24_addInput_76 kc24 g24101 ?_
    refine r_iload (pc := 79) dX24_addInput_79 rfl ?_
    obtain ⟨hk16, K⟩ := K
    obtain ⟨hi17, K⟩ := K
    have K := K _ rfl
    refine r_aaload (pc := 81) (le_of_eq_r hk16 (by decide)) hi17 dX24_addInput_81 ?_
    refine r_iload (pc := 82) dX24_addInput_82 rfl ?_
    refine r_aload_n (pc := 84) dX24_addInput_84 rfl ?_
    have K := K _ rfl
    refine r_getr' (pc := 85) (T := TX24) 24 109 rfl hk1 (Or.inl q2807) dX24_addInput_85 kc24 g24109 ?_
    refine r_iload (pc := 88) dX24_addInput_88 rfl ?_
    obtain ⟨hk20, K⟩ := K
    obtain ⟨hi21, K⟩ := K
    refine r_baload (pc := 90) hk20 hi21 dX24_addInput_90 ?_
    obtain ⟨hk22, K⟩ := K
    obtain ⟨hi23, K⟩ := K
    refine r_jbast (pc := 91) hk22 hi23 (Or.inl (em rfl)) dX24_addInput_91 ?_
    refine r_nameH (fun h24 eh24 => ?_)
    have K := K h24 eh24
    refine r_iinc (pc := 92) (lv' := [_, _, _, _, _, _]) dX24_addInput_92 rfl rfl (by decide) rfl ?_
    refine r_goto (pc := 95) (tgt := 66) dX24_addInput_95 rfl ?_
    refine r_mask (pc := 66) [true, true, false, false, true, true] rfl ?_
    exact K
theorem dX24_addOutput_0 : decode cX24_addOutput 0 = .ok (.aload_n 0, 1) := by decide +kernel
theorem dX24_addOutput_1 : decode cX24_addOutput 1 = .ok (.getfield 865, 3) := by decide +kernel
theorem dX24_addOutput_4 : decode cX24_addOutput 4 = .ok (.iconst 1, 1) := by decide +kernel
theorem dX24_addOutput_5 : decode cX24_addOutput 5 = .ok (.isub, 1) := by decide +kernel
theorem dX24_addOutput_6 : decode cX24_addOutput 6 = .ok (.istore_n 3, 1) := by decide +kernel
theorem dX24_addOutput_7 : decode cX24_addOutput 7 = .ok (.bipush 6, 2) := by decide +kernel
theorem dX24_addOutput_9 : decode cX24_addOutput 9 = .ok (.iload_n 3, 1) := by decide +kernel
theorem dX24_addOutput_10 : decode cX24_addOutput 10 = .ok (.imul, 1) := by decide +kernel
theorem dX24_addOutput_11 : decode cX24_addOutput 11 = .ok (.aload_n 0, 1) := by decide +kernel
theorem dX24_addOutput_12 : decode cX24_addOutput 12 = .ok (.getfield 752, 3) := by decide +kernel
theorem dX24_addOutput_15 : decode cX24_addOutput 15 = .ok (.iload_n 3, 1) := by decide +kernel
theorem dX24_addOutput_16 : decode cX24_addOutput 16 = .ok (.iaload, 1) := by decide +kernel
theorem dX24_addOutput_17 : decode cX24_addOutput 17 = .ok (.iadd, 1) := by decide +kernel
theorem dX24_addOutput_18 : decode cX24_addOutput 18 = .ok (.istore 4, 2) := by decide +kernel
theorem dX24_addOutput_20 : decode cX24_addOutput 20 = .ok (.aload_n 0, 1) := by decide +kernel
theorem dX24_addOutput_21 : decode cX24_addOutput 21 = .ok (.getfield 755, 3) := by decide +kernel
theorem dX24_addOutput_24 : decode cX24_addOutput 24 = .ok (.iload 4, 2) := by decide +kernel
theorem dX24_addOutput_26 : decode cX24_addOutput 26 = .ok (.lload_n 1, 1) := by decide +kernel
theorem dX24_addOutput_27 : decode cX24_addOutput 27 = .ok (.lastore, 1) := by decide +kernel
theorem dX24_addOutput_28 : decode cX24_addOutput 28 = .ok (.iconst 0, 1) := by decide +kernel
theorem dX24_addOutput_29 : decode cX24_addOutput 29 = .ok (.istore 5, 2) := by decide +kernel
theorem dX24_addOutput_31 : decode cX24_addOutput 31 = .ok (.iload 5, 2) := by decide +kernel
theorem dX24_addOutput_33 : decode cX24_addOutput 33 = .ok (.aload_n 0, 1) := by decide +kernel
theorem dX24_addOutput_34 : decode cX24_addOutput 34 = .ok (.getfield 862, 3) := by decide +kernel
theorem dX24_addOutput_37 : decode cX24_addOutput 37 = .ok (.if_icmp .ge 26, 3) := by decide +kernel
theorem dX24_addOutput_40 : decode cX24_addOutput 40 = .ok (.aload_n 0, 1) := by decide +kernel
theorem dX24_addOutput_41 : decode cX24_addOutput 41 = .ok (.getfield 761, 3) := by decide +kernel
theorem dX24_addOutput_44 : decode cX24_addOutput 44 = .ok (.iload 4, 2) := by decide +kernel
theorem dX24_addOutput_46 : decode cX24_addOutput 46 = .ok (.aaload, 1) := by decide +kernel
theorem dX24_addOutput_47 : decode cX24_addOutput 47 = .ok (.iload 5, 2) := by decide +kernel
theorem dX24_addOutput_49 : decode cX24_addOutput 49 = .ok (.aload_n 0, 1) := by decide +kernel
theorem dX24_addOutput_50 : decode cX24_addOutput 50 = .ok (.getfield 801, 3) := by decide +kernel
theorem dX24_addOutput_53 : decode cX24_addOutput 53 = .ok (.iload 5, 2) := by decide +kernel
theorem dX24_addOutput_55 : decode cX24_addOutput 55 = .ok (.baload, 1) := by decide +kernel
theorem dX24_addOutput_56 : decode cX24_addOutput 56 = .ok (.bastore, 1) := by decide +kernel
theorem dX24_addOutput_57 : decode cX24_addOutput 57 = .ok (.iinc 5 1, 3) := by decide +kernel
theorem dX24_addOutput_60 : decode cX24_addOutput 60 = .ok (.goto (-29), 3) := by decide +kernel
theorem dX24_addOutput_63 : decode cX24_addOutput 63 = .ok (.aload_n 0, 1) := by decide +kernel
theorem dX24_addOutput_64 : decode cX24_addOutput 64 = .ok (.getfield 758, 3) := by decide +kernel
theorem dX24_addOutput_67 : decode cX24_addOutput 67 = .ok (.iload 4, 2) := by decide +kernel
theorem dX24_addOutput_69 : decode cX24_addOutput 69 = .ok (.aload_n 0, 1) := by decide +kernel
theorem dX24_addOutput_70 : decode cX24_addOutput 70 = .ok (.getfield 862, 3) := by decide +kernel
theorem dX24_addOutput_73 : decode cX24_addOutput 73 = .ok (.iastore, 1) := by decide +kernel
theorem dX24_addOutput_74 : decode cX24_addOutput 74 = .ok (.aload_n 0, 1) := by decide +kernel
theorem dX24_addOutput_75 : decode cX24_addOutput 75 = .ok (.iconst 0, 1) := by decide +kernel
theorem dX24_addOutput_76 : decode cX24_addOutput 76 = .ok (.putfield 862, 3) := by decide +kernel
theorem dX24_addOutput_79 : decode cX24_addOutput 79 = .ok (.aload_n 0, 1) := by decide +kernel
theorem dX24_addOutput_80 : decode cX24_addOutput 80 = .ok (.getfield 752, 3) := by decide +kernel
theorem dX24_addOutput_83 : decode cX24_addOutput 83 = .ok (.iload_n 3, 1) := by decide +kernel
theorem dX24_addOutput_84 : decode cX24_addOutput 84 = .ok (.dup2, 1) := by decide +kernel
theorem dX24_addOutput_85 : decode cX24_addOutput 85 = .ok (.iaload, 1) := by decide +kernel
theorem dX24_addOutput_86 : decode cX24_addOutput 86 = .ok (.iconst 1, 1) := by decide +kernel
theorem dX24_addOutput_87 : decode cX24_addOutput 87 = .ok (.iadd, 1) := by decide +kernel
theorem dX24_addOutput_88 : decode cX24_addOutput 88 = .ok (.iastore, 1) := by decide +kernel
theorem dX24_addOutput_89 : decode cX24_addOutput 89 = .ok (.return_, 1) := by decide +kernel
/-! CoinJudgeModel.addOutput(J)V -/
set_option maxHeartbeats 4000000 in
theorem sX24_addOutput_0 {G : Gx} {d t : Nat} {h0 : AH} {Φ : Out → AH → Prop} (h : AH) (v0 : Nat) (v1 : Int64) (K : h.kd v0 = 24 ∧ ∀ r2 : Nat, r2 = (h.r 24098 v0) → h.kd r2 = 100 ∧ vp_in ((h.i 24094 v0) - 1) (h.ai r2).length ∧ ∀ u5 : Int32, u5 = ((6 * ((h.i 24094 v0) - 1)) + ((h.ai r2).getD (((h.i 24094 v0) - 1).toNatClampNeg) 0)) → ∀ r6 : Nat, r6 = (h.r 24103 v0) → h.kd r6 = 103 ∧ vp_in u5 (h.al r6).length ∧ ∀ h9 : AH, h9 = h.wl r6 ((h.al r6).set (u5.toNatClampNeg) v1) → Aw G mX24_addOutput (d + 1) t h0 Φ 31 [vR v0, vU, vU, vI ((h.i 24094 v0) - 1), vI u5, vI 0] [] h9) : Aw G mX24_addOutput (d + 1) t h0 Φ 0 [vR v0, vJ v1, vU, vU, vU, vU] [] h := by
  refine r_aload_n (pc := 0) dX24_addOutput_0 rfl ?_
  obtain ⟨hk1, K⟩ := K
  refine r_geti' (pc := 1) (T := TX24) 24 94 rfl hk1 (Or.inl q2792) dX24_addOutput_1 kc24 g24094 ?_
  refine r_iconst (pc := 4) (x := 1) dX24_addOutput_4 rfl ?_
  refine r_isub (pc := 5) dX24_addOutput_5 ?_
  refine r_istore_n (pc := 6) (lv' := [_, _, _, _, _, _]) dX24_addOutput_6 (by decide) rfl ?_
  refine r_bipush (pc := 7) (x := 6) dX24_addOutput_7 rfl ?_
  refine r_iload_n (pc := 9) dX24_addOutput_9 rfl ?_
  refine r_imul (pc := 10) dX24_addOutput_10 ?_
  refine r_aload_n (pc := 11) dX24_addOutput_11 rfl ?_
  have K := K _ rfl
  refine r_getr' (pc := 12) (T := TX24) 24 98 rfl hk1 (Or.inl q2796) dX24_addOutput_12 kc24 g24098 ?_
  refine r_iload_n (pc := 15) dX24_addOutput_15 rfl ?_
  obtain ⟨hk3, K⟩ := K
  obtain ⟨hi4, K⟩ := K
  refine r_iaload (pc := 16) hk3 hi4 dX24_addOutput_16 ?_
  refine r_iadd (pc := 17) dX24_addOutput_17 ?_
  have K := K _ rfl
  refine r_istore (pc := 18) (lv' := [_, _, _, _, _, _]) dX24_addOutput_18 (by decide) rfl ?_
  refine r_aload_n (pc := 20) dX24_addOutput_20 rfl ?_
  have K := K _ rfl
  refine r_getr' (pc := 21) (T := TX24) 24 103 rfl hk1 (Or.inl q2801) dX24_addOutput_21 kc24 g24103 ?_
  refine r_iload (pc := 24) dX24_addOutput_24 rfl ?_
  refine r_lload_n (pc := 26) dX24_addOutput_26 rfl ?_
  obtain ⟨hk7, K⟩ := K
  obtain ⟨hi8, K⟩ := K
  refine r_lastore (pc := 27) hk7 hi8 (Or.inl (em rfl)) dX24_addOutput_27 ?_
  refine r_nameH (fun h9 eh9 => ?_)
  have K := K h9 eh9
  refine r_iconst (pc := 28) (x := 0) dX24_addOutput_28 rfl ?_
  refine r_istore (pc := 29) (lv' := [_, _, _, _, _, _]) dX24_addOutput_29 (by decide) rfl ?_
  refine r_mask (pc := 31) [true, false, false, true, true, true] rfl ?_
  exact K
theorem eX24_addOutput {G : Gx} {d : Nat} {Φ : Out → AH → Prop} (h : AH) (v0 : Nat) (v1 : Int64) (K : WF G h → Aw G mX24_addOutput (d + 1) 0 h Φ 0 [vR v0, vJ v1, vU, vU, vU, vU] [] h) : Cw G mX24_addOutput (d + 1) 0 [vR v0, vJ v1] h Φ := Cw.of rfl K
set_option maxHeartbeats 4000000 in
theorem sX24_addOutput_31 {G : Gx} {d t : Nat} {h0 : AH} {Φ : Out → AH → Prop} (h : AH) (v0 : Nat) (v3 : Int32) (v4 : Int32) (v5 : Int32) (K : h.kd v0 = 24 ∧ (((h.i 24110 v0) ≤ v5 → ∀ r3 : Nat, r3 = (h.r 24105 v0) → h.kd r3 = 100 ∧ vp_in v4 (h.ai r3).length ∧ ∀ h6 : AH, h6 = h.wi r3 ((h.ai r3).set (v4.toNatClampNeg) (h.i 24110 v0)) → ∀ h8 : AH, h8 = h6.pi 24110 v0 0 → ∀ r10 : Nat, r10 = (h8.r 24098 v0) → h8.kd r10 = 100 ∧ vp_in v3 (h8.ai r10).length ∧ vp_in v3 (h8.ai r10).length ∧ ∀ h14 : AH, h14 = h8.wi r10 ((h8.ai r10).set (v3.toNatClampNeg) (((h8.ai r10).getD (v3.toNatClampNeg) 0) + 1)) → Φ (.inl none) h14) ∧ (¬ (h.i 24110 v0) ≤ v5 → ∀ r15 : Nat, r15 = (h.r 24104 v0) → h.kd r15 = 115 ∧ vp_in v4 (h.ar r15).length ∧ ∀ r18 : Nat, r18 = ((h.ar r15).getD (v4.toNatClampNeg) 0) → ∀ r19 : Nat, r19 = (h.r 24109 v0) → h.kd r19 = 101 ∧ vp_in v5 (h.ai r19).length ∧ h.kd r18 = 101 ∧ vp_in v5 (h.ai r18).length ∧ ∀ h24 : AH, h24 = h.wi r18 ((h.ai r18).set (v5.toNatClampNeg) (i2b ((h.ai r19).getD (v5.toNatClampNeg) 0))) → Aw G mX24_addOutput (d + 1) t h0 Φ 31 [vR v0, vU, vU, vI v3, vI v4, vI (v5 + 1)] [] h24))) : Aw G mX24_addOutput (d + 1) t h0 Φ 31 [vR v0, vU, vU, vI v3, vI v4, vI v5] [] h := by
  refine r_iload (pc := 31) dX24_addOutput_31 rfl ?_
  refine r_aload_n (pc := 33) dX24_addOutput_33 rfl ?_
  obtain ⟨hk1, K⟩ := K
  refine r_geti' (pc := 34) (T := TX24) 24 110 rfl hk1 (Or.inl q2808) dX24_addOutput_34 kc24 g24110 ?_
  refine r_icmp_ge (pc := 37) (tgt := 63) dX24_addOutput_37 rfl (fun c2 => ?_) (fun c2 => ?_)
  · have K := K.1 c2
    refine r_aload_n (pc := 63) dX24_addOutput_63 rfl ?_
    have K := K _ rfl
    refine r_getr' (pc := 64) (T := TX24) 24 105 rfl hk1 (Or.inl q2803) dX24_addOutput_64 kc24 g24105 ?_
    refine r_iload (pc := 67) dX24_addOutput_67 rfl ?_
    refine r_aload_n (pc := 69) dX24_addOutput_69 rfl ?_
    refine r_geti' (pc := 70) (T := TX24) 24 110 rfl hk1 (Or.inl q2808) dX24_addOutput_70 kc24 g24110 ?_
    obtain ⟨hk4, K⟩ := K
    obtain ⟨hi5, K⟩ := K
    refine r_iastore (pc := 73) hk4 hi5 (Or.inl (em rfl)) dX24_addOutput_73 ?_
    refine r_nameH (fun h6 eh6 => ?_)
    have K := K h6 eh6
    refine r_aload_n (pc := 74) dX24_addOutput_74 rfl ?_
    refine r_iconst (pc := 75) (x := 0) dX24_addOutput_75 rfl ?_
    have hk7 := kd_wi eh6 hk1
    refine r_puti (pc := 76) (T := TX24) (key := 24110) 24 110 hk7 (Or.inl q2808) dX24_addOutput_76 kc24 rfl (Or.inl rfl) (Or.inl (em rfl)) ?_
    refine r_nameH (fun h8 eh8 => ?_)
    have K := K h8 eh8
    refine r_aload_n (pc := 79) dX24_addOutput_79 rfl ?_
    have hk9 := kd_pi eh8 hk7
    have K := K _ rfl
    refine r_getr' (pc := 80) (T := TX24) 24 98 rfl hk9 (Or.inl q2796) dX24_addOutput_80 kc24 g24098 ?_
    refine r_iload_n (pc := 83) dX24_addOutput_83 rfl ?_
    refine r_dup2 (pc := 84) rfl rfl dX24_addOutput_84 ?_
    obtain ⟨hk11, K⟩ := K
    obtain ⟨hi12, K⟩ := K
    refine r_iaload (pc := 85) hk11 hi12 dX24_addOutput_85 ?_
    refine r_iconst (pc := 86) (x := 1) dX24_addOutput_86 rfl ?_
    refine r_iadd (pc := 87) dX24_addOutput_87 ?_
    obtain ⟨hi13, K⟩ := K
    refine r_iastore (pc := 88) hk11 hi13 (Or.inl (em rfl)) dX24_addOutput_88 ?_
    refine r_nameH (fun h14 eh14 => ?_)
    have K := K h14 eh14
    exact r_vret (pc := 89) rfl dX24_addOutput_89 K
  · have K := K.2 c2
    refine r_aload_n (pc := 40) dX24_addOutput_40 rfl ?_
    have K := K _ rfl
    refine r_getr' (pc := 41) (T := TX24) 24 104 rfl hk1 (Or.inl q2802) dX24_addOutput_41 kc24 g24104 ?_
    refine r_iload (pc := 44) dX24_addOutput_44 rfl ?_
    obtain ⟨hk16, K⟩ := K
    obtain ⟨hi17, K⟩ := K
    have K := K _ rfl
    refine r_aaload (pc := 46) (le_of_eq_r hk16 (by decide)) hi17 dX24_addOutput_46 ?_
    refine r_iload (pc := 47) dX24_addOutput_47 rfl ?_
    refine r_aload_n (pc := 49) dX24_addOutput_49 rfl ?_
    have K := K _ rfl
    refine r_getr' (pc := 50) (T := TX24) 24 109 rfl hk1 (Or.inl q2807) dX24_addOutput_50 kc24 g24109 ?_
    refine r_iload (pc := 53) dX24_addOutput_53 rfl ?_
    obtain ⟨hk20, K⟩ := K
    obtain ⟨hi21, K⟩ := K
    refine r_baload (pc := 55) hk20 hi21 dX24_addOutput_55 ?_
    obtain ⟨hk22, K⟩ := K
    obtain ⟨hi23, K⟩ := K
    refine r_jbast (pc := 56) hk22 hi23 (Or.inl (em rfl)) dX24_addOutput_56 ?_
    refine r_nameH (fun h24 eh24 => ?_)
    have K := K h24 eh24
    refine r_iinc (pc := 57) (lv' := [_, _, _, _, _, _]) dX24_addOutput_57 rfl rfl (by decide) rfl ?_
    refine r_goto (pc := 60) (tgt := 31) dX24_addOutput_60 rfl ?_
    refine r_mask (pc := 31) [true, false, false, true, true, true] rfl ?_
    exact K
theorem dX24_pad_0 : decode cX24_pad 0 = .ok (.iconst 0, 1) := by decide +kernel
theorem dX24_pad_1 : decode cX24_pad 1 = .ok (.istore 6, 2) := by decide +kernel
theorem dX24_pad_3 : decode cX24_pad 3 = .ok (.iload 6, 2) := by decide +kernel
theorem dX24_pad_5 : decode cX24_pad 5 = .ok (.iload_n 3, 1) := by decide +kernel
theorem dX24_pad_6 : decode cX24_pad 6 = .ok (.if_icmp .ge 22, 3) := by decide +kernel
theorem dX24_pad_9 : decode cX24_pad 9 = .ok (.aload_n 0, 1) := by decide +kernel
theorem dX24_pad_10 : decode cX24_pad 10 = .ok (.getfield 34, 3) := by decide +kernel
theorem dX24_pad_13 : decode cX24_pad 13 = .ok (.iload 6, 2) := by decide +kernel
theorem dX24_pad_15 : decode cX24_pad 15 = .ok (.aload_n 1, 1) := by decide +kernel
theorem dX24_pad_16 : decode cX24_pad 16 = .ok (.iload_n 2, 1) := by decide +kernel
theorem dX24_pad_17 : decode cX24_pad 17 = .ok (.iload 6, 2) := by decide +kernel
theorem dX24_pad_19 : decode cX24_pad 19 = .ok (.iadd, 1) := by decide +kernel
theorem dX24_pad_20 : decode cX24_pad 20 = .ok (.baload, 1) := by decide +kernel
theorem dX24_pad_21 : decode cX24_pad 21 = .ok (.bastore, 1) := by decide +kernel
theorem dX24_pad_22 : decode cX24_pad 22 = .ok (.iinc 6 1, 3) := by decide +kernel
theorem dX24_pad_25 : decode cX24_pad 25 = .ok (.goto (-22), 3) := by decide +kernel
theorem dX24_pad_28 : decode cX24_pad 28 = .ok (.iload_n 3, 1) := by decide +kernel
theorem dX24_pad_29 : decode cX24_pad 29 = .ok (.bipush 72, 2) := by decide +kernel
theorem dX24_pad_31 : decode cX24_pad 31 = .ok (.iadd, 1) := by decide +kernel
theorem dX24_pad_32 : decode cX24_pad 32 = .ok (.bipush 64, 2) := by decide +kernel
theorem dX24_pad_34 : decode cX24_pad 34 = .ok (.idiv, 1) := by decide +kernel
theorem dX24_pad_35 : decode cX24_pad 35 = .ok (.bipush 64, 2) := by decide +kernel
theorem dX24_pad_37 : decode cX24_pad 37 = .ok (.imul, 1) := by decide +kernel
theorem dX24_pad_38 : decode cX24_pad 38 = .ok (.istore 6, 2) := by decide +kernel
theorem dX24_pad_40 : decode cX24_pad 40 = .ok (.iload_n 3, 1) := by decide +kernel
theorem dX24_pad_41 : decode cX24_pad 41 = .ok (.istore 7, 2) := by decide +kernel
theorem dX24_pad_43 : decode cX24_pad 43 = .ok (.iload 7, 2) := by decide +kernel
theorem dX24_pad_45 : decode cX24_pad 45 = .ok (.iload 6, 2) := by decide +kernel
theorem dX24_pad_47 : decode cX24_pad 47 = .ok (.if_icmp .ge 17, 3) := by decide +kernel
theorem dX24_pad_50 : decode cX24_pad 50 = .ok (.aload_n 0, 1) := by decide +kernel
theorem dX24_pad_51 : decode cX24_pad 51 = .ok (.getfield 34, 3) := by decide +kernel
theorem dX24_pad_54 : decode cX24_pad 54 = .ok (.iload 7, 2) := by decide +kernel
theorem dX24_pad_56 : decode cX24_pad 56 = .ok (.iconst 0, 1) := by decide +kernel
theorem dX24_pad_57 : decode cX24_pad 57 = .ok (.bastore, 1) := by decide +kernel
theorem dX24_pad_58 : decode cX24_pad 58 = .ok (.iinc 7 1, 3) := by decide +kernel
theorem dX24_pad_61 : decode cX24_pad 61 = .ok (.goto (-18), 3) := by decide +kernel
theorem dX24_pad_64 : decode cX24_pad 64 = .ok (.aload_n 0, 1) := by decide +kernel
theorem dX24_pad_65 : decode cX24_pad 65 = .ok (.getfield 34, 3) := by decide +kernel
theorem dX24_pad_68 : decode cX24_pad 68 = .ok (.iload_n 3, 1) := by decide +kernel
theorem dX24_pad_69 : decode cX24_pad 69 = .ok (.bipush (-128), 2) := by decide +kernel
theorem dX24_pad_71 : decode cX24_pad 71 = .ok (.bastore, 1) := by decide +kernel
theorem dX24_pad_72 : decode cX24_pad 72 = .ok (.ldc2_w 51, 3) := by decide +kernel
theorem dX24_pad_75 : decode cX24_pad 75 = .ok (.iload 4, 2) := by decide +kernel
theorem dX24_pad_77 : decode cX24_pad 77 = .ok (.i2l, 1) := by decide +kernel
theorem dX24_pad_78 : decode cX24_pad 78 = .ok (.lmul, 1) := by decide +kernel
theorem dX24_pad_79 : decode cX24_pad 79 = .ok (.lstore 7, 2) := by decide +kernel
theorem dX24_pad_81 : decode cX24_pad 81 = .ok (.iconst 0, 1) := by decide +kernel
theorem dX24_pad_82 : decode cX24_pad 82 = .ok (.istore 9, 2) := by decide +kernel
theorem dX24_pad_84 : decode cX24_pad 84 = .ok (.iload 9, 2) := by decide +kernel
theorem dX24_pad_86 : decode cX24_pad 86 = .ok (.bipush 8, 2) := by decide +kernel
theorem dX24_pad_88 : decode cX24_pad 88 = .ok (.if_icmp .ge 47, 3) := by decide +kernel
theorem dX24_pad_91 : decode cX24_pad 91 = .ok (.aload_n 0, 1) := by decide +kernel
theorem dX24_pad_92 : decode cX24_pad 92 = .ok (.getfield 34, 3) := by decide +kernel
theorem dX24_pad_95 : decode cX24_pad 95 = .ok (.iload 5, 2) := by decide +kernel
theorem dX24_pad_97 : decode cX24_pad 97 = .ok (.ifCond .eq 13, 3) := by decide +kernel
theorem dX24_pad_100 : decode cX24_pad 100 = .ok (.iload 6, 2) := by decide +kernel
theorem dX24_pad_102 : decode cX24_pad 102 = .ok (.iconst 1, 1) := by decide +kernel
theorem dX24_pad_103 : decode cX24_pad 103 = .ok (.isub, 1) := by decide +kernel
theorem dX24_pad_104 : decode cX24_pad 104 = .ok (.iload 9, 2) := by decide +kernel
theorem dX24_pad_106 : decode cX24_pad 106 = .ok (.isub, 1) := by decide +kernel
theorem dX24_pad_107 : decode cX24_pad 107 = .ok (.goto 11, 3) := by decide +kernel
theorem dX24_pad_110 : decode cX24_pad 110 = .ok (.iload 6, 2) := by decide +kernel
theorem dX24_pad_112 : decode cX24_pad 112 = .ok (.bipush 8, 2) := by decide +kernel
theorem dX24_pad_114 : decode cX24_pad 114 = .ok (.isub, 1) := by decide +kernel
theorem dX24_pad_115 : decode cX24_pad 115 = .ok (.iload 9, 2) := by decide +kernel
theorem dX24_pad_117 : decode cX24_pad 117 = .ok (.iadd, 1) := by decide +kernel
theorem dX24_pad_118 : decode cX24_pad 118 = .ok (.lload 7, 2) := by decide +kernel
theorem dX24_pad_120 : decode cX24_pad 120 = .ok (.bipush 8, 2) := by decide +kernel
theorem dX24_pad_122 : decode cX24_pad 122 = .ok (.iload 9, 2) := by decide +kernel
theorem dX24_pad_124 : decode cX24_pad 124 = .ok (.imul, 1) := by decide +kernel
theorem dX24_pad_125 : decode cX24_pad 125 = .ok (.lushr, 1) := by decide +kernel
theorem dX24_pad_126 : decode cX24_pad 126 = .ok (.l2i, 1) := by decide +kernel
theorem dX24_pad_127 : decode cX24_pad 127 = .ok (.i2b, 1) := by decide +kernel
theorem dX24_pad_128 : decode cX24_pad 128 = .ok (.bastore, 1) := by decide +kernel
theorem dX24_pad_129 : decode cX24_pad 129 = .ok (.iinc 9 1, 3) := by decide +kernel
theorem dX24_pad_132 : decode cX24_pad 132 = .ok (.goto (-48), 3) := by decide +kernel
theorem dX24_pad_135 : decode cX24_pad 135 = .ok (.iload 6, 2) := by decide +kernel
theorem dX24_pad_137 : decode cX24_pad 137 = .ok (.ireturn, 1) := by decide +kernel
/-! CoinJudgeModel.pad([BIIIZ)I -/
set_option maxHeartbeats 4000000 in
theorem sX24_pad_0 {G : Gx} {d t : Nat} {h0 : AH} {Φ : Out → AH → Prop} (h : AH) (v0 : Nat) (v1 : Nat) (v2 : Int32) (v3 : Int32) (v4 : Int32) (v5 : Int32) (K : Aw G mX24_pad (d + 1) t h0 Φ 3 [vR v0, vR v1, vI v2, vI v3, vI v4, vI v5, vI 0, vU, vU, vU] [] h) : Aw G mX24_pad (d + 1) t h0 Φ 0 [vR v0, vR v1, vI v2, vI v3, vI v4, vI v5, vU, vU, vU, vU] [] h := by
  refine r_iconst (pc := 0) (x := 0) dX24_pad_0 rfl ?_
  refine r_istore (pc := 1) (lv' := [_, _, _, _, _, _, _, _, _, _]) dX24_pad_1 (by decide) rfl ?_
  refine r_mask (pc := 3) [true, true, true, true, true, true, true, false, false, false] rfl ?_
  exact K
theorem eX24_pad {G : Gx} {d : Nat} {Φ : Out → AH → Prop} (h : AH) (v0 : Nat) (v1 : Nat) (v2 : Int32) (v3 : Int32) (v4 : Int32) (v5 : Int32) (K : WF G h → Aw G mX24_pad (d + 1) 0 h Φ 0 [vR v0, vR v1, vI v2, vI v3, vI v4, vI v5, vU, vU, vU, vU] [] h) : Cw G mX24_pad (d + 1) 0 [vR v0, vR v1, vI v2, vI v3, vI v4, vI v5] h Φ := Cw.of rfl K
set_option maxHeartbeats 4000000 in
theorem sX24_pad_3 {G : Gx} {d t : Nat} {h0 : AH} {Φ : Out → AH → Prop} (h : AH) (v0 : Nat) (v1 : Nat) (v2 : Int32) (v3 : Int32) (v4 : Int32) (v5 : Int32) (v6 : Int32) (K : ((v3 ≤ v6 → Aw G mX24_pad (d + 1) t h0 Φ 43 [vR v0, vU, vU, vI v3, vI v4, vI v5, vI (((v3 + 72) / 64) * 64), vI v3, vU, vU] [] h) ∧ (¬ v3 ≤ v6 → h.kd v0 = 24 ∧ ∀ r3 : Nat, r3 = (h.r 24000 v0) → h.kd v1 = 101 ∧ vp_in (v2 + v6) (h.ai v1).length ∧ h.kd r3 = 101 ∧ vp_in v6 (h.ai r3).length ∧ ∀ h8 : AH, h8 = h.wi r3 ((h.ai r3).set (v6.toNatClampNeg) (i2b ((h.ai v1).getD ((v2 + v6).toNatClampNeg) 0))) → Aw G mX24_pad (d + 1) t h0 Φ 3 [vR v0, vR v1, vI v2, vI v3, vI v4, vI v5, vI (v6 + 1), vU, vU, vU] [] h8))) : Aw G mX24_pad (d + 1) t h0 Φ 3 [vR v0, vR v1, vI v2, vI v3, vI v4, vI v5, vI v6, vU, vU, vU] [] h := by
  refine r_iload (pc := 3) dX24_pad_3 rfl ?_
  refine r_iload_n (pc := 5) dX24_pad_5 rfl ?_
  refine r_icmp_ge (pc := 6) (tgt := 28) dX24_pad_6 rfl (fun c1 => ?_) (fun c1 => ?_)
  · have K := K.1 c1
    refine r_iload_n (pc := 28) dX24_pad_28 rfl ?_
    refine r_bipush (pc := 29) (x := 72) dX24_pad_29 rfl ?_
    refine r_iadd (pc := 31) dX24_pad_31 ?_
    refine r_bipush (pc := 32) (x := 64) dX24_pad_32 rfl ?_
    refine r_idiv (pc := 34) (by decide) dX24_pad_34 ?_
    refine r_bipush (pc := 35) (x := 64) dX24_pad_35 rfl ?_
    refine r_imul (pc := 37) dX24_pad_37 ?_
    refine r_istore (pc := 38) (lv' := [_, _, _, _, _, _, _, _, _, _]) dX24_pad_38 (by decide) rfl ?_
    refine r_iload_n (pc := 40) dX24_pad_40 rfl ?_
    refine r_istore (pc := 41) (lv' := [_, _, _, _, _, _, _, _, _, _]) dX24_pad_41 (by decide) rfl ?_
    refine r_mask (pc := 43) [true, false, false, true, true, true, true, true, false, false] rfl ?_
    exact K
  · have K := K.2 c1
    refine r_aload_n (pc := 9) dX24_pad_9 rfl ?_
    obtain ⟨hk2, K⟩ := K
    have K := K _ rfl
    refine r_getr' (pc := 10) (T := TX24) 24 0 rfl hk2 (Or.inl q2698) dX24_pad_10 kc24 g24000 ?_
    refine r_iload (pc := 13) dX24_pad_13 rfl ?_
    refine r_aload_n (pc := 15) dX24_pad_15 rfl ?_
    refine r_iload_n (pc := 16) dX24_pad_16 rfl ?_
    refine r_iload (pc := 17) dX24_pad_17 rfl ?_
    refine r_iadd (pc := 19) dX24_pad_19 ?_
    obtain ⟨hk4, K⟩ := K
    obtain ⟨hi5, K⟩ := K
    refine r_baload (pc := 20) hk4 hi5 dX24_pad_20 ?_
    obtain ⟨hk6, K⟩ := K
    obtain ⟨hi7, K⟩ := K
    refine r_jbast (pc := 21) hk6 hi7 (Or.inl (em rfl)) dX24_pad_21 ?_
    refine r_nameH (fun h8 eh8 => ?_)
    have K := K h8 eh8
    refine r_iinc (pc := 22) (lv' := [_, _, _, _, _, _, _, _, _, _]) dX24_pad_22 rfl rfl (by decide) rfl ?_
    refine r_goto (pc := 25) (tgt := 3) dX24_pad_25 rfl ?_
    refine r_mask (pc := 3) [true, true, true, true, true, true, true, false, false, false] rfl ?_
    exact K
set_option maxHeartbeats 4000000 in
theorem sX24_pad_43 {G : Gx} {d t : Nat} {h0 : AH} {Φ : Out → AH → Prop} (h : AH) (v0 : Nat) (v3 : Int32) (v4 : Int32) (v5 : Int32) (v6 : Int32) (v7 : Int32) (K : ((v6 ≤ v7 → h.kd v0 = 24 ∧ ∀ r3 : Nat, r3 = (h.r 24000 v0) → h.kd r3 = 101 ∧ vp_in v3 (h.ai r3).length ∧ ∀ h6 : AH, h6 = h.wi r3 ((h.ai r3).set (v3.toNatClampNeg) (i2b (-128))) → Aw G mX24_pad (d + 1) t h0 Φ 84 [vR v0, vU, vU, vU, vU, vI v5, vI v6, vJ (8 * v4.toInt64), vU, vI 0] [] h6) ∧ (¬ v6 ≤ v7 → h.kd v0 = 24 ∧ ∀ r8 : Nat, r8 = (h.r 24000 v0) → h.kd r8 = 101 ∧ vp_in v7 (h.ai r8).length ∧ ∀ h11 : AH, h11 = h.wi r8 ((h.ai r8).set (v7.toNatClampNeg) (i2b 0)) → Aw G mX24_pad (d + 1) t h0 Φ 43 [vR v0, vU, vU, vI v3, vI v4, vI v5, vI v6, vI (v7 + 1), vU, vU] [] h11))) : Aw G mX24_pad (d + 1) t h0 Φ 43 [vR v0, vU, vU, vI v3, vI v4, vI v5, vI v6, vI v7, vU, vU] [] h := by
  refine r_iload (pc := 43) dX24_pad_43 rfl ?_
  refine r_iload (pc := 45) dX24_pad_45 rfl ?_
  refine r_icmp_ge (pc := 47) (tgt := 64) dX24_pad_47 rfl (fun c1 => ?_) (fun c1 => ?_)
  · have K := K.1 c1
    refine r_aload_n (pc := 64) dX24_pad_64 rfl ?_
    obtain ⟨hk2, K⟩ := K
    have K := K _ rfl
    refine r_getr' (pc := 65) (T := TX24) 24 0 rfl hk2 (Or.inl q2698) dX24_pad_65 kc24 g24000 ?_
    refine r_iload_n (pc := 68) dX24_pad_68 rfl ?_
    refine r_bipush (pc := 69) (x := (-128)) dX24_pad_69 rfl ?_
    obtain ⟨hk4, K⟩ := K
    obtain ⟨hi5, K⟩ := K
    refine r_jbast (pc := 71) hk4 hi5 (Or.inl (em rfl)) dX24_pad_71 ?_
    refine r_nameH (fun h6 eh6 => ?_)
    have K := K h6 eh6
    refine r_ldc2 (pc := 72) dX24_pad_72 q2337 ?_
    refine r_iload (pc := 75) dX24_pad_75 rfl ?_
    refine r_i2l (pc := 77) dX24_pad_77 ?_
    refine r_lmul (pc := 78) dX24_pad_78 ?_
    refine r_lstore (pc := 79) (lv' := [_, _, _, _, _, _, _, _, _, _]) dX24_pad_79 (by decide) rfl ?_
    refine r_iconst (pc := 81) (x := 0) dX24_pad_81 rfl ?_
    refine r_istore (pc := 82) (lv' := [_, _, _, _, _, _, _, _, _, _]) dX24_pad_82 (by decide) rfl ?_
    refine r_mask (pc := 84) [true, false, false, false, false, true, true, true, false, true] rfl ?_
    exact K
  · have K := K.2 c1
    refine r_aload_n (pc := 50) dX24_pad_50 rfl ?_
    obtain ⟨hk7, K⟩ := K
    have K := K _ rfl
    refine r_getr' (pc := 51) (T := TX24) 24 0 rfl hk7 (Or.inl q2698) dX24_pad_51 kc24 g24000 ?_
    refine r_iload (pc := 54) dX24_pad_54 rfl ?_
    refine r_iconst (pc := 56) (x := 0) dX24_pad_56 rfl ?_
    obtain ⟨hk9, K⟩ := K
    obtain ⟨hi10, K⟩ := K
    refine r_jbast (pc := 57) hk9 hi10 (Or.inl (em rfl)) dX24_pad_57 ?_
    refine r_nameH (fun h11 eh11 => ?_)
    have K := K h11 eh11
    refine r_iinc (pc := 58) (lv' := [_, _, _, _, _, _, _, _, _, _]) dX24_pad_58 rfl rfl (by decide) rfl ?_
    refine r_goto (pc := 61) (tgt := 43) dX24_pad_61 rfl ?_
    refine r_mask (pc := 43) [true, false, false, true, true, true, true, true, false, false] rfl ?_
    exact K
set_option maxHeartbeats 4000000 in
theorem sX24_pad_84 {G : Gx} {d t : Nat} {h0 : AH} {Φ : Out → AH → Prop} (h : AH) (v0 : Nat) (v5 : Int32) (v6 : Int32) (v7 : Int64) (v9 : Int32) (K : ((8 ≤ v9 → Φ (.inl (some (vI v6))) h) ∧ (¬ 8 ≤ v9 → h.kd v0 = 24 ∧ ∀ r3 : Nat, r3 = (h.r 24000 v0) → ((v5 = 0 → h.kd r3 = 101 ∧ vp_in ((v6 - 8) + v9) (h.ai r3).length ∧ ∀ h7 : AH, h7 = h.wi r3 ((h.ai r3).set (((v6 - 8) + v9).toNatClampNeg) (i2b (i2b ((Jushr v7 (8 * v9)).toInt32)))) → Aw G mX24_pad (d + 1) t h0 Φ 84 [vR v0, vU, vU, vU, vU, vI v5, vI v6, vJ v7, vU, vI (v9 + 1)] [] h7) ∧ (¬ v5 = 0 → h.kd r3 = 101 ∧ vp_in ((v6 - 1) - v9) (h.ai r3).length ∧ ∀ h10 : AH, h10 = h.wi r3 ((h.ai r3).set (((v6 - 1) - v9).toNatClampNeg) (i2b (i2b ((Jushr v7 (8 * v9)).toInt32)))) → Aw G mX24_pad (d + 1) t h0 Φ 84 [vR v0, vU, vU, vU, vU, vI v5, vI v6, vJ v7, vU, vI (v9 + 1)] [] h10))))) : Aw G mX24_pad (d + 1) t h0 Φ 84 [vR v0, vU, vU, vU, vU, vI v5, vI v6, vJ v7, vU, vI v9] [] h := by
  refine r_iload (pc := 84) dX24_pad_84 rfl ?_
  refine r_bipush (pc := 86) (x := 8) dX24_pad_86 rfl ?_
  refine r_icmp_ge (pc := 88) (tgt := 135) dX24_pad_88 rfl (fun c1 => ?_) (fun c1 => ?_)
  · have K := K.1 c1
    refine r_iload (pc := 135) dX24_pad_135 rfl ?_
    exact r_iret (pc := 137) rfl rfl dX24_pad_137 K
  · have K := K.2 c1
    refine r_aload_n (pc := 91) dX24_pad_91 rfl ?_
    obtain ⟨hk2, K⟩ := K
    have K := K _ rfl
    refine r_getr' (pc := 92) (T := TX24) 24 0 rfl hk2 (Or.inl q2698) dX24_pad_92 kc24 g24000 ?_
    refine r_iload (pc := 95) dX24_pad_95 rfl ?_
    refine r_if_eq (pc := 97) (tgt := 110) dX24_pad_97 rfl (fun c4 => ?_) (fun c4 => ?_)
    · have K := K.1 c4
      refine r_iload (pc := 110) dX24_pad_110 rfl ?_
      refine r_bipush (pc := 112) (x := 8) dX24_pad_112 rfl ?_
      refine r_isub (pc := 114) dX24_pad_114 ?_
      refine r_iload (pc := 115) dX24_pad_115 rfl ?_
      refine r_iadd (pc := 117) dX24_pad_117 ?_
      refine r_lload (pc := 118) dX24_pad_118 rfl ?_
      refine r_bipush (pc := 120) (x := 8) dX24_pad_120 rfl ?_
      refine r_iload (pc := 122) dX24_pad_122 rfl ?_
      refine r_imul (pc := 124) dX24_pad_124 ?_
      refine r_Jushr (pc := 125) dX24_pad_125 ?_
      refine r_l2i (pc := 126) dX24_pad_126 ?_
      refine r_ji2b (pc := 127) dX24_pad_127 ?_
      obtain ⟨hk5, K⟩ := K
      obtain ⟨hi6, K⟩ := K
      refine r_jbast (pc := 128) hk5 hi6 (Or.inl (em rfl)) dX24_pad_128 ?_
      refine r_nameH (fun h7 eh7 => ?_)
      have K := K h7 eh7
      refine r_iinc (pc := 129) (lv' := [_, _, _, _, _, _, _, _, _, _]) dX24_pad_129 rfl rfl (by decide) rfl ?_
      refine r_goto (pc := 132) (tgt := 84) dX24_pad_132 rfl ?_
      refine r_mask (pc := 84) [true, false, false, false, false, true, true, true, false, true] rfl ?_
      exact K
    · have K := K.2 c4
      refine r_iload (pc := 100) dX24_pad_100 rfl ?_
      refine r_iconst (pc := 102) (x := 1) dX24_pad_102 rfl ?_
      refine r_isub (pc := 103) dX24_pad_103 ?_
      refine r_iload (pc := 104) dX24_pad_104 rfl ?_
      refine r_isub (pc := 106) dX24_pad_106 ?_
      refine r_goto (pc := 107) (tgt := 118) dX24_pad_107 rfl ?_
      refine r_lload (pc := 118) dX24_pad_118 rfl ?_
      refine r_bipush (pc := 120) (x := 8) dX24_pad_120 rfl ?_
      refine r_iload (pc := 122) dX24_pad_122 rfl ?_
      refine r_imul (pc := 124) dX24_pad_124 ?_
      refine r_Jushr (pc := 125) dX24_pad_125 ?_
      refine r_l2i (pc := 126) dX24_pad_126 ?_
      refine r_ji2b (pc := 127) dX24_pad_127 ?_
      obtain ⟨hk8, K⟩ := K
      obtain ⟨hi9, K⟩ := K
      refine r_jbast (pc := 128) hk8 hi9 (Or.inl (em rfl)) dX24_pad_128 ?_
      refine r_nameH (fun h10 eh10 => ?_)
      have K := K h10 eh10
      refine r_iinc (pc := 129) (lv' := [_, _, _, _, _, _, _, _, _, _]) dX24_pad_129 rfl rfl (by decide) rfl ?_
      refine r_goto (pc := 132) (tgt := 84) dX24_pad_132 rfl ?_
      refine r_mask (pc := 84) [true, false, false, false, false, true, true, true, false, true] rfl ?_
      exact K
theorem dX24_turn_0 : decode cX24_turn 0 = .ok (.iload_n 0, 1) := by decide +kernel
theorem dX24_turn_1 : decode cX24_turn 1 = .ok (.iload_n 1, 1) := by decide +kernel
theorem dX24_turn_2 : decode cX24_turn 2 = .ok (.ishl, 1) := by decide +kernel
theorem dX24_turn_3 : decode cX24_turn 3 = .ok (.iload_n 0, 1) := by decide +kernel
theorem dX24_turn_4 : decode cX24_turn 4 = .ok (.bipush 32, 2) := by decide +kernel
theorem dX24_turn_6 : decode cX24_turn 6 = .ok (.iload_n 1, 1) := by decide +kernel
theorem dX24_turn_7 : decode cX24_turn 7 = .ok (.isub, 1) := by decide +kernel
theorem dX24_turn_8 : decode cX24_turn 8 = .ok (.iushr, 1) := by decide +kernel
theorem dX24_turn_9 : decode cX24_turn 9 = .ok (.ior, 1) := by decide +kernel
theorem dX24_turn_10 : decode cX24_turn 10 = .ok (.ireturn, 1) := by decide +kernel
/-! CoinJudgeModel.turn(II)I -/
set_option maxHeartbeats 4000000 in
theorem sX24_turn_0 {G : Gx} {d t : Nat} {h0 : AH} {Φ : Out → AH → Prop} (h : AH) (v0 : Int32) (v1 : Int32) (K : Φ (.inl (some (vI ((jshl v0 v1) ||| (jushr v0 (32 - v1)))))) h) : Aw G mX24_turn (d + 1) t h0 Φ 0 [vI v0, vI v1] [] h := by
  refine r_iload_n (pc := 0) dX24_turn_0 rfl ?_
  refine r_iload_n (pc := 1) dX24_turn_1 rfl ?_
  refine r_jshl (pc := 2) dX24_turn_2 ?_
  refine r_iload_n (pc := 3) dX24_turn_3 rfl ?_
  refine r_bipush (pc := 4) (x := 32) dX24_turn_4 rfl ?_
  refine r_iload_n (pc := 6) dX24_turn_6 rfl ?_
  refine r_isub (pc := 7) dX24_turn_7 ?_
  refine r_jushr (pc := 8) dX24_turn_8 ?_
  refine r_ior (pc := 9) dX24_turn_9 ?_
  exact r_iret (pc := 10) rfl rfl dX24_turn_10 K
theorem eX24_turn {G : Gx} {d : Nat} {Φ : Out → AH → Prop} (h : AH) (v0 : Int32) (v1 : Int32) (K : WF G h → Aw G mX24_turn (d + 1) 0 h Φ 0 [vI v0, vI v1] [] h) : Cw G mX24_turn (d + 1) 0 [vI v0, vI v1] h Φ := Cw.of rfl K
theorem dX24_shaBlock_0 : decode cX24_shaBlock 0 = .ok (.iconst 0, 1) := by decide +kernel
theorem dX24_shaBlock_1 : decode cX24_shaBlock 1 = .ok (.istore_n 3, 1) := by decide +kernel
theorem dX24_shaBlock_2 : decode cX24_shaBlock 2 = .ok (.iload_n 3, 1) := by decide +kernel
theorem dX24_shaBlock_3 : decode cX24_shaBlock 3 = .ok (.bipush 16, 2) := by decide +kernel
theorem dX24_shaBlock_5 : decode cX24_shaBlock 5 = .ok (.if_icmp .ge 77, 3) := by decide +kernel
theorem dX24_shaBlock_8 : decode cX24_shaBlock 8 = .ok (.aload_n 0, 1) := by decide +kernel
theorem dX24_shaBlock_9 : decode cX24_shaBlock 9 = .ok (.getfield 38, 3) := by decide +kernel
theorem dX24_shaBlock_12 : decode cX24_shaBlock 12 = .ok (.iload_n 3, 1) := by decide +kernel
theorem dX24_shaBlock_13 : decode cX24_shaBlock 13 = .ok (.aload_n 1, 1) := by decide +kernel
theorem dX24_shaBlock_14 : decode cX24_shaBlock 14 = .ok (.iload_n 2, 1) := by decide +kernel
theorem dX24_shaBlock_15 : decode cX24_shaBlock 15 = .ok (.iconst 4, 1) := by decide +kernel
theorem dX24_shaBlock_16 : decode cX24_shaBlock 16 = .ok (.iload_n 3, 1) := by decide +kernel
theorem dX24_shaBlock_17 : decode cX24_shaBlock 17 = .ok (.imul, 1) := by decide +kernel
theorem dX24_shaBlock_18 : decode cX24_shaBlock 18 = .ok (.iadd, 1) := by decide +kernel
theorem dX24_shaBlock_19 : decode cX24_shaBlock 19 = .ok (.baload, 1) := by decide +kernel
theorem dX24_shaBlock_20 : decode cX24_shaBlock 20 = .ok (.sipush 255, 3) := by decide +kernel
theorem dX24_shaBlock_23 : decode cX24_shaBlock 23 = .ok (.iand, 1) := by decide +kernel
theorem dX24_shaBlock_24 : decode cX24_shaBlock 24 = .ok (.bipush 24, 2) := by decide +kernel
theorem dX24_shaBlock_26 : decode cX24_shaBlock 26 = .ok (.ishl, 1) := by decide +kernel
theorem dX24_shaBlock_27 : decode cX24_shaBlock 27 = .ok (.aload_n 1, 1) := by decide +kernel
theorem dX24_shaBlock_28 : decode cX24_shaBlock 28 = .ok (.iload_n 2, 1) := by decide +kernel
theorem dX24_shaBlock_29 : decode cX24_shaBlock 29 = .ok (.iconst 4, 1) := by decide +kernel
theorem dX24_shaBlock_30 : decode cX24_shaBlock 30 = .ok (.iload_n 3, 1) := by decide +kernel
theorem dX24_shaBlock_31 : decode cX24_shaBlock 31 = .ok (.imul, 1) := by decide +kernel
theorem dX24_shaBlock_32 : decode cX24_shaBlock 32 = .ok (.iadd, 1) := by decide +kernel
theorem dX24_shaBlock_33 : decode cX24_shaBlock 33 = .ok (.iconst 1, 1) := by decide +kernel
theorem dX24_shaBlock_34 : decode cX24_shaBlock 34 = .ok (.iadd, 1) := by decide +kernel
theorem dX24_shaBlock_35 : decode cX24_shaBlock 35 = .ok (.baload, 1) := by decide +kernel
theorem dX24_shaBlock_36 : decode cX24_shaBlock 36 = .ok (.sipush 255, 3) := by decide +kernel
theorem dX24_shaBlock_39 : decode cX24_shaBlock 39 = .ok (.iand, 1) := by decide +kernel
theorem dX24_shaBlock_40 : decode cX24_shaBlock 40 = .ok (.bipush 16, 2) := by decide +kernel
theorem dX24_shaBlock_42 : decode cX24_shaBlock 42 = .ok (.ishl, 1) := by decide +kernel
theorem dX24_shaBlock_43 : decode cX24_shaBlock 43 = .ok (.ior, 1) := by decide +kernel
theorem dX24_shaBlock_44 : decode cX24_shaBlock 44 = .ok (.aload_n 1, 1) := by decide +kernel
theorem dX24_shaBlock_45 : decode cX24_shaBlock 45 = .ok (.iload_n 2, 1) := by decide +kernel
theorem dX24_shaBlock_46 : decode cX24_shaBlock 46 = .ok (.iconst 4, 1) := by decide +kernel
theorem dX24_shaBlock_47 : decode cX24_shaBlock 47 = .ok (.iload_n 3, 1) := by decide +kernel
theorem dX24_shaBlock_48 : decode cX24_shaBlock 48 = .ok (.imul, 1) := by decide +kernel
theorem dX24_shaBlock_49 : decode cX24_shaBlock 49 = .ok (.iadd, 1) := by decide +kernel
theorem dX24_shaBlock_50 : decode cX24_shaBlock 50 = .ok (.iconst 2, 1) := by decide +kernel
theorem dX24_shaBlock_51 : decode cX24_shaBlock 51 = .ok (.iadd, 1) := by decide +kernel
theorem dX24_shaBlock_52 : decode cX24_shaBlock 52 = .ok (.baload, 1) := by decide +kernel
theorem dX24_shaBlock_53 : decode cX24_shaBlock 53 = .ok (.sipush 255, 3) := by decide +kernel
theorem dX24_shaBlock_56 : decode cX24_shaBlock 56 = .ok (.iand, 1) := by decide +kernel
theorem dX24_shaBlock_57 : decode cX24_shaBlock 57 = .ok (.bipush 8, 2) := by decide +kernel
theorem dX24_shaBlock_59 : decode cX24_shaBlock 59 = .ok (.ishl, 1) := by decide +kernel
theorem dX24_shaBlock_60 : decode cX24_shaBlock 60 = .ok (.ior, 1) := by decide +kernel
theorem dX24_shaBlock_61 : decode cX24_shaBlock 61 = .ok (.aload_n 1, 1) := by decide +kernel
theorem dX24_shaBlock_62 : decode cX24_shaBlock 62 = .ok (.iload_n 2, 1) := by decide +kernel
theorem dX24_shaBlock_63 : decode cX24_shaBlock 63 = .ok (.iconst 4, 1) := by decide +kernel
theorem dX24_shaBlock_64 : decode cX24_shaBlock 64 = .ok (.iload_n 3, 1) := by decide +kernel
theorem dX24_shaBlock_65 : decode cX24_shaBlock 65 = .ok (.imul, 1) := by decide +kernel
theorem dX24_shaBlock_66 : decode cX24_shaBlock 66 = .ok (.iadd, 1) := by decide +kernel
theorem dX24_shaBlock_67 : decode cX24_shaBlock 67 = .ok (.iconst 3, 1) := by decide +kernel
theorem dX24_shaBlock_68 : decode cX24_shaBlock 68 = .ok (.iadd, 1) := by decide +kernel
theorem dX24_shaBlock_69 : decode cX24_shaBlock 69 = .ok (.baload, 1) := by decide +kernel
theorem dX24_shaBlock_70 : decode cX24_shaBlock 70 = .ok (.sipush 255, 3) := by decide +kernel
theorem dX24_shaBlock_73 : decode cX24_shaBlock 73 = .ok (.iand, 1) := by decide +kernel
theorem dX24_shaBlock_74 : decode cX24_shaBlock 74 = .ok (.ior, 1) := by decide +kernel
theorem dX24_shaBlock_75 : decode cX24_shaBlock 75 = .ok (.iastore, 1) := by decide +kernel
theorem dX24_shaBlock_76 : decode cX24_shaBlock 76 = .ok (.iinc 3 1, 3) := by decide +kernel
theorem dX24_shaBlock_79 : decode cX24_shaBlock 79 = .ok (.goto (-77), 3) := by decide +kernel
theorem dX24_shaBlock_82 : decode cX24_shaBlock 82 = .ok (.bipush 16, 2) := by decide +kernel
theorem dX24_shaBlock_84 : decode cX24_shaBlock 84 = .ok (.istore_n 3, 1) := by decide +kernel
theorem dX24_shaBlock_85 : decode cX24_shaBlock 85 = .ok (.iload_n 3, 1) := by decide +kernel
theorem dX24_shaBlock_86 : decode cX24_shaBlock 86 = .ok (.bipush 64, 2) := by decide +kernel
theorem dX24_shaBlock_88 : decode cX24_shaBlock 88 = .ok (.if_icmp .ge 98, 3) := by decide +kernel
theorem dX24_shaBlock_91 : decode cX24_shaBlock 91 = .ok (.aload_n 0, 1) := by decide +kernel
theorem dX24_shaBlock_92 : decode cX24_shaBlock 92 = .ok (.getfield 38, 3) := by decide +kernel
theorem dX24_shaBlock_95 : decode cX24_shaBlock 95 = .ok (.iload_n 3, 1) := by decide +kernel
theorem dX24_shaBlock_96 : decode cX24_shaBlock 96 = .ok (.bipush 15, 2) := by decide +kernel
theorem dX24_shaBlock_98 : decode cX24_shaBlock 98 = .ok (.isub, 1) := by decide +kernel
theorem dX24_shaBlock_99 : decode cX24_shaBlock 99 = .ok (.iaload, 1) := by decide +kernel
theorem dX24_shaBlock_100 : decode cX24_shaBlock 100 = .ok (.istore 4, 2) := by decide +kernel
theorem dX24_shaBlock_102 : decode cX24_shaBlock 102 = .ok (.aload_n 0, 1) := by decide +kernel
theorem dX24_shaBlock_103 : decode cX24_shaBlock 103 = .ok (.getfield 38, 3) := by decide +kernel
theorem dX24_shaBlock_106 : decode cX24_shaBlock 106 = .ok (.iload_n 3, 1) := by decide +kernel
theorem dX24_shaBlock_107 : decode cX24_shaBlock 107 = .ok (.iconst 2, 1) := by decide +kernel
theorem dX24_shaBlock_108 : decode cX24_shaBlock 108 = .ok (.isub, 1) := by decide +kernel
theorem dX24_shaBlock_109 : decode cX24_shaBlock 109 = .ok (.iaload, 1) := by decide +kernel
theorem dX24_shaBlock_110 : decode cX24_shaBlock 110 = .ok (.istore 5, 2) := by decide +kernel
theorem dX24_shaBlock_112 : decode cX24_shaBlock 112 = .ok (.aload_n 0, 1) := by decide +kernel
theorem dX24_shaBlock_113 : decode cX24_shaBlock 113 = .ok (.getfield 38, 3) := by decide +kernel
theorem dX24_shaBlock_116 : decode cX24_shaBlock 116 = .ok (.iload_n 3, 1) := by decide +kernel
theorem dX24_shaBlock_117 : decode cX24_shaBlock 117 = .ok (.aload_n 0, 1) := by decide +kernel
theorem dX24_shaBlock_118 : decode cX24_shaBlock 118 = .ok (.getfield 38, 3) := by decide +kernel
theorem dX24_shaBlock_121 : decode cX24_shaBlock 121 = .ok (.iload_n 3, 1) := by decide +kernel
theorem dX24_shaBlock_122 : decode cX24_shaBlock 122 = .ok (.bipush 16, 2) := by decide +kernel
theorem dX24_shaBlock_124 : decode cX24_shaBlock 124 = .ok (.isub, 1) := by decide +kernel
theorem dX24_shaBlock_125 : decode cX24_shaBlock 125 = .ok (.iaload, 1) := by decide +kernel
theorem dX24_shaBlock_126 : decode cX24_shaBlock 126 = .ok (.iload 4, 2) := by decide +kernel
theorem dX24_shaBlock_128 : decode cX24_shaBlock 128 = .ok (.bipush 25, 2) := by decide +kernel
theorem dX24_shaBlock_130 : decode cX24_shaBlock 130 = .ok (.invokestatic 41, 3) := by decide +kernel
theorem dX24_shaBlock_133 : decode cX24_shaBlock 133 = .ok (.iload 4, 2) := by decide +kernel
theorem dX24_shaBlock_135 : decode cX24_shaBlock 135 = .ok (.bipush 14, 2) := by decide +kernel
theorem dX24_shaBlock_137 : decode cX24_shaBlock 137 = .ok (.invokestatic 41, 3) := by decide +kernel
theorem dX24_shaBlock_140 : decode cX24_shaBlock 140 = .ok (.ixor, 1) := by decide +kernel
theorem dX24_shaBlock_141 : decode cX24_shaBlock 141 = .ok (.iload 4, 2) := by decide +kernel
theorem dX24_shaBlock_143 : decode cX24_shaBlock 143 = .ok (.iconst 3, 1) := by decide +kernel
theorem dX24_shaBlock_144 : decode cX24_shaBlock 144 = .ok (.iushr, 1) := by decide +kernel
theorem dX24_shaBlock_145 : decode cX24_shaBlock 145 = .ok (.ixor, 1) := by decide +kernel
theorem dX24_shaBlock_146 : decode cX24_shaBlock 146 = .ok (.iadd, 1) := by decide +kernel
theorem dX24_shaBlock_147 : decode cX24_shaBlock 147 = .ok (.aload_n 0, 1) := by decide +kernel
theorem dX24_shaBlock_148 : decode cX24_shaBlock 148 = .ok (.getfield 38, 3) := by decide +kernel
theorem dX24_shaBlock_151 : decode cX24_shaBlock 151 = .ok (.iload_n 3, 1) := by decide +kernel
theorem dX24_shaBlock_152 : decode cX24_shaBlock 152 = .ok (.bipush 7, 2) := by decide +kernel
theorem dX24_shaBlock_154 : decode cX24_shaBlock 154 = .ok (.isub, 1) := by decide +kernel
theorem dX24_shaBlock_155 : decode cX24_shaBlock 155 = .ok (.iaload, 1) := by decide +kernel
theorem dX24_shaBlock_156 : decode cX24_shaBlock 156 = .ok (.iadd, 1) := by decide +kernel
theorem dX24_shaBlock_157 : decode cX24_shaBlock 157 = .ok (.iload 5, 2) := by decide +kernel
theorem dX24_shaBlock_159 : decode cX24_shaBlock 159 = .ok (.bipush 15, 2) := by decide +kernel
theorem dX24_shaBlock_161 : decode cX24_shaBlock 161 = .ok (.invokestatic 41, 3) := by decide +kernel
theorem dX24_shaBlock_164 : decode cX24_shaBlock 164 = .ok (.iload 5, 2) := by decide +kernel
theorem dX24_shaBlock_166 : decode cX24_shaBlock 166 = .ok (.bipush 13, 2) := by decide +kernel
theorem dX24_shaBlock_168 : decode cX24_shaBlock 168 = .ok (.invokestatic 41, 3) := by decide +kernel
theorem dX24_shaBlock_171 : decode cX24_shaBlock 171 = .ok (.ixor, 1) := by decide +kernel
theorem dX24_shaBlock_172 : decode cX24_shaBlock 172 = .ok (.iload 5, 2) := by decide +kernel
theorem dX24_shaBlock_174 : decode cX24_shaBlock 174 = .ok (.bipush 10, 2) := by decide +kernel
theorem dX24_shaBlock_176 : decode cX24_shaBlock 176 = .ok (.iushr, 1) := by decide +kernel
theorem dX24_shaBlock_177 : decode cX24_shaBlock 177 = .ok (.ixor, 1) := by decide +kernel
theorem dX24_shaBlock_178 : decode cX24_shaBlock 178 = .ok (.iadd, 1) := by decide +kernel
theorem dX24_shaBlock_179 : decode cX24_shaBlock 179 = .ok (.iastore, 1) := by decide +kernel
theorem dX24_shaBlock_180 : decode cX24_shaBlock 180 = .ok (.iinc 3 1, 3) := by decide +kernel
theorem dX24_shaBlock_183 : decode cX24_shaBlock 183 = .ok (.goto (-98), 3) := by decide +kernel
theorem dX24_shaBlock_186 : decode cX24_shaBlock 186 = .ok (.iconst 0, 1) := by decide +kernel
theorem dX24_shaBlock_187 : decode cX24_shaBlock 187 = .ok (.istore_n 3, 1) := by decide +kernel
theorem dX24_shaBlock_188 : decode cX24_shaBlock 188 = .ok (.iload_n 3, 1) := by decide +kernel
theorem dX24_shaBlock_189 : decode cX24_shaBlock 189 = .ok (.bipush 8, 2) := by decide +kernel
theorem dX24_shaBlock_191 : decode cX24_shaBlock 191 = .ok (.if_icmp .ge 21, 3) := by decide +kernel
theorem dX24_shaBlock_194 : decode cX24_shaBlock 194 = .ok (.aload_n 0, 1) := by decide +kernel
theorem dX24_shaBlock_195 : decode cX24_shaBlock 195 = .ok (.getfield 45, 3) := by decide +kernel
theorem dX24_shaBlock_198 : decode cX24_shaBlock 198 = .ok (.iload_n 3, 1) := by decide +kernel
theorem dX24_shaBlock_199 : decode cX24_shaBlock 199 = .ok (.aload_n 0, 1) := by decide +kernel
theorem dX24_shaBlock_200 : decode cX24_shaBlock 200 = .ok (.getfield 19, 3) := by decide +kernel
theorem dX24_shaBlock_203 : decode cX24_shaBlock 203 = .ok (.iload_n 3, 1) := by decide +kernel
theorem dX24_shaBlock_204 : decode cX24_shaBlock 204 = .ok (.iaload, 1) := by decide +kernel
theorem dX24_shaBlock_205 : decode cX24_shaBlock 205 = .ok (.iastore, 1) := by decide +kernel
theorem dX24_shaBlock_206 : decode cX24_shaBlock 206 = .ok (.iinc 3 1, 3) := by decide +kernel
theorem dX24_shaBlock_209 : decode cX24_shaBlock 209 = .ok (.goto (-21), 3) := by decide +kernel
theorem dX24_shaBlock_212 : decode cX24_shaBlock 212 = .ok (.iconst 0, 1) := by decide +kernel
theorem dX24_shaBlock_213 : decode cX24_shaBlock 213 = .ok (.istore_n 3, 1) := by decide +kernel
theorem dX24_shaBlock_214 : decode cX24_shaBlock 214 = .ok (.iload_n 3, 1) := by decide +kernel
theorem dX24_shaBlock_215 : decode cX24_shaBlock 215 = .ok (.bipush 64, 2) := by decide +kernel
theorem dX24_shaBlock_217 : decode cX24_shaBlock 217 = .ok (.if_icmp .ge 231, 3) := by decide +kernel
theorem dX24_shaBlock_220 : decode cX24_shaBlock 220 = .ok (.aload_n 0, 1) := by decide +kernel
theorem dX24_shaBlock_221 : decode cX24_shaBlock 221 = .ok (.getfield 45, 3) := by decide +kernel
theorem dX24_shaBlock_224 : decode cX24_shaBlock 224 = .ok (.bipush 7, 2) := by decide +kernel
theorem dX24_shaBlock_226 : decode cX24_shaBlock 226 = .ok (.iaload, 1) := by decide +kernel
theorem dX24_shaBlock_227 : decode cX24_shaBlock 227 = .ok (.aload_n 0, 1) := by decide +kernel
theorem dX24_shaBlock_228 : decode cX24_shaBlock 228 = .ok (.getfield 45, 3) := by decide +kernel
theorem dX24_shaBlock_231 : decode cX24_shaBlock 231 = .ok (.iconst 4, 1) := by decide +kernel
theorem dX24_shaBlock_232 : decode cX24_shaBlock 232 = .ok (.iaload, 1) := by decide +kernel
theorem dX24_shaBlock_233 : decode cX24_shaBlock 233 = .ok (.bipush 26, 2) := by decide +kernel
theorem dX24_shaBlock_235 : decode cX24_shaBlock 235 = .ok (.invokestatic 41, 3) := by decide +kernel
theorem dX24_shaBlock_238 : decode cX24_shaBlock 238 = .ok (.aload_n 0, 1) := by decide +kernel
theorem dX24_shaBlock_239 : decode cX24_shaBlock 239 = .ok (.getfield 45, 3) := by decide +kernel
theorem dX24_shaBlock_242 : decode cX24_shaBlock 242 = .ok (.iconst 4, 1) := by decide +kernel
theorem dX24_shaBlock_243 : decode cX24_shaBlock 243 = .ok (.iaload, 1) := by decide +kernel
theorem dX24_shaBlock_244 : decode cX24_shaBlock 244 = .ok (.bipush 21, 2) := by decide +kernel
theorem dX24_shaBlock_246 : decode cX24_shaBlock 246 = .ok (.invokestatic 41, 3) := by decide +kernel
theorem dX24_shaBlock_249 : decode cX24_shaBlock 249 = .ok (.ixor, 1) := by decide +kernel
theorem dX24_shaBlock_250 : decode cX24_shaBlock 250 = .ok (.aload_n 0, 1) := by decide +kernel
theorem dX24_shaBlock_251 : decode cX24_shaBlock 251 = .ok (.getfield 45, 3) := by decide +kernel
theorem dX24_shaBlock_254 : decode cX24_shaBlock 254 = .ok (.iconst 4, 1) := by decide +kernel
theorem dX24_shaBlock_255 : decode cX24_shaBlock 255 = .ok (.iaload, 1) := by decide +kernel
theorem dX24_shaBlock_256 : decode cX24_shaBlock 256 = .ok (.bipush 7, 2) := by decide +kernel
theorem dX24_shaBlock_258 : decode cX24_shaBlock 258 = .ok (.invokestatic 41, 3) := by decide +kernel
theorem dX24_shaBlock_261 : decode cX24_shaBlock 261 = .ok (.ixor, 1) := by decide +kernel
theorem dX24_shaBlock_262 : decode cX24_shaBlock 262 = .ok (.iadd, 1) := by decide +kernel
theorem dX24_shaBlock_263 : decode cX24_shaBlock 263 = .ok (.aload_n 0, 1) := by decide +kernel
theorem dX24_shaBlock_264 : decode cX24_shaBlock 264 = .ok (.getfield 45, 3) := by decide +kernel
theorem dX24_shaBlock_267 : decode cX24_shaBlock 267 = .ok (.iconst 4, 1) := by decide +kernel
theorem dX24_shaBlock_268 : decode cX24_shaBlock 268 = .ok (.iaload, 1) := by decide +kernel
theorem dX24_shaBlock_269 : decode cX24_shaBlock 269 = .ok (.aload_n 0, 1) := by decide +kernel
theorem dX24_shaBlock_270 : decode cX24_shaBlock 270 = .ok (.getfield 45, 3) := by decide +kernel
theorem dX24_shaBlock_273 : decode cX24_shaBlock 273 = .ok (.iconst 5, 1) := by decide +kernel
theorem dX24_shaBlock_274 : decode cX24_shaBlock 274 = .ok (.iaload, 1) := by decide +kernel
theorem dX24_shaBlock_275 : decode cX24_shaBlock 275 = .ok (.iand, 1) := by decide +kernel
theorem dX24_shaBlock_276 : decode cX24_shaBlock 276 = .ok (.aload_n 0, 1) := by decide +kernel
theorem dX24_shaBlock_277 : decode cX24_shaBlock 277 = .ok (.getfield 45, 3) := by decide +kernel
theorem dX24_shaBlock_280 : decode cX24_shaBlock 280 = .ok (.iconst 4, 1) := by decide +kernel
theorem dX24_shaBlock_281 : decode cX24_shaBlock 281 = .ok (.iaload, 1) := by decide +kernel
theorem dX24_shaBlock_282 : decode cX24_shaBlock 282 = .ok (.iconst (-1), 1) := by decide +kernel
theorem dX24_shaBlock_283 : decode cX24_shaBlock 283 = .ok (.ixor, 1) := by decide +kernel
theorem dX24_shaBlock_284 : decode cX24_shaBlock 284 = .ok (.aload_n 0, 1) := by decide +kernel
theorem dX24_shaBlock_285 : decode cX24_shaBlock 285 = .ok (.getfield 45, 3) := by decide +kernel
theorem dX24_shaBlock_288 : decode cX24_shaBlock 288 = .ok (.bipush 6, 2) := by decide +kernel
theorem dX24_shaBlock_290 : decode cX24_shaBlock 290 = .ok (.iaload, 1) := by decide +kernel
theorem dX24_shaBlock_291 : decode cX24_shaBlock 291 = .ok (.iand, 1) := by decide +kernel
theorem dX24_shaBlock_292 : decode cX24_shaBlock 292 = .ok (.ixor, 1) := by decide +kernel
theorem dX24_shaBlock_293 : decode cX24_shaBlock 293 = .ok (.iadd, 1) := by decide +kernel
theorem dX24_shaBlock_294 : decode cX24_shaBlock 294 = .ok (.aload_n 0, 1) := by decide +kernel
theorem dX24_shaBlock_295 : decode cX24_shaBlock 295 = .ok (.getfield 48, 3) := by decide +kernel
theorem dX24_shaBlock_298 : decode cX24_shaBlock 298 = .ok (.iload_n 3, 1) := by decide +kernel
theorem dX24_shaBlock_299 : decode cX24_shaBlock 299 = .ok (.iaload, 1) := by decide +kernel
theorem dX24_shaBlock_300 : decode cX24_shaBlock 300 = .ok (.iadd, 1) := by decide +kernel
theorem dX24_shaBlock_301 : decode cX24_shaBlock 301 = .ok (.aload_n 0, 1) := by decide +kernel
theorem dX24_shaBlock_302 : decode cX24_shaBlock 302 = .ok (.getfield 38, 3) := by decide +kernel
theorem dX24_shaBlock_305 : decode cX24_shaBlock 305 = .ok (.iload_n 3, 1) := by decide +kernel
theorem dX24_shaBlock_306 : decode cX24_shaBlock 306 = .ok (.iaload, 1) := by decide +kernel
theorem dX24_shaBlock_307 : decode cX24_shaBlock 307 = .ok (.iadd, 1) := by decide +kernel
theorem dX24_shaBlock_308 : decode cX24_shaBlock 308 = .ok (.istore 4, 2) := by decide +kernel
theorem dX24_shaBlock_310 : decode cX24_shaBlock 310 = .ok (.aload_n 0, 1) := by decide +kernel
theorem dX24_shaBlock_311 : decode cX24_shaBlock 311 = .ok (.getfield 45, 3) := by decide +kernel
theorem dX24_shaBlock_314 : decode cX24_shaBlock 314 = .ok (.iconst 0, 1) := by decide +kernel
theorem dX24_shaBlock_315 : decode cX24_shaBlock 315 = .ok (.iaload, 1) := by decide +kernel
theorem dX24_shaBlock_316 : decode cX24_shaBlock 316 = .ok (.bipush 30, 2) := by decide +kernel
theorem dX24_shaBlock_318 : decode cX24_shaBlock 318 = .ok (.invokestatic 41, 3) := by decide +kernel
theorem dX24_shaBlock_321 : decode cX24_shaBlock 321 = .ok (.aload_n 0, 1) := by decide +kernel
theorem dX24_shaBlock_322 : decode cX24_shaBlock 322 = .ok (.getfield 45, 3) := by decide +kernel
theorem dX24_shaBlock_325 : decode cX24_shaBlock 325 = .ok (.iconst 0, 1) := by decide +kernel
theorem dX24_shaBlock_326 : decode cX24_shaBlock 326 = .ok (.iaload, 1) := by decide +kernel
theorem dX24_shaBlock_327 : decode cX24_shaBlock 327 = .ok (.bipush 19, 2) := by decide +kernel
theorem dX24_shaBlock_329 : decode cX24_shaBlock 329 = .ok (.invokestatic 41, 3) := by decide +kernel
theorem dX24_shaBlock_332 : decode cX24_shaBlock 332 = .ok (.ixor, 1) := by decide +kernel
theorem dX24_shaBlock_333 : decode cX24_shaBlock 333 = .ok (.aload_n 0, 1) := by decide +kernel
theorem dX24_shaBlock_334 : decode cX24_shaBlock 334 = .ok (.getfield 45, 3) := by decide +kernel
theorem dX24_shaBlock_337 : decode cX24_shaBlock 337 = .ok (.iconst 0, 1) := by decide +kernel
theorem dX24_shaBlock_338 : decode cX24_shaBlock 338 = .ok (.iaload, 1) := by decide +kernel
theorem dX24_shaBlock_339 : decode cX24_shaBlock 339 = .ok (.bipush 10, 2) := by decide +kernel
theorem dX24_shaBlock_341 : decode cX24_shaBlock 341 = .ok (.invokestatic 41, 3) := by decide +kernel
theorem dX24_shaBlock_344 : decode cX24_shaBlock 344 = .ok (.ixor, 1) := by decide +kernel
theorem dX24_shaBlock_345 : decode cX24_shaBlock 345 = .ok (.aload_n 0, 1) := by decide +kernel
theorem dX24_shaBlock_346 : decode cX24_shaBlock 346 = .ok (.getfield 45, 3) := by decide +kernel
theorem dX24_shaBlock_349 : decode cX24_shaBlock 349 = .ok (.iconst 0, 1) := by decide +kernel
theorem dX24_shaBlock_350 : decode cX24_shaBlock 350 = .ok (.iaload, 1) := by decide +kernel
theorem dX24_shaBlock_351 : decode cX24_shaBlock 351 = .ok (.aload_n 0, 1) := by decide +kernel
theorem dX24_shaBlock_352 : decode cX24_shaBlock 352 = .ok (.getfield 45, 3) := by decide +kernel
theorem dX24_shaBlock_355 : decode cX24_shaBlock 355 = .ok (.iconst 1, 1) := by decide +kernel
theorem dX24_shaBlock_356 : decode cX24_shaBlock 356 = .ok (.iaload, 1) := by decide +kernel
theorem dX24_shaBlock_357 : decode cX24_shaBlock 357 = .ok (.iand, 1) := by decide +kernel
theorem dX24_shaBlock_358 : decode cX24_shaBlock 358 = .ok (.aload_n 0, 1) := by decide +kernel
theorem dX24_shaBlock_359 : decode cX24_shaBlock 359 = .ok (.getfield 45, 3) := by decide +kernel
theorem dX24_shaBlock_362 : decode cX24_shaBlock 362 = .ok (.iconst 0, 1) := by decide +kernel
theorem dX24_shaBlock_363 : decode cX24_shaBlock 363 = .ok (.iaload, 1) := by decide +kernel
theorem dX24_shaBlock_364 : decode cX24_shaBlock 364 = .ok (.aload_n 0, 1) := by decide +kernel
theorem dX24_shaBlock_365 : decode cX24_shaBlock 365 = .ok (.getfield 45, 3) := by decide +kernel
theorem dX24_shaBlock_368 : decode cX24_shaBlock 368 = .ok (.iconst 2, 1) := by decide +kernel
theorem dX24_shaBlock_369 : decode cX24_shaBlock 369 = .ok (.iaload, 1) := by decide +kernel
theorem dX24_shaBlock_370 : decode cX24_shaBlock 370 = .ok (.iand, 1) := by decide +kernel
theorem dX24_shaBlock_371 : decode cX24_shaBlock 371 = .ok (.ixor, 1) := by decide +kernel
theorem dX24_shaBlock_372 : decode cX24_shaBlock 372 = .ok (.aload_n 0, 1) := by decide +kernel
theorem dX24_shaBlock_373 : decode cX24_shaBlock 373 = .ok (.getfield 45, 3) := by decide +kernel
theorem dX24_shaBlock_376 : decode cX24_shaBlock 376 = .ok (.iconst 1, 1) := by decide +kernel
theorem dX24_shaBlock_377 : decode cX24_shaBlock 377 = .ok (.iaload, 1) := by decide +kernel
theorem dX24_shaBlock_378 : decode cX24_shaBlock 378 = .ok (.aload_n 0, 1) := by decide +kernel
theorem dX24_shaBlock_379 : decode cX24_shaBlock 379 = .ok (.getfield 45, 3) := by decide +kernel
theorem dX24_shaBlock_382 : decode cX24_shaBlock 382 = .ok (.iconst 2, 1) := by decide +kernel
theorem dX24_shaBlock_383 : decode cX24_shaBlock 383 = .ok (.iaload, 1) := by decide +kernel
theorem dX24_shaBlock_384 : decode cX24_shaBlock 384 = .ok (.iand, 1) := by decide +kernel
theorem dX24_shaBlock_385 : decode cX24_shaBlock 385 = .ok (.ixor, 1) := by decide +kernel
theorem dX24_shaBlock_386 : decode cX24_shaBlock 386 = .ok (.iadd, 1) := by decide +kernel
theorem dX24_shaBlock_387 : decode cX24_shaBlock 387 = .ok (.istore 5, 2) := by decide +kernel
theorem dX24_shaBlock_389 : decode cX24_shaBlock 389 = .ok (.bipush 7, 2) := by decide +kernel
theorem dX24_shaBlock_391 : decode cX24_shaBlock 391 = .ok (.istore 6, 2) := by decide +kernel
theorem dX24_shaBlock_393 : decode cX24_shaBlock 393 = .ok (.iload 6, 2) := by decide +kernel
theorem dX24_shaBlock_395 : decode cX24_shaBlock 395 = .ok (.ifCond .le 25, 3) := by decide +kernel
theorem dX24_shaBlock_398 : decode cX24_shaBlock 398 = .ok (.aload_n 0, 1) := by decide +kernel
theorem dX24_shaBlock_399 : decode cX24_shaBlock 399 = .ok (.getfield 45, 3) := by decide +kernel
theorem dX24_shaBlock_402 : decode cX24_shaBlock 402 = .ok (.iload 6, 2) := by decide +kernel
theorem dX24_shaBlock_404 : decode cX24_shaBlock 404 = .ok (.aload_n 0, 1) := by decide +kernel
theorem dX24_shaBlock_405 : decode cX24_shaBlock 405 = .ok (.getfield 45, 3) := by decide +kernel
theorem dX24_shaBlock_408 : decode cX24_shaBlock 408 = .ok (.iload 6, 2) := by decide +kernel
theorem dX24_shaBlock_410 : decode cX24_shaBlock 410 = .ok (.iconst 1, 1) := by decide +kernel
theorem dX24_shaBlock_411 : decode cX24_shaBlock 411 = .ok (.isub, 1) := by decide +kernel
theorem dX24_shaBlock_412 : decode cX24_shaBlock 412 = .ok (.iaload, 1) := by decide +kernel
theorem dX24_shaBlock_413 : decode cX24_shaBlock 413 = .ok (.iastore, 1) := by decide +kernel
theorem dX24_shaBlock_414 : decode cX24_shaBlock 414 = .ok (.iinc 6 (-1), 3) := by decide +kernel
theorem dX24_shaBlock_417 : decode cX24_shaBlock 417 = .ok (.goto (-24), 3) := by decide +kernel
theorem dX24_shaBlock_420 : decode cX24_shaBlock 420 = .ok (.aload_n 0, 1) := by decide +kernel
theorem dX24_shaBlock_421 : decode cX24_shaBlock 421 = .ok (.getfield 45, 3) := by decide +kernel
theorem dX24_shaBlock_424 : decode cX24_shaBlock 424 = .ok (.iconst 4, 1) := by decide +kernel
theorem dX24_shaBlock_425 : decode cX24_shaBlock 425 = .ok (.dup2, 1) := by decide +kernel
theorem dX24_shaBlock_426 : decode cX24_shaBlock 426 = .ok (.iaload, 1) := by decide +kernel
theorem dX24_shaBlock_427 : decode cX24_shaBlock 427 = .ok (.iload 4, 2) := by decide +kernel
theorem dX24_shaBlock_429 : decode cX24_shaBlock 429 = .ok (.iadd, 1) := by decide +kernel
theorem dX24_shaBlock_430 : decode cX24_shaBlock 430 = .ok (.iastore, 1) := by decide +kernel
theorem dX24_shaBlock_431 : decode cX24_shaBlock 431 = .ok (.aload_n 0, 1) := by decide +kernel
theorem dX24_shaBlock_432 : decode cX24_shaBlock 432 = .ok (.getfield 45, 3) := by decide +kernel
theorem dX24_shaBlock_435 : decode cX24_shaBlock 435 = .ok (.iconst 0, 1) := by decide +kernel
theorem dX24_shaBlock_436 : decode cX24_shaBlock 436 = .ok (.iload 4, 2) := by decide +kernel
theorem dX24_shaBlock_438 : decode cX24_shaBlock 438 = .ok (.iload 5, 2) := by decide +kernel
theorem dX24_shaBlock_440 : decode cX24_shaBlock 440 = .ok (.iadd, 1) := by decide +kernel
theorem dX24_shaBlock_441 : decode cX24_shaBlock 441 = .ok (.iastore, 1) := by decide +kernel
theorem dX24_shaBlock_442 : decode cX24_shaBlock 442 = .ok (.iinc 3 1, 3) := by decide +kernel
theorem dX24_shaBlock_445 : decode cX24_shaBlock 445 = .ok (.goto (-231), 3) := by decide +kernel
theorem dX24_shaBlock_448 : decode cX24_shaBlock 448 = .ok (.iconst 0, 1) := by decide +kernel
theorem dX24_shaBlock_449 : decode cX24_shaBlock 449 = .ok (.istore_n 3, 1) := by decide +kernel
theorem dX24_shaBlock_450 : decode cX24_shaBlock 450 = .ok (.iload_n 3, 1) := by decide +kernel
theorem dX24_shaBlock_451 : decode cX24_shaBlock 451 = .ok (.bipush 8, 2) := by decide +kernel
theorem dX24_shaBlock_453 : decode cX24_shaBlock 453 = .ok (.if_icmp .ge 24, 3) := by decide +kernel
theorem dX24_shaBlock_456 : decode cX24_shaBlock 456 = .ok (.aload_n 0, 1) := by decide +kernel
theorem dX24_shaBlock_457 : decode cX24_shaBlock 457 = .ok (.getfield 19, 3) := by decide +kernel
theorem dX24_shaBlock_460 : decode cX24_shaBlock 460 = .ok (.iload_n 3, 1) := by decide +kernel
theorem dX24_shaBlock_461 : decode cX24_shaBlock 461 = .ok (.dup2, 1) := by decide +kernel
theorem dX24_shaBlock_462 : decode cX24_shaBlock 462 = .ok (.iaload, 1) := by decide +kernel
theorem dX24_shaBlock_463 : decode cX24_shaBlock 463 = .ok (.aload_n 0, 1) := by decide +kernel
theorem dX24_shaBlock_464 : decode cX24_shaBlock 464 = .ok (.getfield 45, 3) := by decide +kernel
theorem dX24_shaBlock_467 : decode cX24_shaBlock 467 = .ok (.iload_n 3, 1) := by decide +kernel
theorem dX24_shaBlock_468 : decode cX24_shaBlock 468 = .ok (.iaload, 1) := by decide +kernel
theorem dX24_shaBlock_469 : decode cX24_shaBlock 469 = .ok (.iadd, 1) := by decide +kernel
theorem dX24_shaBlock_470 : decode cX24_shaBlock 470 = .ok (.iastore, 1) := by decide +kernel
theorem dX24_shaBlock_471 : decode cX24_shaBlock 471 = .ok (.iinc 3 1, 3) := by decide +kernel
theorem dX24_shaBlock_474 : decode cX24_shaBlock 474 = .ok (.goto (-24), 3) := by decide +kernel
theorem dX24_shaBlock_477 : decode cX24_shaBlock 477 = .ok (.return_, 1) := by decide +kernel
/-! CoinJudgeModel.shaBlock([BI)V -/
set_option maxHeartbeats 4000000 in
theorem sX24_shaBlock_0 {G : Gx} {d t : Nat} {h0 : AH} {Φ : Out → AH → Prop} (h : AH) (v0 : Nat) (v1 : Nat) (v2 : Int32) (K : Aw G mX24_shaBlock (d + 1) t h0 Φ 2 [vR v0, vR v1, vI v2, vI 0, vU, vU, vU] [] h) : Aw G mX24_shaBlock (d + 1) t h0 Φ 0 [vR v0, vR v1, vI v2, vU, vU, vU, vU] [] h := by
  refine r_iconst (pc := 0) (x := 0) dX24_shaBlock_0 rfl ?_
  refine r_istore_n (pc := 1) (lv' := [_, _, _, _, _, _, _]) dX24_shaBlock_1 (by decide) rfl ?_
  refine r_mask (pc := 2) [true, true, true, true, false, false, false] rfl ?_
  exact K
theorem eX24_shaBlock {G : Gx} {d : Nat} {Φ : Out → AH → Prop} (h : AH) (v0 : Nat) (v1 : Nat) (v2 : Int32) (K : WF G h → Aw G mX24_shaBlock (d + 1) 0 h Φ 0 [vR v0, vR v1, vI v2, vU, vU, vU, vU] [] h) : Cw G mX24_shaBlock (d + 1) 0 [vR v0, vR v1, vI v2] h Φ := Cw.of rfl K
set_option maxHeartbeats 4000000 in
theorem sX24_shaBlock_2 {G : Gx} {d t : Nat} {h0 : AH} {Φ : Out → AH → Prop} (h : AH) (v0 : Nat) (v1 : Nat) (v2 : Int32) (v3 : Int32) (K : ((16 ≤ v3 → Aw G mX24_shaBlock (d + 1) t h0 Φ 85 [vR v0, vU, vU, vI 16, vU, vU, vU] [] h) ∧ (¬ 16 ≤ v3 → h.kd v0 = 24 ∧ ∀ r3 : Nat, r3 = (h.r 24002 v0) → h.kd v1 = 101 ∧ vp_in (v2 + (4 * v3)) (h.ai v1).length ∧ vp_in ((v2 + (4 * v3)) + 1) (h.ai v1).length ∧ vp_in ((v2 + (4 * v3)) + 2) (h.ai v1).length ∧ vp_in ((v2 + (4 * v3)) + 3) (h.ai v1).length ∧ h.kd r3 = 100 ∧ vp_in v3 (h.ai r3).length ∧ ∀ h11 : AH, h11 = h.wi r3 ((h.ai r3).set (v3.toNatClampNeg) ((((jshl (((h.ai v1).getD ((v2 + (4 * v3)).toNatClampNeg) 0) &&& 255) 24) ||| (jshl (((h.ai v1).getD (((v2 + (4 * v3)) + 1).toNatClampNeg) 0) &&& 255) 16)) ||| (jshl (((h.ai v1).getD (((v2 + (4 * v3)) + 2).toNatClampNeg) 0) &&& 255) 8)) ||| (((h.ai v1).getD (((v2 + (4 * v3)) + 3).toNatClampNeg) 0) &&& 255))) → Aw G mX24_shaBlock (d + 1) t h0 Φ 2 [vR v0, vR v1, vI v2, vI (v3 + 1), vU, vU, vU] [] h11))) : Aw G mX24_shaBlock (d + 1) t h0 Φ 2 [vR v0, vR v1, vI v2, vI v3, vU, vU, vU] [] h := by
  refine r_iload_n (pc := 2) dX24_shaBlock_2 rfl ?_
  refine r_bipush (pc := 3) (x := 16) dX24_shaBlock_3 rfl ?_
  refine r_icmp_ge (pc := 5) (tgt := 82) dX24_shaBlock_5 rfl (fun c1 => ?_) (fun c1 => ?_)
  · have K := K.1 c1
    refine r_bipush (pc := 82) (x := 16) dX24_shaBlock_82 rfl ?_
    refine r_istore_n (pc := 84) (lv' := [_, _, _, _, _, _, _]) dX24_shaBlock_84 (by decide) rfl ?_
    refine r_mask (pc := 85) [true, false, false, true, false, false, false] rfl ?_
    exact K
  · have K := K.2 c1
    refine r_aload_n (pc := 8) dX24_shaBlock_8 rfl ?_
    obtain ⟨hk2, K⟩ := K
    have K := K _ rfl
    refine r_getr' (pc := 9) (T := TX24) 24 2 rfl hk2 (Or.inl q2700) dX24_shaBlock_9 kc24 g24002 ?_
    refine r_iload_n (pc := 12) dX24_shaBlock_12 rfl ?_
    refine r_aload_n (pc := 13) dX24_shaBlock_13 rfl ?_
    refine r_iload_n (pc := 14) dX24_shaBlock_14 rfl ?_
    refine r_iconst (pc := 15) (x := 4) dX24_shaBlock_15 rfl ?_
    refine r_iload_n (pc := 16) dX24_shaBlock_16 rfl ?_
    refine r_imul (pc := 17) dX24_shaBlock_17 ?_
    refine r_iadd (pc := 18) dX24_shaBlock_18 ?_
    obtain ⟨hk4, K⟩ := K
    obtain ⟨hi5, K⟩ := K
    refine r_baload (pc := 19) hk4 hi5 dX24_shaBlock_19 ?_
    refine r_sipush (pc := 20) (x := 255) dX24_shaBlock_20 rfl ?_
    refine r_iand (pc := 23) dX24_shaBlock_23 ?_
    refine r_bipush (pc := 24) (x := 24) dX24_shaBlock_24 rfl ?_
    refine r_jshl (pc := 26) dX24_shaBlock_26 ?_
    refine r_aload_n (pc := 27) dX24_shaBlock_27 rfl ?_
    refine r_iload_n (pc := 28) dX24_shaBlock_28 rfl ?_
    refine r_iconst (pc := 29) (x := 4) dX24_shaBlock_29 rfl ?_
    refine r_iload_n (pc := 30) dX24_shaBlock_30 rfl ?_
    refine r_imul (pc := 31) dX24_shaBlock_31 ?_
    refine r_iadd (pc := 32) dX24_shaBlock_32 ?_
    refine r_iconst (pc := 33) (x := 1) dX24_shaBlock_33 rfl ?_
    refine r_iadd (pc := 34) dX24_shaBlock_34 ?_
    obtain ⟨hi6, K⟩ := K
    refine r_baload (pc := 35) hk4 hi6 dX24_shaBlock_35 ?_
    refine r_sipush (pc := 36) (x := 255) dX24_shaBlock_36 rfl ?_
    refine r_iand (pc := 39) dX24_shaBlock_39 ?_
    refine r_bipush (pc := 40) (x := 16) dX24_shaBlock_40 rfl ?_
    refine r_jshl (pc := 42) dX24_shaBlock_42 ?_
    refine r_ior (pc := 43) dX24_shaBlock_43 ?_
    refine r_aload_n (pc := 44) dX24_shaBlock_44 rfl ?_
    refine r_iload_n (pc := 45) dX24_shaBlock_45 rfl ?_
    refine r_iconst (pc := 46) (x := 4) dX24_shaBlock_46 rfl ?_
    refine r_iload_n (pc := 47) dX24_shaBlock_47 rfl ?_
    refine r_imul (pc := 48) dX24_shaBlock_48 ?_
    refine r_iadd (pc := 49) dX24_shaBlock_49 ?_
    refine r_iconst (pc := 50) (x := 2) dX24_shaBlock_50 rfl ?_
    refine r_iadd (pc := 51) dX24_shaBlock_51 ?_
    obtain ⟨hi7, K⟩ := K
    refine r_baload (pc := 52) hk4 hi7 dX24_shaBlock_52 ?_
    refine r_sipush (pc := 53) (x := 255) dX24_shaBlock_53 rfl ?_
    refine r_iand (pc := 56) dX24_shaBlock_56 ?_
    refine r_bipush (pc := 57) (x := 8) dX24_shaBlock_57 rfl ?_
    refine r_jshl (pc := 59) dX24_shaBlock_59 ?_
    refine r_ior (pc := 60) dX24_shaBlock_60 ?_
    refine r_aload_n (pc := 61) dX24_shaBlock_61 rfl ?_
    refine r_iload_n (pc := 62) dX24_shaBlock_62 rfl ?_
    refine r_iconst (pc := 63) (x := 4) dX24_shaBlock_63 rfl ?_
    refine r_iload_n (pc := 64) dX24_shaBlock_64 rfl ?_
    refine r_imul (pc := 65) dX24_shaBlock_65 ?_
    refine r_iadd (pc := 66) dX24_shaBlock_66 ?_
    refine r_iconst (pc := 67) (x := 3) dX24_shaBlock_67 rfl ?_
    refine r_iadd (pc := 68) dX24_shaBlock_68 ?_
    obtain ⟨hi8, K⟩ := K
    refine r_baload (pc := 69) hk4 hi8 dX24_shaBlock_69 ?_
    refine r_sipush (pc := 70) (x := 255) dX24_shaBlock_70 rfl ?_
    refine r_iand (pc := 73) dX24_shaBlock_73 ?_
    refine r_ior (pc := 74) dX24_shaBlock_74 ?_
    obtain ⟨hk9, K⟩ := K
    obtain ⟨hi10, K⟩ := K
    refine r_iastore (pc := 75) hk9 hi10 (Or.inl (em rfl)) dX24_shaBlock_75 ?_
    refine r_nameH (fun h11 eh11 => ?_)
    have K := K h11 eh11
    refine r_iinc (pc := 76) (lv' := [_, _, _, _, _, _, _]) dX24_shaBlock_76 rfl rfl (by decide) rfl ?_
    refine r_goto (pc := 79) (tgt := 2) dX24_shaBlock_79 rfl ?_
    refine r_mask (pc := 2) [true, true, true, true, false, false, false] rfl ?_
    exact K
set_option maxHeartbeats 4000000 in
theorem sX24_shaBlock_85 {G : Gx} {d t : Nat} {h0 : AH} {Φ : Out → AH → Prop} (h : AH) (v0 : Nat) (v3 : Int32) (K : ((64 ≤ v3 → Aw G mX24_shaBlock (d + 1) t h0 Φ 188 [vR v0, vU, vU, vI 0, vU, vU, vU] [] h) ∧ (¬ 64 ≤ v3 → h.kd v0 = 24 ∧ ∀ r3 : Nat, r3 = (h.r 24002 v0) → h.kd r3 = 100 ∧ vp_in (v3 - 15) (h.ai r3).length ∧ ∀ u6 : Int32, u6 = ((h.ai r3).getD ((v3 - 15).toNatClampNeg) 0) → vp_in (v3 - 2) (h.ai r3).length ∧ ∀ u8 : Int32, u8 = ((h.ai r3).getD ((v3 - 2).toNatClampNeg) 0) → vp_in (v3 - 16) (h.ai r3).length ∧ Cw G mX24_turn d 0 [vI u6, vI 25] h (kI (fun x10 h11 => Cw G mX24_turn d 0 [vI u6, vI 14] h11 (kI (fun x12 h13 => vp_in (v3 - 7) (h13.ai r3).length ∧ Cw G mX24_turn d 0 [vI u8, vI 15] h13 (kI (fun x22 h23 => Cw G mX24_turn d 0 [vI u8, vI 13] h23 (kI (fun x24 h25 => vp_in v3 (h25.ai r3).length ∧ ∀ h29 : AH, h29 = h25.wi r3 ((h25.ai r3).set (v3.toNatClampNeg) (((((h.ai r3).getD ((v3 - 16).toNatClampNeg) 0) + ((x10 ^^^ x12) ^^^ (jushr u6 3))) + ((h13.ai r3).getD ((v3 - 7).toNatClampNeg) 0)) + ((x22 ^^^ x24) ^^^ (jushr u8 10)))) → Aw G mX24_shaBlock (d + 1) t h0 Φ 85 [vR v0, vU, vU, vI (v3 + 1), vU, vU, vU] [] h29) (fun x h => Φ (.inr x) h))) (fun x h => Φ (.inr x) h))) (fun x h => Φ (.inr x) h))) (fun x h => Φ (.inr x) h))))) : Aw G mX24_shaBlock (d + 1) t h0 Φ 85 [vR v0, vU, vU, vI v3, vU, vU, vU] [] h := by
  refine r_iload_n (pc := 85) dX24_shaBlock_85 rfl ?_
  refine r_bipush (pc := 86) (x := 64) dX24_shaBlock_86 rfl ?_
  refine r_icmp_ge (pc := 88) (tgt := 186) dX24_shaBlock_88 rfl (fun c1 => ?_) (fun c1 => ?_)
  · have K := K.1 c1
    refine r_iconst (pc := 186) (x := 0) dX24_shaBlock_186 rfl ?_
    refine r_istore_n (pc := 187) (lv' := [_, _, _, _, _, _, _]) dX24_shaBlock_187 (by decide) rfl ?_
    refine r_mask (pc := 188) [true, false, false, true, false, false, false] rfl ?_
    exact K
  · have K := K.2 c1
    refine r_aload_n (pc := 91) dX24_shaBlock_91 rfl ?_
    obtain ⟨hk2, K⟩ := K
    have K := K _ rfl
    refine r_getr' (pc := 92) (T := TX24) 24 2 rfl hk2 (Or.inl q2700) dX24_shaBlock_92 kc24 g24002 ?_
    refine r_iload_n (pc := 95) dX24_shaBlock_95 rfl ?_
    refine r_bipush (pc := 96) (x := 15) dX24_shaBlock_96 rfl ?_
    refine r_isub (pc := 98) dX24_shaBlock_98 ?_
    obtain ⟨hk4, K⟩ := K
    obtain ⟨hi5, K⟩ := K
    refine r_iaload (pc := 99) hk4 hi5 dX24_shaBlock_99 ?_
    have K := K _ rfl
    refine r_istore (pc := 100) (lv' := [_, _, _, _, _, _, _]) dX24_shaBlock_100 (by decide) rfl ?_
    refine r_aload_n (pc := 102) dX24_shaBlock_102 rfl ?_
    refine r_getr' (pc := 103) (T := TX24) 24 2 rfl hk2 (Or.inl q2700) dX24_shaBlock_103 kc24 g24002 ?_
    refine r_iload_n (pc := 106) dX24_shaBlock_106 rfl ?_
    refine r_iconst (pc := 107) (x := 2) dX24_shaBlock_107 rfl ?_
    refine r_isub (pc := 108) dX24_shaBlock_108 ?_
    obtain ⟨hi7, K⟩ := K
    refine r_iaload (pc := 109) hk4 hi7 dX24_shaBlock_109 ?_
    have K := K _ rfl
    refine r_istore (pc := 110) (lv' := [_, _, _, _, _, _, _]) dX24_shaBlock_110 (by decide) rfl ?_
    refine r_aload_n (pc := 112) dX24_shaBlock_112 rfl ?_
    refine r_getr' (pc := 113) (T := TX24) 24 2 rfl hk2 (Or.inl q2700) dX24_shaBlock_113 kc24 g24002 ?_
    refine r_iload_n (pc := 116) dX24_shaBlock_116 rfl ?_
    refine r_aload_n (pc := 117) dX24_shaBlock_117 rfl ?_
    refine r_getr' (pc := 118) (T := TX24) 24 2 rfl hk2 (Or.inl q2700) dX24_shaBlock_118 kc24 g24002 ?_
    refine r_iload_n (pc := 121) dX24_shaBlock_121 rfl ?_
    refine r_bipush (pc := 122) (x := 16) dX24_shaBlock_122 rfl ?_
    refine r_isub (pc := 124) dX24_shaBlock_124 ?_
    obtain ⟨hi9, K⟩ := K
    refine r_iaload (pc := 125) hk4 hi9 dX24_shaBlock_125 ?_
    refine r_iload (pc := 126) dX24_shaBlock_126 rfl ?_
    refine r_bipush (pc := 128) (x := 25) dX24_shaBlock_128 rfl ?_
    refine r_callS_I (pc := 130) (Y := mX24_turn) (vs := [_, _]) (st := [_, _, _]) q2330 q2331 q192 dX24_shaBlock_130 rfl cd_X24_turn rfl rfl fp_X24_shaBlock_X24_turn K (fun x10 h11 eh11 wh11 K => ?_) (fun x h1 _ _ e => Tw.out rfl e)
    refine r_iload (pc := 133) dX24_shaBlock_133 rfl ?_
    refine r_bipush (pc := 135) (x := 14) dX24_shaBlock_135 rfl ?_
    refine r_callS_I (pc := 137) (Y := mX24_turn) (vs := [_, _]) (st := [_, _, _, _]) q2330 q2331 q192 dX24_shaBlock_137 rfl cd_X24_turn rfl rfl fp_X24_shaBlock_X24_turn K (fun x12 h13 eh13 wh13 K => ?_) (fun x h1 _ _ e => Tw.out rfl e)
    refine r_ixor (pc := 140) dX24_shaBlock_140 ?_
    refine r_iload (pc := 141) dX24_shaBlock_141 rfl ?_
    refine r_iconst (pc := 143) (x := 3) dX24_shaBlock_143 rfl ?_
    refine r_jushr (pc := 144) dX24_shaBlock_144 ?_
    refine r_ixor (pc := 145) dX24_shaBlock_145 ?_
    refine r_iadd (pc := 146) dX24_shaBlock_146 ?_
    refine r_aload_n (pc := 147) dX24_shaBlock_147 rfl ?_
    have hk14 := kd_ext eh11 hk2 (nz rfl)
    have hk15 := kd_ext eh13 hk14 (nz rfl)
    have hv16 := fr_self (key := 24002) hk2
    have hv17 := (fr_ext (key := 24002) eh11 hk2 (nz rfl) (ne0 wh11 hk14 (nz rfl)) (nm rfl)).trans hv16
    have hv18 := (fr_ext (key := 24002) eh13 hk14 (nz rfl) (ne0 wh13 hk15 (nz rfl)) (nm rfl)).trans hv17
    refine r_getr' (pc := 148) (T := TX24) 24 2 hv18 hk15 (Or.inl q2700) dX24_shaBlock_148 kc24 g24002 ?_
    refine r_iload_n (pc := 151) dX24_shaBlock_151 rfl ?_
    refine r_bipush (pc := 152) (x := 7) dX24_shaBlock_152 rfl ?_
    refine r_isub (pc := 154) dX24_shaBlock_154 ?_
    have hk19 := kd_ext eh11 hk4 (nz rfl)
    have hk20 := kd_ext eh13 hk19 (nz rfl)
    obtain ⟨hi21, K⟩ := K
    refine r_iaload (pc := 155) hk20 hi21 dX24_shaBlock_155 ?_
    refine r_iadd (pc := 156) dX24_shaBlock_156 ?_
    refine r_iload (pc := 157) dX24_shaBlock_157 rfl ?_
    refine r_bipush (pc := 159) (x := 15) dX24_shaBlock_159 rfl ?_
    refine r_callS_I (pc := 161) (Y := mX24_turn) (vs := [_, _]) (st := [_, _, _]) q2330 q2331 q192 dX24_shaBlock_161 rfl cd_X24_turn rfl rfl fp_X24_shaBlock_X24_turn K (fun x22 h23 eh23 wh23 K => ?_) (fun x h1 _ _ e => Tw.out rfl e)
    refine r_iload (pc := 164) dX24_shaBlock_164 rfl ?_
    refine r_bipush (pc := 166) (x := 13) dX24_shaBlock_166 rfl ?_
    refine r_callS_I (pc := 168) (Y := mX24_turn) (vs := [_, _]) (st := [_, _, _, _]) q2330 q2331 q192 dX24_shaBlock_168 rfl cd_X24_turn rfl rfl fp_X24_shaBlock_X24_turn K (fun x24 h25 eh25 wh25 K => ?_) (fun x h1 _ _ e => Tw.out rfl e)
    refine r_ixor (pc := 171) dX24_shaBlock_171 ?_
    refine r_iload (pc := 172) dX24_shaBlock_172 rfl ?_
    refine r_bipush (pc := 174) (x := 10) dX24_shaBlock_174 rfl ?_
    refine r_jushr (pc := 176) dX24_shaBlock_176 ?_
    refine r_ixor (pc := 177) dX24_shaBlock_177 ?_
    refine r_iadd (pc := 178) dX24_shaBlock_178 ?_
    have hk26 := kd_ext eh23 hk20 (nz rfl)
    have hk27 := kd_ext eh25 hk26 (nz rfl)
    obtain ⟨hi28, K⟩ := K
    refine r_iastore (pc := 179) hk27 hi28 (Or.inl (em rfl)) dX24_shaBlock_179 ?_
    refine r_nameH (fun h29 eh29 => ?_)
    have K := K h29 eh29
    refine r_iinc (pc := 180) (lv' := [_, _, _, _, _, _, _]) dX24_shaBlock_180 rfl rfl (by decide) rfl ?_
    refine r_goto (pc := 183) (tgt := 85) dX24_shaBlock_183 rfl ?_
    refine r_mask (pc := 85) [true, false, false, true, false, false, false] rfl ?_
    exact K
set_option maxHeartbeats 4000000 in
theorem sX24_shaBlock_188 {G : Gx} {d t : Nat} {h0 : AH} {Φ : Out → AH → Prop} (h : AH) (v0 : Nat) (v3 : Int32) (K : ((8 ≤ v3 → Aw G mX24_shaBlock (d + 1) t h0 Φ 214 [vR v0, vU, vU, vI 0, vU, vU, vU] [] h) ∧ (¬ 8 ≤ v3 → h.kd v0 = 24 ∧ ∀ r3 : Nat, r3 = (h.r 24008 v0) → ∀ r4 : Nat, r4 = (h.r 24001 v0) → h.kd r4 = 100 ∧ vp_in v3 (h.ai r4).length ∧ h.kd r3 = 100 ∧ vp_in v3 (h.ai r3).length ∧ ∀ h9 : AH, h9 = h.wi r3 ((h.ai r3).set (v3.toNatClampNeg) ((h.ai r4).getD (v3.toNatClampNeg) 0)) → Aw G mX24_shaBlock (d + 1) t h0 Φ 188 [vR v0, vU, vU, vI (v3 + 1), vU, vU, vU] [] h9))) : Aw G mX24_shaBlock (d + 1) t h0 Φ 188 [vR v0, vU, vU, vI v3, vU, vU, vU] [] h := by
  refine r_iload_n (pc := 188) dX24_shaBlock_188 rfl ?_
  refine r_bipush (pc := 189) (x := 8) dX24_shaBlock_189 rfl ?_
  refine r_icmp_ge (pc := 191) (tgt := 212) dX24_shaBlock_191 rfl (fun c1 => ?_) (fun c1 => ?_)
  · have K := K.1 c1
    refine r_iconst (pc := 212) (x := 0) dX24_shaBlock_212 rfl ?_
    refine r_istore_n (pc := 213) (lv' := [_, _, _, _, _, _, _]) dX24_shaBlock_213 (by decide) rfl ?_
    refine r_mask (pc := 214) [true, false, false, true, false, false, false] rfl ?_
    exact K
  · have K := K.2 c1
    refine r_aload_n (pc := 194) dX24_shaBlock_194 rfl ?_
    obtain ⟨hk2, K⟩ := K
    have K := K _ rfl
    refine r_getr' (pc := 195) (T := TX24) 24 8 rfl hk2 (Or.inl q2706) dX24_shaBlock_195 kc24 g24008 ?_
    refine r_iload_n (pc := 198) dX24_shaBlock_198 rfl ?_
    refine r_aload_n (pc := 199) dX24_shaBlock_199 rfl ?_
    have K := K _ rfl
    refine r_getr' (pc := 200) (T := TX24) 24 1 rfl hk2 (Or.inl q2699) dX24_shaBlock_200 kc24 g24001 ?_
    refine r_iload_n (pc := 203) dX24_shaBlock_203 rfl ?_
    obtain ⟨hk5, K⟩ := K
    obtain ⟨hi6, K⟩ := K
    refine r_iaload (pc := 204) hk5 hi6 dX24_shaBlock_204 ?_
    obtain ⟨hk7, K⟩ := K
    obtain ⟨hi8, K⟩ := K
    refine r_iastore (pc := 205) hk7 hi8 (Or.inl (em rfl)) dX24_shaBlock_205 ?_
    refine r_nameH (fun h9 eh9 => ?_)
    have K := K h9 eh9
    refine r_iinc (pc := 206) (lv' := [_, _, _, _, _, _, _]) dX24_shaBlock_206 rfl rfl (by decide) rfl ?_
    refine r_goto (pc := 209) (tgt := 188) dX24_shaBlock_209 rfl ?_
    refine r_mask (pc := 188) [true, false, false, true, false, false, false] rfl ?_
    exact K
set_option maxHeartbeats 4000000 in
theorem sX24_shaBlock_214 {G : Gx} {d t : Nat} {h0 : AH} {Φ : Out → AH → Prop} (h : AH) (v0 : Nat) (v3 : Int32) (K : ((64 ≤ v3 → Aw G mX24_shaBlock (d + 1) t h0 Φ 450 [vR v0, vU, vU, vI 0, vU, vU, vU] [] h) ∧ (¬ 64 ≤ v3 → h.kd v0 = 24 ∧ ∀ r3 : Nat, r3 = (h.r 24008 v0) → h.kd r3 = 100 ∧ vp_in 7 (h.ai r3).length ∧ vp_in 4 (h.ai r3).length ∧ Cw G mX24_turn d 0 [vI ((h.ai r3).getD ((4 : Int32).toNatClampNeg) 0), vI 26] h (kI (fun x7 h8 => vp_in 4 (h8.ai r3).length ∧ Cw G mX24_turn d 0 [vI ((h8.ai r3).getD ((4 : Int32).toNatClampNeg) 0), vI 21] h8 (kI (fun x14 h15 => vp_in 4 (h15.ai r3).length ∧ Cw G mX24_turn d 0 [vI ((h15.ai r3).getD ((4 : Int32).toNatClampNeg) 0), vI 7] h15 (kI (fun x20 h21 => vp_in 4 (h21.ai r3).length ∧ vp_in 5 (h21.ai r3).length ∧ vp_in 4 (h21.ai r3).length ∧ vp_in 6 (h21.ai r3).length ∧ ∀ r29 : Nat, r29 = (h21.r 24004 v0) → h21.kd r29 = 100 ∧ vp_in v3 (h21.ai r29).length ∧ ∀ r32 : Nat, r32 = (h21.r 24002 v0) → h21.kd r32 = 100 ∧ vp_in v3 (h21.ai r32).length ∧ ∀ u35 : Int32, u35 = ((((((h.ai r3).getD ((7 : Int32).toNatClampNeg) 0) + ((x7 ^^^ x14) ^^^ x20)) + ((((h21.ai r3).getD ((4 : Int32).toNatClampNeg) 0) &&& ((h21.ai r3).getD ((5 : Int32).toNatClampNeg) 0)) ^^^ ((((h21.ai r3).getD ((4 : Int32).toNatClampNeg) 0) ^^^ (-1)) &&& ((h21.ai r3).getD ((6 : Int32).toNatClampNeg) 0)))) + ((h21.ai r29).getD (v3.toNatClampNeg) 0)) + ((h21.ai r32).getD (v3.toNatClampNeg) 0)) → vp_in 0 (h21.ai r3).length ∧ Cw G mX24_turn d 0 [vI ((h21.ai r3).getD ((0 : Int32).toNatClampNeg) 0), vI 30] h21 (kI (fun x37 h38 => vp_in 0 (h38.ai r3).length ∧ Cw G mX24_turn d 0 [vI ((h38.ai r3).getD ((0 : Int32).toNatClampNeg) 0), vI 19] h38 (kI (fun x43 h44 => vp_in 0 (h44.ai r3).length ∧ Cw G mX24_turn d 0 [vI ((h44.ai r3).getD ((0 : Int32).toNatClampNeg) 0), vI 10] h44 (kI (fun x49 h50 => vp_in 0 (h50.ai r3).length ∧ vp_in 1 (h50.ai r3).length ∧ vp_in 0 (h50.ai r3).length ∧ vp_in 2 (h50.ai r3).length ∧ vp_in 1 (h50.ai r3).length ∧ vp_in 2 (h50.ai r3).length ∧ ∀ u60 : Int32, u60 = (((x37 ^^^ x43) ^^^ x49) + (((((h50.ai r3).getD ((0 : Int32).toNatClampNeg) 0) &&& ((h50.ai r3).getD ((1 : Int32).toNatClampNeg) 0)) ^^^ (((h50.ai r3).getD ((0 : Int32).toNatClampNeg) 0) &&& ((h50.ai r3).getD ((2 : Int32).toNatClampNeg) 0))) ^^^ (((h50.ai r3).getD ((1 : Int32).toNatClampNeg) 0) &&& ((h50.ai r3).getD ((2 : Int32).toNatClampNeg) 0)))) → Aw G mX24_shaBlock (d + 1) t h0 Φ 393 [vR v0, vU, vU, vI v3, vI u35, vI u60, vI 7] [] h50) (fun x h => Φ (.inr x) h))) (fun x h => Φ (.inr x) h))) (fun x h => Φ (.inr x) h))) (fun x h => Φ (.inr x) h))) (fun x h => Φ (.inr x) h))) (fun x h => Φ (.inr x) h))))) : Aw G mX24_shaBlock (d + 1) t h0 Φ 214 [vR v0, vU, vU, vI v3, vU, vU, vU] [] h := by
  refine r_iload_n (pc := 214) dX24_shaBlock_214 rfl ?_
  refine r_bipush (pc := 215) (x := 64) dX24_shaBlock_215 rfl ?_
  refine r_icmp_ge (pc := 217) (tgt := 448) dX24_shaBlock_217 rfl (fun c1 => ?_) (fun c1 => ?_)
  · have K := K.1 c1
    refine r_iconst (pc := 448) (x := 0) dX24_shaBlock_448 rfl ?_
    refine r_istore_n (pc := 449) (lv' := [_, _, _, _, _, _, _]) dX24_shaBlock_449 (by decide) rfl ?_
    refine r_mask (pc := 450) [true, false, false, true, false, false, false] rfl ?_
    exact K
  · have K := K.2 c1
    refine r_aload_n (pc := 220) dX24_shaBlock_220 rfl ?_
    obtain ⟨hk2, K⟩ := K
    have K := K _ rfl
    refine r_getr' (pc := 221) (T := TX24) 24 8 rfl hk2 (Or.inl q2706) dX24_shaBlock_221 kc24 g24008 ?_
    refine r_bipush (pc := 224) (x := 7) dX24_shaBlock_224 rfl ?_
    obtain ⟨hk4, K⟩ := K
    obtain ⟨hi5, K⟩ := K
    refine r_iaload (pc := 226) hk4 hi5 dX24_shaBlock_226 ?_
    refine r_aload_n (pc := 227) dX24_shaBlock_227 rfl ?_
    refine r_getr' (pc := 228) (T := TX24) 24 8 rfl hk2 (Or.inl q2706) dX24_shaBlock_228 kc24 g24008 ?_
    refine r_iconst (pc := 231) (x := 4) dX24_shaBlock_231 rfl ?_
    obtain ⟨hi6, K⟩ := K
    refine r_iaload (pc := 232) hk4 hi6 dX24_shaBlock_232 ?_
    refine r_bipush (pc := 233) (x := 26) dX24_shaBlock_233 rfl ?_
    refine r_callS_I (pc := 235) (Y := mX24_turn) (vs := [_, _]) (st := [_]) q2330 q2331 q192 dX24_shaBlock_235 rfl cd_X24_turn rfl rfl fp_X24_shaBlock_X24_turn K (fun x7 h8 eh8 wh8 K => ?_) (fun x h1 _ _ e => Tw.out rfl e)
    refine r_aload_n (pc := 238) dX24_shaBlock_238 rfl ?_
    have hk9 := kd_ext eh8 hk2 (nz rfl)
    have hv10 := fr_self (key := 24008) hk2
    have hv11 := (fr_ext (key := 24008) eh8 hk2 (nz rfl) (ne0 wh8 hk9 (nz rfl)) (nm rfl)).trans hv10
    refine r_getr' (pc := 239) (T := TX24) 24 8 hv11 hk9 (Or.inl q2706) dX24_shaBlock_239 kc24 g24008 ?_
    refine r_iconst (pc := 242) (x := 4) dX24_shaBlock_242 rfl ?_
    have hk12 := kd_ext eh8 hk4 (nz rfl)
    obtain ⟨hi13, K⟩ := K
    refine r_iaload (pc := 243) hk12 hi13 dX24_shaBlock_243 ?_
    refine r_bipush (pc := 244) (x := 21) dX24_shaBlock_244 rfl ?_
    refine r_callS_I (pc := 246) (Y := mX24_turn) (vs := [_, _]) (st := [_, _]) q2330 q2331 q192 dX24_shaBlock_246 rfl cd_X24_turn rfl rfl fp_X24_shaBlock_X24_turn K (fun x14 h15 eh15 wh15 K => ?_) (fun x h1 _ _ e => Tw.out rfl e)
    refine r_ixor (pc := 249) dX24_shaBlock_249 ?_
    refine r_aload_n (pc := 250) dX24_shaBlock_250 rfl ?_
    have hk16 := kd_ext eh15 hk9 (nz rfl)
    have hv17 := (fr_ext (key := 24008) eh15 hk9 (nz rfl) (ne0 wh15 hk16 (nz rfl)) (nm rfl)).trans hv11
    refine r_getr' (pc := 251) (T := TX24) 24 8 hv17 hk16 (Or.inl q2706) dX24_shaBlock_251 kc24 g24008 ?_
    refine r_iconst (pc := 254) (x := 4) dX24_shaBlock_254 rfl ?_
    have hk18 := kd_ext eh15 hk12 (nz rfl)
    obtain ⟨hi19, K⟩ := K
    refine r_iaload (pc := 255) hk18 hi19 dX24_shaBlock_255 ?_
    refine r_bipush (pc := 256) (x := 7) dX24_shaBlock_256 rfl ?_
    refine r_callS_I (pc := 258) (Y := mX24_turn) (vs := [_, _]) (st := [_, _]) q2330 q2331 q192 dX24_shaBlock_258 rfl cd_X24_turn rfl rfl fp_X24_shaBlock_X24_turn K (fun x20 h21 eh21 wh21 K => ?_) (fun x h1 _ _ e => Tw.out rfl e)
    refine r_ixor (pc := 261) dX24_shaBlock_261 ?_
    refine r_iadd (pc := 262) dX24_shaBlock_262 ?_
    refine r_aload_n (pc := 263) dX24_shaBlock_263 rfl ?_
    have hk22 := kd_ext eh21 hk16 (nz rfl)
    have hv23 := (fr_ext (key := 24008) eh21 hk16 (nz rfl) (ne0 wh21 hk22 (nz rfl)) (nm rfl)).trans hv17
    refine r_getr' (pc := 264) (T := TX24) 24 8 hv23 hk22 (Or.inl q2706) dX24_shaBlock_264 kc24 g24008 ?_
    refine r_iconst (pc := 267) (x := 4) dX24_shaBlock_267 rfl ?_
    have hk24 := kd_ext eh21 hk18 (nz rfl)
    obtain ⟨hi25, K⟩ := K
    refine r_iaload (pc := 268) hk24 hi25 dX24_shaBlock_268 ?_
    refine r_aload_n (pc := 269) dX24_shaBlock_269 rfl ?_
    refine r_getr' (pc := 270) (T := TX24) 24 8 hv23 hk22 (Or.inl q2706) dX24_shaBlock_270 kc24 g24008 ?_
    refine r_iconst (pc := 273) (x := 5) dX24_shaBlock_273 rfl ?_
    obtain ⟨hi26, K⟩ := K
    refine r_iaload (pc := 274) hk24 hi26 dX24_shaBlock_274 ?_
    refine r_iand (pc := 275) dX24_shaBlock_275 ?_
    refine r_aload_n (pc := 276) dX24_shaBlock_276 rfl ?_
    refine r_getr' (pc := 277) (T := TX24) 24 8 hv23 hk22 (Or.inl q2706) dX24_shaBlock_277 kc24 g24008 ?_
    refine r_iconst (pc := 280) (x := 4) dX24_shaBlock_280 rfl ?_
    obtain ⟨hi27, K⟩ := K
    refine r_iaload (pc := 281) hk24 hi27 dX24_shaBlock_281 ?_
    refine r_iconst (pc := 282) (x := (-1)) dX24_shaBlock_282 rfl ?_
    refine r_ixor (pc := 283) dX24_shaBlock_283 ?_
    refine r_aload_n (pc := 284) dX24_shaBlock_284 rfl ?_
    refine r_getr' (pc := 285) (T := TX24) 24 8 hv23 hk22 (Or.inl q2706) dX24_shaBlock_285 kc24 g24008 ?_
    refine r_bipush (pc := 288) (x := 6) dX24_shaBlock_288 rfl ?_
    obtain ⟨hi28, K⟩ := K
    refine r_iaload (pc := 290) hk24 hi28 dX24_shaBlock_290 ?_
    refine r_iand (pc := 291) dX24_shaBlock_291 ?_
    refine r_ixor (pc := 292) dX24_shaBlock_292 ?_
    refine r_iadd (pc := 293) dX24_shaBlock_293 ?_
    refine r_aload_n (pc := 294) dX24_shaBlock_294 rfl ?_
    have K := K _ rfl
    refine r_getr' (pc := 295) (T := TX24) 24 4 rfl hk22 (Or.inl q2702) dX24_shaBlock_295 kc24 g24004 ?_
    refine r_iload_n (pc := 298) dX24_shaBlock_298 rfl ?_
    obtain ⟨hk30, K⟩ := K
    obtain ⟨hi31, K⟩ := K
    refine r_iaload (pc := 299) hk30 hi31 dX24_shaBlock_299 ?_
    refine r_iadd (pc := 300) dX24_shaBlock_300 ?_
    refine r_aload_n (pc := 301) dX24_shaBlock_301 rfl ?_
    have K := K _ rfl
    refine r_getr' (pc := 302) (T := TX24) 24 2 rfl hk22 (Or.inl q2700) dX24_shaBlock_302 kc24 g24002 ?_
    refine r_iload_n (pc := 305) dX24_shaBlock_305 rfl ?_
    obtain ⟨hk33, K⟩ := K
    obtain ⟨hi34, K⟩ := K
    refine r_iaload (pc := 306) hk33 hi34 dX24_shaBlock_306 ?_
    refine r_iadd (pc := 307) dX24_shaBlock_307 ?_
    have K := K _ rfl
    refine r_istore (pc := 308) (lv' := [_, _, _, _, _, _, _]) dX24_shaBlock_308 (by decide) rfl ?_
    refine r_aload_n (pc := 310) dX24_shaBlock_310 rfl ?_
    refine r_getr' (pc := 311) (T := TX24) 24 8 hv23 hk22 (Or.inl q2706) dX24_shaBlock_311 kc24 g24008 ?_
    refine r_iconst (pc := 314) (x := 0) dX24_shaBlock_314 rfl ?_
    obtain ⟨hi36, K⟩ := K
    refine r_iaload (pc := 315) hk24 hi36 dX24_shaBlock_315 ?_
    refine r_bipush (pc := 316) (x := 30) dX24_shaBlock_316 rfl ?_
    refine r_callS_I (pc := 318) (Y := mX24_turn) (vs := [_, _]) (st := []) q2330 q2331 q192 dX24_shaBlock_318 rfl cd_X24_turn rfl rfl fp_X24_shaBlock_X24_turn K (fun x37 h38 eh38 wh38 K => ?_) (fun x h1 _ _ e => Tw.out rfl e)
    refine r_aload_n (pc := 321) dX24_shaBlock_321 rfl ?_
    have hk39 := kd_ext eh38 hk22 (nz rfl)
    have hv40 := (fr_ext (key := 24008) eh38 hk22 (nz rfl) (ne0 wh38 hk39 (nz rfl)) (nm rfl)).trans hv23
    refine r_getr' (pc := 322) (T := TX24) 24 8 hv40 hk39 (Or.inl q2706) dX24_shaBlock_322 kc24 g24008 ?_
    refine r_iconst (pc := 325) (x := 0) dX24_shaBlock_325 rfl ?_
    have hk41 := kd_ext eh38 hk24 (nz rfl)
    obtain ⟨hi42, K⟩ := K
    refine r_iaload (pc := 326) hk41 hi42 dX24_shaBlock_326 ?_
    refine r_bipush (pc := 327) (x := 19) dX24_shaBlock_327 rfl ?_
    refine r_callS_I (pc := 329) (Y := mX24_turn) (vs := [_, _]) (st := [_]) q2330 q2331 q192 dX24_shaBlock_329 rfl cd_X24_turn rfl rfl fp_X24_shaBlock_X24_turn K (fun x43 h44 eh44 wh44 K => ?_) (fun x h1 _ _ e => Tw.out rfl e)
    refine r_ixor (pc := 332) dX24_shaBlock_332 ?_
    refine r_aload_n (pc := 333) dX24_shaBlock_333 rfl ?_
    have hk45 := kd_ext eh44 hk39 (nz rfl)
    have hv46 := (fr_ext (key := 24008) eh44 hk39 (nz rfl) (ne0 wh44 hk45 (nz rfl)) (nm rfl)).trans hv40
    refine r_getr' (pc := 334) (T := TX24) 24 8 hv46 hk45 (Or.inl q2706) dX24_shaBlock_334 kc24 g24008 ?_
    refine r_iconst (pc := 337) (x := 0) dX24_shaBlock_337 rfl ?_
    have hk47 := kd_ext eh44 hk41 (nz rfl)
    obtain ⟨hi48, K⟩ := K
    refine r_iaload (pc := 338) hk47 hi48 dX24_shaBlock_338 ?_
    refine r_bipush (pc := 339) (x := 10) dX24_shaBlock_339 rfl ?_
    refine r_callS_I (pc := 341) (Y := mX24_turn) (vs := [_, _]) (st := [_]) q2330 q2331 q192 dX24_shaBlock_341 rfl cd_X24_turn rfl rfl fp_X24_shaBlock_X24_turn K (fun x49 h50 eh50 wh50 K => ?_) (fun x h1 _ _ e => Tw.out rfl e)
    refine r_ixor (pc := 344) dX24_shaBlock_344 ?_
    refine r_aload_n (pc := 345) dX24_shaBlock_345 rfl ?_
    have hk51 := kd_ext eh50 hk45 (nz rfl)
    have hv52 := (fr_ext (key := 24008) eh50 hk45 (nz rfl) (ne0 wh50 hk51 (nz rfl)) (nm rfl)).trans hv46
    refine r_getr' (pc := 346) (T := TX24) 24 8 hv52 hk51 (Or.inl q2706) dX24_shaBlock_346 kc24 g24008 ?_
    refine r_iconst (pc := 349) (x := 0) dX24_shaBlock_349 rfl ?_
    have hk53 := kd_ext eh50 hk47 (nz rfl)
    obtain ⟨hi54, K⟩ := K
    refine r_iaload (pc := 350) hk53 hi54 dX24_shaBlock_350 ?_
    refine r_aload_n (pc := 351) dX24_shaBlock_351 rfl ?_
    refine r_getr' (pc := 352) (T := TX24) 24 8 hv52 hk51 (Or.inl q2706) dX24_shaBlock_352 kc24 g24008 ?_
    refine r_iconst (pc := 355) (x := 1) dX24_shaBlock_355 rfl ?_
    obtain ⟨hi55, K⟩ := K
    refine r_iaload (pc := 356) hk53 hi55 dX24_shaBlock_356 ?_
    refine r_iand (pc := 357) dX24_shaBlock_357 ?_
    refine r_aload_n (pc := 358) dX24_shaBlock_358 rfl ?_
    refine r_getr' (pc := 359) (T := TX24) 24 8 hv52 hk51 (Or.inl q2706) dX24_shaBlock_359 kc24 g24008 ?_
    refine r_iconst (pc := 362) (x := 0) dX24_shaBlock_362 rfl ?_
    obtain ⟨hi56, K⟩ := K
    refine r_iaload (pc := 363) hk53 hi56 dX24_shaBlock_363 ?_
    refine r_aload_n (pc := 364) dX24_shaBlock_364 rfl ?_
    refine r_getr' (pc := 365) (T := TX24) 24 8 hv52 hk51 (Or.inl q2706) dX24_shaBlock_365 kc24 g24008 ?_
    refine r_iconst (pc := 368) (x := 2) dX24_shaBlock_368 rfl ?_
    obtain ⟨hi57, K⟩ := K
    refine r_iaload (pc := 369) hk53 hi57 dX24_shaBlock_369 ?_
    refine r_iand (pc := 370) dX24_shaBlock_370 ?_
    refine r_ixor (pc := 371) dX24_shaBlock_371 ?_
    refine r_aload_n (pc := 372) dX24_shaBlock_372 rfl ?_
    refine r_getr' (pc := 373) (T := TX24) 24 8 hv52 hk51 (Or.inl q2706) dX24_shaBlock_373 kc24 g24008 ?_
    refine r_iconst (pc := 376) (x := 1) dX24_shaBlock_376 rfl ?_
    obtain ⟨hi58, K⟩ := K
    refine r_iaload (pc := 377) hk53 hi58 dX24_shaBlock_377 ?_
    refine r_aload_n (pc := 378) dX24_shaBlock_378 rfl ?_
    refine r_getr' (pc := 379) (T := TX24) 24 8 hv52 hk51 (Or.inl q2706) dX24_shaBlock_379 kc24 g24008 ?_
    refine r_iconst (pc := 382) (x := 2) dX24_shaBlock_382 rfl ?_
    obtain ⟨hi59, K⟩ := K
    refine r_iaload (pc := 383) hk53 hi59 dX24_shaBlock_383 ?_
    refine r_iand (pc := 384) dX24_shaBlock_384 ?_
    refine r_ixor (pc := 385) dX24_shaBlock_385 ?_
    refine r_iadd (pc := 386) dX24_shaBlock_386 ?_
    have K := K _ rfl
    refine r_istore (pc := 387) (lv' := [_, _, _, _, _, _, _]) dX24_shaBlock_387 (by decide) rfl ?_
    refine r_bipush (pc := 389) (x := 7) dX24_shaBlock_389 rfl ?_
    refine r_istore (pc := 391) (lv' := [_, _, _, _, _, _, _]) dX24_shaBlock_391 (by decide) rfl ?_
    refine r_mask (pc := 393) [true, false, false, true, true, true, true] rfl ?_
    exact K
set_option maxHeartbeats 4000000 in
theorem sX24_shaBlock_393 {G : Gx} {d t : Nat} {h0 : AH} {Φ : Out → AH → Prop} (h : AH) (v0 : Nat) (v3 : Int32) (v4 : Int32) (v5 : Int32) (v6 : Int32) (K : ((v6 ≤ 0 → h.kd v0 = 24 ∧ ∀ r3 : Nat, r3 = (h.r 24008 v0) → h.kd r3 = 100 ∧ vp_in 4 (h.ai r3).length ∧ vp_in 4 (h.ai r3).length ∧ ∀ h7 : AH, h7 = h.wi r3 ((h.ai r3).set ((4 : Int32).toNatClampNeg) (((h.ai r3).getD ((4 : Int32).toNatClampNeg) 0) + v4)) → vp_in 0 (h7.ai r3).length ∧ ∀ h13 : AH, h13 = h7.wi r3 ((h7.ai r3).set ((0 : Int32).toNatClampNeg) (v4 + v5)) → Aw G mX24_shaBlock (d + 1) t h0 Φ 214 [vR v0, vU, vU, vI (v3 + 1), vU, vU, vU] [] h13) ∧ (¬ v6 ≤ 0 → h.kd v0 = 24 ∧ ∀ r15 : Nat, r15 = (h.r 24008 v0) → h.kd r15 = 100 ∧ vp_in (v6 - 1) (h.ai r15).length ∧ vp_in v6 (h.ai r15).length ∧ ∀ h19 : AH, h19 = h.wi r15 ((h.ai r15).set (v6.toNatClampNeg) ((h.ai r15).getD ((v6 - 1).toNatClampNeg) 0)) → Aw G mX24_shaBlock (d + 1) t h0 Φ 393 [vR v0, vU, vU, vI v3, vI v4, vI v5, vI (v6 + (-1))] [] h19))) : Aw G mX24_shaBlock (d + 1) t h0 Φ 393 [vR v0, vU, vU, vI v3, vI v4, vI v5, vI v6] [] h := by
  refine r_iload (pc := 393) dX24_shaBlock_393 rfl ?_
  refine r_if_le (pc := 395) (tgt := 420) dX24_shaBlock_395 rfl (fun c1 => ?_) (fun c1 => ?_)
  · have K := K.1 c1
    refine r_aload_n (pc := 420) dX24_shaBlock_420 rfl ?_
    obtain ⟨hk2, K⟩ := K
    have K := K _ rfl
    refine r_getr' (pc := 421) (T := TX24) 24 8 rfl hk2 (Or.inl q2706) dX24_shaBlock_421 kc24 g24008 ?_
    refine r_iconst (pc := 424) (x := 4) dX24_shaBlock_424 rfl ?_
    refine r_dup2 (pc := 425) rfl rfl dX24_shaBlock_425 ?_
    obtain ⟨hk4, K⟩ := K
    obtain ⟨hi5, K⟩ := K
    refine r_iaload (pc := 426) hk4 hi5 dX24_shaBlock_426 ?_
    refine r_iload (pc := 427) dX24_shaBlock_427 rfl ?_
    refine r_iadd (pc := 429) dX24_shaBlock_429 ?_
    obtain ⟨hi6, K⟩ := K
    refine r_iastore (pc := 430) hk4 hi6 (Or.inl (em rfl)) dX24_shaBlock_430 ?_
    refine r_nameH (fun h7 eh7 => ?_)
    have K := K h7 eh7
    refine r_aload_n (pc := 431) dX24_shaBlock_431 rfl ?_
    have hk8 := kd_wi eh7 hk2
    have hv9 := fr_self (key := 24008) hk2
    have hv10 := fr_wi (key := 24008) eh7 hv9
    refine r_getr' (pc := 432) (T := TX24) 24 8 hv10 hk8 (Or.inl q2706) dX24_shaBlock_432 kc24 g24008 ?_
    refine r_iconst (pc := 435) (x := 0) dX24_shaBlock_435 rfl ?_
    refine r_iload (pc := 436) dX24_shaBlock_436 rfl ?_
    refine r_iload (pc := 438) dX24_shaBlock_438 rfl ?_
    refine r_iadd (pc := 440) dX24_shaBlock_440 ?_
    have hk11 := kd_wi eh7 hk4
    obtain ⟨hi12, K⟩ := K
    refine r_iastore (pc := 441) hk11 hi12 (Or.inl (em rfl)) dX24_shaBlock_441 ?_
    refine r_nameH (fun h13 eh13 => ?_)
    have K := K h13 eh13
    refine r_iinc (pc := 442) (lv' := [_, _, _, _, _, _, _]) dX24_shaBlock_442 rfl rfl (by decide) rfl ?_
    refine r_goto (pc := 445) (tgt := 214) dX24_shaBlock_445 rfl ?_
    refine r_mask (pc := 214) [true, false, false, true, false, false, false] rfl ?_
    exact K
  · have K := K.2 c1
    refine r_aload_n (pc := 398) dX24_shaBlock_398 rfl ?_
    obtain ⟨hk14, K⟩ := K
    have K := K _ rfl
    refine r_getr' (pc := 399) (T := TX24) 24 8 rfl hk14 (Or.inl q2706) dX24_shaBlock_399 kc24 g24008 ?_
    refine r_iload (pc := 402) dX24_shaBlock_402 rfl ?_
    refine r_aload_n (pc := 404) dX24_shaBlock_404 rfl ?_
    refine r_getr' (pc := 405) (T := TX24) 24 8 rfl hk14 (Or.inl q2706) dX24_shaBlock_405 kc24 g24008 ?_
    refine r_iload (pc := 408) dX24_shaBlock_408 rfl ?_
    refine r_iconst (pc := 410) (x := 1) dX24_shaBlock_410 rfl ?_
    refine r_isub (pc := 411) dX24_shaBlock_411 ?_
    obtain ⟨hk16, K⟩ := K
    obtain ⟨hi17, K⟩ := K
    refine r_iaload (pc := 412) hk16 hi17 dX24_shaBlock_412 ?_
    obtain ⟨hi18, K⟩ := K
    refine r_iastore (pc := 413) hk16 hi18 (Or.inl (em rfl)) dX24_shaBlock_413 ?_
    refine r_nameH (fun h19 eh19 => ?_)
    have K := K h19 eh19
    refine r_iinc (pc := 414) (lv' := [_, _, _, _, _, _, _]) dX24_shaBlock_414 rfl rfl (by decide) rfl ?_
    refine r_goto (pc := 417) (tgt := 393) dX24_shaBlock_417 rfl ?_
    refine r_mask (pc := 393) [true, false, false, true, true, true, true] rfl ?_
    exact K
set_option maxHeartbeats 4000000 in
theorem sX24_shaBlock_450 {G : Gx} {d t : Nat} {h0 : AH} {Φ : Out → AH → Prop} (h : AH) (v0 : Nat) (v3 : Int32) (K : ((8 ≤ v3 → Φ (.inl none) h) ∧ (¬ 8 ≤ v3 → h.kd v0 = 24 ∧ ∀ r3 : Nat, r3 = (h.r 24001 v0) → h.kd r3 = 100 ∧ vp_in v3 (h.ai r3).length ∧ ∀ r6 : Nat, r6 = (h.r 24008 v0) → h.kd r6 = 100 ∧ vp_in v3 (h.ai r6).length ∧ vp_in v3 (h.ai r3).length ∧ ∀ h10 : AH, h10 = h.wi r3 ((h.ai r3).set (v3.toNatClampNeg) (((h.ai r3).getD (v3.toNatClampNeg) 0) + ((h.ai r6).getD (v3.toNatClampNeg) 0))) → Aw G mX24_shaBlock (d + 1) t h0 Φ 450 [vR v0, vU, vU, vI (v3 + 1), vU, vU, vU] [] h10))) : Aw G mX24_shaBlock (d + 1) t h0 Φ 450 [vR v0, vU, vU, vI v3, vU, vU, vU] [] h := by
  refine r_iload_n (pc := 450) dX24_shaBlock_450 rfl ?_
  refine r_bipush (pc := 451) (x := 8) dX24_shaBlock_451 rfl ?_
  refine r_icmp_ge (pc := 453) (tgt := 477) dX24_shaBlock_453 rfl (fun c1 => ?_) (fun c1 => ?_)
  · have K := K.1 c1
    exact r_vret (pc := 477) rfl dX24_shaBlock_477 K
  · have K := K.2 c1
    refine r_aload_n (pc := 456) dX24_shaBlock_456 rfl ?_
    obtain ⟨hk2, K⟩ := K
    have K := K _ rfl
    refine r_getr' (pc := 457) (T := TX24) 24 1 rfl hk2 (Or.inl q2699) dX24_shaBlock_457 kc24 g24001 ?_
    refine r_iload_n (pc := 460) dX24_shaBlock_460 rfl ?_
    refine r_dup2 (pc := 461) rfl rfl dX24_shaBlock_461 ?_
    obtain ⟨hk4, K⟩ := K
    obtain ⟨hi5, K⟩ := K
    refine r_iaload (pc := 462) hk4 hi5 dX24_shaBlock_462 ?_
    refine r_aload_n (pc := 463) dX24_shaBlock_463 rfl ?_
    have K := K _ rfl
    refine r_getr' (pc := 464) (T := TX24) 24 8 rfl hk2 (Or.inl q2706) dX24_shaBlock_464 kc24 g24008 ?_
    refine r_iload_n (pc := 467) dX24_shaBlock_467 rfl ?_
    obtain ⟨hk7, K⟩ := K
    obtain ⟨hi8, K⟩ := K
    refine r_iaload (pc := 468) hk7 hi8 dX24_shaBlock_468 ?_
    refine r_iadd (pc := 469) dX24_shaBlock_469 ?_
    obtain ⟨hi9, K⟩ := K
    refine r_iastore (pc := 470) hk4 hi9 (Or.inl (em rfl)) dX24_shaBlock_470 ?_
    refine r_nameH (fun h10 eh10 => ?_)
    have K := K h10 eh10
    refine r_iinc (pc := 471) (lv' := [_, _, _, _, _, _, _]) dX24_shaBlock_471 rfl rfl (by decide) rfl ?_
    refine r_goto (pc := 474) (tgt := 450) dX24_shaBlock_474 rfl ?_
    refine r_mask (pc := 450) [true, false, false, true, false, false, false] rfl ?_
    exact K
theorem dX24_sha_0 : decode cX24_sha 0 = .ok (.iconst 0, 1) := by decide +kernel
theorem dX24_sha_1 : decode cX24_sha 1 = .ok (.istore 6, 2) := by decide +kernel
theorem dX24_sha_3 : decode cX24_sha 3 = .ok (.iload 6, 2) := by decide +kernel
theorem dX24_sha_5 : decode cX24_sha 5 = .ok (.bipush 8, 2) := by decide +kernel
theorem dX24_sha_7 : decode cX24_sha 7 = .ok (.if_icmp .ge 23, 3) := by decide +kernel
theorem dX24_sha_10 : decode cX24_sha 10 = .ok (.aload_n 0, 1) := by decide +kernel
theorem dX24_sha_11 : decode cX24_sha 11 = .ok (.getfield 19, 3) := by decide +kernel
theorem dX24_sha_14 : decode cX24_sha 14 = .ok (.iload 6, 2) := by decide +kernel
theorem dX24_sha_16 : decode cX24_sha 16 = .ok (.aload_n 0, 1) := by decide +kernel
theorem dX24_sha_17 : decode cX24_sha 17 = .ok (.getfield 23, 3) := by decide +kernel
theorem dX24_sha_20 : decode cX24_sha 20 = .ok (.iload 6, 2) := by decide +kernel
theorem dX24_sha_22 : decode cX24_sha 22 = .ok (.iaload, 1) := by decide +kernel
theorem dX24_sha_23 : decode cX24_sha 23 = .ok (.iastore, 1) := by decide +kernel
theorem dX24_sha_24 : decode cX24_sha 24 = .ok (.iinc 6 1, 3) := by decide +kernel
theorem dX24_sha_27 : decode cX24_sha 27 = .ok (.goto (-24), 3) := by decide +kernel
theorem dX24_sha_30 : decode cX24_sha 30 = .ok (.iload_n 3, 1) := by decide +kernel
theorem dX24_sha_31 : decode cX24_sha 31 = .ok (.bipush 64, 2) := by decide +kernel
theorem dX24_sha_33 : decode cX24_sha 33 = .ok (.idiv, 1) := by decide +kernel
theorem dX24_sha_34 : decode cX24_sha 34 = .ok (.bipush 64, 2) := by decide +kernel
theorem dX24_sha_36 : decode cX24_sha 36 = .ok (.imul, 1) := by decide +kernel
theorem dX24_sha_37 : decode cX24_sha 37 = .ok (.istore 6, 2) := by decide +kernel
theorem dX24_sha_39 : decode cX24_sha 39 = .ok (.iconst 0, 1) := by decide +kernel
theorem dX24_sha_40 : decode cX24_sha 40 = .ok (.istore 7, 2) := by decide +kernel
theorem dX24_sha_42 : decode cX24_sha 42 = .ok (.iload 7, 2) := by decide +kernel
theorem dX24_sha_44 : decode cX24_sha 44 = .ok (.iload 6, 2) := by decide +kernel
theorem dX24_sha_46 : decode cX24_sha 46 = .ok (.if_icmp .ge 18, 3) := by decide +kernel
theorem dX24_sha_49 : decode cX24_sha 49 = .ok (.aload_n 0, 1) := by decide +kernel
theorem dX24_sha_50 : decode cX24_sha 50 = .ok (.aload_n 1, 1) := by decide +kernel
theorem dX24_sha_51 : decode cX24_sha 51 = .ok (.iload_n 2, 1) := by decide +kernel
theorem dX24_sha_52 : decode cX24_sha 52 = .ok (.iload 7, 2) := by decide +kernel
theorem dX24_sha_54 : decode cX24_sha 54 = .ok (.iadd, 1) := by decide +kernel
theorem dX24_sha_55 : decode cX24_sha 55 = .ok (.invokevirtual 26, 3) := by decide +kernel
theorem dX24_sha_58 : decode cX24_sha 58 = .ok (.iinc 7 64, 3) := by decide +kernel
theorem dX24_sha_61 : decode cX24_sha 61 = .ok (.goto (-19), 3) := by decide +kernel
theorem dX24_sha_64 : decode cX24_sha 64 = .ok (.aload_n 0, 1) := by decide +kernel
theorem dX24_sha_65 : decode cX24_sha 65 = .ok (.aload_n 1, 1) := by decide +kernel
theorem dX24_sha_66 : decode cX24_sha 66 = .ok (.iload_n 2, 1) := by decide +kernel
theorem dX24_sha_67 : decode cX24_sha 67 = .ok (.iload 6, 2) := by decide +kernel
theorem dX24_sha_69 : decode cX24_sha 69 = .ok (.iadd, 1) := by decide +kernel
theorem dX24_sha_70 : decode cX24_sha 70 = .ok (.iload_n 3, 1) := by decide +kernel
theorem dX24_sha_71 : decode cX24_sha 71 = .ok (.iload 6, 2) := by decide +kernel
theorem dX24_sha_73 : decode cX24_sha 73 = .ok (.isub, 1) := by decide +kernel
theorem dX24_sha_74 : decode cX24_sha 74 = .ok (.iload_n 3, 1) := by decide +kernel
theorem dX24_sha_75 : decode cX24_sha 75 = .ok (.iconst 1, 1) := by decide +kernel
theorem dX24_sha_76 : decode cX24_sha 76 = .ok (.invokevirtual 30, 3) := by decide +kernel
theorem dX24_sha_79 : decode cX24_sha 79 = .ok (.istore 7, 2) := by decide +kernel
theorem dX24_sha_81 : decode cX24_sha 81 = .ok (.iconst 0, 1) := by decide +kernel
theorem dX24_sha_82 : decode cX24_sha 82 = .ok (.istore 8, 2) := by decide +kernel
theorem dX24_sha_84 : decode cX24_sha 84 = .ok (.iload 8, 2) := by decide +kernel
theorem dX24_sha_86 : decode cX24_sha 86 = .ok (.iload 7, 2) := by decide +kernel
theorem dX24_sha_88 : decode cX24_sha 88 = .ok (.if_icmp .ge 19, 3) := by decide +kernel
theorem dX24_sha_91 : decode cX24_sha 91 = .ok (.aload_n 0, 1) := by decide +kernel
theorem dX24_sha_92 : decode cX24_sha 92 = .ok (.aload_n 0, 1) := by decide +kernel
theorem dX24_sha_93 : decode cX24_sha 93 = .ok (.getfield 34, 3) := by decide +kernel
theorem dX24_sha_96 : decode cX24_sha 96 = .ok (.iload 8, 2) := by decide +kernel
theorem dX24_sha_98 : decode cX24_sha 98 = .ok (.invokevirtual 26, 3) := by decide +kernel
theorem dX24_sha_101 : decode cX24_sha 101 = .ok (.iinc 8 64, 3) := by decide +kernel
theorem dX24_sha_104 : decode cX24_sha 104 = .ok (.goto (-20), 3) := by decide +kernel
theorem dX24_sha_107 : decode cX24_sha 107 = .ok (.iconst 0, 1) := by decide +kernel
theorem dX24_sha_108 : decode cX24_sha 108 = .ok (.istore 8, 2) := by decide +kernel
theorem dX24_sha_110 : decode cX24_sha 110 = .ok (.iload 8, 2) := by decide +kernel
theorem dX24_sha_112 : decode cX24_sha 112 = .ok (.bipush 32, 2) := by decide +kernel
theorem dX24_sha_114 : decode cX24_sha 114 = .ok (.if_icmp .ge 38, 3) := by decide +kernel
theorem dX24_sha_117 : decode cX24_sha 117 = .ok (.aload 4, 2) := by decide +kernel
theorem dX24_sha_119 : decode cX24_sha 119 = .ok (.iload 5, 2) := by decide +kernel
theorem dX24_sha_121 : decode cX24_sha 121 = .ok (.iload 8, 2) := by decide +kernel
theorem dX24_sha_123 : decode cX24_sha 123 = .ok (.iadd, 1) := by decide +kernel
theorem dX24_sha_124 : decode cX24_sha 124 = .ok (.aload_n 0, 1) := by decide +kernel
theorem dX24_sha_125 : decode cX24_sha 125 = .ok (.getfield 19, 3) := by decide +kernel
theorem dX24_sha_128 : decode cX24_sha 128 = .ok (.iload 8, 2) := by decide +kernel
theorem dX24_sha_130 : decode cX24_sha 130 = .ok (.iconst 4, 1) := by decide +kernel
theorem dX24_sha_131 : decode cX24_sha 131 = .ok (.idiv, 1) := by decide +kernel
theorem dX24_sha_132 : decode cX24_sha 132 = .ok (.iaload, 1) := by decide +kernel
theorem dX24_sha_133 : decode cX24_sha 133 = .ok (.bipush 24, 2) := by decide +kernel
theorem dX24_sha_135 : decode cX24_sha 135 = .ok (.bipush 8, 2) := by decide +kernel
theorem dX24_sha_137 : decode cX24_sha 137 = .ok (.iload 8, 2) := by decide +kernel
theorem dX24_sha_139 : decode cX24_sha 139 = .ok (.iconst 4, 1) := by decide +kernel
theorem dX24_sha_140 : decode cX24_sha 140 = .ok (.irem, 1) := by decide +kernel
theorem dX24_sha_141 : decode cX24_sha 141 = .ok (.imul, 1) := by decide +kernel
theorem dX24_sha_142 : decode cX24_sha 142 = .ok (.isub, 1) := by decide +kernel
theorem dX24_sha_143 : decode cX24_sha 143 = .ok (.iushr, 1) := by decide +kernel
theorem dX24_sha_144 : decode cX24_sha 144 = .ok (.i2b, 1) := by decide +kernel
theorem dX24_sha_145 : decode cX24_sha 145 = .ok (.bastore, 1) := by decide +kernel
theorem dX24_sha_146 : decode cX24_sha 146 = .ok (.iinc 8 1, 3) := by decide +kernel
theorem dX24_sha_149 : decode cX24_sha 149 = .ok (.goto (-39), 3) := by decide +kernel
theorem dX24_sha_152 : decode cX24_sha 152 = .ok (.return_, 1) := by decide +kernel
/-! CoinJudgeModel.sha([BII[BI)V -/
set_option maxHeartbeats 4000000 in
theorem sX24_sha_0 {G : Gx} {d t : Nat} {h0 : AH} {Φ : Out → AH → Prop} (h : AH) (v0 : Nat) (v1 : Nat) (v2 : Int32) (v3 : Int32) (v4 : Nat) (v5 : Int32) (K : Aw G mX24_sha (d + 1) t h0 Φ 3 [vR v0, vR v1, vI v2, vI v3, vR v4, vI v5, vI 0, vU, vU] [] h) : Aw G mX24_sha (d + 1) t h0 Φ 0 [vR v0, vR v1, vI v2, vI v3, vR v4, vI v5, vU, vU, vU] [] h := by
  refine r_iconst (pc := 0) (x := 0) dX24_sha_0 rfl ?_
  refine r_istore (pc := 1) (lv' := [_, _, _, _, _, _, _, _, _]) dX24_sha_1 (by decide) rfl ?_
  refine r_mask (pc := 3) [true, true, true, true, true, true, true, false, false] rfl ?_
  exact K
theorem eX24_sha {G : Gx} {d : Nat} {Φ : Out → AH → Prop} (h : AH) (v0 : Nat) (v1 : Nat) (v2 : Int32) (v3 : Int32) (v4 : Nat) (v5 : Int32) (K : WF G h → Aw G mX24_sha (d + 1) 0 h Φ 0 [vR v0, vR v1, vI v2, vI v3, vR v4, vI v5, vU, vU, vU] [] h) : Cw G mX24_sha (d + 1) 0 [vR v0, vR v1, vI v2, vI v3, vR v4, vI v5] h Φ := Cw.of rfl K
set_option maxHeartbeats 4000000 in
theorem sX24_sha_3 {G : Gx} {d t : Nat} {h0 : AH} {Φ : Out → AH → Prop} (h : AH) (v0 : Nat) (v1 : Nat) (v2 : Int32) (v3 : Int32) (v4 : Nat) (v5 : Int32) (v6 : Int32) (K : ((8 ≤ v6 → Aw G mX24_sha (d + 1) t h0 Φ 42 [vR v0, vR v1, vI v2, vI v3, vR v4, vI v5, vI ((v3 / 64) * 64), vI 0, vU] [] h) ∧ (¬ 8 ≤ v6 → h.kd v0 = 24 ∧ ∀ r3 : Nat, r3 = (h.r 24001 v0) → ∀ r4 : Nat, r4 = (h.r 24003 v0) → h.kd r4 = 100 ∧ vp_in v6 (h.ai r4).length ∧ h.kd r3 = 100 ∧ vp_in v6 (h.ai r3).length ∧ ∀ h9 : AH, h9 = h.wi r3 ((h.ai r3).set (v6.toNatClampNeg) ((h.ai r4).getD (v6.toNatClampNeg) 0)) → Aw G mX24_sha (d + 1) t h0 Φ 3 [vR v0, vR v1, vI v2, vI v3, vR v4, vI v5, vI (v6 + 1), vU, vU] [] h9))) : Aw G mX24_sha (d + 1) t h0 Φ 3 [vR v0, vR v1, vI v2, vI v3, vR v4, vI v5, vI v6, vU, vU] [] h := by
  refine r_iload (pc := 3) dX24_sha_3 rfl ?_
  refine r_bipush (pc := 5) (x := 8) dX24_sha_5 rfl ?_
  refine r_icmp_ge (pc := 7) (tgt := 30) dX24_sha_7 rfl (fun c1 => ?_) (fun c1 => ?_)
  · have K := K.1 c1
    refine r_iload_n (pc := 30) dX24_sha_30 rfl ?_
    refine r_bipush (pc := 31) (x := 64) dX24_sha_31 rfl ?_
    refine r_idiv (pc := 33) (by decide) dX24_sha_33 ?_
    refine r_bipush (pc := 34) (x := 64) dX24_sha_34 rfl ?_
    refine r_imul (pc := 36) dX24_sha_36 ?_
    refine r_istore (pc := 37) (lv' := [_, _, _, _, _, _, _, _, _]) dX24_sha_37 (by decide) rfl ?_
    refine r_iconst (pc := 39) (x := 0) dX24_sha_39 rfl ?_
    refine r_istore (pc := 40) (lv' := [_, _, _, _, _, _, _, _, _]) dX24_sha_40 (by decide) rfl ?_
    refine r_mask (pc := 42) [true, true, true, true, true, true, true, true, false] rfl ?_
    exact K
  · have K := K.2 c1
    refine r_aload_n (pc := 10) dX24_sha_10 rfl ?_
    obtain ⟨hk2, K⟩ := K
    have K := K _ rfl
    refine r_getr' (pc := 11) (T := TX24) 24 1 rfl hk2 (Or.inl q2699) dX24_sha_11 kc24 g24001 ?_
    refine r_iload (pc := 14) dX24_sha_14 rfl ?_
    refine r_aload_n (pc := 16) dX24_sha_16 rfl ?_
    have K := K _ rfl
    refine r_getr' (pc := 17) (T := TX24) 24 3 rfl hk2 (Or.inl q2701) dX24_sha_17 kc24 g24003 ?_
    refine r_iload (pc := 20) dX24_sha_20 rfl ?_
    obtain ⟨hk5, K⟩ := K
    obtain ⟨hi6, K⟩ := K
    refine r_iaload (pc := 22) hk5 hi6 dX24_sha_22 ?_
    obtain ⟨hk7, K⟩ := K
    obtain ⟨hi8, K⟩ := K
    refine r_iastore (pc := 23) hk7 hi8 (Or.inl (em rfl)) dX24_sha_23 ?_
    refine r_nameH (fun h9 eh9 => ?_)
    have K := K h9 eh9
    refine r_iinc (pc := 24) (lv' := [_, _, _, _, _, _, _, _, _]) dX24_sha_24 rfl rfl (by decide) rfl ?_
    refine r_goto (pc := 27) (tgt := 3) dX24_sha_27 rfl ?_
    refine r_mask (pc := 3) [true, true, true, true, true, true, true, false, false] rfl ?_
    exact K
set_option maxHeartbeats 4000000 in
theorem sX24_sha_42 {G : Gx} {d t : Nat} {h0 : AH} {Φ : Out → AH → Prop} (h : AH) (v0 : Nat) (v1 : Nat) (v2 : Int32) (v3 : Int32) (v4 : Nat) (v5 : Int32) (v6 : Int32) (v7 : Int32) (K : ((v6 ≤ v7 → h.kd v0 = 24 ∧ Cw G mX24_pad d 0 [vR v0, vR v1, vI (v2 + v6), vI (v3 - v6), vI v3, vI 1] h (kI (fun x2 h3 => Aw G mX24_sha (d + 1) t h0 Φ 84 [vR v0, vU, vU, vU, vR v4, vI v5, vU, vI x2, vI 0] [] h3) (fun x h => Φ (.inr x) h))) ∧ (¬ v6 ≤ v7 → h.kd v0 = 24 ∧ Cw G mX24_shaBlock d 0 [vR v0, vR v1, vI (v2 + v7)] h (kV (fun h6 => Aw G mX24_sha (d + 1) t h0 Φ 42 [vR v0, vR v1, vI v2, vI v3, vR v4, vI v5, vI v6, vI (v7 + 64), vU] [] h6) (fun x h => Φ (.inr x) h))))) : Aw G mX24_sha (d + 1) t h0 Φ 42 [vR v0, vR v1, vI v2, vI v3, vR v4, vI v5, vI v6, vI v7, vU] [] h := by
  refine r_iload (pc := 42) dX24_sha_42 rfl ?_
  refine r_iload (pc := 44) dX24_sha_44 rfl ?_
  refine r_icmp_ge (pc := 46) (tgt := 64) dX24_sha_46 rfl (fun c1 => ?_) (fun c1 => ?_)
  · have K := K.1 c1
    refine r_aload_n (pc := 64) dX24_sha_64 rfl ?_
    refine r_aload_n (pc := 65) dX24_sha_65 rfl ?_
    refine r_iload_n (pc := 66) dX24_sha_66 rfl ?_
    refine r_iload (pc := 67) dX24_sha_67 rfl ?_
    refine r_iadd (pc := 69) dX24_sha_69 ?_
    refine r_iload_n (pc := 70) dX24_sha_70 rfl ?_
    refine r_iload (pc := 71) dX24_sha_71 rfl ?_
    refine r_isub (pc := 73) dX24_sha_73 ?_
    refine r_iload_n (pc := 74) dX24_sha_74 rfl ?_
    refine r_iconst (pc := 75) (x := 1) dX24_sha_75 rfl ?_
    obtain ⟨hk4, K⟩ := K
    refine r_callV_I (pc := 76) (Y := mX24_pad) (vs := [_, _, _, _, _]) (st := []) hk4 rfl kc24 q2333 q2335 qs70 dX24_sha_76 rfl cd_X24_pad rfl rfl fp_X24_sha_X24_pad K (fun x2 h3 eh3 wh3 K => ?_) (fun x h1 _ _ e => Tw.out rfl e)
    refine r_istore (pc := 79) (lv' := [_, _, _, _, _, _, _, _, _]) dX24_sha_79 (by decide) rfl ?_
    refine r_iconst (pc := 81) (x := 0) dX24_sha_81 rfl ?_
    refine r_istore (pc := 82) (lv' := [_, _, _, _, _, _, _, _, _]) dX24_sha_82 (by decide) rfl ?_
    refine r_mask (pc := 84) [true, false, false, false, true, true, false, true, true] rfl ?_
    exact K
  · have K := K.2 c1
    refine r_aload_n (pc := 49) dX24_sha_49 rfl ?_
    refine r_aload_n (pc := 50) dX24_sha_50 rfl ?_
    refine r_iload_n (pc := 51) dX24_sha_51 rfl ?_
    refine r_iload (pc := 52) dX24_sha_52 rfl ?_
    refine r_iadd (pc := 54) dX24_sha_54 ?_
    obtain ⟨hk7, K⟩ := K
    refine r_callV_V (pc := 55) (Y := mX24_shaBlock) (vs := [_, _]) (st := []) hk7 rfl kc24 q2326 q2328 qs69 dX24_sha_55 rfl cd_X24_shaBlock rfl rfl fp_X24_sha_X24_shaBlock K (fun h6 eh6 wh6 K => ?_) (fun x h1 _ _ e => Tw.out rfl e)
    refine r_iinc (pc := 58) (lv' := [_, _, _, _, _, _, _, _, _]) dX24_sha_58 rfl rfl (by decide) rfl ?_
    refine r_goto (pc := 61) (tgt := 42) dX24_sha_61 rfl ?_
    refine r_mask (pc := 42) [true, true, true, true, true, true, true, true, false] rfl ?_
    exact K
set_option maxHeartbeats 4000000 in
theorem sX24_sha_84 {G : Gx} {d t : Nat} {h0 : AH} {Φ : Out → AH → Prop} (h : AH) (v0 : Nat) (v4 : Nat) (v5 : Int32) (v7 : Int32) (v8 : Int32) (K : ((v7 ≤ v8 → Aw G mX24_sha (d + 1) t h0 Φ 110 [vR v0, vU, vU, vU, vR v4, vI v5, vU, vU, vI 0] [] h) ∧ (¬ v7 ≤ v8 → h.kd v0 = 24 ∧ ∀ r3 : Nat, r3 = (h.r 24000 v0) → Cw G mX24_shaBlock d 0 [vR v0, vR r3, vI v8] h (kV (fun h5 => Aw G mX24_sha (d + 1) t h0 Φ 84 [vR v0, vU, vU, vU, vR v4, vI v5, vU, vI v7, vI (v8 + 64)] [] h5) (fun x h => Φ (.inr x) h))))) : Aw G mX24_sha (d + 1) t h0 Φ 84 [vR v0, vU, vU, vU, vR v4, vI v5, vU, vI v7, vI v8] [] h := by
  refine r_iload (pc := 84) dX24_sha_84 rfl ?_
  refine r_iload (pc := 86) dX24_sha_86 rfl ?_
  refine r_icmp_ge (pc := 88) (tgt := 107) dX24_sha_88 rfl (fun c1 => ?_) (fun c1 => ?_)
  · have K := K.1 c1
    refine r_iconst (pc := 107) (x := 0) dX24_sha_107 rfl ?_
    refine r_istore (pc := 108) (lv' := [_, _, _, _, _, _, _, _, _]) dX24_sha_108 (by decide) rfl ?_
    refine r_mask (pc := 110) [true, false, false, false, true, true, false, false, true] rfl ?_
    exact K
  · have K := K.2 c1
    refine r_aload_n (pc := 91) dX24_sha_91 rfl ?_
    refine r_aload_n (pc := 92) dX24_sha_92 rfl ?_
    obtain ⟨hk2, K⟩ := K
    have K := K _ rfl
    refine r_getr' (pc := 93) (T := TX24) 24 0 rfl hk2 (Or.inl q2698) dX24_sha_93 kc24 g24000 ?_
    refine r_iload (pc := 96) dX24_sha_96 rfl ?_
    refine r_callV_V (pc := 98) (Y := mX24_shaBlock) (vs := [_, _]) (st := []) hk2 rfl kc24 q2326 q2328 qs69 dX24_sha_98 rfl cd_X24_shaBlock rfl rfl fp_X24_sha_X24_shaBlock K (fun h5 eh5 wh5 K => ?_) (fun x h1 _ _ e => Tw.out rfl e)
    refine r_iinc (pc := 101) (lv' := [_, _, _, _, _, _, _, _, _]) dX24_sha_101 rfl rfl (by decide) rfl ?_
    refine r_goto (pc := 104) (tgt := 84) dX24_sha_104 rfl ?_
    refine r_mask (pc := 84) [true, false, false, false, true, true, false, true, true] rfl ?_
    exact K
set_option maxHeartbeats 4000000 in
theorem sX24_sha_110 {G : Gx} {d t : Nat} {h0 : AH} {Φ : Out → AH → Prop} (h : AH) (v0 : Nat) (v4 : Nat) (v5 : Int32) (v8 : Int32) (K : ((32 ≤ v8 → Φ (.inl none) h) ∧ (¬ 32 ≤ v8 → h.kd v0 = 24 ∧ ∀ r3 : Nat, r3 = (h.r 24001 v0) → h.kd r3 = 100 ∧ vp_in (v8 / 4) (h.ai r3).length ∧ h.kd v4 = 101 ∧ vp_in (v5 + v8) (h.ai v4).length ∧ ∀ h8 : AH, h8 = h.wi v4 ((h.ai v4).set ((v5 + v8).toNatClampNeg) (i2b (i2b (jushr ((h.ai r3).getD ((v8 / 4).toNatClampNeg) 0) (24 - (8 * (jrem v8 4))))))) → Aw G mX24_sha (d + 1) t h0 Φ 110 [vR v0, vU, vU, vU, vR v4, vI v5, vU, vU, vI (v8 + 1)] [] h8))) : Aw G mX24_sha (d + 1) t h0 Φ 110 [vR v0, vU, vU, vU, vR v4, vI v5, vU, vU, vI v8] [] h := by
  refine r_iload (pc := 110) dX24_sha_110 rfl ?_
  refine r_bipush (pc := 112) (x := 32) dX24_sha_112 rfl ?_
  refine r_icmp_ge (pc := 114) (tgt := 152) dX24_sha_114 rfl (fun c1 => ?_) (fun c1 => ?_)
  · have K := K.1 c1
    exact r_vret (pc := 152) rfl dX24_sha_152 K
  · have K := K.2 c1
    refine r_aload (pc := 117) dX24_sha_117 rfl ?_
    refine r_iload (pc := 119) dX24_sha_119 rfl ?_
    refine r_iload (pc := 121) dX24_sha_121 rfl ?_
    refine r_iadd (pc := 123) dX24_sha_123 ?_
    refine r_aload_n (pc := 124) dX24_sha_124 rfl ?_
    obtain ⟨hk2, K⟩ := K
    have K := K _ rfl
    refine r_getr' (pc := 125) (T := TX24) 24 1 rfl hk2 (Or.inl q2699) dX24_sha_125 kc24 g24001 ?_
    refine r_iload (pc := 128) dX24_sha_128 rfl ?_
    refine r_iconst (pc := 130) (x := 4) dX24_sha_130 rfl ?_
    refine r_idiv (pc := 131) (by decide) dX24_sha_131 ?_
    obtain ⟨hk4, K⟩ := K
    obtain ⟨hi5, K⟩ := K
    refine r_iaload (pc := 132) hk4 hi5 dX24_sha_132 ?_
    refine r_bipush (pc := 133) (x := 24) dX24_sha_133 rfl ?_
    refine r_bipush (pc := 135) (x := 8) dX24_sha_135 rfl ?_
    refine r_iload (pc := 137) dX24_sha_137 rfl ?_
    refine r_iconst (pc := 139) (x := 4) dX24_sha_139 rfl ?_
    refine r_jrem (pc := 140) (by decide) dX24_sha_140 ?_
    refine r_imul (pc := 141) dX24_sha_141 ?_
    refine r_isub (pc := 142) dX24_sha_142 ?_
    refine r_jushr (pc := 143) dX24_sha_143 ?_
    refine r_ji2b (pc := 144) dX24_sha_144 ?_
    obtain ⟨hk6, K⟩ := K
    obtain ⟨hi7, K⟩ := K
    refine r_jbast (pc := 145) hk6 hi7 (Or.inl (em rfl)) dX24_sha_145 ?_
    refine r_nameH (fun h8 eh8 => ?_)
    have K := K h8 eh8
    refine r_iinc (pc := 146) (lv' := [_, _, _, _, _, _, _, _, _]) dX24_sha_146 rfl rfl (by decide) rfl ?_
    refine r_goto (pc := 149) (tgt := 110) dX24_sha_149 rfl ?_
    refine r_mask (pc := 110) [true, false, false, false, true, true, false, false, true] rfl ?_
    exact K
theorem dX24_again_0 : decode cX24_again 0 = .ok (.aload_n 0, 1) := by decide +kernel
theorem dX24_again_1 : decode cX24_again 1 = .ok (.aload_n 1, 1) := by decide +kernel
theorem dX24_again_2 : decode cX24_again 2 = .ok (.iload_n 2, 1) := by decide +kernel
theorem dX24_again_3 : decode cX24_again 3 = .ok (.iload_n 3, 1) := by decide +kernel
theorem dX24_again_4 : decode cX24_again 4 = .ok (.aload_n 0, 1) := by decide +kernel
theorem dX24_again_5 : decode cX24_again 5 = .ok (.getfield 80, 3) := by decide +kernel
theorem dX24_again_8 : decode cX24_again 8 = .ok (.iconst 0, 1) := by decide +kernel
theorem dX24_again_9 : decode cX24_again 9 = .ok (.invokevirtual 83, 3) := by decide +kernel
theorem dX24_again_12 : decode cX24_again 12 = .ok (.aload_n 0, 1) := by decide +kernel
theorem dX24_again_13 : decode cX24_again 13 = .ok (.aload_n 0, 1) := by decide +kernel
theorem dX24_again_14 : decode cX24_again 14 = .ok (.getfield 80, 3) := by decide +kernel
theorem dX24_again_17 : decode cX24_again 17 = .ok (.iconst 0, 1) := by decide +kernel
theorem dX24_again_18 : decode cX24_again 18 = .ok (.bipush 32, 2) := by decide +kernel
theorem dX24_again_20 : decode cX24_again 20 = .ok (.aload 4, 2) := by decide +kernel
theorem dX24_again_22 : decode cX24_again 22 = .ok (.iload 5, 2) := by decide +kernel
theorem dX24_again_24 : decode cX24_again 24 = .ok (.invokevirtual 83, 3) := by decide +kernel
theorem dX24_again_27 : decode cX24_again 27 = .ok (.return_, 1) := by decide +kernel
/-! CoinJudgeModel.again([BII[BI)V -/
set_option maxHeartbeats 4000000 in
theorem sX24_again_0 {G : Gx} {d t : Nat} {h0 : AH} {Φ : Out → AH → Prop} (h : AH) (v0 : Nat) (v1 : Nat) (v2 : Int32) (v3 : Int32) (v4 : Nat) (v5 : Int32) (K : h.kd v0 = 24 ∧ ∀ r2 : Nat, r2 = (h.r 24014 v0) → Cw G mX24_sha d 0 [vR v0, vR v1, vI v2, vI v3, vR r2, vI 0] h (kV (fun h4 => Cw G mX24_sha d 0 [vR v0, vR r2, vI 0, vI 32, vR v4, vI v5] h4 (kV (fun h9 => Φ (.inl none) h9) (fun x h => Φ (.inr x) h))) (fun x h => Φ (.inr x) h))) : Aw G mX24_again (d + 1) t h0 Φ 0 [vR v0, vR v1, vI v2, vI v3, vR v4, vI v5] [] h := by
  refine r_aload_n (pc := 0) dX24_again_0 rfl ?_
  refine r_aload_n (pc := 1) dX24_again_1 rfl ?_
  refine r_iload_n (pc := 2) dX24_again_2 rfl ?_
  refine r_iload_n (pc := 3) dX24_again_3 rfl ?_
  refine r_aload_n (pc := 4) dX24_again_4 rfl ?_
  obtain ⟨hk1, K⟩ := K
  have K := K _ rfl
  refine r_getr' (pc := 5) (T := TX24) 24 14 rfl hk1 (Or.inl q2712) dX24_again_5 kc24 g24014 ?_
  refine r_iconst (pc := 8) (x := 0) dX24_again_8 rfl ?_
  refine r_callV_V (pc := 9) (Y := mX24_sha) (vs := [_, _, _, _, _]) (st := []) hk1 rfl kc24 q2322 q2324 qs68 dX24_again_9 rfl cd_X24_sha rfl rfl fp_X24_again_X24_sha K (fun h4 eh4 wh4 K => ?_) (fun x h1 _ _ e => Tw.out rfl e)
  refine r_aload_n (pc := 12) dX24_again_12 rfl ?_
  refine r_aload_n (pc := 13) dX24_again_13 rfl ?_
  have hk5 := kd_ext eh4 hk1 (nz rfl)
  have hv6 := fr_self (key := 24014) hk1
  have hv7 := (fr_ext (key := 24014) eh4 hk1 (nz rfl) (ne0 wh4 hk5 (nz rfl)) (nm rfl)).trans hv6
  refine r_getr' (pc := 14) (T := TX24) 24 14 hv7 hk5 (Or.inl q2712) dX24_again_14 kc24 g24014 ?_
  refine r_iconst (pc := 17) (x := 0) dX24_again_17 rfl ?_
  refine r_bipush (pc := 18) (x := 32) dX24_again_18 rfl ?_
  refine r_aload (pc := 20) dX24_again_20 rfl ?_
  refine r_iload (pc := 22) dX24_again_22 rfl ?_
  refine r_callV_V (pc := 24) (Y := mX24_sha) (vs := [_, _, _, _, _]) (st := []) hk5 rfl kc24 q2322 q2324 qs68 dX24_again_24 rfl cd_X24_sha rfl rfl fp_X24_again_X24_sha K (fun h9 eh9 wh9 K => ?_) (fun x h1 _ _ e => Tw.out rfl e)
  exact r_vret (pc := 27) rfl dX24_again_27 K
theorem eX24_again {G : Gx} {d : Nat} {Φ : Out → AH → Prop} (h : AH) (v0 : Nat) (v1 : Nat) (v2 : Int32) (v3 : Int32) (v4 : Nat) (v5 : Int32) (K : WF G h → Aw G mX24_again (d + 1) 0 h Φ 0 [vR v0, vR v1, vI v2, vI v3, vR v4, vI v5] [] h) : Cw G mX24_again (d + 1) 0 [vR v0, vR v1, vI v2, vI v3, vR v4, vI v5] h Φ := Cw.of rfl K
theorem dX24_make_0 : decode cX24_make 0 = .ok (.iconst 0, 1) := by decide +kernel
theorem dX24_make_1 : decode cX24_make 1 = .ok (.istore 4, 2) := by decide +kernel
theorem dX24_make_3 : decode cX24_make 3 = .ok (.iload 4, 2) := by decide +kernel
theorem dX24_make_5 : decode cX24_make 5 = .ok (.iload_n 3, 1) := by decide +kernel
theorem dX24_make_6 : decode cX24_make 6 = .ok (.if_icmp .ge 37, 3) := by decide +kernel
theorem dX24_make_9 : decode cX24_make 9 = .ok (.aload_n 0, 1) := by decide +kernel
theorem dX24_make_10 : decode cX24_make 10 = .ok (.getfield 720, 3) := by decide +kernel
theorem dX24_make_13 : decode cX24_make 13 = .ok (.aload_n 0, 1) := by decide +kernel
theorem dX24_make_14 : decode cX24_make 14 = .ok (.getfield 723, 3) := by decide +kernel
theorem dX24_make_17 : decode cX24_make 17 = .ok (.lload_n 1, 1) := by decide +kernel
theorem dX24_make_18 : decode cX24_make 18 = .ok (.bipush 8, 2) := by decide +kernel
theorem dX24_make_20 : decode cX24_make 20 = .ok (.iload 4, 2) := by decide +kernel
theorem dX24_make_22 : decode cX24_make 22 = .ok (.imul, 1) := by decide +kernel
theorem dX24_make_23 : decode cX24_make 23 = .ok (.lushr, 1) := by decide +kernel
theorem dX24_make_24 : decode cX24_make 24 = .ok (.l2i, 1) := by decide +kernel
theorem dX24_make_25 : decode cX24_make 25 = .ok (.i2b, 1) := by decide +kernel
theorem dX24_make_26 : decode cX24_make 26 = .ok (.bastore, 1) := by decide +kernel
theorem dX24_make_27 : decode cX24_make 27 = .ok (.aload_n 0, 1) := by decide +kernel
theorem dX24_make_28 : decode cX24_make 28 = .ok (.dup, 1) := by decide +kernel
theorem dX24_make_29 : decode cX24_make 29 = .ok (.getfield 723, 3) := by decide +kernel
theorem dX24_make_32 : decode cX24_make 32 = .ok (.iconst 1, 1) := by decide +kernel
theorem dX24_make_33 : decode cX24_make 33 = .ok (.iadd, 1) := by decide +kernel
theorem dX24_make_34 : decode cX24_make 34 = .ok (.putfield 723, 3) := by decide +kernel
theorem dX24_make_37 : decode cX24_make 37 = .ok (.iinc 4 1, 3) := by decide +kernel
theorem dX24_make_40 : decode cX24_make 40 = .ok (.goto (-37), 3) := by decide +kernel
theorem dX24_make_43 : decode cX24_make 43 = .ok (.return_, 1) := by decide +kernel
/-! CoinJudgeModel.make(JI)V -/
set_option maxHeartbeats 4000000 in
theorem sX24_make_0 {G : Gx} {d t : Nat} {h0 : AH} {Φ : Out → AH → Prop} (h : AH) (v0 : Nat) (v1 : Int64) (v3 : Int32) (K : Aw G mX24_make (d + 1) t h0 Φ 3 [vR v0, vJ v1, vU, vI v3, vI 0] [] h) : Aw G mX24_make (d + 1) t h0 Φ 0 [vR v0, vJ v1, vU, vI v3, vU] [] h := by
  refine r_iconst (pc := 0) (x := 0) dX24_make_0 rfl ?_
  refine r_istore (pc := 1) (lv' := [_, _, _, _, _]) dX24_make_1 (by decide) rfl ?_
  refine r_mask (pc := 3) [true, true, false, true, true] rfl ?_
  exact K
theorem eX24_make {G : Gx} {d : Nat} {Φ : Out → AH → Prop} (h : AH) (v0 : Nat) (v1 : Int64) (v3 : Int32) (K : WF G h → Aw G mX24_make (d + 1) 0 h Φ 0 [vR v0, vJ v1, vU, vI v3, vU] [] h) : Cw G mX24_make (d + 1) 0 [vR v0, vJ v1, vI v3] h Φ := Cw.of rfl K
set_option maxHeartbeats 4000000 in
theorem sX24_make_3 {G : Gx} {d t : Nat} {h0 : AH} {Φ : Out → AH → Prop} (h : AH) (v0 : Nat) (v1 : Int64) (v3 : Int32) (v4 : Int32) (K : ((v3 ≤ v4 → Φ (.inl none) h) ∧ (¬ v3 ≤ v4 → h.kd v0 = 24 ∧ ∀ r3 : Nat, r3 = (h.r 24106 v0) → h.kd r3 = 101 ∧ vp_in (h.i 24107 v0) (h.ai r3).length ∧ ∀ h6 : AH, h6 = h.wi r3 ((h.ai r3).set ((h.i 24107 v0).toNatClampNeg) (i2b (i2b ((Jushr v1 (8 * v4)).toInt32)))) → ∀ h10 : AH, h10 = h6.pi 24107 v0 ((h.i 24107 v0) + 1) → Aw G mX24_make (d + 1) t h0 Φ 3 [vR v0, vJ v1, vU, vI v3, vI (v4 + 1)] [] h10))) : Aw G mX24_make (d + 1) t h0 Φ 3 [vR v0, vJ v1, vU, vI v3, vI v4] [] h := by
  refine r_iload (pc := 3) dX24_make_3 rfl ?_
  refine r_iload_n (pc := 5) dX24_make_5 rfl ?_
  refine r_icmp_ge (pc := 6) (tgt := 43) dX24_make_6 rfl (fun c1 => ?_) (fun c1 => ?_)
  · have K := K.1 c1
    exact r_vret (pc := 43) rfl dX24_make_43 K
  · have K := K.2 c1
    refine r_aload_n (pc := 9) dX24_make_9 rfl ?_
    obtain ⟨hk2, K⟩ := K
    have K := K _ rfl
    refine r_getr' (pc := 10) (T := TX24) 24 106 rfl hk2 (Or.inl q2804) dX24_make_10 kc24 g24106 ?_
    refine r_aload_n (pc := 13) dX24_make_13 rfl ?_
    refine r_geti' (pc := 14) (T := TX24) 24 107 rfl hk2 (Or.inl q2805) dX24_make_14 kc24 g24107 ?_
    refine r_lload_n (pc := 17) dX24_make_17 rfl ?_
    refine r_bipush (pc := 18) (x := 8) dX24_make_18 rfl ?_
    refine r_iload (pc := 20) dX24_make_20 rfl ?_
    refine r_imul (pc := 22) dX24_make_22 ?_
    refine r_Jushr (pc := 23) dX24_make_23 ?_
    refine r_l2i (pc := 24) dX24_make_24 ?_
    refine r_ji2b (pc := 25) dX24_make_25 ?_
    obtain ⟨hk4, K⟩ := K
    obtain ⟨hi5, K⟩ := K
    refine r_jbast (pc := 26) hk4 hi5 (Or.inl (em rfl)) dX24_make_26 ?_
    refine r_nameH (fun h6 eh6 => ?_)
    have K := K h6 eh6
    refine r_aload_n (pc := 27) dX24_make_27 rfl ?_
    refine r_dup (pc := 28) rfl dX24_make_28 ?_
    have hk7 := kd_wi eh6 hk2
    have hv8 := fi_self (key := 24107) hk2
    have hv9 := fi_wi (key := 24107) eh6 hv8
    refine r_geti' (pc := 29) (T := TX24) 24 107 hv9 hk7 (Or.inl q2805) dX24_make_29 kc24 g24107 ?_
    refine r_iconst (pc := 32) (x := 1) dX24_make_32 rfl ?_
    refine r_iadd (pc := 33) dX24_make_33 ?_
    refine r_puti (pc := 34) (T := TX24) (key := 24107) 24 107 hk7 (Or.inl q2805) dX24_make_34 kc24 rfl (Or.inl rfl) (Or.inl (em rfl)) ?_
    refine r_nameH (fun h10 eh10 => ?_)
    have K := K h10 eh10
    refine r_iinc (pc := 37) (lv' := [_, _, _, _, _]) dX24_make_37 rfl rfl (by decide) rfl ?_
    refine r_goto (pc := 40) (tgt := 3) dX24_make_40 rfl ?_
    refine r_mask (pc := 3) [true, true, false, true, true] rfl ?_
    exact K
theorem dX24_makeCount_0 : decode cX24_makeCount 0 = .ok (.iload_n 1, 1) := by decide +kernel
theorem dX24_makeCount_1 : decode cX24_makeCount 1 = .ok (.sipush 253, 3) := by decide +kernel
theorem dX24_makeCount_4 : decode cX24_makeCount 4 = .ok (.if_icmp .ge 13, 3) := by decide +kernel
theorem dX24_makeCount_7 : decode cX24_makeCount 7 = .ok (.aload_n 0, 1) := by decide +kernel
theorem dX24_makeCount_8 : decode cX24_makeCount 8 = .ok (.iload_n 1, 1) := by decide +kernel
theorem dX24_makeCount_9 : decode cX24_makeCount 9 = .ok (.i2l, 1) := by decide +kernel
theorem dX24_makeCount_10 : decode cX24_makeCount 10 = .ok (.iconst 1, 1) := by decide +kernel
theorem dX24_makeCount_11 : decode cX24_makeCount 11 = .ok (.invokevirtual 726, 3) := by decide +kernel
theorem dX24_makeCount_14 : decode cX24_makeCount 14 = .ok (.goto 18, 3) := by decide +kernel
theorem dX24_makeCount_17 : decode cX24_makeCount 17 = .ok (.aload_n 0, 1) := by decide +kernel
theorem dX24_makeCount_18 : decode cX24_makeCount 18 = .ok (.ldc2_w 271, 3) := by decide +kernel
theorem dX24_makeCount_21 : decode cX24_makeCount 21 = .ok (.iconst 1, 1) := by decide +kernel
theorem dX24_makeCount_22 : decode cX24_makeCount 22 = .ok (.invokevirtual 726, 3) := by decide +kernel
theorem dX24_makeCount_25 : decode cX24_makeCount 25 = .ok (.aload_n 0, 1) := by decide +kernel
theorem dX24_makeCount_26 : decode cX24_makeCount 26 = .ok (.iload_n 1, 1) := by decide +kernel
theorem dX24_makeCount_27 : decode cX24_makeCount 27 = .ok (.i2l, 1) := by decide +kernel
theorem dX24_makeCount_28 : decode cX24_makeCount 28 = .ok (.iconst 2, 1) := by decide +kernel
theorem dX24_makeCount_29 : decode cX24_makeCount 29 = .ok (.invokevirtual 726, 3) := by decide +kernel
theorem dX24_makeCount_32 : decode cX24_makeCount 32 = .ok (.return_, 1) := by decide +kernel
/-! CoinJudgeModel.makeCount(I)V -/
set_option maxHeartbeats 4000000 in
theorem sX24_makeCount_0 {G : Gx} {d t : Nat} {h0 : AH} {Φ : Out → AH → Prop} (h : AH) (v0 : Nat) (v1 : Int32) (K : ((253 ≤ v1 → h.kd v0 = 24 ∧ Cw G mX24_make d 0 [vR v0, vJ 253, vI 1] h (kV (fun h3 => Cw G mX24_make d 0 [vR v0, vJ v1.toInt64, vI 2] h3 (kV (fun h6 => Φ (.inl none) h6) (fun x h => Φ (.inr x) h))) (fun x h => Φ (.inr x) h))) ∧ (¬ 253 ≤ v1 → h.kd v0 = 24 ∧ Cw G mX24_make d 0 [vR v0, vJ v1.toInt64, vI 1] h (kV (fun h9 => Φ (.inl none) h9) (fun x h => Φ (.inr x) h))))) : Aw G mX24_makeCount (d + 1) t h0 Φ 0 [vR v0, vI v1] [] h := by
  refine r_iload_n (pc := 0) dX24_makeCount_0 rfl ?_
  refine r_sipush (pc := 1) (x := 253) dX24_makeCount_1 rfl ?_
  refine r_icmp_ge (pc := 4) (tgt := 17) dX24_makeCount_4 rfl (fun c1 => ?_) (fun c1 => ?_)
  · have K := K.1 c1
    refine r_aload_n (pc := 17) dX24_makeCount_17 rfl ?_
    refine r_ldc2 (pc := 18) dX24_makeCount_18 q2313 ?_
    refine r_iconst (pc := 21) (x := 1) dX24_makeCount_21 rfl ?_
    obtain ⟨hk4, K⟩ := K
    refine r_callV_V (pc := 22) (Y := mX24_make) (vs := [_, _]) (st := []) hk4 rfl kc24 q2305 q2307 qs64 dX24_makeCount_22 rfl cd_X24_make rfl rfl fp_X24_makeCount_X24_make K (fun h3 eh3 wh3 K => ?_) (fun x h1 _ _ e => Tw.out rfl e)
    refine r_aload_n (pc := 25) dX24_makeCount_25 rfl ?_
    refine r_iload_n (pc := 26) dX24_makeCount_26 rfl ?_
    refine r_i2l (pc := 27) dX24_makeCount_27 ?_
    refine r_iconst (pc := 28) (x := 2) dX24_makeCount_28 rfl ?_
    have hk7 := kd_ext eh3 hk4 (nz rfl)
    refine r_callV_V (pc := 29) (Y := mX24_make) (vs := [_, _]) (st := []) hk7 rfl kc24 q2305 q2307 qs64 dX24_makeCount_29 rfl cd_X24_make rfl rfl fp_X24_makeCount_X24_make K (fun h6 eh6 wh6 K => ?_) (fun x h1 _ _ e => Tw.out rfl e)
    exact r_vret (pc := 32) rfl dX24_makeCount_32 K
  · have K := K.2 c1
    refine r_aload_n (pc := 7) dX24_makeCount_7 rfl ?_
    refine r_iload_n (pc := 8) dX24_makeCount_8 rfl ?_
    refine r_i2l (pc := 9) dX24_makeCount_9 ?_
    refine r_iconst (pc := 10) (x := 1) dX24_makeCount_10 rfl ?_
    obtain ⟨hk10, K⟩ := K
    refine r_callV_V (pc := 11) (Y := mX24_make) (vs := [_, _]) (st := []) hk10 rfl kc24 q2305 q2307 qs64 dX24_makeCount_11 rfl cd_X24_make rfl rfl fp_X24_makeCount_X24_make K (fun h9 eh9 wh9 K => ?_) (fun x h1 _ _ e => Tw.out rfl e)
    refine r_goto (pc := 14) (tgt := 32) dX24_makeCount_14 rfl ?_
    exact r_vret (pc := 32) rfl dX24_makeCount_32 K
theorem eX24_makeCount {G : Gx} {d : Nat} {Φ : Out → AH → Prop} (h : AH) (v0 : Nat) (v1 : Int32) (K : WF G h → Aw G mX24_makeCount (d + 1) 0 h Φ 0 [vR v0, vI v1] [] h) : Cw G mX24_makeCount (d + 1) 0 [vR v0, vI v1] h Φ := Cw.of rfl K
theorem dX24_make_2_0 : decode cX24_make_2 0 = .ok (.iconst 0, 1) := by decide +kernel
theorem dX24_make_2_1 : decode cX24_make_2 1 = .ok (.istore 4, 2) := by decide +kernel
theorem dX24_make_2_3 : decode cX24_make_2 3 = .ok (.iload 4, 2) := by decide +kernel
theorem dX24_make_2_5 : decode cX24_make_2 5 = .ok (.iload_n 3, 1) := by decide +kernel
theorem dX24_make_2_6 : decode cX24_make_2 6 = .ok (.if_icmp .ge 34, 3) := by decide +kernel
theorem dX24_make_2_9 : decode cX24_make_2 9 = .ok (.aload_n 0, 1) := by decide +kernel
theorem dX24_make_2_10 : decode cX24_make_2 10 = .ok (.getfield 720, 3) := by decide +kernel
theorem dX24_make_2_13 : decode cX24_make_2 13 = .ok (.aload_n 0, 1) := by decide +kernel
theorem dX24_make_2_14 : decode cX24_make_2 14 = .ok (.getfield 723, 3) := by decide +kernel
theorem dX24_make_2_17 : decode cX24_make_2 17 = .ok (.aload_n 1, 1) := by decide +kernel
theorem dX24_make_2_18 : decode cX24_make_2 18 = .ok (.iload_n 2, 1) := by decide +kernel
theorem dX24_make_2_19 : decode cX24_make_2 19 = .ok (.iload 4, 2) := by decide +kernel
theorem dX24_make_2_21 : decode cX24_make_2 21 = .ok (.iadd, 1) := by decide +kernel
theorem dX24_make_2_22 : decode cX24_make_2 22 = .ok (.baload, 1) := by decide +kernel
theorem dX24_make_2_23 : decode cX24_make_2 23 = .ok (.bastore, 1) := by decide +kernel
theorem dX24_make_2_24 : decode cX24_make_2 24 = .ok (.aload_n 0, 1) := by decide +kernel
theorem dX24_make_2_25 : decode cX24_make_2 25 = .ok (.dup, 1) := by decide +kernel
theorem dX24_make_2_26 : decode cX24_make_2 26 = .ok (.getfield 723, 3) := by decide +kernel
theorem dX24_make_2_29 : decode cX24_make_2 29 = .ok (.iconst 1, 1) := by decide +kernel
theorem dX24_make_2_30 : decode cX24_make_2 30 = .ok (.iadd, 1) := by decide +kernel
theorem dX24_make_2_31 : decode cX24_make_2 31 = .ok (.putfield 723, 3) := by decide +kernel
theorem dX24_make_2_34 : decode cX24_make_2 34 = .ok (.iinc 4 1, 3) := by decide +kernel
theorem dX24_make_2_37 : decode cX24_make_2 37 = .ok (.goto (-34), 3) := by decide +kernel
theorem dX24_make_2_40 : decode cX24_make_2 40 = .ok (.return_, 1) := by decide +kernel
/-! CoinJudgeModel.make([BII)V -/
set_option maxHeartbeats 4000000 in
theorem sX24_make_2_0 {G : Gx} {d t : Nat} {h0 : AH} {Φ : Out → AH → Prop} (h : AH) (v0 : Nat) (v1 : Nat) (v2 : Int32) (v3 : Int32) (K : Aw G mX24_make_2 (d + 1) t h0 Φ 3 [vR v0, vR v1, vI v2, vI v3, vI 0] [] h) : Aw G mX24_make_2 (d + 1) t h0 Φ 0 [vR v0, vR v1, vI v2, vI v3, vU] [] h := by
  refine r_iconst (pc := 0) (x := 0) dX24_make_2_0 rfl ?_
  refine r_istore (pc := 1) (lv' := [_, _, _, _, _]) dX24_make_2_1 (by decide) rfl ?_
  refine r_mask (pc := 3) [true, true, true, true, true] rfl ?_
  exact K
theorem eX24_make_2 {G : Gx} {d : Nat} {Φ : Out → AH → Prop} (h : AH) (v0 : Nat) (v1 : Nat) (v2 : Int32) (v3 : Int32) (K : WF G h → Aw G mX24_make_2 (d + 1) 0 h Φ 0 [vR v0, vR v1, vI v2, vI v3, vU] [] h) : Cw G mX24_make_2 (d + 1) 0 [vR v0, vR v1, vI v2, vI v3] h Φ := Cw.of rfl K
set_option maxHeartbeats 4000000 in
theorem sX24_make_2_3 {G : Gx} {d t : Nat} {h0 : AH} {Φ : Out → AH → Prop} (h : AH) (v0 : Nat) (v1 : Nat) (v2 : Int32) (v3 : Int32) (v4 : Int32) (K : ((v3 ≤ v4 → Φ (.inl none) h) ∧ (¬ v3 ≤ v4 → h.kd v0 = 24 ∧ ∀ r3 : Nat, r3 = (h.r 24106 v0) → h.kd v1 = 101 ∧ vp_in (v2 + v4) (h.ai v1).length ∧ h.kd r3 = 101 ∧ vp_in (h.i 24107 v0) (h.ai r3).length ∧ ∀ h8 : AH, h8 = h.wi r3 ((h.ai r3).set ((h.i 24107 v0).toNatClampNeg) (i2b ((h.ai v1).getD ((v2 + v4).toNatClampNeg) 0))) → ∀ h12 : AH, h12 = h8.pi 24107 v0 ((h.i 24107 v0) + 1) → Aw G mX24_make_2 (d + 1) t h0 Φ 3 [vR v0, vR v1, vI v2, vI v3, vI (v4 + 1)] [] h12))) : Aw G mX24_make_2 (d + 1) t h0 Φ 3 [vR v0, vR v1, vI v2, vI v3, vI v4] [] h := by
  refine r_iload (pc := 3) dX24_make_2_3 rfl ?_
  refine r_iload_n (pc := 5) dX24_make_2_5 rfl ?_
  refine r_icmp_ge (pc := 6) (tgt := 40) dX24_make_2_6 rfl (fun c1 => ?_) (fun c1 => ?_)
  · have K := K.1 c1
    exact r_vret (pc := 40) rfl dX24_make_2_40 K
  · have K := K.2 c1
    refine r_aload_n (pc := 9) dX24_make_2_9 rfl ?_
    obtain ⟨hk2, K⟩ := K
    have K := K _ rfl
    refine r_getr' (pc := 10) (T := TX24) 24 106 rfl hk2 (Or.inl q2804) dX24_make_2_10 kc24 g24106 ?_
    refine r_aload_n (pc := 13) dX24_make_2_13 rfl ?_
    refine r_geti' (pc := 14) (T := TX24) 24 107 rfl hk2 (Or.inl q2805) dX24_make_2_14 kc24 g24107 ?_
    refine r_aload_n (pc := 17) dX24_make_2_17 rfl ?_
    refine r_iload_n (pc := 18) dX24_make_2_18 rfl ?_
    refine r_iload (pc := 19) dX24_make_2_19 rfl ?_
    refine r_iadd (pc := 21) dX24_make_2_21 ?_
    obtain ⟨hk4, K⟩ := K
    obtain ⟨hi5, K⟩ := K
    refine r_baload (pc := 22) hk4 hi5 dX24_make_2_22 ?_
    obtain ⟨hk6, K⟩ := K
    obtain ⟨hi7, K⟩ := K
    refine r_jbast (pc := 23) hk6 hi7 (Or.inl (em rfl)) dX24_make_2_23 ?_
    refine r_nameH (fun h8 eh8 => ?_)
    have K := K h8 eh8
    refine r_aload_n (pc := 24) dX24_make_2_24 rfl ?_
    refine r_dup (pc := 25) rfl dX24_make_2_25 ?_
    have hk9 := kd_wi eh8 hk2
    have hv10 := fi_self (key := 24107) hk2
    have hv11 := fi_wi (key := 24107) eh8 hv10
    refine r_geti' (pc := 26) (T := TX24) 24 107 hv11 hk9 (Or.inl q2805) dX24_make_2_26 kc24 g24107 ?_
    refine r_iconst (pc := 29) (x := 1) dX24_make_2_29 rfl ?_
    refine r_iadd (pc := 30) dX24_make_2_30 ?_
    refine r_puti (pc := 31) (T := TX24) (key := 24107) 24 107 hk9 (Or.inl q2805) dX24_make_2_31 kc24 rfl (Or.inl rfl) (Or.inl (em rfl)) ?_
    refine r_nameH (fun h12 eh12 => ?_)
    have K := K h12 eh12
    refine r_iinc (pc := 34) (lv' := [_, _, _, _, _]) dX24_make_2_34 rfl rfl (by decide) rfl ?_
    refine r_goto (pc := 37) (tgt := 3) dX24_make_2_37 rfl ?_
    refine r_mask (pc := 3) [true, true, true, true, true] rfl ?_
    exact K
theorem dX24_makeTx_0 : decode cX24_makeTx 0 = .ok (.aload_n 0, 1) := by decide +kernel
theorem dX24_makeTx_1 : decode cX24_makeTx 1 = .ok (.aload_n 0, 1) := by decide +kernel
theorem dX24_makeTx_2 : decode cX24_makeTx 2 = .ok (.getfield 729, 3) := by decide +kernel
theorem dX24_makeTx_5 : decode cX24_makeTx 5 = .ok (.iload_n 1, 1) := by decide +kernel
theorem dX24_makeTx_6 : decode cX24_makeTx 6 = .ok (.laload, 1) := by decide +kernel
theorem dX24_makeTx_7 : decode cX24_makeTx 7 = .ok (.iconst 4, 1) := by decide +kernel
theorem dX24_makeTx_8 : decode cX24_makeTx 8 = .ok (.invokevirtual 726, 3) := by decide +kernel
theorem dX24_makeTx_11 : decode cX24_makeTx 11 = .ok (.aload_n 0, 1) := by decide +kernel
theorem dX24_makeTx_12 : decode cX24_makeTx 12 = .ok (.aload_n 0, 1) := by decide +kernel
theorem dX24_makeTx_13 : decode cX24_makeTx 13 = .ok (.getfield 732, 3) := by decide +kernel
theorem dX24_makeTx_16 : decode cX24_makeTx 16 = .ok (.iload_n 1, 1) := by decide +kernel
theorem dX24_makeTx_17 : decode cX24_makeTx 17 = .ok (.iaload, 1) := by decide +kernel
theorem dX24_makeTx_18 : decode cX24_makeTx 18 = .ok (.invokevirtual 735, 3) := by decide +kernel
theorem dX24_makeTx_21 : decode cX24_makeTx 21 = .ok (.bipush 6, 2) := by decide +kernel
theorem dX24_makeTx_23 : decode cX24_makeTx 23 = .ok (.iload_n 1, 1) := by decide +kernel
theorem dX24_makeTx_24 : decode cX24_makeTx 24 = .ok (.imul, 1) := by decide +kernel
theorem dX24_makeTx_25 : decode cX24_makeTx 25 = .ok (.istore_n 2, 1) := by decide +kernel
theorem dX24_makeTx_26 : decode cX24_makeTx 26 = .ok (.iload_n 2, 1) := by decide +kernel
theorem dX24_makeTx_27 : decode cX24_makeTx 27 = .ok (.bipush 6, 2) := by decide +kernel
theorem dX24_makeTx_29 : decode cX24_makeTx 29 = .ok (.iload_n 1, 1) := by decide +kernel
theorem dX24_makeTx_30 : decode cX24_makeTx 30 = .ok (.imul, 1) := by decide +kernel
theorem dX24_makeTx_31 : decode cX24_makeTx 31 = .ok (.aload_n 0, 1) := by decide +kernel
theorem dX24_makeTx_32 : decode cX24_makeTx 32 = .ok (.getfield 732, 3) := by decide +kernel
theorem dX24_makeTx_35 : decode cX24_makeTx 35 = .ok (.iload_n 1, 1) := by decide +kernel
theorem dX24_makeTx_36 : decode cX24_makeTx 36 = .ok (.iaload, 1) := by decide +kernel
theorem dX24_makeTx_37 : decode cX24_makeTx 37 = .ok (.iadd, 1) := by decide +kernel
theorem dX24_makeTx_38 : decode cX24_makeTx 38 = .ok (.if_icmp .ge 61, 3) := by decide +kernel
theorem dX24_makeTx_41 : decode cX24_makeTx 41 = .ok (.aload_n 0, 1) := by decide +kernel
theorem dX24_makeTx_42 : decode cX24_makeTx 42 = .ok (.aload_n 0, 1) := by decide +kernel
theorem dX24_makeTx_43 : decode cX24_makeTx 43 = .ok (.getfield 738, 3) := by decide +kernel
theorem dX24_makeTx_46 : decode cX24_makeTx 46 = .ok (.bipush 36, 2) := by decide +kernel
theorem dX24_makeTx_48 : decode cX24_makeTx 48 = .ok (.iload_n 2, 1) := by decide +kernel
theorem dX24_makeTx_49 : decode cX24_makeTx 49 = .ok (.imul, 1) := by decide +kernel
theorem dX24_makeTx_50 : decode cX24_makeTx 50 = .ok (.bipush 36, 2) := by decide +kernel
theorem dX24_makeTx_52 : decode cX24_makeTx 52 = .ok (.invokevirtual 741, 3) := by decide +kernel
theorem dX24_makeTx_55 : decode cX24_makeTx 55 = .ok (.aload_n 0, 1) := by decide +kernel
theorem dX24_makeTx_56 : decode cX24_makeTx 56 = .ok (.aload_n 0, 1) := by decide +kernel
theorem dX24_makeTx_57 : decode cX24_makeTx 57 = .ok (.getfield 743, 3) := by decide +kernel
theorem dX24_makeTx_60 : decode cX24_makeTx 60 = .ok (.iload_n 2, 1) := by decide +kernel
theorem dX24_makeTx_61 : decode cX24_makeTx 61 = .ok (.iaload, 1) := by decide +kernel
theorem dX24_makeTx_62 : decode cX24_makeTx 62 = .ok (.invokevirtual 735, 3) := by decide +kernel
theorem dX24_makeTx_65 : decode cX24_makeTx 65 = .ok (.aload_n 0, 1) := by decide +kernel
theorem dX24_makeTx_66 : decode cX24_makeTx 66 = .ok (.aload_n 0, 1) := by decide +kernel
theorem dX24_makeTx_67 : decode cX24_makeTx 67 = .ok (.getfield 746, 3) := by decide +kernel
theorem dX24_makeTx_70 : decode cX24_makeTx 70 = .ok (.iload_n 2, 1) := by decide +kernel
theorem dX24_makeTx_71 : decode cX24_makeTx 71 = .ok (.aaload, 1) := by decide +kernel
theorem dX24_makeTx_72 : decode cX24_makeTx 72 = .ok (.iconst 0, 1) := by decide +kernel
theorem dX24_makeTx_73 : decode cX24_makeTx 73 = .ok (.aload_n 0, 1) := by decide +kernel
theorem dX24_makeTx_74 : decode cX24_makeTx 74 = .ok (.getfield 743, 3) := by decide +kernel
theorem dX24_makeTx_77 : decode cX24_makeTx 77 = .ok (.iload_n 2, 1) := by decide +kernel
theorem dX24_makeTx_78 : decode cX24_makeTx 78 = .ok (.iaload, 1) := by decide +kernel
theorem dX24_makeTx_79 : decode cX24_makeTx 79 = .ok (.invokevirtual 741, 3) := by decide +kernel
theorem dX24_makeTx_82 : decode cX24_makeTx 82 = .ok (.aload_n 0, 1) := by decide +kernel
theorem dX24_makeTx_83 : decode cX24_makeTx 83 = .ok (.aload_n 0, 1) := by decide +kernel
theorem dX24_makeTx_84 : decode cX24_makeTx 84 = .ok (.getfield 749, 3) := by decide +kernel
theorem dX24_makeTx_87 : decode cX24_makeTx 87 = .ok (.iload_n 2, 1) := by decide +kernel
theorem dX24_makeTx_88 : decode cX24_makeTx 88 = .ok (.laload, 1) := by decide +kernel
theorem dX24_makeTx_89 : decode cX24_makeTx 89 = .ok (.iconst 4, 1) := by decide +kernel
theorem dX24_makeTx_90 : decode cX24_makeTx 90 = .ok (.invokevirtual 726, 3) := by decide +kernel
theorem dX24_makeTx_93 : decode cX24_makeTx 93 = .ok (.iinc 2 1, 3) := by decide +kernel
theorem dX24_makeTx_96 : decode cX24_makeTx 96 = .ok (.goto (-70), 3) := by decide +kernel
theorem dX24_makeTx_99 : decode cX24_makeTx 99 = .ok (.aload_n 0, 1) := by decide +kernel
theorem dX24_makeTx_100 : decode cX24_makeTx 100 = .ok (.aload_n 0, 1) := by decide +kernel
theorem dX24_makeTx_101 : decode cX24_makeTx 101 = .ok (.getfield 752, 3) := by decide +kernel
theorem dX24_makeTx_104 : decode cX24_makeTx 104 = .ok (.iload_n 1, 1) := by decide +kernel
theorem dX24_makeTx_105 : decode cX24_makeTx 105 = .ok (.iaload, 1) := by decide +kernel
theorem dX24_makeTx_106 : decode cX24_makeTx 106 = .ok (.invokevirtual 735, 3) := by decide +kernel
theorem dX24_makeTx_109 : decode cX24_makeTx 109 = .ok (.bipush 6, 2) := by decide +kernel
theorem dX24_makeTx_111 : decode cX24_makeTx 111 = .ok (.iload_n 1, 1) := by decide +kernel
theorem dX24_makeTx_112 : decode cX24_makeTx 112 = .ok (.imul, 1) := by decide +kernel
theorem dX24_makeTx_113 : decode cX24_makeTx 113 = .ok (.istore_n 2, 1) := by decide +kernel
theorem dX24_makeTx_114 : decode cX24_makeTx 114 = .ok (.iload_n 2, 1) := by decide +kernel
theorem dX24_makeTx_115 : decode cX24_makeTx 115 = .ok (.bipush 6, 2) := by decide +kernel
theorem dX24_makeTx_117 : decode cX24_makeTx 117 = .ok (.iload_n 1, 1) := by decide +kernel
theorem dX24_makeTx_118 : decode cX24_makeTx 118 = .ok (.imul, 1) := by decide +kernel
theorem dX24_makeTx_119 : decode cX24_makeTx 119 = .ok (.aload_n 0, 1) := by decide +kernel
theorem dX24_makeTx_120 : decode cX24_makeTx 120 = .ok (.getfield 752, 3) := by decide +kernel
theorem dX24_makeTx_123 : decode cX24_makeTx 123 = .ok (.iload_n 1, 1) := by decide +kernel
theorem dX24_makeTx_124 : decode cX24_makeTx 124 = .ok (.iaload, 1) := by decide +kernel
theorem dX24_makeTx_125 : decode cX24_makeTx 125 = .ok (.iadd, 1) := by decide +kernel
theorem dX24_makeTx_126 : decode cX24_makeTx 126 = .ok (.if_icmp .ge 48, 3) := by decide +kernel
theorem dX24_makeTx_129 : decode cX24_makeTx 129 = .ok (.aload_n 0, 1) := by decide +kernel
theorem dX24_makeTx_130 : decode cX24_makeTx 130 = .ok (.aload_n 0, 1) := by decide +kernel
theorem dX24_makeTx_131 : decode cX24_makeTx 131 = .ok (.getfield 755, 3) := by decide +kernel
theorem dX24_makeTx_134 : decode cX24_makeTx 134 = .ok (.iload_n 2, 1) := by decide +kernel
theorem dX24_makeTx_135 : decode cX24_makeTx 135 = .ok (.laload, 1) := by decide +kernel
theorem dX24_makeTx_136 : decode cX24_makeTx 136 = .ok (.bipush 8, 2) := by decide +kernel
theorem dX24_makeTx_138 : decode cX24_makeTx 138 = .ok (.invokevirtual 726, 3) := by decide +kernel
theorem dX24_makeTx_141 : decode cX24_makeTx 141 = .ok (.aload_n 0, 1) := by decide +kernel
theorem dX24_makeTx_142 : decode cX24_makeTx 142 = .ok (.aload_n 0, 1) := by decide +kernel
theorem dX24_makeTx_143 : decode cX24_makeTx 143 = .ok (.getfield 758, 3) := by decide +kernel
theorem dX24_makeTx_146 : decode cX24_makeTx 146 = .ok (.iload_n 2, 1) := by decide +kernel
theorem dX24_makeTx_147 : decode cX24_makeTx 147 = .ok (.iaload, 1) := by decide +kernel
theorem dX24_makeTx_148 : decode cX24_makeTx 148 = .ok (.invokevirtual 735, 3) := by decide +kernel
theorem dX24_makeTx_151 : decode cX24_makeTx 151 = .ok (.aload_n 0, 1) := by decide +kernel
theorem dX24_makeTx_152 : decode cX24_makeTx 152 = .ok (.aload_n 0, 1) := by decide +kernel
theorem dX24_makeTx_153 : decode cX24_makeTx 153 = .ok (.getfield 761, 3) := by decide +kernel
theorem dX24_makeTx_156 : decode cX24_makeTx 156 = .ok (.iload_n 2, 1) := by decide +kernel
theorem dX24_makeTx_157 : decode cX24_makeTx 157 = .ok (.aaload, 1) := by decide +kernel
theorem dX24_makeTx_158 : decode cX24_makeTx 158 = .ok (.iconst 0, 1) := by decide +kernel
theorem dX24_makeTx_159 : decode cX24_makeTx 159 = .ok (.aload_n 0, 1) := by decide +kernel
theorem dX24_makeTx_160 : decode cX24_makeTx 160 = .ok (.getfield 758, 3) := by decide +kernel
theorem dX24_makeTx_163 : decode cX24_makeTx 163 = .ok (.iload_n 2, 1) := by decide +kernel
theorem dX24_makeTx_164 : decode cX24_makeTx 164 = .ok (.iaload, 1) := by decide +kernel
theorem dX24_makeTx_165 : decode cX24_makeTx 165 = .ok (.invokevirtual 741, 3) := by decide +kernel
theorem dX24_makeTx_168 : decode cX24_makeTx 168 = .ok (.iinc 2 1, 3) := by decide +kernel
theorem dX24_makeTx_171 : decode cX24_makeTx 171 = .ok (.goto (-57), 3) := by decide +kernel
theorem dX24_makeTx_174 : decode cX24_makeTx 174 = .ok (.aload_n 0, 1) := by decide +kernel
theorem dX24_makeTx_175 : decode cX24_makeTx 175 = .ok (.aload_n 0, 1) := by decide +kernel
theorem dX24_makeTx_176 : decode cX24_makeTx 176 = .ok (.getfield 764, 3) := by decide +kernel
theorem dX24_makeTx_179 : decode cX24_makeTx 179 = .ok (.iload_n 1, 1) := by decide +kernel
theorem dX24_makeTx_180 : decode cX24_makeTx 180 = .ok (.laload, 1) := by decide +kernel
theorem dX24_makeTx_181 : decode cX24_makeTx 181 = .ok (.iconst 4, 1) := by decide +kernel
theorem dX24_makeTx_182 : decode cX24_makeTx 182 = .ok (.invokevirtual 726, 3) := by decide +kernel
theorem dX24_makeTx_185 : decode cX24_makeTx 185 = .ok (.return_, 1) := by decide +kernel
/-! CoinJudgeModel.makeTx(I)V -/
set_option maxHeartbeats 4000000 in
theorem sX24_makeTx_0 {G : Gx} {d t : Nat} {h0 : AH} {Φ : Out → AH → Prop} (h : AH) (v0 : Nat) (v1 : Int32) (K : h.kd v0 = 24 ∧ ∀ r2 : Nat, r2 = (h.r 24095 v0) → h.kd r2 = 103 ∧ vp_in v1 (h.al r2).length ∧ Cw G mX24_make d 0 [vR v0, vJ ((h.al r2).getD (v1.toNatClampNeg) 0), vI 4] h (kV (fun h6 => ∀ r8 : Nat, r8 = (h6.r 24097 v0) → h6.kd r8 = 100 ∧ vp_in v1 (h6.ai r8).length ∧ Cw G mX24_makeCount d 0 [vR v0, vI ((h6.ai r8).getD (v1.toNatClampNeg) 0)] h6 (kV (fun h12 => Aw G mX24_makeTx (d + 1) t h0 Φ 26 [vR v0, vI v1, vI (6 * v1)] [] h12) (fun x h => Φ (.inr x) h))) (fun x h => Φ (.inr x) h))) : Aw G mX24_makeTx (d + 1) t h0 Φ 0 [vR v0, vI v1, vU] [] h := by
  refine r_aload_n (pc := 0) dX24_makeTx_0 rfl ?_
  refine r_aload_n (pc := 1) dX24_makeTx_1 rfl ?_
  obtain ⟨hk1, K⟩ := K
  have K := K _ rfl
  refine r_getr' (pc := 2) (T := TX24) 24 95 rfl hk1 (Or.inl q2793) dX24_makeTx_2 kc24 g24095 ?_
  refine r_iload_n (pc := 5) dX24_makeTx_5 rfl ?_
  obtain ⟨hk3, K⟩ := K
  obtain ⟨hi4, K⟩ := K
  refine r_laload (pc := 6) hk3 hi4 dX24_makeTx_6 ?_
  refine r_iconst (pc := 7) (x := 4) dX24_makeTx_7 rfl ?_
  refine r_callV_V (pc := 8) (Y := mX24_make) (vs := [_, _]) (st := []) hk1 rfl kc24 q2305 q2307 qs64 dX24_makeTx_8 rfl cd_X24_make rfl rfl fp_X24_makeTx_X24_make K (fun h6 eh6 wh6 K => ?_) (fun x h1 _ _ e => Tw.out rfl e)
  refine r_aload_n (pc := 11) dX24_makeTx_11 rfl ?_
  refine r_aload_n (pc := 12) dX24_makeTx_12 rfl ?_
  have hk7 := kd_ext eh6 hk1 (nz rfl)
  have K := K _ rfl
  refine r_getr' (pc := 13) (T := TX24) 24 97 rfl hk7 (Or.inl q2795) dX24_makeTx_13 kc24 g24097 ?_
  refine r_iload_n (pc := 16) dX24_makeTx_16 rfl ?_
  obtain ⟨hk9, K⟩ := K
  obtain ⟨hi10, K⟩ := K
  refine r_iaload (pc := 17) hk9 hi10 dX24_makeTx_17 ?_
  refine r_callV_V (pc := 18) (Y := mX24_makeCount) (vs := [_]) (st := []) hk7 rfl kc24 q2309 q2311 qs65 dX24_makeTx_18 rfl cd_X24_makeCount rfl rfl fp_X24_makeTx_X24_makeCount K (fun h12 eh12 wh12 K => ?_) (fun x h1 _ _ e => Tw.out rfl e)
  refine r_bipush (pc := 21) (x := 6) dX24_makeTx_21 rfl ?_
  refine r_iload_n (pc := 23) dX24_makeTx_23 rfl ?_
  refine r_imul (pc := 24) dX24_makeTx_24 ?_
  refine r_istore_n (pc := 25) (lv' := [_, _, _]) dX24_makeTx_25 (by decide) rfl ?_
  refine r_mask (pc := 26) [true, true, true] rfl ?_
  exact K
theorem eX24_makeTx {G : Gx} {d : Nat} {Φ : Out → AH → Prop} (h : AH) (v0 : Nat) (v1 : Int32) (K : WF G h → Aw G mX24_makeTx (d + 1) 0 h Φ 0 [vR v0, vI v1, vU] [] h) : Cw G mX24_makeTx (d + 1) 0 [vR v0, vI v1] h Φ := Cw.of rfl K
set_option maxHeartbeats 4000000 in
theorem sX24_makeTx_26 {G : Gx} {d t : Nat} {h0 : AH} {Φ : Out → AH → Prop} (h : AH) (v0 : Nat) (v1 : Int32) (v2 : Int32) (K : h.kd v0 = 24 ∧ ∀ r2 : Nat, r2 = (h.r 24097 v0) → h.kd r2 = 100 ∧ vp_in v1 (h.ai r2).length ∧ ((((6 * v1) + ((h.ai r2).getD (v1.toNatClampNeg) 0)) ≤ v2 → ∀ r6 : Nat, r6 = (h.r 24098 v0) → h.kd r6 = 100 ∧ vp_in v1 (h.ai r6).length ∧ Cw G mX24_makeCount d 0 [vR v0, vI ((h.ai r6).getD (v1.toNatClampNeg) 0)] h (kV (fun h10 => Aw G mX24_makeTx (d + 1) t h0 Φ 114 [vR v0, vI v1, vI (6 * v1)] [] h10) (fun x h => Φ (.inr x) h))) ∧ (¬ ((6 * v1) + ((h.ai r2).getD (v1.toNatClampNeg) 0)) ≤ v2 → ∀ r11 : Nat, r11 = (h.r 24099 v0) → Cw G mX24_make_2 d 0 [vR v0, vR r11, vI (36 * v2), vI 36] h (kV (fun h13 => ∀ r15 : Nat, r15 = (h13.r 24102 v0) → h13.kd r15 = 100 ∧ vp_in v2 (h13.ai r15).length ∧ Cw G mX24_makeCount d 0 [vR v0, vI ((h13.ai r15).getD (v2.toNatClampNeg) 0)] h13 (kV (fun h19 => ∀ r21 : Nat, r21 = (h19.r 24101 v0) → h19.kd r21 = 115 ∧ vp_in v2 (h19.ar r21).length ∧ ∀ r24 : Nat, r24 = ((h19.ar r21).getD (v2.toNatClampNeg) 0) → vp_in v2 (h19.ai r15).length ∧ Cw G mX24_make_2 d 0 [vR v0, vR r24, vI 0, vI ((h19.ai r15).getD (v2.toNatClampNeg) 0)] h19 (kV (fun h30 => ∀ r32 : Nat, r32 = (h30.r 24100 v0) → h30.kd r32 = 103 ∧ vp_in v2 (h30.al r32).length ∧ Cw G mX24_make d 0 [vR v0, vJ ((h30.al r32).getD (v2.toNatClampNeg) 0), vI 4] h30 (kV (fun h36 => Aw G mX24_makeTx (d + 1) t h0 Φ 26 [vR v0, vI v1, vI (v2 + 1)] [] h36) (fun x h => Φ (.inr x) h))) (fun x h => Φ (.inr x) h))) (fun x h => Φ (.inr x) h))) (fun x h => Φ (.inr x) h))))) : Aw G mX24_makeTx (d + 1) t h0 Φ 26 [vR v0, vI v1, vI v2] [] h := by
  refine r_iload_n (pc := 26) dX24_makeTx_26 rfl ?_
  refine r_bipush (pc := 27) (x := 6) dX24_makeTx_27 rfl ?_
  refine r_iload_n (pc := 29) dX24_makeTx_29 rfl ?_
  refine r_imul (pc := 30) dX24_makeTx_30 ?_
  refine r_aload_n (pc := 31) dX24_makeTx_31 rfl ?_
  obtain ⟨hk1, K⟩ := K
  have K := K _ rfl
  refine r_getr' (pc := 32) (T := TX24) 24 97 rfl hk1 (Or.inl q2795) dX24_makeTx_32 kc24 g24097 ?_
  refine r_iload_n (pc := 35) dX24_makeTx_35 rfl ?_
  obtain ⟨hk3, K⟩ := K
  obtain ⟨hi4, K⟩ := K
  refine r_iaload (pc := 36) hk3 hi4 dX24_makeTx_36 ?_
  refine r_iadd (pc := 37) dX24_makeTx_37 ?_
  refine r_icmp_ge (pc := 38) (tgt := 99) dX24_makeTx_38 rfl (fun c5 => ?_) (fun c5 => ?_)
  · have K := K.1 c5
    refine r_aload_n (pc := 99) dX24_makeTx_99 rfl ?_
    refine r_aload_n (pc := 100) dX24_makeTx_100 rfl ?_
    have K := K _ rfl
    refine r_getr' (pc := 101) (T := TX24) 24 98 rfl hk1 (Or.inl q2796) dX24_makeTx_101 kc24 g24098 ?_
    refine r_iload_n (pc := 104) dX24_makeTx_104 rfl ?_
    obtain ⟨hk7, K⟩ := K
    obtain ⟨hi8, K⟩ := K
    refine r_iaload (pc := 105) hk7 hi8 dX24_makeTx_105 ?_
    refine r_callV_V (pc := 106) (Y := mX24_makeCount) (vs := [_]) (st := []) hk1 rfl kc24 q2309 q2311 qs65 dX24_makeTx_106 rfl cd_X24_makeCount rfl rfl fp_X24_makeTx_X24_makeCount K (fun h10 eh10 wh10 K => ?_) (fun x h1 _ _ e => Tw.out rfl e)
    refine r_bipush (pc := 109) (x := 6) dX24_makeTx_109 rfl ?_
    refine r_iload_n (pc := 111) dX24_makeTx_111 rfl ?_
    refine r_imul (pc := 112) dX24_makeTx_112 ?_
    refine r_istore_n (pc := 113) (lv' := [_, _, _]) dX24_makeTx_113 (by decide) rfl ?_
    refine r_mask (pc := 114) [true, true, true] rfl ?_
    exact K
  · have K := K.2 c5
    refine r_aload_n (pc := 41) dX24_makeTx_41 rfl ?_
    refine r_aload_n (pc := 42) dX24_makeTx_42 rfl ?_
    have K := K _ rfl
    refine r_getr' (pc := 43) (T := TX24) 24 99 rfl hk1 (Or.inl q2797) dX24_makeTx_43 kc24 g24099 ?_
    refine r_bipush (pc := 46) (x := 36) dX24_makeTx_46 rfl ?_
    refine r_iload_n (pc := 48) dX24_makeTx_48 rfl ?_
    refine r_imul (pc := 49) dX24_makeTx_49 ?_
    refine r_bipush (pc := 50) (x := 36) dX24_makeTx_50 rfl ?_
    refine r_callV_V (pc := 52) (Y := mX24_make_2) (vs := [_, _, _]) (st := []) hk1 rfl kc24 q2314 q2316 qs66 dX24_makeTx_52 rfl cd_X24_make_2 rfl rfl fp_X24_makeTx_X24_make_2 K (fun h13 eh13 wh13 K => ?_) (fun x h1 _ _ e => Tw.out rfl e)
    refine r_aload_n (pc := 55) dX24_makeTx_55 rfl ?_
    refine r_aload_n (pc := 56) dX24_makeTx_56 rfl ?_
    have hk14 := kd_ext eh13 hk1 (nz rfl)
    have K := K _ rfl
    refine r_getr' (pc := 57) (T := TX24) 24 102 rfl hk14 (Or.inl q2800) dX24_makeTx_57 kc24 g24102 ?_
    refine r_iload_n (pc := 60) dX24_makeTx_60 rfl ?_
    obtain ⟨hk16, K⟩ := K
    obtain ⟨hi17, K⟩ := K
    refine r_iaload (pc := 61) hk16 hi17 dX24_makeTx_61 ?_
    refine r_callV_V (pc := 62) (Y := mX24_makeCount) (vs := [_]) (st := []) hk14 rfl kc24 q2309 q2311 qs65 dX24_makeTx_62 rfl cd_X24_makeCount rfl rfl fp_X24_makeTx_X24_makeCount K (fun h19 eh19 wh19 K => ?_) (fun x h1 _ _ e => Tw.out rfl e)
    refine r_aload_n (pc := 65) dX24_makeTx_65 rfl ?_
    refine r_aload_n (pc := 66) dX24_makeTx_66 rfl ?_
    have hk20 := kd_ext eh19 hk14 (nz rfl)
    have K := K _ rfl
    refine r_getr' (pc := 67) (T := TX24) 24 101 rfl hk20 (Or.inl q2799) dX24_makeTx_67 kc24 g24101 ?_
    refine r_iload_n (pc := 70) dX24_makeTx_70 rfl ?_
    obtain ⟨hk22, K⟩ := K
    obtain ⟨hi23, K⟩ := K
    have K := K _ rfl
    refine r_aaload (pc := 71) (le_of_eq_r hk22 (by decide)) hi23 dX24_makeTx_71 ?_
    refine r_iconst (pc := 72) (x := 0) dX24_makeTx_72 rfl ?_
    refine r_aload_n (pc := 73) dX24_makeTx_73 rfl ?_
    have hv25 := fr_self (key := 24102) hk14
    have hv26 := (fr_ext (key := 24102) eh19 hk14 (nz rfl) (ne0 wh19 hk20 (nz rfl)) (nm rfl)).trans hv25
    refine r_getr' (pc := 74) (T := TX24) 24 102 hv26 hk20 (Or.inl q2800) dX24_makeTx_74 kc24 g24102 ?_
    refine r_iload_n (pc := 77) dX24_makeTx_77 rfl ?_
    have hk27 := kd_ext eh19 hk16 (nz rfl)
    obtain ⟨hi28, K⟩ := K
    refine r_iaload (pc := 78) hk27 hi28 dX24_makeTx_78 ?_
    refine r_callV_V (pc := 79) (Y := mX24_make_2) (vs := [_, _, _]) (st := []) hk20 rfl kc24 q2314 q2316 qs66 dX24_makeTx_79 rfl cd_X24_make_2 rfl rfl fp_X24_makeTx_X24_make_2 K (fun h30 eh30 wh30 K => ?_) (fun x h1 _ _ e => Tw.out rfl e)
    refine r_aload_n (pc := 82) dX24_makeTx_82 rfl ?_
    refine r_aload_n (pc := 83) dX24_makeTx_83 rfl ?_
    have hk31 := kd_ext eh30 hk20 (nz rfl)
    have K := K _ rfl
    refine r_getr' (pc := 84) (T := TX24) 24 100 rfl hk31 (Or.inl q2798) dX24_makeTx_84 kc24 g24100 ?_
    refine r_iload_n (pc := 87) dX24_makeTx_87 rfl ?_
    obtain ⟨hk33, K⟩ := K
    obtain ⟨hi34, K⟩ := K
    refine r_laload (pc := 88) hk33 hi34 dX24_makeTx_88 ?_
    refine r_iconst (pc := 89) (x := 4) dX24_makeTx_89 rfl ?_
    refine r_callV_V (pc := 90) (Y := mX24_make) (vs := [_, _]) (st := []) hk31 rfl kc24 q2305 q2307 qs64 dX24_makeTx_90 rfl cd_X24_make rfl rfl fp_X24_makeTx_X24_make K (fun h36 eh36 wh36 K => ?_) (fun x h1 _ _ e => Tw.out rfl e)
    refine r_iinc (pc := 93) (lv' := [_, _, _]) dX24_makeTx_93 rfl rfl (by decide) rfl ?_
    refine r_goto (pc := 96) (tgt := 26) dX24_makeTx_96 rfl ?_
    refine r_mask (pc := 26) [true, true, true] rfl ?_
    exact K
set_option maxHeartbeats 4000000 in
theorem sX24_makeTx_114 {G : Gx} {d t : Nat} {h0 : AH} {Φ : Out → AH → Prop} (h : AH) (v0 : Nat) (v1 : Int32) (v2 : Int32) (K : h.kd v0 = 24 ∧ ∀ r2 : Nat, r2 = (h.r 24098 v0) → h.kd r2 = 100 ∧ vp_in v1 (h.ai r2).length ∧ ((((6 * v1) + ((h.ai r2).getD (v1.toNatClampNeg) 0)) ≤ v2 → ∀ r6 : Nat, r6 = (h.r 24096 v0) → h.kd r6 = 103 ∧ vp_in v1 (h.al r6).length ∧ Cw G mX24_make d 0 [vR v0, vJ ((h.al r6).getD (v1.toNatClampNeg) 0), vI 4] h (kV (fun h10 => Φ (.inl none) h10) (fun x h => Φ (.inr x) h))) ∧ (¬ ((6 * v1) + ((h.ai r2).getD (v1.toNatClampNeg) 0)) ≤ v2 → ∀ r11 : Nat, r11 = (h.r 24103 v0) → h.kd r11 = 103 ∧ vp_in v2 (h.al r11).length ∧ Cw G mX24_make d 0 [vR v0, vJ ((h.al r11).getD (v2.toNatClampNeg) 0), vI 8] h (kV (fun h15 => ∀ r17 : Nat, r17 = (h15.r 24105 v0) → h15.kd r17 = 100 ∧ vp_in v2 (h15.ai r17).length ∧ Cw G mX24_makeCount d 0 [vR v0, vI ((h15.ai r17).getD (v2.toNatClampNeg) 0)] h15 (kV (fun h21 => ∀ r23 : Nat, r23 = (h21.r 24104 v0) → h21.kd r23 = 115 ∧ vp_in v2 (h21.ar r23).length ∧ ∀ r26 : Nat, r26 = ((h21.ar r23).getD (v2.toNatClampNeg) 0) → vp_in v2 (h21.ai r17).length ∧ Cw G mX24_make_2 d 0 [vR v0, vR r26, vI 0, vI ((h21.ai r17).getD (v2.toNatClampNeg) 0)] h21 (kV (fun h32 => Aw G mX24_makeTx (d + 1) t h0 Φ 114 [vR v0, vI v1, vI (v2 + 1)] [] h32) (fun x h => Φ (.inr x) h))) (fun x h => Φ (.inr x) h))) (fun x h => Φ (.inr x) h))))) : Aw G mX24_makeTx (d + 1) t h0 Φ 114 [vR v0, vI v1, vI v2] [] h := by
  refine r_iload_n (pc := 114) dX24_makeTx_114 rfl ?_
  refine r_bipush (pc := 115) (x := 6) dX24_makeTx_115 rfl ?_
  refine r_iload_n (pc := 117) dX24_makeTx_117 rfl ?_
  refine r_imul (pc := 118) dX24_makeTx_118 ?_
  refine r_aload_n (pc := 119) dX24_makeTx_119 rfl ?_
  obtain ⟨hk1, K⟩ := K
  have K := K _ rfl
  refine r_getr' (pc := 120) (T := TX24) 24 98 rfl hk1 (Or.inl q2796) dX24_makeTx_120 kc24 g24098 ?_
  refine r_iload_n (pc := 123) dX24_makeTx_123 rfl ?_
  obtain ⟨hk3, K⟩ := K
  obtain ⟨hi4, K⟩ := K
  refine r_iaload (pc := 124) hk3 hi4 dX24_makeTx_124 ?_
  refine r_iadd (pc := 125) dX24_makeTx_125 ?_
  refine r_icmp_ge (pc := 126) (tgt := 174) dX24_makeTx_126 rfl (fun c5 => ?_) (fun c5 => ?_)
  · have K := K.1 c5
    refine r_aload_n (pc := 174) dX24_makeTx_174 rfl ?_
    refine r_aload_n (pc := 175) dX24_makeTx_175 rfl ?_
    have K := K _ rfl
    refine r_getr' (pc := 176) (T := TX24) 24 96 rfl hk1 (Or.inl q2794) dX24_makeTx_176 kc24 g24096 ?_
    refine r_iload_n (pc := 179) dX24_makeTx_179 rfl ?_
    obtain ⟨hk7, K⟩ := K
    obtain ⟨hi8, K⟩ := K
    refine r_laload (pc := 180) hk7 hi8 dX24_makeTx_180 ?_
    refine r_iconst (pc := 181) (x := 4) dX24_makeTx_181 rfl ?_
    refine r_callV_V (pc := 182) (Y := mX24_make) (vs := [_, _]) (st := []) hk1 rfl kc24 q2305 q2307 qs64 dX24_makeTx_182 rfl cd_X24_make rfl rfl fp_X24_makeTx_X24_make K (fun h10 eh10 wh10 K => ?_) (fun x h1 _ _ e => Tw.out rfl e)
    exact r_vret (pc := 185) rfl dX24_makeTx_185 K
  · have K := K.2 c5
    refine r_aload_n (pc := 129) dX24_makeTx_129 rfl ?_
    refine r_aload_n (pc := 130) dX24_makeTx_130 rfl ?_
    have K := K _ rfl
    refine r_getr' (pc := 131) (T := TX24) 24 103 rfl hk1 (Or.inl q2801) dX24_makeTx_131 kc24 g24103 ?_
    refine r_iload_n (pc := 134) dX24_makeTx_134 rfl ?_
    obtain ⟨hk12, K⟩ := K
    obtain ⟨hi13, K⟩ := K
    refine r_laload (pc := 135) hk12 hi13 dX24_makeTx_135 ?_
    refine r_bipush (pc := 136) (x := 8) dX24_makeTx_136 rfl ?_
    refine r_callV_V (pc := 138) (Y := mX24_make) (vs := [_, _]) (st := []) hk1 rfl kc24 q2305 q2307 qs64 dX24_makeTx_138 rfl cd_X24_make rfl rfl fp_X24_makeTx_X24_make K (fun h15 eh15 wh15 K => ?_) (fun x h1 _ _ e => Tw.out rfl e)
    refine r_aload_n (pc := 141) dX24_makeTx_141 rfl ?_
    refine r_aload_n (pc := 142) dX24_makeTx_142 rfl ?_
    have hk16 := kd_ext eh15 hk1 (nz rfl)
    have K := K _ rfl
    refine r_getr' (pc := 143) (T := TX24) 24 105 rfl hk16 (Or.inl q2803) dX24_makeTx_143 kc24 g24105 ?_
    refine r_iload_n (pc := 146) dX24_makeTx_146 rfl ?_
    obtain ⟨hk18, K⟩ := K
    obtain ⟨hi19, K⟩ := K
    refine r_iaload (pc := 147) hk18 hi19 dX24_makeTx_147 ?_
    refine r_callV_V (pc := 148) (Y := mX24_makeCount) (vs := [_]) (st := []) hk16 rfl kc24 q2309 q2311 qs65 dX24_makeTx_148 rfl cd_X24_makeCount rfl rfl fp_X24_makeTx_X24_makeCount K (fun h21 eh21 wh21 K => ?_) (fun x h1 _ _ e => Tw.out rfl e)
    refine r_aload_n (pc := 151) dX24_makeTx_151 rfl ?_
    refine r_aload_n (pc := 152) dX24_makeTx_152 rfl ?_
    have hk22 := kd_ext eh21 hk16 (nz rfl)
    have K := K _ rfl
    refine r_getr' (pc := 153) (T := TX24) 24 104 rfl hk22 (Or.inl q2802) dX24_makeTx_153 kc24 g24104 ?_
    refine r_iload_n (pc := 156) dX24_makeTx_156 rfl ?_
    obtain ⟨hk24, K⟩ := K
    obtain ⟨hi25, K⟩ := K
    have K := K _ rfl
    refine r_aaload (pc := 157) (le_of_eq_r hk24 (by decide)) hi25 dX24_makeTx_157 ?_
    refine r_iconst (pc := 158) (x := 0) dX24_makeTx_158 rfl ?_
    refine r_aload_n (pc := 159) dX24_makeTx_159 rfl ?_
    have hv27 := fr_self (key := 24105) hk16
    have hv28 := (fr_ext (key := 24105) eh21 hk16 (nz rfl) (ne0 wh21 hk22 (nz rfl)) (nm rfl)).trans hv27
    refine r_getr' (pc := 160) (T := TX24) 24 105 hv28 hk22 (Or.inl q2803) dX24_makeTx_160 kc24 g24105 ?_
    refine r_iload_n (pc := 163) dX24_makeTx_163 rfl ?_
    have hk29 := kd_ext eh21 hk18 (nz rfl)
    obtain ⟨hi30, K⟩ := K
    refine r_iaload (pc := 164) hk29 hi30 dX24_makeTx_164 ?_
    refine r_callV_V (pc := 165) (Y := mX24_make_2) (vs := [_, _, _]) (st := []) hk22 rfl kc24 q2314 q2316 qs66 dX24_makeTx_165 rfl cd_X24_make_2 rfl rfl fp_X24_makeTx_X24_make_2 K (fun h32 eh32 wh32 K => ?_) (fun x h1 _ _ e => Tw.out rfl e)
    refine r_iinc (pc := 168) (lv' := [_, _, _]) dX24_makeTx_168 rfl rfl (by decide) rfl ?_
    refine r_goto (pc := 171) (tgt := 114) dX24_makeTx_171 rfl ?_
    refine r_mask (pc := 114) [true, true, true] rfl ?_
    exact K
theorem dX24_draftId_0 : decode cX24_draftId 0 = .ok (.aload_n 0, 1) := by decide +kernel
theorem dX24_draftId_1 : decode cX24_draftId 1 = .ok (.iconst 0, 1) := by decide +kernel
theorem dX24_draftId_2 : decode cX24_draftId 2 = .ok (.putfield 723, 3) := by decide +kernel
theorem dX24_draftId_5 : decode cX24_draftId 5 = .ok (.aload_n 0, 1) := by decide +kernel
theorem dX24_draftId_6 : decode cX24_draftId 6 = .ok (.iload_n 1, 1) := by decide +kernel
theorem dX24_draftId_7 : decode cX24_draftId 7 = .ok (.invokevirtual 767, 3) := by decide +kernel
theorem dX24_draftId_10 : decode cX24_draftId 10 = .ok (.aload_n 0, 1) := by decide +kernel
theorem dX24_draftId_11 : decode cX24_draftId 11 = .ok (.aload_n 0, 1) := by decide +kernel
theorem dX24_draftId_12 : decode cX24_draftId 12 = .ok (.getfield 720, 3) := by decide +kernel
theorem dX24_draftId_15 : decode cX24_draftId 15 = .ok (.iconst 0, 1) := by decide +kernel
theorem dX24_draftId_16 : decode cX24_draftId 16 = .ok (.aload_n 0, 1) := by decide +kernel
theorem dX24_draftId_17 : decode cX24_draftId 17 = .ok (.getfield 723, 3) := by decide +kernel
theorem dX24_draftId_20 : decode cX24_draftId 20 = .ok (.aload_n 0, 1) := by decide +kernel
theorem dX24_draftId_21 : decode cX24_draftId 21 = .ok (.getfield 770, 3) := by decide +kernel
theorem dX24_draftId_24 : decode cX24_draftId 24 = .ok (.bipush 32, 2) := by decide +kernel
theorem dX24_draftId_26 : decode cX24_draftId 26 = .ok (.iload_n 1, 1) := by decide +kernel
theorem dX24_draftId_27 : decode cX24_draftId 27 = .ok (.imul, 1) := by decide +kernel
theorem dX24_draftId_28 : decode cX24_draftId 28 = .ok (.invokevirtual 319, 3) := by decide +kernel
theorem dX24_draftId_31 : decode cX24_draftId 31 = .ok (.return_, 1) := by decide +kernel
/-! CoinJudgeModel.draftId(I)V -/
set_option maxHeartbeats 4000000 in
theorem sX24_draftId_0 {G : Gx} {d t : Nat} {h0 : AH} {Φ : Out → AH → Prop} (h : AH) (v0 : Nat) (v1 : Int32) (K : h.kd v0 = 24 ∧ ∀ h2 : AH, h2 = h.pi 24107 v0 0 → Cw G mX24_makeTx d 0 [vR v0, vI v1] h2 (kV (fun h4 => ∀ r7 : Nat, r7 = (h4.r 24106 v0) → ∀ r8 : Nat, r8 = (h4.r 24108 v0) → Cw G mX24_again d 0 [vR v0, vR r7, vI 0, vI (h4.i 24107 v0), vR r8, vI (32 * v1)] h4 (kV (fun h10 => Φ (.inl none) h10) (fun x h => Φ (.inr x) h))) (fun x h => Φ (.inr x) h))) : Aw G mX24_draftId (d + 1) t h0 Φ 0 [vR v0, vI v1] [] h := by
  refine r_aload_n (pc := 0) dX24_draftId_0 rfl ?_
  refine r_iconst (pc := 1) (x := 0) dX24_draftId_1 rfl ?_
  obtain ⟨hk1, K⟩ := K
  refine r_puti (pc := 2) (T := TX24) (key := 24107) 24 107 hk1 (Or.inl q2805) dX24_draftId_2 kc24 rfl (Or.inl rfl) (Or.inl (em rfl)) ?_
  refine r_nameH (fun h2 eh2 => ?_)
  have K := K h2 eh2
  refine r_aload_n (pc := 5) dX24_draftId_5 rfl ?_
  refine r_iload_n (pc := 6) dX24_draftId_6 rfl ?_
  have hk5 := kd_pi eh2 hk1
  refine r_callV_V (pc := 7) (Y := mX24_makeTx) (vs := [_]) (st := []) hk5 rfl kc24 q2301 q2303 qs63 dX24_draftId_7 rfl cd_X24_makeTx rfl rfl fp_X24_draftId_X24_makeTx K (fun h4 eh4 wh4 K => ?_) (fun x h1 _ _ e => Tw.out rfl e)
  refine r_aload_n (pc := 10) dX24_draftId_10 rfl ?_
  refine r_aload_n (pc := 11) dX24_draftId_11 rfl ?_
  have hk6 := kd_ext eh4 hk5 (nz rfl)
  have K := K _ rfl
  refine r_getr' (pc := 12) (T := TX24) 24 106 rfl hk6 (Or.inl q2804) dX24_draftId_12 kc24 g24106 ?_
  refine r_iconst (pc := 15) (x := 0) dX24_draftId_15 rfl ?_
  refine r_aload_n (pc := 16) dX24_draftId_16 rfl ?_
  refine r_geti' (pc := 17) (T := TX24) 24 107 rfl hk6 (Or.inl q2805) dX24_draftId_17 kc24 g24107 ?_
  refine r_aload_n (pc := 20) dX24_draftId_20 rfl ?_
  have K := K _ rfl
  refine r_getr' (pc := 21) (T := TX24) 24 108 rfl hk6 (Or.inl q2806) dX24_draftId_21 kc24 g24108 ?_
  refine r_bipush (pc := 24) (x := 32) dX24_draftId_24 rfl ?_
  refine r_iload_n (pc := 26) dX24_draftId_26 rfl ?_
  refine r_imul (pc := 27) dX24_draftId_27 ?_
  refine r_callV_V (pc := 28) (Y := mX24_again) (vs := [_, _, _, _, _]) (st := []) hk6 rfl kc24 q2318 q2320 qs67 dX24_draftId_28 rfl cd_X24_again rfl rfl fp_X24_draftId_X24_again K (fun h10 eh10 wh10 K => ?_) (fun x h1 _ _ e => Tw.out rfl e)
  exact r_vret (pc := 31) rfl dX24_draftId_31 K
theorem eX24_draftId {G : Gx} {d : Nat} {Φ : Out → AH → Prop} (h : AH) (v0 : Nat) (v1 : Int32) (K : WF G h → Aw G mX24_draftId (d + 1) 0 h Φ 0 [vR v0, vI v1] [] h) : Cw G mX24_draftId (d + 1) 0 [vR v0, vI v1] h Φ := Cw.of rfl K
theorem dX24_byteOf_0 : decode cX24_byteOf 0 = .ok (.iload_n 1, 1) := by decide +kernel
theorem dX24_byteOf_1 : decode cX24_byteOf 1 = .ok (.ifCond .ge 7, 3) := by decide +kernel
theorem dX24_byteOf_4 : decode cX24_byteOf 4 = .ok (.iconst 0, 1) := by decide +kernel
theorem dX24_byteOf_5 : decode cX24_byteOf 5 = .ok (.goto 19, 3) := by decide +kernel
theorem dX24_byteOf_8 : decode cX24_byteOf 8 = .ok (.aload_n 0, 1) := by decide +kernel
theorem dX24_byteOf_9 : decode cX24_byteOf 9 = .ok (.iload_n 1, 1) := by decide +kernel
theorem dX24_byteOf_10 : decode cX24_byteOf 10 = .ok (.iconst 4, 1) := by decide +kernel
theorem dX24_byteOf_11 : decode cX24_byteOf 11 = .ok (.idiv, 1) := by decide +kernel
theorem dX24_byteOf_12 : decode cX24_byteOf 12 = .ok (.iaload, 1) := by decide +kernel
theorem dX24_byteOf_13 : decode cX24_byteOf 13 = .ok (.bipush 8, 2) := by decide +kernel
theorem dX24_byteOf_15 : decode cX24_byteOf 15 = .ok (.iload_n 1, 1) := by decide +kernel
theorem dX24_byteOf_16 : decode cX24_byteOf 16 = .ok (.iconst 4, 1) := by decide +kernel
theorem dX24_byteOf_17 : decode cX24_byteOf 17 = .ok (.irem, 1) := by decide +kernel
theorem dX24_byteOf_18 : decode cX24_byteOf 18 = .ok (.imul, 1) := by decide +kernel
theorem dX24_byteOf_19 : decode cX24_byteOf 19 = .ok (.iushr, 1) := by decide +kernel
theorem dX24_byteOf_20 : decode cX24_byteOf 20 = .ok (.sipush 255, 3) := by decide +kernel
theorem dX24_byteOf_23 : decode cX24_byteOf 23 = .ok (.iand, 1) := by decide +kernel
theorem dX24_byteOf_24 : decode cX24_byteOf 24 = .ok (.ireturn, 1) := by decide +kernel
/-! CoinJudgeModel.byteOf([II)I -/
set_option maxHeartbeats 4000000 in
theorem sX24_byteOf_0 {G : Gx} {d t : Nat} {h0 : AH} {Φ : Out → AH → Prop} (h : AH) (v0 : Nat) (v1 : Int32) (K : ((0 ≤ v1 → h.kd v0 = 100 ∧ vp_in (v1 / 4) (h.ai v0).length ∧ Φ (.inl (some (vI ((jushr ((h.ai v0).getD ((v1 / 4).toNatClampNeg) 0) (8 * (jrem v1 4))) &&& 255)))) h) ∧ (¬ 0 ≤ v1 → Φ (.inl (some (vI 0))) h))) : Aw G mX24_byteOf (d + 1) t h0 Φ 0 [vR v0, vI v1] [] h := by
  refine r_iload_n (pc := 0) dX24_byteOf_0 rfl ?_
  refine r_if_ge (pc := 1) (tgt := 8) dX24_byteOf_1 rfl (fun c1 => ?_) (fun c1 => ?_)
  · have K := K.1 c1
    refine r_aload_n (pc := 8) dX24_byteOf_8 rfl ?_
    refine r_iload_n (pc := 9) dX24_byteOf_9 rfl ?_
    refine r_iconst (pc := 10) (x := 4) dX24_byteOf_10 rfl ?_
    refine r_idiv (pc := 11) (by decide) dX24_byteOf_11 ?_
    obtain ⟨hk2, K⟩ := K
    obtain ⟨hi3, K⟩ := K
    refine r_iaload (pc := 12) hk2 hi3 dX24_byteOf_12 ?_
    refine r_bipush (pc := 13) (x := 8) dX24_byteOf_13 rfl ?_
    refine r_iload_n (pc := 15) dX24_byteOf_15 rfl ?_
    refine r_iconst (pc := 16) (x := 4) dX24_byteOf_16 rfl ?_
    refine r_jrem (pc := 17) (by decide) dX24_byteOf_17 ?_
    refine r_imul (pc := 18) dX24_byteOf_18 ?_
    refine r_jushr (pc := 19) dX24_byteOf_19 ?_
    refine r_sipush (pc := 20) (x := 255) dX24_byteOf_20 rfl ?_
    refine r_iand (pc := 23) dX24_byteOf_23 ?_
    exact r_iret (pc := 24) rfl rfl dX24_byteOf_24 K
  · have K := K.2 c1
    refine r_iconst (pc := 4) (x := 0) dX24_byteOf_4 rfl ?_
    refine r_goto (pc := 5) (tgt := 24) dX24_byteOf_5 rfl ?_
    exact r_iret (pc := 24) rfl rfl dX24_byteOf_24 K
theorem eX24_byteOf {G : Gx} {d : Nat} {Φ : Out → AH → Prop} (h : AH) (v0 : Nat) (v1 : Int32) (K : WF G h → Aw G mX24_byteOf (d + 1) 0 h Φ 0 [vR v0, vI v1] [] h) : Cw G mX24_byteOf (d + 1) 0 [vR v0, vI v1] h Φ := Cw.of rfl K
theorem dX24_bits_0 : decode cX24_bits 0 = .ok (.bipush 32, 2) := by decide +kernel
theorem dX24_bits_2 : decode cX24_bits 2 = .ok (.istore_n 1, 1) := by decide +kernel
theorem dX24_bits_3 : decode cX24_bits 3 = .ok (.iload_n 1, 1) := by decide +kernel
theorem dX24_bits_4 : decode cX24_bits 4 = .ok (.ifCond .le 19, 3) := by decide +kernel
theorem dX24_bits_7 : decode cX24_bits 7 = .ok (.aload_n 0, 1) := by decide +kernel
theorem dX24_bits_8 : decode cX24_bits 8 = .ok (.iload_n 1, 1) := by decide +kernel
theorem dX24_bits_9 : decode cX24_bits 9 = .ok (.iconst 1, 1) := by decide +kernel
theorem dX24_bits_10 : decode cX24_bits 10 = .ok (.isub, 1) := by decide +kernel
theorem dX24_bits_11 : decode cX24_bits 11 = .ok (.invokestatic 334, 3) := by decide +kernel
theorem dX24_bits_14 : decode cX24_bits 14 = .ok (.ifCond .ne 9, 3) := by decide +kernel
theorem dX24_bits_17 : decode cX24_bits 17 = .ok (.iinc 1 (-1), 3) := by decide +kernel
theorem dX24_bits_20 : decode cX24_bits 20 = .ok (.goto (-17), 3) := by decide +kernel
theorem dX24_bits_23 : decode cX24_bits 23 = .ok (.aload_n 0, 1) := by decide +kernel
theorem dX24_bits_24 : decode cX24_bits 24 = .ok (.iload_n 1, 1) := by decide +kernel
theorem dX24_bits_25 : decode cX24_bits 25 = .ok (.iconst 1, 1) := by decide +kernel
theorem dX24_bits_26 : decode cX24_bits 26 = .ok (.isub, 1) := by decide +kernel
theorem dX24_bits_27 : decode cX24_bits 27 = .ok (.invokestatic 334, 3) := by decide +kernel
theorem dX24_bits_30 : decode cX24_bits 30 = .ok (.bipush 16, 2) := by decide +kernel
theorem dX24_bits_32 : decode cX24_bits 32 = .ok (.ishl, 1) := by decide +kernel
theorem dX24_bits_33 : decode cX24_bits 33 = .ok (.aload_n 0, 1) := by decide +kernel
theorem dX24_bits_34 : decode cX24_bits 34 = .ok (.iload_n 1, 1) := by decide +kernel
theorem dX24_bits_35 : decode cX24_bits 35 = .ok (.iconst 2, 1) := by decide +kernel
theorem dX24_bits_36 : decode cX24_bits 36 = .ok (.isub, 1) := by decide +kernel
theorem dX24_bits_37 : decode cX24_bits 37 = .ok (.invokestatic 334, 3) := by decide +kernel
theorem dX24_bits_40 : decode cX24_bits 40 = .ok (.bipush 8, 2) := by decide +kernel
theorem dX24_bits_42 : decode cX24_bits 42 = .ok (.ishl, 1) := by decide +kernel
theorem dX24_bits_43 : decode cX24_bits 43 = .ok (.ior, 1) := by decide +kernel
theorem dX24_bits_44 : decode cX24_bits 44 = .ok (.aload_n 0, 1) := by decide +kernel
theorem dX24_bits_45 : decode cX24_bits 45 = .ok (.iload_n 1, 1) := by decide +kernel
theorem dX24_bits_46 : decode cX24_bits 46 = .ok (.iconst 3, 1) := by decide +kernel
theorem dX24_bits_47 : decode cX24_bits 47 = .ok (.isub, 1) := by decide +kernel
theorem dX24_bits_48 : decode cX24_bits 48 = .ok (.invokestatic 334, 3) := by decide +kernel
theorem dX24_bits_51 : decode cX24_bits 51 = .ok (.ior, 1) := by decide +kernel
theorem dX24_bits_52 : decode cX24_bits 52 = .ok (.istore_n 2, 1) := by decide +kernel
theorem dX24_bits_53 : decode cX24_bits 53 = .ok (.iload_n 2, 1) := by decide +kernel
theorem dX24_bits_54 : decode cX24_bits 54 = .ok (.ldc_w 333, 3) := by decide +kernel
theorem dX24_bits_57 : decode cX24_bits 57 = .ok (.if_icmp .lt 11, 3) := by decide +kernel
theorem dX24_bits_60 : decode cX24_bits 60 = .ok (.iload_n 2, 1) := by decide +kernel
theorem dX24_bits_61 : decode cX24_bits 61 = .ok (.bipush 8, 2) := by decide +kernel
theorem dX24_bits_63 : decode cX24_bits 63 = .ok (.ishr, 1) := by decide +kernel
theorem dX24_bits_64 : decode cX24_bits 64 = .ok (.istore_n 2, 1) := by decide +kernel
theorem dX24_bits_65 : decode cX24_bits 65 = .ok (.iinc 1 1, 3) := by decide +kernel
theorem dX24_bits_68 : decode cX24_bits 68 = .ok (.iload_n 1, 1) := by decide +kernel
theorem dX24_bits_69 : decode cX24_bits 69 = .ok (.bipush 24, 2) := by decide +kernel
theorem dX24_bits_71 : decode cX24_bits 71 = .ok (.ishl, 1) := by decide +kernel
theorem dX24_bits_72 : decode cX24_bits 72 = .ok (.iload_n 2, 1) := by decide +kernel
theorem dX24_bits_73 : decode cX24_bits 73 = .ok (.ior, 1) := by decide +kernel
theorem dX24_bits_74 : decode cX24_bits 74 = .ok (.ireturn, 1) := by decide +kernel
/-! CoinJudgeModel.bits([I)I -/
set_option maxHeartbeats 4000000 in
theorem sX24_bits_0 {G : Gx} {d t : Nat} {h0 : AH} {Φ : Out → AH → Prop} (h : AH) (v0 : Nat) (K : Aw G mX24_bits (d + 1) t h0 Φ 3 [vR v0, vI 32, vU] [] h) : Aw G mX24_bits (d + 1) t h0 Φ 0 [vR v0, vU, vU] [] h := by
  refine r_bipush (pc := 0) (x := 32) dX24_bits_0 rfl ?_
  refine r_istore_n (pc := 2) (lv' := [_, _, _]) dX24_bits_2 (by decide) rfl ?_
  refine r_mask (pc := 3) [true, true, false] rfl ?_
  exact K
theorem eX24_bits {G : Gx} {d : Nat} {Φ : Out → AH → Prop} (h : AH) (v0 : Nat) (K : WF G h → Aw G mX24_bits (d + 1) 0 h Φ 0 [vR v0, vU, vU] [] h) : Cw G mX24_bits (d + 1) 0 [vR v0] h Φ := Cw.of rfl K
set_option maxHeartbeats 4000000 in
theorem sX24_bits_3 {G : Gx} {d t : Nat} {h0 : AH} {Φ : Out → AH → Prop} (h : AH) (v0 : Nat) (v1 : Int32) (K : ((v1 ≤ 0 → Aw G mX24_bits (d + 1) t h0 Φ 23 [vR v0, vI v1, vU] [] h) ∧ (¬ v1 ≤ 0 → Cw G mX24_byteOf d 0 [vR v0, vI (v1 - 1)] h (kI (fun x2 h3 => ((¬ x2 = 0 → Aw G mX24_bits (d + 1) t h0 Φ 23 [vR v0, vI v1, vU] [] h3) ∧ (x2 = 0 → Aw G mX24_bits (d + 1) t h0 Φ 3 [vR v0, vI (v1 + (-1)), vU] [] h3))) (fun x h => Φ (.inr x) h))))) : Aw G mX24_bits (d + 1) t h0 Φ 3 [vR v0, vI v1, vU] [] h := by
  refine r_iload_n (pc := 3) dX24_bits_3 rfl ?_
  refine r_if_le (pc := 4) (tgt := 23) dX24_bits_4 rfl (fun c1 => ?_) (fun c1 => ?_)
  · have K := K.1 c1
    refine r_mask (pc := 23) [true, true, false] rfl ?_
    exact K
  · have K := K.2 c1
    refine r_aload_n (pc := 7) dX24_bits_7 rfl ?_
    refine r_iload_n (pc := 8) dX24_bits_8 rfl ?_
    refine r_iconst (pc := 9) (x := 1) dX24_bits_9 rfl ?_
    refine r_isub (pc := 10) dX24_bits_10 ?_
    refine r_callS_I (pc := 11) (Y := mX24_byteOf) (vs := [_, _]) (st := []) q2369 q2370 q192 dX24_bits_11 rfl cd_X24_byteOf rfl rfl fp_X24_bits_X24_byteOf K (fun x2 h3 eh3 wh3 K => ?_) (fun x h1 _ _ e => Tw.out rfl e)
    refine r_if_ne (pc := 14) (tgt := 23) dX24_bits_14 rfl (fun c4 => ?_) (fun c4 => ?_)
    · have K := K.1 c4
      refine r_mask (pc := 23) [true, true, false] rfl ?_
      exact K
    · have K := K.2 c4
      refine r_iinc (pc := 17) (lv' := [_, _, _]) dX24_bits_17 rfl rfl (by decide) rfl ?_
      refine r_goto (pc := 20) (tgt := 3) dX24_bits_20 rfl ?_
      refine r_mask (pc := 3) [true, true, false] rfl ?_
      exact K
set_option maxHeartbeats 4000000 in
theorem sX24_bits_23 {G : Gx} {d t : Nat} {h0 : AH} {Φ : Out → AH → Prop} (h : AH) (v0 : Nat) (v1 : Int32) (K : Cw G mX24_byteOf d 0 [vR v0, vI (v1 - 1)] h (kI (fun x1 h2 => Cw G mX24_byteOf d 0 [vR v0, vI (v1 - 2)] h2 (kI (fun x3 h4 => Cw G mX24_byteOf d 0 [vR v0, vI (v1 - 3)] h4 (kI (fun x5 h6 => ∀ u7 : Int32, u7 = (((jshl x1 16) ||| (jshl x3 8)) ||| x5) → ((u7 < 8388608 → Φ (.inl (some (vI ((jshl v1 24) ||| u7)))) h6) ∧ (¬ u7 < 8388608 → Φ (.inl (some (vI ((jshl (v1 + 1) 24) ||| (jshr u7 8))))) h6))) (fun x h => Φ (.inr x) h))) (fun x h => Φ (.inr x) h))) (fun x h => Φ (.inr x) h))) : Aw G mX24_bits (d + 1) t h0 Φ 23 [vR v0, vI v1, vU] [] h := by
  refine r_aload_n (pc := 23) dX24_bits_23 rfl ?_
  refine r_iload_n (pc := 24) dX24_bits_24 rfl ?_
  refine r_iconst (pc := 25) (x := 1) dX24_bits_25 rfl ?_
  refine r_isub (pc := 26) dX24_bits_26 ?_
  refine r_callS_I (pc := 27) (Y := mX24_byteOf) (vs := [_, _]) (st := []) q2369 q2370 q192 dX24_bits_27 rfl cd_X24_byteOf rfl rfl fp_X24_bits_X24_byteOf K (fun x1 h2 eh2 wh2 K => ?_) (fun x h1 _ _ e => Tw.out rfl e)
  refine r_bipush (pc := 30) (x := 16) dX24_bits_30 rfl ?_
  refine r_jshl (pc := 32) dX24_bits_32 ?_
  refine r_aload_n (pc := 33) dX24_bits_33 rfl ?_
  refine r_iload_n (pc := 34) dX24_bits_34 rfl ?_
  refine r_iconst (pc := 35) (x := 2) dX24_bits_35 rfl ?_
  refine r_isub (pc := 36) dX24_bits_36 ?_
  refine r_callS_I (pc := 37) (Y := mX24_byteOf) (vs := [_, _]) (st := [_]) q2369 q2370 q192 dX24_bits_37 rfl cd_X24_byteOf rfl rfl fp_X24_bits_X24_byteOf K (fun x3 h4 eh4 wh4 K => ?_) (fun x h1 _ _ e => Tw.out rfl e)
  refine r_bipush (pc := 40) (x := 8) dX24_bits_40 rfl ?_
  refine r_jshl (pc := 42) dX24_bits_42 ?_
  refine r_ior (pc := 43) dX24_bits_43 ?_
  refine r_aload_n (pc := 44) dX24_bits_44 rfl ?_
  refine r_iload_n (pc := 45) dX24_bits_45 rfl ?_
  refine r_iconst (pc := 46) (x := 3) dX24_bits_46 rfl ?_
  refine r_isub (pc := 47) dX24_bits_47 ?_
  refine r_callS_I (pc := 48) (Y := mX24_byteOf) (vs := [_, _]) (st := [_]) q2369 q2370 q192 dX24_bits_48 rfl cd_X24_byteOf rfl rfl fp_X24_bits_X24_byteOf K (fun x5 h6 eh6 wh6 K => ?_) (fun x h1 _ _ e => Tw.out rfl e)
  refine r_ior (pc := 51) dX24_bits_51 ?_
  have K := K _ rfl
  refine r_istore_n (pc := 52) (lv' := [_, _, _]) dX24_bits_52 (by decide) rfl ?_
  refine r_iload_n (pc := 53) dX24_bits_53 rfl ?_
  refine r_ldc_w (pc := 54) dX24_bits_54 q2281 ?_
  refine r_icmp_lt (pc := 57) (tgt := 68) dX24_bits_57 rfl (fun c8 => ?_) (fun c8 => ?_)
  · have K := K.1 c8
    refine r_iload_n (pc := 68) dX24_bits_68 rfl ?_
    refine r_bipush (pc := 69) (x := 24) dX24_bits_69 rfl ?_
    refine r_jshl (pc := 71) dX24_bits_71 ?_
    refine r_iload_n (pc := 72) dX24_bits_72 rfl ?_
    refine r_ior (pc := 73) dX24_bits_73 ?_
    exact r_iret (pc := 74) rfl rfl dX24_bits_74 K
  · have K := K.2 c8
    refine r_iload_n (pc := 60) dX24_bits_60 rfl ?_
    refine r_bipush (pc := 61) (x := 8) dX24_bits_61 rfl ?_
    refine r_jshr (pc := 63) dX24_bits_63 ?_
    refine r_istore_n (pc := 64) (lv' := [_, _, _]) dX24_bits_64 (by decide) rfl ?_
    refine r_iinc (pc := 65) (lv' := [_, _, _]) dX24_bits_65 rfl rfl (by decide) rfl ?_
    refine r_iload_n (pc := 68) dX24_bits_68 rfl ?_
    refine r_bipush (pc := 69) (x := 24) dX24_bits_69 rfl ?_
    refine r_jshl (pc := 71) dX24_bits_71 ?_
    refine r_iload_n (pc := 72) dX24_bits_72 rfl ?_
    refine r_ior (pc := 73) dX24_bits_73 ?_
    exact r_iret (pc := 74) rfl rfl dX24_bits_74 K
theorem dX24_number_0 : decode cX24_number 0 = .ok (.lconst 0, 1) := by decide +kernel
theorem dX24_number_1 : decode cX24_number 1 = .ok (.lstore 4, 2) := by decide +kernel
theorem dX24_number_3 : decode cX24_number 3 = .ok (.iload_n 3, 1) := by decide +kernel
theorem dX24_number_4 : decode cX24_number 4 = .ok (.iconst 1, 1) := by decide +kernel
theorem dX24_number_5 : decode cX24_number 5 = .ok (.isub, 1) := by decide +kernel
theorem dX24_number_6 : decode cX24_number 6 = .ok (.istore 6, 2) := by decide +kernel
theorem dX24_number_8 : decode cX24_number 8 = .ok (.iload 6, 2) := by decide +kernel
theorem dX24_number_10 : decode cX24_number 10 = .ok (.ifCond .lt 28, 3) := by decide +kernel
theorem dX24_number_13 : decode cX24_number 13 = .ok (.lload 4, 2) := by decide +kernel
theorem dX24_number_15 : decode cX24_number 15 = .ok (.bipush 8, 2) := by decide +kernel
theorem dX24_number_17 : decode cX24_number 17 = .ok (.lshl, 1) := by decide +kernel
theorem dX24_number_18 : decode cX24_number 18 = .ok (.aload_n 1, 1) := by decide +kernel
theorem dX24_number_19 : decode cX24_number 19 = .ok (.iload_n 2, 1) := by decide +kernel
theorem dX24_number_20 : decode cX24_number 20 = .ok (.iload 6, 2) := by decide +kernel
theorem dX24_number_22 : decode cX24_number 22 = .ok (.iadd, 1) := by decide +kernel
theorem dX24_number_23 : decode cX24_number 23 = .ok (.baload, 1) := by decide +kernel
theorem dX24_number_24 : decode cX24_number 24 = .ok (.sipush 255, 3) := by decide +kernel
theorem dX24_number_27 : decode cX24_number 27 = .ok (.iand, 1) := by decide +kernel
theorem dX24_number_28 : decode cX24_number 28 = .ok (.i2l, 1) := by decide +kernel
theorem dX24_number_29 : decode cX24_number 29 = .ok (.lor, 1) := by decide +kernel
theorem dX24_number_30 : decode cX24_number 30 = .ok (.lstore 4, 2) := by decide +kernel
theorem dX24_number_32 : decode cX24_number 32 = .ok (.iinc 6 (-1), 3) := by decide +kernel
theorem dX24_number_35 : decode cX24_number 35 = .ok (.goto (-27), 3) := by decide +kernel
theorem dX24_number_38 : decode cX24_number 38 = .ok (.lload 4, 2) := by decide +kernel
theorem dX24_number_40 : decode cX24_number 40 = .ok (.lreturn, 1) := by decide +kernel
/-! CoinJudgeModel.number([BII)J -/
set_option maxHeartbeats 4000000 in
theorem sX24_number_0 {G : Gx} {d t : Nat} {h0 : AH} {Φ : Out → AH → Prop} (h : AH) (v0 : Nat) (v1 : Nat) (v2 : Int32) (v3 : Int32) (K : Aw G mX24_number (d + 1) t h0 Φ 8 [vU, vR v1, vI v2, vU, vJ 0, vU, vI (v3 - 1)] [] h) : Aw G mX24_number (d + 1) t h0 Φ 0 [vR v0, vR v1, vI v2, vI v3, vU, vU, vU] [] h := by
  refine r_lconst (pc := 0) (a := 0) dX24_number_0 rfl ?_
  refine r_lstore (pc := 1) (lv' := [_, _, _, _, _, _, _]) dX24_number_1 (by decide) rfl ?_
  refine r_iload_n (pc := 3) dX24_number_3 rfl ?_
  refine r_iconst (pc := 4) (x := 1) dX24_number_4 rfl ?_
  refine r_isub (pc := 5) dX24_number_5 ?_
  refine r_istore (pc := 6) (lv' := [_, _, _, _, _, _, _]) dX24_number_6 (by decide) rfl ?_
  refine r_mask (pc := 8) [false, true, true, false, true, false, true] rfl ?_
  exact K
theorem eX24_number {G : Gx} {d : Nat} {Φ : Out → AH → Prop} (h : AH) (v0 : Nat) (v1 : Nat) (v2 : Int32) (v3 : Int32) (K : WF G h → Aw G mX24_number (d + 1) 0 h Φ 0 [vR v0, vR v1, vI v2, vI v3, vU, vU, vU] [] h) : Cw G mX24_number (d + 1) 0 [vR v0, vR v1, vI v2, vI v3] h Φ := Cw.of rfl K
set_option maxHeartbeats 4000000 in
theorem sX24_number_8 {G : Gx} {d t : Nat} {h0 : AH} {Φ : Out → AH → Prop} (h : AH) (v1 : Nat) (v2 : Int32) (v4 : Int64) (v6 : Int32) (K : ((v6 < 0 → Φ (.inl (some (vJ v4))) h) ∧ (¬ v6 < 0 → h.kd v1 = 101 ∧ vp_in (v2 + v6) (h.ai v1).length ∧ ∀ u4 : Int64, u4 = ((Jshl v4 8) ||| (((h.ai v1).getD ((v2 + v6).toNatClampNeg) 0) &&& 255).toInt64) → Aw G mX24_number (d + 1) t h0 Φ 8 [vU, vR v1, vI v2, vU, vJ u4, vU, vI (v6 + (-1))] [] h))) : Aw G mX24_number (d + 1) t h0 Φ 8 [vU, vR v1, vI v2, vU, vJ v4, vU, vI v6] [] h := by
  refine r_iload (pc := 8) dX24_number_8 rfl ?_
  refine r_if_lt (pc := 10) (tgt := 38) dX24_number_10 rfl (fun c1 => ?_) (fun c1 => ?_)
  · have K := K.1 c1
    refine r_lload (pc := 38) dX24_number_38 rfl ?_
    exact r_lret (pc := 40) rfl dX24_number_40 K
  · have K := K.2 c1
    refine r_lload (pc := 13) dX24_number_13 rfl ?_
    refine r_bipush (pc := 15) (x := 8) dX24_number_15 rfl ?_
    refine r_Jshl (pc := 17) dX24_number_17 ?_
    refine r_aload_n (pc := 18) dX24_number_18 rfl ?_
    refine r_iload_n (pc := 19) dX24_number_19 rfl ?_
    refine r_iload (pc := 20) dX24_number_20 rfl ?_
    refine r_iadd (pc := 22) dX24_number_22 ?_
    obtain ⟨hk2, K⟩ := K
    obtain ⟨hi3, K⟩ := K
    refine r_baload (pc := 23) hk2 hi3 dX24_number_23 ?_
    refine r_sipush (pc := 24) (x := 255) dX24_number_24 rfl ?_
    refine r_iand (pc := 27) dX24_number_27 ?_
    refine r_i2l (pc := 28) dX24_number_28 ?_
    refine r_lor (pc := 29) dX24_number_29 ?_
    have K := K _ rfl
    refine r_lstore (pc := 30) (lv' := [_, _, _, _, _, _, _]) dX24_number_30 (by decide) rfl ?_
    refine r_iinc (pc := 32) (lv' := [_, _, _, _, _, _, _]) dX24_number_32 rfl rfl (by decide) rfl ?_
    refine r_goto (pc := 35) (tgt := 8) dX24_number_35 rfl ?_
    refine r_mask (pc := 8) [false, true, true, false, true, false, true] rfl ?_
    exact K
theorem dX24_bitsOf_0 : decode cX24_bitsOf 0 = .ok (.aload_n 0, 1) := by decide +kernel
theorem dX24_bitsOf_1 : decode cX24_bitsOf 1 = .ok (.aload_n 0, 1) := by decide +kernel
theorem dX24_bitsOf_2 : decode cX24_bitsOf 2 = .ok (.getfield 347, 3) := by decide +kernel
theorem dX24_bitsOf_5 : decode cX24_bitsOf 5 = .ok (.iload_n 1, 1) := by decide +kernel
theorem dX24_bitsOf_6 : decode cX24_bitsOf 6 = .ok (.aaload, 1) := by decide +kernel
theorem dX24_bitsOf_7 : decode cX24_bitsOf 7 = .ok (.getfield 351, 3) := by decide +kernel
theorem dX24_bitsOf_10 : decode cX24_bitsOf 10 = .ok (.bipush 72, 2) := by decide +kernel
theorem dX24_bitsOf_12 : decode cX24_bitsOf 12 = .ok (.iconst 4, 1) := by decide +kernel
theorem dX24_bitsOf_13 : decode cX24_bitsOf 13 = .ok (.invokevirtual 267, 3) := by decide +kernel
theorem dX24_bitsOf_16 : decode cX24_bitsOf 16 = .ok (.lreturn, 1) := by decide +kernel
/-! CoinJudgeModel.bitsOf(I)J -/
set_option maxHeartbeats 4000000 in
theorem sX24_bitsOf_0 {G : Gx} {d t : Nat} {h0 : AH} {Φ : Out → AH → Prop} (h : AH) (v0 : Nat) (v1 : Int32) (K : h.kd v0 = 24 ∧ ∀ r2 : Nat, r2 = (h.r 24046 v0) → h.kd r2 = 114 ∧ vp_in v1 (h.ar r2).length ∧ ∀ r5 : Nat, r5 = ((h.ar r2).getD (v1.toNatClampNeg) 0) → h.kd r5 = 28 ∧ ∀ r7 : Nat, r7 = (h.r 28000 r5) → Cw G mX24_number d 0 [vR v0, vR r7, vI 72, vI 4] h (kJ (fun x8 h9 => Φ (.inl (some (vJ x8))) h9) (fun x h => Φ (.inr x) h))) : Aw G mX24_bitsOf (d + 1) t h0 Φ 0 [vR v0, vI v1] [] h := by
  refine r_aload_n (pc := 0) dX24_bitsOf_0 rfl ?_
  refine r_aload_n (pc := 1) dX24_bitsOf_1 rfl ?_
  obtain ⟨hk1, K⟩ := K
  have K := K _ rfl
  refine r_getr' (pc := 2) (T := TX24) 24 46 rfl hk1 (Or.inl q2744) dX24_bitsOf_2 kc24 g24046 ?_
  refine r_iload_n (pc := 5) dX24_bitsOf_5 rfl ?_
  obtain ⟨hk3, K⟩ := K
  obtain ⟨hi4, K⟩ := K
  have K := K _ rfl
  refine r_aaload (pc := 6) (le_of_eq_r hk3 (by decide)) hi4 dX24_bitsOf_6 ?_
  obtain ⟨hk6, K⟩ := K
  have K := K _ rfl
  refine r_getr' (pc := 7) (T := TX28) 28 0 rfl hk6 (Or.inr (Or.inl ⟨_, q2388⟩)) dX24_bitsOf_7 kc28 g28000 ?_
  refine r_bipush (pc := 10) (x := 72) dX24_bitsOf_10 rfl ?_
  refine r_iconst (pc := 12) (x := 4) dX24_bitsOf_12 rfl ?_
  refine r_callV_J (pc := 13) (Y := mX24_number) (vs := [_, _, _]) (st := []) hk1 rfl kc24 q2350 q2352 qs74 dX24_bitsOf_13 rfl cd_X24_number rfl rfl fp_X24_bitsOf_X24_number K (fun x8 h9 eh9 wh9 K => ?_) (fun x h1 _ _ e => Tw.out rfl e)
  exact r_lret (pc := 16) rfl dX24_bitsOf_16 K
theorem eX24_bitsOf {G : Gx} {d : Nat} {Φ : Out → AH → Prop} (h : AH) (v0 : Nat) (v1 : Int32) (K : WF G h → Aw G mX24_bitsOf (d + 1) 0 h Φ 0 [vR v0, vI v1] [] h) : Cw G mX24_bitsOf (d + 1) 0 [vR v0, vI v1] h Φ := Cw.of rfl K
theorem dX24_target_0 : decode cX24_target 0 = .ok (.iload_n 0, 1) := by decide +kernel
theorem dX24_target_1 : decode cX24_target 1 = .ok (.bipush 24, 2) := by decide +kernel
theorem dX24_target_3 : decode cX24_target 3 = .ok (.iushr, 1) := by decide +kernel
theorem dX24_target_4 : decode cX24_target 4 = .ok (.istore_n 2, 1) := by decide +kernel
theorem dX24_target_5 : decode cX24_target 5 = .ok (.iload_n 0, 1) := by decide +kernel
theorem dX24_target_6 : decode cX24_target 6 = .ok (.ldc_w 332, 3) := by decide +kernel
theorem dX24_target_9 : decode cX24_target 9 = .ok (.iand, 1) := by decide +kernel
theorem dX24_target_10 : decode cX24_target 10 = .ok (.istore_n 3, 1) := by decide +kernel
theorem dX24_target_11 : decode cX24_target 11 = .ok (.iconst 0, 1) := by decide +kernel
theorem dX24_target_12 : decode cX24_target 12 = .ok (.istore 4, 2) := by decide +kernel
theorem dX24_target_14 : decode cX24_target 14 = .ok (.iload 4, 2) := by decide +kernel
theorem dX24_target_16 : decode cX24_target 16 = .ok (.bipush 8, 2) := by decide +kernel
theorem dX24_target_18 : decode cX24_target 18 = .ok (.if_icmp .ge 14, 3) := by decide +kernel
theorem dX24_target_21 : decode cX24_target 21 = .ok (.aload_n 1, 1) := by decide +kernel
theorem dX24_target_22 : decode cX24_target 22 = .ok (.iload 4, 2) := by decide +kernel
theorem dX24_target_24 : decode cX24_target 24 = .ok (.iconst 0, 1) := by decide +kernel
theorem dX24_target_25 : decode cX24_target 25 = .ok (.iastore, 1) := by decide +kernel
theorem dX24_target_26 : decode cX24_target 26 = .ok (.iinc 4 1, 3) := by decide +kernel
theorem dX24_target_29 : decode cX24_target 29 = .ok (.goto (-15), 3) := by decide +kernel
theorem dX24_target_32 : decode cX24_target 32 = .ok (.iload_n 0, 1) := by decide +kernel
theorem dX24_target_33 : decode cX24_target 33 = .ok (.ldc_w 333, 3) := by decide +kernel
theorem dX24_target_36 : decode cX24_target 36 = .ok (.iand, 1) := by decide +kernel
theorem dX24_target_37 : decode cX24_target 37 = .ok (.ifCond .ne 9, 3) := by decide +kernel
theorem dX24_target_40 : decode cX24_target 40 = .ok (.iload_n 2, 1) := by decide +kernel
theorem dX24_target_41 : decode cX24_target 41 = .ok (.bipush 32, 2) := by decide +kernel
theorem dX24_target_43 : decode cX24_target 43 = .ok (.if_icmp .le 5, 3) := by decide +kernel
theorem dX24_target_46 : decode cX24_target 46 = .ok (.iconst 0, 1) := by decide +kernel
theorem dX24_target_47 : decode cX24_target 47 = .ok (.ireturn, 1) := by decide +kernel
theorem dX24_target_48 : decode cX24_target 48 = .ok (.iconst 0, 1) := by decide +kernel
theorem dX24_target_49 : decode cX24_target 49 = .ok (.istore 4, 2) := by decide +kernel
theorem dX24_target_51 : decode cX24_target 51 = .ok (.iconst 0, 1) := by decide +kernel
theorem dX24_target_52 : decode cX24_target 52 = .ok (.istore 5, 2) := by decide +kernel
theorem dX24_target_54 : decode cX24_target 54 = .ok (.iload 5, 2) := by decide +kernel
theorem dX24_target_56 : decode cX24_target 56 = .ok (.iconst 3, 1) := by decide +kernel
theorem dX24_target_57 : decode cX24_target 57 = .ok (.if_icmp .ge 78, 3) := by decide +kernel
theorem dX24_target_60 : decode cX24_target 60 = .ok (.iload_n 2, 1) := by decide +kernel
theorem dX24_target_61 : decode cX24_target 61 = .ok (.iconst 3, 1) := by decide +kernel
theorem dX24_target_62 : decode cX24_target 62 = .ok (.isub, 1) := by decide +kernel
theorem dX24_target_63 : decode cX24_target 63 = .ok (.iload 5, 2) := by decide +kernel
theorem dX24_target_65 : decode cX24_target 65 = .ok (.iadd, 1) := by decide +kernel
theorem dX24_target_66 : decode cX24_target 66 = .ok (.istore 6, 2) := by decide +kernel
theorem dX24_target_68 : decode cX24_target 68 = .ok (.iload_n 3, 1) := by decide +kernel
theorem dX24_target_69 : decode cX24_target 69 = .ok (.bipush 8, 2) := by decide +kernel
theorem dX24_target_71 : decode cX24_target 71 = .ok (.iload 5, 2) := by decide +kernel
theorem dX24_target_73 : decode cX24_target 73 = .ok (.imul, 1) := by decide +kernel
theorem dX24_target_74 : decode cX24_target 74 = .ok (.iushr, 1) := by decide +kernel
theorem dX24_target_75 : decode cX24_target 75 = .ok (.sipush 255, 3) := by decide +kernel
theorem dX24_target_78 : decode cX24_target 78 = .ok (.iand, 1) := by decide +kernel
theorem dX24_target_79 : decode cX24_target 79 = .ok (.istore 7, 2) := by decide +kernel
theorem dX24_target_81 : decode cX24_target 81 = .ok (.iload 6, 2) := by decide +kernel
theorem dX24_target_83 : decode cX24_target 83 = .ok (.ifCond .lt 46, 3) := by decide +kernel
theorem dX24_target_86 : decode cX24_target 86 = .ok (.iload 7, 2) := by decide +kernel
theorem dX24_target_88 : decode cX24_target 88 = .ok (.ifCond .ne 6, 3) := by decide +kernel
theorem dX24_target_91 : decode cX24_target 91 = .ok (.goto 38, 3) := by decide +kernel
theorem dX24_target_94 : decode cX24_target 94 = .ok (.iload 6, 2) := by decide +kernel
theorem dX24_target_96 : decode cX24_target 96 = .ok (.bipush 31, 2) := by decide +kernel
theorem dX24_target_98 : decode cX24_target 98 = .ok (.if_icmp .le 5, 3) := by decide +kernel
theorem dX24_target_101 : decode cX24_target 101 = .ok (.iconst 0, 1) := by decide +kernel
theorem dX24_target_102 : decode cX24_target 102 = .ok (.ireturn, 1) := by decide +kernel
theorem dX24_target_103 : decode cX24_target 103 = .ok (.aload_n 1, 1) := by decide +kernel
theorem dX24_target_104 : decode cX24_target 104 = .ok (.iload 6, 2) := by decide +kernel
theorem dX24_target_106 : decode cX24_target 106 = .ok (.iconst 4, 1) := by decide +kernel
theorem dX24_target_107 : decode cX24_target 107 = .ok (.idiv, 1) := by decide +kernel
theorem dX24_target_108 : decode cX24_target 108 = .ok (.dup2, 1) := by decide +kernel
theorem dX24_target_109 : decode cX24_target 109 = .ok (.iaload, 1) := by decide +kernel
theorem dX24_target_110 : decode cX24_target 110 = .ok (.iload 7, 2) := by decide +kernel
theorem dX24_target_112 : decode cX24_target 112 = .ok (.bipush 8, 2) := by decide +kernel
theorem dX24_target_114 : decode cX24_target 114 = .ok (.iload 6, 2) := by decide +kernel
theorem dX24_target_116 : decode cX24_target 116 = .ok (.iconst 4, 1) := by decide +kernel
theorem dX24_target_117 : decode cX24_target 117 = .ok (.irem, 1) := by decide +kernel
theorem dX24_target_118 : decode cX24_target 118 = .ok (.imul, 1) := by decide +kernel
theorem dX24_target_119 : decode cX24_target 119 = .ok (.ishl, 1) := by decide +kernel
theorem dX24_target_120 : decode cX24_target 120 = .ok (.ior, 1) := by decide +kernel
theorem dX24_target_121 : decode cX24_target 121 = .ok (.iastore, 1) := by decide +kernel
theorem dX24_target_122 : decode cX24_target 122 = .ok (.iload 4, 2) := by decide +kernel
theorem dX24_target_124 : decode cX24_target 124 = .ok (.iload 7, 2) := by decide +kernel
theorem dX24_target_126 : decode cX24_target 126 = .ok (.ior, 1) := by decide +kernel
theorem dX24_target_127 : decode cX24_target 127 = .ok (.istore 4, 2) := by decide +kernel
theorem dX24_target_129 : decode cX24_target 129 = .ok (.iinc 5 1, 3) := by decide +kernel
theorem dX24_target_132 : decode cX24_target 132 = .ok (.goto (-78), 3) := by decide +kernel
theorem dX24_target_135 : decode cX24_target 135 = .ok (.iload 4, 2) := by decide +kernel
theorem dX24_target_137 : decode cX24_target 137 = .ok (.ifCond .eq 7, 3) := by decide +kernel
theorem dX24_target_140 : decode cX24_target 140 = .ok (.iconst 1, 1) := by decide +kernel
theorem dX24_target_141 : decode cX24_target 141 = .ok (.goto 4, 3) := by decide +kernel
theorem dX24_target_144 : decode cX24_target 144 = .ok (.iconst 0, 1) := by decide +kernel
theorem dX24_target_145 : decode cX24_target 145 = .ok (.ireturn, 1) := by decide +kernel
/-! CoinJudgeModel.target(I[I)Z -/
set_option maxHeartbeats 4000000 in
theorem sX24_target_0 {G : Gx} {d t : Nat} {h0 : AH} {Φ : Out → AH → Prop} (h : AH) (v0 : Int32) (v1 : Nat) (K : Aw G mX24_target (d + 1) t h0 Φ 14 [vI v0, vR v1, vI (jushr v0 24), vI (v0 &&& 8388607), vI 0, vU, vU, vU] [] h) : Aw G mX24_target (d + 1) t h0 Φ 0 [vI v0, vR v1, vU, vU, vU, vU, vU, vU] [] h := by
  refine r_iload_n (pc := 0) dX24_target_0 rfl ?_
  refine r_bipush (pc := 1) (x := 24) dX24_target_1 rfl ?_
  refine r_jushr (pc := 3) dX24_target_3 ?_
  refine r_istore_n (pc := 4) (lv' := [_, _, _, _, _, _, _, _]) dX24_target_4 (by decide) rfl ?_
  refine r_iload_n (pc := 5) dX24_target_5 rfl ?_
  refine r_ldc_w (pc := 6) dX24_target_6 q2280 ?_
  refine r_iand (pc := 9) dX24_target_9 ?_
  refine r_istore_n (pc := 10) (lv' := [_, _, _, _, _, _, _, _]) dX24_target_10 (by decide) rfl ?_
  refine r_iconst (pc := 11) (x := 0) dX24_target_11 rfl ?_
  refine r_istore (pc := 12) (lv' := [_, _, _, _, _, _, _, _]) dX24_target_12 (by decide) rfl ?_
  refine r_mask (pc := 14) [true, true, true, true, true, false, false, false] rfl ?_
  exact K
theorem eX24_target {G : Gx} {d : Nat} {Φ : Out → AH → Prop} (h : AH) (v0 : Int32) (v1 : Nat) (K : WF G h → Aw G mX24_target (d + 1) 0 h Φ 0 [vI v0, vR v1, vU, vU, vU, vU, vU, vU] [] h) : Cw G mX24_target (d + 1) 0 [vI v0, vR v1] h Φ := Cw.of rfl K
set_option maxHeartbeats 4000000 in
theorem sX24_target_14 {G : Gx} {d t : Nat} {h0 : AH} {Φ : Out → AH → Prop} (h : AH) (v0 : Int32) (v1 : Nat) (v2 : Int32) (v3 : Int32) (v4 : Int32) (K : ((8 ≤ v4 → ((¬ (v0 &&& 8388608) = 0 → Φ (.inl (some (vI 0))) h) ∧ ((v0 &&& 8388608) = 0 → ((v2 ≤ 32 → Aw G mX24_target (d + 1) t h0 Φ 54 [vU, vR v1, vI v2, vI v3, vI 0, vI 0, vU, vU] [] h) ∧ (¬ v2 ≤ 32 → Φ (.inl (some (vI 0))) h))))) ∧ (¬ 8 ≤ v4 → h.kd v1 = 100 ∧ vp_in v4 (h.ai v1).length ∧ ∀ h6 : AH, h6 = h.wi v1 ((h.ai v1).set (v4.toNatClampNeg) 0) → Aw G mX24_target (d + 1) t h0 Φ 14 [vI v0, vR v1, vI v2, vI v3, vI (v4 + 1), vU, vU, vU] [] h6))) : Aw G mX24_target (d + 1) t h0 Φ 14 [vI v0, vR v1, vI v2, vI v3, vI v4, vU, vU, vU] [] h := by
  refine r_iload (pc := 14) dX24_target_14 rfl ?_
  refine r_bipush (pc := 16) (x := 8) dX24_target_16 rfl ?_
  refine r_icmp_ge (pc := 18) (tgt := 32) dX24_target_18 rfl (fun c1 => ?_) (fun c1 => ?_)
  · have K := K.1 c1
    refine r_iload_n (pc := 32) dX24_target_32 rfl ?_
    refine r_ldc_w (pc := 33) dX24_target_33 q2281 ?_
    refine r_iand (pc := 36) dX24_target_36 ?_
    refine r_if_ne (pc := 37) (tgt := 46) dX24_target_37 rfl (fun c2 => ?_) (fun c2 => ?_)
    · have K := K.1 c2
      refine r_iconst (pc := 46) (x := 0) dX24_target_46 rfl ?_
      exact r_iret (pc := 47) rfl rfl dX24_target_47 K
    · have K := K.2 c2
      refine r_iload_n (pc := 40) dX24_target_40 rfl ?_
      refine r_bipush (pc := 41) (x := 32) dX24_target_41 rfl ?_
      refine r_icmp_le (pc := 43) (tgt := 48) dX24_target_43 rfl (fun c3 => ?_) (fun c3 => ?_)
      · have K := K.1 c3
        refine r_iconst (pc := 48) (x := 0) dX24_target_48 rfl ?_
        refine r_istore (pc := 49) (lv' := [_, _, _, _, _, _, _, _]) dX24_target_49 (by decide) rfl ?_
        refine r_iconst (pc := 51) (x := 0) dX24_target_51 rfl ?_
        refine r_istore (pc := 52) (lv' := [_, _, _, _, _, _, _, _]) dX24_target_52 (by decide) rfl ?_
        refine r_mask (pc := 54) [false, true, true, true, true, true, false, false] rfl ?_
        exact K
      · have K := K.2 c3
        refine r_iconst (pc := 46) (x := 0) dX24_target_46 rfl ?_
        exact r_iret (pc := 47) rfl rfl dX24_target_47 K
  · have K := K.2 c1
    refine r_aload_n (pc := 21) dX24_target_21 rfl ?_
    refine r_iload (pc := 22) dX24_target_22 rfl ?_
    refine r_iconst (pc := 24) (x := 0) dX24_target_24 rfl ?_
    obtain ⟨hk4, K⟩ := K
    obtain ⟨hi5, K⟩ := K
    refine r_iastore (pc := 25) hk4 hi5 (Or.inl (em rfl)) dX24_target_25 ?_
    refine r_nameH (fun h6 eh6 => ?_)
    have K := K h6 eh6
    refine r_iinc (pc := 26) (lv' := [_, _, _, _, _, _, _, _]) dX24_target_26 rfl rfl (by decide) rfl ?_
    refine r_goto (pc := 29) (tgt := 14) dX24_target_29 rfl ?_
    refine r_mask (pc := 14) [true, true, true, true, true, false, false, false] rfl ?_
    exact K
set_option maxHeartbeats 4000000 in
theorem sX24_target_54 {G : Gx} {d t : Nat} {h0 : AH} {Φ : Out → AH → Prop} (h : AH) (v1 : Nat) (v2 : Int32) (v3 : Int32) (v4 : Int32) (v5 : Int32) (K : ((3 ≤ v5 → ((v4 = 0 → Φ (.inl (some (vI 0))) h) ∧ (¬ v4 = 0 → Φ (.inl (some (vI 1))) h))) ∧ (¬ 3 ≤ v5 → ((((v2 - 3) + v5) < 0 → Aw G mX24_target (d + 1) t h0 Φ 54 [vU, vR v1, vI v2, vI v3, vI v4, vI (v5 + 1), vU, vU] [] h) ∧ (¬ ((v2 - 3) + v5) < 0 → ((¬ ((jushr v3 (8 * v5)) &&& 255) = 0 → ((((v2 - 3) + v5) ≤ 31 → h.kd v1 = 100 ∧ vp_in (((v2 - 3) + v5) / 4) (h.ai v1).length ∧ vp_in (((v2 - 3) + v5) / 4) (h.ai v1).length ∧ ∀ h9 : AH, h9 = h.wi v1 ((h.ai v1).set ((((v2 - 3) + v5) / 4).toNatClampNeg) (((h.ai v1).getD ((((v2 - 3) + v5) / 4).toNatClampNeg) 0) ||| (jshl ((jushr v3 (8 * v5)) &&& 255) (8 * (jrem ((v2 - 3) + v5) 4))))) → ∀ u10 : Int32, u10 = (v4 ||| ((jushr v3 (8 * v5)) &&& 255)) → Aw G mX24_target (d + 1) t h0 Φ 54 [vU, vR v1, vI v2, vI v3, vI u10, vI (v5 + 1), vU, vU] [] h9) ∧ (¬ ((v2 - 3) + v5) ≤ 31 → Φ (.inl (some (vI 0))) h))) ∧ (((jushr v3 (8 * v5)) &&& 255) = 0 → Aw G mX24_target (d + 1) t h0 Φ 54 [vU, vR v1, vI v2, vI v3, vI v4, vI (v5 + 1), vU, vU] [] h))))))) : Aw G mX24_target (d + 1) t h0 Φ 54 [vU, vR v1, vI v2, vI v3, vI v4, vI v5, vU, vU] [] h := by
  refine r_iload (pc := 54) dX24_target_54 rfl ?_
  refine r_iconst (pc := 56) (x := 3) dX24_target_56 rfl ?_
  refine r_icmp_ge (pc := 57) (tgt := 135) dX24_target_57 rfl (fun c1 => ?_) (fun c1 => ?_)
  · have K := K.1 c1
    refine r_iload (pc := 135) dX24_target_135 rfl ?_
    refine r_if_eq (pc := 137) (tgt := 144) dX24_target_137 rfl (fun c2 => ?_) (fun c2 => ?_)
    · have K := K.1 c2
      refine r_iconst (pc := 144) (x := 0) dX24_target_144 rfl ?_
      exact r_iret (pc := 145) rfl rfl dX24_target_145 K
    · have K := K.2 c2
      refine r_iconst (pc := 140) (x := 1) dX24_target_140 rfl ?_
      refine r_goto (pc := 141) (tgt := 145) dX24_target_141 rfl ?_
      exact r_iret (pc := 145) rfl rfl dX24_target_145 K
  · have K := K.2 c1
    refine r_iload_n (pc := 60) dX24_target_60 rfl ?_
    refine r_iconst (pc := 61) (x := 3) dX24_target_61 rfl ?_
    refine r_isub (pc := 62) dX24_target_62 ?_
    refine r_iload (pc := 63) dX24_target_63 rfl ?_
    refine r_iadd (pc := 65) dX24_target_65 ?_
    refine r_istore (pc := 66) (lv' := [_, _, _, _, _, _, _, _]) dX24_target_66 (by decide) rfl ?_
    refine r_iload_n (pc := 68) dX24_target_68 rfl ?_
    refine r_bipush (pc := 69) (x := 8) dX24_target_69 rfl ?_
    refine r_iload (pc := 71) dX24_target_71 rfl ?_
    refine r_imul (pc := 73) dX24_target_73 ?_
    refine r_jushr (pc := 74) dX24_target_74 ?_
    refine r_sipush (pc := 75) (x := 255) dX24_target_75 rfl ?_
    refine r_iand (pc := 78) dX24_target_78 ?_
    refine r_istore (pc := 79) (lv' := [_, _, _, _, _, _, _, _]) dX24_target_79 (by decide) rfl ?_
    refine r_iload (pc := 81) dX24_target_81 rfl ?_
    refine r_if_lt (pc := 83) (tgt := 129) dX24_target_83 rfl (fun c3 => ?_) (fun c3 => ?_)
    · have K := K.1 c3
      refine r_iinc (pc := 129) (lv' := [_, _, _, _, _, _, _, _]) dX24_target_129 rfl rfl (by decide) rfl ?_
      refine r_goto (pc := 132) (tgt := 54) dX24_target_132 rfl ?_
      refine r_mask (pc := 54) [false, true, true, true, true, true, false, false] rfl ?_
      exact K
    · have K := K.2 c3
      refine r_iload (pc := 86) dX24_target_86 rfl ?_
      refine r_if_ne (pc := 88) (tgt := 94) dX24_target_88 rfl (fun c4 => ?_) (fun c4 => ?_)
      · have K := K.1 c4
        refine r_iload (pc := 94) dX24_target_94 rfl ?_
        refine r_bipush (pc := 96) (x := 31) dX24_target_96 rfl ?_
        refine r_icmp_le (pc := 98) (tgt := 103) dX24_target_98 rfl (fun c5 => ?_) (fun c5 => ?_)
        · have K := K.1 c5
          refine r_aload_n (pc := 103) dX24_target_103 rfl ?_
          refine r_iload (pc := 104) dX24_target_104 rfl ?_
          refine r_iconst (pc := 106) (x := 4) dX24_target_106 rfl ?_
          refine r_idiv (pc := 107) (by decide) dX24_target_107 ?_
          refine r_dup2 (pc := 108) rfl rfl dX24_target_108 ?_
          obtain ⟨hk6, K⟩ := K
          obtain ⟨hi7, K⟩ := K
          refine r_iaload (pc := 109) hk6 hi7 dX24_target_109 ?_
          refine r_iload (pc := 110) dX24_target_110 rfl ?_
          refine r_bipush (pc := 112) (x := 8) dX24_target_112 rfl ?_
          refine r_iload (pc := 114) dX24_target_114 rfl ?_
          refine r_iconst (pc := 116) (x := 4) dX24_target_116 rfl ?_
          refine r_jrem (pc := 117) (by decide) dX24_target_117 ?_
          refine r_imul (pc := 118) dX24_target_118 ?_
          refine r_jshl (pc := 119) dX24_target_119 ?_
          refine r_ior (pc := 120) dX24_target_120 ?_
          obtain ⟨hi8, K⟩ := K
          refine r_iastore (pc := 121) hk6 hi8 (Or.inl (em rfl)) dX24_target_121 ?_
          refine r_nameH (fun h9 eh9 => ?_)
          have K := K h9 eh9
          refine r_iload (pc := 122) dX24_target_122 rfl ?_
          refine r_iload (pc := 124) dX24_target_124 rfl ?_
          refine r_ior (pc := 126) dX24_target_126 ?_
          have K := K _ rfl
          refine r_istore (pc := 127) (lv' := [_, _, _, _, _, _, _, _]) dX24_target_127 (by decide) rfl ?_
          refine r_iinc (pc := 129) (lv' := [_, _, _, _, _, _, _, _]) dX24_target_129 rfl rfl (by decide) rfl ?_
          refine r_goto (pc := 132) (tgt := 54) dX24_target_132 rfl ?_
          refine r_mask (pc := 54) [false, true, true, true, true, true, false, false] rfl ?_
          exact K
        · have K := K.2 c5
          refine r_iconst (pc := 101) (x := 0) dX24_target_101 rfl ?_
          exact r_iret (pc := 102) rfl rfl dX24_target_102 K
      · have K := K.2 c4
        refine r_goto (pc := 91) (tgt := 129) dX24_target_91 rfl ?_
        refine r_iinc (pc := 129) (lv' := [_, _, _, _, _, _, _, _]) dX24_target_129 rfl rfl (by decide) rfl ?_
        refine r_goto (pc := 132) (tgt := 54) dX24_target_132 rfl ?_
        refine r_mask (pc := 54) [false, true, true, true, true, true, false, false] rfl ?_
        exact K
theorem dX24_timeOf_0 : decode cX24_timeOf 0 = .ok (.aload_n 0, 1) := by decide +kernel
theorem dX24_timeOf_1 : decode cX24_timeOf 1 = .ok (.aload_n 0, 1) := by decide +kernel
theorem dX24_timeOf_2 : decode cX24_timeOf 2 = .ok (.getfield 347, 3) := by decide +kernel
theorem dX24_timeOf_5 : decode cX24_timeOf 5 = .ok (.iload_n 1, 1) := by decide +kernel
theorem dX24_timeOf_6 : decode cX24_timeOf 6 = .ok (.aaload, 1) := by decide +kernel
theorem dX24_timeOf_7 : decode cX24_timeOf 7 = .ok (.getfield 351, 3) := by decide +kernel
theorem dX24_timeOf_10 : decode cX24_timeOf 10 = .ok (.bipush 68, 2) := by decide +kernel
theorem dX24_timeOf_12 : decode cX24_timeOf 12 = .ok (.iconst 4, 1) := by decide +kernel
theorem dX24_timeOf_13 : decode cX24_timeOf 13 = .ok (.invokevirtual 267, 3) := by decide +kernel
theorem dX24_timeOf_16 : decode cX24_timeOf 16 = .ok (.lreturn, 1) := by decide +kernel
/-! CoinJudgeModel.timeOf(I)J -/
set_option maxHeartbeats 4000000 in
theorem sX24_timeOf_0 {G : Gx} {d t : Nat} {h0 : AH} {Φ : Out → AH → Prop} (h : AH) (v0 : Nat) (v1 : Int32) (K : h.kd v0 = 24 ∧ ∀ r2 : Nat, r2 = (h.r 24046 v0) → h.kd r2 = 114 ∧ vp_in v1 (h.ar r2).length ∧ ∀ r5 : Nat, r5 = ((h.ar r2).getD (v1.toNatClampNeg) 0) → h.kd r5 = 28 ∧ ∀ r7 : Nat, r7 = (h.r 28000 r5) → Cw G mX24_number d 0 [vR v0, vR r7, vI 68, vI 4] h (kJ (fun x8 h9 => Φ (.inl (some (vJ x8))) h9) (fun x h => Φ (.inr x) h))) : Aw G mX24_timeOf (d + 1) t h0 Φ 0 [vR v0, vI v1] [] h := by
  refine r_aload_n (pc := 0) dX24_timeOf_0 rfl ?_
  refine r_aload_n (pc := 1) dX24_timeOf_1 rfl ?_
  obtain ⟨hk1, K⟩ := K
  have K := K _ rfl
  refine r_getr' (pc := 2) (T := TX24) 24 46 rfl hk1 (Or.inl q2744) dX24_timeOf_2 kc24 g24046 ?_
  refine r_iload_n (pc := 5) dX24_timeOf_5 rfl ?_
  obtain ⟨hk3, K⟩ := K
  obtain ⟨hi4, K⟩ := K
  have K := K _ rfl
  refine r_aaload (pc := 6) (le_of_eq_r hk3 (by decide)) hi4 dX24_timeOf_6 ?_
  obtain ⟨hk6, K⟩ := K
  have K := K _ rfl
  refine r_getr' (pc := 7) (T := TX28) 28 0 rfl hk6 (Or.inr (Or.inl ⟨_, q2388⟩)) dX24_timeOf_7 kc28 g28000 ?_
  refine r_bipush (pc := 10) (x := 68) dX24_timeOf_10 rfl ?_
  refine r_iconst (pc := 12) (x := 4) dX24_timeOf_12 rfl ?_
  refine r_callV_J (pc := 13) (Y := mX24_number) (vs := [_, _, _]) (st := []) hk1 rfl kc24 q2350 q2352 qs74 dX24_timeOf_13 rfl cd_X24_number rfl rfl fp_X24_timeOf_X24_number K (fun x8 h9 eh9 wh9 K => ?_) (fun x h1 _ _ e => Tw.out rfl e)
  exact r_lret (pc := 16) rfl dX24_timeOf_16 K
theorem eX24_timeOf {G : Gx} {d : Nat} {Φ : Out → AH → Prop} (h : AH) (v0 : Nat) (v1 : Int32) (K : WF G h → Aw G mX24_timeOf (d + 1) 0 h Φ 0 [vR v0, vI v1] [] h) : Cw G mX24_timeOf (d + 1) 0 [vR v0, vI v1] h Φ := Cw.of rfl K
theorem dX24_up_0 : decode cX24_up 0 = .ok (.iload_n 1, 1) := by decide +kernel
theorem dX24_up_1 : decode cX24_up 1 = .ok (.istore_n 3, 1) := by decide +kernel
theorem dX24_up_2 : decode cX24_up 2 = .ok (.iconst 0, 1) := by decide +kernel
theorem dX24_up_3 : decode cX24_up 3 = .ok (.istore 4, 2) := by decide +kernel
theorem dX24_up_5 : decode cX24_up 5 = .ok (.iload 4, 2) := by decide +kernel
theorem dX24_up_7 : decode cX24_up 7 = .ok (.iload_n 2, 1) := by decide +kernel
theorem dX24_up_8 : decode cX24_up 8 = .ok (.if_icmp .ge 19, 3) := by decide +kernel
theorem dX24_up_11 : decode cX24_up 11 = .ok (.aload_n 0, 1) := by decide +kernel
theorem dX24_up_12 : decode cX24_up 12 = .ok (.getfield 347, 3) := by decide +kernel
theorem dX24_up_15 : decode cX24_up 15 = .ok (.iload_n 3, 1) := by decide +kernel
theorem dX24_up_16 : decode cX24_up 16 = .ok (.aaload, 1) := by decide +kernel
theorem dX24_up_17 : decode cX24_up 17 = .ok (.getfield 354, 3) := by decide +kernel
theorem dX24_up_20 : decode cX24_up 20 = .ok (.istore_n 3, 1) := by decide +kernel
theorem dX24_up_21 : decode cX24_up 21 = .ok (.iinc 4 1, 3) := by decide +kernel
theorem dX24_up_24 : decode cX24_up 24 = .ok (.goto (-19), 3) := by decide +kernel
theorem dX24_up_27 : decode cX24_up 27 = .ok (.iload_n 3, 1) := by decide +kernel
theorem dX24_up_28 : decode cX24_up 28 = .ok (.ireturn, 1) := by decide +kernel
/-! CoinJudgeModel.up(II)I -/
set_option maxHeartbeats 4000000 in
theorem sX24_up_0 {G : Gx} {d t : Nat} {h0 : AH} {Φ : Out → AH → Prop} (h : AH) (v0 : Nat) (v1 : Int32) (v2 : Int32) (K : Aw G mX24_up (d + 1) t h0 Φ 5 [vR v0, vU, vI v2, vI v1, vI 0] [] h) : Aw G mX24_up (d + 1) t h0 Φ 0 [vR v0, vI v1, vI v2, vU, vU] [] h := by
  refine r_iload_n (pc := 0) dX24_up_0 rfl ?_
  refine r_istore_n (pc := 1) (lv' := [_, _, _, _, _]) dX24_up_1 (by decide) rfl ?_
  refine r_iconst (pc := 2) (x := 0) dX24_up_2 rfl ?_
  refine r_istore (pc := 3) (lv' := [_, _, _, _, _]) dX24_up_3 (by decide) rfl ?_
  refine r_mask (pc := 5) [true, false, true, true, true] rfl ?_
  exact K
theorem eX24_up {G : Gx} {d : Nat} {Φ : Out → AH → Prop} (h : AH) (v0 : Nat) (v1 : Int32) (v2 : Int32) (K : WF G h → Aw G mX24_up (d + 1) 0 h Φ 0 [vR v0, vI v1, vI v2, vU, vU] [] h) : Cw G mX24_up (d + 1) 0 [vR v0, vI v1, vI v2] h Φ := Cw.of rfl K
set_option maxHeartbeats 4000000 in
theorem sX24_up_5 {G : Gx} {d t : Nat} {h0 : AH} {Φ : Out → AH → Prop} (h : AH) (v0 : Nat) (v2 : Int32) (v3 : Int32) (v4 : Int32) (K : ((v2 ≤ v4 → Φ (.inl (some (vI v3))) h) ∧ (¬ v2 ≤ v4 → h.kd v0 = 24 ∧ ∀ r3 : Nat, r3 = (h.r 24046 v0) → h.kd r3 = 114 ∧ vp_in v3 (h.ar r3).length ∧ ∀ r6 : Nat, r6 = ((h.ar r3).getD (v3.toNatClampNeg) 0) → h.kd r6 = 28 ∧ Aw G mX24_up (d + 1) t h0 Φ 5 [vR v0, vU, vI v2, vI (h.i 28005 r6), vI (v4 + 1)] [] h))) : Aw G mX24_up (d + 1) t h0 Φ 5 [vR v0, vU, vI v2, vI v3, vI v4] [] h := by
  refine r_iload (pc := 5) dX24_up_5 rfl ?_
  refine r_iload_n (pc := 7) dX24_up_7 rfl ?_
  refine r_icmp_ge (pc := 8) (tgt := 27) dX24_up_8 rfl (fun c1 => ?_) (fun c1 => ?_)
  · have K := K.1 c1
    refine r_iload_n (pc := 27) dX24_up_27 rfl ?_
    exact r_iret (pc := 28) rfl rfl dX24_up_28 K
  · have K := K.2 c1
    refine r_aload_n (pc := 11) dX24_up_11 rfl ?_
    obtain ⟨hk2, K⟩ := K
    have K := K _ rfl
    refine r_getr' (pc := 12) (T := TX24) 24 46 rfl hk2 (Or.inl q2744) dX24_up_12 kc24 g24046 ?_
    refine r_iload_n (pc := 15) dX24_up_15 rfl ?_
    obtain ⟨hk4, K⟩ := K
    obtain ⟨hi5, K⟩ := K
    have K := K _ rfl
    refine r_aaload (pc := 16) (le_of_eq_r hk4 (by decide)) hi5 dX24_up_16 ?_
    obtain ⟨hk7, K⟩ := K
    refine r_geti' (pc := 17) (T := TX28) 28 5 rfl hk7 (Or.inr (Or.inl ⟨_, q2395⟩)) dX24_up_17 kc28 g28005 ?_
    refine r_istore_n (pc := 20) (lv' := [_, _, _, _, _]) dX24_up_20 (by decide) rfl ?_
    refine r_iinc (pc := 21) (lv' := [_, _, _, _, _]) dX24_up_21 rfl rfl (by decide) rfl ?_
    refine r_goto (pc := 24) (tgt := 5) dX24_up_24 rfl ?_
    refine r_mask (pc := 5) [true, false, true, true, true] rfl ?_
    exact K
theorem dX24_due_0 : decode cX24_due 0 = .ok (.aload_n 0, 1) := by decide +kernel
theorem dX24_due_1 : decode cX24_due 1 = .ok (.getfield 347, 3) := by decide +kernel
theorem dX24_due_4 : decode cX24_due 4 = .ok (.iload_n 1, 1) := by decide +kernel
theorem dX24_due_5 : decode cX24_due 5 = .ok (.aaload, 1) := by decide +kernel
theorem dX24_due_6 : decode cX24_due 6 = .ok (.getfield 363, 3) := by decide +kernel
theorem dX24_due_9 : decode cX24_due 9 = .ok (.iconst 1, 1) := by decide +kernel
theorem dX24_due_10 : decode cX24_due 10 = .ok (.iadd, 1) := by decide +kernel
theorem dX24_due_11 : decode cX24_due 11 = .ok (.istore_n 2, 1) := by decide +kernel
theorem dX24_due_12 : decode cX24_due 12 = .ok (.aload_n 0, 1) := by decide +kernel
theorem dX24_due_13 : decode cX24_due 13 = .ok (.iload_n 1, 1) := by decide +kernel
theorem dX24_due_14 : decode cX24_due 14 = .ok (.invokevirtual 366, 3) := by decide +kernel
theorem dX24_due_17 : decode cX24_due 17 = .ok (.l2i, 1) := by decide +kernel
theorem dX24_due_18 : decode cX24_due 18 = .ok (.istore_n 3, 1) := by decide +kernel
theorem dX24_due_19 : decode cX24_due 19 = .ok (.iload_n 2, 1) := by decide +kernel
theorem dX24_due_20 : decode cX24_due 20 = .ok (.bipush 8, 2) := by decide +kernel
theorem dX24_due_22 : decode cX24_due 22 = .ok (.irem, 1) := by decide +kernel
theorem dX24_due_23 : decode cX24_due 23 = .ok (.ifCond .eq 5, 3) := by decide +kernel
theorem dX24_due_26 : decode cX24_due 26 = .ok (.iload_n 3, 1) := by decide +kernel
theorem dX24_due_27 : decode cX24_due 27 = .ok (.ireturn, 1) := by decide +kernel
theorem dX24_due_28 : decode cX24_due 28 = .ok (.aload_n 0, 1) := by decide +kernel
theorem dX24_due_29 : decode cX24_due 29 = .ok (.iload_n 1, 1) := by decide +kernel
theorem dX24_due_30 : decode cX24_due 30 = .ok (.invokevirtual 357, 3) := by decide +kernel
theorem dX24_due_33 : decode cX24_due 33 = .ok (.aload_n 0, 1) := by decide +kernel
theorem dX24_due_34 : decode cX24_due 34 = .ok (.aload_n 0, 1) := by decide +kernel
theorem dX24_due_35 : decode cX24_due 35 = .ok (.iload_n 1, 1) := by decide +kernel
theorem dX24_due_36 : decode cX24_due 36 = .ok (.bipush 7, 2) := by decide +kernel
theorem dX24_due_38 : decode cX24_due 38 = .ok (.invokevirtual 369, 3) := by decide +kernel
theorem dX24_due_41 : decode cX24_due 41 = .ok (.invokevirtual 357, 3) := by decide +kernel
theorem dX24_due_44 : decode cX24_due 44 = .ok (.lsub, 1) := by decide +kernel
theorem dX24_due_45 : decode cX24_due 45 = .ok (.lstore 4, 2) := by decide +kernel
theorem dX24_due_47 : decode cX24_due 47 = .ok (.lload 4, 2) := by decide +kernel
theorem dX24_due_49 : decode cX24_due 49 = .ok (.ldc2_w 372, 3) := by decide +kernel
theorem dX24_due_52 : decode cX24_due 52 = .ok (.lcmp, 1) := by decide +kernel
theorem dX24_due_53 : decode cX24_due 53 = .ok (.ifCond .ge 9, 3) := by decide +kernel
theorem dX24_due_56 : decode cX24_due 56 = .ok (.ldc2_w 372, 3) := by decide +kernel
theorem dX24_due_59 : decode cX24_due 59 = .ok (.goto 20, 3) := by decide +kernel
theorem dX24_due_62 : decode cX24_due 62 = .ok (.lload 4, 2) := by decide +kernel
theorem dX24_due_64 : decode cX24_due 64 = .ok (.ldc2_w 374, 3) := by decide +kernel
theorem dX24_due_67 : decode cX24_due 67 = .ok (.lcmp, 1) := by decide +kernel
theorem dX24_due_68 : decode cX24_due 68 = .ok (.ifCond .le 9, 3) := by decide +kernel
theorem dX24_due_71 : decode cX24_due 71 = .ok (.ldc2_w 374, 3) := by decide +kernel
theorem dX24_due_74 : decode cX24_due 74 = .ok (.goto 5, 3) := by decide +kernel
theorem dX24_due_77 : decode cX24_due 77 = .ok (.lload 4, 2) := by decide +kernel
theorem dX24_due_79 : decode cX24_due 79 = .ok (.lstore 4, 2) := by decide +kernel
theorem dX24_due_81 : decode cX24_due 81 = .ok (.iload_n 3, 1) := by decide +kernel
theorem dX24_due_82 : decode cX24_due 82 = .ok (.aload_n 0, 1) := by decide +kernel
theorem dX24_due_83 : decode cX24_due 83 = .ok (.getfield 342, 3) := by decide +kernel
theorem dX24_due_86 : decode cX24_due 86 = .ok (.invokestatic 376, 3) := by decide +kernel
theorem dX24_due_89 : decode cX24_due 89 = .ok (.pop, 1) := by decide +kernel
theorem dX24_due_90 : decode cX24_due 90 = .ok (.lconst 0, 1) := by decide +kernel
theorem dX24_due_91 : decode cX24_due 91 = .ok (.lstore 6, 2) := by decide +kernel
theorem dX24_due_93 : decode cX24_due 93 = .ok (.iconst 0, 1) := by decide +kernel
theorem dX24_due_94 : decode cX24_due 94 = .ok (.istore 8, 2) := by decide +kernel
theorem dX24_due_96 : decode cX24_due 96 = .ok (.iload 8, 2) := by decide +kernel
theorem dX24_due_98 : decode cX24_due 98 = .ok (.bipush 8, 2) := by decide +kernel
theorem dX24_due_100 : decode cX24_due 100 = .ok (.if_icmp .ge 46, 3) := by decide +kernel
theorem dX24_due_103 : decode cX24_due 103 = .ok (.lload 6, 2) := by decide +kernel
theorem dX24_due_105 : decode cX24_due 105 = .ok (.aload_n 0, 1) := by decide +kernel
theorem dX24_due_106 : decode cX24_due 106 = .ok (.getfield 342, 3) := by decide +kernel
theorem dX24_due_109 : decode cX24_due 109 = .ok (.iload 8, 2) := by decide +kernel
theorem dX24_due_111 : decode cX24_due 111 = .ok (.iaload, 1) := by decide +kernel
theorem dX24_due_112 : decode cX24_due 112 = .ok (.i2l, 1) := by decide +kernel
theorem dX24_due_113 : decode cX24_due 113 = .ok (.ldc2_w 380, 3) := by decide +kernel
theorem dX24_due_116 : decode cX24_due 116 = .ok (.land, 1) := by decide +kernel
theorem dX24_due_117 : decode cX24_due 117 = .ok (.lload 4, 2) := by decide +kernel
theorem dX24_due_119 : decode cX24_due 119 = .ok (.lmul, 1) := by decide +kernel
theorem dX24_due_120 : decode cX24_due 120 = .ok (.ladd, 1) := by decide +kernel
theorem dX24_due_121 : decode cX24_due 121 = .ok (.lstore 6, 2) := by decide +kernel
theorem dX24_due_123 : decode cX24_due 123 = .ok (.aload_n 0, 1) := by decide +kernel
theorem dX24_due_124 : decode cX24_due 124 = .ok (.getfield 382, 3) := by decide +kernel
theorem dX24_due_127 : decode cX24_due 127 = .ok (.iload 8, 2) := by decide +kernel
theorem dX24_due_129 : decode cX24_due 129 = .ok (.lload 6, 2) := by decide +kernel
theorem dX24_due_131 : decode cX24_due 131 = .ok (.l2i, 1) := by decide +kernel
theorem dX24_due_132 : decode cX24_due 132 = .ok (.iastore, 1) := by decide +kernel
theorem dX24_due_133 : decode cX24_due 133 = .ok (.lload 6, 2) := by decide +kernel
theorem dX24_due_135 : decode cX24_due 135 = .ok (.bipush 32, 2) := by decide +kernel
theorem dX24_due_137 : decode cX24_due 137 = .ok (.lushr, 1) := by decide +kernel
theorem dX24_due_138 : decode cX24_due 138 = .ok (.lstore 6, 2) := by decide +kernel
theorem dX24_due_140 : decode cX24_due 140 = .ok (.iinc 8 1, 3) := by decide +kernel
theorem dX24_due_143 : decode cX24_due 143 = .ok (.goto (-47), 3) := by decide +kernel
theorem dX24_due_146 : decode cX24_due 146 = .ok (.aload_n 0, 1) := by decide +kernel
theorem dX24_due_147 : decode cX24_due 147 = .ok (.getfield 382, 3) := by decide +kernel
theorem dX24_due_150 : decode cX24_due 150 = .ok (.bipush 8, 2) := by decide +kernel
theorem dX24_due_152 : decode cX24_due 152 = .ok (.lload 6, 2) := by decide +kernel
theorem dX24_due_154 : decode cX24_due 154 = .ok (.l2i, 1) := by decide +kernel
theorem dX24_due_155 : decode cX24_due 155 = .ok (.iastore, 1) := by decide +kernel
theorem dX24_due_156 : decode cX24_due 156 = .ok (.lconst 0, 1) := by decide +kernel
theorem dX24_due_157 : decode cX24_due 157 = .ok (.lstore 8, 2) := by decide +kernel
theorem dX24_due_159 : decode cX24_due 159 = .ok (.bipush 8, 2) := by decide +kernel
theorem dX24_due_161 : decode cX24_due 161 = .ok (.istore 10, 2) := by decide +kernel
theorem dX24_due_163 : decode cX24_due 163 = .ok (.iload 10, 2) := by decide +kernel
theorem dX24_due_165 : decode cX24_due 165 = .ok (.ifCond .lt 51, 3) := by decide +kernel
theorem dX24_due_168 : decode cX24_due 168 = .ok (.lload 8, 2) := by decide +kernel
theorem dX24_due_170 : decode cX24_due 170 = .ok (.bipush 32, 2) := by decide +kernel
theorem dX24_due_172 : decode cX24_due 172 = .ok (.lshl, 1) := by decide +kernel
theorem dX24_due_173 : decode cX24_due 173 = .ok (.aload_n 0, 1) := by decide +kernel
theorem dX24_due_174 : decode cX24_due 174 = .ok (.getfield 382, 3) := by decide +kernel
theorem dX24_due_177 : decode cX24_due 177 = .ok (.iload 10, 2) := by decide +kernel
theorem dX24_due_179 : decode cX24_due 179 = .ok (.iaload, 1) := by decide +kernel
theorem dX24_due_180 : decode cX24_due 180 = .ok (.i2l, 1) := by decide +kernel
theorem dX24_due_181 : decode cX24_due 181 = .ok (.ldc2_w 380, 3) := by decide +kernel
theorem dX24_due_184 : decode cX24_due 184 = .ok (.land, 1) := by decide +kernel
theorem dX24_due_185 : decode cX24_due 185 = .ok (.lor, 1) := by decide +kernel
theorem dX24_due_186 : decode cX24_due 186 = .ok (.lstore 8, 2) := by decide +kernel
theorem dX24_due_188 : decode cX24_due 188 = .ok (.aload_n 0, 1) := by decide +kernel
theorem dX24_due_189 : decode cX24_due 189 = .ok (.getfield 382, 3) := by decide +kernel
theorem dX24_due_192 : decode cX24_due 192 = .ok (.iload 10, 2) := by decide +kernel
theorem dX24_due_194 : decode cX24_due 194 = .ok (.lload 8, 2) := by decide +kernel
theorem dX24_due_196 : decode cX24_due 196 = .ok (.ldc2_w 385, 3) := by decide +kernel
theorem dX24_due_199 : decode cX24_due 199 = .ok (.ldiv, 1) := by decide +kernel
theorem dX24_due_200 : decode cX24_due 200 = .ok (.l2i, 1) := by decide +kernel
theorem dX24_due_201 : decode cX24_due 201 = .ok (.iastore, 1) := by decide +kernel
theorem dX24_due_202 : decode cX24_due 202 = .ok (.lload 8, 2) := by decide +kernel
theorem dX24_due_204 : decode cX24_due 204 = .ok (.ldc2_w 385, 3) := by decide +kernel
theorem dX24_due_207 : decode cX24_due 207 = .ok (.lrem, 1) := by decide +kernel
theorem dX24_due_208 : decode cX24_due 208 = .ok (.lstore 8, 2) := by decide +kernel
theorem dX24_due_210 : decode cX24_due 210 = .ok (.iinc 10 (-1), 3) := by decide +kernel
theorem dX24_due_213 : decode cX24_due 213 = .ok (.goto (-50), 3) := by decide +kernel
theorem dX24_due_216 : decode cX24_due 216 = .ok (.iconst 0, 1) := by decide +kernel
theorem dX24_due_217 : decode cX24_due 217 = .ok (.istore 10, 2) := by decide +kernel
theorem dX24_due_219 : decode cX24_due 219 = .ok (.iload 10, 2) := by decide +kernel
theorem dX24_due_221 : decode cX24_due 221 = .ok (.bipush 8, 2) := by decide +kernel
theorem dX24_due_223 : decode cX24_due 223 = .ok (.if_icmp .ge 23, 3) := by decide +kernel
theorem dX24_due_226 : decode cX24_due 226 = .ok (.aload_n 0, 1) := by decide +kernel
theorem dX24_due_227 : decode cX24_due 227 = .ok (.getfield 342, 3) := by decide +kernel
theorem dX24_due_230 : decode cX24_due 230 = .ok (.iload 10, 2) := by decide +kernel
theorem dX24_due_232 : decode cX24_due 232 = .ok (.aload_n 0, 1) := by decide +kernel
theorem dX24_due_233 : decode cX24_due 233 = .ok (.getfield 382, 3) := by decide +kernel
theorem dX24_due_236 : decode cX24_due 236 = .ok (.iload 10, 2) := by decide +kernel
theorem dX24_due_238 : decode cX24_due 238 = .ok (.iaload, 1) := by decide +kernel
theorem dX24_due_239 : decode cX24_due 239 = .ok (.iastore, 1) := by decide +kernel
theorem dX24_due_240 : decode cX24_due 240 = .ok (.iinc 10 1, 3) := by decide +kernel
theorem dX24_due_243 : decode cX24_due 243 = .ok (.goto (-24), 3) := by decide +kernel
theorem dX24_due_246 : decode cX24_due 246 = .ok (.aload_n 0, 1) := by decide +kernel
theorem dX24_due_247 : decode cX24_due 247 = .ok (.getfield 382, 3) := by decide +kernel
theorem dX24_due_250 : decode cX24_due 250 = .ok (.bipush 8, 2) := by decide +kernel
theorem dX24_due_252 : decode cX24_due 252 = .ok (.iaload, 1) := by decide +kernel
theorem dX24_due_253 : decode cX24_due 253 = .ok (.ifCond .ne 17, 3) := by decide +kernel
theorem dX24_due_256 : decode cX24_due 256 = .ok (.aload_n 0, 1) := by decide +kernel
theorem dX24_due_257 : decode cX24_due 257 = .ok (.getfield 342, 3) := by decide +kernel
theorem dX24_due_260 : decode cX24_due 260 = .ok (.aload_n 0, 1) := by decide +kernel
theorem dX24_due_261 : decode cX24_due 261 = .ok (.getfield 387, 3) := by decide +kernel
theorem dX24_due_264 : decode cX24_due 264 = .ok (.invokestatic 165, 3) := by decide +kernel
theorem dX24_due_267 : decode cX24_due 267 = .ok (.ifCond .le 14, 3) := by decide +kernel
theorem dX24_due_270 : decode cX24_due 270 = .ok (.aload_n 0, 1) := by decide +kernel
theorem dX24_due_271 : decode cX24_due 271 = .ok (.getfield 387, 3) := by decide +kernel
theorem dX24_due_274 : decode cX24_due 274 = .ok (.aload_n 0, 1) := by decide +kernel
theorem dX24_due_275 : decode cX24_due 275 = .ok (.getfield 342, 3) := by decide +kernel
theorem dX24_due_278 : decode cX24_due 278 = .ok (.invokestatic 182, 3) := by decide +kernel
theorem dX24_due_281 : decode cX24_due 281 = .ok (.aload_n 0, 1) := by decide +kernel
theorem dX24_due_282 : decode cX24_due 282 = .ok (.getfield 342, 3) := by decide +kernel
theorem dX24_due_285 : decode cX24_due 285 = .ok (.invokestatic 390, 3) := by decide +kernel
theorem dX24_due_288 : decode cX24_due 288 = .ok (.ireturn, 1) := by decide +kernel
/-! CoinJudgeModel.due(I)I -/
set_option maxHeartbeats 4000000 in
theorem sX24_due_0 {G : Gx} {d t : Nat} {h0 : AH} {Φ : Out → AH → Prop} (h : AH) (v0 : Nat) (v1 : Int32) (K : h.kd v0 = 24 ∧ ∀ r2 : Nat, r2 = (h.r 24046 v0) → h.kd r2 = 114 ∧ vp_in v1 (h.ar r2).length ∧ ∀ r5 : Nat, r5 = ((h.ar r2).getD (v1.toNatClampNeg) 0) → h.kd r5 = 28 ∧ Cw G mX24_bitsOf d 0 [vR v0, vI v1] h (kJ (fun x7 h8 => (((jrem ((h.i 28004 r5) + 1) 8) = 0 → Cw G mX24_timeOf d 0 [vR v0, vI v1] h8 (kJ (fun x10 h11 => Cw G mX24_up d 0 [vR v0, vI v1, vI 7] h11 (kI (fun x13 h14 => Cw G mX24_timeOf d 0 [vR v0, vI x13] h14 (kJ (fun x16 h17 => ((1200 ≤ (x10 - x16) → (((x10 - x16) ≤ 19200 → ∀ r22 : Nat, r22 = (h17.r 24043 v0) → Cw G mX24_target d 0 [vI x7.toInt32, vR r22] h17 (kI (fun x23 h24 => Aw G mX24_due (d + 1) t h0 Φ 96 [vR v0, vU, vU, vU, vJ (x10 - x16), vU, vJ 0, vU, vI 0, vU, vU] [] h24) (fun x h => Φ (.inr x) h))) ∧ (¬ (x10 - x16) ≤ 19200 → ∀ r26 : Nat, r26 = (h17.r 24043 v0) → Cw G mX24_target d 0 [vI x7.toInt32, vR r26] h17 (kI (fun x27 h28 => Aw G mX24_due (d + 1) t h0 Φ 96 [vR v0, vU, vU, vU, vJ 19200, vU, vJ 0, vU, vI 0, vU, vU] [] h28) (fun x h => Φ (.inr x) h))))) ∧ (¬ 1200 ≤ (x10 - x16) → ∀ r30 : Nat, r30 = (h17.r 24043 v0) → Cw G mX24_target d 0 [vI x7.toInt32, vR r30] h17 (kI (fun x31 h32 => Aw G mX24_due (d + 1) t h0 Φ 96 [vR v0, vU, vU, vU, vJ 1200, vU, vJ 0, vU, vI 0, vU, vU] [] h32) (fun x h => Φ (.inr x) h))))) (fun x h => Φ (.inr x) h))) (fun x h => Φ (.inr x) h))) (fun x h => Φ (.inr x) h))) ∧ (¬ (jrem ((h.i 28004 r5) + 1) 8) = 0 → Φ (.inl (some (vI x7.toInt32))) h8))) (fun x h => Φ (.inr x) h))) : Aw G mX24_due (d + 1) t h0 Φ 0 [vR v0, vI v1, vU, vU, vU, vU, vU, vU, vU, vU, vU] [] h := by
  refine r_aload_n (pc := 0) dX24_due_0 rfl ?_
  obtain ⟨hk1, K⟩ := K
  have K := K _ rfl
  refine r_getr' (pc := 1) (T := TX24) 24 46 rfl hk1 (Or.inl q2744) dX24_due_1 kc24 g24046 ?_
  refine r_iload_n (pc := 4) dX24_due_4 rfl ?_
  obtain ⟨hk3, K⟩ := K
  obtain ⟨hi4, K⟩ := K
  have K := K _ rfl
  refine r_aaload (pc := 5) (le_of_eq_r hk3 (by decide)) hi4 dX24_due_5 ?_
  obtain ⟨hk6, K⟩ := K
  refine r_geti' (pc := 6) (T := TX28) 28 4 rfl hk6 (Or.inr (Or.inl ⟨_, q2394⟩)) dX24_due_6 kc28 g28004 ?_
  refine r_iconst (pc := 9) (x := 1) dX24_due_9 rfl ?_
  refine r_iadd (pc := 10) dX24_due_10 ?_
  refine r_istore_n (pc := 11) (lv' := [_, _, _, _, _, _, _, _, _, _, _]) dX24_due_11 (by decide) rfl ?_
  refine r_aload_n (pc := 12) dX24_due_12 rfl ?_
  refine r_iload_n (pc := 13) dX24_due_13 rfl ?_
  refine r_callV_J (pc := 14) (Y := mX24_bitsOf) (vs := [_]) (st := []) hk1 rfl kc24 q2346 q2348 qs73 dX24_due_14 rfl cd_X24_bitsOf rfl rfl fp_X24_due_X24_bitsOf K (fun x7 h8 eh8 wh8 K => ?_) (fun x h1 _ _ e => Tw.out rfl e)
  refine r_l2i (pc := 17) dX24_due_17 ?_
  refine r_istore_n (pc := 18) (lv' := [_, _, _, _, _, _, _, _, _, _, _]) dX24_due_18 (by decide) rfl ?_
  refine r_iload_n (pc := 19) dX24_due_19 rfl ?_
  refine r_bipush (pc := 20) (x := 8) dX24_due_20 rfl ?_
  refine r_jrem (pc := 22) (by decide) dX24_due_22 ?_
  refine r_if_eq (pc := 23) (tgt := 28) dX24_due_23 rfl (fun c9 => ?_) (fun c9 => ?_)
  · have K := K.1 c9
    refine r_aload_n (pc := 28) dX24_due_28 rfl ?_
    refine r_iload_n (pc := 29) dX24_due_29 rfl ?_
    have hk12 := kd_ext eh8 hk1 (nz rfl)
    refine r_callV_J (pc := 30) (Y := mX24_timeOf) (vs := [_]) (st := []) hk12 rfl kc24 q2354 q2356 qs75 dX24_due_30 rfl cd_X24_timeOf rfl rfl fp_X24_due_X24_timeOf K (fun x10 h11 eh11 wh11 K => ?_) (fun x h1 _ _ e => Tw.out rfl e)
    refine r_aload_n (pc := 33) dX24_due_33 rfl ?_
    refine r_aload_n (pc := 34) dX24_due_34 rfl ?_
    refine r_iload_n (pc := 35) dX24_due_35 rfl ?_
    refine r_bipush (pc := 36) (x := 7) dX24_due_36 rfl ?_
    have hk15 := kd_ext eh11 hk12 (nz rfl)
    refine r_callV_I (pc := 38) (Y := mX24_up) (vs := [_, _]) (st := [_, _]) hk15 rfl kc24 q2358 q2360 qs76 dX24_due_38 rfl cd_X24_up rfl rfl fp_X24_due_X24_up K (fun x13 h14 eh14 wh14 K => ?_) (fun x h1 _ _ e => Tw.out rfl e)
    have hk18 := kd_ext eh14 hk15 (nz rfl)
    refine r_callV_J (pc := 41) (Y := mX24_timeOf) (vs := [_]) (st := [_]) hk18 rfl kc24 q2354 q2356 qs75 dX24_due_41 rfl cd_X24_timeOf rfl rfl fp_X24_due_X24_timeOf K (fun x16 h17 eh17 wh17 K => ?_) (fun x h1 _ _ e => Tw.out rfl e)
    refine r_lsub (pc := 44) dX24_due_44 ?_
    refine r_lstore (pc := 45) (lv' := [_, _, _, _, _, _, _, _, _, _, _]) dX24_due_45 (by decide) rfl ?_
    refine r_lload (pc := 47) dX24_due_47 rfl ?_
    refine r_ldc2 (pc := 49) dX24_due_49 q2362 ?_
    refine r_lcmp_ge (pc := 52) (tgt := 62) dX24_due_52 dX24_due_53 rfl (fun c19 => ?_) (fun c19 => ?_)
    · have K := K.1 c19
      refine r_lload (pc := 62) dX24_due_62 rfl ?_
      refine r_ldc2 (pc := 64) dX24_due_64 q2363 ?_
      refine r_lcmp_le (pc := 67) (tgt := 77) dX24_due_67 dX24_due_68 rfl (fun c20 => ?_) (fun c20 => ?_)
      · have K := K.1 c20
        refine r_lload (pc := 77) dX24_due_77 rfl ?_
        refine r_lstore (pc := 79) (lv' := [_, _, _, _, _, _, _, _, _, _, _]) dX24_due_79 (by decide) rfl ?_
        refine r_iload_n (pc := 81) dX24_due_81 rfl ?_
        refine r_aload_n (pc := 82) dX24_due_82 rfl ?_
        have hk21 := kd_ext eh17 hk18 (nz rfl)
        have K := K _ rfl
        refine r_getr' (pc := 83) (T := TX24) 24 43 rfl hk21 (Or.inl q2741) dX24_due_83 kc24 g24043 ?_
        refine r_callS_I (pc := 86) (Y := mX24_target) (vs := [_, _]) (st := []) q2277 q2278 q192 dX24_due_86 rfl cd_X24_target rfl rfl fp_X24_due_X24_target K (fun x23 h24 eh24 wh24 K => ?_) (fun x h1 _ _ e => Tw.out rfl e)
        refine r_pop (pc := 89) rfl dX24_due_89 ?_
        refine r_lconst (pc := 90) (a := 0) dX24_due_90 rfl ?_
        refine r_lstore (pc := 91) (lv' := [_, _, _, _, _, _, _, _, _, _, _]) dX24_due_91 (by decide) rfl ?_
        refine r_iconst (pc := 93) (x := 0) dX24_due_93 rfl ?_
        refine r_istore (pc := 94) (lv' := [_, _, _, _, _, _, _, _, _, _, _]) dX24_due_94 (by decide) rfl ?_
        refine r_mask (pc := 96) [true, false, false, false, true, false, true, false, true, false, false] rfl ?_
        exact K
      · have K := K.2 c20
        refine r_ldc2 (pc := 71) dX24_due_71 q2363 ?_
        refine r_goto (pc := 74) (tgt := 79) dX24_due_74 rfl ?_
        refine r_lstore (pc := 79) (lv' := [_, _, _, _, _, _, _, _, _, _, _]) dX24_due_79 (by decide) rfl ?_
        refine r_iload_n (pc := 81) dX24_due_81 rfl ?_
        refine r_aload_n (pc := 82) dX24_due_82 rfl ?_
        have hk25 := kd_ext eh17 hk18 (nz rfl)
        have K := K _ rfl
        refine r_getr' (pc := 83) (T := TX24) 24 43 rfl hk25 (Or.inl q2741) dX24_due_83 kc24 g24043 ?_
        refine r_callS_I (pc := 86) (Y := mX24_target) (vs := [_, _]) (st := []) q2277 q2278 q192 dX24_due_86 rfl cd_X24_target rfl rfl fp_X24_due_X24_target K (fun x27 h28 eh28 wh28 K => ?_) (fun x h1 _ _ e => Tw.out rfl e)
        refine r_pop (pc := 89) rfl dX24_due_89 ?_
        refine r_lconst (pc := 90) (a := 0) dX24_due_90 rfl ?_
        refine r_lstore (pc := 91) (lv' := [_, _, _, _, _, _, _, _, _, _, _]) dX24_due_91 (by decide) rfl ?_
        refine r_iconst (pc := 93) (x := 0) dX24_due_93 rfl ?_
        refine r_istore (pc := 94) (lv' := [_, _, _, _, _, _, _, _, _, _, _]) dX24_due_94 (by decide) rfl ?_
        refine r_mask (pc := 96) [true, false, false, false, true, false, true, false, true, false, false] rfl ?_
        exact K
    · have K := K.2 c19
      refine r_ldc2 (pc := 56) dX24_due_56 q2362 ?_
      refine r_goto (pc := 59) (tgt := 79) dX24_due_59 rfl ?_
      refine r_lstore (pc := 79) (lv' := [_, _, _, _, _, _, _, _, _, _, _]) dX24_due_79 (by decide) rfl ?_
      refine r_iload_n (pc := 81) dX24_due_81 rfl ?_
      refine r_aload_n (pc := 82) dX24_due_82 rfl ?_
      have hk29 := kd_ext eh17 hk18 (nz rfl)
      have K := K _ rfl
      refine r_getr' (pc := 83) (T := TX24) 24 43 rfl hk29 (Or.inl q2741) dX24_due_83 kc24 g24043 ?_
      refine r_callS_I (pc := 86) (Y := mX24_target) (vs := [_, _]) (st := []) q2277 q2278 q192 dX24_due_86 rfl cd_X24_target rfl rfl fp_X24_due_X24_target K (fun x31 h32 eh32 wh32 K => ?_) (fun x h1 _ _ e => Tw.out rfl e)
      refine r_pop (pc := 89) rfl dX24_due_89 ?_
      refine r_lconst (pc := 90) (a := 0) dX24_due_90 rfl ?_
      refine r_lstore (pc := 91) (lv' := [_, _, _, _, _, _, _, _, _, _, _]) dX24_due_91 (by decide) rfl ?_
      refine r_iconst (pc := 93) (x := 0) dX24_due_93 rfl ?_
      refine r_istore (pc := 94) (lv' := [_, _, _, _, _, _, _, _, _, _, _]) dX24_due_94 (by decide) rfl ?_
      refine r_mask (pc := 96) [true, false, false, false, true, false, true, false, true, false, false] rfl ?_
      exact K
  · have K := K.2 c9
    refine r_iload_n (pc := 26) dX24_due_26 rfl ?_
    exact r_iret (pc := 27) rfl rfl dX24_due_27 K
theorem eX24_due {G : Gx} {d : Nat} {Φ : Out → AH → Prop} (h : AH) (v0 : Nat) (v1 : Int32) (K : WF G h → Aw G mX24_due (d + 1) 0 h Φ 0 [vR v0, vI v1, vU, vU, vU, vU, vU, vU, vU, vU, vU] [] h) : Cw G mX24_due (d + 1) 0 [vR v0, vI v1] h Φ := Cw.of rfl K
set_option maxHeartbeats 4000000 in
theorem sX24_due_96 {G : Gx} {d t : Nat} {h0 : AH} {Φ : Out → AH → Prop} (h : AH) (v0 : Nat) (v4 : Int64) (v6 : Int64) (v8 : Int32) (K : ((8 ≤ v8 → h.kd v0 = 24 ∧ ∀ r3 : Nat, r3 = (h.r 24054 v0) → h.kd r3 = 100 ∧ vp_in 8 (h.ai r3).length ∧ ∀ h6 : AH, h6 = h.wi r3 ((h.ai r3).set ((8 : Int32).toNatClampNeg) v6.toInt32) → Aw G mX24_due (d + 1) t h0 Φ 163 [vR v0, vU, vU, vU, vU, vU, vU, vU, vJ 0, vU, vI 8] [] h6) ∧ (¬ 8 ≤ v8 → h.kd v0 = 24 ∧ ∀ r8 : Nat, r8 = (h.r 24043 v0) → h.kd r8 = 100 ∧ vp_in v8 (h.ai r8).length ∧ ∀ u11 : Int64, u11 = (v6 + ((((h.ai r8).getD (v8.toNatClampNeg) 0).toInt64 &&& 4294967295) * v4)) → ∀ r12 : Nat, r12 = (h.r 24054 v0) → h.kd r12 = 100 ∧ vp_in v8 (h.ai r12).length ∧ ∀ h15 : AH, h15 = h.wi r12 ((h.ai r12).set (v8.toNatClampNeg) u11.toInt32) → Aw G mX24_due (d + 1) t h0 Φ 96 [vR v0, vU, vU, vU, vJ v4, vU, vJ (Jushr u11 32), vU, vI (v8 + 1), vU, vU] [] h15))) : Aw G mX24_due (d + 1) t h0 Φ 96 [vR v0, vU, vU, vU, vJ v4, vU, vJ v6, vU, vI v8, vU, vU] [] h := by
  refine r_iload (pc := 96) dX24_due_96 rfl ?_
  refine r_bipush (pc := 98) (x := 8) dX24_due_98 rfl ?_
  refine r_icmp_ge (pc := 100) (tgt := 146) dX24_due_100 rfl (fun c1 => ?_) (fun c1 => ?_)
  · have K := K.1 c1
    refine r_aload_n (pc := 146) dX24_due_146 rfl ?_
    obtain ⟨hk2, K⟩ := K
    have K := K _ rfl
    refine r_getr' (pc := 147) (T := TX24) 24 54 rfl hk2 (Or.inl q2752) dX24_due_147 kc24 g24054 ?_
    refine r_bipush (pc := 150) (x := 8) dX24_due_150 rfl ?_
    refine r_lload (pc := 152) dX24_due_152 rfl ?_
    refine r_l2i (pc := 154) dX24_due_154 ?_
    obtain ⟨hk4, K⟩ := K
    obtain ⟨hi5, K⟩ := K
    refine r_iastore (pc := 155) hk4 hi5 (Or.inl (em rfl)) dX24_due_155 ?_
    refine r_nameH (fun h6 eh6 => ?_)
    have K := K h6 eh6
    refine r_lconst (pc := 156) (a := 0) dX24_due_156 rfl ?_
    refine r_lstore (pc := 157) (lv' := [_, _, _, _, _, _, _, _, _, _, _]) dX24_due_157 (by decide) rfl ?_
    refine r_bipush (pc := 159) (x := 8) dX24_due_159 rfl ?_
    refine r_istore (pc := 161) (lv' := [_, _, _, _, _, _, _, _, _, _, _]) dX24_due_161 (by decide) rfl ?_
    refine r_mask (pc := 163) [true, false, false, false, false, false, false, false, true, false, true] rfl ?_
    exact K
  · have K := K.2 c1
    refine r_lload (pc := 103) dX24_due_103 rfl ?_
    refine r_aload_n (pc := 105) dX24_due_105 rfl ?_
    obtain ⟨hk7, K⟩ := K
    have K := K _ rfl
    refine r_getr' (pc := 106) (T := TX24) 24 43 rfl hk7 (Or.inl q2741) dX24_due_106 kc24 g24043 ?_
    refine r_iload (pc := 109) dX24_due_109 rfl ?_
    obtain ⟨hk9, K⟩ := K
    obtain ⟨hi10, K⟩ := K
    refine r_iaload (pc := 111) hk9 hi10 dX24_due_111 ?_
    refine r_i2l (pc := 112) dX24_due_112 ?_
    refine r_ldc2 (pc := 113) dX24_due_113 q2283 ?_
    refine r_land (pc := 116) dX24_due_116 ?_
    refine r_lload (pc := 117) dX24_due_117 rfl ?_
    refine r_lmul (pc := 119) dX24_due_119 ?_
    refine r_ladd (pc := 120) dX24_due_120 ?_
    have K := K _ rfl
    refine r_lstore (pc := 121) (lv' := [_, _, _, _, _, _, _, _, _, _, _]) dX24_due_121 (by decide) rfl ?_
    refine r_aload_n (pc := 123) dX24_due_123 rfl ?_
    have K := K _ rfl
    refine r_getr' (pc := 124) (T := TX24) 24 54 rfl hk7 (Or.inl q2752) dX24_due_124 kc24 g24054 ?_
    refine r_iload (pc := 127) dX24_due_127 rfl ?_
    refine r_lload (pc := 129) dX24_due_129 rfl ?_
    refine r_l2i (pc := 131) dX24_due_131 ?_
    obtain ⟨hk13, K⟩ := K
    obtain ⟨hi14, K⟩ := K
    refine r_iastore (pc := 132) hk13 hi14 (Or.inl (em rfl)) dX24_due_132 ?_
    refine r_nameH (fun h15 eh15 => ?_)
    have K := K h15 eh15
    refine r_lload (pc := 133) dX24_due_133 rfl ?_
    refine r_bipush (pc := 135) (x := 32) dX24_due_135 rfl ?_
    refine r_Jushr (pc := 137) dX24_due_137 ?_
    refine r_lstore (pc := 138) (lv' := [_, _, _, _, _, _, _, _, _, _, _]) dX24_due_138 (by decide) rfl ?_
    refine r_iinc (pc := 140) (lv' := [_, _, _, _, _, _, _, _, _, _, _]) dX24_due_140 rfl rfl (by decide) rfl ?_
    refine r_goto (pc := 143) (tgt := 96) dX24_due_143 rfl ?_
    refine r_mask (pc := 96) [true, false, false, false, true, false, true, false, true, false, false] rfl ?_
    exact K
set_option maxHeartbeats 4000000 in
theorem sX24_due_163 {G : Gx} {d t : Nat} {h0 : AH} {Φ : Out → AH → Prop} (h : AH) (v0 : Nat) (v8 : Int64) (v10 : Int32) (K : ((v10 < 0 → Aw G mX24_due (d + 1) t h0 Φ 219 [vR v0, vU, vU, vU, vU, vU, vU, vU, vU, vU, vI 0] [] h) ∧ (¬ v10 < 0 → h.kd v0 = 24 ∧ ∀ r3 : Nat, r3 = (h.r 24054 v0) → h.kd r3 = 100 ∧ vp_in v10 (h.ai r3).length ∧ ∀ u6 : Int64, u6 = ((Jshl v8 32) ||| (((h.ai r3).getD (v10.toNatClampNeg) 0).toInt64 &&& 4294967295)) → vp_in v10 (h.ai r3).length ∧ ∀ h8 : AH, h8 = h.wi r3 ((h.ai r3).set (v10.toNatClampNeg) ((u6 / 4800).toInt32)) → Aw G mX24_due (d + 1) t h0 Φ 163 [vR v0, vU, vU, vU, vU, vU, vU, vU, vJ (Jrem u6 4800), vU, vI (v10 + (-1))] [] h8))) : Aw G mX24_due (d + 1) t h0 Φ 163 [vR v0, vU, vU, vU, vU, vU, vU, vU, vJ v8, vU, vI v10] [] h := by
  refine r_iload (pc := 163) dX24_due_163 rfl ?_
  refine r_if_lt (pc := 165) (tgt := 216) dX24_due_165 rfl (fun c1 => ?_) (fun c1 => ?_)
  · have K := K.1 c1
    refine r_iconst (pc := 216) (x := 0) dX24_due_216 rfl ?_
    refine r_istore (pc := 217) (lv' := [_, _, _, _, _, _, _, _, _, _, _]) dX24_due_217 (by decide) rfl ?_
    refine r_mask (pc := 219) [true, false, false, false, false, false, false, false, false, false, true] rfl ?_
    exact K
  · have K := K.2 c1
    refine r_lload (pc := 168) dX24_due_168 rfl ?_
    refine r_bipush (pc := 170) (x := 32) dX24_due_170 rfl ?_
    refine r_Jshl (pc := 172) dX24_due_172 ?_
    refine r_aload_n (pc := 173) dX24_due_173 rfl ?_
    obtain ⟨hk2, K⟩ := K
    have K := K _ rfl
    refine r_getr' (pc := 174) (T := TX24) 24 54 rfl hk2 (Or.inl q2752) dX24_due_174 kc24 g24054 ?_
    refine r_iload (pc := 177) dX24_due_177 rfl ?_
    obtain ⟨hk4, K⟩ := K
    obtain ⟨hi5, K⟩ := K
    refine r_iaload (pc := 179) hk4 hi5 dX24_due_179 ?_
    refine r_i2l (pc := 180) dX24_due_180 ?_
    refine r_ldc2 (pc := 181) dX24_due_181 q2283 ?_
    refine r_land (pc := 184) dX24_due_184 ?_
    refine r_lor (pc := 185) dX24_due_185 ?_
    have K := K _ rfl
    refine r_lstore (pc := 186) (lv' := [_, _, _, _, _, _, _, _, _, _, _]) dX24_due_186 (by decide) rfl ?_
    refine r_aload_n (pc := 188) dX24_due_188 rfl ?_
    refine r_getr' (pc := 189) (T := TX24) 24 54 rfl hk2 (Or.inl q2752) dX24_due_189 kc24 g24054 ?_
    refine r_iload (pc := 192) dX24_due_192 rfl ?_
    refine r_lload (pc := 194) dX24_due_194 rfl ?_
    refine r_ldc2 (pc := 196) dX24_due_196 q2364 ?_
    refine r_ldiv (pc := 199) (by decide) dX24_due_199 ?_
    refine r_l2i (pc := 200) dX24_due_200 ?_
    obtain ⟨hi7, K⟩ := K
    refine r_iastore (pc := 201) hk4 hi7 (Or.inl (em rfl)) dX24_due_201 ?_
    refine r_nameH (fun h8 eh8 => ?_)
    have K := K h8 eh8
    refine r_lload (pc := 202) dX24_due_202 rfl ?_
    refine r_ldc2 (pc := 204) dX24_due_204 q2364 ?_
    refine r_Jrem (pc := 207) (by decide) dX24_due_207 ?_
    refine r_lstore (pc := 208) (lv' := [_, _, _, _, _, _, _, _, _, _, _]) dX24_due_208 (by decide) rfl ?_
    refine r_iinc (pc := 210) (lv' := [_, _, _, _, _, _, _, _, _, _, _]) dX24_due_210 rfl rfl (by decide) rfl ?_
    refine r_goto (pc := 213) (tgt := 163) dX24_due_213 rfl ?_
    refine r_mask (pc := 163) [true, false, false, false, false, false, false, false, true, false, true] rfl ?_
    exact K
set_option maxHeartbeats 4000000 in
theorem sX24_due_219 {G : Gx} {d t : Nat} {h0 : AH} {Φ : Out → AH → Prop} (h : AH) (v0 : Nat) (v10 : Int32) (K : ((8 ≤ v10 → h.kd v0 = 24 ∧ ∀ r3 : Nat, r3 = (h.r 24054 v0) → h.kd r3 = 100 ∧ vp_in 8 (h.ai r3).length ∧ ((¬ ((h.ai r3).getD ((8 : Int32).toNatClampNeg) 0) = 0 → ∀ r7 : Nat, r7 = (h.r 24042 v0) → ∀ r8 : Nat, r8 = (h.r 24043 v0) → Cw G mX27_copy d 0 [vR r7, vR r8] h (kV (fun h10 => Cw G mX24_bits d 0 [vR r8] h10 (kI (fun x14 h15 => Φ (.inl (some (vI x14))) h15) (fun x h => Φ (.inr x) h))) (fun x h => Φ (.inr x) h))) ∧ (((h.ai r3).getD ((8 : Int32).toNatClampNeg) 0) = 0 → ∀ r16 : Nat, r16 = (h.r 24043 v0) → ∀ r17 : Nat, r17 = (h.r 24042 v0) → Cw G mX27_compare d 0 [vR r16, vR r17] h (kI (fun x18 h19 => ((x18 ≤ 0 → Cw G mX24_bits d 0 [vR r16] h19 (kI (fun x24 h25 => Φ (.inl (some (vI x24))) h25) (fun x h => Φ (.inr x) h))) ∧ (¬ x18 ≤ 0 → Cw G mX27_copy d 0 [vR r17, vR r16] h19 (kV (fun h32 => Cw G mX24_bits d 0 [vR r16] h32 (kI (fun x35 h36 => Φ (.inl (some (vI x35))) h36) (fun x h => Φ (.inr x) h))) (fun x h => Φ (.inr x) h))))) (fun x h => Φ (.inr x) h))))) ∧ (¬ 8 ≤ v10 → h.kd v0 = 24 ∧ ∀ r38 : Nat, r38 = (h.r 24043 v0) → ∀ r39 : Nat, r39 = (h.r 24054 v0) → h.kd r39 = 100 ∧ vp_in v10 (h.ai r39).length ∧ h.kd r38 = 100 ∧ vp_in v10 (h.ai r38).length ∧ ∀ h44 : AH, h44 = h.wi r38 ((h.ai r38).set (v10.toNatClampNeg) ((h.ai r39).getD (v10.toNatClampNeg) 0)) → Aw G mX24_due (d + 1) t h0 Φ 219 [vR v0, vU, vU, vU, vU, vU, vU, vU, vU, vU, vI (v10 + 1)] [] h44))) : Aw G mX24_due (d + 1) t h0 Φ 219 [vR v0, vU, vU, vU, vU, vU, vU, vU, vU, vU, vI v10] [] h := by
  refine r_iload (pc := 219) dX24_due_219 rfl ?_
  refine r_bipush (pc := 221) (x := 8) dX24_due_221 rfl ?_
  refine r_icmp_ge (pc := 223) (tgt := 246) dX24_due_223 rfl (fun c1 => ?_) (fun c1 => ?_)
  · have K := K.1 c1
    refine r_aload_n (pc := 246) dX24_due_246 rfl ?_
    obtain ⟨hk2, K⟩ := K
    have K := K _ rfl
    refine r_getr' (pc := 247) (T := TX24) 24 54 rfl hk2 (Or.inl q2752) dX24_due_247 kc24 g24054 ?_
    refine r_bipush (pc := 250) (x := 8) dX24_due_250 rfl ?_
    obtain ⟨hk4, K⟩ := K
    obtain ⟨hi5, K⟩ := K
    refine r_iaload (pc := 252) hk4 hi5 dX24_due_252 ?_
    refine r_if_ne (pc := 253) (tgt := 270) dX24_due_253 rfl (fun c6 => ?_) (fun c6 => ?_)
    · have K := K.1 c6
      refine r_aload_n (pc := 270) dX24_due_270 rfl ?_
      have K := K _ rfl
      refine r_getr' (pc := 271) (T := TX24) 24 42 rfl hk2 (Or.inl q2740) dX24_due_271 kc24 g24042 ?_
      refine r_aload_n (pc := 274) dX24_due_274 rfl ?_
      have K := K _ rfl
      refine r_getr' (pc := 275) (T := TX24) 24 43 rfl hk2 (Or.inl q2741) dX24_due_275 kc24 g24043 ?_
      refine r_callS_V (pc := 278) (Y := mX27_copy) (vs := [_, _]) (st := []) q2275 q2206 q195 dX24_due_278 rfl cd_X27_copy rfl rfl fp_X24_due_X27_copy K (fun h10 eh10 wh10 K => ?_) (fun x h1 _ _ e => Tw.out rfl e)
      refine r_aload_n (pc := 281) dX24_due_281 rfl ?_
      have hk11 := kd_ext eh10 hk2 (nz rfl)
      have hv12 := fr_self (key := 24043) hk2
      have hv13 := (fr_ext (key := 24043) eh10 hk2 (nz rfl) (ne0 wh10 hk11 (nz rfl)) (nm rfl)).trans hv12
      refine r_getr' (pc := 282) (T := TX24) 24 43 hv13 hk11 (Or.inl q2741) dX24_due_282 kc24 g24043 ?_
      refine r_callS_I (pc := 285) (Y := mX24_bits) (vs := [_]) (st := []) q2366 q2367 q192 dX24_due_285 rfl cd_X24_bits rfl rfl fp_X24_due_X24_bits K (fun x14 h15 eh15 wh15 K => ?_) (fun x h1 _ _ e => Tw.out rfl e)
      exact r_iret (pc := 288) rfl rfl dX24_due_288 K
    · have K := K.2 c6
      refine r_aload_n (pc := 256) dX24_due_256 rfl ?_
      have K := K _ rfl
      refine r_getr' (pc := 257) (T := TX24) 24 43 rfl hk2 (Or.inl q2741) dX24_due_257 kc24 g24043 ?_
      refine r_aload_n (pc := 260) dX24_due_260 rfl ?_
      have K := K _ rfl
      refine r_getr' (pc := 261) (T := TX24) 24 42 rfl hk2 (Or.inl q2740) dX24_due_261 kc24 g24042 ?_
      refine r_callS_I (pc := 264) (Y := mX27_compare) (vs := [_, _]) (st := []) q2365 q2200 q195 dX24_due_264 rfl cd_X27_compare rfl rfl fp_X24_due_X27_compare K (fun x18 h19 eh19 wh19 K => ?_) (fun x h1 _ _ e => Tw.out rfl e)
      refine r_if_le (pc := 267) (tgt := 281) dX24_due_267 rfl (fun c20 => ?_) (fun c20 => ?_)
      · have K := K.1 c20
        refine r_aload_n (pc := 281) dX24_due_281 rfl ?_
        have hk21 := kd_ext eh19 hk2 (nz rfl)
        have hv22 := fr_self (key := 24043) hk2
        have hv23 := (fr_ext (key := 24043) eh19 hk2 (nz rfl) (ne0 wh19 hk21 (nz rfl)) (nm rfl)).trans hv22
        refine r_getr' (pc := 282) (T := TX24) 24 43 hv23 hk21 (Or.inl q2741) dX24_due_282 kc24 g24043 ?_
        refine r_callS_I (pc := 285) (Y := mX24_bits) (vs := [_]) (st := []) q2366 q2367 q192 dX24_due_285 rfl cd_X24_bits rfl rfl fp_X24_due_X24_bits K (fun x24 h25 eh25 wh25 K => ?_) (fun x h1 _ _ e => Tw.out rfl e)
        exact r_iret (pc := 288) rfl rfl dX24_due_288 K
      · have K := K.2 c20
        refine r_aload_n (pc := 270) dX24_due_270 rfl ?_
        have hk26 := kd_ext eh19 hk2 (nz rfl)
        have hv27 := fr_self (key := 24042) hk2
        have hv28 := (fr_ext (key := 24042) eh19 hk2 (nz rfl) (ne0 wh19 hk26 (nz rfl)) (nm rfl)).trans hv27
        refine r_getr' (pc := 271) (T := TX24) 24 42 hv28 hk26 (Or.inl q2740) dX24_due_271 kc24 g24042 ?_
        refine r_aload_n (pc := 274) dX24_due_274 rfl ?_
        have hv29 := fr_self (key := 24043) hk2
        have hv30 := (fr_ext (key := 24043) eh19 hk2 (nz rfl) (ne0 wh19 hk26 (nz rfl)) (nm rfl)).trans hv29
        refine r_getr' (pc := 275) (T := TX24) 24 43 hv30 hk26 (Or.inl q2741) dX24_due_275 kc24 g24043 ?_
        refine r_callS_V (pc := 278) (Y := mX27_copy) (vs := [_, _]) (st := []) q2275 q2206 q195 dX24_due_278 rfl cd_X27_copy rfl rfl fp_X24_due_X27_copy K (fun h32 eh32 wh32 K => ?_) (fun x h1 _ _ e => Tw.out rfl e)
        refine r_aload_n (pc := 281) dX24_due_281 rfl ?_
        have hk33 := kd_ext eh32 hk26 (nz rfl)
        have hv34 := (fr_ext (key := 24043) eh32 hk26 (nz rfl) (ne0 wh32 hk33 (nz rfl)) (nm rfl)).trans hv30
        refine r_getr' (pc := 282) (T := TX24) 24 43 hv34 hk33 (Or.inl q2741) dX24_due_282 kc24 g24043 ?_
        refine r_callS_I (pc := 285) (Y := mX24_bits) (vs := [_]) (st := []) q2366 q2367 q192 dX24_due_285 rfl cd_X24_bits rfl rfl fp_X24_due_X24_bits K (fun x35 h36 eh36 wh36 K => ?_) (fun x h1 _ _ e => Tw.out rfl e)
        exact r_iret (pc := 288) rfl rfl dX24_due_288 K
  · have K := K.2 c1
    refine r_aload_n (pc := 226) dX24_due_226 rfl ?_
    obtain ⟨hk37, K⟩ := K
    have K := K _ rfl
    refine r_getr' (pc := 227) (T := TX24) 24 43 rfl hk37 (Or.inl q2741) dX24_due_227 kc24 g24043 ?_
    refine r_iload (pc := 230) dX24_due_230 rfl ?_
    refine r_aload_n (pc := 232) dX24_due_232 rfl ?_
    have K := K _ rfl
    refine r_getr' (pc := 233) (T := TX24) 24 54 rfl hk37 (Or.inl q2752) dX24_due_233 kc24 g24054 ?_
    refine r_iload (pc := 236) dX24_due_236 rfl ?_
    obtain ⟨hk40, K⟩ := K
    obtain ⟨hi41, K⟩ := K
    refine r_iaload (pc := 238) hk40 hi41 dX24_due_238 ?_
    obtain ⟨hk42, K⟩ := K
    obtain ⟨hi43, K⟩ := K
    refine r_iastore (pc := 239) hk42 hi43 (Or.inl (em rfl)) dX24_due_239 ?_
    refine r_nameH (fun h44 eh44 => ?_)
    have K := K h44 eh44
    refine r_iinc (pc := 240) (lv' := [_, _, _, _, _, _, _, _, _, _, _]) dX24_due_240 rfl rfl (by decide) rfl ?_
    refine r_goto (pc := 243) (tgt := 219) dX24_due_243 rfl ?_
    refine r_mask (pc := 219) [true, false, false, false, false, false, false, false, false, false, true] rfl ?_
    exact K
theorem dX24_fromBytes_0 : decode cX24_fromBytes 0 = .ok (.iconst 0, 1) := by decide +kernel
theorem dX24_fromBytes_1 : decode cX24_fromBytes 1 = .ok (.istore 4, 2) := by decide +kernel
theorem dX24_fromBytes_3 : decode cX24_fromBytes 3 = .ok (.iload 4, 2) := by decide +kernel
theorem dX24_fromBytes_5 : decode cX24_fromBytes 5 = .ok (.bipush 8, 2) := by decide +kernel
theorem dX24_fromBytes_7 : decode cX24_fromBytes 7 = .ok (.if_icmp .ge 72, 3) := by decide +kernel
theorem dX24_fromBytes_10 : decode cX24_fromBytes 10 = .ok (.iconst 0, 1) := by decide +kernel
theorem dX24_fromBytes_11 : decode cX24_fromBytes 11 = .ok (.istore 5, 2) := by decide +kernel
theorem dX24_fromBytes_13 : decode cX24_fromBytes 13 = .ok (.iconst 3, 1) := by decide +kernel
theorem dX24_fromBytes_14 : decode cX24_fromBytes 14 = .ok (.istore 6, 2) := by decide +kernel
theorem dX24_fromBytes_16 : decode cX24_fromBytes 16 = .ok (.iload 6, 2) := by decide +kernel
theorem dX24_fromBytes_18 : decode cX24_fromBytes 18 = .ok (.ifCond .lt 49, 3) := by decide +kernel
theorem dX24_fromBytes_21 : decode cX24_fromBytes 21 = .ok (.iload 5, 2) := by decide +kernel
theorem dX24_fromBytes_23 : decode cX24_fromBytes 23 = .ok (.bipush 8, 2) := by decide +kernel
theorem dX24_fromBytes_25 : decode cX24_fromBytes 25 = .ok (.ishl, 1) := by decide +kernel
theorem dX24_fromBytes_26 : decode cX24_fromBytes 26 = .ok (.aload_n 0, 1) := by decide +kernel
theorem dX24_fromBytes_27 : decode cX24_fromBytes 27 = .ok (.iload_n 1, 1) := by decide +kernel
theorem dX24_fromBytes_28 : decode cX24_fromBytes 28 = .ok (.iload_n 2, 1) := by decide +kernel
theorem dX24_fromBytes_29 : decode cX24_fromBytes 29 = .ok (.ifCond .eq 16, 3) := by decide +kernel
theorem dX24_fromBytes_32 : decode cX24_fromBytes 32 = .ok (.bipush 31, 2) := by decide +kernel
theorem dX24_fromBytes_34 : decode cX24_fromBytes 34 = .ok (.iconst 4, 1) := by decide +kernel
theorem dX24_fromBytes_35 : decode cX24_fromBytes 35 = .ok (.iload 4, 2) := by decide +kernel
theorem dX24_fromBytes_37 : decode cX24_fromBytes 37 = .ok (.imul, 1) := by decide +kernel
theorem dX24_fromBytes_38 : decode cX24_fromBytes 38 = .ok (.isub, 1) := by decide +kernel
theorem dX24_fromBytes_39 : decode cX24_fromBytes 39 = .ok (.iload 6, 2) := by decide +kernel
theorem dX24_fromBytes_41 : decode cX24_fromBytes 41 = .ok (.isub, 1) := by decide +kernel
theorem dX24_fromBytes_42 : decode cX24_fromBytes 42 = .ok (.goto 10, 3) := by decide +kernel
theorem dX24_fromBytes_45 : decode cX24_fromBytes 45 = .ok (.iconst 4, 1) := by decide +kernel
theorem dX24_fromBytes_46 : decode cX24_fromBytes 46 = .ok (.iload 4, 2) := by decide +kernel
theorem dX24_fromBytes_48 : decode cX24_fromBytes 48 = .ok (.imul, 1) := by decide +kernel
theorem dX24_fromBytes_49 : decode cX24_fromBytes 49 = .ok (.iload 6, 2) := by decide +kernel
theorem dX24_fromBytes_51 : decode cX24_fromBytes 51 = .ok (.iadd, 1) := by decide +kernel
theorem dX24_fromBytes_52 : decode cX24_fromBytes 52 = .ok (.iadd, 1) := by decide +kernel
theorem dX24_fromBytes_53 : decode cX24_fromBytes 53 = .ok (.baload, 1) := by decide +kernel
theorem dX24_fromBytes_54 : decode cX24_fromBytes 54 = .ok (.sipush 255, 3) := by decide +kernel
theorem dX24_fromBytes_57 : decode cX24_fromBytes 57 = .ok (.iand, 1) := by decide +kernel
theorem dX24_fromBytes_58 : decode cX24_fromBytes 58 = .ok (.ior, 1) := by decide +kernel
theorem dX24_fromBytes_59 : decode cX24_fromBytes 59 = .ok (.istore 5, 2) := by decide +kernel
theorem dX24_fromBytes_61 : decode cX24_fromBytes 61 = .ok (.iinc 6 (-1), 3) := by decide +kernel
theorem dX24_fromBytes_64 : decode cX24_fromBytes 64 = .ok (.goto (-48), 3) := by decide +kernel
theorem dX24_fromBytes_67 : decode cX24_fromBytes 67 = .ok (.aload_n 3, 1) := by decide +kernel
theorem dX24_fromBytes_68 : decode cX24_fromBytes 68 = .ok (.iload 4, 2) := by decide +kernel
theorem dX24_fromBytes_70 : decode cX24_fromBytes 70 = .ok (.iload 5, 2) := by decide +kernel
theorem dX24_fromBytes_72 : decode cX24_fromBytes 72 = .ok (.iastore, 1) := by decide +kernel
theorem dX24_fromBytes_73 : decode cX24_fromBytes 73 = .ok (.iinc 4 1, 3) := by decide +kernel
theorem dX24_fromBytes_76 : decode cX24_fromBytes 76 = .ok (.goto (-73), 3) := by decide +kernel
theorem dX24_fromBytes_79 : decode cX24_fromBytes 79 = .ok (.return_, 1) := by decide +kernel
/-! CoinJudgeModel.fromBytes([BIZ[I)V -/
set_option maxHeartbeats 4000000 in
theorem sX24_fromBytes_0 {G : Gx} {d t : Nat} {h0 : AH} {Φ : Out → AH → Prop} (h : AH) (v0 : Nat) (v1 : Int32) (v2 : Int32) (v3 : Nat) (K : Aw G mX24_fromBytes (d + 1) t h0 Φ 3 [vR v0, vI v1, vI v2, vR v3, vI 0, vU, vU] [] h) : Aw G mX24_fromBytes (d + 1) t h0 Φ 0 [vR v0, vI v1, vI v2, vR v3, vU, vU, vU] [] h := by
  refine r_iconst (pc := 0) (x := 0) dX24_fromBytes_0 rfl ?_
  refine r_istore (pc := 1) (lv' := [_, _, _, _, _, _, _]) dX24_fromBytes_1 (by decide) rfl ?_
  refine r_mask (pc := 3) [true, true, true, true, true, false, false] rfl ?_
  exact K
theorem eX24_fromBytes {G : Gx} {d : Nat} {Φ : Out → AH → Prop} (h : AH) (v0 : Nat) (v1 : Int32) (v2 : Int32) (v3 : Nat) (K : WF G h → Aw G mX24_fromBytes (d + 1) 0 h Φ 0 [vR v0, vI v1, vI v2, vR v3, vU, vU, vU] [] h) : Cw G mX24_fromBytes (d + 1) 0 [vR v0, vI v1, vI v2, vR v3] h Φ := Cw.of rfl K
set_option maxHeartbeats 4000000 in
theorem sX24_fromBytes_3 {G : Gx} {d t : Nat} {h0 : AH} {Φ : Out → AH → Prop} (h : AH) (v0 : Nat) (v1 : Int32) (v2 : Int32) (v3 : Nat) (v4 : Int32) (K : ((8 ≤ v4 → Φ (.inl none) h) ∧ (¬ 8 ≤ v4 → Aw G mX24_fromBytes (d + 1) t h0 Φ 16 [vR v0, vI v1, vI v2, vR v3, vI v4, vI 0, vI 3] [] h))) : Aw G mX24_fromBytes (d + 1) t h0 Φ 3 [vR v0, vI v1, vI v2, vR v3, vI v4, vU, vU] [] h := by
  refine r_iload (pc := 3) dX24_fromBytes_3 rfl ?_
  refine r_bipush (pc := 5) (x := 8) dX24_fromBytes_5 rfl ?_
  refine r_icmp_ge (pc := 7) (tgt := 79) dX24_fromBytes_7 rfl (fun c1 => ?_) (fun c1 => ?_)
  · have K := K.1 c1
    exact r_vret (pc := 79) rfl dX24_fromBytes_79 K
  · have K := K.2 c1
    refine r_iconst (pc := 10) (x := 0) dX24_fromBytes_10 rfl ?_
    refine r_istore (pc := 11) (lv' := [_, _, _, _, _, _, _]) dX24_fromBytes_11 (by decide) rfl ?_
    refine r_iconst (pc := 13) (x := 3) dX24_fromBytes_13 rfl ?_
    refine r_istore (pc := 14) (lv' := [_, _, _, _, _, _, _]) dX24_fromBytes_14 (by decide) rfl ?_
    refine r_mask (pc := 16) [true, true, true, true, true, true, true] rfl ?_
    exact K
set_option maxHeartbeats 4000000 in
theorem sX24_fromBytes_16 {G : Gx} {d t : Nat} {h0 : AH} {Φ : Out → AH → Prop} (h : AH) (v0 : Nat) (v1 : Int32) (v2 : Int32) (v3 : Nat) (v4 : Int32) (v5 : Int32) (v6 : Int32) (K : ((v6 < 0 → h.kd v3 = 100 ∧ vp_in v4 (h.ai v3).length ∧ ∀ h4 : AH, h4 = h.wi v3 ((h.ai v3).set (v4.toNatClampNeg) v5) → Aw G mX24_fromBytes (d + 1) t h0 Φ 3 [vR v0, vI v1, vI v2, vR v3, vI (v4 + 1), vU, vU] [] h4) ∧ (¬ v6 < 0 → ((v2 = 0 → h.kd v0 = 101 ∧ vp_in (v1 + ((4 * v4) + v6)) (h.ai v0).length ∧ ∀ u8 : Int32, u8 = ((jshl v5 8) ||| (((h.ai v0).getD ((v1 + ((4 * v4) + v6)).toNatClampNeg) 0) &&& 255)) → Aw G mX24_fromBytes (d + 1) t h0 Φ 16 [vR v0, vI v1, vI v2, vR v3, vI v4, vI u8, vI (v6 + (-1))] [] h) ∧ (¬ v2 = 0 → h.kd v0 = 101 ∧ vp_in (v1 + ((31 - (4 * v4)) - v6)) (h.ai v0).length ∧ ∀ u11 : Int32, u11 = ((jshl v5 8) ||| (((h.ai v0).getD ((v1 + ((31 - (4 * v4)) - v6)).toNatClampNeg) 0) &&& 255)) → Aw G mX24_fromBytes (d + 1) t h0 Φ 16 [vR v0, vI v1, vI v2, vR v3, vI v4, vI u11, vI (v6 + (-1))] [] h))))) : Aw G mX24_fromBytes (d + 1) t h0 Φ 16 [vR v0, vI v1, vI v2, vR v3, vI v4, vI v5, vI v6] [] h := by
  refine r_iload (pc := 16) dX24_fromBytes_16 rfl ?_
  refine r_if_lt (pc := 18) (tgt := 67) dX24_fromBytes_18 rfl (fun c1 => ?_) (fun c1 => ?_)
  · have K := K.1 c1
    refine r_aload_n (pc := 67) dX24_fromBytes_67 rfl ?_
    refine r_iload (pc := 68) dX24_fromBytes_68 rfl ?_
    refine r_iload (pc := 70) dX24_fromBytes_70 rfl ?_
    obtain ⟨hk2, K⟩ := K
    obtain ⟨hi3, K⟩ := K
    refine r_iastore (pc := 72) hk2 hi3 (Or.inl (em rfl)) dX24_fromBytes_72 ?_
    refine r_nameH (fun h4 eh4 => ?_)
    have K := K h4 eh4
    refine r_iinc (pc := 73) (lv' := [_, _, _, _, _, _, _]) dX24_fromBytes_73 rfl rfl (by decide) rfl ?_
    refine r_goto (pc := 76) (tgt := 3) dX24_fromBytes_76 rfl ?_
    refine r_mask (pc := 3) [true, true, true, true, true, false, false] rfl ?_
    exact K
  · have K := K.2 c1
    refine r_iload (pc := 21) dX24_fromBytes_21 rfl ?_
    refine r_bipush (pc := 23) (x := 8) dX24_fromBytes_23 rfl ?_
    refine r_jshl (pc := 25) dX24_fromBytes_25 ?_
    refine r_aload_n (pc := 26) dX24_fromBytes_26 rfl ?_
    refine r_iload_n (pc := 27) dX24_fromBytes_27 rfl ?_
    refine r_iload_n (pc := 28) dX24_fromBytes_28 rfl ?_
    refine r_if_eq (pc := 29) (tgt := 45) dX24_fromBytes_29 rfl (fun c5 => ?_) (fun c5 => ?_)
    · have K := K.1 c5
      refine r_iconst (pc := 45) (x := 4) dX24_fromBytes_45 rfl ?_
      refine r_iload (pc := 46) dX24_fromBytes_46 rfl ?_
      refine r_imul (pc := 48) dX24_fromBytes_48 ?_
      refine r_iload (pc := 49) dX24_fromBytes_49 rfl ?_
      refine r_iadd (pc := 51) dX24_fromBytes_51 ?_
      refine r_iadd (pc := 52) dX24_fromBytes_52 ?_
      obtain ⟨hk6, K⟩ := K
      obtain ⟨hi7, K⟩ := K
      refine r_baload (pc := 53) hk6 hi7 dX24_fromBytes_53 ?_
      refine r_sipush (pc := 54) (x := 255) dX24_fromBytes_54 rfl ?_
      refine r_iand (pc := 57) dX24_fromBytes_57 ?_
      refine r_ior (pc := 58) dX24_fromBytes_58 ?_
      have K := K _ rfl
      refine r_istore (pc := 59) (lv' := [_, _, _, _, _, _, _]) dX24_fromBytes_59 (by decide) rfl ?_
      refine r_iinc (pc := 61) (lv' := [_, _, _, _, _, _, _]) dX24_fromBytes_61 rfl rfl (by decide) rfl ?_
      refine r_goto (pc := 64) (tgt := 16) dX24_fromBytes_64 rfl ?_
      refine r_mask (pc := 16) [true, true, true, true, true, true, true] rfl ?_
      exact K
    · have K := K.2 c5
      refine r_bipush (pc := 32) (x := 31) dX24_fromBytes_32 rfl ?_
      refine r_iconst (pc := 34) (x := 4) dX24_fromBytes_34 rfl ?_
      refine r_iload (pc := 35) dX24_fromBytes_35 rfl ?_
      refine r_imul (pc := 37) dX24_fromBytes_37 ?_
      refine r_isub (pc := 38) dX24_fromBytes_38 ?_
      refine r_iload (pc := 39) dX24_fromBytes_39 rfl ?_
      refine r_isub (pc := 41) dX24_fromBytes_41 ?_
      refine r_goto (pc := 42) (tgt := 52) dX24_fromBytes_42 rfl ?_
      refine r_iadd (pc := 52) dX24_fromBytes_52 ?_
      obtain ⟨hk9, K⟩ := K
      obtain ⟨hi10, K⟩ := K
      refine r_baload (pc := 53) hk9 hi10 dX24_fromBytes_53 ?_
      refine r_sipush (pc := 54) (x := 255) dX24_fromBytes_54 rfl ?_
      refine r_iand (pc := 57) dX24_fromBytes_57 ?_
      refine r_ior (pc := 58) dX24_fromBytes_58 ?_
      have K := K _ rfl
      refine r_istore (pc := 59) (lv' := [_, _, _, _, _, _, _]) dX24_fromBytes_59 (by decide) rfl ?_
      refine r_iinc (pc := 61) (lv' := [_, _, _, _, _, _, _]) dX24_fromBytes_61 rfl rfl (by decide) rfl ?_
      refine r_goto (pc := 64) (tgt := 16) dX24_fromBytes_64 rfl ?_
      refine r_mask (pc := 16) [true, true, true, true, true, true, true] rfl ?_
      exact K
theorem dX24_root_0 : decode cX24_root 0 = .ok (.iconst 0, 1) := by decide +kernel
theorem dX24_root_1 : decode cX24_root 1 = .ok (.istore_n 3, 1) := by decide +kernel
theorem dX24_root_2 : decode cX24_root 2 = .ok (.iload_n 3, 1) := by decide +kernel
theorem dX24_root_3 : decode cX24_root 3 = .ok (.bipush 32, 2) := by decide +kernel
theorem dX24_root_5 : decode cX24_root 5 = .ok (.if_icmp .ge 16, 3) := by decide +kernel
theorem dX24_root_8 : decode cX24_root 8 = .ok (.aload_n 0, 1) := by decide +kernel
theorem dX24_root_9 : decode cX24_root 9 = .ok (.getfield 394, 3) := by decide +kernel
theorem dX24_root_12 : decode cX24_root 12 = .ok (.iload_n 3, 1) := by decide +kernel
theorem dX24_root_13 : decode cX24_root 13 = .ok (.iconst 0, 1) := by decide +kernel
theorem dX24_root_14 : decode cX24_root 14 = .ok (.bastore, 1) := by decide +kernel
theorem dX24_root_15 : decode cX24_root 15 = .ok (.iinc 3 1, 3) := by decide +kernel
theorem dX24_root_18 : decode cX24_root 18 = .ok (.goto (-16), 3) := by decide +kernel
theorem dX24_root_21 : decode cX24_root 21 = .ok (.iload_n 2, 1) := by decide +kernel
theorem dX24_root_22 : decode cX24_root 22 = .ok (.ifCond .ne 4, 3) := by decide +kernel
theorem dX24_root_25 : decode cX24_root 25 = .ok (.return_, 1) := by decide +kernel
theorem dX24_root_26 : decode cX24_root 26 = .ok (.iconst 0, 1) := by decide +kernel
theorem dX24_root_27 : decode cX24_root 27 = .ok (.istore_n 3, 1) := by decide +kernel
theorem dX24_root_28 : decode cX24_root 28 = .ok (.iload_n 3, 1) := by decide +kernel
theorem dX24_root_29 : decode cX24_root 29 = .ok (.bipush 32, 2) := by decide +kernel
theorem dX24_root_31 : decode cX24_root 31 = .ok (.iload_n 2, 1) := by decide +kernel
theorem dX24_root_32 : decode cX24_root 32 = .ok (.imul, 1) := by decide +kernel
theorem dX24_root_33 : decode cX24_root 33 = .ok (.if_icmp .ge 18, 3) := by decide +kernel
theorem dX24_root_36 : decode cX24_root 36 = .ok (.aload_n 0, 1) := by decide +kernel
theorem dX24_root_37 : decode cX24_root 37 = .ok (.getfield 397, 3) := by decide +kernel
theorem dX24_root_40 : decode cX24_root 40 = .ok (.iload_n 3, 1) := by decide +kernel
theorem dX24_root_41 : decode cX24_root 41 = .ok (.aload_n 1, 1) := by decide +kernel
theorem dX24_root_42 : decode cX24_root 42 = .ok (.iload_n 3, 1) := by decide +kernel
theorem dX24_root_43 : decode cX24_root 43 = .ok (.baload, 1) := by decide +kernel
theorem dX24_root_44 : decode cX24_root 44 = .ok (.bastore, 1) := by decide +kernel
theorem dX24_root_45 : decode cX24_root 45 = .ok (.iinc 3 1, 3) := by decide +kernel
theorem dX24_root_48 : decode cX24_root 48 = .ok (.goto (-20), 3) := by decide +kernel
theorem dX24_root_51 : decode cX24_root 51 = .ok (.iload_n 2, 1) := by decide +kernel
theorem dX24_root_52 : decode cX24_root 52 = .ok (.istore_n 3, 1) := by decide +kernel
theorem dX24_root_53 : decode cX24_root 53 = .ok (.iload_n 3, 1) := by decide +kernel
theorem dX24_root_54 : decode cX24_root 54 = .ok (.iconst 1, 1) := by decide +kernel
theorem dX24_root_55 : decode cX24_root 55 = .ok (.if_icmp .le 136, 3) := by decide +kernel
theorem dX24_root_58 : decode cX24_root 58 = .ok (.iload_n 3, 1) := by decide +kernel
theorem dX24_root_59 : decode cX24_root 59 = .ok (.iconst 2, 1) := by decide +kernel
theorem dX24_root_60 : decode cX24_root 60 = .ok (.irem, 1) := by decide +kernel
theorem dX24_root_61 : decode cX24_root 61 = .ok (.iconst 1, 1) := by decide +kernel
theorem dX24_root_62 : decode cX24_root 62 = .ok (.if_icmp .ne 49, 3) := by decide +kernel
theorem dX24_root_65 : decode cX24_root 65 = .ok (.iconst 0, 1) := by decide +kernel
theorem dX24_root_66 : decode cX24_root 66 = .ok (.istore 4, 2) := by decide +kernel
theorem dX24_root_68 : decode cX24_root 68 = .ok (.iload 4, 2) := by decide +kernel
theorem dX24_root_70 : decode cX24_root 70 = .ok (.bipush 32, 2) := by decide +kernel
theorem dX24_root_72 : decode cX24_root 72 = .ok (.if_icmp .ge 36, 3) := by decide +kernel
theorem dX24_root_75 : decode cX24_root 75 = .ok (.aload_n 0, 1) := by decide +kernel
theorem dX24_root_76 : decode cX24_root 76 = .ok (.getfield 397, 3) := by decide +kernel
theorem dX24_root_79 : decode cX24_root 79 = .ok (.bipush 32, 2) := by decide +kernel
theorem dX24_root_81 : decode cX24_root 81 = .ok (.iload_n 3, 1) := by decide +kernel
theorem dX24_root_82 : decode cX24_root 82 = .ok (.imul, 1) := by decide +kernel
theorem dX24_root_83 : decode cX24_root 83 = .ok (.iload 4, 2) := by decide +kernel
theorem dX24_root_85 : decode cX24_root 85 = .ok (.iadd, 1) := by decide +kernel
theorem dX24_root_86 : decode cX24_root 86 = .ok (.aload_n 0, 1) := by decide +kernel
theorem dX24_root_87 : decode cX24_root 87 = .ok (.getfield 397, 3) := by decide +kernel
theorem dX24_root_90 : decode cX24_root 90 = .ok (.bipush 32, 2) := by decide +kernel
theorem dX24_root_92 : decode cX24_root 92 = .ok (.iload_n 3, 1) := by decide +kernel
theorem dX24_root_93 : decode cX24_root 93 = .ok (.imul, 1) := by decide +kernel
theorem dX24_root_94 : decode cX24_root 94 = .ok (.bipush 32, 2) := by decide +kernel
theorem dX24_root_96 : decode cX24_root 96 = .ok (.isub, 1) := by decide +kernel
theorem dX24_root_97 : decode cX24_root 97 = .ok (.iload 4, 2) := by decide +kernel
theorem dX24_root_99 : decode cX24_root 99 = .ok (.iadd, 1) := by decide +kernel
theorem dX24_root_100 : decode cX24_root 100 = .ok (.baload, 1) := by decide +kernel
theorem dX24_root_101 : decode cX24_root 101 = .ok (.bastore, 1) := by decide +kernel
theorem dX24_root_102 : decode cX24_root 102 = .ok (.iinc 4 1, 3) := by decide +kernel
theorem dX24_root_105 : decode cX24_root 105 = .ok (.goto (-37), 3) := by decide +kernel
theorem dX24_root_108 : decode cX24_root 108 = .ok (.iinc 3 1, 3) := by decide +kernel
theorem dX24_root_111 : decode cX24_root 111 = .ok (.iconst 0, 1) := by decide +kernel
theorem dX24_root_112 : decode cX24_root 112 = .ok (.istore 4, 2) := by decide +kernel
theorem dX24_root_114 : decode cX24_root 114 = .ok (.iload 4, 2) := by decide +kernel
theorem dX24_root_116 : decode cX24_root 116 = .ok (.iload_n 3, 1) := by decide +kernel
theorem dX24_root_117 : decode cX24_root 117 = .ok (.iconst 2, 1) := by decide +kernel
theorem dX24_root_118 : decode cX24_root 118 = .ok (.idiv, 1) := by decide +kernel
theorem dX24_root_119 : decode cX24_root 119 = .ok (.if_icmp .ge 65, 3) := by decide +kernel
theorem dX24_root_122 : decode cX24_root 122 = .ok (.iconst 0, 1) := by decide +kernel
theorem dX24_root_123 : decode cX24_root 123 = .ok (.istore 5, 2) := by decide +kernel
theorem dX24_root_125 : decode cX24_root 125 = .ok (.iload 5, 2) := by decide +kernel
theorem dX24_root_127 : decode cX24_root 127 = .ok (.bipush 64, 2) := by decide +kernel
theorem dX24_root_129 : decode cX24_root 129 = .ok (.if_icmp .ge 29, 3) := by decide +kernel
theorem dX24_root_132 : decode cX24_root 132 = .ok (.aload_n 0, 1) := by decide +kernel
theorem dX24_root_133 : decode cX24_root 133 = .ok (.getfield 400, 3) := by decide +kernel
theorem dX24_root_136 : decode cX24_root 136 = .ok (.iload 5, 2) := by decide +kernel
theorem dX24_root_138 : decode cX24_root 138 = .ok (.aload_n 0, 1) := by decide +kernel
theorem dX24_root_139 : decode cX24_root 139 = .ok (.getfield 397, 3) := by decide +kernel
theorem dX24_root_142 : decode cX24_root 142 = .ok (.bipush 64, 2) := by decide +kernel
theorem dX24_root_144 : decode cX24_root 144 = .ok (.iload 4, 2) := by decide +kernel
theorem dX24_root_146 : decode cX24_root 146 = .ok (.imul, 1) := by decide +kernel
theorem dX24_root_147 : decode cX24_root 147 = .ok (.iload 5, 2) := by decide +kernel
theorem dX24_root_149 : decode cX24_root 149 = .ok (.iadd, 1) := by decide +kernel
theorem dX24_root_150 : decode cX24_root 150 = .ok (.baload, 1) := by decide +kernel
theorem dX24_root_151 : decode cX24_root 151 = .ok (.bastore, 1) := by decide +kernel
theorem dX24_root_152 : decode cX24_root 152 = .ok (.iinc 5 1, 3) := by decide +kernel
theorem dX24_root_155 : decode cX24_root 155 = .ok (.goto (-30), 3) := by decide +kernel
theorem dX24_root_158 : decode cX24_root 158 = .ok (.aload_n 0, 1) := by decide +kernel
theorem dX24_root_159 : decode cX24_root 159 = .ok (.aload_n 0, 1) := by decide +kernel
theorem dX24_root_160 : decode cX24_root 160 = .ok (.getfield 400, 3) := by decide +kernel
theorem dX24_root_163 : decode cX24_root 163 = .ok (.iconst 0, 1) := by decide +kernel
theorem dX24_root_164 : decode cX24_root 164 = .ok (.bipush 64, 2) := by decide +kernel
theorem dX24_root_166 : decode cX24_root 166 = .ok (.aload_n 0, 1) := by decide +kernel
theorem dX24_root_167 : decode cX24_root 167 = .ok (.getfield 397, 3) := by decide +kernel
theorem dX24_root_170 : decode cX24_root 170 = .ok (.bipush 32, 2) := by decide +kernel
theorem dX24_root_172 : decode cX24_root 172 = .ok (.iload 4, 2) := by decide +kernel
theorem dX24_root_174 : decode cX24_root 174 = .ok (.imul, 1) := by decide +kernel
theorem dX24_root_175 : decode cX24_root 175 = .ok (.invokevirtual 319, 3) := by decide +kernel
theorem dX24_root_178 : decode cX24_root 178 = .ok (.iinc 4 1, 3) := by decide +kernel
theorem dX24_root_181 : decode cX24_root 181 = .ok (.goto (-67), 3) := by decide +kernel
theorem dX24_root_184 : decode cX24_root 184 = .ok (.iload_n 3, 1) := by decide +kernel
theorem dX24_root_185 : decode cX24_root 185 = .ok (.iconst 2, 1) := by decide +kernel
theorem dX24_root_186 : decode cX24_root 186 = .ok (.idiv, 1) := by decide +kernel
theorem dX24_root_187 : decode cX24_root 187 = .ok (.istore_n 3, 1) := by decide +kernel
theorem dX24_root_188 : decode cX24_root 188 = .ok (.goto (-135), 3) := by decide +kernel
theorem dX24_root_191 : decode cX24_root 191 = .ok (.iconst 0, 1) := by decide +kernel
theorem dX24_root_192 : decode cX24_root 192 = .ok (.istore 4, 2) := by decide +kernel
theorem dX24_root_194 : decode cX24_root 194 = .ok (.iload 4, 2) := by decide +kernel
theorem dX24_root_196 : decode cX24_root 196 = .ok (.bipush 32, 2) := by decide +kernel
theorem dX24_root_198 : decode cX24_root 198 = .ok (.if_icmp .ge 23, 3) := by decide +kernel
theorem dX24_root_201 : decode cX24_root 201 = .ok (.aload_n 0, 1) := by decide +kernel
theorem dX24_root_202 : decode cX24_root 202 = .ok (.getfield 394, 3) := by decide +kernel
theorem dX24_root_205 : decode cX24_root 205 = .ok (.iload 4, 2) := by decide +kernel
theorem dX24_root_207 : decode cX24_root 207 = .ok (.aload_n 0, 1) := by decide +kernel
theorem dX24_root_208 : decode cX24_root 208 = .ok (.getfield 397, 3) := by decide +kernel
theorem dX24_root_211 : decode cX24_root 211 = .ok (.iload 4, 2) := by decide +kernel
theorem dX24_root_213 : decode cX24_root 213 = .ok (.baload, 1) := by decide +kernel
theorem dX24_root_214 : decode cX24_root 214 = .ok (.bastore, 1) := by decide +kernel
theorem dX24_root_215 : decode cX24_root 215 = .ok (.iinc 4 1, 3) := by decide +kernel
theorem dX24_root_218 : decode cX24_root 218 = .ok (.goto (-24), 3) := by decide +kernel
theorem dX24_root_221 : decode cX24_root 221 = .ok (.return_, 1) := by decide +kernel
/-! CoinJudgeModel.root([BI)V -/
set_option maxHeartbeats 4000000 in
theorem sX24_root_0 {G : Gx} {d t : Nat} {h0 : AH} {Φ : Out → AH → Prop} (h : AH) (v0 : Nat) (v1 : Nat) (v2 : Int32) (K : Aw G mX24_root (d + 1) t h0 Φ 2 [vR v0, vR v1, vI v2, vI 0, vU, vU] [] h) : Aw G mX24_root (d + 1) t h0 Φ 0 [vR v0, vR v1, vI v2, vU, vU, vU] [] h := by
  refine r_iconst (pc := 0) (x := 0) dX24_root_0 rfl ?_
  refine r_istore_n (pc := 1) (lv' := [_, _, _, _, _, _]) dX24_root_1 (by decide) rfl ?_
  refine r_mask (pc := 2) [true, true, true, true, false, false] rfl ?_
  exact K
theorem eX24_root {G : Gx} {d : Nat} {Φ : Out → AH → Prop} (h : AH) (v0 : Nat) (v1 : Nat) (v2 : Int32) (K : WF G h → Aw G mX24_root (d + 1) 0 h Φ 0 [vR v0, vR v1, vI v2, vU, vU, vU] [] h) : Cw G mX24_root (d + 1) 0 [vR v0, vR v1, vI v2] h Φ := Cw.of rfl K
set_option maxHeartbeats 4000000 in
theorem sX24_root_2 {G : Gx} {d t : Nat} {h0 : AH} {Φ : Out → AH → Prop} (h : AH) (v0 : Nat) (v1 : Nat) (v2 : Int32) (v3 : Int32) (K : ((32 ≤ v3 → ((¬ v2 = 0 → Aw G mX24_root (d + 1) t h0 Φ 28 [vR v0, vR v1, vI v2, vI 0, vU, vU] [] h) ∧ (v2 = 0 → Φ (.inl none) h))) ∧ (¬ 32 ≤ v3 → h.kd v0 = 24 ∧ ∀ r4 : Nat, r4 = (h.r 24060 v0) → h.kd r4 = 101 ∧ vp_in v3 (h.ai r4).length ∧ ∀ h7 : AH, h7 = h.wi r4 ((h.ai r4).set (v3.toNatClampNeg) (i2b 0)) → Aw G mX24_root (d + 1) t h0 Φ 2 [vR v0, vR v1, vI v2, vI (v3 + 1), vU, vU] [] h7))) : Aw G mX24_root (d + 1) t h0 Φ 2 [vR v0, vR v1, vI v2, vI v3, vU, vU] [] h := by
  refine r_iload_n (pc := 2) dX24_root_2 rfl ?_
  refine r_bipush (pc := 3) (x := 32) dX24_root_3 rfl ?_
  refine r_icmp_ge (pc := 5) (tgt := 21) dX24_root_5 rfl (fun c1 => ?_) (fun c1 => ?_)
  · have K := K.1 c1
    refine r_iload_n (pc := 21) dX24_root_21 rfl ?_
    refine r_if_ne (pc := 22) (tgt := 26) dX24_root_22 rfl (fun c2 => ?_) (fun c2 => ?_)
    · have K := K.1 c2
      refine r_iconst (pc := 26) (x := 0) dX24_root_26 rfl ?_
      refine r_istore_n (pc := 27) (lv' := [_, _, _, _, _, _]) dX24_root_27 (by decide) rfl ?_
      refine r_mask (pc := 28) [true, true, true, true, false, false] rfl ?_
      exact K
    · have K := K.2 c2
      exact r_vret (pc := 25) rfl dX24_root_25 K
  · have K := K.2 c1
    refine r_aload_n (pc := 8) dX24_root_8 rfl ?_
    obtain ⟨hk3, K⟩ := K
    have K := K _ rfl
    refine r_getr' (pc := 9) (T := TX24) 24 60 rfl hk3 (Or.inl q2758) dX24_root_9 kc24 g24060 ?_
    refine r_iload_n (pc := 12) dX24_root_12 rfl ?_
    refine r_iconst (pc := 13) (x := 0) dX24_root_13 rfl ?_
    obtain ⟨hk5, K⟩ := K
    obtain ⟨hi6, K⟩ := K
    refine r_jbast (pc := 14) hk5 hi6 (Or.inl (em rfl)) dX24_root_14 ?_
    refine r_nameH (fun h7 eh7 => ?_)
    have K := K h7 eh7
    refine r_iinc (pc := 15) (lv' := [_, _, _, _, _, _]) dX24_root_15 rfl rfl (by decide) rfl ?_
    refine r_goto (pc := 18) (tgt := 2) dX24_root_18 rfl ?_
    refine r_mask (pc := 2) [true, true, true, true, false, false] rfl ?_
    exact K
set_option maxHeartbeats 4000000 in
theorem sX24_root_28 {G : Gx} {d t : Nat} {h0 : AH} {Φ : Out → AH → Prop} (h : AH) (v0 : Nat) (v1 : Nat) (v2 : Int32) (v3 : Int32) (K : (((32 * v2) ≤ v3 → Aw G mX24_root (d + 1) t h0 Φ 53 [vR v0, vU, vU, vI v2, vU, vU] [] h) ∧ (¬ (32 * v2) ≤ v3 → h.kd v0 = 24 ∧ ∀ r3 : Nat, r3 = (h.r 24058 v0) → h.kd v1 = 101 ∧ vp_in v3 (h.ai v1).length ∧ h.kd r3 = 101 ∧ vp_in v3 (h.ai r3).length ∧ ∀ h8 : AH, h8 = h.wi r3 ((h.ai r3).set (v3.toNatClampNeg) (i2b ((h.ai v1).getD (v3.toNatClampNeg) 0))) → Aw G mX24_root (d + 1) t h0 Φ 28 [vR v0, vR v1, vI v2, vI (v3 + 1), vU, vU] [] h8))) : Aw G mX24_root (d + 1) t h0 Φ 28 [vR v0, vR v1, vI v2, vI v3, vU, vU] [] h := by
  refine r_iload_n (pc := 28) dX24_root_28 rfl ?_
  refine r_bipush (pc := 29) (x := 32) dX24_root_29 rfl ?_
  refine r_iload_n (pc := 31) dX24_root_31 rfl ?_
  refine r_imul (pc := 32) dX24_root_32 ?_
  refine r_icmp_ge (pc := 33) (tgt := 51) dX24_root_33 rfl (fun c1 => ?_) (fun c1 => ?_)
  · have K := K.1 c1
    refine r_iload_n (pc := 51) dX24_root_51 rfl ?_
    refine r_istore_n (pc := 52) (lv' := [_, _, _, _, _, _]) dX24_root_52 (by decide) rfl ?_
    refine r_mask (pc := 53) [true, false, false, true, false, false] rfl ?_
    exact K
  · have K := K.2 c1
    refine r_aload_n (pc := 36) dX24_root_36 rfl ?_
    obtain ⟨hk2, K⟩ := K
    have K := K _ rfl
    refine r_getr' (pc := 37) (T := TX24) 24 58 rfl hk2 (Or.inl q2756) dX24_root_37 kc24 g24058 ?_
    refine r_iload_n (pc := 40) dX24_root_40 rfl ?_
    refine r_aload_n (pc := 41) dX24_root_41 rfl ?_
    refine r_iload_n (pc := 42) dX24_root_42 rfl ?_
    obtain ⟨hk4, K⟩ := K
    obtain ⟨hi5, K⟩ := K
    refine r_baload (pc := 43) hk4 hi5 dX24_root_43 ?_
    obtain ⟨hk6, K⟩ := K
    obtain ⟨hi7, K⟩ := K
    refine r_jbast (pc := 44) hk6 hi7 (Or.inl (em rfl)) dX24_root_44 ?_
    refine r_nameH (fun h8 eh8 => ?_)
    have K := K h8 eh8
    refine r_iinc (pc := 45) (lv' := [_, _, _, _, _, _]) dX24_root_45 rfl rfl (by decide) rfl ?_
    refine r_goto (pc := 48) (tgt := 28) dX24_root_48 rfl ?_
    refine r_mask (pc := 28) [true, true, true, true, false, false] rfl ?_
    exact K
set_option maxHeartbeats 4000000 in
theorem sX24_root_53 {G : Gx} {d t : Nat} {h0 : AH} {Φ : Out → AH → Prop} (h : AH) (v0 : Nat) (v3 : Int32) (K : ((v3 ≤ 1 → Aw G mX24_root (d + 1) t h0 Φ 194 [vR v0, vU, vU, vU, vI 0, vU] [] h) ∧ (¬ v3 ≤ 1 → ((¬ (jrem v3 2) = 1 → Aw G mX24_root (d + 1) t h0 Φ 114 [vR v0, vU, vU, vI v3, vI 0, vU] [] h) ∧ ((jrem v3 2) = 1 → Aw G mX24_root (d + 1) t h0 Φ 68 [vR v0, vU, vU, vI v3, vI 0, vU] [] h))))) : Aw G mX24_root (d + 1) t h0 Φ 53 [vR v0, vU, vU, vI v3, vU, vU] [] h := by
  refine r_iload_n (pc := 53) dX24_root_53 rfl ?_
  refine r_iconst (pc := 54) (x := 1) dX24_root_54 rfl ?_
  refine r_icmp_le (pc := 55) (tgt := 191) dX24_root_55 rfl (fun c1 => ?_) (fun c1 => ?_)
  · have K := K.1 c1
    refine r_iconst (pc := 191) (x := 0) dX24_root_191 rfl ?_
    refine r_istore (pc := 192) (lv' := [_, _, _, _, _, _]) dX24_root_192 (by decide) rfl ?_
    refine r_mask (pc := 194) [true, false, false, false, true, false] rfl ?_
    exact K
  · have K := K.2 c1
    refine r_iload_n (pc := 58) dX24_root_58 rfl ?_
    refine r_iconst (pc := 59) (x := 2) dX24_root_59 rfl ?_
    refine r_jrem (pc := 60) (by decide) dX24_root_60 ?_
    refine r_iconst (pc := 61) (x := 1) dX24_root_61 rfl ?_
    refine r_icmp_ne (pc := 62) (tgt := 111) dX24_root_62 rfl (fun c2 => ?_) (fun c2 => ?_)
    · have K := K.1 c2
      refine r_iconst (pc := 111) (x := 0) dX24_root_111 rfl ?_
      refine r_istore (pc := 112) (lv' := [_, _, _, _, _, _]) dX24_root_112 (by decide) rfl ?_
      refine r_mask (pc := 114) [true, false, false, true, true, false] rfl ?_
      exact K
    · have K := K.2 c2
      refine r_iconst (pc := 65) (x := 0) dX24_root_65 rfl ?_
      refine r_istore (pc := 66) (lv' := [_, _, _, _, _, _]) dX24_root_66 (by decide) rfl ?_
      refine r_mask (pc := 68) [true, false, false, true, true, false] rfl ?_
      exact K
set_option maxHeartbeats 4000000 in
theorem sX24_root_68 {G : Gx} {d t : Nat} {h0 : AH} {Φ : Out → AH → Prop} (h : AH) (v0 : Nat) (v3 : Int32) (v4 : Int32) (K : ((32 ≤ v4 → Aw G mX24_root (d + 1) t h0 Φ 114 [vR v0, vU, vU, vI (v3 + 1), vI 0, vU] [] h) ∧ (¬ 32 ≤ v4 → h.kd v0 = 24 ∧ ∀ r3 : Nat, r3 = (h.r 24058 v0) → h.kd r3 = 101 ∧ vp_in (((32 * v3) - 32) + v4) (h.ai r3).length ∧ vp_in ((32 * v3) + v4) (h.ai r3).length ∧ ∀ h7 : AH, h7 = h.wi r3 ((h.ai r3).set (((32 * v3) + v4).toNatClampNeg) (i2b ((h.ai r3).getD ((((32 * v3) - 32) + v4).toNatClampNeg) 0))) → Aw G mX24_root (d + 1) t h0 Φ 68 [vR v0, vU, vU, vI v3, vI (v4 + 1), vU] [] h7))) : Aw G mX24_root (d + 1) t h0 Φ 68 [vR v0, vU, vU, vI v3, vI v4, vU] [] h := by
  refine r_iload (pc := 68) dX24_root_68 rfl ?_
  refine r_bipush (pc := 70) (x := 32) dX24_root_70 rfl ?_
  refine r_icmp_ge (pc := 72) (tgt := 108) dX24_root_72 rfl (fun c1 => ?_) (fun c1 => ?_)
  · have K := K.1 c1
    refine r_iinc (pc := 108) (lv' := [_, _, _, _, _, _]) dX24_root_108 rfl rfl (by decide) rfl ?_
    refine r_iconst (pc := 111) (x := 0) dX24_root_111 rfl ?_
    refine r_istore (pc := 112) (lv' := [_, _, _, _, _, _]) dX24_root_112 (by decide) rfl ?_
    refine r_mask (pc := 114) [true, false, false, true, true, false] rfl ?_
    exact K
  · have K := K.2 c1
    refine r_aload_n (pc := 75) dX24_root_75 rfl ?_
    obtain ⟨hk2, K⟩ := K
    have K := K _ rfl
    refine r_getr' (pc := 76) (T := TX24) 24 58 rfl hk2 (Or.inl q2756) dX24_root_76 kc24 g24058 ?_
    refine r_bipush (pc := 79) (x := 32) dX24_root_79 rfl ?_
    refine r_iload_n (pc := 81) dX24_root_81 rfl ?_
    refine r_imul (pc := 82) dX24_root_82 ?_
    refine r_iload (pc := 83) dX24_root_83 rfl ?_
    refine r_iadd (pc := 85) dX24_root_85 ?_
    refine r_aload_n (pc := 86) dX24_root_86 rfl ?_
    refine r_getr' (pc := 87) (T := TX24) 24 58 rfl hk2 (Or.inl q2756) dX24_root_87 kc24 g24058 ?_
    refine r_bipush (pc := 90) (x := 32) dX24_root_90 rfl ?_
    refine r_iload_n (pc := 92) dX24_root_92 rfl ?_
    refine r_imul (pc := 93) dX24_root_93 ?_
    refine r_bipush (pc := 94) (x := 32) dX24_root_94 rfl ?_
    refine r_isub (pc := 96) dX24_root_96 ?_
    refine r_iload (pc := 97) dX24_root_97 rfl ?_
    refine r_iadd (pc := 99) dX24_root_99 ?_
    obtain ⟨hk4, K⟩ := K
    obtain ⟨hi5, K⟩ := K
    refine r_baload (pc := 100) hk4 hi5 dX24_root_100 ?_
    obtain ⟨hi6, K⟩ := K
    refine r_jbast (pc := 101) hk4 hi6 (Or.inl (em rfl)) dX24_root_101 ?_
    refine r_nameH (fun h7 eh7 => ?_)
    have K := K h7 eh7
    refine r_iinc (pc := 102) (lv' := [_, _, _, _, _, _]) dX24_root_102 rfl rfl (by decide) rfl ?_
    refine r_goto (pc := 105) (tgt := 68) dX24_root_105 rfl ?_
    refine r_mask (pc := 68) [true, false, false, true, true, false] rfl ?_
    exact K
set_option maxHeartbeats 4000000 in
theorem sX24_root_114 {G : Gx} {d t : Nat} {h0 : AH} {Φ : Out → AH → Prop} (h : AH) (v0 : Nat) (v3 : Int32) (v4 : Int32) (K : (((v3 / 2) ≤ v4 → Aw G mX24_root (d + 1) t h0 Φ 53 [vR v0, vU, vU, vI (v3 / 2), vU, vU] [] h) ∧ (¬ (v3 / 2) ≤ v4 → Aw G mX24_root (d + 1) t h0 Φ 125 [vR v0, vU, vU, vI v3, vI v4, vI 0] [] h))) : Aw G mX24_root (d + 1) t h0 Φ 114 [vR v0, vU, vU, vI v3, vI v4, vU] [] h := by
  refine r_iload (pc := 114) dX24_root_114 rfl ?_
  refine r_iload_n (pc := 116) dX24_root_116 rfl ?_
  refine r_iconst (pc := 117) (x := 2) dX24_root_117 rfl ?_
  refine r_idiv (pc := 118) (by decide) dX24_root_118 ?_
  refine r_icmp_ge (pc := 119) (tgt := 184) dX24_root_119 rfl (fun c1 => ?_) (fun c1 => ?_)
  · have K := K.1 c1
    refine r_iload_n (pc := 184) dX24_root_184 rfl ?_
    refine r_iconst (pc := 185) (x := 2) dX24_root_185 rfl ?_
    refine r_idiv (pc := 186) (by decide) dX24_root_186 ?_
    refine r_istore_n (pc := 187) (lv' := [_, _, _, _, _, _]) dX24_root_187 (by decide) rfl ?_
    refine r_goto (pc := 188) (tgt := 53) dX24_root_188 rfl ?_
    refine r_mask (pc := 53) [true, false, false, true, false, false] rfl ?_
    exact K
  · have K := K.2 c1
    refine r_iconst (pc := 122) (x := 0) dX24_root_122 rfl ?_
    refine r_istore (pc := 123) (lv' := [_, _, _, _, _, _]) dX24_root_123 (by decide) rfl ?_
    refine r_mask (pc := 125) [true, false, false, true, true, true] rfl ?_
    exact K
set_option maxHeartbeats 4000000 in
theorem sX24_root_125 {G : Gx} {d t : Nat} {h0 : AH} {Φ : Out → AH → Prop} (h : AH) (v0 : Nat) (v3 : Int32) (v4 : Int32) (v5 : Int32) (K : ((64 ≤ v5 → h.kd v0 = 24 ∧ ∀ r3 : Nat, r3 = (h.r 24059 v0) → ∀ r4 : Nat, r4 = (h.r 24058 v0) → Cw G mX24_again d 0 [vR v0, vR r3, vI 0, vI 64, vR r4, vI (32 * v4)] h (kV (fun h6 => Aw G mX24_root (d + 1) t h0 Φ 114 [vR v0, vU, vU, vI v3, vI (v4 + 1), vU] [] h6) (fun x h => Φ (.inr x) h))) ∧ (¬ 64 ≤ v5 → h.kd v0 = 24 ∧ ∀ r8 : Nat, r8 = (h.r 24059 v0) → ∀ r9 : Nat, r9 = (h.r 24058 v0) → h.kd r9 = 101 ∧ vp_in ((64 * v4) + v5) (h.ai r9).length ∧ h.kd r8 = 101 ∧ vp_in v5 (h.ai r8).length ∧ ∀ h14 : AH, h14 = h.wi r8 ((h.ai r8).set (v5.toNatClampNeg) (i2b ((h.ai r9).getD (((64 * v4) + v5).toNatClampNeg) 0))) → Aw G mX24_root (d + 1) t h0 Φ 125 [vR v0, vU, vU, vI v3, vI v4, vI (v5 + 1)] [] h14))) : Aw G mX24_root (d + 1) t h0 Φ 125 [vR v0, vU, vU, vI v3, vI v4, vI v5] [] h := by
  refine r_iload (pc := 125) dX24_root_125 rfl ?_
  refine r_bipush (pc := 127) (x := 64) dX24_root_127 rfl ?_
  refine r_icmp_ge (pc := 129) (tgt := 158) dX24_root_129 rfl (fun c1 => ?_) (fun c1 => ?_)
  · have K := K.1 c1
    refine r_aload_n (pc := 158) dX24_root_158 rfl ?_
    refine r_aload_n (pc := 159) dX24_root_159 rfl ?_
    obtain ⟨hk2, K⟩ := K
    have K := K _ rfl
    refine r_getr' (pc := 160) (T := TX24) 24 59 rfl hk2 (Or.inl q2757) dX24_root_160 kc24 g24059 ?_
    refine r_iconst (pc := 163) (x := 0) dX24_root_163 rfl ?_
    refine r_bipush (pc := 164) (x := 64) dX24_root_164 rfl ?_
    refine r_aload_n (pc := 166) dX24_root_166 rfl ?_
    have K := K _ rfl
    refine r_getr' (pc := 167) (T := TX24) 24 58 rfl hk2 (Or.inl q2756) dX24_root_167 kc24 g24058 ?_
    refine r_bipush (pc := 170) (x := 32) dX24_root_170 rfl ?_
    refine r_iload (pc := 172) dX24_root_172 rfl ?_
    refine r_imul (pc := 174) dX24_root_174 ?_
    refine r_callV_V (pc := 175) (Y := mX24_again) (vs := [_, _, _, _, _]) (st := []) hk2 rfl kc24 q2318 q2320 qs67 dX24_root_175 rfl cd_X24_again rfl rfl fp_X24_root_X24_again K (fun h6 eh6 wh6 K => ?_) (fun x h1 _ _ e => Tw.out rfl e)
    refine r_iinc (pc := 178) (lv' := [_, _, _, _, _, _]) dX24_root_178 rfl rfl (by decide) rfl ?_
    refine r_goto (pc := 181) (tgt := 114) dX24_root_181 rfl ?_
    refine r_mask (pc := 114) [true, false, false, true, true, false] rfl ?_
    exact K
  · have K := K.2 c1
    refine r_aload_n (pc := 132) dX24_root_132 rfl ?_
    obtain ⟨hk7, K⟩ := K
    have K := K _ rfl
    refine r_getr' (pc := 133) (T := TX24) 24 59 rfl hk7 (Or.inl q2757) dX24_root_133 kc24 g24059 ?_
    refine r_iload (pc := 136) dX24_root_136 rfl ?_
    refine r_aload_n (pc := 138) dX24_root_138 rfl ?_
    have K := K _ rfl
    refine r_getr' (pc := 139) (T := TX24) 24 58 rfl hk7 (Or.inl q2756) dX24_root_139 kc24 g24058 ?_
    refine r_bipush (pc := 142) (x := 64) dX24_root_142 rfl ?_
    refine r_iload (pc := 144) dX24_root_144 rfl ?_
    refine r_imul (pc := 146) dX24_root_146 ?_
    refine r_iload (pc := 147) dX24_root_147 rfl ?_
    refine r_iadd (pc := 149) dX24_root_149 ?_
    obtain ⟨hk10, K⟩ := K
    obtain ⟨hi11, K⟩ := K
    refine r_baload (pc := 150) hk10 hi11 dX24_root_150 ?_
    obtain ⟨hk12, K⟩ := K
    obtain ⟨hi13, K⟩ := K
    refine r_jbast (pc := 151) hk12 hi13 (Or.inl (em rfl)) dX24_root_151 ?_
    refine r_nameH (fun h14 eh14 => ?_)
    have K := K h14 eh14
    refine r_iinc (pc := 152) (lv' := [_, _, _, _, _, _]) dX24_root_152 rfl rfl (by decide) rfl ?_
    refine r_goto (pc := 155) (tgt := 125) dX24_root_155 rfl ?_
    refine r_mask (pc := 125) [true, false, false, true, true, true] rfl ?_
    exact K
set_option maxHeartbeats 4000000 in
theorem sX24_root_194 {G : Gx} {d t : Nat} {h0 : AH} {Φ : Out → AH → Prop} (h : AH) (v0 : Nat) (v4 : Int32) (K : ((32 ≤ v4 → Φ (.inl none) h) ∧ (¬ 32 ≤ v4 → h.kd v0 = 24 ∧ ∀ r3 : Nat, r3 = (h.r 24060 v0) → ∀ r4 : Nat, r4 = (h.r 24058 v0) → h.kd r4 = 101 ∧ vp_in v4 (h.ai r4).length ∧ h.kd r3 = 101 ∧ vp_in v4 (h.ai r3).length ∧ ∀ h9 : AH, h9 = h.wi r3 ((h.ai r3).set (v4.toNatClampNeg) (i2b ((h.ai r4).getD (v4.toNatClampNeg) 0))) → Aw G mX24_root (d + 1) t h0 Φ 194 [vR v0, vU, vU, vU, vI (v4 + 1), vU] [] h9))) : Aw G mX24_root (d + 1) t h0 Φ 194 [vR v0, vU, vU, vU, vI v4, vU] [] h := by
  refine r_iload (pc := 194) dX24_root_194 rfl ?_
  refine r_bipush (pc := 196) (x := 32) dX24_root_196 rfl ?_
  refine r_icmp_ge (pc := 198) (tgt := 221) dX24_root_198 rfl (fun c1 => ?_) (fun c1 => ?_)
  · have K := K.1 c1
    exact r_vret (pc := 221) rfl dX24_root_221 K
  · have K := K.2 c1
    refine r_aload_n (pc := 201) dX24_root_201 rfl ?_
    obtain ⟨hk2, K⟩ := K
    have K := K _ rfl
    refine r_getr' (pc := 202) (T := TX24) 24 60 rfl hk2 (Or.inl q2758) dX24_root_202 kc24 g24060 ?_
    refine r_iload (pc := 205) dX24_root_205 rfl ?_
    refine r_aload_n (pc := 207) dX24_root_207 rfl ?_
    have K := K _ rfl
    refine r_getr' (pc := 208) (T := TX24) 24 58 rfl hk2 (Or.inl q2756) dX24_root_208 kc24 g24058 ?_
    refine r_iload (pc := 211) dX24_root_211 rfl ?_
    obtain ⟨hk5, K⟩ := K
    obtain ⟨hi6, K⟩ := K
    refine r_baload (pc := 213) hk5 hi6 dX24_root_213 ?_
    obtain ⟨hk7, K⟩ := K
    obtain ⟨hi8, K⟩ := K
    refine r_jbast (pc := 214) hk7 hi8 (Or.inl (em rfl)) dX24_root_214 ?_
    refine r_nameH (fun h9 eh9 => ?_)
    have K := K h9 eh9
    refine r_iinc (pc := 215) (lv' := [_, _, _, _, _, _]) dX24_root_215 rfl rfl (by decide) rfl ?_
    refine r_goto (pc := 218) (tgt := 194) dX24_root_218 rfl ?_
    refine r_mask (pc := 194) [true, false, false, false, true, false] rfl ?_
    exact K
theorem dX24_assemble_0 : decode cX24_assemble 0 = .ok (.iconst 0, 1) := by decide +kernel
theorem dX24_assemble_1 : decode cX24_assemble 1 = .ok (.istore_n 2, 1) := by decide +kernel
theorem dX24_assemble_2 : decode cX24_assemble 2 = .ok (.iload_n 2, 1) := by decide +kernel
theorem dX24_assemble_3 : decode cX24_assemble 3 = .ok (.aload_n 0, 1) := by decide +kernel
theorem dX24_assemble_4 : decode cX24_assemble 4 = .ok (.getfield 865, 3) := by decide +kernel
theorem dX24_assemble_7 : decode cX24_assemble 7 = .ok (.if_icmp .ge 14, 3) := by decide +kernel
theorem dX24_assemble_10 : decode cX24_assemble 10 = .ok (.aload_n 0, 1) := by decide +kernel
theorem dX24_assemble_11 : decode cX24_assemble 11 = .ok (.iload_n 2, 1) := by decide +kernel
theorem dX24_assemble_12 : decode cX24_assemble 12 = .ok (.invokevirtual 909, 3) := by decide +kernel
theorem dX24_assemble_15 : decode cX24_assemble 15 = .ok (.iinc 2 1, 3) := by decide +kernel
theorem dX24_assemble_18 : decode cX24_assemble 18 = .ok (.goto (-16), 3) := by decide +kernel
theorem dX24_assemble_21 : decode cX24_assemble 21 = .ok (.aload_n 0, 1) := by decide +kernel
theorem dX24_assemble_22 : decode cX24_assemble 22 = .ok (.aload_n 0, 1) := by decide +kernel
theorem dX24_assemble_23 : decode cX24_assemble 23 = .ok (.getfield 770, 3) := by decide +kernel
theorem dX24_assemble_26 : decode cX24_assemble 26 = .ok (.aload_n 0, 1) := by decide +kernel
theorem dX24_assemble_27 : decode cX24_assemble 27 = .ok (.getfield 865, 3) := by decide +kernel
theorem dX24_assemble_30 : decode cX24_assemble 30 = .ok (.invokevirtual 441, 3) := by decide +kernel
theorem dX24_assemble_33 : decode cX24_assemble 33 = .ok (.aload_n 0, 1) := by decide +kernel
theorem dX24_assemble_34 : decode cX24_assemble 34 = .ok (.getfield 859, 3) := by decide +kernel
theorem dX24_assemble_37 : decode cX24_assemble 37 = .ok (.ifCond .ge 9, 3) := by decide +kernel
theorem dX24_assemble_40 : decode cX24_assemble 40 = .ok (.ldc_w 852, 3) := by decide +kernel
theorem dX24_assemble_43 : decode cX24_assemble 43 = .ok (.goto 11, 3) := by decide +kernel
theorem dX24_assemble_46 : decode cX24_assemble 46 = .ok (.aload_n 0, 1) := by decide +kernel
theorem dX24_assemble_47 : decode cX24_assemble 47 = .ok (.aload_n 0, 1) := by decide +kernel
theorem dX24_assemble_48 : decode cX24_assemble 48 = .ok (.getfield 859, 3) := by decide +kernel
theorem dX24_assemble_51 : decode cX24_assemble 51 = .ok (.invokevirtual 435, 3) := by decide +kernel
theorem dX24_assemble_54 : decode cX24_assemble 54 = .ok (.istore_n 2, 1) := by decide +kernel
theorem dX24_assemble_55 : decode cX24_assemble 55 = .ok (.iload_n 2, 1) := by decide +kernel
theorem dX24_assemble_56 : decode cX24_assemble 56 = .ok (.aload_n 0, 1) := by decide +kernel
theorem dX24_assemble_57 : decode cX24_assemble 57 = .ok (.getfield 804, 3) := by decide +kernel
theorem dX24_assemble_60 : decode cX24_assemble 60 = .ok (.invokestatic 376, 3) := by decide +kernel
theorem dX24_assemble_63 : decode cX24_assemble 63 = .ok (.pop, 1) := by decide +kernel
theorem dX24_assemble_64 : decode cX24_assemble 64 = .ok (.aload_n 0, 1) := by decide +kernel
theorem dX24_assemble_65 : decode cX24_assemble 65 = .ok (.iconst 0, 1) := by decide +kernel
theorem dX24_assemble_66 : decode cX24_assemble 66 = .ok (.putfield 723, 3) := by decide +kernel
theorem dX24_assemble_69 : decode cX24_assemble 69 = .ok (.aload_n 0, 1) := by decide +kernel
theorem dX24_assemble_70 : decode cX24_assemble 70 = .ok (.iload_n 1, 1) := by decide +kernel
theorem dX24_assemble_71 : decode cX24_assemble 71 = .ok (.iconst 4, 1) := by decide +kernel
theorem dX24_assemble_72 : decode cX24_assemble 72 = .ok (.if_icmp .ne 9, 3) := by decide +kernel
theorem dX24_assemble_75 : decode cX24_assemble 75 = .ok (.ldc2_w 924, 3) := by decide +kernel
theorem dX24_assemble_78 : decode cX24_assemble 78 = .ok (.goto 4, 3) := by decide +kernel
theorem dX24_assemble_81 : decode cX24_assemble 81 = .ok (.lconst 1, 1) := by decide +kernel
theorem dX24_assemble_82 : decode cX24_assemble 82 = .ok (.iconst 4, 1) := by decide +kernel
theorem dX24_assemble_83 : decode cX24_assemble 83 = .ok (.invokevirtual 726, 3) := by decide +kernel
theorem dX24_assemble_86 : decode cX24_assemble 86 = .ok (.aload_n 0, 1) := by decide +kernel
theorem dX24_assemble_87 : decode cX24_assemble 87 = .ok (.getfield 859, 3) := by decide +kernel
theorem dX24_assemble_90 : decode cX24_assemble 90 = .ok (.ifCond .lt 8, 3) := by decide +kernel
theorem dX24_assemble_93 : decode cX24_assemble 93 = .ok (.iload_n 1, 1) := by decide +kernel
theorem dX24_assemble_94 : decode cX24_assemble 94 = .ok (.iconst 5, 1) := by decide +kernel
theorem dX24_assemble_95 : decode cX24_assemble 95 = .ok (.if_icmp .ne 26, 3) := by decide +kernel
theorem dX24_assemble_98 : decode cX24_assemble 98 = .ok (.iconst 0, 1) := by decide +kernel
theorem dX24_assemble_99 : decode cX24_assemble 99 = .ok (.istore_n 3, 1) := by decide +kernel
theorem dX24_assemble_100 : decode cX24_assemble 100 = .ok (.iload_n 3, 1) := by decide +kernel
theorem dX24_assemble_101 : decode cX24_assemble 101 = .ok (.iconst 4, 1) := by decide +kernel
theorem dX24_assemble_102 : decode cX24_assemble 102 = .ok (.if_icmp .ge 16, 3) := by decide +kernel
theorem dX24_assemble_105 : decode cX24_assemble 105 = .ok (.aload_n 0, 1) := by decide +kernel
theorem dX24_assemble_106 : decode cX24_assemble 106 = .ok (.lconst 0, 1) := by decide +kernel
theorem dX24_assemble_107 : decode cX24_assemble 107 = .ok (.bipush 8, 2) := by decide +kernel
theorem dX24_assemble_109 : decode cX24_assemble 109 = .ok (.invokevirtual 726, 3) := by decide +kernel
theorem dX24_assemble_112 : decode cX24_assemble 112 = .ok (.iinc 3 1, 3) := by decide +kernel
theorem dX24_assemble_115 : decode cX24_assemble 115 = .ok (.goto (-15), 3) := by decide +kernel
theorem dX24_assemble_118 : decode cX24_assemble 118 = .ok (.goto 22, 3) := by decide +kernel
theorem dX24_assemble_121 : decode cX24_assemble 121 = .ok (.aload_n 0, 1) := by decide +kernel
theorem dX24_assemble_122 : decode cX24_assemble 122 = .ok (.aload_n 0, 1) := by decide +kernel
theorem dX24_assemble_123 : decode cX24_assemble 123 = .ok (.getfield 347, 3) := by decide +kernel
theorem dX24_assemble_126 : decode cX24_assemble 126 = .ok (.aload_n 0, 1) := by decide +kernel
theorem dX24_assemble_127 : decode cX24_assemble 127 = .ok (.getfield 859, 3) := by decide +kernel
theorem dX24_assemble_130 : decode cX24_assemble 130 = .ok (.aaload, 1) := by decide +kernel
theorem dX24_assemble_131 : decode cX24_assemble 131 = .ok (.getfield 406, 3) := by decide +kernel
theorem dX24_assemble_134 : decode cX24_assemble 134 = .ok (.iconst 0, 1) := by decide +kernel
theorem dX24_assemble_135 : decode cX24_assemble 135 = .ok (.bipush 32, 2) := by decide +kernel
theorem dX24_assemble_137 : decode cX24_assemble 137 = .ok (.invokevirtual 741, 3) := by decide +kernel
theorem dX24_assemble_140 : decode cX24_assemble 140 = .ok (.aload_n 0, 1) := by decide +kernel
theorem dX24_assemble_141 : decode cX24_assemble 141 = .ok (.aload_n 0, 1) := by decide +kernel
theorem dX24_assemble_142 : decode cX24_assemble 142 = .ok (.getfield 394, 3) := by decide +kernel
theorem dX24_assemble_145 : decode cX24_assemble 145 = .ok (.iconst 0, 1) := by decide +kernel
theorem dX24_assemble_146 : decode cX24_assemble 146 = .ok (.bipush 32, 2) := by decide +kernel
theorem dX24_assemble_148 : decode cX24_assemble 148 = .ok (.invokevirtual 741, 3) := by decide +kernel
theorem dX24_assemble_151 : decode cX24_assemble 151 = .ok (.iload_n 1, 1) := by decide +kernel
theorem dX24_assemble_152 : decode cX24_assemble 152 = .ok (.iconst 1, 1) := by decide +kernel
theorem dX24_assemble_153 : decode cX24_assemble 153 = .ok (.if_icmp .ne 15, 3) := by decide +kernel
theorem dX24_assemble_156 : decode cX24_assemble 156 = .ok (.aload_n 0, 1) := by decide +kernel
theorem dX24_assemble_157 : decode cX24_assemble 157 = .ok (.getfield 720, 3) := by decide +kernel
theorem dX24_assemble_160 : decode cX24_assemble 160 = .ok (.bipush 36, 2) := by decide +kernel
theorem dX24_assemble_162 : decode cX24_assemble 162 = .ok (.dup2, 1) := by decide +kernel
theorem dX24_assemble_163 : decode cX24_assemble 163 = .ok (.baload, 1) := by decide +kernel
theorem dX24_assemble_164 : decode cX24_assemble 164 = .ok (.iconst 1, 1) := by decide +kernel
theorem dX24_assemble_165 : decode cX24_assemble 165 = .ok (.iadd, 1) := by decide +kernel
theorem dX24_assemble_166 : decode cX24_assemble 166 = .ok (.i2b, 1) := by decide +kernel
theorem dX24_assemble_167 : decode cX24_assemble 167 = .ok (.bastore, 1) := by decide +kernel
theorem dX24_assemble_168 : decode cX24_assemble 168 = .ok (.aload_n 0, 1) := by decide +kernel
theorem dX24_assemble_169 : decode cX24_assemble 169 = .ok (.aload_n 0, 1) := by decide +kernel
theorem dX24_assemble_170 : decode cX24_assemble 170 = .ok (.getfield 855, 3) := by decide +kernel
theorem dX24_assemble_173 : decode cX24_assemble 173 = .ok (.iconst 4, 1) := by decide +kernel
theorem dX24_assemble_174 : decode cX24_assemble 174 = .ok (.invokevirtual 726, 3) := by decide +kernel
theorem dX24_assemble_177 : decode cX24_assemble 177 = .ok (.aload_n 0, 1) := by decide +kernel
theorem dX24_assemble_178 : decode cX24_assemble 178 = .ok (.iload_n 1, 1) := by decide +kernel
theorem dX24_assemble_179 : decode cX24_assemble 179 = .ok (.iconst 2, 1) := by decide +kernel
theorem dX24_assemble_180 : decode cX24_assemble 180 = .ok (.if_icmp .ne 10, 3) := by decide +kernel
theorem dX24_assemble_183 : decode cX24_assemble 183 = .ok (.iload_n 2, 1) := by decide +kernel
theorem dX24_assemble_184 : decode cX24_assemble 184 = .ok (.i2l, 1) := by decide +kernel
theorem dX24_assemble_185 : decode cX24_assemble 185 = .ok (.lconst 1, 1) := by decide +kernel
theorem dX24_assemble_186 : decode cX24_assemble 186 = .ok (.lsub, 1) := by decide +kernel
theorem dX24_assemble_187 : decode cX24_assemble 187 = .ok (.goto 5, 3) := by decide +kernel
theorem dX24_assemble_190 : decode cX24_assemble 190 = .ok (.iload_n 2, 1) := by decide +kernel
theorem dX24_assemble_191 : decode cX24_assemble 191 = .ok (.i2l, 1) := by decide +kernel
theorem dX24_assemble_192 : decode cX24_assemble 192 = .ok (.iconst 4, 1) := by decide +kernel
theorem dX24_assemble_193 : decode cX24_assemble 193 = .ok (.invokevirtual 726, 3) := by decide +kernel
theorem dX24_assemble_196 : decode cX24_assemble 196 = .ok (.aload_n 0, 1) := by decide +kernel
theorem dX24_assemble_197 : decode cX24_assemble 197 = .ok (.lconst 0, 1) := by decide +kernel
theorem dX24_assemble_198 : decode cX24_assemble 198 = .ok (.iconst 4, 1) := by decide +kernel
theorem dX24_assemble_199 : decode cX24_assemble 199 = .ok (.invokevirtual 726, 3) := by decide +kernel
theorem dX24_assemble_202 : decode cX24_assemble 202 = .ok (.aload_n 0, 1) := by decide +kernel
theorem dX24_assemble_203 : decode cX24_assemble 203 = .ok (.aload_n 0, 1) := by decide +kernel
theorem dX24_assemble_204 : decode cX24_assemble 204 = .ok (.getfield 865, 3) := by decide +kernel
theorem dX24_assemble_207 : decode cX24_assemble 207 = .ok (.invokevirtual 735, 3) := by decide +kernel
theorem dX24_assemble_210 : decode cX24_assemble 210 = .ok (.iconst 0, 1) := by decide +kernel
theorem dX24_assemble_211 : decode cX24_assemble 211 = .ok (.istore_n 3, 1) := by decide +kernel
theorem dX24_assemble_212 : decode cX24_assemble 212 = .ok (.iload_n 3, 1) := by decide +kernel
theorem dX24_assemble_213 : decode cX24_assemble 213 = .ok (.aload_n 0, 1) := by decide +kernel
theorem dX24_assemble_214 : decode cX24_assemble 214 = .ok (.getfield 865, 3) := by decide +kernel
theorem dX24_assemble_217 : decode cX24_assemble 217 = .ok (.if_icmp .ge 14, 3) := by decide +kernel
theorem dX24_assemble_220 : decode cX24_assemble 220 = .ok (.aload_n 0, 1) := by decide +kernel
theorem dX24_assemble_221 : decode cX24_assemble 221 = .ok (.iload_n 3, 1) := by decide +kernel
theorem dX24_assemble_222 : decode cX24_assemble 222 = .ok (.invokevirtual 767, 3) := by decide +kernel
theorem dX24_assemble_225 : decode cX24_assemble 225 = .ok (.iinc 3 1, 3) := by decide +kernel
theorem dX24_assemble_228 : decode cX24_assemble 228 = .ok (.goto (-16), 3) := by decide +kernel
theorem dX24_assemble_231 : decode cX24_assemble 231 = .ok (.iconst 0, 1) := by decide +kernel
theorem dX24_assemble_232 : decode cX24_assemble 232 = .ok (.istore_n 3, 1) := by decide +kernel
theorem dX24_assemble_233 : decode cX24_assemble 233 = .ok (.iload_n 3, 1) := by decide +kernel
theorem dX24_assemble_234 : decode cX24_assemble 234 = .ok (.sipush 4096, 3) := by decide +kernel
theorem dX24_assemble_237 : decode cX24_assemble 237 = .ok (.if_icmp .ge 104, 3) := by decide +kernel
theorem dX24_assemble_240 : decode cX24_assemble 240 = .ok (.iconst 0, 1) := by decide +kernel
theorem dX24_assemble_241 : decode cX24_assemble 241 = .ok (.istore 4, 2) := by decide +kernel
theorem dX24_assemble_243 : decode cX24_assemble 243 = .ok (.iload 4, 2) := by decide +kernel
theorem dX24_assemble_245 : decode cX24_assemble 245 = .ok (.iconst 4, 1) := by decide +kernel
theorem dX24_assemble_246 : decode cX24_assemble 246 = .ok (.if_icmp .ge 27, 3) := by decide +kernel
theorem dX24_assemble_249 : decode cX24_assemble 249 = .ok (.aload_n 0, 1) := by decide +kernel
theorem dX24_assemble_250 : decode cX24_assemble 250 = .ok (.getfield 720, 3) := by decide +kernel
theorem dX24_assemble_253 : decode cX24_assemble 253 = .ok (.bipush 76, 2) := by decide +kernel
theorem dX24_assemble_255 : decode cX24_assemble 255 = .ok (.iload 4, 2) := by decide +kernel
theorem dX24_assemble_257 : decode cX24_assemble 257 = .ok (.iadd, 1) := by decide +kernel
theorem dX24_assemble_258 : decode cX24_assemble 258 = .ok (.iload_n 3, 1) := by decide +kernel
theorem dX24_assemble_259 : decode cX24_assemble 259 = .ok (.bipush 8, 2) := by decide +kernel
theorem dX24_assemble_261 : decode cX24_assemble 261 = .ok (.iload 4, 2) := by decide +kernel
theorem dX24_assemble_263 : decode cX24_assemble 263 = .ok (.imul, 1) := by decide +kernel
theorem dX24_assemble_264 : decode cX24_assemble 264 = .ok (.iushr, 1) := by decide +kernel
theorem dX24_assemble_265 : decode cX24_assemble 265 = .ok (.i2b, 1) := by decide +kernel
theorem dX24_assemble_266 : decode cX24_assemble 266 = .ok (.bastore, 1) := by decide +kernel
theorem dX24_assemble_267 : decode cX24_assemble 267 = .ok (.iinc 4 1, 3) := by decide +kernel
theorem dX24_assemble_270 : decode cX24_assemble 270 = .ok (.goto (-27), 3) := by decide +kernel
theorem dX24_assemble_273 : decode cX24_assemble 273 = .ok (.aload_n 0, 1) := by decide +kernel
theorem dX24_assemble_274 : decode cX24_assemble 274 = .ok (.aload_n 0, 1) := by decide +kernel
theorem dX24_assemble_275 : decode cX24_assemble 275 = .ok (.getfield 720, 3) := by decide +kernel
theorem dX24_assemble_278 : decode cX24_assemble 278 = .ok (.iconst 0, 1) := by decide +kernel
theorem dX24_assemble_279 : decode cX24_assemble 279 = .ok (.bipush 80, 2) := by decide +kernel
theorem dX24_assemble_281 : decode cX24_assemble 281 = .ok (.aload_n 0, 1) := by decide +kernel
theorem dX24_assemble_282 : decode cX24_assemble 282 = .ok (.getfield 636, 3) := by decide +kernel
theorem dX24_assemble_285 : decode cX24_assemble 285 = .ok (.iconst 0, 1) := by decide +kernel
theorem dX24_assemble_286 : decode cX24_assemble 286 = .ok (.invokevirtual 319, 3) := by decide +kernel
theorem dX24_assemble_289 : decode cX24_assemble 289 = .ok (.aload_n 0, 1) := by decide +kernel
theorem dX24_assemble_290 : decode cX24_assemble 290 = .ok (.getfield 636, 3) := by decide +kernel
theorem dX24_assemble_293 : decode cX24_assemble 293 = .ok (.iconst 0, 1) := by decide +kernel
theorem dX24_assemble_294 : decode cX24_assemble 294 = .ok (.iconst 0, 1) := by decide +kernel
theorem dX24_assemble_295 : decode cX24_assemble 295 = .ok (.aload_n 0, 1) := by decide +kernel
theorem dX24_assemble_296 : decode cX24_assemble 296 = .ok (.getfield 795, 3) := by decide +kernel
theorem dX24_assemble_299 : decode cX24_assemble 299 = .ok (.invokestatic 158, 3) := by decide +kernel
theorem dX24_assemble_302 : decode cX24_assemble 302 = .ok (.aload_n 0, 1) := by decide +kernel
theorem dX24_assemble_303 : decode cX24_assemble 303 = .ok (.getfield 795, 3) := by decide +kernel
theorem dX24_assemble_306 : decode cX24_assemble 306 = .ok (.aload_n 0, 1) := by decide +kernel
theorem dX24_assemble_307 : decode cX24_assemble 307 = .ok (.getfield 804, 3) := by decide +kernel
theorem dX24_assemble_310 : decode cX24_assemble 310 = .ok (.invokestatic 165, 3) := by decide +kernel
theorem dX24_assemble_313 : decode cX24_assemble 313 = .ok (.ifCond .gt 7, 3) := by decide +kernel
theorem dX24_assemble_316 : decode cX24_assemble 316 = .ok (.iconst 1, 1) := by decide +kernel
theorem dX24_assemble_317 : decode cX24_assemble 317 = .ok (.goto 4, 3) := by decide +kernel
theorem dX24_assemble_320 : decode cX24_assemble 320 = .ok (.iconst 0, 1) := by decide +kernel
theorem dX24_assemble_321 : decode cX24_assemble 321 = .ok (.iload_n 1, 1) := by decide +kernel
theorem dX24_assemble_322 : decode cX24_assemble 322 = .ok (.iconst 3, 1) := by decide +kernel
theorem dX24_assemble_323 : decode cX24_assemble 323 = .ok (.if_icmp .ne 7, 3) := by decide +kernel
theorem dX24_assemble_326 : decode cX24_assemble 326 = .ok (.iconst 1, 1) := by decide +kernel
theorem dX24_assemble_327 : decode cX24_assemble 327 = .ok (.goto 4, 3) := by decide +kernel
theorem dX24_assemble_330 : decode cX24_assemble 330 = .ok (.iconst 0, 1) := by decide +kernel
theorem dX24_assemble_331 : decode cX24_assemble 331 = .ok (.if_icmp .eq 4, 3) := by decide +kernel
theorem dX24_assemble_334 : decode cX24_assemble 334 = .ok (.return_, 1) := by decide +kernel
theorem dX24_assemble_335 : decode cX24_assemble 335 = .ok (.iinc 3 1, 3) := by decide +kernel
theorem dX24_assemble_338 : decode cX24_assemble 338 = .ok (.goto (-105), 3) := by decide +kernel
theorem dX24_assemble_341 : decode cX24_assemble 341 = .ok (.return_, 1) := by decide +kernel
/-! CoinJudgeModel.assemble(I)V -/
set_option maxHeartbeats 4000000 in
theorem sX24_assemble_0 {G : Gx} {d t : Nat} {h0 : AH} {Φ : Out → AH → Prop} (h : AH) (v0 : Nat) (v1 : Int32) (K : Aw G mX24_assemble (d + 1) t h0 Φ 2 [vR v0, vI v1, vI 0, vU, vU] [] h) : Aw G mX24_assemble (d + 1) t h0 Φ 0 [vR v0, vI v1, vU, vU, vU] [] h := by
  refine r_iconst (pc := 0) (x := 0) dX24_assemble_0 rfl ?_
  refine r_istore_n (pc := 1) (lv' := [_, _, _, _, _]) dX24_assemble_1 (by decide) rfl ?_
  refine r_mask (pc := 2) [true, true, true, false, false] rfl ?_
  exact K
theorem eX24_assemble {G : Gx} {d : Nat} {Φ : Out → AH → Prop} (h : AH) (v0 : Nat) (v1 : Int32) (K : WF G h → Aw G mX24_assemble (d + 1) 0 h Φ 0 [vR v0, vI v1, vU, vU, vU] [] h) : Cw G mX24_assemble (d + 1) 0 [vR v0, vI v1] h Φ := Cw.of rfl K
set_option maxHeartbeats 4000000 in
theorem sX24_assemble_2 {G : Gx} {d t : Nat} {h0 : AH} {Φ : Out → AH → Prop} (h : AH) (v0 : Nat) (v1 : Int32) (v2 : Int32) (K : h.kd v0 = 24 ∧ (((h.i 24094 v0) ≤ v2 → ∀ r3 : Nat, r3 = (h.r 24108 v0) → Cw G mX24_root d 0 [vR v0, vR r3, vI (h.i 24094 v0)] h (kV (fun h5 => ((0 ≤ (h5.i 24092 v0) → Cw G mX24_due d 0 [vR v0, vI (h5.i 24092 v0)] h5 (kI (fun x8 h9 => ∀ r11 : Nat, r11 = (h9.r 24112 v0) → Cw G mX24_target d 0 [vI x8, vR r11] h9 (kI (fun x12 h13 => ∀ h15 : AH, h15 = h13.pi 24107 v0 0 → ((¬ v1 = 4 → Cw G mX24_make d 0 [vR v0, vJ 1, vI 4] h15 (kV (fun h18 => (((h5.i 24092 v0) < 0 → Aw G mX24_assemble (d + 1) t h0 Φ 100 [vR v0, vI v1, vI x8, vI 0, vU] [] h18) ∧ (¬ (h5.i 24092 v0) < 0 → ((¬ v1 = 5 → ∀ r28 : Nat, r28 = (h18.r 24046 v0) → h18.kd r28 = 114 ∧ vp_in (h5.i 24092 v0) (h18.ar r28).length ∧ ∀ r31 : Nat, r31 = ((h18.ar r28).getD ((h5.i 24092 v0).toNatClampNeg) 0) → h18.kd r31 = 28 ∧ ∀ r33 : Nat, r33 = (h18.r 28002 r31) → Cw G mX24_make_2 d 0 [vR v0, vR r33, vI 0, vI 32] h18 (kV (fun h35 => Aw G mX24_assemble (d + 1) t h0 Φ 140 [vR v0, vI v1, vI x8, vU, vU] [] h35) (fun x h => Φ (.inr x) h))) ∧ (v1 = 5 → Aw G mX24_assemble (d + 1) t h0 Φ 100 [vR v0, vI v1, vI x8, vI 0, vU] [] h18))))) (fun x h => Φ (.inr x) h))) ∧ (v1 = 4 → Cw G mX24_make d 0 [vR v0, vJ 2, vI 4] h15 (kV (fun h37 => (((h5.i 24092 v0) < 0 → Aw G mX24_assemble (d + 1) t h0 Φ 100 [vR v0, vI v1, vI x8, vI 0, vU] [] h37) ∧ (¬ (h5.i 24092 v0) < 0 → ((¬ v1 = 5 → ∀ r47 : Nat, r47 = (h37.r 24046 v0) → h37.kd r47 = 114 ∧ vp_in (h5.i 24092 v0) (h37.ar r47).length ∧ ∀ r50 : Nat, r50 = ((h37.ar r47).getD ((h5.i 24092 v0).toNatClampNeg) 0) → h37.kd r50 = 28 ∧ ∀ r52 : Nat, r52 = (h37.r 28002 r50) → Cw G mX24_make_2 d 0 [vR v0, vR r52, vI 0, vI 32] h37 (kV (fun h54 => Aw G mX24_assemble (d + 1) t h0 Φ 140 [vR v0, vI v1, vI x8, vU, vU] [] h54) (fun x h => Φ (.inr x) h))) ∧ (v1 = 5 → Aw G mX24_assemble (d + 1) t h0 Φ 100 [vR v0, vI v1, vI x8, vI 0, vU] [] h37))))) (fun x h => Φ (.inr x) h))))) (fun x h => Φ (.inr x) h))) (fun x h => Φ (.inr x) h))) ∧ (¬ 0 ≤ (h5.i 24092 v0) → ∀ r55 : Nat, r55 = (h5.r 24112 v0) → Cw G mX24_target d 0 [vI 545259519, vR r55] h5 (kI (fun x56 h57 => ∀ h59 : AH, h59 = h57.pi 24107 v0 0 → ((¬ v1 = 4 → Cw G mX24_make d 0 [vR v0, vJ 1, vI 4] h59 (kV (fun h62 => (((h5.i 24092 v0) < 0 → Aw G mX24_assemble (d + 1) t h0 Φ 100 [vR v0, vI v1, vI 545259519, vI 0, vU] [] h62) ∧ (¬ (h5.i 24092 v0) < 0 → ((¬ v1 = 5 → ∀ r71 : Nat, r71 = (h62.r 24046 v0) → h62.kd r71 = 114 ∧ vp_in (h5.i 24092 v0) (h62.ar r71).length ∧ ∀ r74 : Nat, r74 = ((h62.ar r71).getD ((h5.i 24092 v0).toNatClampNeg) 0) → h62.kd r74 = 28 ∧ ∀ r76 : Nat, r76 = (h62.r 28002 r74) → Cw G mX24_make_2 d 0 [vR v0, vR r76, vI 0, vI 32] h62 (kV (fun h78 => Aw G mX24_assemble (d + 1) t h0 Φ 140 [vR v0, vI v1, vI 545259519, vU, vU] [] h78) (fun x h => Φ (.inr x) h))) ∧ (v1 = 5 → Aw G mX24_assemble (d + 1) t h0 Φ 100 [vR v0, vI v1, vI 545259519, vI 0, vU] [] h62))))) (fun x h => Φ (.inr x) h))) ∧ (v1 = 4 → Cw G mX24_make d 0 [vR v0, vJ 2, vI 4] h59 (kV (fun h80 => (((h5.i 24092 v0) < 0 → Aw G mX24_assemble (d + 1) t h0 Φ 100 [vR v0, vI v1, vI 545259519, vI 0, vU] [] h80) ∧ (¬ (h5.i 24092 v0) < 0 → ((¬ v1 = 5 → ∀ r89 : Nat, r89 = (h80.r 24046 v0) → h80.kd r89 = 114 ∧ vp_in (h5.i 24092 v0) (h80.ar r89).length ∧ ∀ r92 : Nat, r92 = ((h80.ar r89).getD ((h5.i 24092 v0).toNatClampNeg) 0) → h80.kd r92 = 28 ∧ ∀ r94 : Nat, r94 = (h80.r 28002 r92) → Cw G mX24_make_2 d 0 [vR v0, vR r94, vI 0, vI 32] h80 (kV (fun h96 => Aw G mX24_assemble (d + 1) t h0 Φ 140 [vR v0, vI v1, vI 545259519, vU, vU] [] h96) (fun x h => Φ (.inr x) h))) ∧ (v1 = 5 → Aw G mX24_assemble (d + 1) t h0 Φ 100 [vR v0, vI v1, vI 545259519, vI 0, vU] [] h80))))) (fun x h => Φ (.inr x) h))))) (fun x h => Φ (.inr x) h))))) (fun x h => Φ (.inr x) h))) ∧ (¬ (h.i 24094 v0) ≤ v2 → Cw G mX24_draftId d 0 [vR v0, vI v2] h (kV (fun h98 => Aw G mX24_assemble (d + 1) t h0 Φ 2 [vR v0, vI v1, vI (v2 + 1), vU, vU] [] h98) (fun x h => Φ (.inr x) h))))) : Aw G mX24_assemble (d + 1) t h0 Φ 2 [vR v0, vI v1, vI v2, vU, vU] [] h := by
  refine r_iload_n (pc := 2) dX24_assemble_2 rfl ?_
  refine r_aload_n (pc := 3) dX24_assemble_3 rfl ?_
  obtain ⟨hk1, K⟩ := K
  refine r_geti' (pc := 4) (T := TX24) 24 94 rfl hk1 (Or.inl q2792) dX24_assemble_4 kc24 g24094 ?_
  refine r_icmp_ge (pc := 7) (tgt := 21) dX24_assemble_7 rfl (fun c2 => ?_) (fun c2 => ?_)
  · have K := K.1 c2
    refine r_aload_n (pc := 21) dX24_assemble_21 rfl ?_
    refine r_aload_n (pc := 22) dX24_assemble_22 rfl ?_
    have K := K _ rfl
    refine r_getr' (pc := 23) (T := TX24) 24 108 rfl hk1 (Or.inl q2806) dX24_assemble_23 kc24 g24108 ?_
    refine r_aload_n (pc := 26) dX24_assemble_26 rfl ?_
    refine r_geti' (pc := 27) (T := TX24) 24 94 rfl hk1 (Or.inl q2792) dX24_assemble_27 kc24 g24094 ?_
    refine r_callV_V (pc := 30) (Y := mX24_root) (vs := [_, _]) (st := []) hk1 rfl kc24 q2338 q2340 qs71 dX24_assemble_30 rfl cd_X24_root rfl rfl fp_X24_assemble_X24_root K (fun h5 eh5 wh5 K => ?_) (fun x h1 _ _ e => Tw.out rfl e)
    refine r_aload_n (pc := 33) dX24_assemble_33 rfl ?_
    have hk6 := kd_ext eh5 hk1 (nz rfl)
    refine r_geti' (pc := 34) (T := TX24) 24 92 rfl hk6 (Or.inl q2790) dX24_assemble_34 kc24 g24092 ?_
    refine r_if_ge (pc := 37) (tgt := 46) dX24_assemble_37 rfl (fun c7 => ?_) (fun c7 => ?_)
    · have K := K.1 c7
      refine r_aload_n (pc := 46) dX24_assemble_46 rfl ?_
      refine r_aload_n (pc := 47) dX24_assemble_47 rfl ?_
      refine r_geti' (pc := 48) (T := TX24) 24 92 rfl hk6 (Or.inl q2790) dX24_assemble_48 kc24 g24092 ?_
      refine r_callV_I (pc := 51) (Y := mX24_due) (vs := [_]) (st := []) hk6 rfl kc24 q2342 q2344 qs72 dX24_assemble_51 rfl cd_X24_due rfl rfl fp_X24_assemble_X24_due K (fun x8 h9 eh9 wh9 K => ?_) (fun x h1 _ _ e => Tw.out rfl e)
      refine r_istore_n (pc := 54) (lv' := [_, _, _, _, _]) dX24_assemble_54 (by decide) rfl ?_
      refine r_iload_n (pc := 55) dX24_assemble_55 rfl ?_
      refine r_aload_n (pc := 56) dX24_assemble_56 rfl ?_
      have hk10 := kd_ext eh9 hk6 (nz rfl)
      have K := K _ rfl
      refine r_getr' (pc := 57) (T := TX24) 24 112 rfl hk10 (Or.inl q2810) dX24_assemble_57 kc24 g24112 ?_
      refine r_callS_I (pc := 60) (Y := mX24_target) (vs := [_, _]) (st := []) q2277 q2278 q192 dX24_assemble_60 rfl cd_X24_target rfl rfl fp_X24_assemble_X24_target K (fun x12 h13 eh13 wh13 K => ?_) (fun x h1 _ _ e => Tw.out rfl e)
      refine r_pop (pc := 63) rfl dX24_assemble_63 ?_
      refine r_aload_n (pc := 64) dX24_assemble_64 rfl ?_
      refine r_iconst (pc := 65) (x := 0) dX24_assemble_65 rfl ?_
      have hk14 := kd_ext eh13 hk10 (nz rfl)
      refine r_puti (pc := 66) (T := TX24) (key := 24107) 24 107 hk14 (Or.inl q2805) dX24_assemble_66 kc24 rfl (Or.inl rfl) (Or.inl (em rfl)) ?_
      refine r_nameH (fun h15 eh15 => ?_)
      have K := K h15 eh15
      refine r_aload_n (pc := 69) dX24_assemble_69 rfl ?_
      refine r_iload_n (pc := 70) dX24_assemble_70 rfl ?_
      refine r_iconst (pc := 71) (x := 4) dX24_assemble_71 rfl ?_
      refine r_icmp_ne (pc := 72) (tgt := 81) dX24_assemble_72 rfl (fun c16 => ?_) (fun c16 => ?_)
      · have K := K.1 c16
        refine r_lconst (pc := 81) (a := 1) dX24_assemble_81 rfl ?_
        refine r_iconst (pc := 82) (x := 4) dX24_assemble_82 rfl ?_
        have hk19 := kd_pi eh15 hk14
        refine r_callV_V (pc := 83) (Y := mX24_make) (vs := [_, _]) (st := []) hk19 rfl kc24 q2305 q2307 qs64 dX24_assemble_83 rfl cd_X24_make rfl rfl fp_X24_assemble_X24_make K (fun h18 eh18 wh18 K => ?_) (fun x h1 _ _ e => Tw.out rfl e)
        refine r_aload_n (pc := 86) dX24_assemble_86 rfl ?_
        have hk20 := kd_ext eh18 hk19 (nz rfl)
        have hv21 := fi_self (key := 24092) hk6
        have hv22 := (fi_ext (key := 24092) eh9 hk6 (nz rfl) (ne0 wh9 hk10 (nz rfl)) (nm rfl)).trans hv21
        have hv23 := (fi_ext (key := 24092) eh13 hk10 (nz rfl) (ne0 wh13 hk14 (nz rfl)) (nm rfl)).trans hv22
        have hv24 := fi_pi (key := 24092) eh15 (by decide) hv23
        have hv25 := (fi_ext (key := 24092) eh18 hk19 (nz rfl) (ne0 wh18 hk20 (nz rfl)) (nm rfl)).trans hv24
        refine r_geti' (pc := 87) (T := TX24) 24 92 hv25 hk20 (Or.inl q2790) dX24_assemble_87 kc24 g24092 ?_
        refine r_if_lt (pc := 90) (tgt := 98) dX24_assemble_90 rfl (fun c26 => ?_) (fun c26 => ?_)
        · have K := K.1 c26
          refine r_iconst (pc := 98) (x := 0) dX24_assemble_98 rfl ?_
          refine r_istore_n (pc := 99) (lv' := [_, _, _, _, _]) dX24_assemble_99 (by decide) rfl ?_
          refine r_mask (pc := 100) [true, true, true, true, false] rfl ?_
          exact K
        · have K := K.2 c26
          refine r_iload_n (pc := 93) dX24_assemble_93 rfl ?_
          refine r_iconst (pc := 94) (x := 5) dX24_assemble_94 rfl ?_
          refine r_icmp_ne (pc := 95) (tgt := 121) dX24_assemble_95 rfl (fun c27 => ?_) (fun c27 => ?_)
          · have K := K.1 c27
            refine r_aload_n (pc := 121) dX24_assemble_121 rfl ?_
            refine r_aload_n (pc := 122) dX24_assemble_122 rfl ?_
            have K := K _ rfl
            refine r_getr' (pc := 123) (T := TX24) 24 46 rfl hk20 (Or.inl q2744) dX24_assemble_123 kc24 g24046 ?_
            refine r_aload_n (pc := 126) dX24_assemble_126 rfl ?_
            refine r_geti' (pc := 127) (T := TX24) 24 92 hv25 hk20 (Or.inl q2790) dX24_assemble_127 kc24 g24092 ?_
            obtain ⟨hk29, K⟩ := K
            obtain ⟨hi30, K⟩ := K
            have K := K _ rfl
            refine r_aaload (pc := 130) (le_of_eq_r hk29 (by decide)) hi30 dX24_assemble_130 ?_
            obtain ⟨hk32, K⟩ := K
            have K := K _ rfl
            refine r_getr' (pc := 131) (T := TX28) 28 2 rfl hk32 (Or.inr (Or.inl ⟨_, q2391⟩)) dX24_assemble_131 kc28 g28002 ?_
            refine r_iconst (pc := 134) (x := 0) dX24_assemble_134 rfl ?_
            refine r_bipush (pc := 135) (x := 32) dX24_assemble_135 rfl ?_
            refine r_callV_V (pc := 137) (Y := mX24_make_2) (vs := [_, _, _]) (st := []) hk20 rfl kc24 q2314 q2316 qs66 dX24_assemble_137 rfl cd_X24_make_2 rfl rfl fp_X24_assemble_X24_make_2 K (fun h35 eh35 wh35 K => ?_) (fun x h1 _ _ e => Tw.out rfl e)
            refine r_mask (pc := 140) [true, true, true, false, false] rfl ?_
            exact K
          · have K := K.2 c27
            refine r_iconst (pc := 98) (x := 0) dX24_assemble_98 rfl ?_
            refine r_istore_n (pc := 99) (lv' := [_, _, _, _, _]) dX24_assemble_99 (by decide) rfl ?_
            refine r_mask (pc := 100) [true, true, true, true, false] rfl ?_
            exact K
      · have K := K.2 c16
        refine r_ldc2 (pc := 75) dX24_assemble_75 q2372 ?_
        refine r_goto (pc := 78) (tgt := 82) dX24_assemble_78 rfl ?_
        refine r_iconst (pc := 82) (x := 4) dX24_assemble_82 rfl ?_
        have hk38 := kd_pi eh15 hk14
        refine r_callV_V (pc := 83) (Y := mX24_make) (vs := [_, _]) (st := []) hk38 rfl kc24 q2305 q2307 qs64 dX24_assemble_83 rfl cd_X24_make rfl rfl fp_X24_assemble_X24_make K (fun h37 eh37 wh37 K => ?_) (fun x h1 _ _ e => Tw.out rfl e)
        refine r_aload_n (pc := 86) dX24_assemble_86 rfl ?_
        have hk39 := kd_ext eh37 hk38 (nz rfl)
        have hv40 := fi_self (key := 24092) hk6
        have hv41 := (fi_ext (key := 24092) eh9 hk6 (nz rfl) (ne0 wh9 hk10 (nz rfl)) (nm rfl)).trans hv40
        have hv42 := (fi_ext (key := 24092) eh13 hk10 (nz rfl) (ne0 wh13 hk14 (nz rfl)) (nm rfl)).trans hv41
        have hv43 := fi_pi (key := 24092) eh15 (by decide) hv42
        have hv44 := (fi_ext (key := 24092) eh37 hk38 (nz rfl) (ne0 wh37 hk39 (nz rfl)) (nm rfl)).trans hv43
        refine r_geti' (pc := 87) (T := TX24) 24 92 hv44 hk39 (Or.inl q2790) dX24_assemble_87 kc24 g24092 ?_
        refine r_if_lt (pc := 90) (tgt := 98) dX24_assemble_90 rfl (fun c45 => ?_) (fun c45 => ?_)
        · have K := K.1 c45
          refine r_iconst (pc := 98) (x := 0) dX24_assemble_98 rfl ?_
          refine r_istore_n (pc := 99) (lv' := [_, _, _, _, _]) dX24_assemble_99 (by decide) rfl ?_
          refine r_mask (pc := 100) [true, true, true, true, false] rfl ?_
          exact K
        · have K := K.2 c45
          refine r_iload_n (pc := 93) dX24_assemble_93 rfl ?_
          refine r_iconst (pc := 94) (x := 5) dX24_assemble_94 rfl ?_
          refine r_icmp_ne (pc := 95) (tgt := 121) dX24_assemble_95 rfl (fun c46 => ?_) (fun c46 => ?_)
          · have K := K.1 c46
            refine r_aload_n (pc := 121) dX24_assemble_121 rfl ?_
            refine r_aload_n (pc := 122) dX24_assemble_122 rfl ?_
            have K := K _ rfl
            refine r_getr' (pc := 123) (T := TX24) 24 46 rfl hk39 (Or.inl q2744) dX24_assemble_123 kc24 g24046 ?_
            refine r_aload_n (pc := 126) dX24_assemble_126 rfl ?_
            refine r_geti' (pc := 127) (T := TX24) 24 92 hv44 hk39 (Or.inl q2790) dX24_assemble_127 kc24 g24092 ?_
            obtain ⟨hk48, K⟩ := K
            obtain ⟨hi49, K⟩ := K
            have K := K _ rfl
            refine r_aaload (pc := 130) (le_of_eq_r hk48 (by decide)) hi49 dX24_assemble_130 ?_
            obtain ⟨hk51, K⟩ := K
            have K := K _ rfl
            refine r_getr' (pc := 131) (T := TX28) 28 2 rfl hk51 (Or.inr (Or.inl ⟨_, q2391⟩)) dX24_assemble_131 kc28 g28002 ?_
            refine r_iconst (pc := 134) (x := 0) dX24_assemble_134 rfl ?_
            refine r_bipush (pc := 135) (x := 32) dX24_assemble_135 rfl ?_
            refine r_callV_V (pc := 137) (Y := mX24_make_2) (vs := [_, _, _]) (st := []) hk39 rfl kc24 q2314 q2316 qs66 dX24_assemble_137 rfl cd_X24_make_2 rfl rfl fp_X24_assemble_X24_make_2 K (fun h54 eh54 wh54 K => ?_) (fun x h1 _ _ e => Tw.out rfl e)
            refine r_mask (pc := 140) [true, true, true, false, false] rfl ?_
            exact K
          · have K := K.2 c46
            refine r_iconst (pc := 98) (x := 0) dX24_assemble_98 rfl ?_
            refine r_istore_n (pc := 99) (lv' := [_, _, _, _, _]) dX24_assemble_99 (by decide) rfl ?_
            refine r_mask (pc := 100) [true, true, true, true, false] rfl ?_
            exact K
    · have K := K.2 c7
      refine r_ldc_w (pc := 40) dX24_assemble_40 q2276 ?_
      refine r_goto (pc := 43) (tgt := 54) dX24_assemble_43 rfl ?_
      refine r_istore_n (pc := 54) (lv' := [_, _, _, _, _]) dX24_assemble_54 (by decide) rfl ?_
      refine r_iload_n (pc := 55) dX24_assemble_55 rfl ?_
      refine r_aload_n (pc := 56) dX24_assemble_56 rfl ?_
      have K := K _ rfl
      refine r_getr' (pc := 57) (T := TX24) 24 112 rfl hk6 (Or.inl q2810) dX24_assemble_57 kc24 g24112 ?_
      refine r_callS_I (pc := 60) (Y := mX24_target) (vs := [_, _]) (st := []) q2277 q2278 q192 dX24_assemble_60 rfl cd_X24_target rfl rfl fp_X24_assemble_X24_target K (fun x56 h57 eh57 wh57 K => ?_) (fun x h1 _ _ e => Tw.out rfl e)
      refine r_pop (pc := 63) rfl dX24_assemble_63 ?_
      refine r_aload_n (pc := 64) dX24_assemble_64 rfl ?_
      refine r_iconst (pc := 65) (x := 0) dX24_assemble_65 rfl ?_
      have hk58 := kd_ext eh57 hk6 (nz rfl)
      refine r_puti (pc := 66) (T := TX24) (key := 24107) 24 107 hk58 (Or.inl q2805) dX24_assemble_66 kc24 rfl (Or.inl rfl) (Or.inl (em rfl)) ?_
      refine r_nameH (fun h59 eh59 => ?_)
      have K := K h59 eh59
      refine r_aload_n (pc := 69) dX24_assemble_69 rfl ?_
      refine r_iload_n (pc := 70) dX24_assemble_70 rfl ?_
      refine r_iconst (pc := 71) (x := 4) dX24_assemble_71 rfl ?_
      refine r_icmp_ne (pc := 72) (tgt := 81) dX24_assemble_72 rfl (fun c60 => ?_) (fun c60 => ?_)
      · have K := K.1 c60
        refine r_lconst (pc := 81) (a := 1) dX24_assemble_81 rfl ?_
        refine r_iconst (pc := 82) (x := 4) dX24_assemble_82 rfl ?_
        have hk63 := kd_pi eh59 hk58
        refine r_callV_V (pc := 83) (Y := mX24_make) (vs := [_, _]) (st := []) hk63 rfl kc24 q2305 q2307 qs64 dX24_assemble_83 rfl cd_X24_make rfl rfl fp_X24_assemble_X24_make K (fun h62 eh62 wh62 K => ?_) (fun x h1 _ _ e => Tw.out rfl e)
        refine r_aload_n (pc := 86) dX24_assemble_86 rfl ?_
        have hk64 := kd_ext eh62 hk63 (nz rfl)
        have hv65 := fi_self (key := 24092) hk6
        have hv66 := (fi_ext (key := 24092) eh57 hk6 (nz rfl) (ne0 wh57 hk58 (nz rfl)) (nm rfl)).trans hv65
        have hv67 := fi_pi (key := 24092) eh59 (by decide) hv66
        have hv68 := (fi_ext (key := 24092) eh62 hk63 (nz rfl) (ne0 wh62 hk64 (nz rfl)) (nm rfl)).trans hv67
        refine r_geti' (pc := 87) (T := TX24) 24 92 hv68 hk64 (Or.inl q2790) dX24_assemble_87 kc24 g24092 ?_
        refine r_if_lt (pc := 90) (tgt := 98) dX24_assemble_90 rfl (fun c69 => ?_) (fun c69 => ?_)
        · have K := K.1 c69
          refine r_iconst (pc := 98) (x := 0) dX24_assemble_98 rfl ?_
          refine r_istore_n (pc := 99) (lv' := [_, _, _, _, _]) dX24_assemble_99 (by decide) rfl ?_
          refine r_mask (pc := 100) [true, true, true, true, false] rfl ?_
          exact K
        · have K := K.2 c69
          refine r_iload_n (pc := 93) dX24_assemble_93 rfl ?_
          refine r_iconst (pc := 94) (x := 5) dX24_assemble_94 rfl ?_
          refine r_icmp_ne (pc := 95) (tgt := 121) dX24_assemble_95 rfl (fun c70 => ?_) (fun c70 => ?_)
          · have K := K.1 c70
            refine r_aload_n (pc := 121) dX24_assemble_121 rfl ?_
            refine r_aload_n (pc := 122) dX24_assemble_122 rfl ?_
            have K := K _ rfl
            refine r_getr' (pc := 123) (T := TX24) 24 46 rfl hk64 (Or.inl q2744) dX24_assemble_123 kc24 g24046 ?_
            refine r_aload_n (pc := 126) dX24_assemble_126 rfl ?_
            refine r_geti' (pc := 127) (T := TX24) 24 92 hv68 hk64 (Or.inl q2790) dX24_assemble_127 kc24 g24092 ?_
            obtain ⟨hk72, K⟩ := K
            obtain ⟨hi73, K⟩ := K
            have K := K _ rfl
            refine r_aaload (pc := 130) (le_of_eq_r hk72 (by decide)) hi73 dX24_assemble_130 ?_
            obtain ⟨hk75, K⟩ := K
            have K := K _ rfl
            refine r_getr' (pc := 131) (T := TX28) 28 2 rfl hk75 (Or.inr (Or.inl ⟨_, q2391⟩)) dX24_assemble_131 kc28 g28002 ?_
            refine r_iconst (pc := 134) (x := 0) dX24_assemble_134 rfl ?_
            refine r_bipush (pc := 135) (x := 32) dX24_assemble_135 rfl ?_
            refine r_callV_V (pc := 137) (Y := mX24_make_2) (vs := [_, _, _]) (st := []) hk64 rfl kc24 q2314 q2316 qs66 dX24_assemble_137 rfl cd_X24_make_2 rfl rfl fp_X24_assemble_X24_make_2 K (fun h78 eh78 wh78 K => ?_) (fun x h1 _ _ e => Tw.out rfl e)
            refine r_mask (pc := 140) [true, true, true, false, false] rfl ?_
            exact K
          · have K := K.2 c70
            refine r_iconst (pc := 98) (x := 0) dX24_assemble_98 rfl ?_
            refine r_istore_n (pc := 99) (lv' := [_, _, _, _, _]) dX24_assemble_99 (by decide) rfl ?_
            refine r_mask (pc := 100) [true, true, true, true, false] rfl ?_
            exact K
      · have K := K.2 c60
        refine r_ldc2 (pc := 75) dX24_assemble_75 q2372 ?_
        refine r_goto (pc := 78) (tgt := 82) dX24_assemble_78 rfl ?_
        refine r_iconst (pc := 82) (x := 4) dX24_assemble_82 rfl ?_
        have hk81 := kd_pi eh59 hk58
        refine r_callV_V (pc := 83) (Y := mX24_make) (vs := [_, _]) (st := []) hk81 rfl kc24 q2305 q2307 qs64 dX24_assemble_83 rfl cd_X24_make rfl rfl fp_X24_assemble_X24_make K (fun h80 eh80 wh80 K => ?_) (fun x h1 _ _ e => Tw.out rfl e)
        refine r_aload_n (pc := 86) dX24_assemble_86 rfl ?_
        have hk82 := kd_ext eh80 hk81 (nz rfl)
        have hv83 := fi_self (key := 24092) hk6
        have hv84 := (fi_ext (key := 24092) eh57 hk6 (nz rfl) (ne0 wh57 hk58 (nz rfl)) (nm rfl)).trans hv83
        have hv85 := fi_pi (key := 24092) eh59 (by decide) hv84
        have hv86 := (fi_ext (key := 24092) eh80 hk81 (nz rfl) (ne0 wh80 hk82 (nz rfl)) (nm rfl)).trans hv85
        refine r_geti' (pc := 87) (T := TX24) 24 92 hv86 hk82 (Or.inl q2790) dX24_assemble_87 kc24 g24092 ?_
        refine r_if_lt (pc := 90) (tgt := 98) dX24_assemble_90 rfl (fun c87 => ?_) (fun c87 => ?_)
        · have K := K.1 c87
          refine r_iconst (pc := 98) (x := 0) dX24_assemble_98 rfl ?_
          refine r_istore_n (pc := 99) (lv' := [_, _, _, _, _]) dX24_assemble_99 (by decide) rfl ?_
          refine r_mask (pc := 100) [true, true, true, true, false] rfl ?_
          exact K
        · have K := K.2 c87
          refine r_iload_n (pc := 93) dX24_assemble_93 rfl ?_
          refine r_iconst (pc := 94) (x := 5) dX24_assemble_94 rfl ?_
          refine r_icmp_ne (pc := 95) (tgt := 121) dX24_assemble_95 rfl (fun c88 => ?_) (fun c88 => ?_)
          · have K := K.1 c88
            refine r_aload_n (pc := 121) dX24_assemble_121 rfl ?_
            refine r_aload_n (pc := 122) dX24_assemble_122 rfl ?_
            have K := K _ rfl
            refine r_getr' (pc := 123) (T := TX24) 24 46 rfl hk82 (Or.inl q2744) dX24_assemble_123 kc24 g24046 ?_
            refine r_aload_n (pc := 126) dX24_assemble_126 rfl ?_
            refine r_geti' (pc := 127) (T := TX24) 24 92 hv86 hk82 (Or.inl q2790) dX24_assemble_127 kc24 g24092 ?_
            obtain ⟨hk90, K⟩ := K
            obtain ⟨hi91, K⟩ := K
            have K := K _ rfl
            refine r_aaload (pc := 130) (le_of_eq_r hk90 (by decide)) hi91 dX24_assemble_130 ?_
            obtain ⟨hk93, K⟩ := K
            have K := K _ rfl
            refine r_getr' (pc := 131) (T := TX28) 28 2 rfl hk93 (Or.inr (Or.inl ⟨_, q2391⟩)) dX24_assemble_131 kc28 g28002 ?_
            refine r_iconst (pc := 134) (x := 0) dX24_assemble_134 rfl ?_
            refine r_bipush (pc := 135) (x := 32) dX24_assemble_135 rfl ?_
            refine r_callV_V (pc := 137) (Y := mX24_make_2) (vs := [_, _, _]) (st := []) hk82 rfl kc24 q2314 q2316 qs66 dX24_assemble_137 rfl cd_X24_make_2 rfl rfl fp_X24_assemble_X24_make_2 K (fun h96 eh96 wh96 K => ?_) (fun x h1 _ _ e => Tw.out rfl e)
            refine r_mask (pc := 140) [true, true, true, false, false] rfl ?_
            exact K
          · have K := K.2 c88
            refine r_iconst (pc := 98) (x := 0) dX24_assemble_98 rfl ?_
            refine r_istore_n (pc := 99) (lv' := [_, _, _, _, _]) dX24_assemble_99 (by decide) rfl ?_
            refine r_mask (pc := 100) [true, true, true, true, false] rfl ?_
            exact K
  · have K := K.2 c2
    refine r_aload_n (pc := 10) dX24_assemble_10 rfl ?_
    refine r_iload_n (pc := 11) dX24_assemble_11 rfl ?_
    refine r_callV_V (pc := 12) (Y := mX24_draftId) (vs := [_]) (st := []) hk1 rfl kc24 q2297 q2299 qs62 dX24_assemble_12 rfl cd_X24_draftId rfl rfl fp_X24_assemble_X24_draftId K (fun h98 eh98 wh98 K => ?_) (fun x h1 _ _ e => Tw.out rfl e)
    refine r_iinc (pc := 15) (lv' := [_, _, _, _, _]) dX24_assemble_15 rfl rfl (by decide) rfl ?_
    refine r_goto (pc := 18) (tgt := 2) dX24_assemble_18 rfl ?_
    refine r_mask (pc := 2) [true, true, true, false, false] rfl ?_
    exact K
set_option maxHeartbeats 4000000 in
theorem sX24_assemble_100 {G : Gx} {d t : Nat} {h0 : AH} {Φ : Out → AH → Prop} (h : AH) (v0 : Nat) (v1 : Int32) (v2 : Int32) (v3 : Int32) (K : ((4 ≤ v3 → Aw G mX24_assemble (d + 1) t h0 Φ 140 [vR v0, vI v1, vI v2, vU, vU] [] h) ∧ (¬ 4 ≤ v3 → h.kd v0 = 24 ∧ Cw G mX24_make d 0 [vR v0, vJ 0, vI 8] h (kV (fun h3 => Aw G mX24_assemble (d + 1) t h0 Φ 100 [vR v0, vI v1, vI v2, vI (v3 + 1), vU] [] h3) (fun x h => Φ (.inr x) h))))) : Aw G mX24_assemble (d + 1) t h0 Φ 100 [vR v0, vI v1, vI v2, vI v3, vU] [] h := by
  refine r_iload_n (pc := 100) dX24_assemble_100 rfl ?_
  refine r_iconst (pc := 101) (x := 4) dX24_assemble_101 rfl ?_
  refine r_icmp_ge (pc := 102) (tgt := 118) dX24_assemble_102 rfl (fun c1 => ?_) (fun c1 => ?_)
  · have K := K.1 c1
    refine r_goto (pc := 118) (tgt := 140) dX24_assemble_118 rfl ?_
    refine r_mask (pc := 140) [true, true, true, false, false] rfl ?_
    exact K
  · have K := K.2 c1
    refine r_aload_n (pc := 105) dX24_assemble_105 rfl ?_
    refine r_lconst (pc := 106) (a := 0) dX24_assemble_106 rfl ?_
    refine r_bipush (pc := 107) (x := 8) dX24_assemble_107 rfl ?_
    obtain ⟨hk4, K⟩ := K
    refine r_callV_V (pc := 109) (Y := mX24_make) (vs := [_, _]) (st := []) hk4 rfl kc24 q2305 q2307 qs64 dX24_assemble_109 rfl cd_X24_make rfl rfl fp_X24_assemble_X24_make K (fun h3 eh3 wh3 K => ?_) (fun x h1 _ _ e => Tw.out rfl e)
    refine r_iinc (pc := 112) (lv' := [_, _, _, _, _]) dX24_assemble_112 rfl rfl (by decide) rfl ?_
    refine r_goto (pc := 115) (tgt := 100) dX24_assemble_115 rfl ?_
    refine r_mask (pc := 100) [true, true, true, true, false] rfl ?_
    exact K
set_option maxHeartbeats 4000000 in
theorem sX24_assemble_140 {G : Gx} {d t : Nat} {h0 : AH} {Φ : Out → AH → Prop} (h : AH) (v0 : Nat) (v1 : Int32) (v2 : Int32) (K : h.kd v0 = 24 ∧ ∀ r2 : Nat, r2 = (h.r 24060 v0) → Cw G mX24_make_2 d 0 [vR v0, vR r2, vI 0, vI 32] h (kV (fun h4 => ((¬ v1 = 1 → Aw G mX24_assemble (d + 1) t h0 Φ 168 [vR v0, vI v1, vI v2, vU, vU] [] h4) ∧ (v1 = 1 → ∀ r7 : Nat, r7 = (h4.r 24106 v0) → h4.kd r7 = 101 ∧ vp_in 36 (h4.ai r7).length ∧ vp_in 36 (h4.ai r7).length ∧ ∀ h11 : AH, h11 = h4.wi r7 ((h4.ai r7).set ((36 : Int32).toNatClampNeg) (i2b (i2b (((h4.ai r7).getD ((36 : Int32).toNatClampNeg) 0) + 1)))) → Aw G mX24_assemble (d + 1) t h0 Φ 168 [vR v0, vI v1, vI v2, vU, vU] [] h11))) (fun x h => Φ (.inr x) h))) : Aw G mX24_assemble (d + 1) t h0 Φ 140 [vR v0, vI v1, vI v2, vU, vU] [] h := by
  refine r_aload_n (pc := 140) dX24_assemble_140 rfl ?_
  refine r_aload_n (pc := 141) dX24_assemble_141 rfl ?_
  obtain ⟨hk1, K⟩ := K
  have K := K _ rfl
  refine r_getr' (pc := 142) (T := TX24) 24 60 rfl hk1 (Or.inl q2758) dX24_assemble_142 kc24 g24060 ?_
  refine r_iconst (pc := 145) (x := 0) dX24_assemble_145 rfl ?_
  refine r_bipush (pc := 146) (x := 32) dX24_assemble_146 rfl ?_
  refine r_callV_V (pc := 148) (Y := mX24_make_2) (vs := [_, _, _]) (st := []) hk1 rfl kc24 q2314 q2316 qs66 dX24_assemble_148 rfl cd_X24_make_2 rfl rfl fp_X24_assemble_X24_make_2 K (fun h4 eh4 wh4 K => ?_) (fun x h1 _ _ e => Tw.out rfl e)
  refine r_iload_n (pc := 151) dX24_assemble_151 rfl ?_
  refine r_iconst (pc := 152) (x := 1) dX24_assemble_152 rfl ?_
  refine r_icmp_ne (pc := 153) (tgt := 168) dX24_assemble_153 rfl (fun c5 => ?_) (fun c5 => ?_)
  · have K := K.1 c5
    refine r_mask (pc := 168) [true, true, true, false, false] rfl ?_
    exact K
  · have K := K.2 c5
    refine r_aload_n (pc := 156) dX24_assemble_156 rfl ?_
    have hk6 := kd_ext eh4 hk1 (nz rfl)
    have K := K _ rfl
    refine r_getr' (pc := 157) (T := TX24) 24 106 rfl hk6 (Or.inl q2804) dX24_assemble_157 kc24 g24106 ?_
    refine r_bipush (pc := 160) (x := 36) dX24_assemble_160 rfl ?_
    refine r_dup2 (pc := 162) rfl rfl dX24_assemble_162 ?_
    obtain ⟨hk8, K⟩ := K
    obtain ⟨hi9, K⟩ := K
    refine r_baload (pc := 163) hk8 hi9 dX24_assemble_163 ?_
    refine r_iconst (pc := 164) (x := 1) dX24_assemble_164 rfl ?_
    refine r_iadd (pc := 165) dX24_assemble_165 ?_
    refine r_ji2b (pc := 166) dX24_assemble_166 ?_
    obtain ⟨hi10, K⟩ := K
    refine r_jbast (pc := 167) hk8 hi10 (Or.inl (em rfl)) dX24_assemble_167 ?_
    refine r_nameH (fun h11 eh11 => ?_)
    have K := K h11 eh11
    refine r_mask (pc := 168) [true, true, true, false, false] rfl ?_
    exact K
set_option maxHeartbeats 4000000 in
theorem sX24_assemble_168 {G : Gx} {d t : Nat} {h0 : AH} {Φ : Out → AH → Prop} (h : AH) (v0 : Nat) (v1 : Int32) (v2 : Int32) (K : h.kd v0 = 24 ∧ Cw G mX24_make d 0 [vR v0, vJ (h.l 24093 v0), vI 4] h (kV (fun h3 => ((¬ v1 = 2 → Cw G mX24_make d 0 [vR v0, vJ v2.toInt64, vI 4] h3 (kV (fun h6 => Cw G mX24_make d 0 [vR v0, vJ 0, vI 4] h6 (kV (fun h9 => Cw G mX24_makeCount d 0 [vR v0, vI (h9.i 24094 v0)] h9 (kV (fun h13 => Aw G mX24_assemble (d + 1) t h0 Φ 212 [vR v0, vI v1, vU, vI 0, vU] [] h13) (fun x h => Φ (.inr x) h))) (fun x h => Φ (.inr x) h))) (fun x h => Φ (.inr x) h))) ∧ (v1 = 2 → Cw G mX24_make d 0 [vR v0, vJ (v2.toInt64 - 1), vI 4] h3 (kV (fun h15 => Cw G mX24_make d 0 [vR v0, vJ 0, vI 4] h15 (kV (fun h18 => Cw G mX24_makeCount d 0 [vR v0, vI (h18.i 24094 v0)] h18 (kV (fun h22 => Aw G mX24_assemble (d + 1) t h0 Φ 212 [vR v0, vI v1, vU, vI 0, vU] [] h22) (fun x h => Φ (.inr x) h))) (fun x h => Φ (.inr x) h))) (fun x h => Φ (.inr x) h))))) (fun x h => Φ (.inr x) h))) : Aw G mX24_assemble (d + 1) t h0 Φ 168 [vR v0, vI v1, vI v2, vU, vU] [] h := by
  refine r_aload_n (pc := 168) dX24_assemble_168 rfl ?_
  refine r_aload_n (pc := 169) dX24_assemble_169 rfl ?_
  obtain ⟨hk1, K⟩ := K
  refine r_getl' (pc := 170) (T := TX24) 24 93 rfl hk1 (Or.inl q2791) dX24_assemble_170 kc24 g24093 ?_
  refine r_iconst (pc := 173) (x := 4) dX24_assemble_173 rfl ?_
  refine r_callV_V (pc := 174) (Y := mX24_make) (vs := [_, _]) (st := []) hk1 rfl kc24 q2305 q2307 qs64 dX24_assemble_174 rfl cd_X24_make rfl rfl fp_X24_assemble_X24_make K (fun h3 eh3 wh3 K => ?_) (fun x h1 _ _ e => Tw.out rfl e)
  refine r_aload_n (pc := 177) dX24_assemble_177 rfl ?_
  refine r_iload_n (pc := 178) dX24_assemble_178 rfl ?_
  refine r_iconst (pc := 179) (x := 2) dX24_assemble_179 rfl ?_
  refine r_icmp_ne (pc := 180) (tgt := 190) dX24_assemble_180 rfl (fun c4 => ?_) (fun c4 => ?_)
  · have K := K.1 c4
    refine r_iload_n (pc := 190) dX24_assemble_190 rfl ?_
    refine r_i2l (pc := 191) dX24_assemble_191 ?_
    refine r_iconst (pc := 192) (x := 4) dX24_assemble_192 rfl ?_
    have hk7 := kd_ext eh3 hk1 (nz rfl)
    refine r_callV_V (pc := 193) (Y := mX24_make) (vs := [_, _]) (st := []) hk7 rfl kc24 q2305 q2307 qs64 dX24_assemble_193 rfl cd_X24_make rfl rfl fp_X24_assemble_X24_make K (fun h6 eh6 wh6 K => ?_) (fun x h1 _ _ e => Tw.out rfl e)
    refine r_aload_n (pc := 196) dX24_assemble_196 rfl ?_
    refine r_lconst (pc := 197) (a := 0) dX24_assemble_197 rfl ?_
    refine r_iconst (pc := 198) (x := 4) dX24_assemble_198 rfl ?_
    have hk10 := kd_ext eh6 hk7 (nz rfl)
    refine r_callV_V (pc := 199) (Y := mX24_make) (vs := [_, _]) (st := []) hk10 rfl kc24 q2305 q2307 qs64 dX24_assemble_199 rfl cd_X24_make rfl rfl fp_X24_assemble_X24_make K (fun h9 eh9 wh9 K => ?_) (fun x h1 _ _ e => Tw.out rfl e)
    refine r_aload_n (pc := 202) dX24_assemble_202 rfl ?_
    refine r_aload_n (pc := 203) dX24_assemble_203 rfl ?_
    have hk11 := kd_ext eh9 hk10 (nz rfl)
    refine r_geti' (pc := 204) (T := TX24) 24 94 rfl hk11 (Or.inl q2792) dX24_assemble_204 kc24 g24094 ?_
    refine r_callV_V (pc := 207) (Y := mX24_makeCount) (vs := [_]) (st := []) hk11 rfl kc24 q2309 q2311 qs65 dX24_assemble_207 rfl cd_X24_makeCount rfl rfl fp_X24_assemble_X24_makeCount K (fun h13 eh13 wh13 K => ?_) (fun x h1 _ _ e => Tw.out rfl e)
    refine r_iconst (pc := 210) (x := 0) dX24_assemble_210 rfl ?_
    refine r_istore_n (pc := 211) (lv' := [_, _, _, _, _]) dX24_assemble_211 (by decide) rfl ?_
    refine r_mask (pc := 212) [true, true, false, true, false] rfl ?_
    exact K
  · have K := K.2 c4
    refine r_iload_n (pc := 183) dX24_assemble_183 rfl ?_
    refine r_i2l (pc := 184) dX24_assemble_184 ?_
    refine r_lconst (pc := 185) (a := 1) dX24_assemble_185 rfl ?_
    refine r_lsub (pc := 186) dX24_assemble_186 ?_
    refine r_goto (pc := 187) (tgt := 192) dX24_assemble_187 rfl ?_
    refine r_iconst (pc := 192) (x := 4) dX24_assemble_192 rfl ?_
    have hk16 := kd_ext eh3 hk1 (nz rfl)
    refine r_callV_V (pc := 193) (Y := mX24_make) (vs := [_, _]) (st := []) hk16 rfl kc24 q2305 q2307 qs64 dX24_assemble_193 rfl cd_X24_make rfl rfl fp_X24_assemble_X24_make K (fun h15 eh15 wh15 K => ?_) (fun x h1 _ _ e => Tw.out rfl e)
    refine r_aload_n (pc := 196) dX24_assemble_196 rfl ?_
    refine r_lconst (pc := 197) (a := 0) dX24_assemble_197 rfl ?_
    refine r_iconst (pc := 198) (x := 4) dX24_assemble_198 rfl ?_
    have hk19 := kd_ext eh15 hk16 (nz rfl)
    refine r_callV_V (pc := 199) (Y := mX24_make) (vs := [_, _]) (st := []) hk19 rfl kc24 q2305 q2307 qs64 dX24_assemble_199 rfl cd_X24_make rfl rfl fp_X24_assemble_X24_make K (fun h18 eh18 wh18 K => ?_) (fun x h1 _ _ e => Tw.out rfl e)
    refine r_aload_n (pc := 202) dX24_assemble_202 rfl ?_
    refine r_aload_n (pc := 203) dX24_assemble_203 rfl ?_
    have hk20 := kd_ext eh18 hk19 (nz rfl)
    refine r_geti' (pc := 204) (T := TX24) 24 94 rfl hk20 (Or.inl q2792) dX24_assemble_204 kc24 g24094 ?_
    refine r_callV_V (pc := 207) (Y := mX24_makeCount) (vs := [_]) (st := []) hk20 rfl kc24 q2309 q2311 qs65 dX24_assemble_207 rfl cd_X24_makeCount rfl rfl fp_X24_assemble_X24_makeCount K (fun h22 eh22 wh22 K => ?_) (fun x h1 _ _ e => Tw.out rfl e)
    refine r_iconst (pc := 210) (x := 0) dX24_assemble_210 rfl ?_
    refine r_istore_n (pc := 211) (lv' := [_, _, _, _, _]) dX24_assemble_211 (by decide) rfl ?_
    refine r_mask (pc := 212) [true, true, false, true, false] rfl ?_
    exact K
set_option maxHeartbeats 4000000 in
theorem sX24_assemble_212 {G : Gx} {d t : Nat} {h0 : AH} {Φ : Out → AH → Prop} (h : AH) (v0 : Nat) (v1 : Int32) (v3 : Int32) (K : h.kd v0 = 24 ∧ (((h.i 24094 v0) ≤ v3 → Aw G mX24_assemble (d + 1) t h0 Φ 233 [vR v0, vI v1, vU, vI 0, vU] [] h) ∧ (¬ (h.i 24094 v0) ≤ v3 → Cw G mX24_makeTx d 0 [vR v0, vI v3] h (kV (fun h4 => Aw G mX24_assemble (d + 1) t h0 Φ 212 [vR v0, vI v1, vU, vI (v3 + 1), vU] [] h4) (fun x h => Φ (.inr x) h))))) : Aw G mX24_assemble (d + 1) t h0 Φ 212 [vR v0, vI v1, vU, vI v3, vU] [] h := by
  refine r_iload_n (pc := 212) dX24_assemble_212 rfl ?_
  refine r_aload_n (pc := 213) dX24_assemble_213 rfl ?_
  obtain ⟨hk1, K⟩ := K
  refine r_geti' (pc := 214) (T := TX24) 24 94 rfl hk1 (Or.inl q2792) dX24_assemble_214 kc24 g24094 ?_
  refine r_icmp_ge (pc := 217) (tgt := 231) dX24_assemble_217 rfl (fun c2 => ?_) (fun c2 => ?_)
  · have K := K.1 c2
    refine r_iconst (pc := 231) (x := 0) dX24_assemble_231 rfl ?_
    refine r_istore_n (pc := 232) (lv' := [_, _, _, _, _]) dX24_assemble_232 (by decide) rfl ?_
    refine r_mask (pc := 233) [true, true, false, true, false] rfl ?_
    exact K
  · have K := K.2 c2
    refine r_aload_n (pc := 220) dX24_assemble_220 rfl ?_
    refine r_iload_n (pc := 221) dX24_assemble_221 rfl ?_
    refine r_callV_V (pc := 222) (Y := mX24_makeTx) (vs := [_]) (st := []) hk1 rfl kc24 q2301 q2303 qs63 dX24_assemble_222 rfl cd_X24_makeTx rfl rfl fp_X24_assemble_X24_makeTx K (fun h4 eh4 wh4 K => ?_) (fun x h1 _ _ e => Tw.out rfl e)
    refine r_iinc (pc := 225) (lv' := [_, _, _, _, _]) dX24_assemble_225 rfl rfl (by decide) rfl ?_
    refine r_goto (pc := 228) (tgt := 212) dX24_assemble_228 rfl ?_
    refine r_mask (pc := 212) [true, true, false, true, false] rfl ?_
    exact K
set_option maxHeartbeats 4000000 in
theorem sX24_assemble_233 {G : Gx} {d t : Nat} {h0 : AH} {Φ : Out → AH → Prop} (h : AH) (v0 : Nat) (v1 : Int32) (v3 : Int32) (K : ((4096 ≤ v3 → Φ (.inl none) h) ∧ (¬ 4096 ≤ v3 → Aw G mX24_assemble (d + 1) t h0 Φ 243 [vR v0, vI v1, vU, vI v3, vI 0] [] h))) : Aw G mX24_assemble (d + 1) t h0 Φ 233 [vR v0, vI v1, vU, vI v3, vU] [] h := by
  refine r_iload_n (pc := 233) dX24_assemble_233 rfl ?_
  refine r_sipush (pc := 234) (x := 4096) dX24_assemble_234 rfl ?_
  refine r_icmp_ge (pc := 237) (tgt := 341) dX24_assemble_237 rfl (fun c1 => ?_) (fun c1 => ?_)
  · have K := K.1 c1
    exact r_vret (pc := 341) rfl dX24_assemble_341 K
  · have K := K.2 c1
    refine r_iconst (pc := 240) (x := 0) dX24_assemble_240 rfl ?_
    refine r_istore (pc := 241) (lv' := [_, _, _, _, _]) dX24_assemble_241 (by decide) rfl ?_
    refine r_mask (pc := 243) [true, true, false, true, true] rfl ?_
    exact K
set_option maxHeartbeats 4000000 in
theorem sX24_assemble_243 {G : Gx} {d t : Nat} {h0 : AH} {Φ : Out → AH → Prop} (h : AH) (v0 : Nat) (v1 : Int32) (v3 : Int32) (v4 : Int32) (K : ((4 ≤ v4 → h.kd v0 = 24 ∧ ∀ r3 : Nat, r3 = (h.r 24106 v0) → ∀ r4 : Nat, r4 = (h.r 24086 v0) → Cw G mX24_again d 0 [vR v0, vR r3, vI 0, vI 80, vR r4, vI 0] h (kV (fun h6 => ∀ r10 : Nat, r10 = (h6.r 24062 v0) → Cw G mX24_fromBytes d 0 [vR r4, vI 0, vI 0, vR r10] h6 (kV (fun h12 => ∀ r16 : Nat, r16 = (h12.r 24112 v0) → Cw G mX27_compare d 0 [vR r10, vR r16] h12 (kI (fun x17 h18 => ((0 < x17 → ((¬ v1 = 3 → (((0 : Int32) = 0 → Aw G mX24_assemble (d + 1) t h0 Φ 233 [vR v0, vI v1, vU, vI (v3 + 1), vU] [] h18) ∧ (¬ (0 : Int32) = 0 → Φ (.inl none) h18))) ∧ (v1 = 3 → (((0 : Int32) = 1 → Aw G mX24_assemble (d + 1) t h0 Φ 233 [vR v0, vI v1, vU, vI (v3 + 1), vU] [] h18) ∧ (¬ (0 : Int32) = 1 → Φ (.inl none) h18))))) ∧ (¬ 0 < x17 → ((¬ v1 = 3 → (((1 : Int32) = 0 → Aw G mX24_assemble (d + 1) t h0 Φ 233 [vR v0, vI v1, vU, vI (v3 + 1), vU] [] h18) ∧ (¬ (1 : Int32) = 0 → Φ (.inl none) h18))) ∧ (v1 = 3 → (((1 : Int32) = 1 → Aw G mX24_assemble (d + 1) t h0 Φ 233 [vR v0, vI v1, vU, vI (v3 + 1), vU] [] h18) ∧ (¬ (1 : Int32) = 1 → Φ (.inl none) h18))))))) (fun x h => Φ (.inr x) h))) (fun x h => Φ (.inr x) h))) (fun x h => Φ (.inr x) h))) ∧ (¬ 4 ≤ v4 → h.kd v0 = 24 ∧ ∀ r27 : Nat, r27 = (h.r 24106 v0) → h.kd r27 = 101 ∧ vp_in (76 + v4) (h.ai r27).length ∧ ∀ h30 : AH, h30 = h.wi r27 ((h.ai r27).set ((76 + v4).toNatClampNeg) (i2b (i2b (jushr v3 (8 * v4))))) → Aw G mX24_assemble (d + 1) t h0 Φ 243 [vR v0, vI v1, vU, vI v3, vI (v4 + 1)] [] h30))) : Aw G mX24_assemble (d + 1) t h0 Φ 243 [vR v0, vI v1, vU, vI v3, vI v4] [] h := by
  refine r_iload (pc := 243) dX24_assemble_243 rfl ?_
  refine r_iconst (pc := 245) (x := 4) dX24_assemble_245 rfl ?_
  refine r_icmp_ge (pc := 246) (tgt := 273) dX24_assemble_246 rfl (fun c1 => ?_) (fun c1 => ?_)
  · have K := K.1 c1
    refine r_aload_n (pc := 273) dX24_assemble_273 rfl ?_
    refine r_aload_n (pc := 274) dX24_assemble_274 rfl ?_
    obtain ⟨hk2, K⟩ := K
    have K := K _ rfl
    refine r_getr' (pc := 275) (T := TX24) 24 106 rfl hk2 (Or.inl q2804) dX24_assemble_275 kc24 g24106 ?_
    refine r_iconst (pc := 278) (x := 0) dX24_assemble_278 rfl ?_
    refine r_bipush (pc := 279) (x := 80) dX24_assemble_279 rfl ?_
    refine r_aload_n (pc := 281) dX24_assemble_281 rfl ?_
    have K := K _ rfl
    refine r_getr' (pc := 282) (T := TX24) 24 86 rfl hk2 (Or.inl q2784) dX24_assemble_282 kc24 g24086 ?_
    refine r_iconst (pc := 285) (x := 0) dX24_assemble_285 rfl ?_
    refine r_callV_V (pc := 286) (Y := mX24_again) (vs := [_, _, _, _, _]) (st := []) hk2 rfl kc24 q2318 q2320 qs67 dX24_assemble_286 rfl cd_X24_again rfl rfl fp_X24_assemble_X24_again K (fun h6 eh6 wh6 K => ?_) (fun x h1 _ _ e => Tw.out rfl e)
    refine r_aload_n (pc := 289) dX24_assemble_289 rfl ?_
    have hk7 := kd_ext eh6 hk2 (nz rfl)
    have hv8 := fr_self (key := 24086) hk2
    have hv9 := (fr_ext (key := 24086) eh6 hk2 (nz rfl) (ne0 wh6 hk7 (nz rfl)) (nm rfl)).trans hv8
    refine r_getr' (pc := 290) (T := TX24) 24 86 hv9 hk7 (Or.inl q2784) dX24_assemble_290 kc24 g24086 ?_
    refine r_iconst (pc := 293) (x := 0) dX24_assemble_293 rfl ?_
    refine r_iconst (pc := 294) (x := 0) dX24_assemble_294 rfl ?_
    refine r_aload_n (pc := 295) dX24_assemble_295 rfl ?_
    have K := K _ rfl
    refine r_getr' (pc := 296) (T := TX24) 24 62 rfl hk7 (Or.inl q2760) dX24_assemble_296 kc24 g24062 ?_
    refine r_callS_V (pc := 299) (Y := mX24_fromBytes) (vs := [_, _, _, _]) (st := []) q2373 q2374 q192 dX24_assemble_299 rfl cd_X24_fromBytes rfl rfl fp_X24_assemble_X24_fromBytes K (fun h12 eh12 wh12 K => ?_) (fun x h1 _ _ e => Tw.out rfl e)
    refine r_aload_n (pc := 302) dX24_assemble_302 rfl ?_
    have hk13 := kd_ext eh12 hk7 (nz rfl)
    have hv14 := fr_self (key := 24062) hk7
    have hv15 := (fr_ext (key := 24062) eh12 hk7 (nz rfl) (ne0 wh12 hk13 (nz rfl)) (nm rfl)).trans hv14
    refine r_getr' (pc := 303) (T := TX24) 24 62 hv15 hk13 (Or.inl q2760) dX24_assemble_303 kc24 g24062 ?_
    refine r_aload_n (pc := 306) dX24_assemble_306 rfl ?_
    have K := K _ rfl
    refine r_getr' (pc := 307) (T := TX24) 24 112 rfl hk13 (Or.inl q2810) dX24_assemble_307 kc24 g24112 ?_
    refine r_callS_I (pc := 310) (Y := mX27_compare) (vs := [_, _]) (st := []) q2365 q2200 q195 dX24_assemble_310 rfl cd_X27_compare rfl rfl fp_X24_assemble_X27_compare K (fun x17 h18 eh18 wh18 K => ?_) (fun x h1 _ _ e => Tw.out rfl e)
    refine r_if_gt (pc := 313) (tgt := 320) dX24_assemble_313 rfl (fun c19 => ?_) (fun c19 => ?_)
    · have K := K.1 c19
      refine r_iconst (pc := 320) (x := 0) dX24_assemble_320 rfl ?_
      refine r_iload_n (pc := 321) dX24_assemble_321 rfl ?_
      refine r_iconst (pc := 322) (x := 3) dX24_assemble_322 rfl ?_
      refine r_icmp_ne (pc := 323) (tgt := 330) dX24_assemble_323 rfl (fun c20 => ?_) (fun c20 => ?_)
      · have K := K.1 c20
        refine r_iconst (pc := 330) (x := 0) dX24_assemble_330 rfl ?_
        refine r_icmp_eq (pc := 331) (tgt := 335) dX24_assemble_331 rfl (fun c21 => ?_) (fun c21 => ?_)
        · have K := K.1 c21
          refine r_iinc (pc := 335) (lv' := [_, _, _, _, _]) dX24_assemble_335 rfl rfl (by decide) rfl ?_
          refine r_goto (pc := 338) (tgt := 233) dX24_assemble_338 rfl ?_
          refine r_mask (pc := 233) [true, true, false, true, false] rfl ?_
          exact K
        · have K := K.2 c21
          exact r_vret (pc := 334) rfl dX24_assemble_334 K
      · have K := K.2 c20
        refine r_iconst (pc := 326) (x := 1) dX24_assemble_326 rfl ?_
        refine r_goto (pc := 327) (tgt := 331) dX24_assemble_327 rfl ?_
        refine r_icmp_eq (pc := 331) (tgt := 335) dX24_assemble_331 rfl (fun c22 => ?_) (fun c22 => ?_)
        · have K := K.1 c22
          refine r_iinc (pc := 335) (lv' := [_, _, _, _, _]) dX24_assemble_335 rfl rfl (by decide) rfl ?_
          refine r_goto (pc := 338) (tgt := 233) dX24_assemble_338 rfl ?_
          refine r_mask (pc := 233) [true, true, false, true, false] rfl ?_
          exact K
        · have K := K.2 c22
          exact r_vret (pc := 334) rfl dX24_assemble_334 K
    · have K := K.2 c19
      refine r_iconst (pc := 316) (x := 1) dX24_assemble_316 rfl ?_
      refine r_goto (pc := 317) (tgt := 321) dX24_assemble_317 rfl ?_
      refine r_iload_n (pc := 321) dX24_assemble_321 rfl ?_
      refine r_iconst (pc := 322) (x := 3) dX24_assemble_322 rfl ?_
      refine r_icmp_ne (pc := 323) (tgt := 330) dX24_assemble_323 rfl (fun c23 => ?_) (fun c23 => ?_)
      · have K := K.1 c23
        refine r_iconst (pc := 330) (x := 0) dX24_assemble_330 rfl ?_
        refine r_icmp_eq (pc := 331) (tgt := 335) dX24_assemble_331 rfl (fun c24 => ?_) (fun c24 => ?_)
        · have K := K.1 c24
          refine r_iinc (pc := 335) (lv' := [_, _, _, _, _]) dX24_assemble_335 rfl rfl (by decide) rfl ?_
          refine r_goto (pc := 338) (tgt := 233) dX24_assemble_338 rfl ?_
          refine r_mask (pc := 233) [true, true, false, true, false] rfl ?_
          exact K
        · have K := K.2 c24
          exact r_vret (pc := 334) rfl dX24_assemble_334 K
      · have K := K.2 c23
        refine r_iconst (pc := 326) (x := 1) dX24_assemble_326 rfl ?_
        refine r_goto (pc := 327) (tgt := 331) dX24_assemble_327 rfl ?_
        refine r_icmp_eq (pc := 331) (tgt := 335) dX24_assemble_331 rfl (fun c25 => ?_) (fun c25 => ?_)
        · have K := K.1 c25
          refine r_iinc (pc := 335) (lv' := [_, _, _, _, _]) dX24_assemble_335 rfl rfl (by decide) rfl ?_
          refine r_goto (pc := 338) (tgt := 233) dX24_assemble_338 rfl ?_
          refine r_mask (pc := 233) [true, true, false, true, false] rfl ?_
          exact K
        · have K := K.2 c25
          exact r_vret (pc := 334) rfl dX24_assemble_334 K
  · have K := K.2 c1
    refine r_aload_n (pc := 249) dX24_assemble_249 rfl ?_
    obtain ⟨hk26, K⟩ := K
    have K := K _ rfl
    refine r_getr' (pc := 250) (T := TX24) 24 106 rfl hk26 (Or.inl q2804) dX24_assemble_250 kc24 g24106 ?_
    refine r_bipush (pc := 253) (x := 76) dX24_assemble_253 rfl ?_
    refine r_iload (pc := 255) dX24_assemble_255 rfl ?_
    refine r_iadd (pc := 257) dX24_assemble_257 ?_
    refine r_iload_n (pc := 258) dX24_assemble_258 rfl ?_
    refine r_bipush (pc := 259) (x := 8) dX24_assemble_259 rfl ?_
    refine r_iload (pc := 261) dX24_assemble_261 rfl ?_
    refine r_imul (pc := 263) dX24_assemble_263 ?_
    refine r_jushr (pc := 264) dX24_assemble_264 ?_
    refine r_ji2b (pc := 265) dX24_assemble_265 ?_
    obtain ⟨hk28, K⟩ := K
    obtain ⟨hi29, K⟩ := K
    refine r_jbast (pc := 266) hk28 hi29 (Or.inl (em rfl)) dX24_assemble_266 ?_
    refine r_nameH (fun h30 eh30 => ?_)
    have K := K h30 eh30
    refine r_iinc (pc := 267) (lv' := [_, _, _, _, _]) dX24_assemble_267 rfl rfl (by decide) rfl ?_
    refine r_goto (pc := 270) (tgt := 243) dX24_assemble_270 rfl ?_
    refine r_mask (pc := 243) [true, true, false, true, true] rfl ?_
    exact K
theorem dX24_alike_0 : decode cX24_alike 0 = .ok (.iconst 0, 1) := by decide +kernel
theorem dX24_alike_1 : decode cX24_alike 1 = .ok (.istore 5, 2) := by decide +kernel
theorem dX24_alike_3 : decode cX24_alike 3 = .ok (.iload 5, 2) := by decide +kernel
theorem dX24_alike_5 : decode cX24_alike 5 = .ok (.iload 4, 2) := by decide +kernel
theorem dX24_alike_7 : decode cX24_alike 7 = .ok (.if_icmp .ge 26, 3) := by decide +kernel
theorem dX24_alike_10 : decode cX24_alike 10 = .ok (.aload_n 0, 1) := by decide +kernel
theorem dX24_alike_11 : decode cX24_alike 11 = .ok (.iload_n 1, 1) := by decide +kernel
theorem dX24_alike_12 : decode cX24_alike 12 = .ok (.iload 5, 2) := by decide +kernel
theorem dX24_alike_14 : decode cX24_alike 14 = .ok (.iadd, 1) := by decide +kernel
theorem dX24_alike_15 : decode cX24_alike 15 = .ok (.baload, 1) := by decide +kernel
theorem dX24_alike_16 : decode cX24_alike 16 = .ok (.aload_n 2, 1) := by decide +kernel
theorem dX24_alike_17 : decode cX24_alike 17 = .ok (.iload_n 3, 1) := by decide +kernel
theorem dX24_alike_18 : decode cX24_alike 18 = .ok (.iload 5, 2) := by decide +kernel
theorem dX24_alike_20 : decode cX24_alike 20 = .ok (.iadd, 1) := by decide +kernel
theorem dX24_alike_21 : decode cX24_alike 21 = .ok (.baload, 1) := by decide +kernel
theorem dX24_alike_22 : decode cX24_alike 22 = .ok (.if_icmp .eq 5, 3) := by decide +kernel
theorem dX24_alike_25 : decode cX24_alike 25 = .ok (.iconst 0, 1) := by decide +kernel
theorem dX24_alike_26 : decode cX24_alike 26 = .ok (.ireturn, 1) := by decide +kernel
theorem dX24_alike_27 : decode cX24_alike 27 = .ok (.iinc 5 1, 3) := by decide +kernel
theorem dX24_alike_30 : decode cX24_alike 30 = .ok (.goto (-27), 3) := by decide +kernel
theorem dX24_alike_33 : decode cX24_alike 33 = .ok (.iconst 1, 1) := by decide +kernel
theorem dX24_alike_34 : decode cX24_alike 34 = .ok (.ireturn, 1) := by decide +kernel
/-! CoinJudgeModel.alike([BI[BII)Z -/
set_option maxHeartbeats 4000000 in
theorem sX24_alike_0 {G : Gx} {d t : Nat} {h0 : AH} {Φ : Out → AH → Prop} (h : AH) (v0 : Nat) (v1 : Int32) (v2 : Nat) (v3 : Int32) (v4 : Int32) (K : Aw G mX24_alike (d + 1) t h0 Φ 3 [vR v0, vI v1, vR v2, vI v3, vI v4, vI 0] [] h) : Aw G mX24_alike (d + 1) t h0 Φ 0 [vR v0, vI v1, vR v2, vI v3, vI v4, vU] [] h := by
  refine r_iconst (pc := 0) (x := 0) dX24_alike_0 rfl ?_
  refine r_istore (pc := 1) (lv' := [_, _, _, _, _, _]) dX24_alike_1 (by decide) rfl ?_
  refine r_mask (pc := 3) [true, true, true, true, true, true] rfl ?_
  exact K
theorem eX24_alike {G : Gx} {d : Nat} {Φ : Out → AH → Prop} (h : AH) (v0 : Nat) (v1 : Int32) (v2 : Nat) (v3 : Int32) (v4 : Int32) (K : WF G h → Aw G mX24_alike (d + 1) 0 h Φ 0 [vR v0, vI v1, vR v2, vI v3, vI v4, vU] [] h) : Cw G mX24_alike (d + 1) 0 [vR v0, vI v1, vR v2, vI v3, vI v4] h Φ := Cw.of rfl K
set_option maxHeartbeats 4000000 in
theorem sX24_alike_3 {G : Gx} {d t : Nat} {h0 : AH} {Φ : Out → AH → Prop} (h : AH) (v0 : Nat) (v1 : Int32) (v2 : Nat) (v3 : Int32) (v4 : Int32) (v5 : Int32) (K : ((v4 ≤ v5 → Φ (.inl (some (vI 1))) h) ∧ (¬ v4 ≤ v5 → h.kd v0 = 101 ∧ vp_in (v1 + v5) (h.ai v0).length ∧ h.kd v2 = 101 ∧ vp_in (v3 + v5) (h.ai v2).length ∧ ((((h.ai v0).getD ((v1 + v5).toNatClampNeg) 0) = ((h.ai v2).getD ((v3 + v5).toNatClampNeg) 0) → Aw G mX24_alike (d + 1) t h0 Φ 3 [vR v0, vI v1, vR v2, vI v3, vI v4, vI (v5 + 1)] [] h) ∧ (¬ ((h.ai v0).getD ((v1 + v5).toNatClampNeg) 0) = ((h.ai v2).getD ((v3 + v5).toNatClampNeg) 0) → Φ (.inl (some (vI 0))) h))))) : Aw G mX24_alike (d + 1) t h0 Φ 3 [vR v0, vI v1, vR v2, vI v3, vI v4, vI v5] [] h := by
  refine r_iload (pc := 3) dX24_alike_3 rfl ?_
  refine r_iload (pc := 5) dX24_alike_5 rfl ?_
  refine r_icmp_ge (pc := 7) (tgt := 33) dX24_alike_7 rfl (fun c1 => ?_) (fun c1 => ?_)
  · have K := K.1 c1
    refine r_iconst (pc := 33) (x := 1) dX24_alike_33 rfl ?_
    exact r_iret (pc := 34) rfl rfl dX24_alike_34 K
  · have K := K.2 c1
    refine r_aload_n (pc := 10) dX24_alike_10 rfl ?_
    refine r_iload_n (pc := 11) dX24_alike_11 rfl ?_
    refine r_iload (pc := 12) dX24_alike_12 rfl ?_
    refine r_iadd (pc := 14) dX24_alike_14 ?_
    obtain ⟨hk2, K⟩ := K
    obtain ⟨hi3, K⟩ := K
    refine r_baload (pc := 15) hk2 hi3 dX24_alike_15 ?_
    refine r_aload_n (pc := 16) dX24_alike_16 rfl ?_
    refine r_iload_n (pc := 17) dX24_alike_17 rfl ?_
    refine r_iload (pc := 18) dX24_alike_18 rfl ?_
    refine r_iadd (pc := 20) dX24_alike_20 ?_
    obtain ⟨hk4, K⟩ := K
    obtain ⟨hi5, K⟩ := K
    refine r_baload (pc := 21) hk4 hi5 dX24_alike_21 ?_
    refine r_icmp_eq (pc := 22) (tgt := 27) dX24_alike_22 rfl (fun c6 => ?_) (fun c6 => ?_)
    · have K := K.1 c6
      refine r_iinc (pc := 27) (lv' := [_, _, _, _, _, _]) dX24_alike_27 rfl rfl (by decide) rfl ?_
      refine r_goto (pc := 30) (tgt := 3) dX24_alike_30 rfl ?_
      refine r_mask (pc := 3) [true, true, true, true, true, true] rfl ?_
      exact K
    · have K := K.2 c6
      refine r_iconst (pc := 25) (x := 0) dX24_alike_25 rfl ?_
      exact r_iret (pc := 26) rfl rfl dX24_alike_26 K
theorem dX24_findCoin_0 : decode cX24_findCoin 0 = .ok (.iconst 0, 1) := by decide +kernel
theorem dX24_findCoin_1 : decode cX24_findCoin 1 = .ok (.istore 7, 2) := by decide +kernel
theorem dX24_findCoin_3 : decode cX24_findCoin 3 = .ok (.iload 7, 2) := by decide +kernel
theorem dX24_findCoin_5 : decode cX24_findCoin 5 = .ok (.iload 6, 2) := by decide +kernel
theorem dX24_findCoin_7 : decode cX24_findCoin 7 = .ok (.if_icmp .ge 70, 3) := by decide +kernel
theorem dX24_findCoin_10 : decode cX24_findCoin 10 = .ok (.aload 5, 2) := by decide +kernel
theorem dX24_findCoin_12 : decode cX24_findCoin 12 = .ok (.iload 7, 2) := by decide +kernel
theorem dX24_findCoin_14 : decode cX24_findCoin 14 = .ok (.iaload, 1) := by decide +kernel
theorem dX24_findCoin_15 : decode cX24_findCoin 15 = .ok (.istore 8, 2) := by decide +kernel
theorem dX24_findCoin_17 : decode cX24_findCoin 17 = .ok (.iload 8, 2) := by decide +kernel
theorem dX24_findCoin_19 : decode cX24_findCoin 19 = .ok (.sipush 255, 3) := by decide +kernel
theorem dX24_findCoin_22 : decode cX24_findCoin 22 = .ok (.iand, 1) := by decide +kernel
theorem dX24_findCoin_23 : decode cX24_findCoin 23 = .ok (.i2l, 1) := by decide +kernel
theorem dX24_findCoin_24 : decode cX24_findCoin 24 = .ok (.lload_n 3, 1) := by decide +kernel
theorem dX24_findCoin_25 : decode cX24_findCoin 25 = .ok (.lcmp, 1) := by decide +kernel
theorem dX24_findCoin_26 : decode cX24_findCoin 26 = .ok (.ifCond .ne 45, 3) := by decide +kernel
theorem dX24_findCoin_29 : decode cX24_findCoin 29 = .ok (.aload_n 0, 1) := by decide +kernel
theorem dX24_findCoin_30 : decode cX24_findCoin 30 = .ok (.getfield 347, 3) := by decide +kernel
theorem dX24_findCoin_33 : decode cX24_findCoin 33 = .ok (.iload 8, 2) := by decide +kernel
theorem dX24_findCoin_35 : decode cX24_findCoin 35 = .ok (.sipush 3072, 3) := by decide +kernel
theorem dX24_findCoin_38 : decode cX24_findCoin 38 = .ok (.idiv, 1) := by decide +kernel
theorem dX24_findCoin_39 : decode cX24_findCoin 39 = .ok (.aaload, 1) := by decide +kernel
theorem dX24_findCoin_40 : decode cX24_findCoin 40 = .ok (.getfield 457, 3) := by decide +kernel
theorem dX24_findCoin_43 : decode cX24_findCoin 43 = .ok (.getfield 316, 3) := by decide +kernel
theorem dX24_findCoin_46 : decode cX24_findCoin 46 = .ok (.bipush 32, 2) := by decide +kernel
theorem dX24_findCoin_48 : decode cX24_findCoin 48 = .ok (.iload 8, 2) := by decide +kernel
theorem dX24_findCoin_50 : decode cX24_findCoin 50 = .ok (.sipush 256, 3) := by decide +kernel
theorem dX24_findCoin_53 : decode cX24_findCoin 53 = .ok (.idiv, 1) := by decide +kernel
theorem dX24_findCoin_54 : decode cX24_findCoin 54 = .ok (.bipush 12, 2) := by decide +kernel
theorem dX24_findCoin_56 : decode cX24_findCoin 56 = .ok (.irem, 1) := by decide +kernel
theorem dX24_findCoin_57 : decode cX24_findCoin 57 = .ok (.imul, 1) := by decide +kernel
theorem dX24_findCoin_58 : decode cX24_findCoin 58 = .ok (.aload_n 1, 1) := by decide +kernel
theorem dX24_findCoin_59 : decode cX24_findCoin 59 = .ok (.iload_n 2, 1) := by decide +kernel
theorem dX24_findCoin_60 : decode cX24_findCoin 60 = .ok (.bipush 32, 2) := by decide +kernel
theorem dX24_findCoin_62 : decode cX24_findCoin 62 = .ok (.invokestatic 409, 3) := by decide +kernel
theorem dX24_findCoin_65 : decode cX24_findCoin 65 = .ok (.ifCond .eq 6, 3) := by decide +kernel
theorem dX24_findCoin_68 : decode cX24_findCoin 68 = .ok (.iload 7, 2) := by decide +kernel
theorem dX24_findCoin_70 : decode cX24_findCoin 70 = .ok (.ireturn, 1) := by decide +kernel
theorem dX24_findCoin_71 : decode cX24_findCoin 71 = .ok (.iinc 7 1, 3) := by decide +kernel
theorem dX24_findCoin_74 : decode cX24_findCoin 74 = .ok (.goto (-71), 3) := by decide +kernel
theorem dX24_findCoin_77 : decode cX24_findCoin 77 = .ok (.iconst (-1), 1) := by decide +kernel
theorem dX24_findCoin_78 : decode cX24_findCoin 78 = .ok (.ireturn, 1) := by decide +kernel
/-! CoinJudgeModel.findCoin([BIJ[II)I -/
set_option maxHeartbeats 4000000 in
theorem sX24_findCoin_0 {G : Gx} {d t : Nat} {h0 : AH} {Φ : Out → AH → Prop} (h : AH) (v0 : Nat) (v1 : Nat) (v2 : Int32) (v3 : Int64) (v5 : Nat) (v6 : Int32) (K : Aw G mX24_findCoin (d + 1) t h0 Φ 3 [vR v0, vR v1, vI v2, vJ v3, vU, vR v5, vI v6, vI 0, vU] [] h) : Aw G mX24_findCoin (d + 1) t h0 Φ 0 [vR v0, vR v1, vI v2, vJ v3, vU, vR v5, vI v6, vU, vU] [] h := by
  refine r_iconst (pc := 0) (x := 0) dX24_findCoin_0 rfl ?_
  refine r_istore (pc := 1) (lv' := [_, _, _, _, _, _, _, _, _]) dX24_findCoin_1 (by decide) rfl ?_
  refine r_mask (pc := 3) [true, true, true, true, false, true, true, true, false] rfl ?_
  exact K
theorem eX24_findCoin {G : Gx} {d : Nat} {Φ : Out → AH → Prop} (h : AH) (v0 : Nat) (v1 : Nat) (v2 : Int32) (v3 : Int64) (v5 : Nat) (v6 : Int32) (K : WF G h → Aw G mX24_findCoin (d + 1) 0 h Φ 0 [vR v0, vR v1, vI v2, vJ v3, vU, vR v5, vI v6, vU, vU] [] h) : Cw G mX24_findCoin (d + 1) 0 [vR v0, vR v1, vI v2, vJ v3, vR v5, vI v6] h Φ := Cw.of rfl K
set_option maxHeartbeats 4000000 in
theorem sX24_findCoin_3 {G : Gx} {d t : Nat} {h0 : AH} {Φ : Out → AH → Prop} (h : AH) (v0 : Nat) (v1 : Nat) (v2 : Int32) (v3 : Int64) (v5 : Nat) (v6 : Int32) (v7 : Int32) (K : ((v6 ≤ v7 → Φ (.inl (some (vI (-1)))) h) ∧ (¬ v6 ≤ v7 → h.kd v5 = 100 ∧ vp_in v7 (h.ai v5).length ∧ ∀ u4 : Int32, u4 = ((h.ai v5).getD (v7.toNatClampNeg) 0) → ((¬ (u4 &&& 255).toInt64 = v3 → Aw G mX24_findCoin (d + 1) t h0 Φ 3 [vR v0, vR v1, vI v2, vJ v3, vU, vR v5, vI v6, vI (v7 + 1), vU] [] h) ∧ ((u4 &&& 255).toInt64 = v3 → h.kd v0 = 24 ∧ ∀ r7 : Nat, r7 = (h.r 24046 v0) → h.kd r7 = 114 ∧ vp_in (u4 / 3072) (h.ar r7).length ∧ ∀ r10 : Nat, r10 = ((h.ar r7).getD ((u4 / 3072).toNatClampNeg) 0) → h.kd r10 = 28 ∧ ∀ r12 : Nat, r12 = (h.r 28003 r10) → h.kd r12 = 26 ∧ ∀ r14 : Nat, r14 = (h.r 26008 r12) → Cw G mX24_alike d 0 [vR r14, vI (32 * (jrem (u4 / 256) 12)), vR v1, vI v2, vI 32] h (kI (fun x15 h16 => ((x15 = 0 → Aw G mX24_findCoin (d + 1) t h0 Φ 3 [vR v0, vR v1, vI v2, vJ v3, vU, vR v5, vI v6, vI (v7 + 1), vU] [] h16) ∧ (¬ x15 = 0 → Φ (.inl (some (vI v7))) h16))) (fun x h => Φ (.inr x) h))))))) : Aw G mX24_findCoin (d + 1) t h0 Φ 3 [vR v0, vR v1, vI v2, vJ v3, vU, vR v5, vI v6, vI v7, vU] [] h := by
  refine r_iload (pc := 3) dX24_findCoin_3 rfl ?_
  refine r_iload (pc := 5) dX24_findCoin_5 rfl ?_
  refine r_icmp_ge (pc := 7) (tgt := 77) dX24_findCoin_7 rfl (fun c1 => ?_) (fun c1 => ?_)
  · have K := K.1 c1
    refine r_iconst (pc := 77) (x := (-1)) dX24_findCoin_77 rfl ?_
    exact r_iret (pc := 78) rfl rfl dX24_findCoin_78 K
  · have K := K.2 c1
    refine r_aload (pc := 10) dX24_findCoin_10 rfl ?_
    refine r_iload (pc := 12) dX24_findCoin_12 rfl ?_
    obtain ⟨hk2, K⟩ := K
    obtain ⟨hi3, K⟩ := K
    refine r_iaload (pc := 14) hk2 hi3 dX24_findCoin_14 ?_
    have K := K _ rfl
    refine r_istore (pc := 15) (lv' := [_, _, _, _, _, _, _, _, _]) dX24_findCoin_15 (by decide) rfl ?_
    refine r_iload (pc := 17) dX24_findCoin_17 rfl ?_
    refine r_sipush (pc := 19) (x := 255) dX24_findCoin_19 rfl ?_
    refine r_iand (pc := 22) dX24_findCoin_22 ?_
    refine r_i2l (pc := 23) dX24_findCoin_23 ?_
    refine r_lload_n (pc := 24) dX24_findCoin_24 rfl ?_
    refine r_lcmp_ne (pc := 25) (tgt := 71) dX24_findCoin_25 dX24_findCoin_26 rfl (fun c5 => ?_) (fun c5 => ?_)
    · have K := K.1 c5
      refine r_iinc (pc := 71) (lv' := [_, _, _, _, _, _, _, _, _]) dX24_findCoin_71 rfl rfl (by decide) rfl ?_
      refine r_goto (pc := 74) (tgt := 3) dX24_findCoin_74 rfl ?_
      refine r_mask (pc := 3) [true, true, true, true, false, true, true, true, false] rfl ?_
      exact K
    · have K := K.2 c5
      refine r_aload_n (pc := 29) dX24_findCoin_29 rfl ?_
      obtain ⟨hk6, K⟩ := K
      have K := K _ rfl
      refine r_getr' (pc := 30) (T := TX24) 24 46 rfl hk6 (Or.inl q2744) dX24_findCoin_30 kc24 g24046 ?_
      refine r_iload (pc := 33) dX24_findCoin_33 rfl ?_
      refine r_sipush (pc := 35) (x := 3072) dX24_findCoin_35 rfl ?_
      refine r_idiv (pc := 38) (by decide) dX24_findCoin_38 ?_
      obtain ⟨hk8, K⟩ := K
      obtain ⟨hi9, K⟩ := K
      have K := K _ rfl
      refine r_aaload (pc := 39) (le_of_eq_r hk8 (by decide)) hi9 dX24_findCoin_39 ?_
      obtain ⟨hk11, K⟩ := K
      have K := K _ rfl
      refine r_getr' (pc := 40) (T := TX28) 28 3 rfl hk11 (Or.inr (Or.inl ⟨_, q2393⟩)) dX24_findCoin_40 kc28 g28003 ?_
      obtain ⟨hk13, K⟩ := K
      have K := K _ rfl
      refine r_getr' (pc := 43) (T := TX26) 26 8 rfl hk13 (Or.inr (Or.inl ⟨_, q2157⟩)) dX24_findCoin_43 kc26 g26008 ?_
      refine r_bipush (pc := 46) (x := 32) dX24_findCoin_46 rfl ?_
      refine r_iload (pc := 48) dX24_findCoin_48 rfl ?_
      refine r_sipush (pc := 50) (x := 256) dX24_findCoin_50 rfl ?_
      refine r_idiv (pc := 53) (by decide) dX24_findCoin_53 ?_
      refine r_bipush (pc := 54) (x := 12) dX24_findCoin_54 rfl ?_
      refine r_jrem (pc := 56) (by decide) dX24_findCoin_56 ?_
      refine r_imul (pc := 57) dX24_findCoin_57 ?_
      refine r_aload_n (pc := 58) dX24_findCoin_58 rfl ?_
      refine r_iload_n (pc := 59) dX24_findCoin_59 rfl ?_
      refine r_bipush (pc := 60) (x := 32) dX24_findCoin_60 rfl ?_
      refine r_callS_I (pc := 62) (Y := mX24_alike) (vs := [_, _, _, _, _]) (st := []) q2464 q2465 q192 dX24_findCoin_62 rfl cd_X24_alike rfl rfl fp_X24_findCoin_X24_alike K (fun x15 h16 eh16 wh16 K => ?_) (fun x h1 _ _ e => Tw.out rfl e)
      refine r_if_eq (pc := 65) (tgt := 71) dX24_findCoin_65 rfl (fun c17 => ?_) (fun c17 => ?_)
      · have K := K.1 c17
        refine r_iinc (pc := 71) (lv' := [_, _, _, _, _, _, _, _, _]) dX24_findCoin_71 rfl rfl (by decide) rfl ?_
        refine r_goto (pc := 74) (tgt := 3) dX24_findCoin_74 rfl ?_
        refine r_mask (pc := 3) [true, true, true, true, false, true, true, true, false] rfl ?_
        exact K
      · have K := K.2 c17
        refine r_iload (pc := 68) dX24_findCoin_68 rfl ?_
        exact r_iret (pc := 70) rfl rfl dX24_findCoin_70 K
theorem dX24_script_0 : decode cX24_script 0 = .ok (.aload_n 1, 1) := by decide +kernel
theorem dX24_script_1 : decode cX24_script 1 = .ok (.iload_n 2, 1) := by decide +kernel
theorem dX24_script_2 : decode cX24_script 2 = .ok (.baload, 1) := by decide +kernel
theorem dX24_script_3 : decode cX24_script 3 = .ok (.sipush 255, 3) := by decide +kernel
theorem dX24_script_6 : decode cX24_script 6 = .ok (.iand, 1) := by decide +kernel
theorem dX24_script_7 : decode cX24_script 7 = .ok (.istore_n 3, 1) := by decide +kernel
theorem dX24_script_8 : decode cX24_script 8 = .ok (.iload_n 3, 1) := by decide +kernel
theorem dX24_script_9 : decode cX24_script 9 = .ok (.sipush 253, 3) := by decide +kernel
theorem dX24_script_12 : decode cX24_script 12 = .ok (.if_icmp .ge 7, 3) := by decide +kernel
theorem dX24_script_15 : decode cX24_script 15 = .ok (.iconst 0, 1) := by decide +kernel
theorem dX24_script_16 : decode cX24_script 16 = .ok (.goto 27, 3) := by decide +kernel
theorem dX24_script_19 : decode cX24_script 19 = .ok (.iload_n 3, 1) := by decide +kernel
theorem dX24_script_20 : decode cX24_script 20 = .ok (.sipush 253, 3) := by decide +kernel
theorem dX24_script_23 : decode cX24_script 23 = .ok (.if_icmp .ne 7, 3) := by decide +kernel
theorem dX24_script_26 : decode cX24_script 26 = .ok (.iconst 2, 1) := by decide +kernel
theorem dX24_script_27 : decode cX24_script 27 = .ok (.goto 16, 3) := by decide +kernel
theorem dX24_script_30 : decode cX24_script 30 = .ok (.iload_n 3, 1) := by decide +kernel
theorem dX24_script_31 : decode cX24_script 31 = .ok (.sipush 254, 3) := by decide +kernel
theorem dX24_script_34 : decode cX24_script 34 = .ok (.if_icmp .ne 7, 3) := by decide +kernel
theorem dX24_script_37 : decode cX24_script 37 = .ok (.iconst 4, 1) := by decide +kernel
theorem dX24_script_38 : decode cX24_script 38 = .ok (.goto 5, 3) := by decide +kernel
theorem dX24_script_41 : decode cX24_script 41 = .ok (.bipush 8, 2) := by decide +kernel
theorem dX24_script_43 : decode cX24_script 43 = .ok (.istore 4, 2) := by decide +kernel
theorem dX24_script_45 : decode cX24_script 45 = .ok (.aload_n 0, 1) := by decide +kernel
theorem dX24_script_46 : decode cX24_script 46 = .ok (.iload 4, 2) := by decide +kernel
theorem dX24_script_48 : decode cX24_script 48 = .ok (.ifCond .ne 7, 3) := by decide +kernel
theorem dX24_script_51 : decode cX24_script 51 = .ok (.iload_n 3, 1) := by decide +kernel
theorem dX24_script_52 : decode cX24_script 52 = .ok (.goto 14, 3) := by decide +kernel
theorem dX24_script_55 : decode cX24_script 55 = .ok (.aload_n 0, 1) := by decide +kernel
theorem dX24_script_56 : decode cX24_script 56 = .ok (.aload_n 1, 1) := by decide +kernel
theorem dX24_script_57 : decode cX24_script 57 = .ok (.iload_n 2, 1) := by decide +kernel
theorem dX24_script_58 : decode cX24_script 58 = .ok (.iconst 1, 1) := by decide +kernel
theorem dX24_script_59 : decode cX24_script 59 = .ok (.iadd, 1) := by decide +kernel
theorem dX24_script_60 : decode cX24_script 60 = .ok (.iload 4, 2) := by decide +kernel
theorem dX24_script_62 : decode cX24_script 62 = .ok (.invokevirtual 267, 3) := by decide +kernel
theorem dX24_script_65 : decode cX24_script 65 = .ok (.l2i, 1) := by decide +kernel
theorem dX24_script_66 : decode cX24_script 66 = .ok (.putfield 322, 3) := by decide +kernel
theorem dX24_script_69 : decode cX24_script 69 = .ok (.aload_n 0, 1) := by decide +kernel
theorem dX24_script_70 : decode cX24_script 70 = .ok (.iload_n 2, 1) := by decide +kernel
theorem dX24_script_71 : decode cX24_script 71 = .ok (.iconst 1, 1) := by decide +kernel
theorem dX24_script_72 : decode cX24_script 72 = .ok (.iadd, 1) := by decide +kernel
theorem dX24_script_73 : decode cX24_script 73 = .ok (.iload 4, 2) := by decide +kernel
theorem dX24_script_75 : decode cX24_script 75 = .ok (.iadd, 1) := by decide +kernel
theorem dX24_script_76 : decode cX24_script 76 = .ok (.putfield 325, 3) := by decide +kernel
theorem dX24_script_79 : decode cX24_script 79 = .ok (.aload_n 0, 1) := by decide +kernel
theorem dX24_script_80 : decode cX24_script 80 = .ok (.getfield 325, 3) := by decide +kernel
theorem dX24_script_83 : decode cX24_script 83 = .ok (.aload_n 0, 1) := by decide +kernel
theorem dX24_script_84 : decode cX24_script 84 = .ok (.getfield 322, 3) := by decide +kernel
theorem dX24_script_87 : decode cX24_script 87 = .ok (.iadd, 1) := by decide +kernel
theorem dX24_script_88 : decode cX24_script 88 = .ok (.ireturn, 1) := by decide +kernel
/-! CoinJudgeModel.script([BI)I -/
set_option maxHeartbeats 4000000 in
theorem sX24_script_0 {G : Gx} {d t : Nat} {h0 : AH} {Φ : Out → AH → Prop} (h : AH) (v0 : Nat) (v1 : Nat) (v2 : Int32) (K : h.kd v1 = 101 ∧ vp_in v2 (h.ai v1).length ∧ ∀ u3 : Int32, u3 = (((h.ai v1).getD (v2.toNatClampNeg) 0) &&& 255) → ((253 ≤ u3 → ((¬ u3 = 253 → ((¬ u3 = 254 → ((¬ (8 : Int32) = 0 → h.kd v0 = 24 ∧ Cw G mX24_number d 0 [vR v0, vR v1, vI (v2 + 1), vI 8] h (kJ (fun x8 h9 => ∀ h12 : AH, h12 = h9.pi 24041 v0 x8.toInt32 → ∀ h14 : AH, h14 = h12.pi 24040 v0 ((v2 + 1) + 8) → Φ (.inl (some (vI ((h14.i 24040 v0) + (h14.i 24041 v0))))) h14) (fun x h => Φ (.inr x) h))) ∧ ((8 : Int32) = 0 → h.kd v0 = 24 ∧ ∀ h17 : AH, h17 = h.pi 24041 v0 u3 → ∀ h19 : AH, h19 = h17.pi 24040 v0 ((v2 + 1) + 8) → Φ (.inl (some (vI ((h19.i 24040 v0) + (h19.i 24041 v0))))) h19))) ∧ (u3 = 254 → ((¬ (4 : Int32) = 0 → h.kd v0 = 24 ∧ Cw G mX24_number d 0 [vR v0, vR v1, vI (v2 + 1), vI 4] h (kJ (fun x22 h23 => ∀ h26 : AH, h26 = h23.pi 24041 v0 x22.toInt32 → ∀ h28 : AH, h28 = h26.pi 24040 v0 ((v2 + 1) + 4) → Φ (.inl (some (vI ((h28.i 24040 v0) + (h28.i 24041 v0))))) h28) (fun x h => Φ (.inr x) h))) ∧ ((4 : Int32) = 0 → h.kd v0 = 24 ∧ ∀ h31 : AH, h31 = h.pi 24041 v0 u3 → ∀ h33 : AH, h33 = h31.pi 24040 v0 ((v2 + 1) + 4) → Φ (.inl (some (vI ((h33.i 24040 v0) + (h33.i 24041 v0))))) h33))))) ∧ (u3 = 253 → ((¬ (2 : Int32) = 0 → h.kd v0 = 24 ∧ Cw G mX24_number d 0 [vR v0, vR v1, vI (v2 + 1), vI 2] h (kJ (fun x36 h37 => ∀ h40 : AH, h40 = h37.pi 24041 v0 x36.toInt32 → ∀ h42 : AH, h42 = h40.pi 24040 v0 ((v2 + 1) + 2) → Φ (.inl (some (vI ((h42.i 24040 v0) + (h42.i 24041 v0))))) h42) (fun x h => Φ (.inr x) h))) ∧ ((2 : Int32) = 0 → h.kd v0 = 24 ∧ ∀ h45 : AH, h45 = h.pi 24041 v0 u3 → ∀ h47 : AH, h47 = h45.pi 24040 v0 ((v2 + 1) + 2) → Φ (.inl (some (vI ((h47.i 24040 v0) + (h47.i 24041 v0))))) h47))))) ∧ (¬ 253 ≤ u3 → ((¬ (0 : Int32) = 0 → h.kd v0 = 24 ∧ Cw G mX24_number d 0 [vR v0, vR v1, vI (v2 + 1), vI 0] h (kJ (fun x50 h51 => ∀ h54 : AH, h54 = h51.pi 24041 v0 x50.toInt32 → ∀ h56 : AH, h56 = h54.pi 24040 v0 ((v2 + 1) + 0) → Φ (.inl (some (vI ((h56.i 24040 v0) + (h56.i 24041 v0))))) h56) (fun x h => Φ (.inr x) h))) ∧ ((0 : Int32) = 0 → h.kd v0 = 24 ∧ ∀ h59 : AH, h59 = h.pi 24041 v0 u3 → ∀ h61 : AH, h61 = h59.pi 24040 v0 ((v2 + 1) + 0) → Φ (.inl (some (vI ((h61.i 24040 v0) + (h61.i 24041 v0))))) h61))))) : Aw G mX24_script (d + 1) t h0 Φ 0 [vR v0, vR v1, vI v2, vU, vU] [] h := by
  refine r_aload_n (pc := 0) dX24_script_0 rfl ?_
  refine r_iload_n (pc := 1) dX24_script_1 rfl ?_
  obtain ⟨hk1, K⟩ := K
  obtain ⟨hi2, K⟩ := K
  refine r_baload (pc := 2) hk1 hi2 dX24_script_2 ?_
  refine r_sipush (pc := 3) (x := 255) dX24_script_3 rfl ?_
  refine r_iand (pc := 6) dX24_script_6 ?_
  have K := K _ rfl
  refine r_istore_n (pc := 7) (lv' := [_, _, _, _, _]) dX24_script_7 (by decide) rfl ?_
  refine r_iload_n (pc := 8) dX24_script_8 rfl ?_
  refine r_sipush (pc := 9) (x := 253) dX24_script_9 rfl ?_
  refine r_icmp_ge (pc := 12) (tgt := 19) dX24_script_12 rfl (fun c4 => ?_) (fun c4 => ?_)
  · have K := K.1 c4
    refine r_iload_n (pc := 19) dX24_script_19 rfl ?_
    refine r_sipush (pc := 20) (x := 253) dX24_script_20 rfl ?_
    refine r_icmp_ne (pc := 23) (tgt := 30) dX24_script_23 rfl (fun c5 => ?_) (fun c5 => ?_)
    · have K := K.1 c5
      refine r_iload_n (pc := 30) dX24_script_30 rfl ?_
      refine r_sipush (pc := 31) (x := 254) dX24_script_31 rfl ?_
      refine r_icmp_ne (pc := 34) (tgt := 41) dX24_script_34 rfl (fun c6 => ?_) (fun c6 => ?_)
      · have K := K.1 c6
        refine r_bipush (pc := 41) (x := 8) dX24_script_41 rfl ?_
        refine r_istore (pc := 43) (lv' := [_, _, _, _, _]) dX24_script_43 (by decide) rfl ?_
        refine r_aload_n (pc := 45) dX24_script_45 rfl ?_
        refine r_iload (pc := 46) dX24_script_46 rfl ?_
        refine r_if_ne (pc := 48) (tgt := 55) dX24_script_48 rfl (fun c7 => ?_) (fun c7 => ?_)
        · have K := K.1 c7
          refine r_aload_n (pc := 55) dX24_script_55 rfl ?_
          refine r_aload_n (pc := 56) dX24_script_56 rfl ?_
          refine r_iload_n (pc := 57) dX24_script_57 rfl ?_
          refine r_iconst (pc := 58) (x := 1) dX24_script_58 rfl ?_
          refine r_iadd (pc := 59) dX24_script_59 ?_
          refine r_iload (pc := 60) dX24_script_60 rfl ?_
          obtain ⟨hk10, K⟩ := K
          refine r_callV_J (pc := 62) (Y := mX24_number) (vs := [_, _, _]) (st := [_]) hk10 rfl kc24 q2350 q2352 qs74 dX24_script_62 rfl cd_X24_number rfl rfl fp_X24_script_X24_number K (fun x8 h9 eh9 wh9 K => ?_) (fun x h1 _ _ e => Tw.out rfl e)
          refine r_l2i (pc := 65) dX24_script_65 ?_
          have hk11 := kd_ext eh9 hk10 (nz rfl)
          refine r_puti (pc := 66) (T := TX24) (key := 24041) 24 41 hk11 (Or.inl q2739) dX24_script_66 kc24 rfl (Or.inl rfl) (Or.inl (em rfl)) ?_
          refine r_nameH (fun h12 eh12 => ?_)
          have K := K h12 eh12
          refine r_aload_n (pc := 69) dX24_script_69 rfl ?_
          refine r_iload_n (pc := 70) dX24_script_70 rfl ?_
          refine r_iconst (pc := 71) (x := 1) dX24_script_71 rfl ?_
          refine r_iadd (pc := 72) dX24_script_72 ?_
          refine r_iload (pc := 73) dX24_script_73 rfl ?_
          refine r_iadd (pc := 75) dX24_script_75 ?_
          have hk13 := kd_pi eh12 hk11
          refine r_puti (pc := 76) (T := TX24) (key := 24040) 24 40 hk13 (Or.inl q2738) dX24_script_76 kc24 rfl (Or.inl rfl) (Or.inl (em rfl)) ?_
          refine r_nameH (fun h14 eh14 => ?_)
          have K := K h14 eh14
          refine r_aload_n (pc := 79) dX24_script_79 rfl ?_
          have hk15 := kd_pi eh14 hk13
          refine r_geti' (pc := 80) (T := TX24) 24 40 rfl hk15 (Or.inl q2738) dX24_script_80 kc24 g24040 ?_
          refine r_aload_n (pc := 83) dX24_script_83 rfl ?_
          refine r_geti' (pc := 84) (T := TX24) 24 41 rfl hk15 (Or.inl q2739) dX24_script_84 kc24 g24041 ?_
          refine r_iadd (pc := 87) dX24_script_87 ?_
          exact r_iret (pc := 88) rfl rfl dX24_script_88 K
        · have K := K.2 c7
          refine r_iload_n (pc := 51) dX24_script_51 rfl ?_
          refine r_goto (pc := 52) (tgt := 66) dX24_script_52 rfl ?_
          obtain ⟨hk16, K⟩ := K
          refine r_puti (pc := 66) (T := TX24) (key := 24041) 24 41 hk16 (Or.inl q2739) dX24_script_66 kc24 rfl (Or.inl rfl) (Or.inl (em rfl)) ?_
          refine r_nameH (fun h17 eh17 => ?_)
          have K := K h17 eh17
          refine r_aload_n (pc := 69) dX24_script_69 rfl ?_
          refine r_iload_n (pc := 70) dX24_script_70 rfl ?_
          refine r_iconst (pc := 71) (x := 1) dX24_script_71 rfl ?_
          refine r_iadd (pc := 72) dX24_script_72 ?_
          refine r_iload (pc := 73) dX24_script_73 rfl ?_
          refine r_iadd (pc := 75) dX24_script_75 ?_
          have hk18 := kd_pi eh17 hk16
          refine r_puti (pc := 76) (T := TX24) (key := 24040) 24 40 hk18 (Or.inl q2738) dX24_script_76 kc24 rfl (Or.inl rfl) (Or.inl (em rfl)) ?_
          refine r_nameH (fun h19 eh19 => ?_)
          have K := K h19 eh19
          refine r_aload_n (pc := 79) dX24_script_79 rfl ?_
          have hk20 := kd_pi eh19 hk18
          refine r_geti' (pc := 80) (T := TX24) 24 40 rfl hk20 (Or.inl q2738) dX24_script_80 kc24 g24040 ?_
          refine r_aload_n (pc := 83) dX24_script_83 rfl ?_
          refine r_geti' (pc := 84) (T := TX24) 24 41 rfl hk20 (Or.inl q2739) dX24_script_84 kc24 g24041 ?_
          refine r_iadd (pc := 87) dX24_script_87 ?_
          exact r_iret (pc := 88) rfl rfl dX24_script_88 K
      · have K := K.2 c6
        refine r_iconst (pc := 37) (x := 4) dX24_script_37 rfl ?_
        refine r_goto (pc := 38) (tgt := 43) dX24_script_38 rfl ?_
        refine r_istore (pc := 43) (lv' := [_, _, _, _, _]) dX24_script_43 (by decide) rfl ?_
        refine r_aload_n (pc := 45) dX24_script_45 rfl ?_
        refine r_iload (pc := 46) dX24_script_46 rfl ?_
        refine r_if_ne (pc := 48) (tgt := 55) dX24_script_48 rfl (fun c21 => ?_) (fun c21 => ?_)
        · have K := K.1 c21
          refine r_aload_n (pc := 55) dX24_script_55 rfl ?_
          refine r_aload_n (pc := 56) dX24_script_56 rfl ?_
          refine r_iload_n (pc := 57) dX24_script_57 rfl ?_
          refine r_iconst (pc := 58) (x := 1) dX24_script_58 rfl ?_
          refine r_iadd (pc := 59) dX24_script_59 ?_
          refine r_iload (pc := 60) dX24_script_60 rfl ?_
          obtain ⟨hk24, K⟩ := K
          refine r_callV_J (pc := 62) (Y := mX24_number) (vs := [_, _, _]) (st := [_]) hk24 rfl kc24 q2350 q2352 qs74 dX24_script_62 rfl cd_X24_number rfl rfl fp_X24_script_X24_number K (fun x22 h23 eh23 wh23 K => ?_) (fun x h1 _ _ e => Tw.out rfl e)
          refine r_l2i (pc := 65) dX24_script_65 ?_
          have hk25 := kd_ext eh23 hk24 (nz rfl)
          refine r_puti (pc := 66) (T := TX24) (key := 24041) 24 41 hk25 (Or.inl q2739) dX24_script_66 kc24 rfl (Or.inl rfl) (Or.inl (em rfl)) ?_
          refine r_nameH (fun h26 eh26 => ?_)
          have K := K h26 eh26
          refine r_aload_n (pc := 69) dX24_script_69 rfl ?_
          refine r_iload_n (pc := 70) dX24_script_70 rfl ?_
          refine r_iconst (pc := 71) (x := 1) dX24_script_71 rfl ?_
          refine r_iadd (pc := 72) dX24_script_72 ?_
          refine r_iload (pc := 73) dX24_script_73 rfl ?_
          refine r_iadd (pc := 75) dX24_script_75 ?_
          have hk27 := kd_pi eh26 hk25
          refine r_puti (pc := 76) (T := TX24) (key := 24040) 24 40 hk27 (Or.inl q2738) dX24_script_76 kc24 rfl (Or.inl rfl) (Or.inl (em rfl)) ?_
          refine r_nameH (fun h28 eh28 => ?_)
          have K := K h28 eh28
          refine r_aload_n (pc := 79) dX24_script_79 rfl ?_
          have hk29 := kd_pi eh28 hk27
          refine r_geti' (pc := 80) (T := TX24) 24 40 rfl hk29 (Or.inl q2738) dX24_script_80 kc24 g24040 ?_
          refine r_aload_n (pc := 83) dX24_script_83 rfl ?_
          refine r_geti' (pc := 84) (T := TX24) 24 41 rfl hk29 (Or.inl q2739) dX24_script_84 kc24 g24041 ?_
          refine r_iadd (pc := 87) dX24_script_87 ?_
          exact r_iret (pc := 88) rfl rfl dX24_script_88 K
        · have K := K.2 c21
          refine r_iload_n (pc := 51) dX24_script_51 rfl ?_
          refine r_goto (pc := 52) (tgt := 66) dX24_script_52 rfl ?_
          obtain ⟨hk30, K⟩ := K
          refine r_puti (pc := 66) (T := TX24) (key := 24041) 24 41 hk30 (Or.inl q2739) dX24_script_66 kc24 rfl (Or.inl rfl) (Or.inl (em rfl)) ?_
          refine r_nameH (fun h31 eh31 => ?_)
          have K := K h31 eh31
          refine r_aload_n (pc := 69) dX24_script_69 rfl ?_
          refine r_iload_n (pc := 70) dX24_script_70 rfl ?_
          refine r_iconst (pc := 71) (x := 1) dX24_script_71 rfl ?_
          refine r_iadd (pc := 72) dX24_script_72 ?_
          refine r_iload (pc := 73) dX24_script_73 rfl ?_
          refine r_iadd (pc := 75) dX24_script_75 ?_
          have hk32 := kd_pi eh31 hk30
          refine r_puti (pc := 76) (T := TX24) (key := 24040) 24 40 hk32 (Or.inl q2738) dX24_script_76 kc24 rfl (Or.inl rfl) (Or.inl (em rfl)) ?_
          refine r_nameH (fun h33 eh33 => ?_)
          have K := K h33 eh33
          refine r_aload_n (pc := 79) dX24_script_79 rfl ?_
          have hk34 := kd_pi eh33 hk32
          refine r_geti' (pc := 80) (T := TX24) 24 40 rfl hk34 (Or.inl q2738) dX24_script_80 kc24 g24040 ?_
          refine r_aload_n (pc := 83) dX24_script_83 rfl ?_
          refine r_geti' (pc := 84) (T := TX24) 24 41 rfl hk34 (Or.inl q2739) dX24_script_84 kc24 g24041 ?_
          refine r_iadd (pc := 87) dX24_script_87 ?_
          exact r_iret (pc := 88) rfl rfl dX24_script_88 K
    · have K := K.2 c5
      refine r_iconst (pc := 26) (x := 2) dX24_script_26 rfl ?_
      refine r_goto (pc := 27) (tgt := 43) dX24_script_27 rfl ?_
      refine r_istore (pc := 43) (lv' := [_, _, _, _, _]) dX24_script_43 (by decide) rfl ?_
      refine r_aload_n (pc := 45) dX24_script_45 rfl ?_
      refine r_iload (pc := 46) dX24_script_46 rfl ?_
      refine r_if_ne (pc := 48) (tgt := 55) dX24_script_48 rfl (fun c35 => ?_) (fun c35 => ?_)
      · have K := K.1 c35
        refine r_aload_n (pc := 55) dX24_script_55 rfl ?_
        refine r_aload_n (pc := 56) dX24_script_56 rfl ?_
        refine r_iload_n (pc := 57) dX24_script_57 rfl ?_
        refine r_iconst (pc := 58) (x := 1) dX24_script_58 rfl ?_
        refine r_iadd (pc := 59) dX24_script_59 ?_
        refine r_iload (pc := 60) dX24_script_60 rfl ?_
        obtain ⟨hk38, K⟩ := K
        refine r_callV_J (pc := 62) (Y := mX24_number) (vs := [_, _, _]) (st := [_]) hk38 rfl kc24 q2350 q2352 qs74 dX24_script_62 rfl cd_X24_number rfl rfl fp_X24_script_X24_number K (fun x36 h37 eh37 wh37 K => ?_) (fun x h1 _ _ e => Tw.out rfl e)
        refine r_l2i (pc := 65) dX24_script_65 ?_
        have hk39 := kd_ext eh37 hk38 (nz rfl)
        refine r_puti (pc := 66) (T := TX24) (key := 24041) 24 41 hk39 (Or.inl q2739) dX24_script_66 kc24 rfl (Or.inl rfl) (Or.inl (em rfl)) ?_
        refine r_nameH (fun h40 eh40 => ?_)
        have K := K h40 eh40
        refine r_aload_n (pc := 69) dX24_script_69 rfl ?_
        refine r_iload_n (pc := 70) dX24_script_70 rfl ?_
        refine r_iconst (pc := 71) (x := 1) dX24_script_71 rfl ?_
        refine r_iadd (pc := 72) dX24_script_72 ?_
        refine r_iload (pc := 73) dX24_script_73 rfl ?_
        refine r_iadd (pc := 75) dX24_script_75 ?_
        have hk41 := kd_pi eh40 hk39
        refine r_puti (pc := 76) (T := TX24) (key := 24040) 24 40 hk41 (Or.inl q2738) dX24_script_76 kc24 rfl (Or.inl rfl) (Or.inl (em rfl)) ?_
        refine r_nameH (fun h42 eh42 => ?_)
        have K := K h42 eh42
        refine r_aload_n (pc := 79) dX24_script_79 rfl ?_
        have hk43 := kd_pi eh42 hk41
        refine r_geti' (pc := 80) (T := TX24) 24 40 rfl hk43 (Or.inl q2738) dX24_script_80 kc24 g24040 ?_
        refine r_aload_n (pc := 83) dX24_script_83 rfl ?_
        refine r_geti' (pc := 84) (T := TX24) 24 41 rfl hk43 (Or.inl q2739) dX24_script_84 kc24 g24041 ?_
        refine r_iadd (pc := 87) dX24_script_87 ?_
        exact r_iret (pc := 88) rfl rfl dX24_script_88 K
      · have K := K.2 c35
        refine r_iload_n (pc := 51) dX24_script_51 rfl ?_
        refine r_goto (pc := 52) (tgt := 66) dX24_script_52 rfl ?_
        obtain ⟨hk44, K⟩ := K
        refine r_puti (pc := 66) (T := TX24) (key := 24041) 24 41 hk44 (Or.inl q2739) dX24_script_66 kc24 rfl (Or.inl rfl) (Or.inl (em rfl)) ?_
        refine r_nameH (fun h45 eh45 => ?_)
        have K := K h45 eh45
        refine r_aload_n (pc := 69) dX24_script_69 rfl ?_
        refine r_iload_n (pc := 70) dX24_script_70 rfl ?_
        refine r_iconst (pc := 71) (x := 1) dX24_script_71 rfl ?_
        refine r_iadd (pc := 72) dX24_script_72 ?_
        refine r_iload (pc := 73) dX24_script_73 rfl ?_
        refine r_iadd (pc := 75) dX24_script_75 ?_
        have hk46 := kd_pi eh45 hk44
        refine r_puti (pc := 76) (T := TX24) (key := 24040) 24 40 hk46 (Or.inl q2738) dX24_script_76 kc24 rfl (Or.inl rfl) (Or.inl (em rfl)) ?_
        refine r_nameH (fun h47 eh47 => ?_)
        have K := K h47 eh47
        refine r_aload_n (pc := 79) dX24_script_79 rfl ?_
        have hk48 := kd_pi eh47 hk46
        refine r_geti' (pc := 80) (T := TX24) 24 40 rfl hk48 (Or.inl q2738) dX24_script_80 kc24 g24040 ?_
        refine r_aload_n (pc := 83) dX24_script_83 rfl ?_
        refine r_geti' (pc := 84) (T := TX24) 24 41 rfl hk48 (Or.inl q2739) dX24_script_84 kc24 g24041 ?_
        refine r_iadd (pc := 87) dX24_script_87 ?_
        exact r_iret (pc := 88) rfl rfl dX24_script_88 K
  · have K := K.2 c4
    refine r_iconst (pc := 15) (x := 0) dX24_script_15 rfl ?_
    refine r_goto (pc := 16) (tgt := 43) dX24_script_16 rfl ?_
    refine r_istore (pc := 43) (lv' := [_, _, _, _, _]) dX24_script_43 (by decide) rfl ?_
    refine r_aload_n (pc := 45) dX24_script_45 rfl ?_
    refine r_iload (pc := 46) dX24_script_46 rfl ?_
    refine r_if_ne (pc := 48) (tgt := 55) dX24_script_48 rfl (fun c49 => ?_) (fun c49 => ?_)
    · have K := K.1 c49
      refine r_aload_n (pc := 55) dX24_script_55 rfl ?_
      refine r_aload_n (pc := 56) dX24_script_56 rfl ?_
      refine r_iload_n (pc := 57) dX24_script_57 rfl ?_
      refine r_iconst (pc := 58) (x := 1) dX24_script_58 rfl ?_
      refine r_iadd (pc := 59) dX24_script_59 ?_
      refine r_iload (pc := 60) dX24_script_60 rfl ?_
      obtain ⟨hk52, K⟩ := K
      refine r_callV_J (pc := 62) (Y := mX24_number) (vs := [_, _, _]) (st := [_]) hk52 rfl kc24 q2350 q2352 qs74 dX24_script_62 rfl cd_X24_number rfl rfl fp_X24_script_X24_number K (fun x50 h51 eh51 wh51 K => ?_) (fun x h1 _ _ e => Tw.out rfl e)
      refine r_l2i (pc := 65) dX24_script_65 ?_
      have hk53 := kd_ext eh51 hk52 (nz rfl)
      refine r_puti (pc := 66) (T := TX24) (key := 24041) 24 41 hk53 (Or.inl q2739) dX24_script_66 kc24 rfl (Or.inl rfl) (Or.inl (em rfl)) ?_
      refine r_nameH (fun h54 eh54 => ?_)
      have K := K h54 eh54
      refine r_aload_n (pc := 69) dX24_script_69 rfl ?_
      refine r_iload_n (pc := 70) dX24_script_70 rfl ?_
      refine r_iconst (pc := 71) (x := 1) dX24_script_71 rfl ?_
      refine r_iadd (pc := 72) dX24_script_72 ?_
      refine r_iload (pc := 73) dX24_script_73 rfl ?_
      refine r_iadd (pc := 75) dX24_script_75 ?_
      have hk55 := kd_pi eh54 hk53
      refine r_puti (pc := 76) (T := TX24) (key := 24040) 24 40 hk55 (Or.inl q2738) dX24_script_76 kc24 rfl (Or.inl rfl) (Or.inl (em rfl)) ?_
      refine r_nameH (fun h56 eh56 => ?_)
      have K := K h56 eh56
      refine r_aload_n (pc := 79) dX24_script_79 rfl ?_
      have hk57 := kd_pi eh56 hk55
      refine r_geti' (pc := 80) (T := TX24) 24 40 rfl hk57 (Or.inl q2738) dX24_script_80 kc24 g24040 ?_
      refine r_aload_n (pc := 83) dX24_script_83 rfl ?_
      refine r_geti' (pc := 84) (T := TX24) 24 41 rfl hk57 (Or.inl q2739) dX24_script_84 kc24 g24041 ?_
      refine r_iadd (pc := 87) dX24_script_87 ?_
      exact r_iret (pc := 88) rfl rfl dX24_script_88 K
    · have K := K.2 c49
      refine r_iload_n (pc := 51) dX24_script_51 rfl ?_
      refine r_goto (pc := 52) (tgt := 66) dX24_script_52 rfl ?_
      obtain ⟨hk58, K⟩ := K
      refine r_puti (pc := 66) (T := TX24) (key := 24041) 24 41 hk58 (Or.inl q2739) dX24_script_66 kc24 rfl (Or.inl rfl) (Or.inl (em rfl)) ?_
      refine r_nameH (fun h59 eh59 => ?_)
      have K := K h59 eh59
      refine r_aload_n (pc := 69) dX24_script_69 rfl ?_
      refine r_iload_n (pc := 70) dX24_script_70 rfl ?_
      refine r_iconst (pc := 71) (x := 1) dX24_script_71 rfl ?_
      refine r_iadd (pc := 72) dX24_script_72 ?_
      refine r_iload (pc := 73) dX24_script_73 rfl ?_
      refine r_iadd (pc := 75) dX24_script_75 ?_
      have hk60 := kd_pi eh59 hk58
      refine r_puti (pc := 76) (T := TX24) (key := 24040) 24 40 hk60 (Or.inl q2738) dX24_script_76 kc24 rfl (Or.inl rfl) (Or.inl (em rfl)) ?_
      refine r_nameH (fun h61 eh61 => ?_)
      have K := K h61 eh61
      refine r_aload_n (pc := 79) dX24_script_79 rfl ?_
      have hk62 := kd_pi eh61 hk60
      refine r_geti' (pc := 80) (T := TX24) 24 40 rfl hk62 (Or.inl q2738) dX24_script_80 kc24 g24040 ?_
      refine r_aload_n (pc := 83) dX24_script_83 rfl ?_
      refine r_geti' (pc := 84) (T := TX24) 24 41 rfl hk62 (Or.inl q2739) dX24_script_84 kc24 g24041 ?_
      refine r_iadd (pc := 87) dX24_script_87 ?_
      exact r_iret (pc := 88) rfl rfl dX24_script_88 K
theorem eX24_script {G : Gx} {d : Nat} {Φ : Out → AH → Prop} (h : AH) (v0 : Nat) (v1 : Nat) (v2 : Int32) (K : WF G h → Aw G mX24_script (d + 1) 0 h Φ 0 [vR v0, vR v1, vI v2, vU, vU] [] h) : Cw G mX24_script (d + 1) 0 [vR v0, vR v1, vI v2] h Φ := Cw.of rfl K
theorem dX24_input_0 : decode cX24_input 0 = .ok (.aload_n 1, 1) := by decide +kernel
theorem dX24_input_1 : decode cX24_input 1 = .ok (.getfield 300, 3) := by decide +kernel
theorem dX24_input_4 : decode cX24_input 4 = .ok (.iload_n 2, 1) := by decide +kernel
theorem dX24_input_5 : decode cX24_input 5 = .ok (.iaload, 1) := by decide +kernel
theorem dX24_input_6 : decode cX24_input 6 = .ok (.istore 4, 2) := by decide +kernel
theorem dX24_input_8 : decode cX24_input 8 = .ok (.iconst 0, 1) := by decide +kernel
theorem dX24_input_9 : decode cX24_input 9 = .ok (.istore 5, 2) := by decide +kernel
theorem dX24_input_11 : decode cX24_input 11 = .ok (.iload 5, 2) := by decide +kernel
theorem dX24_input_13 : decode cX24_input 13 = .ok (.iload_n 3, 1) := by decide +kernel
theorem dX24_input_14 : decode cX24_input 14 = .ok (.if_icmp .ge 26, 3) := by decide +kernel
theorem dX24_input_17 : decode cX24_input 17 = .ok (.aload_n 0, 1) := by decide +kernel
theorem dX24_input_18 : decode cX24_input 18 = .ok (.aload_n 1, 1) := by decide +kernel
theorem dX24_input_19 : decode cX24_input 19 = .ok (.getfield 275, 3) := by decide +kernel
theorem dX24_input_22 : decode cX24_input 22 = .ok (.iload 4, 2) := by decide +kernel
theorem dX24_input_24 : decode cX24_input 24 = .ok (.bipush 36, 2) := by decide +kernel
theorem dX24_input_26 : decode cX24_input 26 = .ok (.iadd, 1) := by decide +kernel
theorem dX24_input_27 : decode cX24_input 27 = .ok (.invokevirtual 328, 3) := by decide +kernel
theorem dX24_input_30 : decode cX24_input 30 = .ok (.iconst 4, 1) := by decide +kernel
theorem dX24_input_31 : decode cX24_input 31 = .ok (.iadd, 1) := by decide +kernel
theorem dX24_input_32 : decode cX24_input 32 = .ok (.istore 4, 2) := by decide +kernel
theorem dX24_input_34 : decode cX24_input 34 = .ok (.iinc 5 1, 3) := by decide +kernel
theorem dX24_input_37 : decode cX24_input 37 = .ok (.goto (-26), 3) := by decide +kernel
theorem dX24_input_40 : decode cX24_input 40 = .ok (.iload 4, 2) := by decide +kernel
theorem dX24_input_42 : decode cX24_input 42 = .ok (.ireturn, 1) := by decide +kernel
/-! CoinJudgeModel.input(LCoinJudgeModel$Parsed;II)I -/
set_option maxHeartbeats 4000000 in
theorem sX24_input_0 {G : Gx} {d t : Nat} {h0 : AH} {Φ : Out → AH → Prop} (h : AH) (v0 : Nat) (v1 : Nat) (v2 : Int32) (v3 : Int32) (K : h.kd v1 = 26 ∧ ∀ r2 : Nat, r2 = (h.r 26006 v1) → h.kd r2 = 100 ∧ vp_in v2 (h.ai r2).length ∧ ∀ u5 : Int32, u5 = ((h.ai r2).getD (v2.toNatClampNeg) 0) → Aw G mX24_input (d + 1) t h0 Φ 11 [vR v0, vR v1, vU, vI v3, vI u5, vI 0] [] h) : Aw G mX24_input (d + 1) t h0 Φ 0 [vR v0, vR v1, vI v2, vI v3, vU, vU] [] h := by
  refine r_aload_n (pc := 0) dX24_input_0 rfl ?_
  obtain ⟨hk1, K⟩ := K
  have K := K _ rfl
  refine r_getr' (pc := 1) (T := TX26) 26 6 rfl hk1 (Or.inr (Or.inl ⟨_, q2153⟩)) dX24_input_1 kc26 g26006 ?_
  refine r_iload_n (pc := 4) dX24_input_4 rfl ?_
  obtain ⟨hk3, K⟩ := K
  obtain ⟨hi4, K⟩ := K
  refine r_iaload (pc := 5) hk3 hi4 dX24_input_5 ?_
  have K := K _ rfl
  refine r_istore (pc := 6) (lv' := [_, _, _, _, _, _]) dX24_input_6 (by decide) rfl ?_
  refine r_iconst (pc := 8) (x := 0) dX24_input_8 rfl ?_
  refine r_istore (pc := 9) (lv' := [_, _, _, _, _, _]) dX24_input_9 (by decide) rfl ?_
  refine r_mask (pc := 11) [true, true, false, true, true, true] rfl ?_
  exact K
theorem eX24_input {G : Gx} {d : Nat} {Φ : Out → AH → Prop} (h : AH) (v0 : Nat) (v1 : Nat) (v2 : Int32) (v3 : Int32) (K : WF G h → Aw G mX24_input (d + 1) 0 h Φ 0 [vR v0, vR v1, vI v2, vI v3, vU, vU] [] h) : Cw G mX24_input (d + 1) 0 [vR v0, vR v1, vI v2, vI v3] h Φ := Cw.of rfl K
set_option maxHeartbeats 4000000 in
theorem sX24_input_11 {G : Gx} {d t : Nat} {h0 : AH} {Φ : Out → AH → Prop} (h : AH) (v0 : Nat) (v1 : Nat) (v3 : Int32) (v4 : Int32) (v5 : Int32) (K : ((v3 ≤ v5 → Φ (.inl (some (vI v4))) h) ∧ (¬ v3 ≤ v5 → h.kd v1 = 26 ∧ ∀ r3 : Nat, r3 = (h.r 26000 v1) → h.kd v0 = 24 ∧ Cw G mX24_script d 0 [vR v0, vR r3, vI (v4 + 36)] h (kI (fun x4 h5 => Aw G mX24_input (d + 1) t h0 Φ 11 [vR v0, vR v1, vU, vI v3, vI (x4 + 4), vI (v5 + 1)] [] h5) (fun x h => Φ (.inr x) h))))) : Aw G mX24_input (d + 1) t h0 Φ 11 [vR v0, vR v1, vU, vI v3, vI v4, vI v5] [] h := by
  refine r_iload (pc := 11) dX24_input_11 rfl ?_
  refine r_iload_n (pc := 13) dX24_input_13 rfl ?_
  refine r_icmp_ge (pc := 14) (tgt := 40) dX24_input_14 rfl (fun c1 => ?_) (fun c1 => ?_)
  · have K := K.1 c1
    refine r_iload (pc := 40) dX24_input_40 rfl ?_
    exact r_iret (pc := 42) rfl rfl dX24_input_42 K
  · have K := K.2 c1
    refine r_aload_n (pc := 17) dX24_input_17 rfl ?_
    refine r_aload_n (pc := 18) dX24_input_18 rfl ?_
    obtain ⟨hk2, K⟩ := K
    have K := K _ rfl
    refine r_getr' (pc := 19) (T := TX26) 26 0 rfl hk2 (Or.inr (Or.inl ⟨_, q2142⟩)) dX24_input_19 kc26 g26000 ?_
    refine r_iload (pc := 22) dX24_input_22 rfl ?_
    refine r_bipush (pc := 24) (x := 36) dX24_input_24 rfl ?_
    refine r_iadd (pc := 26) dX24_input_26 ?_
    obtain ⟨hk6, K⟩ := K
    refine r_callV_I (pc := 27) (Y := mX24_script) (vs := [_, _]) (st := []) hk6 rfl kc24 q2456 q2458 qs85 dX24_input_27 rfl cd_X24_script rfl rfl fp_X24_input_X24_script K (fun x4 h5 eh5 wh5 K => ?_) (fun x h1 _ _ e => Tw.out rfl e)
    refine r_iconst (pc := 30) (x := 4) dX24_input_30 rfl ?_
    refine r_iadd (pc := 31) dX24_input_31 ?_
    refine r_istore (pc := 32) (lv' := [_, _, _, _, _, _]) dX24_input_32 (by decide) rfl ?_
    refine r_iinc (pc := 34) (lv' := [_, _, _, _, _, _]) dX24_input_34 rfl rfl (by decide) rfl ?_
    refine r_goto (pc := 37) (tgt := 11) dX24_input_37 rfl ?_
    refine r_mask (pc := 11) [true, true, false, true, true, true] rfl ?_
    exact K
theorem dX24_mark_0 : decode cX24_mark 0 = .ok (.iload_n 0, 1) := by decide +kernel
theorem dX24_mark_1 : decode cX24_mark 1 = .ok (.bipush 12, 2) := by decide +kernel
theorem dX24_mark_3 : decode cX24_mark 3 = .ok (.imul, 1) := by decide +kernel
theorem dX24_mark_4 : decode cX24_mark 4 = .ok (.iload_n 1, 1) := by decide +kernel
theorem dX24_mark_5 : decode cX24_mark 5 = .ok (.iadd, 1) := by decide +kernel
theorem dX24_mark_6 : decode cX24_mark 6 = .ok (.sipush 256, 3) := by decide +kernel
theorem dX24_mark_9 : decode cX24_mark 9 = .ok (.imul, 1) := by decide +kernel
theorem dX24_mark_10 : decode cX24_mark 10 = .ok (.iload_n 2, 1) := by decide +kernel
theorem dX24_mark_11 : decode cX24_mark 11 = .ok (.iadd, 1) := by decide +kernel
theorem dX24_mark_12 : decode cX24_mark 12 = .ok (.ireturn, 1) := by decide +kernel
/-! CoinJudgeModel.mark(III)I -/
set_option maxHeartbeats 4000000 in
theorem sX24_mark_0 {G : Gx} {d t : Nat} {h0 : AH} {Φ : Out → AH → Prop} (h : AH) (v0 : Int32) (v1 : Int32) (v2 : Int32) (K : Φ (.inl (some (vI ((((v0 * 12) + v1) * 256) + v2)))) h) : Aw G mX24_mark (d + 1) t h0 Φ 0 [vI v0, vI v1, vI v2] [] h := by
  refine r_iload_n (pc := 0) dX24_mark_0 rfl ?_
  refine r_bipush (pc := 1) (x := 12) dX24_mark_1 rfl ?_
  refine r_imul (pc := 3) dX24_mark_3 ?_
  refine r_iload_n (pc := 4) dX24_mark_4 rfl ?_
  refine r_iadd (pc := 5) dX24_mark_5 ?_
  refine r_sipush (pc := 6) (x := 256) dX24_mark_6 rfl ?_
  refine r_imul (pc := 9) dX24_mark_9 ?_
  refine r_iload_n (pc := 10) dX24_mark_10 rfl ?_
  refine r_iadd (pc := 11) dX24_mark_11 ?_
  exact r_iret (pc := 12) rfl rfl dX24_mark_12 K
theorem eX24_mark {G : Gx} {d : Nat} {Φ : Out → AH → Prop} (h : AH) (v0 : Int32) (v1 : Int32) (v2 : Int32) (K : WF G h → Aw G mX24_mark (d + 1) 0 h Φ 0 [vI v0, vI v1, vI v2] [] h) : Cw G mX24_mark (d + 1) 0 [vI v0, vI v1, vI v2] h Φ := Cw.of rfl K
theorem dX24_output_0 : decode cX24_output 0 = .ok (.aload_n 1, 1) := by decide +kernel
theorem dX24_output_1 : decode cX24_output 1 = .ok (.getfield 310, 3) := by decide +kernel
theorem dX24_output_4 : decode cX24_output 4 = .ok (.iload_n 2, 1) := by decide +kernel
theorem dX24_output_5 : decode cX24_output 5 = .ok (.iaload, 1) := by decide +kernel
theorem dX24_output_6 : decode cX24_output 6 = .ok (.istore 4, 2) := by decide +kernel
theorem dX24_output_8 : decode cX24_output 8 = .ok (.iconst 0, 1) := by decide +kernel
theorem dX24_output_9 : decode cX24_output 9 = .ok (.istore 5, 2) := by decide +kernel
theorem dX24_output_11 : decode cX24_output 11 = .ok (.iload 5, 2) := by decide +kernel
theorem dX24_output_13 : decode cX24_output 13 = .ok (.iload_n 3, 1) := by decide +kernel
theorem dX24_output_14 : decode cX24_output 14 = .ok (.if_icmp .ge 24, 3) := by decide +kernel
theorem dX24_output_17 : decode cX24_output 17 = .ok (.aload_n 0, 1) := by decide +kernel
theorem dX24_output_18 : decode cX24_output 18 = .ok (.aload_n 1, 1) := by decide +kernel
theorem dX24_output_19 : decode cX24_output 19 = .ok (.getfield 275, 3) := by decide +kernel
theorem dX24_output_22 : decode cX24_output 22 = .ok (.iload 4, 2) := by decide +kernel
theorem dX24_output_24 : decode cX24_output 24 = .ok (.bipush 8, 2) := by decide +kernel
theorem dX24_output_26 : decode cX24_output 26 = .ok (.iadd, 1) := by decide +kernel
theorem dX24_output_27 : decode cX24_output 27 = .ok (.invokevirtual 328, 3) := by decide +kernel
theorem dX24_output_30 : decode cX24_output 30 = .ok (.istore 4, 2) := by decide +kernel
theorem dX24_output_32 : decode cX24_output 32 = .ok (.iinc 5 1, 3) := by decide +kernel
theorem dX24_output_35 : decode cX24_output 35 = .ok (.goto (-24), 3) := by decide +kernel
theorem dX24_output_38 : decode cX24_output 38 = .ok (.iload 4, 2) := by decide +kernel
theorem dX24_output_40 : decode cX24_output 40 = .ok (.ireturn, 1) := by decide +kernel
/-! CoinJudgeModel.output(LCoinJudgeModel$Parsed;II)I -/
set_option maxHeartbeats 4000000 in
theorem sX24_output_0 {G : Gx} {d t : Nat} {h0 : AH} {Φ : Out → AH → Prop} (h : AH) (v0 : Nat) (v1 : Nat) (v2 : Int32) (v3 : Int32) (K : h.kd v1 = 26 ∧ ∀ r2 : Nat, r2 = (h.r 26007 v1) → h.kd r2 = 100 ∧ vp_in v2 (h.ai r2).length ∧ ∀ u5 : Int32, u5 = ((h.ai r2).getD (v2.toNatClampNeg) 0) → Aw G mX24_output (d + 1) t h0 Φ 11 [vR v0, vR v1, vU, vI v3, vI u5, vI 0] [] h) : Aw G mX24_output (d + 1) t h0 Φ 0 [vR v0, vR v1, vI v2, vI v3, vU, vU] [] h := by
  refine r_aload_n (pc := 0) dX24_output_0 rfl ?_
  obtain ⟨hk1, K⟩ := K
  have K := K _ rfl
  refine r_getr' (pc := 1) (T := TX26) 26 7 rfl hk1 (Or.inr (Or.inl ⟨_, q2155⟩)) dX24_output_1 kc26 g26007 ?_
  refine r_iload_n (pc := 4) dX24_output_4 rfl ?_
  obtain ⟨hk3, K⟩ := K
  obtain ⟨hi4, K⟩ := K
  refine r_iaload (pc := 5) hk3 hi4 dX24_output_5 ?_
  have K := K _ rfl
  refine r_istore (pc := 6) (lv' := [_, _, _, _, _, _]) dX24_output_6 (by decide) rfl ?_
  refine r_iconst (pc := 8) (x := 0) dX24_output_8 rfl ?_
  refine r_istore (pc := 9) (lv' := [_, _, _, _, _, _]) dX24_output_9 (by decide) rfl ?_
  refine r_mask (pc := 11) [true, true, false, true, true, true] rfl ?_
  exact K
theorem eX24_output {G : Gx} {d : Nat} {Φ : Out → AH → Prop} (h : AH) (v0 : Nat) (v1 : Nat) (v2 : Int32) (v3 : Int32) (K : WF G h → Aw G mX24_output (d + 1) 0 h Φ 0 [vR v0, vR v1, vI v2, vI v3, vU, vU] [] h) : Cw G mX24_output (d + 1) 0 [vR v0, vR v1, vI v2, vI v3] h Φ := Cw.of rfl K
set_option maxHeartbeats 4000000 in
theorem sX24_output_11 {G : Gx} {d t : Nat} {h0 : AH} {Φ : Out → AH → Prop} (h : AH) (v0 : Nat) (v1 : Nat) (v3 : Int32) (v4 : Int32) (v5 : Int32) (K : ((v3 ≤ v5 → Φ (.inl (some (vI v4))) h) ∧ (¬ v3 ≤ v5 → h.kd v1 = 26 ∧ ∀ r3 : Nat, r3 = (h.r 26000 v1) → h.kd v0 = 24 ∧ Cw G mX24_script d 0 [vR v0, vR r3, vI (v4 + 8)] h (kI (fun x4 h5 => Aw G mX24_output (d + 1) t h0 Φ 11 [vR v0, vR v1, vU, vI v3, vI x4, vI (v5 + 1)] [] h5) (fun x h => Φ (.inr x) h))))) : Aw G mX24_output (d + 1) t h0 Φ 11 [vR v0, vR v1, vU, vI v3, vI v4, vI v5] [] h := by
  refine r_iload (pc := 11) dX24_output_11 rfl ?_
  refine r_iload_n (pc := 13) dX24_output_13 rfl ?_
  refine r_icmp_ge (pc := 14) (tgt := 38) dX24_output_14 rfl (fun c1 => ?_) (fun c1 => ?_)
  · have K := K.1 c1
    refine r_iload (pc := 38) dX24_output_38 rfl ?_
    exact r_iret (pc := 40) rfl rfl dX24_output_40 K
  · have K := K.2 c1
    refine r_aload_n (pc := 17) dX24_output_17 rfl ?_
    refine r_aload_n (pc := 18) dX24_output_18 rfl ?_
    obtain ⟨hk2, K⟩ := K
    have K := K _ rfl
    refine r_getr' (pc := 19) (T := TX26) 26 0 rfl hk2 (Or.inr (Or.inl ⟨_, q2142⟩)) dX24_output_19 kc26 g26000 ?_
    refine r_iload (pc := 22) dX24_output_22 rfl ?_
    refine r_bipush (pc := 24) (x := 8) dX24_output_24 rfl ?_
    refine r_iadd (pc := 26) dX24_output_26 ?_
    obtain ⟨hk6, K⟩ := K
    refine r_callV_I (pc := 27) (Y := mX24_script) (vs := [_, _]) (st := []) hk6 rfl kc24 q2456 q2458 qs85 dX24_output_27 rfl cd_X24_script rfl rfl fp_X24_output_X24_script K (fun x4 h5 eh5 wh5 K => ?_) (fun x h1 _ _ e => Tw.out rfl e)
    refine r_istore (pc := 30) (lv' := [_, _, _, _, _, _]) dX24_output_30 (by decide) rfl ?_
    refine r_iinc (pc := 32) (lv' := [_, _, _, _, _, _]) dX24_output_32 rfl rfl (by decide) rfl ?_
    refine r_goto (pc := 35) (tgt := 11) dX24_output_35 rfl ?_
    refine r_mask (pc := 11) [true, true, false, true, true, true] rfl ?_
    exact K
theorem dX24_behind_0 : decode cX24_behind 0 = .ok (.aload_n 1, 1) := by decide +kernel
theorem dX24_behind_1 : decode cX24_behind 1 = .ok (.iload_n 2, 1) := by decide +kernel
theorem dX24_behind_2 : decode cX24_behind 2 = .ok (.baload, 1) := by decide +kernel
theorem dX24_behind_3 : decode cX24_behind 3 = .ok (.sipush 255, 3) := by decide +kernel
theorem dX24_behind_6 : decode cX24_behind 6 = .ok (.iand, 1) := by decide +kernel
theorem dX24_behind_7 : decode cX24_behind 7 = .ok (.istore 4, 2) := by decide +kernel
theorem dX24_behind_9 : decode cX24_behind 9 = .ok (.aload_n 0, 1) := by decide +kernel
theorem dX24_behind_10 : decode cX24_behind 10 = .ok (.iconst 0, 1) := by decide +kernel
theorem dX24_behind_11 : decode cX24_behind 11 = .ok (.putfield 427, 3) := by decide +kernel
theorem dX24_behind_14 : decode cX24_behind 14 = .ok (.iload 4, 2) := by decide +kernel
theorem dX24_behind_16 : decode cX24_behind 16 = .ok (.bipush 78, 2) := by decide +kernel
theorem dX24_behind_18 : decode cX24_behind 18 = .ok (.if_icmp .gt 8, 3) := by decide +kernel
theorem dX24_behind_21 : decode cX24_behind 21 = .ok (.iload 4, 2) := by decide +kernel
theorem dX24_behind_23 : decode cX24_behind 23 = .ok (.ifCond .ne 7, 3) := by decide +kernel
theorem dX24_behind_26 : decode cX24_behind 26 = .ok (.iload_n 2, 1) := by decide +kernel
theorem dX24_behind_27 : decode cX24_behind 27 = .ok (.iconst 1, 1) := by decide +kernel
theorem dX24_behind_28 : decode cX24_behind 28 = .ok (.iadd, 1) := by decide +kernel
theorem dX24_behind_29 : decode cX24_behind 29 = .ok (.ireturn, 1) := by decide +kernel
theorem dX24_behind_30 : decode cX24_behind 30 = .ok (.iload 4, 2) := by decide +kernel
theorem dX24_behind_32 : decode cX24_behind 32 = .ok (.bipush 76, 2) := by decide +kernel
theorem dX24_behind_34 : decode cX24_behind 34 = .ok (.if_icmp .ge 7, 3) := by decide +kernel
theorem dX24_behind_37 : decode cX24_behind 37 = .ok (.iconst 0, 1) := by decide +kernel
theorem dX24_behind_38 : decode cX24_behind 38 = .ok (.goto 26, 3) := by decide +kernel
theorem dX24_behind_41 : decode cX24_behind 41 = .ok (.iload 4, 2) := by decide +kernel
theorem dX24_behind_43 : decode cX24_behind 43 = .ok (.bipush 76, 2) := by decide +kernel
theorem dX24_behind_45 : decode cX24_behind 45 = .ok (.if_icmp .ne 7, 3) := by decide +kernel
theorem dX24_behind_48 : decode cX24_behind 48 = .ok (.iconst 1, 1) := by decide +kernel
theorem dX24_behind_49 : decode cX24_behind 49 = .ok (.goto 15, 3) := by decide +kernel
theorem dX24_behind_52 : decode cX24_behind 52 = .ok (.iload 4, 2) := by decide +kernel
theorem dX24_behind_54 : decode cX24_behind 54 = .ok (.bipush 77, 2) := by decide +kernel
theorem dX24_behind_56 : decode cX24_behind 56 = .ok (.if_icmp .ne 7, 3) := by decide +kernel
theorem dX24_behind_59 : decode cX24_behind 59 = .ok (.iconst 2, 1) := by decide +kernel
theorem dX24_behind_60 : decode cX24_behind 60 = .ok (.goto 4, 3) := by decide +kernel
theorem dX24_behind_63 : decode cX24_behind 63 = .ok (.iconst 4, 1) := by decide +kernel
theorem dX24_behind_64 : decode cX24_behind 64 = .ok (.istore 5, 2) := by decide +kernel
theorem dX24_behind_66 : decode cX24_behind 66 = .ok (.iload 5, 2) := by decide +kernel
theorem dX24_behind_68 : decode cX24_behind 68 = .ok (.iload_n 3, 1) := by decide +kernel
theorem dX24_behind_69 : decode cX24_behind 69 = .ok (.iload_n 2, 1) := by decide +kernel
theorem dX24_behind_70 : decode cX24_behind 70 = .ok (.isub, 1) := by decide +kernel
theorem dX24_behind_71 : decode cX24_behind 71 = .ok (.iconst 1, 1) := by decide +kernel
theorem dX24_behind_72 : decode cX24_behind 72 = .ok (.isub, 1) := by decide +kernel
theorem dX24_behind_73 : decode cX24_behind 73 = .ok (.if_icmp .le 5, 3) := by decide +kernel
theorem dX24_behind_76 : decode cX24_behind 76 = .ok (.iconst (-1), 1) := by decide +kernel
theorem dX24_behind_77 : decode cX24_behind 77 = .ok (.ireturn, 1) := by decide +kernel
theorem dX24_behind_78 : decode cX24_behind 78 = .ok (.iload 5, 2) := by decide +kernel
theorem dX24_behind_80 : decode cX24_behind 80 = .ok (.ifCond .ne 9, 3) := by decide +kernel
theorem dX24_behind_83 : decode cX24_behind 83 = .ok (.iload 4, 2) := by decide +kernel
theorem dX24_behind_85 : decode cX24_behind 85 = .ok (.i2l, 1) := by decide +kernel
theorem dX24_behind_86 : decode cX24_behind 86 = .ok (.goto 13, 3) := by decide +kernel
theorem dX24_behind_89 : decode cX24_behind 89 = .ok (.aload_n 0, 1) := by decide +kernel
theorem dX24_behind_90 : decode cX24_behind 90 = .ok (.aload_n 1, 1) := by decide +kernel
theorem dX24_behind_91 : decode cX24_behind 91 = .ok (.iload_n 2, 1) := by decide +kernel
theorem dX24_behind_92 : decode cX24_behind 92 = .ok (.iconst 1, 1) := by decide +kernel
theorem dX24_behind_93 : decode cX24_behind 93 = .ok (.iadd, 1) := by decide +kernel
theorem dX24_behind_94 : decode cX24_behind 94 = .ok (.iload 5, 2) := by decide +kernel
theorem dX24_behind_96 : decode cX24_behind 96 = .ok (.invokevirtual 267, 3) := by decide +kernel
theorem dX24_behind_99 : decode cX24_behind 99 = .ok (.lstore 6, 2) := by decide +kernel
theorem dX24_behind_101 : decode cX24_behind 101 = .ok (.lload 6, 2) := by decide +kernel
theorem dX24_behind_103 : decode cX24_behind 103 = .ok (.iload_n 3, 1) := by decide +kernel
theorem dX24_behind_104 : decode cX24_behind 104 = .ok (.iload_n 2, 1) := by decide +kernel
theorem dX24_behind_105 : decode cX24_behind 105 = .ok (.isub, 1) := by decide +kernel
theorem dX24_behind_106 : decode cX24_behind 106 = .ok (.iconst 1, 1) := by decide +kernel
theorem dX24_behind_107 : decode cX24_behind 107 = .ok (.isub, 1) := by decide +kernel
theorem dX24_behind_108 : decode cX24_behind 108 = .ok (.iload 5, 2) := by decide +kernel
theorem dX24_behind_110 : decode cX24_behind 110 = .ok (.isub, 1) := by decide +kernel
theorem dX24_behind_111 : decode cX24_behind 111 = .ok (.i2l, 1) := by decide +kernel
theorem dX24_behind_112 : decode cX24_behind 112 = .ok (.lcmp, 1) := by decide +kernel
theorem dX24_behind_113 : decode cX24_behind 113 = .ok (.ifCond .le 5, 3) := by decide +kernel
theorem dX24_behind_116 : decode cX24_behind 116 = .ok (.iconst (-1), 1) := by decide +kernel
theorem dX24_behind_117 : decode cX24_behind 117 = .ok (.ireturn, 1) := by decide +kernel
theorem dX24_behind_118 : decode cX24_behind 118 = .ok (.aload_n 0, 1) := by decide +kernel
theorem dX24_behind_119 : decode cX24_behind 119 = .ok (.lload 6, 2) := by decide +kernel
theorem dX24_behind_121 : decode cX24_behind 121 = .ok (.l2i, 1) := by decide +kernel
theorem dX24_behind_122 : decode cX24_behind 122 = .ok (.putfield 427, 3) := by decide +kernel
theorem dX24_behind_125 : decode cX24_behind 125 = .ok (.iload_n 2, 1) := by decide +kernel
theorem dX24_behind_126 : decode cX24_behind 126 = .ok (.iconst 1, 1) := by decide +kernel
theorem dX24_behind_127 : decode cX24_behind 127 = .ok (.iadd, 1) := by decide +kernel
theorem dX24_behind_128 : decode cX24_behind 128 = .ok (.iload 5, 2) := by decide +kernel
theorem dX24_behind_130 : decode cX24_behind 130 = .ok (.iadd, 1) := by decide +kernel
theorem dX24_behind_131 : decode cX24_behind 131 = .ok (.aload_n 0, 1) := by decide +kernel
theorem dX24_behind_132 : decode cX24_behind 132 = .ok (.getfield 427, 3) := by decide +kernel
theorem dX24_behind_135 : decode cX24_behind 135 = .ok (.iadd, 1) := by decide +kernel
theorem dX24_behind_136 : decode cX24_behind 136 = .ok (.ireturn, 1) := by decide +kernel
/-! CoinJudgeModel.behind([BII)I -/
set_option maxHeartbeats 4000000 in
theorem sX24_behind_0 {G : Gx} {d t : Nat} {h0 : AH} {Φ : Out → AH → Prop} (h : AH) (v0 : Nat) (v1 : Nat) (v2 : Int32) (v3 : Int32) (K : h.kd v1 = 101 ∧ vp_in v2 (h.ai v1).length ∧ ∀ u3 : Int32, u3 = (((h.ai v1).getD (v2.toNatClampNeg) 0) &&& 255) → h.kd v0 = 24 ∧ ∀ h5 : AH, h5 = h.pi 24063 v0 0 → ((78 < u3 → Φ (.inl (some (vI (v2 + 1)))) h5) ∧ (¬ 78 < u3 → ((¬ u3 = 0 → ((76 ≤ u3 → ((¬ u3 = 76 → ((¬ u3 = 77 → ((4 ≤ ((v3 - v2) - 1) → ((¬ (4 : Int32) = 0 → Cw G mX24_number d 0 [vR v0, vR v1, vI (v2 + 1), vI 4] h5 (kJ (fun x13 h14 => ((x13 ≤ (((v3 - v2) - 1) - 4).toInt64 → ∀ h18 : AH, h18 = h14.pi 24063 v0 x13.toInt32 → Φ (.inl (some (vI (((v2 + 1) + 4) + (h18.i 24063 v0))))) h18) ∧ (¬ x13 ≤ (((v3 - v2) - 1) - 4).toInt64 → Φ (.inl (some (vI (-1)))) h14))) (fun x h => Φ (.inr x) h))) ∧ ((4 : Int32) = 0 → ((u3.toInt64 ≤ (((v3 - v2) - 1) - 4).toInt64 → ∀ h22 : AH, h22 = h5.pi 24063 v0 u3.toInt64.toInt32 → Φ (.inl (some (vI (((v2 + 1) + 4) + (h22.i 24063 v0))))) h22) ∧ (¬ u3.toInt64 ≤ (((v3 - v2) - 1) - 4).toInt64 → Φ (.inl (some (vI (-1)))) h5))))) ∧ (¬ 4 ≤ ((v3 - v2) - 1) → Φ (.inl (some (vI (-1)))) h5))) ∧ (u3 = 77 → ((2 ≤ ((v3 - v2) - 1) → ((¬ (2 : Int32) = 0 → Cw G mX24_number d 0 [vR v0, vR v1, vI (v2 + 1), vI 2] h5 (kJ (fun x26 h27 => ((x26 ≤ (((v3 - v2) - 1) - 2).toInt64 → ∀ h31 : AH, h31 = h27.pi 24063 v0 x26.toInt32 → Φ (.inl (some (vI (((v2 + 1) + 2) + (h31.i 24063 v0))))) h31) ∧ (¬ x26 ≤ (((v3 - v2) - 1) - 2).toInt64 → Φ (.inl (some (vI (-1)))) h27))) (fun x h => Φ (.inr x) h))) ∧ ((2 : Int32) = 0 → ((u3.toInt64 ≤ (((v3 - v2) - 1) - 2).toInt64 → ∀ h35 : AH, h35 = h5.pi 24063 v0 u3.toInt64.toInt32 → Φ (.inl (some (vI (((v2 + 1) + 2) + (h35.i 24063 v0))))) h35) ∧ (¬ u3.toInt64 ≤ (((v3 - v2) - 1) - 2).toInt64 → Φ (.inl (some (vI (-1)))) h5))))) ∧ (¬ 2 ≤ ((v3 - v2) - 1) → Φ (.inl (some (vI (-1)))) h5))))) ∧ (u3 = 76 → ((1 ≤ ((v3 - v2) - 1) → ((¬ (1 : Int32) = 0 → Cw G mX24_number d 0 [vR v0, vR v1, vI (v2 + 1), vI 1] h5 (kJ (fun x39 h40 => ((x39 ≤ (((v3 - v2) - 1) - 1).toInt64 → ∀ h44 : AH, h44 = h40.pi 24063 v0 x39.toInt32 → Φ (.inl (some (vI (((v2 + 1) + 1) + (h44.i 24063 v0))))) h44) ∧ (¬ x39 ≤ (((v3 - v2) - 1) - 1).toInt64 → Φ (.inl (some (vI (-1)))) h40))) (fun x h => Φ (.inr x) h))) ∧ ((1 : Int32) = 0 → ((u3.toInt64 ≤ (((v3 - v2) - 1) - 1).toInt64 → ∀ h48 : AH, h48 = h5.pi 24063 v0 u3.toInt64.toInt32 → Φ (.inl (some (vI (((v2 + 1) + 1) + (h48.i 24063 v0))))) h48) ∧ (¬ u3.toInt64 ≤ (((v3 - v2) - 1) - 1).toInt64 → Φ (.inl (some (vI (-1)))) h5))))) ∧ (¬ 1 ≤ ((v3 - v2) - 1) → Φ (.inl (some (vI (-1)))) h5))))) ∧ (¬ 76 ≤ u3 → ((0 ≤ ((v3 - v2) - 1) → ((¬ (0 : Int32) = 0 → Cw G mX24_number d 0 [vR v0, vR v1, vI (v2 + 1), vI 0] h5 (kJ (fun x52 h53 => ((x52 ≤ (((v3 - v2) - 1) - 0).toInt64 → ∀ h57 : AH, h57 = h53.pi 24063 v0 x52.toInt32 → Φ (.inl (some (vI (((v2 + 1) + 0) + (h57.i 24063 v0))))) h57) ∧ (¬ x52 ≤ (((v3 - v2) - 1) - 0).toInt64 → Φ (.inl (some (vI (-1)))) h53))) (fun x h => Φ (.inr x) h))) ∧ ((0 : Int32) = 0 → ((u3.toInt64 ≤ (((v3 - v2) - 1) - 0).toInt64 → ∀ h61 : AH, h61 = h5.pi 24063 v0 u3.toInt64.toInt32 → Φ (.inl (some (vI (((v2 + 1) + 0) + (h61.i 24063 v0))))) h61) ∧ (¬ u3.toInt64 ≤ (((v3 - v2) - 1) - 0).toInt64 → Φ (.inl (some (vI (-1)))) h5))))) ∧ (¬ 0 ≤ ((v3 - v2) - 1) → Φ (.inl (some (vI (-1)))) h5))))) ∧ (u3 = 0 → Φ (.inl (some (vI (v2 + 1)))) h5))))) : Aw G mX24_behind (d + 1) t h0 Φ 0 [vR v0, vR v1, vI v2, vI v3, vU, vU, vU, vU] [] h := by
  refine r_aload_n (pc := 0) dX24_behind_0 rfl ?_
  refine r_iload_n (pc := 1) dX24_behind_1 rfl ?_
  obtain ⟨hk1, K⟩ := K
  obtain ⟨hi2, K⟩ := K
  refine r_baload (pc := 2) hk1 hi2 dX24_behind_2 ?_
  refine r_sipush (pc := 3) (x := 255) dX24_behind_3 rfl ?_
  refine r_iand (pc := 6) dX24_behind_6 ?_
  have K := K _ rfl
  refine r_istore (pc := 7) (lv' := [_, _, _, _, _, _, _, _]) dX24_behind_7 (by decide) rfl ?_
  refine r_aload_n (pc := 9) dX24_behind_9 rfl ?_
  refine r_iconst (pc := 10) (x := 0) dX24_behind_10 rfl ?_
  obtain ⟨hk4, K⟩ := K
  refine r_puti (pc := 11) (T := TX24) (key := 24063) 24 63 hk4 (Or.inl q2761) dX24_behind_11 kc24 rfl (Or.inl rfl) (Or.inl (em rfl)) ?_
  refine r_nameH (fun h5 eh5 => ?_)
  have K := K h5 eh5
  refine r_iload (pc := 14) dX24_behind_14 rfl ?_
  refine r_bipush (pc := 16) (x := 78) dX24_behind_16 rfl ?_
  refine r_icmp_gt (pc := 18) (tgt := 26) dX24_behind_18 rfl (fun c6 => ?_) (fun c6 => ?_)
  · have K := K.1 c6
    refine r_iload_n (pc := 26) dX24_behind_26 rfl ?_
    refine r_iconst (pc := 27) (x := 1) dX24_behind_27 rfl ?_
    refine r_iadd (pc := 28) dX24_behind_28 ?_
    exact r_iret (pc := 29) rfl rfl dX24_behind_29 K
  · have K := K.2 c6
    refine r_iload (pc := 21) dX24_behind_21 rfl ?_
    refine r_if_ne (pc := 23) (tgt := 30) dX24_behind_23 rfl (fun c7 => ?_) (fun c7 => ?_)
    · have K := K.1 c7
      refine r_iload (pc := 30) dX24_behind_30 rfl ?_
      refine r_bipush (pc := 32) (x := 76) dX24_behind_32 rfl ?_
      refine r_icmp_ge (pc := 34) (tgt := 41) dX24_behind_34 rfl (fun c8 => ?_) (fun c8 => ?_)
      · have K := K.1 c8
        refine r_iload (pc := 41) dX24_behind_41 rfl ?_
        refine r_bipush (pc := 43) (x := 76) dX24_behind_43 rfl ?_
        refine r_icmp_ne (pc := 45) (tgt := 52) dX24_behind_45 rfl (fun c9 => ?_) (fun c9 => ?_)
        · have K := K.1 c9
          refine r_iload (pc := 52) dX24_behind_52 rfl ?_
          refine r_bipush (pc := 54) (x := 77) dX24_behind_54 rfl ?_
          refine r_icmp_ne (pc := 56) (tgt := 63) dX24_behind_56 rfl (fun c10 => ?_) (fun c10 => ?_)
          · have K := K.1 c10
            refine r_iconst (pc := 63) (x := 4) dX24_behind_63 rfl ?_
            refine r_istore (pc := 64) (lv' := [_, _, _, _, _, _, _, _]) dX24_behind_64 (by decide) rfl ?_
            refine r_iload (pc := 66) dX24_behind_66 rfl ?_
            refine r_iload_n (pc := 68) dX24_behind_68 rfl ?_
            refine r_iload_n (pc := 69) dX24_behind_69 rfl ?_
            refine r_isub (pc := 70) dX24_behind_70 ?_
            refine r_iconst (pc := 71) (x := 1) dX24_behind_71 rfl ?_
            refine r_isub (pc := 72) dX24_behind_72 ?_
            refine r_icmp_le (pc := 73) (tgt := 78) dX24_behind_73 rfl (fun c11 => ?_) (fun c11 => ?_)
            · have K := K.1 c11
              refine r_iload (pc := 78) dX24_behind_78 rfl ?_
              refine r_if_ne (pc := 80) (tgt := 89) dX24_behind_80 rfl (fun c12 => ?_) (fun c12 => ?_)
              · have K := K.1 c12
                refine r_aload_n (pc := 89) dX24_behind_89 rfl ?_
                refine r_aload_n (pc := 90) dX24_behind_90 rfl ?_
                refine r_iload_n (pc := 91) dX24_behind_91 rfl ?_
                refine r_iconst (pc := 92) (x := 1) dX24_behind_92 rfl ?_
                refine r_iadd (pc := 93) dX24_behind_93 ?_
                refine r_iload (pc := 94) dX24_behind_94 rfl ?_
                have hk15 := kd_pi eh5 hk4
                refine r_callV_J (pc := 96) (Y := mX24_number) (vs := [_, _, _]) (st := []) hk15 rfl kc24 q2350 q2352 qs74 dX24_behind_96 rfl cd_X24_number rfl rfl fp_X24_behind_X24_number K (fun x13 h14 eh14 wh14 K => ?_) (fun x h1 _ _ e => Tw.out rfl e)
                refine r_lstore (pc := 99) (lv' := [_, _, _, _, _, _, _, _]) dX24_behind_99 (by decide) rfl ?_
                refine r_lload (pc := 101) dX24_behind_101 rfl ?_
                refine r_iload_n (pc := 103) dX24_behind_103 rfl ?_
                refine r_iload_n (pc := 104) dX24_behind_104 rfl ?_
                refine r_isub (pc := 105) dX24_behind_105 ?_
                refine r_iconst (pc := 106) (x := 1) dX24_behind_106 rfl ?_
                refine r_isub (pc := 107) dX24_behind_107 ?_
                refine r_iload (pc := 108) dX24_behind_108 rfl ?_
                refine r_isub (pc := 110) dX24_behind_110 ?_
                refine r_i2l (pc := 111) dX24_behind_111 ?_
                refine r_lcmp_le (pc := 112) (tgt := 118) dX24_behind_112 dX24_behind_113 rfl (fun c16 => ?_) (fun c16 => ?_)
                · have K := K.1 c16
                  refine r_aload_n (pc := 118) dX24_behind_118 rfl ?_
                  refine r_lload (pc := 119) dX24_behind_119 rfl ?_
                  refine r_l2i (pc := 121) dX24_behind_121 ?_
                  have hk17 := kd_ext eh14 hk15 (nz rfl)
                  refine r_puti (pc := 122) (T := TX24) (key := 24063) 24 63 hk17 (Or.inl q2761) dX24_behind_122 kc24 rfl (Or.inl rfl) (Or.inl (em rfl)) ?_
                  refine r_nameH (fun h18 eh18 => ?_)
                  have K := K h18 eh18
                  refine r_iload_n (pc := 125) dX24_behind_125 rfl ?_
                  refine r_iconst (pc := 126) (x := 1) dX24_behind_126 rfl ?_
                  refine r_iadd (pc := 127) dX24_behind_127 ?_
                  refine r_iload (pc := 128) dX24_behind_128 rfl ?_
                  refine r_iadd (pc := 130) dX24_behind_130 ?_
                  refine r_aload_n (pc := 131) dX24_behind_131 rfl ?_
                  have hk19 := kd_pi eh18 hk17
                  refine r_geti' (pc := 132) (T := TX24) 24 63 rfl hk19 (Or.inl q2761) dX24_behind_132 kc24 g24063 ?_
                  refine r_iadd (pc := 135) dX24_behind_135 ?_
                  exact r_iret (pc := 136) rfl rfl dX24_behind_136 K
                · have K := K.2 c16
                  refine r_iconst (pc := 116) (x := (-1)) dX24_behind_116 rfl ?_
                  exact r_iret (pc := 117) rfl rfl dX24_behind_117 K
              · have K := K.2 c12
                refine r_iload (pc := 83) dX24_behind_83 rfl ?_
                refine r_i2l (pc := 85) dX24_behind_85 ?_
                refine r_goto (pc := 86) (tgt := 99) dX24_behind_86 rfl ?_
                refine r_lstore (pc := 99) (lv' := [_, _, _, _, _, _, _, _]) dX24_behind_99 (by decide) rfl ?_
                refine r_lload (pc := 101) dX24_behind_101 rfl ?_
                refine r_iload_n (pc := 103) dX24_behind_103 rfl ?_
                refine r_iload_n (pc := 104) dX24_behind_104 rfl ?_
                refine r_isub (pc := 105) dX24_behind_105 ?_
                refine r_iconst (pc := 106) (x := 1) dX24_behind_106 rfl ?_
                refine r_isub (pc := 107) dX24_behind_107 ?_
                refine r_iload (pc := 108) dX24_behind_108 rfl ?_
                refine r_isub (pc := 110) dX24_behind_110 ?_
                refine r_i2l (pc := 111) dX24_behind_111 ?_
                refine r_lcmp_le (pc := 112) (tgt := 118) dX24_behind_112 dX24_behind_113 rfl (fun c20 => ?_) (fun c20 => ?_)
                · have K := K.1 c20
                  refine r_aload_n (pc := 118) dX24_behind_118 rfl ?_
                  refine r_lload (pc := 119) dX24_behind_119 rfl ?_
                  refine r_l2i (pc := 121) dX24_behind_121 ?_
                  have hk21 := kd_pi eh5 hk4
                  refine r_puti (pc := 122) (T := TX24) (key := 24063) 24 63 hk21 (Or.inl q2761) dX24_behind_122 kc24 rfl (Or.inl rfl) (Or.inl (em rfl)) ?_
                  refine r_nameH (fun h22 eh22 => ?_)
                  have K := K h22 eh22
                  refine r_iload_n (pc := 125) dX24_behind_125 rfl ?_
                  refine r_iconst (pc := 126) (x := 1) dX24_behind_126 rfl ?_
                  refine r_iadd (pc := 127) dX24_behind_127 ?_
                  refine r_iload (pc := 128) dX24_behind_128 rfl ?_
                  refine r_iadd (pc := 130) dX24_behind_130 ?_
                  refine r_aload_n (pc := 131) dX24_behind_131 rfl ?_
                  have hk23 := kd_pi eh22 hk21
                  refine r_geti' (pc := 132) (T := TX24) 24 63 rfl hk23 (Or.inl q2761) dX24_behind_132 kc24 g24063 ?_
                  refine r_iadd (pc := 135) dX24_behind_135 ?_
                  exact r_iret (pc := 136) rfl rfl dX24_behind_136 K
                · have K := K.2 c20
                  refine r_iconst (pc := 116) (x := (-1)) dX24_behind_116 rfl ?_
                  exact r_iret (pc := 117) rfl rfl dX24_behind_117 K
            · have K := K.2 c11
              refine r_iconst (pc := 76) (x := (-1)) dX24_behind_76 rfl ?_
              exact r_iret (pc := 77) rfl rfl dX24_behind_77 K
          · have K := K.2 c10
            refine r_iconst (pc := 59) (x := 2) dX24_behind_59 rfl ?_
            refine r_goto (pc := 60) (tgt := 64) dX24_behind_60 rfl ?_
            refine r_istore (pc := 64) (lv' := [_, _, _, _, _, _, _, _]) dX24_behind_64 (by decide) rfl ?_
            refine r_iload (pc := 66) dX24_behind_66 rfl ?_
            refine r_iload_n (pc := 68) dX24_behind_68 rfl ?_
            refine r_iload_n (pc := 69) dX24_behind_69 rfl ?_
            refine r_isub (pc := 70) dX24_behind_70 ?_
            refine r_iconst (pc := 71) (x := 1) dX24_behind_71 rfl ?_
            refine r_isub (pc := 72) dX24_behind_72 ?_
            refine r_icmp_le (pc := 73) (tgt := 78) dX24_behind_73 rfl (fun c24 => ?_) (fun c24 => ?_)
            · have K := K.1 c24
              refine r_iload (pc := 78) dX24_behind_78 rfl ?_
              refine r_if_ne (pc := 80) (tgt := 89) dX24_behind_80 rfl (fun c25 => ?_) (fun c25 => ?_)
              · have K := K.1 c25
                refine r_aload_n (pc := 89) dX24_behind_89 rfl ?_
                refine r_aload_n (pc := 90) dX24_behind_90 rfl ?_
                refine r_iload_n (pc := 91) dX24_behind_91 rfl ?_
                refine r_iconst (pc := 92) (x := 1) dX24_behind_92 rfl ?_
                refine r_iadd (pc := 93) dX24_behind_93 ?_
                refine r_iload (pc := 94) dX24_behind_94 rfl ?_
                have hk28 := kd_pi eh5 hk4
                refine r_callV_J (pc := 96) (Y := mX24_number) (vs := [_, _, _]) (st := []) hk28 rfl kc24 q2350 q2352 qs74 dX24_behind_96 rfl cd_X24_number rfl rfl fp_X24_behind_X24_number K (fun x26 h27 eh27 wh27 K => ?_) (fun x h1 _ _ e => Tw.out rfl e)
                refine r_lstore (pc := 99) (lv' := [_, _, _, _, _, _, _, _]) dX24_behind_99 (by decide) rfl ?_
                refine r_lload (pc := 101) dX24_behind_101 rfl ?_
                refine r_iload_n (pc := 103) dX24_behind_103 rfl ?_
                refine r_iload_n (pc := 104) dX24_behind_104 rfl ?_
                refine r_isub (pc := 105) dX24_behind_105 ?_
                refine r_iconst (pc := 106) (x := 1) dX24_behind_106 rfl ?_
                refine r_isub (pc := 107) dX24_behind_107 ?_
                refine r_iload (pc := 108) dX24_behind_108 rfl ?_
                refine r_isub (pc := 110) dX24_behind_110 ?_
                refine r_i2l (pc := 111) dX24_behind_111 ?_
                refine r_lcmp_le (pc := 112) (tgt := 118) dX24_behind_112 dX24_behind_113 rfl (fun c29 => ?_) (fun c29 => ?_)
                · have K := K.1 c29
                  refine r_aload_n (pc := 118) dX24_behind_118 rfl ?_
                  refine r_lload (pc := 119) dX24_behind_119 rfl ?_
                  refine r_l2i (pc := 121) dX24_behind_121 ?_
                  have hk30 := kd_ext eh27 hk28 (nz rfl)
                  refine r_puti (pc := 122) (T := TX24) (key := 24063) 24 63 hk30 (Or.inl q2761) dX24_behind_122 kc24 rfl (Or.inl rfl) (Or.inl (em rfl)) ?_
                  refine r_nameH (fun h31 eh31 => ?_)
                  have K := K h31 eh31
                  refine r_iload_n (pc := 125) dX24_behind_125 rfl ?_
                  refine r_iconst (pc := 126) (x := 1) dX24_behind_126 rfl ?_
                  refine r_iadd (pc := 127) dX24_behind_127 ?_
                  refine r_iload (pc := 128) dX24_behind_128 rfl ?_
                  refine r_iadd (pc := 130) dX24_behind_130 ?_
                  refine r_aload_n (pc := 131) dX24_behind_131 rfl ?_
                  have hk32 := kd_pi eh31 hk30
                  refine r_geti' (pc := 132) (T := TX24) 24 63 rfl hk32 (Or.inl q2761) dX24_behind_132 kc24 g24063 ?_
                  refine r_iadd (pc := 135) dX24_behind_135 ?_
                  exact r_iret (pc := 136) rfl rfl dX24_behind_136 K
                · have K := K.2 c29
                  refine r_iconst (pc := 116) (x := (-1)) dX24_behind_116 rfl ?_
                  exact r_iret (pc := 117) rfl rfl dX24_behind_117 K
              · have K := K.2 c25
                refine r_iload (pc := 83) dX24_behind_83 rfl ?_
                refine r_i2l (pc := 85) dX24_behind_85 ?_
                refine r_goto (pc := 86) (tgt := 99) dX24_behind_86 rfl ?_
                refine r_lstore (pc := 99) (lv' := [_, _, _, _, _, _, _, _]) dX24_behind_99 (by decide) rfl ?_
                refine r_lload (pc := 101) dX24_behind_101 rfl ?_
                refine r_iload_n (pc := 103) dX24_behind_103 rfl ?_
                refine r_iload_n (pc := 104) dX24_behind_104 rfl ?_
                refine r_isub (pc := 105) dX24_behind_105 ?_
                refine r_iconst (pc := 106) (x := 1) dX24_behind_106 rfl ?_
                refine r_isub (pc := 107) dX24_behind_107 ?_
                refine r_iload (pc := 108) dX24_behind_108 rfl ?_
                refine r_isub (pc := 110) dX24_behind_110 ?_
                refine r_i2l (pc := 111) dX24_behind_111 ?_
                refine r_lcmp_le (pc := 112) (tgt := 118) dX24_behind_112 dX24_behind_113 rfl (fun c33 => ?_) (fun c33 => ?_)
                · have K := K.1 c33
                  refine r_aload_n (pc := 118) dX24_behind_118 rfl ?_
                  refine r_lload (pc := 119) dX24_behind_119 rfl ?_
                  refine r_l2i (pc := 121) dX24_behind_121 ?_
                  have hk34 := kd_pi eh5 hk4
                  refine r_puti (pc := 122) (T := TX24) (key := 24063) 24 63 hk34 (Or.inl q2761) dX24_behind_122 kc24 rfl (Or.inl rfl) (Or.inl (em rfl)) ?_
                  refine r_nameH (fun h35 eh35 => ?_)
                  have K := K h35 eh35
                  refine r_iload_n (pc := 125) dX24_behind_125 rfl ?_
                  refine r_iconst (pc := 126) (x := 1) dX24_behind_126 rfl ?_
                  refine r_iadd (pc := 127) dX24_behind_127 ?_
                  refine r_iload (pc := 128) dX24_behind_128 rfl ?_
                  refine r_iadd (pc := 130) dX24_behind_130 ?_
                  refine r_aload_n (pc := 131) dX24_behind_131 rfl ?_
                  have hk36 := kd_pi eh35 hk34
                  refine r_geti' (pc := 132) (T := TX24) 24 63 rfl hk36 (Or.inl q2761) dX24_behind_132 kc24 g24063 ?_
                  refine r_iadd (pc := 135) dX24_behind_135 ?_
                  exact r_iret (pc := 136) rfl rfl dX24_behind_136 K
                · have K := K.2 c33
                  refine r_iconst (pc := 116) (x := (-1)) dX24_behind_116 rfl ?_
                  exact r_iret (pc := 117) rfl rfl dX24_behind_117 K
            · have K := K.2 c24
              refine r_iconst (pc := 76) (x := (-1)) dX24_behind_76 rfl ?_
              exact r_iret (pc := 77) rfl rfl dX24_behind_77 K
        · have K := K.2 c9
          refine r_iconst (pc := 48) (x := 1) dX24_behind_48 rfl ?_
          refine r_goto (pc := 49) (tgt := 64) dX24_behind_49 rfl ?_
          refine r_istore (pc := 64) (lv' := [_, _, _, _, _, _, _, _]) dX24_behind_64 (by decide) rfl ?_
          refine r_iload (pc := 66) dX24_behind_66 rfl ?_
          refine r_iload_n (pc := 68) dX24_behind_68 rfl ?_
          refine r_iload_n (pc := 69) dX24_behind_69 rfl ?_
          refine r_isub (pc := 70) dX24_behind_70 ?_
          refine r_iconst (pc := 71) (x := 1) dX24_behind_71 rfl ?_
          refine r_isub (pc := 72) dX24_behind_72 ?_
          refine r_icmp_le (pc := 73) (tgt := 78) dX24_behind_73 rfl (fun c37 => ?_) (fun c37 => ?_)
          · have K := K.1 c37
            refine r_iload (pc := 78) dX24_behind_78 rfl ?_
            refine r_if_ne (pc := 80) (tgt := 89) dX24_behind_80 rfl (fun c38 => ?_) (fun c38 => ?_)
            · have K := K.1 c38
              refine r_aload_n (pc := 89) dX24_behind_89 rfl ?_
              refine r_aload_n (pc := 90) dX24_behind_90 rfl ?_
              refine r_iload_n (pc := 91) dX24_behind_91 rfl ?_
              refine r_iconst (pc := 92) (x := 1) dX24_behind_92 rfl ?_
              refine r_iadd (pc := 93) dX24_behind_93 ?_
              refine r_iload (pc := 94) dX24_behind_94 rfl ?_
              have hk41 := kd_pi eh5 hk4
              refine r_callV_J (pc := 96) (Y := mX24_number) (vs := [_, _, _]) (st := []) hk41 rfl kc24 q2350 q2352 qs74 dX24_behind_96 rfl cd_X24_number rfl rfl fp_X24_behind_X24_number K (fun x39 h40 eh40 wh40 K => ?_) (fun x h1 _ _ e => Tw.out rfl e)
              refine r_lstore (pc := 99) (lv' := [_, _, _, _, _, _, _, _]) dX24_behind_99 (by decide) rfl ?_
              refine r_lload (pc := 101) dX24_behind_101 rfl ?_
              refine r_iload_n (pc := 103) dX24_behind_103 rfl ?_
              refine r_iload_n (pc := 104) dX24_behind_104 rfl ?_
              refine r_isub (pc := 105) dX24_behind_105 ?_
              refine r_iconst (pc := 106) (x := 1) dX24_behind_106 rfl ?_
              refine r_isub (pc := 107) dX24_behind_107 ?_
              refine r_iload (pc := 108) dX24_behind_108 rfl ?_
              refine r_isub (pc := 110) dX24_behind_110 ?_
              refine r_i2l (pc := 111) dX24_behind_111 ?_
              refine r_lcmp_le (pc := 112) (tgt := 118) dX24_behind_112 dX24_behind_113 rfl (fun c42 => ?_) (fun c42 => ?_)
              · have K := K.1 c42
                refine r_aload_n (pc := 118) dX24_behind_118 rfl ?_
                refine r_lload (pc := 119) dX24_behind_119 rfl ?_
                refine r_l2i (pc := 121) dX24_behind_121 ?_
                have hk43 := kd_ext eh40 hk41 (nz rfl)
                refine r_puti (pc := 122) (T := TX24) (key := 24063) 24 63 hk43 (Or.inl q2761) dX24_behind_122 kc24 rfl (Or.inl rfl) (Or.inl (em rfl)) ?_
                refine r_nameH (fun h44 eh44 => ?_)
                have K := K h44 eh44
                refine r_iload_n (pc := 125) dX24_behind_125 rfl ?_
                refine r_iconst (pc := 126) (x := 1) dX24_behind_126 rfl ?_
                refine r_iadd (pc := 127) dX24_behind_127 ?_
                refine r_iload (pc := 128) dX24_behind_128 rfl ?_
                refine r_iadd (pc := 130) dX24_behind_130 ?_
                refine r_aload_n (pc := 131) dX24_behind_131 rfl ?_
                have hk45 := kd_pi eh44 hk43
                refine r_geti' (pc := 132) (T := TX24) 24 63 rfl hk45 (Or.inl q2761) dX24_behind_132 kc24 g24063 ?_
                refine r_iadd (pc := 135) dX24_behind_135 ?_
                exact r_iret (pc := 136) rfl rfl dX24_behind_136 K
              · have K := K.2 c42
                refine r_iconst (pc := 116) (x := (-1)) dX24_behind_116 rfl ?_
                exact r_iret (pc := 117) rfl rfl dX24_behind_117 K
            · have K := K.2 c38
              refine r_iload (pc := 83) dX24_behind_83 rfl ?_
              refine r_i2l (pc := 85) dX24_behind_85 ?_
              refine r_goto (pc := 86) (tgt := 99) dX24_behind_86 rfl ?_
              refine r_lstore (pc := 99) (lv' := [_, _, _, _, _, _, _, _]) dX24_behind_99 (by decide) rfl ?_
              refine r_lload (pc := 101) dX24_behind_101 rfl ?_
              refine r_iload_n (pc := 103) dX24_behind_103 rfl ?_
              refine r_iload_n (pc := 104) dX24_behind_104 rfl ?_
              refine r_isub (pc := 105) dX24_behind_105 ?_
              refine r_iconst (pc := 106) (x := 1) dX24_behind_106 rfl ?_
              refine r_isub (pc := 107) dX24_behind_107 ?_
              refine r_iload (pc := 108) dX24_behind_108 rfl ?_
              refine r_isub (pc := 110) dX24_behind_110 ?_
              refine r_i2l (pc := 111) dX24_behind_111 ?_
              refine r_lcmp_le (pc := 112) (tgt := 118) dX24_behind_112 dX24_behind_113 rfl (fun c46 => ?_) (fun c46 => ?_)
              · have K := K.1 c46
                refine r_aload_n (pc := 118) dX24_behind_118 rfl ?_
                refine r_lload (pc := 119) dX24_behind_119 rfl ?_
                refine r_l2i (pc := 121) dX24_behind_121 ?_
                have hk47 := kd_pi eh5 hk4
                refine r_puti (pc := 122) (T := TX24) (key := 24063) 24 63 hk47 (Or.inl q2761) dX24_behind_122 kc24 rfl (Or.inl rfl) (Or.inl (em rfl)) ?_
                refine r_nameH (fun h48 eh48 => ?_)
                have K := K h48 eh48
                refine r_iload_n (pc := 125) dX24_behind_125 rfl ?_
                refine r_iconst (pc := 126) (x := 1) dX24_behind_126 rfl ?_
                refine r_iadd (pc := 127) dX24_behind_127 ?_
                refine r_iload (pc := 128) dX24_behind_128 rfl ?_
                refine r_iadd (pc := 130) dX24_behind_130 ?_
                refine r_aload_n (pc := 131) dX24_behind_131 rfl ?_
                have hk49 := kd_pi eh48 hk47
                refine r_geti' (pc := 132) (T := TX24) 24 63 rfl hk49 (Or.inl q2761) dX24_behind_132 kc24 g24063 ?_
                refine r_iadd (pc := 135) dX24_behind_135 ?_
                exact r_iret (pc := 136) rfl rfl dX24_behind_136 K
              · have K := K.2 c46
                refine r_iconst (pc := 116) (x := (-1)) dX24_behind_116 rfl ?_
                exact r_iret (pc := 117) rfl rfl dX24_behind_117 K
          · have K := K.2 c37
            refine r_iconst (pc := 76) (x := (-1)) dX24_behind_76 rfl ?_
            exact r_iret (pc := 77) rfl rfl dX24_behind_77 K
      · have K := K.2 c8
        refine r_iconst (pc := 37) (x := 0) dX24_behind_37 rfl ?_
        refine r_goto (pc := 38) (tgt := 64) dX24_behind_38 rfl ?_
        refine r_istore (pc := 64) (lv' := [_, _, _, _, _, _, _, _]) dX24_behind_64 (by decide) rfl ?_
        refine r_iload (pc := 66) dX24_behind_66 rfl ?_
        refine r_iload_n (pc := 68) dX24_behind_68 rfl ?_
        refine r_iload_n (pc := 69) dX24_behind_69 rfl ?_
        refine r_isub (pc := 70) dX24_behind_70 ?_
        refine r_iconst (pc := 71) (x := 1) dX24_behind_71 rfl ?_
        refine r_isub (pc := 72) dX24_behind_72 ?_
        refine r_icmp_le (pc := 73) (tgt := 78) dX24_behind_73 rfl (fun c50 => ?_) (fun c50 => ?_)
        · have K := K.1 c50
          refine r_iload (pc := 78) dX24_behind_78 rfl ?_
          refine r_if_ne (pc := 80) (tgt := 89) dX24_behind_80 rfl (fun c51 => ?_) (fun c51 => ?_)
          · have K := K.1 c51
            refine r_aload_n (pc := 89) dX24_behind_89 rfl ?_
            refine r_aload_n (pc := 90) dX24_behind_90 rfl ?_
            refine r_iload_n (pc := 91) dX24_behind_91 rfl ?_
            refine r_iconst (pc := 92) (x := 1) dX24_behind_92 rfl ?_
            refine r_iadd (pc := 93) dX24_behind_93 ?_
            refine r_iload (pc := 94) dX24_behind_94 rfl ?_
            have hk54 := kd_pi eh5 hk4
            refine r_callV_J (pc := 96) (Y := mX24_number) (vs := [_, _, _]) (st := []) hk54 rfl kc24 q2350 q2352 qs74 dX24_behind_96 rfl cd_X24_number rfl rfl fp_X24_behind_X24_number K (fun x52 h53 eh53 wh53 K => ?_) (fun x h1 _ _ e => Tw.out rfl e)
            refine r_lstore (pc := 99) (lv' := [_, _, _, _, _, _, _, _]) dX24_behind_99 (by decide) rfl ?_
            refine r_lload (pc := 101) dX24_behind_101 rfl ?_
            refine r_iload_n (pc := 103) dX24_behind_103 rfl ?_
            refine r_iload_n (pc := 104) dX24_behind_104 rfl ?_
            refine r_isub (pc := 105) dX24_behind_105 ?_
            refine r_iconst (pc := 106) (x := 1) dX24_behind_106 rfl ?_
            refine r_isub (pc := 107) dX24_behind_107 ?_
            refine r_iload (pc := 108) dX24_behind_108 rfl ?_
            refine r_isub (pc := 110) dX24_behind_110 ?_
            refine r_i2l (pc := 111) dX24_behind_111 ?_
            refine r_lcmp_le (pc := 112) (tgt := 118) dX24_behind_112 dX24_behind_113 rfl (fun c55 => ?_) (fun c55 => ?_)
            · have K := K.1 c55
              refine r_aload_n (pc := 118) dX24_behind_118 rfl ?_
              refine r_lload (pc := 119) dX24_behind_119 rfl ?_
              refine r_l2i (pc := 121) dX24_behind_121 ?_
              have hk56 := kd_ext eh53 hk54 (nz rfl)
              refine r_puti (pc := 122) (T := TX24) (key := 24063) 24 63 hk56 (Or.inl q2761) dX24_behind_122 kc24 rfl (Or.inl rfl) (Or.inl (em rfl)) ?_
              refine r_nameH (fun h57 eh57 => ?_)
              have K := K h57 eh57
              refine r_iload_n (pc := 125) dX24_behind_125 rfl ?_
              refine r_iconst (pc := 126) (x := 1) dX24_behind_126 rfl ?_
              refine r_iadd (pc := 127) dX24_behind_127 ?_
              refine r_iload (pc := 128) dX24_behind_128 rfl ?_
              refine r_iadd (pc := 130) dX24_behind_130 ?_
              refine r_aload_n (pc := 131) dX24_behind_131 rfl ?_
              have hk58 := kd_pi eh57 hk56
              refine r_geti' (pc := 132) (T := TX24) 24 63 rfl hk58 (Or.inl q2761) dX24_behind_132 kc24 g24063 ?_
              refine r_iadd (pc := 135) dX24_behind_135 ?_
              exact r_iret (pc := 136) rfl rfl dX24_behind_136 K
            · have K := K.2 c55
              refine r_iconst (pc := 116) (x := (-1)) dX24_behind_116 rfl ?_
              exact r_iret (pc := 117) rfl rfl dX24_behind_117 K
          · have K := K.2 c51
            refine r_iload (pc := 83) dX24_behind_83 rfl ?_
            refine r_i2l (pc := 85) dX24_behind_85 ?_
            refine r_goto (pc := 86) (tgt := 99) dX24_behind_86 rfl ?_
            refine r_lstore (pc := 99) (lv' := [_, _, _, _, _, _, _, _]) dX24_behind_99 (by decide) rfl ?_
            refine r_lload (pc := 101) dX24_behind_101 rfl ?_
            refine r_iload_n (pc := 103) dX24_behind_103 rfl ?_
            refine r_iload_n (pc := 104) dX24_behind_104 rfl ?_
            refine r_isub (pc := 105) dX24_behind_105 ?_
            refine r_iconst (pc := 106) (x := 1) dX24_behind_106 rfl ?_
            refine r_isub (pc := 107) dX24_behind_107 ?_
            refine r_iload (pc := 108) dX24_behind_108 rfl ?_
            refine r_isub (pc := 110) dX24_behind_110 ?_
            refine r_i2l (pc := 111) dX24_behind_111 ?_
            refine r_lcmp_le (pc := 112) (tgt := 118) dX24_behind_112 dX24_behind_113 rfl (fun c59 => ?_) (fun c59 => ?_)
            · have K := K.1 c59
              refine r_aload_n (pc := 118) dX24_behind_118 rfl ?_
              refine r_lload (pc := 119) dX24_behind_119 rfl ?_
              refine r_l2i (pc := 121) dX24_behind_121 ?_
              have hk60 := kd_pi eh5 hk4
              refine r_puti (pc := 122) (T := TX24) (key := 24063) 24 63 hk60 (Or.inl q2761) dX24_behind_122 kc24 rfl (Or.inl rfl) (Or.inl (em rfl)) ?_
              refine r_nameH (fun h61 eh61 => ?_)
              have K := K h61 eh61
              refine r_iload_n (pc := 125) dX24_behind_125 rfl ?_
              refine r_iconst (pc := 126) (x := 1) dX24_behind_126 rfl ?_
              refine r_iadd (pc := 127) dX24_behind_127 ?_
              refine r_iload (pc := 128) dX24_behind_128 rfl ?_
              refine r_iadd (pc := 130) dX24_behind_130 ?_
              refine r_aload_n (pc := 131) dX24_behind_131 rfl ?_
              have hk62 := kd_pi eh61 hk60
              refine r_geti' (pc := 132) (T := TX24) 24 63 rfl hk62 (Or.inl q2761) dX24_behind_132 kc24 g24063 ?_
              refine r_iadd (pc := 135) dX24_behind_135 ?_
              exact r_iret (pc := 136) rfl rfl dX24_behind_136 K
            · have K := K.2 c59
              refine r_iconst (pc := 116) (x := (-1)) dX24_behind_116 rfl ?_
              exact r_iret (pc := 117) rfl rfl dX24_behind_117 K
        · have K := K.2 c50
          refine r_iconst (pc := 76) (x := (-1)) dX24_behind_76 rfl ?_
          exact r_iret (pc := 77) rfl rfl dX24_behind_77 K
    · have K := K.2 c7
      refine r_iload_n (pc := 26) dX24_behind_26 rfl ?_
      refine r_iconst (pc := 27) (x := 1) dX24_behind_27 rfl ?_
      refine r_iadd (pc := 28) dX24_behind_28 ?_
      exact r_iret (pc := 29) rfl rfl dX24_behind_29 K
theorem eX24_behind {G : Gx} {d : Nat} {Φ : Out → AH → Prop} (h : AH) (v0 : Nat) (v1 : Nat) (v2 : Int32) (v3 : Int32) (K : WF G h → Aw G mX24_behind (d + 1) 0 h Φ 0 [vR v0, vR v1, vI v2, vI v3, vU, vU, vU, vU] [] h) : Cw G mX24_behind (d + 1) 0 [vR v0, vR v1, vI v2, vI v3] h Φ := Cw.of rfl K
theorem dX24_isPushes_0 : decode cX24_isPushes 0 = .ok (.iload_n 2, 1) := by decide +kernel
theorem dX24_isPushes_1 : decode cX24_isPushes 1 = .ok (.istore 4, 2) := by decide +kernel
theorem dX24_isPushes_3 : decode cX24_isPushes 3 = .ok (.iload 4, 2) := by decide +kernel
theorem dX24_isPushes_5 : decode cX24_isPushes 5 = .ok (.iload_n 2, 1) := by decide +kernel
theorem dX24_isPushes_6 : decode cX24_isPushes 6 = .ok (.iload_n 3, 1) := by decide +kernel
theorem dX24_isPushes_7 : decode cX24_isPushes 7 = .ok (.iadd, 1) := by decide +kernel
theorem dX24_isPushes_8 : decode cX24_isPushes 8 = .ok (.if_icmp .ge 37, 3) := by decide +kernel
theorem dX24_isPushes_11 : decode cX24_isPushes 11 = .ok (.aload_n 1, 1) := by decide +kernel
theorem dX24_isPushes_12 : decode cX24_isPushes 12 = .ok (.iload 4, 2) := by decide +kernel
theorem dX24_isPushes_14 : decode cX24_isPushes 14 = .ok (.baload, 1) := by decide +kernel
theorem dX24_isPushes_15 : decode cX24_isPushes 15 = .ok (.sipush 255, 3) := by decide +kernel
theorem dX24_isPushes_18 : decode cX24_isPushes 18 = .ok (.iand, 1) := by decide +kernel
theorem dX24_isPushes_19 : decode cX24_isPushes 19 = .ok (.bipush 96, 2) := by decide +kernel
theorem dX24_isPushes_21 : decode cX24_isPushes 21 = .ok (.if_icmp .le 5, 3) := by decide +kernel
theorem dX24_isPushes_24 : decode cX24_isPushes 24 = .ok (.iconst 0, 1) := by decide +kernel
theorem dX24_isPushes_25 : decode cX24_isPushes 25 = .ok (.ireturn, 1) := by decide +kernel
theorem dX24_isPushes_26 : decode cX24_isPushes 26 = .ok (.aload_n 0, 1) := by decide +kernel
theorem dX24_isPushes_27 : decode cX24_isPushes 27 = .ok (.aload_n 1, 1) := by decide +kernel
theorem dX24_isPushes_28 : decode cX24_isPushes 28 = .ok (.iload 4, 2) := by decide +kernel
theorem dX24_isPushes_30 : decode cX24_isPushes 30 = .ok (.iload_n 2, 1) := by decide +kernel
theorem dX24_isPushes_31 : decode cX24_isPushes 31 = .ok (.iload_n 3, 1) := by decide +kernel
theorem dX24_isPushes_32 : decode cX24_isPushes 32 = .ok (.iadd, 1) := by decide +kernel
theorem dX24_isPushes_33 : decode cX24_isPushes 33 = .ok (.invokevirtual 423, 3) := by decide +kernel
theorem dX24_isPushes_36 : decode cX24_isPushes 36 = .ok (.istore 4, 2) := by decide +kernel
theorem dX24_isPushes_38 : decode cX24_isPushes 38 = .ok (.iload 4, 2) := by decide +kernel
theorem dX24_isPushes_40 : decode cX24_isPushes 40 = .ok (.ifCond .ge (-37), 3) := by decide +kernel
theorem dX24_isPushes_43 : decode cX24_isPushes 43 = .ok (.iconst 0, 1) := by decide +kernel
theorem dX24_isPushes_44 : decode cX24_isPushes 44 = .ok (.ireturn, 1) := by decide +kernel
theorem dX24_isPushes_45 : decode cX24_isPushes 45 = .ok (.iconst 1, 1) := by decide +kernel
theorem dX24_isPushes_46 : decode cX24_isPushes 46 = .ok (.ireturn, 1) := by decide +kernel
/-! CoinJudgeModel.isPushes([BII)Z -/
set_option maxHeartbeats 4000000 in
theorem sX24_isPushes_0 {G : Gx} {d t : Nat} {h0 : AH} {Φ : Out → AH → Prop} (h : AH) (v0 : Nat) (v1 : Nat) (v2 : Int32) (v3 : Int32) (K : Aw G mX24_isPushes (d + 1) t h0 Φ 3 [vR v0, vR v1, vI v2, vI v3, vI v2] [] h) : Aw G mX24_isPushes (d + 1) t h0 Φ 0 [vR v0, vR v1, vI v2, vI v3, vU] [] h := by
  refine r_iload_n (pc := 0) dX24_isPushes_0 rfl ?_
  refine r_istore (pc := 1) (lv' := [_, _, _, _, _]) dX24_isPushes_1 (by decide) rfl ?_
  refine r_mask (pc := 3) [true, true, true, true, true] rfl ?_
  exact K
theorem eX24_isPushes {G : Gx} {d : Nat} {Φ : Out → AH → Prop} (h : AH) (v0 : Nat) (v1 : Nat) (v2 : Int32) (v3 : Int32) (K : WF G h → Aw G mX24_isPushes (d + 1) 0 h Φ 0 [vR v0, vR v1, vI v2, vI v3, vU] [] h) : Cw G mX24_isPushes (d + 1) 0 [vR v0, vR v1, vI v2, vI v3] h Φ := Cw.of rfl K
set_option maxHeartbeats 4000000 in
theorem sX24_isPushes_3 {G : Gx} {d t : Nat} {h0 : AH} {Φ : Out → AH → Prop} (h : AH) (v0 : Nat) (v1 : Nat) (v2 : Int32) (v3 : Int32) (v4 : Int32) (K : (((v2 + v3) ≤ v4 → Φ (.inl (some (vI 1))) h) ∧ (¬ (v2 + v3) ≤ v4 → h.kd v1 = 101 ∧ vp_in v4 (h.ai v1).length ∧ (((((h.ai v1).getD (v4.toNatClampNeg) 0) &&& 255) ≤ 96 → h.kd v0 = 24 ∧ Cw G mX24_behind d 0 [vR v0, vR v1, vI v4, vI (v2 + v3)] h (kI (fun x5 h6 => ((0 ≤ x5 → Aw G mX24_isPushes (d + 1) t h0 Φ 3 [vR v0, vR v1, vI v2, vI v3, vI x5] [] h6) ∧ (¬ 0 ≤ x5 → Φ (.inl (some (vI 0))) h6))) (fun x h => Φ (.inr x) h))) ∧ (¬ (((h.ai v1).getD (v4.toNatClampNeg) 0) &&& 255) ≤ 96 → Φ (.inl (some (vI 0))) h))))) : Aw G mX24_isPushes (d + 1) t h0 Φ 3 [vR v0, vR v1, vI v2, vI v3, vI v4] [] h := by
  refine r_iload (pc := 3) dX24_isPushes_3 rfl ?_
  refine r_iload_n (pc := 5) dX24_isPushes_5 rfl ?_
  refine r_iload_n (pc := 6) dX24_isPushes_6 rfl ?_
  refine r_iadd (pc := 7) dX24_isPushes_7 ?_
  refine r_icmp_ge (pc := 8) (tgt := 45) dX24_isPushes_8 rfl (fun c1 => ?_) (fun c1 => ?_)
  · have K := K.1 c1
    refine r_iconst (pc := 45) (x := 1) dX24_isPushes_45 rfl ?_
    exact r_iret (pc := 46) rfl rfl dX24_isPushes_46 K
  · have K := K.2 c1
    refine r_aload_n (pc := 11) dX24_isPushes_11 rfl ?_
    refine r_iload (pc := 12) dX24_isPushes_12 rfl ?_
    obtain ⟨hk2, K⟩ := K
    obtain ⟨hi3, K⟩ := K
    refine r_baload (pc := 14) hk2 hi3 dX24_isPushes_14 ?_
    refine r_sipush (pc := 15) (x := 255) dX24_isPushes_15 rfl ?_
    refine r_iand (pc := 18) dX24_isPushes_18 ?_
    refine r_bipush (pc := 19) (x := 96) dX24_isPushes_19 rfl ?_
    refine r_icmp_le (pc := 21) (tgt := 26) dX24_isPushes_21 rfl (fun c4 => ?_) (fun c4 => ?_)
    · have K := K.1 c4
      refine r_aload_n (pc := 26) dX24_isPushes_26 rfl ?_
      refine r_aload_n (pc := 27) dX24_isPushes_27 rfl ?_
      refine r_iload (pc := 28) dX24_isPushes_28 rfl ?_
      refine r_iload_n (pc := 30) dX24_isPushes_30 rfl ?_
      refine r_iload_n (pc := 31) dX24_isPushes_31 rfl ?_
      refine r_iadd (pc := 32) dX24_isPushes_32 ?_
      obtain ⟨hk7, K⟩ := K
      refine r_callV_I (pc := 33) (Y := mX24_behind) (vs := [_, _, _]) (st := []) hk7 rfl kc24 q2484 q2486 qs91 dX24_isPushes_33 rfl cd_X24_behind rfl rfl fp_X24_isPushes_X24_behind K (fun x5 h6 eh6 wh6 K => ?_) (fun x h1 _ _ e => Tw.out rfl e)
      refine r_istore (pc := 36) (lv' := [_, _, _, _, _]) dX24_isPushes_36 (by decide) rfl ?_
      refine r_iload (pc := 38) dX24_isPushes_38 rfl ?_
      refine r_if_ge (pc := 40) (tgt := 3) dX24_isPushes_40 rfl (fun c8 => ?_) (fun c8 => ?_)
      · have K := K.1 c8
        refine r_mask (pc := 3) [true, true, true, true, true] rfl ?_
        exact K
      · have K := K.2 c8
        refine r_iconst (pc := 43) (x := 0) dX24_isPushes_43 rfl ?_
        exact r_iret (pc := 44) rfl rfl dX24_isPushes_44 K
    · have K := K.2 c4
      refine r_iconst (pc := 24) (x := 0) dX24_isPushes_24 rfl ?_
      exact r_iret (pc := 25) rfl rfl dX24_isPushes_25 K
theorem dX24_isTrue_0 : decode cX24_isTrue 0 = .ok (.aload_n 0, 1) := by decide +kernel
theorem dX24_isTrue_1 : decode cX24_isTrue 1 = .ok (.getfield 521, 3) := by decide +kernel
theorem dX24_isTrue_4 : decode cX24_isTrue 4 = .ok (.iconst 1, 1) := by decide +kernel
theorem dX24_isTrue_5 : decode cX24_isTrue 5 = .ok (.isub, 1) := by decide +kernel
theorem dX24_isTrue_6 : decode cX24_isTrue 6 = .ok (.iload_n 1, 1) := by decide +kernel
theorem dX24_isTrue_7 : decode cX24_isTrue 7 = .ok (.isub, 1) := by decide +kernel
theorem dX24_isTrue_8 : decode cX24_isTrue 8 = .ok (.istore_n 2, 1) := by decide +kernel
theorem dX24_isTrue_9 : decode cX24_isTrue 9 = .ok (.iconst 0, 1) := by decide +kernel
theorem dX24_isTrue_10 : decode cX24_isTrue 10 = .ok (.istore_n 3, 1) := by decide +kernel
theorem dX24_isTrue_11 : decode cX24_isTrue 11 = .ok (.iload_n 3, 1) := by decide +kernel
theorem dX24_isTrue_12 : decode cX24_isTrue 12 = .ok (.aload_n 0, 1) := by decide +kernel
theorem dX24_isTrue_13 : decode cX24_isTrue 13 = .ok (.getfield 535, 3) := by decide +kernel
theorem dX24_isTrue_16 : decode cX24_isTrue 16 = .ok (.iload_n 2, 1) := by decide +kernel
theorem dX24_isTrue_17 : decode cX24_isTrue 17 = .ok (.iaload, 1) := by decide +kernel
theorem dX24_isTrue_18 : decode cX24_isTrue 18 = .ok (.if_icmp .ge 51, 3) := by decide +kernel
theorem dX24_isTrue_21 : decode cX24_isTrue 21 = .ok (.aload_n 0, 1) := by decide +kernel
theorem dX24_isTrue_22 : decode cX24_isTrue 22 = .ok (.getfield 527, 3) := by decide +kernel
theorem dX24_isTrue_25 : decode cX24_isTrue 25 = .ok (.iload_n 2, 1) := by decide +kernel
theorem dX24_isTrue_26 : decode cX24_isTrue 26 = .ok (.aaload, 1) := by decide +kernel
theorem dX24_isTrue_27 : decode cX24_isTrue 27 = .ok (.iload_n 3, 1) := by decide +kernel
theorem dX24_isTrue_28 : decode cX24_isTrue 28 = .ok (.baload, 1) := by decide +kernel
theorem dX24_isTrue_29 : decode cX24_isTrue 29 = .ok (.ifCond .eq 34, 3) := by decide +kernel
theorem dX24_isTrue_32 : decode cX24_isTrue 32 = .ok (.iload_n 3, 1) := by decide +kernel
theorem dX24_isTrue_33 : decode cX24_isTrue 33 = .ok (.aload_n 0, 1) := by decide +kernel
theorem dX24_isTrue_34 : decode cX24_isTrue 34 = .ok (.getfield 535, 3) := by decide +kernel
theorem dX24_isTrue_37 : decode cX24_isTrue 37 = .ok (.iload_n 2, 1) := by decide +kernel
theorem dX24_isTrue_38 : decode cX24_isTrue 38 = .ok (.iaload, 1) := by decide +kernel
theorem dX24_isTrue_39 : decode cX24_isTrue 39 = .ok (.iconst 1, 1) := by decide +kernel
theorem dX24_isTrue_40 : decode cX24_isTrue 40 = .ok (.isub, 1) := by decide +kernel
theorem dX24_isTrue_41 : decode cX24_isTrue 41 = .ok (.if_icmp .lt 16, 3) := by decide +kernel
theorem dX24_isTrue_44 : decode cX24_isTrue 44 = .ok (.aload_n 0, 1) := by decide +kernel
theorem dX24_isTrue_45 : decode cX24_isTrue 45 = .ok (.getfield 527, 3) := by decide +kernel
theorem dX24_isTrue_48 : decode cX24_isTrue 48 = .ok (.iload_n 2, 1) := by decide +kernel
theorem dX24_isTrue_49 : decode cX24_isTrue 49 = .ok (.aaload, 1) := by decide +kernel
theorem dX24_isTrue_50 : decode cX24_isTrue 50 = .ok (.iload_n 3, 1) := by decide +kernel
theorem dX24_isTrue_51 : decode cX24_isTrue 51 = .ok (.baload, 1) := by decide +kernel
theorem dX24_isTrue_52 : decode cX24_isTrue 52 = .ok (.bipush (-128), 2) := by decide +kernel
theorem dX24_isTrue_54 : decode cX24_isTrue 54 = .ok (.if_icmp .eq 7, 3) := by decide +kernel
theorem dX24_isTrue_57 : decode cX24_isTrue 57 = .ok (.iconst 1, 1) := by decide +kernel
theorem dX24_isTrue_58 : decode cX24_isTrue 58 = .ok (.goto 4, 3) := by decide +kernel
theorem dX24_isTrue_61 : decode cX24_isTrue 61 = .ok (.iconst 0, 1) := by decide +kernel
theorem dX24_isTrue_62 : decode cX24_isTrue 62 = .ok (.ireturn, 1) := by decide +kernel
theorem dX24_isTrue_63 : decode cX24_isTrue 63 = .ok (.iinc 3 1, 3) := by decide +kernel
theorem dX24_isTrue_66 : decode cX24_isTrue 66 = .ok (.goto (-55), 3) := by decide +kernel
theorem dX24_isTrue_69 : decode cX24_isTrue 69 = .ok (.iconst 0, 1) := by decide +kernel
theorem dX24_isTrue_70 : decode cX24_isTrue 70 = .ok (.ireturn, 1) := by decide +kernel
/-! CoinJudgeModel.isTrue(I)Z -/
set_option maxHeartbeats 4000000 in
theorem sX24_isTrue_0 {G : Gx} {d t : Nat} {h0 : AH} {Φ : Out → AH → Prop} (h : AH) (v0 : Nat) (v1 : Int32) (K : h.kd v0 = 24 ∧ Aw G mX24_isTrue (d + 1) t h0 Φ 11 [vR v0, vU, vI (((h.i 24067 v0) - 1) - v1), vI 0] [] h) : Aw G mX24_isTrue (d + 1) t h0 Φ 0 [vR v0, vI v1, vU, vU] [] h := by
  refine r_aload_n (pc := 0) dX24_isTrue_0 rfl ?_
  obtain ⟨hk1, K⟩ := K
  refine r_geti' (pc := 1) (T := TX24) 24 67 rfl hk1 (Or.inl q2765) dX24_isTrue_1 kc24 g24067 ?_
  refine r_iconst (pc := 4) (x := 1) dX24_isTrue_4 rfl ?_
  refine r_isub (pc := 5) dX24_isTrue_5 ?_
  refine r_iload_n (pc := 6) dX24_isTrue_6 rfl ?_
  refine r_isub (pc := 7) dX24_isTrue_7 ?_
  refine r_istore_n (pc := 8) (lv' := [_, _, _, _]) dX24_isTrue_8 (by decide) rfl ?_
  refine r_iconst (pc := 9) (x := 0) dX24_isTrue_9 rfl ?_
  refine r_istore_n (pc := 10) (lv' := [_, _, _, _]) dX24_isTrue_10 (by decide) rfl ?_
  refine r_mask (pc := 11) [true, false, true, true] rfl ?_
  exact K
theorem eX24_isTrue {G : Gx} {d : Nat} {Φ : Out → AH → Prop} (h : AH) (v0 : Nat) (v1 : Int32) (K : WF G h → Aw G mX24_isTrue (d + 1) 0 h Φ 0 [vR v0, vI v1, vU, vU] [] h) : Cw G mX24_isTrue (d + 1) 0 [vR v0, vI v1] h Φ := Cw.of rfl K
set_option maxHeartbeats 4000000 in
theorem sX24_isTrue_11 {G : Gx} {d t : Nat} {h0 : AH} {Φ : Out → AH → Prop} (h : AH) (v0 : Nat) (v2 : Int32) (v3 : Int32) (K : h.kd v0 = 24 ∧ ∀ r2 : Nat, r2 = (h.r 24066 v0) → h.kd r2 = 100 ∧ vp_in v2 (h.ai r2).length ∧ ((((h.ai r2).getD (v2.toNatClampNeg) 0) ≤ v3 → Φ (.inl (some (vI 0))) h) ∧ (¬ ((h.ai r2).getD (v2.toNatClampNeg) 0) ≤ v3 → ∀ r6 : Nat, r6 = (h.r 24065 v0) → h.kd r6 = 115 ∧ vp_in v2 (h.ar r6).length ∧ ∀ r9 : Nat, r9 = ((h.ar r6).getD (v2.toNatClampNeg) 0) → h.kd r9 = 101 ∧ vp_in v3 (h.ai r9).length ∧ ((((h.ai r9).getD (v3.toNatClampNeg) 0) = 0 → Aw G mX24_isTrue (d + 1) t h0 Φ 11 [vR v0, vU, vI v2, vI (v3 + 1)] [] h) ∧ (¬ ((h.ai r9).getD (v3.toNatClampNeg) 0) = 0 → vp_in v2 (h.ai r2).length ∧ ((v3 < (((h.ai r2).getD (v2.toNatClampNeg) 0) - 1) → Φ (.inl (some (vI 1))) h) ∧ (¬ v3 < (((h.ai r2).getD (v2.toNatClampNeg) 0) - 1) → vp_in v2 (h.ar r6).length ∧ ∀ r16 : Nat, r16 = ((h.ar r6).getD (v2.toNatClampNeg) 0) → h.kd r16 = 101 ∧ vp_in v3 (h.ai r16).length ∧ ((((h.ai r16).getD (v3.toNatClampNeg) 0) = (-128) → Φ (.inl (some (vI 0))) h) ∧ (¬ ((h.ai r16).getD (v3.toNatClampNeg) 0) = (-128) → Φ (.inl (some (vI 1))) h))))))))) : Aw G mX24_isTrue (d + 1) t h0 Φ 11 [vR v0, vU, vI v2, vI v3] [] h := by
  refine r_iload_n (pc := 11) dX24_isTrue_11 rfl ?_
  refine r_aload_n (pc := 12) dX24_isTrue_12 rfl ?_
  obtain ⟨hk1, K⟩ := K
  have K := K _ rfl
  refine r_getr' (pc := 13) (T := TX24) 24 66 rfl hk1 (Or.inl q2764) dX24_isTrue_13 kc24 g24066 ?_
  refine r_iload_n (pc := 16) dX24_isTrue_16 rfl ?_
  obtain ⟨hk3, K⟩ := K
  obtain ⟨hi4, K⟩ := K
  refine r_iaload (pc := 17) hk3 hi4 dX24_isTrue_17 ?_
  refine r_icmp_ge (pc := 18) (tgt := 69) dX24_isTrue_18 rfl (fun c5 => ?_) (fun c5 => ?_)
  · have K := K.1 c5
    refine r_iconst (pc := 69) (x := 0) dX24_isTrue_69 rfl ?_
    exact r_iret (pc := 70) rfl rfl dX24_isTrue_70 K
  · have K := K.2 c5
    refine r_aload_n (pc := 21) dX24_isTrue_21 rfl ?_
    have K := K _ rfl
    refine r_getr' (pc := 22) (T := TX24) 24 65 rfl hk1 (Or.inl q2763) dX24_isTrue_22 kc24 g24065 ?_
    refine r_iload_n (pc := 25) dX24_isTrue_25 rfl ?_
    obtain ⟨hk7, K⟩ := K
    obtain ⟨hi8, K⟩ := K
    have K := K _ rfl
    refine r_aaload (pc := 26) (le_of_eq_r hk7 (by decide)) hi8 dX24_isTrue_26 ?_
    refine r_iload_n (pc := 27) dX24_isTrue_27 rfl ?_
    obtain ⟨hk10, K⟩ := K
    obtain ⟨hi11, K⟩ := K
    refine r_baload (pc := 28) hk10 hi11 dX24_isTrue_28 ?_
    refine r_if_eq (pc := 29) (tgt := 63) dX24_isTrue_29 rfl (fun c12 => ?_) (fun c12 => ?_)
    · have K := K.1 c12
      refine r_iinc (pc := 63) (lv' := [_, _, _, _]) dX24_isTrue_63 rfl rfl (by decide) rfl ?_
      refine r_goto (pc := 66) (tgt := 11) dX24_isTrue_66 rfl ?_
      refine r_mask (pc := 11) [true, false, true, true] rfl ?_
      exact K
    · have K := K.2 c12
      refine r_iload_n (pc := 32) dX24_isTrue_32 rfl ?_
      refine r_aload_n (pc := 33) dX24_isTrue_33 rfl ?_
      refine r_getr' (pc := 34) (T := TX24) 24 66 rfl hk1 (Or.inl q2764) dX24_isTrue_34 kc24 g24066 ?_
      refine r_iload_n (pc := 37) dX24_isTrue_37 rfl ?_
      obtain ⟨hi13, K⟩ := K
      refine r_iaload (pc := 38) hk3 hi13 dX24_isTrue_38 ?_
      refine r_iconst (pc := 39) (x := 1) dX24_isTrue_39 rfl ?_
      refine r_isub (pc := 40) dX24_isTrue_40 ?_
      refine r_icmp_lt (pc := 41) (tgt := 57) dX24_isTrue_41 rfl (fun c14 => ?_) (fun c14 => ?_)
      · have K := K.1 c14
        refine r_iconst (pc := 57) (x := 1) dX24_isTrue_57 rfl ?_
        refine r_goto (pc := 58) (tgt := 62) dX24_isTrue_58 rfl ?_
        exact r_iret (pc := 62) rfl rfl dX24_isTrue_62 K
      · have K := K.2 c14
        refine r_aload_n (pc := 44) dX24_isTrue_44 rfl ?_
        refine r_getr' (pc := 45) (T := TX24) 24 65 rfl hk1 (Or.inl q2763) dX24_isTrue_45 kc24 g24065 ?_
        refine r_iload_n (pc := 48) dX24_isTrue_48 rfl ?_
        obtain ⟨hi15, K⟩ := K
        have K := K _ rfl
        refine r_aaload (pc := 49) (le_of_eq_r hk7 (by decide)) hi15 dX24_isTrue_49 ?_
        refine r_iload_n (pc := 50) dX24_isTrue_50 rfl ?_
        obtain ⟨hk17, K⟩ := K
        obtain ⟨hi18, K⟩ := K
        refine r_baload (pc := 51) hk17 hi18 dX24_isTrue_51 ?_
        refine r_bipush (pc := 52) (x := (-128)) dX24_isTrue_52 rfl ?_
        refine r_icmp_eq (pc := 54) (tgt := 61) dX24_isTrue_54 rfl (fun c19 => ?_) (fun c19 => ?_)
        · have K := K.1 c19
          refine r_iconst (pc := 61) (x := 0) dX24_isTrue_61 rfl ?_
          exact r_iret (pc := 62) rfl rfl dX24_isTrue_62 K
        · have K := K.2 c19
          refine r_iconst (pc := 57) (x := 1) dX24_isTrue_57 rfl ?_
          refine r_goto (pc := 58) (tgt := 62) dX24_isTrue_58 rfl ?_
          exact r_iret (pc := 62) rfl rfl dX24_isTrue_62 K
theorem dX24_row_0 : decode cX24_row 0 = .ok (.aload_n 0, 1) := by decide +kernel
theorem dX24_row_1 : decode cX24_row 1 = .ok (.iload_n 1, 1) := by decide +kernel
theorem dX24_row_2 : decode cX24_row 2 = .ok (.aaload, 1) := by decide +kernel
theorem dX24_row_3 : decode cX24_row 3 = .ok (.ifnonnull 11, 3) := by decide +kernel
theorem dX24_row_6 : decode cX24_row 6 = .ok (.aload_n 0, 1) := by decide +kernel
theorem dX24_row_7 : decode cX24_row 7 = .ok (.iload_n 1, 1) := by decide +kernel
theorem dX24_row_8 : decode cX24_row 8 = .ok (.sipush 520, 3) := by decide +kernel
theorem dX24_row_11 : decode cX24_row 11 = .ok (.newarray .byte, 2) := by decide +kernel
theorem dX24_row_13 : decode cX24_row 13 = .ok (.aastore, 1) := by decide +kernel
theorem dX24_row_14 : decode cX24_row 14 = .ok (.aload_n 0, 1) := by decide +kernel
theorem dX24_row_15 : decode cX24_row 15 = .ok (.iload_n 1, 1) := by decide +kernel
theorem dX24_row_16 : decode cX24_row 16 = .ok (.aaload, 1) := by decide +kernel
theorem dX24_row_17 : decode cX24_row 17 = .ok (.areturn, 1) := by decide +kernel
/-! CoinJudgeModel.row([[BI)[B -/
set_option maxHeartbeats 4000000 in
theorem sX24_row_0 {G : Gx} {d t : Nat} {h0 : AH} {Φ : Out → AH → Prop} (h : AH) (v0 : Nat) (v1 : Int32) (K : h.kd v0 = 115 ∧ vp_in v1 (h.ar v0).length ∧ ∀ r3 : Nat, r3 = ((h.ar v0).getD (v1.toNatClampNeg) 0) → ((¬ r3 = 0 → vp_in v1 (h.ar v0).length ∧ ∀ r6 : Nat, r6 = ((h.ar v0).getD (v1.toNatClampNeg) 0) → Φ (.inl (some (vR r6))) h) ∧ (r3 = 0 → ∀ q7 : Nat, q7 = h.z → WF G h → ∀ h8 : AH, h8 = h.new 101 520 (List.replicate 520 0) [] [] → vp_in v1 (h8.ar v0).length ∧ (q7 = 0 ∨ h8.kd q7 = 101) ∧ ∀ h13 : AH, h13 = h8.wr v0 ((h8.ar v0).set (v1.toNatClampNeg) q7) → vp_in v1 (h13.ar v0).length ∧ ∀ r16 : Nat, r16 = ((h13.ar v0).getD (v1.toNatClampNeg) 0) → Φ (.inl (some (vR r16))) h13))) : Aw G mX24_row (d + 1) t h0 Φ 0 [vR v0, vI v1] [] h := by
  refine r_aload_n (pc := 0) dX24_row_0 rfl ?_
  refine r_iload_n (pc := 1) dX24_row_1 rfl ?_
  obtain ⟨hk1, K⟩ := K
  obtain ⟨hi2, K⟩ := K
  have K := K _ rfl
  refine r_aaload (pc := 2) (le_of_eq_r hk1 (by decide)) hi2 dX24_row_2 ?_
  refine r_ifnonnull (pc := 3) (tgt := 14) dX24_row_3 rfl (fun c4 => ?_) (fun c4 => ?_)
  · have K := K.1 c4
    refine r_aload_n (pc := 14) dX24_row_14 rfl ?_
    refine r_iload_n (pc := 15) dX24_row_15 rfl ?_
    obtain ⟨hi5, K⟩ := K
    have K := K _ rfl
    refine r_aaload (pc := 16) (le_of_eq_r hk1 (by decide)) hi5 dX24_row_16 ?_
    exact r_aret (pc := 17) rfl rfl dX24_row_17 K
  · have K := K.2 c4
    refine r_aload_n (pc := 6) dX24_row_6 rfl ?_
    refine r_iload_n (pc := 7) dX24_row_7 rfl ?_
    refine r_sipush (pc := 8) (x := 520) dX24_row_8 rfl ?_
    refine r_newaI (pc := 11) 101 (N := 520) rfl rfl (by decide) q284 (by decide) rfl (by decide) dX24_row_11 (fun q7 eq7 zq7 wq7 => ?_)
    refine r_nameH (fun h8 eh8 => ?_)
    have K := K q7 eq7 wq7 h8 eh8
    have hk9 := kd_newSE eh8 eq7
    have hk10 := kd_newE eh8 wq7 hk1 (nz rfl)
    obtain ⟨hi11, K⟩ := K
    obtain ⟨hk12, K⟩ := K
    refine r_aastoreB (pc := 13) hk10 hi11 hk12 (Or.inl (em rfl)) dX24_row_13 ?_
    refine r_nameH (fun h13 eh13 => ?_)
    have K := K h13 eh13
    refine r_aload_n (pc := 14) dX24_row_14 rfl ?_
    refine r_iload_n (pc := 15) dX24_row_15 rfl ?_
    have hk14 := kd_wr eh13 hk10
    obtain ⟨hi15, K⟩ := K
    have K := K _ rfl
    refine r_aaload (pc := 16) (le_of_eq_r hk14 (by decide)) hi15 dX24_row_16 ?_
    exact r_aret (pc := 17) rfl rfl dX24_row_17 K
theorem eX24_row {G : Gx} {d : Nat} {Φ : Out → AH → Prop} (h : AH) (v0 : Nat) (v1 : Int32) (K : WF G h → Aw G mX24_row (d + 1) 0 h Φ 0 [vR v0, vI v1] [] h) : Cw G mX24_row (d + 1) 0 [vR v0, vI v1] h Φ := Cw.of rfl K
theorem dX24_keepStack_0 : decode cX24_keepStack 0 = .ok (.aload_n 0, 1) := by decide +kernel
theorem dX24_keepStack_1 : decode cX24_keepStack 1 = .ok (.aload_n 0, 1) := by decide +kernel
theorem dX24_keepStack_2 : decode cX24_keepStack 2 = .ok (.getfield 521, 3) := by decide +kernel
theorem dX24_keepStack_5 : decode cX24_keepStack 5 = .ok (.putfield 711, 3) := by decide +kernel
theorem dX24_keepStack_8 : decode cX24_keepStack 8 = .ok (.iconst 0, 1) := by decide +kernel
theorem dX24_keepStack_9 : decode cX24_keepStack 9 = .ok (.istore_n 1, 1) := by decide +kernel
theorem dX24_keepStack_10 : decode cX24_keepStack 10 = .ok (.iload_n 1, 1) := by decide +kernel
theorem dX24_keepStack_11 : decode cX24_keepStack 11 = .ok (.aload_n 0, 1) := by decide +kernel
theorem dX24_keepStack_12 : decode cX24_keepStack 12 = .ok (.getfield 521, 3) := by decide +kernel
theorem dX24_keepStack_15 : decode cX24_keepStack 15 = .ok (.if_icmp .ge 59, 3) := by decide +kernel
theorem dX24_keepStack_18 : decode cX24_keepStack 18 = .ok (.aload_n 0, 1) := by decide +kernel
theorem dX24_keepStack_19 : decode cX24_keepStack 19 = .ok (.getfield 714, 3) := by decide +kernel
theorem dX24_keepStack_22 : decode cX24_keepStack 22 = .ok (.iload_n 1, 1) := by decide +kernel
theorem dX24_keepStack_23 : decode cX24_keepStack 23 = .ok (.invokestatic 531, 3) := by decide +kernel
theorem dX24_keepStack_26 : decode cX24_keepStack 26 = .ok (.astore_n 2, 1) := by decide +kernel
theorem dX24_keepStack_27 : decode cX24_keepStack 27 = .ok (.iconst 0, 1) := by decide +kernel
theorem dX24_keepStack_28 : decode cX24_keepStack 28 = .ok (.istore_n 3, 1) := by decide +kernel
theorem dX24_keepStack_29 : decode cX24_keepStack 29 = .ok (.iload_n 3, 1) := by decide +kernel
theorem dX24_keepStack_30 : decode cX24_keepStack 30 = .ok (.aload_n 0, 1) := by decide +kernel
theorem dX24_keepStack_31 : decode cX24_keepStack 31 = .ok (.getfield 535, 3) := by decide +kernel
theorem dX24_keepStack_34 : decode cX24_keepStack 34 = .ok (.iload_n 1, 1) := by decide +kernel
theorem dX24_keepStack_35 : decode cX24_keepStack 35 = .ok (.iaload, 1) := by decide +kernel
theorem dX24_keepStack_36 : decode cX24_keepStack 36 = .ok (.if_icmp .ge 20, 3) := by decide +kernel
theorem dX24_keepStack_39 : decode cX24_keepStack 39 = .ok (.aload_n 2, 1) := by decide +kernel
theorem dX24_keepStack_40 : decode cX24_keepStack 40 = .ok (.iload_n 3, 1) := by decide +kernel
theorem dX24_keepStack_41 : decode cX24_keepStack 41 = .ok (.aload_n 0, 1) := by decide +kernel
theorem dX24_keepStack_42 : decode cX24_keepStack 42 = .ok (.getfield 527, 3) := by decide +kernel
theorem dX24_keepStack_45 : decode cX24_keepStack 45 = .ok (.iload_n 1, 1) := by decide +kernel
theorem dX24_keepStack_46 : decode cX24_keepStack 46 = .ok (.aaload, 1) := by decide +kernel
theorem dX24_keepStack_47 : decode cX24_keepStack 47 = .ok (.iload_n 3, 1) := by decide +kernel
theorem dX24_keepStack_48 : decode cX24_keepStack 48 = .ok (.baload, 1) := by decide +kernel
theorem dX24_keepStack_49 : decode cX24_keepStack 49 = .ok (.bastore, 1) := by decide +kernel
theorem dX24_keepStack_50 : decode cX24_keepStack 50 = .ok (.iinc 3 1, 3) := by decide +kernel
theorem dX24_keepStack_53 : decode cX24_keepStack 53 = .ok (.goto (-24), 3) := by decide +kernel
theorem dX24_keepStack_56 : decode cX24_keepStack 56 = .ok (.aload_n 0, 1) := by decide +kernel
theorem dX24_keepStack_57 : decode cX24_keepStack 57 = .ok (.getfield 717, 3) := by decide +kernel
theorem dX24_keepStack_60 : decode cX24_keepStack 60 = .ok (.iload_n 1, 1) := by decide +kernel
theorem dX24_keepStack_61 : decode cX24_keepStack 61 = .ok (.aload_n 0, 1) := by decide +kernel
theorem dX24_keepStack_62 : decode cX24_keepStack 62 = .ok (.getfield 535, 3) := by decide +kernel
theorem dX24_keepStack_65 : decode cX24_keepStack 65 = .ok (.iload_n 1, 1) := by decide +kernel
theorem dX24_keepStack_66 : decode cX24_keepStack 66 = .ok (.iaload, 1) := by decide +kernel
theorem dX24_keepStack_67 : decode cX24_keepStack 67 = .ok (.iastore, 1) := by decide +kernel
theorem dX24_keepStack_68 : decode cX24_keepStack 68 = .ok (.iinc 1 1, 3) := by decide +kernel
theorem dX24_keepStack_71 : decode cX24_keepStack 71 = .ok (.goto (-61), 3) := by decide +kernel
theorem dX24_keepStack_74 : decode cX24_keepStack 74 = .ok (.return_, 1) := by decide +kernel
/-! CoinJudgeModel.keepStack()V -/
set_option maxHeartbeats 4000000 in
theorem sX24_keepStack_0 {G : Gx} {d t : Nat} {h0 : AH} {Φ : Out → AH → Prop} (h : AH) (v0 : Nat) (K : h.kd v0 = 24 ∧ ∀ h2 : AH, h2 = h.pi 24073 v0 (h.i 24067 v0) → Aw G mX24_keepStack (d + 1) t h0 Φ 10 [vR v0, vI 0, vU, vU] [] h2) : Aw G mX24_keepStack (d + 1) t h0 Φ 0 [vR v0, vU, vU, vU] [] h := by
  refine r_aload_n (pc := 0) dX24_keepStack_0 rfl ?_
  refine r_aload_n (pc := 1) dX24_keepStack_1 rfl ?_
  obtain ⟨hk1, K⟩ := K
  refine r_geti' (pc := 2) (T := TX24) 24 67 rfl hk1 (Or.inl q2765) dX24_keepStack_2 kc24 g24067 ?_
  refine r_puti (pc := 5) (T := TX24) (key := 24073) 24 73 hk1 (Or.inl q2771) dX24_keepStack_5 kc24 rfl (Or.inl rfl) (Or.inl (em rfl)) ?_
  refine r_nameH (fun h2 eh2 => ?_)
  have K := K h2 eh2
  refine r_iconst (pc := 8) (x := 0) dX24_keepStack_8 rfl ?_
  refine r_istore_n (pc := 9) (lv' := [_, _, _, _]) dX24_keepStack_9 (by decide) rfl ?_
  refine r_mask (pc := 10) [true, true, false, false] rfl ?_
  exact K
theorem eX24_keepStack {G : Gx} {d : Nat} {Φ : Out → AH → Prop} (h : AH) (v0 : Nat) (K : WF G h → Aw G mX24_keepStack (d + 1) 0 h Φ 0 [vR v0, vU, vU, vU] [] h) : Cw G mX24_keepStack (d + 1) 0 [vR v0] h Φ := Cw.of rfl K
set_option maxHeartbeats 4000000 in
theorem sX24_keepStack_10 {G : Gx} {d t : Nat} {h0 : AH} {Φ : Out → AH → Prop} (h : AH) (v0 : Nat) (v1 : Int32) (K : h.kd v0 = 24 ∧ (((h.i 24067 v0) ≤ v1 → Φ (.inl none) h) ∧ (¬ (h.i 24067 v0) ≤ v1 → ∀ r3 : Nat, r3 = (h.r 24071 v0) → Cw G mX24_row d 0 [vR r3, vI v1] h (kR (fun x4 h5 => Aw G mX24_keepStack (d + 1) t h0 Φ 29 [vR v0, vI v1, vR x4, vI 0] [] h5) (fun x h => Φ (.inr x) h))))) : Aw G mX24_keepStack (d + 1) t h0 Φ 10 [vR v0, vI v1, vU, vU] [] h := by
  refine r_iload_n (pc := 10) dX24_keepStack_10 rfl ?_
  refine r_aload_n (pc := 11) dX24_keepStack_11 rfl ?_
  obtain ⟨hk1, K⟩ := K
  refine r_geti' (pc := 12) (T := TX24) 24 67 rfl hk1 (Or.inl q2765) dX24_keepStack_12 kc24 g24067 ?_
  refine r_icmp_ge (pc := 15) (tgt := 74) dX24_keepStack_15 rfl (fun c2 => ?_) (fun c2 => ?_)
  · have K := K.1 c2
    exact r_vret (pc := 74) rfl dX24_keepStack_74 K
  · have K := K.2 c2
    refine r_aload_n (pc := 18) dX24_keepStack_18 rfl ?_
    have K := K _ rfl
    refine r_getr' (pc := 19) (T := TX24) 24 71 rfl hk1 (Or.inl q2769) dX24_keepStack_19 kc24 g24071 ?_
    refine r_iload_n (pc := 22) dX24_keepStack_22 rfl ?_
    refine r_callS_R (pc := 23) (Y := mX24_row) (vs := [_, _]) (st := []) q2511 q2512 q192 dX24_keepStack_23 rfl cd_X24_row rfl rfl fp_X24_keepStack_X24_row K (fun x4 h5 eh5 wh5 K => ?_) (fun x h1 _ _ e => Tw.out rfl e)
    refine r_astore_n (pc := 26) (lv' := [_, _, _, _]) dX24_keepStack_26 (by decide) rfl ?_
    refine r_iconst (pc := 27) (x := 0) dX24_keepStack_27 rfl ?_
    refine r_istore_n (pc := 28) (lv' := [_, _, _, _]) dX24_keepStack_28 (by decide) rfl ?_
    refine r_mask (pc := 29) [true, true, true, true] rfl ?_
    exact K
set_option maxHeartbeats 4000000 in
theorem sX24_keepStack_29 {G : Gx} {d t : Nat} {h0 : AH} {Φ : Out → AH → Prop} (h : AH) (v0 : Nat) (v1 : Int32) (v2 : Nat) (v3 : Int32) (K : h.kd v0 = 24 ∧ ∀ r2 : Nat, r2 = (h.r 24066 v0) → h.kd r2 = 100 ∧ vp_in v1 (h.ai r2).length ∧ ((((h.ai r2).getD (v1.toNatClampNeg) 0) ≤ v3 → ∀ r6 : Nat, r6 = (h.r 24072 v0) → vp_in v1 (h.ai r2).length ∧ h.kd r6 = 100 ∧ vp_in v1 (h.ai r6).length ∧ ∀ h10 : AH, h10 = h.wi r6 ((h.ai r6).set (v1.toNatClampNeg) ((h.ai r2).getD (v1.toNatClampNeg) 0)) → Aw G mX24_keepStack (d + 1) t h0 Φ 10 [vR v0, vI (v1 + 1), vU, vU] [] h10) ∧ (¬ ((h.ai r2).getD (v1.toNatClampNeg) 0) ≤ v3 → ∀ r11 : Nat, r11 = (h.r 24065 v0) → h.kd r11 = 115 ∧ vp_in v1 (h.ar r11).length ∧ ∀ r14 : Nat, r14 = ((h.ar r11).getD (v1.toNatClampNeg) 0) → h.kd r14 = 101 ∧ vp_in v3 (h.ai r14).length ∧ h.kd v2 = 101 ∧ vp_in v3 (h.ai v2).length ∧ ∀ h19 : AH, h19 = h.wi v2 ((h.ai v2).set (v3.toNatClampNeg) (i2b ((h.ai r14).getD (v3.toNatClampNeg) 0))) → Aw G mX24_keepStack (d + 1) t h0 Φ 29 [vR v0, vI v1, vR v2, vI (v3 + 1)] [] h19))) : Aw G mX24_keepStack (d + 1) t h0 Φ 29 [vR v0, vI v1, vR v2, vI v3] [] h := by
  refine r_iload_n (pc := 29) dX24_keepStack_29 rfl ?_
  refine r_aload_n (pc := 30) dX24_keepStack_30 rfl ?_
  obtain ⟨hk1, K⟩ := K
  have K := K _ rfl
  refine r_getr' (pc := 31) (T := TX24) 24 66 rfl hk1 (Or.inl q2764) dX24_keepStack_31 kc24 g24066 ?_
  refine r_iload_n (pc := 34) dX24_keepStack_34 rfl ?_
  obtain ⟨hk3, K⟩ := K
  obtain ⟨hi4, K⟩ := K
  refine r_iaload (pc := 35) hk3 hi4 dX24_keepStack_35 ?_
  refine r_icmp_ge (pc := 36) (tgt := 56) dX24_keepStack_36 rfl (fun c5 => ?_) (fun c5 => ?_)
  · have K := K.1 c5
    refine r_aload_n (pc := 56) dX24_keepStack_56 rfl ?_
    have K := K _ rfl
    refine r_getr' (pc := 57) (T := TX24) 24 72 rfl hk1 (Or.inl q2770) dX24_keepStack_57 kc24 g24072 ?_
    refine r_iload_n (pc := 60) dX24_keepStack_60 rfl ?_
    refine r_aload_n (pc := 61) dX24_keepStack_61 rfl ?_
    refine r_getr' (pc := 62) (T := TX24) 24 66 rfl hk1 (Or.inl q2764) dX24_keepStack_62 kc24 g24066 ?_
    refine r_iload_n (pc := 65) dX24_keepStack_65 rfl ?_
    obtain ⟨hi7, K⟩ := K
    refine r_iaload (pc := 66) hk3 hi7 dX24_keepStack_66 ?_
    obtain ⟨hk8, K⟩ := K
    obtain ⟨hi9, K⟩ := K
    refine r_iastore (pc := 67) hk8 hi9 (Or.inl (em rfl)) dX24_keepStack_67 ?_
    refine r_nameH (fun h10 eh10 => ?_)
    have K := K h10 eh10
    refine r_iinc (pc := 68) (lv' := [_, _, _, _]) dX24_keepStack_68 rfl rfl (by decide) rfl ?_
    refine r_goto (pc := 71) (tgt := 10) dX24_keepStack_71 rfl ?_
    refine r_mask (pc := 10) [true, true, false, false] rfl ?_
    exact K
  · have K := K.2 c5
    refine r_aload_n (pc := 39) dX24_keepStack_39 rfl ?_
    refine r_iload_n (pc := 40) dX24_keepStack_40 rfl ?_
    refine r_aload_n (pc := 41) dX24_keepStack_41 rfl ?_
    have K := K _ rfl
    refine r_getr' (pc := 42) (T := TX24) 24 65 rfl hk1 (Or.inl q2763) dX24_keepStack_42 kc24 g24065 ?_
    refine r_iload_n (pc := 45) dX24_keepStack_45 rfl ?_
    obtain ⟨hk12, K⟩ := K
    obtain ⟨hi13, K⟩ := K
    have K := K _ rfl
    refine r_aaload (pc := 46) (le_of_eq_r hk12 (by decide)) hi13 dX24_keepStack_46 ?_
    refine r_iload_n (pc := 47) dX24_keepStack_47 rfl ?_
    obtain ⟨hk15, K⟩ := K
    obtain ⟨hi16, K⟩ := K
    refine r_baload (pc := 48) hk15 hi16 dX24_keepStack_48 ?_
    obtain ⟨hk17, K⟩ := K
    obtain ⟨hi18, K⟩ := K
    refine r_jbast (pc := 49) hk17 hi18 (Or.inl (em rfl)) dX24_keepStack_49 ?_
    refine r_nameH (fun h19 eh19 => ?_)
    have K := K h19 eh19
    refine r_iinc (pc := 50) (lv' := [_, _, _, _]) dX24_keepStack_50 rfl rfl (by decide) rfl ?_
    refine r_goto (pc := 53) (tgt := 29) dX24_keepStack_53 rfl ?_
    refine r_mask (pc := 29) [true, true, true, true] rfl ?_
    exact K
theorem dX24_push_0 : decode cX24_push 0 = .ok (.iload_n 3, 1) := by decide +kernel
theorem dX24_push_1 : decode cX24_push 1 = .ok (.sipush 520, 3) := by decide +kernel
theorem dX24_push_4 : decode cX24_push 4 = .ok (.if_icmp .gt 13, 3) := by decide +kernel
theorem dX24_push_7 : decode cX24_push 7 = .ok (.aload_n 0, 1) := by decide +kernel
theorem dX24_push_8 : decode cX24_push 8 = .ok (.getfield 521, 3) := by decide +kernel
theorem dX24_push_11 : decode cX24_push 11 = .ok (.sipush 1000, 3) := by decide +kernel
theorem dX24_push_14 : decode cX24_push 14 = .ok (.if_icmp .le 9, 3) := by decide +kernel
theorem dX24_push_17 : decode cX24_push 17 = .ok (.aload_n 0, 1) := by decide +kernel
theorem dX24_push_18 : decode cX24_push 18 = .ok (.iconst 1, 1) := by decide +kernel
theorem dX24_push_19 : decode cX24_push 19 = .ok (.putfield 524, 3) := by decide +kernel
theorem dX24_push_22 : decode cX24_push 22 = .ok (.return_, 1) := by decide +kernel
theorem dX24_push_23 : decode cX24_push 23 = .ok (.aload_n 0, 1) := by decide +kernel
theorem dX24_push_24 : decode cX24_push 24 = .ok (.getfield 527, 3) := by decide +kernel
theorem dX24_push_27 : decode cX24_push 27 = .ok (.aload_n 0, 1) := by decide +kernel
theorem dX24_push_28 : decode cX24_push 28 = .ok (.getfield 521, 3) := by decide +kernel
theorem dX24_push_31 : decode cX24_push 31 = .ok (.invokestatic 531, 3) := by decide +kernel
theorem dX24_push_34 : decode cX24_push 34 = .ok (.astore 4, 2) := by decide +kernel
theorem dX24_push_36 : decode cX24_push 36 = .ok (.iconst 0, 1) := by decide +kernel
theorem dX24_push_37 : decode cX24_push 37 = .ok (.istore 5, 2) := by decide +kernel
theorem dX24_push_39 : decode cX24_push 39 = .ok (.iload 5, 2) := by decide +kernel
theorem dX24_push_41 : decode cX24_push 41 = .ok (.iload_n 3, 1) := by decide +kernel
theorem dX24_push_42 : decode cX24_push 42 = .ok (.if_icmp .ge 20, 3) := by decide +kernel
theorem dX24_push_45 : decode cX24_push 45 = .ok (.aload 4, 2) := by decide +kernel
theorem dX24_push_47 : decode cX24_push 47 = .ok (.iload 5, 2) := by decide +kernel
theorem dX24_push_49 : decode cX24_push 49 = .ok (.aload_n 1, 1) := by decide +kernel
theorem dX24_push_50 : decode cX24_push 50 = .ok (.iload_n 2, 1) := by decide +kernel
theorem dX24_push_51 : decode cX24_push 51 = .ok (.iload 5, 2) := by decide +kernel
theorem dX24_push_53 : decode cX24_push 53 = .ok (.iadd, 1) := by decide +kernel
theorem dX24_push_54 : decode cX24_push 54 = .ok (.baload, 1) := by decide +kernel
theorem dX24_push_55 : decode cX24_push 55 = .ok (.bastore, 1) := by decide +kernel
theorem dX24_push_56 : decode cX24_push 56 = .ok (.iinc 5 1, 3) := by decide +kernel
theorem dX24_push_59 : decode cX24_push 59 = .ok (.goto (-20), 3) := by decide +kernel
theorem dX24_push_62 : decode cX24_push 62 = .ok (.aload_n 0, 1) := by decide +kernel
theorem dX24_push_63 : decode cX24_push 63 = .ok (.getfield 535, 3) := by decide +kernel
theorem dX24_push_66 : decode cX24_push 66 = .ok (.aload_n 0, 1) := by decide +kernel
theorem dX24_push_67 : decode cX24_push 67 = .ok (.getfield 521, 3) := by decide +kernel
theorem dX24_push_70 : decode cX24_push 70 = .ok (.iload_n 3, 1) := by decide +kernel
theorem dX24_push_71 : decode cX24_push 71 = .ok (.iastore, 1) := by decide +kernel
theorem dX24_push_72 : decode cX24_push 72 = .ok (.aload_n 0, 1) := by decide +kernel
theorem dX24_push_73 : decode cX24_push 73 = .ok (.dup, 1) := by decide +kernel
theorem dX24_push_74 : decode cX24_push 74 = .ok (.getfield 521, 3) := by decide +kernel
theorem dX24_push_77 : decode cX24_push 77 = .ok (.iconst 1, 1) := by decide +kernel
theorem dX24_push_78 : decode cX24_push 78 = .ok (.iadd, 1) := by decide +kernel
theorem dX24_push_79 : decode cX24_push 79 = .ok (.putfield 521, 3) := by decide +kernel
theorem dX24_push_82 : decode cX24_push 82 = .ok (.return_, 1) := by decide +kernel
/-! CoinJudgeModel.push([BII)V -/
set_option maxHeartbeats 4000000 in
theorem sX24_push_0 {G : Gx} {d t : Nat} {h0 : AH} {Φ : Out → AH → Prop} (h : AH) (v0 : Nat) (v1 : Nat) (v2 : Int32) (v3 : Int32) (K : ((520 < v3 → h.kd v0 = 24 ∧ ∀ h3 : AH, h3 = h.pi 24074 v0 1 → Φ (.inl none) h3) ∧ (¬ 520 < v3 → h.kd v0 = 24 ∧ (((h.i 24067 v0) ≤ 1000 → ∀ r6 : Nat, r6 = (h.r 24065 v0) → Cw G mX24_row d 0 [vR r6, vI (h.i 24067 v0)] h (kR (fun x7 h8 => Aw G mX24_push (d + 1) t h0 Φ 39 [vR v0, vR v1, vI v2, vI v3, vR x7, vI 0] [] h8) (fun x h => Φ (.inr x) h))) ∧ (¬ (h.i 24067 v0) ≤ 1000 → ∀ h9 : AH, h9 = h.pi 24074 v0 1 → Φ (.inl none) h9))))) : Aw G mX24_push (d + 1) t h0 Φ 0 [vR v0, vR v1, vI v2, vI v3, vU, vU] [] h := by
  refine r_iload_n (pc := 0) dX24_push_0 rfl ?_
  refine r_sipush (pc := 1) (x := 520) dX24_push_1 rfl ?_
  refine r_icmp_gt (pc := 4) (tgt := 17) dX24_push_4 rfl (fun c1 => ?_) (fun c1 => ?_)
  · have K := K.1 c1
    refine r_aload_n (pc := 17) dX24_push_17 rfl ?_
    refine r_iconst (pc := 18) (x := 1) dX24_push_18 rfl ?_
    obtain ⟨hk2, K⟩ := K
    refine r_putz (pc := 19) (T := TX24) (key := 24074) 24 74 hk2 (Or.inl q2772) dX24_push_19 kc24 rfl (Or.inl rfl) (Or.inl (em rfl)) (by decide) ?_
    refine r_nameH (fun h3 eh3 => ?_)
    have K := K h3 eh3
    exact r_vret (pc := 22) rfl dX24_push_22 K
  · have K := K.2 c1
    refine r_aload_n (pc := 7) dX24_push_7 rfl ?_
    obtain ⟨hk4, K⟩ := K
    refine r_geti' (pc := 8) (T := TX24) 24 67 rfl hk4 (Or.inl q2765) dX24_push_8 kc24 g24067 ?_
    refine r_sipush (pc := 11) (x := 1000) dX24_push_11 rfl ?_
    refine r_icmp_le (pc := 14) (tgt := 23) dX24_push_14 rfl (fun c5 => ?_) (fun c5 => ?_)
    · have K := K.1 c5
      refine r_aload_n (pc := 23) dX24_push_23 rfl ?_
      have K := K _ rfl
      refine r_getr' (pc := 24) (T := TX24) 24 65 rfl hk4 (Or.inl q2763) dX24_push_24 kc24 g24065 ?_
      refine r_aload_n (pc := 27) dX24_push_27 rfl ?_
      refine r_geti' (pc := 28) (T := TX24) 24 67 rfl hk4 (Or.inl q2765) dX24_push_28 kc24 g24067 ?_
      refine r_callS_R (pc := 31) (Y := mX24_row) (vs := [_, _]) (st := []) q2511 q2512 q192 dX24_push_31 rfl cd_X24_row rfl rfl fp_X24_push_X24_row K (fun x7 h8 eh8 wh8 K => ?_) (fun x h1 _ _ e => Tw.out rfl e)
      refine r_astore (pc := 34) (lv' := [_, _, _, _, _, _]) dX24_push_34 (by decide) rfl ?_
      refine r_iconst (pc := 36) (x := 0) dX24_push_36 rfl ?_
      refine r_istore (pc := 37) (lv' := [_, _, _, _, _, _]) dX24_push_37 (by decide) rfl ?_
      refine r_mask (pc := 39) [true, true, true, true, true, true] rfl ?_
      exact K
    · have K := K.2 c5
      refine r_aload_n (pc := 17) dX24_push_17 rfl ?_
      refine r_iconst (pc := 18) (x := 1) dX24_push_18 rfl ?_
      refine r_putz (pc := 19) (T := TX24) (key := 24074) 24 74 hk4 (Or.inl q2772) dX24_push_19 kc24 rfl (Or.inl rfl) (Or.inl (em rfl)) (by decide) ?_
      refine r_nameH (fun h9 eh9 => ?_)
      have K := K h9 eh9
      exact r_vret (pc := 22) rfl dX24_push_22 K
theorem eX24_push {G : Gx} {d : Nat} {Φ : Out → AH → Prop} (h : AH) (v0 : Nat) (v1 : Nat) (v2 : Int32) (v3 : Int32) (K : WF G h → Aw G mX24_push (d + 1) 0 h Φ 0 [vR v0, vR v1, vI v2, vI v3, vU, vU] [] h) : Cw G mX24_push (d + 1) 0 [vR v0, vR v1, vI v2, vI v3] h Φ := Cw.of rfl K
set_option maxHeartbeats 4000000 in
theorem sX24_push_39 {G : Gx} {d t : Nat} {h0 : AH} {Φ : Out → AH → Prop} (h : AH) (v0 : Nat) (v1 : Nat) (v2 : Int32) (v3 : Int32) (v4 : Nat) (v5 : Int32) (K : ((v3 ≤ v5 → h.kd v0 = 24 ∧ ∀ r3 : Nat, r3 = (h.r 24066 v0) → h.kd r3 = 100 ∧ vp_in (h.i 24067 v0) (h.ai r3).length ∧ ∀ h6 : AH, h6 = h.wi r3 ((h.ai r3).set ((h.i 24067 v0).toNatClampNeg) v3) → ∀ h10 : AH, h10 = h6.pi 24067 v0 ((h.i 24067 v0) + 1) → Φ (.inl none) h10) ∧ (¬ v3 ≤ v5 → h.kd v1 = 101 ∧ vp_in (v2 + v5) (h.ai v1).length ∧ h.kd v4 = 101 ∧ vp_in v5 (h.ai v4).length ∧ ∀ h15 : AH, h15 = h.wi v4 ((h.ai v4).set (v5.toNatClampNeg) (i2b ((h.ai v1).getD ((v2 + v5).toNatClampNeg) 0))) → Aw G mX24_push (d + 1) t h0 Φ 39 [vR v0, vR v1, vI v2, vI v3, vR v4, vI (v5 + 1)] [] h15))) : Aw G mX24_push (d + 1) t h0 Φ 39 [vR v0, vR v1, vI v2, vI v3, vR v4, vI v5] [] h := by
  refine r_iload (pc := 39) dX24_push_39 rfl ?_
  refine r_iload_n (pc := 41) dX24_push_41 rfl ?_
  refine r_icmp_ge (pc := 42) (tgt := 62) dX24_push_42 rfl (fun c1 => ?_) (fun c1 => ?_)
  · have K := K.1 c1
    refine r_aload_n (pc := 62) dX24_push_62 rfl ?_
    obtain ⟨hk2, K⟩ := K
    have K := K _ rfl
    refine r_getr' (pc := 63) (T := TX24) 24 66 rfl hk2 (Or.inl q2764) dX24_push_63 kc24 g24066 ?_
    refine r_aload_n (pc := 66) dX24_push_66 rfl ?_
    refine r_geti' (pc := 67) (T := TX24) 24 67 rfl hk2 (Or.inl q2765) dX24_push_67 kc24 g24067 ?_
    refine r_iload_n (pc := 70) dX24_push_70 rfl ?_
    obtain ⟨hk4, K⟩ := K
    obtain ⟨hi5, K⟩ := K
    refine r_iastore (pc := 71) hk4 hi5 (Or.inl (em rfl)) dX24_push_71 ?_
    refine r_nameH (fun h6 eh6 => ?_)
    have K := K h6 eh6
    refine r_aload_n (pc := 72) dX24_push_72 rfl ?_
    refine r_dup (pc := 73) rfl dX24_push_73 ?_
    have hk7 := kd_wi eh6 hk2
    have hv8 := fi_self (key := 24067) hk2
    have hv9 := fi_wi (key := 24067) eh6 hv8
    refine r_geti' (pc := 74) (T := TX24) 24 67 hv9 hk7 (Or.inl q2765) dX24_push_74 kc24 g24067 ?_
    refine r_iconst (pc := 77) (x := 1) dX24_push_77 rfl ?_
    refine r_iadd (pc := 78) dX24_push_78 ?_
    refine r_puti (pc := 79) (T := TX24) (key := 24067) 24 67 hk7 (Or.inl q2765) dX24_push_79 kc24 rfl (Or.inl rfl) (Or.inl (em rfl)) ?_
    refine r_nameH (fun h10 eh10 => ?_)
    have K := K h10 eh10
    exact r_vret (pc := 82) rfl dX24_push_82 K
  · have K := K.2 c1
    refine r_aload (pc := 45) dX24_push_45 rfl ?_
    refine r_iload (pc := 47) dX24_push_47 rfl ?_
    refine r_aload_n (pc := 49) dX24_push_49 rfl ?_
    refine r_iload_n (pc := 50) dX24_push_50 rfl ?_
    refine r_iload (pc := 51) dX24_push_51 rfl ?_
    refine r_iadd (pc := 53) dX24_push_53 ?_
    obtain ⟨hk11, K⟩ := K
    obtain ⟨hi12, K⟩ := K
    refine r_baload (pc := 54) hk11 hi12 dX24_push_54 ?_
    obtain ⟨hk13, K⟩ := K
    obtain ⟨hi14, K⟩ := K
    refine r_jbast (pc := 55) hk13 hi14 (Or.inl (em rfl)) dX24_push_55 ?_
    refine r_nameH (fun h15 eh15 => ?_)
    have K := K h15 eh15
    refine r_iinc (pc := 56) (lv' := [_, _, _, _, _, _]) dX24_push_56 rfl rfl (by decide) rfl ?_
    refine r_goto (pc := 59) (tgt := 39) dX24_push_59 rfl ?_
    refine r_mask (pc := 39) [true, true, true, true, true, true] rfl ?_
    exact K
theorem dX24_pushNumber_0 : decode cX24_pushNumber 0 = .ok (.lload_n 1, 1) := by decide +kernel
theorem dX24_pushNumber_1 : decode cX24_pushNumber 1 = .ok (.lconst 0, 1) := by decide +kernel
theorem dX24_pushNumber_2 : decode cX24_pushNumber 2 = .ok (.lcmp, 1) := by decide +kernel
theorem dX24_pushNumber_3 : decode cX24_pushNumber 3 = .ok (.ifCond .ge 8, 3) := by decide +kernel
theorem dX24_pushNumber_6 : decode cX24_pushNumber 6 = .ok (.lload_n 1, 1) := by decide +kernel
theorem dX24_pushNumber_7 : decode cX24_pushNumber 7 = .ok (.lneg, 1) := by decide +kernel
theorem dX24_pushNumber_8 : decode cX24_pushNumber 8 = .ok (.goto 4, 3) := by decide +kernel
theorem dX24_pushNumber_11 : decode cX24_pushNumber 11 = .ok (.lload_n 1, 1) := by decide +kernel
theorem dX24_pushNumber_12 : decode cX24_pushNumber 12 = .ok (.lstore_n 3, 1) := by decide +kernel
theorem dX24_pushNumber_13 : decode cX24_pushNumber 13 = .ok (.iconst 0, 1) := by decide +kernel
theorem dX24_pushNumber_14 : decode cX24_pushNumber 14 = .ok (.istore 5, 2) := by decide +kernel
theorem dX24_pushNumber_16 : decode cX24_pushNumber 16 = .ok (.lload_n 3, 1) := by decide +kernel
theorem dX24_pushNumber_17 : decode cX24_pushNumber 17 = .ok (.lconst 0, 1) := by decide +kernel
theorem dX24_pushNumber_18 : decode cX24_pushNumber 18 = .ok (.lcmp, 1) := by decide +kernel
theorem dX24_pushNumber_19 : decode cX24_pushNumber 19 = .ok (.ifCond .eq 24, 3) := by decide +kernel
theorem dX24_pushNumber_22 : decode cX24_pushNumber 22 = .ok (.aload_n 0, 1) := by decide +kernel
theorem dX24_pushNumber_23 : decode cX24_pushNumber 23 = .ok (.getfield 542, 3) := by decide +kernel
theorem dX24_pushNumber_26 : decode cX24_pushNumber 26 = .ok (.iload 5, 2) := by decide +kernel
theorem dX24_pushNumber_28 : decode cX24_pushNumber 28 = .ok (.lload_n 3, 1) := by decide +kernel
theorem dX24_pushNumber_29 : decode cX24_pushNumber 29 = .ok (.l2i, 1) := by decide +kernel
theorem dX24_pushNumber_30 : decode cX24_pushNumber 30 = .ok (.i2b, 1) := by decide +kernel
theorem dX24_pushNumber_31 : decode cX24_pushNumber 31 = .ok (.bastore, 1) := by decide +kernel
theorem dX24_pushNumber_32 : decode cX24_pushNumber 32 = .ok (.lload_n 3, 1) := by decide +kernel
theorem dX24_pushNumber_33 : decode cX24_pushNumber 33 = .ok (.bipush 8, 2) := by decide +kernel
theorem dX24_pushNumber_35 : decode cX24_pushNumber 35 = .ok (.lushr, 1) := by decide +kernel
theorem dX24_pushNumber_36 : decode cX24_pushNumber 36 = .ok (.lstore_n 3, 1) := by decide +kernel
theorem dX24_pushNumber_37 : decode cX24_pushNumber 37 = .ok (.iinc 5 1, 3) := by decide +kernel
theorem dX24_pushNumber_40 : decode cX24_pushNumber 40 = .ok (.goto (-24), 3) := by decide +kernel
theorem dX24_pushNumber_43 : decode cX24_pushNumber 43 = .ok (.iload 5, 2) := by decide +kernel
theorem dX24_pushNumber_45 : decode cX24_pushNumber 45 = .ok (.ifCond .le 26, 3) := by decide +kernel
theorem dX24_pushNumber_48 : decode cX24_pushNumber 48 = .ok (.aload_n 0, 1) := by decide +kernel
theorem dX24_pushNumber_49 : decode cX24_pushNumber 49 = .ok (.getfield 542, 3) := by decide +kernel
theorem dX24_pushNumber_52 : decode cX24_pushNumber 52 = .ok (.iload 5, 2) := by decide +kernel
theorem dX24_pushNumber_54 : decode cX24_pushNumber 54 = .ok (.iconst 1, 1) := by decide +kernel
theorem dX24_pushNumber_55 : decode cX24_pushNumber 55 = .ok (.isub, 1) := by decide +kernel
theorem dX24_pushNumber_56 : decode cX24_pushNumber 56 = .ok (.baload, 1) := by decide +kernel
theorem dX24_pushNumber_57 : decode cX24_pushNumber 57 = .ok (.ifCond .ge 14, 3) := by decide +kernel
theorem dX24_pushNumber_60 : decode cX24_pushNumber 60 = .ok (.aload_n 0, 1) := by decide +kernel
theorem dX24_pushNumber_61 : decode cX24_pushNumber 61 = .ok (.getfield 542, 3) := by decide +kernel
theorem dX24_pushNumber_64 : decode cX24_pushNumber 64 = .ok (.iload 5, 2) := by decide +kernel
theorem dX24_pushNumber_66 : decode cX24_pushNumber 66 = .ok (.iconst 0, 1) := by decide +kernel
theorem dX24_pushNumber_67 : decode cX24_pushNumber 67 = .ok (.bastore, 1) := by decide +kernel
theorem dX24_pushNumber_68 : decode cX24_pushNumber 68 = .ok (.iinc 5 1, 3) := by decide +kernel
theorem dX24_pushNumber_71 : decode cX24_pushNumber 71 = .ok (.lload_n 1, 1) := by decide +kernel
theorem dX24_pushNumber_72 : decode cX24_pushNumber 72 = .ok (.lconst 0, 1) := by decide +kernel
theorem dX24_pushNumber_73 : decode cX24_pushNumber 73 = .ok (.lcmp, 1) := by decide +kernel
theorem dX24_pushNumber_74 : decode cX24_pushNumber 74 = .ok (.ifCond .ge 18, 3) := by decide +kernel
theorem dX24_pushNumber_77 : decode cX24_pushNumber 77 = .ok (.aload_n 0, 1) := by decide +kernel
theorem dX24_pushNumber_78 : decode cX24_pushNumber 78 = .ok (.getfield 542, 3) := by decide +kernel
theorem dX24_pushNumber_81 : decode cX24_pushNumber 81 = .ok (.iload 5, 2) := by decide +kernel
theorem dX24_pushNumber_83 : decode cX24_pushNumber 83 = .ok (.iconst 1, 1) := by decide +kernel
theorem dX24_pushNumber_84 : decode cX24_pushNumber 84 = .ok (.isub, 1) := by decide +kernel
theorem dX24_pushNumber_85 : decode cX24_pushNumber 85 = .ok (.dup2, 1) := by decide +kernel
theorem dX24_pushNumber_86 : decode cX24_pushNumber 86 = .ok (.baload, 1) := by decide +kernel
theorem dX24_pushNumber_87 : decode cX24_pushNumber 87 = .ok (.bipush (-128), 2) := by decide +kernel
theorem dX24_pushNumber_89 : decode cX24_pushNumber 89 = .ok (.ior, 1) := by decide +kernel
theorem dX24_pushNumber_90 : decode cX24_pushNumber 90 = .ok (.i2b, 1) := by decide +kernel
theorem dX24_pushNumber_91 : decode cX24_pushNumber 91 = .ok (.bastore, 1) := by decide +kernel
theorem dX24_pushNumber_92 : decode cX24_pushNumber 92 = .ok (.aload_n 0, 1) := by decide +kernel
theorem dX24_pushNumber_93 : decode cX24_pushNumber 93 = .ok (.aload_n 0, 1) := by decide +kernel
theorem dX24_pushNumber_94 : decode cX24_pushNumber 94 = .ok (.getfield 542, 3) := by decide +kernel
theorem dX24_pushNumber_97 : decode cX24_pushNumber 97 = .ok (.iconst 0, 1) := by decide +kernel
theorem dX24_pushNumber_98 : decode cX24_pushNumber 98 = .ok (.iload 5, 2) := by decide +kernel
theorem dX24_pushNumber_100 : decode cX24_pushNumber 100 = .ok (.invokevirtual 538, 3) := by decide +kernel
theorem dX24_pushNumber_103 : decode cX24_pushNumber 103 = .ok (.return_, 1) := by decide +kernel
/-! CoinJudgeModel.pushNumber(J)V -/
set_option maxHeartbeats 4000000 in
theorem sX24_pushNumber_0 {G : Gx} {d t : Nat} {h0 : AH} {Φ : Out → AH → Prop} (h : AH) (v0 : Nat) (v1 : Int64) (K : ((0 ≤ v1 → Aw G mX24_pushNumber (d + 1) t h0 Φ 16 [vR v0, vJ v1, vU, vJ v1, vU, vI 0] [] h) ∧ (¬ 0 ≤ v1 → Aw G mX24_pushNumber (d + 1) t h0 Φ 16 [vR v0, vJ v1, vU, vJ (-v1), vU, vI 0] [] h))) : Aw G mX24_pushNumber (d + 1) t h0 Φ 0 [vR v0, vJ v1, vU, vU, vU, vU] [] h := by
  refine r_lload_n (pc := 0) dX24_pushNumber_0 rfl ?_
  refine r_lconst (pc := 1) (a := 0) dX24_pushNumber_1 rfl ?_
  refine r_lcmp_ge (pc := 2) (tgt := 11) dX24_pushNumber_2 dX24_pushNumber_3 rfl (fun c1 => ?_) (fun c1 => ?_)
  · have K := K.1 c1
    refine r_lload_n (pc := 11) dX24_pushNumber_11 rfl ?_
    refine r_lstore_n (pc := 12) (lv' := [_, _, _, _, _, _]) dX24_pushNumber_12 (by decide) rfl ?_
    refine r_iconst (pc := 13) (x := 0) dX24_pushNumber_13 rfl ?_
    refine r_istore (pc := 14) (lv' := [_, _, _, _, _, _]) dX24_pushNumber_14 (by decide) rfl ?_
    refine r_mask (pc := 16) [true, true, false, true, false, true] rfl ?_
    exact K
  · have K := K.2 c1
    refine r_lload_n (pc := 6) dX24_pushNumber_6 rfl ?_
    refine r_lneg (pc := 7) dX24_pushNumber_7 ?_
    refine r_goto (pc := 8) (tgt := 12) dX24_pushNumber_8 rfl ?_
    refine r_lstore_n (pc := 12) (lv' := [_, _, _, _, _, _]) dX24_pushNumber_12 (by decide) rfl ?_
    refine r_iconst (pc := 13) (x := 0) dX24_pushNumber_13 rfl ?_
    refine r_istore (pc := 14) (lv' := [_, _, _, _, _, _]) dX24_pushNumber_14 (by decide) rfl ?_
    refine r_mask (pc := 16) [true, true, false, true, false, true] rfl ?_
    exact K
theorem eX24_pushNumber {G : Gx} {d : Nat} {Φ : Out → AH → Prop} (h : AH) (v0 : Nat) (v1 : Int64) (K : WF G h → Aw G mX24_pushNumber (d + 1) 0 h Φ 0 [vR v0, vJ v1, vU, vU, vU, vU] [] h) : Cw G mX24_pushNumber (d + 1) 0 [vR v0, vJ v1] h Φ := Cw.of rfl K
set_option maxHeartbeats 4000000 in
theorem sX24_pushNumber_16 {G : Gx} {d t : Nat} {h0 : AH} {Φ : Out → AH → Prop} (h : AH) (v0 : Nat) (v1 : Int64) (v3 : Int64) (v5 : Int32) (K : ((v3 = 0 → ((v5 ≤ 0 → Aw G mX24_pushNumber (d + 1) t h0 Φ 71 [vR v0, vJ v1, vU, vU, vU, vI v5] [] h) ∧ (¬ v5 ≤ 0 → h.kd v0 = 24 ∧ ∀ r4 : Nat, r4 = (h.r 24075 v0) → h.kd r4 = 101 ∧ vp_in (v5 - 1) (h.ai r4).length ∧ ((0 ≤ ((h.ai r4).getD ((v5 - 1).toNatClampNeg) 0) → Aw G mX24_pushNumber (d + 1) t h0 Φ 71 [vR v0, vJ v1, vU, vU, vU, vI v5] [] h) ∧ (¬ 0 ≤ ((h.ai r4).getD ((v5 - 1).toNatClampNeg) 0) → vp_in v5 (h.ai r4).length ∧ ∀ h9 : AH, h9 = h.wi r4 ((h.ai r4).set (v5.toNatClampNeg) (i2b 0)) → Aw G mX24_pushNumber (d + 1) t h0 Φ 71 [vR v0, vJ v1, vU, vU, vU, vI (v5 + 1)] [] h9))))) ∧ (¬ v3 = 0 → h.kd v0 = 24 ∧ ∀ r11 : Nat, r11 = (h.r 24075 v0) → h.kd r11 = 101 ∧ vp_in v5 (h.ai r11).length ∧ ∀ h14 : AH, h14 = h.wi r11 ((h.ai r11).set (v5.toNatClampNeg) (i2b (i2b v3.toInt32))) → Aw G mX24_pushNumber (d + 1) t h0 Φ 16 [vR v0, vJ v1, vU, vJ (Jushr v3 8), vU, vI (v5 + 1)] [] h14))) : Aw G mX24_pushNumber (d + 1) t h0 Φ 16 [vR v0, vJ v1, vU, vJ v3, vU, vI v5] [] h := by
  refine r_lload_n (pc := 16) dX24_pushNumber_16 rfl ?_
  refine r_lconst (pc := 17) (a := 0) dX24_pushNumber_17 rfl ?_
  refine r_lcmp_eq (pc := 18) (tgt := 43) dX24_pushNumber_18 dX24_pushNumber_19 rfl (fun c1 => ?_) (fun c1 => ?_)
  · have K := K.1 c1
    refine r_iload (pc := 43) dX24_pushNumber_43 rfl ?_
    refine r_if_le (pc := 45) (tgt := 71) dX24_pushNumber_45 rfl (fun c2 => ?_) (fun c2 => ?_)
    · have K := K.1 c2
      refine r_mask (pc := 71) [true, true, false, false, false, true] rfl ?_
      exact K
    · have K := K.2 c2
      refine r_aload_n (pc := 48) dX24_pushNumber_48 rfl ?_
      obtain ⟨hk3, K⟩ := K
      have K := K _ rfl
      refine r_getr' (pc := 49) (T := TX24) 24 75 rfl hk3 (Or.inl q2773) dX24_pushNumber_49 kc24 g24075 ?_
      refine r_iload (pc := 52) dX24_pushNumber_52 rfl ?_
      refine r_iconst (pc := 54) (x := 1) dX24_pushNumber_54 rfl ?_
      refine r_isub (pc := 55) dX24_pushNumber_55 ?_
      obtain ⟨hk5, K⟩ := K
      obtain ⟨hi6, K⟩ := K
      refine r_baload (pc := 56) hk5 hi6 dX24_pushNumber_56 ?_
      refine r_if_ge (pc := 57) (tgt := 71) dX24_pushNumber_57 rfl (fun c7 => ?_) (fun c7 => ?_)
      · have K := K.1 c7
        refine r_mask (pc := 71) [true, true, false, false, false, true] rfl ?_
        exact K
      · have K := K.2 c7
        refine r_aload_n (pc := 60) dX24_pushNumber_60 rfl ?_
        refine r_getr' (pc := 61) (T := TX24) 24 75 rfl hk3 (Or.inl q2773) dX24_pushNumber_61 kc24 g24075 ?_
        refine r_iload (pc := 64) dX24_pushNumber_64 rfl ?_
        refine r_iconst (pc := 66) (x := 0) dX24_pushNumber_66 rfl ?_
        obtain ⟨hi8, K⟩ := K
        refine r_jbast (pc := 67) hk5 hi8 (Or.inl (em rfl)) dX24_pushNumber_67 ?_
        refine r_nameH (fun h9 eh9 => ?_)
        have K := K h9 eh9
        refine r_iinc (pc := 68) (lv' := [_, _, _, _, _, _]) dX24_pushNumber_68 rfl rfl (by decide) rfl ?_
        refine r_mask (pc := 71) [true, true, false, false, false, true] rfl ?_
        exact K
  · have K := K.2 c1
    refine r_aload_n (pc := 22) dX24_pushNumber_22 rfl ?_
    obtain ⟨hk10, K⟩ := K
    have K := K _ rfl
    refine r_getr' (pc := 23) (T := TX24) 24 75 rfl hk10 (Or.inl q2773) dX24_pushNumber_23 kc24 g24075 ?_
    refine r_iload (pc := 26) dX24_pushNumber_26 rfl ?_
    refine r_lload_n (pc := 28) dX24_pushNumber_28 rfl ?_
    refine r_l2i (pc := 29) dX24_pushNumber_29 ?_
    refine r_ji2b (pc := 30) dX24_pushNumber_30 ?_
    obtain ⟨hk12, K⟩ := K
    obtain ⟨hi13, K⟩ := K
    refine r_jbast (pc := 31) hk12 hi13 (Or.inl (em rfl)) dX24_pushNumber_31 ?_
    refine r_nameH (fun h14 eh14 => ?_)
    have K := K h14 eh14
    refine r_lload_n (pc := 32) dX24_pushNumber_32 rfl ?_
    refine r_bipush (pc := 33) (x := 8) dX24_pushNumber_33 rfl ?_
    refine r_Jushr (pc := 35) dX24_pushNumber_35 ?_
    refine r_lstore_n (pc := 36) (lv' := [_, _, _, _, _, _]) dX24_pushNumber_36 (by decide) rfl ?_
    refine r_iinc (pc := 37) (lv' := [_, _, _, _, _, _]) dX24_pushNumber_37 rfl rfl (by decide) rfl ?_
    refine r_goto (pc := 40) (tgt := 16) dX24_pushNumber_40 rfl ?_
    refine r_mask (pc := 16) [true, true, false, true, false, true] rfl ?_
    exact K
set_option maxHeartbeats 4000000 in
theorem sX24_pushNumber_71 {G : Gx} {d t : Nat} {h0 : AH} {Φ : Out → AH → Prop} (h : AH) (v0 : Nat) (v1 : Int64) (v5 : Int32) (K : ((0 ≤ v1 → h.kd v0 = 24 ∧ ∀ r3 : Nat, r3 = (h.r 24075 v0) → Cw G mX24_push d 0 [vR v0, vR r3, vI 0, vI v5] h (kV (fun h5 => Φ (.inl none) h5) (fun x h => Φ (.inr x) h))) ∧ (¬ 0 ≤ v1 → h.kd v0 = 24 ∧ ∀ r7 : Nat, r7 = (h.r 24075 v0) → h.kd r7 = 101 ∧ vp_in (v5 - 1) (h.ai r7).length ∧ vp_in (v5 - 1) (h.ai r7).length ∧ ∀ h11 : AH, h11 = h.wi r7 ((h.ai r7).set ((v5 - 1).toNatClampNeg) (i2b (i2b (((h.ai r7).getD ((v5 - 1).toNatClampNeg) 0) ||| (-128))))) → Cw G mX24_push d 0 [vR v0, vR r7, vI 0, vI v5] h11 (kV (fun h16 => Φ (.inl none) h16) (fun x h => Φ (.inr x) h))))) : Aw G mX24_pushNumber (d + 1) t h0 Φ 71 [vR v0, vJ v1, vU, vU, vU, vI v5] [] h := by
  refine r_lload_n (pc := 71) dX24_pushNumber_71 rfl ?_
  refine r_lconst (pc := 72) (a := 0) dX24_pushNumber_72 rfl ?_
  refine r_lcmp_ge (pc := 73) (tgt := 92) dX24_pushNumber_73 dX24_pushNumber_74 rfl (fun c1 => ?_) (fun c1 => ?_)
  · have K := K.1 c1
    refine r_aload_n (pc := 92) dX24_pushNumber_92 rfl ?_
    refine r_aload_n (pc := 93) dX24_pushNumber_93 rfl ?_
    obtain ⟨hk2, K⟩ := K
    have K := K _ rfl
    refine r_getr' (pc := 94) (T := TX24) 24 75 rfl hk2 (Or.inl q2773) dX24_pushNumber_94 kc24 g24075 ?_
    refine r_iconst (pc := 97) (x := 0) dX24_pushNumber_97 rfl ?_
    refine r_iload (pc := 98) dX24_pushNumber_98 rfl ?_
    refine r_callV_V (pc := 100) (Y := mX24_push) (vs := [_, _, _]) (st := []) hk2 rfl kc24 q2507 q2509 qs96 dX24_pushNumber_100 rfl cd_X24_push rfl rfl fp_X24_pushNumber_X24_push K (fun h5 eh5 wh5 K => ?_) (fun x h1 _ _ e => Tw.out rfl e)
    exact r_vret (pc := 103) rfl dX24_pushNumber_103 K
  · have K := K.2 c1
    refine r_aload_n (pc := 77) dX24_pushNumber_77 rfl ?_
    obtain ⟨hk6, K⟩ := K
    have K := K _ rfl
    refine r_getr' (pc := 78) (T := TX24) 24 75 rfl hk6 (Or.inl q2773) dX24_pushNumber_78 kc24 g24075 ?_
    refine r_iload (pc := 81) dX24_pushNumber_81 rfl ?_
    refine r_iconst (pc := 83) (x := 1) dX24_pushNumber_83 rfl ?_
    refine r_isub (pc := 84) dX24_pushNumber_84 ?_
    refine r_dup2 (pc := 85) rfl rfl dX24_pushNumber_85 ?_
    obtain ⟨hk8, K⟩ := K
    obtain ⟨hi9, K⟩ := K
    refine r_baload (pc := 86) hk8 hi9 dX24_pushNumber_86 ?_
    refine r_bipush (pc := 87) (x := (-128)) dX24_pushNumber_87 rfl ?_
    refine r_ior (pc := 89) dX24_pushNumber_89 ?_
    refine r_ji2b (pc := 90) dX24_pushNumber_90 ?_
    obtain ⟨hi10, K⟩ := K
    refine r_jbast (pc := 91) hk8 hi10 (Or.inl (em rfl)) dX24_pushNumber_91 ?_
    refine r_nameH (fun h11 eh11 => ?_)
    have K := K h11 eh11
    refine r_aload_n (pc := 92) dX24_pushNumber_92 rfl ?_
    refine r_aload_n (pc := 93) dX24_pushNumber_93 rfl ?_
    have hk12 := kd_wi eh11 hk6
    have hv13 := fr_self (key := 24075) hk6
    have hv14 := fr_wi (key := 24075) eh11 hv13
    refine r_getr' (pc := 94) (T := TX24) 24 75 hv14 hk12 (Or.inl q2773) dX24_pushNumber_94 kc24 g24075 ?_
    refine r_iconst (pc := 97) (x := 0) dX24_pushNumber_97 rfl ?_
    refine r_iload (pc := 98) dX24_pushNumber_98 rfl ?_
    refine r_callV_V (pc := 100) (Y := mX24_push) (vs := [_, _, _]) (st := []) hk12 rfl kc24 q2507 q2509 qs96 dX24_pushNumber_100 rfl cd_X24_push rfl rfl fp_X24_pushNumber_X24_push K (fun h16 eh16 wh16 K => ?_) (fun x h1 _ _ e => Tw.out rfl e)
    exact r_vret (pc := 103) rfl dX24_pushNumber_103 K
theorem dX24_pushTruth_0 : decode cX24_pushTruth 0 = .ok (.aload_n 0, 1) := by decide +kernel
theorem dX24_pushTruth_1 : decode cX24_pushTruth 1 = .ok (.iload_n 1, 1) := by decide +kernel
theorem dX24_pushTruth_2 : decode cX24_pushTruth 2 = .ok (.ifCond .eq 7, 3) := by decide +kernel
theorem dX24_pushTruth_5 : decode cX24_pushTruth 5 = .ok (.lconst 1, 1) := by decide +kernel
theorem dX24_pushTruth_6 : decode cX24_pushTruth 6 = .ok (.goto 4, 3) := by decide +kernel
theorem dX24_pushTruth_9 : decode cX24_pushTruth 9 = .ok (.lconst 0, 1) := by decide +kernel
theorem dX24_pushTruth_10 : decode cX24_pushTruth 10 = .ok (.invokevirtual 545, 3) := by decide +kernel
theorem dX24_pushTruth_13 : decode cX24_pushTruth 13 = .ok (.return_, 1) := by decide +kernel
/-! CoinJudgeModel.pushTruth(Z)V -/
set_option maxHeartbeats 4000000 in
theorem sX24_pushTruth_0 {G : Gx} {d t : Nat} {h0 : AH} {Φ : Out → AH → Prop} (h : AH) (v0 : Nat) (v1 : Int32) (K : ((v1 = 0 → h.kd v0 = 24 ∧ Cw G mX24_pushNumber d 0 [vR v0, vJ 0] h (kV (fun h3 => Φ (.inl none) h3) (fun x h => Φ (.inr x) h))) ∧ (¬ v1 = 0 → h.kd v0 = 24 ∧ Cw G mX24_pushNumber d 0 [vR v0, vJ 1] h (kV (fun h6 => Φ (.inl none) h6) (fun x h => Φ (.inr x) h))))) : Aw G mX24_pushTruth (d + 1) t h0 Φ 0 [vR v0, vI v1] [] h := by
  refine r_aload_n (pc := 0) dX24_pushTruth_0 rfl ?_
  refine r_iload_n (pc := 1) dX24_pushTruth_1 rfl ?_
  refine r_if_eq (pc := 2) (tgt := 9) dX24_pushTruth_2 rfl (fun c1 => ?_) (fun c1 => ?_)
  · have K := K.1 c1
    refine r_lconst (pc := 9) (a := 0) dX24_pushTruth_9 rfl ?_
    obtain ⟨hk4, K⟩ := K
    refine r_callV_V (pc := 10) (Y := mX24_pushNumber) (vs := [_]) (st := []) hk4 rfl kc24 q2514 q2516 qs97 dX24_pushTruth_10 rfl cd_X24_pushNumber rfl rfl fp_X24_pushTruth_X24_pushNumber K (fun h3 eh3 wh3 K => ?_) (fun x h1 _ _ e => Tw.out rfl e)
    exact r_vret (pc := 13) rfl dX24_pushTruth_13 K
  · have K := K.2 c1
    refine r_lconst (pc := 5) (a := 1) dX24_pushTruth_5 rfl ?_
    refine r_goto (pc := 6) (tgt := 10) dX24_pushTruth_6 rfl ?_
    obtain ⟨hk7, K⟩ := K
    refine r_callV_V (pc := 10) (Y := mX24_pushNumber) (vs := [_]) (st := []) hk7 rfl kc24 q2514 q2516 qs97 dX24_pushTruth_10 rfl cd_X24_pushNumber rfl rfl fp_X24_pushTruth_X24_pushNumber K (fun h6 eh6 wh6 K => ?_) (fun x h1 _ _ e => Tw.out rfl e)
    exact r_vret (pc := 13) rfl dX24_pushTruth_13 K
theorem eX24_pushTruth {G : Gx} {d : Nat} {Φ : Out → AH → Prop} (h : AH) (v0 : Nat) (v1 : Int32) (K : WF G h → Aw G mX24_pushTruth (d + 1) 0 h Φ 0 [vR v0, vI v1] [] h) : Cw G mX24_pushTruth (d + 1) 0 [vR v0, vI v1] h Φ := Cw.of rfl K
theorem dX24_answer_0 : decode cX24_answer 0 = .ok (.iload_n 2, 1) := by decide +kernel
theorem dX24_answer_1 : decode cX24_answer 1 = .ok (.ifCond .eq 24, 3) := by decide +kernel
theorem dX24_answer_4 : decode cX24_answer 4 = .ok (.aload_n 0, 1) := by decide +kernel
theorem dX24_answer_5 : decode cX24_answer 5 = .ok (.dup, 1) := by decide +kernel
theorem dX24_answer_6 : decode cX24_answer 6 = .ok (.getfield 524, 3) := by decide +kernel
theorem dX24_answer_9 : decode cX24_answer 9 = .ok (.iload_n 1, 1) := by decide +kernel
theorem dX24_answer_10 : decode cX24_answer 10 = .ok (.ifCond .ne 7, 3) := by decide +kernel
theorem dX24_answer_13 : decode cX24_answer 13 = .ok (.iconst 1, 1) := by decide +kernel
theorem dX24_answer_14 : decode cX24_answer 14 = .ok (.goto 4, 3) := by decide +kernel
theorem dX24_answer_17 : decode cX24_answer 17 = .ok (.iconst 0, 1) := by decide +kernel
theorem dX24_answer_18 : decode cX24_answer 18 = .ok (.ior, 1) := by decide +kernel
theorem dX24_answer_19 : decode cX24_answer 19 = .ok (.putfield 524, 3) := by decide +kernel
theorem dX24_answer_22 : decode cX24_answer 22 = .ok (.goto 8, 3) := by decide +kernel
theorem dX24_answer_25 : decode cX24_answer 25 = .ok (.aload_n 0, 1) := by decide +kernel
theorem dX24_answer_26 : decode cX24_answer 26 = .ok (.iload_n 1, 1) := by decide +kernel
theorem dX24_answer_27 : decode cX24_answer 27 = .ok (.invokevirtual 599, 3) := by decide +kernel
theorem dX24_answer_30 : decode cX24_answer 30 = .ok (.return_, 1) := by decide +kernel
/-! CoinJudgeModel.answer(ZZ)V -/
set_option maxHeartbeats 4000000 in
theorem sX24_answer_0 {G : Gx} {d t : Nat} {h0 : AH} {Φ : Out → AH → Prop} (h : AH) (v0 : Nat) (v1 : Int32) (v2 : Int32) (K : ((v2 = 0 → h.kd v0 = 24 ∧ Cw G mX24_pushTruth d 0 [vR v0, vI v1] h (kV (fun h3 => Φ (.inl none) h3) (fun x h => Φ (.inr x) h))) ∧ (¬ v2 = 0 → h.kd v0 = 24 ∧ ((¬ v1 = 0 → (((h.i 24074 v0) ||| 0) = 0 ∨ ((h.i 24074 v0) ||| 0) = 1) ∧ ∀ h8 : AH, h8 = h.pi 24074 v0 ((h.i 24074 v0) ||| 0) → Φ (.inl none) h8) ∧ (v1 = 0 → (((h.i 24074 v0) ||| 1) = 0 ∨ ((h.i 24074 v0) ||| 1) = 1) ∧ ∀ h10 : AH, h10 = h.pi 24074 v0 ((h.i 24074 v0) ||| 1) → Φ (.inl none) h10))))) : Aw G mX24_answer (d + 1) t h0 Φ 0 [vR v0, vI v1, vI v2] [] h := by
  refine r_iload_n (pc := 0) dX24_answer_0 rfl ?_
  refine r_if_eq (pc := 1) (tgt := 25) dX24_answer_1 rfl (fun c1 => ?_) (fun c1 => ?_)
  · have K := K.1 c1
    refine r_aload_n (pc := 25) dX24_answer_25 rfl ?_
    refine r_iload_n (pc := 26) dX24_answer_26 rfl ?_
    obtain ⟨hk4, K⟩ := K
    refine r_callV_V (pc := 27) (Y := mX24_pushTruth) (vs := [_]) (st := []) hk4 rfl kc24 q2530 q2532 qs101 dX24_answer_27 rfl cd_X24_pushTruth rfl rfl fp_X24_answer_X24_pushTruth K (fun h3 eh3 wh3 K => ?_) (fun x h1 _ _ e => Tw.out rfl e)
    exact r_vret (pc := 30) rfl dX24_answer_30 K
  · have K := K.2 c1
    refine r_aload_n (pc := 4) dX24_answer_4 rfl ?_
    refine r_dup (pc := 5) rfl dX24_answer_5 ?_
    obtain ⟨hk5, K⟩ := K
    refine r_geti' (pc := 6) (T := TX24) 24 74 rfl hk5 (Or.inl q2772) dX24_answer_6 kc24 g24074 ?_
    refine r_iload_n (pc := 9) dX24_answer_9 rfl ?_
    refine r_if_ne (pc := 10) (tgt := 17) dX24_answer_10 rfl (fun c6 => ?_) (fun c6 => ?_)
    · have K := K.1 c6
      refine r_iconst (pc := 17) (x := 0) dX24_answer_17 rfl ?_
      refine r_ior (pc := 18) dX24_answer_18 ?_
      obtain ⟨hb7, K⟩ := K
      refine r_putz (pc := 19) (T := TX24) (key := 24074) 24 74 hk5 (Or.inl q2772) dX24_answer_19 kc24 rfl (Or.inl rfl) (Or.inl (em rfl)) hb7 ?_
      refine r_nameH (fun h8 eh8 => ?_)
      have K := K h8 eh8
      refine r_goto (pc := 22) (tgt := 30) dX24_answer_22 rfl ?_
      exact r_vret (pc := 30) rfl dX24_answer_30 K
    · have K := K.2 c6
      refine r_iconst (pc := 13) (x := 1) dX24_answer_13 rfl ?_
      refine r_goto (pc := 14) (tgt := 18) dX24_answer_14 rfl ?_
      refine r_ior (pc := 18) dX24_answer_18 ?_
      obtain ⟨hb9, K⟩ := K
      refine r_putz (pc := 19) (T := TX24) (key := 24074) 24 74 hk5 (Or.inl q2772) dX24_answer_19 kc24 rfl (Or.inl rfl) (Or.inl (em rfl)) hb9 ?_
      refine r_nameH (fun h10 eh10 => ?_)
      have K := K h10 eh10
      refine r_goto (pc := 22) (tgt := 30) dX24_answer_22 rfl ?_
      exact r_vret (pc := 30) rfl dX24_answer_30 K
theorem eX24_answer {G : Gx} {d : Nat} {Φ : Out → AH → Prop} (h : AH) (v0 : Nat) (v1 : Int32) (v2 : Int32) (K : WF G h → Aw G mX24_answer (d + 1) 0 h Φ 0 [vR v0, vI v1, vI v2] [] h) : Cw G mX24_answer (d + 1) 0 [vR v0, vI v1, vI v2] h Φ := Cw.of rfl K
theorem dX24_copy_0 : decode cX24_copy 0 = .ok (.aload_n 0, 1) := by decide +kernel
theorem dX24_copy_1 : decode cX24_copy 1 = .ok (.getfield 521, 3) := by decide +kernel
theorem dX24_copy_4 : decode cX24_copy 4 = .ok (.iconst 1, 1) := by decide +kernel
theorem dX24_copy_5 : decode cX24_copy 5 = .ok (.isub, 1) := by decide +kernel
theorem dX24_copy_6 : decode cX24_copy 6 = .ok (.iload_n 1, 1) := by decide +kernel
theorem dX24_copy_7 : decode cX24_copy 7 = .ok (.isub, 1) := by decide +kernel
theorem dX24_copy_8 : decode cX24_copy 8 = .ok (.istore_n 2, 1) := by decide +kernel
theorem dX24_copy_9 : decode cX24_copy 9 = .ok (.aload_n 0, 1) := by decide +kernel
theorem dX24_copy_10 : decode cX24_copy 10 = .ok (.aload_n 0, 1) := by decide +kernel
theorem dX24_copy_11 : decode cX24_copy 11 = .ok (.getfield 527, 3) := by decide +kernel
theorem dX24_copy_14 : decode cX24_copy 14 = .ok (.iload_n 2, 1) := by decide +kernel
theorem dX24_copy_15 : decode cX24_copy 15 = .ok (.aaload, 1) := by decide +kernel
theorem dX24_copy_16 : decode cX24_copy 16 = .ok (.iconst 0, 1) := by decide +kernel
theorem dX24_copy_17 : decode cX24_copy 17 = .ok (.aload_n 0, 1) := by decide +kernel
theorem dX24_copy_18 : decode cX24_copy 18 = .ok (.getfield 535, 3) := by decide +kernel
theorem dX24_copy_21 : decode cX24_copy 21 = .ok (.iload_n 2, 1) := by decide +kernel
theorem dX24_copy_22 : decode cX24_copy 22 = .ok (.iaload, 1) := by decide +kernel
theorem dX24_copy_23 : decode cX24_copy 23 = .ok (.invokevirtual 538, 3) := by decide +kernel
theorem dX24_copy_26 : decode cX24_copy 26 = .ok (.return_, 1) := by decide +kernel
/-! CoinJudgeModel.copy(I)V -/
set_option maxHeartbeats 4000000 in
theorem sX24_copy_0 {G : Gx} {d t : Nat} {h0 : AH} {Φ : Out → AH → Prop} (h : AH) (v0 : Nat) (v1 : Int32) (K : h.kd v0 = 24 ∧ ∀ r2 : Nat, r2 = (h.r 24065 v0) → h.kd r2 = 115 ∧ vp_in (((h.i 24067 v0) - 1) - v1) (h.ar r2).length ∧ ∀ r5 : Nat, r5 = ((h.ar r2).getD ((((h.i 24067 v0) - 1) - v1).toNatClampNeg) 0) → ∀ r6 : Nat, r6 = (h.r 24066 v0) → h.kd r6 = 100 ∧ vp_in (((h.i 24067 v0) - 1) - v1) (h.ai r6).length ∧ Cw G mX24_push d 0 [vR v0, vR r5, vI 0, vI ((h.ai r6).getD ((((h.i 24067 v0) - 1) - v1).toNatClampNeg) 0)] h (kV (fun h10 => Φ (.inl none) h10) (fun x h => Φ (.inr x) h))) : Aw G mX24_copy (d + 1) t h0 Φ 0 [vR v0, vI v1, vU] [] h := by
  refine r_aload_n (pc := 0) dX24_copy_0 rfl ?_
  obtain ⟨hk1, K⟩ := K
  refine r_geti' (pc := 1) (T := TX24) 24 67 rfl hk1 (Or.inl q2765) dX24_copy_1 kc24 g24067 ?_
  refine r_iconst (pc := 4) (x := 1) dX24_copy_4 rfl ?_
  refine r_isub (pc := 5) dX24_copy_5 ?_
  refine r_iload_n (pc := 6) dX24_copy_6 rfl ?_
  refine r_isub (pc := 7) dX24_copy_7 ?_
  refine r_istore_n (pc := 8) (lv' := [_, _, _]) dX24_copy_8 (by decide) rfl ?_
  refine r_aload_n (pc := 9) dX24_copy_9 rfl ?_
  refine r_aload_n (pc := 10) dX24_copy_10 rfl ?_
  have K := K _ rfl
  refine r_getr' (pc := 11) (T := TX24) 24 65 rfl hk1 (Or.inl q2763) dX24_copy_11 kc24 g24065 ?_
  refine r_iload_n (pc := 14) dX24_copy_14 rfl ?_
  obtain ⟨hk3, K⟩ := K
  obtain ⟨hi4, K⟩ := K
  have K := K _ rfl
  refine r_aaload (pc := 15) (le_of_eq_r hk3 (by decide)) hi4 dX24_copy_15 ?_
  refine r_iconst (pc := 16) (x := 0) dX24_copy_16 rfl ?_
  refine r_aload_n (pc := 17) dX24_copy_17 rfl ?_
  have K := K _ rfl
  refine r_getr' (pc := 18) (T := TX24) 24 66 rfl hk1 (Or.inl q2764) dX24_copy_18 kc24 g24066 ?_
  refine r_iload_n (pc := 21) dX24_copy_21 rfl ?_
  obtain ⟨hk7, K⟩ := K
  obtain ⟨hi8, K⟩ := K
  refine r_iaload (pc := 22) hk7 hi8 dX24_copy_22 ?_
  refine r_callV_V (pc := 23) (Y := mX24_push) (vs := [_, _, _]) (st := []) hk1 rfl kc24 q2507 q2509 qs96 dX24_copy_23 rfl cd_X24_push rfl rfl fp_X24_copy_X24_push K (fun h10 eh10 wh10 K => ?_) (fun x h1 _ _ e => Tw.out rfl e)
  exact r_vret (pc := 26) rfl dX24_copy_26 K
theorem eX24_copy {G : Gx} {d : Nat} {Φ : Out → AH → Prop} (h : AH) (v0 : Nat) (v1 : Int32) (K : WF G h → Aw G mX24_copy (d + 1) 0 h Φ 0 [vR v0, vI v1, vU] [] h) : Cw G mX24_copy (d + 1) 0 [vR v0, vI v1] h Φ := Cw.of rfl K
theorem dX24_lift_0 : decode cX24_lift 0 = .ok (.aload_n 0, 1) := by decide +kernel
theorem dX24_lift_1 : decode cX24_lift 1 = .ok (.getfield 521, 3) := by decide +kernel
theorem dX24_lift_4 : decode cX24_lift 4 = .ok (.iconst 1, 1) := by decide +kernel
theorem dX24_lift_5 : decode cX24_lift 5 = .ok (.isub, 1) := by decide +kernel
theorem dX24_lift_6 : decode cX24_lift 6 = .ok (.iload_n 1, 1) := by decide +kernel
theorem dX24_lift_7 : decode cX24_lift 7 = .ok (.isub, 1) := by decide +kernel
theorem dX24_lift_8 : decode cX24_lift 8 = .ok (.istore_n 2, 1) := by decide +kernel
theorem dX24_lift_9 : decode cX24_lift 9 = .ok (.aload_n 0, 1) := by decide +kernel
theorem dX24_lift_10 : decode cX24_lift 10 = .ok (.getfield 527, 3) := by decide +kernel
theorem dX24_lift_13 : decode cX24_lift 13 = .ok (.iload_n 2, 1) := by decide +kernel
theorem dX24_lift_14 : decode cX24_lift 14 = .ok (.aaload, 1) := by decide +kernel
theorem dX24_lift_15 : decode cX24_lift 15 = .ok (.astore_n 3, 1) := by decide +kernel
theorem dX24_lift_16 : decode cX24_lift 16 = .ok (.aload_n 0, 1) := by decide +kernel
theorem dX24_lift_17 : decode cX24_lift 17 = .ok (.getfield 535, 3) := by decide +kernel
theorem dX24_lift_20 : decode cX24_lift 20 = .ok (.iload_n 2, 1) := by decide +kernel
theorem dX24_lift_21 : decode cX24_lift 21 = .ok (.iaload, 1) := by decide +kernel
theorem dX24_lift_22 : decode cX24_lift 22 = .ok (.istore 4, 2) := by decide +kernel
theorem dX24_lift_24 : decode cX24_lift 24 = .ok (.iload_n 2, 1) := by decide +kernel
theorem dX24_lift_25 : decode cX24_lift 25 = .ok (.aload_n 0, 1) := by decide +kernel
theorem dX24_lift_26 : decode cX24_lift 26 = .ok (.getfield 521, 3) := by decide +kernel
theorem dX24_lift_29 : decode cX24_lift 29 = .ok (.iconst 1, 1) := by decide +kernel
theorem dX24_lift_30 : decode cX24_lift 30 = .ok (.isub, 1) := by decide +kernel
theorem dX24_lift_31 : decode cX24_lift 31 = .ok (.if_icmp .ge 37, 3) := by decide +kernel
theorem dX24_lift_34 : decode cX24_lift 34 = .ok (.aload_n 0, 1) := by decide +kernel
theorem dX24_lift_35 : decode cX24_lift 35 = .ok (.getfield 527, 3) := by decide +kernel
theorem dX24_lift_38 : decode cX24_lift 38 = .ok (.iload_n 2, 1) := by decide +kernel
theorem dX24_lift_39 : decode cX24_lift 39 = .ok (.aload_n 0, 1) := by decide +kernel
theorem dX24_lift_40 : decode cX24_lift 40 = .ok (.getfield 527, 3) := by decide +kernel
theorem dX24_lift_43 : decode cX24_lift 43 = .ok (.iload_n 2, 1) := by decide +kernel
theorem dX24_lift_44 : decode cX24_lift 44 = .ok (.iconst 1, 1) := by decide +kernel
theorem dX24_lift_45 : decode cX24_lift 45 = .ok (.iadd, 1) := by decide +kernel
theorem dX24_lift_46 : decode cX24_lift 46 = .ok (.aaload, 1) := by decide +kernel
theorem dX24_lift_47 : decode cX24_lift 47 = .ok (.aastore, 1) := by decide +kernel
theorem dX24_lift_48 : decode cX24_lift 48 = .ok (.aload_n 0, 1) := by decide +kernel
theorem dX24_lift_49 : decode cX24_lift 49 = .ok (.getfield 535, 3) := by decide +kernel
theorem dX24_lift_52 : decode cX24_lift 52 = .ok (.iload_n 2, 1) := by decide +kernel
theorem dX24_lift_53 : decode cX24_lift 53 = .ok (.aload_n 0, 1) := by decide +kernel
theorem dX24_lift_54 : decode cX24_lift 54 = .ok (.getfield 535, 3) := by decide +kernel
theorem dX24_lift_57 : decode cX24_lift 57 = .ok (.iload_n 2, 1) := by decide +kernel
theorem dX24_lift_58 : decode cX24_lift 58 = .ok (.iconst 1, 1) := by decide +kernel
theorem dX24_lift_59 : decode cX24_lift 59 = .ok (.iadd, 1) := by decide +kernel
theorem dX24_lift_60 : decode cX24_lift 60 = .ok (.iaload, 1) := by decide +kernel
theorem dX24_lift_61 : decode cX24_lift 61 = .ok (.iastore, 1) := by decide +kernel
theorem dX24_lift_62 : decode cX24_lift 62 = .ok (.iinc 2 1, 3) := by decide +kernel
theorem dX24_lift_65 : decode cX24_lift 65 = .ok (.goto (-41), 3) := by decide +kernel
theorem dX24_lift_68 : decode cX24_lift 68 = .ok (.aload_n 0, 1) := by decide +kernel
theorem dX24_lift_69 : decode cX24_lift 69 = .ok (.getfield 527, 3) := by decide +kernel
theorem dX24_lift_72 : decode cX24_lift 72 = .ok (.aload_n 0, 1) := by decide +kernel
theorem dX24_lift_73 : decode cX24_lift 73 = .ok (.getfield 521, 3) := by decide +kernel
theorem dX24_lift_76 : decode cX24_lift 76 = .ok (.iconst 1, 1) := by decide +kernel
theorem dX24_lift_77 : decode cX24_lift 77 = .ok (.isub, 1) := by decide +kernel
theorem dX24_lift_78 : decode cX24_lift 78 = .ok (.aload_n 3, 1) := by decide +kernel
theorem dX24_lift_79 : decode cX24_lift 79 = .ok (.aastore, 1) := by decide +kernel
theorem dX24_lift_80 : decode cX24_lift 80 = .ok (.aload_n 0, 1) := by decide +kernel
theorem dX24_lift_81 : decode cX24_lift 81 = .ok (.getfield 535, 3) := by decide +kernel
theorem dX24_lift_84 : decode cX24_lift 84 = .ok (.aload_n 0, 1) := by decide +kernel
theorem dX24_lift_85 : decode cX24_lift 85 = .ok (.getfield 521, 3) := by decide +kernel
theorem dX24_lift_88 : decode cX24_lift 88 = .ok (.iconst 1, 1) := by decide +kernel
theorem dX24_lift_89 : decode cX24_lift 89 = .ok (.isub, 1) := by decide +kernel
theorem dX24_lift_90 : decode cX24_lift 90 = .ok (.iload 4, 2) := by decide +kernel
theorem dX24_lift_92 : decode cX24_lift 92 = .ok (.iastore, 1) := by decide +kernel
theorem dX24_lift_93 : decode cX24_lift 93 = .ok (.return_, 1) := by decide +kernel
/-! CoinJudgeModel.lift(I)V -/
set_option maxHeartbeats 4000000 in
theorem sX24_lift_0 {G : Gx} {d t : Nat} {h0 : AH} {Φ : Out → AH → Prop} (h : AH) (v0 : Nat) (v1 : Int32) (K : h.kd v0 = 24 ∧ ∀ r2 : Nat, r2 = (h.r 24065 v0) → h.kd r2 = 115 ∧ vp_in (((h.i 24067 v0) - 1) - v1) (h.ar r2).length ∧ ∀ r5 : Nat, r5 = ((h.ar r2).getD ((((h.i 24067 v0) - 1) - v1).toNatClampNeg) 0) → ∀ r6 : Nat, r6 = (h.r 24066 v0) → h.kd r6 = 100 ∧ vp_in (((h.i 24067 v0) - 1) - v1) (h.ai r6).length ∧ ∀ u9 : Int32, u9 = ((h.ai r6).getD ((((h.i 24067 v0) - 1) - v1).toNatClampNeg) 0) → Aw G mX24_lift (d + 1) t h0 Φ 24 [vR v0, vU, vI (((h.i 24067 v0) - 1) - v1), vR r5, vI u9] [] h) : Aw G mX24_lift (d + 1) t h0 Φ 0 [vR v0, vI v1, vU, vU, vU] [] h := by
  refine r_aload_n (pc := 0) dX24_lift_0 rfl ?_
  obtain ⟨hk1, K⟩ := K
  refine r_geti' (pc := 1) (T := TX24) 24 67 rfl hk1 (Or.inl q2765) dX24_lift_1 kc24 g24067 ?_
  refine r_iconst (pc := 4) (x := 1) dX24_lift_4 rfl ?_
  refine r_isub (pc := 5) dX24_lift_5 ?_
  refine r_iload_n (pc := 6) dX24_lift_6 rfl ?_
  refine r_isub (pc := 7) dX24_lift_7 ?_
  refine r_istore_n (pc := 8) (lv' := [_, _, _, _, _]) dX24_lift_8 (by decide) rfl ?_
  refine r_aload_n (pc := 9) dX24_lift_9 rfl ?_
  have K := K _ rfl
  refine r_getr' (pc := 10) (T := TX24) 24 65 rfl hk1 (Or.inl q2763) dX24_lift_10 kc24 g24065 ?_
  refine r_iload_n (pc := 13) dX24_lift_13 rfl ?_
  obtain ⟨hk3, K⟩ := K
  obtain ⟨hi4, K⟩ := K
  have K := K _ rfl
  refine r_aaload (pc := 14) (le_of_eq_r hk3 (by decide)) hi4 dX24_lift_14 ?_
  refine r_astore_n (pc := 15) (lv' := [_, _, _, _, _]) dX24_lift_15 (by decide) rfl ?_
  refine r_aload_n (pc := 16) dX24_lift_16 rfl ?_
  have K := K _ rfl
  refine r_getr' (pc := 17) (T := TX24) 24 66 rfl hk1 (Or.inl q2764) dX24_lift_17 kc24 g24066 ?_
  refine r_iload_n (pc := 20) dX24_lift_20 rfl ?_
  obtain ⟨hk7, K⟩ := K
  obtain ⟨hi8, K⟩ := K
  refine r_iaload (pc := 21) hk7 hi8 dX24_lift_21 ?_
  have K := K _ rfl
  refine r_istore (pc := 22) (lv' := [_, _, _, _, _]) dX24_lift_22 (by decide) rfl ?_
  refine r_mask (pc := 24) [true, false, true, true, true] rfl ?_
  exact K
theorem eX24_lift {G : Gx} {d : Nat} {Φ : Out → AH → Prop} (h : AH) (v0 : Nat) (v1 : Int32) (K : WF G h → Aw G mX24_lift (d + 1) 0 h Φ 0 [vR v0, vI v1, vU, vU, vU] [] h) : Cw G mX24_lift (d + 1) 0 [vR v0, vI v1] h Φ := Cw.of rfl K
set_option maxHeartbeats 4000000 in
theorem sX24_lift_24 {G : Gx} {d t : Nat} {h0 : AH} {Φ : Out → AH → Prop} (h : AH) (v0 : Nat) (v2 : Int32) (v3 : Nat) (v4 : Int32) (K : h.kd v0 = 24 ∧ ((((h.i 24067 v0) - 1) ≤ v2 → ∀ r3 : Nat, r3 = (h.r 24065 v0) → h.kd r3 = 115 ∧ vp_in ((h.i 24067 v0) - 1) (h.ar r3).length ∧ (v3 = 0 ∨ h.kd v3 = 101) ∧ ∀ h7 : AH, h7 = h.wr r3 ((h.ar r3).set (((h.i 24067 v0) - 1).toNatClampNeg) v3) → ∀ r9 : Nat, r9 = (h7.r 24066 v0) → h7.kd r9 = 100 ∧ vp_in ((h.i 24067 v0) - 1) (h7.ai r9).length ∧ ∀ h14 : AH, h14 = h7.wi r9 ((h7.ai r9).set (((h.i 24067 v0) - 1).toNatClampNeg) v4) → Φ (.inl none) h14) ∧ (¬ ((h.i 24067 v0) - 1) ≤ v2 → ∀ r15 : Nat, r15 = (h.r 24065 v0) → h.kd r15 = 115 ∧ vp_in (v2 + 1) (h.ar r15).length ∧ ∀ r18 : Nat, r18 = ((h.ar r15).getD ((v2 + 1).toNatClampNeg) 0) → vp_in v2 (h.ar r15).length ∧ (r18 = 0 ∨ h.kd r18 = 101) ∧ ∀ h21 : AH, h21 = h.wr r15 ((h.ar r15).set (v2.toNatClampNeg) r18) → ∀ r23 : Nat, r23 = (h21.r 24066 v0) → h21.kd r23 = 100 ∧ vp_in (v2 + 1) (h21.ai r23).length ∧ vp_in v2 (h21.ai r23).length ∧ ∀ h27 : AH, h27 = h21.wi r23 ((h21.ai r23).set (v2.toNatClampNeg) ((h21.ai r23).getD ((v2 + 1).toNatClampNeg) 0)) → Aw G mX24_lift (d + 1) t h0 Φ 24 [vR v0, vU, vI (v2 + 1), vR v3, vI v4] [] h27))) : Aw G mX24_lift (d + 1) t h0 Φ 24 [vR v0, vU, vI v2, vR v3, vI v4] [] h := by
  refine r_iload_n (pc := 24) dX24_lift_24 rfl ?_
  refine r_aload_n (pc := 25) dX24_lift_25 rfl ?_
  obtain ⟨hk1, K⟩ := K
  refine r_geti' (pc := 26) (T := TX24) 24 67 rfl hk1 (Or.inl q2765) dX24_lift_26 kc24 g24067 ?_
  refine r_iconst (pc := 29) (x := 1) dX24_lift_29 rfl ?_
  refine r_isub (pc := 30) dX24_lift_30 ?_
  refine r_icmp_ge (pc := 31) (tgt := 68) dX24_lift_31 rfl (fun c2 => ?_) (fun c2 => ?_)
  · have K := K.1 c2
    refine r_aload_n (pc := 68) dX24_lift_68 rfl ?_
    have K := K _ rfl
    refine r_getr' (pc := 69) (T := TX24) 24 65 rfl hk1 (Or.inl q2763) dX24_lift_69 kc24 g24065 ?_
    refine r_aload_n (pc := 72) dX24_lift_72 rfl ?_
    refine r_geti' (pc := 73) (T := TX24) 24 67 rfl hk1 (Or.inl q2765) dX24_lift_73 kc24 g24067 ?_
    refine r_iconst (pc := 76) (x := 1) dX24_lift_76 rfl ?_
    refine r_isub (pc := 77) dX24_lift_77 ?_
    refine r_aload_n (pc := 78) dX24_lift_78 rfl ?_
    obtain ⟨hk4, K⟩ := K
    obtain ⟨hi5, K⟩ := K
    obtain ⟨hk6, K⟩ := K
    refine r_aastoreB (pc := 79) hk4 hi5 hk6 (Or.inl (em rfl)) dX24_lift_79 ?_
    refine r_nameH (fun h7 eh7 => ?_)
    have K := K h7 eh7
    refine r_aload_n (pc := 80) dX24_lift_80 rfl ?_
    have hk8 := kd_wr eh7 hk1
    have K := K _ rfl
    refine r_getr' (pc := 81) (T := TX24) 24 66 rfl hk8 (Or.inl q2764) dX24_lift_81 kc24 g24066 ?_
    refine r_aload_n (pc := 84) dX24_lift_84 rfl ?_
    have hv10 := fi_self (key := 24067) hk1
    have hv11 := fi_wr (key := 24067) eh7 hv10
    refine r_geti' (pc := 85) (T := TX24) 24 67 hv11 hk8 (Or.inl q2765) dX24_lift_85 kc24 g24067 ?_
    refine r_iconst (pc := 88) (x := 1) dX24_lift_88 rfl ?_
    refine r_isub (pc := 89) dX24_lift_89 ?_
    refine r_iload (pc := 90) dX24_lift_90 rfl ?_
    obtain ⟨hk12, K⟩ := K
    obtain ⟨hi13, K⟩ := K
    refine r_iastore (pc := 92) hk12 hi13 (Or.inl (em rfl)) dX24_lift_92 ?_
    refine r_nameH (fun h14 eh14 => ?_)
    have K := K h14 eh14
    exact r_vret (pc := 93) rfl dX24_lift_93 K
  · have K := K.2 c2
    refine r_aload_n (pc := 34) dX24_lift_34 rfl ?_
    have K := K _ rfl
    refine r_getr' (pc := 35) (T := TX24) 24 65 rfl hk1 (Or.inl q2763) dX24_lift_35 kc24 g24065 ?_
    refine r_iload_n (pc := 38) dX24_lift_38 rfl ?_
    refine r_aload_n (pc := 39) dX24_lift_39 rfl ?_
    refine r_getr' (pc := 40) (T := TX24) 24 65 rfl hk1 (Or.inl q2763) dX24_lift_40 kc24 g24065 ?_
    refine r_iload_n (pc := 43) dX24_lift_43 rfl ?_
    refine r_iconst (pc := 44) (x := 1) dX24_lift_44 rfl ?_
    refine r_iadd (pc := 45) dX24_lift_45 ?_
    obtain ⟨hk16, K⟩ := K
    obtain ⟨hi17, K⟩ := K
    have K := K _ rfl
    refine r_aaload (pc := 46) (le_of_eq_r hk16 (by decide)) hi17 dX24_lift_46 ?_
    obtain ⟨hi19, K⟩ := K
    obtain ⟨hk20, K⟩ := K
    refine r_aastoreB (pc := 47) hk16 hi19 hk20 (Or.inl (em rfl)) dX24_lift_47 ?_
    refine r_nameH (fun h21 eh21 => ?_)
    have K := K h21 eh21
    refine r_aload_n (pc := 48) dX24_lift_48 rfl ?_
    have hk22 := kd_wr eh21 hk1
    have K := K _ rfl
    refine r_getr' (pc := 49) (T := TX24) 24 66 rfl hk22 (Or.inl q2764) dX24_lift_49 kc24 g24066 ?_
    refine r_iload_n (pc := 52) dX24_lift_52 rfl ?_
    refine r_aload_n (pc := 53) dX24_lift_53 rfl ?_
    refine r_getr' (pc := 54) (T := TX24) 24 66 rfl hk22 (Or.inl q2764) dX24_lift_54 kc24 g24066 ?_
    refine r_iload_n (pc := 57) dX24_lift_57 rfl ?_
    refine r_iconst (pc := 58) (x := 1) dX24_lift_58 rfl ?_
    refine r_iadd (pc := 59) dX24_lift_59 ?_
    obtain ⟨hk24, K⟩ := K
    obtain ⟨hi25, K⟩ := K
    refine r_iaload (pc := 60) hk24 hi25 dX24_lift_60 ?_
    obtain ⟨hi26, K⟩ := K
    refine r_iastore (pc := 61) hk24 hi26 (Or.inl (em rfl)) dX24_lift_61 ?_
    refine r_nameH (fun h27 eh27 => ?_)
    have K := K h27 eh27
    refine r_iinc (pc := 62) (lv' := [_, _, _, _, _]) dX24_lift_62 rfl rfl (by decide) rfl ?_
    refine r_goto (pc := 65) (tgt := 24) dX24_lift_65 rfl ?_
    refine r_mask (pc := 24) [true, false, true, true, true] rfl ?_
    exact K
theorem dX24_need_0 : decode cX24_need 0 = .ok (.aload_n 0, 1) := by decide +kernel
theorem dX24_need_1 : decode cX24_need 1 = .ok (.getfield 521, 3) := by decide +kernel
theorem dX24_need_4 : decode cX24_need 4 = .ok (.iload_n 1, 1) := by decide +kernel
theorem dX24_need_5 : decode cX24_need 5 = .ok (.if_icmp .ge 8, 3) := by decide +kernel
theorem dX24_need_8 : decode cX24_need 8 = .ok (.aload_n 0, 1) := by decide +kernel
theorem dX24_need_9 : decode cX24_need 9 = .ok (.iconst 1, 1) := by decide +kernel
theorem dX24_need_10 : decode cX24_need 10 = .ok (.putfield 524, 3) := by decide +kernel
theorem dX24_need_13 : decode cX24_need 13 = .ok (.aload_n 0, 1) := by decide +kernel
theorem dX24_need_14 : decode cX24_need 14 = .ok (.getfield 521, 3) := by decide +kernel
theorem dX24_need_17 : decode cX24_need 17 = .ok (.iload_n 1, 1) := by decide +kernel
theorem dX24_need_18 : decode cX24_need 18 = .ok (.if_icmp .lt 7, 3) := by decide +kernel
theorem dX24_need_21 : decode cX24_need 21 = .ok (.iconst 1, 1) := by decide +kernel
theorem dX24_need_22 : decode cX24_need 22 = .ok (.goto 4, 3) := by decide +kernel
theorem dX24_need_25 : decode cX24_need 25 = .ok (.iconst 0, 1) := by decide +kernel
theorem dX24_need_26 : decode cX24_need 26 = .ok (.ireturn, 1) := by decide +kernel
/-! CoinJudgeModel.need(I)Z -/
set_option maxHeartbeats 4000000 in
theorem sX24_need_0 {G : Gx} {d t : Nat} {h0 : AH} {Φ : Out → AH → Prop} (h : AH) (v0 : Nat) (v1 : Int32) (K : h.kd v0 = 24 ∧ ((v1 ≤ (h.i 24067 v0) → (((h.i 24067 v0) < v1 → Φ (.inl (some (vI 0))) h) ∧ (¬ (h.i 24067 v0) < v1 → Φ (.inl (some (vI 1))) h))) ∧ (¬ v1 ≤ (h.i 24067 v0) → ∀ h4 : AH, h4 = h.pi 24074 v0 1 → (((h.i 24067 v0) < v1 → Φ (.inl (some (vI 0))) h4) ∧ (¬ (h.i 24067 v0) < v1 → Φ (.inl (some (vI 1))) h4))))) : Aw G mX24_need (d + 1) t h0 Φ 0 [vR v0, vI v1] [] h := by
  refine r_aload_n (pc := 0) dX24_need_0 rfl ?_
  obtain ⟨hk1, K⟩ := K
  refine r_geti' (pc := 1) (T := TX24) 24 67 rfl hk1 (Or.inl q2765) dX24_need_1 kc24 g24067 ?_
  refine r_iload_n (pc := 4) dX24_need_4 rfl ?_
  refine r_icmp_ge (pc := 5) (tgt := 13) dX24_need_5 rfl (fun c2 => ?_) (fun c2 => ?_)
  · have K := K.1 c2
    refine r_aload_n (pc := 13) dX24_need_13 rfl ?_
    refine r_geti' (pc := 14) (T := TX24) 24 67 rfl hk1 (Or.inl q2765) dX24_need_14 kc24 g24067 ?_
    refine r_iload_n (pc := 17) dX24_need_17 rfl ?_
    refine r_icmp_lt (pc := 18) (tgt := 25) dX24_need_18 rfl (fun c3 => ?_) (fun c3 => ?_)
    · have K := K.1 c3
      refine r_iconst (pc := 25) (x := 0) dX24_need_25 rfl ?_
      exact r_iret (pc := 26) rfl rfl dX24_need_26 K
    · have K := K.2 c3
      refine r_iconst (pc := 21) (x := 1) dX24_need_21 rfl ?_
      refine r_goto (pc := 22) (tgt := 26) dX24_need_22 rfl ?_
      exact r_iret (pc := 26) rfl rfl dX24_need_26 K
  · have K := K.2 c2
    refine r_aload_n (pc := 8) dX24_need_8 rfl ?_
    refine r_iconst (pc := 9) (x := 1) dX24_need_9 rfl ?_
    refine r_putz (pc := 10) (T := TX24) (key := 24074) 24 74 hk1 (Or.inl q2772) dX24_need_10 kc24 rfl (Or.inl rfl) (Or.inl (em rfl)) (by decide) ?_
    refine r_nameH (fun h4 eh4 => ?_)
    have K := K h4 eh4
    refine r_aload_n (pc := 13) dX24_need_13 rfl ?_
    have hk5 := kd_pi eh4 hk1
    have hv6 := fi_self (key := 24067) hk1
    have hv7 := fi_pi (key := 24067) eh4 (by decide) hv6
    refine r_geti' (pc := 14) (T := TX24) 24 67 hv7 hk5 (Or.inl q2765) dX24_need_14 kc24 g24067 ?_
    refine r_iload_n (pc := 17) dX24_need_17 rfl ?_
    refine r_icmp_lt (pc := 18) (tgt := 25) dX24_need_18 rfl (fun c8 => ?_) (fun c8 => ?_)
    · have K := K.1 c8
      refine r_iconst (pc := 25) (x := 0) dX24_need_25 rfl ?_
      exact r_iret (pc := 26) rfl rfl dX24_need_26 K
    · have K := K.2 c8
      refine r_iconst (pc := 21) (x := 1) dX24_need_21 rfl ?_
      refine r_goto (pc := 22) (tgt := 26) dX24_need_22 rfl ?_
      exact r_iret (pc := 26) rfl rfl dX24_need_26 K
theorem eX24_need {G : Gx} {d : Nat} {Φ : Out → AH → Prop} (h : AH) (v0 : Nat) (v1 : Int32) (K : WF G h → Aw G mX24_need (d + 1) 0 h Φ 0 [vR v0, vI v1] [] h) : Cw G mX24_need (d + 1) 0 [vR v0, vI v1] h Φ := Cw.of rfl K
theorem dX24_numberAt_0 : decode cX24_numberAt 0 = .ok (.aload_n 0, 1) := by decide +kernel
theorem dX24_numberAt_1 : decode cX24_numberAt 1 = .ok (.getfield 521, 3) := by decide +kernel
theorem dX24_numberAt_4 : decode cX24_numberAt 4 = .ok (.iconst 1, 1) := by decide +kernel
theorem dX24_numberAt_5 : decode cX24_numberAt 5 = .ok (.isub, 1) := by decide +kernel
theorem dX24_numberAt_6 : decode cX24_numberAt 6 = .ok (.iload_n 1, 1) := by decide +kernel
theorem dX24_numberAt_7 : decode cX24_numberAt 7 = .ok (.isub, 1) := by decide +kernel
theorem dX24_numberAt_8 : decode cX24_numberAt 8 = .ok (.istore_n 3, 1) := by decide +kernel
theorem dX24_numberAt_9 : decode cX24_numberAt 9 = .ok (.aload_n 0, 1) := by decide +kernel
theorem dX24_numberAt_10 : decode cX24_numberAt 10 = .ok (.getfield 535, 3) := by decide +kernel
theorem dX24_numberAt_13 : decode cX24_numberAt 13 = .ok (.iload_n 3, 1) := by decide +kernel
theorem dX24_numberAt_14 : decode cX24_numberAt 14 = .ok (.iaload, 1) := by decide +kernel
theorem dX24_numberAt_15 : decode cX24_numberAt 15 = .ok (.istore 4, 2) := by decide +kernel
theorem dX24_numberAt_17 : decode cX24_numberAt 17 = .ok (.iload 4, 2) := by decide +kernel
theorem dX24_numberAt_19 : decode cX24_numberAt 19 = .ok (.iload_n 2, 1) := by decide +kernel
theorem dX24_numberAt_20 : decode cX24_numberAt 20 = .ok (.if_icmp .le 10, 3) := by decide +kernel
theorem dX24_numberAt_23 : decode cX24_numberAt 23 = .ok (.aload_n 0, 1) := by decide +kernel
theorem dX24_numberAt_24 : decode cX24_numberAt 24 = .ok (.iconst 1, 1) := by decide +kernel
theorem dX24_numberAt_25 : decode cX24_numberAt 25 = .ok (.putfield 524, 3) := by decide +kernel
theorem dX24_numberAt_28 : decode cX24_numberAt 28 = .ok (.lconst 0, 1) := by decide +kernel
theorem dX24_numberAt_29 : decode cX24_numberAt 29 = .ok (.lreturn, 1) := by decide +kernel
theorem dX24_numberAt_30 : decode cX24_numberAt 30 = .ok (.iload 4, 2) := by decide +kernel
theorem dX24_numberAt_32 : decode cX24_numberAt 32 = .ok (.ifCond .ne 5, 3) := by decide +kernel
theorem dX24_numberAt_35 : decode cX24_numberAt 35 = .ok (.lconst 0, 1) := by decide +kernel
theorem dX24_numberAt_36 : decode cX24_numberAt 36 = .ok (.lreturn, 1) := by decide +kernel
theorem dX24_numberAt_37 : decode cX24_numberAt 37 = .ok (.lconst 0, 1) := by decide +kernel
theorem dX24_numberAt_38 : decode cX24_numberAt 38 = .ok (.lstore 5, 2) := by decide +kernel
theorem dX24_numberAt_40 : decode cX24_numberAt 40 = .ok (.iload 4, 2) := by decide +kernel
theorem dX24_numberAt_42 : decode cX24_numberAt 42 = .ok (.iconst 1, 1) := by decide +kernel
theorem dX24_numberAt_43 : decode cX24_numberAt 43 = .ok (.isub, 1) := by decide +kernel
theorem dX24_numberAt_44 : decode cX24_numberAt 44 = .ok (.istore 7, 2) := by decide +kernel
theorem dX24_numberAt_46 : decode cX24_numberAt 46 = .ok (.iload 7, 2) := by decide +kernel
theorem dX24_numberAt_48 : decode cX24_numberAt 48 = .ok (.ifCond .lt 55, 3) := by decide +kernel
theorem dX24_numberAt_51 : decode cX24_numberAt 51 = .ok (.lload 5, 2) := by decide +kernel
theorem dX24_numberAt_53 : decode cX24_numberAt 53 = .ok (.bipush 8, 2) := by decide +kernel
theorem dX24_numberAt_55 : decode cX24_numberAt 55 = .ok (.lshl, 1) := by decide +kernel
theorem dX24_numberAt_56 : decode cX24_numberAt 56 = .ok (.iload 7, 2) := by decide +kernel
theorem dX24_numberAt_58 : decode cX24_numberAt 58 = .ok (.iload 4, 2) := by decide +kernel
theorem dX24_numberAt_60 : decode cX24_numberAt 60 = .ok (.iconst 1, 1) := by decide +kernel
theorem dX24_numberAt_61 : decode cX24_numberAt 61 = .ok (.isub, 1) := by decide +kernel
theorem dX24_numberAt_62 : decode cX24_numberAt 62 = .ok (.if_icmp .ne 18, 3) := by decide +kernel
theorem dX24_numberAt_65 : decode cX24_numberAt 65 = .ok (.aload_n 0, 1) := by decide +kernel
theorem dX24_numberAt_66 : decode cX24_numberAt 66 = .ok (.getfield 527, 3) := by decide +kernel
theorem dX24_numberAt_69 : decode cX24_numberAt 69 = .ok (.iload_n 3, 1) := by decide +kernel
theorem dX24_numberAt_70 : decode cX24_numberAt 70 = .ok (.aaload, 1) := by decide +kernel
theorem dX24_numberAt_71 : decode cX24_numberAt 71 = .ok (.iload 7, 2) := by decide +kernel
theorem dX24_numberAt_73 : decode cX24_numberAt 73 = .ok (.baload, 1) := by decide +kernel
theorem dX24_numberAt_74 : decode cX24_numberAt 74 = .ok (.bipush 127, 2) := by decide +kernel
theorem dX24_numberAt_76 : decode cX24_numberAt 76 = .ok (.iand, 1) := by decide +kernel
theorem dX24_numberAt_77 : decode cX24_numberAt 77 = .ok (.goto 16, 3) := by decide +kernel
theorem dX24_numberAt_80 : decode cX24_numberAt 80 = .ok (.aload_n 0, 1) := by decide +kernel
theorem dX24_numberAt_81 : decode cX24_numberAt 81 = .ok (.getfield 527, 3) := by decide +kernel
theorem dX24_numberAt_84 : decode cX24_numberAt 84 = .ok (.iload_n 3, 1) := by decide +kernel
theorem dX24_numberAt_85 : decode cX24_numberAt 85 = .ok (.aaload, 1) := by decide +kernel
theorem dX24_numberAt_86 : decode cX24_numberAt 86 = .ok (.iload 7, 2) := by decide +kernel
theorem dX24_numberAt_88 : decode cX24_numberAt 88 = .ok (.baload, 1) := by decide +kernel
theorem dX24_numberAt_89 : decode cX24_numberAt 89 = .ok (.sipush 255, 3) := by decide +kernel
theorem dX24_numberAt_92 : decode cX24_numberAt 92 = .ok (.iand, 1) := by decide +kernel
theorem dX24_numberAt_93 : decode cX24_numberAt 93 = .ok (.i2l, 1) := by decide +kernel
theorem dX24_numberAt_94 : decode cX24_numberAt 94 = .ok (.lor, 1) := by decide +kernel
theorem dX24_numberAt_95 : decode cX24_numberAt 95 = .ok (.lstore 5, 2) := by decide +kernel
theorem dX24_numberAt_97 : decode cX24_numberAt 97 = .ok (.iinc 7 (-1), 3) := by decide +kernel
theorem dX24_numberAt_100 : decode cX24_numberAt 100 = .ok (.goto (-54), 3) := by decide +kernel
theorem dX24_numberAt_103 : decode cX24_numberAt 103 = .ok (.aload_n 0, 1) := by decide +kernel
theorem dX24_numberAt_104 : decode cX24_numberAt 104 = .ok (.getfield 527, 3) := by decide +kernel
theorem dX24_numberAt_107 : decode cX24_numberAt 107 = .ok (.iload_n 3, 1) := by decide +kernel
theorem dX24_numberAt_108 : decode cX24_numberAt 108 = .ok (.aaload, 1) := by decide +kernel
theorem dX24_numberAt_109 : decode cX24_numberAt 109 = .ok (.iload 4, 2) := by decide +kernel
theorem dX24_numberAt_111 : decode cX24_numberAt 111 = .ok (.iconst 1, 1) := by decide +kernel
theorem dX24_numberAt_112 : decode cX24_numberAt 112 = .ok (.isub, 1) := by decide +kernel
theorem dX24_numberAt_113 : decode cX24_numberAt 113 = .ok (.baload, 1) := by decide +kernel
theorem dX24_numberAt_114 : decode cX24_numberAt 114 = .ok (.ifCond .ge 9, 3) := by decide +kernel
theorem dX24_numberAt_117 : decode cX24_numberAt 117 = .ok (.lload 5, 2) := by decide +kernel
theorem dX24_numberAt_119 : decode cX24_numberAt 119 = .ok (.lneg, 1) := by decide +kernel
theorem dX24_numberAt_120 : decode cX24_numberAt 120 = .ok (.goto 5, 3) := by decide +kernel
theorem dX24_numberAt_123 : decode cX24_numberAt 123 = .ok (.lload 5, 2) := by decide +kernel
theorem dX24_numberAt_125 : decode cX24_numberAt 125 = .ok (.lreturn, 1) := by decide +kernel
/-! CoinJudgeModel.numberAt(II)J -/
set_option maxHeartbeats 4000000 in
theorem sX24_numberAt_0 {G : Gx} {d t : Nat} {h0 : AH} {Φ : Out → AH → Prop} (h : AH) (v0 : Nat) (v1 : Int32) (v2 : Int32) (K : h.kd v0 = 24 ∧ ∀ r2 : Nat, r2 = (h.r 24066 v0) → h.kd r2 = 100 ∧ vp_in (((h.i 24067 v0) - 1) - v1) (h.ai r2).length ∧ ∀ u5 : Int32, u5 = ((h.ai r2).getD ((((h.i 24067 v0) - 1) - v1).toNatClampNeg) 0) → ((u5 ≤ v2 → ((¬ u5 = 0 → Aw G mX24_numberAt (d + 1) t h0 Φ 46 [vR v0, vU, vU, vI (((h.i 24067 v0) - 1) - v1), vI u5, vJ 0, vU, vI (u5 - 1)] [] h) ∧ (u5 = 0 → Φ (.inl (some (vJ 0))) h))) ∧ (¬ u5 ≤ v2 → ∀ h8 : AH, h8 = h.pi 24074 v0 1 → Φ (.inl (some (vJ 0))) h8))) : Aw G mX24_numberAt (d + 1) t h0 Φ 0 [vR v0, vI v1, vI v2, vU, vU, vU, vU, vU] [] h := by
  refine r_aload_n (pc := 0) dX24_numberAt_0 rfl ?_
  obtain ⟨hk1, K⟩ := K
  refine r_geti' (pc := 1) (T := TX24) 24 67 rfl hk1 (Or.inl q2765) dX24_numberAt_1 kc24 g24067 ?_
  refine r_iconst (pc := 4) (x := 1) dX24_numberAt_4 rfl ?_
  refine r_isub (pc := 5) dX24_numberAt_5 ?_
  refine r_iload_n (pc := 6) dX24_numberAt_6 rfl ?_
  refine r_isub (pc := 7) dX24_numberAt_7 ?_
  refine r_istore_n (pc := 8) (lv' := [_, _, _, _, _, _, _, _]) dX24_numberAt_8 (by decide) rfl ?_
  refine r_aload_n (pc := 9) dX24_numberAt_9 rfl ?_
  have K := K _ rfl
  refine r_getr' (pc := 10) (T := TX24) 24 66 rfl hk1 (Or.inl q2764) dX24_numberAt_10 kc24 g24066 ?_
  refine r_iload_n (pc := 13) dX24_numberAt_13 rfl ?_
  obtain ⟨hk3, K⟩ := K
  obtain ⟨hi4, K⟩ := K
  refine r_iaload (pc := 14) hk3 hi4 dX24_numberAt_14 ?_
  have K := K _ rfl
  refine r_istore (pc := 15) (lv' := [_, _, _, _, _, _, _, _]) dX24_numberAt_15 (by decide) rfl ?_
  refine r_iload (pc := 17) dX24_numberAt_17 rfl ?_
  refine r_iload_n (pc := 19) dX24_numberAt_19 rfl ?_
  refine r_icmp_le (pc := 20) (tgt := 30) dX24_numberAt_20 rfl (fun c6 => ?_) (fun c6 => ?_)
  · have K := K.1 c6
    refine r_iload (pc := 30) dX24_numberAt_30 rfl ?_
    refine r_if_ne (pc := 32) (tgt := 37) dX24_numberAt_32 rfl (fun c7 => ?_) (fun c7 => ?_)
    · have K := K.1 c7
      refine r_lconst (pc := 37) (a := 0) dX24_numberAt_37 rfl ?_
      refine r_lstore (pc := 38) (lv' := [_, _, _, _, _, _, _, _]) dX24_numberAt_38 (by decide) rfl ?_
      refine r_iload (pc := 40) dX24_numberAt_40 rfl ?_
      refine r_iconst (pc := 42) (x := 1) dX24_numberAt_42 rfl ?_
      refine r_isub (pc := 43) dX24_numberAt_43 ?_
      refine r_istore (pc := 44) (lv' := [_, _, _, _, _, _, _, _]) dX24_numberAt_44 (by decide) rfl ?_
      refine r_mask (pc := 46) [true, false, false, true, true, true, false, true] rfl ?_
      exact K
    · have K := K.2 c7
      refine r_lconst (pc := 35) (a := 0) dX24_numberAt_35 rfl ?_
      exact r_lret (pc := 36) rfl dX24_numberAt_36 K
  · have K := K.2 c6
    refine r_aload_n (pc := 23) dX24_numberAt_23 rfl ?_
    refine r_iconst (pc := 24) (x := 1) dX24_numberAt_24 rfl ?_
    refine r_putz (pc := 25) (T := TX24) (key := 24074) 24 74 hk1 (Or.inl q2772) dX24_numberAt_25 kc24 rfl (Or.inl rfl) (Or.inl (em rfl)) (by decide) ?_
    refine r_nameH (fun h8 eh8 => ?_)
    have K := K h8 eh8
    refine r_lconst (pc := 28) (a := 0) dX24_numberAt_28 rfl ?_
    exact r_lret (pc := 29) rfl dX24_numberAt_29 K
theorem eX24_numberAt {G : Gx} {d : Nat} {Φ : Out → AH → Prop} (h : AH) (v0 : Nat) (v1 : Int32) (v2 : Int32) (K : WF G h → Aw G mX24_numberAt (d + 1) 0 h Φ 0 [vR v0, vI v1, vI v2, vU, vU, vU, vU, vU] [] h) : Cw G mX24_numberAt (d + 1) 0 [vR v0, vI v1, vI v2] h Φ := Cw.of rfl K
set_option maxHeartbeats 4000000 in
theorem sX24_numberAt_46 {G : Gx} {d t : Nat} {h0 : AH} {Φ : Out → AH → Prop} (h : AH) (v0 : Nat) (v3 : Int32) (v4 : Int32) (v5 : Int64) (v7 : Int32) (K : ((v7 < 0 → h.kd v0 = 24 ∧ ∀ r3 : Nat, r3 = (h.r 24065 v0) → h.kd r3 = 115 ∧ vp_in v3 (h.ar r3).length ∧ ∀ r6 : Nat, r6 = ((h.ar r3).getD (v3.toNatClampNeg) 0) → h.kd r6 = 101 ∧ vp_in (v4 - 1) (h.ai r6).length ∧ ((0 ≤ ((h.ai r6).getD ((v4 - 1).toNatClampNeg) 0) → Φ (.inl (some (vJ v5))) h) ∧ (¬ 0 ≤ ((h.ai r6).getD ((v4 - 1).toNatClampNeg) 0) → Φ (.inl (some (vJ (-v5)))) h))) ∧ (¬ v7 < 0 → ((¬ v7 = (v4 - 1) → h.kd v0 = 24 ∧ ∀ r12 : Nat, r12 = (h.r 24065 v0) → h.kd r12 = 115 ∧ vp_in v3 (h.ar r12).length ∧ ∀ r15 : Nat, r15 = ((h.ar r12).getD (v3.toNatClampNeg) 0) → h.kd r15 = 101 ∧ vp_in v7 (h.ai r15).length ∧ ∀ u18 : Int64, u18 = ((Jshl v5 8) ||| (((h.ai r15).getD (v7.toNatClampNeg) 0) &&& 255).toInt64) → Aw G mX24_numberAt (d + 1) t h0 Φ 46 [vR v0, vU, vU, vI v3, vI v4, vJ u18, vU, vI (v7 + (-1))] [] h) ∧ (v7 = (v4 - 1) → h.kd v0 = 24 ∧ ∀ r20 : Nat, r20 = (h.r 24065 v0) → h.kd r20 = 115 ∧ vp_in v3 (h.ar r20).length ∧ ∀ r23 : Nat, r23 = ((h.ar r20).getD (v3.toNatClampNeg) 0) → h.kd r23 = 101 ∧ vp_in v7 (h.ai r23).length ∧ ∀ u26 : Int64, u26 = ((Jshl v5 8) ||| (((h.ai r23).getD (v7.toNatClampNeg) 0) &&& 127).toInt64) → Aw G mX24_numberAt (d + 1) t h0 Φ 46 [vR v0, vU, vU, vI v3, vI v4, vJ u26, vU, vI (v7 + (-1))] [] h))))) : Aw G mX24_numberAt (d + 1) t h0 Φ 46 [vR v0, vU, vU, vI v3, vI v4, vJ v5, vU, vI v7] [] h := by
  refine r_iload (pc := 46) dX24_numberAt_46 rfl ?_
  refine r_if_lt (pc := 48) (tgt := 103) dX24_numberAt_48 rfl (fun c1 => ?_) (fun c1 => ?_)
  · have K := K.1 c1
    refine r_aload_n (pc := 103) dX24_numberAt_103 rfl ?_
    obtain ⟨hk2, K⟩ := K
    have K := K _ rfl
    refine r_getr' (pc := 104) (T := TX24) 24 65 rfl hk2 (Or.inl q2763) dX24_numberAt_104 kc24 g24065 ?_
    refine r_iload_n (pc := 107) dX24_numberAt_107 rfl ?_
    obtain ⟨hk4, K⟩ := K
    obtain ⟨hi5, K⟩ := K
    have K := K _ rfl
    refine r_aaload (pc := 108) (le_of_eq_r hk4 (by decide)) hi5 dX24_numberAt_108 ?_
    refine r_iload (pc := 109) dX24_numberAt_109 rfl ?_
    refine r_iconst (pc := 111) (x := 1) dX24_numberAt_111 rfl ?_
    refine r_isub (pc := 112) dX24_numberAt_112 ?_
    obtain ⟨hk7, K⟩ := K
    obtain ⟨hi8, K⟩ := K
    refine r_baload (pc := 113) hk7 hi8 dX24_numberAt_113 ?_
    refine r_if_ge (pc := 114) (tgt := 123) dX24_numberAt_114 rfl (fun c9 => ?_) (fun c9 => ?_)
    · have K := K.1 c9
      refine r_lload (pc := 123) dX24_numberAt_123 rfl ?_
      exact r_lret (pc := 125) rfl dX24_numberAt_125 K
    · have K := K.2 c9
      refine r_lload (pc := 117) dX24_numberAt_117 rfl ?_
      refine r_lneg (pc := 119) dX24_numberAt_119 ?_
      refine r_goto (pc := 120) (tgt := 125) dX24_numberAt_120 rfl ?_
      exact r_lret (pc := 125) rfl dX24_numberAt_125 K
  · have K := K.2 c1
    refine r_lload (pc := 51) dX24_numberAt_51 rfl ?_
    refine r_bipush (pc := 53) (x := 8) dX24_numberAt_53 rfl ?_
    refine r_Jshl (pc := 55) dX24_numberAt_55 ?_
    refine r_iload (pc := 56) dX24_numberAt_56 rfl ?_
    refine r_iload (pc := 58) dX24_numberAt_58 rfl ?_
    refine r_iconst (pc := 60) (x := 1) dX24_numberAt_60 rfl ?_
    refine r_isub (pc := 61) dX24_numberAt_61 ?_
    refine r_icmp_ne (pc := 62) (tgt := 80) dX24_numberAt_62 rfl (fun c10 => ?_) (fun c10 => ?_)
    · have K := K.1 c10
      refine r_aload_n (pc := 80) dX24_numberAt_80 rfl ?_
      obtain ⟨hk11, K⟩ := K
      have K := K _ rfl
      refine r_getr' (pc := 81) (T := TX24) 24 65 rfl hk11 (Or.inl q2763) dX24_numberAt_81 kc24 g24065 ?_
      refine r_iload_n (pc := 84) dX24_numberAt_84 rfl ?_
      obtain ⟨hk13, K⟩ := K
      obtain ⟨hi14, K⟩ := K
      have K := K _ rfl
      refine r_aaload (pc := 85) (le_of_eq_r hk13 (by decide)) hi14 dX24_numberAt_85 ?_
      refine r_iload (pc := 86) dX24_numberAt_86 rfl ?_
      obtain ⟨hk16, K⟩ := K
      obtain ⟨hi17, K⟩ := K
      refine r_baload (pc := 88) hk16 hi17 dX24_numberAt_88 ?_
      refine r_sipush (pc := 89) (x := 255) dX24_numberAt_89 rfl ?_
      refine r_iand (pc := 92) dX24_numberAt_92 ?_
      refine r_i2l (pc := 93) dX24_numberAt_93 ?_
      refine r_lor (pc := 94) dX24_numberAt_94 ?_
      have K := K _ rfl
      refine r_lstore (pc := 95) (lv' := [_, _, _, _, _, _, _, _]) dX24_numberAt_95 (by decide) rfl ?_
      refine r_iinc (pc := 97) (lv' := [_, _, _, _, _, _, _, _]) dX24_numberAt_97 rfl rfl (by decide) rfl ?_
      refine r_goto (pc := 100) (tgt := 46) dX24_numberAt_100 rfl ?_
      refine r_mask (pc := 46) [true, false, false, true, true, true, false, true] rfl ?_
      exact K
    · have K := K.2 c10
      refine r_aload_n (pc := 65) dX24_numberAt_65 rfl ?_
      obtain ⟨hk19, K⟩ := K
      have K := K _ rfl
      refine r_getr' (pc := 66) (T := TX24) 24 65 rfl hk19 (Or.inl q2763) dX24_numberAt_66 kc24 g24065 ?_
      refine r_iload_n (pc := 69) dX24_numberAt_69 rfl ?_
      obtain ⟨hk21, K⟩ := K
      obtain ⟨hi22, K⟩ := K
      have K := K _ rfl
      refine r_aaload (pc := 70) (le_of_eq_r hk21 (by decide)) hi22 dX24_numberAt_70 ?_
      refine r_iload (pc := 71) dX24_numberAt_71 rfl ?_
      obtain ⟨hk24, K⟩ := K
      obtain ⟨hi25, K⟩ := K
      refine r_baload (pc := 73) hk24 hi25 dX24_numberAt_73 ?_
      refine r_bipush (pc := 74) (x := 127) dX24_numberAt_74 rfl ?_
      refine r_iand (pc := 76) dX24_numberAt_76 ?_
      refine r_goto (pc := 77) (tgt := 93) dX24_numberAt_77 rfl ?_
      refine r_i2l (pc := 93) dX24_numberAt_93 ?_
      refine r_lor (pc := 94) dX24_numberAt_94 ?_
      have K := K _ rfl
      refine r_lstore (pc := 95) (lv' := [_, _, _, _, _, _, _, _]) dX24_numberAt_95 (by decide) rfl ?_
      refine r_iinc (pc := 97) (lv' := [_, _, _, _, _, _, _, _]) dX24_numberAt_97 rfl rfl (by decide) rfl ?_
      refine r_goto (pc := 100) (tgt := 46) dX24_numberAt_100 rfl ?_
      refine r_mask (pc := 46) [true, false, false, true, true, true, false, true] rfl ?_
      exact K
theorem dX24_move_0 : decode cX24_move 0 = .ok (.aload_n 0, 1) := by decide +kernel
theorem dX24_move_1 : decode cX24_move 1 = .ok (.getfield 603, 3) := by decide +kernel
theorem dX24_move_4 : decode cX24_move 4 = .ok (.astore_n 2, 1) := by decide +kernel
theorem dX24_move_5 : decode cX24_move 5 = .ok (.aload_n 0, 1) := by decide +kernel
theorem dX24_move_6 : decode cX24_move 6 = .ok (.aload_n 2, 1) := by decide +kernel
theorem dX24_move_7 : decode cX24_move 7 = .ok (.iload_n 1, 1) := by decide +kernel
theorem dX24_move_8 : decode cX24_move 8 = .ok (.bipush 105, 2) := by decide +kernel
theorem dX24_move_10 : decode cX24_move 10 = .ok (.isub, 1) := by decide +kernel
theorem dX24_move_11 : decode cX24_move 11 = .ok (.iaload, 1) := by decide +kernel
theorem dX24_move_12 : decode cX24_move 12 = .ok (.invokevirtual 582, 3) := by decide +kernel
theorem dX24_move_15 : decode cX24_move 15 = .ok (.ifCond .ne 4, 3) := by decide +kernel
theorem dX24_move_18 : decode cX24_move 18 = .ok (.return_, 1) := by decide +kernel
theorem dX24_move_19 : decode cX24_move 19 = .ok (.iload_n 1, 1) := by decide +kernel
theorem dX24_move_20 : decode cX24_move 20 = .ok (.tableswitch 569 105 124 #[96, 569, 131, 218, 316, 329, 329, 362, 375, 388, 401, 417, 429, 442, 450, 468, 476, 476, 553, 561], 96) := by decide +kernel
theorem dX24_move_116 : decode cX24_move 116 = .ok (.aload_n 0, 1) := by decide +kernel
theorem dX24_move_117 : decode cX24_move 117 = .ok (.dup, 1) := by decide +kernel
theorem dX24_move_118 : decode cX24_move 118 = .ok (.getfield 524, 3) := by decide +kernel
theorem dX24_move_121 : decode cX24_move 121 = .ok (.aload_n 0, 1) := by decide +kernel
theorem dX24_move_122 : decode cX24_move 122 = .ok (.iconst 0, 1) := by decide +kernel
theorem dX24_move_123 : decode cX24_move 123 = .ok (.invokevirtual 585, 3) := by decide +kernel
theorem dX24_move_126 : decode cX24_move 126 = .ok (.ifCond .ne 7, 3) := by decide +kernel
theorem dX24_move_129 : decode cX24_move 129 = .ok (.iconst 1, 1) := by decide +kernel
theorem dX24_move_130 : decode cX24_move 130 = .ok (.goto 4, 3) := by decide +kernel
theorem dX24_move_133 : decode cX24_move 133 = .ok (.iconst 0, 1) := by decide +kernel
theorem dX24_move_134 : decode cX24_move 134 = .ok (.ior, 1) := by decide +kernel
theorem dX24_move_135 : decode cX24_move 135 = .ok (.putfield 524, 3) := by decide +kernel
theorem dX24_move_138 : decode cX24_move 138 = .ok (.aload_n 0, 1) := by decide +kernel
theorem dX24_move_139 : decode cX24_move 139 = .ok (.dup, 1) := by decide +kernel
theorem dX24_move_140 : decode cX24_move 140 = .ok (.getfield 521, 3) := by decide +kernel
theorem dX24_move_143 : decode cX24_move 143 = .ok (.iconst 1, 1) := by decide +kernel
theorem dX24_move_144 : decode cX24_move 144 = .ok (.isub, 1) := by decide +kernel
theorem dX24_move_145 : decode cX24_move 145 = .ok (.putfield 521, 3) := by decide +kernel
theorem dX24_move_148 : decode cX24_move 148 = .ok (.goto 456, 3) := by decide +kernel
theorem dX24_move_151 : decode cX24_move 151 = .ok (.aload_n 0, 1) := by decide +kernel
theorem dX24_move_152 : decode cX24_move 152 = .ok (.getfield 606, 3) := by decide +kernel
theorem dX24_move_155 : decode cX24_move 155 = .ok (.aload_n 0, 1) := by decide +kernel
theorem dX24_move_156 : decode cX24_move 156 = .ok (.getfield 560, 3) := by decide +kernel
theorem dX24_move_159 : decode cX24_move 159 = .ok (.invokestatic 531, 3) := by decide +kernel
theorem dX24_move_162 : decode cX24_move 162 = .ok (.astore_n 3, 1) := by decide +kernel
theorem dX24_move_163 : decode cX24_move 163 = .ok (.aload_n 0, 1) := by decide +kernel
theorem dX24_move_164 : decode cX24_move 164 = .ok (.getfield 606, 3) := by decide +kernel
theorem dX24_move_167 : decode cX24_move 167 = .ok (.aload_n 0, 1) := by decide +kernel
theorem dX24_move_168 : decode cX24_move 168 = .ok (.getfield 560, 3) := by decide +kernel
theorem dX24_move_171 : decode cX24_move 171 = .ok (.aload_n 0, 1) := by decide +kernel
theorem dX24_move_172 : decode cX24_move 172 = .ok (.getfield 527, 3) := by decide +kernel
theorem dX24_move_175 : decode cX24_move 175 = .ok (.aload_n 0, 1) := by decide +kernel
theorem dX24_move_176 : decode cX24_move 176 = .ok (.getfield 521, 3) := by decide +kernel
theorem dX24_move_179 : decode cX24_move 179 = .ok (.iconst 1, 1) := by decide +kernel
theorem dX24_move_180 : decode cX24_move 180 = .ok (.isub, 1) := by decide +kernel
theorem dX24_move_181 : decode cX24_move 181 = .ok (.aaload, 1) := by decide +kernel
theorem dX24_move_182 : decode cX24_move 182 = .ok (.aastore, 1) := by decide +kernel
theorem dX24_move_183 : decode cX24_move 183 = .ok (.aload_n 0, 1) := by decide +kernel
theorem dX24_move_184 : decode cX24_move 184 = .ok (.getfield 609, 3) := by decide +kernel
theorem dX24_move_187 : decode cX24_move 187 = .ok (.aload_n 0, 1) := by decide +kernel
theorem dX24_move_188 : decode cX24_move 188 = .ok (.getfield 560, 3) := by decide +kernel
theorem dX24_move_191 : decode cX24_move 191 = .ok (.aload_n 0, 1) := by decide +kernel
theorem dX24_move_192 : decode cX24_move 192 = .ok (.getfield 535, 3) := by decide +kernel
theorem dX24_move_195 : decode cX24_move 195 = .ok (.aload_n 0, 1) := by decide +kernel
theorem dX24_move_196 : decode cX24_move 196 = .ok (.getfield 521, 3) := by decide +kernel
theorem dX24_move_199 : decode cX24_move 199 = .ok (.iconst 1, 1) := by decide +kernel
theorem dX24_move_200 : decode cX24_move 200 = .ok (.isub, 1) := by decide +kernel
theorem dX24_move_201 : decode cX24_move 201 = .ok (.iaload, 1) := by decide +kernel
theorem dX24_move_202 : decode cX24_move 202 = .ok (.iastore, 1) := by decide +kernel
theorem dX24_move_203 : decode cX24_move 203 = .ok (.aload_n 0, 1) := by decide +kernel
theorem dX24_move_204 : decode cX24_move 204 = .ok (.getfield 527, 3) := by decide +kernel
theorem dX24_move_207 : decode cX24_move 207 = .ok (.aload_n 0, 1) := by decide +kernel
theorem dX24_move_208 : decode cX24_move 208 = .ok (.getfield 521, 3) := by decide +kernel
theorem dX24_move_211 : decode cX24_move 211 = .ok (.iconst 1, 1) := by decide +kernel
theorem dX24_move_212 : decode cX24_move 212 = .ok (.isub, 1) := by decide +kernel
theorem dX24_move_213 : decode cX24_move 213 = .ok (.aload_n 3, 1) := by decide +kernel
theorem dX24_move_214 : decode cX24_move 214 = .ok (.aastore, 1) := by decide +kernel
theorem dX24_move_215 : decode cX24_move 215 = .ok (.aload_n 0, 1) := by decide +kernel
theorem dX24_move_216 : decode cX24_move 216 = .ok (.dup, 1) := by decide +kernel
theorem dX24_move_217 : decode cX24_move 217 = .ok (.getfield 560, 3) := by decide +kernel
theorem dX24_move_220 : decode cX24_move 220 = .ok (.iconst 1, 1) := by decide +kernel
theorem dX24_move_221 : decode cX24_move 221 = .ok (.iadd, 1) := by decide +kernel
theorem dX24_move_222 : decode cX24_move 222 = .ok (.putfield 560, 3) := by decide +kernel
theorem dX24_move_225 : decode cX24_move 225 = .ok (.aload_n 0, 1) := by decide +kernel
theorem dX24_move_226 : decode cX24_move 226 = .ok (.dup, 1) := by decide +kernel
theorem dX24_move_227 : decode cX24_move 227 = .ok (.getfield 521, 3) := by decide +kernel
theorem dX24_move_230 : decode cX24_move 230 = .ok (.iconst 1, 1) := by decide +kernel
theorem dX24_move_231 : decode cX24_move 231 = .ok (.isub, 1) := by decide +kernel
theorem dX24_move_232 : decode cX24_move 232 = .ok (.putfield 521, 3) := by decide +kernel
theorem dX24_move_235 : decode cX24_move 235 = .ok (.goto 369, 3) := by decide +kernel
theorem dX24_move_238 : decode cX24_move 238 = .ok (.aload_n 0, 1) := by decide +kernel
theorem dX24_move_239 : decode cX24_move 239 = .ok (.getfield 560, 3) := by decide +kernel
theorem dX24_move_242 : decode cX24_move 242 = .ok (.ifCond .ne 11, 3) := by decide +kernel
theorem dX24_move_245 : decode cX24_move 245 = .ok (.aload_n 0, 1) := by decide +kernel
theorem dX24_move_246 : decode cX24_move 246 = .ok (.iconst 1, 1) := by decide +kernel
theorem dX24_move_247 : decode cX24_move 247 = .ok (.putfield 524, 3) := by decide +kernel
theorem dX24_move_250 : decode cX24_move 250 = .ok (.goto 354, 3) := by decide +kernel
theorem dX24_move_253 : decode cX24_move 253 = .ok (.aload_n 0, 1) := by decide +kernel
theorem dX24_move_254 : decode cX24_move 254 = .ok (.getfield 527, 3) := by decide +kernel
theorem dX24_move_257 : decode cX24_move 257 = .ok (.aload_n 0, 1) := by decide +kernel
theorem dX24_move_258 : decode cX24_move 258 = .ok (.getfield 521, 3) := by decide +kernel
theorem dX24_move_261 : decode cX24_move 261 = .ok (.invokestatic 531, 3) := by decide +kernel
theorem dX24_move_264 : decode cX24_move 264 = .ok (.astore 4, 2) := by decide +kernel
theorem dX24_move_266 : decode cX24_move 266 = .ok (.aload_n 0, 1) := by decide +kernel
theorem dX24_move_267 : decode cX24_move 267 = .ok (.dup, 1) := by decide +kernel
theorem dX24_move_268 : decode cX24_move 268 = .ok (.getfield 560, 3) := by decide +kernel
theorem dX24_move_271 : decode cX24_move 271 = .ok (.iconst 1, 1) := by decide +kernel
theorem dX24_move_272 : decode cX24_move 272 = .ok (.isub, 1) := by decide +kernel
theorem dX24_move_273 : decode cX24_move 273 = .ok (.putfield 560, 3) := by decide +kernel
theorem dX24_move_276 : decode cX24_move 276 = .ok (.aload_n 0, 1) := by decide +kernel
theorem dX24_move_277 : decode cX24_move 277 = .ok (.getfield 527, 3) := by decide +kernel
theorem dX24_move_280 : decode cX24_move 280 = .ok (.aload_n 0, 1) := by decide +kernel
theorem dX24_move_281 : decode cX24_move 281 = .ok (.getfield 521, 3) := by decide +kernel
theorem dX24_move_284 : decode cX24_move 284 = .ok (.aload_n 0, 1) := by decide +kernel
theorem dX24_move_285 : decode cX24_move 285 = .ok (.getfield 606, 3) := by decide +kernel
theorem dX24_move_288 : decode cX24_move 288 = .ok (.aload_n 0, 1) := by decide +kernel
theorem dX24_move_289 : decode cX24_move 289 = .ok (.getfield 560, 3) := by decide +kernel
theorem dX24_move_292 : decode cX24_move 292 = .ok (.aaload, 1) := by decide +kernel
theorem dX24_move_293 : decode cX24_move 293 = .ok (.aastore, 1) := by decide +kernel
theorem dX24_move_294 : decode cX24_move 294 = .ok (.aload_n 0, 1) := by decide +kernel
theorem dX24_move_295 : decode cX24_move 295 = .ok (.getfield 535, 3) := by decide +kernel
theorem dX24_move_298 : decode cX24_move 298 = .ok (.aload_n 0, 1) := by decide +kernel
theorem dX24_move_299 : decode cX24_move 299 = .ok (.getfield 521, 3) := by decide +kernel
theorem dX24_move_302 : decode cX24_move 302 = .ok (.aload_n 0, 1) := by decide +kernel
theorem dX24_move_303 : decode cX24_move 303 = .ok (.getfield 609, 3) := by decide +kernel
theorem dX24_move_306 : decode cX24_move 306 = .ok (.aload_n 0, 1) := by decide +kernel
theorem dX24_move_307 : decode cX24_move 307 = .ok (.getfield 560, 3) := by decide +kernel
theorem dX24_move_310 : decode cX24_move 310 = .ok (.iaload, 1) := by decide +kernel
theorem dX24_move_311 : decode cX24_move 311 = .ok (.iastore, 1) := by decide +kernel
theorem dX24_move_312 : decode cX24_move 312 = .ok (.aload_n 0, 1) := by decide +kernel
theorem dX24_move_313 : decode cX24_move 313 = .ok (.getfield 606, 3) := by decide +kernel
theorem dX24_move_316 : decode cX24_move 316 = .ok (.aload_n 0, 1) := by decide +kernel
theorem dX24_move_317 : decode cX24_move 317 = .ok (.getfield 560, 3) := by decide +kernel
theorem dX24_move_320 : decode cX24_move 320 = .ok (.aload 4, 2) := by decide +kernel
theorem dX24_move_322 : decode cX24_move 322 = .ok (.aastore, 1) := by decide +kernel
theorem dX24_move_323 : decode cX24_move 323 = .ok (.aload_n 0, 1) := by decide +kernel
theorem dX24_move_324 : decode cX24_move 324 = .ok (.dup, 1) := by decide +kernel
theorem dX24_move_325 : decode cX24_move 325 = .ok (.getfield 521, 3) := by decide +kernel
theorem dX24_move_328 : decode cX24_move 328 = .ok (.iconst 1, 1) := by decide +kernel
theorem dX24_move_329 : decode cX24_move 329 = .ok (.iadd, 1) := by decide +kernel
theorem dX24_move_330 : decode cX24_move 330 = .ok (.putfield 521, 3) := by decide +kernel
theorem dX24_move_333 : decode cX24_move 333 = .ok (.goto 271, 3) := by decide +kernel
theorem dX24_move_336 : decode cX24_move 336 = .ok (.aload_n 0, 1) := by decide +kernel
theorem dX24_move_337 : decode cX24_move 337 = .ok (.dup, 1) := by decide +kernel
theorem dX24_move_338 : decode cX24_move 338 = .ok (.getfield 521, 3) := by decide +kernel
theorem dX24_move_341 : decode cX24_move 341 = .ok (.iconst 2, 1) := by decide +kernel
theorem dX24_move_342 : decode cX24_move 342 = .ok (.isub, 1) := by decide +kernel
theorem dX24_move_343 : decode cX24_move 343 = .ok (.putfield 521, 3) := by decide +kernel
theorem dX24_move_346 : decode cX24_move 346 = .ok (.goto 258, 3) := by decide +kernel
theorem dX24_move_349 : decode cX24_move 349 = .ok (.iload_n 1, 1) := by decide +kernel
theorem dX24_move_350 : decode cX24_move 350 = .ok (.bipush 108, 2) := by decide +kernel
theorem dX24_move_352 : decode cX24_move 352 = .ok (.isub, 1) := by decide +kernel
theorem dX24_move_353 : decode cX24_move 353 = .ok (.istore 5, 2) := by decide +kernel
theorem dX24_move_355 : decode cX24_move 355 = .ok (.iconst 0, 1) := by decide +kernel
theorem dX24_move_356 : decode cX24_move 356 = .ok (.istore 6, 2) := by decide +kernel
theorem dX24_move_358 : decode cX24_move 358 = .ok (.iload 6, 2) := by decide +kernel
theorem dX24_move_360 : decode cX24_move 360 = .ok (.iload 5, 2) := by decide +kernel
theorem dX24_move_362 : decode cX24_move 362 = .ok (.if_icmp .ge 17, 3) := by decide +kernel
theorem dX24_move_365 : decode cX24_move 365 = .ok (.aload_n 0, 1) := by decide +kernel
theorem dX24_move_366 : decode cX24_move 366 = .ok (.iload 5, 2) := by decide +kernel
theorem dX24_move_368 : decode cX24_move 368 = .ok (.iconst 1, 1) := by decide +kernel
theorem dX24_move_369 : decode cX24_move 369 = .ok (.isub, 1) := by decide +kernel
theorem dX24_move_370 : decode cX24_move 370 = .ok (.invokevirtual 612, 3) := by decide +kernel
theorem dX24_move_373 : decode cX24_move 373 = .ok (.iinc 6 1, 3) := by decide +kernel
theorem dX24_move_376 : decode cX24_move 376 = .ok (.goto (-18), 3) := by decide +kernel
theorem dX24_move_379 : decode cX24_move 379 = .ok (.goto 225, 3) := by decide +kernel
theorem dX24_move_382 : decode cX24_move 382 = .ok (.aload_n 0, 1) := by decide +kernel
theorem dX24_move_383 : decode cX24_move 383 = .ok (.iconst 3, 1) := by decide +kernel
theorem dX24_move_384 : decode cX24_move 384 = .ok (.invokevirtual 612, 3) := by decide +kernel
theorem dX24_move_387 : decode cX24_move 387 = .ok (.aload_n 0, 1) := by decide +kernel
theorem dX24_move_388 : decode cX24_move 388 = .ok (.iconst 3, 1) := by decide +kernel
theorem dX24_move_389 : decode cX24_move 389 = .ok (.invokevirtual 612, 3) := by decide +kernel
theorem dX24_move_392 : decode cX24_move 392 = .ok (.goto 212, 3) := by decide +kernel
theorem dX24_move_395 : decode cX24_move 395 = .ok (.aload_n 0, 1) := by decide +kernel
theorem dX24_move_396 : decode cX24_move 396 = .ok (.iconst 5, 1) := by decide +kernel
theorem dX24_move_397 : decode cX24_move 397 = .ok (.invokevirtual 614, 3) := by decide +kernel
theorem dX24_move_400 : decode cX24_move 400 = .ok (.aload_n 0, 1) := by decide +kernel
theorem dX24_move_401 : decode cX24_move 401 = .ok (.iconst 5, 1) := by decide +kernel
theorem dX24_move_402 : decode cX24_move 402 = .ok (.invokevirtual 614, 3) := by decide +kernel
theorem dX24_move_405 : decode cX24_move 405 = .ok (.goto 199, 3) := by decide +kernel
theorem dX24_move_408 : decode cX24_move 408 = .ok (.aload_n 0, 1) := by decide +kernel
theorem dX24_move_409 : decode cX24_move 409 = .ok (.iconst 3, 1) := by decide +kernel
theorem dX24_move_410 : decode cX24_move 410 = .ok (.invokevirtual 614, 3) := by decide +kernel
theorem dX24_move_413 : decode cX24_move 413 = .ok (.aload_n 0, 1) := by decide +kernel
theorem dX24_move_414 : decode cX24_move 414 = .ok (.iconst 3, 1) := by decide +kernel
theorem dX24_move_415 : decode cX24_move 415 = .ok (.invokevirtual 614, 3) := by decide +kernel
theorem dX24_move_418 : decode cX24_move 418 = .ok (.goto 186, 3) := by decide +kernel
theorem dX24_move_421 : decode cX24_move 421 = .ok (.aload_n 0, 1) := by decide +kernel
theorem dX24_move_422 : decode cX24_move 422 = .ok (.iconst 0, 1) := by decide +kernel
theorem dX24_move_423 : decode cX24_move 423 = .ok (.invokevirtual 585, 3) := by decide +kernel
theorem dX24_move_426 : decode cX24_move 426 = .ok (.ifCond .eq 178, 3) := by decide +kernel
theorem dX24_move_429 : decode cX24_move 429 = .ok (.aload_n 0, 1) := by decide +kernel
theorem dX24_move_430 : decode cX24_move 430 = .ok (.iconst 0, 1) := by decide +kernel
theorem dX24_move_431 : decode cX24_move 431 = .ok (.invokevirtual 612, 3) := by decide +kernel
theorem dX24_move_434 : decode cX24_move 434 = .ok (.goto 170, 3) := by decide +kernel
theorem dX24_move_437 : decode cX24_move 437 = .ok (.aload_n 0, 1) := by decide +kernel
theorem dX24_move_438 : decode cX24_move 438 = .ok (.aload_n 0, 1) := by decide +kernel
theorem dX24_move_439 : decode cX24_move 439 = .ok (.getfield 521, 3) := by decide +kernel
theorem dX24_move_442 : decode cX24_move 442 = .ok (.i2l, 1) := by decide +kernel
theorem dX24_move_443 : decode cX24_move 443 = .ok (.invokevirtual 545, 3) := by decide +kernel
theorem dX24_move_446 : decode cX24_move 446 = .ok (.goto 158, 3) := by decide +kernel
theorem dX24_move_449 : decode cX24_move 449 = .ok (.aload_n 0, 1) := by decide +kernel
theorem dX24_move_450 : decode cX24_move 450 = .ok (.dup, 1) := by decide +kernel
theorem dX24_move_451 : decode cX24_move 451 = .ok (.getfield 521, 3) := by decide +kernel
theorem dX24_move_454 : decode cX24_move 454 = .ok (.iconst 1, 1) := by decide +kernel
theorem dX24_move_455 : decode cX24_move 455 = .ok (.isub, 1) := by decide +kernel
theorem dX24_move_456 : decode cX24_move 456 = .ok (.putfield 521, 3) := by decide +kernel
theorem dX24_move_459 : decode cX24_move 459 = .ok (.goto 145, 3) := by decide +kernel
theorem dX24_move_462 : decode cX24_move 462 = .ok (.aload_n 0, 1) := by decide +kernel
theorem dX24_move_463 : decode cX24_move 463 = .ok (.iconst 0, 1) := by decide +kernel
theorem dX24_move_464 : decode cX24_move 464 = .ok (.invokevirtual 612, 3) := by decide +kernel
theorem dX24_move_467 : decode cX24_move 467 = .ok (.goto 137, 3) := by decide +kernel
theorem dX24_move_470 : decode cX24_move 470 = .ok (.aload_n 0, 1) := by decide +kernel
theorem dX24_move_471 : decode cX24_move 471 = .ok (.iconst 1, 1) := by decide +kernel
theorem dX24_move_472 : decode cX24_move 472 = .ok (.invokevirtual 614, 3) := by decide +kernel
theorem dX24_move_475 : decode cX24_move 475 = .ok (.aload_n 0, 1) := by decide +kernel
theorem dX24_move_476 : decode cX24_move 476 = .ok (.dup, 1) := by decide +kernel
theorem dX24_move_477 : decode cX24_move 477 = .ok (.getfield 521, 3) := by decide +kernel
theorem dX24_move_480 : decode cX24_move 480 = .ok (.iconst 1, 1) := by decide +kernel
theorem dX24_move_481 : decode cX24_move 481 = .ok (.isub, 1) := by decide +kernel
theorem dX24_move_482 : decode cX24_move 482 = .ok (.putfield 521, 3) := by decide +kernel
theorem dX24_move_485 : decode cX24_move 485 = .ok (.goto 119, 3) := by decide +kernel
theorem dX24_move_488 : decode cX24_move 488 = .ok (.aload_n 0, 1) := by decide +kernel
theorem dX24_move_489 : decode cX24_move 489 = .ok (.iconst 1, 1) := by decide +kernel
theorem dX24_move_490 : decode cX24_move 490 = .ok (.invokevirtual 612, 3) := by decide +kernel
theorem dX24_move_493 : decode cX24_move 493 = .ok (.goto 111, 3) := by decide +kernel
theorem dX24_move_496 : decode cX24_move 496 = .ok (.aload_n 0, 1) := by decide +kernel
theorem dX24_move_497 : decode cX24_move 497 = .ok (.iconst 0, 1) := by decide +kernel
theorem dX24_move_498 : decode cX24_move 498 = .ok (.iconst 4, 1) := by decide +kernel
theorem dX24_move_499 : decode cX24_move 499 = .ok (.invokevirtual 617, 3) := by decide +kernel
theorem dX24_move_502 : decode cX24_move 502 = .ok (.lstore 6, 2) := by decide +kernel
theorem dX24_move_504 : decode cX24_move 504 = .ok (.aload_n 0, 1) := by decide +kernel
theorem dX24_move_505 : decode cX24_move 505 = .ok (.dup, 1) := by decide +kernel
theorem dX24_move_506 : decode cX24_move 506 = .ok (.getfield 521, 3) := by decide +kernel
theorem dX24_move_509 : decode cX24_move 509 = .ok (.iconst 1, 1) := by decide +kernel
theorem dX24_move_510 : decode cX24_move 510 = .ok (.isub, 1) := by decide +kernel
theorem dX24_move_511 : decode cX24_move 511 = .ok (.putfield 521, 3) := by decide +kernel
theorem dX24_move_514 : decode cX24_move 514 = .ok (.aload_n 0, 1) := by decide +kernel
theorem dX24_move_515 : decode cX24_move 515 = .ok (.getfield 524, 3) := by decide +kernel
theorem dX24_move_518 : decode cX24_move 518 = .ok (.ifCond .ne 21, 3) := by decide +kernel
theorem dX24_move_521 : decode cX24_move 521 = .ok (.lload 6, 2) := by decide +kernel
theorem dX24_move_523 : decode cX24_move 523 = .ok (.lconst 0, 1) := by decide +kernel
theorem dX24_move_524 : decode cX24_move 524 = .ok (.lcmp, 1) := by decide +kernel
theorem dX24_move_525 : decode cX24_move 525 = .ok (.ifCond .lt 14, 3) := by decide +kernel
theorem dX24_move_528 : decode cX24_move 528 = .ok (.lload 6, 2) := by decide +kernel
theorem dX24_move_530 : decode cX24_move 530 = .ok (.aload_n 0, 1) := by decide +kernel
theorem dX24_move_531 : decode cX24_move 531 = .ok (.getfield 521, 3) := by decide +kernel
theorem dX24_move_534 : decode cX24_move 534 = .ok (.i2l, 1) := by decide +kernel
theorem dX24_move_535 : decode cX24_move 535 = .ok (.lcmp, 1) := by decide +kernel
theorem dX24_move_536 : decode cX24_move 536 = .ok (.ifCond .lt 11, 3) := by decide +kernel
theorem dX24_move_539 : decode cX24_move 539 = .ok (.aload_n 0, 1) := by decide +kernel
theorem dX24_move_540 : decode cX24_move 540 = .ok (.iconst 1, 1) := by decide +kernel
theorem dX24_move_541 : decode cX24_move 541 = .ok (.putfield 524, 3) := by decide +kernel
theorem dX24_move_544 : decode cX24_move 544 = .ok (.goto 60, 3) := by decide +kernel
theorem dX24_move_547 : decode cX24_move 547 = .ok (.iload_n 1, 1) := by decide +kernel
theorem dX24_move_548 : decode cX24_move 548 = .ok (.bipush 121, 2) := by decide +kernel
theorem dX24_move_550 : decode cX24_move 550 = .ok (.if_icmp .ne 13, 3) := by decide +kernel
theorem dX24_move_553 : decode cX24_move 553 = .ok (.aload_n 0, 1) := by decide +kernel
theorem dX24_move_554 : decode cX24_move 554 = .ok (.lload 6, 2) := by decide +kernel
theorem dX24_move_556 : decode cX24_move 556 = .ok (.l2i, 1) := by decide +kernel
theorem dX24_move_557 : decode cX24_move 557 = .ok (.invokevirtual 612, 3) := by decide +kernel
theorem dX24_move_560 : decode cX24_move 560 = .ok (.goto 44, 3) := by decide +kernel
theorem dX24_move_563 : decode cX24_move 563 = .ok (.aload_n 0, 1) := by decide +kernel
theorem dX24_move_564 : decode cX24_move 564 = .ok (.lload 6, 2) := by decide +kernel
theorem dX24_move_566 : decode cX24_move 566 = .ok (.l2i, 1) := by decide +kernel
theorem dX24_move_567 : decode cX24_move 567 = .ok (.invokevirtual 614, 3) := by decide +kernel
theorem dX24_move_570 : decode cX24_move 570 = .ok (.goto 34, 3) := by decide +kernel
theorem dX24_move_573 : decode cX24_move 573 = .ok (.aload_n 0, 1) := by decide +kernel
theorem dX24_move_574 : decode cX24_move 574 = .ok (.iconst 2, 1) := by decide +kernel
theorem dX24_move_575 : decode cX24_move 575 = .ok (.invokevirtual 614, 3) := by decide +kernel
theorem dX24_move_578 : decode cX24_move 578 = .ok (.goto 26, 3) := by decide +kernel
theorem dX24_move_581 : decode cX24_move 581 = .ok (.aload_n 0, 1) := by decide +kernel
theorem dX24_move_582 : decode cX24_move 582 = .ok (.iconst 1, 1) := by decide +kernel
theorem dX24_move_583 : decode cX24_move 583 = .ok (.invokevirtual 614, 3) := by decide +kernel
theorem dX24_move_586 : decode cX24_move 586 = .ok (.goto 18, 3) := by decide +kernel
theorem dX24_move_589 : decode cX24_move 589 = .ok (.aload_n 0, 1) := by decide +kernel
theorem dX24_move_590 : decode cX24_move 590 = .ok (.iconst 0, 1) := by decide +kernel
theorem dX24_move_591 : decode cX24_move 591 = .ok (.invokevirtual 612, 3) := by decide +kernel
theorem dX24_move_594 : decode cX24_move 594 = .ok (.aload_n 0, 1) := by decide +kernel
theorem dX24_move_595 : decode cX24_move 595 = .ok (.iconst 2, 1) := by decide +kernel
theorem dX24_move_596 : decode cX24_move 596 = .ok (.invokevirtual 614, 3) := by decide +kernel
theorem dX24_move_599 : decode cX24_move 599 = .ok (.aload_n 0, 1) := by decide +kernel
theorem dX24_move_600 : decode cX24_move 600 = .ok (.iconst 2, 1) := by decide +kernel
theorem dX24_move_601 : decode cX24_move 601 = .ok (.invokevirtual 614, 3) := by decide +kernel
theorem dX24_move_604 : decode cX24_move 604 = .ok (.return_, 1) := by decide +kernel
/-! CoinJudgeModel.move(I)V -/
set_option maxHeartbeats 4000000 in
theorem sX24_move_0 {G : Gx} {d t : Nat} {h0 : AH} {Φ : Out → AH → Prop} (h : AH) (v0 : Nat) (v1 : Int32) (K : h.kd v0 = 24 ∧ ∀ r2 : Nat, r2 = (h.r 24085 v0) → h.kd r2 = 100 ∧ vp_in (v1 - 105) (h.ai r2).length ∧ Cw G mX24_need d 0 [vR v0, vI ((h.ai r2).getD ((v1 - 105).toNatClampNeg) 0)] h (kI (fun x5 h6 => ((¬ x5 = 0 → ((v1 = 105 → Cw G mX24_isTrue d 0 [vR v0, vI 0] h6 (kI (fun x10 h11 => ((¬ x10 = 0 → (((h6.i 24074 v0) ||| 0) = 0 ∨ ((h6.i 24074 v0) ||| 0) = 1) ∧ ∀ h15 : AH, h15 = h11.pi 24074 v0 ((h6.i 24074 v0) ||| 0) → ∀ h17 : AH, h17 = h15.pi 24067 v0 ((h15.i 24067 v0) - 1) → Φ (.inl none) h17) ∧ (x10 = 0 → (((h6.i 24074 v0) ||| 1) = 0 ∨ ((h6.i 24074 v0) ||| 1) = 1) ∧ ∀ h20 : AH, h20 = h11.pi 24074 v0 ((h6.i 24074 v0) ||| 1) → ∀ h22 : AH, h22 = h20.pi 24067 v0 ((h20.i 24067 v0) - 1) → Φ (.inl none) h22))) (fun x h => Φ (.inr x) h))) ∧ (v1 = 107 → ∀ r25 : Nat, r25 = (h6.r 24068 v0) → Cw G mX24_row d 0 [vR r25, vI (h6.i 24070 v0)] h6 (kR (fun x26 h27 => ∀ r33 : Nat, r33 = (h27.r 24065 v0) → h27.kd r33 = 115 ∧ vp_in ((h27.i 24067 v0) - 1) (h27.ar r33).length ∧ ∀ r36 : Nat, r36 = ((h27.ar r33).getD (((h27.i 24067 v0) - 1).toNatClampNeg) 0) → h27.kd r25 = 115 ∧ vp_in (h6.i 24070 v0) (h27.ar r25).length ∧ (r36 = 0 ∨ h27.kd r36 = 101) ∧ ∀ h40 : AH, h40 = h27.wr r25 ((h27.ar r25).set ((h6.i 24070 v0).toNatClampNeg) r36) → ∀ r42 : Nat, r42 = (h40.r 24069 v0) → ∀ r44 : Nat, r44 = (h40.r 24066 v0) → h40.kd r44 = 100 ∧ vp_in ((h27.i 24067 v0) - 1) (h40.ai r44).length ∧ h40.kd r42 = 100 ∧ vp_in (h6.i 24070 v0) (h40.ai r42).length ∧ ∀ h51 : AH, h51 = h40.wi r42 ((h40.ai r42).set ((h6.i 24070 v0).toNatClampNeg) ((h40.ai r44).getD (((h27.i 24067 v0) - 1).toNatClampNeg) 0)) → vp_in ((h27.i 24067 v0) - 1) (h51.ar r33).length ∧ (x26 = 0 ∨ h51.kd x26 = 101) ∧ ∀ h61 : AH, h61 = h51.wr r33 ((h51.ar r33).set (((h27.i 24067 v0) - 1).toNatClampNeg) x26) → ∀ h65 : AH, h65 = h61.pi 24070 v0 ((h6.i 24070 v0) + 1) → ∀ h69 : AH, h69 = h65.pi 24067 v0 ((h27.i 24067 v0) - 1) → Φ (.inl none) h69) (fun x h => Φ (.inr x) h))) ∧ (v1 = 108 → ((¬ (h6.i 24070 v0) = 0 → ∀ r73 : Nat, r73 = (h6.r 24065 v0) → Cw G mX24_row d 0 [vR r73, vI (h6.i 24067 v0)] h6 (kR (fun x74 h75 => ∀ h79 : AH, h79 = h75.pi 24070 v0 ((h6.i 24070 v0) - 1) → ∀ r87 : Nat, r87 = (h79.r 24068 v0) → h79.kd r87 = 115 ∧ vp_in (h79.i 24070 v0) (h79.ar r87).length ∧ ∀ r90 : Nat, r90 = ((h79.ar r87).getD ((h79.i 24070 v0).toNatClampNeg) 0) → h79.kd r73 = 115 ∧ vp_in (h6.i 24067 v0) (h79.ar r73).length ∧ (r90 = 0 ∨ h79.kd r90 = 101) ∧ ∀ h94 : AH, h94 = h79.wr r73 ((h79.ar r73).set ((h6.i 24067 v0).toNatClampNeg) r90) → ∀ r96 : Nat, r96 = (h94.r 24066 v0) → ∀ r98 : Nat, r98 = (h94.r 24069 v0) → h94.kd r98 = 100 ∧ vp_in (h79.i 24070 v0) (h94.ai r98).length ∧ h94.kd r96 = 100 ∧ vp_in (h6.i 24067 v0) (h94.ai r96).length ∧ ∀ h105 : AH, h105 = h94.wi r96 ((h94.ai r96).set ((h6.i 24067 v0).toNatClampNeg) ((h94.ai r98).getD ((h79.i 24070 v0).toNatClampNeg) 0)) → vp_in (h79.i 24070 v0) (h105.ar r87).length ∧ (x74 = 0 ∨ h105.kd x74 = 101) ∧ ∀ h115 : AH, h115 = h105.wr r87 ((h105.ar r87).set ((h79.i 24070 v0).toNatClampNeg) x74) → ∀ h119 : AH, h119 = h115.pi 24067 v0 ((h6.i 24067 v0) + 1) → Φ (.inl none) h119) (fun x h => Φ (.inr x) h))) ∧ ((h6.i 24070 v0) = 0 → ∀ h120 : AH, h120 = h6.pi 24074 v0 1 → Φ (.inl none) h120))) ∧ (v1 = 109 → ∀ h123 : AH, h123 = h6.pi 24067 v0 ((h6.i 24067 v0) - 2) → Φ (.inl none) h123) ∧ (v1 = 110 → Aw G mX24_move (d + 1) t h0 Φ 358 [vR v0, vU, vU, vU, vU, vI (v1 - 108), vI 0, vU] [] h6) ∧ (v1 = 111 → Aw G mX24_move (d + 1) t h0 Φ 358 [vR v0, vU, vU, vU, vU, vI (v1 - 108), vI 0, vU] [] h6) ∧ (v1 = 112 → Cw G mX24_copy d 0 [vR v0, vI 3] h6 (kV (fun h128 => Cw G mX24_copy d 0 [vR v0, vI 3] h128 (kV (fun h131 => Φ (.inl none) h131) (fun x h => Φ (.inr x) h))) (fun x h => Φ (.inr x) h))) ∧ (v1 = 113 → Cw G mX24_lift d 0 [vR v0, vI 5] h6 (kV (fun h135 => Cw G mX24_lift d 0 [vR v0, vI 5] h135 (kV (fun h138 => Φ (.inl none) h138) (fun x h => Φ (.inr x) h))) (fun x h => Φ (.inr x) h))) ∧ (v1 = 114 → Cw G mX24_lift d 0 [vR v0, vI 3] h6 (kV (fun h142 => Cw G mX24_lift d 0 [vR v0, vI 3] h142 (kV (fun h145 => Φ (.inl none) h145) (fun x h => Φ (.inr x) h))) (fun x h => Φ (.inr x) h))) ∧ (v1 = 115 → Cw G mX24_isTrue d 0 [vR v0, vI 0] h6 (kI (fun x148 h149 => ((x148 = 0 → Φ (.inl none) h149) ∧ (¬ x148 = 0 → Cw G mX24_copy d 0 [vR v0, vI 0] h149 (kV (fun h153 => Φ (.inl none) h153) (fun x h => Φ (.inr x) h))))) (fun x h => Φ (.inr x) h))) ∧ (v1 = 116 → Cw G mX24_pushNumber d 0 [vR v0, vJ ((h6.i 24067 v0).toInt64)] h6 (kV (fun h158 => Φ (.inl none) h158) (fun x h => Φ (.inr x) h))) ∧ (v1 = 117 → ∀ h161 : AH, h161 = h6.pi 24067 v0 ((h6.i 24067 v0) - 1) → Φ (.inl none) h161) ∧ (v1 = 118 → Cw G mX24_copy d 0 [vR v0, vI 0] h6 (kV (fun h164 => Φ (.inl none) h164) (fun x h => Φ (.inr x) h))) ∧ (v1 = 119 → Cw G mX24_lift d 0 [vR v0, vI 1] h6 (kV (fun h168 => ∀ h171 : AH, h171 = h168.pi 24067 v0 ((h168.i 24067 v0) - 1) → Φ (.inl none) h171) (fun x h => Φ (.inr x) h))) ∧ (v1 = 120 → Cw G mX24_copy d 0 [vR v0, vI 1] h6 (kV (fun h174 => Φ (.inl none) h174) (fun x h => Φ (.inr x) h))) ∧ (v1 = 121 → Cw G mX24_numberAt d 0 [vR v0, vI 0, vI 4] h6 (kJ (fun x177 h178 => ∀ h181 : AH, h181 = h178.pi 24067 v0 ((h178.i 24067 v0) - 1) → ((¬ (h181.i 24074 v0) = 0 → ∀ h184 : AH, h184 = h181.pi 24074 v0 1 → Φ (.inl none) h184) ∧ ((h181.i 24074 v0) = 0 → ((x177 < 0 → ∀ h186 : AH, h186 = h181.pi 24074 v0 1 → Φ (.inl none) h186) ∧ (¬ x177 < 0 → ((x177 < (h181.i 24067 v0).toInt64 → ((¬ v1 = 121 → Cw G mX24_lift d 0 [vR v0, vI x177.toInt32] h181 (kV (fun h190 => Φ (.inl none) h190) (fun x h => Φ (.inr x) h))) ∧ (v1 = 121 → Cw G mX24_copy d 0 [vR v0, vI x177.toInt32] h181 (kV (fun h192 => Φ (.inl none) h192) (fun x h => Φ (.inr x) h))))) ∧ (¬ x177 < (h181.i 24067 v0).toInt64 → ∀ h193 : AH, h193 = h181.pi 24074 v0 1 → Φ (.inl none) h193))))))) (fun x h => Φ (.inr x) h))) ∧ (v1 = 122 → Cw G mX24_numberAt d 0 [vR v0, vI 0, vI 4] h6 (kJ (fun x195 h196 => ∀ h199 : AH, h199 = h196.pi 24067 v0 ((h196.i 24067 v0) - 1) → ((¬ (h199.i 24074 v0) = 0 → ∀ h202 : AH, h202 = h199.pi 24074 v0 1 → Φ (.inl none) h202) ∧ ((h199.i 24074 v0) = 0 → ((x195 < 0 → ∀ h204 : AH, h204 = h199.pi 24074 v0 1 → Φ (.inl none) h204) ∧ (¬ x195 < 0 → ((x195 < (h199.i 24067 v0).toInt64 → ((¬ v1 = 121 → Cw G mX24_lift d 0 [vR v0, vI x195.toInt32] h199 (kV (fun h208 => Φ (.inl none) h208) (fun x h => Φ (.inr x) h))) ∧ (v1 = 121 → Cw G mX24_copy d 0 [vR v0, vI x195.toInt32] h199 (kV (fun h210 => Φ (.inl none) h210) (fun x h => Φ (.inr x) h))))) ∧ (¬ x195 < (h199.i 24067 v0).toInt64 → ∀ h211 : AH, h211 = h199.pi 24074 v0 1 → Φ (.inl none) h211))))))) (fun x h => Φ (.inr x) h))) ∧ (v1 = 123 → Cw G mX24_lift d 0 [vR v0, vI 2] h6 (kV (fun h214 => Φ (.inl none) h214) (fun x h => Φ (.inr x) h))) ∧ (v1 = 124 → Cw G mX24_lift d 0 [vR v0, vI 1] h6 (kV (fun h218 => Φ (.inl none) h218) (fun x h => Φ (.inr x) h))) ∧ (¬ v1 = 105 ∧ ¬ v1 = 107 ∧ ¬ v1 = 108 ∧ ¬ v1 = 109 ∧ ¬ v1 = 110 ∧ ¬ v1 = 111 ∧ ¬ v1 = 112 ∧ ¬ v1 = 113 ∧ ¬ v1 = 114 ∧ ¬ v1 = 115 ∧ ¬ v1 = 116 ∧ ¬ v1 = 117 ∧ ¬ v1 = 118 ∧ ¬ v1 = 119 ∧ ¬ v1 = 120 ∧ ¬ v1 = 121 ∧ ¬ v1 = 122 ∧ ¬ v1 = 123 ∧ ¬ v1 = 124 → Cw G mX24_copy d 0 [vR v0, vI 0] h6 (kV (fun h221 => Cw G mX24_lift d 0 [vR v0, vI 2] h221 (kV (fun h224 => Cw G mX24_lift d 0 [vR v0, vI 2] h224 (kV (fun h227 => Φ (.inl none) h227) (fun x h => Φ (.inr x) h))) (fun x h => Φ (.inr x) h))) (fun x h => Φ (.inr x) h))))) ∧ (x5 = 0 → Φ (.inl none) h6))) (fun x h => Φ (.inr x) h))) : Aw G mX24_move (d + 1) t h0 Φ 0 [vR v0, vI v1, vU, vU, vU, vU, vU, vU] [] h := by
  refine r_aload_n (pc := 0) dX24_move_0 rfl ?_
  obtain ⟨hk1, K⟩ := K
  have K := K _ rfl
  refine r_getr' (pc := 1) (T := TX24) 24 85 rfl hk1 (Or.inl q2783) dX24_move_1 kc24 g24085 ?_
  refine r_astore_n (pc := 4) (lv' := [_, _, _, _, _, _, _, _]) dX24_move_4 (by decide) rfl ?_
  refine r_aload_n (pc := 5) dX24_move_5 rfl ?_
  refine r_aload_n (pc := 6) dX24_move_6 rfl ?_
  refine r_iload_n (pc := 7) dX24_move_7 rfl ?_
  refine r_bipush (pc := 8) (x := 105) dX24_move_8 rfl ?_
  refine r_isub (pc := 10) dX24_move_10 ?_
  obtain ⟨hk3, K⟩ := K
  obtain ⟨hi4, K⟩ := K
  refine r_iaload (pc := 11) hk3 hi4 dX24_move_11 ?_
  refine r_callV_I (pc := 12) (Y := mX24_need) (vs := [_]) (st := []) hk1 rfl kc24 q2495 q2497 qs93 dX24_move_12 rfl cd_X24_need rfl rfl fp_X24_move_X24_need K (fun x5 h6 eh6 wh6 K => ?_) (fun x h1 _ _ e => Tw.out rfl e)
  refine r_if_ne (pc := 15) (tgt := 19) dX24_move_15 rfl (fun c7 => ?_) (fun c7 => ?_)
  · have K := K.1 c7
    refine r_iload_n (pc := 19) dX24_move_19 rfl ?_
    have K230 := K
    by_cases c8 : v1 = 105
    · have K := K230.1 c8
      refine r_tableIn (pc := 20) (tgt := 116) dX24_move_20 (by rw [c8]; decide) (by rw [c8]; decide) (by rw [c8]; rfl) rfl ?_
      refine r_aload_n (pc := 116) dX24_move_116 rfl ?_
      refine r_dup (pc := 117) rfl dX24_move_117 ?_
      have hk9 := kd_ext eh6 hk1 (nz rfl)
      refine r_geti' (pc := 118) (T := TX24) 24 74 rfl hk9 (Or.inl q2772) dX24_move_118 kc24 g24074 ?_
      refine r_aload_n (pc := 121) dX24_move_121 rfl ?_
      refine r_iconst (pc := 122) (x := 0) dX24_move_122 rfl ?_
      refine r_callV_I (pc := 123) (Y := mX24_isTrue) (vs := [_]) (st := [_, _]) hk9 rfl kc24 q2499 q2501 qs94 dX24_move_123 rfl cd_X24_isTrue rfl rfl fp_X24_move_X24_isTrue K (fun x10 h11 eh11 wh11 K => ?_) (fun x h1 _ _ e => Tw.out rfl e)
      refine r_if_ne (pc := 126) (tgt := 133) dX24_move_126 rfl (fun c12 => ?_) (fun c12 => ?_)
      · have K := K.1 c12
        refine r_iconst (pc := 133) (x := 0) dX24_move_133 rfl ?_
        refine r_ior (pc := 134) dX24_move_134 ?_
        have hk13 := kd_ext eh11 hk9 (nz rfl)
        obtain ⟨hb14, K⟩ := K
        refine r_putz (pc := 135) (T := TX24) (key := 24074) 24 74 hk13 (Or.inl q2772) dX24_move_135 kc24 rfl (Or.inl rfl) (Or.inl (em rfl)) hb14 ?_
        refine r_nameH (fun h15 eh15 => ?_)
        have K := K h15 eh15
        refine r_aload_n (pc := 138) dX24_move_138 rfl ?_
        refine r_dup (pc := 139) rfl dX24_move_139 ?_
        have hk16 := kd_pi eh15 hk13
        refine r_geti' (pc := 140) (T := TX24) 24 67 rfl hk16 (Or.inl q2765) dX24_move_140 kc24 g24067 ?_
        refine r_iconst (pc := 143) (x := 1) dX24_move_143 rfl ?_
        refine r_isub (pc := 144) dX24_move_144 ?_
        refine r_puti (pc := 145) (T := TX24) (key := 24067) 24 67 hk16 (Or.inl q2765) dX24_move_145 kc24 rfl (Or.inl rfl) (Or.inl (em rfl)) ?_
        refine r_nameH (fun h17 eh17 => ?_)
        have K := K h17 eh17
        refine r_goto (pc := 148) (tgt := 604) dX24_move_148 rfl ?_
        exact r_vret (pc := 604) rfl dX24_move_604 K
      · have K := K.2 c12
        refine r_iconst (pc := 129) (x := 1) dX24_move_129 rfl ?_
        refine r_goto (pc := 130) (tgt := 134) dX24_move_130 rfl ?_
        refine r_ior (pc := 134) dX24_move_134 ?_
        have hk18 := kd_ext eh11 hk9 (nz rfl)
        obtain ⟨hb19, K⟩ := K
        refine r_putz (pc := 135) (T := TX24) (key := 24074) 24 74 hk18 (Or.inl q2772) dX24_move_135 kc24 rfl (Or.inl rfl) (Or.inl (em rfl)) hb19 ?_
        refine r_nameH (fun h20 eh20 => ?_)
        have K := K h20 eh20
        refine r_aload_n (pc := 138) dX24_move_138 rfl ?_
        refine r_dup (pc := 139) rfl dX24_move_139 ?_
        have hk21 := kd_pi eh20 hk18
        refine r_geti' (pc := 140) (T := TX24) 24 67 rfl hk21 (Or.inl q2765) dX24_move_140 kc24 g24067 ?_
        refine r_iconst (pc := 143) (x := 1) dX24_move_143 rfl ?_
        refine r_isub (pc := 144) dX24_move_144 ?_
        refine r_puti (pc := 145) (T := TX24) (key := 24067) 24 67 hk21 (Or.inl q2765) dX24_move_145 kc24 rfl (Or.inl rfl) (Or.inl (em rfl)) ?_
        refine r_nameH (fun h22 eh22 => ?_)
        have K := K h22 eh22
        refine r_goto (pc := 148) (tgt := 604) dX24_move_148 rfl ?_
        exact r_vret (pc := 604) rfl dX24_move_604 K
    · by_cases c23 : v1 = 107
      · have K := K230.2.1 c23
        refine r_tableIn (pc := 20) (tgt := 151) dX24_move_20 (by rw [c23]; decide) (by rw [c23]; decide) (by rw [c23]; rfl) rfl ?_
        refine r_aload_n (pc := 151) dX24_move_151 rfl ?_
        have hk24 := kd_ext eh6 hk1 (nz rfl)
        have K := K _ rfl
        refine r_getr' (pc := 152) (T := TX24) 24 68 rfl hk24 (Or.inl q2766) dX24_move_152 kc24 g24068 ?_
        refine r_aload_n (pc := 155) dX24_move_155 rfl ?_
        refine r_geti' (pc := 156) (T := TX24) 24 70 rfl hk24 (Or.inl q2768) dX24_move_156 kc24 g24070 ?_
        refine r_callS_R (pc := 159) (Y := mX24_row) (vs := [_, _]) (st := []) q2511 q2512 q192 dX24_move_159 rfl cd_X24_row rfl rfl fp_X24_move_X24_row K (fun x26 h27 eh27 wh27 K => ?_) (fun x h1 _ _ e => Tw.out rfl e)
        refine r_astore_n (pc := 162) (lv' := [_, _, _, _, _, _, _, _]) dX24_move_162 (by decide) rfl ?_
        refine r_aload_n (pc := 163) dX24_move_163 rfl ?_
        have hk28 := kd_ext eh27 hk24 (nz rfl)
        have hv29 := fr_self (key := 24068) hk24
        have hv30 := (fr_ext (key := 24068) eh27 hk24 (nz rfl) (ne0 wh27 hk28 (nz rfl)) (nm rfl)).trans hv29
        refine r_getr' (pc := 164) (T := TX24) 24 68 hv30 hk28 (Or.inl q2766) dX24_move_164 kc24 g24068 ?_
        refine r_aload_n (pc := 167) dX24_move_167 rfl ?_
        have hv31 := fi_self (key := 24070) hk24
        have hv32 := (fi_ext (key := 24070) eh27 hk24 (nz rfl) (ne0 wh27 hk28 (nz rfl)) (nm rfl)).trans hv31
        refine r_geti' (pc := 168) (T := TX24) 24 70 hv32 hk28 (Or.inl q2768) dX24_move_168 kc24 g24070 ?_
        refine r_aload_n (pc := 171) dX24_move_171 rfl ?_
        have K := K _ rfl
        refine r_getr' (pc := 172) (T := TX24) 24 65 rfl hk28 (Or.inl q2763) dX24_move_172 kc24 g24065 ?_
        refine r_aload_n (pc := 175) dX24_move_175 rfl ?_
        refine r_geti' (pc := 176) (T := TX24) 24 67 rfl hk28 (Or.inl q2765) dX24_move_176 kc24 g24067 ?_
        refine r_iconst (pc := 179) (x := 1) dX24_move_179 rfl ?_
        refine r_isub (pc := 180) dX24_move_180 ?_
        obtain ⟨hk34, K⟩ := K
        obtain ⟨hi35, K⟩ := K
        have K := K _ rfl
        refine r_aaload (pc := 181) (le_of_eq_r hk34 (by decide)) hi35 dX24_move_181 ?_
        obtain ⟨hk37, K⟩ := K
        obtain ⟨hi38, K⟩ := K
        obtain ⟨hk39, K⟩ := K
        refine r_aastoreB (pc := 182) hk37 hi38 hk39 (Or.inl (em rfl)) dX24_move_182 ?_
        refine r_nameH (fun h40 eh40 => ?_)
        have K := K h40 eh40
        refine r_aload_n (pc := 183) dX24_move_183 rfl ?_
        have hk41 := kd_wr eh40 hk28
        have K := K _ rfl
        refine r_getr' (pc := 184) (T := TX24) 24 69 rfl hk41 (Or.inl q2767) dX24_move_184 kc24 g24069 ?_
        refine r_aload_n (pc := 187) dX24_move_187 rfl ?_
        have hv43 := fi_wr (key := 24070) eh40 hv32
        refine r_geti' (pc := 188) (T := TX24) 24 70 hv43 hk41 (Or.inl q2768) dX24_move_188 kc24 g24070 ?_
        refine r_aload_n (pc := 191) dX24_move_191 rfl ?_
        have K := K _ rfl
        refine r_getr' (pc := 192) (T := TX24) 24 66 rfl hk41 (Or.inl q2764) dX24_move_192 kc24 g24066 ?_
        refine r_aload_n (pc := 195) dX24_move_195 rfl ?_
        have hv45 := fi_self (key := 24067) hk28
        have hv46 := fi_wr (key := 24067) eh40 hv45
        refine r_geti' (pc := 196) (T := TX24) 24 67 hv46 hk41 (Or.inl q2765) dX24_move_196 kc24 g24067 ?_
        refine r_iconst (pc := 199) (x := 1) dX24_move_199 rfl ?_
        refine r_isub (pc := 200) dX24_move_200 ?_
        obtain ⟨hk47, K⟩ := K
        obtain ⟨hi48, K⟩ := K
        refine r_iaload (pc := 201) hk47 hi48 dX24_move_201 ?_
        obtain ⟨hk49, K⟩ := K
        obtain ⟨hi50, K⟩ := K
        refine r_iastore (pc := 202) hk49 hi50 (Or.inl (em rfl)) dX24_move_202 ?_
        refine r_nameH (fun h51 eh51 => ?_)
        have K := K h51 eh51
        refine r_aload_n (pc := 203) dX24_move_203 rfl ?_
        have hk52 := kd_wi eh51 hk41
        have hv53 := fr_self (key := 24065) hk28
        have hv54 := fr_wr (key := 24065) eh40 hv53
        have hv55 := fr_wi (key := 24065) eh51 hv54
        refine r_getr' (pc := 204) (T := TX24) 24 65 hv55 hk52 (Or.inl q2763) dX24_move_204 kc24 g24065 ?_
        refine r_aload_n (pc := 207) dX24_move_207 rfl ?_
        have hv56 := fi_wi (key := 24067) eh51 hv46
        refine r_geti' (pc := 208) (T := TX24) 24 67 hv56 hk52 (Or.inl q2765) dX24_move_208 kc24 g24067 ?_
        refine r_iconst (pc := 211) (x := 1) dX24_move_211 rfl ?_
        refine r_isub (pc := 212) dX24_move_212 ?_
        refine r_aload_n (pc := 213) dX24_move_213 rfl ?_
        have hk57 := kd_wr eh40 hk34
        have hk58 := kd_wi eh51 hk57
        obtain ⟨hi59, K⟩ := K
        obtain ⟨hk60, K⟩ := K
        refine r_aastoreB (pc := 214) hk58 hi59 hk60 (Or.inl (em rfl)) dX24_move_214 ?_
        refine r_nameH (fun h61 eh61 => ?_)
        have K := K h61 eh61
        refine r_aload_n (pc := 215) dX24_move_215 rfl ?_
        refine r_dup (pc := 216) rfl dX24_move_216 ?_
        have hk62 := kd_wr eh61 hk52
        have hv63 := fi_wi (key := 24070) eh51 hv43
        have hv64 := fi_wr (key := 24070) eh61 hv63
        refine r_geti' (pc := 217) (T := TX24) 24 70 hv64 hk62 (Or.inl q2768) dX24_move_217 kc24 g24070 ?_
        refine r_iconst (pc := 220) (x := 1) dX24_move_220 rfl ?_
        refine r_iadd (pc := 221) dX24_move_221 ?_
        refine r_puti (pc := 222) (T := TX24) (key := 24070) 24 70 hk62 (Or.inl q2768) dX24_move_222 kc24 rfl (Or.inl rfl) (Or.inl (em rfl)) ?_
        refine r_nameH (fun h65 eh65 => ?_)
        have K := K h65 eh65
        refine r_aload_n (pc := 225) dX24_move_225 rfl ?_
        refine r_dup (pc := 226) rfl dX24_move_226 ?_
        have hk66 := kd_pi eh65 hk62
        have hv67 := fi_wr (key := 24067) eh61 hv56
        have hv68 := fi_pi (key := 24067) eh65 (by decide) hv67
        refine r_geti' (pc := 227) (T := TX24) 24 67 hv68 hk66 (Or.inl q2765) dX24_move_227 kc24 g24067 ?_
        refine r_iconst (pc := 230) (x := 1) dX24_move_230 rfl ?_
        refine r_isub (pc := 231) dX24_move_231 ?_
        refine r_puti (pc := 232) (T := TX24) (key := 24067) 24 67 hk66 (Or.inl q2765) dX24_move_232 kc24 rfl (Or.inl rfl) (Or.inl (em rfl)) ?_
        refine r_nameH (fun h69 eh69 => ?_)
        have K := K h69 eh69
        refine r_goto (pc := 235) (tgt := 604) dX24_move_235 rfl ?_
        exact r_vret (pc := 604) rfl dX24_move_604 K
      · by_cases c70 : v1 = 108
        · have K := K230.2.2.1 c70
          refine r_tableIn (pc := 20) (tgt := 238) dX24_move_20 (by rw [c70]; decide) (by rw [c70]; decide) (by rw [c70]; rfl) rfl ?_
          refine r_aload_n (pc := 238) dX24_move_238 rfl ?_
          have hk71 := kd_ext eh6 hk1 (nz rfl)
          refine r_geti' (pc := 239) (T := TX24) 24 70 rfl hk71 (Or.inl q2768) dX24_move_239 kc24 g24070 ?_
          refine r_if_ne (pc := 242) (tgt := 253) dX24_move_242 rfl (fun c72 => ?_) (fun c72 => ?_)
          · have K := K.1 c72
            refine r_aload_n (pc := 253) dX24_move_253 rfl ?_
            have K := K _ rfl
            refine r_getr' (pc := 254) (T := TX24) 24 65 rfl hk71 (Or.inl q2763) dX24_move_254 kc24 g24065 ?_
            refine r_aload_n (pc := 257) dX24_move_257 rfl ?_
            refine r_geti' (pc := 258) (T := TX24) 24 67 rfl hk71 (Or.inl q2765) dX24_move_258 kc24 g24067 ?_
            refine r_callS_R (pc := 261) (Y := mX24_row) (vs := [_, _]) (st := []) q2511 q2512 q192 dX24_move_261 rfl cd_X24_row rfl rfl fp_X24_move_X24_row K (fun x74 h75 eh75 wh75 K => ?_) (fun x h1 _ _ e => Tw.out rfl e)
            refine r_astore (pc := 264) (lv' := [_, _, _, _, _, _, _, _]) dX24_move_264 (by decide) rfl ?_
            refine r_aload_n (pc := 266) dX24_move_266 rfl ?_
            refine r_dup (pc := 267) rfl dX24_move_267 ?_
            have hk76 := kd_ext eh75 hk71 (nz rfl)
            have hv77 := fi_self (key := 24070) hk71
            have hv78 := (fi_ext (key := 24070) eh75 hk71 (nz rfl) (ne0 wh75 hk76 (nz rfl)) (nm rfl)).trans hv77
            refine r_geti' (pc := 268) (T := TX24) 24 70 hv78 hk76 (Or.inl q2768) dX24_move_268 kc24 g24070 ?_
            refine r_iconst (pc := 271) (x := 1) dX24_move_271 rfl ?_
            refine r_isub (pc := 272) dX24_move_272 ?_
            refine r_puti (pc := 273) (T := TX24) (key := 24070) 24 70 hk76 (Or.inl q2768) dX24_move_273 kc24 rfl (Or.inl rfl) (Or.inl (em rfl)) ?_
            refine r_nameH (fun h79 eh79 => ?_)
            have K := K h79 eh79
            refine r_aload_n (pc := 276) dX24_move_276 rfl ?_
            have hk80 := kd_pi eh79 hk76
            have hv81 := fr_self (key := 24065) hk71
            have hv82 := (fr_ext (key := 24065) eh75 hk71 (nz rfl) (ne0 wh75 hk76 (nz rfl)) (nm rfl)).trans hv81
            have hv83 := fr_pi (key := 24065) eh79 hv82
            refine r_getr' (pc := 277) (T := TX24) 24 65 hv83 hk80 (Or.inl q2763) dX24_move_277 kc24 g24065 ?_
            refine r_aload_n (pc := 280) dX24_move_280 rfl ?_
            have hv84 := fi_self (key := 24067) hk71
            have hv85 := (fi_ext (key := 24067) eh75 hk71 (nz rfl) (ne0 wh75 hk76 (nz rfl)) (nm rfl)).trans hv84
            have hv86 := fi_pi (key := 24067) eh79 (by decide) hv85
            refine r_geti' (pc := 281) (T := TX24) 24 67 hv86 hk80 (Or.inl q2765) dX24_move_281 kc24 g24067 ?_
            refine r_aload_n (pc := 284) dX24_move_284 rfl ?_
            have K := K _ rfl
            refine r_getr' (pc := 285) (T := TX24) 24 68 rfl hk80 (Or.inl q2766) dX24_move_285 kc24 g24068 ?_
            refine r_aload_n (pc := 288) dX24_move_288 rfl ?_
            refine r_geti' (pc := 289) (T := TX24) 24 70 rfl hk80 (Or.inl q2768) dX24_move_289 kc24 g24070 ?_
            obtain ⟨hk88, K⟩ := K
            obtain ⟨hi89, K⟩ := K
            have K := K _ rfl
            refine r_aaload (pc := 292) (le_of_eq_r hk88 (by decide)) hi89 dX24_move_292 ?_
            obtain ⟨hk91, K⟩ := K
            obtain ⟨hi92, K⟩ := K
            obtain ⟨hk93, K⟩ := K
            refine r_aastoreB (pc := 293) hk91 hi92 hk93 (Or.inl (em rfl)) dX24_move_293 ?_
            refine r_nameH (fun h94 eh94 => ?_)
            have K := K h94 eh94
            refine r_aload_n (pc := 294) dX24_move_294 rfl ?_
            have hk95 := kd_wr eh94 hk80
            have K := K _ rfl
            refine r_getr' (pc := 295) (T := TX24) 24 66 rfl hk95 (Or.inl q2764) dX24_move_295 kc24 g24066 ?_
            refine r_aload_n (pc := 298) dX24_move_298 rfl ?_
            have hv97 := fi_wr (key := 24067) eh94 hv86
            refine r_geti' (pc := 299) (T := TX24) 24 67 hv97 hk95 (Or.inl q2765) dX24_move_299 kc24 g24067 ?_
            refine r_aload_n (pc := 302) dX24_move_302 rfl ?_
            have K := K _ rfl
            refine r_getr' (pc := 303) (T := TX24) 24 69 rfl hk95 (Or.inl q2767) dX24_move_303 kc24 g24069 ?_
            refine r_aload_n (pc := 306) dX24_move_306 rfl ?_
            have hv99 := fi_self (key := 24070) hk80
            have hv100 := fi_wr (key := 24070) eh94 hv99
            refine r_geti' (pc := 307) (T := TX24) 24 70 hv100 hk95 (Or.inl q2768) dX24_move_307 kc24 g24070 ?_
            obtain ⟨hk101, K⟩ := K
            obtain ⟨hi102, K⟩ := K
            refine r_iaload (pc := 310) hk101 hi102 dX24_move_310 ?_
            obtain ⟨hk103, K⟩ := K
            obtain ⟨hi104, K⟩ := K
            refine r_iastore (pc := 311) hk103 hi104 (Or.inl (em rfl)) dX24_move_311 ?_
            refine r_nameH (fun h105 eh105 => ?_)
            have K := K h105 eh105
            refine r_aload_n (pc := 312) dX24_move_312 rfl ?_
            have hk106 := kd_wi eh105 hk95
            have hv107 := fr_self (key := 24068) hk80
            have hv108 := fr_wr (key := 24068) eh94 hv107
            have hv109 := fr_wi (key := 24068) eh105 hv108
            refine r_getr' (pc := 313) (T := TX24) 24 68 hv109 hk106 (Or.inl q2766) dX24_move_313 kc24 g24068 ?_
            refine r_aload_n (pc := 316) dX24_move_316 rfl ?_
            have hv110 := fi_wi (key := 24070) eh105 hv100
            refine r_geti' (pc := 317) (T := TX24) 24 70 hv110 hk106 (Or.inl q2768) dX24_move_317 kc24 g24070 ?_
            refine r_aload (pc := 320) dX24_move_320 rfl ?_
            have hk111 := kd_wr eh94 hk88
            have hk112 := kd_wi eh105 hk111
            obtain ⟨hi113, K⟩ := K
            obtain ⟨hk114, K⟩ := K
            refine r_aastoreB (pc := 322) hk112 hi113 hk114 (Or.inl (em rfl)) dX24_move_322 ?_
            refine r_nameH (fun h115 eh115 => ?_)
            have K := K h115 eh115
            refine r_aload_n (pc := 323) dX24_move_323 rfl ?_
            refine r_dup (pc := 324) rfl dX24_move_324 ?_
            have hk116 := kd_wr eh115 hk106
            have hv117 := fi_wi (key := 24067) eh105 hv97
            have hv118 := fi_wr (key := 24067) eh115 hv117
            refine r_geti' (pc := 325) (T := TX24) 24 67 hv118 hk116 (Or.inl q2765) dX24_move_325 kc24 g24067 ?_
            refine r_iconst (pc := 328) (x := 1) dX24_move_328 rfl ?_
            refine r_iadd (pc := 329) dX24_move_329 ?_
            refine r_puti (pc := 330) (T := TX24) (key := 24067) 24 67 hk116 (Or.inl q2765) dX24_move_330 kc24 rfl (Or.inl rfl) (Or.inl (em rfl)) ?_
            refine r_nameH (fun h119 eh119 => ?_)
            have K := K h119 eh119
            refine r_goto (pc := 333) (tgt := 604) dX24_move_333 rfl ?_
            exact r_vret (pc := 604) rfl dX24_move_604 K
          · have K := K.2 c72
            refine r_aload_n (pc := 245) dX24_move_245 rfl ?_
            refine r_iconst (pc := 246) (x := 1) dX24_move_246 rfl ?_
            refine r_putz (pc := 247) (T := TX24) (key := 24074) 24 74 hk71 (Or.inl q2772) dX24_move_247 kc24 rfl (Or.inl rfl) (Or.inl (em rfl)) (by decide) ?_
            refine r_nameH (fun h120 eh120 => ?_)
            have K := K h120 eh120
            refine r_goto (pc := 250) (tgt := 604) dX24_move_250 rfl ?_
            exact r_vret (pc := 604) rfl dX24_move_604 K
        · by_cases c121 : v1 = 109
          · have K := K230.2.2.2.1 c121
            refine r_tableIn (pc := 20) (tgt := 336) dX24_move_20 (by rw [c121]; decide) (by rw [c121]; decide) (by rw [c121]; rfl) rfl ?_
            refine r_aload_n (pc := 336) dX24_move_336 rfl ?_
            refine r_dup (pc := 337) rfl dX24_move_337 ?_
            have hk122 := kd_ext eh6 hk1 (nz rfl)
            refine r_geti' (pc := 338) (T := TX24) 24 67 rfl hk122 (Or.inl q2765) dX24_move_338 kc24 g24067 ?_
            refine r_iconst (pc := 341) (x := 2) dX24_move_341 rfl ?_
            refine r_isub (pc := 342) dX24_move_342 ?_
            refine r_puti (pc := 343) (T := TX24) (key := 24067) 24 67 hk122 (Or.inl q2765) dX24_move_343 kc24 rfl (Or.inl rfl) (Or.inl (em rfl)) ?_
            refine r_nameH (fun h123 eh123 => ?_)
            have K := K h123 eh123
            refine r_goto (pc := 346) (tgt := 604) dX24_move_346 rfl ?_
            exact r_vret (pc := 604) rfl dX24_move_604 K
          · by_cases c124 : v1 = 110
            · have K := K230.2.2.2.2.1 c124
              refine r_tableIn (pc := 20) (tgt := 349) dX24_move_20 (by rw [c124]; decide) (by rw [c124]; decide) (by rw [c124]; rfl) rfl ?_
              refine r_iload_n (pc := 349) dX24_move_349 rfl ?_
              refine r_bipush (pc := 350) (x := 108) dX24_move_350 rfl ?_
              refine r_isub (pc := 352) dX24_move_352 ?_
              refine r_istore (pc := 353) (lv' := [_, _, _, _, _, _, _, _]) dX24_move_353 (by decide) rfl ?_
              refine r_iconst (pc := 355) (x := 0) dX24_move_355 rfl ?_
              refine r_istore (pc := 356) (lv' := [_, _, _, _, _, _, _, _]) dX24_move_356 (by decide) rfl ?_
              refine r_mask (pc := 358) [true, false, false, false, false, true, true, false] rfl ?_
              exact K
            · by_cases c125 : v1 = 111
              · have K := K230.2.2.2.2.2.1 c125
                refine r_tableIn (pc := 20) (tgt := 349) dX24_move_20 (by rw [c125]; decide) (by rw [c125]; decide) (by rw [c125]; rfl) rfl ?_
                refine r_iload_n (pc := 349) dX24_move_349 rfl ?_
                refine r_bipush (pc := 350) (x := 108) dX24_move_350 rfl ?_
                refine r_isub (pc := 352) dX24_move_352 ?_
                refine r_istore (pc := 353) (lv' := [_, _, _, _, _, _, _, _]) dX24_move_353 (by decide) rfl ?_
                refine r_iconst (pc := 355) (x := 0) dX24_move_355 rfl ?_
                refine r_istore (pc := 356) (lv' := [_, _, _, _, _, _, _, _]) dX24_move_356 (by decide) rfl ?_
                refine r_mask (pc := 358) [true, false, false, false, false, true, true, false] rfl ?_
                exact K
              · by_cases c126 : v1 = 112
                · have K := K230.2.2.2.2.2.2.1 c126
                  refine r_tableIn (pc := 20) (tgt := 382) dX24_move_20 (by rw [c126]; decide) (by rw [c126]; decide) (by rw [c126]; rfl) rfl ?_
                  refine r_aload_n (pc := 382) dX24_move_382 rfl ?_
                  refine r_iconst (pc := 383) (x := 3) dX24_move_383 rfl ?_
                  have hk129 := kd_ext eh6 hk1 (nz rfl)
                  refine r_callV_V (pc := 384) (Y := mX24_copy) (vs := [_]) (st := []) hk129 rfl kc24 q2674 q2676 qs128 dX24_move_384 rfl cd_X24_copy rfl rfl fp_X24_move_X24_copy K (fun h128 eh128 wh128 K => ?_) (fun x h1 _ _ e => Tw.out rfl e)
                  refine r_aload_n (pc := 387) dX24_move_387 rfl ?_
                  refine r_iconst (pc := 388) (x := 3) dX24_move_388 rfl ?_
                  have hk132 := kd_ext eh128 hk129 (nz rfl)
                  refine r_callV_V (pc := 389) (Y := mX24_copy) (vs := [_]) (st := []) hk132 rfl kc24 q2674 q2676 qs128 dX24_move_389 rfl cd_X24_copy rfl rfl fp_X24_move_X24_copy K (fun h131 eh131 wh131 K => ?_) (fun x h1 _ _ e => Tw.out rfl e)
                  refine r_goto (pc := 392) (tgt := 604) dX24_move_392 rfl ?_
                  exact r_vret (pc := 604) rfl dX24_move_604 K
                · by_cases c133 : v1 = 113
                  · have K := K230.2.2.2.2.2.2.2.1 c133
                    refine r_tableIn (pc := 20) (tgt := 395) dX24_move_20 (by rw [c133]; decide) (by rw [c133]; decide) (by rw [c133]; rfl) rfl ?_
                    refine r_aload_n (pc := 395) dX24_move_395 rfl ?_
                    refine r_iconst (pc := 396) (x := 5) dX24_move_396 rfl ?_
                    have hk136 := kd_ext eh6 hk1 (nz rfl)
                    refine r_callV_V (pc := 397) (Y := mX24_lift) (vs := [_]) (st := []) hk136 rfl kc24 q2678 q2680 qs129 dX24_move_397 rfl cd_X24_lift rfl rfl fp_X24_move_X24_lift K (fun h135 eh135 wh135 K => ?_) (fun x h1 _ _ e => Tw.out rfl e)
                    refine r_aload_n (pc := 400) dX24_move_400 rfl ?_
                    refine r_iconst (pc := 401) (x := 5) dX24_move_401 rfl ?_
                    have hk139 := kd_ext eh135 hk136 (nz rfl)
                    refine r_callV_V (pc := 402) (Y := mX24_lift) (vs := [_]) (st := []) hk139 rfl kc24 q2678 q2680 qs129 dX24_move_402 rfl cd_X24_lift rfl rfl fp_X24_move_X24_lift K (fun h138 eh138 wh138 K => ?_) (fun x h1 _ _ e => Tw.out rfl e)
                    refine r_goto (pc := 405) (tgt := 604) dX24_move_405 rfl ?_
                    exact r_vret (pc := 604) rfl dX24_move_604 K
                  · by_cases c140 : v1 = 114
                    · have K := K230.2.2.2.2.2.2.2.2.1 c140
                      refine r_tableIn (pc := 20) (tgt := 408) dX24_move_20 (by rw [c140]; decide) (by rw [c140]; decide) (by rw [c140]; rfl) rfl ?_
                      refine r_aload_n (pc := 408) dX24_move_408 rfl ?_
                      refine r_iconst (pc := 409) (x := 3) dX24_move_409 rfl ?_
                      have hk143 := kd_ext eh6 hk1 (nz rfl)
                      refine r_callV_V (pc := 410) (Y := mX24_lift) (vs := [_]) (st := []) hk143 rfl kc24 q2678 q2680 qs129 dX24_move_410 rfl cd_X24_lift rfl rfl fp_X24_move_X24_lift K (fun h142 eh142 wh142 K => ?_) (fun x h1 _ _ e => Tw.out rfl e)
                      refine r_aload_n (pc := 413) dX24_move_413 rfl ?_
                      refine r_iconst (pc := 414) (x := 3) dX24_move_414 rfl ?_
                      have hk146 := kd_ext eh142 hk143 (nz rfl)
                      refine r_callV_V (pc := 415) (Y := mX24_lift) (vs := [_]) (st := []) hk146 rfl kc24 q2678 q2680 qs129 dX24_move_415 rfl cd_X24_lift rfl rfl fp_X24_move_X24_lift K (fun h145 eh145 wh145 K => ?_) (fun x h1 _ _ e => Tw.out rfl e)
                      refine r_goto (pc := 418) (tgt := 604) dX24_move_418 rfl ?_
                      exact r_vret (pc := 604) rfl dX24_move_604 K
                    · by_cases c147 : v1 = 115
                      · have K := K230.2.2.2.2.2.2.2.2.2.1 c147
                        refine r_tableIn (pc := 20) (tgt := 421) dX24_move_20 (by rw [c147]; decide) (by rw [c147]; decide) (by rw [c147]; rfl) rfl ?_
                        refine r_aload_n (pc := 421) dX24_move_421 rfl ?_
                        refine r_iconst (pc := 422) (x := 0) dX24_move_422 rfl ?_
                        have hk150 := kd_ext eh6 hk1 (nz rfl)
                        refine r_callV_I (pc := 423) (Y := mX24_isTrue) (vs := [_]) (st := []) hk150 rfl kc24 q2499 q2501 qs94 dX24_move_423 rfl cd_X24_isTrue rfl rfl fp_X24_move_X24_isTrue K (fun x148 h149 eh149 wh149 K => ?_) (fun x h1 _ _ e => Tw.out rfl e)
                        refine r_if_eq (pc := 426) (tgt := 604) dX24_move_426 rfl (fun c151 => ?_) (fun c151 => ?_)
                        · have K := K.1 c151
                          exact r_vret (pc := 604) rfl dX24_move_604 K
                        · have K := K.2 c151
                          refine r_aload_n (pc := 429) dX24_move_429 rfl ?_
                          refine r_iconst (pc := 430) (x := 0) dX24_move_430 rfl ?_
                          have hk154 := kd_ext eh149 hk150 (nz rfl)
                          refine r_callV_V (pc := 431) (Y := mX24_copy) (vs := [_]) (st := []) hk154 rfl kc24 q2674 q2676 qs128 dX24_move_431 rfl cd_X24_copy rfl rfl fp_X24_move_X24_copy K (fun h153 eh153 wh153 K => ?_) (fun x h1 _ _ e => Tw.out rfl e)
                          refine r_goto (pc := 434) (tgt := 604) dX24_move_434 rfl ?_
                          exact r_vret (pc := 604) rfl dX24_move_604 K
                      · by_cases c155 : v1 = 116
                        · have K := K230.2.2.2.2.2.2.2.2.2.2.1 c155
                          refine r_tableIn (pc := 20) (tgt := 437) dX24_move_20 (by rw [c155]; decide) (by rw [c155]; decide) (by rw [c155]; rfl) rfl ?_
                          refine r_aload_n (pc := 437) dX24_move_437 rfl ?_
                          refine r_aload_n (pc := 438) dX24_move_438 rfl ?_
                          have hk156 := kd_ext eh6 hk1 (nz rfl)
                          refine r_geti' (pc := 439) (T := TX24) 24 67 rfl hk156 (Or.inl q2765) dX24_move_439 kc24 g24067 ?_
                          refine r_i2l (pc := 442) dX24_move_442 ?_
                          refine r_callV_V (pc := 443) (Y := mX24_pushNumber) (vs := [_]) (st := []) hk156 rfl kc24 q2514 q2516 qs97 dX24_move_443 rfl cd_X24_pushNumber rfl rfl fp_X24_move_X24_pushNumber K (fun h158 eh158 wh158 K => ?_) (fun x h1 _ _ e => Tw.out rfl e)
                          refine r_goto (pc := 446) (tgt := 604) dX24_move_446 rfl ?_
                          exact r_vret (pc := 604) rfl dX24_move_604 K
                        · by_cases c159 : v1 = 117
                          · have K := K230.2.2.2.2.2.2.2.2.2.2.2.1 c159
                            refine r_tableIn (pc := 20) (tgt := 449) dX24_move_20 (by rw [c159]; decide) (by rw [c159]; decide) (by rw [c159]; rfl) rfl ?_
                            refine r_aload_n (pc := 449) dX24_move_449 rfl ?_
                            refine r_dup (pc := 450) rfl dX24_move_450 ?_
                            have hk160 := kd_ext eh6 hk1 (nz rfl)
                            refine r_geti' (pc := 451) (T := TX24) 24 67 rfl hk160 (Or.inl q2765) dX24_move_451 kc24 g24067 ?_
                            refine r_iconst (pc := 454) (x := 1) dX24_move_454 rfl ?_
                            refine r_isub (pc := 455) dX24_move_455 ?_
                            refine r_puti (pc := 456) (T := TX24) (key := 24067) 24 67 hk160 (Or.inl q2765) dX24_move_456 kc24 rfl (Or.inl rfl) (Or.inl (em rfl)) ?_
                            refine r_nameH (fun h161 eh161 => ?_)
                            have K := K h161 eh161
                            refine r_goto (pc := 459) (tgt := 604) dX24_move_459 rfl ?_
                            exact r_vret (pc := 604) rfl dX24_move_604 K
                          · by_cases c162 : v1 = 118
                            · have K := K230.2.2.2.2.2.2.2.2.2.2.2.2.1 c162
                              refine r_tableIn (pc := 20) (tgt := 462) dX24_move_20 (by rw [c162]; decide) (by rw [c162]; decide) (by rw [c162]; rfl) rfl ?_
                              refine r_aload_n (pc := 462) dX24_move_462 rfl ?_
                              refine r_iconst (pc := 463) (x := 0) dX24_move_463 rfl ?_
                              have hk165 := kd_ext eh6 hk1 (nz rfl)
                              refine r_callV_V (pc := 464) (Y := mX24_copy) (vs := [_]) (st := []) hk165 rfl kc24 q2674 q2676 qs128 dX24_move_464 rfl cd_X24_copy rfl rfl fp_X24_move_X24_copy K (fun h164 eh164 wh164 K => ?_) (fun x h1 _ _ e => Tw.out rfl e)
                              refine r_goto (pc := 467) (tgt := 604) dX24_move_467 rfl ?_
                              exact r_vret (pc := 604) rfl dX24_move_604 K
                            · by_cases c166 : v1 = 119
                              · have K := K230.2.2.2.2.2.2.2.2.2.2.2.2.2.1 c166
                                refine r_tableIn (pc := 20) (tgt := 470) dX24_move_20 (by rw [c166]; decide) (by rw [c166]; decide) (by rw [c166]; rfl) rfl ?_
                                refine r_aload_n (pc := 470) dX24_move_470 rfl ?_
                                refine r_iconst (pc := 471) (x := 1) dX24_move_471 rfl ?_
                                have hk169 := kd_ext eh6 hk1 (nz rfl)
                                refine r_callV_V (pc := 472) (Y := mX24_lift) (vs := [_]) (st := []) hk169 rfl kc24 q2678 q2680 qs129 dX24_move_472 rfl cd_X24_lift rfl rfl fp_X24_move_X24_lift K (fun h168 eh168 wh168 K => ?_) (fun x h1 _ _ e => Tw.out rfl e)
                                refine r_aload_n (pc := 475) dX24_move_475 rfl ?_
                                refine r_dup (pc := 476) rfl dX24_move_476 ?_
                                have hk170 := kd_ext eh168 hk169 (nz rfl)
                                refine r_geti' (pc := 477) (T := TX24) 24 67 rfl hk170 (Or.inl q2765) dX24_move_477 kc24 g24067 ?_
                                refine r_iconst (pc := 480) (x := 1) dX24_move_480 rfl ?_
                                refine r_isub (pc := 481) dX24_move_481 ?_
                                refine r_puti (pc := 482) (T := TX24) (key := 24067) 24 67 hk170 (Or.inl q2765) dX24_move_482 kc24 rfl (Or.inl rfl) (Or.inl (em rfl)) ?_
                                refine r_nameH (fun h171 eh171 => ?_)
                                have K := K h171 eh171
                                refine r_goto (pc := 485) (tgt := 604) dX24_move_485 rfl ?_
                                exact r_vret (pc := 604) rfl dX24_move_604 K
                              · by_cases c172 : v1 = 120
                                · have K := K230.2.2.2.2.2.2.2.2.2.2.2.2.2.2.1 c172
                                  refine r_tableIn (pc := 20) (tgt := 488) dX24_move_20 (by rw [c172]; decide) (by rw [c172]; decide) (by rw [c172]; rfl) rfl ?_
                                  refine r_aload_n (pc := 488) dX24_move_488 rfl ?_
                                  refine r_iconst (pc := 489) (x := 1) dX24_move_489 rfl ?_
                                  have hk175 := kd_ext eh6 hk1 (nz rfl)
                                  refine r_callV_V (pc := 490) (Y := mX24_copy) (vs := [_]) (st := []) hk175 rfl kc24 q2674 q2676 qs128 dX24_move_490 rfl cd_X24_copy rfl rfl fp_X24_move_X24_copy K (fun h174 eh174 wh174 K => ?_) (fun x h1 _ _ e => Tw.out rfl e)
                                  refine r_goto (pc := 493) (tgt := 604) dX24_move_493 rfl ?_
                                  exact r_vret (pc := 604) rfl dX24_move_604 K
                                · by_cases c176 : v1 = 121
                                  · have K := K230.2.2.2.2.2.2.2.2.2.2.2.2.2.2.2.1 c176
                                    refine r_tableIn (pc := 20) (tgt := 496) dX24_move_20 (by rw [c176]; decide) (by rw [c176]; decide) (by rw [c176]; rfl) rfl ?_
                                    refine r_aload_n (pc := 496) dX24_move_496 rfl ?_
                                    refine r_iconst (pc := 497) (x := 0) dX24_move_497 rfl ?_
                                    refine r_iconst (pc := 498) (x := 4) dX24_move_498 rfl ?_
                                    have hk179 := kd_ext eh6 hk1 (nz rfl)
                                    refine r_callV_J (pc := 499) (Y := mX24_numberAt) (vs := [_, _]) (st := []) hk179 rfl kc24 q2526 q2528 qs100 dX24_move_499 rfl cd_X24_numberAt rfl rfl fp_X24_move_X24_numberAt K (fun x177 h178 eh178 wh178 K => ?_) (fun x h1 _ _ e => Tw.out rfl e)
                                    refine r_lstore (pc := 502) (lv' := [_, _, _, _, _, _, _, _]) dX24_move_502 (by decide) rfl ?_
                                    refine r_aload_n (pc := 504) dX24_move_504 rfl ?_
                                    refine r_dup (pc := 505) rfl dX24_move_505 ?_
                                    have hk180 := kd_ext eh178 hk179 (nz rfl)
                                    refine r_geti' (pc := 506) (T := TX24) 24 67 rfl hk180 (Or.inl q2765) dX24_move_506 kc24 g24067 ?_
                                    refine r_iconst (pc := 509) (x := 1) dX24_move_509 rfl ?_
                                    refine r_isub (pc := 510) dX24_move_510 ?_
                                    refine r_puti (pc := 511) (T := TX24) (key := 24067) 24 67 hk180 (Or.inl q2765) dX24_move_511 kc24 rfl (Or.inl rfl) (Or.inl (em rfl)) ?_
                                    refine r_nameH (fun h181 eh181 => ?_)
                                    have K := K h181 eh181
                                    refine r_aload_n (pc := 514) dX24_move_514 rfl ?_
                                    have hk182 := kd_pi eh181 hk180
                                    refine r_geti' (pc := 515) (T := TX24) 24 74 rfl hk182 (Or.inl q2772) dX24_move_515 kc24 g24074 ?_
                                    refine r_if_ne (pc := 518) (tgt := 539) dX24_move_518 rfl (fun c183 => ?_) (fun c183 => ?_)
                                    · have K := K.1 c183
                                      refine r_aload_n (pc := 539) dX24_move_539 rfl ?_
                                      refine r_iconst (pc := 540) (x := 1) dX24_move_540 rfl ?_
                                      refine r_putz (pc := 541) (T := TX24) (key := 24074) 24 74 hk182 (Or.inl q2772) dX24_move_541 kc24 rfl (Or.inl rfl) (Or.inl (em rfl)) (by decide) ?_
                                      refine r_nameH (fun h184 eh184 => ?_)
                                      have K := K h184 eh184
                                      refine r_goto (pc := 544) (tgt := 604) dX24_move_544 rfl ?_
                                      exact r_vret (pc := 604) rfl dX24_move_604 K
                                    · have K := K.2 c183
                                      refine r_lload (pc := 521) dX24_move_521 rfl ?_
                                      refine r_lconst (pc := 523) (a := 0) dX24_move_523 rfl ?_
                                      refine r_lcmp_lt (pc := 524) (tgt := 539) dX24_move_524 dX24_move_525 rfl (fun c185 => ?_) (fun c185 => ?_)
                                      · have K := K.1 c185
                                        refine r_aload_n (pc := 539) dX24_move_539 rfl ?_
                                        refine r_iconst (pc := 540) (x := 1) dX24_move_540 rfl ?_
                                        refine r_putz (pc := 541) (T := TX24) (key := 24074) 24 74 hk182 (Or.inl q2772) dX24_move_541 kc24 rfl (Or.inl rfl) (Or.inl (em rfl)) (by decide) ?_
                                        refine r_nameH (fun h186 eh186 => ?_)
                                        have K := K h186 eh186
                                        refine r_goto (pc := 544) (tgt := 604) dX24_move_544 rfl ?_
                                        exact r_vret (pc := 604) rfl dX24_move_604 K
                                      · have K := K.2 c185
                                        refine r_lload (pc := 528) dX24_move_528 rfl ?_
                                        refine r_aload_n (pc := 530) dX24_move_530 rfl ?_
                                        refine r_geti' (pc := 531) (T := TX24) 24 67 rfl hk182 (Or.inl q2765) dX24_move_531 kc24 g24067 ?_
                                        refine r_i2l (pc := 534) dX24_move_534 ?_
                                        refine r_lcmp_lt (pc := 535) (tgt := 547) dX24_move_535 dX24_move_536 rfl (fun c187 => ?_) (fun c187 => ?_)
                                        · have K := K.1 c187
                                          refine r_iload_n (pc := 547) dX24_move_547 rfl ?_
                                          refine r_bipush (pc := 548) (x := 121) dX24_move_548 rfl ?_
                                          refine r_icmp_ne (pc := 550) (tgt := 563) dX24_move_550 rfl (fun c188 => ?_) (fun c188 => ?_)
                                          · have K := K.1 c188
                                            refine r_aload_n (pc := 563) dX24_move_563 rfl ?_
                                            refine r_lload (pc := 564) dX24_move_564 rfl ?_
                                            refine r_l2i (pc := 566) dX24_move_566 ?_
                                            refine r_callV_V (pc := 567) (Y := mX24_lift) (vs := [_]) (st := []) hk182 rfl kc24 q2678 q2680 qs129 dX24_move_567 rfl cd_X24_lift rfl rfl fp_X24_move_X24_lift K (fun h190 eh190 wh190 K => ?_) (fun x h1 _ _ e => Tw.out rfl e)
                                            refine r_goto (pc := 570) (tgt := 604) dX24_move_570 rfl ?_
                                            exact r_vret (pc := 604) rfl dX24_move_604 K
                                          · have K := K.2 c188
                                            refine r_aload_n (pc := 553) dX24_move_553 rfl ?_
                                            refine r_lload (pc := 554) dX24_move_554 rfl ?_
                                            refine r_l2i (pc := 556) dX24_move_556 ?_
                                            refine r_callV_V (pc := 557) (Y := mX24_copy) (vs := [_]) (st := []) hk182 rfl kc24 q2674 q2676 qs128 dX24_move_557 rfl cd_X24_copy rfl rfl fp_X24_move_X24_copy K (fun h192 eh192 wh192 K => ?_) (fun x h1 _ _ e => Tw.out rfl e)
                                            refine r_goto (pc := 560) (tgt := 604) dX24_move_560 rfl ?_
                                            exact r_vret (pc := 604) rfl dX24_move_604 K
                                        · have K := K.2 c187
                                          refine r_aload_n (pc := 539) dX24_move_539 rfl ?_
                                          refine r_iconst (pc := 540) (x := 1) dX24_move_540 rfl ?_
                                          refine r_putz (pc := 541) (T := TX24) (key := 24074) 24 74 hk182 (Or.inl q2772) dX24_move_541 kc24 rfl (Or.inl rfl) (Or.inl (em rfl)) (by decide) ?_
                                          refine r_nameH (fun h193 eh193 => ?_)
                                          have K := K h193 eh193
                                          refine r_goto (pc := 544) (tgt := 604) dX24_move_544 rfl ?_
                                          exact r_vret (pc := 604) rfl dX24_move_604 K
                                  · by_cases c194 : v1 = 122
                                    · have K := K230.2.2.2.2.2.2.2.2.2.2.2.2.2.2.2.2.1 c194
                                      refine r_tableIn (pc := 20) (tgt := 496) dX24_move_20 (by rw [c194]; decide) (by rw [c194]; decide) (by rw [c194]; rfl) rfl ?_
                                      refine r_aload_n (pc := 496) dX24_move_496 rfl ?_
                                      refine r_iconst (pc := 497) (x := 0) dX24_move_497 rfl ?_
                                      refine r_iconst (pc := 498) (x := 4) dX24_move_498 rfl ?_
                                      have hk197 := kd_ext eh6 hk1 (nz rfl)
                                      refine r_callV_J (pc := 499) (Y := mX24_numberAt) (vs := [_, _]) (st := []) hk197 rfl kc24 q2526 q2528 qs100 dX24_move_499 rfl cd_X24_numberAt rfl rfl fp_X24_move_X24_numberAt K (fun x195 h196 eh196 wh196 K => ?_) (fun x h1 _ _ e => Tw.out rfl e)
                                      refine r_lstore (pc := 502) (lv' := [_, _, _, _, _, _, _, _]) dX24_move_502 (by decide) rfl ?_
                                      refine r_aload_n (pc := 504) dX24_move_504 rfl ?_
                                      refine r_dup (pc := 505) rfl dX24_move_505 ?_
                                      have hk198 := kd_ext eh196 hk197 (nz rfl)
                                      refine r_geti' (pc := 506) (T := TX24) 24 67 rfl hk198 (Or.inl q2765) dX24_move_506 kc24 g24067 ?_
                                      refine r_iconst (pc := 509) (x := 1) dX24_move_509 rfl ?_
                                      refine r_isub (pc := 510) dX24_move_510 ?_
                                      refine r_puti (pc := 511) (T := TX24) (key := 24067) 24 67 hk198 (Or.inl q2765) dX24_move_511 kc24 rfl (Or.inl rfl) (Or.inl (em rfl)) ?_
                                      refine r_nameH (fun h199 eh199 => ?_)
                                      have K := K h199 eh199
                                      refine r_aload_n (pc := 514) dX24_move_514 rfl ?_
                                      have hk200 := kd_pi eh199 hk198
                                      refine r_geti' (pc := 515) (T := TX24) 24 74 rfl hk200 (Or.inl q2772) dX24_move_515 kc24 g24074 ?_
                                      refine r_if_ne (pc := 518) (tgt := 539) dX24_move_518 rfl (fun c201 => ?_) (fun c201 => ?_)
                                      · have K := K.1 c201
                                        refine r_aload_n (pc := 539) dX24_move_539 rfl ?_
                                        refine r_iconst (pc := 540) (x := 1) dX24_move_540 rfl ?_
                                        refine r_putz (pc := 541) (T := TX24) (key := 24074) 24 74 hk200 (Or.inl q2772) dX24_move_541 kc24 rfl (Or.inl rfl) (Or.inl (em rfl)) (by decide) ?_
                                        refine r_nameH (fun h202 eh202 => ?_)
                                        have K := K h202 eh202
                                        refine r_goto (pc := 544) (tgt := 604) dX24_move_544 rfl ?_
                                        exact r_vret (pc := 604) rfl dX24_move_604 K
                                      · have K := K.2 c201
                                        refine r_lload (pc := 521) dX24_move_521 rfl ?_
                                        refine r_lconst (pc := 523) (a := 0) dX24_move_523 rfl ?_
                                        refine r_lcmp_lt (pc := 524) (tgt := 539) dX24_move_524 dX24_move_525 rfl (fun c203 => ?_) (fun c203 => ?_)
                                        · have K := K.1 c203
                                          refine r_aload_n (pc := 539) dX24_move_539 rfl ?_
                                          refine r_iconst (pc := 540) (x := 1) dX24_move_540 rfl ?_
                                          refine r_putz (pc := 541) (T := TX24) (key := 24074) 24 74 hk200 (Or.inl q2772) dX24_move_541 kc24 rfl (Or.inl rfl) (Or.inl (em rfl)) (by decide) ?_
                                          refine r_nameH (fun h204 eh204 => ?_)
                                          have K := K h204 eh204
                                          refine r_goto (pc := 544) (tgt := 604) dX24_move_544 rfl ?_
                                          exact r_vret (pc := 604) rfl dX24_move_604 K
                                        · have K := K.2 c203
                                          refine r_lload (pc := 528) dX24_move_528 rfl ?_
                                          refine r_aload_n (pc := 530) dX24_move_530 rfl ?_
                                          refine r_geti' (pc := 531) (T := TX24) 24 67 rfl hk200 (Or.inl q2765) dX24_move_531 kc24 g24067 ?_
                                          refine r_i2l (pc := 534) dX24_move_534 ?_
                                          refine r_lcmp_lt (pc := 535) (tgt := 547) dX24_move_535 dX24_move_536 rfl (fun c205 => ?_) (fun c205 => ?_)
                                          · have K := K.1 c205
                                            refine r_iload_n (pc := 547) dX24_move_547 rfl ?_
                                            refine r_bipush (pc := 548) (x := 121) dX24_move_548 rfl ?_
                                            refine r_icmp_ne (pc := 550) (tgt := 563) dX24_move_550 rfl (fun c206 => ?_) (fun c206 => ?_)
                                            · have K := K.1 c206
                                              refine r_aload_n (pc := 563) dX24_move_563 rfl ?_
                                              refine r_lload (pc := 564) dX24_move_564 rfl ?_
                                              refine r_l2i (pc := 566) dX24_move_566 ?_
                                              refine r_callV_V (pc := 567) (Y := mX24_lift) (vs := [_]) (st := []) hk200 rfl kc24 q2678 q2680 qs129 dX24_move_567 rfl cd_X24_lift rfl rfl fp_X24_move_X24_lift K (fun h208 eh208 wh208 K => ?_) (fun x h1 _ _ e => Tw.out rfl e)
                                              refine r_goto (pc := 570) (tgt := 604) dX24_move_570 rfl ?_
                                              exact r_vret (pc := 604) rfl dX24_move_604 K
                                            · have K := K.2 c206
                                              refine r_aload_n (pc := 553) dX24_move_553 rfl ?_
                                              refine r_lload (pc := 554) dX24_move_554 rfl ?_
                                              refine r_l2i (pc := 556) dX24_move_556 ?_
                                              refine r_callV_V (pc := 557) (Y := mX24_copy) (vs := [_]) (st := []) hk200 rfl kc24 q2674 q2676 qs128 dX24_move_557 rfl cd_X24_copy rfl rfl fp_X24_move_X24_copy K (fun h210 eh210 wh210 K => ?_) (fun x h1 _ _ e => Tw.out rfl e)
                                              refine r_goto (pc := 560) (tgt := 604) dX24_move_560 rfl ?_
                                              exact r_vret (pc := 604) rfl dX24_move_604 K
                                          · have K := K.2 c205
                                            refine r_aload_n (pc := 539) dX24_move_539 rfl ?_
                                            refine r_iconst (pc := 540) (x := 1) dX24_move_540 rfl ?_
                                            refine r_putz (pc := 541) (T := TX24) (key := 24074) 24 74 hk200 (Or.inl q2772) dX24_move_541 kc24 rfl (Or.inl rfl) (Or.inl (em rfl)) (by decide) ?_
                                            refine r_nameH (fun h211 eh211 => ?_)
                                            have K := K h211 eh211
                                            refine r_goto (pc := 544) (tgt := 604) dX24_move_544 rfl ?_
                                            exact r_vret (pc := 604) rfl dX24_move_604 K
                                    · by_cases c212 : v1 = 123
                                      · have K := K230.2.2.2.2.2.2.2.2.2.2.2.2.2.2.2.2.2.1 c212
                                        refine r_tableIn (pc := 20) (tgt := 573) dX24_move_20 (by rw [c212]; decide) (by rw [c212]; decide) (by rw [c212]; rfl) rfl ?_
                                        refine r_aload_n (pc := 573) dX24_move_573 rfl ?_
                                        refine r_iconst (pc := 574) (x := 2) dX24_move_574 rfl ?_
                                        have hk215 := kd_ext eh6 hk1 (nz rfl)
                                        refine r_callV_V (pc := 575) (Y := mX24_lift) (vs := [_]) (st := []) hk215 rfl kc24 q2678 q2680 qs129 dX24_move_575 rfl cd_X24_lift rfl rfl fp_X24_move_X24_lift K (fun h214 eh214 wh214 K => ?_) (fun x h1 _ _ e => Tw.out rfl e)
                                        refine r_goto (pc := 578) (tgt := 604) dX24_move_578 rfl ?_
                                        exact r_vret (pc := 604) rfl dX24_move_604 K
                                      · by_cases c216 : v1 = 124
                                        · have K := K230.2.2.2.2.2.2.2.2.2.2.2.2.2.2.2.2.2.2.1 c216
                                          refine r_tableIn (pc := 20) (tgt := 581) dX24_move_20 (by rw [c216]; decide) (by rw [c216]; decide) (by rw [c216]; rfl) rfl ?_
                                          refine r_aload_n (pc := 581) dX24_move_581 rfl ?_
                                          refine r_iconst (pc := 582) (x := 1) dX24_move_582 rfl ?_
                                          have hk219 := kd_ext eh6 hk1 (nz rfl)
                                          refine r_callV_V (pc := 583) (Y := mX24_lift) (vs := [_]) (st := []) hk219 rfl kc24 q2678 q2680 qs129 dX24_move_583 rfl cd_X24_lift rfl rfl fp_X24_move_X24_lift K (fun h218 eh218 wh218 K => ?_) (fun x h1 _ _ e => Tw.out rfl e)
                                          refine r_goto (pc := 586) (tgt := 604) dX24_move_586 rfl ?_
                                          exact r_vret (pc := 604) rfl dX24_move_604 K
                                        · have K := K230.2.2.2.2.2.2.2.2.2.2.2.2.2.2.2.2.2.2.2 ⟨c8, c23, c70, c121, c124, c125, c126, c133, c140, c147, c155, c159, c162, c166, c172, c176, c194, c212, c216⟩
                                          refine r_tableD (pc := 20) (tgt := 589) dX24_move_20 (by decide) ?_ rfl ?_
                                          · intro i hi hq
                                            match i, hi with
                                            | 0, _ => exact c8
                                            | 1, _ => exact absurd rfl hq
                                            | 2, _ => exact c23
                                            | 3, _ => exact c70
                                            | 4, _ => exact c121
                                            | 5, _ => exact c124
                                            | 6, _ => exact c125
                                            | 7, _ => exact c126
                                            | 8, _ => exact c133
                                            | 9, _ => exact c140
                                            | 10, _ => exact c147
                                            | 11, _ => exact c155
                                            | 12, _ => exact c159
                                            | 13, _ => exact c162
                                            | 14, _ => exact c166
                                            | 15, _ => exact c172
                                            | 16, _ => exact c176
                                            | 17, _ => exact c194
                                            | 18, _ => exact c212
                                            | 19, _ => exact c216
                                            | i + 20, hi => exact absurd hi (Nat.not_lt.mpr (Nat.le_add_left 20 i))
                                          · refine r_aload_n (pc := 589) dX24_move_589 rfl ?_
                                            refine r_iconst (pc := 590) (x := 0) dX24_move_590 rfl ?_
                                            have hk222 := kd_ext eh6 hk1 (nz rfl)
                                            refine r_callV_V (pc := 591) (Y := mX24_copy) (vs := [_]) (st := []) hk222 rfl kc24 q2674 q2676 qs128 dX24_move_591 rfl cd_X24_copy rfl rfl fp_X24_move_X24_copy K (fun h221 eh221 wh221 K => ?_) (fun x h1 _ _ e => Tw.out rfl e)
                                            refine r_aload_n (pc := 594) dX24_move_594 rfl ?_
                                            refine r_iconst (pc := 595) (x := 2) dX24_move_595 rfl ?_
                                            have hk225 := kd_ext eh221 hk222 (nz rfl)
                                            refine r_callV_V (pc := 596) (Y := mX24_lift) (vs := [_]) (st := []) hk225 rfl kc24 q2678 q2680 qs129 dX24_move_596 rfl cd_X24_lift rfl rfl fp_X24_move_X24_lift K (fun h224 eh224 wh224 K => ?_) (fun x h1 _ _ e => Tw.out rfl e)
                                            refine r_aload_n (pc := 599) dX24_move_599 rfl ?_
                                            refine r_iconst (pc := 600) (x := 2) dX24_move_600 rfl ?_
                                            have hk228 := kd_ext eh224 hk225 (nz rfl)
                                            refine r_callV_V (pc := 601) (Y := mX24_lift) (vs := [_]) (st := []) hk228 rfl kc24 q2678 q2680 qs129 dX24_move_601 rfl cd_X24_lift rfl rfl fp_X24_move_X24_lift K (fun h227 eh227 wh227 K => ?_) (fun x h1 _ _ e => Tw.out rfl e)
                                            exact r_vret (pc := 604) rfl dX24_move_604 K
  · have K := K.2 c7
    exact r_vret (pc := 18) rfl dX24_move_18 K
theorem eX24_move {G : Gx} {d : Nat} {Φ : Out → AH → Prop} (h : AH) (v0 : Nat) (v1 : Int32) (K : WF G h → Aw G mX24_move (d + 1) 0 h Φ 0 [vR v0, vI v1, vU, vU, vU, vU, vU, vU] [] h) : Cw G mX24_move (d + 1) 0 [vR v0, vI v1] h Φ := Cw.of rfl K
set_option maxHeartbeats 4000000 in
theorem sX24_move_358 {G : Gx} {d t : Nat} {h0 : AH} {Φ : Out → AH → Prop} (h : AH) (v0 : Nat) (v5 : Int32) (v6 : Int32) (K : ((v5 ≤ v6 → Φ (.inl none) h) ∧ (¬ v5 ≤ v6 → h.kd v0 = 24 ∧ Cw G mX24_copy d 0 [vR v0, vI (v5 - 1)] h (kV (fun h3 => Aw G mX24_move (d + 1) t h0 Φ 358 [vR v0, vU, vU, vU, vU, vI v5, vI (v6 + 1), vU] [] h3) (fun x h => Φ (.inr x) h))))) : Aw G mX24_move (d + 1) t h0 Φ 358 [vR v0, vU, vU, vU, vU, vI v5, vI v6, vU] [] h := by
  refine r_iload (pc := 358) dX24_move_358 rfl ?_
  refine r_iload (pc := 360) dX24_move_360 rfl ?_
  refine r_icmp_ge (pc := 362) (tgt := 379) dX24_move_362 rfl (fun c1 => ?_) (fun c1 => ?_)
  · have K := K.1 c1
    refine r_goto (pc := 379) (tgt := 604) dX24_move_379 rfl ?_
    exact r_vret (pc := 604) rfl dX24_move_604 K
  · have K := K.2 c1
    refine r_aload_n (pc := 365) dX24_move_365 rfl ?_
    refine r_iload (pc := 366) dX24_move_366 rfl ?_
    refine r_iconst (pc := 368) (x := 1) dX24_move_368 rfl ?_
    refine r_isub (pc := 369) dX24_move_369 ?_
    obtain ⟨hk4, K⟩ := K
    refine r_callV_V (pc := 370) (Y := mX24_copy) (vs := [_]) (st := []) hk4 rfl kc24 q2674 q2676 qs128 dX24_move_370 rfl cd_X24_copy rfl rfl fp_X24_move_X24_copy K (fun h3 eh3 wh3 K => ?_) (fun x h1 _ _ e => Tw.out rfl e)
    refine r_iinc (pc := 373) (lv' := [_, _, _, _, _, _, _, _]) dX24_move_373 rfl rfl (by decide) rfl ?_
    refine r_goto (pc := 376) (tgt := 358) dX24_move_376 rfl ?_
    refine r_mask (pc := 358) [true, false, false, false, false, true, true, false] rfl ?_
    exact K

/-! printed by gen/segs.py: decode rows and segment lemmas of: X10_open X12_init X10_add X10_latest X11_clear X11_copy X11_init X13_init X10_input X11_put X11_count X12_write X14_init X10_output X11_push X16_init X16_at X16_pass X16_number X16_count X18_init X19_init X20_init X8_digest X8_copy X8_put X8_count X8_step X8_code X8_make X8_of X18_sameId X23_output X9_start X9_find X9_put X9_remove X23_coinbase X22_isTrue X22_set X22_init X22_number X22_be X8_signed X22_same X8_lock X8_sequence X9_get X23_init X15_init X16_ended X10_init X8_init X9_init -/
set_option maxRecDepth 100000
theorem dX10_open_0 : decode cX10_open 0 = .ok (.aload_n 0, 1) := by decide +kernel
theorem dX10_open_1 : decode cX10_open 1 = .ok (.aload_n 1, 1) := by decide +kernel
theorem dX10_open_2 : decode cX10_open 2 = .ok (.putfield 26, 3) := by decide +kernel
theorem dX10_open_5 : decode cX10_open 5 = .ok (.aload_n 0, 1) := by decide +kernel
theorem dX10_open_6 : decode cX10_open 6 = .ok (.lload_n 2, 1) := by decide +kernel
theorem dX10_open_7 : decode cX10_open 7 = .ok (.putfield 30, 3) := by decide +kernel
theorem dX10_open_10 : decode cX10_open 10 = .ok (.aload_n 0, 1) := by decide +kernel
theorem dX10_open_11 : decode cX10_open 11 = .ok (.iconst 0, 1) := by decide +kernel
theorem dX10_open_12 : decode cX10_open 12 = .ok (.putfield 34, 3) := by decide +kernel
theorem dX10_open_15 : decode cX10_open 15 = .ok (.return_, 1) := by decide +kernel
/-! CoinJudge$Draft.open(LCoinJudge$Block;J)V -/
set_option maxHeartbeats 4000000 in
theorem sX10_open_0 {G : Gx} {d t : Nat} {h0 : AH} {Φ : Out → AH → Prop} (h : AH) (v0 : Nat) (v1 : Nat) (v2 : Int64) (K : h.kd v0 = 10 ∧ ∀ h2 : AH, h2 = h.pr 10000 v0 v1 → ∀ h4 : AH, h4 = h2.pl 10001 v0 v2 → ∀ h6 : AH, h6 = h4.pi 10003 v0 0 → Φ (.inl none) h6) : Aw G mX10_open (d + 1) t h0 Φ 0 [vR v0, vR v1, vJ v2, vU] [] h := by
  refine r_aload_n (pc := 0) dX10_open_0 rfl ?_
  refine r_aload_n (pc := 1) dX10_open_1 rfl ?_
  obtain ⟨hk1, K⟩ := K
  refine r_putr (pc := 2) (T := TX10) (key := 10000) 10 0 (ty := (.object "CoinJudge$Block")) hk1 (Or.inl q620) dX10_open_2 kc10 rfl rfl (Or.inl rfl) (Or.inl (em rfl)) ?_
  refine r_nameH (fun h2 eh2 => ?_)
  have K := K h2 eh2
  refine r_aload_n (pc := 5) dX10_open_5 rfl ?_
  refine r_lload_n (pc := 6) dX10_open_6 rfl ?_
  have hk3 := kd_pr eh2 hk1
  refine r_putl (pc := 7) (T := TX10) (key := 10001) 10 1 hk3 (Or.inl q622) dX10_open_7 kc10 rfl (Or.inl rfl) (Or.inl (em rfl)) ?_
  refine r_nameH (fun h4 eh4 => ?_)
  have K := K h4 eh4
  refine r_aload_n (pc := 10) dX10_open_10 rfl ?_
  refine r_iconst (pc := 11) (x := 0) dX10_open_11 rfl ?_
  have hk5 := kd_pl eh4 hk3
  refine r_puti (pc := 12) (T := TX10) (key := 10003) 10 3 hk5 (Or.inl q626) dX10_open_12 kc10 rfl (Or.inl rfl) (Or.inl (em rfl)) ?_
  refine r_nameH (fun h6 eh6 => ?_)
  have K := K h6 eh6
  exact r_vret (pc := 15) rfl dX10_open_15 K
theorem eX10_open {G : Gx} {d : Nat} {Φ : Out → AH → Prop} (h : AH) (v0 : Nat) (v1 : Nat) (v2 : Int64) (K : WF G h → Aw G mX10_open (d + 1) 0 h Φ 0 [vR v0, vR v1, vJ v2, vU] [] h) : Cw G mX10_open (d + 1) 0 [vR v0, vR v1, vJ v2] h Φ := Cw.of rfl K
theorem dX12_init_0 : decode cX12_init 0 = .ok (.aload_n 0, 1) := by decide +kernel
theorem dX12_init_1 : decode cX12_init 1 = .ok (.invokespecial 1, 3) := by decide +kernel
theorem dX12_init_4 : decode cX12_init 4 = .ok (.aload_n 0, 1) := by decide +kernel
theorem dX12_init_5 : decode cX12_init 5 = .ok (.bipush 6, 2) := by decide +kernel
theorem dX12_init_7 : decode cX12_init 7 = .ok (.anewarray 9, 3) := by decide +kernel
theorem dX12_init_10 : decode cX12_init 10 = .ok (.putfield 11, 3) := by decide +kernel
theorem dX12_init_13 : decode cX12_init 13 = .ok (.aload_n 0, 1) := by decide +kernel
theorem dX12_init_14 : decode cX12_init 14 = .ok (.bipush 6, 2) := by decide +kernel
theorem dX12_init_16 : decode cX12_init 16 = .ok (.anewarray 15, 3) := by decide +kernel
theorem dX12_init_19 : decode cX12_init 19 = .ok (.putfield 17, 3) := by decide +kernel
theorem dX12_init_22 : decode cX12_init 22 = .ok (.return_, 1) := by decide +kernel
/-! CoinJudge$DraftTx.<init>()V -/
set_option maxHeartbeats 4000000 in
theorem sX12_init_0 {G : Gx} {d t : Nat} {h0 : AH} {Φ : Out → AH → Prop} (h : AH) (v0 : Nat) (K : h.kd v0 = 12 ∧ ∀ q2 : Nat, q2 = h.z → WF G h → ∀ h3 : AH, h3 = h.new 108 6 [] [] (List.replicate 6 0) → ∀ h6 : AH, h6 = h3.pr 12002 v0 q2 → ∀ q7 : Nat, q7 = h6.z → WF G h6 → ∀ h8 : AH, h8 = h6.new 109 6 [] [] (List.replicate 6 0) → ∀ h12 : AH, h12 = h8.pr 12003 v0 q7 → Φ (.inl none) h12) : Aw G mX12_init (d + 1) v0 h0 Φ 0 [vR v0] [] h := by
  refine r_aload_n (pc := 0) dX12_init_0 rfl ?_
  obtain ⟨hk1, K⟩ := K
  refine r_objInit (pc := 1) (nzk hk1 rfl) q656 q207 q208 dX12_init_1 (by decide) ?_
  refine r_aload_n (pc := 4) dX12_init_4 rfl ?_
  refine r_bipush (pc := 5) (x := 6) dX12_init_5 rfl ?_
  refine r_newaR (pc := 7) 108 (N := 6) rfl q657 (by decide) rfl (by decide) dX12_init_7 (fun q2 eq2 zq2 wq2 => ?_)
  refine r_nameH (fun h3 eh3 => ?_)
  have K := K q2 eq2 wq2 h3 eh3
  have hk4 := kd_newSE eh3 eq2
  have hk5 := kd_newE eh3 wq2 hk1 (nz rfl)
  refine r_putr (pc := 10) (T := TX12) (key := 12002) 12 2 (ty := (.array (.object "CoinJudge$DraftInput"))) hk5 (Or.inl q665) dX12_init_10 kc12 rfl rfl (Or.inr q665) (Or.inr (Or.inl rfl)) ?_
  refine r_nameH (fun h6 eh6 => ?_)
  have K := K h6 eh6
  refine r_aload_n (pc := 13) dX12_init_13 rfl ?_
  refine r_bipush (pc := 14) (x := 6) dX12_init_14 rfl ?_
  refine r_newaR (pc := 16) 109 (N := 6) rfl q659 (by decide) rfl (by decide) dX12_init_16 (fun q7 eq7 zq7 wq7 => ?_)
  refine r_nameH (fun h8 eh8 => ?_)
  have K := K q7 eq7 wq7 h8 eh8
  have hk9 := kd_newSE eh8 eq7
  have hk10 := kd_pr eh6 hk5
  have hk11 := kd_newE eh8 wq7 hk10 (nz rfl)
  refine r_putr (pc := 19) (T := TX12) (key := 12003) 12 3 (ty := (.array (.object "CoinJudge$DraftOutput"))) hk11 (Or.inl q668) dX12_init_19 kc12 rfl rfl (Or.inr q668) (Or.inr (Or.inl rfl)) ?_
  refine r_nameH (fun h12 eh12 => ?_)
  have K := K h12 eh12
  exact r_vret (pc := 22) rfl dX12_init_22 K
theorem eX12_init {G : Gx} {d : Nat} {Φ : Out → AH → Prop} (h : AH) (v0 : Nat) (K : WF G h → Aw G mX12_init (d + 1) v0 h Φ 0 [vR v0] [] h) : Cw G mX12_init (d + 1) v0 [vR v0] h Φ := Cw.of rfl K
theorem dX10_add_0 : decode cX10_add 0 = .ok (.aload_n 0, 1) := by decide +kernel
theorem dX10_add_1 : decode cX10_add 1 = .ok (.getfield 11, 3) := by decide +kernel
theorem dX10_add_4 : decode cX10_add 4 = .ok (.aload_n 0, 1) := by decide +kernel
theorem dX10_add_5 : decode cX10_add 5 = .ok (.getfield 34, 3) := by decide +kernel
theorem dX10_add_8 : decode cX10_add 8 = .ok (.aaload, 1) := by decide +kernel
theorem dX10_add_9 : decode cX10_add 9 = .ok (.ifnonnull 19, 3) := by decide +kernel
theorem dX10_add_12 : decode cX10_add 12 = .ok (.aload_n 0, 1) := by decide +kernel
theorem dX10_add_13 : decode cX10_add 13 = .ok (.getfield 11, 3) := by decide +kernel
theorem dX10_add_16 : decode cX10_add 16 = .ok (.aload_n 0, 1) := by decide +kernel
theorem dX10_add_17 : decode cX10_add 17 = .ok (.getfield 34, 3) := by decide +kernel
theorem dX10_add_20 : decode cX10_add 20 = .ok (.new 9, 3) := by decide +kernel
theorem dX10_add_23 : decode cX10_add 23 = .ok (.dup, 1) := by decide +kernel
theorem dX10_add_24 : decode cX10_add 24 = .ok (.invokespecial 38, 3) := by decide +kernel
theorem dX10_add_27 : decode cX10_add 27 = .ok (.aastore, 1) := by decide +kernel
theorem dX10_add_28 : decode cX10_add 28 = .ok (.aload_n 0, 1) := by decide +kernel
theorem dX10_add_29 : decode cX10_add 29 = .ok (.getfield 11, 3) := by decide +kernel
theorem dX10_add_32 : decode cX10_add 32 = .ok (.aload_n 0, 1) := by decide +kernel
theorem dX10_add_33 : decode cX10_add 33 = .ok (.getfield 34, 3) := by decide +kernel
theorem dX10_add_36 : decode cX10_add 36 = .ok (.aaload, 1) := by decide +kernel
theorem dX10_add_37 : decode cX10_add 37 = .ok (.astore 5, 2) := by decide +kernel
theorem dX10_add_39 : decode cX10_add 39 = .ok (.aload 5, 2) := by decide +kernel
theorem dX10_add_41 : decode cX10_add 41 = .ok (.lload_n 1, 1) := by decide +kernel
theorem dX10_add_42 : decode cX10_add 42 = .ok (.putfield 39, 3) := by decide +kernel
theorem dX10_add_45 : decode cX10_add 45 = .ok (.aload 5, 2) := by decide +kernel
theorem dX10_add_47 : decode cX10_add 47 = .ok (.lload_n 3, 1) := by decide +kernel
theorem dX10_add_48 : decode cX10_add 48 = .ok (.putfield 42, 3) := by decide +kernel
theorem dX10_add_51 : decode cX10_add 51 = .ok (.aload 5, 2) := by decide +kernel
theorem dX10_add_53 : decode cX10_add 53 = .ok (.iconst 0, 1) := by decide +kernel
theorem dX10_add_54 : decode cX10_add 54 = .ok (.putfield 45, 3) := by decide +kernel
theorem dX10_add_57 : decode cX10_add 57 = .ok (.aload 5, 2) := by decide +kernel
theorem dX10_add_59 : decode cX10_add 59 = .ok (.iconst 0, 1) := by decide +kernel
theorem dX10_add_60 : decode cX10_add 60 = .ok (.putfield 48, 3) := by decide +kernel
theorem dX10_add_63 : decode cX10_add 63 = .ok (.aload_n 0, 1) := by decide +kernel
theorem dX10_add_64 : decode cX10_add 64 = .ok (.dup, 1) := by decide +kernel
theorem dX10_add_65 : decode cX10_add 65 = .ok (.getfield 34, 3) := by decide +kernel
theorem dX10_add_68 : decode cX10_add 68 = .ok (.iconst 1, 1) := by decide +kernel
theorem dX10_add_69 : decode cX10_add 69 = .ok (.iadd, 1) := by decide +kernel
theorem dX10_add_70 : decode cX10_add 70 = .ok (.putfield 34, 3) := by decide +kernel
theorem dX10_add_73 : decode cX10_add 73 = .ok (.return_, 1) := by decide +kernel
/-! CoinJudge$Draft.add(JJ)V -/
set_option maxHeartbeats 4000000 in
theorem sX10_add_0 {G : Gx} {d t : Nat} {h0 : AH} {Φ : Out → AH → Prop} (h : AH) (v0 : Nat) (v1 : Int64) (v3 : Int64) (K : h.kd v0 = 10 ∧ ∀ r2 : Nat, r2 = (h.r 10002 v0) → h.kd r2 = 107 ∧ vp_in (h.i 10003 v0) (h.ar r2).length ∧ ∀ r5 : Nat, r5 = ((h.ar r2).getD ((h.i 10003 v0).toNatClampNeg) 0) → ((¬ r5 = 0 → Aw G mX10_add (d + 1) t h0 Φ 28 [vR v0, vJ v1, vU, vJ v3, vU, vU] [] h) ∧ (r5 = 0 → ∀ q7 : Nat, q7 = h.z → WF G h → ∀ h8 : AH, h8 = h.new 12 6 [] [] [] → Cw G mX12_init d q7 [vR q7] h8 (kV (fun h11 => vp_in (h.i 10003 v0) (h11.ar r2).length ∧ (q7 = 0 ∨ h11.kd q7 = 12) ∧ ∀ h16 : AH, h16 = h11.wr r2 ((h11.ar r2).set ((h.i 10003 v0).toNatClampNeg) q7) → Aw G mX10_add (d + 1) t h0 Φ 28 [vR v0, vJ v1, vU, vJ v3, vU, vU] [] h16) (fun x h => Φ (.inr x) h))))) : Aw G mX10_add (d + 1) t h0 Φ 0 [vR v0, vJ v1, vU, vJ v3, vU, vU] [] h := by
  refine r_aload_n (pc := 0) dX10_add_0 rfl ?_
  obtain ⟨hk1, K⟩ := K
  have K := K _ rfl
  refine r_getr' (pc := 1) (T := TX10) 10 2 rfl hk1 (Or.inl q624) dX10_add_1 kc10 g10002 ?_
  refine r_aload_n (pc := 4) dX10_add_4 rfl ?_
  refine r_geti' (pc := 5) (T := TX10) 10 3 rfl hk1 (Or.inl q626) dX10_add_5 kc10 g10003 ?_
  obtain ⟨hk3, K⟩ := K
  obtain ⟨hi4, K⟩ := K
  have K := K _ rfl
  refine r_aaload (pc := 8) (le_of_eq_r hk3 (by decide)) hi4 dX10_add_8 ?_
  refine r_ifnonnull (pc := 9) (tgt := 28) dX10_add_9 rfl (fun c6 => ?_) (fun c6 => ?_)
  · have K := K.1 c6
    refine r_mask (pc := 28) [true, true, false, true, false, false] rfl ?_
    exact K
  · have K := K.2 c6
    refine r_aload_n (pc := 12) dX10_add_12 rfl ?_
    refine r_getr' (pc := 13) (T := TX10) 10 2 rfl hk1 (Or.inl q624) dX10_add_13 kc10 g10002 ?_
    refine r_aload_n (pc := 16) dX10_add_16 rfl ?_
    refine r_geti' (pc := 17) (T := TX10) 10 3 rfl hk1 (Or.inl q626) dX10_add_17 kc10 g10003 ?_
    refine r_new (pc := 20) 12 kc12 rfl q601 q652 q166 dX10_add_20 (fun q7 eq7 zq7 wq7 => ?_)
    refine r_nameH (fun h8 eh8 => ?_)
    have K := K q7 eq7 wq7 h8 eh8
    have hk9 := kd_newSE eh8 eq7
    refine r_dup (pc := 23) rfl dX10_add_23 ?_
    refine r_callIN_V (pc := 24) (Y := mX12_init) (vs := []) (st := [_, _, _]) (nzk hk9 rfl) q653 q654 q655 rfl rfl rfl dX10_add_24 rfl (Or.inr zq7) rfl rfl fp_X10_add_X12_init K (fun h11 eh11 wh11 K => ?_) (fun x h1 _ _ e => Tw.out rfl e)
    have hk12 := kd_newE eh8 wq7 hk3 (nz rfl)
    have hk13 := kd_ext eh11 hk12 (nz rfl)
    obtain ⟨hi14, K⟩ := K
    obtain ⟨hk15, K⟩ := K
    refine r_aastore (pc := 27) 107 12 hk13 rfl kc12 hi14 hk15 (Or.inl (em rfl)) dX10_add_27 rfl ?_
    refine r_nameH (fun h16 eh16 => ?_)
    have K := K h16 eh16
    refine r_mask (pc := 28) [true, true, false, true, false, false] rfl ?_
    exact K
theorem eX10_add {G : Gx} {d : Nat} {Φ : Out → AH → Prop} (h : AH) (v0 : Nat) (v1 : Int64) (v3 : Int64) (K : WF G h → Aw G mX10_add (d + 1) 0 h Φ 0 [vR v0, vJ v1, vU, vJ v3, vU, vU] [] h) : Cw G mX10_add (d + 1) 0 [vR v0, vJ v1, vJ v3] h Φ := Cw.of rfl K
set_option maxHeartbeats 4000000 in
theorem sX10_add_28 {G : Gx} {d t : Nat} {h0 : AH} {Φ : Out → AH → Prop} (h : AH) (v0 : Nat) (v1 : Int64) (v3 : Int64) (K : h.kd v0 = 10 ∧ ∀ r2 : Nat, r2 = (h.r 10002 v0) → h.kd r2 = 107 ∧ vp_in (h.i 10003 v0) (h.ar r2).length ∧ ∀ r5 : Nat, r5 = ((h.ar r2).getD ((h.i 10003 v0).toNatClampNeg) 0) → h.kd r5 = 12 ∧ ∀ h7 : AH, h7 = h.pl 12000 r5 v1 → ∀ h9 : AH, h9 = h7.pl 12001 r5 v3 → ∀ h11 : AH, h11 = h9.pi 12004 r5 0 → ∀ h13 : AH, h13 = h11.pi 12005 r5 0 → ∀ h23 : AH, h23 = h13.pi 10003 v0 ((h.i 10003 v0) + 1) → Φ (.inl none) h23) : Aw G mX10_add (d + 1) t h0 Φ 28 [vR v0, vJ v1, vU, vJ v3, vU, vU] [] h := by
  refine r_aload_n (pc := 28) dX10_add_28 rfl ?_
  obtain ⟨hk1, K⟩ := K
  have K := K _ rfl
  refine r_getr' (pc := 29) (T := TX10) 10 2 rfl hk1 (Or.inl q624) dX10_add_29 kc10 g10002 ?_
  refine r_aload_n (pc := 32) dX10_add_32 rfl ?_
  refine r_geti' (pc := 33) (T := TX10) 10 3 rfl hk1 (Or.inl q626) dX10_add_33 kc10 g10003 ?_
  obtain ⟨hk3, K⟩ := K
  obtain ⟨hi4, K⟩ := K
  have K := K _ rfl
  refine r_aaload (pc := 36) (le_of_eq_r hk3 (by decide)) hi4 dX10_add_36 ?_
  refine r_astore (pc := 37) (lv' := [_, _, _, _, _, _]) dX10_add_37 (by decide) rfl ?_
  refine r_aload (pc := 39) dX10_add_39 rfl ?_
  refine r_lload_n (pc := 41) dX10_add_41 rfl ?_
  obtain ⟨hk6, K⟩ := K
  refine r_putl (pc := 42) (T := TX12) (key := 12000) 12 0 hk6 (Or.inr (Or.inl ⟨_, q662⟩)) dX10_add_42 kc12 rfl (Or.inl rfl) (Or.inl (em rfl)) ?_
  refine r_nameH (fun h7 eh7 => ?_)
  have K := K h7 eh7
  refine r_aload (pc := 45) dX10_add_45 rfl ?_
  refine r_lload_n (pc := 47) dX10_add_47 rfl ?_
  have hk8 := kd_pl eh7 hk6
  refine r_putl (pc := 48) (T := TX12) (key := 12001) 12 1 hk8 (Or.inr (Or.inl ⟨_, q664⟩)) dX10_add_48 kc12 rfl (Or.inl rfl) (Or.inl (em rfl)) ?_
  refine r_nameH (fun h9 eh9 => ?_)
  have K := K h9 eh9
  refine r_aload (pc := 51) dX10_add_51 rfl ?_
  refine r_iconst (pc := 53) (x := 0) dX10_add_53 rfl ?_
  have hk10 := kd_pl eh9 hk8
  refine r_puti (pc := 54) (T := TX12) (key := 12004) 12 4 hk10 (Or.inr (Or.inl ⟨_, q671⟩)) dX10_add_54 kc12 rfl (Or.inl rfl) (Or.inl (em rfl)) ?_
  refine r_nameH (fun h11 eh11 => ?_)
  have K := K h11 eh11
  refine r_aload (pc := 57) dX10_add_57 rfl ?_
  refine r_iconst (pc := 59) (x := 0) dX10_add_59 rfl ?_
  have hk12 := kd_pi eh11 hk10
  refine r_puti (pc := 60) (T := TX12) (key := 12005) 12 5 hk12 (Or.inr (Or.inl ⟨_, q674⟩)) dX10_add_60 kc12 rfl (Or.inl rfl) (Or.inl (em rfl)) ?_
  refine r_nameH (fun h13 eh13 => ?_)
  have K := K h13 eh13
  refine r_aload_n (pc := 63) dX10_add_63 rfl ?_
  refine r_dup (pc := 64) rfl dX10_add_64 ?_
  have hk14 := kd_pl eh7 hk1
  have hk15 := kd_pl eh9 hk14
  have hk16 := kd_pi eh11 hk15
  have hk17 := kd_pi eh13 hk16
  have hv18 := fi_self (key := 10003) hk1
  have hv19 := fi_pl (key := 10003) eh7 hv18
  have hv20 := fi_pl (key := 10003) eh9 hv19
  have hv21 := fi_pi (key := 10003) eh11 (by decide) hv20
  have hv22 := fi_pi (key := 10003) eh13 (by decide) hv21
  refine r_geti' (pc := 65) (T := TX10) 10 3 hv22 hk17 (Or.inl q626) dX10_add_65 kc10 g10003 ?_
  refine r_iconst (pc := 68) (x := 1) dX10_add_68 rfl ?_
  refine r_iadd (pc := 69) dX10_add_69 ?_
  refine r_puti (pc := 70) (T := TX10) (key := 10003) 10 3 hk17 (Or.inl q626) dX10_add_70 kc10 rfl (Or.inl rfl) (Or.inl (em rfl)) ?_
  refine r_nameH (fun h23 eh23 => ?_)
  have K := K h23 eh23
  exact r_vret (pc := 73) rfl dX10_add_73 K
theorem dX10_latest_0 : decode cX10_latest 0 = .ok (.aload_n 0, 1) := by decide +kernel
theorem dX10_latest_1 : decode cX10_latest 1 = .ok (.getfield 11, 3) := by decide +kernel
theorem dX10_latest_4 : decode cX10_latest 4 = .ok (.aload_n 0, 1) := by decide +kernel
theorem dX10_latest_5 : decode cX10_latest 5 = .ok (.getfield 34, 3) := by decide +kernel
theorem dX10_latest_8 : decode cX10_latest 8 = .ok (.iconst 1, 1) := by decide +kernel
theorem dX10_latest_9 : decode cX10_latest 9 = .ok (.isub, 1) := by decide +kernel
theorem dX10_latest_10 : decode cX10_latest 10 = .ok (.aaload, 1) := by decide +kernel
theorem dX10_latest_11 : decode cX10_latest 11 = .ok (.areturn, 1) := by decide +kernel
/-! CoinJudge$Draft.latest()LCoinJudge$DraftTx; -/
set_option maxHeartbeats 4000000 in
theorem sX10_latest_0 {G : Gx} {d t : Nat} {h0 : AH} {Φ : Out → AH → Prop} (h : AH) (v0 : Nat) (K : h.kd v0 = 10 ∧ ∀ r2 : Nat, r2 = (h.r 10002 v0) → h.kd r2 = 107 ∧ vp_in ((h.i 10003 v0) - 1) (h.ar r2).length ∧ ∀ r5 : Nat, r5 = ((h.ar r2).getD (((h.i 10003 v0) - 1).toNatClampNeg) 0) → Φ (.inl (some (vR r5))) h) : Aw G mX10_latest (d + 1) t h0 Φ 0 [vR v0] [] h := by
  refine r_aload_n (pc := 0) dX10_latest_0 rfl ?_
  obtain ⟨hk1, K⟩ := K
  have K := K _ rfl
  refine r_getr' (pc := 1) (T := TX10) 10 2 rfl hk1 (Or.inl q624) dX10_latest_1 kc10 g10002 ?_
  refine r_aload_n (pc := 4) dX10_latest_4 rfl ?_
  refine r_geti' (pc := 5) (T := TX10) 10 3 rfl hk1 (Or.inl q626) dX10_latest_5 kc10 g10003 ?_
  refine r_iconst (pc := 8) (x := 1) dX10_latest_8 rfl ?_
  refine r_isub (pc := 9) dX10_latest_9 ?_
  obtain ⟨hk3, K⟩ := K
  obtain ⟨hi4, K⟩ := K
  have K := K _ rfl
  refine r_aaload (pc := 10) (le_of_eq_r hk3 (by decide)) hi4 dX10_latest_10 ?_
  exact r_aret (pc := 11) rfl rfl dX10_latest_11 K
theorem eX10_latest {G : Gx} {d : Nat} {Φ : Out → AH → Prop} (h : AH) (v0 : Nat) (K : WF G h → Aw G mX10_latest (d + 1) 0 h Φ 0 [vR v0] [] h) : Cw G mX10_latest (d + 1) 0 [vR v0] h Φ := Cw.of rfl K
theorem dX11_clear_0 : decode cX11_clear 0 = .ok (.aload_n 0, 1) := by decide +kernel
theorem dX11_clear_1 : decode cX11_clear 1 = .ok (.iconst 0, 1) := by decide +kernel
theorem dX11_clear_2 : decode cX11_clear 2 = .ok (.putfield 13, 3) := by decide +kernel
theorem dX11_clear_5 : decode cX11_clear 5 = .ok (.return_, 1) := by decide +kernel
/-! CoinJudge$Sink.clear()V -/
set_option maxHeartbeats 4000000 in
theorem sX11_clear_0 {G : Gx} {d t : Nat} {h0 : AH} {Φ : Out → AH → Prop} (h : AH) (v0 : Nat) (K : h.kd v0 = 11 ∧ ∀ h2 : AH, h2 = h.pi 11001 v0 0 → Φ (.inl none) h2) : Aw G mX11_clear (d + 1) t h0 Φ 0 [vR v0] [] h := by
  refine r_aload_n (pc := 0) dX11_clear_0 rfl ?_
  refine r_iconst (pc := 1) (x := 0) dX11_clear_1 rfl ?_
  obtain ⟨hk1, K⟩ := K
  refine r_puti (pc := 2) (T := TX11) (key := 11001) 11 1 hk1 (Or.inl q612) dX11_clear_2 kc11 rfl (Or.inl rfl) (Or.inl (em rfl)) ?_
  refine r_nameH (fun h2 eh2 => ?_)
  have K := K h2 eh2
  exact r_vret (pc := 5) rfl dX11_clear_5 K
theorem eX11_clear {G : Gx} {d : Nat} {Φ : Out → AH → Prop} (h : AH) (v0 : Nat) (K : WF G h → Aw G mX11_clear (d + 1) 0 h Φ 0 [vR v0] [] h) : Cw G mX11_clear (d + 1) 0 [vR v0] h Φ := Cw.of rfl K
theorem dX11_copy_0 : decode cX11_copy 0 = .ok (.aload_n 0, 1) := by decide +kernel
theorem dX11_copy_1 : decode cX11_copy 1 = .ok (.getfield 13, 3) := by decide +kernel
theorem dX11_copy_4 : decode cX11_copy 4 = .ok (.iload_n 3, 1) := by decide +kernel
theorem dX11_copy_5 : decode cX11_copy 5 = .ok (.iadd, 1) := by decide +kernel
theorem dX11_copy_6 : decode cX11_copy 6 = .ok (.aload_n 0, 1) := by decide +kernel
theorem dX11_copy_7 : decode cX11_copy 7 = .ok (.getfield 7, 3) := by decide +kernel
theorem dX11_copy_10 : decode cX11_copy 10 = .ok (.arraylength, 1) := by decide +kernel
theorem dX11_copy_11 : decode cX11_copy 11 = .ok (.if_icmp .le 11, 3) := by decide +kernel
theorem dX11_copy_14 : decode cX11_copy 14 = .ok (.new 17, 3) := by decide +kernel
theorem dX11_copy_17 : decode cX11_copy 17 = .ok (.dup, 1) := by decide +kernel
theorem dX11_copy_18 : decode cX11_copy 18 = .ok (.invokespecial 19, 3) := by decide +kernel
theorem dX11_copy_21 : decode cX11_copy 21 = .ok (.athrow, 1) := by decide +kernel
theorem dX11_copy_22 : decode cX11_copy 22 = .ok (.iconst 0, 1) := by decide +kernel
theorem dX11_copy_23 : decode cX11_copy 23 = .ok (.istore 4, 2) := by decide +kernel
theorem dX11_copy_25 : decode cX11_copy 25 = .ok (.iload 4, 2) := by decide +kernel
theorem dX11_copy_27 : decode cX11_copy 27 = .ok (.iload_n 3, 1) := by decide +kernel
theorem dX11_copy_28 : decode cX11_copy 28 = .ok (.if_icmp .ge 27, 3) := by decide +kernel
theorem dX11_copy_31 : decode cX11_copy 31 = .ok (.aload_n 0, 1) := by decide +kernel
theorem dX11_copy_32 : decode cX11_copy 32 = .ok (.getfield 7, 3) := by decide +kernel
theorem dX11_copy_35 : decode cX11_copy 35 = .ok (.aload_n 0, 1) := by decide +kernel
theorem dX11_copy_36 : decode cX11_copy 36 = .ok (.getfield 13, 3) := by decide +kernel
theorem dX11_copy_39 : decode cX11_copy 39 = .ok (.iload 4, 2) := by decide +kernel
theorem dX11_copy_41 : decode cX11_copy 41 = .ok (.iadd, 1) := by decide +kernel
theorem dX11_copy_42 : decode cX11_copy 42 = .ok (.aload_n 1, 1) := by decide +kernel
theorem dX11_copy_43 : decode cX11_copy 43 = .ok (.iload_n 2, 1) := by decide +kernel
theorem dX11_copy_44 : decode cX11_copy 44 = .ok (.iload 4, 2) := by decide +kernel
theorem dX11_copy_46 : decode cX11_copy 46 = .ok (.iadd, 1) := by decide +kernel
theorem dX11_copy_47 : decode cX11_copy 47 = .ok (.baload, 1) := by decide +kernel
theorem dX11_copy_48 : decode cX11_copy 48 = .ok (.bastore, 1) := by decide +kernel
theorem dX11_copy_49 : decode cX11_copy 49 = .ok (.iinc 4 1, 3) := by decide +kernel
theorem dX11_copy_52 : decode cX11_copy 52 = .ok (.goto (-27), 3) := by decide +kernel
theorem dX11_copy_55 : decode cX11_copy 55 = .ok (.aload_n 0, 1) := by decide +kernel
theorem dX11_copy_56 : decode cX11_copy 56 = .ok (.dup, 1) := by decide +kernel
theorem dX11_copy_57 : decode cX11_copy 57 = .ok (.getfield 13, 3) := by decide +kernel
theorem dX11_copy_60 : decode cX11_copy 60 = .ok (.iload_n 3, 1) := by decide +kernel
theorem dX11_copy_61 : decode cX11_copy 61 = .ok (.iadd, 1) := by decide +kernel
theorem dX11_copy_62 : decode cX11_copy 62 = .ok (.putfield 13, 3) := by decide +kernel
theorem dX11_copy_65 : decode cX11_copy 65 = .ok (.return_, 1) := by decide +kernel
/-! CoinJudge$Sink.copy([BII)V -/
set_option maxHeartbeats 4000000 in
theorem sX11_copy_0 {G : Gx} {d t : Nat} {h0 : AH} {Φ : Out → AH → Prop} (h : AH) (v0 : Nat) (v1 : Nat) (v2 : Int32) (v3 : Int32) (K : h.kd v0 = 11 ∧ ∀ r2 : Nat, r2 = (h.r 11000 v0) → h.kd r2 = 101 ∧ ((((h.i 11001 v0) + v3) ≤ (nI (h.ai r2).length) → Aw G mX11_copy (d + 1) t h0 Φ 25 [vR v0, vR v1, vI v2, vI v3, vI 0] [] h) ∧ (¬ ((h.i 11001 v0) + v3) ≤ (nI (h.ai r2).length) → ∀ q5 : Nat, q5 = h.z → WF G h → ∀ h6 : AH, h6 = h.new 30 6 [] [] [] → 5 ≤ d ∧ ∀ h9 : AH, h9 = exH G 30 q5 h6 → Φ (.inr q5) h9))) : Aw G mX11_copy (d + 1) t h0 Φ 0 [vR v0, vR v1, vI v2, vI v3, vU] [] h := by
  refine r_aload_n (pc := 0) dX11_copy_0 rfl ?_
  obtain ⟨hk1, K⟩ := K
  refine r_geti' (pc := 1) (T := TX11) 11 1 rfl hk1 (Or.inl q612) dX11_copy_1 kc11 g11001 ?_
  refine r_iload_n (pc := 4) dX11_copy_4 rfl ?_
  refine r_iadd (pc := 5) dX11_copy_5 ?_
  refine r_aload_n (pc := 6) dX11_copy_6 rfl ?_
  have K := K _ rfl
  refine r_getr' (pc := 7) (T := TX11) 11 0 rfl hk1 (Or.inl q609) dX11_copy_7 kc11 g11000 ?_
  obtain ⟨hk3, K⟩ := K
  refine r_alenI (pc := 10) (al_lt hk3 rfl) dX11_copy_10 ?_
  refine r_icmp_le (pc := 11) (tgt := 22) dX11_copy_11 rfl (fun c4 => ?_) (fun c4 => ?_)
  · have K := K.1 c4
    refine r_iconst (pc := 22) (x := 0) dX11_copy_22 rfl ?_
    refine r_istore (pc := 23) (lv' := [_, _, _, _, _]) dX11_copy_23 (by decide) rfl ?_
    refine r_mask (pc := 25) [true, true, true, true, true] rfl ?_
    exact K
  · have K := K.2 c4
    refine r_new (pc := 14) 30 kc30 rfl q734 q735 q171 dX11_copy_14 (fun q5 eq5 zq5 wq5 => ?_)
    refine r_nameH (fun h6 eh6 => ?_)
    have K := K q5 eq5 wq5 h6 eh6
    have hk7 := kd_newSE eh6 eq5
    refine r_dup (pc := 17) rfl dX11_copy_17 ?_
    obtain ⟨hd8, K⟩ := K
    refine r_exInit (pc := 18) 30 _ hd8 hk7 (fr_newS eh6 eq5) (Or.inr zq5) kc30 rfl ex_30 (Or.inl q779) dX11_copy_18 rfl ?_
    refine r_nameH (fun h9 eh9 => ?_)
    have K := K h9 eh9
    have hk10 := kd_exH eh9 hk7
    exact r_athrow (pc := 21) (nzk hk10 rfl) dX11_copy_21 (Tw.out rfl K)
theorem eX11_copy {G : Gx} {d : Nat} {Φ : Out → AH → Prop} (h : AH) (v0 : Nat) (v1 : Nat) (v2 : Int32) (v3 : Int32) (K : WF G h → Aw G mX11_copy (d + 1) 0 h Φ 0 [vR v0, vR v1, vI v2, vI v3, vU] [] h) : Cw G mX11_copy (d + 1) 0 [vR v0, vR v1, vI v2, vI v3] h Φ := Cw.of rfl K
set_option maxHeartbeats 4000000 in
theorem sX11_copy_25 {G : Gx} {d t : Nat} {h0 : AH} {Φ : Out → AH → Prop} (h : AH) (v0 : Nat) (v1 : Nat) (v2 : Int32) (v3 : Int32) (v4 : Int32) (K : ((v3 ≤ v4 → h.kd v0 = 11 ∧ ∀ h3 : AH, h3 = h.pi 11001 v0 ((h.i 11001 v0) + v3) → Φ (.inl none) h3) ∧ (¬ v3 ≤ v4 → h.kd v0 = 11 ∧ ∀ r5 : Nat, r5 = (h.r 11000 v0) → h.kd v1 = 101 ∧ vp_in (v2 + v4) (h.ai v1).length ∧ h.kd r5 = 101 ∧ vp_in ((h.i 11001 v0) + v4) (h.ai r5).length ∧ ∀ h10 : AH, h10 = h.wi r5 ((h.ai r5).set (((h.i 11001 v0) + v4).toNatClampNeg) (i2b ((h.ai v1).getD ((v2 + v4).toNatClampNeg) 0))) → Aw G mX11_copy (d + 1) t h0 Φ 25 [vR v0, vR v1, vI v2, vI v3, vI (v4 + 1)] [] h10))) : Aw G mX11_copy (d + 1) t h0 Φ 25 [vR v0, vR v1, vI v2, vI v3, vI v4] [] h := by
  refine r_iload (pc := 25) dX11_copy_25 rfl ?_
  refine r_iload_n (pc := 27) dX11_copy_27 rfl ?_
  refine r_icmp_ge (pc := 28) (tgt := 55) dX11_copy_28 rfl (fun c1 => ?_) (fun c1 => ?_)
  · have K := K.1 c1
    refine r_aload_n (pc := 55) dX11_copy_55 rfl ?_
    refine r_dup (pc := 56) rfl dX11_copy_56 ?_
    obtain ⟨hk2, K⟩ := K
    refine r_geti' (pc := 57) (T := TX11) 11 1 rfl hk2 (Or.inl q612) dX11_copy_57 kc11 g11001 ?_
    refine r_iload_n (pc := 60) dX11_copy_60 rfl ?_
    refine r_iadd (pc := 61) dX11_copy_61 ?_
    refine r_puti (pc := 62) (T := TX11) (key := 11001) 11 1 hk2 (Or.inl q612) dX11_copy_62 kc11 rfl (Or.inl rfl) (Or.inl (em rfl)) ?_
    refine r_nameH (fun h3 eh3 => ?_)
    have K := K h3 eh3
    exact r_vret (pc := 65) rfl dX11_copy_65 K
  · have K := K.2 c1
    refine r_aload_n (pc := 31) dX11_copy_31 rfl ?_
    obtain ⟨hk4, K⟩ := K
    have K := K _ rfl
    refine r_getr' (pc := 32) (T := TX11) 11 0 rfl hk4 (Or.inl q609) dX11_copy_32 kc11 g11000 ?_
    refine r_aload_n (pc := 35) dX11_copy_35 rfl ?_
    refine r_geti' (pc := 36) (T := TX11) 11 1 rfl hk4 (Or.inl q612) dX11_copy_36 kc11 g11001 ?_
    refine r_iload (pc := 39) dX11_copy_39 rfl ?_
    refine r_iadd (pc := 41) dX11_copy_41 ?_
    refine r_aload_n (pc := 42) dX11_copy_42 rfl ?_
    refine r_iload_n (pc := 43) dX11_copy_43 rfl ?_
    refine r_iload (pc := 44) dX11_copy_44 rfl ?_
    refine r_iadd (pc := 46) dX11_copy_46 ?_
    obtain ⟨hk6, K⟩ := K
    obtain ⟨hi7, K⟩ := K
    refine r_baload (pc := 47) hk6 hi7 dX11_copy_47 ?_
    obtain ⟨hk8, K⟩ := K
    obtain ⟨hi9, K⟩ := K
    refine r_jbast (pc := 48) hk8 hi9 (Or.inl (em rfl)) dX11_copy_48 ?_
    refine r_nameH (fun h10 eh10 => ?_)
    have K := K h10 eh10
    refine r_iinc (pc := 49) (lv' := [_, _, _, _, _]) dX11_copy_49 rfl rfl (by decide) rfl ?_
    refine r_goto (pc := 52) (tgt := 25) dX11_copy_52 rfl ?_
    refine r_mask (pc := 25) [true, true, true, true, true] rfl ?_
    exact K
theorem dX11_init_0 : decode cX11_init 0 = .ok (.aload_n 0, 1) := by decide +kernel
theorem dX11_init_1 : decode cX11_init 1 = .ok (.invokespecial 1, 3) := by decide +kernel
theorem dX11_init_4 : decode cX11_init 4 = .ok (.aload_n 0, 1) := by decide +kernel
theorem dX11_init_5 : decode cX11_init 5 = .ok (.iload_n 1, 1) := by decide +kernel
theorem dX11_init_6 : decode cX11_init 6 = .ok (.newarray .byte, 2) := by decide +kernel
theorem dX11_init_8 : decode cX11_init 8 = .ok (.putfield 7, 3) := by decide +kernel
theorem dX11_init_11 : decode cX11_init 11 = .ok (.return_, 1) := by decide +kernel
/-! CoinJudge$Sink.<init>(I)V -/
set_option maxHeartbeats 4000000 in
theorem sX11_init_0 {G : Gx} {d t : Nat} {h0 : AH} {Φ : Out → AH → Prop} (h : AH) (v0 : Nat) (v1 : Int32) (K : h.kd v0 = 11 ∧ ¬ v1 < 0 ∧ v1.toNatClampNeg ≤ 60000000 ∧ ∀ q4 : Nat, q4 = h.z → WF G h → ∀ h5 : AH, h5 = h.new 101 v1.toNatClampNeg (List.replicate v1.toNatClampNeg 0) [] [] → ∀ h8 : AH, h8 = h5.pr 11000 v0 q4 → Φ (.inl none) h8) : Aw G mX11_init (d + 1) v0 h0 Φ 0 [vR v0, vI v1] [] h := by
  refine r_aload_n (pc := 0) dX11_init_0 rfl ?_
  obtain ⟨hk1, K⟩ := K
  refine r_objInit (pc := 1) (nzk hk1 rfl) q608 q207 q208 dX11_init_1 (by decide) ?_
  refine r_aload_n (pc := 4) dX11_init_4 rfl ?_
  refine r_iload_n (pc := 5) dX11_init_5 rfl ?_
  obtain ⟨hn2, hm3, K⟩ := K
  refine r_newaI (pc := 6) 101  rfl rfl (by decide) q284 hn2 rfl hm3 dX11_init_6 (fun q4 eq4 zq4 wq4 => ?_)
  refine r_nameH (fun h5 eh5 => ?_)
  have K := K q4 eq4 wq4 h5 eh5
  have hk6 := kd_newSE eh5 eq4
  have hk7 := kd_newE eh5 wq4 hk1 (nz rfl)
  refine r_putr (pc := 8) (T := TX11) (key := 11000) 11 0 (ty := (.array .byte)) hk7 (Or.inl q609) dX11_init_8 kc11 rfl rfl (Or.inr q609) (Or.inr (Or.inl rfl)) ?_
  refine r_nameH (fun h8 eh8 => ?_)
  have K := K h8 eh8
  exact r_vret (pc := 11) rfl dX11_init_11 K
theorem eX11_init {G : Gx} {d : Nat} {Φ : Out → AH → Prop} (h : AH) (v0 : Nat) (v1 : Int32) (K : WF G h → Aw G mX11_init (d + 1) v0 h Φ 0 [vR v0, vI v1] [] h) : Cw G mX11_init (d + 1) v0 [vR v0, vI v1] h Φ := Cw.of rfl K
theorem dX13_init_0 : decode cX13_init 0 = .ok (.aload_n 0, 1) := by decide +kernel
theorem dX13_init_1 : decode cX13_init 1 = .ok (.invokespecial 1, 3) := by decide +kernel
theorem dX13_init_4 : decode cX13_init 4 = .ok (.aload_n 0, 1) := by decide +kernel
theorem dX13_init_5 : decode cX13_init 5 = .ok (.bipush 32, 2) := by decide +kernel
theorem dX13_init_7 : decode cX13_init 7 = .ok (.newarray .byte, 2) := by decide +kernel
theorem dX13_init_9 : decode cX13_init 9 = .ok (.putfield 7, 3) := by decide +kernel
theorem dX13_init_12 : decode cX13_init 12 = .ok (.aload_n 0, 1) := by decide +kernel
theorem dX13_init_13 : decode cX13_init 13 = .ok (.new 13, 3) := by decide +kernel
theorem dX13_init_16 : decode cX13_init 16 = .ok (.dup, 1) := by decide +kernel
theorem dX13_init_17 : decode cX13_init 17 = .ok (.sipush 700, 3) := by decide +kernel
theorem dX13_init_20 : decode cX13_init 20 = .ok (.invokespecial 15, 3) := by decide +kernel
theorem dX13_init_23 : decode cX13_init 23 = .ok (.putfield 18, 3) := by decide +kernel
theorem dX13_init_26 : decode cX13_init 26 = .ok (.return_, 1) := by decide +kernel
/-! CoinJudge$DraftInput.<init>()V -/
set_option maxHeartbeats 4000000 in
theorem sX13_init_0 {G : Gx} {d t : Nat} {h0 : AH} {Φ : Out → AH → Prop} (h : AH) (v0 : Nat) (K : h.kd v0 = 13 ∧ ∀ q2 : Nat, q2 = h.z → WF G h → ∀ h3 : AH, h3 = h.new 101 32 (List.replicate 32 0) [] [] → ∀ h6 : AH, h6 = h3.pr 13000 v0 q2 → ∀ q7 : Nat, q7 = h6.z → WF G h6 → ∀ h8 : AH, h8 = h6.new 11 2 [] [] [] → Cw G mX11_init d q7 [vR q7, vI 700] h8 (kV (fun h11 => ∀ h15 : AH, h15 = h11.pr 13003 v0 q7 → Φ (.inl none) h15) (fun x h => Φ (.inr x) h))) : Aw G mX13_init (d + 1) v0 h0 Φ 0 [vR v0] [] h := by
  refine r_aload_n (pc := 0) dX13_init_0 rfl ?_
  obtain ⟨hk1, K⟩ := K
  refine r_objInit (pc := 1) (nzk hk1 rfl) q703 q207 q208 dX13_init_1 (by decide) ?_
  refine r_aload_n (pc := 4) dX13_init_4 rfl ?_
  refine r_bipush (pc := 5) (x := 32) dX13_init_5 rfl ?_
  refine r_newaI (pc := 7) 101 (N := 32) rfl rfl (by decide) q284 (by decide) rfl (by decide) dX13_init_7 (fun q2 eq2 zq2 wq2 => ?_)
  refine r_nameH (fun h3 eh3 => ?_)
  have K := K q2 eq2 wq2 h3 eh3
  have hk4 := kd_newSE eh3 eq2
  have hk5 := kd_newE eh3 wq2 hk1 (nz rfl)
  refine r_putr (pc := 9) (T := TX13) (key := 13000) 13 0 (ty := (.array .byte)) hk5 (Or.inl q706) dX13_init_9 kc13 rfl rfl (Or.inr q706) (Or.inr (Or.inl rfl)) ?_
  refine r_nameH (fun h6 eh6 => ?_)
  have K := K h6 eh6
  refine r_aload_n (pc := 12) dX13_init_12 rfl ?_
  refine r_new (pc := 13) 11 kc11 rfl q704 q604 q165 dX13_init_13 (fun q7 eq7 zq7 wq7 => ?_)
  refine r_nameH (fun h8 eh8 => ?_)
  have K := K q7 eq7 wq7 h8 eh8
  have hk9 := kd_newSE eh8 eq7
  refine r_dup (pc := 16) rfl dX13_init_16 ?_
  refine r_sipush (pc := 17) (x := 700) dX13_init_17 rfl ?_
  refine r_callI_V (pc := 20) (Y := mX11_init) (vs := [_]) (st := [_, _]) (nzk hk9 rfl) q705 q606 q607 rfl rfl rfl dX13_init_20 rfl (Or.inr zq7) rfl rfl fp_X13_init_X11_init K (fun h11 eh11 wh11 K => ?_) (fun x h1 _ _ e => Tw.out rfl e)
  have hk12 := kd_pr eh6 hk5
  have hk13 := kd_newE eh8 wq7 hk12 (nz rfl)
  have hk14 := kd_ext eh11 hk13 (nz rfl)
  refine r_putr (pc := 23) (T := TX13) (key := 13003) 13 3 (ty := (.object "CoinJudge$Sink")) hk14 (Or.inl q713) dX13_init_23 kc13 rfl rfl (Or.inr q713) (Or.inr (Or.inl rfl)) ?_
  refine r_nameH (fun h15 eh15 => ?_)
  have K := K h15 eh15
  exact r_vret (pc := 26) rfl dX13_init_26 K
theorem eX13_init {G : Gx} {d : Nat} {Φ : Out → AH → Prop} (h : AH) (v0 : Nat) (K : WF G h → Aw G mX13_init (d + 1) v0 h Φ 0 [vR v0] [] h) : Cw G mX13_init (d + 1) v0 [vR v0] h Φ := Cw.of rfl K
theorem dX10_input_0 : decode cX10_input 0 = .ok (.aload_n 0, 1) := by decide +kernel
theorem dX10_input_1 : decode cX10_input 1 = .ok (.invokevirtual 51, 3) := by decide +kernel
theorem dX10_input_4 : decode cX10_input 4 = .ok (.astore 7, 2) := by decide +kernel
theorem dX10_input_6 : decode cX10_input 6 = .ok (.aload 7, 2) := by decide +kernel
theorem dX10_input_8 : decode cX10_input 8 = .ok (.getfield 55, 3) := by decide +kernel
theorem dX10_input_11 : decode cX10_input 11 = .ok (.aload 7, 2) := by decide +kernel
theorem dX10_input_13 : decode cX10_input 13 = .ok (.getfield 45, 3) := by decide +kernel
theorem dX10_input_16 : decode cX10_input 16 = .ok (.aaload, 1) := by decide +kernel
theorem dX10_input_17 : decode cX10_input 17 = .ok (.ifnonnull 21, 3) := by decide +kernel
theorem dX10_input_20 : decode cX10_input 20 = .ok (.aload 7, 2) := by decide +kernel
theorem dX10_input_22 : decode cX10_input 22 = .ok (.getfield 55, 3) := by decide +kernel
theorem dX10_input_25 : decode cX10_input 25 = .ok (.aload 7, 2) := by decide +kernel
theorem dX10_input_27 : decode cX10_input 27 = .ok (.getfield 45, 3) := by decide +kernel
theorem dX10_input_30 : decode cX10_input 30 = .ok (.new 59, 3) := by decide +kernel
theorem dX10_input_33 : decode cX10_input 33 = .ok (.dup, 1) := by decide +kernel
theorem dX10_input_34 : decode cX10_input 34 = .ok (.invokespecial 61, 3) := by decide +kernel
theorem dX10_input_37 : decode cX10_input 37 = .ok (.aastore, 1) := by decide +kernel
theorem dX10_input_38 : decode cX10_input 38 = .ok (.aload 7, 2) := by decide +kernel
theorem dX10_input_40 : decode cX10_input 40 = .ok (.getfield 55, 3) := by decide +kernel
theorem dX10_input_43 : decode cX10_input 43 = .ok (.aload 7, 2) := by decide +kernel
theorem dX10_input_45 : decode cX10_input 45 = .ok (.getfield 45, 3) := by decide +kernel
theorem dX10_input_48 : decode cX10_input 48 = .ok (.aaload, 1) := by decide +kernel
theorem dX10_input_49 : decode cX10_input 49 = .ok (.astore 8, 2) := by decide +kernel
theorem dX10_input_51 : decode cX10_input 51 = .ok (.aload 7, 2) := by decide +kernel
theorem dX10_input_53 : decode cX10_input 53 = .ok (.dup, 1) := by decide +kernel
theorem dX10_input_54 : decode cX10_input 54 = .ok (.getfield 45, 3) := by decide +kernel
theorem dX10_input_57 : decode cX10_input 57 = .ok (.iconst 1, 1) := by decide +kernel
theorem dX10_input_58 : decode cX10_input 58 = .ok (.iadd, 1) := by decide +kernel
theorem dX10_input_59 : decode cX10_input 59 = .ok (.putfield 45, 3) := by decide +kernel
theorem dX10_input_62 : decode cX10_input 62 = .ok (.iconst 0, 1) := by decide +kernel
theorem dX10_input_63 : decode cX10_input 63 = .ok (.istore 9, 2) := by decide +kernel
theorem dX10_input_65 : decode cX10_input 65 = .ok (.iload 9, 2) := by decide +kernel
theorem dX10_input_67 : decode cX10_input 67 = .ok (.bipush 32, 2) := by decide +kernel
theorem dX10_input_69 : decode cX10_input 69 = .ok (.if_icmp .ge 21, 3) := by decide +kernel
theorem dX10_input_72 : decode cX10_input 72 = .ok (.aload 8, 2) := by decide +kernel
theorem dX10_input_74 : decode cX10_input 74 = .ok (.getfield 62, 3) := by decide +kernel
theorem dX10_input_77 : decode cX10_input 77 = .ok (.iload 9, 2) := by decide +kernel
theorem dX10_input_79 : decode cX10_input 79 = .ok (.aload_n 1, 1) := by decide +kernel
theorem dX10_input_80 : decode cX10_input 80 = .ok (.iload 9, 2) := by decide +kernel
theorem dX10_input_82 : decode cX10_input 82 = .ok (.baload, 1) := by decide +kernel
theorem dX10_input_83 : decode cX10_input 83 = .ok (.bastore, 1) := by decide +kernel
theorem dX10_input_84 : decode cX10_input 84 = .ok (.iinc 9 1, 3) := by decide +kernel
theorem dX10_input_87 : decode cX10_input 87 = .ok (.goto (-22), 3) := by decide +kernel
theorem dX10_input_90 : decode cX10_input 90 = .ok (.aload 8, 2) := by decide +kernel
theorem dX10_input_92 : decode cX10_input 92 = .ok (.iload_n 2, 1) := by decide +kernel
theorem dX10_input_93 : decode cX10_input 93 = .ok (.putfield 66, 3) := by decide +kernel
theorem dX10_input_96 : decode cX10_input 96 = .ok (.aload 8, 2) := by decide +kernel
theorem dX10_input_98 : decode cX10_input 98 = .ok (.lload_n 3, 1) := by decide +kernel
theorem dX10_input_99 : decode cX10_input 99 = .ok (.putfield 69, 3) := by decide +kernel
theorem dX10_input_102 : decode cX10_input 102 = .ok (.aload 8, 2) := by decide +kernel
theorem dX10_input_104 : decode cX10_input 104 = .ok (.getfield 72, 3) := by decide +kernel
theorem dX10_input_107 : decode cX10_input 107 = .ok (.invokevirtual 75, 3) := by decide +kernel
theorem dX10_input_110 : decode cX10_input 110 = .ok (.aload 8, 2) := by decide +kernel
theorem dX10_input_112 : decode cX10_input 112 = .ok (.getfield 72, 3) := by decide +kernel
theorem dX10_input_115 : decode cX10_input 115 = .ok (.aload 5, 2) := by decide +kernel
theorem dX10_input_117 : decode cX10_input 117 = .ok (.iconst 0, 1) := by decide +kernel
theorem dX10_input_118 : decode cX10_input 118 = .ok (.iload 6, 2) := by decide +kernel
theorem dX10_input_120 : decode cX10_input 120 = .ok (.invokevirtual 78, 3) := by decide +kernel
theorem dX10_input_123 : decode cX10_input 123 = .ok (.return_, 1) := by decide +kernel
/-! CoinJudge$Draft.input([BIJ[BI)V -/
set_option maxHeartbeats 4000000 in
theorem sX10_input_0 {G : Gx} {d t : Nat} {h0 : AH} {Φ : Out → AH → Prop} (h : AH) (v0 : Nat) (v1 : Nat) (v2 : Int32) (v3 : Int64) (v5 : Nat) (v6 : Int32) (K : h.kd v0 = 10 ∧ Cw G mX10_latest d 0 [vR v0] h (kR (fun x1 h2 => h2.kd x1 = 12 ∧ ∀ r5 : Nat, r5 = (h2.r 12002 x1) → h2.kd r5 = 108 ∧ vp_in (h2.i 12004 x1) (h2.ar r5).length ∧ ∀ r8 : Nat, r8 = ((h2.ar r5).getD ((h2.i 12004 x1).toNatClampNeg) 0) → ((¬ r8 = 0 → Aw G mX10_input (d + 1) t h0 Φ 38 [vU, vR v1, vI v2, vJ v3, vU, vR v5, vI v6, vR x1, vU, vU] [] h2) ∧ (r8 = 0 → ∀ q10 : Nat, q10 = h2.z → WF G h2 → ∀ h11 : AH, h11 = h2.new 13 4 [] [] [] → Cw G mX13_init d q10 [vR q10] h11 (kV (fun h14 => vp_in (h2.i 12004 x1) (h14.ar r5).length ∧ (q10 = 0 ∨ h14.kd q10 = 13) ∧ ∀ h19 : AH, h19 = h14.wr r5 ((h14.ar r5).set ((h2.i 12004 x1).toNatClampNeg) q10) → Aw G mX10_input (d + 1) t h0 Φ 38 [vU, vR v1, vI v2, vJ v3, vU, vR v5, vI v6, vR x1, vU, vU] [] h19) (fun x h => Φ (.inr x) h))))) (fun x h => Φ (.inr x) h))) : Aw G mX10_input (d + 1) t h0 Φ 0 [vR v0, vR v1, vI v2, vJ v3, vU, vR v5, vI v6, vU, vU, vU] [] h := by
  refine r_aload_n (pc := 0) dX10_input_0 rfl ?_
  obtain ⟨hk3, K⟩ := K
  refine r_callV_R (pc := 1) (Y := mX10_latest) (vs := []) (st := []) hk3 rfl kc10 q694 q695 q696 dX10_input_1 rfl cd_X10_latest rfl rfl fp_X10_input_X10_latest K (fun x1 h2 eh2 wh2 K => ?_) (fun x h1 _ _ e => Tw.out rfl e)
  refine r_astore (pc := 4) (lv' := [_, _, _, _, _, _, _, _, _, _]) dX10_input_4 (by decide) rfl ?_
  refine r_aload (pc := 6) dX10_input_6 rfl ?_
  obtain ⟨hk4, K⟩ := K
  have K := K _ rfl
  refine r_getr' (pc := 8) (T := TX12) 12 2 rfl hk4 (Or.inr (Or.inl ⟨_, q666⟩)) dX10_input_8 kc12 g12002 ?_
  refine r_aload (pc := 11) dX10_input_11 rfl ?_
  refine r_geti' (pc := 13) (T := TX12) 12 4 rfl hk4 (Or.inr (Or.inl ⟨_, q671⟩)) dX10_input_13 kc12 g12004 ?_
  obtain ⟨hk6, K⟩ := K
  obtain ⟨hi7, K⟩ := K
  have K := K _ rfl
  refine r_aaload (pc := 16) (le_of_eq_r hk6 (by decide)) hi7 dX10_input_16 ?_
  refine r_ifnonnull (pc := 17) (tgt := 38) dX10_input_17 rfl (fun c9 => ?_) (fun c9 => ?_)
  · have K := K.1 c9
    refine r_mask (pc := 38) [false, true, true, true, false, true, true, true, false, false] rfl ?_
    exact K
  · have K := K.2 c9
    refine r_aload (pc := 20) dX10_input_20 rfl ?_
    refine r_getr' (pc := 22) (T := TX12) 12 2 rfl hk4 (Or.inr (Or.inl ⟨_, q666⟩)) dX10_input_22 kc12 g12002 ?_
    refine r_aload (pc := 25) dX10_input_25 rfl ?_
    refine r_geti' (pc := 27) (T := TX12) 12 4 rfl hk4 (Or.inr (Or.inl ⟨_, q671⟩)) dX10_input_27 kc12 g12004 ?_
    refine r_new (pc := 30) 13 kc13 rfl q698 q699 q167 dX10_input_30 (fun q10 eq10 zq10 wq10 => ?_)
    refine r_nameH (fun h11 eh11 => ?_)
    have K := K q10 eq10 wq10 h11 eh11
    have hk12 := kd_newSE eh11 eq10
    refine r_dup (pc := 33) rfl dX10_input_33 ?_
    refine r_callIN_V (pc := 34) (Y := mX13_init) (vs := []) (st := [_, _, _]) (nzk hk12 rfl) q700 q701 q702 rfl rfl rfl dX10_input_34 rfl (Or.inr zq10) rfl rfl fp_X10_input_X13_init K (fun h14 eh14 wh14 K => ?_) (fun x h1 _ _ e => Tw.out rfl e)
    have hk15 := kd_newE eh11 wq10 hk6 (nz rfl)
    have hk16 := kd_ext eh14 hk15 (nz rfl)
    obtain ⟨hi17, K⟩ := K
    obtain ⟨hk18, K⟩ := K
    refine r_aastore (pc := 37) 108 13 hk16 rfl kc13 hi17 hk18 (Or.inl (em rfl)) dX10_input_37 rfl ?_
    refine r_nameH (fun h19 eh19 => ?_)
    have K := K h19 eh19
    refine r_mask (pc := 38) [false, true, true, true, false, true, true, true, false, false] rfl ?_
    exact K
theorem eX10_input {G : Gx} {d : Nat} {Φ : Out → AH → Prop} (h : AH) (v0 : Nat) (v1 : Nat) (v2 : Int32) (v3 : Int64) (v5 : Nat) (v6 : Int32) (K : WF G h → Aw G mX10_input (d + 1) 0 h Φ 0 [vR v0, vR v1, vI v2, vJ v3, vU, vR v5, vI v6, vU, vU, vU] [] h) : Cw G mX10_input (d + 1) 0 [vR v0, vR v1, vI v2, vJ v3, vR v5, vI v6] h Φ := Cw.of rfl K
set_option maxHeartbeats 4000000 in
theorem sX10_input_38 {G : Gx} {d t : Nat} {h0 : AH} {Φ : Out → AH → Prop} (h : AH) (v1 : Nat) (v2 : Int32) (v3 : Int64) (v5 : Nat) (v6 : Int32) (v7 : Nat) (K : h.kd v7 = 12 ∧ ∀ r2 : Nat, r2 = (h.r 12002 v7) → h.kd r2 = 108 ∧ vp_in (h.i 12004 v7) (h.ar r2).length ∧ ∀ r5 : Nat, r5 = ((h.ar r2).getD ((h.i 12004 v7).toNatClampNeg) 0) → ∀ h6 : AH, h6 = h.pi 12004 v7 ((h.i 12004 v7) + 1) → Aw G mX10_input (d + 1) t h0 Φ 65 [vU, vR v1, vI v2, vJ v3, vU, vR v5, vI v6, vU, vR r5, vI 0] [] h6) : Aw G mX10_input (d + 1) t h0 Φ 38 [vU, vR v1, vI v2, vJ v3, vU, vR v5, vI v6, vR v7, vU, vU] [] h := by
  refine r_aload (pc := 38) dX10_input_38 rfl ?_
  obtain ⟨hk1, K⟩ := K
  have K := K _ rfl
  refine r_getr' (pc := 40) (T := TX12) 12 2 rfl hk1 (Or.inr (Or.inl ⟨_, q666⟩)) dX10_input_40 kc12 g12002 ?_
  refine r_aload (pc := 43) dX10_input_43 rfl ?_
  refine r_geti' (pc := 45) (T := TX12) 12 4 rfl hk1 (Or.inr (Or.inl ⟨_, q671⟩)) dX10_input_45 kc12 g12004 ?_
  obtain ⟨hk3, K⟩ := K
  obtain ⟨hi4, K⟩ := K
  have K := K _ rfl
  refine r_aaload (pc := 48) (le_of_eq_r hk3 (by decide)) hi4 dX10_input_48 ?_
  refine r_astore (pc := 49) (lv' := [_, _, _, _, _, _, _, _, _, _]) dX10_input_49 (by decide) rfl ?_
  refine r_aload (pc := 51) dX10_input_51 rfl ?_
  refine r_dup (pc := 53) rfl dX10_input_53 ?_
  refine r_geti' (pc := 54) (T := TX12) 12 4 rfl hk1 (Or.inr (Or.inl ⟨_, q671⟩)) dX10_input_54 kc12 g12004 ?_
  refine r_iconst (pc := 57) (x := 1) dX10_input_57 rfl ?_
  refine r_iadd (pc := 58) dX10_input_58 ?_
  refine r_puti (pc := 59) (T := TX12) (key := 12004) 12 4 hk1 (Or.inr (Or.inl ⟨_, q671⟩)) dX10_input_59 kc12 rfl (Or.inl rfl) (Or.inl (em rfl)) ?_
  refine r_nameH (fun h6 eh6 => ?_)
  have K := K h6 eh6
  refine r_iconst (pc := 62) (x := 0) dX10_input_62 rfl ?_
  refine r_istore (pc := 63) (lv' := [_, _, _, _, _, _, _, _, _, _]) dX10_input_63 (by decide) rfl ?_
  refine r_mask (pc := 65) [false, true, true, true, false, true, true, false, true, true] rfl ?_
  exact K
set_option maxHeartbeats 4000000 in
theorem sX10_input_65 {G : Gx} {d t : Nat} {h0 : AH} {Φ : Out → AH → Prop} (h : AH) (v1 : Nat) (v2 : Int32) (v3 : Int64) (v5 : Nat) (v6 : Int32) (v8 : Nat) (v9 : Int32) (K : ((32 ≤ v9 → h.kd v8 = 13 ∧ ∀ h3 : AH, h3 = h.pi 13001 v8 v2 → ∀ h5 : AH, h5 = h3.pl 13002 v8 v3 → ∀ r7 : Nat, r7 = (h5.r 13003 v8) → h5.kd r7 = 11 ∧ Cw G mX11_clear d 0 [vR r7] h5 (kV (fun h9 => Cw G mX11_copy d 0 [vR r7, vR v5, vI 0, vI v6] h9 (kV (fun h15 => Φ (.inl none) h15) (fun x h => Φ (.inr x) h))) (fun x h => Φ (.inr x) h))) ∧ (¬ 32 ≤ v9 → h.kd v8 = 13 ∧ ∀ r18 : Nat, r18 = (h.r 13000 v8) → h.kd v1 = 101 ∧ vp_in v9 (h.ai v1).length ∧ h.kd r18 = 101 ∧ vp_in v9 (h.ai r18).length ∧ ∀ h23 : AH, h23 = h.wi r18 ((h.ai r18).set (v9.toNatClampNeg) (i2b ((h.ai v1).getD (v9.toNatClampNeg) 0))) → Aw G mX10_input (d + 1) t h0 Φ 65 [vU, vR v1, vI v2, vJ v3, vU, vR v5, vI v6, vU, vR v8, vI (v9 + 1)] [] h23))) : Aw G mX10_input (d + 1) t h0 Φ 65 [vU, vR v1, vI v2, vJ v3, vU, vR v5, vI v6, vU, vR v8, vI v9] [] h := by
  refine r_iload (pc := 65) dX10_input_65 rfl ?_
  refine r_bipush (pc := 67) (x := 32) dX10_input_67 rfl ?_
  refine r_icmp_ge (pc := 69) (tgt := 90) dX10_input_69 rfl (fun c1 => ?_) (fun c1 => ?_)
  · have K := K.1 c1
    refine r_aload (pc := 90) dX10_input_90 rfl ?_
    refine r_iload_n (pc := 92) dX10_input_92 rfl ?_
    obtain ⟨hk2, K⟩ := K
    refine r_puti (pc := 93) (T := TX13) (key := 13001) 13 1 hk2 (Or.inr (Or.inl ⟨_, q710⟩)) dX10_input_93 kc13 rfl (Or.inl rfl) (Or.inl (em rfl)) ?_
    refine r_nameH (fun h3 eh3 => ?_)
    have K := K h3 eh3
    refine r_aload (pc := 96) dX10_input_96 rfl ?_
    refine r_lload_n (pc := 98) dX10_input_98 rfl ?_
    have hk4 := kd_pi eh3 hk2
    refine r_putl (pc := 99) (T := TX13) (key := 13002) 13 2 hk4 (Or.inr (Or.inl ⟨_, q712⟩)) dX10_input_99 kc13 rfl (Or.inl rfl) (Or.inl (em rfl)) ?_
    refine r_nameH (fun h5 eh5 => ?_)
    have K := K h5 eh5
    refine r_aload (pc := 102) dX10_input_102 rfl ?_
    have hk6 := kd_pl eh5 hk4
    have K := K _ rfl
    refine r_getr' (pc := 104) (T := TX13) 13 3 rfl hk6 (Or.inr (Or.inl ⟨_, q715⟩)) dX10_input_104 kc13 g13003 ?_
    obtain ⟨hk10, K⟩ := K
    refine r_callV_V (pc := 107) (Y := mX11_clear) (vs := []) (st := []) hk10 rfl kc11 q726 q727 q728 dX10_input_107 rfl cd_X11_clear rfl rfl fp_X10_input_X11_clear K (fun h9 eh9 wh9 K => ?_) (fun x h1 _ _ e => Tw.out rfl e)
    refine r_aload (pc := 110) dX10_input_110 rfl ?_
    have hk11 := kd_ext eh9 hk6 (nz rfl)
    have hv12 := fr_self (key := 13003) hk6
    have hv13 := (fr_ext (key := 13003) eh9 hk6 (nz rfl) (ne0 wh9 hk11 (nz rfl)) (nm rfl)).trans hv12
    refine r_getr' (pc := 112) (T := TX13) 13 3 hv13 hk11 (Or.inr (Or.inl ⟨_, q715⟩)) dX10_input_112 kc13 g13003 ?_
    refine r_aload (pc := 115) dX10_input_115 rfl ?_
    refine r_iconst (pc := 117) (x := 0) dX10_input_117 rfl ?_
    refine r_iload (pc := 118) dX10_input_118 rfl ?_
    have hk16 := kd_ext eh9 hk10 (nz rfl)
    refine r_callV_V (pc := 120) (Y := mX11_copy) (vs := [_, _, _]) (st := []) hk16 rfl kc11 q730 q731 q732 dX10_input_120 rfl cd_X11_copy rfl rfl fp_X10_input_X11_copy K (fun h15 eh15 wh15 K => ?_) (fun x h1 _ _ e => Tw.out rfl e)
    exact r_vret (pc := 123) rfl dX10_input_123 K
  · have K := K.2 c1
    refine r_aload (pc := 72) dX10_input_72 rfl ?_
    obtain ⟨hk17, K⟩ := K
    have K := K _ rfl
    refine r_getr' (pc := 74) (T := TX13) 13 0 rfl hk17 (Or.inr (Or.inl ⟨_, q708⟩)) dX10_input_74 kc13 g13000 ?_
    refine r_iload (pc := 77) dX10_input_77 rfl ?_
    refine r_aload_n (pc := 79) dX10_input_79 rfl ?_
    refine r_iload (pc := 80) dX10_input_80 rfl ?_
    obtain ⟨hk19, K⟩ := K
    obtain ⟨hi20, K⟩ := K
    refine r_baload (pc := 82) hk19 hi20 dX10_input_82 ?_
    obtain ⟨hk21, K⟩ := K
    obtain ⟨hi22, K⟩ := K
    refine r_jbast (pc := 83) hk21 hi22 (Or.inl (em rfl)) dX10_input_83 ?_
    refine r_nameH (fun h23 eh23 => ?_)
    have K := K h23 eh23
    refine r_iinc (pc := 84) (lv' := [_, _, _, _, _, _, _, _, _, _]) dX10_input_84 rfl rfl (by decide) rfl ?_
    refine r_goto (pc := 87) (tgt := 65) dX10_input_87 rfl ?_
    refine r_mask (pc := 65) [false, true, true, true, false, true, true, false, true, true] rfl ?_
    exact K
theorem dX11_put_0 : decode cX11_put 0 = .ok (.aload_n 0, 1) := by decide +kernel
theorem dX11_put_1 : decode cX11_put 1 = .ok (.getfield 13, 3) := by decide +kernel
theorem dX11_put_4 : decode cX11_put 4 = .ok (.iload_n 3, 1) := by decide +kernel
theorem dX11_put_5 : decode cX11_put 5 = .ok (.iadd, 1) := by decide +kernel
theorem dX11_put_6 : decode cX11_put 6 = .ok (.aload_n 0, 1) := by decide +kernel
theorem dX11_put_7 : decode cX11_put 7 = .ok (.getfield 7, 3) := by decide +kernel
theorem dX11_put_10 : decode cX11_put 10 = .ok (.arraylength, 1) := by decide +kernel
theorem dX11_put_11 : decode cX11_put 11 = .ok (.if_icmp .le 11, 3) := by decide +kernel
theorem dX11_put_14 : decode cX11_put 14 = .ok (.new 17, 3) := by decide +kernel
theorem dX11_put_17 : decode cX11_put 17 = .ok (.dup, 1) := by decide +kernel
theorem dX11_put_18 : decode cX11_put 18 = .ok (.invokespecial 19, 3) := by decide +kernel
theorem dX11_put_21 : decode cX11_put 21 = .ok (.athrow, 1) := by decide +kernel
theorem dX11_put_22 : decode cX11_put 22 = .ok (.iconst 0, 1) := by decide +kernel
theorem dX11_put_23 : decode cX11_put 23 = .ok (.istore 4, 2) := by decide +kernel
theorem dX11_put_25 : decode cX11_put 25 = .ok (.iload 4, 2) := by decide +kernel
theorem dX11_put_27 : decode cX11_put 27 = .ok (.iload_n 3, 1) := by decide +kernel
theorem dX11_put_28 : decode cX11_put 28 = .ok (.if_icmp .ge 30, 3) := by decide +kernel
theorem dX11_put_31 : decode cX11_put 31 = .ok (.aload_n 0, 1) := by decide +kernel
theorem dX11_put_32 : decode cX11_put 32 = .ok (.getfield 7, 3) := by decide +kernel
theorem dX11_put_35 : decode cX11_put 35 = .ok (.aload_n 0, 1) := by decide +kernel
theorem dX11_put_36 : decode cX11_put 36 = .ok (.getfield 13, 3) := by decide +kernel
theorem dX11_put_39 : decode cX11_put 39 = .ok (.iload 4, 2) := by decide +kernel
theorem dX11_put_41 : decode cX11_put 41 = .ok (.iadd, 1) := by decide +kernel
theorem dX11_put_42 : decode cX11_put 42 = .ok (.lload_n 1, 1) := by decide +kernel
theorem dX11_put_43 : decode cX11_put 43 = .ok (.bipush 8, 2) := by decide +kernel
theorem dX11_put_45 : decode cX11_put 45 = .ok (.iload 4, 2) := by decide +kernel
theorem dX11_put_47 : decode cX11_put 47 = .ok (.imul, 1) := by decide +kernel
theorem dX11_put_48 : decode cX11_put 48 = .ok (.lshr, 1) := by decide +kernel
theorem dX11_put_49 : decode cX11_put 49 = .ok (.l2i, 1) := by decide +kernel
theorem dX11_put_50 : decode cX11_put 50 = .ok (.i2b, 1) := by decide +kernel
theorem dX11_put_51 : decode cX11_put 51 = .ok (.bastore, 1) := by decide +kernel
theorem dX11_put_52 : decode cX11_put 52 = .ok (.iinc 4 1, 3) := by decide +kernel
theorem dX11_put_55 : decode cX11_put 55 = .ok (.goto (-30), 3) := by decide +kernel
theorem dX11_put_58 : decode cX11_put 58 = .ok (.aload_n 0, 1) := by decide +kernel
theorem dX11_put_59 : decode cX11_put 59 = .ok (.dup, 1) := by decide +kernel
theorem dX11_put_60 : decode cX11_put 60 = .ok (.getfield 13, 3) := by decide +kernel
theorem dX11_put_63 : decode cX11_put 63 = .ok (.iload_n 3, 1) := by decide +kernel
theorem dX11_put_64 : decode cX11_put 64 = .ok (.iadd, 1) := by decide +kernel
theorem dX11_put_65 : decode cX11_put 65 = .ok (.putfield 13, 3) := by decide +kernel
theorem dX11_put_68 : decode cX11_put 68 = .ok (.return_, 1) := by decide +kernel
/-! CoinJudge$Sink.put(JI)V -/
set_option maxHeartbeats 4000000 in
theorem sX11_put_0 {G : Gx} {d t : Nat} {h0 : AH} {Φ : Out → AH → Prop} (h : AH) (v0 : Nat) (v1 : Int64) (v3 : Int32) (K : h.kd v0 = 11 ∧ ∀ r2 : Nat, r2 = (h.r 11000 v0) → h.kd r2 = 101 ∧ ((((h.i 11001 v0) + v3) ≤ (nI (h.ai r2).length) → Aw G mX11_put (d + 1) t h0 Φ 25 [vR v0, vJ v1, vU, vI v3, vI 0] [] h) ∧ (¬ ((h.i 11001 v0) + v3) ≤ (nI (h.ai r2).length) → ∀ q5 : Nat, q5 = h.z → WF G h → ∀ h6 : AH, h6 = h.new 30 6 [] [] [] → 5 ≤ d ∧ ∀ h9 : AH, h9 = exH G 30 q5 h6 → Φ (.inr q5) h9))) : Aw G mX11_put (d + 1) t h0 Φ 0 [vR v0, vJ v1, vU, vI v3, vU] [] h := by
  refine r_aload_n (pc := 0) dX11_put_0 rfl ?_
  obtain ⟨hk1, K⟩ := K
  refine r_geti' (pc := 1) (T := TX11) 11 1 rfl hk1 (Or.inl q612) dX11_put_1 kc11 g11001 ?_
  refine r_iload_n (pc := 4) dX11_put_4 rfl ?_
  refine r_iadd (pc := 5) dX11_put_5 ?_
  refine r_aload_n (pc := 6) dX11_put_6 rfl ?_
  have K := K _ rfl
  refine r_getr' (pc := 7) (T := TX11) 11 0 rfl hk1 (Or.inl q609) dX11_put_7 kc11 g11000 ?_
  obtain ⟨hk3, K⟩ := K
  refine r_alenI (pc := 10) (al_lt hk3 rfl) dX11_put_10 ?_
  refine r_icmp_le (pc := 11) (tgt := 22) dX11_put_11 rfl (fun c4 => ?_) (fun c4 => ?_)
  · have K := K.1 c4
    refine r_iconst (pc := 22) (x := 0) dX11_put_22 rfl ?_
    refine r_istore (pc := 23) (lv' := [_, _, _, _, _]) dX11_put_23 (by decide) rfl ?_
    refine r_mask (pc := 25) [true, true, false, true, true] rfl ?_
    exact K
  · have K := K.2 c4
    refine r_new (pc := 14) 30 kc30 rfl q734 q735 q171 dX11_put_14 (fun q5 eq5 zq5 wq5 => ?_)
    refine r_nameH (fun h6 eh6 => ?_)
    have K := K q5 eq5 wq5 h6 eh6
    have hk7 := kd_newSE eh6 eq5
    refine r_dup (pc := 17) rfl dX11_put_17 ?_
    obtain ⟨hd8, K⟩ := K
    refine r_exInit (pc := 18) 30 _ hd8 hk7 (fr_newS eh6 eq5) (Or.inr zq5) kc30 rfl ex_30 (Or.inl q779) dX11_put_18 rfl ?_
    refine r_nameH (fun h9 eh9 => ?_)
    have K := K h9 eh9
    have hk10 := kd_exH eh9 hk7
    exact r_athrow (pc := 21) (nzk hk10 rfl) dX11_put_21 (Tw.out rfl K)
theorem eX11_put {G : Gx} {d : Nat} {Φ : Out → AH → Prop} (h : AH) (v0 : Nat) (v1 : Int64) (v3 : Int32) (K : WF G h → Aw G mX11_put (d + 1) 0 h Φ 0 [vR v0, vJ v1, vU, vI v3, vU] [] h) : Cw G mX11_put (d + 1) 0 [vR v0, vJ v1, vI v3] h Φ := Cw.of rfl K
set_option maxHeartbeats 4000000 in
theorem sX11_put_25 {G : Gx} {d t : Nat} {h0 : AH} {Φ : Out → AH → Prop} (h : AH) (v0 : Nat) (v1 : Int64) (v3 : Int32) (v4 : Int32) (K : ((v3 ≤ v4 → h.kd v0 = 11 ∧ ∀ h3 : AH, h3 = h.pi 11001 v0 ((h.i 11001 v0) + v3) → Φ (.inl none) h3) ∧ (¬ v3 ≤ v4 → h.kd v0 = 11 ∧ ∀ r5 : Nat, r5 = (h.r 11000 v0) → h.kd r5 = 101 ∧ vp_in ((h.i 11001 v0) + v4) (h.ai r5).length ∧ ∀ h8 : AH, h8 = h.wi r5 ((h.ai r5).set (((h.i 11001 v0) + v4).toNatClampNeg) (i2b (i2b ((Jshr v1 (8 * v4)).toInt32)))) → Aw G mX11_put (d + 1) t h0 Φ 25 [vR v0, vJ v1, vU, vI v3, vI (v4 + 1)] [] h8))) : Aw G mX11_put (d + 1) t h0 Φ 25 [vR v0, vJ v1, vU, vI v3, vI v4] [] h := by
  refine r_iload (pc := 25) dX11_put_25 rfl ?_
  refine r_iload_n (pc := 27) dX11_put_27 rfl ?_
  refine r_icmp_ge (pc := 28) (tgt := 58) dX11_put_28 rfl (fun c1 => ?_) (fun c1 => ?_)
  · have K := K.1 c1
    refine r_aload_n (pc := 58) dX11_put_58 rfl ?_
    refine r_dup (pc := 59) rfl dX11_put_59 ?_
    obtain ⟨hk2, K⟩ := K
    refine r_geti' (pc := 60) (T := TX11) 11 1 rfl hk2 (Or.inl q612) dX11_put_60 kc11 g11001 ?_
    refine r_iload_n (pc := 63) dX11_put_63 rfl ?_
    refine r_iadd (pc := 64) dX11_put_64 ?_
    refine r_puti (pc := 65) (T := TX11) (key := 11001) 11 1 hk2 (Or.inl q612) dX11_put_65 kc11 rfl (Or.inl rfl) (Or.inl (em rfl)) ?_
    refine r_nameH (fun h3 eh3 => ?_)
    have K := K h3 eh3
    exact r_vret (pc := 68) rfl dX11_put_68 K
  · have K := K.2 c1
    refine r_aload_n (pc := 31) dX11_put_31 rfl ?_
    obtain ⟨hk4, K⟩ := K
    have K := K _ rfl
    refine r_getr' (pc := 32) (T := TX11) 11 0 rfl hk4 (Or.inl q609) dX11_put_32 kc11 g11000 ?_
    refine r_aload_n (pc := 35) dX11_put_35 rfl ?_
    refine r_geti' (pc := 36) (T := TX11) 11 1 rfl hk4 (Or.inl q612) dX11_put_36 kc11 g11001 ?_
    refine r_iload (pc := 39) dX11_put_39 rfl ?_
    refine r_iadd (pc := 41) dX11_put_41 ?_
    refine r_lload_n (pc := 42) dX11_put_42 rfl ?_
    refine r_bipush (pc := 43) (x := 8) dX11_put_43 rfl ?_
    refine r_iload (pc := 45) dX11_put_45 rfl ?_
    refine r_imul (pc := 47) dX11_put_47 ?_
    refine r_Jshr (pc := 48) dX11_put_48 ?_
    refine r_l2i (pc := 49) dX11_put_49 ?_
    refine r_ji2b (pc := 50) dX11_put_50 ?_
    obtain ⟨hk6, K⟩ := K
    obtain ⟨hi7, K⟩ := K
    refine r_jbast (pc := 51) hk6 hi7 (Or.inl (em rfl)) dX11_put_51 ?_
    refine r_nameH (fun h8 eh8 => ?_)
    have K := K h8 eh8
    refine r_iinc (pc := 52) (lv' := [_, _, _, _, _]) dX11_put_52 rfl rfl (by decide) rfl ?_
    refine r_goto (pc := 55) (tgt := 25) dX11_put_55 rfl ?_
    refine r_mask (pc := 25) [true, true, false, true, true] rfl ?_
    exact K
theorem dX11_count_0 : decode cX11_count 0 = .ok (.iload_n 1, 1) := by decide +kernel
theorem dX11_count_1 : decode cX11_count 1 = .ok (.sipush 253, 3) := by decide +kernel
theorem dX11_count_4 : decode cX11_count 4 = .ok (.if_icmp .ge 13, 3) := by decide +kernel
theorem dX11_count_7 : decode cX11_count 7 = .ok (.aload_n 0, 1) := by decide +kernel
theorem dX11_count_8 : decode cX11_count 8 = .ok (.iload_n 1, 1) := by decide +kernel
theorem dX11_count_9 : decode cX11_count 9 = .ok (.i2l, 1) := by decide +kernel
theorem dX11_count_10 : decode cX11_count 10 = .ok (.iconst 1, 1) := by decide +kernel
theorem dX11_count_11 : decode cX11_count 11 = .ok (.invokevirtual 20, 3) := by decide +kernel
theorem dX11_count_14 : decode cX11_count 14 = .ok (.goto 18, 3) := by decide +kernel
theorem dX11_count_17 : decode cX11_count 17 = .ok (.aload_n 0, 1) := by decide +kernel
theorem dX11_count_18 : decode cX11_count 18 = .ok (.ldc2_w 24, 3) := by decide +kernel
theorem dX11_count_21 : decode cX11_count 21 = .ok (.iconst 1, 1) := by decide +kernel
theorem dX11_count_22 : decode cX11_count 22 = .ok (.invokevirtual 20, 3) := by decide +kernel
theorem dX11_count_25 : decode cX11_count 25 = .ok (.aload_n 0, 1) := by decide +kernel
theorem dX11_count_26 : decode cX11_count 26 = .ok (.iload_n 1, 1) := by decide +kernel
theorem dX11_count_27 : decode cX11_count 27 = .ok (.i2l, 1) := by decide +kernel
theorem dX11_count_28 : decode cX11_count 28 = .ok (.iconst 2, 1) := by decide +kernel
theorem dX11_count_29 : decode cX11_count 29 = .ok (.invokevirtual 20, 3) := by decide +kernel
theorem dX11_count_32 : decode cX11_count 32 = .ok (.return_, 1) := by decide +kernel
/-! CoinJudge$Sink.count(I)V -/
set_option maxHeartbeats 4000000 in
theorem sX11_count_0 {G : Gx} {d t : Nat} {h0 : AH} {Φ : Out → AH → Prop} (h : AH) (v0 : Nat) (v1 : Int32) (K : ((253 ≤ v1 → h.kd v0 = 11 ∧ Cw G mX11_put d 0 [vR v0, vJ 253, vI 1] h (kV (fun h3 => Cw G mX11_put d 0 [vR v0, vJ v1.toInt64, vI 2] h3 (kV (fun h6 => Φ (.inl none) h6) (fun x h => Φ (.inr x) h))) (fun x h => Φ (.inr x) h))) ∧ (¬ 253 ≤ v1 → h.kd v0 = 11 ∧ Cw G mX11_put d 0 [vR v0, vJ v1.toInt64, vI 1] h (kV (fun h9 => Φ (.inl none) h9) (fun x h => Φ (.inr x) h))))) : Aw G mX11_count (d + 1) t h0 Φ 0 [vR v0, vI v1] [] h := by
  refine r_iload_n (pc := 0) dX11_count_0 rfl ?_
  refine r_sipush (pc := 1) (x := 253) dX11_count_1 rfl ?_
  refine r_icmp_ge (pc := 4) (tgt := 17) dX11_count_4 rfl (fun c1 => ?_) (fun c1 => ?_)
  · have K := K.1 c1
    refine r_aload_n (pc := 17) dX11_count_17 rfl ?_
    refine r_ldc2 (pc := 18) dX11_count_18 q877 ?_
    refine r_iconst (pc := 21) (x := 1) dX11_count_21 rfl ?_
    obtain ⟨hk4, K⟩ := K
    refine r_callV_V (pc := 22) (Y := mX11_put) (vs := [_, _]) (st := []) hk4 rfl kc11 q876 q868 q869 dX11_count_22 rfl cd_X11_put rfl rfl fp_X11_count_X11_put K (fun h3 eh3 wh3 K => ?_) (fun x h1 _ _ e => Tw.out rfl e)
    refine r_aload_n (pc := 25) dX11_count_25 rfl ?_
    refine r_iload_n (pc := 26) dX11_count_26 rfl ?_
    refine r_i2l (pc := 27) dX11_count_27 ?_
    refine r_iconst (pc := 28) (x := 2) dX11_count_28 rfl ?_
    have hk7 := kd_ext eh3 hk4 (nz rfl)
    refine r_callV_V (pc := 29) (Y := mX11_put) (vs := [_, _]) (st := []) hk7 rfl kc11 q876 q868 q869 dX11_count_29 rfl cd_X11_put rfl rfl fp_X11_count_X11_put K (fun h6 eh6 wh6 K => ?_) (fun x h1 _ _ e => Tw.out rfl e)
    exact r_vret (pc := 32) rfl dX11_count_32 K
  · have K := K.2 c1
    refine r_aload_n (pc := 7) dX11_count_7 rfl ?_
    refine r_iload_n (pc := 8) dX11_count_8 rfl ?_
    refine r_i2l (pc := 9) dX11_count_9 ?_
    refine r_iconst (pc := 10) (x := 1) dX11_count_10 rfl ?_
    obtain ⟨hk10, K⟩ := K
    refine r_callV_V (pc := 11) (Y := mX11_put) (vs := [_, _]) (st := []) hk10 rfl kc11 q876 q868 q869 dX11_count_11 rfl cd_X11_put rfl rfl fp_X11_count_X11_put K (fun h9 eh9 wh9 K => ?_) (fun x h1 _ _ e => Tw.out rfl e)
    refine r_goto (pc := 14) (tgt := 32) dX11_count_14 rfl ?_
    exact r_vret (pc := 32) rfl dX11_count_32 K
theorem eX11_count {G : Gx} {d : Nat} {Φ : Out → AH → Prop} (h : AH) (v0 : Nat) (v1 : Int32) (K : WF G h → Aw G mX11_count (d + 1) 0 h Φ 0 [vR v0, vI v1] [] h) : Cw G mX11_count (d + 1) 0 [vR v0, vI v1] h Φ := Cw.of rfl K
theorem dX12_write_0 : decode cX12_write 0 = .ok (.aload_n 1, 1) := by decide +kernel
theorem dX12_write_1 : decode cX12_write 1 = .ok (.aload_n 0, 1) := by decide +kernel
theorem dX12_write_2 : decode cX12_write 2 = .ok (.getfield 21, 3) := by decide +kernel
theorem dX12_write_5 : decode cX12_write 5 = .ok (.iconst 4, 1) := by decide +kernel
theorem dX12_write_6 : decode cX12_write 6 = .ok (.invokevirtual 25, 3) := by decide +kernel
theorem dX12_write_9 : decode cX12_write 9 = .ok (.aload_n 1, 1) := by decide +kernel
theorem dX12_write_10 : decode cX12_write 10 = .ok (.aload_n 0, 1) := by decide +kernel
theorem dX12_write_11 : decode cX12_write 11 = .ok (.getfield 31, 3) := by decide +kernel
theorem dX12_write_14 : decode cX12_write 14 = .ok (.invokevirtual 35, 3) := by decide +kernel
theorem dX12_write_17 : decode cX12_write 17 = .ok (.iconst 0, 1) := by decide +kernel
theorem dX12_write_18 : decode cX12_write 18 = .ok (.istore_n 2, 1) := by decide +kernel
theorem dX12_write_19 : decode cX12_write 19 = .ok (.iload_n 2, 1) := by decide +kernel
theorem dX12_write_20 : decode cX12_write 20 = .ok (.aload_n 0, 1) := by decide +kernel
theorem dX12_write_21 : decode cX12_write 21 = .ok (.getfield 31, 3) := by decide +kernel
theorem dX12_write_24 : decode cX12_write 24 = .ok (.if_icmp .ge 76, 3) := by decide +kernel
theorem dX12_write_27 : decode cX12_write 27 = .ok (.aload_n 0, 1) := by decide +kernel
theorem dX12_write_28 : decode cX12_write 28 = .ok (.getfield 11, 3) := by decide +kernel
theorem dX12_write_31 : decode cX12_write 31 = .ok (.iload_n 2, 1) := by decide +kernel
theorem dX12_write_32 : decode cX12_write 32 = .ok (.aaload, 1) := by decide +kernel
theorem dX12_write_33 : decode cX12_write 33 = .ok (.astore_n 3, 1) := by decide +kernel
theorem dX12_write_34 : decode cX12_write 34 = .ok (.aload_n 1, 1) := by decide +kernel
theorem dX12_write_35 : decode cX12_write 35 = .ok (.aload_n 3, 1) := by decide +kernel
theorem dX12_write_36 : decode cX12_write 36 = .ok (.getfield 39, 3) := by decide +kernel
theorem dX12_write_39 : decode cX12_write 39 = .ok (.iconst 0, 1) := by decide +kernel
theorem dX12_write_40 : decode cX12_write 40 = .ok (.bipush 32, 2) := by decide +kernel
theorem dX12_write_42 : decode cX12_write 42 = .ok (.invokevirtual 43, 3) := by decide +kernel
theorem dX12_write_45 : decode cX12_write 45 = .ok (.aload_n 1, 1) := by decide +kernel
theorem dX12_write_46 : decode cX12_write 46 = .ok (.aload_n 3, 1) := by decide +kernel
theorem dX12_write_47 : decode cX12_write 47 = .ok (.getfield 47, 3) := by decide +kernel
theorem dX12_write_50 : decode cX12_write 50 = .ok (.i2l, 1) := by decide +kernel
theorem dX12_write_51 : decode cX12_write 51 = .ok (.iconst 4, 1) := by decide +kernel
theorem dX12_write_52 : decode cX12_write 52 = .ok (.invokevirtual 25, 3) := by decide +kernel
theorem dX12_write_55 : decode cX12_write 55 = .ok (.aload_n 1, 1) := by decide +kernel
theorem dX12_write_56 : decode cX12_write 56 = .ok (.aload_n 3, 1) := by decide +kernel
theorem dX12_write_57 : decode cX12_write 57 = .ok (.getfield 50, 3) := by decide +kernel
theorem dX12_write_60 : decode cX12_write 60 = .ok (.getfield 54, 3) := by decide +kernel
theorem dX12_write_63 : decode cX12_write 63 = .ok (.invokevirtual 35, 3) := by decide +kernel
theorem dX12_write_66 : decode cX12_write 66 = .ok (.aload_n 1, 1) := by decide +kernel
theorem dX12_write_67 : decode cX12_write 67 = .ok (.aload_n 3, 1) := by decide +kernel
theorem dX12_write_68 : decode cX12_write 68 = .ok (.getfield 50, 3) := by decide +kernel
theorem dX12_write_71 : decode cX12_write 71 = .ok (.getfield 57, 3) := by decide +kernel
theorem dX12_write_74 : decode cX12_write 74 = .ok (.iconst 0, 1) := by decide +kernel
theorem dX12_write_75 : decode cX12_write 75 = .ok (.aload_n 3, 1) := by decide +kernel
theorem dX12_write_76 : decode cX12_write 76 = .ok (.getfield 50, 3) := by decide +kernel
theorem dX12_write_79 : decode cX12_write 79 = .ok (.getfield 54, 3) := by decide +kernel
theorem dX12_write_82 : decode cX12_write 82 = .ok (.invokevirtual 43, 3) := by decide +kernel
theorem dX12_write_85 : decode cX12_write 85 = .ok (.aload_n 1, 1) := by decide +kernel
theorem dX12_write_86 : decode cX12_write 86 = .ok (.aload_n 3, 1) := by decide +kernel
theorem dX12_write_87 : decode cX12_write 87 = .ok (.getfield 60, 3) := by decide +kernel
theorem dX12_write_90 : decode cX12_write 90 = .ok (.iconst 4, 1) := by decide +kernel
theorem dX12_write_91 : decode cX12_write 91 = .ok (.invokevirtual 25, 3) := by decide +kernel
theorem dX12_write_94 : decode cX12_write 94 = .ok (.iinc 2 1, 3) := by decide +kernel
theorem dX12_write_97 : decode cX12_write 97 = .ok (.goto (-78), 3) := by decide +kernel
theorem dX12_write_100 : decode cX12_write 100 = .ok (.aload_n 1, 1) := by decide +kernel
theorem dX12_write_101 : decode cX12_write 101 = .ok (.aload_n 0, 1) := by decide +kernel
theorem dX12_write_102 : decode cX12_write 102 = .ok (.getfield 63, 3) := by decide +kernel
theorem dX12_write_105 : decode cX12_write 105 = .ok (.invokevirtual 35, 3) := by decide +kernel
theorem dX12_write_108 : decode cX12_write 108 = .ok (.iconst 0, 1) := by decide +kernel
theorem dX12_write_109 : decode cX12_write 109 = .ok (.istore_n 2, 1) := by decide +kernel
theorem dX12_write_110 : decode cX12_write 110 = .ok (.iload_n 2, 1) := by decide +kernel
theorem dX12_write_111 : decode cX12_write 111 = .ok (.aload_n 0, 1) := by decide +kernel
theorem dX12_write_112 : decode cX12_write 112 = .ok (.getfield 63, 3) := by decide +kernel
theorem dX12_write_115 : decode cX12_write 115 = .ok (.if_icmp .ge 56, 3) := by decide +kernel
theorem dX12_write_118 : decode cX12_write 118 = .ok (.aload_n 0, 1) := by decide +kernel
theorem dX12_write_119 : decode cX12_write 119 = .ok (.getfield 17, 3) := by decide +kernel
theorem dX12_write_122 : decode cX12_write 122 = .ok (.iload_n 2, 1) := by decide +kernel
theorem dX12_write_123 : decode cX12_write 123 = .ok (.aaload, 1) := by decide +kernel
theorem dX12_write_124 : decode cX12_write 124 = .ok (.astore_n 3, 1) := by decide +kernel
theorem dX12_write_125 : decode cX12_write 125 = .ok (.aload_n 1, 1) := by decide +kernel
theorem dX12_write_126 : decode cX12_write 126 = .ok (.aload_n 3, 1) := by decide +kernel
theorem dX12_write_127 : decode cX12_write 127 = .ok (.getfield 66, 3) := by decide +kernel
theorem dX12_write_130 : decode cX12_write 130 = .ok (.bipush 8, 2) := by decide +kernel
theorem dX12_write_132 : decode cX12_write 132 = .ok (.invokevirtual 25, 3) := by decide +kernel
theorem dX12_write_135 : decode cX12_write 135 = .ok (.aload_n 1, 1) := by decide +kernel
theorem dX12_write_136 : decode cX12_write 136 = .ok (.aload_n 3, 1) := by decide +kernel
theorem dX12_write_137 : decode cX12_write 137 = .ok (.getfield 69, 3) := by decide +kernel
theorem dX12_write_140 : decode cX12_write 140 = .ok (.getfield 54, 3) := by decide +kernel
theorem dX12_write_143 : decode cX12_write 143 = .ok (.invokevirtual 35, 3) := by decide +kernel
theorem dX12_write_146 : decode cX12_write 146 = .ok (.aload_n 1, 1) := by decide +kernel
theorem dX12_write_147 : decode cX12_write 147 = .ok (.aload_n 3, 1) := by decide +kernel
theorem dX12_write_148 : decode cX12_write 148 = .ok (.getfield 69, 3) := by decide +kernel
theorem dX12_write_151 : decode cX12_write 151 = .ok (.getfield 57, 3) := by decide +kernel
theorem dX12_write_154 : decode cX12_write 154 = .ok (.iconst 0, 1) := by decide +kernel
theorem dX12_write_155 : decode cX12_write 155 = .ok (.aload_n 3, 1) := by decide +kernel
theorem dX12_write_156 : decode cX12_write 156 = .ok (.getfield 69, 3) := by decide +kernel
theorem dX12_write_159 : decode cX12_write 159 = .ok (.getfield 54, 3) := by decide +kernel
theorem dX12_write_162 : decode cX12_write 162 = .ok (.invokevirtual 43, 3) := by decide +kernel
theorem dX12_write_165 : decode cX12_write 165 = .ok (.iinc 2 1, 3) := by decide +kernel
theorem dX12_write_168 : decode cX12_write 168 = .ok (.goto (-58), 3) := by decide +kernel
theorem dX12_write_171 : decode cX12_write 171 = .ok (.aload_n 1, 1) := by decide +kernel
theorem dX12_write_172 : decode cX12_write 172 = .ok (.aload_n 0, 1) := by decide +kernel
theorem dX12_write_173 : decode cX12_write 173 = .ok (.getfield 70, 3) := by decide +kernel
theorem dX12_write_176 : decode cX12_write 176 = .ok (.iconst 4, 1) := by decide +kernel
theorem dX12_write_177 : decode cX12_write 177 = .ok (.invokevirtual 25, 3) := by decide +kernel
theorem dX12_write_180 : decode cX12_write 180 = .ok (.return_, 1) := by decide +kernel
/-! CoinJudge$DraftTx.write(LCoinJudge$Sink;)V -/
set_option maxHeartbeats 4000000 in
theorem sX12_write_0 {G : Gx} {d t : Nat} {h0 : AH} {Φ : Out → AH → Prop} (h : AH) (v0 : Nat) (v1 : Nat) (K : h.kd v0 = 12 ∧ h.kd v1 = 11 ∧ Cw G mX11_put d 0 [vR v1, vJ (h.l 12000 v0), vI 4] h (kV (fun h3 => Cw G mX11_count d 0 [vR v1, vI (h3.i 12004 v0)] h3 (kV (fun h7 => Aw G mX12_write (d + 1) t h0 Φ 19 [vR v0, vR v1, vI 0, vU] [] h7) (fun x h => Φ (.inr x) h))) (fun x h => Φ (.inr x) h))) : Aw G mX12_write (d + 1) t h0 Φ 0 [vR v0, vR v1, vU, vU] [] h := by
  refine r_aload_n (pc := 0) dX12_write_0 rfl ?_
  refine r_aload_n (pc := 1) dX12_write_1 rfl ?_
  obtain ⟨hk1, K⟩ := K
  refine r_getl' (pc := 2) (T := TX12) 12 0 rfl hk1 (Or.inl q661) dX12_write_2 kc12 g12000 ?_
  refine r_iconst (pc := 5) (x := 4) dX12_write_5 rfl ?_
  obtain ⟨hk4, K⟩ := K
  refine r_callV_V (pc := 6) (Y := mX11_put) (vs := [_, _]) (st := []) hk4 rfl kc11 q882 q868 q869 dX12_write_6 rfl cd_X11_put rfl rfl fp_X12_write_X11_put K (fun h3 eh3 wh3 K => ?_) (fun x h1 _ _ e => Tw.out rfl e)
  refine r_aload_n (pc := 9) dX12_write_9 rfl ?_
  refine r_aload_n (pc := 10) dX12_write_10 rfl ?_
  have hk5 := kd_ext eh3 hk1 (nz rfl)
  refine r_geti' (pc := 11) (T := TX12) 12 4 rfl hk5 (Or.inl q670) dX12_write_11 kc12 g12004 ?_
  have hk8 := kd_ext eh3 hk4 (nz rfl)
  refine r_callV_V (pc := 14) (Y := mX11_count) (vs := [_]) (st := []) hk8 rfl kc11 q883 q873 q874 dX12_write_14 rfl cd_X11_count rfl rfl fp_X12_write_X11_count K (fun h7 eh7 wh7 K => ?_) (fun x h1 _ _ e => Tw.out rfl e)
  refine r_iconst (pc := 17) (x := 0) dX12_write_17 rfl ?_
  refine r_istore_n (pc := 18) (lv' := [_, _, _, _]) dX12_write_18 (by decide) rfl ?_
  refine r_mask (pc := 19) [true, true, true, false] rfl ?_
  exact K
theorem eX12_write {G : Gx} {d : Nat} {Φ : Out → AH → Prop} (h : AH) (v0 : Nat) (v1 : Nat) (K : WF G h → Aw G mX12_write (d + 1) 0 h Φ 0 [vR v0, vR v1, vU, vU] [] h) : Cw G mX12_write (d + 1) 0 [vR v0, vR v1] h Φ := Cw.of rfl K
set_option maxHeartbeats 4000000 in
theorem sX12_write_19 {G : Gx} {d t : Nat} {h0 : AH} {Φ : Out → AH → Prop} (h : AH) (v0 : Nat) (v1 : Nat) (v2 : Int32) (K : h.kd v0 = 12 ∧ (((h.i 12004 v0) ≤ v2 → h.kd v1 = 11 ∧ Cw G mX11_count d 0 [vR v1, vI (h.i 12005 v0)] h (kV (fun h4 => Aw G mX12_write (d + 1) t h0 Φ 110 [vR v0, vR v1, vI 0, vU] [] h4) (fun x h => Φ (.inr x) h))) ∧ (¬ (h.i 12004 v0) ≤ v2 → ∀ r6 : Nat, r6 = (h.r 12002 v0) → h.kd r6 = 108 ∧ vp_in v2 (h.ar r6).length ∧ ∀ r9 : Nat, r9 = ((h.ar r6).getD (v2.toNatClampNeg) 0) → h.kd r9 = 13 ∧ ∀ r11 : Nat, r11 = (h.r 13000 r9) → h.kd v1 = 11 ∧ Cw G mX11_copy d 0 [vR v1, vR r11, vI 0, vI 32] h (kV (fun h13 => Cw G mX11_put d 0 [vR v1, vJ ((h13.i 13001 r9).toInt64), vI 4] h13 (kV (fun h17 => ∀ r20 : Nat, r20 = (h17.r 13003 r9) → h17.kd r20 = 11 ∧ Cw G mX11_count d 0 [vR v1, vI (h17.i 11001 r20)] h17 (kV (fun h23 => ∀ r29 : Nat, r29 = (h23.r 11000 r20) → Cw G mX11_copy d 0 [vR v1, vR r29, vI 0, vI (h23.i 11001 r20)] h23 (kV (fun h31 => Cw G mX11_put d 0 [vR v1, vJ (h31.l 13002 r9), vI 4] h31 (kV (fun h35 => Aw G mX12_write (d + 1) t h0 Φ 19 [vR v0, vR v1, vI (v2 + 1), vU] [] h35) (fun x h => Φ (.inr x) h))) (fun x h => Φ (.inr x) h))) (fun x h => Φ (.inr x) h))) (fun x h => Φ (.inr x) h))) (fun x h => Φ (.inr x) h))))) : Aw G mX12_write (d + 1) t h0 Φ 19 [vR v0, vR v1, vI v2, vU] [] h := by
  refine r_iload_n (pc := 19) dX12_write_19 rfl ?_
  refine r_aload_n (pc := 20) dX12_write_20 rfl ?_
  obtain ⟨hk1, K⟩ := K
  refine r_geti' (pc := 21) (T := TX12) 12 4 rfl hk1 (Or.inl q670) dX12_write_21 kc12 g12004 ?_
  refine r_icmp_ge (pc := 24) (tgt := 100) dX12_write_24 rfl (fun c2 => ?_) (fun c2 => ?_)
  · have K := K.1 c2
    refine r_aload_n (pc := 100) dX12_write_100 rfl ?_
    refine r_aload_n (pc := 101) dX12_write_101 rfl ?_
    refine r_geti' (pc := 102) (T := TX12) 12 5 rfl hk1 (Or.inl q673) dX12_write_102 kc12 g12005 ?_
    obtain ⟨hk5, K⟩ := K
    refine r_callV_V (pc := 105) (Y := mX11_count) (vs := [_]) (st := []) hk5 rfl kc11 q883 q873 q874 dX12_write_105 rfl cd_X11_count rfl rfl fp_X12_write_X11_count K (fun h4 eh4 wh4 K => ?_) (fun x h1 _ _ e => Tw.out rfl e)
    refine r_iconst (pc := 108) (x := 0) dX12_write_108 rfl ?_
    refine r_istore_n (pc := 109) (lv' := [_, _, _, _]) dX12_write_109 (by decide) rfl ?_
    refine r_mask (pc := 110) [true, true, true, false] rfl ?_
    exact K
  · have K := K.2 c2
    refine r_aload_n (pc := 27) dX12_write_27 rfl ?_
    have K := K _ rfl
    refine r_getr' (pc := 28) (T := TX12) 12 2 rfl hk1 (Or.inl q665) dX12_write_28 kc12 g12002 ?_
    refine r_iload_n (pc := 31) dX12_write_31 rfl ?_
    obtain ⟨hk7, K⟩ := K
    obtain ⟨hi8, K⟩ := K
    have K := K _ rfl
    refine r_aaload (pc := 32) (le_of_eq_r hk7 (by decide)) hi8 dX12_write_32 ?_
    refine r_astore_n (pc := 33) (lv' := [_, _, _, _]) dX12_write_33 (by decide) rfl ?_
    refine r_aload_n (pc := 34) dX12_write_34 rfl ?_
    refine r_aload_n (pc := 35) dX12_write_35 rfl ?_
    obtain ⟨hk10, K⟩ := K
    have K := K _ rfl
    refine r_getr' (pc := 36) (T := TX13) 13 0 rfl hk10 (Or.inr (Or.inl ⟨_, q707⟩)) dX12_write_36 kc13 g13000 ?_
    refine r_iconst (pc := 39) (x := 0) dX12_write_39 rfl ?_
    refine r_bipush (pc := 40) (x := 32) dX12_write_40 rfl ?_
    obtain ⟨hk14, K⟩ := K
    refine r_callV_V (pc := 42) (Y := mX11_copy) (vs := [_, _, _]) (st := []) hk14 rfl kc11 q884 q731 q732 dX12_write_42 rfl cd_X11_copy rfl rfl fp_X12_write_X11_copy K (fun h13 eh13 wh13 K => ?_) (fun x h1 _ _ e => Tw.out rfl e)
    refine r_aload_n (pc := 45) dX12_write_45 rfl ?_
    refine r_aload_n (pc := 46) dX12_write_46 rfl ?_
    have hk15 := kd_ext eh13 hk10 (nz rfl)
    refine r_geti' (pc := 47) (T := TX13) 13 1 rfl hk15 (Or.inr (Or.inl ⟨_, q709⟩)) dX12_write_47 kc13 g13001 ?_
    refine r_i2l (pc := 50) dX12_write_50 ?_
    refine r_iconst (pc := 51) (x := 4) dX12_write_51 rfl ?_
    have hk18 := kd_ext eh13 hk14 (nz rfl)
    refine r_callV_V (pc := 52) (Y := mX11_put) (vs := [_, _]) (st := []) hk18 rfl kc11 q882 q868 q869 dX12_write_52 rfl cd_X11_put rfl rfl fp_X12_write_X11_put K (fun h17 eh17 wh17 K => ?_) (fun x h1 _ _ e => Tw.out rfl e)
    refine r_aload_n (pc := 55) dX12_write_55 rfl ?_
    refine r_aload_n (pc := 56) dX12_write_56 rfl ?_
    have hk19 := kd_ext eh17 hk15 (nz rfl)
    have K := K _ rfl
    refine r_getr' (pc := 57) (T := TX13) 13 3 rfl hk19 (Or.inr (Or.inl ⟨_, q714⟩)) dX12_write_57 kc13 g13003 ?_
    obtain ⟨hk21, K⟩ := K
    refine r_geti' (pc := 60) (T := TX11) 11 1 rfl hk21 (Or.inr (Or.inl ⟨_, q613⟩)) dX12_write_60 kc11 g11001 ?_
    have hk24 := kd_ext eh17 hk18 (nz rfl)
    refine r_callV_V (pc := 63) (Y := mX11_count) (vs := [_]) (st := []) hk24 rfl kc11 q883 q873 q874 dX12_write_63 rfl cd_X11_count rfl rfl fp_X12_write_X11_count K (fun h23 eh23 wh23 K => ?_) (fun x h1 _ _ e => Tw.out rfl e)
    refine r_aload_n (pc := 66) dX12_write_66 rfl ?_
    refine r_aload_n (pc := 67) dX12_write_67 rfl ?_
    have hk25 := kd_ext eh23 hk19 (nz rfl)
    have hv26 := fr_self (key := 13003) hk19
    have hv27 := (fr_ext (key := 13003) eh23 hk19 (nz rfl) (ne0 wh23 hk25 (nz rfl)) (nm rfl)).trans hv26
    refine r_getr' (pc := 68) (T := TX13) 13 3 hv27 hk25 (Or.inr (Or.inl ⟨_, q714⟩)) dX12_write_68 kc13 g13003 ?_
    have hk28 := kd_ext eh23 hk21 (nz rfl)
    have K := K _ rfl
    refine r_getr' (pc := 71) (T := TX11) 11 0 rfl hk28 (Or.inr (Or.inl ⟨_, q610⟩)) dX12_write_71 kc11 g11000 ?_
    refine r_iconst (pc := 74) (x := 0) dX12_write_74 rfl ?_
    refine r_aload_n (pc := 75) dX12_write_75 rfl ?_
    refine r_getr' (pc := 76) (T := TX13) 13 3 hv27 hk25 (Or.inr (Or.inl ⟨_, q714⟩)) dX12_write_76 kc13 g13003 ?_
    refine r_geti' (pc := 79) (T := TX11) 11 1 rfl hk28 (Or.inr (Or.inl ⟨_, q613⟩)) dX12_write_79 kc11 g11001 ?_
    have hk32 := kd_ext eh23 hk24 (nz rfl)
    refine r_callV_V (pc := 82) (Y := mX11_copy) (vs := [_, _, _]) (st := []) hk32 rfl kc11 q884 q731 q732 dX12_write_82 rfl cd_X11_copy rfl rfl fp_X12_write_X11_copy K (fun h31 eh31 wh31 K => ?_) (fun x h1 _ _ e => Tw.out rfl e)
    refine r_aload_n (pc := 85) dX12_write_85 rfl ?_
    refine r_aload_n (pc := 86) dX12_write_86 rfl ?_
    have hk33 := kd_ext eh31 hk25 (nz rfl)
    refine r_getl' (pc := 87) (T := TX13) 13 2 rfl hk33 (Or.inr (Or.inl ⟨_, q711⟩)) dX12_write_87 kc13 g13002 ?_
    refine r_iconst (pc := 90) (x := 4) dX12_write_90 rfl ?_
    have hk36 := kd_ext eh31 hk32 (nz rfl)
    refine r_callV_V (pc := 91) (Y := mX11_put) (vs := [_, _]) (st := []) hk36 rfl kc11 q882 q868 q869 dX12_write_91 rfl cd_X11_put rfl rfl fp_X12_write_X11_put K (fun h35 eh35 wh35 K => ?_) (fun x h1 _ _ e => Tw.out rfl e)
    refine r_iinc (pc := 94) (lv' := [_, _, _, _]) dX12_write_94 rfl rfl (by decide) rfl ?_
    refine r_goto (pc := 97) (tgt := 19) dX12_write_97 rfl ?_
    refine r_mask (pc := 19) [true, true, true, false] rfl ?_
    exact K
set_option maxHeartbeats 4000000 in
theorem sX12_write_110 {G : Gx} {d t : Nat} {h0 : AH} {Φ : Out → AH → Prop} (h : AH) (v0 : Nat) (v1 : Nat) (v2 : Int32) (K : h.kd v0 = 12 ∧ (((h.i 12005 v0) ≤ v2 → h.kd v1 = 11 ∧ Cw G mX11_put d 0 [vR v1, vJ (h.l 12001 v0), vI 4] h (kV (fun h4 => Φ (.inl none) h4) (fun x h => Φ (.inr x) h))) ∧ (¬ (h.i 12005 v0) ≤ v2 → ∀ r6 : Nat, r6 = (h.r 12003 v0) → h.kd r6 = 109 ∧ vp_in v2 (h.ar r6).length ∧ ∀ r9 : Nat, r9 = ((h.ar r6).getD (v2.toNatClampNeg) 0) → h.kd r9 = 14 ∧ h.kd v1 = 11 ∧ Cw G mX11_put d 0 [vR v1, vJ (h.l 14000 r9), vI 8] h (kV (fun h12 => ∀ r15 : Nat, r15 = (h12.r 14001 r9) → h12.kd r15 = 11 ∧ Cw G mX11_count d 0 [vR v1, vI (h12.i 11001 r15)] h12 (kV (fun h18 => ∀ r24 : Nat, r24 = (h18.r 11000 r15) → Cw G mX11_copy d 0 [vR v1, vR r24, vI 0, vI (h18.i 11001 r15)] h18 (kV (fun h26 => Aw G mX12_write (d + 1) t h0 Φ 110 [vR v0, vR v1, vI (v2 + 1), vU] [] h26) (fun x h => Φ (.inr x) h))) (fun x h => Φ (.inr x) h))) (fun x h => Φ (.inr x) h))))) : Aw G mX12_write (d + 1) t h0 Φ 110 [vR v0, vR v1, vI v2, vU] [] h := by
  refine r_iload_n (pc := 110) dX12_write_110 rfl ?_
  refine r_aload_n (pc := 111) dX12_write_111 rfl ?_
  obtain ⟨hk1, K⟩ := K
  refine r_geti' (pc := 112) (T := TX12) 12 5 rfl hk1 (Or.inl q673) dX12_write_112 kc12 g12005 ?_
  refine r_icmp_ge (pc := 115) (tgt := 171) dX12_write_115 rfl (fun c2 => ?_) (fun c2 => ?_)
  · have K := K.1 c2
    refine r_aload_n (pc := 171) dX12_write_171 rfl ?_
    refine r_aload_n (pc := 172) dX12_write_172 rfl ?_
    refine r_getl' (pc := 173) (T := TX12) 12 1 rfl hk1 (Or.inl q663) dX12_write_173 kc12 g12001 ?_
    refine r_iconst (pc := 176) (x := 4) dX12_write_176 rfl ?_
    obtain ⟨hk5, K⟩ := K
    refine r_callV_V (pc := 177) (Y := mX11_put) (vs := [_, _]) (st := []) hk5 rfl kc11 q882 q868 q869 dX12_write_177 rfl cd_X11_put rfl rfl fp_X12_write_X11_put K (fun h4 eh4 wh4 K => ?_) (fun x h1 _ _ e => Tw.out rfl e)
    exact r_vret (pc := 180) rfl dX12_write_180 K
  · have K := K.2 c2
    refine r_aload_n (pc := 118) dX12_write_118 rfl ?_
    have K := K _ rfl
    refine r_getr' (pc := 119) (T := TX12) 12 3 rfl hk1 (Or.inl q668) dX12_write_119 kc12 g12003 ?_
    refine r_iload_n (pc := 122) dX12_write_122 rfl ?_
    obtain ⟨hk7, K⟩ := K
    obtain ⟨hi8, K⟩ := K
    have K := K _ rfl
    refine r_aaload (pc := 123) (le_of_eq_r hk7 (by decide)) hi8 dX12_write_123 ?_
    refine r_astore_n (pc := 124) (lv' := [_, _, _, _]) dX12_write_124 (by decide) rfl ?_
    refine r_aload_n (pc := 125) dX12_write_125 rfl ?_
    refine r_aload_n (pc := 126) dX12_write_126 rfl ?_
    obtain ⟨hk10, K⟩ := K
    refine r_getl' (pc := 127) (T := TX14) 14 0 rfl hk10 (Or.inr (Or.inl ⟨_, q815⟩)) dX12_write_127 kc14 g14000 ?_
    refine r_bipush (pc := 130) (x := 8) dX12_write_130 rfl ?_
    obtain ⟨hk13, K⟩ := K
    refine r_callV_V (pc := 132) (Y := mX11_put) (vs := [_, _]) (st := []) hk13 rfl kc11 q882 q868 q869 dX12_write_132 rfl cd_X11_put rfl rfl fp_X12_write_X11_put K (fun h12 eh12 wh12 K => ?_) (fun x h1 _ _ e => Tw.out rfl e)
    refine r_aload_n (pc := 135) dX12_write_135 rfl ?_
    refine r_aload_n (pc := 136) dX12_write_136 rfl ?_
    have hk14 := kd_ext eh12 hk10 (nz rfl)
    have K := K _ rfl
    refine r_getr' (pc := 137) (T := TX14) 14 1 rfl hk14 (Or.inr (Or.inl ⟨_, q818⟩)) dX12_write_137 kc14 g14001 ?_
    obtain ⟨hk16, K⟩ := K
    refine r_geti' (pc := 140) (T := TX11) 11 1 rfl hk16 (Or.inr (Or.inl ⟨_, q613⟩)) dX12_write_140 kc11 g11001 ?_
    have hk19 := kd_ext eh12 hk13 (nz rfl)
    refine r_callV_V (pc := 143) (Y := mX11_count) (vs := [_]) (st := []) hk19 rfl kc11 q883 q873 q874 dX12_write_143 rfl cd_X11_count rfl rfl fp_X12_write_X11_count K (fun h18 eh18 wh18 K => ?_) (fun x h1 _ _ e => Tw.out rfl e)
    refine r_aload_n (pc := 146) dX12_write_146 rfl ?_
    refine r_aload_n (pc := 147) dX12_write_147 rfl ?_
    have hk20 := kd_ext eh18 hk14 (nz rfl)
    have hv21 := fr_self (key := 14001) hk14
    have hv22 := (fr_ext (key := 14001) eh18 hk14 (nz rfl) (ne0 wh18 hk20 (nz rfl)) (nm rfl)).trans hv21
    refine r_getr' (pc := 148) (T := TX14) 14 1 hv22 hk20 (Or.inr (Or.inl ⟨_, q818⟩)) dX12_write_148 kc14 g14001 ?_
    have hk23 := kd_ext eh18 hk16 (nz rfl)
    have K := K _ rfl
    refine r_getr' (pc := 151) (T := TX11) 11 0 rfl hk23 (Or.inr (Or.inl ⟨_, q610⟩)) dX12_write_151 kc11 g11000 ?_
    refine r_iconst (pc := 154) (x := 0) dX12_write_154 rfl ?_
    refine r_aload_n (pc := 155) dX12_write_155 rfl ?_
    refine r_getr' (pc := 156) (T := TX14) 14 1 hv22 hk20 (Or.inr (Or.inl ⟨_, q818⟩)) dX12_write_156 kc14 g14001 ?_
    refine r_geti' (pc := 159) (T := TX11) 11 1 rfl hk23 (Or.inr (Or.inl ⟨_, q613⟩)) dX12_write_159 kc11 g11001 ?_
    have hk27 := kd_ext eh18 hk19 (nz rfl)
    refine r_callV_V (pc := 162) (Y := mX11_copy) (vs := [_, _, _]) (st := []) hk27 rfl kc11 q884 q731 q732 dX12_write_162 rfl cd_X11_copy rfl rfl fp_X12_write_X11_copy K (fun h26 eh26 wh26 K => ?_) (fun x h1 _ _ e => Tw.out rfl e)
    refine r_iinc (pc := 165) (lv' := [_, _, _, _]) dX12_write_165 rfl rfl (by decide) rfl ?_
    refine r_goto (pc := 168) (tgt := 110) dX12_write_168 rfl ?_
    refine r_mask (pc := 110) [true, true, true, false] rfl ?_
    exact K
theorem dX14_init_0 : decode cX14_init 0 = .ok (.aload_n 0, 1) := by decide +kernel
theorem dX14_init_1 : decode cX14_init 1 = .ok (.invokespecial 1, 3) := by decide +kernel
theorem dX14_init_4 : decode cX14_init 4 = .ok (.aload_n 0, 1) := by decide +kernel
theorem dX14_init_5 : decode cX14_init 5 = .ok (.new 7, 3) := by decide +kernel
theorem dX14_init_8 : decode cX14_init 8 = .ok (.dup, 1) := by decide +kernel
theorem dX14_init_9 : decode cX14_init 9 = .ok (.sipush 700, 3) := by decide +kernel
theorem dX14_init_12 : decode cX14_init 12 = .ok (.invokespecial 9, 3) := by decide +kernel
theorem dX14_init_15 : decode cX14_init 15 = .ok (.putfield 12, 3) := by decide +kernel
theorem dX14_init_18 : decode cX14_init 18 = .ok (.return_, 1) := by decide +kernel
/-! CoinJudge$DraftOutput.<init>()V -/
set_option maxHeartbeats 4000000 in
theorem sX14_init_0 {G : Gx} {d t : Nat} {h0 : AH} {Φ : Out → AH → Prop} (h : AH) (v0 : Nat) (K : h.kd v0 = 14 ∧ ∀ q2 : Nat, q2 = h.z → WF G h → ∀ h3 : AH, h3 = h.new 11 2 [] [] [] → Cw G mX11_init d q2 [vR q2, vI 700] h3 (kV (fun h6 => ∀ h9 : AH, h9 = h6.pr 14001 v0 q2 → Φ (.inl none) h9) (fun x h => Φ (.inr x) h))) : Aw G mX14_init (d + 1) v0 h0 Φ 0 [vR v0] [] h := by
  refine r_aload_n (pc := 0) dX14_init_0 rfl ?_
  obtain ⟨hk1, K⟩ := K
  refine r_objInit (pc := 1) (nzk hk1 rfl) q812 q207 q208 dX14_init_1 (by decide) ?_
  refine r_aload_n (pc := 4) dX14_init_4 rfl ?_
  refine r_new (pc := 5) 11 kc11 rfl q813 q604 q165 dX14_init_5 (fun q2 eq2 zq2 wq2 => ?_)
  refine r_nameH (fun h3 eh3 => ?_)
  have K := K q2 eq2 wq2 h3 eh3
  have hk4 := kd_newSE eh3 eq2
  refine r_dup (pc := 8) rfl dX14_init_8 ?_
  refine r_sipush (pc := 9) (x := 700) dX14_init_9 rfl ?_
  refine r_callI_V (pc := 12) (Y := mX11_init) (vs := [_]) (st := [_, _]) (nzk hk4 rfl) q814 q606 q607 rfl rfl rfl dX14_init_12 rfl (Or.inr zq2) rfl rfl fp_X14_init_X11_init K (fun h6 eh6 wh6 K => ?_) (fun x h1 _ _ e => Tw.out rfl e)
  have hk7 := kd_newE eh3 wq2 hk1 (nz rfl)
  have hk8 := kd_ext eh6 hk7 (nz rfl)
  refine r_putr (pc := 15) (T := TX14) (key := 14001) 14 1 (ty := (.object "CoinJudge$Sink")) hk8 (Or.inl q817) dX14_init_15 kc14 rfl rfl (Or.inr q817) (Or.inr (Or.inl rfl)) ?_
  refine r_nameH (fun h9 eh9 => ?_)
  have K := K h9 eh9
  exact r_vret (pc := 18) rfl dX14_init_18 K
theorem eX14_init {G : Gx} {d : Nat} {Φ : Out → AH → Prop} (h : AH) (v0 : Nat) (K : WF G h → Aw G mX14_init (d + 1) v0 h Φ 0 [vR v0] [] h) : Cw G mX14_init (d + 1) v0 [vR v0] h Φ := Cw.of rfl K
theorem dX10_output_0 : decode cX10_output 0 = .ok (.aload_n 0, 1) := by decide +kernel
theorem dX10_output_1 : decode cX10_output 1 = .ok (.invokevirtual 51, 3) := by decide +kernel
theorem dX10_output_4 : decode cX10_output 4 = .ok (.astore 5, 2) := by decide +kernel
theorem dX10_output_6 : decode cX10_output 6 = .ok (.aload 5, 2) := by decide +kernel
theorem dX10_output_8 : decode cX10_output 8 = .ok (.getfield 82, 3) := by decide +kernel
theorem dX10_output_11 : decode cX10_output 11 = .ok (.aload 5, 2) := by decide +kernel
theorem dX10_output_13 : decode cX10_output 13 = .ok (.getfield 48, 3) := by decide +kernel
theorem dX10_output_16 : decode cX10_output 16 = .ok (.aaload, 1) := by decide +kernel
theorem dX10_output_17 : decode cX10_output 17 = .ok (.ifnonnull 21, 3) := by decide +kernel
theorem dX10_output_20 : decode cX10_output 20 = .ok (.aload 5, 2) := by decide +kernel
theorem dX10_output_22 : decode cX10_output 22 = .ok (.getfield 82, 3) := by decide +kernel
theorem dX10_output_25 : decode cX10_output 25 = .ok (.aload 5, 2) := by decide +kernel
theorem dX10_output_27 : decode cX10_output 27 = .ok (.getfield 48, 3) := by decide +kernel
theorem dX10_output_30 : decode cX10_output 30 = .ok (.new 86, 3) := by decide +kernel
theorem dX10_output_33 : decode cX10_output 33 = .ok (.dup, 1) := by decide +kernel
theorem dX10_output_34 : decode cX10_output 34 = .ok (.invokespecial 88, 3) := by decide +kernel
theorem dX10_output_37 : decode cX10_output 37 = .ok (.aastore, 1) := by decide +kernel
theorem dX10_output_38 : decode cX10_output 38 = .ok (.aload 5, 2) := by decide +kernel
theorem dX10_output_40 : decode cX10_output 40 = .ok (.getfield 82, 3) := by decide +kernel
theorem dX10_output_43 : decode cX10_output 43 = .ok (.aload 5, 2) := by decide +kernel
theorem dX10_output_45 : decode cX10_output 45 = .ok (.getfield 48, 3) := by decide +kernel
theorem dX10_output_48 : decode cX10_output 48 = .ok (.aaload, 1) := by decide +kernel
theorem dX10_output_49 : decode cX10_output 49 = .ok (.astore 6, 2) := by decide +kernel
theorem dX10_output_51 : decode cX10_output 51 = .ok (.aload 5, 2) := by decide +kernel
theorem dX10_output_53 : decode cX10_output 53 = .ok (.dup, 1) := by decide +kernel
theorem dX10_output_54 : decode cX10_output 54 = .ok (.getfield 48, 3) := by decide +kernel
theorem dX10_output_57 : decode cX10_output 57 = .ok (.iconst 1, 1) := by decide +kernel
theorem dX10_output_58 : decode cX10_output 58 = .ok (.iadd, 1) := by decide +kernel
theorem dX10_output_59 : decode cX10_output 59 = .ok (.putfield 48, 3) := by decide +kernel
theorem dX10_output_62 : decode cX10_output 62 = .ok (.aload 6, 2) := by decide +kernel
theorem dX10_output_64 : decode cX10_output 64 = .ok (.lload_n 1, 1) := by decide +kernel
theorem dX10_output_65 : decode cX10_output 65 = .ok (.putfield 89, 3) := by decide +kernel
theorem dX10_output_68 : decode cX10_output 68 = .ok (.aload 6, 2) := by decide +kernel
theorem dX10_output_70 : decode cX10_output 70 = .ok (.getfield 92, 3) := by decide +kernel
theorem dX10_output_73 : decode cX10_output 73 = .ok (.invokevirtual 75, 3) := by decide +kernel
theorem dX10_output_76 : decode cX10_output 76 = .ok (.aload 6, 2) := by decide +kernel
theorem dX10_output_78 : decode cX10_output 78 = .ok (.getfield 92, 3) := by decide +kernel
theorem dX10_output_81 : decode cX10_output 81 = .ok (.aload_n 3, 1) := by decide +kernel
theorem dX10_output_82 : decode cX10_output 82 = .ok (.iconst 0, 1) := by decide +kernel
theorem dX10_output_83 : decode cX10_output 83 = .ok (.iload 4, 2) := by decide +kernel
theorem dX10_output_85 : decode cX10_output 85 = .ok (.invokevirtual 78, 3) := by decide +kernel
theorem dX10_output_88 : decode cX10_output 88 = .ok (.return_, 1) := by decide +kernel
/-! CoinJudge$Draft.output(J[BI)V -/
set_option maxHeartbeats 4000000 in
theorem sX10_output_0 {G : Gx} {d t : Nat} {h0 : AH} {Φ : Out → AH → Prop} (h : AH) (v0 : Nat) (v1 : Int64) (v3 : Nat) (v4 : Int32) (K : h.kd v0 = 10 ∧ Cw G mX10_latest d 0 [vR v0] h (kR (fun x1 h2 => h2.kd x1 = 12 ∧ ∀ r5 : Nat, r5 = (h2.r 12003 x1) → h2.kd r5 = 109 ∧ vp_in (h2.i 12005 x1) (h2.ar r5).length ∧ ∀ r8 : Nat, r8 = ((h2.ar r5).getD ((h2.i 12005 x1).toNatClampNeg) 0) → ((¬ r8 = 0 → Aw G mX10_output (d + 1) t h0 Φ 38 [vU, vJ v1, vU, vR v3, vI v4, vR x1, vU] [] h2) ∧ (r8 = 0 → ∀ q10 : Nat, q10 = h2.z → WF G h2 → ∀ h11 : AH, h11 = h2.new 14 2 [] [] [] → Cw G mX14_init d q10 [vR q10] h11 (kV (fun h14 => vp_in (h2.i 12005 x1) (h14.ar r5).length ∧ (q10 = 0 ∨ h14.kd q10 = 14) ∧ ∀ h19 : AH, h19 = h14.wr r5 ((h14.ar r5).set ((h2.i 12005 x1).toNatClampNeg) q10) → Aw G mX10_output (d + 1) t h0 Φ 38 [vU, vJ v1, vU, vR v3, vI v4, vR x1, vU] [] h19) (fun x h => Φ (.inr x) h))))) (fun x h => Φ (.inr x) h))) : Aw G mX10_output (d + 1) t h0 Φ 0 [vR v0, vJ v1, vU, vR v3, vI v4, vU, vU] [] h := by
  refine r_aload_n (pc := 0) dX10_output_0 rfl ?_
  obtain ⟨hk3, K⟩ := K
  refine r_callV_R (pc := 1) (Y := mX10_latest) (vs := []) (st := []) hk3 rfl kc10 q694 q695 q696 dX10_output_1 rfl cd_X10_latest rfl rfl fp_X10_output_X10_latest K (fun x1 h2 eh2 wh2 K => ?_) (fun x h1 _ _ e => Tw.out rfl e)
  refine r_astore (pc := 4) (lv' := [_, _, _, _, _, _, _]) dX10_output_4 (by decide) rfl ?_
  refine r_aload (pc := 6) dX10_output_6 rfl ?_
  obtain ⟨hk4, K⟩ := K
  have K := K _ rfl
  refine r_getr' (pc := 8) (T := TX12) 12 3 rfl hk4 (Or.inr (Or.inl ⟨_, q669⟩)) dX10_output_8 kc12 g12003 ?_
  refine r_aload (pc := 11) dX10_output_11 rfl ?_
  refine r_geti' (pc := 13) (T := TX12) 12 5 rfl hk4 (Or.inr (Or.inl ⟨_, q674⟩)) dX10_output_13 kc12 g12005 ?_
  obtain ⟨hk6, K⟩ := K
  obtain ⟨hi7, K⟩ := K
  have K := K _ rfl
  refine r_aaload (pc := 16) (le_of_eq_r hk6 (by decide)) hi7 dX10_output_16 ?_
  refine r_ifnonnull (pc := 17) (tgt := 38) dX10_output_17 rfl (fun c9 => ?_) (fun c9 => ?_)
  · have K := K.1 c9
    refine r_mask (pc := 38) [false, true, false, true, true, true, false] rfl ?_
    exact K
  · have K := K.2 c9
    refine r_aload (pc := 20) dX10_output_20 rfl ?_
    refine r_getr' (pc := 22) (T := TX12) 12 3 rfl hk4 (Or.inr (Or.inl ⟨_, q669⟩)) dX10_output_22 kc12 g12003 ?_
    refine r_aload (pc := 25) dX10_output_25 rfl ?_
    refine r_geti' (pc := 27) (T := TX12) 12 5 rfl hk4 (Or.inr (Or.inl ⟨_, q674⟩)) dX10_output_27 kc12 g12005 ?_
    refine r_new (pc := 30) 14 kc14 rfl q807 q808 q172 dX10_output_30 (fun q10 eq10 zq10 wq10 => ?_)
    refine r_nameH (fun h11 eh11 => ?_)
    have K := K q10 eq10 wq10 h11 eh11
    have hk12 := kd_newSE eh11 eq10
    refine r_dup (pc := 33) rfl dX10_output_33 ?_
    refine r_callIN_V (pc := 34) (Y := mX14_init) (vs := []) (st := [_, _, _]) (nzk hk12 rfl) q809 q810 q811 rfl rfl rfl dX10_output_34 rfl (Or.inr zq10) rfl rfl fp_X10_output_X14_init K (fun h14 eh14 wh14 K => ?_) (fun x h1 _ _ e => Tw.out rfl e)
    have hk15 := kd_newE eh11 wq10 hk6 (nz rfl)
    have hk16 := kd_ext eh14 hk15 (nz rfl)
    obtain ⟨hi17, K⟩ := K
    obtain ⟨hk18, K⟩ := K
    refine r_aastore (pc := 37) 109 14 hk16 rfl kc14 hi17 hk18 (Or.inl (em rfl)) dX10_output_37 rfl ?_
    refine r_nameH (fun h19 eh19 => ?_)
    have K := K h19 eh19
    refine r_mask (pc := 38) [false, true, false, true, true, true, false] rfl ?_
    exact K
theorem eX10_output {G : Gx} {d : Nat} {Φ : Out → AH → Prop} (h : AH) (v0 : Nat) (v1 : Int64) (v3 : Nat) (v4 : Int32) (K : WF G h → Aw G mX10_output (d + 1) 0 h Φ 0 [vR v0, vJ v1, vU, vR v3, vI v4, vU, vU] [] h) : Cw G mX10_output (d + 1) 0 [vR v0, vJ v1, vR v3, vI v4] h Φ := Cw.of rfl K
set_option maxHeartbeats 4000000 in
theorem sX10_output_38 {G : Gx} {d t : Nat} {h0 : AH} {Φ : Out → AH → Prop} (h : AH) (v1 : Int64) (v3 : Nat) (v4 : Int32) (v5 : Nat) (K : h.kd v5 = 12 ∧ ∀ r2 : Nat, r2 = (h.r 12003 v5) → h.kd r2 = 109 ∧ vp_in (h.i 12005 v5) (h.ar r2).length ∧ ∀ r5 : Nat, r5 = ((h.ar r2).getD ((h.i 12005 v5).toNatClampNeg) 0) → ∀ h6 : AH, h6 = h.pi 12005 v5 ((h.i 12005 v5) + 1) → h6.kd r5 = 14 ∧ ∀ h8 : AH, h8 = h6.pl 14000 r5 v1 → ∀ r10 : Nat, r10 = (h8.r 14001 r5) → h8.kd r10 = 11 ∧ Cw G mX11_clear d 0 [vR r10] h8 (kV (fun h12 => Cw G mX11_copy d 0 [vR r10, vR v3, vI 0, vI v4] h12 (kV (fun h18 => Φ (.inl none) h18) (fun x h => Φ (.inr x) h))) (fun x h => Φ (.inr x) h))) : Aw G mX10_output (d + 1) t h0 Φ 38 [vU, vJ v1, vU, vR v3, vI v4, vR v5, vU] [] h := by
  refine r_aload (pc := 38) dX10_output_38 rfl ?_
  obtain ⟨hk1, K⟩ := K
  have K := K _ rfl
  refine r_getr' (pc := 40) (T := TX12) 12 3 rfl hk1 (Or.inr (Or.inl ⟨_, q669⟩)) dX10_output_40 kc12 g12003 ?_
  refine r_aload (pc := 43) dX10_output_43 rfl ?_
  refine r_geti' (pc := 45) (T := TX12) 12 5 rfl hk1 (Or.inr (Or.inl ⟨_, q674⟩)) dX10_output_45 kc12 g12005 ?_
  obtain ⟨hk3, K⟩ := K
  obtain ⟨hi4, K⟩ := K
  have K := K _ rfl
  refine r_aaload (pc := 48) (le_of_eq_r hk3 (by decide)) hi4 dX10_output_48 ?_
  refine r_astore (pc := 49) (lv' := [_, _, _, _, _, _, _]) dX10_output_49 (by decide) rfl ?_
  refine r_aload (pc := 51) dX10_output_51 rfl ?_
  refine r_dup (pc := 53) rfl dX10_output_53 ?_
  refine r_geti' (pc := 54) (T := TX12) 12 5 rfl hk1 (Or.inr (Or.inl ⟨_, q674⟩)) dX10_output_54 kc12 g12005 ?_
  refine r_iconst (pc := 57) (x := 1) dX10_output_57 rfl ?_
  refine r_iadd (pc := 58) dX10_output_58 ?_
  refine r_puti (pc := 59) (T := TX12) (key := 12005) 12 5 hk1 (Or.inr (Or.inl ⟨_, q674⟩)) dX10_output_59 kc12 rfl (Or.inl rfl) (Or.inl (em rfl)) ?_
  refine r_nameH (fun h6 eh6 => ?_)
  have K := K h6 eh6
  refine r_aload (pc := 62) dX10_output_62 rfl ?_
  refine r_lload_n (pc := 64) dX10_output_64 rfl ?_
  obtain ⟨hk7, K⟩ := K
  refine r_putl (pc := 65) (T := TX14) (key := 14000) 14 0 hk7 (Or.inr (Or.inl ⟨_, q816⟩)) dX10_output_65 kc14 rfl (Or.inl rfl) (Or.inl (em rfl)) ?_
  refine r_nameH (fun h8 eh8 => ?_)
  have K := K h8 eh8
  refine r_aload (pc := 68) dX10_output_68 rfl ?_
  have hk9 := kd_pl eh8 hk7
  have K := K _ rfl
  refine r_getr' (pc := 70) (T := TX14) 14 1 rfl hk9 (Or.inr (Or.inl ⟨_, q819⟩)) dX10_output_70 kc14 g14001 ?_
  obtain ⟨hk13, K⟩ := K
  refine r_callV_V (pc := 73) (Y := mX11_clear) (vs := []) (st := []) hk13 rfl kc11 q726 q727 q728 dX10_output_73 rfl cd_X11_clear rfl rfl fp_X10_output_X11_clear K (fun h12 eh12 wh12 K => ?_) (fun x h1 _ _ e => Tw.out rfl e)
  refine r_aload (pc := 76) dX10_output_76 rfl ?_
  have hk14 := kd_ext eh12 hk9 (nz rfl)
  have hv15 := fr_self (key := 14001) hk9
  have hv16 := (fr_ext (key := 14001) eh12 hk9 (nz rfl) (ne0 wh12 hk14 (nz rfl)) (nm rfl)).trans hv15
  refine r_getr' (pc := 78) (T := TX14) 14 1 hv16 hk14 (Or.inr (Or.inl ⟨_, q819⟩)) dX10_output_78 kc14 g14001 ?_
  refine r_aload_n (pc := 81) dX10_output_81 rfl ?_
  refine r_iconst (pc := 82) (x := 0) dX10_output_82 rfl ?_
  refine r_iload (pc := 83) dX10_output_83 rfl ?_
  have hk19 := kd_ext eh12 hk13 (nz rfl)
  refine r_callV_V (pc := 85) (Y := mX11_copy) (vs := [_, _, _]) (st := []) hk19 rfl kc11 q730 q731 q732 dX10_output_85 rfl cd_X11_copy rfl rfl fp_X10_output_X11_copy K (fun h18 eh18 wh18 K => ?_) (fun x h1 _ _ e => Tw.out rfl e)
  exact r_vret (pc := 88) rfl dX10_output_88 K
theorem dX11_push_0 : decode cX11_push 0 = .ok (.iload_n 3, 1) := by decide +kernel
theorem dX11_push_1 : decode cX11_push 1 = .ok (.bipush 76, 2) := by decide +kernel
theorem dX11_push_3 : decode cX11_push 3 = .ok (.if_icmp .ge 13, 3) := by decide +kernel
theorem dX11_push_6 : decode cX11_push 6 = .ok (.aload_n 0, 1) := by decide +kernel
theorem dX11_push_7 : decode cX11_push 7 = .ok (.iload_n 3, 1) := by decide +kernel
theorem dX11_push_8 : decode cX11_push 8 = .ok (.i2l, 1) := by decide +kernel
theorem dX11_push_9 : decode cX11_push 9 = .ok (.iconst 1, 1) := by decide +kernel
theorem dX11_push_10 : decode cX11_push 10 = .ok (.invokevirtual 20, 3) := by decide +kernel
theorem dX11_push_13 : decode cX11_push 13 = .ok (.goto 43, 3) := by decide +kernel
theorem dX11_push_16 : decode cX11_push 16 = .ok (.iload_n 3, 1) := by decide +kernel
theorem dX11_push_17 : decode cX11_push 17 = .ok (.sipush 256, 3) := by decide +kernel
theorem dX11_push_20 : decode cX11_push 20 = .ok (.if_icmp .ge 21, 3) := by decide +kernel
theorem dX11_push_23 : decode cX11_push 23 = .ok (.aload_n 0, 1) := by decide +kernel
theorem dX11_push_24 : decode cX11_push 24 = .ok (.ldc2_w 26, 3) := by decide +kernel
theorem dX11_push_27 : decode cX11_push 27 = .ok (.iconst 1, 1) := by decide +kernel
theorem dX11_push_28 : decode cX11_push 28 = .ok (.invokevirtual 20, 3) := by decide +kernel
theorem dX11_push_31 : decode cX11_push 31 = .ok (.aload_n 0, 1) := by decide +kernel
theorem dX11_push_32 : decode cX11_push 32 = .ok (.iload_n 3, 1) := by decide +kernel
theorem dX11_push_33 : decode cX11_push 33 = .ok (.i2l, 1) := by decide +kernel
theorem dX11_push_34 : decode cX11_push 34 = .ok (.iconst 1, 1) := by decide +kernel
theorem dX11_push_35 : decode cX11_push 35 = .ok (.invokevirtual 20, 3) := by decide +kernel
theorem dX11_push_38 : decode cX11_push 38 = .ok (.goto 18, 3) := by decide +kernel
theorem dX11_push_41 : decode cX11_push 41 = .ok (.aload_n 0, 1) := by decide +kernel
theorem dX11_push_42 : decode cX11_push 42 = .ok (.ldc2_w 28, 3) := by decide +kernel
theorem dX11_push_45 : decode cX11_push 45 = .ok (.iconst 1, 1) := by decide +kernel
theorem dX11_push_46 : decode cX11_push 46 = .ok (.invokevirtual 20, 3) := by decide +kernel
theorem dX11_push_49 : decode cX11_push 49 = .ok (.aload_n 0, 1) := by decide +kernel
theorem dX11_push_50 : decode cX11_push 50 = .ok (.iload_n 3, 1) := by decide +kernel
theorem dX11_push_51 : decode cX11_push 51 = .ok (.i2l, 1) := by decide +kernel
theorem dX11_push_52 : decode cX11_push 52 = .ok (.iconst 2, 1) := by decide +kernel
theorem dX11_push_53 : decode cX11_push 53 = .ok (.invokevirtual 20, 3) := by decide +kernel
theorem dX11_push_56 : decode cX11_push 56 = .ok (.aload_n 0, 1) := by decide +kernel
theorem dX11_push_57 : decode cX11_push 57 = .ok (.aload_n 1, 1) := by decide +kernel
theorem dX11_push_58 : decode cX11_push 58 = .ok (.iload_n 2, 1) := by decide +kernel
theorem dX11_push_59 : decode cX11_push 59 = .ok (.iload_n 3, 1) := by decide +kernel
theorem dX11_push_60 : decode cX11_push 60 = .ok (.invokevirtual 30, 3) := by decide +kernel
theorem dX11_push_63 : decode cX11_push 63 = .ok (.return_, 1) := by decide +kernel
/-! CoinJudge$Sink.push([BII)V -/
set_option maxHeartbeats 4000000 in
theorem sX11_push_0 {G : Gx} {d t : Nat} {h0 : AH} {Φ : Out → AH → Prop} (h : AH) (v0 : Nat) (v1 : Nat) (v2 : Int32) (v3 : Int32) (K : ((76 ≤ v3 → ((256 ≤ v3 → h.kd v0 = 11 ∧ Cw G mX11_put d 0 [vR v0, vJ 77, vI 1] h (kV (fun h4 => Cw G mX11_put d 0 [vR v0, vJ v3.toInt64, vI 2] h4 (kV (fun h7 => Cw G mX11_copy d 0 [vR v0, vR v1, vI v2, vI v3] h7 (kV (fun h10 => Φ (.inl none) h10) (fun x h => Φ (.inr x) h))) (fun x h => Φ (.inr x) h))) (fun x h => Φ (.inr x) h))) ∧ (¬ 256 ≤ v3 → h.kd v0 = 11 ∧ Cw G mX11_put d 0 [vR v0, vJ 76, vI 1] h (kV (fun h13 => Cw G mX11_put d 0 [vR v0, vJ v3.toInt64, vI 1] h13 (kV (fun h16 => Cw G mX11_copy d 0 [vR v0, vR v1, vI v2, vI v3] h16 (kV (fun h19 => Φ (.inl none) h19) (fun x h => Φ (.inr x) h))) (fun x h => Φ (.inr x) h))) (fun x h => Φ (.inr x) h))))) ∧ (¬ 76 ≤ v3 → h.kd v0 = 11 ∧ Cw G mX11_put d 0 [vR v0, vJ v3.toInt64, vI 1] h (kV (fun h22 => Cw G mX11_copy d 0 [vR v0, vR v1, vI v2, vI v3] h22 (kV (fun h25 => Φ (.inl none) h25) (fun x h => Φ (.inr x) h))) (fun x h => Φ (.inr x) h))))) : Aw G mX11_push (d + 1) t h0 Φ 0 [vR v0, vR v1, vI v2, vI v3] [] h := by
  refine r_iload_n (pc := 0) dX11_push_0 rfl ?_
  refine r_bipush (pc := 1) (x := 76) dX11_push_1 rfl ?_
  refine r_icmp_ge (pc := 3) (tgt := 16) dX11_push_3 rfl (fun c1 => ?_) (fun c1 => ?_)
  · have K := K.1 c1
    refine r_iload_n (pc := 16) dX11_push_16 rfl ?_
    refine r_sipush (pc := 17) (x := 256) dX11_push_17 rfl ?_
    refine r_icmp_ge (pc := 20) (tgt := 41) dX11_push_20 rfl (fun c2 => ?_) (fun c2 => ?_)
    · have K := K.1 c2
      refine r_aload_n (pc := 41) dX11_push_41 rfl ?_
      refine r_ldc2 (pc := 42) dX11_push_42 q1958 ?_
      refine r_iconst (pc := 45) (x := 1) dX11_push_45 rfl ?_
      obtain ⟨hk5, K⟩ := K
      refine r_callV_V (pc := 46) (Y := mX11_put) (vs := [_, _]) (st := []) hk5 rfl kc11 q876 q868 q869 dX11_push_46 rfl cd_X11_put rfl rfl fp_X11_push_X11_put K (fun h4 eh4 wh4 K => ?_) (fun x h1 _ _ e => Tw.out rfl e)
      refine r_aload_n (pc := 49) dX11_push_49 rfl ?_
      refine r_iload_n (pc := 50) dX11_push_50 rfl ?_
      refine r_i2l (pc := 51) dX11_push_51 ?_
      refine r_iconst (pc := 52) (x := 2) dX11_push_52 rfl ?_
      have hk8 := kd_ext eh4 hk5 (nz rfl)
      refine r_callV_V (pc := 53) (Y := mX11_put) (vs := [_, _]) (st := []) hk8 rfl kc11 q876 q868 q869 dX11_push_53 rfl cd_X11_put rfl rfl fp_X11_push_X11_put K (fun h7 eh7 wh7 K => ?_) (fun x h1 _ _ e => Tw.out rfl e)
      refine r_aload_n (pc := 56) dX11_push_56 rfl ?_
      refine r_aload_n (pc := 57) dX11_push_57 rfl ?_
      refine r_iload_n (pc := 58) dX11_push_58 rfl ?_
      refine r_iload_n (pc := 59) dX11_push_59 rfl ?_
      have hk11 := kd_ext eh7 hk8 (nz rfl)
      refine r_callV_V (pc := 60) (Y := mX11_copy) (vs := [_, _, _]) (st := []) hk11 rfl kc11 q1959 q731 q732 dX11_push_60 rfl cd_X11_copy rfl rfl fp_X11_push_X11_copy K (fun h10 eh10 wh10 K => ?_) (fun x h1 _ _ e => Tw.out rfl e)
      exact r_vret (pc := 63) rfl dX11_push_63 K
    · have K := K.2 c2
      refine r_aload_n (pc := 23) dX11_push_23 rfl ?_
      refine r_ldc2 (pc := 24) dX11_push_24 q1957 ?_
      refine r_iconst (pc := 27) (x := 1) dX11_push_27 rfl ?_
      obtain ⟨hk14, K⟩ := K
      refine r_callV_V (pc := 28) (Y := mX11_put) (vs := [_, _]) (st := []) hk14 rfl kc11 q876 q868 q869 dX11_push_28 rfl cd_X11_put rfl rfl fp_X11_push_X11_put K (fun h13 eh13 wh13 K => ?_) (fun x h1 _ _ e => Tw.out rfl e)
      refine r_aload_n (pc := 31) dX11_push_31 rfl ?_
      refine r_iload_n (pc := 32) dX11_push_32 rfl ?_
      refine r_i2l (pc := 33) dX11_push_33 ?_
      refine r_iconst (pc := 34) (x := 1) dX11_push_34 rfl ?_
      have hk17 := kd_ext eh13 hk14 (nz rfl)
      refine r_callV_V (pc := 35) (Y := mX11_put) (vs := [_, _]) (st := []) hk17 rfl kc11 q876 q868 q869 dX11_push_35 rfl cd_X11_put rfl rfl fp_X11_push_X11_put K (fun h16 eh16 wh16 K => ?_) (fun x h1 _ _ e => Tw.out rfl e)
      refine r_goto (pc := 38) (tgt := 56) dX11_push_38 rfl ?_
      refine r_aload_n (pc := 56) dX11_push_56 rfl ?_
      refine r_aload_n (pc := 57) dX11_push_57 rfl ?_
      refine r_iload_n (pc := 58) dX11_push_58 rfl ?_
      refine r_iload_n (pc := 59) dX11_push_59 rfl ?_
      have hk20 := kd_ext eh16 hk17 (nz rfl)
      refine r_callV_V (pc := 60) (Y := mX11_copy) (vs := [_, _, _]) (st := []) hk20 rfl kc11 q1959 q731 q732 dX11_push_60 rfl cd_X11_copy rfl rfl fp_X11_push_X11_copy K (fun h19 eh19 wh19 K => ?_) (fun x h1 _ _ e => Tw.out rfl e)
      exact r_vret (pc := 63) rfl dX11_push_63 K
  · have K := K.2 c1
    refine r_aload_n (pc := 6) dX11_push_6 rfl ?_
    refine r_iload_n (pc := 7) dX11_push_7 rfl ?_
    refine r_i2l (pc := 8) dX11_push_8 ?_
    refine r_iconst (pc := 9) (x := 1) dX11_push_9 rfl ?_
    obtain ⟨hk23, K⟩ := K
    refine r_callV_V (pc := 10) (Y := mX11_put) (vs := [_, _]) (st := []) hk23 rfl kc11 q876 q868 q869 dX11_push_10 rfl cd_X11_put rfl rfl fp_X11_push_X11_put K (fun h22 eh22 wh22 K => ?_) (fun x h1 _ _ e => Tw.out rfl e)
    refine r_goto (pc := 13) (tgt := 56) dX11_push_13 rfl ?_
    refine r_aload_n (pc := 56) dX11_push_56 rfl ?_
    refine r_aload_n (pc := 57) dX11_push_57 rfl ?_
    refine r_iload_n (pc := 58) dX11_push_58 rfl ?_
    refine r_iload_n (pc := 59) dX11_push_59 rfl ?_
    have hk26 := kd_ext eh22 hk23 (nz rfl)
    refine r_callV_V (pc := 60) (Y := mX11_copy) (vs := [_, _, _]) (st := []) hk26 rfl kc11 q1959 q731 q732 dX11_push_60 rfl cd_X11_copy rfl rfl fp_X11_push_X11_copy K (fun h25 eh25 wh25 K => ?_) (fun x h1 _ _ e => Tw.out rfl e)
    exact r_vret (pc := 63) rfl dX11_push_63 K
theorem eX11_push {G : Gx} {d : Nat} {Φ : Out → AH → Prop} (h : AH) (v0 : Nat) (v1 : Nat) (v2 : Int32) (v3 : Int32) (K : WF G h → Aw G mX11_push (d + 1) 0 h Φ 0 [vR v0, vR v1, vI v2, vI v3] [] h) : Cw G mX11_push (d + 1) 0 [vR v0, vR v1, vI v2, vI v3] h Φ := Cw.of rfl K
theorem dX16_init_0 : decode cX16_init 0 = .ok (.aload_n 0, 1) := by decide +kernel
theorem dX16_init_1 : decode cX16_init 1 = .ok (.invokespecial 1, 3) := by decide +kernel
theorem dX16_init_4 : decode cX16_init 4 = .ok (.aload_n 0, 1) := by decide +kernel
theorem dX16_init_5 : decode cX16_init 5 = .ok (.aload_n 1, 1) := by decide +kernel
theorem dX16_init_6 : decode cX16_init 6 = .ok (.putfield 7, 3) := by decide +kernel
theorem dX16_init_9 : decode cX16_init 9 = .ok (.aload_n 0, 1) := by decide +kernel
theorem dX16_init_10 : decode cX16_init 10 = .ok (.iload_n 2, 1) := by decide +kernel
theorem dX16_init_11 : decode cX16_init 11 = .ok (.putfield 13, 3) := by decide +kernel
theorem dX16_init_14 : decode cX16_init 14 = .ok (.return_, 1) := by decide +kernel
/-! CoinJudge$Source.<init>([BI)V -/
set_option maxHeartbeats 4000000 in
theorem sX16_init_0 {G : Gx} {d t : Nat} {h0 : AH} {Φ : Out → AH → Prop} (h : AH) (v0 : Nat) (v1 : Nat) (v2 : Int32) (K : h.kd v0 = 16 ∧ ∀ h2 : AH, h2 = h.pr 16000 v0 v1 → ∀ h4 : AH, h4 = h2.pi 16002 v0 v2 → Φ (.inl none) h4) : Aw G mX16_init (d + 1) v0 h0 Φ 0 [vR v0, vR v1, vI v2] [] h := by
  refine r_aload_n (pc := 0) dX16_init_0 rfl ?_
  obtain ⟨hk1, K⟩ := K
  refine r_objInit (pc := 1) (nzk hk1 rfl) q1020 q207 q208 dX16_init_1 (by decide) ?_
  refine r_aload_n (pc := 4) dX16_init_4 rfl ?_
  refine r_aload_n (pc := 5) dX16_init_5 rfl ?_
  refine r_putr (pc := 6) (T := TX16) (key := 16000) 16 0 (ty := (.array .byte)) hk1 (Or.inl q1021) dX16_init_6 kc16 rfl rfl (Or.inr q1021) (Or.inr (Or.inl rfl)) ?_
  refine r_nameH (fun h2 eh2 => ?_)
  have K := K h2 eh2
  refine r_aload_n (pc := 9) dX16_init_9 rfl ?_
  refine r_iload_n (pc := 10) dX16_init_10 rfl ?_
  have hk3 := kd_pr eh2 hk1
  refine r_puti (pc := 11) (T := TX16) (key := 16002) 16 2 hk3 (Or.inl q1023) dX16_init_11 kc16 rfl (Or.inr q1023) (Or.inr (Or.inl rfl)) ?_
  refine r_nameH (fun h4 eh4 => ?_)
  have K := K h4 eh4
  exact r_vret (pc := 14) rfl dX16_init_14 K
theorem eX16_init {G : Gx} {d : Nat} {Φ : Out → AH → Prop} (h : AH) (v0 : Nat) (v1 : Nat) (v2 : Int32) (K : WF G h → Aw G mX16_init (d + 1) v0 h Φ 0 [vR v0, vR v1, vI v2] [] h) : Cw G mX16_init (d + 1) v0 [vR v0, vR v1, vI v2] h Φ := Cw.of rfl K
theorem dX16_at_0 : decode cX16_at 0 = .ok (.aload_n 0, 1) := by decide +kernel
theorem dX16_at_1 : decode cX16_at 1 = .ok (.getfield 17, 3) := by decide +kernel
theorem dX16_at_4 : decode cX16_at 4 = .ok (.ireturn, 1) := by decide +kernel
/-! CoinJudge$Source.at()I -/
set_option maxHeartbeats 4000000 in
theorem sX16_at_0 {G : Gx} {d t : Nat} {h0 : AH} {Φ : Out → AH → Prop} (h : AH) (v0 : Nat) (K : h.kd v0 = 16 ∧ Φ (.inl (some (vI (h.i 16001 v0)))) h) : Aw G mX16_at (d + 1) t h0 Φ 0 [vR v0] [] h := by
  refine r_aload_n (pc := 0) dX16_at_0 rfl ?_
  obtain ⟨hk1, K⟩ := K
  refine r_geti' (pc := 1) (T := TX16) 16 1 rfl hk1 (Or.inl q1022) dX16_at_1 kc16 g16001 ?_
  exact r_iret (pc := 4) rfl rfl dX16_at_4 K
theorem eX16_at {G : Gx} {d : Nat} {Φ : Out → AH → Prop} (h : AH) (v0 : Nat) (K : WF G h → Aw G mX16_at (d + 1) 0 h Φ 0 [vR v0] [] h) : Cw G mX16_at (d + 1) 0 [vR v0] h Φ := Cw.of rfl K
theorem dX16_pass_0 : decode cX16_pass 0 = .ok (.lload_n 1, 1) := by decide +kernel
theorem dX16_pass_1 : decode cX16_pass 1 = .ok (.lconst 0, 1) := by decide +kernel
theorem dX16_pass_2 : decode cX16_pass 2 = .ok (.lcmp, 1) := by decide +kernel
theorem dX16_pass_3 : decode cX16_pass 3 = .ok (.ifCond .lt 18, 3) := by decide +kernel
theorem dX16_pass_6 : decode cX16_pass 6 = .ok (.lload_n 1, 1) := by decide +kernel
theorem dX16_pass_7 : decode cX16_pass 7 = .ok (.aload_n 0, 1) := by decide +kernel
theorem dX16_pass_8 : decode cX16_pass 8 = .ok (.getfield 13, 3) := by decide +kernel
theorem dX16_pass_11 : decode cX16_pass 11 = .ok (.aload_n 0, 1) := by decide +kernel
theorem dX16_pass_12 : decode cX16_pass 12 = .ok (.getfield 17, 3) := by decide +kernel
theorem dX16_pass_15 : decode cX16_pass 15 = .ok (.isub, 1) := by decide +kernel
theorem dX16_pass_16 : decode cX16_pass 16 = .ok (.i2l, 1) := by decide +kernel
theorem dX16_pass_17 : decode cX16_pass 17 = .ok (.lcmp, 1) := by decide +kernel
theorem dX16_pass_18 : decode cX16_pass 18 = .ok (.ifCond .le 11, 3) := by decide +kernel
theorem dX16_pass_21 : decode cX16_pass 21 = .ok (.new 20, 3) := by decide +kernel
theorem dX16_pass_24 : decode cX16_pass 24 = .ok (.dup, 1) := by decide +kernel
theorem dX16_pass_25 : decode cX16_pass 25 = .ok (.invokespecial 22, 3) := by decide +kernel
theorem dX16_pass_28 : decode cX16_pass 28 = .ok (.athrow, 1) := by decide +kernel
theorem dX16_pass_29 : decode cX16_pass 29 = .ok (.aload_n 0, 1) := by decide +kernel
theorem dX16_pass_30 : decode cX16_pass 30 = .ok (.getfield 17, 3) := by decide +kernel
theorem dX16_pass_33 : decode cX16_pass 33 = .ok (.istore_n 3, 1) := by decide +kernel
theorem dX16_pass_34 : decode cX16_pass 34 = .ok (.aload_n 0, 1) := by decide +kernel
theorem dX16_pass_35 : decode cX16_pass 35 = .ok (.dup, 1) := by decide +kernel
theorem dX16_pass_36 : decode cX16_pass 36 = .ok (.getfield 17, 3) := by decide +kernel
theorem dX16_pass_39 : decode cX16_pass 39 = .ok (.lload_n 1, 1) := by decide +kernel
theorem dX16_pass_40 : decode cX16_pass 40 = .ok (.l2i, 1) := by decide +kernel
theorem dX16_pass_41 : decode cX16_pass 41 = .ok (.iadd, 1) := by decide +kernel
theorem dX16_pass_42 : decode cX16_pass 42 = .ok (.putfield 17, 3) := by decide +kernel
theorem dX16_pass_45 : decode cX16_pass 45 = .ok (.iload_n 3, 1) := by decide +kernel
theorem dX16_pass_46 : decode cX16_pass 46 = .ok (.ireturn, 1) := by decide +kernel
/-! CoinJudge$Source.pass(J)I -/
set_option maxHeartbeats 4000000 in
theorem sX16_pass_0 {G : Gx} {d t : Nat} {h0 : AH} {Φ : Out → AH → Prop} (h : AH) (v0 : Nat) (v1 : Int64) (K : ((v1 < 0 → ∀ q2 : Nat, q2 = h.z → WF G h → ∀ h3 : AH, h3 = h.new 17 6 [] [] [] → 5 ≤ d ∧ ∀ h6 : AH, h6 = exH G 17 q2 h3 → Φ (.inr q2) h6) ∧ (¬ v1 < 0 → h.kd v0 = 16 ∧ ((v1 ≤ ((h.i 16002 v0) - (h.i 16001 v0)).toInt64 → ∀ h10 : AH, h10 = h.pi 16001 v0 ((h.i 16001 v0) + v1.toInt32) → Φ (.inl (some (vI (h.i 16001 v0)))) h10) ∧ (¬ v1 ≤ ((h.i 16002 v0) - (h.i 16001 v0)).toInt64 → ∀ q11 : Nat, q11 = h.z → WF G h → ∀ h12 : AH, h12 = h.new 17 6 [] [] [] → 5 ≤ d ∧ ∀ h15 : AH, h15 = exH G 17 q11 h12 → Φ (.inr q11) h15))))) : Aw G mX16_pass (d + 1) t h0 Φ 0 [vR v0, vJ v1, vU, vU] [] h := by
  refine r_lload_n (pc := 0) dX16_pass_0 rfl ?_
  refine r_lconst (pc := 1) (a := 0) dX16_pass_1 rfl ?_
  refine r_lcmp_lt (pc := 2) (tgt := 21) dX16_pass_2 dX16_pass_3 rfl (fun c1 => ?_) (fun c1 => ?_)
  · have K := K.1 c1
    refine r_new (pc := 21) 17 kc17 rfl q1036 q1037 q182 dX16_pass_21 (fun q2 eq2 zq2 wq2 => ?_)
    refine r_nameH (fun h3 eh3 => ?_)
    have K := K q2 eq2 wq2 h3 eh3
    have hk4 := kd_newSE eh3 eq2
    refine r_dup (pc := 24) rfl dX16_pass_24 ?_
    obtain ⟨hd5, K⟩ := K
    refine r_exInit (pc := 25) 17 _ hd5 hk4 (fr_newS eh3 eq2) (Or.inr zq2) kc17 rfl ex_17 (Or.inr ⟨_, q1045⟩) dX16_pass_25 rfl ?_
    refine r_nameH (fun h6 eh6 => ?_)
    have K := K h6 eh6
    have hk7 := kd_exH eh6 hk4
    exact r_athrow (pc := 28) (nzk hk7 rfl) dX16_pass_28 (Tw.out rfl K)
  · have K := K.2 c1
    refine r_lload_n (pc := 6) dX16_pass_6 rfl ?_
    refine r_aload_n (pc := 7) dX16_pass_7 rfl ?_
    obtain ⟨hk8, K⟩ := K
    refine r_geti' (pc := 8) (T := TX16) 16 2 rfl hk8 (Or.inl q1023) dX16_pass_8 kc16 g16002 ?_
    refine r_aload_n (pc := 11) dX16_pass_11 rfl ?_
    refine r_geti' (pc := 12) (T := TX16) 16 1 rfl hk8 (Or.inl q1022) dX16_pass_12 kc16 g16001 ?_
    refine r_isub (pc := 15) dX16_pass_15 ?_
    refine r_i2l (pc := 16) dX16_pass_16 ?_
    refine r_lcmp_le (pc := 17) (tgt := 29) dX16_pass_17 dX16_pass_18 rfl (fun c9 => ?_) (fun c9 => ?_)
    · have K := K.1 c9
      refine r_aload_n (pc := 29) dX16_pass_29 rfl ?_
      refine r_geti' (pc := 30) (T := TX16) 16 1 rfl hk8 (Or.inl q1022) dX16_pass_30 kc16 g16001 ?_
      refine r_istore_n (pc := 33) (lv' := [_, _, _, _]) dX16_pass_33 (by decide) rfl ?_
      refine r_aload_n (pc := 34) dX16_pass_34 rfl ?_
      refine r_dup (pc := 35) rfl dX16_pass_35 ?_
      refine r_geti' (pc := 36) (T := TX16) 16 1 rfl hk8 (Or.inl q1022) dX16_pass_36 kc16 g16001 ?_
      refine r_lload_n (pc := 39) dX16_pass_39 rfl ?_
      refine r_l2i (pc := 40) dX16_pass_40 ?_
      refine r_iadd (pc := 41) dX16_pass_41 ?_
      refine r_puti (pc := 42) (T := TX16) (key := 16001) 16 1 hk8 (Or.inl q1022) dX16_pass_42 kc16 rfl (Or.inl rfl) (Or.inl (em rfl)) ?_
      refine r_nameH (fun h10 eh10 => ?_)
      have K := K h10 eh10
      refine r_iload_n (pc := 45) dX16_pass_45 rfl ?_
      exact r_iret (pc := 46) rfl rfl dX16_pass_46 K
    · have K := K.2 c9
      refine r_new (pc := 21) 17 kc17 rfl q1036 q1037 q182 dX16_pass_21 (fun q11 eq11 zq11 wq11 => ?_)
      refine r_nameH (fun h12 eh12 => ?_)
      have K := K q11 eq11 wq11 h12 eh12
      have hk13 := kd_newSE eh12 eq11
      refine r_dup (pc := 24) rfl dX16_pass_24 ?_
      obtain ⟨hd14, K⟩ := K
      refine r_exInit (pc := 25) 17 _ hd14 hk13 (fr_newS eh12 eq11) (Or.inr zq11) kc17 rfl ex_17 (Or.inr ⟨_, q1045⟩) dX16_pass_25 rfl ?_
      refine r_nameH (fun h15 eh15 => ?_)
      have K := K h15 eh15
      have hk16 := kd_exH eh15 hk13
      exact r_athrow (pc := 28) (nzk hk16 rfl) dX16_pass_28 (Tw.out rfl K)
theorem eX16_pass {G : Gx} {d : Nat} {Φ : Out → AH → Prop} (h : AH) (v0 : Nat) (v1 : Int64) (K : WF G h → Aw G mX16_pass (d + 1) 0 h Φ 0 [vR v0, vJ v1, vU, vU] [] h) : Cw G mX16_pass (d + 1) 0 [vR v0, vJ v1] h Φ := Cw.of rfl K
theorem dX16_number_0 : decode cX16_number 0 = .ok (.aload_n 0, 1) := by decide +kernel
theorem dX16_number_1 : decode cX16_number 1 = .ok (.iload_n 1, 1) := by decide +kernel
theorem dX16_number_2 : decode cX16_number 2 = .ok (.i2l, 1) := by decide +kernel
theorem dX16_number_3 : decode cX16_number 3 = .ok (.invokevirtual 23, 3) := by decide +kernel
theorem dX16_number_6 : decode cX16_number 6 = .ok (.istore_n 2, 1) := by decide +kernel
theorem dX16_number_7 : decode cX16_number 7 = .ok (.lconst 0, 1) := by decide +kernel
theorem dX16_number_8 : decode cX16_number 8 = .ok (.lstore_n 3, 1) := by decide +kernel
theorem dX16_number_9 : decode cX16_number 9 = .ok (.iload_n 1, 1) := by decide +kernel
theorem dX16_number_10 : decode cX16_number 10 = .ok (.iconst 1, 1) := by decide +kernel
theorem dX16_number_11 : decode cX16_number 11 = .ok (.isub, 1) := by decide +kernel
theorem dX16_number_12 : decode cX16_number 12 = .ok (.istore 5, 2) := by decide +kernel
theorem dX16_number_14 : decode cX16_number 14 = .ok (.iload 5, 2) := by decide +kernel
theorem dX16_number_16 : decode cX16_number 16 = .ok (.ifCond .lt 29, 3) := by decide +kernel
theorem dX16_number_19 : decode cX16_number 19 = .ok (.lload_n 3, 1) := by decide +kernel
theorem dX16_number_20 : decode cX16_number 20 = .ok (.bipush 8, 2) := by decide +kernel
theorem dX16_number_22 : decode cX16_number 22 = .ok (.lshl, 1) := by decide +kernel
theorem dX16_number_23 : decode cX16_number 23 = .ok (.aload_n 0, 1) := by decide +kernel
theorem dX16_number_24 : decode cX16_number 24 = .ok (.getfield 7, 3) := by decide +kernel
theorem dX16_number_27 : decode cX16_number 27 = .ok (.iload_n 2, 1) := by decide +kernel
theorem dX16_number_28 : decode cX16_number 28 = .ok (.iload 5, 2) := by decide +kernel
theorem dX16_number_30 : decode cX16_number 30 = .ok (.iadd, 1) := by decide +kernel
theorem dX16_number_31 : decode cX16_number 31 = .ok (.baload, 1) := by decide +kernel
theorem dX16_number_32 : decode cX16_number 32 = .ok (.sipush 255, 3) := by decide +kernel
theorem dX16_number_35 : decode cX16_number 35 = .ok (.iand, 1) := by decide +kernel
theorem dX16_number_36 : decode cX16_number 36 = .ok (.i2l, 1) := by decide +kernel
theorem dX16_number_37 : decode cX16_number 37 = .ok (.lor, 1) := by decide +kernel
theorem dX16_number_38 : decode cX16_number 38 = .ok (.lstore_n 3, 1) := by decide +kernel
theorem dX16_number_39 : decode cX16_number 39 = .ok (.iinc 5 (-1), 3) := by decide +kernel
theorem dX16_number_42 : decode cX16_number 42 = .ok (.goto (-28), 3) := by decide +kernel
theorem dX16_number_45 : decode cX16_number 45 = .ok (.lload_n 3, 1) := by decide +kernel
theorem dX16_number_46 : decode cX16_number 46 = .ok (.lreturn, 1) := by decide +kernel
/-! CoinJudge$Source.number(I)J -/
set_option maxHeartbeats 4000000 in
theorem sX16_number_0 {G : Gx} {d t : Nat} {h0 : AH} {Φ : Out → AH → Prop} (h : AH) (v0 : Nat) (v1 : Int32) (K : h.kd v0 = 16 ∧ Cw G mX16_pass d 0 [vR v0, vJ v1.toInt64] h (kI (fun x1 h2 => Aw G mX16_number (d + 1) t h0 Φ 14 [vR v0, vU, vI x1, vJ 0, vU, vI (v1 - 1)] [] h2) (fun x h => Φ (.inr x) h))) : Aw G mX16_number (d + 1) t h0 Φ 0 [vR v0, vI v1, vU, vU, vU, vU] [] h := by
  refine r_aload_n (pc := 0) dX16_number_0 rfl ?_
  refine r_iload_n (pc := 1) dX16_number_1 rfl ?_
  refine r_i2l (pc := 2) dX16_number_2 ?_
  obtain ⟨hk3, K⟩ := K
  refine r_callV_I (pc := 3) (Y := mX16_pass) (vs := [_]) (st := []) hk3 rfl kc16 q1055 q1033 q1034 dX16_number_3 rfl cd_X16_pass rfl rfl fp_X16_number_X16_pass K (fun x1 h2 eh2 wh2 K => ?_) (fun x h1 _ _ e => Tw.out rfl e)
  refine r_istore_n (pc := 6) (lv' := [_, _, _, _, _, _]) dX16_number_6 (by decide) rfl ?_
  refine r_lconst (pc := 7) (a := 0) dX16_number_7 rfl ?_
  refine r_lstore_n (pc := 8) (lv' := [_, _, _, _, _, _]) dX16_number_8 (by decide) rfl ?_
  refine r_iload_n (pc := 9) dX16_number_9 rfl ?_
  refine r_iconst (pc := 10) (x := 1) dX16_number_10 rfl ?_
  refine r_isub (pc := 11) dX16_number_11 ?_
  refine r_istore (pc := 12) (lv' := [_, _, _, _, _, _]) dX16_number_12 (by decide) rfl ?_
  refine r_mask (pc := 14) [true, false, true, true, false, true] rfl ?_
  exact K
theorem eX16_number {G : Gx} {d : Nat} {Φ : Out → AH → Prop} (h : AH) (v0 : Nat) (v1 : Int32) (K : WF G h → Aw G mX16_number (d + 1) 0 h Φ 0 [vR v0, vI v1, vU, vU, vU, vU] [] h) : Cw G mX16_number (d + 1) 0 [vR v0, vI v1] h Φ := Cw.of rfl K
set_option maxHeartbeats 4000000 in
theorem sX16_number_14 {G : Gx} {d t : Nat} {h0 : AH} {Φ : Out → AH → Prop} (h : AH) (v0 : Nat) (v2 : Int32) (v3 : Int64) (v5 : Int32) (K : ((v5 < 0 → Φ (.inl (some (vJ v3))) h) ∧ (¬ v5 < 0 → h.kd v0 = 16 ∧ ∀ r3 : Nat, r3 = (h.r 16000 v0) → h.kd r3 = 101 ∧ vp_in (v2 + v5) (h.ai r3).length ∧ ∀ u6 : Int64, u6 = ((Jshl v3 8) ||| (((h.ai r3).getD ((v2 + v5).toNatClampNeg) 0) &&& 255).toInt64) → Aw G mX16_number (d + 1) t h0 Φ 14 [vR v0, vU, vI v2, vJ u6, vU, vI (v5 + (-1))] [] h))) : Aw G mX16_number (d + 1) t h0 Φ 14 [vR v0, vU, vI v2, vJ v3, vU, vI v5] [] h := by
  refine r_iload (pc := 14) dX16_number_14 rfl ?_
  refine r_if_lt (pc := 16) (tgt := 45) dX16_number_16 rfl (fun c1 => ?_) (fun c1 => ?_)
  · have K := K.1 c1
    refine r_lload_n (pc := 45) dX16_number_45 rfl ?_
    exact r_lret (pc := 46) rfl dX16_number_46 K
  · have K := K.2 c1
    refine r_lload_n (pc := 19) dX16_number_19 rfl ?_
    refine r_bipush (pc := 20) (x := 8) dX16_number_20 rfl ?_
    refine r_Jshl (pc := 22) dX16_number_22 ?_
    refine r_aload_n (pc := 23) dX16_number_23 rfl ?_
    obtain ⟨hk2, K⟩ := K
    have K := K _ rfl
    refine r_getr' (pc := 24) (T := TX16) 16 0 rfl hk2 (Or.inl q1021) dX16_number_24 kc16 g16000 ?_
    refine r_iload_n (pc := 27) dX16_number_27 rfl ?_
    refine r_iload (pc := 28) dX16_number_28 rfl ?_
    refine r_iadd (pc := 30) dX16_number_30 ?_
    obtain ⟨hk4, K⟩ := K
    obtain ⟨hi5, K⟩ := K
    refine r_baload (pc := 31) hk4 hi5 dX16_number_31 ?_
    refine r_sipush (pc := 32) (x := 255) dX16_number_32 rfl ?_
    refine r_iand (pc := 35) dX16_number_35 ?_
    refine r_i2l (pc := 36) dX16_number_36 ?_
    refine r_lor (pc := 37) dX16_number_37 ?_
    have K := K _ rfl
    refine r_lstore_n (pc := 38) (lv' := [_, _, _, _, _, _]) dX16_number_38 (by decide) rfl ?_
    refine r_iinc (pc := 39) (lv' := [_, _, _, _, _, _]) dX16_number_39 rfl rfl (by decide) rfl ?_
    refine r_goto (pc := 42) (tgt := 14) dX16_number_42 rfl ?_
    refine r_mask (pc := 14) [true, false, true, true, false, true] rfl ?_
    exact K
theorem dX16_count_0 : decode cX16_count 0 = .ok (.aload_n 0, 1) := by decide +kernel
theorem dX16_count_1 : decode cX16_count 1 = .ok (.iconst 1, 1) := by decide +kernel
theorem dX16_count_2 : decode cX16_count 2 = .ok (.invokevirtual 27, 3) := by decide +kernel
theorem dX16_count_5 : decode cX16_count 5 = .ok (.l2i, 1) := by decide +kernel
theorem dX16_count_6 : decode cX16_count 6 = .ok (.istore_n 1, 1) := by decide +kernel
theorem dX16_count_7 : decode cX16_count 7 = .ok (.iload_n 1, 1) := by decide +kernel
theorem dX16_count_8 : decode cX16_count 8 = .ok (.sipush 253, 3) := by decide +kernel
theorem dX16_count_11 : decode cX16_count 11 = .ok (.if_icmp .ge 6, 3) := by decide +kernel
theorem dX16_count_14 : decode cX16_count 14 = .ok (.iload_n 1, 1) := by decide +kernel
theorem dX16_count_15 : decode cX16_count 15 = .ok (.i2l, 1) := by decide +kernel
theorem dX16_count_16 : decode cX16_count 16 = .ok (.lreturn, 1) := by decide +kernel
theorem dX16_count_17 : decode cX16_count 17 = .ok (.iload_n 1, 1) := by decide +kernel
theorem dX16_count_18 : decode cX16_count 18 = .ok (.sipush 253, 3) := by decide +kernel
theorem dX16_count_21 : decode cX16_count 21 = .ok (.if_icmp .ne 7, 3) := by decide +kernel
theorem dX16_count_24 : decode cX16_count 24 = .ok (.iconst 2, 1) := by decide +kernel
theorem dX16_count_25 : decode cX16_count 25 = .ok (.goto 16, 3) := by decide +kernel
theorem dX16_count_28 : decode cX16_count 28 = .ok (.iload_n 1, 1) := by decide +kernel
theorem dX16_count_29 : decode cX16_count 29 = .ok (.sipush 254, 3) := by decide +kernel
theorem dX16_count_32 : decode cX16_count 32 = .ok (.if_icmp .ne 7, 3) := by decide +kernel
theorem dX16_count_35 : decode cX16_count 35 = .ok (.iconst 4, 1) := by decide +kernel
theorem dX16_count_36 : decode cX16_count 36 = .ok (.goto 5, 3) := by decide +kernel
theorem dX16_count_39 : decode cX16_count 39 = .ok (.bipush 8, 2) := by decide +kernel
theorem dX16_count_41 : decode cX16_count 41 = .ok (.istore_n 2, 1) := by decide +kernel
theorem dX16_count_42 : decode cX16_count 42 = .ok (.aload_n 0, 1) := by decide +kernel
theorem dX16_count_43 : decode cX16_count 43 = .ok (.iload_n 2, 1) := by decide +kernel
theorem dX16_count_44 : decode cX16_count 44 = .ok (.invokevirtual 27, 3) := by decide +kernel
theorem dX16_count_47 : decode cX16_count 47 = .ok (.lstore_n 3, 1) := by decide +kernel
theorem dX16_count_48 : decode cX16_count 48 = .ok (.lload_n 3, 1) := by decide +kernel
theorem dX16_count_49 : decode cX16_count 49 = .ok (.lconst 0, 1) := by decide +kernel
theorem dX16_count_50 : decode cX16_count 50 = .ok (.lcmp, 1) := by decide +kernel
theorem dX16_count_51 : decode cX16_count 51 = .ok (.ifCond .lt 33, 3) := by decide +kernel
theorem dX16_count_54 : decode cX16_count 54 = .ok (.lload_n 3, 1) := by decide +kernel
theorem dX16_count_55 : decode cX16_count 55 = .ok (.iload_n 2, 1) := by decide +kernel
theorem dX16_count_56 : decode cX16_count 56 = .ok (.iconst 2, 1) := by decide +kernel
theorem dX16_count_57 : decode cX16_count 57 = .ok (.if_icmp .ne 9, 3) := by decide +kernel
theorem dX16_count_60 : decode cX16_count 60 = .ok (.ldc2_w 31, 3) := by decide +kernel
theorem dX16_count_63 : decode cX16_count 63 = .ok (.goto 17, 3) := by decide +kernel
theorem dX16_count_66 : decode cX16_count 66 = .ok (.iload_n 2, 1) := by decide +kernel
theorem dX16_count_67 : decode cX16_count 67 = .ok (.iconst 4, 1) := by decide +kernel
theorem dX16_count_68 : decode cX16_count 68 = .ok (.if_icmp .ne 9, 3) := by decide +kernel
theorem dX16_count_71 : decode cX16_count 71 = .ok (.ldc2_w 33, 3) := by decide +kernel
theorem dX16_count_74 : decode cX16_count 74 = .ok (.goto 6, 3) := by decide +kernel
theorem dX16_count_77 : decode cX16_count 77 = .ok (.ldc2_w 35, 3) := by decide +kernel
theorem dX16_count_80 : decode cX16_count 80 = .ok (.lcmp, 1) := by decide +kernel
theorem dX16_count_81 : decode cX16_count 81 = .ok (.ifCond .ge 11, 3) := by decide +kernel
theorem dX16_count_84 : decode cX16_count 84 = .ok (.new 20, 3) := by decide +kernel
theorem dX16_count_87 : decode cX16_count 87 = .ok (.dup, 1) := by decide +kernel
theorem dX16_count_88 : decode cX16_count 88 = .ok (.invokespecial 22, 3) := by decide +kernel
theorem dX16_count_91 : decode cX16_count 91 = .ok (.athrow, 1) := by decide +kernel
theorem dX16_count_92 : decode cX16_count 92 = .ok (.lload_n 3, 1) := by decide +kernel
theorem dX16_count_93 : decode cX16_count 93 = .ok (.lreturn, 1) := by decide +kernel
/-! CoinJudge$Source.count()J -/
set_option maxHeartbeats 4000000 in
theorem sX16_count_0 {G : Gx} {d t : Nat} {h0 : AH} {Φ : Out → AH → Prop} (h : AH) (v0 : Nat) (K : h.kd v0 = 16 ∧ Cw G mX16_number d 0 [vR v0, vI 1] h (kJ (fun x1 h2 => ((253 ≤ x1.toInt32 → ((¬ x1.toInt32 = 253 → ((¬ x1.toInt32 = 254 → Cw G mX16_number d 0 [vR v0, vI 8] h2 (kJ (fun x7 h8 => ((x7 < 0 → ∀ q11 : Nat, q11 = h8.z → WF G h8 → ∀ h12 : AH, h12 = h8.new 17 6 [] [] [] → 5 ≤ d ∧ ∀ h15 : AH, h15 = exH G 17 q11 h12 → Φ (.inr q11) h15) ∧ (¬ x7 < 0 → ((¬ (8 : Int32) = 2 → ((¬ (8 : Int32) = 4 → ((4294967296 ≤ x7 → Φ (.inl (some (vJ x7))) h8) ∧ (¬ 4294967296 ≤ x7 → ∀ q20 : Nat, q20 = h8.z → WF G h8 → ∀ h21 : AH, h21 = h8.new 17 6 [] [] [] → 5 ≤ d ∧ ∀ h24 : AH, h24 = exH G 17 q20 h21 → Φ (.inr q20) h24))) ∧ ((8 : Int32) = 4 → ((65536 ≤ x7 → Φ (.inl (some (vJ x7))) h8) ∧ (¬ 65536 ≤ x7 → ∀ q27 : Nat, q27 = h8.z → WF G h8 → ∀ h28 : AH, h28 = h8.new 17 6 [] [] [] → 5 ≤ d ∧ ∀ h31 : AH, h31 = exH G 17 q27 h28 → Φ (.inr q27) h31))))) ∧ ((8 : Int32) = 2 → ((253 ≤ x7 → Φ (.inl (some (vJ x7))) h8) ∧ (¬ 253 ≤ x7 → ∀ q34 : Nat, q34 = h8.z → WF G h8 → ∀ h35 : AH, h35 = h8.new 17 6 [] [] [] → 5 ≤ d ∧ ∀ h38 : AH, h38 = exH G 17 q34 h35 → Φ (.inr q34) h38))))))) (fun x h => Φ (.inr x) h))) ∧ (x1.toInt32 = 254 → Cw G mX16_number d 0 [vR v0, vI 4] h2 (kJ (fun x40 h41 => ((x40 < 0 → ∀ q44 : Nat, q44 = h41.z → WF G h41 → ∀ h45 : AH, h45 = h41.new 17 6 [] [] [] → 5 ≤ d ∧ ∀ h48 : AH, h48 = exH G 17 q44 h45 → Φ (.inr q44) h48) ∧ (¬ x40 < 0 → ((¬ (4 : Int32) = 2 → ((¬ (4 : Int32) = 4 → ((4294967296 ≤ x40 → Φ (.inl (some (vJ x40))) h41) ∧ (¬ 4294967296 ≤ x40 → ∀ q53 : Nat, q53 = h41.z → WF G h41 → ∀ h54 : AH, h54 = h41.new 17 6 [] [] [] → 5 ≤ d ∧ ∀ h57 : AH, h57 = exH G 17 q53 h54 → Φ (.inr q53) h57))) ∧ ((4 : Int32) = 4 → ((65536 ≤ x40 → Φ (.inl (some (vJ x40))) h41) ∧ (¬ 65536 ≤ x40 → ∀ q60 : Nat, q60 = h41.z → WF G h41 → ∀ h61 : AH, h61 = h41.new 17 6 [] [] [] → 5 ≤ d ∧ ∀ h64 : AH, h64 = exH G 17 q60 h61 → Φ (.inr q60) h64))))) ∧ ((4 : Int32) = 2 → ((253 ≤ x40 → Φ (.inl (some (vJ x40))) h41) ∧ (¬ 253 ≤ x40 → ∀ q67 : Nat, q67 = h41.z → WF G h41 → ∀ h68 : AH, h68 = h41.new 17 6 [] [] [] → 5 ≤ d ∧ ∀ h71 : AH, h71 = exH G 17 q67 h68 → Φ (.inr q67) h71))))))) (fun x h => Φ (.inr x) h))))) ∧ (x1.toInt32 = 253 → Cw G mX16_number d 0 [vR v0, vI 2] h2 (kJ (fun x73 h74 => ((x73 < 0 → ∀ q77 : Nat, q77 = h74.z → WF G h74 → ∀ h78 : AH, h78 = h74.new 17 6 [] [] [] → 5 ≤ d ∧ ∀ h81 : AH, h81 = exH G 17 q77 h78 → Φ (.inr q77) h81) ∧ (¬ x73 < 0 → ((¬ (2 : Int32) = 2 → ((¬ (2 : Int32) = 4 → ((4294967296 ≤ x73 → Φ (.inl (some (vJ x73))) h74) ∧ (¬ 4294967296 ≤ x73 → ∀ q86 : Nat, q86 = h74.z → WF G h74 → ∀ h87 : AH, h87 = h74.new 17 6 [] [] [] → 5 ≤ d ∧ ∀ h90 : AH, h90 = exH G 17 q86 h87 → Φ (.inr q86) h90))) ∧ ((2 : Int32) = 4 → ((65536 ≤ x73 → Φ (.inl (some (vJ x73))) h74) ∧ (¬ 65536 ≤ x73 → ∀ q93 : Nat, q93 = h74.z → WF G h74 → ∀ h94 : AH, h94 = h74.new 17 6 [] [] [] → 5 ≤ d ∧ ∀ h97 : AH, h97 = exH G 17 q93 h94 → Φ (.inr q93) h97))))) ∧ ((2 : Int32) = 2 → ((253 ≤ x73 → Φ (.inl (some (vJ x73))) h74) ∧ (¬ 253 ≤ x73 → ∀ q100 : Nat, q100 = h74.z → WF G h74 → ∀ h101 : AH, h101 = h74.new 17 6 [] [] [] → 5 ≤ d ∧ ∀ h104 : AH, h104 = exH G 17 q100 h101 → Φ (.inr q100) h104))))))) (fun x h => Φ (.inr x) h))))) ∧ (¬ 253 ≤ x1.toInt32 → Φ (.inl (some (vJ x1.toInt32.toInt64))) h2))) (fun x h => Φ (.inr x) h))) : Aw G mX16_count (d + 1) t h0 Φ 0 [vR v0, vU, vU, vU, vU] [] h := by
  refine r_aload_n (pc := 0) dX16_count_0 rfl ?_
  refine r_iconst (pc := 1) (x := 1) dX16_count_1 rfl ?_
  obtain ⟨hk3, K⟩ := K
  refine r_callV_J (pc := 2) (Y := mX16_number) (vs := [_]) (st := []) hk3 rfl kc16 q1060 q1052 q1053 dX16_count_2 rfl cd_X16_number rfl rfl fp_X16_count_X16_number K (fun x1 h2 eh2 wh2 K => ?_) (fun x h1 _ _ e => Tw.out rfl e)
  refine r_l2i (pc := 5) dX16_count_5 ?_
  refine r_istore_n (pc := 6) (lv' := [_, _, _, _, _]) dX16_count_6 (by decide) rfl ?_
  refine r_iload_n (pc := 7) dX16_count_7 rfl ?_
  refine r_sipush (pc := 8) (x := 253) dX16_count_8 rfl ?_
  refine r_icmp_ge (pc := 11) (tgt := 17) dX16_count_11 rfl (fun c4 => ?_) (fun c4 => ?_)
  · have K := K.1 c4
    refine r_iload_n (pc := 17) dX16_count_17 rfl ?_
    refine r_sipush (pc := 18) (x := 253) dX16_count_18 rfl ?_
    refine r_icmp_ne (pc := 21) (tgt := 28) dX16_count_21 rfl (fun c5 => ?_) (fun c5 => ?_)
    · have K := K.1 c5
      refine r_iload_n (pc := 28) dX16_count_28 rfl ?_
      refine r_sipush (pc := 29) (x := 254) dX16_count_29 rfl ?_
      refine r_icmp_ne (pc := 32) (tgt := 39) dX16_count_32 rfl (fun c6 => ?_) (fun c6 => ?_)
      · have K := K.1 c6
        refine r_bipush (pc := 39) (x := 8) dX16_count_39 rfl ?_
        refine r_istore_n (pc := 41) (lv' := [_, _, _, _, _]) dX16_count_41 (by decide) rfl ?_
        refine r_aload_n (pc := 42) dX16_count_42 rfl ?_
        refine r_iload_n (pc := 43) dX16_count_43 rfl ?_
        have hk9 := kd_ext eh2 hk3 (nz rfl)
        refine r_callV_J (pc := 44) (Y := mX16_number) (vs := [_]) (st := []) hk9 rfl kc16 q1060 q1052 q1053 dX16_count_44 rfl cd_X16_number rfl rfl fp_X16_count_X16_number K (fun x7 h8 eh8 wh8 K => ?_) (fun x h1 _ _ e => Tw.out rfl e)
        refine r_lstore_n (pc := 47) (lv' := [_, _, _, _, _]) dX16_count_47 (by decide) rfl ?_
        refine r_lload_n (pc := 48) dX16_count_48 rfl ?_
        refine r_lconst (pc := 49) (a := 0) dX16_count_49 rfl ?_
        refine r_lcmp_lt (pc := 50) (tgt := 84) dX16_count_50 dX16_count_51 rfl (fun c10 => ?_) (fun c10 => ?_)
        · have K := K.1 c10
          refine r_new (pc := 84) 17 kc17 rfl q1036 q1037 q182 dX16_count_84 (fun q11 eq11 zq11 wq11 => ?_)
          refine r_nameH (fun h12 eh12 => ?_)
          have K := K q11 eq11 wq11 h12 eh12
          have hk13 := kd_newSE eh12 eq11
          refine r_dup (pc := 87) rfl dX16_count_87 ?_
          obtain ⟨hd14, K⟩ := K
          refine r_exInit (pc := 88) 17 _ hd14 hk13 (fr_newS eh12 eq11) (Or.inr zq11) kc17 rfl ex_17 (Or.inr ⟨_, q1045⟩) dX16_count_88 rfl ?_
          refine r_nameH (fun h15 eh15 => ?_)
          have K := K h15 eh15
          have hk16 := kd_exH eh15 hk13
          exact r_athrow (pc := 91) (nzk hk16 rfl) dX16_count_91 (Tw.out rfl K)
        · have K := K.2 c10
          refine r_lload_n (pc := 54) dX16_count_54 rfl ?_
          refine r_iload_n (pc := 55) dX16_count_55 rfl ?_
          refine r_iconst (pc := 56) (x := 2) dX16_count_56 rfl ?_
          refine r_icmp_ne (pc := 57) (tgt := 66) dX16_count_57 rfl (fun c17 => ?_) (fun c17 => ?_)
          · have K := K.1 c17
            refine r_iload_n (pc := 66) dX16_count_66 rfl ?_
            refine r_iconst (pc := 67) (x := 4) dX16_count_67 rfl ?_
            refine r_icmp_ne (pc := 68) (tgt := 77) dX16_count_68 rfl (fun c18 => ?_) (fun c18 => ?_)
            · have K := K.1 c18
              refine r_ldc2 (pc := 77) dX16_count_77 q1063 ?_
              refine r_lcmp_ge (pc := 80) (tgt := 92) dX16_count_80 dX16_count_81 rfl (fun c19 => ?_) (fun c19 => ?_)
              · have K := K.1 c19
                refine r_lload_n (pc := 92) dX16_count_92 rfl ?_
                exact r_lret (pc := 93) rfl dX16_count_93 K
              · have K := K.2 c19
                refine r_new (pc := 84) 17 kc17 rfl q1036 q1037 q182 dX16_count_84 (fun q20 eq20 zq20 wq20 => ?_)
                refine r_nameH (fun h21 eh21 => ?_)
                have K := K q20 eq20 wq20 h21 eh21
                have hk22 := kd_newSE eh21 eq20
                refine r_dup (pc := 87) rfl dX16_count_87 ?_
                obtain ⟨hd23, K⟩ := K
                refine r_exInit (pc := 88) 17 _ hd23 hk22 (fr_newS eh21 eq20) (Or.inr zq20) kc17 rfl ex_17 (Or.inr ⟨_, q1045⟩) dX16_count_88 rfl ?_
                refine r_nameH (fun h24 eh24 => ?_)
                have K := K h24 eh24
                have hk25 := kd_exH eh24 hk22
                exact r_athrow (pc := 91) (nzk hk25 rfl) dX16_count_91 (Tw.out rfl K)
            · have K := K.2 c18
              refine r_ldc2 (pc := 71) dX16_count_71 q1062 ?_
              refine r_goto (pc := 74) (tgt := 80) dX16_count_74 rfl ?_
              refine r_lcmp_ge (pc := 80) (tgt := 92) dX16_count_80 dX16_count_81 rfl (fun c26 => ?_) (fun c26 => ?_)
              · have K := K.1 c26
                refine r_lload_n (pc := 92) dX16_count_92 rfl ?_
                exact r_lret (pc := 93) rfl dX16_count_93 K
              · have K := K.2 c26
                refine r_new (pc := 84) 17 kc17 rfl q1036 q1037 q182 dX16_count_84 (fun q27 eq27 zq27 wq27 => ?_)
                refine r_nameH (fun h28 eh28 => ?_)
                have K := K q27 eq27 wq27 h28 eh28
                have hk29 := kd_newSE eh28 eq27
                refine r_dup (pc := 87) rfl dX16_count_87 ?_
                obtain ⟨hd30, K⟩ := K
                refine r_exInit (pc := 88) 17 _ hd30 hk29 (fr_newS eh28 eq27) (Or.inr zq27) kc17 rfl ex_17 (Or.inr ⟨_, q1045⟩) dX16_count_88 rfl ?_
                refine r_nameH (fun h31 eh31 => ?_)
                have K := K h31 eh31
                have hk32 := kd_exH eh31 hk29
                exact r_athrow (pc := 91) (nzk hk32 rfl) dX16_count_91 (Tw.out rfl K)
          · have K := K.2 c17
            refine r_ldc2 (pc := 60) dX16_count_60 q1061 ?_
            refine r_goto (pc := 63) (tgt := 80) dX16_count_63 rfl ?_
            refine r_lcmp_ge (pc := 80) (tgt := 92) dX16_count_80 dX16_count_81 rfl (fun c33 => ?_) (fun c33 => ?_)
            · have K := K.1 c33
              refine r_lload_n (pc := 92) dX16_count_92 rfl ?_
              exact r_lret (pc := 93) rfl dX16_count_93 K
            · have K := K.2 c33
              refine r_new (pc := 84) 17 kc17 rfl q1036 q1037 q182 dX16_count_84 (fun q34 eq34 zq34 wq34 => ?_)
              refine r_nameH (fun h35 eh35 => ?_)
              have K := K q34 eq34 wq34 h35 eh35
              have hk36 := kd_newSE eh35 eq34
              refine r_dup (pc := 87) rfl dX16_count_87 ?_
              obtain ⟨hd37, K⟩ := K
              refine r_exInit (pc := 88) 17 _ hd37 hk36 (fr_newS eh35 eq34) (Or.inr zq34) kc17 rfl ex_17 (Or.inr ⟨_, q1045⟩) dX16_count_88 rfl ?_
              refine r_nameH (fun h38 eh38 => ?_)
              have K := K h38 eh38
              have hk39 := kd_exH eh38 hk36
              exact r_athrow (pc := 91) (nzk hk39 rfl) dX16_count_91 (Tw.out rfl K)
      · have K := K.2 c6
        refine r_iconst (pc := 35) (x := 4) dX16_count_35 rfl ?_
        refine r_goto (pc := 36) (tgt := 41) dX16_count_36 rfl ?_
        refine r_istore_n (pc := 41) (lv' := [_, _, _, _, _]) dX16_count_41 (by decide) rfl ?_
        refine r_aload_n (pc := 42) dX16_count_42 rfl ?_
        refine r_iload_n (pc := 43) dX16_count_43 rfl ?_
        have hk42 := kd_ext eh2 hk3 (nz rfl)
        refine r_callV_J (pc := 44) (Y := mX16_number) (vs := [_]) (st := []) hk42 rfl kc16 q1060 q1052 q1053 dX16_count_44 rfl cd_X16_number rfl rfl fp_X16_count_X16_number K (fun x40 h41 eh41 wh41 K => ?_) (fun x h1 _ _ e => Tw.out rfl e)
        refine r_lstore_n (pc := 47) (lv' := [_, _, _, _, _]) dX16_count_47 (by decide) rfl ?_
        refine r_lload_n (pc := 48) dX16_count_48 rfl ?_
        refine r_lconst (pc := 49) (a := 0) dX16_count_49 rfl ?_
        refine r_lcmp_lt (pc := 50) (tgt := 84) dX16_count_50 dX16_count_51 rfl (fun c43 => ?_) (fun c43 => ?_)
        · have K := K.1 c43
          refine r_new (pc := 84) 17 kc17 rfl q1036 q1037 q182 dX16_count_84 (fun q44 eq44 zq44 wq44 => ?_)
          refine r_nameH (fun h45 eh45 => ?_)
          have K := K q44 eq44 wq44 h45 eh45
          have hk46 := kd_newSE eh45 eq44
          refine r_dup (pc := 87) rfl dX16_count_87 ?_
          obtain ⟨hd47, K⟩ := K
          refine r_exInit (pc := 88) 17 _ hd47 hk46 (fr_newS eh45 eq44) (Or.inr zq44) kc17 rfl ex_17 (Or.inr ⟨_, q1045⟩) dX16_count_88 rfl ?_
          refine r_nameH (fun h48 eh48 => ?_)
          have K := K h48 eh48
          have hk49 := kd_exH eh48 hk46
          exact r_athrow (pc := 91) (nzk hk49 rfl) dX16_count_91 (Tw.out rfl K)
        · have K := K.2 c43
          refine r_lload_n (pc := 54) dX16_count_54 rfl ?_
          refine r_iload_n (pc := 55) dX16_count_55 rfl ?_
          refine r_iconst (pc := 56) (x := 2) dX16_count_56 rfl ?_
          refine r_icmp_ne (pc := 57) (tgt := 66) dX16_count_57 rfl (fun c50 => ?_) (fun c50 => ?_)
          · have K := K.1 c50
            refine r_iload_n (pc := 66) dX16_count_66 rfl ?_
            refine r_iconst (pc := 67) (x := 4) dX16_count_67 rfl ?_
            refine r_icmp_ne (pc := 68) (tgt := 77) dX16_count_68 rfl (fun c51 => ?_) (fun c51 => ?_)
            · have K := K.1 c51
              refine r_ldc2 (pc := 77) dX16_count_77 q1063 ?_
              refine r_lcmp_ge (pc := 80) (tgt := 92) dX16_count_80 dX16_count_81 rfl (fun c52 => ?_) (fun c52 => ?_)
              · have K := K.1 c52
                refine r_lload_n (pc := 92) dX16_count_92 rfl ?_
                exact r_lret (pc := 93) rfl dX16_count_93 K
              · have K := K.2 c52
                refine r_new (pc := 84) 17 kc17 rfl q1036 q1037 q182 dX16_count_84 (fun q53 eq53 zq53 wq53 => ?_)
                refine r_nameH (fun h54 eh54 => ?_)
                have K := K q53 eq53 wq53 h54 eh54
                have hk55 := kd_newSE eh54 eq53
                refine r_dup (pc := 87) rfl dX16_count_87 ?_
                obtain ⟨hd56, K⟩ := K
                refine r_exInit (pc := 88) 17 _ hd56 hk55 (fr_newS eh54 eq53) (Or.inr zq53) kc17 rfl ex_17 (Or.inr ⟨_, q1045⟩) dX16_count_88 rfl ?_
                refine r_nameH (fun h57 eh57 => ?_)
                have K := K h57 eh57
                have hk58 := kd_exH eh57 hk55
                exact r_athrow (pc := 91) (nzk hk58 rfl) dX16_count_91 (Tw.out rfl K)
            · have K := K.2 c51
              refine r_ldc2 (pc := 71) dX16_count_71 q1062 ?_
              refine r_goto (pc := 74) (tgt := 80) dX16_count_74 rfl ?_
              refine r_lcmp_ge (pc := 80) (tgt := 92) dX16_count_80 dX16_count_81 rfl (fun c59 => ?_) (fun c59 => ?_)
              · have K := K.1 c59
                refine r_lload_n (pc := 92) dX16_count_92 rfl ?_
                exact r_lret (pc := 93) rfl dX16_count_93 K
              · have K := K.2 c59
                refine r_new (pc := 84) 17 kc17 rfl q1036 q1037 q182 dX16_count_84 (fun q60 eq60 zq60 wq60 => ?_)
                refine r_nameH (fun h61 eh61 => ?_)
                have K := K q60 eq60 wq60 h61 eh61
                have hk62 := kd_newSE eh61 eq60
                refine r_dup (pc := 87) rfl dX16_count_87 ?_
                obtain ⟨hd63, K⟩ := K
                refine r_exInit (pc := 88) 17 _ hd63 hk62 (fr_newS eh61 eq60) (Or.inr zq60) kc17 rfl ex_17 (Or.inr ⟨_, q1045⟩) dX16_count_88 rfl ?_
                refine r_nameH (fun h64 eh64 => ?_)
                have K := K h64 eh64
                have hk65 := kd_exH eh64 hk62
                exact r_athrow (pc := 91) (nzk hk65 rfl) dX16_count_91 (Tw.out rfl K)
          · have K := K.2 c50
            refine r_ldc2 (pc := 60) dX16_count_60 q1061 ?_
            refine r_goto (pc := 63) (tgt := 80) dX16_count_63 rfl ?_
            refine r_lcmp_ge (pc := 80) (tgt := 92) dX16_count_80 dX16_count_81 rfl (fun c66 => ?_) (fun c66 => ?_)
            · have K := K.1 c66
              refine r_lload_n (pc := 92) dX16_count_92 rfl ?_
              exact r_lret (pc := 93) rfl dX16_count_93 K
            · have K := K.2 c66
              refine r_new (pc := 84) 17 kc17 rfl q1036 q1037 q182 dX16_count_84 (fun q67 eq67 zq67 wq67 => ?_)
              refine r_nameH (fun h68 eh68 => ?_)
              have K := K q67 eq67 wq67 h68 eh68
              have hk69 := kd_newSE eh68 eq67
              refine r_dup (pc := 87) rfl dX16_count_87 ?_
              obtain ⟨hd70, K⟩ := K
              refine r_exInit (pc := 88) 17 _ hd70 hk69 (fr_newS eh68 eq67) (Or.inr zq67) kc17 rfl ex_17 (Or.inr ⟨_, q1045⟩) dX16_count_88 rfl ?_
              refine r_nameH (fun h71 eh71 => ?_)
              have K := K h71 eh71
              have hk72 := kd_exH eh71 hk69
              exact r_athrow (pc := 91) (nzk hk72 rfl) dX16_count_91 (Tw.out rfl K)
    · have K := K.2 c5
      refine r_iconst (pc := 24) (x := 2) dX16_count_24 rfl ?_
      refine r_goto (pc := 25) (tgt := 41) dX16_count_25 rfl ?_
      refine r_istore_n (pc := 41) (lv' := [_, _, _, _, _]) dX16_count_41 (by decide) rfl ?_
      refine r_aload_n (pc := 42) dX16_count_42 rfl ?_
      refine r_iload_n (pc := 43) dX16_count_43 rfl ?_
      have hk75 := kd_ext eh2 hk3 (nz rfl)
      refine r_callV_J (pc := 44) (Y := mX16_number) (vs := [_]) (st := []) hk75 rfl kc16 q1060 q1052 q1053 dX16_count_44 rfl cd_X16_number rfl rfl fp_X16_count_X16_number K (fun x73 h74 eh74 wh74 K => ?_) (fun x h1 _ _ e => Tw.out rfl e)
      refine r_lstore_n (pc := 47) (lv' := [_, _, _, _, _]) dX16_count_47 (by decide) rfl ?_
      refine r_lload_n (pc := 48) dX16_count_48 rfl ?_
      refine r_lconst (pc := 49) (a := 0) dX16_count_49 rfl ?_
      refine r_lcmp_lt (pc := 50) (tgt := 84) dX16_count_50 dX16_count_51 rfl (fun c76 => ?_) (fun c76 => ?_)
      · have K := K.1 c76
        refine r_new (pc := 84) 17 kc17 rfl q1036 q1037 q182 dX16_count_84 (fun q77 eq77 zq77 wq77 => ?_)
        refine r_nameH (fun h78 eh78 => ?_)
        have K := K q77 eq77 wq77 h78 eh78
        have hk79 := kd_newSE eh78 eq77
        refine r_dup (pc := 87) rfl dX16_count_87 ?_
        obtain ⟨hd80, K⟩ := K
        refine r_exInit (pc := 88) 17 _ hd80 hk79 (fr_newS eh78 eq77) (Or.inr zq77) kc17 rfl ex_17 (Or.inr ⟨_, q1045⟩) dX16_count_88 rfl ?_
        refine r_nameH (fun h81 eh81 => ?_)
        have K := K h81 eh81
        have hk82 := kd_exH eh81 hk79
        exact r_athrow (pc := 91) (nzk hk82 rfl) dX16_count_91 (Tw.out rfl K)
      · have K := K.2 c76
        refine r_lload_n (pc := 54) dX16_count_54 rfl ?_
        refine r_iload_n (pc := 55) dX16_count_55 rfl ?_
        refine r_iconst (pc := 56) (x := 2) dX16_count_56 rfl ?_
        refine r_icmp_ne (pc := 57) (tgt := 66) dX16_count_57 rfl (fun c83 => ?_) (fun c83 => ?_)
        · have K := K.1 c83
          refine r_iload_n (pc := 66) dX16_count_66 rfl ?_
          refine r_iconst (pc := 67) (x := 4) dX16_count_67 rfl ?_
          refine r_icmp_ne (pc := 68) (tgt := 77) dX16_count_68 rfl (fun c84 => ?_) (fun c84 => ?_)
          · have K := K.1 c84
            refine r_ldc2 (pc := 77) dX16_count_77 q1063 ?_
            refine r_lcmp_ge (pc := 80) (tgt := 92) dX16_count_80 dX16_count_81 rfl (fun c85 => ?_) (fun c85 => ?_)
            · have K := K.1 c85
              refine r_lload_n (pc := 92) dX16_count_92 rfl ?_
              exact r_lret (pc := 93) rfl dX16_count_93 K
            · have K := K.2 c85
              refine r_new (pc := 84) 17 kc17 rfl q1036 q1037 q182 dX16_count_84 (fun q86 eq86 zq86 wq86 => ?_)
              refine r_nameH (fun h87 eh87 => ?_)
              have K := K q86 eq86 wq86 h87 eh87
              have hk88 := kd_newSE eh87 eq86
              refine r_dup (pc := 87) rfl dX16_count_87 ?_
              obtain ⟨hd89, K⟩ := K
              refine r_exInit (pc := 88) 17 _ hd89 hk88 (fr_newS eh87 eq86) (Or.inr zq86) kc17 rfl ex_17 (Or.inr ⟨_, q1045⟩) dX16_count_88 rfl ?_
              refine r_nameH (fun h90 eh90 => ?_)
              have K := K h90 eh90
              have hk91 := kd_exH eh90 hk88
              exact r_athrow (pc := 91) (nzk hk91 rfl) dX16_count_91 (Tw.out rfl K)
          · have K := K.2 c84
            refine r_ldc2 (pc := 71) dX16_count_71 q1062 ?_
            refine r_goto (pc := 74) (tgt := 80) dX16_count_74 rfl ?_
            refine r_lcmp_ge (pc := 80) (tgt := 92) dX16_count_80 dX16_count_81 rfl (fun c92 => ?_) (fun c92 => ?_)
            · have K := K.1 c92
              refine r_lload_n (pc := 92) dX16_count_92 rfl ?_
              exact r_lret (pc := 93) rfl dX16_count_93 K
            · have K := K.2 c92
              refine r_new (pc := 84) 17 kc17 rfl q1036 q1037 q182 dX16_count_84 (fun q93 eq93 zq93 wq93 => ?_)
              refine r_nameH (fun h94 eh94 => ?_)
              have K := K q93 eq93 wq93 h94 eh94
              have hk95 := kd_newSE eh94 eq93
              refine r_dup (pc := 87) rfl dX16_count_87 ?_
              obtain ⟨hd96, K⟩ := K
              refine r_exInit (pc := 88) 17 _ hd96 hk95 (fr_newS eh94 eq93) (Or.inr zq93) kc17 rfl ex_17 (Or.inr ⟨_, q1045⟩) dX16_count_88 rfl ?_
              refine r_nameH (fun h97 eh97 => ?_)
              have K := K h97 eh97
              have hk98 := kd_exH eh97 hk95
              exact r_athrow (pc := 91) (nzk hk98 rfl) dX16_count_91 (Tw.out rfl K)
        · have K := K.2 c83
          refine r_ldc2 (pc := 60) dX16_count_60 q1061 ?_
          refine r_goto (pc := 63) (tgt := 80) dX16_count_63 rfl ?_
          refine r_lcmp_ge (pc := 80) (tgt := 92) dX16_count_80 dX16_count_81 rfl (fun c99 => ?_) (fun c99 => ?_)
          · have K := K.1 c99
            refine r_lload_n (pc := 92) dX16_count_92 rfl ?_
            exact r_lret (pc := 93) rfl dX16_count_93 K
          · have K := K.2 c99
            refine r_new (pc := 84) 17 kc17 rfl q1036 q1037 q182 dX16_count_84 (fun q100 eq100 zq100 wq100 => ?_)
            refine r_nameH (fun h101 eh101 => ?_)
            have K := K q100 eq100 wq100 h101 eh101
            have hk102 := kd_newSE eh101 eq100
            refine r_dup (pc := 87) rfl dX16_count_87 ?_
            obtain ⟨hd103, K⟩ := K
            refine r_exInit (pc := 88) 17 _ hd103 hk102 (fr_newS eh101 eq100) (Or.inr zq100) kc17 rfl ex_17 (Or.inr ⟨_, q1045⟩) dX16_count_88 rfl ?_
            refine r_nameH (fun h104 eh104 => ?_)
            have K := K h104 eh104
            have hk105 := kd_exH eh104 hk102
            exact r_athrow (pc := 91) (nzk hk105 rfl) dX16_count_91 (Tw.out rfl K)
  · have K := K.2 c4
    refine r_iload_n (pc := 14) dX16_count_14 rfl ?_
    refine r_i2l (pc := 15) dX16_count_15 ?_
    exact r_lret (pc := 16) rfl dX16_count_16 K
theorem eX16_count {G : Gx} {d : Nat} {Φ : Out → AH → Prop} (h : AH) (v0 : Nat) (K : WF G h → Aw G mX16_count (d + 1) 0 h Φ 0 [vR v0, vU, vU, vU, vU] [] h) : Cw G mX16_count (d + 1) 0 [vR v0] h Φ := Cw.of rfl K
theorem dX18_init_0 : decode cX18_init 0 = .ok (.aload_n 0, 1) := by decide +kernel
theorem dX18_init_1 : decode cX18_init 1 = .ok (.invokespecial 1, 3) := by decide +kernel
theorem dX18_init_4 : decode cX18_init 4 = .ok (.aload_n 0, 1) := by decide +kernel
theorem dX18_init_5 : decode cX18_init 5 = .ok (.bipush 32, 2) := by decide +kernel
theorem dX18_init_7 : decode cX18_init 7 = .ok (.newarray .byte, 2) := by decide +kernel
theorem dX18_init_9 : decode cX18_init 9 = .ok (.putfield 7, 3) := by decide +kernel
theorem dX18_init_12 : decode cX18_init 12 = .ok (.return_, 1) := by decide +kernel
/-! CoinJudge$Tx.<init>()V -/
set_option maxHeartbeats 4000000 in
theorem sX18_init_0 {G : Gx} {d t : Nat} {h0 : AH} {Φ : Out → AH → Prop} (h : AH) (v0 : Nat) (K : h.kd v0 = 18 ∧ ∀ q2 : Nat, q2 = h.z → WF G h → ∀ h3 : AH, h3 = h.new 101 32 (List.replicate 32 0) [] [] → ∀ h6 : AH, h6 = h3.pr 18002 v0 q2 → Φ (.inl none) h6) : Aw G mX18_init (d + 1) v0 h0 Φ 0 [vR v0] [] h := by
  refine r_aload_n (pc := 0) dX18_init_0 rfl ?_
  obtain ⟨hk1, K⟩ := K
  refine r_objInit (pc := 1) (nzk hk1 rfl) q1076 q207 q208 dX18_init_1 (by decide) ?_
  refine r_aload_n (pc := 4) dX18_init_4 rfl ?_
  refine r_bipush (pc := 5) (x := 32) dX18_init_5 rfl ?_
  refine r_newaI (pc := 7) 101 (N := 32) rfl rfl (by decide) q284 (by decide) rfl (by decide) dX18_init_7 (fun q2 eq2 zq2 wq2 => ?_)
  refine r_nameH (fun h3 eh3 => ?_)
  have K := K q2 eq2 wq2 h3 eh3
  have hk4 := kd_newSE eh3 eq2
  have hk5 := kd_newE eh3 wq2 hk1 (nz rfl)
  refine r_putr (pc := 9) (T := TX18) (key := 18002) 18 2 (ty := (.array .byte)) hk5 (Or.inl q1079) dX18_init_9 kc18 rfl rfl (Or.inr q1079) (Or.inr (Or.inl rfl)) ?_
  refine r_nameH (fun h6 eh6 => ?_)
  have K := K h6 eh6
  exact r_vret (pc := 12) rfl dX18_init_12 K
theorem eX18_init {G : Gx} {d : Nat} {Φ : Out → AH → Prop} (h : AH) (v0 : Nat) (K : WF G h → Aw G mX18_init (d + 1) v0 h Φ 0 [vR v0] [] h) : Cw G mX18_init (d + 1) v0 [vR v0] h Φ := Cw.of rfl K
theorem dX19_init_0 : decode cX19_init 0 = .ok (.aload_n 0, 1) := by decide +kernel
theorem dX19_init_1 : decode cX19_init 1 = .ok (.invokespecial 1, 3) := by decide +kernel
theorem dX19_init_4 : decode cX19_init 4 = .ok (.return_, 1) := by decide +kernel
/-! CoinJudge$Input.<init>()V -/
set_option maxHeartbeats 4000000 in
theorem sX19_init_0 {G : Gx} {d t : Nat} {h0 : AH} {Φ : Out → AH → Prop} (h : AH) (v0 : Nat) (K : h.kd v0 = 19 ∧ Φ (.inl none) h) : Aw G mX19_init (d + 1) v0 h0 Φ 0 [vR v0] [] h := by
  refine r_aload_n (pc := 0) dX19_init_0 rfl ?_
  obtain ⟨hk1, K⟩ := K
  refine r_objInit (pc := 1) (nzk hk1 rfl) q1117 q207 q208 dX19_init_1 (by decide) ?_
  exact r_vret (pc := 4) rfl dX19_init_4 K
theorem eX19_init {G : Gx} {d : Nat} {Φ : Out → AH → Prop} (h : AH) (v0 : Nat) (K : WF G h → Aw G mX19_init (d + 1) v0 h Φ 0 [vR v0] [] h) : Cw G mX19_init (d + 1) v0 [vR v0] h Φ := Cw.of rfl K
theorem dX20_init_0 : decode cX20_init 0 = .ok (.aload_n 0, 1) := by decide +kernel
theorem dX20_init_1 : decode cX20_init 1 = .ok (.invokespecial 1, 3) := by decide +kernel
theorem dX20_init_4 : decode cX20_init 4 = .ok (.return_, 1) := by decide +kernel
/-! CoinJudge$Output.<init>()V -/
set_option maxHeartbeats 4000000 in
theorem sX20_init_0 {G : Gx} {d t : Nat} {h0 : AH} {Φ : Out → AH → Prop} (h : AH) (v0 : Nat) (K : h.kd v0 = 20 ∧ Φ (.inl none) h) : Aw G mX20_init (d + 1) v0 h0 Φ 0 [vR v0] [] h := by
  refine r_aload_n (pc := 0) dX20_init_0 rfl ?_
  obtain ⟨hk1, K⟩ := K
  refine r_objInit (pc := 1) (nzk hk1 rfl) q1145 q207 q208 dX20_init_1 (by decide) ?_
  exact r_vret (pc := 4) rfl dX20_init_4 K
theorem eX20_init {G : Gx} {d : Nat} {Φ : Out → AH → Prop} (h : AH) (v0 : Nat) (K : WF G h → Aw G mX20_init (d + 1) v0 h Φ 0 [vR v0] [] h) : Cw G mX20_init (d + 1) v0 [vR v0] h Φ := Cw.of rfl K
theorem dX8_digest_0 : decode cX8_digest 0 = .ok (.aload_n 0, 1) := by decide +kernel
theorem dX8_digest_1 : decode cX8_digest 1 = .ok (.getfield 15, 3) := by decide +kernel
theorem dX8_digest_4 : decode cX8_digest 4 = .ok (.areturn, 1) := by decide +kernel
/-! CoinJudge$Signing.digest()[B -/
set_option maxHeartbeats 4000000 in
theorem sX8_digest_0 {G : Gx} {d t : Nat} {h0 : AH} {Φ : Out → AH → Prop} (h : AH) (v0 : Nat) (K : h.kd v0 = 8 ∧ ∀ r2 : Nat, r2 = (h.r 8004 v0) → Φ (.inl (some (vR r2))) h) : Aw G mX8_digest (d + 1) t h0 Φ 0 [vR v0] [] h := by
  refine r_aload_n (pc := 0) dX8_digest_0 rfl ?_
  obtain ⟨hk1, K⟩ := K
  have K := K _ rfl
  refine r_getr' (pc := 1) (T := TX8) 8 4 rfl hk1 (Or.inl q549) dX8_digest_1 kc8 g8004 ?_
  exact r_aret (pc := 4) rfl rfl dX8_digest_4 K
theorem eX8_digest {G : Gx} {d : Nat} {Φ : Out → AH → Prop} (h : AH) (v0 : Nat) (K : WF G h → Aw G mX8_digest (d + 1) 0 h Φ 0 [vR v0] [] h) : Cw G mX8_digest (d + 1) 0 [vR v0] h Φ := Cw.of rfl K
theorem dX8_copy_0 : decode cX8_copy 0 = .ok (.aload_n 1, 1) := by decide +kernel
theorem dX8_copy_1 : decode cX8_copy 1 = .ok (.iload_n 2, 1) := by decide +kernel
theorem dX8_copy_2 : decode cX8_copy 2 = .ok (.aload_n 0, 1) := by decide +kernel
theorem dX8_copy_3 : decode cX8_copy 3 = .ok (.getfield 9, 3) := by decide +kernel
theorem dX8_copy_6 : decode cX8_copy 6 = .ok (.aload_n 0, 1) := by decide +kernel
theorem dX8_copy_7 : decode cX8_copy 7 = .ok (.getfield 37, 3) := by decide +kernel
theorem dX8_copy_10 : decode cX8_copy 10 = .ok (.iload_n 3, 1) := by decide +kernel
theorem dX8_copy_11 : decode cX8_copy 11 = .ok (.invokestatic 46, 3) := by decide +kernel
theorem dX8_copy_14 : decode cX8_copy 14 = .ok (.aload_n 0, 1) := by decide +kernel
theorem dX8_copy_15 : decode cX8_copy 15 = .ok (.dup, 1) := by decide +kernel
theorem dX8_copy_16 : decode cX8_copy 16 = .ok (.getfield 37, 3) := by decide +kernel
theorem dX8_copy_19 : decode cX8_copy 19 = .ok (.iload_n 3, 1) := by decide +kernel
theorem dX8_copy_20 : decode cX8_copy 20 = .ok (.iadd, 1) := by decide +kernel
theorem dX8_copy_21 : decode cX8_copy 21 = .ok (.putfield 37, 3) := by decide +kernel
theorem dX8_copy_24 : decode cX8_copy 24 = .ok (.return_, 1) := by decide +kernel
/-! CoinJudge$Signing.copy([BII)V -/
set_option maxHeartbeats 4000000 in
theorem sX8_copy_0 {G : Gx} {d t : Nat} {h0 : AH} {Φ : Out → AH → Prop} (h : AH) (v0 : Nat) (v1 : Nat) (v2 : Int32) (v3 : Int32) (K : h.kd v0 = 8 ∧ ∀ r2 : Nat, r2 = (h.r 8002 v0) → h.kd v1 = 101 ∧ h.kd r2 = 101 ∧ cpOk v2 (h.i 8003 v0) v3 (h.ai v1).length (h.ai r2).length ∧ ∀ h6 : AH, h6 = h.wi r2 (lcp (h.ai v1) (h.ai r2) v2 (h.i 8003 v0) v3) → ∀ h10 : AH, h10 = h6.pi 8003 v0 ((h.i 8003 v0) + v3) → Φ (.inl none) h10) : Aw G mX8_copy (d + 1) t h0 Φ 0 [vR v0, vR v1, vI v2, vI v3] [] h := by
  refine r_aload_n (pc := 0) dX8_copy_0 rfl ?_
  refine r_iload_n (pc := 1) dX8_copy_1 rfl ?_
  refine r_aload_n (pc := 2) dX8_copy_2 rfl ?_
  obtain ⟨hk1, K⟩ := K
  have K := K _ rfl
  refine r_getr' (pc := 3) (T := TX8) 8 2 rfl hk1 (Or.inl q547) dX8_copy_3 kc8 g8002 ?_
  refine r_aload_n (pc := 6) dX8_copy_6 rfl ?_
  refine r_geti' (pc := 7) (T := TX8) 8 3 rfl hk1 (Or.inl q548) dX8_copy_7 kc8 g8003 ?_
  refine r_iload_n (pc := 10) dX8_copy_10 rfl ?_
  obtain ⟨hk3, K⟩ := K
  obtain ⟨hk4, K⟩ := K
  obtain ⟨hi5, K⟩ := K
  refine r_acopy (pc := 11) 101 hk3 hk4 hi5 (Or.inl (em rfl)) q1371 q903 q902 q174 rfl dX8_copy_11 rfl ?_
  refine r_nameH (fun h6 eh6 => ?_)
  have K := K h6 eh6
  refine r_aload_n (pc := 14) dX8_copy_14 rfl ?_
  refine r_dup (pc := 15) rfl dX8_copy_15 ?_
  have hk7 := kd_wi eh6 hk1
  have hv8 := fi_self (key := 8003) hk1
  have hv9 := fi_wi (key := 8003) eh6 hv8
  refine r_geti' (pc := 16) (T := TX8) 8 3 hv9 hk7 (Or.inl q548) dX8_copy_16 kc8 g8003 ?_
  refine r_iload_n (pc := 19) dX8_copy_19 rfl ?_
  refine r_iadd (pc := 20) dX8_copy_20 ?_
  refine r_puti (pc := 21) (T := TX8) (key := 8003) 8 3 hk7 (Or.inl q548) dX8_copy_21 kc8 rfl (Or.inl rfl) (Or.inl (em rfl)) ?_
  refine r_nameH (fun h10 eh10 => ?_)
  have K := K h10 eh10
  exact r_vret (pc := 24) rfl dX8_copy_24 K
theorem eX8_copy {G : Gx} {d : Nat} {Φ : Out → AH → Prop} (h : AH) (v0 : Nat) (v1 : Nat) (v2 : Int32) (v3 : Int32) (K : WF G h → Aw G mX8_copy (d + 1) 0 h Φ 0 [vR v0, vR v1, vI v2, vI v3] [] h) : Cw G mX8_copy (d + 1) 0 [vR v0, vR v1, vI v2, vI v3] h Φ := Cw.of rfl K
theorem dX8_put_0 : decode cX8_put 0 = .ok (.iconst 0, 1) := by decide +kernel
theorem dX8_put_1 : decode cX8_put 1 = .ok (.istore 4, 2) := by decide +kernel
theorem dX8_put_3 : decode cX8_put 3 = .ok (.iload 4, 2) := by decide +kernel
theorem dX8_put_5 : decode cX8_put 5 = .ok (.iload_n 3, 1) := by decide +kernel
theorem dX8_put_6 : decode cX8_put 6 = .ok (.if_icmp .ge 37, 3) := by decide +kernel
theorem dX8_put_9 : decode cX8_put 9 = .ok (.aload_n 0, 1) := by decide +kernel
theorem dX8_put_10 : decode cX8_put 10 = .ok (.getfield 9, 3) := by decide +kernel
theorem dX8_put_13 : decode cX8_put 13 = .ok (.aload_n 0, 1) := by decide +kernel
theorem dX8_put_14 : decode cX8_put 14 = .ok (.getfield 37, 3) := by decide +kernel
theorem dX8_put_17 : decode cX8_put 17 = .ok (.lload_n 1, 1) := by decide +kernel
theorem dX8_put_18 : decode cX8_put 18 = .ok (.bipush 8, 2) := by decide +kernel
theorem dX8_put_20 : decode cX8_put 20 = .ok (.iload 4, 2) := by decide +kernel
theorem dX8_put_22 : decode cX8_put 22 = .ok (.imul, 1) := by decide +kernel
theorem dX8_put_23 : decode cX8_put 23 = .ok (.lshr, 1) := by decide +kernel
theorem dX8_put_24 : decode cX8_put 24 = .ok (.l2i, 1) := by decide +kernel
theorem dX8_put_25 : decode cX8_put 25 = .ok (.i2b, 1) := by decide +kernel
theorem dX8_put_26 : decode cX8_put 26 = .ok (.bastore, 1) := by decide +kernel
theorem dX8_put_27 : decode cX8_put 27 = .ok (.aload_n 0, 1) := by decide +kernel
theorem dX8_put_28 : decode cX8_put 28 = .ok (.dup, 1) := by decide +kernel
theorem dX8_put_29 : decode cX8_put 29 = .ok (.getfield 37, 3) := by decide +kernel
theorem dX8_put_32 : decode cX8_put 32 = .ok (.iconst 1, 1) := by decide +kernel
theorem dX8_put_33 : decode cX8_put 33 = .ok (.iadd, 1) := by decide +kernel
theorem dX8_put_34 : decode cX8_put 34 = .ok (.putfield 37, 3) := by decide +kernel
theorem dX8_put_37 : decode cX8_put 37 = .ok (.iinc 4 1, 3) := by decide +kernel
theorem dX8_put_40 : decode cX8_put 40 = .ok (.goto (-37), 3) := by decide +kernel
theorem dX8_put_43 : decode cX8_put 43 = .ok (.return_, 1) := by decide +kernel
/-! CoinJudge$Signing.put(JI)V -/
set_option maxHeartbeats 4000000 in
theorem sX8_put_0 {G : Gx} {d t : Nat} {h0 : AH} {Φ : Out → AH → Prop} (h : AH) (v0 : Nat) (v1 : Int64) (v3 : Int32) (K : Aw G mX8_put (d + 1) t h0 Φ 3 [vR v0, vJ v1, vU, vI v3, vI 0] [] h) : Aw G mX8_put (d + 1) t h0 Φ 0 [vR v0, vJ v1, vU, vI v3, vU] [] h := by
  refine r_iconst (pc := 0) (x := 0) dX8_put_0 rfl ?_
  refine r_istore (pc := 1) (lv' := [_, _, _, _, _]) dX8_put_1 (by decide) rfl ?_
  refine r_mask (pc := 3) [true, true, false, true, true] rfl ?_
  exact K
theorem eX8_put {G : Gx} {d : Nat} {Φ : Out → AH → Prop} (h : AH) (v0 : Nat) (v1 : Int64) (v3 : Int32) (K : WF G h → Aw G mX8_put (d + 1) 0 h Φ 0 [vR v0, vJ v1, vU, vI v3, vU] [] h) : Cw G mX8_put (d + 1) 0 [vR v0, vJ v1, vI v3] h Φ := Cw.of rfl K
set_option maxHeartbeats 4000000 in
theorem sX8_put_3 {G : Gx} {d t : Nat} {h0 : AH} {Φ : Out → AH → Prop} (h : AH) (v0 : Nat) (v1 : Int64) (v3 : Int32) (v4 : Int32) (K : ((v3 ≤ v4 → Φ (.inl none) h) ∧ (¬ v3 ≤ v4 → h.kd v0 = 8 ∧ ∀ r3 : Nat, r3 = (h.r 8002 v0) → h.kd r3 = 101 ∧ vp_in (h.i 8003 v0) (h.ai r3).length ∧ ∀ h6 : AH, h6 = h.wi r3 ((h.ai r3).set ((h.i 8003 v0).toNatClampNeg) (i2b (i2b ((Jshr v1 (8 * v4)).toInt32)))) → ∀ h10 : AH, h10 = h6.pi 8003 v0 ((h.i 8003 v0) + 1) → Aw G mX8_put (d + 1) t h0 Φ 3 [vR v0, vJ v1, vU, vI v3, vI (v4 + 1)] [] h10))) : Aw G mX8_put (d + 1) t h0 Φ 3 [vR v0, vJ v1, vU, vI v3, vI v4] [] h := by
  refine r_iload (pc := 3) dX8_put_3 rfl ?_
  refine r_iload_n (pc := 5) dX8_put_5 rfl ?_
  refine r_icmp_ge (pc := 6) (tgt := 43) dX8_put_6 rfl (fun c1 => ?_) (fun c1 => ?_)
  · have K := K.1 c1
    exact r_vret (pc := 43) rfl dX8_put_43 K
  · have K := K.2 c1
    refine r_aload_n (pc := 9) dX8_put_9 rfl ?_
    obtain ⟨hk2, K⟩ := K
    have K := K _ rfl
    refine r_getr' (pc := 10) (T := TX8) 8 2 rfl hk2 (Or.inl q547) dX8_put_10 kc8 g8002 ?_
    refine r_aload_n (pc := 13) dX8_put_13 rfl ?_
    refine r_geti' (pc := 14) (T := TX8) 8 3 rfl hk2 (Or.inl q548) dX8_put_14 kc8 g8003 ?_
    refine r_lload_n (pc := 17) dX8_put_17 rfl ?_
    refine r_bipush (pc := 18) (x := 8) dX8_put_18 rfl ?_
    refine r_iload (pc := 20) dX8_put_20 rfl ?_
    refine r_imul (pc := 22) dX8_put_22 ?_
    refine r_Jshr (pc := 23) dX8_put_23 ?_
    refine r_l2i (pc := 24) dX8_put_24 ?_
    refine r_ji2b (pc := 25) dX8_put_25 ?_
    obtain ⟨hk4, K⟩ := K
    obtain ⟨hi5, K⟩ := K
    refine r_jbast (pc := 26) hk4 hi5 (Or.inl (em rfl)) dX8_put_26 ?_
    refine r_nameH (fun h6 eh6 => ?_)
    have K := K h6 eh6
    refine r_aload_n (pc := 27) dX8_put_27 rfl ?_
    refine r_dup (pc := 28) rfl dX8_put_28 ?_
    have hk7 := kd_wi eh6 hk2
    have hv8 := fi_self (key := 8003) hk2
    have hv9 := fi_wi (key := 8003) eh6 hv8
    refine r_geti' (pc := 29) (T := TX8) 8 3 hv9 hk7 (Or.inl q548) dX8_put_29 kc8 g8003 ?_
    refine r_iconst (pc := 32) (x := 1) dX8_put_32 rfl ?_
    refine r_iadd (pc := 33) dX8_put_33 ?_
    refine r_puti (pc := 34) (T := TX8) (key := 8003) 8 3 hk7 (Or.inl q548) dX8_put_34 kc8 rfl (Or.inl rfl) (Or.inl (em rfl)) ?_
    refine r_nameH (fun h10 eh10 => ?_)
    have K := K h10 eh10
    refine r_iinc (pc := 37) (lv' := [_, _, _, _, _]) dX8_put_37 rfl rfl (by decide) rfl ?_
    refine r_goto (pc := 40) (tgt := 3) dX8_put_40 rfl ?_
    refine r_mask (pc := 3) [true, true, false, true, true] rfl ?_
    exact K
theorem dX8_count_0 : decode cX8_count 0 = .ok (.iload_n 1, 1) := by decide +kernel
theorem dX8_count_1 : decode cX8_count 1 = .ok (.sipush 253, 3) := by decide +kernel
theorem dX8_count_4 : decode cX8_count 4 = .ok (.if_icmp .ge 13, 3) := by decide +kernel
theorem dX8_count_7 : decode cX8_count 7 = .ok (.aload_n 0, 1) := by decide +kernel
theorem dX8_count_8 : decode cX8_count 8 = .ok (.iload_n 1, 1) := by decide +kernel
theorem dX8_count_9 : decode cX8_count 9 = .ok (.i2l, 1) := by decide +kernel
theorem dX8_count_10 : decode cX8_count 10 = .ok (.iconst 1, 1) := by decide +kernel
theorem dX8_count_11 : decode cX8_count 11 = .ok (.invokevirtual 40, 3) := by decide +kernel
theorem dX8_count_14 : decode cX8_count 14 = .ok (.goto 18, 3) := by decide +kernel
theorem dX8_count_17 : decode cX8_count 17 = .ok (.aload_n 0, 1) := by decide +kernel
theorem dX8_count_18 : decode cX8_count 18 = .ok (.ldc2_w 44, 3) := by decide +kernel
theorem dX8_count_21 : decode cX8_count 21 = .ok (.iconst 1, 1) := by decide +kernel
theorem dX8_count_22 : decode cX8_count 22 = .ok (.invokevirtual 40, 3) := by decide +kernel
theorem dX8_count_25 : decode cX8_count 25 = .ok (.aload_n 0, 1) := by decide +kernel
theorem dX8_count_26 : decode cX8_count 26 = .ok (.iload_n 1, 1) := by decide +kernel
theorem dX8_count_27 : decode cX8_count 27 = .ok (.i2l, 1) := by decide +kernel
theorem dX8_count_28 : decode cX8_count 28 = .ok (.iconst 2, 1) := by decide +kernel
theorem dX8_count_29 : decode cX8_count 29 = .ok (.invokevirtual 40, 3) := by decide +kernel
theorem dX8_count_32 : decode cX8_count 32 = .ok (.return_, 1) := by decide +kernel
/-! CoinJudge$Signing.count(I)V -/
set_option maxHeartbeats 4000000 in
theorem sX8_count_0 {G : Gx} {d t : Nat} {h0 : AH} {Φ : Out → AH → Prop} (h : AH) (v0 : Nat) (v1 : Int32) (K : ((253 ≤ v1 → h.kd v0 = 8 ∧ Cw G mX8_put d 0 [vR v0, vJ 253, vI 1] h (kV (fun h3 => Cw G mX8_put d 0 [vR v0, vJ v1.toInt64, vI 2] h3 (kV (fun h6 => Φ (.inl none) h6) (fun x h => Φ (.inr x) h))) (fun x h => Φ (.inr x) h))) ∧ (¬ 253 ≤ v1 → h.kd v0 = 8 ∧ Cw G mX8_put d 0 [vR v0, vJ v1.toInt64, vI 1] h (kV (fun h9 => Φ (.inl none) h9) (fun x h => Φ (.inr x) h))))) : Aw G mX8_count (d + 1) t h0 Φ 0 [vR v0, vI v1] [] h := by
  refine r_iload_n (pc := 0) dX8_count_0 rfl ?_
  refine r_sipush (pc := 1) (x := 253) dX8_count_1 rfl ?_
  refine r_icmp_ge (pc := 4) (tgt := 17) dX8_count_4 rfl (fun c1 => ?_) (fun c1 => ?_)
  · have K := K.1 c1
    refine r_aload_n (pc := 17) dX8_count_17 rfl ?_
    refine r_ldc2 (pc := 18) dX8_count_18 q1366 ?_
    refine r_iconst (pc := 21) (x := 1) dX8_count_21 rfl ?_
    obtain ⟨hk4, K⟩ := K
    refine r_callV_V (pc := 22) (Y := mX8_put) (vs := [_, _]) (st := []) hk4 rfl kc8 q1358 q1360 qs22 dX8_count_22 rfl cd_X8_put rfl rfl fp_X8_count_X8_put K (fun h3 eh3 wh3 K => ?_) (fun x h1 _ _ e => Tw.out rfl e)
    refine r_aload_n (pc := 25) dX8_count_25 rfl ?_
    refine r_iload_n (pc := 26) dX8_count_26 rfl ?_
    refine r_i2l (pc := 27) dX8_count_27 ?_
    refine r_iconst (pc := 28) (x := 2) dX8_count_28 rfl ?_
    have hk7 := kd_ext eh3 hk4 (nz rfl)
    refine r_callV_V (pc := 29) (Y := mX8_put) (vs := [_, _]) (st := []) hk7 rfl kc8 q1358 q1360 qs22 dX8_count_29 rfl cd_X8_put rfl rfl fp_X8_count_X8_put K (fun h6 eh6 wh6 K => ?_) (fun x h1 _ _ e => Tw.out rfl e)
    exact r_vret (pc := 32) rfl dX8_count_32 K
  · have K := K.2 c1
    refine r_aload_n (pc := 7) dX8_count_7 rfl ?_
    refine r_iload_n (pc := 8) dX8_count_8 rfl ?_
    refine r_i2l (pc := 9) dX8_count_9 ?_
    refine r_iconst (pc := 10) (x := 1) dX8_count_10 rfl ?_
    obtain ⟨hk10, K⟩ := K
    refine r_callV_V (pc := 11) (Y := mX8_put) (vs := [_, _]) (st := []) hk10 rfl kc8 q1358 q1360 qs22 dX8_count_11 rfl cd_X8_put rfl rfl fp_X8_count_X8_put K (fun h9 eh9 wh9 K => ?_) (fun x h1 _ _ e => Tw.out rfl e)
    refine r_goto (pc := 14) (tgt := 32) dX8_count_14 rfl ?_
    exact r_vret (pc := 32) rfl dX8_count_32 K
theorem eX8_count {G : Gx} {d : Nat} {Φ : Out → AH → Prop} (h : AH) (v0 : Nat) (v1 : Int32) (K : WF G h → Aw G mX8_count (d + 1) 0 h Φ 0 [vR v0, vI v1] [] h) : Cw G mX8_count (d + 1) 0 [vR v0, vI v1] h Φ := Cw.of rfl K
theorem dX8_step_0 : decode cX8_step 0 = .ok (.aload_n 0, 1) := by decide +kernel
theorem dX8_step_1 : decode cX8_step 1 = .ok (.iload_n 1, 1) := by decide +kernel
theorem dX8_step_2 : decode cX8_step 2 = .ok (.iload_n 2, 1) := by decide +kernel
theorem dX8_step_3 : decode cX8_step 3 = .ok (.invokestatic 114, 3) := by decide +kernel
theorem dX8_step_6 : decode cX8_step 6 = .ok (.istore_n 3, 1) := by decide +kernel
theorem dX8_step_7 : decode cX8_step 7 = .ok (.iload_n 3, 1) := by decide +kernel
theorem dX8_step_8 : decode cX8_step 8 = .ok (.ifCond .ne 9, 3) := by decide +kernel
theorem dX8_step_11 : decode cX8_step 11 = .ok (.iload_n 2, 1) := by decide +kernel
theorem dX8_step_12 : decode cX8_step 12 = .ok (.iload_n 1, 1) := by decide +kernel
theorem dX8_step_13 : decode cX8_step 13 = .ok (.isub, 1) := by decide +kernel
theorem dX8_step_14 : decode cX8_step 14 = .ok (.goto 4, 3) := by decide +kernel
theorem dX8_step_17 : decode cX8_step 17 = .ok (.iload_n 3, 1) := by decide +kernel
theorem dX8_step_18 : decode cX8_step 18 = .ok (.ireturn, 1) := by decide +kernel
/-! CoinJudge$Signing.step([BII)I -/
set_option maxHeartbeats 4000000 in
theorem sX8_step_0 {G : Gx} {d t : Nat} {h0 : AH} {Φ : Out → AH → Prop} (h : AH) (v0 : Nat) (v1 : Int32) (v2 : Int32) (K : Cw G mX7_length d 0 [vR v0, vI v1, vI v2] h (kI (fun x1 h2 => ((¬ x1 = 0 → Φ (.inl (some (vI x1))) h2) ∧ (x1 = 0 → Φ (.inl (some (vI (v2 - v1)))) h2))) (fun x h => Φ (.inr x) h))) : Aw G mX8_step (d + 1) t h0 Φ 0 [vR v0, vI v1, vI v2, vU] [] h := by
  refine r_aload_n (pc := 0) dX8_step_0 rfl ?_
  refine r_iload_n (pc := 1) dX8_step_1 rfl ?_
  refine r_iload_n (pc := 2) dX8_step_2 rfl ?_
  refine r_callSN_I (pc := 3) (Y := mX7_length) (vs := [_, _, _]) (st := []) q1379 q1270 q161 dX8_step_3 rfl cd_X7_length rfl rfl fp_X8_step_X7_length K (fun x1 h2 eh2 wh2 K => ?_) (fun x h1 _ _ e => Tw.out rfl e)
  refine r_istore_n (pc := 6) (lv' := [_, _, _, _]) dX8_step_6 (by decide) rfl ?_
  refine r_iload_n (pc := 7) dX8_step_7 rfl ?_
  refine r_if_ne (pc := 8) (tgt := 17) dX8_step_8 rfl (fun c3 => ?_) (fun c3 => ?_)
  · have K := K.1 c3
    refine r_iload_n (pc := 17) dX8_step_17 rfl ?_
    exact r_iret (pc := 18) rfl rfl dX8_step_18 K
  · have K := K.2 c3
    refine r_iload_n (pc := 11) dX8_step_11 rfl ?_
    refine r_iload_n (pc := 12) dX8_step_12 rfl ?_
    refine r_isub (pc := 13) dX8_step_13 ?_
    refine r_goto (pc := 14) (tgt := 18) dX8_step_14 rfl ?_
    exact r_iret (pc := 18) rfl rfl dX8_step_18 K
theorem eX8_step {G : Gx} {d : Nat} {Φ : Out → AH → Prop} (h : AH) (v0 : Nat) (v1 : Int32) (v2 : Int32) (K : WF G h → Aw G mX8_step (d + 1) 0 h Φ 0 [vR v0, vI v1, vI v2, vU] [] h) : Cw G mX8_step (d + 1) 0 [vR v0, vI v1, vI v2] h Φ := Cw.of rfl K
theorem dX8_code_0 : decode cX8_code 0 = .ok (.iconst 0, 1) := by decide +kernel
theorem dX8_code_1 : decode cX8_code 1 = .ok (.istore 4, 2) := by decide +kernel
theorem dX8_code_3 : decode cX8_code 3 = .ok (.iload_n 2, 1) := by decide +kernel
theorem dX8_code_4 : decode cX8_code 4 = .ok (.iload_n 3, 1) := by decide +kernel
theorem dX8_code_5 : decode cX8_code 5 = .ok (.iadd, 1) := by decide +kernel
theorem dX8_code_6 : decode cX8_code 6 = .ok (.istore 5, 2) := by decide +kernel
theorem dX8_code_8 : decode cX8_code 8 = .ok (.iload_n 2, 1) := by decide +kernel
theorem dX8_code_9 : decode cX8_code 9 = .ok (.istore 6, 2) := by decide +kernel
theorem dX8_code_11 : decode cX8_code 11 = .ok (.iload 6, 2) := by decide +kernel
theorem dX8_code_13 : decode cX8_code 13 = .ok (.iload 5, 2) := by decide +kernel
theorem dX8_code_15 : decode cX8_code 15 = .ok (.if_icmp .ge 46, 3) := by decide +kernel
theorem dX8_code_18 : decode cX8_code 18 = .ok (.aload_n 1, 1) := by decide +kernel
theorem dX8_code_19 : decode cX8_code 19 = .ok (.iload 6, 2) := by decide +kernel
theorem dX8_code_21 : decode cX8_code 21 = .ok (.baload, 1) := by decide +kernel
theorem dX8_code_22 : decode cX8_code 22 = .ok (.sipush 255, 3) := by decide +kernel
theorem dX8_code_25 : decode cX8_code 25 = .ok (.iand, 1) := by decide +kernel
theorem dX8_code_26 : decode cX8_code 26 = .ok (.sipush 171, 3) := by decide +kernel
theorem dX8_code_29 : decode cX8_code 29 = .ok (.if_icmp .eq 16, 3) := by decide +kernel
theorem dX8_code_32 : decode cX8_code 32 = .ok (.iload 4, 2) := by decide +kernel
theorem dX8_code_34 : decode cX8_code 34 = .ok (.aload_n 1, 1) := by decide +kernel
theorem dX8_code_35 : decode cX8_code 35 = .ok (.iload 6, 2) := by decide +kernel
theorem dX8_code_37 : decode cX8_code 37 = .ok (.iload 5, 2) := by decide +kernel
theorem dX8_code_39 : decode cX8_code 39 = .ok (.invokestatic 110, 3) := by decide +kernel
theorem dX8_code_42 : decode cX8_code 42 = .ok (.iadd, 1) := by decide +kernel
theorem dX8_code_43 : decode cX8_code 43 = .ok (.istore 4, 2) := by decide +kernel
theorem dX8_code_45 : decode cX8_code 45 = .ok (.iload 6, 2) := by decide +kernel
theorem dX8_code_47 : decode cX8_code 47 = .ok (.aload_n 1, 1) := by decide +kernel
theorem dX8_code_48 : decode cX8_code 48 = .ok (.iload 6, 2) := by decide +kernel
theorem dX8_code_50 : decode cX8_code 50 = .ok (.iload 5, 2) := by decide +kernel
theorem dX8_code_52 : decode cX8_code 52 = .ok (.invokestatic 110, 3) := by decide +kernel
theorem dX8_code_55 : decode cX8_code 55 = .ok (.iadd, 1) := by decide +kernel
theorem dX8_code_56 : decode cX8_code 56 = .ok (.istore 6, 2) := by decide +kernel
theorem dX8_code_58 : decode cX8_code 58 = .ok (.goto (-47), 3) := by decide +kernel
theorem dX8_code_61 : decode cX8_code 61 = .ok (.aload_n 0, 1) := by decide +kernel
theorem dX8_code_62 : decode cX8_code 62 = .ok (.iload 4, 2) := by decide +kernel
theorem dX8_code_64 : decode cX8_code 64 = .ok (.invokevirtual 66, 3) := by decide +kernel
theorem dX8_code_67 : decode cX8_code 67 = .ok (.iload_n 2, 1) := by decide +kernel
theorem dX8_code_68 : decode cX8_code 68 = .ok (.istore 6, 2) := by decide +kernel
theorem dX8_code_70 : decode cX8_code 70 = .ok (.iload 6, 2) := by decide +kernel
theorem dX8_code_72 : decode cX8_code 72 = .ok (.iload 5, 2) := by decide +kernel
theorem dX8_code_74 : decode cX8_code 74 = .ok (.if_icmp .ge 48, 3) := by decide +kernel
theorem dX8_code_77 : decode cX8_code 77 = .ok (.aload_n 1, 1) := by decide +kernel
theorem dX8_code_78 : decode cX8_code 78 = .ok (.iload 6, 2) := by decide +kernel
theorem dX8_code_80 : decode cX8_code 80 = .ok (.baload, 1) := by decide +kernel
theorem dX8_code_81 : decode cX8_code 81 = .ok (.sipush 255, 3) := by decide +kernel
theorem dX8_code_84 : decode cX8_code 84 = .ok (.iand, 1) := by decide +kernel
theorem dX8_code_85 : decode cX8_code 85 = .ok (.sipush 171, 3) := by decide +kernel
theorem dX8_code_88 : decode cX8_code 88 = .ok (.if_icmp .eq 18, 3) := by decide +kernel
theorem dX8_code_91 : decode cX8_code 91 = .ok (.aload_n 0, 1) := by decide +kernel
theorem dX8_code_92 : decode cX8_code 92 = .ok (.aload_n 1, 1) := by decide +kernel
theorem dX8_code_93 : decode cX8_code 93 = .ok (.iload 6, 2) := by decide +kernel
theorem dX8_code_95 : decode cX8_code 95 = .ok (.aload_n 1, 1) := by decide +kernel
theorem dX8_code_96 : decode cX8_code 96 = .ok (.iload 6, 2) := by decide +kernel
theorem dX8_code_98 : decode cX8_code 98 = .ok (.iload 5, 2) := by decide +kernel
theorem dX8_code_100 : decode cX8_code 100 = .ok (.invokestatic 110, 3) := by decide +kernel
theorem dX8_code_103 : decode cX8_code 103 = .ok (.invokevirtual 75, 3) := by decide +kernel
theorem dX8_code_106 : decode cX8_code 106 = .ok (.iload 6, 2) := by decide +kernel
theorem dX8_code_108 : decode cX8_code 108 = .ok (.aload_n 1, 1) := by decide +kernel
theorem dX8_code_109 : decode cX8_code 109 = .ok (.iload 6, 2) := by decide +kernel
theorem dX8_code_111 : decode cX8_code 111 = .ok (.iload 5, 2) := by decide +kernel
theorem dX8_code_113 : decode cX8_code 113 = .ok (.invokestatic 110, 3) := by decide +kernel
theorem dX8_code_116 : decode cX8_code 116 = .ok (.iadd, 1) := by decide +kernel
theorem dX8_code_117 : decode cX8_code 117 = .ok (.istore 6, 2) := by decide +kernel
theorem dX8_code_119 : decode cX8_code 119 = .ok (.goto (-49), 3) := by decide +kernel
theorem dX8_code_122 : decode cX8_code 122 = .ok (.return_, 1) := by decide +kernel
/-! CoinJudge$Signing.code([BII)V -/
set_option maxHeartbeats 4000000 in
theorem sX8_code_0 {G : Gx} {d t : Nat} {h0 : AH} {Φ : Out → AH → Prop} (h : AH) (v0 : Nat) (v1 : Nat) (v2 : Int32) (v3 : Int32) (K : Aw G mX8_code (d + 1) t h0 Φ 11 [vR v0, vR v1, vI v2, vU, vI 0, vI (v2 + v3), vI v2] [] h) : Aw G mX8_code (d + 1) t h0 Φ 0 [vR v0, vR v1, vI v2, vI v3, vU, vU, vU] [] h := by
  refine r_iconst (pc := 0) (x := 0) dX8_code_0 rfl ?_
  refine r_istore (pc := 1) (lv' := [_, _, _, _, _, _, _]) dX8_code_1 (by decide) rfl ?_
  refine r_iload_n (pc := 3) dX8_code_3 rfl ?_
  refine r_iload_n (pc := 4) dX8_code_4 rfl ?_
  refine r_iadd (pc := 5) dX8_code_5 ?_
  refine r_istore (pc := 6) (lv' := [_, _, _, _, _, _, _]) dX8_code_6 (by decide) rfl ?_
  refine r_iload_n (pc := 8) dX8_code_8 rfl ?_
  refine r_istore (pc := 9) (lv' := [_, _, _, _, _, _, _]) dX8_code_9 (by decide) rfl ?_
  refine r_mask (pc := 11) [true, true, true, false, true, true, true] rfl ?_
  exact K
theorem eX8_code {G : Gx} {d : Nat} {Φ : Out → AH → Prop} (h : AH) (v0 : Nat) (v1 : Nat) (v2 : Int32) (v3 : Int32) (K : WF G h → Aw G mX8_code (d + 1) 0 h Φ 0 [vR v0, vR v1, vI v2, vI v3, vU, vU, vU] [] h) : Cw G mX8_code (d + 1) 0 [vR v0, vR v1, vI v2, vI v3] h Φ := Cw.of rfl K
set_option maxHeartbeats 4000000 in
theorem sX8_code_11 {G : Gx} {d t : Nat} {h0 : AH} {Φ : Out → AH → Prop} (h : AH) (v0 : Nat) (v1 : Nat) (v2 : Int32) (v4 : Int32) (v5 : Int32) (v6 : Int32) (K : ((v5 ≤ v6 → h.kd v0 = 8 ∧ Cw G mX8_count d 0 [vR v0, vI v4] h (kV (fun h3 => Aw G mX8_code (d + 1) t h0 Φ 70 [vR v0, vR v1, vU, vU, vU, vI v5, vI v2] [] h3) (fun x h => Φ (.inr x) h))) ∧ (¬ v5 ≤ v6 → h.kd v1 = 101 ∧ vp_in v6 (h.ai v1).length ∧ (((((h.ai v1).getD (v6.toNatClampNeg) 0) &&& 255) = 171 → Cw G mX8_step d 0 [vR v1, vI v6, vI v5] h (kI (fun x8 h9 => Aw G mX8_code (d + 1) t h0 Φ 11 [vR v0, vR v1, vI v2, vU, vI v4, vI v5, vI (v6 + x8)] [] h9) (fun x h => Φ (.inr x) h))) ∧ (¬ (((h.ai v1).getD (v6.toNatClampNeg) 0) &&& 255) = 171 → Cw G mX8_step d 0 [vR v1, vI v6, vI v5] h (kI (fun x10 h11 => Cw G mX8_step d 0 [vR v1, vI v6, vI v5] h11 (kI (fun x12 h13 => Aw G mX8_code (d + 1) t h0 Φ 11 [vR v0, vR v1, vI v2, vU, vI (v4 + x10), vI v5, vI (v6 + x12)] [] h13) (fun x h => Φ (.inr x) h))) (fun x h => Φ (.inr x) h))))))) : Aw G mX8_code (d + 1) t h0 Φ 11 [vR v0, vR v1, vI v2, vU, vI v4, vI v5, vI v6] [] h := by
  refine r_iload (pc := 11) dX8_code_11 rfl ?_
  refine r_iload (pc := 13) dX8_code_13 rfl ?_
  refine r_icmp_ge (pc := 15) (tgt := 61) dX8_code_15 rfl (fun c1 => ?_) (fun c1 => ?_)
  · have K := K.1 c1
    refine r_aload_n (pc := 61) dX8_code_61 rfl ?_
    refine r_iload (pc := 62) dX8_code_62 rfl ?_
    obtain ⟨hk4, K⟩ := K
    refine r_callV_V (pc := 64) (Y := mX8_count) (vs := [_]) (st := []) hk4 rfl kc8 q1362 q1364 qs23 dX8_code_64 rfl cd_X8_count rfl rfl fp_X8_code_X8_count K (fun h3 eh3 wh3 K => ?_) (fun x h1 _ _ e => Tw.out rfl e)
    refine r_iload_n (pc := 67) dX8_code_67 rfl ?_
    refine r_istore (pc := 68) (lv' := [_, _, _, _, _, _, _]) dX8_code_68 (by decide) rfl ?_
    refine r_mask (pc := 70) [true, true, false, false, false, true, true] rfl ?_
    exact K
  · have K := K.2 c1
    refine r_aload_n (pc := 18) dX8_code_18 rfl ?_
    refine r_iload (pc := 19) dX8_code_19 rfl ?_
    obtain ⟨hk5, K⟩ := K
    obtain ⟨hi6, K⟩ := K
    refine r_baload (pc := 21) hk5 hi6 dX8_code_21 ?_
    refine r_sipush (pc := 22) (x := 255) dX8_code_22 rfl ?_
    refine r_iand (pc := 25) dX8_code_25 ?_
    refine r_sipush (pc := 26) (x := 171) dX8_code_26 rfl ?_
    refine r_icmp_eq (pc := 29) (tgt := 45) dX8_code_29 rfl (fun c7 => ?_) (fun c7 => ?_)
    · have K := K.1 c7
      refine r_iload (pc := 45) dX8_code_45 rfl ?_
      refine r_aload_n (pc := 47) dX8_code_47 rfl ?_
      refine r_iload (pc := 48) dX8_code_48 rfl ?_
      refine r_iload (pc := 50) dX8_code_50 rfl ?_
      refine r_callS_I (pc := 52) (Y := mX8_step) (vs := [_, _, _]) (st := [_]) q1376 q1377 q162 dX8_code_52 rfl cd_X8_step rfl rfl fp_X8_code_X8_step K (fun x8 h9 eh9 wh9 K => ?_) (fun x h1 _ _ e => Tw.out rfl e)
      refine r_iadd (pc := 55) dX8_code_55 ?_
      refine r_istore (pc := 56) (lv' := [_, _, _, _, _, _, _]) dX8_code_56 (by decide) rfl ?_
      refine r_goto (pc := 58) (tgt := 11) dX8_code_58 rfl ?_
      refine r_mask (pc := 11) [true, true, true, false, true, true, true] rfl ?_
      exact K
    · have K := K.2 c7
      refine r_iload (pc := 32) dX8_code_32 rfl ?_
      refine r_aload_n (pc := 34) dX8_code_34 rfl ?_
      refine r_iload (pc := 35) dX8_code_35 rfl ?_
      refine r_iload (pc := 37) dX8_code_37 rfl ?_
      refine r_callS_I (pc := 39) (Y := mX8_step) (vs := [_, _, _]) (st := [_]) q1376 q1377 q162 dX8_code_39 rfl cd_X8_step rfl rfl fp_X8_code_X8_step K (fun x10 h11 eh11 wh11 K => ?_) (fun x h1 _ _ e => Tw.out rfl e)
      refine r_iadd (pc := 42) dX8_code_42 ?_
      refine r_istore (pc := 43) (lv' := [_, _, _, _, _, _, _]) dX8_code_43 (by decide) rfl ?_
      refine r_iload (pc := 45) dX8_code_45 rfl ?_
      refine r_aload_n (pc := 47) dX8_code_47 rfl ?_
      refine r_iload (pc := 48) dX8_code_48 rfl ?_
      refine r_iload (pc := 50) dX8_code_50 rfl ?_
      refine r_callS_I (pc := 52) (Y := mX8_step) (vs := [_, _, _]) (st := [_]) q1376 q1377 q162 dX8_code_52 rfl cd_X8_step rfl rfl fp_X8_code_X8_step K (fun x12 h13 eh13 wh13 K => ?_) (fun x h1 _ _ e => Tw.out rfl e)
      refine r_iadd (pc := 55) dX8_code_55 ?_
      refine r_istore (pc := 56) (lv' := [_, _, _, _, _, _, _]) dX8_code_56 (by decide) rfl ?_
      refine r_goto (pc := 58) (tgt := 11) dX8_code_58 rfl ?_
      refine r_mask (pc := 11) [true, true, true, false, true, true, true] rfl ?_
      exact K
set_option maxHeartbeats 4000000 in
theorem sX8_code_70 {G : Gx} {d t : Nat} {h0 : AH} {Φ : Out → AH → Prop} (h : AH) (v0 : Nat) (v1 : Nat) (v5 : Int32) (v6 : Int32) (K : ((v5 ≤ v6 → Φ (.inl none) h) ∧ (¬ v5 ≤ v6 → h.kd v1 = 101 ∧ vp_in v6 (h.ai v1).length ∧ (((((h.ai v1).getD (v6.toNatClampNeg) 0) &&& 255) = 171 → Cw G mX8_step d 0 [vR v1, vI v6, vI v5] h (kI (fun x5 h6 => Aw G mX8_code (d + 1) t h0 Φ 70 [vR v0, vR v1, vU, vU, vU, vI v5, vI (v6 + x5)] [] h6) (fun x h => Φ (.inr x) h))) ∧ (¬ (((h.ai v1).getD (v6.toNatClampNeg) 0) &&& 255) = 171 → Cw G mX8_step d 0 [vR v1, vI v6, vI v5] h (kI (fun x7 h8 => h8.kd v0 = 8 ∧ Cw G mX8_copy d 0 [vR v0, vR v1, vI v6, vI x7] h8 (kV (fun h10 => Cw G mX8_step d 0 [vR v1, vI v6, vI v5] h10 (kI (fun x12 h13 => Aw G mX8_code (d + 1) t h0 Φ 70 [vR v0, vR v1, vU, vU, vU, vI v5, vI (v6 + x12)] [] h13) (fun x h => Φ (.inr x) h))) (fun x h => Φ (.inr x) h))) (fun x h => Φ (.inr x) h))))))) : Aw G mX8_code (d + 1) t h0 Φ 70 [vR v0, vR v1, vU, vU, vU, vI v5, vI v6] [] h := by
  refine r_iload (pc := 70) dX8_code_70 rfl ?_
  refine r_iload (pc := 72) dX8_code_72 rfl ?_
  refine r_icmp_ge (pc := 74) (tgt := 122) dX8_code_74 rfl (fun c1 => ?_) (fun c1 => ?_)
  · have K := K.1 c1
    exact r_vret (pc := 122) rfl dX8_code_122 K
  · have K := K.2 c1
    refine r_aload_n (pc := 77) dX8_code_77 rfl ?_
    refine r_iload (pc := 78) dX8_code_78 rfl ?_
    obtain ⟨hk2, K⟩ := K
    obtain ⟨hi3, K⟩ := K
    refine r_baload (pc := 80) hk2 hi3 dX8_code_80 ?_
    refine r_sipush (pc := 81) (x := 255) dX8_code_81 rfl ?_
    refine r_iand (pc := 84) dX8_code_84 ?_
    refine r_sipush (pc := 85) (x := 171) dX8_code_85 rfl ?_
    refine r_icmp_eq (pc := 88) (tgt := 106) dX8_code_88 rfl (fun c4 => ?_) (fun c4 => ?_)
    · have K := K.1 c4
      refine r_iload (pc := 106) dX8_code_106 rfl ?_
      refine r_aload_n (pc := 108) dX8_code_108 rfl ?_
      refine r_iload (pc := 109) dX8_code_109 rfl ?_
      refine r_iload (pc := 111) dX8_code_111 rfl ?_
      refine r_callS_I (pc := 113) (Y := mX8_step) (vs := [_, _, _]) (st := [_]) q1376 q1377 q162 dX8_code_113 rfl cd_X8_step rfl rfl fp_X8_code_X8_step K (fun x5 h6 eh6 wh6 K => ?_) (fun x h1 _ _ e => Tw.out rfl e)
      refine r_iadd (pc := 116) dX8_code_116 ?_
      refine r_istore (pc := 117) (lv' := [_, _, _, _, _, _, _]) dX8_code_117 (by decide) rfl ?_
      refine r_goto (pc := 119) (tgt := 70) dX8_code_119 rfl ?_
      refine r_mask (pc := 70) [true, true, false, false, false, true, true] rfl ?_
      exact K
    · have K := K.2 c4
      refine r_aload_n (pc := 91) dX8_code_91 rfl ?_
      refine r_aload_n (pc := 92) dX8_code_92 rfl ?_
      refine r_iload (pc := 93) dX8_code_93 rfl ?_
      refine r_aload_n (pc := 95) dX8_code_95 rfl ?_
      refine r_iload (pc := 96) dX8_code_96 rfl ?_
      refine r_iload (pc := 98) dX8_code_98 rfl ?_
      refine r_callS_I (pc := 100) (Y := mX8_step) (vs := [_, _, _]) (st := [_, _, _]) q1376 q1377 q162 dX8_code_100 rfl cd_X8_step rfl rfl fp_X8_code_X8_step K (fun x7 h8 eh8 wh8 K => ?_) (fun x h1 _ _ e => Tw.out rfl e)
      obtain ⟨hk11, K⟩ := K
      refine r_callV_V (pc := 103) (Y := mX8_copy) (vs := [_, _, _]) (st := []) hk11 rfl kc8 q1367 q1369 qs24 dX8_code_103 rfl cd_X8_copy rfl rfl fp_X8_code_X8_copy K (fun h10 eh10 wh10 K => ?_) (fun x h1 _ _ e => Tw.out rfl e)
      refine r_iload (pc := 106) dX8_code_106 rfl ?_
      refine r_aload_n (pc := 108) dX8_code_108 rfl ?_
      refine r_iload (pc := 109) dX8_code_109 rfl ?_
      refine r_iload (pc := 111) dX8_code_111 rfl ?_
      refine r_callS_I (pc := 113) (Y := mX8_step) (vs := [_, _, _]) (st := [_]) q1376 q1377 q162 dX8_code_113 rfl cd_X8_step rfl rfl fp_X8_code_X8_step K (fun x12 h13 eh13 wh13 K => ?_) (fun x h1 _ _ e => Tw.out rfl e)
      refine r_iadd (pc := 116) dX8_code_116 ?_
      refine r_istore (pc := 117) (lv' := [_, _, _, _, _, _, _]) dX8_code_117 (by decide) rfl ?_
      refine r_goto (pc := 119) (tgt := 70) dX8_code_119 rfl ?_
      refine r_mask (pc := 70) [true, true, false, false, false, true, true] rfl ?_
      exact K
theorem dX8_make_0 : decode cX8_make 0 = .ok (.iload_n 1, 1) := by decide +kernel
theorem dX8_make_1 : decode cX8_make 1 = .ok (.bipush 31, 2) := by decide +kernel
theorem dX8_make_3 : decode cX8_make 3 = .ok (.iand, 1) := by decide +kernel
theorem dX8_make_4 : decode cX8_make 4 = .ok (.istore 5, 2) := by decide +kernel
theorem dX8_make_6 : decode cX8_make 6 = .ok (.iload_n 1, 1) := by decide +kernel
theorem dX8_make_7 : decode cX8_make 7 = .ok (.sipush 128, 3) := by decide +kernel
theorem dX8_make_10 : decode cX8_make 10 = .ok (.iand, 1) := by decide +kernel
theorem dX8_make_11 : decode cX8_make 11 = .ok (.ifCond .eq 7, 3) := by decide +kernel
theorem dX8_make_14 : decode cX8_make 14 = .ok (.iconst 1, 1) := by decide +kernel
theorem dX8_make_15 : decode cX8_make 15 = .ok (.goto 4, 3) := by decide +kernel
theorem dX8_make_18 : decode cX8_make 18 = .ok (.iconst 0, 1) := by decide +kernel
theorem dX8_make_19 : decode cX8_make 19 = .ok (.istore 6, 2) := by decide +kernel
theorem dX8_make_21 : decode cX8_make 21 = .ok (.iconst 0, 1) := by decide +kernel
theorem dX8_make_22 : decode cX8_make 22 = .ok (.istore 7, 2) := by decide +kernel
theorem dX8_make_24 : decode cX8_make 24 = .ok (.iload 7, 2) := by decide +kernel
theorem dX8_make_26 : decode cX8_make 26 = .ok (.bipush 32, 2) := by decide +kernel
theorem dX8_make_28 : decode cX8_make 28 = .ok (.if_icmp .ge 17, 3) := by decide +kernel
theorem dX8_make_31 : decode cX8_make 31 = .ok (.aload_n 0, 1) := by decide +kernel
theorem dX8_make_32 : decode cX8_make 32 = .ok (.getfield 15, 3) := by decide +kernel
theorem dX8_make_35 : decode cX8_make 35 = .ok (.iload 7, 2) := by decide +kernel
theorem dX8_make_37 : decode cX8_make 37 = .ok (.iconst 0, 1) := by decide +kernel
theorem dX8_make_38 : decode cX8_make 38 = .ok (.bastore, 1) := by decide +kernel
theorem dX8_make_39 : decode cX8_make 39 = .ok (.iinc 7 1, 3) := by decide +kernel
theorem dX8_make_42 : decode cX8_make 42 = .ok (.goto (-18), 3) := by decide +kernel
theorem dX8_make_45 : decode cX8_make 45 = .ok (.aload_n 0, 1) := by decide +kernel
theorem dX8_make_46 : decode cX8_make 46 = .ok (.getfield 15, 3) := by decide +kernel
theorem dX8_make_49 : decode cX8_make 49 = .ok (.iconst 0, 1) := by decide +kernel
theorem dX8_make_50 : decode cX8_make 50 = .ok (.iconst 1, 1) := by decide +kernel
theorem dX8_make_51 : decode cX8_make 51 = .ok (.bastore, 1) := by decide +kernel
theorem dX8_make_52 : decode cX8_make 52 = .ok (.iload 5, 2) := by decide +kernel
theorem dX8_make_54 : decode cX8_make 54 = .ok (.iconst 3, 1) := by decide +kernel
theorem dX8_make_55 : decode cX8_make 55 = .ok (.if_icmp .ne 19, 3) := by decide +kernel
theorem dX8_make_58 : decode cX8_make 58 = .ok (.aload_n 0, 1) := by decide +kernel
theorem dX8_make_59 : decode cX8_make 59 = .ok (.getfield 33, 3) := by decide +kernel
theorem dX8_make_62 : decode cX8_make 62 = .ok (.aload_n 0, 1) := by decide +kernel
theorem dX8_make_63 : decode cX8_make 63 = .ok (.getfield 29, 3) := by decide +kernel
theorem dX8_make_66 : decode cX8_make 66 = .ok (.getfield 52, 3) := by decide +kernel
theorem dX8_make_69 : decode cX8_make 69 = .ok (.arraylength, 1) := by decide +kernel
theorem dX8_make_70 : decode cX8_make 70 = .ok (.if_icmp .lt 4, 3) := by decide +kernel
theorem dX8_make_73 : decode cX8_make 73 = .ok (.return_, 1) := by decide +kernel
theorem dX8_make_74 : decode cX8_make 74 = .ok (.aload_n 0, 1) := by decide +kernel
theorem dX8_make_75 : decode cX8_make 75 = .ok (.iconst 0, 1) := by decide +kernel
theorem dX8_make_76 : decode cX8_make 76 = .ok (.putfield 37, 3) := by decide +kernel
theorem dX8_make_79 : decode cX8_make 79 = .ok (.aload_n 0, 1) := by decide +kernel
theorem dX8_make_80 : decode cX8_make 80 = .ok (.aload_n 0, 1) := by decide +kernel
theorem dX8_make_81 : decode cX8_make 81 = .ok (.getfield 29, 3) := by decide +kernel
theorem dX8_make_84 : decode cX8_make 84 = .ok (.getfield 58, 3) := by decide +kernel
theorem dX8_make_87 : decode cX8_make 87 = .ok (.iconst 4, 1) := by decide +kernel
theorem dX8_make_88 : decode cX8_make 88 = .ok (.invokevirtual 40, 3) := by decide +kernel
theorem dX8_make_91 : decode cX8_make 91 = .ok (.aload_n 0, 1) := by decide +kernel
theorem dX8_make_92 : decode cX8_make 92 = .ok (.iload 6, 2) := by decide +kernel
theorem dX8_make_94 : decode cX8_make 94 = .ok (.ifCond .eq 7, 3) := by decide +kernel
theorem dX8_make_97 : decode cX8_make 97 = .ok (.iconst 1, 1) := by decide +kernel
theorem dX8_make_98 : decode cX8_make 98 = .ok (.goto 11, 3) := by decide +kernel
theorem dX8_make_101 : decode cX8_make 101 = .ok (.aload_n 0, 1) := by decide +kernel
theorem dX8_make_102 : decode cX8_make 102 = .ok (.getfield 29, 3) := by decide +kernel
theorem dX8_make_105 : decode cX8_make 105 = .ok (.getfield 62, 3) := by decide +kernel
theorem dX8_make_108 : decode cX8_make 108 = .ok (.arraylength, 1) := by decide +kernel
theorem dX8_make_109 : decode cX8_make 109 = .ok (.invokevirtual 66, 3) := by decide +kernel
theorem dX8_make_112 : decode cX8_make 112 = .ok (.iconst 0, 1) := by decide +kernel
theorem dX8_make_113 : decode cX8_make 113 = .ok (.istore 7, 2) := by decide +kernel
theorem dX8_make_115 : decode cX8_make 115 = .ok (.iload 7, 2) := by decide +kernel
theorem dX8_make_117 : decode cX8_make 117 = .ok (.aload_n 0, 1) := by decide +kernel
theorem dX8_make_118 : decode cX8_make 118 = .ok (.getfield 29, 3) := by decide +kernel
theorem dX8_make_121 : decode cX8_make 121 = .ok (.getfield 62, 3) := by decide +kernel
theorem dX8_make_124 : decode cX8_make 124 = .ok (.arraylength, 1) := by decide +kernel
theorem dX8_make_125 : decode cX8_make 125 = .ok (.if_icmp .ge 125, 3) := by decide +kernel
theorem dX8_make_128 : decode cX8_make 128 = .ok (.iload 6, 2) := by decide +kernel
theorem dX8_make_130 : decode cX8_make 130 = .ok (.ifCond .eq 15, 3) := by decide +kernel
theorem dX8_make_133 : decode cX8_make 133 = .ok (.iload 7, 2) := by decide +kernel
theorem dX8_make_135 : decode cX8_make 135 = .ok (.aload_n 0, 1) := by decide +kernel
theorem dX8_make_136 : decode cX8_make 136 = .ok (.getfield 33, 3) := by decide +kernel
theorem dX8_make_139 : decode cX8_make 139 = .ok (.if_icmp .eq 6, 3) := by decide +kernel
theorem dX8_make_142 : decode cX8_make 142 = .ok (.goto 102, 3) := by decide +kernel
theorem dX8_make_145 : decode cX8_make 145 = .ok (.aload_n 0, 1) := by decide +kernel
theorem dX8_make_146 : decode cX8_make 146 = .ok (.getfield 29, 3) := by decide +kernel
theorem dX8_make_149 : decode cX8_make 149 = .ok (.getfield 62, 3) := by decide +kernel
theorem dX8_make_152 : decode cX8_make 152 = .ok (.iload 7, 2) := by decide +kernel
theorem dX8_make_154 : decode cX8_make 154 = .ok (.aaload, 1) := by decide +kernel
theorem dX8_make_155 : decode cX8_make 155 = .ok (.astore 8, 2) := by decide +kernel
theorem dX8_make_157 : decode cX8_make 157 = .ok (.aload_n 0, 1) := by decide +kernel
theorem dX8_make_158 : decode cX8_make 158 = .ok (.aload_n 0, 1) := by decide +kernel
theorem dX8_make_159 : decode cX8_make 159 = .ok (.getfield 26, 3) := by decide +kernel
theorem dX8_make_162 : decode cX8_make 162 = .ok (.aload 8, 2) := by decide +kernel
theorem dX8_make_164 : decode cX8_make 164 = .ok (.getfield 70, 3) := by decide +kernel
theorem dX8_make_167 : decode cX8_make 167 = .ok (.bipush 32, 2) := by decide +kernel
theorem dX8_make_169 : decode cX8_make 169 = .ok (.invokevirtual 75, 3) := by decide +kernel
theorem dX8_make_172 : decode cX8_make 172 = .ok (.aload_n 0, 1) := by decide +kernel
theorem dX8_make_173 : decode cX8_make 173 = .ok (.aload 8, 2) := by decide +kernel
theorem dX8_make_175 : decode cX8_make 175 = .ok (.getfield 79, 3) := by decide +kernel
theorem dX8_make_178 : decode cX8_make 178 = .ok (.i2l, 1) := by decide +kernel
theorem dX8_make_179 : decode cX8_make 179 = .ok (.iconst 4, 1) := by decide +kernel
theorem dX8_make_180 : decode cX8_make 180 = .ok (.invokevirtual 40, 3) := by decide +kernel
theorem dX8_make_183 : decode cX8_make 183 = .ok (.iload 7, 2) := by decide +kernel
theorem dX8_make_185 : decode cX8_make 185 = .ok (.aload_n 0, 1) := by decide +kernel
theorem dX8_make_186 : decode cX8_make 186 = .ok (.getfield 33, 3) := by decide +kernel
theorem dX8_make_189 : decode cX8_make 189 = .ok (.if_icmp .ne 14, 3) := by decide +kernel
theorem dX8_make_192 : decode cX8_make 192 = .ok (.aload_n 0, 1) := by decide +kernel
theorem dX8_make_193 : decode cX8_make 193 = .ok (.aload_n 2, 1) := by decide +kernel
theorem dX8_make_194 : decode cX8_make 194 = .ok (.iload_n 3, 1) := by decide +kernel
theorem dX8_make_195 : decode cX8_make 195 = .ok (.iload 4, 2) := by decide +kernel
theorem dX8_make_197 : decode cX8_make 197 = .ok (.invokevirtual 82, 3) := by decide +kernel
theorem dX8_make_200 : decode cX8_make 200 = .ok (.goto 9, 3) := by decide +kernel
theorem dX8_make_203 : decode cX8_make 203 = .ok (.aload_n 0, 1) := by decide +kernel
theorem dX8_make_204 : decode cX8_make 204 = .ok (.lconst 0, 1) := by decide +kernel
theorem dX8_make_205 : decode cX8_make 205 = .ok (.iconst 1, 1) := by decide +kernel
theorem dX8_make_206 : decode cX8_make 206 = .ok (.invokevirtual 40, 3) := by decide +kernel
theorem dX8_make_209 : decode cX8_make 209 = .ok (.aload_n 0, 1) := by decide +kernel
theorem dX8_make_210 : decode cX8_make 210 = .ok (.iload 7, 2) := by decide +kernel
theorem dX8_make_212 : decode cX8_make 212 = .ok (.aload_n 0, 1) := by decide +kernel
theorem dX8_make_213 : decode cX8_make 213 = .ok (.getfield 33, 3) := by decide +kernel
theorem dX8_make_216 : decode cX8_make 216 = .ok (.if_icmp .eq 19, 3) := by decide +kernel
theorem dX8_make_219 : decode cX8_make 219 = .ok (.iload 5, 2) := by decide +kernel
theorem dX8_make_221 : decode cX8_make 221 = .ok (.iconst 2, 1) := by decide +kernel
theorem dX8_make_222 : decode cX8_make 222 = .ok (.if_icmp .eq 9, 3) := by decide +kernel
theorem dX8_make_225 : decode cX8_make 225 = .ok (.iload 5, 2) := by decide +kernel
theorem dX8_make_227 : decode cX8_make 227 = .ok (.iconst 3, 1) := by decide +kernel
theorem dX8_make_228 : decode cX8_make 228 = .ok (.if_icmp .ne 7, 3) := by decide +kernel
theorem dX8_make_231 : decode cX8_make 231 = .ok (.lconst 0, 1) := by decide +kernel
theorem dX8_make_232 : decode cX8_make 232 = .ok (.goto 8, 3) := by decide +kernel
theorem dX8_make_235 : decode cX8_make 235 = .ok (.aload 8, 2) := by decide +kernel
theorem dX8_make_237 : decode cX8_make 237 = .ok (.getfield 85, 3) := by decide +kernel
theorem dX8_make_240 : decode cX8_make 240 = .ok (.iconst 4, 1) := by decide +kernel
theorem dX8_make_241 : decode cX8_make 241 = .ok (.invokevirtual 40, 3) := by decide +kernel
theorem dX8_make_244 : decode cX8_make 244 = .ok (.iinc 7 1, 3) := by decide +kernel
theorem dX8_make_247 : decode cX8_make 247 = .ok (.goto (-132), 3) := by decide +kernel
theorem dX8_make_250 : decode cX8_make 250 = .ok (.iload 5, 2) := by decide +kernel
theorem dX8_make_252 : decode cX8_make 252 = .ok (.iconst 2, 1) := by decide +kernel
theorem dX8_make_253 : decode cX8_make 253 = .ok (.if_icmp .ne 7, 3) := by decide +kernel
theorem dX8_make_256 : decode cX8_make 256 = .ok (.iconst 0, 1) := by decide +kernel
theorem dX8_make_257 : decode cX8_make 257 = .ok (.goto 26, 3) := by decide +kernel
theorem dX8_make_260 : decode cX8_make 260 = .ok (.iload 5, 2) := by decide +kernel
theorem dX8_make_262 : decode cX8_make 262 = .ok (.iconst 3, 1) := by decide +kernel
theorem dX8_make_263 : decode cX8_make 263 = .ok (.if_icmp .ne 12, 3) := by decide +kernel
theorem dX8_make_266 : decode cX8_make 266 = .ok (.aload_n 0, 1) := by decide +kernel
theorem dX8_make_267 : decode cX8_make 267 = .ok (.getfield 33, 3) := by decide +kernel
theorem dX8_make_270 : decode cX8_make 270 = .ok (.iconst 1, 1) := by decide +kernel
theorem dX8_make_271 : decode cX8_make 271 = .ok (.iadd, 1) := by decide +kernel
theorem dX8_make_272 : decode cX8_make 272 = .ok (.goto 11, 3) := by decide +kernel
theorem dX8_make_275 : decode cX8_make 275 = .ok (.aload_n 0, 1) := by decide +kernel
theorem dX8_make_276 : decode cX8_make 276 = .ok (.getfield 29, 3) := by decide +kernel
theorem dX8_make_279 : decode cX8_make 279 = .ok (.getfield 52, 3) := by decide +kernel
theorem dX8_make_282 : decode cX8_make 282 = .ok (.arraylength, 1) := by decide +kernel
theorem dX8_make_283 : decode cX8_make 283 = .ok (.istore 7, 2) := by decide +kernel
theorem dX8_make_285 : decode cX8_make 285 = .ok (.aload_n 0, 1) := by decide +kernel
theorem dX8_make_286 : decode cX8_make 286 = .ok (.iload 7, 2) := by decide +kernel
theorem dX8_make_288 : decode cX8_make 288 = .ok (.invokevirtual 66, 3) := by decide +kernel
theorem dX8_make_291 : decode cX8_make 291 = .ok (.iconst 0, 1) := by decide +kernel
theorem dX8_make_292 : decode cX8_make 292 = .ok (.istore 8, 2) := by decide +kernel
theorem dX8_make_294 : decode cX8_make 294 = .ok (.iload 8, 2) := by decide +kernel
theorem dX8_make_296 : decode cX8_make 296 = .ok (.iload 7, 2) := by decide +kernel
theorem dX8_make_298 : decode cX8_make 298 = .ok (.if_icmp .ge 106, 3) := by decide +kernel
theorem dX8_make_301 : decode cX8_make 301 = .ok (.aload_n 0, 1) := by decide +kernel
theorem dX8_make_302 : decode cX8_make 302 = .ok (.getfield 29, 3) := by decide +kernel
theorem dX8_make_305 : decode cX8_make 305 = .ok (.getfield 52, 3) := by decide +kernel
theorem dX8_make_308 : decode cX8_make 308 = .ok (.iload 8, 2) := by decide +kernel
theorem dX8_make_310 : decode cX8_make 310 = .ok (.aaload, 1) := by decide +kernel
theorem dX8_make_311 : decode cX8_make 311 = .ok (.astore 9, 2) := by decide +kernel
theorem dX8_make_313 : decode cX8_make 313 = .ok (.iload 5, 2) := by decide +kernel
theorem dX8_make_315 : decode cX8_make 315 = .ok (.iconst 3, 1) := by decide +kernel
theorem dX8_make_316 : decode cX8_make 316 = .ok (.if_icmp .ne 16, 3) := by decide +kernel
theorem dX8_make_319 : decode cX8_make 319 = .ok (.iload 8, 2) := by decide +kernel
theorem dX8_make_321 : decode cX8_make 321 = .ok (.aload_n 0, 1) := by decide +kernel
theorem dX8_make_322 : decode cX8_make 322 = .ok (.getfield 33, 3) := by decide +kernel
theorem dX8_make_325 : decode cX8_make 325 = .ok (.if_icmp .ge 7, 3) := by decide +kernel
theorem dX8_make_328 : decode cX8_make 328 = .ok (.iconst 1, 1) := by decide +kernel
theorem dX8_make_329 : decode cX8_make 329 = .ok (.goto 4, 3) := by decide +kernel
theorem dX8_make_332 : decode cX8_make 332 = .ok (.iconst 0, 1) := by decide +kernel
theorem dX8_make_333 : decode cX8_make 333 = .ok (.istore 10, 2) := by decide +kernel
theorem dX8_make_335 : decode cX8_make 335 = .ok (.aload_n 0, 1) := by decide +kernel
theorem dX8_make_336 : decode cX8_make 336 = .ok (.iload 10, 2) := by decide +kernel
theorem dX8_make_338 : decode cX8_make 338 = .ok (.ifCond .eq 9, 3) := by decide +kernel
theorem dX8_make_341 : decode cX8_make 341 = .ok (.ldc2_w 88, 3) := by decide +kernel
theorem dX8_make_344 : decode cX8_make 344 = .ok (.goto 8, 3) := by decide +kernel
theorem dX8_make_347 : decode cX8_make 347 = .ok (.aload 9, 2) := by decide +kernel
theorem dX8_make_349 : decode cX8_make 349 = .ok (.getfield 90, 3) := by decide +kernel
theorem dX8_make_352 : decode cX8_make 352 = .ok (.bipush 8, 2) := by decide +kernel
theorem dX8_make_354 : decode cX8_make 354 = .ok (.invokevirtual 40, 3) := by decide +kernel
theorem dX8_make_357 : decode cX8_make 357 = .ok (.aload_n 0, 1) := by decide +kernel
theorem dX8_make_358 : decode cX8_make 358 = .ok (.iload 10, 2) := by decide +kernel
theorem dX8_make_360 : decode cX8_make 360 = .ok (.ifCond .eq 7, 3) := by decide +kernel
theorem dX8_make_363 : decode cX8_make 363 = .ok (.iconst 0, 1) := by decide +kernel
theorem dX8_make_364 : decode cX8_make 364 = .ok (.goto 8, 3) := by decide +kernel
theorem dX8_make_367 : decode cX8_make 367 = .ok (.aload 9, 2) := by decide +kernel
theorem dX8_make_369 : decode cX8_make 369 = .ok (.getfield 95, 3) := by decide +kernel
theorem dX8_make_372 : decode cX8_make 372 = .ok (.invokevirtual 66, 3) := by decide +kernel
theorem dX8_make_375 : decode cX8_make 375 = .ok (.iload 10, 2) := by decide +kernel
theorem dX8_make_377 : decode cX8_make 377 = .ok (.ifCond .ne 21, 3) := by decide +kernel
theorem dX8_make_380 : decode cX8_make 380 = .ok (.aload_n 0, 1) := by decide +kernel
theorem dX8_make_381 : decode cX8_make 381 = .ok (.aload_n 0, 1) := by decide +kernel
theorem dX8_make_382 : decode cX8_make 382 = .ok (.getfield 26, 3) := by decide +kernel
theorem dX8_make_385 : decode cX8_make 385 = .ok (.aload 9, 2) := by decide +kernel
theorem dX8_make_387 : decode cX8_make 387 = .ok (.getfield 98, 3) := by decide +kernel
theorem dX8_make_390 : decode cX8_make 390 = .ok (.aload 9, 2) := by decide +kernel
theorem dX8_make_392 : decode cX8_make 392 = .ok (.getfield 95, 3) := by decide +kernel
theorem dX8_make_395 : decode cX8_make 395 = .ok (.invokevirtual 75, 3) := by decide +kernel
theorem dX8_make_398 : decode cX8_make 398 = .ok (.iinc 8 1, 3) := by decide +kernel
theorem dX8_make_401 : decode cX8_make 401 = .ok (.goto (-107), 3) := by decide +kernel
theorem dX8_make_404 : decode cX8_make 404 = .ok (.aload_n 0, 1) := by decide +kernel
theorem dX8_make_405 : decode cX8_make 405 = .ok (.aload_n 0, 1) := by decide +kernel
theorem dX8_make_406 : decode cX8_make 406 = .ok (.getfield 29, 3) := by decide +kernel
theorem dX8_make_409 : decode cX8_make 409 = .ok (.getfield 101, 3) := by decide +kernel
theorem dX8_make_412 : decode cX8_make 412 = .ok (.iconst 4, 1) := by decide +kernel
theorem dX8_make_413 : decode cX8_make 413 = .ok (.invokevirtual 40, 3) := by decide +kernel
theorem dX8_make_416 : decode cX8_make 416 = .ok (.aload_n 0, 1) := by decide +kernel
theorem dX8_make_417 : decode cX8_make 417 = .ok (.iload_n 1, 1) := by decide +kernel
theorem dX8_make_418 : decode cX8_make 418 = .ok (.i2l, 1) := by decide +kernel
theorem dX8_make_419 : decode cX8_make 419 = .ok (.iconst 4, 1) := by decide +kernel
theorem dX8_make_420 : decode cX8_make 420 = .ok (.invokevirtual 40, 3) := by decide +kernel
theorem dX8_make_423 : decode cX8_make 423 = .ok (.aload_n 0, 1) := by decide +kernel
theorem dX8_make_424 : decode cX8_make 424 = .ok (.getfield 18, 3) := by decide +kernel
theorem dX8_make_427 : decode cX8_make 427 = .ok (.aload_n 0, 1) := by decide +kernel
theorem dX8_make_428 : decode cX8_make 428 = .ok (.getfield 9, 3) := by decide +kernel
theorem dX8_make_431 : decode cX8_make 431 = .ok (.iconst 0, 1) := by decide +kernel
theorem dX8_make_432 : decode cX8_make 432 = .ok (.aload_n 0, 1) := by decide +kernel
theorem dX8_make_433 : decode cX8_make 433 = .ok (.getfield 37, 3) := by decide +kernel
theorem dX8_make_436 : decode cX8_make 436 = .ok (.aload_n 0, 1) := by decide +kernel
theorem dX8_make_437 : decode cX8_make 437 = .ok (.getfield 15, 3) := by decide +kernel
theorem dX8_make_440 : decode cX8_make 440 = .ok (.iconst 0, 1) := by decide +kernel
theorem dX8_make_441 : decode cX8_make 441 = .ok (.invokevirtual 104, 3) := by decide +kernel
theorem dX8_make_444 : decode cX8_make 444 = .ok (.return_, 1) := by decide +kernel
/-! CoinJudge$Signing.make(I[BII)V -/
set_option maxHeartbeats 4000000 in
theorem sX8_make_0 {G : Gx} {d t : Nat} {h0 : AH} {Φ : Out → AH → Prop} (h : AH) (v0 : Nat) (v1 : Int32) (v2 : Nat) (v3 : Int32) (v4 : Int32) (K : (((v1 &&& 128) = 0 → Aw G mX8_make (d + 1) t h0 Φ 24 [vR v0, vI v1, vR v2, vI v3, vI v4, vI (v1 &&& 31), vI 0, vI 0, vU, vU, vU] [] h) ∧ (¬ (v1 &&& 128) = 0 → Aw G mX8_make (d + 1) t h0 Φ 24 [vR v0, vI v1, vR v2, vI v3, vI v4, vI (v1 &&& 31), vI 1, vI 0, vU, vU, vU] [] h))) : Aw G mX8_make (d + 1) t h0 Φ 0 [vR v0, vI v1, vR v2, vI v3, vI v4, vU, vU, vU, vU, vU, vU] [] h := by
  refine r_iload_n (pc := 0) dX8_make_0 rfl ?_
  refine r_bipush (pc := 1) (x := 31) dX8_make_1 rfl ?_
  refine r_iand (pc := 3) dX8_make_3 ?_
  refine r_istore (pc := 4) (lv' := [_, _, _, _, _, _, _, _, _, _, _]) dX8_make_4 (by decide) rfl ?_
  refine r_iload_n (pc := 6) dX8_make_6 rfl ?_
  refine r_sipush (pc := 7) (x := 128) dX8_make_7 rfl ?_
  refine r_iand (pc := 10) dX8_make_10 ?_
  refine r_if_eq (pc := 11) (tgt := 18) dX8_make_11 rfl (fun c1 => ?_) (fun c1 => ?_)
  · have K := K.1 c1
    refine r_iconst (pc := 18) (x := 0) dX8_make_18 rfl ?_
    refine r_istore (pc := 19) (lv' := [_, _, _, _, _, _, _, _, _, _, _]) dX8_make_19 (by decide) rfl ?_
    refine r_iconst (pc := 21) (x := 0) dX8_make_21 rfl ?_
    refine r_istore (pc := 22) (lv' := [_, _, _, _, _, _, _, _, _, _, _]) dX8_make_22 (by decide) rfl ?_
    refine r_mask (pc := 24) [true, true, true, true, true, true, true, true, false, false, false] rfl ?_
    exact K
  · have K := K.2 c1
    refine r_iconst (pc := 14) (x := 1) dX8_make_14 rfl ?_
    refine r_goto (pc := 15) (tgt := 19) dX8_make_15 rfl ?_
    refine r_istore (pc := 19) (lv' := [_, _, _, _, _, _, _, _, _, _, _]) dX8_make_19 (by decide) rfl ?_
    refine r_iconst (pc := 21) (x := 0) dX8_make_21 rfl ?_
    refine r_istore (pc := 22) (lv' := [_, _, _, _, _, _, _, _, _, _, _]) dX8_make_22 (by decide) rfl ?_
    refine r_mask (pc := 24) [true, true, true, true, true, true, true, true, false, false, false] rfl ?_
    exact K
theorem eX8_make {G : Gx} {d : Nat} {Φ : Out → AH → Prop} (h : AH) (v0 : Nat) (v1 : Int32) (v2 : Nat) (v3 : Int32) (v4 : Int32) (K : WF G h → Aw G mX8_make (d + 1) 0 h Φ 0 [vR v0, vI v1, vR v2, vI v3, vI v4, vU, vU, vU, vU, vU, vU] [] h) : Cw G mX8_make (d + 1) 0 [vR v0, vI v1, vR v2, vI v3, vI v4] h Φ := Cw.of rfl K
set_option maxHeartbeats 4000000 in
theorem sX8_make_24 {G : Gx} {d t : Nat} {h0 : AH} {Φ : Out → AH → Prop} (h : AH) (v0 : Nat) (v1 : Int32) (v2 : Nat) (v3 : Int32) (v4 : Int32) (v5 : Int32) (v6 : Int32) (v7 : Int32) (K : ((32 ≤ v7 → h.kd v0 = 8 ∧ ∀ r3 : Nat, r3 = (h.r 8004 v0) → h.kd r3 = 101 ∧ vp_in 0 (h.ai r3).length ∧ ∀ h6 : AH, h6 = h.wi r3 ((h.ai r3).set ((0 : Int32).toNatClampNeg) (i2b 1)) → ((¬ v5 = 3 → Aw G mX8_make (d + 1) t h0 Φ 74 [vR v0, vI v1, vR v2, vI v3, vI v4, vI v5, vI v6, vU, vU, vU, vU] [] h6) ∧ (v5 = 3 → ∀ r9 : Nat, r9 = (h6.r 8006 v0) → h6.kd r9 = 18 ∧ ∀ r11 : Nat, r11 = (h6.r 18006 r9) → h6.kd r11 = 112 ∧ (((h6.i 8007 v0) < (nI (h6.ar r11).length) → Aw G mX8_make (d + 1) t h0 Φ 74 [vR v0, vI v1, vR v2, vI v3, vI v4, vI v5, vI v6, vU, vU, vU, vU] [] h6) ∧ (¬ (h6.i 8007 v0) < (nI (h6.ar r11).length) → Φ (.inl none) h6))))) ∧ (¬ 32 ≤ v7 → h.kd v0 = 8 ∧ ∀ r15 : Nat, r15 = (h.r 8004 v0) → h.kd r15 = 101 ∧ vp_in v7 (h.ai r15).length ∧ ∀ h18 : AH, h18 = h.wi r15 ((h.ai r15).set (v7.toNatClampNeg) (i2b 0)) → Aw G mX8_make (d + 1) t h0 Φ 24 [vR v0, vI v1, vR v2, vI v3, vI v4, vI v5, vI v6, vI (v7 + 1), vU, vU, vU] [] h18))) : Aw G mX8_make (d + 1) t h0 Φ 24 [vR v0, vI v1, vR v2, vI v3, vI v4, vI v5, vI v6, vI v7, vU, vU, vU] [] h := by
  refine r_iload (pc := 24) dX8_make_24 rfl ?_
  refine r_bipush (pc := 26) (x := 32) dX8_make_26 rfl ?_
  refine r_icmp_ge (pc := 28) (tgt := 45) dX8_make_28 rfl (fun c1 => ?_) (fun c1 => ?_)
  · have K := K.1 c1
    refine r_aload_n (pc := 45) dX8_make_45 rfl ?_
    obtain ⟨hk2, K⟩ := K
    have K := K _ rfl
    refine r_getr' (pc := 46) (T := TX8) 8 4 rfl hk2 (Or.inl q549) dX8_make_46 kc8 g8004 ?_
    refine r_iconst (pc := 49) (x := 0) dX8_make_49 rfl ?_
    refine r_iconst (pc := 50) (x := 1) dX8_make_50 rfl ?_
    obtain ⟨hk4, K⟩ := K
    obtain ⟨hi5, K⟩ := K
    refine r_jbast (pc := 51) hk4 hi5 (Or.inl (em rfl)) dX8_make_51 ?_
    refine r_nameH (fun h6 eh6 => ?_)
    have K := K h6 eh6
    refine r_iload (pc := 52) dX8_make_52 rfl ?_
    refine r_iconst (pc := 54) (x := 3) dX8_make_54 rfl ?_
    refine r_icmp_ne (pc := 55) (tgt := 74) dX8_make_55 rfl (fun c7 => ?_) (fun c7 => ?_)
    · have K := K.1 c7
      refine r_mask (pc := 74) [true, true, true, true, true, true, true, false, false, false, false] rfl ?_
      exact K
    · have K := K.2 c7
      refine r_aload_n (pc := 58) dX8_make_58 rfl ?_
      have hk8 := kd_wi eh6 hk2
      refine r_geti' (pc := 59) (T := TX8) 8 7 rfl hk8 (Or.inl q552) dX8_make_59 kc8 g8007 ?_
      refine r_aload_n (pc := 62) dX8_make_62 rfl ?_
      have K := K _ rfl
      refine r_getr' (pc := 63) (T := TX8) 8 6 rfl hk8 (Or.inl q551) dX8_make_63 kc8 g8006 ?_
      obtain ⟨hk10, K⟩ := K
      have K := K _ rfl
      refine r_getr' (pc := 66) (T := TX18) 18 6 rfl hk10 (Or.inr (Or.inl ⟨_, q1089⟩)) dX8_make_66 kc18 g18006 ?_
      obtain ⟨hk12, K⟩ := K
      refine r_alenR (pc := 69) (le_of_eq_r hk12 (by decide)) dX8_make_69 ?_
      refine r_icmp_lt (pc := 70) (tgt := 74) dX8_make_70 rfl (fun c13 => ?_) (fun c13 => ?_)
      · have K := K.1 c13
        refine r_mask (pc := 74) [true, true, true, true, true, true, true, false, false, false, false] rfl ?_
        exact K
      · have K := K.2 c13
        exact r_vret (pc := 73) rfl dX8_make_73 K
  · have K := K.2 c1
    refine r_aload_n (pc := 31) dX8_make_31 rfl ?_
    obtain ⟨hk14, K⟩ := K
    have K := K _ rfl
    refine r_getr' (pc := 32) (T := TX8) 8 4 rfl hk14 (Or.inl q549) dX8_make_32 kc8 g8004 ?_
    refine r_iload (pc := 35) dX8_make_35 rfl ?_
    refine r_iconst (pc := 37) (x := 0) dX8_make_37 rfl ?_
    obtain ⟨hk16, K⟩ := K
    obtain ⟨hi17, K⟩ := K
    refine r_jbast (pc := 38) hk16 hi17 (Or.inl (em rfl)) dX8_make_38 ?_
    refine r_nameH (fun h18 eh18 => ?_)
    have K := K h18 eh18
    refine r_iinc (pc := 39) (lv' := [_, _, _, _, _, _, _, _, _, _, _]) dX8_make_39 rfl rfl (by decide) rfl ?_
    refine r_goto (pc := 42) (tgt := 24) dX8_make_42 rfl ?_
    refine r_mask (pc := 24) [true, true, true, true, true, true, true, true, false, false, false] rfl ?_
    exact K
set_option maxHeartbeats 4000000 in
theorem sX8_make_74 {G : Gx} {d t : Nat} {h0 : AH} {Φ : Out → AH → Prop} (h : AH) (v0 : Nat) (v1 : Int32) (v2 : Nat) (v3 : Int32) (v4 : Int32) (v5 : Int32) (v6 : Int32) (K : h.kd v0 = 8 ∧ ∀ h2 : AH, h2 = h.pi 8003 v0 0 → ∀ r4 : Nat, r4 = (h2.r 8006 v0) → h2.kd r4 = 18 ∧ Cw G mX8_put d 0 [vR v0, vJ (h2.l 18003 r4), vI 4] h2 (kV (fun h7 => ((v6 = 0 → ∀ r13 : Nat, r13 = (h7.r 18005 r4) → h7.kd r13 = 111 ∧ Cw G mX8_count d 0 [vR v0, vI (nI (h7.ar r13).length)] h7 (kV (fun h16 => Aw G mX8_make (d + 1) t h0 Φ 115 [vR v0, vI v1, vR v2, vI v3, vI v4, vI v5, vI v6, vI 0, vU, vU, vU] [] h16) (fun x h => Φ (.inr x) h))) ∧ (¬ v6 = 0 → Cw G mX8_count d 0 [vR v0, vI 1] h7 (kV (fun h18 => Aw G mX8_make (d + 1) t h0 Φ 115 [vR v0, vI v1, vR v2, vI v3, vI v4, vI v5, vI v6, vI 0, vU, vU, vU] [] h18) (fun x h => Φ (.inr x) h))))) (fun x h => Φ (.inr x) h))) : Aw G mX8_make (d + 1) t h0 Φ 74 [vR v0, vI v1, vR v2, vI v3, vI v4, vI v5, vI v6, vU, vU, vU, vU] [] h := by
  refine r_aload_n (pc := 74) dX8_make_74 rfl ?_
  refine r_iconst (pc := 75) (x := 0) dX8_make_75 rfl ?_
  obtain ⟨hk1, K⟩ := K
  refine r_puti (pc := 76) (T := TX8) (key := 8003) 8 3 hk1 (Or.inl q548) dX8_make_76 kc8 rfl (Or.inl rfl) (Or.inl (em rfl)) ?_
  refine r_nameH (fun h2 eh2 => ?_)
  have K := K h2 eh2
  refine r_aload_n (pc := 79) dX8_make_79 rfl ?_
  refine r_aload_n (pc := 80) dX8_make_80 rfl ?_
  have hk3 := kd_pi eh2 hk1
  have K := K _ rfl
  refine r_getr' (pc := 81) (T := TX8) 8 6 rfl hk3 (Or.inl q551) dX8_make_81 kc8 g8006 ?_
  obtain ⟨hk5, K⟩ := K
  refine r_getl' (pc := 84) (T := TX18) 18 3 rfl hk5 (Or.inr (Or.inl ⟨_, q1082⟩)) dX8_make_84 kc18 g18003 ?_
  refine r_iconst (pc := 87) (x := 4) dX8_make_87 rfl ?_
  refine r_callV_V (pc := 88) (Y := mX8_put) (vs := [_, _]) (st := []) hk3 rfl kc8 q1358 q1360 qs22 dX8_make_88 rfl cd_X8_put rfl rfl fp_X8_make_X8_put K (fun h7 eh7 wh7 K => ?_) (fun x h1 _ _ e => Tw.out rfl e)
  refine r_aload_n (pc := 91) dX8_make_91 rfl ?_
  refine r_iload (pc := 92) dX8_make_92 rfl ?_
  refine r_if_eq (pc := 94) (tgt := 101) dX8_make_94 rfl (fun c8 => ?_) (fun c8 => ?_)
  · have K := K.1 c8
    refine r_aload_n (pc := 101) dX8_make_101 rfl ?_
    have hk9 := kd_ext eh7 hk3 (nz rfl)
    have hv10 := fr_self (key := 8006) hk3
    have hv11 := (fr_ext (key := 8006) eh7 hk3 (nz rfl) (ne0 wh7 hk9 (nz rfl)) (nm rfl)).trans hv10
    refine r_getr' (pc := 102) (T := TX8) 8 6 hv11 hk9 (Or.inl q551) dX8_make_102 kc8 g8006 ?_
    have hk12 := kd_ext eh7 hk5 (nz rfl)
    have K := K _ rfl
    refine r_getr' (pc := 105) (T := TX18) 18 5 rfl hk12 (Or.inr (Or.inl ⟨_, q1086⟩)) dX8_make_105 kc18 g18005 ?_
    obtain ⟨hk14, K⟩ := K
    refine r_alenR (pc := 108) (le_of_eq_r hk14 (by decide)) dX8_make_108 ?_
    refine r_callV_V (pc := 109) (Y := mX8_count) (vs := [_]) (st := []) hk9 rfl kc8 q1362 q1364 qs23 dX8_make_109 rfl cd_X8_count rfl rfl fp_X8_make_X8_count K (fun h16 eh16 wh16 K => ?_) (fun x h1 _ _ e => Tw.out rfl e)
    refine r_iconst (pc := 112) (x := 0) dX8_make_112 rfl ?_
    refine r_istore (pc := 113) (lv' := [_, _, _, _, _, _, _, _, _, _, _]) dX8_make_113 (by decide) rfl ?_
    refine r_mask (pc := 115) [true, true, true, true, true, true, true, true, false, false, false] rfl ?_
    exact K
  · have K := K.2 c8
    refine r_iconst (pc := 97) (x := 1) dX8_make_97 rfl ?_
    refine r_goto (pc := 98) (tgt := 109) dX8_make_98 rfl ?_
    have hk19 := kd_ext eh7 hk3 (nz rfl)
    refine r_callV_V (pc := 109) (Y := mX8_count) (vs := [_]) (st := []) hk19 rfl kc8 q1362 q1364 qs23 dX8_make_109 rfl cd_X8_count rfl rfl fp_X8_make_X8_count K (fun h18 eh18 wh18 K => ?_) (fun x h1 _ _ e => Tw.out rfl e)
    refine r_iconst (pc := 112) (x := 0) dX8_make_112 rfl ?_
    refine r_istore (pc := 113) (lv' := [_, _, _, _, _, _, _, _, _, _, _]) dX8_make_113 (by decide) rfl ?_
    refine r_mask (pc := 115) [true, true, true, true, true, true, true, true, false, false, false] rfl ?_
    exact K
set_option maxHeartbeats 4000000 in
theorem sX8_make_115 {G : Gx} {d t : Nat} {h0 : AH} {Φ : Out → AH → Prop} (h : AH) (v0 : Nat) (v1 : Int32) (v2 : Nat) (v3 : Int32) (v4 : Int32) (v5 : Int32) (v6 : Int32) (v7 : Int32) (K : h.kd v0 = 8 ∧ ∀ r2 : Nat, r2 = (h.r 8006 v0) → h.kd r2 = 18 ∧ ∀ r4 : Nat, r4 = (h.r 18005 r2) → h.kd r4 = 111 ∧ (((nI (h.ar r4).length) ≤ v7 → ((¬ v5 = 2 → ((¬ v5 = 3 → ∀ r9 : Nat, r9 = (h.r 18006 r2) → h.kd r9 = 112 ∧ Cw G mX8_count d 0 [vR v0, vI (nI (h.ar r9).length)] h (kV (fun h12 => Aw G mX8_make (d + 1) t h0 Φ 294 [vR v0, vI v1, vU, vU, vU, vI v5, vU, vI (nI (h.ar r9).length), vI 0, vU, vU] [] h12) (fun x h => Φ (.inr x) h))) ∧ (v5 = 3 → Cw G mX8_count d 0 [vR v0, vI ((h.i 8007 v0) + 1)] h (kV (fun h14 => Aw G mX8_make (d + 1) t h0 Φ 294 [vR v0, vI v1, vU, vU, vU, vI v5, vU, vI ((h.i 8007 v0) + 1), vI 0, vU, vU] [] h14) (fun x h => Φ (.inr x) h))))) ∧ (v5 = 2 → Cw G mX8_count d 0 [vR v0, vI 0] h (kV (fun h16 => Aw G mX8_make (d + 1) t h0 Φ 294 [vR v0, vI v1, vU, vU, vU, vI v5, vU, vI 0, vI 0, vU, vU] [] h16) (fun x h => Φ (.inr x) h))))) ∧ (¬ (nI (h.ar r4).length) ≤ v7 → ((v6 = 0 → Aw G mX8_make (d + 1) t h0 Φ 145 [vR v0, vI v1, vR v2, vI v3, vI v4, vI v5, vI v6, vI v7, vU, vU, vU] [] h) ∧ (¬ v6 = 0 → ((v7 = (h.i 8007 v0) → Aw G mX8_make (d + 1) t h0 Φ 145 [vR v0, vI v1, vR v2, vI v3, vI v4, vI v5, vI v6, vI v7, vU, vU, vU] [] h) ∧ (¬ v7 = (h.i 8007 v0) → Aw G mX8_make (d + 1) t h0 Φ 115 [vR v0, vI v1, vR v2, vI v3, vI v4, vI v5, vI v6, vI (v7 + 1), vU, vU, vU] [] h))))))) : Aw G mX8_make (d + 1) t h0 Φ 115 [vR v0, vI v1, vR v2, vI v3, vI v4, vI v5, vI v6, vI v7, vU, vU, vU] [] h := by
  refine r_iload (pc := 115) dX8_make_115 rfl ?_
  refine r_aload_n (pc := 117) dX8_make_117 rfl ?_
  obtain ⟨hk1, K⟩ := K
  have K := K _ rfl
  refine r_getr' (pc := 118) (T := TX8) 8 6 rfl hk1 (Or.inl q551) dX8_make_118 kc8 g8006 ?_
  obtain ⟨hk3, K⟩ := K
  have K := K _ rfl
  refine r_getr' (pc := 121) (T := TX18) 18 5 rfl hk3 (Or.inr (Or.inl ⟨_, q1086⟩)) dX8_make_121 kc18 g18005 ?_
  obtain ⟨hk5, K⟩ := K
  refine r_alenR (pc := 124) (le_of_eq_r hk5 (by decide)) dX8_make_124 ?_
  refine r_icmp_ge (pc := 125) (tgt := 250) dX8_make_125 rfl (fun c6 => ?_) (fun c6 => ?_)
  · have K := K.1 c6
    refine r_iload (pc := 250) dX8_make_250 rfl ?_
    refine r_iconst (pc := 252) (x := 2) dX8_make_252 rfl ?_
    refine r_icmp_ne (pc := 253) (tgt := 260) dX8_make_253 rfl (fun c7 => ?_) (fun c7 => ?_)
    · have K := K.1 c7
      refine r_iload (pc := 260) dX8_make_260 rfl ?_
      refine r_iconst (pc := 262) (x := 3) dX8_make_262 rfl ?_
      refine r_icmp_ne (pc := 263) (tgt := 275) dX8_make_263 rfl (fun c8 => ?_) (fun c8 => ?_)
      · have K := K.1 c8
        refine r_aload_n (pc := 275) dX8_make_275 rfl ?_
        refine r_getr' (pc := 276) (T := TX8) 8 6 rfl hk1 (Or.inl q551) dX8_make_276 kc8 g8006 ?_
        have K := K _ rfl
        refine r_getr' (pc := 279) (T := TX18) 18 6 rfl hk3 (Or.inr (Or.inl ⟨_, q1089⟩)) dX8_make_279 kc18 g18006 ?_
        obtain ⟨hk10, K⟩ := K
        refine r_alenR (pc := 282) (le_of_eq_r hk10 (by decide)) dX8_make_282 ?_
        refine r_istore (pc := 283) (lv' := [_, _, _, _, _, _, _, _, _, _, _]) dX8_make_283 (by decide) rfl ?_
        refine r_aload_n (pc := 285) dX8_make_285 rfl ?_
        refine r_iload (pc := 286) dX8_make_286 rfl ?_
        refine r_callV_V (pc := 288) (Y := mX8_count) (vs := [_]) (st := []) hk1 rfl kc8 q1362 q1364 qs23 dX8_make_288 rfl cd_X8_count rfl rfl fp_X8_make_X8_count K (fun h12 eh12 wh12 K => ?_) (fun x h1 _ _ e => Tw.out rfl e)
        refine r_iconst (pc := 291) (x := 0) dX8_make_291 rfl ?_
        refine r_istore (pc := 292) (lv' := [_, _, _, _, _, _, _, _, _, _, _]) dX8_make_292 (by decide) rfl ?_
        refine r_mask (pc := 294) [true, true, false, false, false, true, false, true, true, false, false] rfl ?_
        exact K
      · have K := K.2 c8
        refine r_aload_n (pc := 266) dX8_make_266 rfl ?_
        refine r_geti' (pc := 267) (T := TX8) 8 7 rfl hk1 (Or.inl q552) dX8_make_267 kc8 g8007 ?_
        refine r_iconst (pc := 270) (x := 1) dX8_make_270 rfl ?_
        refine r_iadd (pc := 271) dX8_make_271 ?_
        refine r_goto (pc := 272) (tgt := 283) dX8_make_272 rfl ?_
        refine r_istore (pc := 283) (lv' := [_, _, _, _, _, _, _, _, _, _, _]) dX8_make_283 (by decide) rfl ?_
        refine r_aload_n (pc := 285) dX8_make_285 rfl ?_
        refine r_iload (pc := 286) dX8_make_286 rfl ?_
        refine r_callV_V (pc := 288) (Y := mX8_count) (vs := [_]) (st := []) hk1 rfl kc8 q1362 q1364 qs23 dX8_make_288 rfl cd_X8_count rfl rfl fp_X8_make_X8_count K (fun h14 eh14 wh14 K => ?_) (fun x h1 _ _ e => Tw.out rfl e)
        refine r_iconst (pc := 291) (x := 0) dX8_make_291 rfl ?_
        refine r_istore (pc := 292) (lv' := [_, _, _, _, _, _, _, _, _, _, _]) dX8_make_292 (by decide) rfl ?_
        refine r_mask (pc := 294) [true, true, false, false, false, true, false, true, true, false, false] rfl ?_
        exact K
    · have K := K.2 c7
      refine r_iconst (pc := 256) (x := 0) dX8_make_256 rfl ?_
      refine r_goto (pc := 257) (tgt := 283) dX8_make_257 rfl ?_
      refine r_istore (pc := 283) (lv' := [_, _, _, _, _, _, _, _, _, _, _]) dX8_make_283 (by decide) rfl ?_
      refine r_aload_n (pc := 285) dX8_make_285 rfl ?_
      refine r_iload (pc := 286) dX8_make_286 rfl ?_
      refine r_callV_V (pc := 288) (Y := mX8_count) (vs := [_]) (st := []) hk1 rfl kc8 q1362 q1364 qs23 dX8_make_288 rfl cd_X8_count rfl rfl fp_X8_make_X8_count K (fun h16 eh16 wh16 K => ?_) (fun x h1 _ _ e => Tw.out rfl e)
      refine r_iconst (pc := 291) (x := 0) dX8_make_291 rfl ?_
      refine r_istore (pc := 292) (lv' := [_, _, _, _, _, _, _, _, _, _, _]) dX8_make_292 (by decide) rfl ?_
      refine r_mask (pc := 294) [true, true, false, false, false, true, false, true, true, false, false] rfl ?_
      exact K
  · have K := K.2 c6
    refine r_iload (pc := 128) dX8_make_128 rfl ?_
    refine r_if_eq (pc := 130) (tgt := 145) dX8_make_130 rfl (fun c17 => ?_) (fun c17 => ?_)
    · have K := K.1 c17
      refine r_mask (pc := 145) [true, true, true, true, true, true, true, true, false, false, false] rfl ?_
      exact K
    · have K := K.2 c17
      refine r_iload (pc := 133) dX8_make_133 rfl ?_
      refine r_aload_n (pc := 135) dX8_make_135 rfl ?_
      refine r_geti' (pc := 136) (T := TX8) 8 7 rfl hk1 (Or.inl q552) dX8_make_136 kc8 g8007 ?_
      refine r_icmp_eq (pc := 139) (tgt := 145) dX8_make_139 rfl (fun c18 => ?_) (fun c18 => ?_)
      · have K := K.1 c18
        refine r_mask (pc := 145) [true, true, true, true, true, true, true, true, false, false, false] rfl ?_
        exact K
      · have K := K.2 c18
        refine r_goto (pc := 142) (tgt := 244) dX8_make_142 rfl ?_
        refine r_iinc (pc := 244) (lv' := [_, _, _, _, _, _, _, _, _, _, _]) dX8_make_244 rfl rfl (by decide) rfl ?_
        refine r_goto (pc := 247) (tgt := 115) dX8_make_247 rfl ?_
        refine r_mask (pc := 115) [true, true, true, true, true, true, true, true, false, false, false] rfl ?_
        exact K
set_option maxHeartbeats 4000000 in
theorem sX8_make_145 {G : Gx} {d t : Nat} {h0 : AH} {Φ : Out → AH → Prop} (h : AH) (v0 : Nat) (v1 : Int32) (v2 : Nat) (v3 : Int32) (v4 : Int32) (v5 : Int32) (v6 : Int32) (v7 : Int32) (K : h.kd v0 = 8 ∧ ∀ r2 : Nat, r2 = (h.r 8006 v0) → h.kd r2 = 18 ∧ ∀ r4 : Nat, r4 = (h.r 18005 r2) → h.kd r4 = 111 ∧ vp_in v7 (h.ar r4).length ∧ ∀ r7 : Nat, r7 = ((h.ar r4).getD (v7.toNatClampNeg) 0) → ∀ r8 : Nat, r8 = (h.r 8005 v0) → h.kd r7 = 19 ∧ Cw G mX8_copy d 0 [vR v0, vR r8, vI (h.i 19000 r7), vI 32] h (kV (fun h11 => Cw G mX8_put d 0 [vR v0, vJ ((h11.i 19001 r7).toInt64), vI 4] h11 (kV (fun h14 => ((¬ v7 = (h14.i 8007 v0) → Cw G mX8_put d 0 [vR v0, vJ 0, vI 1] h14 (kV (fun h19 => Aw G mX8_make (d + 1) t h0 Φ 209 [vR v0, vI v1, vR v2, vI v3, vI v4, vI v5, vI v6, vI v7, vR r7, vU, vU] [] h19) (fun x h => Φ (.inr x) h))) ∧ (v7 = (h14.i 8007 v0) → Cw G mX8_code d 0 [vR v0, vR v2, vI v3, vI v4] h14 (kV (fun h21 => Aw G mX8_make (d + 1) t h0 Φ 209 [vR v0, vI v1, vR v2, vI v3, vI v4, vI v5, vI v6, vI v7, vR r7, vU, vU] [] h21) (fun x h => Φ (.inr x) h))))) (fun x h => Φ (.inr x) h))) (fun x h => Φ (.inr x) h))) : Aw G mX8_make (d + 1) t h0 Φ 145 [vR v0, vI v1, vR v2, vI v3, vI v4, vI v5, vI v6, vI v7, vU, vU, vU] [] h := by
  refine r_aload_n (pc := 145) dX8_make_145 rfl ?_
  obtain ⟨hk1, K⟩ := K
  have K := K _ rfl
  refine r_getr' (pc := 146) (T := TX8) 8 6 rfl hk1 (Or.inl q551) dX8_make_146 kc8 g8006 ?_
  obtain ⟨hk3, K⟩ := K
  have K := K _ rfl
  refine r_getr' (pc := 149) (T := TX18) 18 5 rfl hk3 (Or.inr (Or.inl ⟨_, q1086⟩)) dX8_make_149 kc18 g18005 ?_
  refine r_iload (pc := 152) dX8_make_152 rfl ?_
  obtain ⟨hk5, K⟩ := K
  obtain ⟨hi6, K⟩ := K
  have K := K _ rfl
  refine r_aaload (pc := 154) (le_of_eq_r hk5 (by decide)) hi6 dX8_make_154 ?_
  refine r_astore (pc := 155) (lv' := [_, _, _, _, _, _, _, _, _, _, _]) dX8_make_155 (by decide) rfl ?_
  refine r_aload_n (pc := 157) dX8_make_157 rfl ?_
  refine r_aload_n (pc := 158) dX8_make_158 rfl ?_
  have K := K _ rfl
  refine r_getr' (pc := 159) (T := TX8) 8 5 rfl hk1 (Or.inl q550) dX8_make_159 kc8 g8005 ?_
  refine r_aload (pc := 162) dX8_make_162 rfl ?_
  obtain ⟨hk9, K⟩ := K
  refine r_geti' (pc := 164) (T := TX19) 19 0 rfl hk9 (Or.inr (Or.inl ⟨_, q1118⟩)) dX8_make_164 kc19 g19000 ?_
  refine r_bipush (pc := 167) (x := 32) dX8_make_167 rfl ?_
  refine r_callV_V (pc := 169) (Y := mX8_copy) (vs := [_, _, _]) (st := []) hk1 rfl kc8 q1367 q1369 qs24 dX8_make_169 rfl cd_X8_copy rfl rfl fp_X8_make_X8_copy K (fun h11 eh11 wh11 K => ?_) (fun x h1 _ _ e => Tw.out rfl e)
  refine r_aload_n (pc := 172) dX8_make_172 rfl ?_
  refine r_aload (pc := 173) dX8_make_173 rfl ?_
  have hk12 := kd_ext eh11 hk9 (nz rfl)
  refine r_geti' (pc := 175) (T := TX19) 19 1 rfl hk12 (Or.inr (Or.inl ⟨_, q1120⟩)) dX8_make_175 kc19 g19001 ?_
  refine r_i2l (pc := 178) dX8_make_178 ?_
  refine r_iconst (pc := 179) (x := 4) dX8_make_179 rfl ?_
  have hk15 := kd_ext eh11 hk1 (nz rfl)
  refine r_callV_V (pc := 180) (Y := mX8_put) (vs := [_, _]) (st := []) hk15 rfl kc8 q1358 q1360 qs22 dX8_make_180 rfl cd_X8_put rfl rfl fp_X8_make_X8_put K (fun h14 eh14 wh14 K => ?_) (fun x h1 _ _ e => Tw.out rfl e)
  refine r_iload (pc := 183) dX8_make_183 rfl ?_
  refine r_aload_n (pc := 185) dX8_make_185 rfl ?_
  have hk16 := kd_ext eh14 hk15 (nz rfl)
  refine r_geti' (pc := 186) (T := TX8) 8 7 rfl hk16 (Or.inl q552) dX8_make_186 kc8 g8007 ?_
  refine r_icmp_ne (pc := 189) (tgt := 203) dX8_make_189 rfl (fun c17 => ?_) (fun c17 => ?_)
  · have K := K.1 c17
    refine r_aload_n (pc := 203) dX8_make_203 rfl ?_
    refine r_lconst (pc := 204) (a := 0) dX8_make_204 rfl ?_
    refine r_iconst (pc := 205) (x := 1) dX8_make_205 rfl ?_
    refine r_callV_V (pc := 206) (Y := mX8_put) (vs := [_, _]) (st := []) hk16 rfl kc8 q1358 q1360 qs22 dX8_make_206 rfl cd_X8_put rfl rfl fp_X8_make_X8_put K (fun h19 eh19 wh19 K => ?_) (fun x h1 _ _ e => Tw.out rfl e)
    refine r_mask (pc := 209) [true, true, true, true, true, true, true, true, true, false, false] rfl ?_
    exact K
  · have K := K.2 c17
    refine r_aload_n (pc := 192) dX8_make_192 rfl ?_
    refine r_aload_n (pc := 193) dX8_make_193 rfl ?_
    refine r_iload_n (pc := 194) dX8_make_194 rfl ?_
    refine r_iload (pc := 195) dX8_make_195 rfl ?_
    refine r_callV_V (pc := 197) (Y := mX8_code) (vs := [_, _, _]) (st := []) hk16 rfl kc8 q1372 q1374 qs25 dX8_make_197 rfl cd_X8_code rfl rfl fp_X8_make_X8_code K (fun h21 eh21 wh21 K => ?_) (fun x h1 _ _ e => Tw.out rfl e)
    refine r_goto (pc := 200) (tgt := 209) dX8_make_200 rfl ?_
    refine r_mask (pc := 209) [true, true, true, true, true, true, true, true, true, false, false] rfl ?_
    exact K
set_option maxHeartbeats 4000000 in
theorem sX8_make_209 {G : Gx} {d t : Nat} {h0 : AH} {Φ : Out → AH → Prop} (h : AH) (v0 : Nat) (v1 : Int32) (v2 : Nat) (v3 : Int32) (v4 : Int32) (v5 : Int32) (v6 : Int32) (v7 : Int32) (v8 : Nat) (K : h.kd v0 = 8 ∧ ((v7 = (h.i 8007 v0) → h.kd v8 = 19 ∧ Cw G mX8_put d 0 [vR v0, vJ (h.l 19004 v8), vI 4] h (kV (fun h5 => Aw G mX8_make (d + 1) t h0 Φ 115 [vR v0, vI v1, vR v2, vI v3, vI v4, vI v5, vI v6, vI (v7 + 1), vU, vU, vU] [] h5) (fun x h => Φ (.inr x) h))) ∧ (¬ v7 = (h.i 8007 v0) → ((v5 = 2 → Cw G mX8_put d 0 [vR v0, vJ 0, vI 4] h (kV (fun h8 => Aw G mX8_make (d + 1) t h0 Φ 115 [vR v0, vI v1, vR v2, vI v3, vI v4, vI v5, vI v6, vI (v7 + 1), vU, vU, vU] [] h8) (fun x h => Φ (.inr x) h))) ∧ (¬ v5 = 2 → ((¬ v5 = 3 → h.kd v8 = 19 ∧ Cw G mX8_put d 0 [vR v0, vJ (h.l 19004 v8), vI 4] h (kV (fun h12 => Aw G mX8_make (d + 1) t h0 Φ 115 [vR v0, vI v1, vR v2, vI v3, vI v4, vI v5, vI v6, vI (v7 + 1), vU, vU, vU] [] h12) (fun x h => Φ (.inr x) h))) ∧ (v5 = 3 → Cw G mX8_put d 0 [vR v0, vJ 0, vI 4] h (kV (fun h14 => Aw G mX8_make (d + 1) t h0 Φ 115 [vR v0, vI v1, vR v2, vI v3, vI v4, vI v5, vI v6, vI (v7 + 1), vU, vU, vU] [] h14) (fun x h => Φ (.inr x) h))))))))) : Aw G mX8_make (d + 1) t h0 Φ 209 [vR v0, vI v1, vR v2, vI v3, vI v4, vI v5, vI v6, vI v7, vR v8, vU, vU] [] h := by
  refine r_aload_n (pc := 209) dX8_make_209 rfl ?_
  refine r_iload (pc := 210) dX8_make_210 rfl ?_
  refine r_aload_n (pc := 212) dX8_make_212 rfl ?_
  obtain ⟨hk1, K⟩ := K
  refine r_geti' (pc := 213) (T := TX8) 8 7 rfl hk1 (Or.inl q552) dX8_make_213 kc8 g8007 ?_
  refine r_icmp_eq (pc := 216) (tgt := 235) dX8_make_216 rfl (fun c2 => ?_) (fun c2 => ?_)
  · have K := K.1 c2
    refine r_aload (pc := 235) dX8_make_235 rfl ?_
    obtain ⟨hk3, K⟩ := K
    refine r_getl' (pc := 237) (T := TX19) 19 4 rfl hk3 (Or.inr (Or.inl ⟨_, q1124⟩)) dX8_make_237 kc19 g19004 ?_
    refine r_iconst (pc := 240) (x := 4) dX8_make_240 rfl ?_
    refine r_callV_V (pc := 241) (Y := mX8_put) (vs := [_, _]) (st := []) hk1 rfl kc8 q1358 q1360 qs22 dX8_make_241 rfl cd_X8_put rfl rfl fp_X8_make_X8_put K (fun h5 eh5 wh5 K => ?_) (fun x h1 _ _ e => Tw.out rfl e)
    refine r_iinc (pc := 244) (lv' := [_, _, _, _, _, _, _, _, _, _, _]) dX8_make_244 rfl rfl (by decide) rfl ?_
    refine r_goto (pc := 247) (tgt := 115) dX8_make_247 rfl ?_
    refine r_mask (pc := 115) [true, true, true, true, true, true, true, true, false, false, false] rfl ?_
    exact K
  · have K := K.2 c2
    refine r_iload (pc := 219) dX8_make_219 rfl ?_
    refine r_iconst (pc := 221) (x := 2) dX8_make_221 rfl ?_
    refine r_icmp_eq (pc := 222) (tgt := 231) dX8_make_222 rfl (fun c6 => ?_) (fun c6 => ?_)
    · have K := K.1 c6
      refine r_lconst (pc := 231) (a := 0) dX8_make_231 rfl ?_
      refine r_goto (pc := 232) (tgt := 240) dX8_make_232 rfl ?_
      refine r_iconst (pc := 240) (x := 4) dX8_make_240 rfl ?_
      refine r_callV_V (pc := 241) (Y := mX8_put) (vs := [_, _]) (st := []) hk1 rfl kc8 q1358 q1360 qs22 dX8_make_241 rfl cd_X8_put rfl rfl fp_X8_make_X8_put K (fun h8 eh8 wh8 K => ?_) (fun x h1 _ _ e => Tw.out rfl e)
      refine r_iinc (pc := 244) (lv' := [_, _, _, _, _, _, _, _, _, _, _]) dX8_make_244 rfl rfl (by decide) rfl ?_
      refine r_goto (pc := 247) (tgt := 115) dX8_make_247 rfl ?_
      refine r_mask (pc := 115) [true, true, true, true, true, true, true, true, false, false, false] rfl ?_
      exact K
    · have K := K.2 c6
      refine r_iload (pc := 225) dX8_make_225 rfl ?_
      refine r_iconst (pc := 227) (x := 3) dX8_make_227 rfl ?_
      refine r_icmp_ne (pc := 228) (tgt := 235) dX8_make_228 rfl (fun c9 => ?_) (fun c9 => ?_)
      · have K := K.1 c9
        refine r_aload (pc := 235) dX8_make_235 rfl ?_
        obtain ⟨hk10, K⟩ := K
        refine r_getl' (pc := 237) (T := TX19) 19 4 rfl hk10 (Or.inr (Or.inl ⟨_, q1124⟩)) dX8_make_237 kc19 g19004 ?_
        refine r_iconst (pc := 240) (x := 4) dX8_make_240 rfl ?_
        refine r_callV_V (pc := 241) (Y := mX8_put) (vs := [_, _]) (st := []) hk1 rfl kc8 q1358 q1360 qs22 dX8_make_241 rfl cd_X8_put rfl rfl fp_X8_make_X8_put K (fun h12 eh12 wh12 K => ?_) (fun x h1 _ _ e => Tw.out rfl e)
        refine r_iinc (pc := 244) (lv' := [_, _, _, _, _, _, _, _, _, _, _]) dX8_make_244 rfl rfl (by decide) rfl ?_
        refine r_goto (pc := 247) (tgt := 115) dX8_make_247 rfl ?_
        refine r_mask (pc := 115) [true, true, true, true, true, true, true, true, false, false, false] rfl ?_
        exact K
      · have K := K.2 c9
        refine r_lconst (pc := 231) (a := 0) dX8_make_231 rfl ?_
        refine r_goto (pc := 232) (tgt := 240) dX8_make_232 rfl ?_
        refine r_iconst (pc := 240) (x := 4) dX8_make_240 rfl ?_
        refine r_callV_V (pc := 241) (Y := mX8_put) (vs := [_, _]) (st := []) hk1 rfl kc8 q1358 q1360 qs22 dX8_make_241 rfl cd_X8_put rfl rfl fp_X8_make_X8_put K (fun h14 eh14 wh14 K => ?_) (fun x h1 _ _ e => Tw.out rfl e)
        refine r_iinc (pc := 244) (lv' := [_, _, _, _, _, _, _, _, _, _, _]) dX8_make_244 rfl rfl (by decide) rfl ?_
        refine r_goto (pc := 247) (tgt := 115) dX8_make_247 rfl ?_
        refine r_mask (pc := 115) [true, true, true, true, true, true, true, true, false, false, false] rfl ?_
        exact K
set_option maxHeartbeats 4000000 in
theorem sX8_make_294 {G : Gx} {d t : Nat} {h0 : AH} {Φ : Out → AH → Prop} (h : AH) (v0 : Nat) (v1 : Int32) (v5 : Int32) (v7 : Int32) (v8 : Int32) (K : ((v7 ≤ v8 → h.kd v0 = 8 ∧ ∀ r3 : Nat, r3 = (h.r 8006 v0) → h.kd r3 = 18 ∧ Cw G mX8_put d 0 [vR v0, vJ (h.l 18004 r3), vI 4] h (kV (fun h6 => Cw G mX8_put d 0 [vR v0, vJ v1.toInt64, vI 4] h6 (kV (fun h8 => ∀ r11 : Nat, r11 = (h8.r 8000 v0) → ∀ r12 : Nat, r12 = (h8.r 8002 v0) → ∀ r13 : Nat, r13 = (h8.r 8004 v0) → h8.kd r11 = 2 ∧ Cw G mX2_twice d 0 [vR r11, vR r12, vI 0, vI (h8.i 8003 v0), vR r13, vI 0] h8 (kV (fun h15 => Φ (.inl none) h15) (fun x h => Φ (.inr x) h))) (fun x h => Φ (.inr x) h))) (fun x h => Φ (.inr x) h))) ∧ (¬ v7 ≤ v8 → h.kd v0 = 8 ∧ ∀ r18 : Nat, r18 = (h.r 8006 v0) → h.kd r18 = 18 ∧ ∀ r20 : Nat, r20 = (h.r 18006 r18) → h.kd r20 = 112 ∧ vp_in v8 (h.ar r20).length ∧ ∀ r23 : Nat, r23 = ((h.ar r20).getD (v8.toNatClampNeg) 0) → ((¬ v5 = 3 → Aw G mX8_make (d + 1) t h0 Φ 332 [vR v0, vI v1, vU, vU, vU, vI v5, vU, vI v7, vI v8, vR r23, vU] [] h) ∧ (v5 = 3 → (((h.i 8007 v0) ≤ v8 → Aw G mX8_make (d + 1) t h0 Φ 332 [vR v0, vI v1, vU, vU, vU, vI v5, vU, vI v7, vI v8, vR r23, vU] [] h) ∧ (¬ (h.i 8007 v0) ≤ v8 → (((1 : Int32) = 0 → h.kd r23 = 20 ∧ Cw G mX8_put d 0 [vR v0, vJ (h.l 20000 r23), vI 8] h (kV (fun h29 => (((1 : Int32) = 0 → Cw G mX8_count d 0 [vR v0, vI (h29.i 20002 r23)] h29 (kV (fun h33 => ((¬ (1 : Int32) = 0 → Aw G mX8_make (d + 1) t h0 Φ 294 [vR v0, vI v1, vU, vU, vU, vI v5, vU, vI v7, vI (v8 + 1), vU, vU] [] h33) ∧ ((1 : Int32) = 0 → ∀ r37 : Nat, r37 = (h33.r 8005 v0) → Cw G mX8_copy d 0 [vR v0, vR r37, vI (h33.i 20001 r23), vI (h29.i 20002 r23)] h33 (kV (fun h42 => Aw G mX8_make (d + 1) t h0 Φ 294 [vR v0, vI v1, vU, vU, vU, vI v5, vU, vI v7, vI (v8 + 1), vU, vU] [] h42) (fun x h => Φ (.inr x) h))))) (fun x h => Φ (.inr x) h))) ∧ (¬ (1 : Int32) = 0 → Cw G mX8_count d 0 [vR v0, vI 0] h29 (kV (fun h44 => ((¬ (1 : Int32) = 0 → Aw G mX8_make (d + 1) t h0 Φ 294 [vR v0, vI v1, vU, vU, vU, vI v5, vU, vI v7, vI (v8 + 1), vU, vU] [] h44) ∧ ((1 : Int32) = 0 → ∀ r48 : Nat, r48 = (h44.r 8005 v0) → Cw G mX8_copy d 0 [vR v0, vR r48, vI (h44.i 20001 r23), vI (h44.i 20002 r23)] h44 (kV (fun h52 => Aw G mX8_make (d + 1) t h0 Φ 294 [vR v0, vI v1, vU, vU, vU, vI v5, vU, vI v7, vI (v8 + 1), vU, vU] [] h52) (fun x h => Φ (.inr x) h))))) (fun x h => Φ (.inr x) h))))) (fun x h => Φ (.inr x) h))) ∧ (¬ (1 : Int32) = 0 → Cw G mX8_put d 0 [vR v0, vJ (-1), vI 8] h (kV (fun h54 => (((1 : Int32) = 0 → h54.kd r23 = 20 ∧ Cw G mX8_count d 0 [vR v0, vI (h54.i 20002 r23)] h54 (kV (fun h58 => ((¬ (1 : Int32) = 0 → Aw G mX8_make (d + 1) t h0 Φ 294 [vR v0, vI v1, vU, vU, vU, vI v5, vU, vI v7, vI (v8 + 1), vU, vU] [] h58) ∧ ((1 : Int32) = 0 → ∀ r62 : Nat, r62 = (h58.r 8005 v0) → Cw G mX8_copy d 0 [vR v0, vR r62, vI (h58.i 20001 r23), vI (h54.i 20002 r23)] h58 (kV (fun h67 => Aw G mX8_make (d + 1) t h0 Φ 294 [vR v0, vI v1, vU, vU, vU, vI v5, vU, vI v7, vI (v8 + 1), vU, vU] [] h67) (fun x h => Φ (.inr x) h))))) (fun x h => Φ (.inr x) h))) ∧ (¬ (1 : Int32) = 0 → Cw G mX8_count d 0 [vR v0, vI 0] h54 (kV (fun h69 => ((¬ (1 : Int32) = 0 → Aw G mX8_make (d + 1) t h0 Φ 294 [vR v0, vI v1, vU, vU, vU, vI v5, vU, vI v7, vI (v8 + 1), vU, vU] [] h69) ∧ ((1 : Int32) = 0 → ∀ r73 : Nat, r73 = (h69.r 8005 v0) → h69.kd r23 = 20 ∧ Cw G mX8_copy d 0 [vR v0, vR r73, vI (h69.i 20001 r23), vI (h69.i 20002 r23)] h69 (kV (fun h76 => Aw G mX8_make (d + 1) t h0 Φ 294 [vR v0, vI v1, vU, vU, vU, vI v5, vU, vI v7, vI (v8 + 1), vU, vU] [] h76) (fun x h => Φ (.inr x) h))))) (fun x h => Φ (.inr x) h))))) (fun x h => Φ (.inr x) h))))))))))) : Aw G mX8_make (d + 1) t h0 Φ 294 [vR v0, vI v1, vU, vU, vU, vI v5, vU, vI v7, vI v8, vU, vU] [] h := by
  refine r_iload (pc := 294) dX8_make_294 rfl ?_
  refine r_iload (pc := 296) dX8_make_296 rfl ?_
  refine r_icmp_ge (pc := 298) (tgt := 404) dX8_make_298 rfl (fun c1 => ?_) (fun c1 => ?_)
  · have K := K.1 c1
    refine r_aload_n (pc := 404) dX8_make_404 rfl ?_
    refine r_aload_n (pc := 405) dX8_make_405 rfl ?_
    obtain ⟨hk2, K⟩ := K
    have K := K _ rfl
    refine r_getr' (pc := 406) (T := TX8) 8 6 rfl hk2 (Or.inl q551) dX8_make_406 kc8 g8006 ?_
    obtain ⟨hk4, K⟩ := K
    refine r_getl' (pc := 409) (T := TX18) 18 4 rfl hk4 (Or.inr (Or.inl ⟨_, q1084⟩)) dX8_make_409 kc18 g18004 ?_
    refine r_iconst (pc := 412) (x := 4) dX8_make_412 rfl ?_
    refine r_callV_V (pc := 413) (Y := mX8_put) (vs := [_, _]) (st := []) hk2 rfl kc8 q1358 q1360 qs22 dX8_make_413 rfl cd_X8_put rfl rfl fp_X8_make_X8_put K (fun h6 eh6 wh6 K => ?_) (fun x h1 _ _ e => Tw.out rfl e)
    refine r_aload_n (pc := 416) dX8_make_416 rfl ?_
    refine r_iload_n (pc := 417) dX8_make_417 rfl ?_
    refine r_i2l (pc := 418) dX8_make_418 ?_
    refine r_iconst (pc := 419) (x := 4) dX8_make_419 rfl ?_
    have hk9 := kd_ext eh6 hk2 (nz rfl)
    refine r_callV_V (pc := 420) (Y := mX8_put) (vs := [_, _]) (st := []) hk9 rfl kc8 q1358 q1360 qs22 dX8_make_420 rfl cd_X8_put rfl rfl fp_X8_make_X8_put K (fun h8 eh8 wh8 K => ?_) (fun x h1 _ _ e => Tw.out rfl e)
    refine r_aload_n (pc := 423) dX8_make_423 rfl ?_
    have hk10 := kd_ext eh8 hk9 (nz rfl)
    have K := K _ rfl
    refine r_getr' (pc := 424) (T := TX8) 8 0 rfl hk10 (Or.inl q545) dX8_make_424 kc8 g8000 ?_
    refine r_aload_n (pc := 427) dX8_make_427 rfl ?_
    have K := K _ rfl
    refine r_getr' (pc := 428) (T := TX8) 8 2 rfl hk10 (Or.inl q547) dX8_make_428 kc8 g8002 ?_
    refine r_iconst (pc := 431) (x := 0) dX8_make_431 rfl ?_
    refine r_aload_n (pc := 432) dX8_make_432 rfl ?_
    refine r_geti' (pc := 433) (T := TX8) 8 3 rfl hk10 (Or.inl q548) dX8_make_433 kc8 g8003 ?_
    refine r_aload_n (pc := 436) dX8_make_436 rfl ?_
    have K := K _ rfl
    refine r_getr' (pc := 437) (T := TX8) 8 4 rfl hk10 (Or.inl q549) dX8_make_437 kc8 g8004 ?_
    refine r_iconst (pc := 440) (x := 0) dX8_make_440 rfl ?_
    obtain ⟨hk16, K⟩ := K
    refine r_callV_V (pc := 441) (Y := mX2_twice) (vs := [_, _, _, _, _]) (st := []) hk16 rfl kc2 q1381 q886 q887 dX8_make_441 rfl cd_X2_twice rfl rfl fp_X8_make_X2_twice K (fun h15 eh15 wh15 K => ?_) (fun x h1 _ _ e => Tw.out rfl e)
    exact r_vret (pc := 444) rfl dX8_make_444 K
  · have K := K.2 c1
    refine r_aload_n (pc := 301) dX8_make_301 rfl ?_
    obtain ⟨hk17, K⟩ := K
    have K := K _ rfl
    refine r_getr' (pc := 302) (T := TX8) 8 6 rfl hk17 (Or.inl q551) dX8_make_302 kc8 g8006 ?_
    obtain ⟨hk19, K⟩ := K
    have K := K _ rfl
    refine r_getr' (pc := 305) (T := TX18) 18 6 rfl hk19 (Or.inr (Or.inl ⟨_, q1089⟩)) dX8_make_305 kc18 g18006 ?_
    refine r_iload (pc := 308) dX8_make_308 rfl ?_
    obtain ⟨hk21, K⟩ := K
    obtain ⟨hi22, K⟩ := K
    have K := K _ rfl
    refine r_aaload (pc := 310) (le_of_eq_r hk21 (by decide)) hi22 dX8_make_310 ?_
    refine r_astore (pc := 311) (lv' := [_, _, _, _, _, _, _, _, _, _, _]) dX8_make_311 (by decide) rfl ?_
    refine r_iload (pc := 313) dX8_make_313 rfl ?_
    refine r_iconst (pc := 315) (x := 3) dX8_make_315 rfl ?_
    refine r_icmp_ne (pc := 316) (tgt := 332) dX8_make_316 rfl (fun c24 => ?_) (fun c24 => ?_)
    · have K := K.1 c24
      refine r_mask (pc := 332) [true, true, false, false, false, true, false, true, true, true, false] rfl ?_
      exact K
    · have K := K.2 c24
      refine r_iload (pc := 319) dX8_make_319 rfl ?_
      refine r_aload_n (pc := 321) dX8_make_321 rfl ?_
      refine r_geti' (pc := 322) (T := TX8) 8 7 rfl hk17 (Or.inl q552) dX8_make_322 kc8 g8007 ?_
      refine r_icmp_ge (pc := 325) (tgt := 332) dX8_make_325 rfl (fun c25 => ?_) (fun c25 => ?_)
      · have K := K.1 c25
        refine r_mask (pc := 332) [true, true, false, false, false, true, false, true, true, true, false] rfl ?_
        exact K
      · have K := K.2 c25
        refine r_iconst (pc := 328) (x := 1) dX8_make_328 rfl ?_
        refine r_goto (pc := 329) (tgt := 333) dX8_make_329 rfl ?_
        refine r_istore (pc := 333) (lv' := [_, _, _, _, _, _, _, _, _, _, _]) dX8_make_333 (by decide) rfl ?_
        refine r_aload_n (pc := 335) dX8_make_335 rfl ?_
        refine r_iload (pc := 336) dX8_make_336 rfl ?_
        refine r_if_eq (pc := 338) (tgt := 347) dX8_make_338 rfl (fun c26 => ?_) (fun c26 => ?_)
        · have K := K.1 c26
          refine r_aload (pc := 347) dX8_make_347 rfl ?_
          obtain ⟨hk27, K⟩ := K
          refine r_getl' (pc := 349) (T := TX20) 20 0 rfl hk27 (Or.inr (Or.inl ⟨_, q1147⟩)) dX8_make_349 kc20 g20000 ?_
          refine r_bipush (pc := 352) (x := 8) dX8_make_352 rfl ?_
          refine r_callV_V (pc := 354) (Y := mX8_put) (vs := [_, _]) (st := []) hk17 rfl kc8 q1358 q1360 qs22 dX8_make_354 rfl cd_X8_put rfl rfl fp_X8_make_X8_put K (fun h29 eh29 wh29 K => ?_) (fun x h1 _ _ e => Tw.out rfl e)
          refine r_aload_n (pc := 357) dX8_make_357 rfl ?_
          refine r_iload (pc := 358) dX8_make_358 rfl ?_
          refine r_if_eq (pc := 360) (tgt := 367) dX8_make_360 rfl (fun c30 => ?_) (fun c30 => ?_)
          · have K := K.1 c30
            refine r_aload (pc := 367) dX8_make_367 rfl ?_
            have hk31 := kd_ext eh29 hk27 (nz rfl)
            refine r_geti' (pc := 369) (T := TX20) 20 2 rfl hk31 (Or.inr (Or.inl ⟨_, q1151⟩)) dX8_make_369 kc20 g20002 ?_
            have hk34 := kd_ext eh29 hk17 (nz rfl)
            refine r_callV_V (pc := 372) (Y := mX8_count) (vs := [_]) (st := []) hk34 rfl kc8 q1362 q1364 qs23 dX8_make_372 rfl cd_X8_count rfl rfl fp_X8_make_X8_count K (fun h33 eh33 wh33 K => ?_) (fun x h1 _ _ e => Tw.out rfl e)
            refine r_iload (pc := 375) dX8_make_375 rfl ?_
            refine r_if_ne (pc := 377) (tgt := 398) dX8_make_377 rfl (fun c35 => ?_) (fun c35 => ?_)
            · have K := K.1 c35
              refine r_iinc (pc := 398) (lv' := [_, _, _, _, _, _, _, _, _, _, _]) dX8_make_398 rfl rfl (by decide) rfl ?_
              refine r_goto (pc := 401) (tgt := 294) dX8_make_401 rfl ?_
              refine r_mask (pc := 294) [true, true, false, false, false, true, false, true, true, false, false] rfl ?_
              exact K
            · have K := K.2 c35
              refine r_aload_n (pc := 380) dX8_make_380 rfl ?_
              refine r_aload_n (pc := 381) dX8_make_381 rfl ?_
              have hk36 := kd_ext eh33 hk34 (nz rfl)
              have K := K _ rfl
              refine r_getr' (pc := 382) (T := TX8) 8 5 rfl hk36 (Or.inl q550) dX8_make_382 kc8 g8005 ?_
              refine r_aload (pc := 385) dX8_make_385 rfl ?_
              have hk38 := kd_ext eh33 hk31 (nz rfl)
              refine r_geti' (pc := 387) (T := TX20) 20 1 rfl hk38 (Or.inr (Or.inl ⟨_, q1149⟩)) dX8_make_387 kc20 g20001 ?_
              refine r_aload (pc := 390) dX8_make_390 rfl ?_
              have hv39 := fi_self (key := 20002) hk31
              have hv40 := (fi_ext (key := 20002) eh33 hk31 (nz rfl) (ne0 wh33 hk38 (nz rfl)) (nm rfl)).trans hv39
              refine r_geti' (pc := 392) (T := TX20) 20 2 hv40 hk38 (Or.inr (Or.inl ⟨_, q1151⟩)) dX8_make_392 kc20 g20002 ?_
              refine r_callV_V (pc := 395) (Y := mX8_copy) (vs := [_, _, _]) (st := []) hk36 rfl kc8 q1367 q1369 qs24 dX8_make_395 rfl cd_X8_copy rfl rfl fp_X8_make_X8_copy K (fun h42 eh42 wh42 K => ?_) (fun x h1 _ _ e => Tw.out rfl e)
              refine r_iinc (pc := 398) (lv' := [_, _, _, _, _, _, _, _, _, _, _]) dX8_make_398 rfl rfl (by decide) rfl ?_
              refine r_goto (pc := 401) (tgt := 294) dX8_make_401 rfl ?_
              refine r_mask (pc := 294) [true, true, false, false, false, true, false, true, true, false, false] rfl ?_
              exact K
          · have K := K.2 c30
            refine r_iconst (pc := 363) (x := 0) dX8_make_363 rfl ?_
            refine r_goto (pc := 364) (tgt := 372) dX8_make_364 rfl ?_
            have hk45 := kd_ext eh29 hk17 (nz rfl)
            refine r_callV_V (pc := 372) (Y := mX8_count) (vs := [_]) (st := []) hk45 rfl kc8 q1362 q1364 qs23 dX8_make_372 rfl cd_X8_count rfl rfl fp_X8_make_X8_count K (fun h44 eh44 wh44 K => ?_) (fun x h1 _ _ e => Tw.out rfl e)
            refine r_iload (pc := 375) dX8_make_375 rfl ?_
            refine r_if_ne (pc := 377) (tgt := 398) dX8_make_377 rfl (fun c46 => ?_) (fun c46 => ?_)
            · have K := K.1 c46
              refine r_iinc (pc := 398) (lv' := [_, _, _, _, _, _, _, _, _, _, _]) dX8_make_398 rfl rfl (by decide) rfl ?_
              refine r_goto (pc := 401) (tgt := 294) dX8_make_401 rfl ?_
              refine r_mask (pc := 294) [true, true, false, false, false, true, false, true, true, false, false] rfl ?_
              exact K
            · have K := K.2 c46
              refine r_aload_n (pc := 380) dX8_make_380 rfl ?_
              refine r_aload_n (pc := 381) dX8_make_381 rfl ?_
              have hk47 := kd_ext eh44 hk45 (nz rfl)
              have K := K _ rfl
              refine r_getr' (pc := 382) (T := TX8) 8 5 rfl hk47 (Or.inl q550) dX8_make_382 kc8 g8005 ?_
              refine r_aload (pc := 385) dX8_make_385 rfl ?_
              have hk49 := kd_ext eh29 hk27 (nz rfl)
              have hk50 := kd_ext eh44 hk49 (nz rfl)
              refine r_geti' (pc := 387) (T := TX20) 20 1 rfl hk50 (Or.inr (Or.inl ⟨_, q1149⟩)) dX8_make_387 kc20 g20001 ?_
              refine r_aload (pc := 390) dX8_make_390 rfl ?_
              refine r_geti' (pc := 392) (T := TX20) 20 2 rfl hk50 (Or.inr (Or.inl ⟨_, q1151⟩)) dX8_make_392 kc20 g20002 ?_
              refine r_callV_V (pc := 395) (Y := mX8_copy) (vs := [_, _, _]) (st := []) hk47 rfl kc8 q1367 q1369 qs24 dX8_make_395 rfl cd_X8_copy rfl rfl fp_X8_make_X8_copy K (fun h52 eh52 wh52 K => ?_) (fun x h1 _ _ e => Tw.out rfl e)
              refine r_iinc (pc := 398) (lv' := [_, _, _, _, _, _, _, _, _, _, _]) dX8_make_398 rfl rfl (by decide) rfl ?_
              refine r_goto (pc := 401) (tgt := 294) dX8_make_401 rfl ?_
              refine r_mask (pc := 294) [true, true, false, false, false, true, false, true, true, false, false] rfl ?_
              exact K
        · have K := K.2 c26
          refine r_ldc2 (pc := 341) dX8_make_341 q1380 ?_
          refine r_goto (pc := 344) (tgt := 352) dX8_make_344 rfl ?_
          refine r_bipush (pc := 352) (x := 8) dX8_make_352 rfl ?_
          refine r_callV_V (pc := 354) (Y := mX8_put) (vs := [_, _]) (st := []) hk17 rfl kc8 q1358 q1360 qs22 dX8_make_354 rfl cd_X8_put rfl rfl fp_X8_make_X8_put K (fun h54 eh54 wh54 K => ?_) (fun x h1 _ _ e => Tw.out rfl e)
          refine r_aload_n (pc := 357) dX8_make_357 rfl ?_
          refine r_iload (pc := 358) dX8_make_358 rfl ?_
          refine r_if_eq (pc := 360) (tgt := 367) dX8_make_360 rfl (fun c55 => ?_) (fun c55 => ?_)
          · have K := K.1 c55
            refine r_aload (pc := 367) dX8_make_367 rfl ?_
            obtain ⟨hk56, K⟩ := K
            refine r_geti' (pc := 369) (T := TX20) 20 2 rfl hk56 (Or.inr (Or.inl ⟨_, q1151⟩)) dX8_make_369 kc20 g20002 ?_
            have hk59 := kd_ext eh54 hk17 (nz rfl)
            refine r_callV_V (pc := 372) (Y := mX8_count) (vs := [_]) (st := []) hk59 rfl kc8 q1362 q1364 qs23 dX8_make_372 rfl cd_X8_count rfl rfl fp_X8_make_X8_count K (fun h58 eh58 wh58 K => ?_) (fun x h1 _ _ e => Tw.out rfl e)
            refine r_iload (pc := 375) dX8_make_375 rfl ?_
            refine r_if_ne (pc := 377) (tgt := 398) dX8_make_377 rfl (fun c60 => ?_) (fun c60 => ?_)
            · have K := K.1 c60
              refine r_iinc (pc := 398) (lv' := [_, _, _, _, _, _, _, _, _, _, _]) dX8_make_398 rfl rfl (by decide) rfl ?_
              refine r_goto (pc := 401) (tgt := 294) dX8_make_401 rfl ?_
              refine r_mask (pc := 294) [true, true, false, false, false, true, false, true, true, false, false] rfl ?_
              exact K
            · have K := K.2 c60
              refine r_aload_n (pc := 380) dX8_make_380 rfl ?_
              refine r_aload_n (pc := 381) dX8_make_381 rfl ?_
              have hk61 := kd_ext eh58 hk59 (nz rfl)
              have K := K _ rfl
              refine r_getr' (pc := 382) (T := TX8) 8 5 rfl hk61 (Or.inl q550) dX8_make_382 kc8 g8005 ?_
              refine r_aload (pc := 385) dX8_make_385 rfl ?_
              have hk63 := kd_ext eh58 hk56 (nz rfl)
              refine r_geti' (pc := 387) (T := TX20) 20 1 rfl hk63 (Or.inr (Or.inl ⟨_, q1149⟩)) dX8_make_387 kc20 g20001 ?_
              refine r_aload (pc := 390) dX8_make_390 rfl ?_
              have hv64 := fi_self (key := 20002) hk56
              have hv65 := (fi_ext (key := 20002) eh58 hk56 (nz rfl) (ne0 wh58 hk63 (nz rfl)) (nm rfl)).trans hv64
              refine r_geti' (pc := 392) (T := TX20) 20 2 hv65 hk63 (Or.inr (Or.inl ⟨_, q1151⟩)) dX8_make_392 kc20 g20002 ?_
              refine r_callV_V (pc := 395) (Y := mX8_copy) (vs := [_, _, _]) (st := []) hk61 rfl kc8 q1367 q1369 qs24 dX8_make_395 rfl cd_X8_copy rfl rfl fp_X8_make_X8_copy K (fun h67 eh67 wh67 K => ?_) (fun x h1 _ _ e => Tw.out rfl e)
              refine r_iinc (pc := 398) (lv' := [_, _, _, _, _, _, _, _, _, _, _]) dX8_make_398 rfl rfl (by decide) rfl ?_
              refine r_goto (pc := 401) (tgt := 294) dX8_make_401 rfl ?_
              refine r_mask (pc := 294) [true, true, false, false, false, true, false, true, true, false, false] rfl ?_
              exact K
          · have K := K.2 c55
            refine r_iconst (pc := 363) (x := 0) dX8_make_363 rfl ?_
            refine r_goto (pc := 364) (tgt := 372) dX8_make_364 rfl ?_
            have hk70 := kd_ext eh54 hk17 (nz rfl)
            refine r_callV_V (pc := 372) (Y := mX8_count) (vs := [_]) (st := []) hk70 rfl kc8 q1362 q1364 qs23 dX8_make_372 rfl cd_X8_count rfl rfl fp_X8_make_X8_count K (fun h69 eh69 wh69 K => ?_) (fun x h1 _ _ e => Tw.out rfl e)
            refine r_iload (pc := 375) dX8_make_375 rfl ?_
            refine r_if_ne (pc := 377) (tgt := 398) dX8_make_377 rfl (fun c71 => ?_) (fun c71 => ?_)
            · have K := K.1 c71
              refine r_iinc (pc := 398) (lv' := [_, _, _, _, _, _, _, _, _, _, _]) dX8_make_398 rfl rfl (by decide) rfl ?_
              refine r_goto (pc := 401) (tgt := 294) dX8_make_401 rfl ?_
              refine r_mask (pc := 294) [true, true, false, false, false, true, false, true, true, false, false] rfl ?_
              exact K
            · have K := K.2 c71
              refine r_aload_n (pc := 380) dX8_make_380 rfl ?_
              refine r_aload_n (pc := 381) dX8_make_381 rfl ?_
              have hk72 := kd_ext eh69 hk70 (nz rfl)
              have K := K _ rfl
              refine r_getr' (pc := 382) (T := TX8) 8 5 rfl hk72 (Or.inl q550) dX8_make_382 kc8 g8005 ?_
              refine r_aload (pc := 385) dX8_make_385 rfl ?_
              obtain ⟨hk74, K⟩ := K
              refine r_geti' (pc := 387) (T := TX20) 20 1 rfl hk74 (Or.inr (Or.inl ⟨_, q1149⟩)) dX8_make_387 kc20 g20001 ?_
              refine r_aload (pc := 390) dX8_make_390 rfl ?_
              refine r_geti' (pc := 392) (T := TX20) 20 2 rfl hk74 (Or.inr (Or.inl ⟨_, q1151⟩)) dX8_make_392 kc20 g20002 ?_
              refine r_callV_V (pc := 395) (Y := mX8_copy) (vs := [_, _, _]) (st := []) hk72 rfl kc8 q1367 q1369 qs24 dX8_make_395 rfl cd_X8_copy rfl rfl fp_X8_make_X8_copy K (fun h76 eh76 wh76 K => ?_) (fun x h1 _ _ e => Tw.out rfl e)
              refine r_iinc (pc := 398) (lv' := [_, _, _, _, _, _, _, _, _, _, _]) dX8_make_398 rfl rfl (by decide) rfl ?_
              refine r_goto (pc := 401) (tgt := 294) dX8_make_401 rfl ?_
              refine r_mask (pc := 294) [true, true, false, false, false, true, false, true, true, false, false] rfl ?_
              exact K
set_option maxHeartbeats 4000000 in
theorem sX8_make_332 {G : Gx} {d t : Nat} {h0 : AH} {Φ : Out → AH → Prop} (h : AH) (v0 : Nat) (v1 : Int32) (v5 : Int32) (v7 : Int32) (v8 : Int32) (v9 : Nat) (K : (((0 : Int32) = 0 → h.kd v9 = 20 ∧ h.kd v0 = 8 ∧ Cw G mX8_put d 0 [vR v0, vJ (h.l 20000 v9), vI 8] h (kV (fun h4 => (((0 : Int32) = 0 → Cw G mX8_count d 0 [vR v0, vI (h4.i 20002 v9)] h4 (kV (fun h9 => ((¬ (0 : Int32) = 0 → Aw G mX8_make (d + 1) t h0 Φ 294 [vR v0, vI v1, vU, vU, vU, vI v5, vU, vI v7, vI (v8 + 1), vU, vU] [] h9) ∧ ((0 : Int32) = 0 → ∀ r13 : Nat, r13 = (h9.r 8005 v0) → Cw G mX8_copy d 0 [vR v0, vR r13, vI (h9.i 20001 v9), vI (h4.i 20002 v9)] h9 (kV (fun h18 => Aw G mX8_make (d + 1) t h0 Φ 294 [vR v0, vI v1, vU, vU, vU, vI v5, vU, vI v7, vI (v8 + 1), vU, vU] [] h18) (fun x h => Φ (.inr x) h))))) (fun x h => Φ (.inr x) h))) ∧ (¬ (0 : Int32) = 0 → Cw G mX8_count d 0 [vR v0, vI 0] h4 (kV (fun h20 => ((¬ (0 : Int32) = 0 → Aw G mX8_make (d + 1) t h0 Φ 294 [vR v0, vI v1, vU, vU, vU, vI v5, vU, vI v7, vI (v8 + 1), vU, vU] [] h20) ∧ ((0 : Int32) = 0 → ∀ r24 : Nat, r24 = (h20.r 8005 v0) → Cw G mX8_copy d 0 [vR v0, vR r24, vI (h20.i 20001 v9), vI (h20.i 20002 v9)] h20 (kV (fun h28 => Aw G mX8_make (d + 1) t h0 Φ 294 [vR v0, vI v1, vU, vU, vU, vI v5, vU, vI v7, vI (v8 + 1), vU, vU] [] h28) (fun x h => Φ (.inr x) h))))) (fun x h => Φ (.inr x) h))))) (fun x h => Φ (.inr x) h))) ∧ (¬ (0 : Int32) = 0 → h.kd v0 = 8 ∧ Cw G mX8_put d 0 [vR v0, vJ (-1), vI 8] h (kV (fun h30 => (((0 : Int32) = 0 → h30.kd v9 = 20 ∧ Cw G mX8_count d 0 [vR v0, vI (h30.i 20002 v9)] h30 (kV (fun h35 => ((¬ (0 : Int32) = 0 → Aw G mX8_make (d + 1) t h0 Φ 294 [vR v0, vI v1, vU, vU, vU, vI v5, vU, vI v7, vI (v8 + 1), vU, vU] [] h35) ∧ ((0 : Int32) = 0 → ∀ r39 : Nat, r39 = (h35.r 8005 v0) → Cw G mX8_copy d 0 [vR v0, vR r39, vI (h35.i 20001 v9), vI (h30.i 20002 v9)] h35 (kV (fun h44 => Aw G mX8_make (d + 1) t h0 Φ 294 [vR v0, vI v1, vU, vU, vU, vI v5, vU, vI v7, vI (v8 + 1), vU, vU] [] h44) (fun x h => Φ (.inr x) h))))) (fun x h => Φ (.inr x) h))) ∧ (¬ (0 : Int32) = 0 → Cw G mX8_count d 0 [vR v0, vI 0] h30 (kV (fun h46 => ((¬ (0 : Int32) = 0 → Aw G mX8_make (d + 1) t h0 Φ 294 [vR v0, vI v1, vU, vU, vU, vI v5, vU, vI v7, vI (v8 + 1), vU, vU] [] h46) ∧ ((0 : Int32) = 0 → ∀ r50 : Nat, r50 = (h46.r 8005 v0) → h46.kd v9 = 20 ∧ Cw G mX8_copy d 0 [vR v0, vR r50, vI (h46.i 20001 v9), vI (h46.i 20002 v9)] h46 (kV (fun h53 => Aw G mX8_make (d + 1) t h0 Φ 294 [vR v0, vI v1, vU, vU, vU, vI v5, vU, vI v7, vI (v8 + 1), vU, vU] [] h53) (fun x h => Φ (.inr x) h))))) (fun x h => Φ (.inr x) h))))) (fun x h => Φ (.inr x) h))))) : Aw G mX8_make (d + 1) t h0 Φ 332 [vR v0, vI v1, vU, vU, vU, vI v5, vU, vI v7, vI v8, vR v9, vU] [] h := by
  refine r_iconst (pc := 332) (x := 0) dX8_make_332 rfl ?_
  refine r_istore (pc := 333) (lv' := [_, _, _, _, _, _, _, _, _, _, _]) dX8_make_333 (by decide) rfl ?_
  refine r_aload_n (pc := 335) dX8_make_335 rfl ?_
  refine r_iload (pc := 336) dX8_make_336 rfl ?_
  refine r_if_eq (pc := 338) (tgt := 347) dX8_make_338 rfl (fun c1 => ?_) (fun c1 => ?_)
  · have K := K.1 c1
    refine r_aload (pc := 347) dX8_make_347 rfl ?_
    obtain ⟨hk2, K⟩ := K
    refine r_getl' (pc := 349) (T := TX20) 20 0 rfl hk2 (Or.inr (Or.inl ⟨_, q1147⟩)) dX8_make_349 kc20 g20000 ?_
    refine r_bipush (pc := 352) (x := 8) dX8_make_352 rfl ?_
    obtain ⟨hk5, K⟩ := K
    refine r_callV_V (pc := 354) (Y := mX8_put) (vs := [_, _]) (st := []) hk5 rfl kc8 q1358 q1360 qs22 dX8_make_354 rfl cd_X8_put rfl rfl fp_X8_make_X8_put K (fun h4 eh4 wh4 K => ?_) (fun x h1 _ _ e => Tw.out rfl e)
    refine r_aload_n (pc := 357) dX8_make_357 rfl ?_
    refine r_iload (pc := 358) dX8_make_358 rfl ?_
    refine r_if_eq (pc := 360) (tgt := 367) dX8_make_360 rfl (fun c6 => ?_) (fun c6 => ?_)
    · have K := K.1 c6
      refine r_aload (pc := 367) dX8_make_367 rfl ?_
      have hk7 := kd_ext eh4 hk2 (nz rfl)
      refine r_geti' (pc := 369) (T := TX20) 20 2 rfl hk7 (Or.inr (Or.inl ⟨_, q1151⟩)) dX8_make_369 kc20 g20002 ?_
      have hk10 := kd_ext eh4 hk5 (nz rfl)
      refine r_callV_V (pc := 372) (Y := mX8_count) (vs := [_]) (st := []) hk10 rfl kc8 q1362 q1364 qs23 dX8_make_372 rfl cd_X8_count rfl rfl fp_X8_make_X8_count K (fun h9 eh9 wh9 K => ?_) (fun x h1 _ _ e => Tw.out rfl e)
      refine r_iload (pc := 375) dX8_make_375 rfl ?_
      refine r_if_ne (pc := 377) (tgt := 398) dX8_make_377 rfl (fun c11 => ?_) (fun c11 => ?_)
      · have K := K.1 c11
        refine r_iinc (pc := 398) (lv' := [_, _, _, _, _, _, _, _, _, _, _]) dX8_make_398 rfl rfl (by decide) rfl ?_
        refine r_goto (pc := 401) (tgt := 294) dX8_make_401 rfl ?_
        refine r_mask (pc := 294) [true, true, false, false, false, true, false, true, true, false, false] rfl ?_
        exact K
      · have K := K.2 c11
        refine r_aload_n (pc := 380) dX8_make_380 rfl ?_
        refine r_aload_n (pc := 381) dX8_make_381 rfl ?_
        have hk12 := kd_ext eh9 hk10 (nz rfl)
        have K := K _ rfl
        refine r_getr' (pc := 382) (T := TX8) 8 5 rfl hk12 (Or.inl q550) dX8_make_382 kc8 g8005 ?_
        refine r_aload (pc := 385) dX8_make_385 rfl ?_
        have hk14 := kd_ext eh9 hk7 (nz rfl)
        refine r_geti' (pc := 387) (T := TX20) 20 1 rfl hk14 (Or.inr (Or.inl ⟨_, q1149⟩)) dX8_make_387 kc20 g20001 ?_
        refine r_aload (pc := 390) dX8_make_390 rfl ?_
        have hv15 := fi_self (key := 20002) hk7
        have hv16 := (fi_ext (key := 20002) eh9 hk7 (nz rfl) (ne0 wh9 hk14 (nz rfl)) (nm rfl)).trans hv15
        refine r_geti' (pc := 392) (T := TX20) 20 2 hv16 hk14 (Or.inr (Or.inl ⟨_, q1151⟩)) dX8_make_392 kc20 g20002 ?_
        refine r_callV_V (pc := 395) (Y := mX8_copy) (vs := [_, _, _]) (st := []) hk12 rfl kc8 q1367 q1369 qs24 dX8_make_395 rfl cd_X8_copy rfl rfl fp_X8_make_X8_copy K (fun h18 eh18 wh18 K => ?_) (fun x h1 _ _ e => Tw.out rfl e)
        refine r_iinc (pc := 398) (lv' := [_, _, _, _, _, _, _, _, _, _, _]) dX8_make_398 rfl rfl (by decide) rfl ?_
        refine r_goto (pc := 401) (tgt := 294) dX8_make_401 rfl ?_
        refine r_mask (pc := 294) [true, true, false, false, false, true, false, true, true, false, false] rfl ?_
        exact K
    · have K := K.2 c6
      refine r_iconst (pc := 363) (x := 0) dX8_make_363 rfl ?_
      refine r_goto (pc := 364) (tgt := 372) dX8_make_364 rfl ?_
      have hk21 := kd_ext eh4 hk5 (nz rfl)
      refine r_callV_V (pc := 372) (Y := mX8_count) (vs := [_]) (st := []) hk21 rfl kc8 q1362 q1364 qs23 dX8_make_372 rfl cd_X8_count rfl rfl fp_X8_make_X8_count K (fun h20 eh20 wh20 K => ?_) (fun x h1 _ _ e => Tw.out rfl e)
      refine r_iload (pc := 375) dX8_make_375 rfl ?_
      refine r_if_ne (pc := 377) (tgt := 398) dX8_make_377 rfl (fun c22 => ?_) (fun c22 => ?_)
      · have K := K.1 c22
        refine r_iinc (pc := 398) (lv' := [_, _, _, _, _, _, _, _, _, _, _]) dX8_make_398 rfl rfl (by decide) rfl ?_
        refine r_goto (pc := 401) (tgt := 294) dX8_make_401 rfl ?_
        refine r_mask (pc := 294) [true, true, false, false, false, true, false, true, true, false, false] rfl ?_
        exact K
      · have K := K.2 c22
        refine r_aload_n (pc := 380) dX8_make_380 rfl ?_
        refine r_aload_n (pc := 381) dX8_make_381 rfl ?_
        have hk23 := kd_ext eh20 hk21 (nz rfl)
        have K := K _ rfl
        refine r_getr' (pc := 382) (T := TX8) 8 5 rfl hk23 (Or.inl q550) dX8_make_382 kc8 g8005 ?_
        refine r_aload (pc := 385) dX8_make_385 rfl ?_
        have hk25 := kd_ext eh4 hk2 (nz rfl)
        have hk26 := kd_ext eh20 hk25 (nz rfl)
        refine r_geti' (pc := 387) (T := TX20) 20 1 rfl hk26 (Or.inr (Or.inl ⟨_, q1149⟩)) dX8_make_387 kc20 g20001 ?_
        refine r_aload (pc := 390) dX8_make_390 rfl ?_
        refine r_geti' (pc := 392) (T := TX20) 20 2 rfl hk26 (Or.inr (Or.inl ⟨_, q1151⟩)) dX8_make_392 kc20 g20002 ?_
        refine r_callV_V (pc := 395) (Y := mX8_copy) (vs := [_, _, _]) (st := []) hk23 rfl kc8 q1367 q1369 qs24 dX8_make_395 rfl cd_X8_copy rfl rfl fp_X8_make_X8_copy K (fun h28 eh28 wh28 K => ?_) (fun x h1 _ _ e => Tw.out rfl e)
        refine r_iinc (pc := 398) (lv' := [_, _, _, _, _, _, _, _, _, _, _]) dX8_make_398 rfl rfl (by decide) rfl ?_
        refine r_goto (pc := 401) (tgt := 294) dX8_make_401 rfl ?_
        refine r_mask (pc := 294) [true, true, false, false, false, true, false, true, true, false, false] rfl ?_
        exact K
  · have K := K.2 c1
    refine r_ldc2 (pc := 341) dX8_make_341 q1380 ?_
    refine r_goto (pc := 344) (tgt := 352) dX8_make_344 rfl ?_
    refine r_bipush (pc := 352) (x := 8) dX8_make_352 rfl ?_
    obtain ⟨hk31, K⟩ := K
    refine r_callV_V (pc := 354) (Y := mX8_put) (vs := [_, _]) (st := []) hk31 rfl kc8 q1358 q1360 qs22 dX8_make_354 rfl cd_X8_put rfl rfl fp_X8_make_X8_put K (fun h30 eh30 wh30 K => ?_) (fun x h1 _ _ e => Tw.out rfl e)
    refine r_aload_n (pc := 357) dX8_make_357 rfl ?_
    refine r_iload (pc := 358) dX8_make_358 rfl ?_
    refine r_if_eq (pc := 360) (tgt := 367) dX8_make_360 rfl (fun c32 => ?_) (fun c32 => ?_)
    · have K := K.1 c32
      refine r_aload (pc := 367) dX8_make_367 rfl ?_
      obtain ⟨hk33, K⟩ := K
      refine r_geti' (pc := 369) (T := TX20) 20 2 rfl hk33 (Or.inr (Or.inl ⟨_, q1151⟩)) dX8_make_369 kc20 g20002 ?_
      have hk36 := kd_ext eh30 hk31 (nz rfl)
      refine r_callV_V (pc := 372) (Y := mX8_count) (vs := [_]) (st := []) hk36 rfl kc8 q1362 q1364 qs23 dX8_make_372 rfl cd_X8_count rfl rfl fp_X8_make_X8_count K (fun h35 eh35 wh35 K => ?_) (fun x h1 _ _ e => Tw.out rfl e)
      refine r_iload (pc := 375) dX8_make_375 rfl ?_
      refine r_if_ne (pc := 377) (tgt := 398) dX8_make_377 rfl (fun c37 => ?_) (fun c37 => ?_)
      · have K := K.1 c37
        refine r_iinc (pc := 398) (lv' := [_, _, _, _, _, _, _, _, _, _, _]) dX8_make_398 rfl rfl (by decide) rfl ?_
        refine r_goto (pc := 401) (tgt := 294) dX8_make_401 rfl ?_
        refine r_mask (pc := 294) [true, true, false, false, false, true, false, true, true, false, false] rfl ?_
        exact K
      · have K := K.2 c37
        refine r_aload_n (pc := 380) dX8_make_380 rfl ?_
        refine r_aload_n (pc := 381) dX8_make_381 rfl ?_
        have hk38 := kd_ext eh35 hk36 (nz rfl)
        have K := K _ rfl
        refine r_getr' (pc := 382) (T := TX8) 8 5 rfl hk38 (Or.inl q550) dX8_make_382 kc8 g8005 ?_
        refine r_aload (pc := 385) dX8_make_385 rfl ?_
        have hk40 := kd_ext eh35 hk33 (nz rfl)
        refine r_geti' (pc := 387) (T := TX20) 20 1 rfl hk40 (Or.inr (Or.inl ⟨_, q1149⟩)) dX8_make_387 kc20 g20001 ?_
        refine r_aload (pc := 390) dX8_make_390 rfl ?_
        have hv41 := fi_self (key := 20002) hk33
        have hv42 := (fi_ext (key := 20002) eh35 hk33 (nz rfl) (ne0 wh35 hk40 (nz rfl)) (nm rfl)).trans hv41
        refine r_geti' (pc := 392) (T := TX20) 20 2 hv42 hk40 (Or.inr (Or.inl ⟨_, q1151⟩)) dX8_make_392 kc20 g20002 ?_
        refine r_callV_V (pc := 395) (Y := mX8_copy) (vs := [_, _, _]) (st := []) hk38 rfl kc8 q1367 q1369 qs24 dX8_make_395 rfl cd_X8_copy rfl rfl fp_X8_make_X8_copy K (fun h44 eh44 wh44 K => ?_) (fun x h1 _ _ e => Tw.out rfl e)
        refine r_iinc (pc := 398) (lv' := [_, _, _, _, _, _, _, _, _, _, _]) dX8_make_398 rfl rfl (by decide) rfl ?_
        refine r_goto (pc := 401) (tgt := 294) dX8_make_401 rfl ?_
        refine r_mask (pc := 294) [true, true, false, false, false, true, false, true, true, false, false] rfl ?_
        exact K
    · have K := K.2 c32
      refine r_iconst (pc := 363) (x := 0) dX8_make_363 rfl ?_
      refine r_goto (pc := 364) (tgt := 372) dX8_make_364 rfl ?_
      have hk47 := kd_ext eh30 hk31 (nz rfl)
      refine r_callV_V (pc := 372) (Y := mX8_count) (vs := [_]) (st := []) hk47 rfl kc8 q1362 q1364 qs23 dX8_make_372 rfl cd_X8_count rfl rfl fp_X8_make_X8_count K (fun h46 eh46 wh46 K => ?_) (fun x h1 _ _ e => Tw.out rfl e)
      refine r_iload (pc := 375) dX8_make_375 rfl ?_
      refine r_if_ne (pc := 377) (tgt := 398) dX8_make_377 rfl (fun c48 => ?_) (fun c48 => ?_)
      · have K := K.1 c48
        refine r_iinc (pc := 398) (lv' := [_, _, _, _, _, _, _, _, _, _, _]) dX8_make_398 rfl rfl (by decide) rfl ?_
        refine r_goto (pc := 401) (tgt := 294) dX8_make_401 rfl ?_
        refine r_mask (pc := 294) [true, true, false, false, false, true, false, true, true, false, false] rfl ?_
        exact K
      · have K := K.2 c48
        refine r_aload_n (pc := 380) dX8_make_380 rfl ?_
        refine r_aload_n (pc := 381) dX8_make_381 rfl ?_
        have hk49 := kd_ext eh46 hk47 (nz rfl)
        have K := K _ rfl
        refine r_getr' (pc := 382) (T := TX8) 8 5 rfl hk49 (Or.inl q550) dX8_make_382 kc8 g8005 ?_
        refine r_aload (pc := 385) dX8_make_385 rfl ?_
        obtain ⟨hk51, K⟩ := K
        refine r_geti' (pc := 387) (T := TX20) 20 1 rfl hk51 (Or.inr (Or.inl ⟨_, q1149⟩)) dX8_make_387 kc20 g20001 ?_
        refine r_aload (pc := 390) dX8_make_390 rfl ?_
        refine r_geti' (pc := 392) (T := TX20) 20 2 rfl hk51 (Or.inr (Or.inl ⟨_, q1151⟩)) dX8_make_392 kc20 g20002 ?_
        refine r_callV_V (pc := 395) (Y := mX8_copy) (vs := [_, _, _]) (st := []) hk49 rfl kc8 q1367 q1369 qs24 dX8_make_395 rfl cd_X8_copy rfl rfl fp_X8_make_X8_copy K (fun h53 eh53 wh53 K => ?_) (fun x h1 _ _ e => Tw.out rfl e)
        refine r_iinc (pc := 398) (lv' := [_, _, _, _, _, _, _, _, _, _, _]) dX8_make_398 rfl rfl (by decide) rfl ?_
        refine r_goto (pc := 401) (tgt := 294) dX8_make_401 rfl ?_
        refine r_mask (pc := 294) [true, true, false, false, false, true, false, true, true, false, false] rfl ?_
        exact K
theorem dX8_of_0 : decode cX8_of 0 = .ok (.aload_n 0, 1) := by decide +kernel
theorem dX8_of_1 : decode cX8_of 1 = .ok (.aload_n 1, 1) := by decide +kernel
theorem dX8_of_2 : decode cX8_of 2 = .ok (.putfield 26, 3) := by decide +kernel
theorem dX8_of_5 : decode cX8_of 5 = .ok (.aload_n 0, 1) := by decide +kernel
theorem dX8_of_6 : decode cX8_of 6 = .ok (.aload_n 2, 1) := by decide +kernel
theorem dX8_of_7 : decode cX8_of 7 = .ok (.putfield 29, 3) := by decide +kernel
theorem dX8_of_10 : decode cX8_of 10 = .ok (.aload_n 0, 1) := by decide +kernel
theorem dX8_of_11 : decode cX8_of 11 = .ok (.iload_n 3, 1) := by decide +kernel
theorem dX8_of_12 : decode cX8_of 12 = .ok (.putfield 33, 3) := by decide +kernel
theorem dX8_of_15 : decode cX8_of 15 = .ok (.return_, 1) := by decide +kernel
/-! CoinJudge$Signing.of([BLCoinJudge$Tx;I)V -/
set_option maxHeartbeats 4000000 in
theorem sX8_of_0 {G : Gx} {d t : Nat} {h0 : AH} {Φ : Out → AH → Prop} (h : AH) (v0 : Nat) (v1 : Nat) (v2 : Nat) (v3 : Int32) (K : h.kd v0 = 8 ∧ ∀ h2 : AH, h2 = h.pr 8005 v0 v1 → ∀ h4 : AH, h4 = h2.pr 8006 v0 v2 → ∀ h6 : AH, h6 = h4.pi 8007 v0 v3 → Φ (.inl none) h6) : Aw G mX8_of (d + 1) t h0 Φ 0 [vR v0, vR v1, vR v2, vI v3] [] h := by
  refine r_aload_n (pc := 0) dX8_of_0 rfl ?_
  refine r_aload_n (pc := 1) dX8_of_1 rfl ?_
  obtain ⟨hk1, K⟩ := K
  refine r_putr (pc := 2) (T := TX8) (key := 8005) 8 5 (ty := (.array .byte)) hk1 (Or.inl q550) dX8_of_2 kc8 rfl rfl (Or.inl rfl) (Or.inl (em rfl)) ?_
  refine r_nameH (fun h2 eh2 => ?_)
  have K := K h2 eh2
  refine r_aload_n (pc := 5) dX8_of_5 rfl ?_
  refine r_aload_n (pc := 6) dX8_of_6 rfl ?_
  have hk3 := kd_pr eh2 hk1
  refine r_putr (pc := 7) (T := TX8) (key := 8006) 8 6 (ty := (.object "CoinJudge$Tx")) hk3 (Or.inl q551) dX8_of_7 kc8 rfl rfl (Or.inl rfl) (Or.inl (em rfl)) ?_
  refine r_nameH (fun h4 eh4 => ?_)
  have K := K h4 eh4
  refine r_aload_n (pc := 10) dX8_of_10 rfl ?_
  refine r_iload_n (pc := 11) dX8_of_11 rfl ?_
  have hk5 := kd_pr eh4 hk3
  refine r_puti (pc := 12) (T := TX8) (key := 8007) 8 7 hk5 (Or.inl q552) dX8_of_12 kc8 rfl (Or.inl rfl) (Or.inl (em rfl)) ?_
  refine r_nameH (fun h6 eh6 => ?_)
  have K := K h6 eh6
  exact r_vret (pc := 15) rfl dX8_of_15 K
theorem eX8_of {G : Gx} {d : Nat} {Φ : Out → AH → Prop} (h : AH) (v0 : Nat) (v1 : Nat) (v2 : Nat) (v3 : Int32) (K : WF G h → Aw G mX8_of (d + 1) 0 h Φ 0 [vR v0, vR v1, vR v2, vI v3] [] h) : Cw G mX8_of (d + 1) 0 [vR v0, vR v1, vR v2, vI v3] h Φ := Cw.of rfl K
theorem dX18_sameId_0 : decode cX18_sameId 0 = .ok (.iconst 0, 1) := by decide +kernel
theorem dX18_sameId_1 : decode cX18_sameId 1 = .ok (.istore_n 3, 1) := by decide +kernel
theorem dX18_sameId_2 : decode cX18_sameId 2 = .ok (.iload_n 3, 1) := by decide +kernel
theorem dX18_sameId_3 : decode cX18_sameId 3 = .ok (.bipush 32, 2) := by decide +kernel
theorem dX18_sameId_5 : decode cX18_sameId 5 = .ok (.if_icmp .ge 25, 3) := by decide +kernel
theorem dX18_sameId_8 : decode cX18_sameId 8 = .ok (.aload_n 0, 1) := by decide +kernel
theorem dX18_sameId_9 : decode cX18_sameId 9 = .ok (.getfield 7, 3) := by decide +kernel
theorem dX18_sameId_12 : decode cX18_sameId 12 = .ok (.iload_n 3, 1) := by decide +kernel
theorem dX18_sameId_13 : decode cX18_sameId 13 = .ok (.baload, 1) := by decide +kernel
theorem dX18_sameId_14 : decode cX18_sameId 14 = .ok (.aload_n 1, 1) := by decide +kernel
theorem dX18_sameId_15 : decode cX18_sameId 15 = .ok (.iload_n 2, 1) := by decide +kernel
theorem dX18_sameId_16 : decode cX18_sameId 16 = .ok (.iload_n 3, 1) := by decide +kernel
theorem dX18_sameId_17 : decode cX18_sameId 17 = .ok (.iadd, 1) := by decide +kernel
theorem dX18_sameId_18 : decode cX18_sameId 18 = .ok (.baload, 1) := by decide +kernel
theorem dX18_sameId_19 : decode cX18_sameId 19 = .ok (.if_icmp .eq 5, 3) := by decide +kernel
theorem dX18_sameId_22 : decode cX18_sameId 22 = .ok (.iconst 0, 1) := by decide +kernel
theorem dX18_sameId_23 : decode cX18_sameId 23 = .ok (.ireturn, 1) := by decide +kernel
theorem dX18_sameId_24 : decode cX18_sameId 24 = .ok (.iinc 3 1, 3) := by decide +kernel
theorem dX18_sameId_27 : decode cX18_sameId 27 = .ok (.goto (-25), 3) := by decide +kernel
theorem dX18_sameId_30 : decode cX18_sameId 30 = .ok (.iconst 1, 1) := by decide +kernel
theorem dX18_sameId_31 : decode cX18_sameId 31 = .ok (.ireturn, 1) := by decide +kernel
/-! CoinJudge$Tx.sameId([BI)Z -/
set_option maxHeartbeats 4000000 in
theorem sX18_sameId_0 {G : Gx} {d t : Nat} {h0 : AH} {Φ : Out → AH → Prop} (h : AH) (v0 : Nat) (v1 : Nat) (v2 : Int32) (K : Aw G mX18_sameId (d + 1) t h0 Φ 2 [vR v0, vR v1, vI v2, vI 0] [] h) : Aw G mX18_sameId (d + 1) t h0 Φ 0 [vR v0, vR v1, vI v2, vU] [] h := by
  refine r_iconst (pc := 0) (x := 0) dX18_sameId_0 rfl ?_
  refine r_istore_n (pc := 1) (lv' := [_, _, _, _]) dX18_sameId_1 (by decide) rfl ?_
  refine r_mask (pc := 2) [true, true, true, true] rfl ?_
  exact K
theorem eX18_sameId {G : Gx} {d : Nat} {Φ : Out → AH → Prop} (h : AH) (v0 : Nat) (v1 : Nat) (v2 : Int32) (K : WF G h → Aw G mX18_sameId (d + 1) 0 h Φ 0 [vR v0, vR v1, vI v2, vU] [] h) : Cw G mX18_sameId (d + 1) 0 [vR v0, vR v1, vI v2] h Φ := Cw.of rfl K
set_option maxHeartbeats 4000000 in
theorem sX18_sameId_2 {G : Gx} {d t : Nat} {h0 : AH} {Φ : Out → AH → Prop} (h : AH) (v0 : Nat) (v1 : Nat) (v2 : Int32) (v3 : Int32) (K : ((32 ≤ v3 → Φ (.inl (some (vI 1))) h) ∧ (¬ 32 ≤ v3 → h.kd v0 = 18 ∧ ∀ r3 : Nat, r3 = (h.r 18002 v0) → h.kd r3 = 101 ∧ vp_in v3 (h.ai r3).length ∧ h.kd v1 = 101 ∧ vp_in (v2 + v3) (h.ai v1).length ∧ ((((h.ai r3).getD (v3.toNatClampNeg) 0) = ((h.ai v1).getD ((v2 + v3).toNatClampNeg) 0) → Aw G mX18_sameId (d + 1) t h0 Φ 2 [vR v0, vR v1, vI v2, vI (v3 + 1)] [] h) ∧ (¬ ((h.ai r3).getD (v3.toNatClampNeg) 0) = ((h.ai v1).getD ((v2 + v3).toNatClampNeg) 0) → Φ (.inl (some (vI 0))) h))))) : Aw G mX18_sameId (d + 1) t h0 Φ 2 [vR v0, vR v1, vI v2, vI v3] [] h := by
  refine r_iload_n (pc := 2) dX18_sameId_2 rfl ?_
  refine r_bipush (pc := 3) (x := 32) dX18_sameId_3 rfl ?_
  refine r_icmp_ge (pc := 5) (tgt := 30) dX18_sameId_5 rfl (fun c1 => ?_) (fun c1 => ?_)
  · have K := K.1 c1
    refine r_iconst (pc := 30) (x := 1) dX18_sameId_30 rfl ?_
    exact r_iret (pc := 31) rfl rfl dX18_sameId_31 K
  · have K := K.2 c1
    refine r_aload_n (pc := 8) dX18_sameId_8 rfl ?_
    obtain ⟨hk2, K⟩ := K
    have K := K _ rfl
    refine r_getr' (pc := 9) (T := TX18) 18 2 rfl hk2 (Or.inl q1079) dX18_sameId_9 kc18 g18002 ?_
    refine r_iload_n (pc := 12) dX18_sameId_12 rfl ?_
    obtain ⟨hk4, K⟩ := K
    obtain ⟨hi5, K⟩ := K
    refine r_baload (pc := 13) hk4 hi5 dX18_sameId_13 ?_
    refine r_aload_n (pc := 14) dX18_sameId_14 rfl ?_
    refine r_iload_n (pc := 15) dX18_sameId_15 rfl ?_
    refine r_iload_n (pc := 16) dX18_sameId_16 rfl ?_
    refine r_iadd (pc := 17) dX18_sameId_17 ?_
    obtain ⟨hk6, K⟩ := K
    obtain ⟨hi7, K⟩ := K
    refine r_baload (pc := 18) hk6 hi7 dX18_sameId_18 ?_
    refine r_icmp_eq (pc := 19) (tgt := 24) dX18_sameId_19 rfl (fun c8 => ?_) (fun c8 => ?_)
    · have K := K.1 c8
      refine r_iinc (pc := 24) (lv' := [_, _, _, _]) dX18_sameId_24 rfl rfl (by decide) rfl ?_
      refine r_goto (pc := 27) (tgt := 2) dX18_sameId_27 rfl ?_
      refine r_mask (pc := 2) [true, true, true, true] rfl ?_
      exact K
    · have K := K.2 c8
      refine r_iconst (pc := 22) (x := 0) dX18_sameId_22 rfl ?_
      exact r_iret (pc := 23) rfl rfl dX18_sameId_23 K
theorem dX23_output_0 : decode cX23_output 0 = .ok (.aload_n 0, 1) := by decide +kernel
theorem dX23_output_1 : decode cX23_output 1 = .ok (.getfield 13, 3) := by decide +kernel
theorem dX23_output_4 : decode cX23_output 4 = .ok (.getfield 21, 3) := by decide +kernel
theorem dX23_output_7 : decode cX23_output 7 = .ok (.aload_n 0, 1) := by decide +kernel
theorem dX23_output_8 : decode cX23_output 8 = .ok (.getfield 17, 3) := by decide +kernel
theorem dX23_output_11 : decode cX23_output 11 = .ok (.aaload, 1) := by decide +kernel
theorem dX23_output_12 : decode cX23_output 12 = .ok (.areturn, 1) := by decide +kernel
/-! CoinJudge$Coin.output()LCoinJudge$Output; -/
set_option maxHeartbeats 4000000 in
theorem sX23_output_0 {G : Gx} {d t : Nat} {h0 : AH} {Φ : Out → AH → Prop} (h : AH) (v0 : Nat) (K : h.kd v0 = 23 ∧ ∀ r2 : Nat, r2 = (h.r 23001 v0) → h.kd r2 = 18 ∧ ∀ r4 : Nat, r4 = (h.r 18006 r2) → h.kd r4 = 112 ∧ vp_in (h.i 23002 v0) (h.ar r4).length ∧ ∀ r7 : Nat, r7 = ((h.ar r4).getD ((h.i 23002 v0).toNatClampNeg) 0) → Φ (.inl (some (vR r7))) h) : Aw G mX23_output (d + 1) t h0 Φ 0 [vR v0] [] h := by
  refine r_aload_n (pc := 0) dX23_output_0 rfl ?_
  obtain ⟨hk1, K⟩ := K
  have K := K _ rfl
  refine r_getr' (pc := 1) (T := TX23) 23 1 rfl hk1 (Or.inl q1680) dX23_output_1 kc23 g23001 ?_
  obtain ⟨hk3, K⟩ := K
  have K := K _ rfl
  refine r_getr' (pc := 4) (T := TX18) 18 6 rfl hk3 (Or.inr (Or.inl ⟨_, q1088⟩)) dX23_output_4 kc18 g18006 ?_
  refine r_aload_n (pc := 7) dX23_output_7 rfl ?_
  refine r_geti' (pc := 8) (T := TX23) 23 2 rfl hk1 (Or.inl q1682) dX23_output_8 kc23 g23002 ?_
  obtain ⟨hk5, K⟩ := K
  obtain ⟨hi6, K⟩ := K
  have K := K _ rfl
  refine r_aaload (pc := 11) (le_of_eq_r hk5 (by decide)) hi6 dX23_output_11 ?_
  exact r_aret (pc := 12) rfl rfl dX23_output_12 K
theorem eX23_output {G : Gx} {d : Nat} {Φ : Out → AH → Prop} (h : AH) (v0 : Nat) (K : WF G h → Aw G mX23_output (d + 1) 0 h Φ 0 [vR v0] [] h) : Cw G mX23_output (d + 1) 0 [vR v0] h Φ := Cw.of rfl K
theorem dX9_start_0 : decode cX9_start 0 = .ok (.aload_n 0, 1) := by decide +kernel
theorem dX9_start_1 : decode cX9_start 1 = .ok (.iload_n 1, 1) := by decide +kernel
theorem dX9_start_2 : decode cX9_start 2 = .ok (.baload, 1) := by decide +kernel
theorem dX9_start_3 : decode cX9_start 3 = .ok (.sipush 255, 3) := by decide +kernel
theorem dX9_start_6 : decode cX9_start 6 = .ok (.iand, 1) := by decide +kernel
theorem dX9_start_7 : decode cX9_start 7 = .ok (.bipush 16, 2) := by decide +kernel
theorem dX9_start_9 : decode cX9_start 9 = .ok (.ishl, 1) := by decide +kernel
theorem dX9_start_10 : decode cX9_start 10 = .ok (.aload_n 0, 1) := by decide +kernel
theorem dX9_start_11 : decode cX9_start 11 = .ok (.iload_n 1, 1) := by decide +kernel
theorem dX9_start_12 : decode cX9_start 12 = .ok (.iconst 1, 1) := by decide +kernel
theorem dX9_start_13 : decode cX9_start 13 = .ok (.iadd, 1) := by decide +kernel
theorem dX9_start_14 : decode cX9_start 14 = .ok (.baload, 1) := by decide +kernel
theorem dX9_start_15 : decode cX9_start 15 = .ok (.sipush 255, 3) := by decide +kernel
theorem dX9_start_18 : decode cX9_start 18 = .ok (.iand, 1) := by decide +kernel
theorem dX9_start_19 : decode cX9_start 19 = .ok (.bipush 8, 2) := by decide +kernel
theorem dX9_start_21 : decode cX9_start 21 = .ok (.ishl, 1) := by decide +kernel
theorem dX9_start_22 : decode cX9_start 22 = .ok (.ior, 1) := by decide +kernel
theorem dX9_start_23 : decode cX9_start 23 = .ok (.aload_n 0, 1) := by decide +kernel
theorem dX9_start_24 : decode cX9_start 24 = .ok (.iload_n 1, 1) := by decide +kernel
theorem dX9_start_25 : decode cX9_start 25 = .ok (.iconst 2, 1) := by decide +kernel
theorem dX9_start_26 : decode cX9_start 26 = .ok (.iadd, 1) := by decide +kernel
theorem dX9_start_27 : decode cX9_start 27 = .ok (.baload, 1) := by decide +kernel
theorem dX9_start_28 : decode cX9_start 28 = .ok (.sipush 255, 3) := by decide +kernel
theorem dX9_start_31 : decode cX9_start 31 = .ok (.iand, 1) := by decide +kernel
theorem dX9_start_32 : decode cX9_start 32 = .ok (.ior, 1) := by decide +kernel
theorem dX9_start_33 : decode cX9_start 33 = .ok (.istore_n 3, 1) := by decide +kernel
theorem dX9_start_34 : decode cX9_start 34 = .ok (.iload_n 3, 1) := by decide +kernel
theorem dX9_start_35 : decode cX9_start 35 = .ok (.bipush 31, 2) := by decide +kernel
theorem dX9_start_37 : decode cX9_start 37 = .ok (.imul, 1) := by decide +kernel
theorem dX9_start_38 : decode cX9_start 38 = .ok (.iload_n 2, 1) := by decide +kernel
theorem dX9_start_39 : decode cX9_start 39 = .ok (.iadd, 1) := by decide +kernel
theorem dX9_start_40 : decode cX9_start 40 = .ok (.sipush 1023, 3) := by decide +kernel
theorem dX9_start_43 : decode cX9_start 43 = .ok (.iand, 1) := by decide +kernel
theorem dX9_start_44 : decode cX9_start 44 = .ok (.ireturn, 1) := by decide +kernel
/-! CoinJudge$Coins.start([BII)I -/
set_option maxHeartbeats 4000000 in
theorem sX9_start_0 {G : Gx} {d t : Nat} {h0 : AH} {Φ : Out → AH → Prop} (h : AH) (v0 : Nat) (v1 : Int32) (v2 : Int32) (K : h.kd v0 = 101 ∧ vp_in v1 (h.ai v0).length ∧ vp_in (v1 + 1) (h.ai v0).length ∧ vp_in (v1 + 2) (h.ai v0).length ∧ ∀ u5 : Int32, u5 = (((jshl (((h.ai v0).getD (v1.toNatClampNeg) 0) &&& 255) 16) ||| (jshl (((h.ai v0).getD ((v1 + 1).toNatClampNeg) 0) &&& 255) 8)) ||| (((h.ai v0).getD ((v1 + 2).toNatClampNeg) 0) &&& 255)) → Φ (.inl (some (vI (((u5 * 31) + v2) &&& 1023)))) h) : Aw G mX9_start (d + 1) t h0 Φ 0 [vR v0, vI v1, vI v2, vU] [] h := by
  refine r_aload_n (pc := 0) dX9_start_0 rfl ?_
  refine r_iload_n (pc := 1) dX9_start_1 rfl ?_
  obtain ⟨hk1, K⟩ := K
  obtain ⟨hi2, K⟩ := K
  refine r_baload (pc := 2) hk1 hi2 dX9_start_2 ?_
  refine r_sipush (pc := 3) (x := 255) dX9_start_3 rfl ?_
  refine r_iand (pc := 6) dX9_start_6 ?_
  refine r_bipush (pc := 7) (x := 16) dX9_start_7 rfl ?_
  refine r_jshl (pc := 9) dX9_start_9 ?_
  refine r_aload_n (pc := 10) dX9_start_10 rfl ?_
  refine r_iload_n (pc := 11) dX9_start_11 rfl ?_
  refine r_iconst (pc := 12) (x := 1) dX9_start_12 rfl ?_
  refine r_iadd (pc := 13) dX9_start_13 ?_
  obtain ⟨hi3, K⟩ := K
  refine r_baload (pc := 14) hk1 hi3 dX9_start_14 ?_
  refine r_sipush (pc := 15) (x := 255) dX9_start_15 rfl ?_
  refine r_iand (pc := 18) dX9_start_18 ?_
  refine r_bipush (pc := 19) (x := 8) dX9_start_19 rfl ?_
  refine r_jshl (pc := 21) dX9_start_21 ?_
  refine r_ior (pc := 22) dX9_start_22 ?_
  refine r_aload_n (pc := 23) dX9_start_23 rfl ?_
  refine r_iload_n (pc := 24) dX9_start_24 rfl ?_
  refine r_iconst (pc := 25) (x := 2) dX9_start_25 rfl ?_
  refine r_iadd (pc := 26) dX9_start_26 ?_
  obtain ⟨hi4, K⟩ := K
  refine r_baload (pc := 27) hk1 hi4 dX9_start_27 ?_
  refine r_sipush (pc := 28) (x := 255) dX9_start_28 rfl ?_
  refine r_iand (pc := 31) dX9_start_31 ?_
  refine r_ior (pc := 32) dX9_start_32 ?_
  have K := K _ rfl
  refine r_istore_n (pc := 33) (lv' := [_, _, _, _]) dX9_start_33 (by decide) rfl ?_
  refine r_iload_n (pc := 34) dX9_start_34 rfl ?_
  refine r_bipush (pc := 35) (x := 31) dX9_start_35 rfl ?_
  refine r_imul (pc := 37) dX9_start_37 ?_
  refine r_iload_n (pc := 38) dX9_start_38 rfl ?_
  refine r_iadd (pc := 39) dX9_start_39 ?_
  refine r_sipush (pc := 40) (x := 1023) dX9_start_40 rfl ?_
  refine r_iand (pc := 43) dX9_start_43 ?_
  exact r_iret (pc := 44) rfl rfl dX9_start_44 K
theorem eX9_start {G : Gx} {d : Nat} {Φ : Out → AH → Prop} (h : AH) (v0 : Nat) (v1 : Int32) (v2 : Int32) (K : WF G h → Aw G mX9_start (d + 1) 0 h Φ 0 [vR v0, vI v1, vI v2, vU] [] h) : Cw G mX9_start (d + 1) 0 [vR v0, vI v1, vI v2] h Φ := Cw.of rfl K
theorem dX9_find_0 : decode cX9_find 0 = .ok (.aload_n 1, 1) := by decide +kernel
theorem dX9_find_1 : decode cX9_find 1 = .ok (.iload_n 2, 1) := by decide +kernel
theorem dX9_find_2 : decode cX9_find 2 = .ok (.iload_n 3, 1) := by decide +kernel
theorem dX9_find_3 : decode cX9_find 3 = .ok (.invokestatic 15, 3) := by decide +kernel
theorem dX9_find_6 : decode cX9_find 6 = .ok (.istore 4, 2) := by decide +kernel
theorem dX9_find_8 : decode cX9_find 8 = .ok (.aload_n 0, 1) := by decide +kernel
theorem dX9_find_9 : decode cX9_find 9 = .ok (.getfield 9, 3) := by decide +kernel
theorem dX9_find_12 : decode cX9_find 12 = .ok (.iload 4, 2) := by decide +kernel
theorem dX9_find_14 : decode cX9_find 14 = .ok (.aaload, 1) := by decide +kernel
theorem dX9_find_15 : decode cX9_find 15 = .ok (.ifnull 51, 3) := by decide +kernel
theorem dX9_find_18 : decode cX9_find 18 = .ok (.aload_n 0, 1) := by decide +kernel
theorem dX9_find_19 : decode cX9_find 19 = .ok (.getfield 9, 3) := by decide +kernel
theorem dX9_find_22 : decode cX9_find 22 = .ok (.iload 4, 2) := by decide +kernel
theorem dX9_find_24 : decode cX9_find 24 = .ok (.aaload, 1) := by decide +kernel
theorem dX9_find_25 : decode cX9_find 25 = .ok (.getfield 19, 3) := by decide +kernel
theorem dX9_find_28 : decode cX9_find 28 = .ok (.iload_n 3, 1) := by decide +kernel
theorem dX9_find_29 : decode cX9_find 29 = .ok (.if_icmp .ne 24, 3) := by decide +kernel
theorem dX9_find_32 : decode cX9_find 32 = .ok (.aload_n 0, 1) := by decide +kernel
theorem dX9_find_33 : decode cX9_find 33 = .ok (.getfield 9, 3) := by decide +kernel
theorem dX9_find_36 : decode cX9_find 36 = .ok (.iload 4, 2) := by decide +kernel
theorem dX9_find_38 : decode cX9_find 38 = .ok (.aaload, 1) := by decide +kernel
theorem dX9_find_39 : decode cX9_find 39 = .ok (.getfield 23, 3) := by decide +kernel
theorem dX9_find_42 : decode cX9_find 42 = .ok (.aload_n 1, 1) := by decide +kernel
theorem dX9_find_43 : decode cX9_find 43 = .ok (.iload_n 2, 1) := by decide +kernel
theorem dX9_find_44 : decode cX9_find 44 = .ok (.invokevirtual 27, 3) := by decide +kernel
theorem dX9_find_47 : decode cX9_find 47 = .ok (.ifCond .eq 6, 3) := by decide +kernel
theorem dX9_find_50 : decode cX9_find 50 = .ok (.iload 4, 2) := by decide +kernel
theorem dX9_find_52 : decode cX9_find 52 = .ok (.ireturn, 1) := by decide +kernel
theorem dX9_find_53 : decode cX9_find 53 = .ok (.iload 4, 2) := by decide +kernel
theorem dX9_find_55 : decode cX9_find 55 = .ok (.iconst 1, 1) := by decide +kernel
theorem dX9_find_56 : decode cX9_find 56 = .ok (.iadd, 1) := by decide +kernel
theorem dX9_find_57 : decode cX9_find 57 = .ok (.sipush 1023, 3) := by decide +kernel
theorem dX9_find_60 : decode cX9_find 60 = .ok (.iand, 1) := by decide +kernel
theorem dX9_find_61 : decode cX9_find 61 = .ok (.istore 4, 2) := by decide +kernel
theorem dX9_find_63 : decode cX9_find 63 = .ok (.goto (-55), 3) := by decide +kernel
theorem dX9_find_66 : decode cX9_find 66 = .ok (.iconst (-1), 1) := by decide +kernel
theorem dX9_find_67 : decode cX9_find 67 = .ok (.iload 4, 2) := by decide +kernel
theorem dX9_find_69 : decode cX9_find 69 = .ok (.isub, 1) := by decide +kernel
theorem dX9_find_70 : decode cX9_find 70 = .ok (.ireturn, 1) := by decide +kernel
/-! CoinJudge$Coins.find([BII)I -/
set_option maxHeartbeats 4000000 in
theorem sX9_find_0 {G : Gx} {d t : Nat} {h0 : AH} {Φ : Out → AH → Prop} (h : AH) (v0 : Nat) (v1 : Nat) (v2 : Int32) (v3 : Int32) (K : Cw G mX9_start d 0 [vR v1, vI v2, vI v3] h (kI (fun x1 h2 => Aw G mX9_find (d + 1) t h0 Φ 8 [vR v0, vR v1, vI v2, vI v3, vI x1] [] h2) (fun x h => Φ (.inr x) h))) : Aw G mX9_find (d + 1) t h0 Φ 0 [vR v0, vR v1, vI v2, vI v3, vU] [] h := by
  refine r_aload_n (pc := 0) dX9_find_0 rfl ?_
  refine r_iload_n (pc := 1) dX9_find_1 rfl ?_
  refine r_iload_n (pc := 2) dX9_find_2 rfl ?_
  refine r_callS_I (pc := 3) (Y := mX9_start) (vs := [_, _, _]) (st := []) q1220 q1221 q163 dX9_find_3 rfl cd_X9_start rfl rfl fp_X9_find_X9_start K (fun x1 h2 eh2 wh2 K => ?_) (fun x h1 _ _ e => Tw.out rfl e)
  refine r_istore (pc := 6) (lv' := [_, _, _, _, _]) dX9_find_6 (by decide) rfl ?_
  refine r_mask (pc := 8) [true, true, true, true, true] rfl ?_
  exact K
theorem eX9_find {G : Gx} {d : Nat} {Φ : Out → AH → Prop} (h : AH) (v0 : Nat) (v1 : Nat) (v2 : Int32) (v3 : Int32) (K : WF G h → Aw G mX9_find (d + 1) 0 h Φ 0 [vR v0, vR v1, vI v2, vI v3, vU] [] h) : Cw G mX9_find (d + 1) 0 [vR v0, vR v1, vI v2, vI v3] h Φ := Cw.of rfl K
set_option maxHeartbeats 4000000 in
theorem sX9_find_8 {G : Gx} {d t : Nat} {h0 : AH} {Φ : Out → AH → Prop} (h : AH) (v0 : Nat) (v1 : Nat) (v2 : Int32) (v3 : Int32) (v4 : Int32) (K : h.kd v0 = 9 ∧ ∀ r2 : Nat, r2 = (h.r 9000 v0) → h.kd r2 = 105 ∧ vp_in v4 (h.ar r2).length ∧ ∀ r5 : Nat, r5 = ((h.ar r2).getD (v4.toNatClampNeg) 0) → ((r5 = 0 → Φ (.inl (some (vI ((-1) - v4)))) h) ∧ (¬ r5 = 0 → vp_in v4 (h.ar r2).length ∧ ∀ r8 : Nat, r8 = ((h.ar r2).getD (v4.toNatClampNeg) 0) → h.kd r8 = 23 ∧ ((¬ (h.i 23002 r8) = v3 → Aw G mX9_find (d + 1) t h0 Φ 8 [vR v0, vR v1, vI v2, vI v3, vI ((v4 + 1) &&& 1023)] [] h) ∧ ((h.i 23002 r8) = v3 → vp_in v4 (h.ar r2).length ∧ ∀ r12 : Nat, r12 = ((h.ar r2).getD (v4.toNatClampNeg) 0) → h.kd r12 = 23 ∧ ∀ r14 : Nat, r14 = (h.r 23001 r12) → h.kd r14 = 18 ∧ Cw G mX18_sameId d 0 [vR r14, vR v1, vI v2] h (kI (fun x15 h16 => ((x15 = 0 → Aw G mX9_find (d + 1) t h0 Φ 8 [vR v0, vR v1, vI v2, vI v3, vI ((v4 + 1) &&& 1023)] [] h16) ∧ (¬ x15 = 0 → Φ (.inl (some (vI v4))) h16))) (fun x h => Φ (.inr x) h))))))) : Aw G mX9_find (d + 1) t h0 Φ 8 [vR v0, vR v1, vI v2, vI v3, vI v4] [] h := by
  refine r_aload_n (pc := 8) dX9_find_8 rfl ?_
  obtain ⟨hk1, K⟩ := K
  have K := K _ rfl
  refine r_getr' (pc := 9) (T := TX9) 9 0 rfl hk1 (Or.inl q578) dX9_find_9 kc9 g9000 ?_
  refine r_iload (pc := 12) dX9_find_12 rfl ?_
  obtain ⟨hk3, K⟩ := K
  obtain ⟨hi4, K⟩ := K
  have K := K _ rfl
  refine r_aaload (pc := 14) (le_of_eq_r hk3 (by decide)) hi4 dX9_find_14 ?_
  refine r_ifnull (pc := 15) (tgt := 66) dX9_find_15 rfl (fun c6 => ?_) (fun c6 => ?_)
  · have K := K.1 c6
    refine r_iconst (pc := 66) (x := (-1)) dX9_find_66 rfl ?_
    refine r_iload (pc := 67) dX9_find_67 rfl ?_
    refine r_isub (pc := 69) dX9_find_69 ?_
    exact r_iret (pc := 70) rfl rfl dX9_find_70 K
  · have K := K.2 c6
    refine r_aload_n (pc := 18) dX9_find_18 rfl ?_
    refine r_getr' (pc := 19) (T := TX9) 9 0 rfl hk1 (Or.inl q578) dX9_find_19 kc9 g9000 ?_
    refine r_iload (pc := 22) dX9_find_22 rfl ?_
    obtain ⟨hi7, K⟩ := K
    have K := K _ rfl
    refine r_aaload (pc := 24) (le_of_eq_r hk3 (by decide)) hi7 dX9_find_24 ?_
    obtain ⟨hk9, K⟩ := K
    refine r_geti' (pc := 25) (T := TX23) 23 2 rfl hk9 (Or.inr (Or.inl ⟨_, q1683⟩)) dX9_find_25 kc23 g23002 ?_
    refine r_iload_n (pc := 28) dX9_find_28 rfl ?_
    refine r_icmp_ne (pc := 29) (tgt := 53) dX9_find_29 rfl (fun c10 => ?_) (fun c10 => ?_)
    · have K := K.1 c10
      refine r_iload (pc := 53) dX9_find_53 rfl ?_
      refine r_iconst (pc := 55) (x := 1) dX9_find_55 rfl ?_
      refine r_iadd (pc := 56) dX9_find_56 ?_
      refine r_sipush (pc := 57) (x := 1023) dX9_find_57 rfl ?_
      refine r_iand (pc := 60) dX9_find_60 ?_
      refine r_istore (pc := 61) (lv' := [_, _, _, _, _]) dX9_find_61 (by decide) rfl ?_
      refine r_goto (pc := 63) (tgt := 8) dX9_find_63 rfl ?_
      refine r_mask (pc := 8) [true, true, true, true, true] rfl ?_
      exact K
    · have K := K.2 c10
      refine r_aload_n (pc := 32) dX9_find_32 rfl ?_
      refine r_getr' (pc := 33) (T := TX9) 9 0 rfl hk1 (Or.inl q578) dX9_find_33 kc9 g9000 ?_
      refine r_iload (pc := 36) dX9_find_36 rfl ?_
      obtain ⟨hi11, K⟩ := K
      have K := K _ rfl
      refine r_aaload (pc := 38) (le_of_eq_r hk3 (by decide)) hi11 dX9_find_38 ?_
      obtain ⟨hk13, K⟩ := K
      have K := K _ rfl
      refine r_getr' (pc := 39) (T := TX23) 23 1 rfl hk13 (Or.inr (Or.inl ⟨_, q1681⟩)) dX9_find_39 kc23 g23001 ?_
      refine r_aload_n (pc := 42) dX9_find_42 rfl ?_
      refine r_iload_n (pc := 43) dX9_find_43 rfl ?_
      obtain ⟨hk17, K⟩ := K
      refine r_callV_I (pc := 44) (Y := mX18_sameId) (vs := [_, _]) (st := []) hk17 rfl kc18 q1223 q1224 q1225 dX9_find_44 rfl cd_X18_sameId rfl rfl fp_X9_find_X18_sameId K (fun x15 h16 eh16 wh16 K => ?_) (fun x h1 _ _ e => Tw.out rfl e)
      refine r_if_eq (pc := 47) (tgt := 53) dX9_find_47 rfl (fun c18 => ?_) (fun c18 => ?_)
      · have K := K.1 c18
        refine r_iload (pc := 53) dX9_find_53 rfl ?_
        refine r_iconst (pc := 55) (x := 1) dX9_find_55 rfl ?_
        refine r_iadd (pc := 56) dX9_find_56 ?_
        refine r_sipush (pc := 57) (x := 1023) dX9_find_57 rfl ?_
        refine r_iand (pc := 60) dX9_find_60 ?_
        refine r_istore (pc := 61) (lv' := [_, _, _, _, _]) dX9_find_61 (by decide) rfl ?_
        refine r_goto (pc := 63) (tgt := 8) dX9_find_63 rfl ?_
        refine r_mask (pc := 8) [true, true, true, true, true] rfl ?_
        exact K
      · have K := K.2 c18
        refine r_iload (pc := 50) dX9_find_50 rfl ?_
        exact r_iret (pc := 52) rfl rfl dX9_find_52 K
theorem dX9_put_0 : decode cX9_put 0 = .ok (.aload_n 0, 1) := by decide +kernel
theorem dX9_put_1 : decode cX9_put 1 = .ok (.aload_n 1, 1) := by decide +kernel
theorem dX9_put_2 : decode cX9_put 2 = .ok (.getfield 23, 3) := by decide +kernel
theorem dX9_put_5 : decode cX9_put 5 = .ok (.getfield 36, 3) := by decide +kernel
theorem dX9_put_8 : decode cX9_put 8 = .ok (.iconst 0, 1) := by decide +kernel
theorem dX9_put_9 : decode cX9_put 9 = .ok (.aload_n 1, 1) := by decide +kernel
theorem dX9_put_10 : decode cX9_put 10 = .ok (.getfield 19, 3) := by decide +kernel
theorem dX9_put_13 : decode cX9_put 13 = .ok (.invokevirtual 33, 3) := by decide +kernel
theorem dX9_put_16 : decode cX9_put 16 = .ok (.istore_n 2, 1) := by decide +kernel
theorem dX9_put_17 : decode cX9_put 17 = .ok (.aload_n 0, 1) := by decide +kernel
theorem dX9_put_18 : decode cX9_put 18 = .ok (.dup, 1) := by decide +kernel
theorem dX9_put_19 : decode cX9_put 19 = .ok (.getfield 40, 3) := by decide +kernel
theorem dX9_put_22 : decode cX9_put 22 = .ok (.aload_n 1, 1) := by decide +kernel
theorem dX9_put_23 : decode cX9_put 23 = .ok (.invokevirtual 44, 3) := by decide +kernel
theorem dX9_put_26 : decode cX9_put 26 = .ok (.getfield 48, 3) := by decide +kernel
theorem dX9_put_29 : decode cX9_put 29 = .ok (.ladd, 1) := by decide +kernel
theorem dX9_put_30 : decode cX9_put 30 = .ok (.putfield 40, 3) := by decide +kernel
theorem dX9_put_33 : decode cX9_put 33 = .ok (.iload_n 2, 1) := by decide +kernel
theorem dX9_put_34 : decode cX9_put 34 = .ok (.ifCond .lt 35, 3) := by decide +kernel
theorem dX9_put_37 : decode cX9_put 37 = .ok (.aload_n 0, 1) := by decide +kernel
theorem dX9_put_38 : decode cX9_put 38 = .ok (.getfield 9, 3) := by decide +kernel
theorem dX9_put_41 : decode cX9_put 41 = .ok (.iload_n 2, 1) := by decide +kernel
theorem dX9_put_42 : decode cX9_put 42 = .ok (.aaload, 1) := by decide +kernel
theorem dX9_put_43 : decode cX9_put 43 = .ok (.astore_n 3, 1) := by decide +kernel
theorem dX9_put_44 : decode cX9_put 44 = .ok (.aload_n 0, 1) := by decide +kernel
theorem dX9_put_45 : decode cX9_put 45 = .ok (.dup, 1) := by decide +kernel
theorem dX9_put_46 : decode cX9_put 46 = .ok (.getfield 40, 3) := by decide +kernel
theorem dX9_put_49 : decode cX9_put 49 = .ok (.aload_n 3, 1) := by decide +kernel
theorem dX9_put_50 : decode cX9_put 50 = .ok (.invokevirtual 44, 3) := by decide +kernel
theorem dX9_put_53 : decode cX9_put 53 = .ok (.getfield 48, 3) := by decide +kernel
theorem dX9_put_56 : decode cX9_put 56 = .ok (.lsub, 1) := by decide +kernel
theorem dX9_put_57 : decode cX9_put 57 = .ok (.putfield 40, 3) := by decide +kernel
theorem dX9_put_60 : decode cX9_put 60 = .ok (.aload_n 0, 1) := by decide +kernel
theorem dX9_put_61 : decode cX9_put 61 = .ok (.getfield 9, 3) := by decide +kernel
theorem dX9_put_64 : decode cX9_put 64 = .ok (.iload_n 2, 1) := by decide +kernel
theorem dX9_put_65 : decode cX9_put 65 = .ok (.aload_n 1, 1) := by decide +kernel
theorem dX9_put_66 : decode cX9_put 66 = .ok (.aastore, 1) := by decide +kernel
theorem dX9_put_67 : decode cX9_put 67 = .ok (.aload_n 3, 1) := by decide +kernel
theorem dX9_put_68 : decode cX9_put 68 = .ok (.areturn, 1) := by decide +kernel
theorem dX9_put_69 : decode cX9_put 69 = .ok (.aload_n 0, 1) := by decide +kernel
theorem dX9_put_70 : decode cX9_put 70 = .ok (.getfield 9, 3) := by decide +kernel
theorem dX9_put_73 : decode cX9_put 73 = .ok (.iconst (-1), 1) := by decide +kernel
theorem dX9_put_74 : decode cX9_put 74 = .ok (.iload_n 2, 1) := by decide +kernel
theorem dX9_put_75 : decode cX9_put 75 = .ok (.isub, 1) := by decide +kernel
theorem dX9_put_76 : decode cX9_put 76 = .ok (.aload_n 1, 1) := by decide +kernel
theorem dX9_put_77 : decode cX9_put 77 = .ok (.aastore, 1) := by decide +kernel
theorem dX9_put_78 : decode cX9_put 78 = .ok (.aload_n 0, 1) := by decide +kernel
theorem dX9_put_79 : decode cX9_put 79 = .ok (.dup, 1) := by decide +kernel
theorem dX9_put_80 : decode cX9_put 80 = .ok (.getfield 51, 3) := by decide +kernel
theorem dX9_put_83 : decode cX9_put 83 = .ok (.iconst 1, 1) := by decide +kernel
theorem dX9_put_84 : decode cX9_put 84 = .ok (.iadd, 1) := by decide +kernel
theorem dX9_put_85 : decode cX9_put 85 = .ok (.putfield 51, 3) := by decide +kernel
theorem dX9_put_88 : decode cX9_put 88 = .ok (.aconst_null, 1) := by decide +kernel
theorem dX9_put_89 : decode cX9_put 89 = .ok (.areturn, 1) := by decide +kernel
/-! CoinJudge$Coins.put(LCoinJudge$Coin;)LCoinJudge$Coin; -/
set_option maxHeartbeats 4000000 in
theorem sX9_put_0 {G : Gx} {d t : Nat} {h0 : AH} {Φ : Out → AH → Prop} (h : AH) (v0 : Nat) (v1 : Nat) (K : h.kd v1 = 23 ∧ ∀ r2 : Nat, r2 = (h.r 23001 v1) → h.kd r2 = 18 ∧ ∀ r4 : Nat, r4 = (h.r 18002 r2) → h.kd v0 = 9 ∧ Cw G mX9_find d 0 [vR v0, vR r4, vI 0, vI (h.i 23002 v1)] h (kI (fun x5 h6 => Cw G mX23_output d 0 [vR v1] h6 (kR (fun x9 h10 => h10.kd x9 = 20 ∧ ∀ h14 : AH, h14 = h10.pl 9002 v0 ((h6.l 9002 v0) + (h10.l 20000 x9)) → ((x5 < 0 → ∀ r17 : Nat, r17 = (h14.r 9000 v0) → h14.kd r17 = 105 ∧ vp_in ((-1) - x5) (h14.ar r17).length ∧ (v1 = 0 ∨ h14.kd v1 = 23) ∧ ∀ h21 : AH, h21 = h14.wr r17 ((h14.ar r17).set (((-1) - x5).toNatClampNeg) v1) → ∀ h23 : AH, h23 = h21.pi 9001 v0 ((h21.i 9001 v0) + 1) → Φ (.inl (some (vR 0))) h23) ∧ (¬ x5 < 0 → ∀ r25 : Nat, r25 = (h14.r 9000 v0) → h14.kd r25 = 105 ∧ vp_in x5 (h14.ar r25).length ∧ ∀ r28 : Nat, r28 = ((h14.ar r25).getD (x5.toNatClampNeg) 0) → h14.kd r28 = 23 ∧ Cw G mX23_output d 0 [vR r28] h14 (kR (fun x29 h30 => h30.kd x29 = 20 ∧ ∀ h34 : AH, h34 = h30.pl 9002 v0 ((h14.l 9002 v0) - (h30.l 20000 x29)) → vp_in x5 (h34.ar r25).length ∧ (v1 = 0 ∨ h34.kd v1 = 23) ∧ ∀ h43 : AH, h43 = h34.wr r25 ((h34.ar r25).set (x5.toNatClampNeg) v1) → Φ (.inl (some (vR r28))) h43) (fun x h => Φ (.inr x) h))))) (fun x h => Φ (.inr x) h))) (fun x h => Φ (.inr x) h))) : Aw G mX9_put (d + 1) t h0 Φ 0 [vR v0, vR v1, vU, vU] [] h := by
  refine r_aload_n (pc := 0) dX9_put_0 rfl ?_
  refine r_aload_n (pc := 1) dX9_put_1 rfl ?_
  obtain ⟨hk1, K⟩ := K
  have K := K _ rfl
  refine r_getr' (pc := 2) (T := TX23) 23 1 rfl hk1 (Or.inr (Or.inl ⟨_, q1681⟩)) dX9_put_2 kc23 g23001 ?_
  obtain ⟨hk3, K⟩ := K
  have K := K _ rfl
  refine r_getr' (pc := 5) (T := TX18) 18 2 rfl hk3 (Or.inr (Or.inl ⟨_, q1080⟩)) dX9_put_5 kc18 g18002 ?_
  refine r_iconst (pc := 8) (x := 0) dX9_put_8 rfl ?_
  refine r_aload_n (pc := 9) dX9_put_9 rfl ?_
  refine r_geti' (pc := 10) (T := TX23) 23 2 rfl hk1 (Or.inr (Or.inl ⟨_, q1683⟩)) dX9_put_10 kc23 g23002 ?_
  obtain ⟨hk7, K⟩ := K
  refine r_callV_I (pc := 13) (Y := mX9_find) (vs := [_, _, _]) (st := []) hk7 rfl kc9 q1216 q1218 qs12 dX9_put_13 rfl cd_X9_find rfl rfl fp_X9_put_X9_find K (fun x5 h6 eh6 wh6 K => ?_) (fun x h1 _ _ e => Tw.out rfl e)
  refine r_istore_n (pc := 16) (lv' := [_, _, _, _]) dX9_put_16 (by decide) rfl ?_
  refine r_aload_n (pc := 17) dX9_put_17 rfl ?_
  refine r_dup (pc := 18) rfl dX9_put_18 ?_
  have hk8 := kd_ext eh6 hk7 (nz rfl)
  refine r_getl' (pc := 19) (T := TX9) 9 2 rfl hk8 (Or.inl q581) dX9_put_19 kc9 g9002 ?_
  refine r_aload_n (pc := 22) dX9_put_22 rfl ?_
  have hk11 := kd_ext eh6 hk1 (nz rfl)
  refine r_callV_R (pc := 23) (Y := mX23_output) (vs := []) (st := [_, _]) hk11 rfl kc23 q1671 q1252 q1253 dX9_put_23 rfl cd_X23_output rfl rfl fp_X9_put_X23_output K (fun x9 h10 eh10 wh10 K => ?_) (fun x h1 _ _ e => Tw.out rfl e)
  obtain ⟨hk12, K⟩ := K
  refine r_getl' (pc := 26) (T := TX20) 20 0 rfl hk12 (Or.inr (Or.inl ⟨_, q1146⟩)) dX9_put_26 kc20 g20000 ?_
  refine r_ladd (pc := 29) dX9_put_29 ?_
  have hk13 := kd_ext eh10 hk8 (nz rfl)
  refine r_putl (pc := 30) (T := TX9) (key := 9002) 9 2 hk13 (Or.inl q581) dX9_put_30 kc9 rfl (Or.inl rfl) (Or.inl (em rfl)) ?_
  refine r_nameH (fun h14 eh14 => ?_)
  have K := K h14 eh14
  refine r_iload_n (pc := 33) dX9_put_33 rfl ?_
  refine r_if_lt (pc := 34) (tgt := 69) dX9_put_34 rfl (fun c15 => ?_) (fun c15 => ?_)
  · have K := K.1 c15
    refine r_aload_n (pc := 69) dX9_put_69 rfl ?_
    have hk16 := kd_pl eh14 hk13
    have K := K _ rfl
    refine r_getr' (pc := 70) (T := TX9) 9 0 rfl hk16 (Or.inl q578) dX9_put_70 kc9 g9000 ?_
    refine r_iconst (pc := 73) (x := (-1)) dX9_put_73 rfl ?_
    refine r_iload_n (pc := 74) dX9_put_74 rfl ?_
    refine r_isub (pc := 75) dX9_put_75 ?_
    refine r_aload_n (pc := 76) dX9_put_76 rfl ?_
    obtain ⟨hk18, K⟩ := K
    obtain ⟨hi19, K⟩ := K
    obtain ⟨hk20, K⟩ := K
    refine r_aastore (pc := 77) 105 23 hk18 rfl kc23 hi19 hk20 (Or.inl (em rfl)) dX9_put_77 rfl ?_
    refine r_nameH (fun h21 eh21 => ?_)
    have K := K h21 eh21
    refine r_aload_n (pc := 78) dX9_put_78 rfl ?_
    refine r_dup (pc := 79) rfl dX9_put_79 ?_
    have hk22 := kd_wr eh21 hk16
    refine r_geti' (pc := 80) (T := TX9) 9 1 rfl hk22 (Or.inl q579) dX9_put_80 kc9 g9001 ?_
    refine r_iconst (pc := 83) (x := 1) dX9_put_83 rfl ?_
    refine r_iadd (pc := 84) dX9_put_84 ?_
    refine r_puti (pc := 85) (T := TX9) (key := 9001) 9 1 hk22 (Or.inl q579) dX9_put_85 kc9 rfl (Or.inl rfl) (Or.inl (em rfl)) ?_
    refine r_nameH (fun h23 eh23 => ?_)
    have K := K h23 eh23
    refine r_null (pc := 88) dX9_put_88 ?_
    exact r_aret (pc := 89) rfl rfl dX9_put_89 K
  · have K := K.2 c15
    refine r_aload_n (pc := 37) dX9_put_37 rfl ?_
    have hk24 := kd_pl eh14 hk13
    have K := K _ rfl
    refine r_getr' (pc := 38) (T := TX9) 9 0 rfl hk24 (Or.inl q578) dX9_put_38 kc9 g9000 ?_
    refine r_iload_n (pc := 41) dX9_put_41 rfl ?_
    obtain ⟨hk26, K⟩ := K
    obtain ⟨hi27, K⟩ := K
    have K := K _ rfl
    refine r_aaload (pc := 42) (le_of_eq_r hk26 (by decide)) hi27 dX9_put_42 ?_
    refine r_astore_n (pc := 43) (lv' := [_, _, _, _]) dX9_put_43 (by decide) rfl ?_
    refine r_aload_n (pc := 44) dX9_put_44 rfl ?_
    refine r_dup (pc := 45) rfl dX9_put_45 ?_
    refine r_getl' (pc := 46) (T := TX9) 9 2 rfl hk24 (Or.inl q581) dX9_put_46 kc9 g9002 ?_
    refine r_aload_n (pc := 49) dX9_put_49 rfl ?_
    obtain ⟨hk31, K⟩ := K
    refine r_callV_R (pc := 50) (Y := mX23_output) (vs := []) (st := [_, _]) hk31 rfl kc23 q1671 q1252 q1253 dX9_put_50 rfl cd_X23_output rfl rfl fp_X9_put_X23_output K (fun x29 h30 eh30 wh30 K => ?_) (fun x h1 _ _ e => Tw.out rfl e)
    obtain ⟨hk32, K⟩ := K
    refine r_getl' (pc := 53) (T := TX20) 20 0 rfl hk32 (Or.inr (Or.inl ⟨_, q1146⟩)) dX9_put_53 kc20 g20000 ?_
    refine r_lsub (pc := 56) dX9_put_56 ?_
    have hk33 := kd_ext eh30 hk24 (nz rfl)
    refine r_putl (pc := 57) (T := TX9) (key := 9002) 9 2 hk33 (Or.inl q581) dX9_put_57 kc9 rfl (Or.inl rfl) (Or.inl (em rfl)) ?_
    refine r_nameH (fun h34 eh34 => ?_)
    have K := K h34 eh34
    refine r_aload_n (pc := 60) dX9_put_60 rfl ?_
    have hk35 := kd_pl eh34 hk33
    have hv36 := fr_self (key := 9000) hk24
    have hv37 := (fr_ext (key := 9000) eh30 hk24 (nz rfl) (ne0 wh30 hk33 (nz rfl)) (nm rfl)).trans hv36
    have hv38 := fr_pl (key := 9000) eh34 hv37
    refine r_getr' (pc := 61) (T := TX9) 9 0 hv38 hk35 (Or.inl q578) dX9_put_61 kc9 g9000 ?_
    refine r_iload_n (pc := 64) dX9_put_64 rfl ?_
    refine r_aload_n (pc := 65) dX9_put_65 rfl ?_
    have hk39 := kd_ext eh30 hk26 (nz rfl)
    have hk40 := kd_pl eh34 hk39
    obtain ⟨hi41, K⟩ := K
    obtain ⟨hk42, K⟩ := K
    refine r_aastore (pc := 66) 105 23 hk40 rfl kc23 hi41 hk42 (Or.inl (em rfl)) dX9_put_66 rfl ?_
    refine r_nameH (fun h43 eh43 => ?_)
    have K := K h43 eh43
    refine r_aload_n (pc := 67) dX9_put_67 rfl ?_
    exact r_aret (pc := 68) rfl rfl dX9_put_68 K
theorem eX9_put {G : Gx} {d : Nat} {Φ : Out → AH → Prop} (h : AH) (v0 : Nat) (v1 : Nat) (K : WF G h → Aw G mX9_put (d + 1) 0 h Φ 0 [vR v0, vR v1, vU, vU] [] h) : Cw G mX9_put (d + 1) 0 [vR v0, vR v1] h Φ := Cw.of rfl K
theorem dX9_remove_0 : decode cX9_remove 0 = .ok (.aload_n 0, 1) := by decide +kernel
theorem dX9_remove_1 : decode cX9_remove 1 = .ok (.aload_n 1, 1) := by decide +kernel
theorem dX9_remove_2 : decode cX9_remove 2 = .ok (.iload_n 2, 1) := by decide +kernel
theorem dX9_remove_3 : decode cX9_remove 3 = .ok (.iload_n 3, 1) := by decide +kernel
theorem dX9_remove_4 : decode cX9_remove 4 = .ok (.invokevirtual 33, 3) := by decide +kernel
theorem dX9_remove_7 : decode cX9_remove 7 = .ok (.istore 4, 2) := by decide +kernel
theorem dX9_remove_9 : decode cX9_remove 9 = .ok (.iload 4, 2) := by decide +kernel
theorem dX9_remove_11 : decode cX9_remove 11 = .ok (.ifCond .ge 4, 3) := by decide +kernel
theorem dX9_remove_14 : decode cX9_remove 14 = .ok (.return_, 1) := by decide +kernel
theorem dX9_remove_15 : decode cX9_remove 15 = .ok (.aload_n 0, 1) := by decide +kernel
theorem dX9_remove_16 : decode cX9_remove 16 = .ok (.dup, 1) := by decide +kernel
theorem dX9_remove_17 : decode cX9_remove 17 = .ok (.getfield 40, 3) := by decide +kernel
theorem dX9_remove_20 : decode cX9_remove 20 = .ok (.aload_n 0, 1) := by decide +kernel
theorem dX9_remove_21 : decode cX9_remove 21 = .ok (.getfield 9, 3) := by decide +kernel
theorem dX9_remove_24 : decode cX9_remove 24 = .ok (.iload 4, 2) := by decide +kernel
theorem dX9_remove_26 : decode cX9_remove 26 = .ok (.aaload, 1) := by decide +kernel
theorem dX9_remove_27 : decode cX9_remove 27 = .ok (.invokevirtual 44, 3) := by decide +kernel
theorem dX9_remove_30 : decode cX9_remove 30 = .ok (.getfield 48, 3) := by decide +kernel
theorem dX9_remove_33 : decode cX9_remove 33 = .ok (.lsub, 1) := by decide +kernel
theorem dX9_remove_34 : decode cX9_remove 34 = .ok (.putfield 40, 3) := by decide +kernel
theorem dX9_remove_37 : decode cX9_remove 37 = .ok (.aload_n 0, 1) := by decide +kernel
theorem dX9_remove_38 : decode cX9_remove 38 = .ok (.dup, 1) := by decide +kernel
theorem dX9_remove_39 : decode cX9_remove 39 = .ok (.getfield 51, 3) := by decide +kernel
theorem dX9_remove_42 : decode cX9_remove 42 = .ok (.iconst 1, 1) := by decide +kernel
theorem dX9_remove_43 : decode cX9_remove 43 = .ok (.isub, 1) := by decide +kernel
theorem dX9_remove_44 : decode cX9_remove 44 = .ok (.putfield 51, 3) := by decide +kernel
theorem dX9_remove_47 : decode cX9_remove 47 = .ok (.aload_n 0, 1) := by decide +kernel
theorem dX9_remove_48 : decode cX9_remove 48 = .ok (.getfield 9, 3) := by decide +kernel
theorem dX9_remove_51 : decode cX9_remove 51 = .ok (.iload 4, 2) := by decide +kernel
theorem dX9_remove_53 : decode cX9_remove 53 = .ok (.aconst_null, 1) := by decide +kernel
theorem dX9_remove_54 : decode cX9_remove 54 = .ok (.aastore, 1) := by decide +kernel
theorem dX9_remove_55 : decode cX9_remove 55 = .ok (.iload 4, 2) := by decide +kernel
theorem dX9_remove_57 : decode cX9_remove 57 = .ok (.istore 5, 2) := by decide +kernel
theorem dX9_remove_59 : decode cX9_remove 59 = .ok (.iload 5, 2) := by decide +kernel
theorem dX9_remove_61 : decode cX9_remove 61 = .ok (.iconst 1, 1) := by decide +kernel
theorem dX9_remove_62 : decode cX9_remove 62 = .ok (.iadd, 1) := by decide +kernel
theorem dX9_remove_63 : decode cX9_remove 63 = .ok (.sipush 1023, 3) := by decide +kernel
theorem dX9_remove_66 : decode cX9_remove 66 = .ok (.iand, 1) := by decide +kernel
theorem dX9_remove_67 : decode cX9_remove 67 = .ok (.istore 5, 2) := by decide +kernel
theorem dX9_remove_69 : decode cX9_remove 69 = .ok (.aload_n 0, 1) := by decide +kernel
theorem dX9_remove_70 : decode cX9_remove 70 = .ok (.getfield 9, 3) := by decide +kernel
theorem dX9_remove_73 : decode cX9_remove 73 = .ok (.iload 5, 2) := by decide +kernel
theorem dX9_remove_75 : decode cX9_remove 75 = .ok (.aaload, 1) := by decide +kernel
theorem dX9_remove_76 : decode cX9_remove 76 = .ok (.ifnonnull 4, 3) := by decide +kernel
theorem dX9_remove_79 : decode cX9_remove 79 = .ok (.return_, 1) := by decide +kernel
theorem dX9_remove_80 : decode cX9_remove 80 = .ok (.aload_n 0, 1) := by decide +kernel
theorem dX9_remove_81 : decode cX9_remove 81 = .ok (.getfield 9, 3) := by decide +kernel
theorem dX9_remove_84 : decode cX9_remove 84 = .ok (.iload 5, 2) := by decide +kernel
theorem dX9_remove_86 : decode cX9_remove 86 = .ok (.aaload, 1) := by decide +kernel
theorem dX9_remove_87 : decode cX9_remove 87 = .ok (.getfield 23, 3) := by decide +kernel
theorem dX9_remove_90 : decode cX9_remove 90 = .ok (.getfield 36, 3) := by decide +kernel
theorem dX9_remove_93 : decode cX9_remove 93 = .ok (.iconst 0, 1) := by decide +kernel
theorem dX9_remove_94 : decode cX9_remove 94 = .ok (.aload_n 0, 1) := by decide +kernel
theorem dX9_remove_95 : decode cX9_remove 95 = .ok (.getfield 9, 3) := by decide +kernel
theorem dX9_remove_98 : decode cX9_remove 98 = .ok (.iload 5, 2) := by decide +kernel
theorem dX9_remove_100 : decode cX9_remove 100 = .ok (.aaload, 1) := by decide +kernel
theorem dX9_remove_101 : decode cX9_remove 101 = .ok (.getfield 19, 3) := by decide +kernel
theorem dX9_remove_104 : decode cX9_remove 104 = .ok (.invokestatic 15, 3) := by decide +kernel
theorem dX9_remove_107 : decode cX9_remove 107 = .ok (.istore 6, 2) := by decide +kernel
theorem dX9_remove_109 : decode cX9_remove 109 = .ok (.iload 5, 2) := by decide +kernel
theorem dX9_remove_111 : decode cX9_remove 111 = .ok (.iload 6, 2) := by decide +kernel
theorem dX9_remove_113 : decode cX9_remove 113 = .ok (.isub, 1) := by decide +kernel
theorem dX9_remove_114 : decode cX9_remove 114 = .ok (.sipush 1023, 3) := by decide +kernel
theorem dX9_remove_117 : decode cX9_remove 117 = .ok (.iand, 1) := by decide +kernel
theorem dX9_remove_118 : decode cX9_remove 118 = .ok (.iload 5, 2) := by decide +kernel
theorem dX9_remove_120 : decode cX9_remove 120 = .ok (.iload 4, 2) := by decide +kernel
theorem dX9_remove_122 : decode cX9_remove 122 = .ok (.isub, 1) := by decide +kernel
theorem dX9_remove_123 : decode cX9_remove 123 = .ok (.sipush 1023, 3) := by decide +kernel
theorem dX9_remove_126 : decode cX9_remove 126 = .ok (.iand, 1) := by decide +kernel
theorem dX9_remove_127 : decode cX9_remove 127 = .ok (.if_icmp .ge 6, 3) := by decide +kernel
theorem dX9_remove_130 : decode cX9_remove 130 = .ok (.goto (-71), 3) := by decide +kernel
theorem dX9_remove_133 : decode cX9_remove 133 = .ok (.aload_n 0, 1) := by decide +kernel
theorem dX9_remove_134 : decode cX9_remove 134 = .ok (.getfield 9, 3) := by decide +kernel
theorem dX9_remove_137 : decode cX9_remove 137 = .ok (.iload 4, 2) := by decide +kernel
theorem dX9_remove_139 : decode cX9_remove 139 = .ok (.aload_n 0, 1) := by decide +kernel
theorem dX9_remove_140 : decode cX9_remove 140 = .ok (.getfield 9, 3) := by decide +kernel
theorem dX9_remove_143 : decode cX9_remove 143 = .ok (.iload 5, 2) := by decide +kernel
theorem dX9_remove_145 : decode cX9_remove 145 = .ok (.aaload, 1) := by decide +kernel
theorem dX9_remove_146 : decode cX9_remove 146 = .ok (.aastore, 1) := by decide +kernel
theorem dX9_remove_147 : decode cX9_remove 147 = .ok (.aload_n 0, 1) := by decide +kernel
theorem dX9_remove_148 : decode cX9_remove 148 = .ok (.getfield 9, 3) := by decide +kernel
theorem dX9_remove_151 : decode cX9_remove 151 = .ok (.iload 5, 2) := by decide +kernel
theorem dX9_remove_153 : decode cX9_remove 153 = .ok (.aconst_null, 1) := by decide +kernel
theorem dX9_remove_154 : decode cX9_remove 154 = .ok (.aastore, 1) := by decide +kernel
theorem dX9_remove_155 : decode cX9_remove 155 = .ok (.iload 5, 2) := by decide +kernel
theorem dX9_remove_157 : decode cX9_remove 157 = .ok (.istore 4, 2) := by decide +kernel
theorem dX9_remove_159 : decode cX9_remove 159 = .ok (.goto (-100), 3) := by decide +kernel
/-! CoinJudge$Coins.remove([BII)V -/
set_option maxHeartbeats 4000000 in
theorem sX9_remove_0 {G : Gx} {d t : Nat} {h0 : AH} {Φ : Out → AH → Prop} (h : AH) (v0 : Nat) (v1 : Nat) (v2 : Int32) (v3 : Int32) (K : h.kd v0 = 9 ∧ Cw G mX9_find d 0 [vR v0, vR v1, vI v2, vI v3] h (kI (fun x1 h2 => ((0 ≤ x1 → ∀ r6 : Nat, r6 = (h2.r 9000 v0) → h2.kd r6 = 105 ∧ vp_in x1 (h2.ar r6).length ∧ ∀ r9 : Nat, r9 = ((h2.ar r6).getD (x1.toNatClampNeg) 0) → h2.kd r9 = 23 ∧ Cw G mX23_output d 0 [vR r9] h2 (kR (fun x10 h11 => h11.kd x10 = 20 ∧ ∀ h15 : AH, h15 = h11.pl 9002 v0 ((h2.l 9002 v0) - (h11.l 20000 x10)) → ∀ h17 : AH, h17 = h15.pi 9001 v0 ((h15.i 9001 v0) - 1) → vp_in x1 (h17.ar r6).length ∧ ∀ h27 : AH, h27 = h17.wr r6 ((h17.ar r6).set (x1.toNatClampNeg) 0) → Aw G mX9_remove (d + 1) t h0 Φ 59 [vR v0, vU, vU, vU, vI x1, vI x1, vU] [] h27) (fun x h => Φ (.inr x) h))) ∧ (¬ 0 ≤ x1 → Φ (.inl none) h2))) (fun x h => Φ (.inr x) h))) : Aw G mX9_remove (d + 1) t h0 Φ 0 [vR v0, vR v1, vI v2, vI v3, vU, vU, vU] [] h := by
  refine r_aload_n (pc := 0) dX9_remove_0 rfl ?_
  refine r_aload_n (pc := 1) dX9_remove_1 rfl ?_
  refine r_iload_n (pc := 2) dX9_remove_2 rfl ?_
  refine r_iload_n (pc := 3) dX9_remove_3 rfl ?_
  obtain ⟨hk3, K⟩ := K
  refine r_callV_I (pc := 4) (Y := mX9_find) (vs := [_, _, _]) (st := []) hk3 rfl kc9 q1216 q1218 qs12 dX9_remove_4 rfl cd_X9_find rfl rfl fp_X9_remove_X9_find K (fun x1 h2 eh2 wh2 K => ?_) (fun x h1 _ _ e => Tw.out rfl e)
  refine r_istore (pc := 7) (lv' := [_, _, _, _, _, _, _]) dX9_remove_7 (by decide) rfl ?_
  refine r_iload (pc := 9) dX9_remove_9 rfl ?_
  refine r_if_ge (pc := 11) (tgt := 15) dX9_remove_11 rfl (fun c4 => ?_) (fun c4 => ?_)
  · have K := K.1 c4
    refine r_aload_n (pc := 15) dX9_remove_15 rfl ?_
    refine r_dup (pc := 16) rfl dX9_remove_16 ?_
    have hk5 := kd_ext eh2 hk3 (nz rfl)
    refine r_getl' (pc := 17) (T := TX9) 9 2 rfl hk5 (Or.inl q581) dX9_remove_17 kc9 g9002 ?_
    refine r_aload_n (pc := 20) dX9_remove_20 rfl ?_
    have K := K _ rfl
    refine r_getr' (pc := 21) (T := TX9) 9 0 rfl hk5 (Or.inl q578) dX9_remove_21 kc9 g9000 ?_
    refine r_iload (pc := 24) dX9_remove_24 rfl ?_
    obtain ⟨hk7, K⟩ := K
    obtain ⟨hi8, K⟩ := K
    have K := K _ rfl
    refine r_aaload (pc := 26) (le_of_eq_r hk7 (by decide)) hi8 dX9_remove_26 ?_
    obtain ⟨hk12, K⟩ := K
    refine r_callV_R (pc := 27) (Y := mX23_output) (vs := []) (st := [_, _]) hk12 rfl kc23 q1671 q1252 q1253 dX9_remove_27 rfl cd_X23_output rfl rfl fp_X9_remove_X23_output K (fun x10 h11 eh11 wh11 K => ?_) (fun x h1 _ _ e => Tw.out rfl e)
    obtain ⟨hk13, K⟩ := K
    refine r_getl' (pc := 30) (T := TX20) 20 0 rfl hk13 (Or.inr (Or.inl ⟨_, q1146⟩)) dX9_remove_30 kc20 g20000 ?_
    refine r_lsub (pc := 33) dX9_remove_33 ?_
    have hk14 := kd_ext eh11 hk5 (nz rfl)
    refine r_putl (pc := 34) (T := TX9) (key := 9002) 9 2 hk14 (Or.inl q581) dX9_remove_34 kc9 rfl (Or.inl rfl) (Or.inl (em rfl)) ?_
    refine r_nameH (fun h15 eh15 => ?_)
    have K := K h15 eh15
    refine r_aload_n (pc := 37) dX9_remove_37 rfl ?_
    refine r_dup (pc := 38) rfl dX9_remove_38 ?_
    have hk16 := kd_pl eh15 hk14
    refine r_geti' (pc := 39) (T := TX9) 9 1 rfl hk16 (Or.inl q579) dX9_remove_39 kc9 g9001 ?_
    refine r_iconst (pc := 42) (x := 1) dX9_remove_42 rfl ?_
    refine r_isub (pc := 43) dX9_remove_43 ?_
    refine r_puti (pc := 44) (T := TX9) (key := 9001) 9 1 hk16 (Or.inl q579) dX9_remove_44 kc9 rfl (Or.inl rfl) (Or.inl (em rfl)) ?_
    refine r_nameH (fun h17 eh17 => ?_)
    have K := K h17 eh17
    refine r_aload_n (pc := 47) dX9_remove_47 rfl ?_
    have hk18 := kd_pi eh17 hk16
    have hv19 := fr_self (key := 9000) hk5
    have hv20 := (fr_ext (key := 9000) eh11 hk5 (nz rfl) (ne0 wh11 hk14 (nz rfl)) (nm rfl)).trans hv19
    have hv21 := fr_pl (key := 9000) eh15 hv20
    have hv22 := fr_pi (key := 9000) eh17 hv21
    refine r_getr' (pc := 48) (T := TX9) 9 0 hv22 hk18 (Or.inl q578) dX9_remove_48 kc9 g9000 ?_
    refine r_iload (pc := 51) dX9_remove_51 rfl ?_
    refine r_null (pc := 53) dX9_remove_53 ?_
    have hk23 := kd_ext eh11 hk7 (nz rfl)
    have hk24 := kd_pl eh15 hk23
    have hk25 := kd_pi eh17 hk24
    obtain ⟨hi26, K⟩ := K
    refine r_aastN (pc := 54) hk25 rfl hi26 (Or.inl (em rfl)) dX9_remove_54 ?_
    refine r_nameH (fun h27 eh27 => ?_)
    have K := K h27 eh27
    refine r_iload (pc := 55) dX9_remove_55 rfl ?_
    refine r_istore (pc := 57) (lv' := [_, _, _, _, _, _, _]) dX9_remove_57 (by decide) rfl ?_
    refine r_mask (pc := 59) [true, false, false, false, true, true, false] rfl ?_
    exact K
  · have K := K.2 c4
    exact r_vret (pc := 14) rfl dX9_remove_14 K
theorem eX9_remove {G : Gx} {d : Nat} {Φ : Out → AH → Prop} (h : AH) (v0 : Nat) (v1 : Nat) (v2 : Int32) (v3 : Int32) (K : WF G h → Aw G mX9_remove (d + 1) 0 h Φ 0 [vR v0, vR v1, vI v2, vI v3, vU, vU, vU] [] h) : Cw G mX9_remove (d + 1) 0 [vR v0, vR v1, vI v2, vI v3] h Φ := Cw.of rfl K
set_option maxHeartbeats 4000000 in
theorem sX9_remove_59 {G : Gx} {d t : Nat} {h0 : AH} {Φ : Out → AH → Prop} (h : AH) (v0 : Nat) (v4 : Int32) (v5 : Int32) (K : h.kd v0 = 9 ∧ ∀ r2 : Nat, r2 = (h.r 9000 v0) → h.kd r2 = 105 ∧ vp_in ((v5 + 1) &&& 1023) (h.ar r2).length ∧ ∀ r5 : Nat, r5 = ((h.ar r2).getD (((v5 + 1) &&& 1023).toNatClampNeg) 0) → ((¬ r5 = 0 → vp_in ((v5 + 1) &&& 1023) (h.ar r2).length ∧ ∀ r8 : Nat, r8 = ((h.ar r2).getD (((v5 + 1) &&& 1023).toNatClampNeg) 0) → h.kd r8 = 23 ∧ ∀ r10 : Nat, r10 = (h.r 23001 r8) → h.kd r10 = 18 ∧ ∀ r12 : Nat, r12 = (h.r 18002 r10) → vp_in ((v5 + 1) &&& 1023) (h.ar r2).length ∧ ∀ r14 : Nat, r14 = ((h.ar r2).getD (((v5 + 1) &&& 1023).toNatClampNeg) 0) → h.kd r14 = 23 ∧ Cw G mX9_start d 0 [vR r12, vI 0, vI (h.i 23002 r14)] h (kI (fun x16 h17 => ((((((v5 + 1) &&& 1023) - v4) &&& 1023) ≤ ((((v5 + 1) &&& 1023) - x16) &&& 1023) → vp_in ((v5 + 1) &&& 1023) (h17.ar r2).length ∧ ∀ r24 : Nat, r24 = ((h17.ar r2).getD (((v5 + 1) &&& 1023).toNatClampNeg) 0) → vp_in v4 (h17.ar r2).length ∧ (r24 = 0 ∨ h17.kd r24 = 23) ∧ ∀ h27 : AH, h27 = h17.wr r2 ((h17.ar r2).set (v4.toNatClampNeg) r24) → vp_in ((v5 + 1) &&& 1023) (h27.ar r2).length ∧ ∀ h32 : AH, h32 = h27.wr r2 ((h27.ar r2).set (((v5 + 1) &&& 1023).toNatClampNeg) 0) → Aw G mX9_remove (d + 1) t h0 Φ 59 [vR v0, vU, vU, vU, vI ((v5 + 1) &&& 1023), vI ((v5 + 1) &&& 1023), vU] [] h32) ∧ (¬ ((((v5 + 1) &&& 1023) - v4) &&& 1023) ≤ ((((v5 + 1) &&& 1023) - x16) &&& 1023) → Aw G mX9_remove (d + 1) t h0 Φ 59 [vR v0, vU, vU, vU, vI v4, vI ((v5 + 1) &&& 1023), vU] [] h17))) (fun x h => Φ (.inr x) h))) ∧ (r5 = 0 → Φ (.inl none) h))) : Aw G mX9_remove (d + 1) t h0 Φ 59 [vR v0, vU, vU, vU, vI v4, vI v5, vU] [] h := by
  refine r_iload (pc := 59) dX9_remove_59 rfl ?_
  refine r_iconst (pc := 61) (x := 1) dX9_remove_61 rfl ?_
  refine r_iadd (pc := 62) dX9_remove_62 ?_
  refine r_sipush (pc := 63) (x := 1023) dX9_remove_63 rfl ?_
  refine r_iand (pc := 66) dX9_remove_66 ?_
  refine r_istore (pc := 67) (lv' := [_, _, _, _, _, _, _]) dX9_remove_67 (by decide) rfl ?_
  refine r_aload_n (pc := 69) dX9_remove_69 rfl ?_
  obtain ⟨hk1, K⟩ := K
  have K := K _ rfl
  refine r_getr' (pc := 70) (T := TX9) 9 0 rfl hk1 (Or.inl q578) dX9_remove_70 kc9 g9000 ?_
  refine r_iload (pc := 73) dX9_remove_73 rfl ?_
  obtain ⟨hk3, K⟩ := K
  obtain ⟨hi4, K⟩ := K
  have K := K _ rfl
  refine r_aaload (pc := 75) (le_of_eq_r hk3 (by decide)) hi4 dX9_remove_75 ?_
  refine r_ifnonnull (pc := 76) (tgt := 80) dX9_remove_76 rfl (fun c6 => ?_) (fun c6 => ?_)
  · have K := K.1 c6
    refine r_aload_n (pc := 80) dX9_remove_80 rfl ?_
    refine r_getr' (pc := 81) (T := TX9) 9 0 rfl hk1 (Or.inl q578) dX9_remove_81 kc9 g9000 ?_
    refine r_iload (pc := 84) dX9_remove_84 rfl ?_
    obtain ⟨hi7, K⟩ := K
    have K := K _ rfl
    refine r_aaload (pc := 86) (le_of_eq_r hk3 (by decide)) hi7 dX9_remove_86 ?_
    obtain ⟨hk9, K⟩ := K
    have K := K _ rfl
    refine r_getr' (pc := 87) (T := TX23) 23 1 rfl hk9 (Or.inr (Or.inl ⟨_, q1681⟩)) dX9_remove_87 kc23 g23001 ?_
    obtain ⟨hk11, K⟩ := K
    have K := K _ rfl
    refine r_getr' (pc := 90) (T := TX18) 18 2 rfl hk11 (Or.inr (Or.inl ⟨_, q1080⟩)) dX9_remove_90 kc18 g18002 ?_
    refine r_iconst (pc := 93) (x := 0) dX9_remove_93 rfl ?_
    refine r_aload_n (pc := 94) dX9_remove_94 rfl ?_
    refine r_getr' (pc := 95) (T := TX9) 9 0 rfl hk1 (Or.inl q578) dX9_remove_95 kc9 g9000 ?_
    refine r_iload (pc := 98) dX9_remove_98 rfl ?_
    obtain ⟨hi13, K⟩ := K
    have K := K _ rfl
    refine r_aaload (pc := 100) (le_of_eq_r hk3 (by decide)) hi13 dX9_remove_100 ?_
    obtain ⟨hk15, K⟩ := K
    refine r_geti' (pc := 101) (T := TX23) 23 2 rfl hk15 (Or.inr (Or.inl ⟨_, q1683⟩)) dX9_remove_101 kc23 g23002 ?_
    refine r_callS_I (pc := 104) (Y := mX9_start) (vs := [_, _, _]) (st := []) q1220 q1221 q163 dX9_remove_104 rfl cd_X9_start rfl rfl fp_X9_remove_X9_start K (fun x16 h17 eh17 wh17 K => ?_) (fun x h1 _ _ e => Tw.out rfl e)
    refine r_istore (pc := 107) (lv' := [_, _, _, _, _, _, _]) dX9_remove_107 (by decide) rfl ?_
    refine r_iload (pc := 109) dX9_remove_109 rfl ?_
    refine r_iload (pc := 111) dX9_remove_111 rfl ?_
    refine r_isub (pc := 113) dX9_remove_113 ?_
    refine r_sipush (pc := 114) (x := 1023) dX9_remove_114 rfl ?_
    refine r_iand (pc := 117) dX9_remove_117 ?_
    refine r_iload (pc := 118) dX9_remove_118 rfl ?_
    refine r_iload (pc := 120) dX9_remove_120 rfl ?_
    refine r_isub (pc := 122) dX9_remove_122 ?_
    refine r_sipush (pc := 123) (x := 1023) dX9_remove_123 rfl ?_
    refine r_iand (pc := 126) dX9_remove_126 ?_
    refine r_icmp_ge (pc := 127) (tgt := 133) dX9_remove_127 rfl (fun c18 => ?_) (fun c18 => ?_)
    · have K := K.1 c18
      refine r_aload_n (pc := 133) dX9_remove_133 rfl ?_
      have hk19 := kd_ext eh17 hk1 (nz rfl)
      have hv20 := fr_self (key := 9000) hk1
      have hv21 := (fr_ext (key := 9000) eh17 hk1 (nz rfl) (ne0 wh17 hk19 (nz rfl)) (nm rfl)).trans hv20
      refine r_getr' (pc := 134) (T := TX9) 9 0 hv21 hk19 (Or.inl q578) dX9_remove_134 kc9 g9000 ?_
      refine r_iload (pc := 137) dX9_remove_137 rfl ?_
      refine r_aload_n (pc := 139) dX9_remove_139 rfl ?_
      refine r_getr' (pc := 140) (T := TX9) 9 0 hv21 hk19 (Or.inl q578) dX9_remove_140 kc9 g9000 ?_
      refine r_iload (pc := 143) dX9_remove_143 rfl ?_
      have hk22 := kd_ext eh17 hk3 (nz rfl)
      obtain ⟨hi23, K⟩ := K
      have K := K _ rfl
      refine r_aaload (pc := 145) (le_of_eq_r hk22 (by decide)) hi23 dX9_remove_145 ?_
      obtain ⟨hi25, K⟩ := K
      obtain ⟨hk26, K⟩ := K
      refine r_aastore (pc := 146) 105 23 hk22 rfl kc23 hi25 hk26 (Or.inl (em rfl)) dX9_remove_146 rfl ?_
      refine r_nameH (fun h27 eh27 => ?_)
      have K := K h27 eh27
      refine r_aload_n (pc := 147) dX9_remove_147 rfl ?_
      have hk28 := kd_wr eh27 hk19
      have hv29 := fr_wr (key := 9000) eh27 hv21
      refine r_getr' (pc := 148) (T := TX9) 9 0 hv29 hk28 (Or.inl q578) dX9_remove_148 kc9 g9000 ?_
      refine r_iload (pc := 151) dX9_remove_151 rfl ?_
      refine r_null (pc := 153) dX9_remove_153 ?_
      have hk30 := kd_wr eh27 hk22
      obtain ⟨hi31, K⟩ := K
      refine r_aastN (pc := 154) hk30 rfl hi31 (Or.inl (em rfl)) dX9_remove_154 ?_
      refine r_nameH (fun h32 eh32 => ?_)
      have K := K h32 eh32
      refine r_iload (pc := 155) dX9_remove_155 rfl ?_
      refine r_istore (pc := 157) (lv' := [_, _, _, _, _, _, _]) dX9_remove_157 (by decide) rfl ?_
      refine r_goto (pc := 159) (tgt := 59) dX9_remove_159 rfl ?_
      refine r_mask (pc := 59) [true, false, false, false, true, true, false] rfl ?_
      exact K
    · have K := K.2 c18
      refine r_goto (pc := 130) (tgt := 59) dX9_remove_130 rfl ?_
      refine r_mask (pc := 59) [true, false, false, false, true, true, false] rfl ?_
      exact K
  · have K := K.2 c6
    exact r_vret (pc := 79) rfl dX9_remove_79 K
theorem dX23_coinbase_0 : decode cX23_coinbase 0 = .ok (.aload_n 0, 1) := by decide +kernel
theorem dX23_coinbase_1 : decode cX23_coinbase 1 = .ok (.getfield 7, 3) := by decide +kernel
theorem dX23_coinbase_4 : decode cX23_coinbase 4 = .ok (.getfield 27, 3) := by decide +kernel
theorem dX23_coinbase_7 : decode cX23_coinbase 7 = .ok (.iconst 0, 1) := by decide +kernel
theorem dX23_coinbase_8 : decode cX23_coinbase 8 = .ok (.aaload, 1) := by decide +kernel
theorem dX23_coinbase_9 : decode cX23_coinbase 9 = .ok (.aload_n 0, 1) := by decide +kernel
theorem dX23_coinbase_10 : decode cX23_coinbase 10 = .ok (.getfield 13, 3) := by decide +kernel
theorem dX23_coinbase_13 : decode cX23_coinbase 13 = .ok (.if_acmp .ne 7, 3) := by decide +kernel
theorem dX23_coinbase_16 : decode cX23_coinbase 16 = .ok (.iconst 1, 1) := by decide +kernel
theorem dX23_coinbase_17 : decode cX23_coinbase 17 = .ok (.goto 4, 3) := by decide +kernel
theorem dX23_coinbase_20 : decode cX23_coinbase 20 = .ok (.iconst 0, 1) := by decide +kernel
theorem dX23_coinbase_21 : decode cX23_coinbase 21 = .ok (.ireturn, 1) := by decide +kernel
/-! CoinJudge$Coin.coinbase()Z -/
set_option maxHeartbeats 4000000 in
theorem sX23_coinbase_0 {G : Gx} {d t : Nat} {h0 : AH} {Φ : Out → AH → Prop} (h : AH) (v0 : Nat) (K : h.kd v0 = 23 ∧ ∀ r2 : Nat, r2 = (h.r 23000 v0) → h.kd r2 = 15 ∧ ∀ r4 : Nat, r4 = (h.r 15009 r2) → h.kd r4 = 110 ∧ vp_in 0 (h.ar r4).length ∧ ∀ r7 : Nat, r7 = ((h.ar r4).getD ((0 : Int32).toNatClampNeg) 0) → ∀ r8 : Nat, r8 = (h.r 23001 v0) → ((¬ r7 = r8 → Φ (.inl (some (vI 0))) h) ∧ (r7 = r8 → Φ (.inl (some (vI 1))) h))) : Aw G mX23_coinbase (d + 1) t h0 Φ 0 [vR v0] [] h := by
  refine r_aload_n (pc := 0) dX23_coinbase_0 rfl ?_
  obtain ⟨hk1, K⟩ := K
  have K := K _ rfl
  refine r_getr' (pc := 1) (T := TX23) 23 0 rfl hk1 (Or.inl q1678) dX23_coinbase_1 kc23 g23000 ?_
  obtain ⟨hk3, K⟩ := K
  have K := K _ rfl
  refine r_getr' (pc := 4) (T := TX15) 15 9 rfl hk3 (Or.inr (Or.inl ⟨_, q984⟩)) dX23_coinbase_4 kc15 g15009 ?_
  refine r_iconst (pc := 7) (x := 0) dX23_coinbase_7 rfl ?_
  obtain ⟨hk5, K⟩ := K
  obtain ⟨hi6, K⟩ := K
  have K := K _ rfl
  refine r_aaload (pc := 8) (le_of_eq_r hk5 (by decide)) hi6 dX23_coinbase_8 ?_
  refine r_aload_n (pc := 9) dX23_coinbase_9 rfl ?_
  have K := K _ rfl
  refine r_getr' (pc := 10) (T := TX23) 23 1 rfl hk1 (Or.inl q1680) dX23_coinbase_10 kc23 g23001 ?_
  refine r_acmp_ne (pc := 13) (tgt := 20) dX23_coinbase_13 rfl (fun c9 => ?_) (fun c9 => ?_)
  · have K := K.1 c9
    refine r_iconst (pc := 20) (x := 0) dX23_coinbase_20 rfl ?_
    exact r_iret (pc := 21) rfl rfl dX23_coinbase_21 K
  · have K := K.2 c9
    refine r_iconst (pc := 16) (x := 1) dX23_coinbase_16 rfl ?_
    refine r_goto (pc := 17) (tgt := 21) dX23_coinbase_17 rfl ?_
    exact r_iret (pc := 21) rfl rfl dX23_coinbase_21 K
theorem eX23_coinbase {G : Gx} {d : Nat} {Φ : Out → AH → Prop} (h : AH) (v0 : Nat) (K : WF G h → Aw G mX23_coinbase (d + 1) 0 h Φ 0 [vR v0] [] h) : Cw G mX23_coinbase (d + 1) 0 [vR v0] h Φ := Cw.of rfl K
theorem dX22_isTrue_0 : decode cX22_isTrue 0 = .ok (.iconst 0, 1) := by decide +kernel
theorem dX22_isTrue_1 : decode cX22_isTrue 1 = .ok (.istore_n 1, 1) := by decide +kernel
theorem dX22_isTrue_2 : decode cX22_isTrue 2 = .ok (.iload_n 1, 1) := by decide +kernel
theorem dX22_isTrue_3 : decode cX22_isTrue 3 = .ok (.aload_n 0, 1) := by decide +kernel
theorem dX22_isTrue_4 : decode cX22_isTrue 4 = .ok (.getfield 13, 3) := by decide +kernel
theorem dX22_isTrue_7 : decode cX22_isTrue 7 = .ok (.if_icmp .ge 45, 3) := by decide +kernel
theorem dX22_isTrue_10 : decode cX22_isTrue 10 = .ok (.aload_n 0, 1) := by decide +kernel
theorem dX22_isTrue_11 : decode cX22_isTrue 11 = .ok (.getfield 7, 3) := by decide +kernel
theorem dX22_isTrue_14 : decode cX22_isTrue 14 = .ok (.iload_n 1, 1) := by decide +kernel
theorem dX22_isTrue_15 : decode cX22_isTrue 15 = .ok (.baload, 1) := by decide +kernel
theorem dX22_isTrue_16 : decode cX22_isTrue 16 = .ok (.ifCond .eq 30, 3) := by decide +kernel
theorem dX22_isTrue_19 : decode cX22_isTrue 19 = .ok (.iload_n 1, 1) := by decide +kernel
theorem dX22_isTrue_20 : decode cX22_isTrue 20 = .ok (.aload_n 0, 1) := by decide +kernel
theorem dX22_isTrue_21 : decode cX22_isTrue 21 = .ok (.getfield 13, 3) := by decide +kernel
theorem dX22_isTrue_24 : decode cX22_isTrue 24 = .ok (.iconst 1, 1) := by decide +kernel
theorem dX22_isTrue_25 : decode cX22_isTrue 25 = .ok (.isub, 1) := by decide +kernel
theorem dX22_isTrue_26 : decode cX22_isTrue 26 = .ok (.if_icmp .lt 14, 3) := by decide +kernel
theorem dX22_isTrue_29 : decode cX22_isTrue 29 = .ok (.aload_n 0, 1) := by decide +kernel
theorem dX22_isTrue_30 : decode cX22_isTrue 30 = .ok (.getfield 7, 3) := by decide +kernel
theorem dX22_isTrue_33 : decode cX22_isTrue 33 = .ok (.iload_n 1, 1) := by decide +kernel
theorem dX22_isTrue_34 : decode cX22_isTrue 34 = .ok (.baload, 1) := by decide +kernel
theorem dX22_isTrue_35 : decode cX22_isTrue 35 = .ok (.bipush (-128), 2) := by decide +kernel
theorem dX22_isTrue_37 : decode cX22_isTrue 37 = .ok (.if_icmp .eq 7, 3) := by decide +kernel
theorem dX22_isTrue_40 : decode cX22_isTrue 40 = .ok (.iconst 1, 1) := by decide +kernel
theorem dX22_isTrue_41 : decode cX22_isTrue 41 = .ok (.goto 4, 3) := by decide +kernel
theorem dX22_isTrue_44 : decode cX22_isTrue 44 = .ok (.iconst 0, 1) := by decide +kernel
theorem dX22_isTrue_45 : decode cX22_isTrue 45 = .ok (.ireturn, 1) := by decide +kernel
theorem dX22_isTrue_46 : decode cX22_isTrue 46 = .ok (.iinc 1 1, 3) := by decide +kernel
theorem dX22_isTrue_49 : decode cX22_isTrue 49 = .ok (.goto (-47), 3) := by decide +kernel
theorem dX22_isTrue_52 : decode cX22_isTrue 52 = .ok (.iconst 0, 1) := by decide +kernel
theorem dX22_isTrue_53 : decode cX22_isTrue 53 = .ok (.ireturn, 1) := by decide +kernel
/-! CoinJudge$Element.isTrue()Z -/
set_option maxHeartbeats 4000000 in
theorem sX22_isTrue_0 {G : Gx} {d t : Nat} {h0 : AH} {Φ : Out → AH → Prop} (h : AH) (v0 : Nat) (K : Aw G mX22_isTrue (d + 1) t h0 Φ 2 [vR v0, vI 0] [] h) : Aw G mX22_isTrue (d + 1) t h0 Φ 0 [vR v0, vU] [] h := by
  refine r_iconst (pc := 0) (x := 0) dX22_isTrue_0 rfl ?_
  refine r_istore_n (pc := 1) (lv' := [_, _]) dX22_isTrue_1 (by decide) rfl ?_
  refine r_mask (pc := 2) [true, true] rfl ?_
  exact K
theorem eX22_isTrue {G : Gx} {d : Nat} {Φ : Out → AH → Prop} (h : AH) (v0 : Nat) (K : WF G h → Aw G mX22_isTrue (d + 1) 0 h Φ 0 [vR v0, vU] [] h) : Cw G mX22_isTrue (d + 1) 0 [vR v0] h Φ := Cw.of rfl K
set_option maxHeartbeats 4000000 in
theorem sX22_isTrue_2 {G : Gx} {d t : Nat} {h0 : AH} {Φ : Out → AH → Prop} (h : AH) (v0 : Nat) (v1 : Int32) (K : h.kd v0 = 22 ∧ (((h.i 22001 v0) ≤ v1 → Φ (.inl (some (vI 0))) h) ∧ (¬ (h.i 22001 v0) ≤ v1 → ∀ r3 : Nat, r3 = (h.r 22000 v0) → h.kd r3 = 101 ∧ vp_in v1 (h.ai r3).length ∧ ((((h.ai r3).getD (v1.toNatClampNeg) 0) = 0 → Aw G mX22_isTrue (d + 1) t h0 Φ 2 [vR v0, vI (v1 + 1)] [] h) ∧ (¬ ((h.ai r3).getD (v1.toNatClampNeg) 0) = 0 → ((v1 < ((h.i 22001 v0) - 1) → Φ (.inl (some (vI 1))) h) ∧ (¬ v1 < ((h.i 22001 v0) - 1) → vp_in v1 (h.ai r3).length ∧ ((((h.ai r3).getD (v1.toNatClampNeg) 0) = (-128) → Φ (.inl (some (vI 0))) h) ∧ (¬ ((h.ai r3).getD (v1.toNatClampNeg) 0) = (-128) → Φ (.inl (some (vI 1))) h))))))))) : Aw G mX22_isTrue (d + 1) t h0 Φ 2 [vR v0, vI v1] [] h := by
  refine r_iload_n (pc := 2) dX22_isTrue_2 rfl ?_
  refine r_aload_n (pc := 3) dX22_isTrue_3 rfl ?_
  obtain ⟨hk1, K⟩ := K
  refine r_geti' (pc := 4) (T := TX22) 22 1 rfl hk1 (Or.inl q1295) dX22_isTrue_4 kc22 g22001 ?_
  refine r_icmp_ge (pc := 7) (tgt := 52) dX22_isTrue_7 rfl (fun c2 => ?_) (fun c2 => ?_)
  · have K := K.1 c2
    refine r_iconst (pc := 52) (x := 0) dX22_isTrue_52 rfl ?_
    exact r_iret (pc := 53) rfl rfl dX22_isTrue_53 K
  · have K := K.2 c2
    refine r_aload_n (pc := 10) dX22_isTrue_10 rfl ?_
    have K := K _ rfl
    refine r_getr' (pc := 11) (T := TX22) 22 0 rfl hk1 (Or.inl q1292) dX22_isTrue_11 kc22 g22000 ?_
    refine r_iload_n (pc := 14) dX22_isTrue_14 rfl ?_
    obtain ⟨hk4, K⟩ := K
    obtain ⟨hi5, K⟩ := K
    refine r_baload (pc := 15) hk4 hi5 dX22_isTrue_15 ?_
    refine r_if_eq (pc := 16) (tgt := 46) dX22_isTrue_16 rfl (fun c6 => ?_) (fun c6 => ?_)
    · have K := K.1 c6
      refine r_iinc (pc := 46) (lv' := [_, _]) dX22_isTrue_46 rfl rfl (by decide) rfl ?_
      refine r_goto (pc := 49) (tgt := 2) dX22_isTrue_49 rfl ?_
      refine r_mask (pc := 2) [true, true] rfl ?_
      exact K
    · have K := K.2 c6
      refine r_iload_n (pc := 19) dX22_isTrue_19 rfl ?_
      refine r_aload_n (pc := 20) dX22_isTrue_20 rfl ?_
      refine r_geti' (pc := 21) (T := TX22) 22 1 rfl hk1 (Or.inl q1295) dX22_isTrue_21 kc22 g22001 ?_
      refine r_iconst (pc := 24) (x := 1) dX22_isTrue_24 rfl ?_
      refine r_isub (pc := 25) dX22_isTrue_25 ?_
      refine r_icmp_lt (pc := 26) (tgt := 40) dX22_isTrue_26 rfl (fun c7 => ?_) (fun c7 => ?_)
      · have K := K.1 c7
        refine r_iconst (pc := 40) (x := 1) dX22_isTrue_40 rfl ?_
        refine r_goto (pc := 41) (tgt := 45) dX22_isTrue_41 rfl ?_
        exact r_iret (pc := 45) rfl rfl dX22_isTrue_45 K
      · have K := K.2 c7
        refine r_aload_n (pc := 29) dX22_isTrue_29 rfl ?_
        refine r_getr' (pc := 30) (T := TX22) 22 0 rfl hk1 (Or.inl q1292) dX22_isTrue_30 kc22 g22000 ?_
        refine r_iload_n (pc := 33) dX22_isTrue_33 rfl ?_
        obtain ⟨hi8, K⟩ := K
        refine r_baload (pc := 34) hk4 hi8 dX22_isTrue_34 ?_
        refine r_bipush (pc := 35) (x := (-128)) dX22_isTrue_35 rfl ?_
        refine r_icmp_eq (pc := 37) (tgt := 44) dX22_isTrue_37 rfl (fun c9 => ?_) (fun c9 => ?_)
        · have K := K.1 c9
          refine r_iconst (pc := 44) (x := 0) dX22_isTrue_44 rfl ?_
          exact r_iret (pc := 45) rfl rfl dX22_isTrue_45 K
        · have K := K.2 c9
          refine r_iconst (pc := 40) (x := 1) dX22_isTrue_40 rfl ?_
          refine r_goto (pc := 41) (tgt := 45) dX22_isTrue_41 rfl ?_
          exact r_iret (pc := 45) rfl rfl dX22_isTrue_45 K
theorem dX22_set_0 : decode cX22_set 0 = .ok (.iconst 0, 1) := by decide +kernel
theorem dX22_set_1 : decode cX22_set 1 = .ok (.istore 4, 2) := by decide +kernel
theorem dX22_set_3 : decode cX22_set 3 = .ok (.iload 4, 2) := by decide +kernel
theorem dX22_set_5 : decode cX22_set 5 = .ok (.iload_n 3, 1) := by decide +kernel
theorem dX22_set_6 : decode cX22_set 6 = .ok (.if_icmp .ge 22, 3) := by decide +kernel
theorem dX22_set_9 : decode cX22_set 9 = .ok (.aload_n 0, 1) := by decide +kernel
theorem dX22_set_10 : decode cX22_set 10 = .ok (.getfield 7, 3) := by decide +kernel
theorem dX22_set_13 : decode cX22_set 13 = .ok (.iload 4, 2) := by decide +kernel
theorem dX22_set_15 : decode cX22_set 15 = .ok (.aload_n 1, 1) := by decide +kernel
theorem dX22_set_16 : decode cX22_set 16 = .ok (.iload_n 2, 1) := by decide +kernel
theorem dX22_set_17 : decode cX22_set 17 = .ok (.iload 4, 2) := by decide +kernel
theorem dX22_set_19 : decode cX22_set 19 = .ok (.iadd, 1) := by decide +kernel
theorem dX22_set_20 : decode cX22_set 20 = .ok (.baload, 1) := by decide +kernel
theorem dX22_set_21 : decode cX22_set 21 = .ok (.bastore, 1) := by decide +kernel
theorem dX22_set_22 : decode cX22_set 22 = .ok (.iinc 4 1, 3) := by decide +kernel
theorem dX22_set_25 : decode cX22_set 25 = .ok (.goto (-22), 3) := by decide +kernel
theorem dX22_set_28 : decode cX22_set 28 = .ok (.aload_n 0, 1) := by decide +kernel
theorem dX22_set_29 : decode cX22_set 29 = .ok (.iload_n 3, 1) := by decide +kernel
theorem dX22_set_30 : decode cX22_set 30 = .ok (.putfield 13, 3) := by decide +kernel
theorem dX22_set_33 : decode cX22_set 33 = .ok (.aload_n 0, 1) := by decide +kernel
theorem dX22_set_34 : decode cX22_set 34 = .ok (.areturn, 1) := by decide +kernel
/-! CoinJudge$Element.set([BII)LCoinJudge$Element; -/
set_option maxHeartbeats 4000000 in
theorem sX22_set_0 {G : Gx} {d t : Nat} {h0 : AH} {Φ : Out → AH → Prop} (h : AH) (v0 : Nat) (v1 : Nat) (v2 : Int32) (v3 : Int32) (K : Aw G mX22_set (d + 1) t h0 Φ 3 [vR v0, vR v1, vI v2, vI v3, vI 0] [] h) : Aw G mX22_set (d + 1) t h0 Φ 0 [vR v0, vR v1, vI v2, vI v3, vU] [] h := by
  refine r_iconst (pc := 0) (x := 0) dX22_set_0 rfl ?_
  refine r_istore (pc := 1) (lv' := [_, _, _, _, _]) dX22_set_1 (by decide) rfl ?_
  refine r_mask (pc := 3) [true, true, true, true, true] rfl ?_
  exact K
theorem eX22_set {G : Gx} {d : Nat} {Φ : Out → AH → Prop} (h : AH) (v0 : Nat) (v1 : Nat) (v2 : Int32) (v3 : Int32) (K : WF G h → Aw G mX22_set (d + 1) 0 h Φ 0 [vR v0, vR v1, vI v2, vI v3, vU] [] h) : Cw G mX22_set (d + 1) 0 [vR v0, vR v1, vI v2, vI v3] h Φ := Cw.of rfl K
set_option maxHeartbeats 4000000 in
theorem sX22_set_3 {G : Gx} {d t : Nat} {h0 : AH} {Φ : Out → AH → Prop} (h : AH) (v0 : Nat) (v1 : Nat) (v2 : Int32) (v3 : Int32) (v4 : Int32) (K : ((v3 ≤ v4 → h.kd v0 = 22 ∧ ∀ h3 : AH, h3 = h.pi 22001 v0 v3 → Φ (.inl (some (vR v0))) h3) ∧ (¬ v3 ≤ v4 → h.kd v0 = 22 ∧ ∀ r5 : Nat, r5 = (h.r 22000 v0) → h.kd v1 = 101 ∧ vp_in (v2 + v4) (h.ai v1).length ∧ h.kd r5 = 101 ∧ vp_in v4 (h.ai r5).length ∧ ∀ h10 : AH, h10 = h.wi r5 ((h.ai r5).set (v4.toNatClampNeg) (i2b ((h.ai v1).getD ((v2 + v4).toNatClampNeg) 0))) → Aw G mX22_set (d + 1) t h0 Φ 3 [vR v0, vR v1, vI v2, vI v3, vI (v4 + 1)] [] h10))) : Aw G mX22_set (d + 1) t h0 Φ 3 [vR v0, vR v1, vI v2, vI v3, vI v4] [] h := by
  refine r_iload (pc := 3) dX22_set_3 rfl ?_
  refine r_iload_n (pc := 5) dX22_set_5 rfl ?_
  refine r_icmp_ge (pc := 6) (tgt := 28) dX22_set_6 rfl (fun c1 => ?_) (fun c1 => ?_)
  · have K := K.1 c1
    refine r_aload_n (pc := 28) dX22_set_28 rfl ?_
    refine r_iload_n (pc := 29) dX22_set_29 rfl ?_
    obtain ⟨hk2, K⟩ := K
    refine r_puti (pc := 30) (T := TX22) (key := 22001) 22 1 hk2 (Or.inl q1295) dX22_set_30 kc22 rfl (Or.inl rfl) (Or.inl (em rfl)) ?_
    refine r_nameH (fun h3 eh3 => ?_)
    have K := K h3 eh3
    refine r_aload_n (pc := 33) dX22_set_33 rfl ?_
    exact r_aret (pc := 34) rfl rfl dX22_set_34 K
  · have K := K.2 c1
    refine r_aload_n (pc := 9) dX22_set_9 rfl ?_
    obtain ⟨hk4, K⟩ := K
    have K := K _ rfl
    refine r_getr' (pc := 10) (T := TX22) 22 0 rfl hk4 (Or.inl q1292) dX22_set_10 kc22 g22000 ?_
    refine r_iload (pc := 13) dX22_set_13 rfl ?_
    refine r_aload_n (pc := 15) dX22_set_15 rfl ?_
    refine r_iload_n (pc := 16) dX22_set_16 rfl ?_
    refine r_iload (pc := 17) dX22_set_17 rfl ?_
    refine r_iadd (pc := 19) dX22_set_19 ?_
    obtain ⟨hk6, K⟩ := K
    obtain ⟨hi7, K⟩ := K
    refine r_baload (pc := 20) hk6 hi7 dX22_set_20 ?_
    obtain ⟨hk8, K⟩ := K
    obtain ⟨hi9, K⟩ := K
    refine r_jbast (pc := 21) hk8 hi9 (Or.inl (em rfl)) dX22_set_21 ?_
    refine r_nameH (fun h10 eh10 => ?_)
    have K := K h10 eh10
    refine r_iinc (pc := 22) (lv' := [_, _, _, _, _]) dX22_set_22 rfl rfl (by decide) rfl ?_
    refine r_goto (pc := 25) (tgt := 3) dX22_set_25 rfl ?_
    refine r_mask (pc := 3) [true, true, true, true, true] rfl ?_
    exact K
theorem dX22_init_0 : decode cX22_init 0 = .ok (.aload_n 0, 1) := by decide +kernel
theorem dX22_init_1 : decode cX22_init 1 = .ok (.invokespecial 1, 3) := by decide +kernel
theorem dX22_init_4 : decode cX22_init 4 = .ok (.aload_n 0, 1) := by decide +kernel
theorem dX22_init_5 : decode cX22_init 5 = .ok (.sipush 520, 3) := by decide +kernel
theorem dX22_init_8 : decode cX22_init 8 = .ok (.newarray .byte, 2) := by decide +kernel
theorem dX22_init_10 : decode cX22_init 10 = .ok (.putfield 7, 3) := by decide +kernel
theorem dX22_init_13 : decode cX22_init 13 = .ok (.return_, 1) := by decide +kernel
/-! CoinJudge$Element.<init>()V -/
set_option maxHeartbeats 4000000 in
theorem sX22_init_0 {G : Gx} {d t : Nat} {h0 : AH} {Φ : Out → AH → Prop} (h : AH) (v0 : Nat) (K : h.kd v0 = 22 ∧ ∀ q2 : Nat, q2 = h.z → WF G h → ∀ h3 : AH, h3 = h.new 101 520 (List.replicate 520 0) [] [] → ∀ h6 : AH, h6 = h3.pr 22000 v0 q2 → Φ (.inl none) h6) : Aw G mX22_init (d + 1) v0 h0 Φ 0 [vR v0] [] h := by
  refine r_aload_n (pc := 0) dX22_init_0 rfl ?_
  obtain ⟨hk1, K⟩ := K
  refine r_objInit (pc := 1) (nzk hk1 rfl) q1291 q207 q208 dX22_init_1 (by decide) ?_
  refine r_aload_n (pc := 4) dX22_init_4 rfl ?_
  refine r_sipush (pc := 5) (x := 520) dX22_init_5 rfl ?_
  refine r_newaI (pc := 8) 101 (N := 520) rfl rfl (by decide) q284 (by decide) rfl (by decide) dX22_init_8 (fun q2 eq2 zq2 wq2 => ?_)
  refine r_nameH (fun h3 eh3 => ?_)
  have K := K q2 eq2 wq2 h3 eh3
  have hk4 := kd_newSE eh3 eq2
  have hk5 := kd_newE eh3 wq2 hk1 (nz rfl)
  refine r_putr (pc := 10) (T := TX22) (key := 22000) 22 0 (ty := (.array .byte)) hk5 (Or.inl q1292) dX22_init_10 kc22 rfl rfl (Or.inr q1292) (Or.inr (Or.inl rfl)) ?_
  refine r_nameH (fun h6 eh6 => ?_)
  have K := K h6 eh6
  exact r_vret (pc := 13) rfl dX22_init_13 K
theorem eX22_init {G : Gx} {d : Nat} {Φ : Out → AH → Prop} (h : AH) (v0 : Nat) (K : WF G h → Aw G mX22_init (d + 1) v0 h Φ 0 [vR v0] [] h) : Cw G mX22_init (d + 1) v0 [vR v0] h Φ := Cw.of rfl K
theorem dX22_number_0 : decode cX22_number 0 = .ok (.aload_n 0, 1) := by decide +kernel
theorem dX22_number_1 : decode cX22_number 1 = .ok (.getfield 13, 3) := by decide +kernel
theorem dX22_number_4 : decode cX22_number 4 = .ok (.iload_n 1, 1) := by decide +kernel
theorem dX22_number_5 : decode cX22_number 5 = .ok (.if_icmp .le 11, 3) := by decide +kernel
theorem dX22_number_8 : decode cX22_number 8 = .ok (.new 17, 3) := by decide +kernel
theorem dX22_number_11 : decode cX22_number 11 = .ok (.dup, 1) := by decide +kernel
theorem dX22_number_12 : decode cX22_number 12 = .ok (.invokespecial 19, 3) := by decide +kernel
theorem dX22_number_15 : decode cX22_number 15 = .ok (.athrow, 1) := by decide +kernel
theorem dX22_number_16 : decode cX22_number 16 = .ok (.lconst 0, 1) := by decide +kernel
theorem dX22_number_17 : decode cX22_number 17 = .ok (.lstore_n 2, 1) := by decide +kernel
theorem dX22_number_18 : decode cX22_number 18 = .ok (.iconst 0, 1) := by decide +kernel
theorem dX22_number_19 : decode cX22_number 19 = .ok (.istore 4, 2) := by decide +kernel
theorem dX22_number_21 : decode cX22_number 21 = .ok (.iload 4, 2) := by decide +kernel
theorem dX22_number_23 : decode cX22_number 23 = .ok (.aload_n 0, 1) := by decide +kernel
theorem dX22_number_24 : decode cX22_number 24 = .ok (.getfield 13, 3) := by decide +kernel
theorem dX22_number_27 : decode cX22_number 27 = .ok (.if_icmp .ge 46, 3) := by decide +kernel
theorem dX22_number_30 : decode cX22_number 30 = .ok (.lload_n 2, 1) := by decide +kernel
theorem dX22_number_31 : decode cX22_number 31 = .ok (.aload_n 0, 1) := by decide +kernel
theorem dX22_number_32 : decode cX22_number 32 = .ok (.getfield 7, 3) := by decide +kernel
theorem dX22_number_35 : decode cX22_number 35 = .ok (.iload 4, 2) := by decide +kernel
theorem dX22_number_37 : decode cX22_number 37 = .ok (.baload, 1) := by decide +kernel
theorem dX22_number_38 : decode cX22_number 38 = .ok (.iload 4, 2) := by decide +kernel
theorem dX22_number_40 : decode cX22_number 40 = .ok (.aload_n 0, 1) := by decide +kernel
theorem dX22_number_41 : decode cX22_number 41 = .ok (.getfield 13, 3) := by decide +kernel
theorem dX22_number_44 : decode cX22_number 44 = .ok (.iconst 1, 1) := by decide +kernel
theorem dX22_number_45 : decode cX22_number 45 = .ok (.isub, 1) := by decide +kernel
theorem dX22_number_46 : decode cX22_number 46 = .ok (.if_icmp .ne 8, 3) := by decide +kernel
theorem dX22_number_49 : decode cX22_number 49 = .ok (.bipush 127, 2) := by decide +kernel
theorem dX22_number_51 : decode cX22_number 51 = .ok (.goto 6, 3) := by decide +kernel
theorem dX22_number_54 : decode cX22_number 54 = .ok (.sipush 255, 3) := by decide +kernel
theorem dX22_number_57 : decode cX22_number 57 = .ok (.iand, 1) := by decide +kernel
theorem dX22_number_58 : decode cX22_number 58 = .ok (.i2l, 1) := by decide +kernel
theorem dX22_number_59 : decode cX22_number 59 = .ok (.bipush 8, 2) := by decide +kernel
theorem dX22_number_61 : decode cX22_number 61 = .ok (.iload 4, 2) := by decide +kernel
theorem dX22_number_63 : decode cX22_number 63 = .ok (.imul, 1) := by decide +kernel
theorem dX22_number_64 : decode cX22_number 64 = .ok (.lshl, 1) := by decide +kernel
theorem dX22_number_65 : decode cX22_number 65 = .ok (.lor, 1) := by decide +kernel
theorem dX22_number_66 : decode cX22_number 66 = .ok (.lstore_n 2, 1) := by decide +kernel
theorem dX22_number_67 : decode cX22_number 67 = .ok (.iinc 4 1, 3) := by decide +kernel
theorem dX22_number_70 : decode cX22_number 70 = .ok (.goto (-49), 3) := by decide +kernel
theorem dX22_number_73 : decode cX22_number 73 = .ok (.aload_n 0, 1) := by decide +kernel
theorem dX22_number_74 : decode cX22_number 74 = .ok (.getfield 13, 3) := by decide +kernel
theorem dX22_number_77 : decode cX22_number 77 = .ok (.ifCond .le 22, 3) := by decide +kernel
theorem dX22_number_80 : decode cX22_number 80 = .ok (.aload_n 0, 1) := by decide +kernel
theorem dX22_number_81 : decode cX22_number 81 = .ok (.getfield 7, 3) := by decide +kernel
theorem dX22_number_84 : decode cX22_number 84 = .ok (.aload_n 0, 1) := by decide +kernel
theorem dX22_number_85 : decode cX22_number 85 = .ok (.getfield 13, 3) := by decide +kernel
theorem dX22_number_88 : decode cX22_number 88 = .ok (.iconst 1, 1) := by decide +kernel
theorem dX22_number_89 : decode cX22_number 89 = .ok (.isub, 1) := by decide +kernel
theorem dX22_number_90 : decode cX22_number 90 = .ok (.baload, 1) := by decide +kernel
theorem dX22_number_91 : decode cX22_number 91 = .ok (.ifCond .ge 8, 3) := by decide +kernel
theorem dX22_number_94 : decode cX22_number 94 = .ok (.lload_n 2, 1) := by decide +kernel
theorem dX22_number_95 : decode cX22_number 95 = .ok (.lneg, 1) := by decide +kernel
theorem dX22_number_96 : decode cX22_number 96 = .ok (.goto 4, 3) := by decide +kernel
theorem dX22_number_99 : decode cX22_number 99 = .ok (.lload_n 2, 1) := by decide +kernel
theorem dX22_number_100 : decode cX22_number 100 = .ok (.lreturn, 1) := by decide +kernel
/-! CoinJudge$Element.number(I)J -/
set_option maxHeartbeats 4000000 in
theorem sX22_number_0 {G : Gx} {d t : Nat} {h0 : AH} {Φ : Out → AH → Prop} (h : AH) (v0 : Nat) (v1 : Int32) (K : h.kd v0 = 22 ∧ (((h.i 22001 v0) ≤ v1 → Aw G mX22_number (d + 1) t h0 Φ 21 [vR v0, vU, vJ 0, vU, vI 0] [] h) ∧ (¬ (h.i 22001 v0) ≤ v1 → ∀ q3 : Nat, q3 = h.z → WF G h → ∀ h4 : AH, h4 = h.new 17 6 [] [] [] → 5 ≤ d ∧ ∀ h7 : AH, h7 = exH G 17 q3 h4 → Φ (.inr q3) h7))) : Aw G mX22_number (d + 1) t h0 Φ 0 [vR v0, vI v1, vU, vU, vU] [] h := by
  refine r_aload_n (pc := 0) dX22_number_0 rfl ?_
  obtain ⟨hk1, K⟩ := K
  refine r_geti' (pc := 1) (T := TX22) 22 1 rfl hk1 (Or.inl q1295) dX22_number_1 kc22 g22001 ?_
  refine r_iload_n (pc := 4) dX22_number_4 rfl ?_
  refine r_icmp_le (pc := 5) (tgt := 16) dX22_number_5 rfl (fun c2 => ?_) (fun c2 => ?_)
  · have K := K.1 c2
    refine r_lconst (pc := 16) (a := 0) dX22_number_16 rfl ?_
    refine r_lstore_n (pc := 17) (lv' := [_, _, _, _, _]) dX22_number_17 (by decide) rfl ?_
    refine r_iconst (pc := 18) (x := 0) dX22_number_18 rfl ?_
    refine r_istore (pc := 19) (lv' := [_, _, _, _, _]) dX22_number_19 (by decide) rfl ?_
    refine r_mask (pc := 21) [true, false, true, false, true] rfl ?_
    exact K
  · have K := K.2 c2
    refine r_new (pc := 8) 17 kc17 rfl q1500 q1037 q182 dX22_number_8 (fun q3 eq3 zq3 wq3 => ?_)
    refine r_nameH (fun h4 eh4 => ?_)
    have K := K q3 eq3 wq3 h4 eh4
    have hk5 := kd_newSE eh4 eq3
    refine r_dup (pc := 11) rfl dX22_number_11 ?_
    obtain ⟨hd6, K⟩ := K
    refine r_exInit (pc := 12) 17 _ hd6 hk5 (fr_newS eh4 eq3) (Or.inr zq3) kc17 rfl ex_17 (Or.inr ⟨_, q1501⟩) dX22_number_12 rfl ?_
    refine r_nameH (fun h7 eh7 => ?_)
    have K := K h7 eh7
    have hk8 := kd_exH eh7 hk5
    exact r_athrow (pc := 15) (nzk hk8 rfl) dX22_number_15 (Tw.out rfl K)
theorem eX22_number {G : Gx} {d : Nat} {Φ : Out → AH → Prop} (h : AH) (v0 : Nat) (v1 : Int32) (K : WF G h → Aw G mX22_number (d + 1) 0 h Φ 0 [vR v0, vI v1, vU, vU, vU] [] h) : Cw G mX22_number (d + 1) 0 [vR v0, vI v1] h Φ := Cw.of rfl K
set_option maxHeartbeats 4000000 in
theorem sX22_number_21 {G : Gx} {d t : Nat} {h0 : AH} {Φ : Out → AH → Prop} (h : AH) (v0 : Nat) (v2 : Int64) (v4 : Int32) (K : h.kd v0 = 22 ∧ (((h.i 22001 v0) ≤ v4 → (((h.i 22001 v0) ≤ 0 → Φ (.inl (some (vJ v2))) h) ∧ (¬ (h.i 22001 v0) ≤ 0 → ∀ r4 : Nat, r4 = (h.r 22000 v0) → h.kd r4 = 101 ∧ vp_in ((h.i 22001 v0) - 1) (h.ai r4).length ∧ ((0 ≤ ((h.ai r4).getD (((h.i 22001 v0) - 1).toNatClampNeg) 0) → Φ (.inl (some (vJ v2))) h) ∧ (¬ 0 ≤ ((h.ai r4).getD (((h.i 22001 v0) - 1).toNatClampNeg) 0) → Φ (.inl (some (vJ (-v2)))) h))))) ∧ (¬ (h.i 22001 v0) ≤ v4 → ∀ r8 : Nat, r8 = (h.r 22000 v0) → h.kd r8 = 101 ∧ vp_in v4 (h.ai r8).length ∧ ((¬ v4 = ((h.i 22001 v0) - 1) → ∀ u12 : Int64, u12 = (v2 ||| (Jshl ((((h.ai r8).getD (v4.toNatClampNeg) 0) &&& 255).toInt64) (8 * v4))) → Aw G mX22_number (d + 1) t h0 Φ 21 [vR v0, vU, vJ u12, vU, vI (v4 + 1)] [] h) ∧ (v4 = ((h.i 22001 v0) - 1) → ∀ u13 : Int64, u13 = (v2 ||| (Jshl ((((h.ai r8).getD (v4.toNatClampNeg) 0) &&& 127).toInt64) (8 * v4))) → Aw G mX22_number (d + 1) t h0 Φ 21 [vR v0, vU, vJ u13, vU, vI (v4 + 1)] [] h))))) : Aw G mX22_number (d + 1) t h0 Φ 21 [vR v0, vU, vJ v2, vU, vI v4] [] h := by
  refine r_iload (pc := 21) dX22_number_21 rfl ?_
  refine r_aload_n (pc := 23) dX22_number_23 rfl ?_
  obtain ⟨hk1, K⟩ := K
  refine r_geti' (pc := 24) (T := TX22) 22 1 rfl hk1 (Or.inl q1295) dX22_number_24 kc22 g22001 ?_
  refine r_icmp_ge (pc := 27) (tgt := 73) dX22_number_27 rfl (fun c2 => ?_) (fun c2 => ?_)
  · have K := K.1 c2
    refine r_aload_n (pc := 73) dX22_number_73 rfl ?_
    refine r_geti' (pc := 74) (T := TX22) 22 1 rfl hk1 (Or.inl q1295) dX22_number_74 kc22 g22001 ?_
    refine r_if_le (pc := 77) (tgt := 99) dX22_number_77 rfl (fun c3 => ?_) (fun c3 => ?_)
    · have K := K.1 c3
      refine r_lload_n (pc := 99) dX22_number_99 rfl ?_
      exact r_lret (pc := 100) rfl dX22_number_100 K
    · have K := K.2 c3
      refine r_aload_n (pc := 80) dX22_number_80 rfl ?_
      have K := K _ rfl
      refine r_getr' (pc := 81) (T := TX22) 22 0 rfl hk1 (Or.inl q1292) dX22_number_81 kc22 g22000 ?_
      refine r_aload_n (pc := 84) dX22_number_84 rfl ?_
      refine r_geti' (pc := 85) (T := TX22) 22 1 rfl hk1 (Or.inl q1295) dX22_number_85 kc22 g22001 ?_
      refine r_iconst (pc := 88) (x := 1) dX22_number_88 rfl ?_
      refine r_isub (pc := 89) dX22_number_89 ?_
      obtain ⟨hk5, K⟩ := K
      obtain ⟨hi6, K⟩ := K
      refine r_baload (pc := 90) hk5 hi6 dX22_number_90 ?_
      refine r_if_ge (pc := 91) (tgt := 99) dX22_number_91 rfl (fun c7 => ?_) (fun c7 => ?_)
      · have K := K.1 c7
        refine r_lload_n (pc := 99) dX22_number_99 rfl ?_
        exact r_lret (pc := 100) rfl dX22_number_100 K
      · have K := K.2 c7
        refine r_lload_n (pc := 94) dX22_number_94 rfl ?_
        refine r_lneg (pc := 95) dX22_number_95 ?_
        refine r_goto (pc := 96) (tgt := 100) dX22_number_96 rfl ?_
        exact r_lret (pc := 100) rfl dX22_number_100 K
  · have K := K.2 c2
    refine r_lload_n (pc := 30) dX22_number_30 rfl ?_
    refine r_aload_n (pc := 31) dX22_number_31 rfl ?_
    have K := K _ rfl
    refine r_getr' (pc := 32) (T := TX22) 22 0 rfl hk1 (Or.inl q1292) dX22_number_32 kc22 g22000 ?_
    refine r_iload (pc := 35) dX22_number_35 rfl ?_
    obtain ⟨hk9, K⟩ := K
    obtain ⟨hi10, K⟩ := K
    refine r_baload (pc := 37) hk9 hi10 dX22_number_37 ?_
    refine r_iload (pc := 38) dX22_number_38 rfl ?_
    refine r_aload_n (pc := 40) dX22_number_40 rfl ?_
    refine r_geti' (pc := 41) (T := TX22) 22 1 rfl hk1 (Or.inl q1295) dX22_number_41 kc22 g22001 ?_
    refine r_iconst (pc := 44) (x := 1) dX22_number_44 rfl ?_
    refine r_isub (pc := 45) dX22_number_45 ?_
    refine r_icmp_ne (pc := 46) (tgt := 54) dX22_number_46 rfl (fun c11 => ?_) (fun c11 => ?_)
    · have K := K.1 c11
      refine r_sipush (pc := 54) (x := 255) dX22_number_54 rfl ?_
      refine r_iand (pc := 57) dX22_number_57 ?_
      refine r_i2l (pc := 58) dX22_number_58 ?_
      refine r_bipush (pc := 59) (x := 8) dX22_number_59 rfl ?_
      refine r_iload (pc := 61) dX22_number_61 rfl ?_
      refine r_imul (pc := 63) dX22_number_63 ?_
      refine r_Jshl (pc := 64) dX22_number_64 ?_
      refine r_lor (pc := 65) dX22_number_65 ?_
      have K := K _ rfl
      refine r_lstore_n (pc := 66) (lv' := [_, _, _, _, _]) dX22_number_66 (by decide) rfl ?_
      refine r_iinc (pc := 67) (lv' := [_, _, _, _, _]) dX22_number_67 rfl rfl (by decide) rfl ?_
      refine r_goto (pc := 70) (tgt := 21) dX22_number_70 rfl ?_
      refine r_mask (pc := 21) [true, false, true, false, true] rfl ?_
      exact K
    · have K := K.2 c11
      refine r_bipush (pc := 49) (x := 127) dX22_number_49 rfl ?_
      refine r_goto (pc := 51) (tgt := 57) dX22_number_51 rfl ?_
      refine r_iand (pc := 57) dX22_number_57 ?_
      refine r_i2l (pc := 58) dX22_number_58 ?_
      refine r_bipush (pc := 59) (x := 8) dX22_number_59 rfl ?_
      refine r_iload (pc := 61) dX22_number_61 rfl ?_
      refine r_imul (pc := 63) dX22_number_63 ?_
      refine r_Jshl (pc := 64) dX22_number_64 ?_
      refine r_lor (pc := 65) dX22_number_65 ?_
      have K := K _ rfl
      refine r_lstore_n (pc := 66) (lv' := [_, _, _, _, _]) dX22_number_66 (by decide) rfl ?_
      refine r_iinc (pc := 67) (lv' := [_, _, _, _, _]) dX22_number_67 rfl rfl (by decide) rfl ?_
      refine r_goto (pc := 70) (tgt := 21) dX22_number_70 rfl ?_
      refine r_mask (pc := 21) [true, false, true, false, true] rfl ?_
      exact K
theorem dX22_be_0 : decode cX22_be 0 = .ok (.aload_n 0, 1) := by decide +kernel
theorem dX22_be_1 : decode cX22_be 1 = .ok (.iconst 0, 1) := by decide +kernel
theorem dX22_be_2 : decode cX22_be 2 = .ok (.putfield 13, 3) := by decide +kernel
theorem dX22_be_5 : decode cX22_be 5 = .ok (.lload_n 1, 1) := by decide +kernel
theorem dX22_be_6 : decode cX22_be 6 = .ok (.lconst 0, 1) := by decide +kernel
theorem dX22_be_7 : decode cX22_be 7 = .ok (.lcmp, 1) := by decide +kernel
theorem dX22_be_8 : decode cX22_be 8 = .ok (.ifCond .ge 8, 3) := by decide +kernel
theorem dX22_be_11 : decode cX22_be 11 = .ok (.lload_n 1, 1) := by decide +kernel
theorem dX22_be_12 : decode cX22_be 12 = .ok (.lneg, 1) := by decide +kernel
theorem dX22_be_13 : decode cX22_be 13 = .ok (.goto 4, 3) := by decide +kernel
theorem dX22_be_16 : decode cX22_be 16 = .ok (.lload_n 1, 1) := by decide +kernel
theorem dX22_be_17 : decode cX22_be 17 = .ok (.lstore_n 3, 1) := by decide +kernel
theorem dX22_be_18 : decode cX22_be 18 = .ok (.lload_n 3, 1) := by decide +kernel
theorem dX22_be_19 : decode cX22_be 19 = .ok (.lconst 0, 1) := by decide +kernel
theorem dX22_be_20 : decode cX22_be 20 = .ok (.lcmp, 1) := by decide +kernel
theorem dX22_be_21 : decode cX22_be 21 = .ok (.ifCond .eq 33, 3) := by decide +kernel
theorem dX22_be_24 : decode cX22_be 24 = .ok (.aload_n 0, 1) := by decide +kernel
theorem dX22_be_25 : decode cX22_be 25 = .ok (.getfield 7, 3) := by decide +kernel
theorem dX22_be_28 : decode cX22_be 28 = .ok (.aload_n 0, 1) := by decide +kernel
theorem dX22_be_29 : decode cX22_be 29 = .ok (.getfield 13, 3) := by decide +kernel
theorem dX22_be_32 : decode cX22_be 32 = .ok (.lload_n 3, 1) := by decide +kernel
theorem dX22_be_33 : decode cX22_be 33 = .ok (.l2i, 1) := by decide +kernel
theorem dX22_be_34 : decode cX22_be 34 = .ok (.i2b, 1) := by decide +kernel
theorem dX22_be_35 : decode cX22_be 35 = .ok (.bastore, 1) := by decide +kernel
theorem dX22_be_36 : decode cX22_be 36 = .ok (.aload_n 0, 1) := by decide +kernel
theorem dX22_be_37 : decode cX22_be 37 = .ok (.dup, 1) := by decide +kernel
theorem dX22_be_38 : decode cX22_be 38 = .ok (.getfield 13, 3) := by decide +kernel
theorem dX22_be_41 : decode cX22_be 41 = .ok (.iconst 1, 1) := by decide +kernel
theorem dX22_be_42 : decode cX22_be 42 = .ok (.iadd, 1) := by decide +kernel
theorem dX22_be_43 : decode cX22_be 43 = .ok (.putfield 13, 3) := by decide +kernel
theorem dX22_be_46 : decode cX22_be 46 = .ok (.lload_n 3, 1) := by decide +kernel
theorem dX22_be_47 : decode cX22_be 47 = .ok (.bipush 8, 2) := by decide +kernel
theorem dX22_be_49 : decode cX22_be 49 = .ok (.lushr, 1) := by decide +kernel
theorem dX22_be_50 : decode cX22_be 50 = .ok (.lstore_n 3, 1) := by decide +kernel
theorem dX22_be_51 : decode cX22_be 51 = .ok (.goto (-33), 3) := by decide +kernel
theorem dX22_be_54 : decode cX22_be 54 = .ok (.lload_n 1, 1) := by decide +kernel
theorem dX22_be_55 : decode cX22_be 55 = .ok (.lconst 0, 1) := by decide +kernel
theorem dX22_be_56 : decode cX22_be 56 = .ok (.lcmp, 1) := by decide +kernel
theorem dX22_be_57 : decode cX22_be 57 = .ok (.ifCond .ne 4, 3) := by decide +kernel
theorem dX22_be_60 : decode cX22_be 60 = .ok (.return_, 1) := by decide +kernel
theorem dX22_be_61 : decode cX22_be 61 = .ok (.aload_n 0, 1) := by decide +kernel
theorem dX22_be_62 : decode cX22_be 62 = .ok (.getfield 7, 3) := by decide +kernel
theorem dX22_be_65 : decode cX22_be 65 = .ok (.aload_n 0, 1) := by decide +kernel
theorem dX22_be_66 : decode cX22_be 66 = .ok (.getfield 13, 3) := by decide +kernel
theorem dX22_be_69 : decode cX22_be 69 = .ok (.iconst 1, 1) := by decide +kernel
theorem dX22_be_70 : decode cX22_be 70 = .ok (.isub, 1) := by decide +kernel
theorem dX22_be_71 : decode cX22_be 71 = .ok (.baload, 1) := by decide +kernel
theorem dX22_be_72 : decode cX22_be 72 = .ok (.ifCond .ge 39, 3) := by decide +kernel
theorem dX22_be_75 : decode cX22_be 75 = .ok (.aload_n 0, 1) := by decide +kernel
theorem dX22_be_76 : decode cX22_be 76 = .ok (.getfield 7, 3) := by decide +kernel
theorem dX22_be_79 : decode cX22_be 79 = .ok (.aload_n 0, 1) := by decide +kernel
theorem dX22_be_80 : decode cX22_be 80 = .ok (.getfield 13, 3) := by decide +kernel
theorem dX22_be_83 : decode cX22_be 83 = .ok (.lload_n 1, 1) := by decide +kernel
theorem dX22_be_84 : decode cX22_be 84 = .ok (.lconst 0, 1) := by decide +kernel
theorem dX22_be_85 : decode cX22_be 85 = .ok (.lcmp, 1) := by decide +kernel
theorem dX22_be_86 : decode cX22_be 86 = .ok (.ifCond .ge 9, 3) := by decide +kernel
theorem dX22_be_89 : decode cX22_be 89 = .ok (.sipush 128, 3) := by decide +kernel
theorem dX22_be_92 : decode cX22_be 92 = .ok (.goto 4, 3) := by decide +kernel
theorem dX22_be_95 : decode cX22_be 95 = .ok (.iconst 0, 1) := by decide +kernel
theorem dX22_be_96 : decode cX22_be 96 = .ok (.i2b, 1) := by decide +kernel
theorem dX22_be_97 : decode cX22_be 97 = .ok (.bastore, 1) := by decide +kernel
theorem dX22_be_98 : decode cX22_be 98 = .ok (.aload_n 0, 1) := by decide +kernel
theorem dX22_be_99 : decode cX22_be 99 = .ok (.dup, 1) := by decide +kernel
theorem dX22_be_100 : decode cX22_be 100 = .ok (.getfield 13, 3) := by decide +kernel
theorem dX22_be_103 : decode cX22_be 103 = .ok (.iconst 1, 1) := by decide +kernel
theorem dX22_be_104 : decode cX22_be 104 = .ok (.iadd, 1) := by decide +kernel
theorem dX22_be_105 : decode cX22_be 105 = .ok (.putfield 13, 3) := by decide +kernel
theorem dX22_be_108 : decode cX22_be 108 = .ok (.goto 26, 3) := by decide +kernel
theorem dX22_be_111 : decode cX22_be 111 = .ok (.lload_n 1, 1) := by decide +kernel
theorem dX22_be_112 : decode cX22_be 112 = .ok (.lconst 0, 1) := by decide +kernel
theorem dX22_be_113 : decode cX22_be 113 = .ok (.lcmp, 1) := by decide +kernel
theorem dX22_be_114 : decode cX22_be 114 = .ok (.ifCond .ge 20, 3) := by decide +kernel
theorem dX22_be_117 : decode cX22_be 117 = .ok (.aload_n 0, 1) := by decide +kernel
theorem dX22_be_118 : decode cX22_be 118 = .ok (.getfield 7, 3) := by decide +kernel
theorem dX22_be_121 : decode cX22_be 121 = .ok (.aload_n 0, 1) := by decide +kernel
theorem dX22_be_122 : decode cX22_be 122 = .ok (.getfield 13, 3) := by decide +kernel
theorem dX22_be_125 : decode cX22_be 125 = .ok (.iconst 1, 1) := by decide +kernel
theorem dX22_be_126 : decode cX22_be 126 = .ok (.isub, 1) := by decide +kernel
theorem dX22_be_127 : decode cX22_be 127 = .ok (.dup2, 1) := by decide +kernel
theorem dX22_be_128 : decode cX22_be 128 = .ok (.baload, 1) := by decide +kernel
theorem dX22_be_129 : decode cX22_be 129 = .ok (.bipush (-128), 2) := by decide +kernel
theorem dX22_be_131 : decode cX22_be 131 = .ok (.ior, 1) := by decide +kernel
theorem dX22_be_132 : decode cX22_be 132 = .ok (.i2b, 1) := by decide +kernel
theorem dX22_be_133 : decode cX22_be 133 = .ok (.bastore, 1) := by decide +kernel
theorem dX22_be_134 : decode cX22_be 134 = .ok (.return_, 1) := by decide +kernel
/-! CoinJudge$Element.be(J)V -/
set_option maxHeartbeats 4000000 in
theorem sX22_be_0 {G : Gx} {d t : Nat} {h0 : AH} {Φ : Out → AH → Prop} (h : AH) (v0 : Nat) (v1 : Int64) (K : h.kd v0 = 22 ∧ ∀ h2 : AH, h2 = h.pi 22001 v0 0 → ((0 ≤ v1 → Aw G mX22_be (d + 1) t h0 Φ 18 [vR v0, vJ v1, vU, vJ v1, vU] [] h2) ∧ (¬ 0 ≤ v1 → Aw G mX22_be (d + 1) t h0 Φ 18 [vR v0, vJ v1, vU, vJ (-v1), vU] [] h2))) : Aw G mX22_be (d + 1) t h0 Φ 0 [vR v0, vJ v1, vU, vU, vU] [] h := by
  refine r_aload_n (pc := 0) dX22_be_0 rfl ?_
  refine r_iconst (pc := 1) (x := 0) dX22_be_1 rfl ?_
  obtain ⟨hk1, K⟩ := K
  refine r_puti (pc := 2) (T := TX22) (key := 22001) 22 1 hk1 (Or.inl q1295) dX22_be_2 kc22 rfl (Or.inl rfl) (Or.inl (em rfl)) ?_
  refine r_nameH (fun h2 eh2 => ?_)
  have K := K h2 eh2
  refine r_lload_n (pc := 5) dX22_be_5 rfl ?_
  refine r_lconst (pc := 6) (a := 0) dX22_be_6 rfl ?_
  refine r_lcmp_ge (pc := 7) (tgt := 16) dX22_be_7 dX22_be_8 rfl (fun c3 => ?_) (fun c3 => ?_)
  · have K := K.1 c3
    refine r_lload_n (pc := 16) dX22_be_16 rfl ?_
    refine r_lstore_n (pc := 17) (lv' := [_, _, _, _, _]) dX22_be_17 (by decide) rfl ?_
    refine r_mask (pc := 18) [true, true, false, true, false] rfl ?_
    exact K
  · have K := K.2 c3
    refine r_lload_n (pc := 11) dX22_be_11 rfl ?_
    refine r_lneg (pc := 12) dX22_be_12 ?_
    refine r_goto (pc := 13) (tgt := 17) dX22_be_13 rfl ?_
    refine r_lstore_n (pc := 17) (lv' := [_, _, _, _, _]) dX22_be_17 (by decide) rfl ?_
    refine r_mask (pc := 18) [true, true, false, true, false] rfl ?_
    exact K
theorem eX22_be {G : Gx} {d : Nat} {Φ : Out → AH → Prop} (h : AH) (v0 : Nat) (v1 : Int64) (K : WF G h → Aw G mX22_be (d + 1) 0 h Φ 0 [vR v0, vJ v1, vU, vU, vU] [] h) : Cw G mX22_be (d + 1) 0 [vR v0, vJ v1] h Φ := Cw.of rfl K
set_option maxHeartbeats 4000000 in
theorem sX22_be_18 {G : Gx} {d t : Nat} {h0 : AH} {Φ : Out → AH → Prop} (h : AH) (v0 : Nat) (v1 : Int64) (v3 : Int64) (K : ((v3 = 0 → ((¬ v1 = 0 → h.kd v0 = 22 ∧ ∀ r4 : Nat, r4 = (h.r 22000 v0) → h.kd r4 = 101 ∧ vp_in ((h.i 22001 v0) - 1) (h.ai r4).length ∧ ((0 ≤ ((h.ai r4).getD (((h.i 22001 v0) - 1).toNatClampNeg) 0) → ((0 ≤ v1 → Φ (.inl none) h) ∧ (¬ 0 ≤ v1 → vp_in ((h.i 22001 v0) - 1) (h.ai r4).length ∧ vp_in ((h.i 22001 v0) - 1) (h.ai r4).length ∧ ∀ h11 : AH, h11 = h.wi r4 ((h.ai r4).set (((h.i 22001 v0) - 1).toNatClampNeg) (i2b (i2b (((h.ai r4).getD (((h.i 22001 v0) - 1).toNatClampNeg) 0) ||| (-128))))) → Φ (.inl none) h11))) ∧ (¬ 0 ≤ ((h.ai r4).getD (((h.i 22001 v0) - 1).toNatClampNeg) 0) → ((0 ≤ v1 → vp_in (h.i 22001 v0) (h.ai r4).length ∧ ∀ h14 : AH, h14 = h.wi r4 ((h.ai r4).set ((h.i 22001 v0).toNatClampNeg) (i2b (i2b 0))) → ∀ h18 : AH, h18 = h14.pi 22001 v0 ((h.i 22001 v0) + 1) → Φ (.inl none) h18) ∧ (¬ 0 ≤ v1 → vp_in (h.i 22001 v0) (h.ai r4).length ∧ ∀ h20 : AH, h20 = h.wi r4 ((h.ai r4).set ((h.i 22001 v0).toNatClampNeg) (i2b (i2b 128))) → ∀ h24 : AH, h24 = h20.pi 22001 v0 ((h.i 22001 v0) + 1) → Φ (.inl none) h24))))) ∧ (v1 = 0 → Φ (.inl none) h))) ∧ (¬ v3 = 0 → h.kd v0 = 22 ∧ ∀ r26 : Nat, r26 = (h.r 22000 v0) → h.kd r26 = 101 ∧ vp_in (h.i 22001 v0) (h.ai r26).length ∧ ∀ h29 : AH, h29 = h.wi r26 ((h.ai r26).set ((h.i 22001 v0).toNatClampNeg) (i2b (i2b v3.toInt32))) → ∀ h33 : AH, h33 = h29.pi 22001 v0 ((h.i 22001 v0) + 1) → Aw G mX22_be (d + 1) t h0 Φ 18 [vR v0, vJ v1, vU, vJ (Jushr v3 8), vU] [] h33))) : Aw G mX22_be (d + 1) t h0 Φ 18 [vR v0, vJ v1, vU, vJ v3, vU] [] h := by
  refine r_lload_n (pc := 18) dX22_be_18 rfl ?_
  refine r_lconst (pc := 19) (a := 0) dX22_be_19 rfl ?_
  refine r_lcmp_eq (pc := 20) (tgt := 54) dX22_be_20 dX22_be_21 rfl (fun c1 => ?_) (fun c1 => ?_)
  · have K := K.1 c1
    refine r_lload_n (pc := 54) dX22_be_54 rfl ?_
    refine r_lconst (pc := 55) (a := 0) dX22_be_55 rfl ?_
    refine r_lcmp_ne (pc := 56) (tgt := 61) dX22_be_56 dX22_be_57 rfl (fun c2 => ?_) (fun c2 => ?_)
    · have K := K.1 c2
      refine r_aload_n (pc := 61) dX22_be_61 rfl ?_
      obtain ⟨hk3, K⟩ := K
      have K := K _ rfl
      refine r_getr' (pc := 62) (T := TX22) 22 0 rfl hk3 (Or.inl q1292) dX22_be_62 kc22 g22000 ?_
      refine r_aload_n (pc := 65) dX22_be_65 rfl ?_
      refine r_geti' (pc := 66) (T := TX22) 22 1 rfl hk3 (Or.inl q1295) dX22_be_66 kc22 g22001 ?_
      refine r_iconst (pc := 69) (x := 1) dX22_be_69 rfl ?_
      refine r_isub (pc := 70) dX22_be_70 ?_
      obtain ⟨hk5, K⟩ := K
      obtain ⟨hi6, K⟩ := K
      refine r_baload (pc := 71) hk5 hi6 dX22_be_71 ?_
      refine r_if_ge (pc := 72) (tgt := 111) dX22_be_72 rfl (fun c7 => ?_) (fun c7 => ?_)
      · have K := K.1 c7
        refine r_lload_n (pc := 111) dX22_be_111 rfl ?_
        refine r_lconst (pc := 112) (a := 0) dX22_be_112 rfl ?_
        refine r_lcmp_ge (pc := 113) (tgt := 134) dX22_be_113 dX22_be_114 rfl (fun c8 => ?_) (fun c8 => ?_)
        · have K := K.1 c8
          exact r_vret (pc := 134) rfl dX22_be_134 K
        · have K := K.2 c8
          refine r_aload_n (pc := 117) dX22_be_117 rfl ?_
          refine r_getr' (pc := 118) (T := TX22) 22 0 rfl hk3 (Or.inl q1292) dX22_be_118 kc22 g22000 ?_
          refine r_aload_n (pc := 121) dX22_be_121 rfl ?_
          refine r_geti' (pc := 122) (T := TX22) 22 1 rfl hk3 (Or.inl q1295) dX22_be_122 kc22 g22001 ?_
          refine r_iconst (pc := 125) (x := 1) dX22_be_125 rfl ?_
          refine r_isub (pc := 126) dX22_be_126 ?_
          refine r_dup2 (pc := 127) rfl rfl dX22_be_127 ?_
          obtain ⟨hi9, K⟩ := K
          refine r_baload (pc := 128) hk5 hi9 dX22_be_128 ?_
          refine r_bipush (pc := 129) (x := (-128)) dX22_be_129 rfl ?_
          refine r_ior (pc := 131) dX22_be_131 ?_
          refine r_ji2b (pc := 132) dX22_be_132 ?_
          obtain ⟨hi10, K⟩ := K
          refine r_jbast (pc := 133) hk5 hi10 (Or.inl (em rfl)) dX22_be_133 ?_
          refine r_nameH (fun h11 eh11 => ?_)
          have K := K h11 eh11
          exact r_vret (pc := 134) rfl dX22_be_134 K
      · have K := K.2 c7
        refine r_aload_n (pc := 75) dX22_be_75 rfl ?_
        refine r_getr' (pc := 76) (T := TX22) 22 0 rfl hk3 (Or.inl q1292) dX22_be_76 kc22 g22000 ?_
        refine r_aload_n (pc := 79) dX22_be_79 rfl ?_
        refine r_geti' (pc := 80) (T := TX22) 22 1 rfl hk3 (Or.inl q1295) dX22_be_80 kc22 g22001 ?_
        refine r_lload_n (pc := 83) dX22_be_83 rfl ?_
        refine r_lconst (pc := 84) (a := 0) dX22_be_84 rfl ?_
        refine r_lcmp_ge (pc := 85) (tgt := 95) dX22_be_85 dX22_be_86 rfl (fun c12 => ?_) (fun c12 => ?_)
        · have K := K.1 c12
          refine r_iconst (pc := 95) (x := 0) dX22_be_95 rfl ?_
          refine r_ji2b (pc := 96) dX22_be_96 ?_
          obtain ⟨hi13, K⟩ := K
          refine r_jbast (pc := 97) hk5 hi13 (Or.inl (em rfl)) dX22_be_97 ?_
          refine r_nameH (fun h14 eh14 => ?_)
          have K := K h14 eh14
          refine r_aload_n (pc := 98) dX22_be_98 rfl ?_
          refine r_dup (pc := 99) rfl dX22_be_99 ?_
          have hk15 := kd_wi eh14 hk3
          have hv16 := fi_self (key := 22001) hk3
          have hv17 := fi_wi (key := 22001) eh14 hv16
          refine r_geti' (pc := 100) (T := TX22) 22 1 hv17 hk15 (Or.inl q1295) dX22_be_100 kc22 g22001 ?_
          refine r_iconst (pc := 103) (x := 1) dX22_be_103 rfl ?_
          refine r_iadd (pc := 104) dX22_be_104 ?_
          refine r_puti (pc := 105) (T := TX22) (key := 22001) 22 1 hk15 (Or.inl q1295) dX22_be_105 kc22 rfl (Or.inl rfl) (Or.inl (em rfl)) ?_
          refine r_nameH (fun h18 eh18 => ?_)
          have K := K h18 eh18
          refine r_goto (pc := 108) (tgt := 134) dX22_be_108 rfl ?_
          exact r_vret (pc := 134) rfl dX22_be_134 K
        · have K := K.2 c12
          refine r_sipush (pc := 89) (x := 128) dX22_be_89 rfl ?_
          refine r_goto (pc := 92) (tgt := 96) dX22_be_92 rfl ?_
          refine r_ji2b (pc := 96) dX22_be_96 ?_
          obtain ⟨hi19, K⟩ := K
          refine r_jbast (pc := 97) hk5 hi19 (Or.inl (em rfl)) dX22_be_97 ?_
          refine r_nameH (fun h20 eh20 => ?_)
          have K := K h20 eh20
          refine r_aload_n (pc := 98) dX22_be_98 rfl ?_
          refine r_dup (pc := 99) rfl dX22_be_99 ?_
          have hk21 := kd_wi eh20 hk3
          have hv22 := fi_self (key := 22001) hk3
          have hv23 := fi_wi (key := 22001) eh20 hv22
          refine r_geti' (pc := 100) (T := TX22) 22 1 hv23 hk21 (Or.inl q1295) dX22_be_100 kc22 g22001 ?_
          refine r_iconst (pc := 103) (x := 1) dX22_be_103 rfl ?_
          refine r_iadd (pc := 104) dX22_be_104 ?_
          refine r_puti (pc := 105) (T := TX22) (key := 22001) 22 1 hk21 (Or.inl q1295) dX22_be_105 kc22 rfl (Or.inl rfl) (Or.inl (em rfl)) ?_
          refine r_nameH (fun h24 eh24 => ?_)
          have K := K h24 eh24
          refine r_goto (pc := 108) (tgt := 134) dX22_be_108 rfl ?_
          exact r_vret (pc := 134) rfl dX22_be_134 K
    · have K := K.2 c2
      exact r_vret (pc := 60) rfl dX22_be_60 K
  · have K := K.2 c1
    refine r_aload_n (pc := 24) dX22_be_24 rfl ?_
    obtain ⟨hk25, K⟩ := K
    have K := K _ rfl
    refine r_getr' (pc := 25) (T := TX22) 22 0 rfl hk25 (Or.inl q1292) dX22_be_25 kc22 g22000 ?_
    refine r_aload_n (pc := 28) dX22_be_28 rfl ?_
    refine r_geti' (pc := 29) (T := TX22) 22 1 rfl hk25 (Or.inl q1295) dX22_be_29 kc22 g22001 ?_
    refine r_lload_n (pc := 32) dX22_be_32 rfl ?_
    refine r_l2i (pc := 33) dX22_be_33 ?_
    refine r_ji2b (pc := 34) dX22_be_34 ?_
    obtain ⟨hk27, K⟩ := K
    obtain ⟨hi28, K⟩ := K
    refine r_jbast (pc := 35) hk27 hi28 (Or.inl (em rfl)) dX22_be_35 ?_
    refine r_nameH (fun h29 eh29 => ?_)
    have K := K h29 eh29
    refine r_aload_n (pc := 36) dX22_be_36 rfl ?_
    refine r_dup (pc := 37) rfl dX22_be_37 ?_
    have hk30 := kd_wi eh29 hk25
    have hv31 := fi_self (key := 22001) hk25
    have hv32 := fi_wi (key := 22001) eh29 hv31
    refine r_geti' (pc := 38) (T := TX22) 22 1 hv32 hk30 (Or.inl q1295) dX22_be_38 kc22 g22001 ?_
    refine r_iconst (pc := 41) (x := 1) dX22_be_41 rfl ?_
    refine r_iadd (pc := 42) dX22_be_42 ?_
    refine r_puti (pc := 43) (T := TX22) (key := 22001) 22 1 hk30 (Or.inl q1295) dX22_be_43 kc22 rfl (Or.inl rfl) (Or.inl (em rfl)) ?_
    refine r_nameH (fun h33 eh33 => ?_)
    have K := K h33 eh33
    refine r_lload_n (pc := 46) dX22_be_46 rfl ?_
    refine r_bipush (pc := 47) (x := 8) dX22_be_47 rfl ?_
    refine r_Jushr (pc := 49) dX22_be_49 ?_
    refine r_lstore_n (pc := 50) (lv' := [_, _, _, _, _]) dX22_be_50 (by decide) rfl ?_
    refine r_goto (pc := 51) (tgt := 18) dX22_be_51 rfl ?_
    refine r_mask (pc := 18) [true, true, false, true, false] rfl ?_
    exact K
theorem dX8_signed_0 : decode cX8_signed 0 = .ok (.aload_n 0, 1) := by decide +kernel
theorem dX8_signed_1 : decode cX8_signed 1 = .ok (.aload_n 1, 1) := by decide +kernel
theorem dX8_signed_2 : decode cX8_signed 2 = .ok (.getfield 119, 3) := by decide +kernel
theorem dX8_signed_5 : decode cX8_signed 5 = .ok (.aload_n 1, 1) := by decide +kernel
theorem dX8_signed_6 : decode cX8_signed 6 = .ok (.getfield 122, 3) := by decide +kernel
theorem dX8_signed_9 : decode cX8_signed 9 = .ok (.iconst 1, 1) := by decide +kernel
theorem dX8_signed_10 : decode cX8_signed 10 = .ok (.isub, 1) := by decide +kernel
theorem dX8_signed_11 : decode cX8_signed 11 = .ok (.baload, 1) := by decide +kernel
theorem dX8_signed_12 : decode cX8_signed 12 = .ok (.sipush 255, 3) := by decide +kernel
theorem dX8_signed_15 : decode cX8_signed 15 = .ok (.iand, 1) := by decide +kernel
theorem dX8_signed_16 : decode cX8_signed 16 = .ok (.aload_n 3, 1) := by decide +kernel
theorem dX8_signed_17 : decode cX8_signed 17 = .ok (.iload 4, 2) := by decide +kernel
theorem dX8_signed_19 : decode cX8_signed 19 = .ok (.iload 5, 2) := by decide +kernel
theorem dX8_signed_21 : decode cX8_signed 21 = .ok (.invokevirtual 123, 3) := by decide +kernel
theorem dX8_signed_24 : decode cX8_signed 24 = .ok (.aload_n 0, 1) := by decide +kernel
theorem dX8_signed_25 : decode cX8_signed 25 = .ok (.getfield 22, 3) := by decide +kernel
theorem dX8_signed_28 : decode cX8_signed 28 = .ok (.aload_n 1, 1) := by decide +kernel
theorem dX8_signed_29 : decode cX8_signed 29 = .ok (.getfield 119, 3) := by decide +kernel
theorem dX8_signed_32 : decode cX8_signed 32 = .ok (.iconst 0, 1) := by decide +kernel
theorem dX8_signed_33 : decode cX8_signed 33 = .ok (.aload_n 0, 1) := by decide +kernel
theorem dX8_signed_34 : decode cX8_signed 34 = .ok (.getfield 15, 3) := by decide +kernel
theorem dX8_signed_37 : decode cX8_signed 37 = .ok (.aload_n 2, 1) := by decide +kernel
theorem dX8_signed_38 : decode cX8_signed 38 = .ok (.getfield 119, 3) := by decide +kernel
theorem dX8_signed_41 : decode cX8_signed 41 = .ok (.iconst 0, 1) := by decide +kernel
theorem dX8_signed_42 : decode cX8_signed 42 = .ok (.aload_n 2, 1) := by decide +kernel
theorem dX8_signed_43 : decode cX8_signed 43 = .ok (.getfield 122, 3) := by decide +kernel
theorem dX8_signed_46 : decode cX8_signed 46 = .ok (.invokevirtual 127, 3) := by decide +kernel
theorem dX8_signed_49 : decode cX8_signed 49 = .ok (.ireturn, 1) := by decide +kernel
/-! CoinJudge$Signing.signed(LCoinJudge$Element;LCoinJudge$Element;[BII)Z -/
set_option maxHeartbeats 4000000 in
theorem sX8_signed_0 {G : Gx} {d t : Nat} {h0 : AH} {Φ : Out → AH → Prop} (h : AH) (v0 : Nat) (v1 : Nat) (v2 : Nat) (v3 : Nat) (v4 : Int32) (v5 : Int32) (K : h.kd v1 = 22 ∧ ∀ r2 : Nat, r2 = (h.r 22000 v1) → h.kd r2 = 101 ∧ vp_in ((h.i 22001 v1) - 1) (h.ai r2).length ∧ h.kd v0 = 8 ∧ Cw G mX8_make d 0 [vR v0, vI (((h.ai r2).getD (((h.i 22001 v1) - 1).toNatClampNeg) 0) &&& 255), vR v3, vI v4, vI v5] h (kV (fun h6 => ∀ r9 : Nat, r9 = (h6.r 8001 v0) → ∀ r13 : Nat, r13 = (h6.r 8004 v0) → h6.kd v2 = 22 ∧ ∀ r15 : Nat, r15 = (h6.r 22000 v2) → h6.kd r9 = 3 ∧ Cw G mX3_verify d 0 [vR r9, vR r2, vI 0, vR r13, vR r15, vI 0, vI (h6.i 22001 v2)] h6 (kI (fun x16 h17 => (x16 = 0 ∨ x16 = 1) ∧ Φ (.inl (some (vI x16))) h17) (fun x h => Φ (.inr x) h))) (fun x h => Φ (.inr x) h))) : Aw G mX8_signed (d + 1) t h0 Φ 0 [vR v0, vR v1, vR v2, vR v3, vI v4, vI v5] [] h := by
  refine r_aload_n (pc := 0) dX8_signed_0 rfl ?_
  refine r_aload_n (pc := 1) dX8_signed_1 rfl ?_
  obtain ⟨hk1, K⟩ := K
  have K := K _ rfl
  refine r_getr' (pc := 2) (T := TX22) 22 0 rfl hk1 (Or.inr (Or.inl ⟨_, q1294⟩)) dX8_signed_2 kc22 g22000 ?_
  refine r_aload_n (pc := 5) dX8_signed_5 rfl ?_
  refine r_geti' (pc := 6) (T := TX22) 22 1 rfl hk1 (Or.inr (Or.inl ⟨_, q1297⟩)) dX8_signed_6 kc22 g22001 ?_
  refine r_iconst (pc := 9) (x := 1) dX8_signed_9 rfl ?_
  refine r_isub (pc := 10) dX8_signed_10 ?_
  obtain ⟨hk3, K⟩ := K
  obtain ⟨hi4, K⟩ := K
  refine r_baload (pc := 11) hk3 hi4 dX8_signed_11 ?_
  refine r_sipush (pc := 12) (x := 255) dX8_signed_12 rfl ?_
  refine r_iand (pc := 15) dX8_signed_15 ?_
  refine r_aload_n (pc := 16) dX8_signed_16 rfl ?_
  refine r_iload (pc := 17) dX8_signed_17 rfl ?_
  refine r_iload (pc := 19) dX8_signed_19 rfl ?_
  obtain ⟨hk7, K⟩ := K
  refine r_callV_V (pc := 21) (Y := mX8_make) (vs := [_, _, _, _]) (st := []) hk7 rfl kc8 q1354 q1355 q1356 dX8_signed_21 rfl cd_X8_make rfl rfl fp_X8_signed_X8_make K (fun h6 eh6 wh6 K => ?_) (fun x h1 _ _ e => Tw.out rfl e)
  refine r_aload_n (pc := 24) dX8_signed_24 rfl ?_
  have hk8 := kd_ext eh6 hk7 (nz rfl)
  have K := K _ rfl
  refine r_getr' (pc := 25) (T := TX8) 8 1 rfl hk8 (Or.inl q546) dX8_signed_25 kc8 g8001 ?_
  refine r_aload_n (pc := 28) dX8_signed_28 rfl ?_
  have hk10 := kd_ext eh6 hk1 (nz rfl)
  have hv11 := fr_self (key := 22000) hk1
  have hv12 := (fr_ext (key := 22000) eh6 hk1 (nz rfl) (ne0 wh6 hk10 (nz rfl)) (nm rfl)).trans hv11
  refine r_getr' (pc := 29) (T := TX22) 22 0 hv12 hk10 (Or.inr (Or.inl ⟨_, q1294⟩)) dX8_signed_29 kc22 g22000 ?_
  refine r_iconst (pc := 32) (x := 0) dX8_signed_32 rfl ?_
  refine r_aload_n (pc := 33) dX8_signed_33 rfl ?_
  have K := K _ rfl
  refine r_getr' (pc := 34) (T := TX8) 8 4 rfl hk8 (Or.inl q549) dX8_signed_34 kc8 g8004 ?_
  refine r_aload_n (pc := 37) dX8_signed_37 rfl ?_
  obtain ⟨hk14, K⟩ := K
  have K := K _ rfl
  refine r_getr' (pc := 38) (T := TX22) 22 0 rfl hk14 (Or.inr (Or.inl ⟨_, q1294⟩)) dX8_signed_38 kc22 g22000 ?_
  refine r_iconst (pc := 41) (x := 0) dX8_signed_41 rfl ?_
  refine r_aload_n (pc := 42) dX8_signed_42 rfl ?_
  refine r_geti' (pc := 43) (T := TX22) 22 1 rfl hk14 (Or.inr (Or.inl ⟨_, q1297⟩)) dX8_signed_43 kc22 g22001 ?_
  obtain ⟨hk18, K⟩ := K
  refine r_callV_I (pc := 46) (Y := mX3_verify) (vs := [_, _, _, _, _, _]) (st := []) hk18 rfl kc3 q1382 q1383 q1384 dX8_signed_46 rfl cd_X3_verify rfl rfl fp_X8_signed_X3_verify K (fun x16 h17 eh17 wh17 K => ?_) (fun x h1 _ _ e => Tw.out rfl e)
  obtain ⟨hb19, K⟩ := K
  exact r_iret (pc := 49) rfl (nar_z hb19) dX8_signed_49 K
theorem eX8_signed {G : Gx} {d : Nat} {Φ : Out → AH → Prop} (h : AH) (v0 : Nat) (v1 : Nat) (v2 : Nat) (v3 : Nat) (v4 : Int32) (v5 : Int32) (K : WF G h → Aw G mX8_signed (d + 1) 0 h Φ 0 [vR v0, vR v1, vR v2, vR v3, vI v4, vI v5] [] h) : Cw G mX8_signed (d + 1) 0 [vR v0, vR v1, vR v2, vR v3, vI v4, vI v5] h Φ := Cw.of rfl K
theorem dX22_same_0 : decode cX22_same 0 = .ok (.aload_n 0, 1) := by decide +kernel
theorem dX22_same_1 : decode cX22_same 1 = .ok (.getfield 13, 3) := by decide +kernel
theorem dX22_same_4 : decode cX22_same 4 = .ok (.aload_n 1, 1) := by decide +kernel
theorem dX22_same_5 : decode cX22_same 5 = .ok (.getfield 13, 3) := by decide +kernel
theorem dX22_same_8 : decode cX22_same 8 = .ok (.if_icmp .eq 5, 3) := by decide +kernel
theorem dX22_same_11 : decode cX22_same 11 = .ok (.iconst 0, 1) := by decide +kernel
theorem dX22_same_12 : decode cX22_same 12 = .ok (.ireturn, 1) := by decide +kernel
theorem dX22_same_13 : decode cX22_same 13 = .ok (.iconst 0, 1) := by decide +kernel
theorem dX22_same_14 : decode cX22_same 14 = .ok (.istore_n 2, 1) := by decide +kernel
theorem dX22_same_15 : decode cX22_same 15 = .ok (.iload_n 2, 1) := by decide +kernel
theorem dX22_same_16 : decode cX22_same 16 = .ok (.aload_n 0, 1) := by decide +kernel
theorem dX22_same_17 : decode cX22_same 17 = .ok (.getfield 13, 3) := by decide +kernel
theorem dX22_same_20 : decode cX22_same 20 = .ok (.if_icmp .ge 26, 3) := by decide +kernel
theorem dX22_same_23 : decode cX22_same 23 = .ok (.aload_n 0, 1) := by decide +kernel
theorem dX22_same_24 : decode cX22_same 24 = .ok (.getfield 7, 3) := by decide +kernel
theorem dX22_same_27 : decode cX22_same 27 = .ok (.iload_n 2, 1) := by decide +kernel
theorem dX22_same_28 : decode cX22_same 28 = .ok (.baload, 1) := by decide +kernel
theorem dX22_same_29 : decode cX22_same 29 = .ok (.aload_n 1, 1) := by decide +kernel
theorem dX22_same_30 : decode cX22_same 30 = .ok (.getfield 7, 3) := by decide +kernel
theorem dX22_same_33 : decode cX22_same 33 = .ok (.iload_n 2, 1) := by decide +kernel
theorem dX22_same_34 : decode cX22_same 34 = .ok (.baload, 1) := by decide +kernel
theorem dX22_same_35 : decode cX22_same 35 = .ok (.if_icmp .eq 5, 3) := by decide +kernel
theorem dX22_same_38 : decode cX22_same 38 = .ok (.iconst 0, 1) := by decide +kernel
theorem dX22_same_39 : decode cX22_same 39 = .ok (.ireturn, 1) := by decide +kernel
theorem dX22_same_40 : decode cX22_same 40 = .ok (.iinc 2 1, 3) := by decide +kernel
theorem dX22_same_43 : decode cX22_same 43 = .ok (.goto (-28), 3) := by decide +kernel
theorem dX22_same_46 : decode cX22_same 46 = .ok (.iconst 1, 1) := by decide +kernel
theorem dX22_same_47 : decode cX22_same 47 = .ok (.ireturn, 1) := by decide +kernel
/-! CoinJudge$Element.same(LCoinJudge$Element;)Z -/
set_option maxHeartbeats 4000000 in
theorem sX22_same_0 {G : Gx} {d t : Nat} {h0 : AH} {Φ : Out → AH → Prop} (h : AH) (v0 : Nat) (v1 : Nat) (K : h.kd v0 = 22 ∧ h.kd v1 = 22 ∧ (((h.i 22001 v0) = (h.i 22001 v1) → Aw G mX22_same (d + 1) t h0 Φ 15 [vR v0, vR v1, vI 0] [] h) ∧ (¬ (h.i 22001 v0) = (h.i 22001 v1) → Φ (.inl (some (vI 0))) h))) : Aw G mX22_same (d + 1) t h0 Φ 0 [vR v0, vR v1, vU] [] h := by
  refine r_aload_n (pc := 0) dX22_same_0 rfl ?_
  obtain ⟨hk1, K⟩ := K
  refine r_geti' (pc := 1) (T := TX22) 22 1 rfl hk1 (Or.inl q1295) dX22_same_1 kc22 g22001 ?_
  refine r_aload_n (pc := 4) dX22_same_4 rfl ?_
  obtain ⟨hk2, K⟩ := K
  refine r_geti' (pc := 5) (T := TX22) 22 1 rfl hk2 (Or.inl q1295) dX22_same_5 kc22 g22001 ?_
  refine r_icmp_eq (pc := 8) (tgt := 13) dX22_same_8 rfl (fun c3 => ?_) (fun c3 => ?_)
  · have K := K.1 c3
    refine r_iconst (pc := 13) (x := 0) dX22_same_13 rfl ?_
    refine r_istore_n (pc := 14) (lv' := [_, _, _]) dX22_same_14 (by decide) rfl ?_
    refine r_mask (pc := 15) [true, true, true] rfl ?_
    exact K
  · have K := K.2 c3
    refine r_iconst (pc := 11) (x := 0) dX22_same_11 rfl ?_
    exact r_iret (pc := 12) rfl rfl dX22_same_12 K
theorem eX22_same {G : Gx} {d : Nat} {Φ : Out → AH → Prop} (h : AH) (v0 : Nat) (v1 : Nat) (K : WF G h → Aw G mX22_same (d + 1) 0 h Φ 0 [vR v0, vR v1, vU] [] h) : Cw G mX22_same (d + 1) 0 [vR v0, vR v1] h Φ := Cw.of rfl K
set_option maxHeartbeats 4000000 in
theorem sX22_same_15 {G : Gx} {d t : Nat} {h0 : AH} {Φ : Out → AH → Prop} (h : AH) (v0 : Nat) (v1 : Nat) (v2 : Int32) (K : h.kd v0 = 22 ∧ (((h.i 22001 v0) ≤ v2 → Φ (.inl (some (vI 1))) h) ∧ (¬ (h.i 22001 v0) ≤ v2 → ∀ r3 : Nat, r3 = (h.r 22000 v0) → h.kd r3 = 101 ∧ vp_in v2 (h.ai r3).length ∧ h.kd v1 = 22 ∧ ∀ r7 : Nat, r7 = (h.r 22000 v1) → h.kd r7 = 101 ∧ vp_in v2 (h.ai r7).length ∧ ((((h.ai r3).getD (v2.toNatClampNeg) 0) = ((h.ai r7).getD (v2.toNatClampNeg) 0) → Aw G mX22_same (d + 1) t h0 Φ 15 [vR v0, vR v1, vI (v2 + 1)] [] h) ∧ (¬ ((h.ai r3).getD (v2.toNatClampNeg) 0) = ((h.ai r7).getD (v2.toNatClampNeg) 0) → Φ (.inl (some (vI 0))) h))))) : Aw G mX22_same (d + 1) t h0 Φ 15 [vR v0, vR v1, vI v2] [] h := by
  refine r_iload_n (pc := 15) dX22_same_15 rfl ?_
  refine r_aload_n (pc := 16) dX22_same_16 rfl ?_
  obtain ⟨hk1, K⟩ := K
  refine r_geti' (pc := 17) (T := TX22) 22 1 rfl hk1 (Or.inl q1295) dX22_same_17 kc22 g22001 ?_
  refine r_icmp_ge (pc := 20) (tgt := 46) dX22_same_20 rfl (fun c2 => ?_) (fun c2 => ?_)
  · have K := K.1 c2
    refine r_iconst (pc := 46) (x := 1) dX22_same_46 rfl ?_
    exact r_iret (pc := 47) rfl rfl dX22_same_47 K
  · have K := K.2 c2
    refine r_aload_n (pc := 23) dX22_same_23 rfl ?_
    have K := K _ rfl
    refine r_getr' (pc := 24) (T := TX22) 22 0 rfl hk1 (Or.inl q1292) dX22_same_24 kc22 g22000 ?_
    refine r_iload_n (pc := 27) dX22_same_27 rfl ?_
    obtain ⟨hk4, K⟩ := K
    obtain ⟨hi5, K⟩ := K
    refine r_baload (pc := 28) hk4 hi5 dX22_same_28 ?_
    refine r_aload_n (pc := 29) dX22_same_29 rfl ?_
    obtain ⟨hk6, K⟩ := K
    have K := K _ rfl
    refine r_getr' (pc := 30) (T := TX22) 22 0 rfl hk6 (Or.inl q1292) dX22_same_30 kc22 g22000 ?_
    refine r_iload_n (pc := 33) dX22_same_33 rfl ?_
    obtain ⟨hk8, K⟩ := K
    obtain ⟨hi9, K⟩ := K
    refine r_baload (pc := 34) hk8 hi9 dX22_same_34 ?_
    refine r_icmp_eq (pc := 35) (tgt := 40) dX22_same_35 rfl (fun c10 => ?_) (fun c10 => ?_)
    · have K := K.1 c10
      refine r_iinc (pc := 40) (lv' := [_, _, _]) dX22_same_40 rfl rfl (by decide) rfl ?_
      refine r_goto (pc := 43) (tgt := 15) dX22_same_43 rfl ?_
      refine r_mask (pc := 15) [true, true, true] rfl ?_
      exact K
    · have K := K.2 c10
      refine r_iconst (pc := 38) (x := 0) dX22_same_38 rfl ?_
      exact r_iret (pc := 39) rfl rfl dX22_same_39 K
theorem dX8_lock_0 : decode cX8_lock 0 = .ok (.aload_n 0, 1) := by decide +kernel
theorem dX8_lock_1 : decode cX8_lock 1 = .ok (.getfield 29, 3) := by decide +kernel
theorem dX8_lock_4 : decode cX8_lock 4 = .ok (.getfield 101, 3) := by decide +kernel
theorem dX8_lock_7 : decode cX8_lock 7 = .ok (.lreturn, 1) := by decide +kernel
/-! CoinJudge$Signing.lock()J -/
set_option maxHeartbeats 4000000 in
theorem sX8_lock_0 {G : Gx} {d t : Nat} {h0 : AH} {Φ : Out → AH → Prop} (h : AH) (v0 : Nat) (K : h.kd v0 = 8 ∧ ∀ r2 : Nat, r2 = (h.r 8006 v0) → h.kd r2 = 18 ∧ Φ (.inl (some (vJ (h.l 18004 r2)))) h) : Aw G mX8_lock (d + 1) t h0 Φ 0 [vR v0] [] h := by
  refine r_aload_n (pc := 0) dX8_lock_0 rfl ?_
  obtain ⟨hk1, K⟩ := K
  have K := K _ rfl
  refine r_getr' (pc := 1) (T := TX8) 8 6 rfl hk1 (Or.inl q551) dX8_lock_1 kc8 g8006 ?_
  obtain ⟨hk3, K⟩ := K
  refine r_getl' (pc := 4) (T := TX18) 18 4 rfl hk3 (Or.inr (Or.inl ⟨_, q1084⟩)) dX8_lock_4 kc18 g18004 ?_
  exact r_lret (pc := 7) rfl dX8_lock_7 K
theorem eX8_lock {G : Gx} {d : Nat} {Φ : Out → AH → Prop} (h : AH) (v0 : Nat) (K : WF G h → Aw G mX8_lock (d + 1) 0 h Φ 0 [vR v0] [] h) : Cw G mX8_lock (d + 1) 0 [vR v0] h Φ := Cw.of rfl K
theorem dX8_sequence_0 : decode cX8_sequence 0 = .ok (.aload_n 0, 1) := by decide +kernel
theorem dX8_sequence_1 : decode cX8_sequence 1 = .ok (.getfield 29, 3) := by decide +kernel
theorem dX8_sequence_4 : decode cX8_sequence 4 = .ok (.getfield 62, 3) := by decide +kernel
theorem dX8_sequence_7 : decode cX8_sequence 7 = .ok (.aload_n 0, 1) := by decide +kernel
theorem dX8_sequence_8 : decode cX8_sequence 8 = .ok (.getfield 33, 3) := by decide +kernel
theorem dX8_sequence_11 : decode cX8_sequence 11 = .ok (.aaload, 1) := by decide +kernel
theorem dX8_sequence_12 : decode cX8_sequence 12 = .ok (.getfield 85, 3) := by decide +kernel
theorem dX8_sequence_15 : decode cX8_sequence 15 = .ok (.lreturn, 1) := by decide +kernel
/-! CoinJudge$Signing.sequence()J -/
set_option maxHeartbeats 4000000 in
theorem sX8_sequence_0 {G : Gx} {d t : Nat} {h0 : AH} {Φ : Out → AH → Prop} (h : AH) (v0 : Nat) (K : h.kd v0 = 8 ∧ ∀ r2 : Nat, r2 = (h.r 8006 v0) → h.kd r2 = 18 ∧ ∀ r4 : Nat, r4 = (h.r 18005 r2) → h.kd r4 = 111 ∧ vp_in (h.i 8007 v0) (h.ar r4).length ∧ ∀ r7 : Nat, r7 = ((h.ar r4).getD ((h.i 8007 v0).toNatClampNeg) 0) → h.kd r7 = 19 ∧ Φ (.inl (some (vJ (h.l 19004 r7)))) h) : Aw G mX8_sequence (d + 1) t h0 Φ 0 [vR v0] [] h := by
  refine r_aload_n (pc := 0) dX8_sequence_0 rfl ?_
  obtain ⟨hk1, K⟩ := K
  have K := K _ rfl
  refine r_getr' (pc := 1) (T := TX8) 8 6 rfl hk1 (Or.inl q551) dX8_sequence_1 kc8 g8006 ?_
  obtain ⟨hk3, K⟩ := K
  have K := K _ rfl
  refine r_getr' (pc := 4) (T := TX18) 18 5 rfl hk3 (Or.inr (Or.inl ⟨_, q1086⟩)) dX8_sequence_4 kc18 g18005 ?_
  refine r_aload_n (pc := 7) dX8_sequence_7 rfl ?_
  refine r_geti' (pc := 8) (T := TX8) 8 7 rfl hk1 (Or.inl q552) dX8_sequence_8 kc8 g8007 ?_
  obtain ⟨hk5, K⟩ := K
  obtain ⟨hi6, K⟩ := K
  have K := K _ rfl
  refine r_aaload (pc := 11) (le_of_eq_r hk5 (by decide)) hi6 dX8_sequence_11 ?_
  obtain ⟨hk8, K⟩ := K
  refine r_getl' (pc := 12) (T := TX19) 19 4 rfl hk8 (Or.inr (Or.inl ⟨_, q1124⟩)) dX8_sequence_12 kc19 g19004 ?_
  exact r_lret (pc := 15) rfl dX8_sequence_15 K
theorem eX8_sequence {G : Gx} {d : Nat} {Φ : Out → AH → Prop} (h : AH) (v0 : Nat) (K : WF G h → Aw G mX8_sequence (d + 1) 0 h Φ 0 [vR v0] [] h) : Cw G mX8_sequence (d + 1) 0 [vR v0] h Φ := Cw.of rfl K
theorem dX9_get_0 : decode cX9_get 0 = .ok (.aload_n 0, 1) := by decide +kernel
theorem dX9_get_1 : decode cX9_get 1 = .ok (.aload_n 1, 1) := by decide +kernel
theorem dX9_get_2 : decode cX9_get 2 = .ok (.iload_n 2, 1) := by decide +kernel
theorem dX9_get_3 : decode cX9_get 3 = .ok (.iload_n 3, 1) := by decide +kernel
theorem dX9_get_4 : decode cX9_get 4 = .ok (.invokevirtual 33, 3) := by decide +kernel
theorem dX9_get_7 : decode cX9_get 7 = .ok (.istore 4, 2) := by decide +kernel
theorem dX9_get_9 : decode cX9_get 9 = .ok (.iload 4, 2) := by decide +kernel
theorem dX9_get_11 : decode cX9_get 11 = .ok (.ifCond .ge 7, 3) := by decide +kernel
theorem dX9_get_14 : decode cX9_get 14 = .ok (.aconst_null, 1) := by decide +kernel
theorem dX9_get_15 : decode cX9_get 15 = .ok (.goto 10, 3) := by decide +kernel
theorem dX9_get_18 : decode cX9_get 18 = .ok (.aload_n 0, 1) := by decide +kernel
theorem dX9_get_19 : decode cX9_get 19 = .ok (.getfield 9, 3) := by decide +kernel
theorem dX9_get_22 : decode cX9_get 22 = .ok (.iload 4, 2) := by decide +kernel
theorem dX9_get_24 : decode cX9_get 24 = .ok (.aaload, 1) := by decide +kernel
theorem dX9_get_25 : decode cX9_get 25 = .ok (.areturn, 1) := by decide +kernel
/-! CoinJudge$Coins.get([BII)LCoinJudge$Coin; -/
set_option maxHeartbeats 4000000 in
theorem sX9_get_0 {G : Gx} {d t : Nat} {h0 : AH} {Φ : Out → AH → Prop} (h : AH) (v0 : Nat) (v1 : Nat) (v2 : Int32) (v3 : Int32) (K : h.kd v0 = 9 ∧ Cw G mX9_find d 0 [vR v0, vR v1, vI v2, vI v3] h (kI (fun x1 h2 => ((0 ≤ x1 → ∀ r6 : Nat, r6 = (h2.r 9000 v0) → h2.kd r6 = 105 ∧ vp_in x1 (h2.ar r6).length ∧ ∀ r9 : Nat, r9 = ((h2.ar r6).getD (x1.toNatClampNeg) 0) → Φ (.inl (some (vR r9))) h2) ∧ (¬ 0 ≤ x1 → Φ (.inl (some (vR 0))) h2))) (fun x h => Φ (.inr x) h))) : Aw G mX9_get (d + 1) t h0 Φ 0 [vR v0, vR v1, vI v2, vI v3, vU] [] h := by
  refine r_aload_n (pc := 0) dX9_get_0 rfl ?_
  refine r_aload_n (pc := 1) dX9_get_1 rfl ?_
  refine r_iload_n (pc := 2) dX9_get_2 rfl ?_
  refine r_iload_n (pc := 3) dX9_get_3 rfl ?_
  obtain ⟨hk3, K⟩ := K
  refine r_callV_I (pc := 4) (Y := mX9_find) (vs := [_, _, _]) (st := []) hk3 rfl kc9 q1216 q1218 qs12 dX9_get_4 rfl cd_X9_find rfl rfl fp_X9_get_X9_find K (fun x1 h2 eh2 wh2 K => ?_) (fun x h1 _ _ e => Tw.out rfl e)
  refine r_istore (pc := 7) (lv' := [_, _, _, _, _]) dX9_get_7 (by decide) rfl ?_
  refine r_iload (pc := 9) dX9_get_9 rfl ?_
  refine r_if_ge (pc := 11) (tgt := 18) dX9_get_11 rfl (fun c4 => ?_) (fun c4 => ?_)
  · have K := K.1 c4
    refine r_aload_n (pc := 18) dX9_get_18 rfl ?_
    have hk5 := kd_ext eh2 hk3 (nz rfl)
    have K := K _ rfl
    refine r_getr' (pc := 19) (T := TX9) 9 0 rfl hk5 (Or.inl q578) dX9_get_19 kc9 g9000 ?_
    refine r_iload (pc := 22) dX9_get_22 rfl ?_
    obtain ⟨hk7, K⟩ := K
    obtain ⟨hi8, K⟩ := K
    have K := K _ rfl
    refine r_aaload (pc := 24) (le_of_eq_r hk7 (by decide)) hi8 dX9_get_24 ?_
    exact r_aret (pc := 25) rfl rfl dX9_get_25 K
  · have K := K.2 c4
    refine r_null (pc := 14) dX9_get_14 ?_
    refine r_goto (pc := 15) (tgt := 25) dX9_get_15 rfl ?_
    exact r_aret (pc := 25) rfl rfl dX9_get_25 K
theorem eX9_get {G : Gx} {d : Nat} {Φ : Out → AH → Prop} (h : AH) (v0 : Nat) (v1 : Nat) (v2 : Int32) (v3 : Int32) (K : WF G h → Aw G mX9_get (d + 1) 0 h Φ 0 [vR v0, vR v1, vI v2, vI v3, vU] [] h) : Cw G mX9_get (d + 1) 0 [vR v0, vR v1, vI v2, vI v3] h Φ := Cw.of rfl K
theorem dX23_init_0 : decode cX23_init 0 = .ok (.aload_n 0, 1) := by decide +kernel
theorem dX23_init_1 : decode cX23_init 1 = .ok (.invokespecial 1, 3) := by decide +kernel
theorem dX23_init_4 : decode cX23_init 4 = .ok (.aload_n 0, 1) := by decide +kernel
theorem dX23_init_5 : decode cX23_init 5 = .ok (.aload_n 1, 1) := by decide +kernel
theorem dX23_init_6 : decode cX23_init 6 = .ok (.putfield 7, 3) := by decide +kernel
theorem dX23_init_9 : decode cX23_init 9 = .ok (.aload_n 0, 1) := by decide +kernel
theorem dX23_init_10 : decode cX23_init 10 = .ok (.aload_n 2, 1) := by decide +kernel
theorem dX23_init_11 : decode cX23_init 11 = .ok (.putfield 13, 3) := by decide +kernel
theorem dX23_init_14 : decode cX23_init 14 = .ok (.aload_n 0, 1) := by decide +kernel
theorem dX23_init_15 : decode cX23_init 15 = .ok (.iload_n 3, 1) := by decide +kernel
theorem dX23_init_16 : decode cX23_init 16 = .ok (.putfield 17, 3) := by decide +kernel
theorem dX23_init_19 : decode cX23_init 19 = .ok (.return_, 1) := by decide +kernel
/-! CoinJudge$Coin.<init>(LCoinJudge$Block;LCoinJudge$Tx;I)V -/
set_option maxHeartbeats 4000000 in
theorem sX23_init_0 {G : Gx} {d t : Nat} {h0 : AH} {Φ : Out → AH → Prop} (h : AH) (v0 : Nat) (v1 : Nat) (v2 : Nat) (v3 : Int32) (K : h.kd v0 = 23 ∧ ∀ h2 : AH, h2 = h.pr 23000 v0 v1 → ∀ h4 : AH, h4 = h2.pr 23001 v0 v2 → ∀ h6 : AH, h6 = h4.pi 23002 v0 v3 → Φ (.inl none) h6) : Aw G mX23_init (d + 1) v0 h0 Φ 0 [vR v0, vR v1, vR v2, vI v3] [] h := by
  refine r_aload_n (pc := 0) dX23_init_0 rfl ?_
  obtain ⟨hk1, K⟩ := K
  refine r_objInit (pc := 1) (nzk hk1 rfl) q1677 q207 q208 dX23_init_1 (by decide) ?_
  refine r_aload_n (pc := 4) dX23_init_4 rfl ?_
  refine r_aload_n (pc := 5) dX23_init_5 rfl ?_
  refine r_putr (pc := 6) (T := TX23) (key := 23000) 23 0 (ty := (.object "CoinJudge$Block")) hk1 (Or.inl q1678) dX23_init_6 kc23 rfl rfl (Or.inr q1678) (Or.inr (Or.inl rfl)) ?_
  refine r_nameH (fun h2 eh2 => ?_)
  have K := K h2 eh2
  refine r_aload_n (pc := 9) dX23_init_9 rfl ?_
  refine r_aload_n (pc := 10) dX23_init_10 rfl ?_
  have hk3 := kd_pr eh2 hk1
  refine r_putr (pc := 11) (T := TX23) (key := 23001) 23 1 (ty := (.object "CoinJudge$Tx")) hk3 (Or.inl q1680) dX23_init_11 kc23 rfl rfl (Or.inr q1680) (Or.inr (Or.inl rfl)) ?_
  refine r_nameH (fun h4 eh4 => ?_)
  have K := K h4 eh4
  refine r_aload_n (pc := 14) dX23_init_14 rfl ?_
  refine r_iload_n (pc := 15) dX23_init_15 rfl ?_
  have hk5 := kd_pr eh4 hk3
  refine r_puti (pc := 16) (T := TX23) (key := 23002) 23 2 hk5 (Or.inl q1682) dX23_init_16 kc23 rfl (Or.inr q1682) (Or.inr (Or.inl rfl)) ?_
  refine r_nameH (fun h6 eh6 => ?_)
  have K := K h6 eh6
  exact r_vret (pc := 19) rfl dX23_init_19 K
theorem eX23_init {G : Gx} {d : Nat} {Φ : Out → AH → Prop} (h : AH) (v0 : Nat) (v1 : Nat) (v2 : Nat) (v3 : Int32) (K : WF G h → Aw G mX23_init (d + 1) v0 h Φ 0 [vR v0, vR v1, vR v2, vI v3] [] h) : Cw G mX23_init (d + 1) v0 [vR v0, vR v1, vR v2, vI v3] h Φ := Cw.of rfl K
theorem dX15_init_0 : decode cX15_init 0 = .ok (.aload_n 0, 1) := by decide +kernel
theorem dX15_init_1 : decode cX15_init 1 = .ok (.invokespecial 1, 3) := by decide +kernel
theorem dX15_init_4 : decode cX15_init 4 = .ok (.aload_n 0, 1) := by decide +kernel
theorem dX15_init_5 : decode cX15_init 5 = .ok (.bipush 32, 2) := by decide +kernel
theorem dX15_init_7 : decode cX15_init 7 = .ok (.newarray .byte, 2) := by decide +kernel
theorem dX15_init_9 : decode cX15_init 9 = .ok (.putfield 7, 3) := by decide +kernel
theorem dX15_init_12 : decode cX15_init 12 = .ok (.aload_n 0, 1) := by decide +kernel
theorem dX15_init_13 : decode cX15_init 13 = .ok (.new 13, 3) := by decide +kernel
theorem dX15_init_16 : decode cX15_init 16 = .ok (.dup, 1) := by decide +kernel
theorem dX15_init_17 : decode cX15_init 17 = .ok (.invokespecial 15, 3) := by decide +kernel
theorem dX15_init_20 : decode cX15_init 20 = .ok (.putfield 16, 3) := by decide +kernel
theorem dX15_init_23 : decode cX15_init 23 = .ok (.aload_n 0, 1) := by decide +kernel
theorem dX15_init_24 : decode cX15_init 24 = .ok (.getstatic 20, 3) := by decide +kernel
theorem dX15_init_27 : decode cX15_init 27 = .ok (.putfield 26, 3) := by decide +kernel
theorem dX15_init_30 : decode cX15_init 30 = .ok (.aload_n 0, 1) := by decide +kernel
theorem dX15_init_31 : decode cX15_init 31 = .ok (.new 29, 3) := by decide +kernel
theorem dX15_init_34 : decode cX15_init 34 = .ok (.dup, 1) := by decide +kernel
theorem dX15_init_35 : decode cX15_init 35 = .ok (.invokespecial 31, 3) := by decide +kernel
theorem dX15_init_38 : decode cX15_init 38 = .ok (.putfield 32, 3) := by decide +kernel
theorem dX15_init_41 : decode cX15_init 41 = .ok (.return_, 1) := by decide +kernel
/-! CoinJudge$Block.<init>()V -/
set_option maxHeartbeats 4000000 in
theorem sX15_init_0 {G : Gx} {d t : Nat} {h0 : AH} {Φ : Out → AH → Prop} (h : AH) (v0 : Nat) (K : h.kd v0 = 15 ∧ ∀ q2 : Nat, q2 = h.z → WF G h → ∀ h3 : AH, h3 = h.new 101 32 (List.replicate 32 0) [] [] → ∀ h6 : AH, h6 = h3.pr 15003 v0 q2 → ∀ q7 : Nat, q7 = h6.z → WF G h6 → ∀ h8 : AH, h8 = h6.new 5 1 [] [] [] → Cw G mX5_init d q7 [vR q7] h8 (kV (fun h11 => ∀ h15 : AH, h15 = h11.pr 15006 v0 q7 → ∀ h17 : AH, h17 = h15.pr 15010 v0 (G.2.2.2.2 10) → ∀ q18 : Nat, q18 = h17.z → WF G h17 → ∀ h19 : AH, h19 = h17.new 29 3 [] [] [] → Cw G mJ13_init d q18 [vR q18] h19 (kV (fun h22 => ∀ h26 : AH, h26 = h22.pr 15011 v0 q18 → Φ (.inl none) h26) (fun x h => Φ (.inr x) h))) (fun x h => Φ (.inr x) h))) : Aw G mX15_init (d + 1) v0 h0 Φ 0 [vR v0] [] h := by
  refine r_aload_n (pc := 0) dX15_init_0 rfl ?_
  obtain ⟨hk1, K⟩ := K
  refine r_objInit (pc := 1) (nzk hk1 rfl) q941 q207 q208 dX15_init_1 (by decide) ?_
  refine r_aload_n (pc := 4) dX15_init_4 rfl ?_
  refine r_bipush (pc := 5) (x := 32) dX15_init_5 rfl ?_
  refine r_newaI (pc := 7) 101 (N := 32) rfl rfl (by decide) q284 (by decide) rfl (by decide) dX15_init_7 (fun q2 eq2 zq2 wq2 => ?_)
  refine r_nameH (fun h3 eh3 => ?_)
  have K := K q2 eq2 wq2 h3 eh3
  have hk4 := kd_newSE eh3 eq2
  have hk5 := kd_newE eh3 wq2 hk1 (nz rfl)
  refine r_putr (pc := 9) (T := TX15) (key := 15003) 15 3 (ty := (.array .byte)) hk5 (Or.inl q976) dX15_init_9 kc15 rfl rfl (Or.inr q976) (Or.inr (Or.inl rfl)) ?_
  refine r_nameH (fun h6 eh6 => ?_)
  have K := K h6 eh6
  refine r_aload_n (pc := 12) dX15_init_12 rfl ?_
  refine r_new (pc := 13) 5 kc5 rfl q942 q294 q155 dX15_init_13 (fun q7 eq7 zq7 wq7 => ?_)
  refine r_nameH (fun h8 eh8 => ?_)
  have K := K q7 eq7 wq7 h8 eh8
  have hk9 := kd_newSE eh8 eq7
  refine r_dup (pc := 16) rfl dX15_init_16 ?_
  refine r_callIN_V (pc := 17) (Y := mX5_init) (vs := []) (st := [_, _]) (nzk hk9 rfl) q943 q296 q297 rfl rfl rfl dX15_init_17 rfl (Or.inr zq7) rfl rfl fp_X15_init_X5_init K (fun h11 eh11 wh11 K => ?_) (fun x h1 _ _ e => Tw.out rfl e)
  have hk12 := kd_pr eh6 hk5
  have hk13 := kd_newE eh8 wq7 hk12 (nz rfl)
  have hk14 := kd_ext eh11 hk13 (nz rfl)
  refine r_putr (pc := 20) (T := TX15) (key := 15006) 15 6 (ty := (.object "CoinJudge$Big")) hk14 (Or.inl q980) dX15_init_20 kc15 rfl rfl (Or.inr q980) (Or.inr (Or.inl rfl)) ?_
  refine r_nameH (fun h15 eh15 => ?_)
  have K := K h15 eh15
  refine r_aload_n (pc := 23) dX15_init_23 rfl ?_
  refine r_gets (pc := 24) 10 (by decide) q944 dX15_init_24 ?_
  have hk16 := kd_pr eh15 hk14
  refine r_putr (pc := 27) (T := TX15) (key := 15010) 15 10 (ty := (.object "CoinJudge$State")) hk16 (Or.inl q986) dX15_init_27 kc15 rfl rfl (Or.inl rfl) (Or.inr (Or.inl rfl)) ?_
  refine r_nameH (fun h17 eh17 => ?_)
  have K := K h17 eh17
  refine r_aload_n (pc := 30) dX15_init_30 rfl ?_
  refine r_new (pc := 31) 29 kc29 rfl q946 q947 q180 dX15_init_31 (fun q18 eq18 zq18 wq18 => ?_)
  refine r_nameH (fun h19 eh19 => ?_)
  have K := K q18 eq18 wq18 h19 eh19
  have hk20 := kd_newSE eh19 eq18
  refine r_dup (pc := 34) rfl dX15_init_34 ?_
  refine r_callI_V (pc := 35) (Y := mJ13_init) (vs := []) (st := [_, _]) (nzk hk20 rfl) q948 q949 q950 rfl rfl rfl dX15_init_35 rfl (Or.inr zq18) (cOk_of pf_J13_init rfl) rfl fp_X15_init_J13_init K (fun h22 eh22 wh22 K => ?_) (fun x h1 _ _ e => Tw.out rfl e)
  have hk23 := kd_pr eh17 hk16
  have hk24 := kd_newE eh19 wq18 hk23 (nz rfl)
  have hk25 := kd_ext eh22 hk24 (nz rfl)
  refine r_putr (pc := 38) (T := TX15) (key := 15011) 15 11 (ty := (.object "java/util/List")) hk25 (Or.inl q988) dX15_init_38 kc15 rfl rfl (Or.inr q988) (Or.inr (Or.inl rfl)) ?_
  refine r_nameH (fun h26 eh26 => ?_)
  have K := K h26 eh26
  exact r_vret (pc := 41) rfl dX15_init_41 K
theorem eX15_init {G : Gx} {d : Nat} {Φ : Out → AH → Prop} (h : AH) (v0 : Nat) (K : WF G h → Aw G mX15_init (d + 1) v0 h Φ 0 [vR v0] [] h) : Cw G mX15_init (d + 1) v0 [vR v0] h Φ := Cw.of rfl K
theorem dX16_ended_0 : decode cX16_ended 0 = .ok (.aload_n 0, 1) := by decide +kernel
theorem dX16_ended_1 : decode cX16_ended 1 = .ok (.getfield 17, 3) := by decide +kernel
theorem dX16_ended_4 : decode cX16_ended 4 = .ok (.aload_n 0, 1) := by decide +kernel
theorem dX16_ended_5 : decode cX16_ended 5 = .ok (.getfield 13, 3) := by decide +kernel
theorem dX16_ended_8 : decode cX16_ended 8 = .ok (.if_icmp .ne 7, 3) := by decide +kernel
theorem dX16_ended_11 : decode cX16_ended 11 = .ok (.iconst 1, 1) := by decide +kernel
theorem dX16_ended_12 : decode cX16_ended 12 = .ok (.goto 4, 3) := by decide +kernel
theorem dX16_ended_15 : decode cX16_ended 15 = .ok (.iconst 0, 1) := by decide +kernel
theorem dX16_ended_16 : decode cX16_ended 16 = .ok (.ireturn, 1) := by decide +kernel
/-! CoinJudge$Source.ended()Z -/
set_option maxHeartbeats 4000000 in
theorem sX16_ended_0 {G : Gx} {d t : Nat} {h0 : AH} {Φ : Out → AH → Prop} (h : AH) (v0 : Nat) (K : h.kd v0 = 16 ∧ ((¬ (h.i 16001 v0) = (h.i 16002 v0) → Φ (.inl (some (vI 0))) h) ∧ ((h.i 16001 v0) = (h.i 16002 v0) → Φ (.inl (some (vI 1))) h))) : Aw G mX16_ended (d + 1) t h0 Φ 0 [vR v0] [] h := by
  refine r_aload_n (pc := 0) dX16_ended_0 rfl ?_
  obtain ⟨hk1, K⟩ := K
  refine r_geti' (pc := 1) (T := TX16) 16 1 rfl hk1 (Or.inl q1022) dX16_ended_1 kc16 g16001 ?_
  refine r_aload_n (pc := 4) dX16_ended_4 rfl ?_
  refine r_geti' (pc := 5) (T := TX16) 16 2 rfl hk1 (Or.inl q1023) dX16_ended_5 kc16 g16002 ?_
  refine r_icmp_ne (pc := 8) (tgt := 15) dX16_ended_8 rfl (fun c2 => ?_) (fun c2 => ?_)
  · have K := K.1 c2
    refine r_iconst (pc := 15) (x := 0) dX16_ended_15 rfl ?_
    exact r_iret (pc := 16) rfl rfl dX16_ended_16 K
  · have K := K.2 c2
    refine r_iconst (pc := 11) (x := 1) dX16_ended_11 rfl ?_
    refine r_goto (pc := 12) (tgt := 16) dX16_ended_12 rfl ?_
    exact r_iret (pc := 16) rfl rfl dX16_ended_16 K
theorem eX16_ended {G : Gx} {d : Nat} {Φ : Out → AH → Prop} (h : AH) (v0 : Nat) (K : WF G h → Aw G mX16_ended (d + 1) 0 h Φ 0 [vR v0] [] h) : Cw G mX16_ended (d + 1) 0 [vR v0] h Φ := Cw.of rfl K
theorem dX10_init_0 : decode cX10_init 0 = .ok (.aload_n 0, 1) := by decide +kernel
theorem dX10_init_1 : decode cX10_init 1 = .ok (.invokespecial 3, 3) := by decide +kernel
theorem dX10_init_4 : decode cX10_init 4 = .ok (.aload_n 0, 1) := by decide +kernel
theorem dX10_init_5 : decode cX10_init 5 = .ok (.bipush 12, 2) := by decide +kernel
theorem dX10_init_7 : decode cX10_init 7 = .ok (.anewarray 9, 3) := by decide +kernel
theorem dX10_init_10 : decode cX10_init 10 = .ok (.putfield 11, 3) := by decide +kernel
theorem dX10_init_13 : decode cX10_init 13 = .ok (.aload_n 0, 1) := by decide +kernel
theorem dX10_init_14 : decode cX10_init 14 = .ok (.new 17, 3) := by decide +kernel
theorem dX10_init_17 : decode cX10_init 17 = .ok (.dup, 1) := by decide +kernel
theorem dX10_init_18 : decode cX10_init 18 = .ok (.sipush 1600, 3) := by decide +kernel
theorem dX10_init_21 : decode cX10_init 21 = .ok (.invokespecial 19, 3) := by decide +kernel
theorem dX10_init_24 : decode cX10_init 24 = .ok (.putfield 22, 3) := by decide +kernel
theorem dX10_init_27 : decode cX10_init 27 = .ok (.return_, 1) := by decide +kernel
/-! CoinJudge$Draft.<init>()V -/
set_option maxHeartbeats 4000000 in
theorem sX10_init_0 {G : Gx} {d t : Nat} {h0 : AH} {Φ : Out → AH → Prop} (h : AH) (v0 : Nat) (K : h.kd v0 = 10 ∧ ∀ q2 : Nat, q2 = h.z → WF G h → ∀ h3 : AH, h3 = h.new 107 12 [] [] (List.replicate 12 0) → ∀ h6 : AH, h6 = h3.pr 10002 v0 q2 → ∀ q7 : Nat, q7 = h6.z → WF G h6 → ∀ h8 : AH, h8 = h6.new 11 2 [] [] [] → Cw G mX11_init d q7 [vR q7, vI 1600] h8 (kV (fun h11 => ∀ h15 : AH, h15 = h11.pr 10004 v0 q7 → Φ (.inl none) h15) (fun x h => Φ (.inr x) h))) : Aw G mX10_init (d + 1) v0 h0 Φ 0 [vR v0] [] h := by
  refine r_aload_n (pc := 0) dX10_init_0 rfl ?_
  obtain ⟨hk1, K⟩ := K
  refine r_objInit (pc := 1) (nzk hk1 rfl) q600 q207 q208 dX10_init_1 (by decide) ?_
  refine r_aload_n (pc := 4) dX10_init_4 rfl ?_
  refine r_bipush (pc := 5) (x := 12) dX10_init_5 rfl ?_
  refine r_newaR (pc := 7) 107 (N := 12) rfl q601 (by decide) rfl (by decide) dX10_init_7 (fun q2 eq2 zq2 wq2 => ?_)
  refine r_nameH (fun h3 eh3 => ?_)
  have K := K q2 eq2 wq2 h3 eh3
  have hk4 := kd_newSE eh3 eq2
  have hk5 := kd_newE eh3 wq2 hk1 (nz rfl)
  refine r_putr (pc := 10) (T := TX10) (key := 10002) 10 2 (ty := (.array (.object "CoinJudge$DraftTx"))) hk5 (Or.inl q624) dX10_init_10 kc10 rfl rfl (Or.inr q624) (Or.inr (Or.inl rfl)) ?_
  refine r_nameH (fun h6 eh6 => ?_)
  have K := K h6 eh6
  refine r_aload_n (pc := 13) dX10_init_13 rfl ?_
  refine r_new (pc := 14) 11 kc11 rfl q603 q604 q165 dX10_init_14 (fun q7 eq7 zq7 wq7 => ?_)
  refine r_nameH (fun h8 eh8 => ?_)
  have K := K q7 eq7 wq7 h8 eh8
  have hk9 := kd_newSE eh8 eq7
  refine r_dup (pc := 17) rfl dX10_init_17 ?_
  refine r_sipush (pc := 18) (x := 1600) dX10_init_18 rfl ?_
  refine r_callI_V (pc := 21) (Y := mX11_init) (vs := [_]) (st := [_, _]) (nzk hk9 rfl) q605 q606 q607 rfl rfl rfl dX10_init_21 rfl (Or.inr zq7) rfl rfl fp_X10_init_X11_init K (fun h11 eh11 wh11 K => ?_) (fun x h1 _ _ e => Tw.out rfl e)
  have hk12 := kd_pr eh6 hk5
  have hk13 := kd_newE eh8 wq7 hk12 (nz rfl)
  have hk14 := kd_ext eh11 hk13 (nz rfl)
  refine r_putr (pc := 24) (T := TX10) (key := 10004) 10 4 (ty := (.object "CoinJudge$Sink")) hk14 (Or.inl q628) dX10_init_24 kc10 rfl rfl (Or.inr q628) (Or.inr (Or.inl rfl)) ?_
  refine r_nameH (fun h15 eh15 => ?_)
  have K := K h15 eh15
  exact r_vret (pc := 27) rfl dX10_init_27 K
theorem eX10_init {G : Gx} {d : Nat} {Φ : Out → AH → Prop} (h : AH) (v0 : Nat) (K : WF G h → Aw G mX10_init (d + 1) v0 h Φ 0 [vR v0] [] h) : Cw G mX10_init (d + 1) v0 [vR v0] h Φ := Cw.of rfl K
theorem dX8_init_0 : decode cX8_init 0 = .ok (.aload_n 0, 1) := by decide +kernel
theorem dX8_init_1 : decode cX8_init 1 = .ok (.invokespecial 3, 3) := by decide +kernel
theorem dX8_init_4 : decode cX8_init 4 = .ok (.aload_n 0, 1) := by decide +kernel
theorem dX8_init_5 : decode cX8_init 5 = .ok (.sipush 6400, 3) := by decide +kernel
theorem dX8_init_8 : decode cX8_init 8 = .ok (.newarray .byte, 2) := by decide +kernel
theorem dX8_init_10 : decode cX8_init 10 = .ok (.putfield 9, 3) := by decide +kernel
theorem dX8_init_13 : decode cX8_init 13 = .ok (.aload_n 0, 1) := by decide +kernel
theorem dX8_init_14 : decode cX8_init 14 = .ok (.bipush 32, 2) := by decide +kernel
theorem dX8_init_16 : decode cX8_init 16 = .ok (.newarray .byte, 2) := by decide +kernel
theorem dX8_init_18 : decode cX8_init 18 = .ok (.putfield 15, 3) := by decide +kernel
theorem dX8_init_21 : decode cX8_init 21 = .ok (.aload_n 0, 1) := by decide +kernel
theorem dX8_init_22 : decode cX8_init 22 = .ok (.aload_n 1, 1) := by decide +kernel
theorem dX8_init_23 : decode cX8_init 23 = .ok (.putfield 18, 3) := by decide +kernel
theorem dX8_init_26 : decode cX8_init 26 = .ok (.aload_n 0, 1) := by decide +kernel
theorem dX8_init_27 : decode cX8_init 27 = .ok (.aload_n 2, 1) := by decide +kernel
theorem dX8_init_28 : decode cX8_init 28 = .ok (.putfield 22, 3) := by decide +kernel
theorem dX8_init_31 : decode cX8_init 31 = .ok (.return_, 1) := by decide +kernel
/-! CoinJudge$Signing.<init>(LCoinJudge$Digests;LCoinJudge$Curve;)V -/
set_option maxHeartbeats 4000000 in
theorem sX8_init_0 {G : Gx} {d t : Nat} {h0 : AH} {Φ : Out → AH → Prop} (h : AH) (v0 : Nat) (v1 : Nat) (v2 : Nat) (K : h.kd v0 = 8 ∧ ∀ q2 : Nat, q2 = h.z → WF G h → ∀ h3 : AH, h3 = h.new 101 6400 (List.replicate 6400 0) [] [] → ∀ h6 : AH, h6 = h3.pr 8002 v0 q2 → ∀ q7 : Nat, q7 = h6.z → WF G h6 → ∀ h8 : AH, h8 = h6.new 101 32 (List.replicate 32 0) [] [] → ∀ h12 : AH, h12 = h8.pr 8004 v0 q7 → ∀ h14 : AH, h14 = h12.pr 8000 v0 v1 → ∀ h16 : AH, h16 = h14.pr 8001 v0 v2 → Φ (.inl none) h16) : Aw G mX8_init (d + 1) v0 h0 Φ 0 [vR v0, vR v1, vR v2] [] h := by
  refine r_aload_n (pc := 0) dX8_init_0 rfl ?_
  obtain ⟨hk1, K⟩ := K
  refine r_objInit (pc := 1) (nzk hk1 rfl) q544 q207 q208 dX8_init_1 (by decide) ?_
  refine r_aload_n (pc := 4) dX8_init_4 rfl ?_
  refine r_sipush (pc := 5) (x := 6400) dX8_init_5 rfl ?_
  refine r_newaI (pc := 8) 101 (N := 6400) rfl rfl (by decide) q284 (by decide) rfl (by decide) dX8_init_8 (fun q2 eq2 zq2 wq2 => ?_)
  refine r_nameH (fun h3 eh3 => ?_)
  have K := K q2 eq2 wq2 h3 eh3
  have hk4 := kd_newSE eh3 eq2
  have hk5 := kd_newE eh3 wq2 hk1 (nz rfl)
  refine r_putr (pc := 10) (T := TX8) (key := 8002) 8 2 (ty := (.array .byte)) hk5 (Or.inl q547) dX8_init_10 kc8 rfl rfl (Or.inr q547) (Or.inr (Or.inl rfl)) ?_
  refine r_nameH (fun h6 eh6 => ?_)
  have K := K h6 eh6
  refine r_aload_n (pc := 13) dX8_init_13 rfl ?_
  refine r_bipush (pc := 14) (x := 32) dX8_init_14 rfl ?_
  refine r_newaI (pc := 16) 101 (N := 32) rfl rfl (by decide) q284 (by decide) rfl (by decide) dX8_init_16 (fun q7 eq7 zq7 wq7 => ?_)
  refine r_nameH (fun h8 eh8 => ?_)
  have K := K q7 eq7 wq7 h8 eh8
  have hk9 := kd_newSE eh8 eq7
  have hk10 := kd_pr eh6 hk5
  have hk11 := kd_newE eh8 wq7 hk10 (nz rfl)
  refine r_putr (pc := 18) (T := TX8) (key := 8004) 8 4 (ty := (.array .byte)) hk11 (Or.inl q549) dX8_init_18 kc8 rfl rfl (Or.inr q549) (Or.inr (Or.inl rfl)) ?_
  refine r_nameH (fun h12 eh12 => ?_)
  have K := K h12 eh12
  refine r_aload_n (pc := 21) dX8_init_21 rfl ?_
  refine r_aload_n (pc := 22) dX8_init_22 rfl ?_
  have hk13 := kd_pr eh12 hk11
  refine r_putr (pc := 23) (T := TX8) (key := 8000) 8 0 (ty := (.object "CoinJudge$Digests")) hk13 (Or.inl q545) dX8_init_23 kc8 rfl rfl (Or.inr q545) (Or.inr (Or.inl rfl)) ?_
  refine r_nameH (fun h14 eh14 => ?_)
  have K := K h14 eh14
  refine r_aload_n (pc := 26) dX8_init_26 rfl ?_
  refine r_aload_n (pc := 27) dX8_init_27 rfl ?_
  have hk15 := kd_pr eh14 hk13
  refine r_putr (pc := 28) (T := TX8) (key := 8001) 8 1 (ty := (.object "CoinJudge$Curve")) hk15 (Or.inl q546) dX8_init_28 kc8 rfl rfl (Or.inr q546) (Or.inr (Or.inl rfl)) ?_
  refine r_nameH (fun h16 eh16 => ?_)
  have K := K h16 eh16
  exact r_vret (pc := 31) rfl dX8_init_31 K
theorem eX8_init {G : Gx} {d : Nat} {Φ : Out → AH → Prop} (h : AH) (v0 : Nat) (v1 : Nat) (v2 : Nat) (K : WF G h → Aw G mX8_init (d + 1) v0 h Φ 0 [vR v0, vR v1, vR v2] [] h) : Cw G mX8_init (d + 1) v0 [vR v0, vR v1, vR v2] h Φ := Cw.of rfl K
theorem dX9_init_0 : decode cX9_init 0 = .ok (.aload_n 0, 1) := by decide +kernel
theorem dX9_init_1 : decode cX9_init 1 = .ok (.invokespecial 1, 3) := by decide +kernel
theorem dX9_init_4 : decode cX9_init 4 = .ok (.aload_n 0, 1) := by decide +kernel
theorem dX9_init_5 : decode cX9_init 5 = .ok (.sipush 1024, 3) := by decide +kernel
theorem dX9_init_8 : decode cX9_init 8 = .ok (.anewarray 7, 3) := by decide +kernel
theorem dX9_init_11 : decode cX9_init 11 = .ok (.putfield 9, 3) := by decide +kernel
theorem dX9_init_14 : decode cX9_init 14 = .ok (.return_, 1) := by decide +kernel
/-! CoinJudge$Coins.<init>()V -/
set_option maxHeartbeats 4000000 in
theorem sX9_init_0 {G : Gx} {d t : Nat} {h0 : AH} {Φ : Out → AH → Prop} (h : AH) (v0 : Nat) (K : h.kd v0 = 9 ∧ ∀ q2 : Nat, q2 = h.z → WF G h → ∀ h3 : AH, h3 = h.new 105 1024 [] [] (List.replicate 1024 0) → ∀ h6 : AH, h6 = h3.pr 9000 v0 q2 → Φ (.inl none) h6) : Aw G mX9_init (d + 1) v0 h0 Φ 0 [vR v0] [] h := by
  refine r_aload_n (pc := 0) dX9_init_0 rfl ?_
  obtain ⟨hk1, K⟩ := K
  refine r_objInit (pc := 1) (nzk hk1 rfl) q575 q207 q208 dX9_init_1 (by decide) ?_
  refine r_aload_n (pc := 4) dX9_init_4 rfl ?_
  refine r_sipush (pc := 5) (x := 1024) dX9_init_5 rfl ?_
  refine r_newaR (pc := 8) 105 (N := 1024) rfl q576 (by decide) rfl (by decide) dX9_init_8 (fun q2 eq2 zq2 wq2 => ?_)
  refine r_nameH (fun h3 eh3 => ?_)
  have K := K q2 eq2 wq2 h3 eh3
  have hk4 := kd_newSE eh3 eq2
  have hk5 := kd_newE eh3 wq2 hk1 (nz rfl)
  refine r_putr (pc := 11) (T := TX9) (key := 9000) 9 0 (ty := (.array (.object "CoinJudge$Coin"))) hk5 (Or.inl q578) dX9_init_11 kc9 rfl rfl (Or.inr q578) (Or.inr (Or.inl rfl)) ?_
  refine r_nameH (fun h6 eh6 => ?_)
  have K := K h6 eh6
  exact r_vret (pc := 14) rfl dX9_init_14 K
theorem eX9_init {G : Gx} {d : Nat} {Φ : Out → AH → Prop} (h : AH) (v0 : Nat) (K : WF G h → Aw G mX9_init (d + 1) v0 h Φ 0 [vR v0] [] h) : Cw G mX9_init (d + 1) v0 [vR v0] h Φ := Cw.of rfl K

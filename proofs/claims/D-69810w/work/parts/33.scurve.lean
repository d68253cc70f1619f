/-! printed by gen/segs.py: decode rows and segment lemmas of: X3_plain X3_twice X3_add X3_times X3_keyOf X3_scalars X3_der X3_sign X3_integer X3_strict X3_decode X3_part X3_verify X3_init -/
set_option maxRecDepth 100000
theorem dX3_plain_0 : decode cX3_plain 0 = .ok (.aload_n 0, 1) := by decide +kernel
theorem dX3_plain_1 : decode cX3_plain 1 = .ok (.getfield 21, 3) := by decide +kernel
theorem dX3_plain_4 : decode cX3_plain 4 = .ok (.aload_n 0, 1) := by decide +kernel
theorem dX3_plain_5 : decode cX3_plain 5 = .ok (.getfield 52, 3) := by decide +kernel
theorem dX3_plain_8 : decode cX3_plain 8 = .ok (.aload_n 1, 1) := by decide +kernel
theorem dX3_plain_9 : decode cX3_plain 9 = .ok (.getfield 95, 3) := by decide +kernel
theorem dX3_plain_12 : decode cX3_plain 12 = .ok (.invokevirtual 142, 3) := by decide +kernel
theorem dX3_plain_15 : decode cX3_plain 15 = .ok (.aload_n 0, 1) := by decide +kernel
theorem dX3_plain_16 : decode cX3_plain 16 = .ok (.getfield 21, 3) := by decide +kernel
theorem dX3_plain_19 : decode cX3_plain 19 = .ok (.aload_n 0, 1) := by decide +kernel
theorem dX3_plain_20 : decode cX3_plain 20 = .ok (.getfield 55, 3) := by decide +kernel
theorem dX3_plain_23 : decode cX3_plain 23 = .ok (.aload_n 0, 1) := by decide +kernel
theorem dX3_plain_24 : decode cX3_plain 24 = .ok (.getfield 52, 3) := by decide +kernel
theorem dX3_plain_27 : decode cX3_plain 27 = .ok (.aload_n 0, 1) := by decide +kernel
theorem dX3_plain_28 : decode cX3_plain 28 = .ok (.getfield 52, 3) := by decide +kernel
theorem dX3_plain_31 : decode cX3_plain 31 = .ok (.invokevirtual 106, 3) := by decide +kernel
theorem dX3_plain_34 : decode cX3_plain 34 = .ok (.aload_n 0, 1) := by decide +kernel
theorem dX3_plain_35 : decode cX3_plain 35 = .ok (.getfield 21, 3) := by decide +kernel
theorem dX3_plain_38 : decode cX3_plain 38 = .ok (.aload_n 1, 1) := by decide +kernel
theorem dX3_plain_39 : decode cX3_plain 39 = .ok (.getfield 85, 3) := by decide +kernel
theorem dX3_plain_42 : decode cX3_plain 42 = .ok (.aload_n 1, 1) := by decide +kernel
theorem dX3_plain_43 : decode cX3_plain 43 = .ok (.getfield 85, 3) := by decide +kernel
theorem dX3_plain_46 : decode cX3_plain 46 = .ok (.aload_n 0, 1) := by decide +kernel
theorem dX3_plain_47 : decode cX3_plain 47 = .ok (.getfield 55, 3) := by decide +kernel
theorem dX3_plain_50 : decode cX3_plain 50 = .ok (.invokevirtual 106, 3) := by decide +kernel
theorem dX3_plain_53 : decode cX3_plain 53 = .ok (.aload_n 0, 1) := by decide +kernel
theorem dX3_plain_54 : decode cX3_plain 54 = .ok (.getfield 21, 3) := by decide +kernel
theorem dX3_plain_57 : decode cX3_plain 57 = .ok (.aload_n 0, 1) := by decide +kernel
theorem dX3_plain_58 : decode cX3_plain 58 = .ok (.getfield 55, 3) := by decide +kernel
theorem dX3_plain_61 : decode cX3_plain 61 = .ok (.aload_n 0, 1) := by decide +kernel
theorem dX3_plain_62 : decode cX3_plain 62 = .ok (.getfield 55, 3) := by decide +kernel
theorem dX3_plain_65 : decode cX3_plain 65 = .ok (.aload_n 0, 1) := by decide +kernel
theorem dX3_plain_66 : decode cX3_plain 66 = .ok (.getfield 52, 3) := by decide +kernel
theorem dX3_plain_69 : decode cX3_plain 69 = .ok (.invokevirtual 106, 3) := by decide +kernel
theorem dX3_plain_72 : decode cX3_plain 72 = .ok (.aload_n 0, 1) := by decide +kernel
theorem dX3_plain_73 : decode cX3_plain 73 = .ok (.getfield 21, 3) := by decide +kernel
theorem dX3_plain_76 : decode cX3_plain 76 = .ok (.aload_n 1, 1) := by decide +kernel
theorem dX3_plain_77 : decode cX3_plain 77 = .ok (.getfield 90, 3) := by decide +kernel
theorem dX3_plain_80 : decode cX3_plain 80 = .ok (.aload_n 1, 1) := by decide +kernel
theorem dX3_plain_81 : decode cX3_plain 81 = .ok (.getfield 90, 3) := by decide +kernel
theorem dX3_plain_84 : decode cX3_plain 84 = .ok (.aload_n 0, 1) := by decide +kernel
theorem dX3_plain_85 : decode cX3_plain 85 = .ok (.getfield 55, 3) := by decide +kernel
theorem dX3_plain_88 : decode cX3_plain 88 = .ok (.invokevirtual 106, 3) := by decide +kernel
theorem dX3_plain_91 : decode cX3_plain 91 = .ok (.aload_n 1, 1) := by decide +kernel
theorem dX3_plain_92 : decode cX3_plain 92 = .ok (.getfield 95, 3) := by decide +kernel
theorem dX3_plain_95 : decode cX3_plain 95 = .ok (.lconst 1, 1) := by decide +kernel
theorem dX3_plain_96 : decode cX3_plain 96 = .ok (.invokevirtual 98, 3) := by decide +kernel
theorem dX3_plain_99 : decode cX3_plain 99 = .ok (.pop, 1) := by decide +kernel
theorem dX3_plain_100 : decode cX3_plain 100 = .ok (.return_, 1) := by decide +kernel
/-! CoinJudge$Curve.plain(LCoinJudge$Point;)V -/
set_option maxHeartbeats 4000000 in
theorem sX3_plain_0 {G : Gx} {d t : Nat} {h0 : AH} {Φ : Out → AH → Prop} (h : AH) (v0 : Nat) (v1 : Nat) (K : h.kd v0 = 3 ∧ ∀ r2 : Nat, r2 = (h.r 3000 v0) → ∀ r3 : Nat, r3 = (h.r 3007 v0) → h.kd v1 = 6 ∧ ∀ r5 : Nat, r5 = (h.r 6002 v1) → h.kd r2 = 4 ∧ Cw G mX4_invert d 0 [vR r2, vR r3, vR r5] h (kV (fun h7 => ∀ r12 : Nat, r12 = (h7.r 3008 v0) → Cw G mX4_multiply d 0 [vR r2, vR r12, vR r3, vR r3] h7 (kV (fun h16 => ∀ r22 : Nat, r22 = (h16.r 6000 v1) → Cw G mX4_multiply d 0 [vR r2, vR r22, vR r22, vR r12] h16 (kV (fun h26 => Cw G mX4_multiply d 0 [vR r2, vR r12, vR r12, vR r3] h26 (kV (fun h34 => ∀ r40 : Nat, r40 = (h34.r 6001 v1) → Cw G mX4_multiply d 0 [vR r2, vR r40, vR r40, vR r12] h34 (kV (fun h43 => h43.kd r5 = 5 ∧ Cw G mX5_small d 0 [vR r5, vJ 1] h43 (kR (fun x52 h53 => Φ (.inl none) h53) (fun x h => Φ (.inr x) h))) (fun x h => Φ (.inr x) h))) (fun x h => Φ (.inr x) h))) (fun x h => Φ (.inr x) h))) (fun x h => Φ (.inr x) h))) (fun x h => Φ (.inr x) h))) : Aw G mX3_plain (d + 1) t h0 Φ 0 [vR v0, vR v1] [] h := by
  refine r_aload_n (pc := 0) dX3_plain_0 rfl ?_
  obtain ⟨hk1, K⟩ := K
  have K := K _ rfl
  refine r_getr' (pc := 1) (T := TX3) 3 0 rfl hk1 (Or.inl q435) dX3_plain_1 kc3 g3000 ?_
  refine r_aload_n (pc := 4) dX3_plain_4 rfl ?_
  have K := K _ rfl
  refine r_getr' (pc := 5) (T := TX3) 3 7 rfl hk1 (Or.inl q442) dX3_plain_5 kc3 g3007 ?_
  refine r_aload_n (pc := 8) dX3_plain_8 rfl ?_
  obtain ⟨hk4, K⟩ := K
  have K := K _ rfl
  refine r_getr' (pc := 9) (T := TX6) 6 2 rfl hk4 (Or.inr (Or.inl ⟨_, q421⟩)) dX3_plain_9 kc6 g6002 ?_
  obtain ⟨hk8, K⟩ := K
  refine r_callV_V (pc := 12) (Y := mX4_invert) (vs := [_, _]) (st := []) hk8 rfl kc4 q1447 q1448 q1449 dX3_plain_12 rfl cd_X4_invert rfl rfl fp_X3_plain_X4_invert K (fun h7 eh7 wh7 K => ?_) (fun x h1 _ _ e => Tw.out rfl e)
  refine r_aload_n (pc := 15) dX3_plain_15 rfl ?_
  have hk9 := kd_ext eh7 hk1 (nz rfl)
  have hv10 := fr_self (key := 3000) hk1
  have hv11 := (fr_ext (key := 3000) eh7 hk1 (nz rfl) (ne0 wh7 hk9 (nz rfl)) (nm rfl)).trans hv10
  refine r_getr' (pc := 16) (T := TX3) 3 0 hv11 hk9 (Or.inl q435) dX3_plain_16 kc3 g3000 ?_
  refine r_aload_n (pc := 19) dX3_plain_19 rfl ?_
  have K := K _ rfl
  refine r_getr' (pc := 20) (T := TX3) 3 8 rfl hk9 (Or.inl q443) dX3_plain_20 kc3 g3008 ?_
  refine r_aload_n (pc := 23) dX3_plain_23 rfl ?_
  have hv13 := fr_self (key := 3007) hk1
  have hv14 := (fr_ext (key := 3007) eh7 hk1 (nz rfl) (ne0 wh7 hk9 (nz rfl)) (nm rfl)).trans hv13
  refine r_getr' (pc := 24) (T := TX3) 3 7 hv14 hk9 (Or.inl q442) dX3_plain_24 kc3 g3007 ?_
  refine r_aload_n (pc := 27) dX3_plain_27 rfl ?_
  refine r_getr' (pc := 28) (T := TX3) 3 7 hv14 hk9 (Or.inl q442) dX3_plain_28 kc3 g3007 ?_
  have hk17 := kd_ext eh7 hk8 (nz rfl)
  refine r_callV_V (pc := 31) (Y := mX4_multiply) (vs := [_, _, _]) (st := []) hk17 rfl kc4 q1399 q1400 q1401 dX3_plain_31 rfl cd_X4_multiply rfl rfl fp_X3_plain_X4_multiply K (fun h16 eh16 wh16 K => ?_) (fun x h1 _ _ e => Tw.out rfl e)
  refine r_aload_n (pc := 34) dX3_plain_34 rfl ?_
  have hk18 := kd_ext eh16 hk9 (nz rfl)
  have hv19 := (fr_ext (key := 3000) eh16 hk9 (nz rfl) (ne0 wh16 hk18 (nz rfl)) (nm rfl)).trans hv11
  refine r_getr' (pc := 35) (T := TX3) 3 0 hv19 hk18 (Or.inl q435) dX3_plain_35 kc3 g3000 ?_
  refine r_aload_n (pc := 38) dX3_plain_38 rfl ?_
  have hk20 := kd_ext eh7 hk4 (nz rfl)
  have hk21 := kd_ext eh16 hk20 (nz rfl)
  have K := K _ rfl
  refine r_getr' (pc := 39) (T := TX6) 6 0 rfl hk21 (Or.inr (Or.inl ⟨_, q417⟩)) dX3_plain_39 kc6 g6000 ?_
  refine r_aload_n (pc := 42) dX3_plain_42 rfl ?_
  refine r_getr' (pc := 43) (T := TX6) 6 0 rfl hk21 (Or.inr (Or.inl ⟨_, q417⟩)) dX3_plain_43 kc6 g6000 ?_
  refine r_aload_n (pc := 46) dX3_plain_46 rfl ?_
  have hv23 := fr_self (key := 3008) hk9
  have hv24 := (fr_ext (key := 3008) eh16 hk9 (nz rfl) (ne0 wh16 hk18 (nz rfl)) (nm rfl)).trans hv23
  refine r_getr' (pc := 47) (T := TX3) 3 8 hv24 hk18 (Or.inl q443) dX3_plain_47 kc3 g3008 ?_
  have hk27 := kd_ext eh16 hk17 (nz rfl)
  refine r_callV_V (pc := 50) (Y := mX4_multiply) (vs := [_, _, _]) (st := []) hk27 rfl kc4 q1399 q1400 q1401 dX3_plain_50 rfl cd_X4_multiply rfl rfl fp_X3_plain_X4_multiply K (fun h26 eh26 wh26 K => ?_) (fun x h1 _ _ e => Tw.out rfl e)
  refine r_aload_n (pc := 53) dX3_plain_53 rfl ?_
  have hk28 := kd_ext eh26 hk18 (nz rfl)
  have hv29 := (fr_ext (key := 3000) eh26 hk18 (nz rfl) (ne0 wh26 hk28 (nz rfl)) (nm rfl)).trans hv19
  refine r_getr' (pc := 54) (T := TX3) 3 0 hv29 hk28 (Or.inl q435) dX3_plain_54 kc3 g3000 ?_
  refine r_aload_n (pc := 57) dX3_plain_57 rfl ?_
  have hv30 := (fr_ext (key := 3008) eh26 hk18 (nz rfl) (ne0 wh26 hk28 (nz rfl)) (nm rfl)).trans hv24
  refine r_getr' (pc := 58) (T := TX3) 3 8 hv30 hk28 (Or.inl q443) dX3_plain_58 kc3 g3008 ?_
  refine r_aload_n (pc := 61) dX3_plain_61 rfl ?_
  refine r_getr' (pc := 62) (T := TX3) 3 8 hv30 hk28 (Or.inl q443) dX3_plain_62 kc3 g3008 ?_
  refine r_aload_n (pc := 65) dX3_plain_65 rfl ?_
  have hv31 := (fr_ext (key := 3007) eh16 hk9 (nz rfl) (ne0 wh16 hk18 (nz rfl)) (nm rfl)).trans hv14
  have hv32 := (fr_ext (key := 3007) eh26 hk18 (nz rfl) (ne0 wh26 hk28 (nz rfl)) (nm rfl)).trans hv31
  refine r_getr' (pc := 66) (T := TX3) 3 7 hv32 hk28 (Or.inl q442) dX3_plain_66 kc3 g3007 ?_
  have hk35 := kd_ext eh26 hk27 (nz rfl)
  refine r_callV_V (pc := 69) (Y := mX4_multiply) (vs := [_, _, _]) (st := []) hk35 rfl kc4 q1399 q1400 q1401 dX3_plain_69 rfl cd_X4_multiply rfl rfl fp_X3_plain_X4_multiply K (fun h34 eh34 wh34 K => ?_) (fun x h1 _ _ e => Tw.out rfl e)
  refine r_aload_n (pc := 72) dX3_plain_72 rfl ?_
  have hk36 := kd_ext eh34 hk28 (nz rfl)
  have hv37 := (fr_ext (key := 3000) eh34 hk28 (nz rfl) (ne0 wh34 hk36 (nz rfl)) (nm rfl)).trans hv29
  refine r_getr' (pc := 73) (T := TX3) 3 0 hv37 hk36 (Or.inl q435) dX3_plain_73 kc3 g3000 ?_
  refine r_aload_n (pc := 76) dX3_plain_76 rfl ?_
  have hk38 := kd_ext eh26 hk21 (nz rfl)
  have hk39 := kd_ext eh34 hk38 (nz rfl)
  have K := K _ rfl
  refine r_getr' (pc := 77) (T := TX6) 6 1 rfl hk39 (Or.inr (Or.inl ⟨_, q419⟩)) dX3_plain_77 kc6 g6001 ?_
  refine r_aload_n (pc := 80) dX3_plain_80 rfl ?_
  refine r_getr' (pc := 81) (T := TX6) 6 1 rfl hk39 (Or.inr (Or.inl ⟨_, q419⟩)) dX3_plain_81 kc6 g6001 ?_
  refine r_aload_n (pc := 84) dX3_plain_84 rfl ?_
  have hv41 := (fr_ext (key := 3008) eh34 hk28 (nz rfl) (ne0 wh34 hk36 (nz rfl)) (nm rfl)).trans hv30
  refine r_getr' (pc := 85) (T := TX3) 3 8 hv41 hk36 (Or.inl q443) dX3_plain_85 kc3 g3008 ?_
  have hk44 := kd_ext eh34 hk35 (nz rfl)
  refine r_callV_V (pc := 88) (Y := mX4_multiply) (vs := [_, _, _]) (st := []) hk44 rfl kc4 q1399 q1400 q1401 dX3_plain_88 rfl cd_X4_multiply rfl rfl fp_X3_plain_X4_multiply K (fun h43 eh43 wh43 K => ?_) (fun x h1 _ _ e => Tw.out rfl e)
  refine r_aload_n (pc := 91) dX3_plain_91 rfl ?_
  have hk45 := kd_ext eh43 hk39 (nz rfl)
  have hv46 := fr_self (key := 6002) hk4
  have hv47 := (fr_ext (key := 6002) eh7 hk4 (nz rfl) (ne0 wh7 hk20 (nz rfl)) (nm rfl)).trans hv46
  have hv48 := (fr_ext (key := 6002) eh16 hk20 (nz rfl) (ne0 wh16 hk21 (nz rfl)) (nm rfl)).trans hv47
  have hv49 := (fr_ext (key := 6002) eh26 hk21 (nz rfl) (ne0 wh26 hk38 (nz rfl)) (nm rfl)).trans hv48
  have hv50 := (fr_ext (key := 6002) eh34 hk38 (nz rfl) (ne0 wh34 hk39 (nz rfl)) (nm rfl)).trans hv49
  have hv51 := (fr_ext (key := 6002) eh43 hk39 (nz rfl) (ne0 wh43 hk45 (nz rfl)) (nm rfl)).trans hv50
  refine r_getr' (pc := 92) (T := TX6) 6 2 hv51 hk45 (Or.inr (Or.inl ⟨_, q421⟩)) dX3_plain_92 kc6 g6002 ?_
  refine r_lconst (pc := 95) (a := 1) dX3_plain_95 rfl ?_
  obtain ⟨hk54, K⟩ := K
  refine r_callV_R (pc := 96) (Y := mX5_small) (vs := [_]) (st := []) hk54 rfl kc5 q431 q432 q433 dX3_plain_96 rfl cd_X5_small rfl rfl fp_X3_plain_X5_small K (fun x52 h53 eh53 wh53 K => ?_) (fun x h1 _ _ e => Tw.out rfl e)
  refine r_pop (pc := 99) rfl dX3_plain_99 ?_
  exact r_vret (pc := 100) rfl dX3_plain_100 K
theorem eX3_plain {G : Gx} {d : Nat} {Φ : Out → AH → Prop} (h : AH) (v0 : Nat) (v1 : Nat) (K : WF G h → Aw G mX3_plain (d + 1) 0 h Φ 0 [vR v0, vR v1] [] h) : Cw G mX3_plain (d + 1) 0 [vR v0, vR v1] h Φ := Cw.of rfl K
theorem dX3_twice_0 : decode cX3_twice 0 = .ok (.aload_n 1, 1) := by decide +kernel
theorem dX3_twice_1 : decode cX3_twice 1 = .ok (.invokevirtual 102, 3) := by decide +kernel
theorem dX3_twice_4 : decode cX3_twice 4 = .ok (.ifCond .eq 4, 3) := by decide +kernel
theorem dX3_twice_7 : decode cX3_twice 7 = .ok (.return_, 1) := by decide +kernel
theorem dX3_twice_8 : decode cX3_twice 8 = .ok (.aload_n 0, 1) := by decide +kernel
theorem dX3_twice_9 : decode cX3_twice 9 = .ok (.getfield 21, 3) := by decide +kernel
theorem dX3_twice_12 : decode cX3_twice 12 = .ok (.aload_n 0, 1) := by decide +kernel
theorem dX3_twice_13 : decode cX3_twice 13 = .ok (.getfield 39, 3) := by decide +kernel
theorem dX3_twice_16 : decode cX3_twice 16 = .ok (.aload_n 1, 1) := by decide +kernel
theorem dX3_twice_17 : decode cX3_twice 17 = .ok (.getfield 90, 3) := by decide +kernel
theorem dX3_twice_20 : decode cX3_twice 20 = .ok (.aload_n 1, 1) := by decide +kernel
theorem dX3_twice_21 : decode cX3_twice 21 = .ok (.getfield 90, 3) := by decide +kernel
theorem dX3_twice_24 : decode cX3_twice 24 = .ok (.invokevirtual 106, 3) := by decide +kernel
theorem dX3_twice_27 : decode cX3_twice 27 = .ok (.aload_n 0, 1) := by decide +kernel
theorem dX3_twice_28 : decode cX3_twice 28 = .ok (.getfield 21, 3) := by decide +kernel
theorem dX3_twice_31 : decode cX3_twice 31 = .ok (.aload_n 0, 1) := by decide +kernel
theorem dX3_twice_32 : decode cX3_twice 32 = .ok (.getfield 43, 3) := by decide +kernel
theorem dX3_twice_35 : decode cX3_twice 35 = .ok (.aload_n 1, 1) := by decide +kernel
theorem dX3_twice_36 : decode cX3_twice 36 = .ok (.getfield 85, 3) := by decide +kernel
theorem dX3_twice_39 : decode cX3_twice 39 = .ok (.aload_n 0, 1) := by decide +kernel
theorem dX3_twice_40 : decode cX3_twice 40 = .ok (.getfield 39, 3) := by decide +kernel
theorem dX3_twice_43 : decode cX3_twice 43 = .ok (.invokevirtual 106, 3) := by decide +kernel
theorem dX3_twice_46 : decode cX3_twice 46 = .ok (.aload_n 0, 1) := by decide +kernel
theorem dX3_twice_47 : decode cX3_twice 47 = .ok (.getfield 21, 3) := by decide +kernel
theorem dX3_twice_50 : decode cX3_twice 50 = .ok (.aload_n 0, 1) := by decide +kernel
theorem dX3_twice_51 : decode cX3_twice 51 = .ok (.getfield 43, 3) := by decide +kernel
theorem dX3_twice_54 : decode cX3_twice 54 = .ok (.aload_n 0, 1) := by decide +kernel
theorem dX3_twice_55 : decode cX3_twice 55 = .ok (.getfield 43, 3) := by decide +kernel
theorem dX3_twice_58 : decode cX3_twice 58 = .ok (.aload_n 0, 1) := by decide +kernel
theorem dX3_twice_59 : decode cX3_twice 59 = .ok (.getfield 43, 3) := by decide +kernel
theorem dX3_twice_62 : decode cX3_twice 62 = .ok (.invokevirtual 110, 3) := by decide +kernel
theorem dX3_twice_65 : decode cX3_twice 65 = .ok (.aload_n 0, 1) := by decide +kernel
theorem dX3_twice_66 : decode cX3_twice 66 = .ok (.getfield 21, 3) := by decide +kernel
theorem dX3_twice_69 : decode cX3_twice 69 = .ok (.aload_n 0, 1) := by decide +kernel
theorem dX3_twice_70 : decode cX3_twice 70 = .ok (.getfield 43, 3) := by decide +kernel
theorem dX3_twice_73 : decode cX3_twice 73 = .ok (.aload_n 0, 1) := by decide +kernel
theorem dX3_twice_74 : decode cX3_twice 74 = .ok (.getfield 43, 3) := by decide +kernel
theorem dX3_twice_77 : decode cX3_twice 77 = .ok (.aload_n 0, 1) := by decide +kernel
theorem dX3_twice_78 : decode cX3_twice 78 = .ok (.getfield 43, 3) := by decide +kernel
theorem dX3_twice_81 : decode cX3_twice 81 = .ok (.invokevirtual 110, 3) := by decide +kernel
theorem dX3_twice_84 : decode cX3_twice 84 = .ok (.aload_n 0, 1) := by decide +kernel
theorem dX3_twice_85 : decode cX3_twice 85 = .ok (.getfield 21, 3) := by decide +kernel
theorem dX3_twice_88 : decode cX3_twice 88 = .ok (.aload_n 0, 1) := by decide +kernel
theorem dX3_twice_89 : decode cX3_twice 89 = .ok (.getfield 46, 3) := by decide +kernel
theorem dX3_twice_92 : decode cX3_twice 92 = .ok (.aload_n 1, 1) := by decide +kernel
theorem dX3_twice_93 : decode cX3_twice 93 = .ok (.getfield 85, 3) := by decide +kernel
theorem dX3_twice_96 : decode cX3_twice 96 = .ok (.aload_n 1, 1) := by decide +kernel
theorem dX3_twice_97 : decode cX3_twice 97 = .ok (.getfield 85, 3) := by decide +kernel
theorem dX3_twice_100 : decode cX3_twice 100 = .ok (.invokevirtual 106, 3) := by decide +kernel
theorem dX3_twice_103 : decode cX3_twice 103 = .ok (.aload_n 0, 1) := by decide +kernel
theorem dX3_twice_104 : decode cX3_twice 104 = .ok (.getfield 21, 3) := by decide +kernel
theorem dX3_twice_107 : decode cX3_twice 107 = .ok (.aload_n 0, 1) := by decide +kernel
theorem dX3_twice_108 : decode cX3_twice 108 = .ok (.getfield 49, 3) := by decide +kernel
theorem dX3_twice_111 : decode cX3_twice 111 = .ok (.aload_n 0, 1) := by decide +kernel
theorem dX3_twice_112 : decode cX3_twice 112 = .ok (.getfield 46, 3) := by decide +kernel
theorem dX3_twice_115 : decode cX3_twice 115 = .ok (.aload_n 0, 1) := by decide +kernel
theorem dX3_twice_116 : decode cX3_twice 116 = .ok (.getfield 46, 3) := by decide +kernel
theorem dX3_twice_119 : decode cX3_twice 119 = .ok (.invokevirtual 110, 3) := by decide +kernel
theorem dX3_twice_122 : decode cX3_twice 122 = .ok (.aload_n 0, 1) := by decide +kernel
theorem dX3_twice_123 : decode cX3_twice 123 = .ok (.getfield 21, 3) := by decide +kernel
theorem dX3_twice_126 : decode cX3_twice 126 = .ok (.aload_n 0, 1) := by decide +kernel
theorem dX3_twice_127 : decode cX3_twice 127 = .ok (.getfield 46, 3) := by decide +kernel
theorem dX3_twice_130 : decode cX3_twice 130 = .ok (.aload_n 0, 1) := by decide +kernel
theorem dX3_twice_131 : decode cX3_twice 131 = .ok (.getfield 49, 3) := by decide +kernel
theorem dX3_twice_134 : decode cX3_twice 134 = .ok (.aload_n 0, 1) := by decide +kernel
theorem dX3_twice_135 : decode cX3_twice 135 = .ok (.getfield 46, 3) := by decide +kernel
theorem dX3_twice_138 : decode cX3_twice 138 = .ok (.invokevirtual 110, 3) := by decide +kernel
theorem dX3_twice_141 : decode cX3_twice 141 = .ok (.aload_n 0, 1) := by decide +kernel
theorem dX3_twice_142 : decode cX3_twice 142 = .ok (.getfield 21, 3) := by decide +kernel
theorem dX3_twice_145 : decode cX3_twice 145 = .ok (.aload_n 1, 1) := by decide +kernel
theorem dX3_twice_146 : decode cX3_twice 146 = .ok (.getfield 95, 3) := by decide +kernel
theorem dX3_twice_149 : decode cX3_twice 149 = .ok (.aload_n 1, 1) := by decide +kernel
theorem dX3_twice_150 : decode cX3_twice 150 = .ok (.getfield 90, 3) := by decide +kernel
theorem dX3_twice_153 : decode cX3_twice 153 = .ok (.aload_n 1, 1) := by decide +kernel
theorem dX3_twice_154 : decode cX3_twice 154 = .ok (.getfield 95, 3) := by decide +kernel
theorem dX3_twice_157 : decode cX3_twice 157 = .ok (.invokevirtual 106, 3) := by decide +kernel
theorem dX3_twice_160 : decode cX3_twice 160 = .ok (.aload_n 0, 1) := by decide +kernel
theorem dX3_twice_161 : decode cX3_twice 161 = .ok (.getfield 21, 3) := by decide +kernel
theorem dX3_twice_164 : decode cX3_twice 164 = .ok (.aload_n 1, 1) := by decide +kernel
theorem dX3_twice_165 : decode cX3_twice 165 = .ok (.getfield 95, 3) := by decide +kernel
theorem dX3_twice_168 : decode cX3_twice 168 = .ok (.aload_n 1, 1) := by decide +kernel
theorem dX3_twice_169 : decode cX3_twice 169 = .ok (.getfield 95, 3) := by decide +kernel
theorem dX3_twice_172 : decode cX3_twice 172 = .ok (.aload_n 1, 1) := by decide +kernel
theorem dX3_twice_173 : decode cX3_twice 173 = .ok (.getfield 95, 3) := by decide +kernel
theorem dX3_twice_176 : decode cX3_twice 176 = .ok (.invokevirtual 110, 3) := by decide +kernel
theorem dX3_twice_179 : decode cX3_twice 179 = .ok (.aload_n 0, 1) := by decide +kernel
theorem dX3_twice_180 : decode cX3_twice 180 = .ok (.getfield 21, 3) := by decide +kernel
theorem dX3_twice_183 : decode cX3_twice 183 = .ok (.aload_n 1, 1) := by decide +kernel
theorem dX3_twice_184 : decode cX3_twice 184 = .ok (.getfield 85, 3) := by decide +kernel
theorem dX3_twice_187 : decode cX3_twice 187 = .ok (.aload_n 0, 1) := by decide +kernel
theorem dX3_twice_188 : decode cX3_twice 188 = .ok (.getfield 46, 3) := by decide +kernel
theorem dX3_twice_191 : decode cX3_twice 191 = .ok (.aload_n 0, 1) := by decide +kernel
theorem dX3_twice_192 : decode cX3_twice 192 = .ok (.getfield 46, 3) := by decide +kernel
theorem dX3_twice_195 : decode cX3_twice 195 = .ok (.invokevirtual 106, 3) := by decide +kernel
theorem dX3_twice_198 : decode cX3_twice 198 = .ok (.aload_n 0, 1) := by decide +kernel
theorem dX3_twice_199 : decode cX3_twice 199 = .ok (.getfield 21, 3) := by decide +kernel
theorem dX3_twice_202 : decode cX3_twice 202 = .ok (.aload_n 1, 1) := by decide +kernel
theorem dX3_twice_203 : decode cX3_twice 203 = .ok (.getfield 85, 3) := by decide +kernel
theorem dX3_twice_206 : decode cX3_twice 206 = .ok (.aload_n 1, 1) := by decide +kernel
theorem dX3_twice_207 : decode cX3_twice 207 = .ok (.getfield 85, 3) := by decide +kernel
theorem dX3_twice_210 : decode cX3_twice 210 = .ok (.aload_n 0, 1) := by decide +kernel
theorem dX3_twice_211 : decode cX3_twice 211 = .ok (.getfield 43, 3) := by decide +kernel
theorem dX3_twice_214 : decode cX3_twice 214 = .ok (.invokevirtual 113, 3) := by decide +kernel
theorem dX3_twice_217 : decode cX3_twice 217 = .ok (.aload_n 0, 1) := by decide +kernel
theorem dX3_twice_218 : decode cX3_twice 218 = .ok (.getfield 21, 3) := by decide +kernel
theorem dX3_twice_221 : decode cX3_twice 221 = .ok (.aload_n 1, 1) := by decide +kernel
theorem dX3_twice_222 : decode cX3_twice 222 = .ok (.getfield 85, 3) := by decide +kernel
theorem dX3_twice_225 : decode cX3_twice 225 = .ok (.aload_n 1, 1) := by decide +kernel
theorem dX3_twice_226 : decode cX3_twice 226 = .ok (.getfield 85, 3) := by decide +kernel
theorem dX3_twice_229 : decode cX3_twice 229 = .ok (.aload_n 0, 1) := by decide +kernel
theorem dX3_twice_230 : decode cX3_twice 230 = .ok (.getfield 43, 3) := by decide +kernel
theorem dX3_twice_233 : decode cX3_twice 233 = .ok (.invokevirtual 113, 3) := by decide +kernel
theorem dX3_twice_236 : decode cX3_twice 236 = .ok (.aload_n 0, 1) := by decide +kernel
theorem dX3_twice_237 : decode cX3_twice 237 = .ok (.getfield 21, 3) := by decide +kernel
theorem dX3_twice_240 : decode cX3_twice 240 = .ok (.aload_n 0, 1) := by decide +kernel
theorem dX3_twice_241 : decode cX3_twice 241 = .ok (.getfield 43, 3) := by decide +kernel
theorem dX3_twice_244 : decode cX3_twice 244 = .ok (.aload_n 0, 1) := by decide +kernel
theorem dX3_twice_245 : decode cX3_twice 245 = .ok (.getfield 43, 3) := by decide +kernel
theorem dX3_twice_248 : decode cX3_twice 248 = .ok (.aload_n 1, 1) := by decide +kernel
theorem dX3_twice_249 : decode cX3_twice 249 = .ok (.getfield 85, 3) := by decide +kernel
theorem dX3_twice_252 : decode cX3_twice 252 = .ok (.invokevirtual 113, 3) := by decide +kernel
theorem dX3_twice_255 : decode cX3_twice 255 = .ok (.aload_n 0, 1) := by decide +kernel
theorem dX3_twice_256 : decode cX3_twice 256 = .ok (.getfield 21, 3) := by decide +kernel
theorem dX3_twice_259 : decode cX3_twice 259 = .ok (.aload_n 1, 1) := by decide +kernel
theorem dX3_twice_260 : decode cX3_twice 260 = .ok (.getfield 90, 3) := by decide +kernel
theorem dX3_twice_263 : decode cX3_twice 263 = .ok (.aload_n 0, 1) := by decide +kernel
theorem dX3_twice_264 : decode cX3_twice 264 = .ok (.getfield 46, 3) := by decide +kernel
theorem dX3_twice_267 : decode cX3_twice 267 = .ok (.aload_n 0, 1) := by decide +kernel
theorem dX3_twice_268 : decode cX3_twice 268 = .ok (.getfield 43, 3) := by decide +kernel
theorem dX3_twice_271 : decode cX3_twice 271 = .ok (.invokevirtual 106, 3) := by decide +kernel
theorem dX3_twice_274 : decode cX3_twice 274 = .ok (.aload_n 0, 1) := by decide +kernel
theorem dX3_twice_275 : decode cX3_twice 275 = .ok (.getfield 21, 3) := by decide +kernel
theorem dX3_twice_278 : decode cX3_twice 278 = .ok (.aload_n 0, 1) := by decide +kernel
theorem dX3_twice_279 : decode cX3_twice 279 = .ok (.getfield 39, 3) := by decide +kernel
theorem dX3_twice_282 : decode cX3_twice 282 = .ok (.aload_n 0, 1) := by decide +kernel
theorem dX3_twice_283 : decode cX3_twice 283 = .ok (.getfield 39, 3) := by decide +kernel
theorem dX3_twice_286 : decode cX3_twice 286 = .ok (.aload_n 0, 1) := by decide +kernel
theorem dX3_twice_287 : decode cX3_twice 287 = .ok (.getfield 39, 3) := by decide +kernel
theorem dX3_twice_290 : decode cX3_twice 290 = .ok (.invokevirtual 106, 3) := by decide +kernel
theorem dX3_twice_293 : decode cX3_twice 293 = .ok (.iconst 0, 1) := by decide +kernel
theorem dX3_twice_294 : decode cX3_twice 294 = .ok (.istore_n 2, 1) := by decide +kernel
theorem dX3_twice_295 : decode cX3_twice 295 = .ok (.iload_n 2, 1) := by decide +kernel
theorem dX3_twice_296 : decode cX3_twice 296 = .ok (.iconst 3, 1) := by decide +kernel
theorem dX3_twice_297 : decode cX3_twice 297 = .ok (.if_icmp .ge 28, 3) := by decide +kernel
theorem dX3_twice_300 : decode cX3_twice 300 = .ok (.aload_n 0, 1) := by decide +kernel
theorem dX3_twice_301 : decode cX3_twice 301 = .ok (.getfield 21, 3) := by decide +kernel
theorem dX3_twice_304 : decode cX3_twice 304 = .ok (.aload_n 0, 1) := by decide +kernel
theorem dX3_twice_305 : decode cX3_twice 305 = .ok (.getfield 39, 3) := by decide +kernel
theorem dX3_twice_308 : decode cX3_twice 308 = .ok (.aload_n 0, 1) := by decide +kernel
theorem dX3_twice_309 : decode cX3_twice 309 = .ok (.getfield 39, 3) := by decide +kernel
theorem dX3_twice_312 : decode cX3_twice 312 = .ok (.aload_n 0, 1) := by decide +kernel
theorem dX3_twice_313 : decode cX3_twice 313 = .ok (.getfield 39, 3) := by decide +kernel
theorem dX3_twice_316 : decode cX3_twice 316 = .ok (.invokevirtual 110, 3) := by decide +kernel
theorem dX3_twice_319 : decode cX3_twice 319 = .ok (.iinc 2 1, 3) := by decide +kernel
theorem dX3_twice_322 : decode cX3_twice 322 = .ok (.goto (-27), 3) := by decide +kernel
theorem dX3_twice_325 : decode cX3_twice 325 = .ok (.aload_n 0, 1) := by decide +kernel
theorem dX3_twice_326 : decode cX3_twice 326 = .ok (.getfield 21, 3) := by decide +kernel
theorem dX3_twice_329 : decode cX3_twice 329 = .ok (.aload_n 1, 1) := by decide +kernel
theorem dX3_twice_330 : decode cX3_twice 330 = .ok (.getfield 90, 3) := by decide +kernel
theorem dX3_twice_333 : decode cX3_twice 333 = .ok (.aload_n 1, 1) := by decide +kernel
theorem dX3_twice_334 : decode cX3_twice 334 = .ok (.getfield 90, 3) := by decide +kernel
theorem dX3_twice_337 : decode cX3_twice 337 = .ok (.aload_n 0, 1) := by decide +kernel
theorem dX3_twice_338 : decode cX3_twice 338 = .ok (.getfield 39, 3) := by decide +kernel
theorem dX3_twice_341 : decode cX3_twice 341 = .ok (.invokevirtual 113, 3) := by decide +kernel
theorem dX3_twice_344 : decode cX3_twice 344 = .ok (.return_, 1) := by decide +kernel
/-! CoinJudge$Curve.twice(LCoinJudge$Point;)V -/
set_option maxHeartbeats 4000000 in
theorem sX3_twice_0 {G : Gx} {d t : Nat} {h0 : AH} {Φ : Out → AH → Prop} (h : AH) (v0 : Nat) (v1 : Nat) (K : h.kd v1 = 6 ∧ Cw G mX6_none d 0 [vR v1] h (kI (fun x1 h2 => ((x1 = 0 → h2.kd v0 = 3 ∧ ∀ r6 : Nat, r6 = (h2.r 3000 v0) → ∀ r7 : Nat, r7 = (h2.r 3003 v0) → ∀ r9 : Nat, r9 = (h2.r 6001 v1) → h2.kd r6 = 4 ∧ Cw G mX4_multiply d 0 [vR r6, vR r7, vR r9, vR r9] h2 (kV (fun h11 => ∀ r16 : Nat, r16 = (h11.r 3004 v0) → ∀ r18 : Nat, r18 = (h11.r 6000 v1) → Cw G mX4_multiply d 0 [vR r6, vR r16, vR r18, vR r7] h11 (kV (fun h22 => Cw G mX4_add d 0 [vR r6, vR r16, vR r16, vR r16] h22 (kV (fun h29 => Cw G mX4_add d 0 [vR r6, vR r16, vR r16, vR r16] h29 (kV (fun h35 => ∀ r39 : Nat, r39 = (h35.r 3005 v0) → Cw G mX4_multiply d 0 [vR r6, vR r39, vR r18, vR r18] h35 (kV (fun h48 => ∀ r52 : Nat, r52 = (h48.r 3006 v0) → Cw G mX4_add d 0 [vR r6, vR r52, vR r39, vR r39] h48 (kV (fun h56 => Cw G mX4_add d 0 [vR r6, vR r39, vR r52, vR r39] h56 (kV (fun h64 => ∀ r71 : Nat, r71 = (h64.r 6002 v1) → Cw G mX4_multiply d 0 [vR r6, vR r71, vR r9, vR r71] h64 (kV (fun h81 => Cw G mX4_add d 0 [vR r6, vR r71, vR r71, vR r71] h81 (kV (fun h89 => Cw G mX4_multiply d 0 [vR r6, vR r18, vR r39, vR r39] h89 (kV (fun h103 => Cw G mX4_subtract d 0 [vR r6, vR r18, vR r18, vR r16] h103 (kV (fun h117 => Cw G mX4_subtract d 0 [vR r6, vR r18, vR r18, vR r16] h117 (kV (fun h125 => Cw G mX4_subtract d 0 [vR r6, vR r16, vR r16, vR r18] h125 (kV (fun h133 => Cw G mX4_multiply d 0 [vR r6, vR r9, vR r39, vR r16] h133 (kV (fun h150 => Cw G mX4_multiply d 0 [vR r6, vR r7, vR r7, vR r7] h150 (kV (fun h168 => Aw G mX3_twice (d + 1) t h0 Φ 295 [vR v0, vR v1, vI 0] [] h168) (fun x h => Φ (.inr x) h))) (fun x h => Φ (.inr x) h))) (fun x h => Φ (.inr x) h))) (fun x h => Φ (.inr x) h))) (fun x h => Φ (.inr x) h))) (fun x h => Φ (.inr x) h))) (fun x h => Φ (.inr x) h))) (fun x h => Φ (.inr x) h))) (fun x h => Φ (.inr x) h))) (fun x h => Φ (.inr x) h))) (fun x h => Φ (.inr x) h))) (fun x h => Φ (.inr x) h))) (fun x h => Φ (.inr x) h))) (fun x h => Φ (.inr x) h))) (fun x h => Φ (.inr x) h))) ∧ (¬ x1 = 0 → Φ (.inl none) h2))) (fun x h => Φ (.inr x) h))) : Aw G mX3_twice (d + 1) t h0 Φ 0 [vR v0, vR v1, vU] [] h := by
  refine r_aload_n (pc := 0) dX3_twice_0 rfl ?_
  obtain ⟨hk3, K⟩ := K
  refine r_callV_I (pc := 1) (Y := mX6_none) (vs := []) (st := []) hk3 rfl kc6 q1462 q1463 q1464 dX3_twice_1 rfl cd_X6_none rfl rfl fp_X3_twice_X6_none K (fun x1 h2 eh2 wh2 K => ?_) (fun x h1 _ _ e => Tw.out rfl e)
  refine r_if_eq (pc := 4) (tgt := 8) dX3_twice_4 rfl (fun c4 => ?_) (fun c4 => ?_)
  · have K := K.1 c4
    refine r_aload_n (pc := 8) dX3_twice_8 rfl ?_
    obtain ⟨hk5, K⟩ := K
    have K := K _ rfl
    refine r_getr' (pc := 9) (T := TX3) 3 0 rfl hk5 (Or.inl q435) dX3_twice_9 kc3 g3000 ?_
    refine r_aload_n (pc := 12) dX3_twice_12 rfl ?_
    have K := K _ rfl
    refine r_getr' (pc := 13) (T := TX3) 3 3 rfl hk5 (Or.inl q438) dX3_twice_13 kc3 g3003 ?_
    refine r_aload_n (pc := 16) dX3_twice_16 rfl ?_
    have hk8 := kd_ext eh2 hk3 (nz rfl)
    have K := K _ rfl
    refine r_getr' (pc := 17) (T := TX6) 6 1 rfl hk8 (Or.inr (Or.inl ⟨_, q419⟩)) dX3_twice_17 kc6 g6001 ?_
    refine r_aload_n (pc := 20) dX3_twice_20 rfl ?_
    refine r_getr' (pc := 21) (T := TX6) 6 1 rfl hk8 (Or.inr (Or.inl ⟨_, q419⟩)) dX3_twice_21 kc6 g6001 ?_
    obtain ⟨hk12, K⟩ := K
    refine r_callV_V (pc := 24) (Y := mX4_multiply) (vs := [_, _, _]) (st := []) hk12 rfl kc4 q1399 q1400 q1401 dX3_twice_24 rfl cd_X4_multiply rfl rfl fp_X3_twice_X4_multiply K (fun h11 eh11 wh11 K => ?_) (fun x h1 _ _ e => Tw.out rfl e)
    refine r_aload_n (pc := 27) dX3_twice_27 rfl ?_
    have hk13 := kd_ext eh11 hk5 (nz rfl)
    have hv14 := fr_self (key := 3000) hk5
    have hv15 := (fr_ext (key := 3000) eh11 hk5 (nz rfl) (ne0 wh11 hk13 (nz rfl)) (nm rfl)).trans hv14
    refine r_getr' (pc := 28) (T := TX3) 3 0 hv15 hk13 (Or.inl q435) dX3_twice_28 kc3 g3000 ?_
    refine r_aload_n (pc := 31) dX3_twice_31 rfl ?_
    have K := K _ rfl
    refine r_getr' (pc := 32) (T := TX3) 3 4 rfl hk13 (Or.inl q439) dX3_twice_32 kc3 g3004 ?_
    refine r_aload_n (pc := 35) dX3_twice_35 rfl ?_
    have hk17 := kd_ext eh11 hk8 (nz rfl)
    have K := K _ rfl
    refine r_getr' (pc := 36) (T := TX6) 6 0 rfl hk17 (Or.inr (Or.inl ⟨_, q417⟩)) dX3_twice_36 kc6 g6000 ?_
    refine r_aload_n (pc := 39) dX3_twice_39 rfl ?_
    have hv19 := fr_self (key := 3003) hk5
    have hv20 := (fr_ext (key := 3003) eh11 hk5 (nz rfl) (ne0 wh11 hk13 (nz rfl)) (nm rfl)).trans hv19
    refine r_getr' (pc := 40) (T := TX3) 3 3 hv20 hk13 (Or.inl q438) dX3_twice_40 kc3 g3003 ?_
    have hk23 := kd_ext eh11 hk12 (nz rfl)
    refine r_callV_V (pc := 43) (Y := mX4_multiply) (vs := [_, _, _]) (st := []) hk23 rfl kc4 q1399 q1400 q1401 dX3_twice_43 rfl cd_X4_multiply rfl rfl fp_X3_twice_X4_multiply K (fun h22 eh22 wh22 K => ?_) (fun x h1 _ _ e => Tw.out rfl e)
    refine r_aload_n (pc := 46) dX3_twice_46 rfl ?_
    have hk24 := kd_ext eh22 hk13 (nz rfl)
    have hv25 := (fr_ext (key := 3000) eh22 hk13 (nz rfl) (ne0 wh22 hk24 (nz rfl)) (nm rfl)).trans hv15
    refine r_getr' (pc := 47) (T := TX3) 3 0 hv25 hk24 (Or.inl q435) dX3_twice_47 kc3 g3000 ?_
    refine r_aload_n (pc := 50) dX3_twice_50 rfl ?_
    have hv26 := fr_self (key := 3004) hk13
    have hv27 := (fr_ext (key := 3004) eh22 hk13 (nz rfl) (ne0 wh22 hk24 (nz rfl)) (nm rfl)).trans hv26
    refine r_getr' (pc := 51) (T := TX3) 3 4 hv27 hk24 (Or.inl q439) dX3_twice_51 kc3 g3004 ?_
    refine r_aload_n (pc := 54) dX3_twice_54 rfl ?_
    refine r_getr' (pc := 55) (T := TX3) 3 4 hv27 hk24 (Or.inl q439) dX3_twice_55 kc3 g3004 ?_
    refine r_aload_n (pc := 58) dX3_twice_58 rfl ?_
    refine r_getr' (pc := 59) (T := TX3) 3 4 hv27 hk24 (Or.inl q439) dX3_twice_59 kc3 g3004 ?_
    have hk30 := kd_ext eh22 hk23 (nz rfl)
    refine r_callV_V (pc := 62) (Y := mX4_add) (vs := [_, _, _]) (st := []) hk30 rfl kc4 q1414 q1415 q1416 dX3_twice_62 rfl cd_X4_add rfl rfl fp_X3_twice_X4_add K (fun h29 eh29 wh29 K => ?_) (fun x h1 _ _ e => Tw.out rfl e)
    refine r_aload_n (pc := 65) dX3_twice_65 rfl ?_
    have hk31 := kd_ext eh29 hk24 (nz rfl)
    have hv32 := (fr_ext (key := 3000) eh29 hk24 (nz rfl) (ne0 wh29 hk31 (nz rfl)) (nm rfl)).trans hv25
    refine r_getr' (pc := 66) (T := TX3) 3 0 hv32 hk31 (Or.inl q435) dX3_twice_66 kc3 g3000 ?_
    refine r_aload_n (pc := 69) dX3_twice_69 rfl ?_
    have hv33 := (fr_ext (key := 3004) eh29 hk24 (nz rfl) (ne0 wh29 hk31 (nz rfl)) (nm rfl)).trans hv27
    refine r_getr' (pc := 70) (T := TX3) 3 4 hv33 hk31 (Or.inl q439) dX3_twice_70 kc3 g3004 ?_
    refine r_aload_n (pc := 73) dX3_twice_73 rfl ?_
    refine r_getr' (pc := 74) (T := TX3) 3 4 hv33 hk31 (Or.inl q439) dX3_twice_74 kc3 g3004 ?_
    refine r_aload_n (pc := 77) dX3_twice_77 rfl ?_
    refine r_getr' (pc := 78) (T := TX3) 3 4 hv33 hk31 (Or.inl q439) dX3_twice_78 kc3 g3004 ?_
    have hk36 := kd_ext eh29 hk30 (nz rfl)
    refine r_callV_V (pc := 81) (Y := mX4_add) (vs := [_, _, _]) (st := []) hk36 rfl kc4 q1414 q1415 q1416 dX3_twice_81 rfl cd_X4_add rfl rfl fp_X3_twice_X4_add K (fun h35 eh35 wh35 K => ?_) (fun x h1 _ _ e => Tw.out rfl e)
    refine r_aload_n (pc := 84) dX3_twice_84 rfl ?_
    have hk37 := kd_ext eh35 hk31 (nz rfl)
    have hv38 := (fr_ext (key := 3000) eh35 hk31 (nz rfl) (ne0 wh35 hk37 (nz rfl)) (nm rfl)).trans hv32
    refine r_getr' (pc := 85) (T := TX3) 3 0 hv38 hk37 (Or.inl q435) dX3_twice_85 kc3 g3000 ?_
    refine r_aload_n (pc := 88) dX3_twice_88 rfl ?_
    have K := K _ rfl
    refine r_getr' (pc := 89) (T := TX3) 3 5 rfl hk37 (Or.inl q440) dX3_twice_89 kc3 g3005 ?_
    refine r_aload_n (pc := 92) dX3_twice_92 rfl ?_
    have hk40 := kd_ext eh22 hk17 (nz rfl)
    have hk41 := kd_ext eh29 hk40 (nz rfl)
    have hk42 := kd_ext eh35 hk41 (nz rfl)
    have hv43 := fr_self (key := 6000) hk17
    have hv44 := (fr_ext (key := 6000) eh22 hk17 (nz rfl) (ne0 wh22 hk40 (nz rfl)) (nm rfl)).trans hv43
    have hv45 := (fr_ext (key := 6000) eh29 hk40 (nz rfl) (ne0 wh29 hk41 (nz rfl)) (nm rfl)).trans hv44
    have hv46 := (fr_ext (key := 6000) eh35 hk41 (nz rfl) (ne0 wh35 hk42 (nz rfl)) (nm rfl)).trans hv45
    refine r_getr' (pc := 93) (T := TX6) 6 0 hv46 hk42 (Or.inr (Or.inl ⟨_, q417⟩)) dX3_twice_93 kc6 g6000 ?_
    refine r_aload_n (pc := 96) dX3_twice_96 rfl ?_
    refine r_getr' (pc := 97) (T := TX6) 6 0 hv46 hk42 (Or.inr (Or.inl ⟨_, q417⟩)) dX3_twice_97 kc6 g6000 ?_
    have hk49 := kd_ext eh35 hk36 (nz rfl)
    refine r_callV_V (pc := 100) (Y := mX4_multiply) (vs := [_, _, _]) (st := []) hk49 rfl kc4 q1399 q1400 q1401 dX3_twice_100 rfl cd_X4_multiply rfl rfl fp_X3_twice_X4_multiply K (fun h48 eh48 wh48 K => ?_) (fun x h1 _ _ e => Tw.out rfl e)
    refine r_aload_n (pc := 103) dX3_twice_103 rfl ?_
    have hk50 := kd_ext eh48 hk37 (nz rfl)
    have hv51 := (fr_ext (key := 3000) eh48 hk37 (nz rfl) (ne0 wh48 hk50 (nz rfl)) (nm rfl)).trans hv38
    refine r_getr' (pc := 104) (T := TX3) 3 0 hv51 hk50 (Or.inl q435) dX3_twice_104 kc3 g3000 ?_
    refine r_aload_n (pc := 107) dX3_twice_107 rfl ?_
    have K := K _ rfl
    refine r_getr' (pc := 108) (T := TX3) 3 6 rfl hk50 (Or.inl q441) dX3_twice_108 kc3 g3006 ?_
    refine r_aload_n (pc := 111) dX3_twice_111 rfl ?_
    have hv53 := fr_self (key := 3005) hk37
    have hv54 := (fr_ext (key := 3005) eh48 hk37 (nz rfl) (ne0 wh48 hk50 (nz rfl)) (nm rfl)).trans hv53
    refine r_getr' (pc := 112) (T := TX3) 3 5 hv54 hk50 (Or.inl q440) dX3_twice_112 kc3 g3005 ?_
    refine r_aload_n (pc := 115) dX3_twice_115 rfl ?_
    refine r_getr' (pc := 116) (T := TX3) 3 5 hv54 hk50 (Or.inl q440) dX3_twice_116 kc3 g3005 ?_
    have hk57 := kd_ext eh48 hk49 (nz rfl)
    refine r_callV_V (pc := 119) (Y := mX4_add) (vs := [_, _, _]) (st := []) hk57 rfl kc4 q1414 q1415 q1416 dX3_twice_119 rfl cd_X4_add rfl rfl fp_X3_twice_X4_add K (fun h56 eh56 wh56 K => ?_) (fun x h1 _ _ e => Tw.out rfl e)
    refine r_aload_n (pc := 122) dX3_twice_122 rfl ?_
    have hk58 := kd_ext eh56 hk50 (nz rfl)
    have hv59 := (fr_ext (key := 3000) eh56 hk50 (nz rfl) (ne0 wh56 hk58 (nz rfl)) (nm rfl)).trans hv51
    refine r_getr' (pc := 123) (T := TX3) 3 0 hv59 hk58 (Or.inl q435) dX3_twice_123 kc3 g3000 ?_
    refine r_aload_n (pc := 126) dX3_twice_126 rfl ?_
    have hv60 := (fr_ext (key := 3005) eh56 hk50 (nz rfl) (ne0 wh56 hk58 (nz rfl)) (nm rfl)).trans hv54
    refine r_getr' (pc := 127) (T := TX3) 3 5 hv60 hk58 (Or.inl q440) dX3_twice_127 kc3 g3005 ?_
    refine r_aload_n (pc := 130) dX3_twice_130 rfl ?_
    have hv61 := fr_self (key := 3006) hk50
    have hv62 := (fr_ext (key := 3006) eh56 hk50 (nz rfl) (ne0 wh56 hk58 (nz rfl)) (nm rfl)).trans hv61
    refine r_getr' (pc := 131) (T := TX3) 3 6 hv62 hk58 (Or.inl q441) dX3_twice_131 kc3 g3006 ?_
    refine r_aload_n (pc := 134) dX3_twice_134 rfl ?_
    refine r_getr' (pc := 135) (T := TX3) 3 5 hv60 hk58 (Or.inl q440) dX3_twice_135 kc3 g3005 ?_
    have hk65 := kd_ext eh56 hk57 (nz rfl)
    refine r_callV_V (pc := 138) (Y := mX4_add) (vs := [_, _, _]) (st := []) hk65 rfl kc4 q1414 q1415 q1416 dX3_twice_138 rfl cd_X4_add rfl rfl fp_X3_twice_X4_add K (fun h64 eh64 wh64 K => ?_) (fun x h1 _ _ e => Tw.out rfl e)
    refine r_aload_n (pc := 141) dX3_twice_141 rfl ?_
    have hk66 := kd_ext eh64 hk58 (nz rfl)
    have hv67 := (fr_ext (key := 3000) eh64 hk58 (nz rfl) (ne0 wh64 hk66 (nz rfl)) (nm rfl)).trans hv59
    refine r_getr' (pc := 142) (T := TX3) 3 0 hv67 hk66 (Or.inl q435) dX3_twice_142 kc3 g3000 ?_
    refine r_aload_n (pc := 145) dX3_twice_145 rfl ?_
    have hk68 := kd_ext eh48 hk42 (nz rfl)
    have hk69 := kd_ext eh56 hk68 (nz rfl)
    have hk70 := kd_ext eh64 hk69 (nz rfl)
    have K := K _ rfl
    refine r_getr' (pc := 146) (T := TX6) 6 2 rfl hk70 (Or.inr (Or.inl ⟨_, q421⟩)) dX3_twice_146 kc6 g6002 ?_
    refine r_aload_n (pc := 149) dX3_twice_149 rfl ?_
    have hv72 := fr_self (key := 6001) hk8
    have hv73 := (fr_ext (key := 6001) eh11 hk8 (nz rfl) (ne0 wh11 hk17 (nz rfl)) (nm rfl)).trans hv72
    have hv74 := (fr_ext (key := 6001) eh22 hk17 (nz rfl) (ne0 wh22 hk40 (nz rfl)) (nm rfl)).trans hv73
    have hv75 := (fr_ext (key := 6001) eh29 hk40 (nz rfl) (ne0 wh29 hk41 (nz rfl)) (nm rfl)).trans hv74
    have hv76 := (fr_ext (key := 6001) eh35 hk41 (nz rfl) (ne0 wh35 hk42 (nz rfl)) (nm rfl)).trans hv75
    have hv77 := (fr_ext (key := 6001) eh48 hk42 (nz rfl) (ne0 wh48 hk68 (nz rfl)) (nm rfl)).trans hv76
    have hv78 := (fr_ext (key := 6001) eh56 hk68 (nz rfl) (ne0 wh56 hk69 (nz rfl)) (nm rfl)).trans hv77
    have hv79 := (fr_ext (key := 6001) eh64 hk69 (nz rfl) (ne0 wh64 hk70 (nz rfl)) (nm rfl)).trans hv78
    refine r_getr' (pc := 150) (T := TX6) 6 1 hv79 hk70 (Or.inr (Or.inl ⟨_, q419⟩)) dX3_twice_150 kc6 g6001 ?_
    refine r_aload_n (pc := 153) dX3_twice_153 rfl ?_
    refine r_getr' (pc := 154) (T := TX6) 6 2 rfl hk70 (Or.inr (Or.inl ⟨_, q421⟩)) dX3_twice_154 kc6 g6002 ?_
    have hk82 := kd_ext eh64 hk65 (nz rfl)
    refine r_callV_V (pc := 157) (Y := mX4_multiply) (vs := [_, _, _]) (st := []) hk82 rfl kc4 q1399 q1400 q1401 dX3_twice_157 rfl cd_X4_multiply rfl rfl fp_X3_twice_X4_multiply K (fun h81 eh81 wh81 K => ?_) (fun x h1 _ _ e => Tw.out rfl e)
    refine r_aload_n (pc := 160) dX3_twice_160 rfl ?_
    have hk83 := kd_ext eh81 hk66 (nz rfl)
    have hv84 := (fr_ext (key := 3000) eh81 hk66 (nz rfl) (ne0 wh81 hk83 (nz rfl)) (nm rfl)).trans hv67
    refine r_getr' (pc := 161) (T := TX3) 3 0 hv84 hk83 (Or.inl q435) dX3_twice_161 kc3 g3000 ?_
    refine r_aload_n (pc := 164) dX3_twice_164 rfl ?_
    have hk85 := kd_ext eh81 hk70 (nz rfl)
    have hv86 := fr_self (key := 6002) hk70
    have hv87 := (fr_ext (key := 6002) eh81 hk70 (nz rfl) (ne0 wh81 hk85 (nz rfl)) (nm rfl)).trans hv86
    refine r_getr' (pc := 165) (T := TX6) 6 2 hv87 hk85 (Or.inr (Or.inl ⟨_, q421⟩)) dX3_twice_165 kc6 g6002 ?_
    refine r_aload_n (pc := 168) dX3_twice_168 rfl ?_
    refine r_getr' (pc := 169) (T := TX6) 6 2 hv87 hk85 (Or.inr (Or.inl ⟨_, q421⟩)) dX3_twice_169 kc6 g6002 ?_
    refine r_aload_n (pc := 172) dX3_twice_172 rfl ?_
    refine r_getr' (pc := 173) (T := TX6) 6 2 hv87 hk85 (Or.inr (Or.inl ⟨_, q421⟩)) dX3_twice_173 kc6 g6002 ?_
    have hk90 := kd_ext eh81 hk82 (nz rfl)
    refine r_callV_V (pc := 176) (Y := mX4_add) (vs := [_, _, _]) (st := []) hk90 rfl kc4 q1414 q1415 q1416 dX3_twice_176 rfl cd_X4_add rfl rfl fp_X3_twice_X4_add K (fun h89 eh89 wh89 K => ?_) (fun x h1 _ _ e => Tw.out rfl e)
    refine r_aload_n (pc := 179) dX3_twice_179 rfl ?_
    have hk91 := kd_ext eh89 hk83 (nz rfl)
    have hv92 := (fr_ext (key := 3000) eh89 hk83 (nz rfl) (ne0 wh89 hk91 (nz rfl)) (nm rfl)).trans hv84
    refine r_getr' (pc := 180) (T := TX3) 3 0 hv92 hk91 (Or.inl q435) dX3_twice_180 kc3 g3000 ?_
    refine r_aload_n (pc := 183) dX3_twice_183 rfl ?_
    have hk93 := kd_ext eh89 hk85 (nz rfl)
    have hv94 := (fr_ext (key := 6000) eh48 hk42 (nz rfl) (ne0 wh48 hk68 (nz rfl)) (nm rfl)).trans hv46
    have hv95 := (fr_ext (key := 6000) eh56 hk68 (nz rfl) (ne0 wh56 hk69 (nz rfl)) (nm rfl)).trans hv94
    have hv96 := (fr_ext (key := 6000) eh64 hk69 (nz rfl) (ne0 wh64 hk70 (nz rfl)) (nm rfl)).trans hv95
    have hv97 := (fr_ext (key := 6000) eh81 hk70 (nz rfl) (ne0 wh81 hk85 (nz rfl)) (nm rfl)).trans hv96
    have hv98 := (fr_ext (key := 6000) eh89 hk85 (nz rfl) (ne0 wh89 hk93 (nz rfl)) (nm rfl)).trans hv97
    refine r_getr' (pc := 184) (T := TX6) 6 0 hv98 hk93 (Or.inr (Or.inl ⟨_, q417⟩)) dX3_twice_184 kc6 g6000 ?_
    refine r_aload_n (pc := 187) dX3_twice_187 rfl ?_
    have hv99 := (fr_ext (key := 3005) eh64 hk58 (nz rfl) (ne0 wh64 hk66 (nz rfl)) (nm rfl)).trans hv60
    have hv100 := (fr_ext (key := 3005) eh81 hk66 (nz rfl) (ne0 wh81 hk83 (nz rfl)) (nm rfl)).trans hv99
    have hv101 := (fr_ext (key := 3005) eh89 hk83 (nz rfl) (ne0 wh89 hk91 (nz rfl)) (nm rfl)).trans hv100
    refine r_getr' (pc := 188) (T := TX3) 3 5 hv101 hk91 (Or.inl q440) dX3_twice_188 kc3 g3005 ?_
    refine r_aload_n (pc := 191) dX3_twice_191 rfl ?_
    refine r_getr' (pc := 192) (T := TX3) 3 5 hv101 hk91 (Or.inl q440) dX3_twice_192 kc3 g3005 ?_
    have hk104 := kd_ext eh89 hk90 (nz rfl)
    refine r_callV_V (pc := 195) (Y := mX4_multiply) (vs := [_, _, _]) (st := []) hk104 rfl kc4 q1399 q1400 q1401 dX3_twice_195 rfl cd_X4_multiply rfl rfl fp_X3_twice_X4_multiply K (fun h103 eh103 wh103 K => ?_) (fun x h1 _ _ e => Tw.out rfl e)
    refine r_aload_n (pc := 198) dX3_twice_198 rfl ?_
    have hk105 := kd_ext eh103 hk91 (nz rfl)
    have hv106 := (fr_ext (key := 3000) eh103 hk91 (nz rfl) (ne0 wh103 hk105 (nz rfl)) (nm rfl)).trans hv92
    refine r_getr' (pc := 199) (T := TX3) 3 0 hv106 hk105 (Or.inl q435) dX3_twice_199 kc3 g3000 ?_
    refine r_aload_n (pc := 202) dX3_twice_202 rfl ?_
    have hk107 := kd_ext eh103 hk93 (nz rfl)
    have hv108 := (fr_ext (key := 6000) eh103 hk93 (nz rfl) (ne0 wh103 hk107 (nz rfl)) (nm rfl)).trans hv98
    refine r_getr' (pc := 203) (T := TX6) 6 0 hv108 hk107 (Or.inr (Or.inl ⟨_, q417⟩)) dX3_twice_203 kc6 g6000 ?_
    refine r_aload_n (pc := 206) dX3_twice_206 rfl ?_
    refine r_getr' (pc := 207) (T := TX6) 6 0 hv108 hk107 (Or.inr (Or.inl ⟨_, q417⟩)) dX3_twice_207 kc6 g6000 ?_
    refine r_aload_n (pc := 210) dX3_twice_210 rfl ?_
    have hv109 := (fr_ext (key := 3004) eh35 hk31 (nz rfl) (ne0 wh35 hk37 (nz rfl)) (nm rfl)).trans hv33
    have hv110 := (fr_ext (key := 3004) eh48 hk37 (nz rfl) (ne0 wh48 hk50 (nz rfl)) (nm rfl)).trans hv109
    have hv111 := (fr_ext (key := 3004) eh56 hk50 (nz rfl) (ne0 wh56 hk58 (nz rfl)) (nm rfl)).trans hv110
    have hv112 := (fr_ext (key := 3004) eh64 hk58 (nz rfl) (ne0 wh64 hk66 (nz rfl)) (nm rfl)).trans hv111
    have hv113 := (fr_ext (key := 3004) eh81 hk66 (nz rfl) (ne0 wh81 hk83 (nz rfl)) (nm rfl)).trans hv112
    have hv114 := (fr_ext (key := 3004) eh89 hk83 (nz rfl) (ne0 wh89 hk91 (nz rfl)) (nm rfl)).trans hv113
    have hv115 := (fr_ext (key := 3004) eh103 hk91 (nz rfl) (ne0 wh103 hk105 (nz rfl)) (nm rfl)).trans hv114
    refine r_getr' (pc := 211) (T := TX3) 3 4 hv115 hk105 (Or.inl q439) dX3_twice_211 kc3 g3004 ?_
    have hk118 := kd_ext eh103 hk104 (nz rfl)
    refine r_callV_V (pc := 214) (Y := mX4_subtract) (vs := [_, _, _]) (st := []) hk118 rfl kc4 q1431 q1432 q1433 dX3_twice_214 rfl cd_X4_subtract rfl rfl fp_X3_twice_X4_subtract K (fun h117 eh117 wh117 K => ?_) (fun x h1 _ _ e => Tw.out rfl e)
    refine r_aload_n (pc := 217) dX3_twice_217 rfl ?_
    have hk119 := kd_ext eh117 hk105 (nz rfl)
    have hv120 := (fr_ext (key := 3000) eh117 hk105 (nz rfl) (ne0 wh117 hk119 (nz rfl)) (nm rfl)).trans hv106
    refine r_getr' (pc := 218) (T := TX3) 3 0 hv120 hk119 (Or.inl q435) dX3_twice_218 kc3 g3000 ?_
    refine r_aload_n (pc := 221) dX3_twice_221 rfl ?_
    have hk121 := kd_ext eh117 hk107 (nz rfl)
    have hv122 := (fr_ext (key := 6000) eh117 hk107 (nz rfl) (ne0 wh117 hk121 (nz rfl)) (nm rfl)).trans hv108
    refine r_getr' (pc := 222) (T := TX6) 6 0 hv122 hk121 (Or.inr (Or.inl ⟨_, q417⟩)) dX3_twice_222 kc6 g6000 ?_
    refine r_aload_n (pc := 225) dX3_twice_225 rfl ?_
    refine r_getr' (pc := 226) (T := TX6) 6 0 hv122 hk121 (Or.inr (Or.inl ⟨_, q417⟩)) dX3_twice_226 kc6 g6000 ?_
    refine r_aload_n (pc := 229) dX3_twice_229 rfl ?_
    have hv123 := (fr_ext (key := 3004) eh117 hk105 (nz rfl) (ne0 wh117 hk119 (nz rfl)) (nm rfl)).trans hv115
    refine r_getr' (pc := 230) (T := TX3) 3 4 hv123 hk119 (Or.inl q439) dX3_twice_230 kc3 g3004 ?_
    have hk126 := kd_ext eh117 hk118 (nz rfl)
    refine r_callV_V (pc := 233) (Y := mX4_subtract) (vs := [_, _, _]) (st := []) hk126 rfl kc4 q1431 q1432 q1433 dX3_twice_233 rfl cd_X4_subtract rfl rfl fp_X3_twice_X4_subtract K (fun h125 eh125 wh125 K => ?_) (fun x h1 _ _ e => Tw.out rfl e)
    refine r_aload_n (pc := 236) dX3_twice_236 rfl ?_
    have hk127 := kd_ext eh125 hk119 (nz rfl)
    have hv128 := (fr_ext (key := 3000) eh125 hk119 (nz rfl) (ne0 wh125 hk127 (nz rfl)) (nm rfl)).trans hv120
    refine r_getr' (pc := 237) (T := TX3) 3 0 hv128 hk127 (Or.inl q435) dX3_twice_237 kc3 g3000 ?_
    refine r_aload_n (pc := 240) dX3_twice_240 rfl ?_
    have hv129 := (fr_ext (key := 3004) eh125 hk119 (nz rfl) (ne0 wh125 hk127 (nz rfl)) (nm rfl)).trans hv123
    refine r_getr' (pc := 241) (T := TX3) 3 4 hv129 hk127 (Or.inl q439) dX3_twice_241 kc3 g3004 ?_
    refine r_aload_n (pc := 244) dX3_twice_244 rfl ?_
    refine r_getr' (pc := 245) (T := TX3) 3 4 hv129 hk127 (Or.inl q439) dX3_twice_245 kc3 g3004 ?_
    refine r_aload_n (pc := 248) dX3_twice_248 rfl ?_
    have hk130 := kd_ext eh125 hk121 (nz rfl)
    have hv131 := (fr_ext (key := 6000) eh125 hk121 (nz rfl) (ne0 wh125 hk130 (nz rfl)) (nm rfl)).trans hv122
    refine r_getr' (pc := 249) (T := TX6) 6 0 hv131 hk130 (Or.inr (Or.inl ⟨_, q417⟩)) dX3_twice_249 kc6 g6000 ?_
    have hk134 := kd_ext eh125 hk126 (nz rfl)
    refine r_callV_V (pc := 252) (Y := mX4_subtract) (vs := [_, _, _]) (st := []) hk134 rfl kc4 q1431 q1432 q1433 dX3_twice_252 rfl cd_X4_subtract rfl rfl fp_X3_twice_X4_subtract K (fun h133 eh133 wh133 K => ?_) (fun x h1 _ _ e => Tw.out rfl e)
    refine r_aload_n (pc := 255) dX3_twice_255 rfl ?_
    have hk135 := kd_ext eh133 hk127 (nz rfl)
    have hv136 := (fr_ext (key := 3000) eh133 hk127 (nz rfl) (ne0 wh133 hk135 (nz rfl)) (nm rfl)).trans hv128
    refine r_getr' (pc := 256) (T := TX3) 3 0 hv136 hk135 (Or.inl q435) dX3_twice_256 kc3 g3000 ?_
    refine r_aload_n (pc := 259) dX3_twice_259 rfl ?_
    have hk137 := kd_ext eh133 hk130 (nz rfl)
    have hv138 := (fr_ext (key := 6001) eh81 hk70 (nz rfl) (ne0 wh81 hk85 (nz rfl)) (nm rfl)).trans hv79
    have hv139 := (fr_ext (key := 6001) eh89 hk85 (nz rfl) (ne0 wh89 hk93 (nz rfl)) (nm rfl)).trans hv138
    have hv140 := (fr_ext (key := 6001) eh103 hk93 (nz rfl) (ne0 wh103 hk107 (nz rfl)) (nm rfl)).trans hv139
    have hv141 := (fr_ext (key := 6001) eh117 hk107 (nz rfl) (ne0 wh117 hk121 (nz rfl)) (nm rfl)).trans hv140
    have hv142 := (fr_ext (key := 6001) eh125 hk121 (nz rfl) (ne0 wh125 hk130 (nz rfl)) (nm rfl)).trans hv141
    have hv143 := (fr_ext (key := 6001) eh133 hk130 (nz rfl) (ne0 wh133 hk137 (nz rfl)) (nm rfl)).trans hv142
    refine r_getr' (pc := 260) (T := TX6) 6 1 hv143 hk137 (Or.inr (Or.inl ⟨_, q419⟩)) dX3_twice_260 kc6 g6001 ?_
    refine r_aload_n (pc := 263) dX3_twice_263 rfl ?_
    have hv144 := (fr_ext (key := 3005) eh103 hk91 (nz rfl) (ne0 wh103 hk105 (nz rfl)) (nm rfl)).trans hv101
    have hv145 := (fr_ext (key := 3005) eh117 hk105 (nz rfl) (ne0 wh117 hk119 (nz rfl)) (nm rfl)).trans hv144
    have hv146 := (fr_ext (key := 3005) eh125 hk119 (nz rfl) (ne0 wh125 hk127 (nz rfl)) (nm rfl)).trans hv145
    have hv147 := (fr_ext (key := 3005) eh133 hk127 (nz rfl) (ne0 wh133 hk135 (nz rfl)) (nm rfl)).trans hv146
    refine r_getr' (pc := 264) (T := TX3) 3 5 hv147 hk135 (Or.inl q440) dX3_twice_264 kc3 g3005 ?_
    refine r_aload_n (pc := 267) dX3_twice_267 rfl ?_
    have hv148 := (fr_ext (key := 3004) eh133 hk127 (nz rfl) (ne0 wh133 hk135 (nz rfl)) (nm rfl)).trans hv129
    refine r_getr' (pc := 268) (T := TX3) 3 4 hv148 hk135 (Or.inl q439) dX3_twice_268 kc3 g3004 ?_
    have hk151 := kd_ext eh133 hk134 (nz rfl)
    refine r_callV_V (pc := 271) (Y := mX4_multiply) (vs := [_, _, _]) (st := []) hk151 rfl kc4 q1399 q1400 q1401 dX3_twice_271 rfl cd_X4_multiply rfl rfl fp_X3_twice_X4_multiply K (fun h150 eh150 wh150 K => ?_) (fun x h1 _ _ e => Tw.out rfl e)
    refine r_aload_n (pc := 274) dX3_twice_274 rfl ?_
    have hk152 := kd_ext eh150 hk135 (nz rfl)
    have hv153 := (fr_ext (key := 3000) eh150 hk135 (nz rfl) (ne0 wh150 hk152 (nz rfl)) (nm rfl)).trans hv136
    refine r_getr' (pc := 275) (T := TX3) 3 0 hv153 hk152 (Or.inl q435) dX3_twice_275 kc3 g3000 ?_
    refine r_aload_n (pc := 278) dX3_twice_278 rfl ?_
    have hv154 := (fr_ext (key := 3003) eh22 hk13 (nz rfl) (ne0 wh22 hk24 (nz rfl)) (nm rfl)).trans hv20
    have hv155 := (fr_ext (key := 3003) eh29 hk24 (nz rfl) (ne0 wh29 hk31 (nz rfl)) (nm rfl)).trans hv154
    have hv156 := (fr_ext (key := 3003) eh35 hk31 (nz rfl) (ne0 wh35 hk37 (nz rfl)) (nm rfl)).trans hv155
    have hv157 := (fr_ext (key := 3003) eh48 hk37 (nz rfl) (ne0 wh48 hk50 (nz rfl)) (nm rfl)).trans hv156
    have hv158 := (fr_ext (key := 3003) eh56 hk50 (nz rfl) (ne0 wh56 hk58 (nz rfl)) (nm rfl)).trans hv157
    have hv159 := (fr_ext (key := 3003) eh64 hk58 (nz rfl) (ne0 wh64 hk66 (nz rfl)) (nm rfl)).trans hv158
    have hv160 := (fr_ext (key := 3003) eh81 hk66 (nz rfl) (ne0 wh81 hk83 (nz rfl)) (nm rfl)).trans hv159
    have hv161 := (fr_ext (key := 3003) eh89 hk83 (nz rfl) (ne0 wh89 hk91 (nz rfl)) (nm rfl)).trans hv160
    have hv162 := (fr_ext (key := 3003) eh103 hk91 (nz rfl) (ne0 wh103 hk105 (nz rfl)) (nm rfl)).trans hv161
    have hv163 := (fr_ext (key := 3003) eh117 hk105 (nz rfl) (ne0 wh117 hk119 (nz rfl)) (nm rfl)).trans hv162
    have hv164 := (fr_ext (key := 3003) eh125 hk119 (nz rfl) (ne0 wh125 hk127 (nz rfl)) (nm rfl)).trans hv163
    have hv165 := (fr_ext (key := 3003) eh133 hk127 (nz rfl) (ne0 wh133 hk135 (nz rfl)) (nm rfl)).trans hv164
    have hv166 := (fr_ext (key := 3003) eh150 hk135 (nz rfl) (ne0 wh150 hk152 (nz rfl)) (nm rfl)).trans hv165
    refine r_getr' (pc := 279) (T := TX3) 3 3 hv166 hk152 (Or.inl q438) dX3_twice_279 kc3 g3003 ?_
    refine r_aload_n (pc := 282) dX3_twice_282 rfl ?_
    refine r_getr' (pc := 283) (T := TX3) 3 3 hv166 hk152 (Or.inl q438) dX3_twice_283 kc3 g3003 ?_
    refine r_aload_n (pc := 286) dX3_twice_286 rfl ?_
    refine r_getr' (pc := 287) (T := TX3) 3 3 hv166 hk152 (Or.inl q438) dX3_twice_287 kc3 g3003 ?_
    have hk169 := kd_ext eh150 hk151 (nz rfl)
    refine r_callV_V (pc := 290) (Y := mX4_multiply) (vs := [_, _, _]) (st := []) hk169 rfl kc4 q1399 q1400 q1401 dX3_twice_290 rfl cd_X4_multiply rfl rfl fp_X3_twice_X4_multiply K (fun h168 eh168 wh168 K => ?_) (fun x h1 _ _ e => Tw.out rfl e)
    refine r_iconst (pc := 293) (x := 0) dX3_twice_293 rfl ?_
    refine r_istore_n (pc := 294) (lv' := [_, _, _]) dX3_twice_294 (by decide) rfl ?_
    refine r_mask (pc := 295) [true, true, true] rfl ?_
    exact K
  · have K := K.2 c4
    exact r_vret (pc := 7) rfl dX3_twice_7 K
theorem eX3_twice {G : Gx} {d : Nat} {Φ : Out → AH → Prop} (h : AH) (v0 : Nat) (v1 : Nat) (K : WF G h → Aw G mX3_twice (d + 1) 0 h Φ 0 [vR v0, vR v1, vU] [] h) : Cw G mX3_twice (d + 1) 0 [vR v0, vR v1] h Φ := Cw.of rfl K
set_option maxHeartbeats 4000000 in
theorem sX3_twice_295 {G : Gx} {d t : Nat} {h0 : AH} {Φ : Out → AH → Prop} (h : AH) (v0 : Nat) (v1 : Nat) (v2 : Int32) (K : ((3 ≤ v2 → h.kd v0 = 3 ∧ ∀ r3 : Nat, r3 = (h.r 3000 v0) → h.kd v1 = 6 ∧ ∀ r5 : Nat, r5 = (h.r 6001 v1) → ∀ r6 : Nat, r6 = (h.r 3003 v0) → h.kd r3 = 4 ∧ Cw G mX4_subtract d 0 [vR r3, vR r5, vR r5, vR r6] h (kV (fun h8 => Φ (.inl none) h8) (fun x h => Φ (.inr x) h))) ∧ (¬ 3 ≤ v2 → h.kd v0 = 3 ∧ ∀ r11 : Nat, r11 = (h.r 3000 v0) → ∀ r12 : Nat, r12 = (h.r 3003 v0) → h.kd r11 = 4 ∧ Cw G mX4_add d 0 [vR r11, vR r12, vR r12, vR r12] h (kV (fun h14 => Aw G mX3_twice (d + 1) t h0 Φ 295 [vR v0, vR v1, vI (v2 + 1)] [] h14) (fun x h => Φ (.inr x) h))))) : Aw G mX3_twice (d + 1) t h0 Φ 295 [vR v0, vR v1, vI v2] [] h := by
  refine r_iload_n (pc := 295) dX3_twice_295 rfl ?_
  refine r_iconst (pc := 296) (x := 3) dX3_twice_296 rfl ?_
  refine r_icmp_ge (pc := 297) (tgt := 325) dX3_twice_297 rfl (fun c1 => ?_) (fun c1 => ?_)
  · have K := K.1 c1
    refine r_aload_n (pc := 325) dX3_twice_325 rfl ?_
    obtain ⟨hk2, K⟩ := K
    have K := K _ rfl
    refine r_getr' (pc := 326) (T := TX3) 3 0 rfl hk2 (Or.inl q435) dX3_twice_326 kc3 g3000 ?_
    refine r_aload_n (pc := 329) dX3_twice_329 rfl ?_
    obtain ⟨hk4, K⟩ := K
    have K := K _ rfl
    refine r_getr' (pc := 330) (T := TX6) 6 1 rfl hk4 (Or.inr (Or.inl ⟨_, q419⟩)) dX3_twice_330 kc6 g6001 ?_
    refine r_aload_n (pc := 333) dX3_twice_333 rfl ?_
    refine r_getr' (pc := 334) (T := TX6) 6 1 rfl hk4 (Or.inr (Or.inl ⟨_, q419⟩)) dX3_twice_334 kc6 g6001 ?_
    refine r_aload_n (pc := 337) dX3_twice_337 rfl ?_
    have K := K _ rfl
    refine r_getr' (pc := 338) (T := TX3) 3 3 rfl hk2 (Or.inl q438) dX3_twice_338 kc3 g3003 ?_
    obtain ⟨hk9, K⟩ := K
    refine r_callV_V (pc := 341) (Y := mX4_subtract) (vs := [_, _, _]) (st := []) hk9 rfl kc4 q1431 q1432 q1433 dX3_twice_341 rfl cd_X4_subtract rfl rfl fp_X3_twice_X4_subtract K (fun h8 eh8 wh8 K => ?_) (fun x h1 _ _ e => Tw.out rfl e)
    exact r_vret (pc := 344) rfl dX3_twice_344 K
  · have K := K.2 c1
    refine r_aload_n (pc := 300) dX3_twice_300 rfl ?_
    obtain ⟨hk10, K⟩ := K
    have K := K _ rfl
    refine r_getr' (pc := 301) (T := TX3) 3 0 rfl hk10 (Or.inl q435) dX3_twice_301 kc3 g3000 ?_
    refine r_aload_n (pc := 304) dX3_twice_304 rfl ?_
    have K := K _ rfl
    refine r_getr' (pc := 305) (T := TX3) 3 3 rfl hk10 (Or.inl q438) dX3_twice_305 kc3 g3003 ?_
    refine r_aload_n (pc := 308) dX3_twice_308 rfl ?_
    refine r_getr' (pc := 309) (T := TX3) 3 3 rfl hk10 (Or.inl q438) dX3_twice_309 kc3 g3003 ?_
    refine r_aload_n (pc := 312) dX3_twice_312 rfl ?_
    refine r_getr' (pc := 313) (T := TX3) 3 3 rfl hk10 (Or.inl q438) dX3_twice_313 kc3 g3003 ?_
    obtain ⟨hk15, K⟩ := K
    refine r_callV_V (pc := 316) (Y := mX4_add) (vs := [_, _, _]) (st := []) hk15 rfl kc4 q1414 q1415 q1416 dX3_twice_316 rfl cd_X4_add rfl rfl fp_X3_twice_X4_add K (fun h14 eh14 wh14 K => ?_) (fun x h1 _ _ e => Tw.out rfl e)
    refine r_iinc (pc := 319) (lv' := [_, _, _]) dX3_twice_319 rfl rfl (by decide) rfl ?_
    refine r_goto (pc := 322) (tgt := 295) dX3_twice_322 rfl ?_
    refine r_mask (pc := 295) [true, true, true] rfl ?_
    exact K
theorem dX3_add_0 : decode cX3_add 0 = .ok (.aload_n 2, 1) := by decide +kernel
theorem dX3_add_1 : decode cX3_add 1 = .ok (.invokevirtual 102, 3) := by decide +kernel
theorem dX3_add_4 : decode cX3_add 4 = .ok (.ifCond .eq 4, 3) := by decide +kernel
theorem dX3_add_7 : decode cX3_add 7 = .ok (.return_, 1) := by decide +kernel
theorem dX3_add_8 : decode cX3_add 8 = .ok (.aload_n 1, 1) := by decide +kernel
theorem dX3_add_9 : decode cX3_add 9 = .ok (.invokevirtual 102, 3) := by decide +kernel
theorem dX3_add_12 : decode cX3_add 12 = .ok (.ifCond .eq 10, 3) := by decide +kernel
theorem dX3_add_15 : decode cX3_add 15 = .ok (.aload_n 1, 1) := by decide +kernel
theorem dX3_add_16 : decode cX3_add 16 = .ok (.aload_n 2, 1) := by decide +kernel
theorem dX3_add_17 : decode cX3_add 17 = .ok (.invokevirtual 116, 3) := by decide +kernel
theorem dX3_add_20 : decode cX3_add 20 = .ok (.pop, 1) := by decide +kernel
theorem dX3_add_21 : decode cX3_add 21 = .ok (.return_, 1) := by decide +kernel
theorem dX3_add_22 : decode cX3_add 22 = .ok (.aload_n 0, 1) := by decide +kernel
theorem dX3_add_23 : decode cX3_add 23 = .ok (.getfield 21, 3) := by decide +kernel
theorem dX3_add_26 : decode cX3_add 26 = .ok (.aload_n 0, 1) := by decide +kernel
theorem dX3_add_27 : decode cX3_add 27 = .ok (.getfield 39, 3) := by decide +kernel
theorem dX3_add_30 : decode cX3_add 30 = .ok (.aload_n 1, 1) := by decide +kernel
theorem dX3_add_31 : decode cX3_add 31 = .ok (.getfield 95, 3) := by decide +kernel
theorem dX3_add_34 : decode cX3_add 34 = .ok (.aload_n 1, 1) := by decide +kernel
theorem dX3_add_35 : decode cX3_add 35 = .ok (.getfield 95, 3) := by decide +kernel
theorem dX3_add_38 : decode cX3_add 38 = .ok (.invokevirtual 106, 3) := by decide +kernel
theorem dX3_add_41 : decode cX3_add 41 = .ok (.aload_n 0, 1) := by decide +kernel
theorem dX3_add_42 : decode cX3_add 42 = .ok (.getfield 21, 3) := by decide +kernel
theorem dX3_add_45 : decode cX3_add 45 = .ok (.aload_n 0, 1) := by decide +kernel
theorem dX3_add_46 : decode cX3_add 46 = .ok (.getfield 43, 3) := by decide +kernel
theorem dX3_add_49 : decode cX3_add 49 = .ok (.aload_n 2, 1) := by decide +kernel
theorem dX3_add_50 : decode cX3_add 50 = .ok (.getfield 95, 3) := by decide +kernel
theorem dX3_add_53 : decode cX3_add 53 = .ok (.aload_n 2, 1) := by decide +kernel
theorem dX3_add_54 : decode cX3_add 54 = .ok (.getfield 95, 3) := by decide +kernel
theorem dX3_add_57 : decode cX3_add 57 = .ok (.invokevirtual 106, 3) := by decide +kernel
theorem dX3_add_60 : decode cX3_add 60 = .ok (.aload_n 0, 1) := by decide +kernel
theorem dX3_add_61 : decode cX3_add 61 = .ok (.getfield 21, 3) := by decide +kernel
theorem dX3_add_64 : decode cX3_add 64 = .ok (.aload_n 0, 1) := by decide +kernel
theorem dX3_add_65 : decode cX3_add 65 = .ok (.getfield 46, 3) := by decide +kernel
theorem dX3_add_68 : decode cX3_add 68 = .ok (.aload_n 1, 1) := by decide +kernel
theorem dX3_add_69 : decode cX3_add 69 = .ok (.getfield 85, 3) := by decide +kernel
theorem dX3_add_72 : decode cX3_add 72 = .ok (.aload_n 0, 1) := by decide +kernel
theorem dX3_add_73 : decode cX3_add 73 = .ok (.getfield 43, 3) := by decide +kernel
theorem dX3_add_76 : decode cX3_add 76 = .ok (.invokevirtual 106, 3) := by decide +kernel
theorem dX3_add_79 : decode cX3_add 79 = .ok (.aload_n 0, 1) := by decide +kernel
theorem dX3_add_80 : decode cX3_add 80 = .ok (.getfield 21, 3) := by decide +kernel
theorem dX3_add_83 : decode cX3_add 83 = .ok (.aload_n 0, 1) := by decide +kernel
theorem dX3_add_84 : decode cX3_add 84 = .ok (.getfield 49, 3) := by decide +kernel
theorem dX3_add_87 : decode cX3_add 87 = .ok (.aload_n 2, 1) := by decide +kernel
theorem dX3_add_88 : decode cX3_add 88 = .ok (.getfield 85, 3) := by decide +kernel
theorem dX3_add_91 : decode cX3_add 91 = .ok (.aload_n 0, 1) := by decide +kernel
theorem dX3_add_92 : decode cX3_add 92 = .ok (.getfield 39, 3) := by decide +kernel
theorem dX3_add_95 : decode cX3_add 95 = .ok (.invokevirtual 106, 3) := by decide +kernel
theorem dX3_add_98 : decode cX3_add 98 = .ok (.aload_n 0, 1) := by decide +kernel
theorem dX3_add_99 : decode cX3_add 99 = .ok (.getfield 21, 3) := by decide +kernel
theorem dX3_add_102 : decode cX3_add 102 = .ok (.aload_n 0, 1) := by decide +kernel
theorem dX3_add_103 : decode cX3_add 103 = .ok (.getfield 43, 3) := by decide +kernel
theorem dX3_add_106 : decode cX3_add 106 = .ok (.aload_n 0, 1) := by decide +kernel
theorem dX3_add_107 : decode cX3_add 107 = .ok (.getfield 43, 3) := by decide +kernel
theorem dX3_add_110 : decode cX3_add 110 = .ok (.aload_n 2, 1) := by decide +kernel
theorem dX3_add_111 : decode cX3_add 111 = .ok (.getfield 95, 3) := by decide +kernel
theorem dX3_add_114 : decode cX3_add 114 = .ok (.invokevirtual 106, 3) := by decide +kernel
theorem dX3_add_117 : decode cX3_add 117 = .ok (.aload_n 0, 1) := by decide +kernel
theorem dX3_add_118 : decode cX3_add 118 = .ok (.getfield 21, 3) := by decide +kernel
theorem dX3_add_121 : decode cX3_add 121 = .ok (.aload_n 0, 1) := by decide +kernel
theorem dX3_add_122 : decode cX3_add 122 = .ok (.getfield 43, 3) := by decide +kernel
theorem dX3_add_125 : decode cX3_add 125 = .ok (.aload_n 0, 1) := by decide +kernel
theorem dX3_add_126 : decode cX3_add 126 = .ok (.getfield 43, 3) := by decide +kernel
theorem dX3_add_129 : decode cX3_add 129 = .ok (.aload_n 1, 1) := by decide +kernel
theorem dX3_add_130 : decode cX3_add 130 = .ok (.getfield 90, 3) := by decide +kernel
theorem dX3_add_133 : decode cX3_add 133 = .ok (.invokevirtual 106, 3) := by decide +kernel
theorem dX3_add_136 : decode cX3_add 136 = .ok (.aload_n 0, 1) := by decide +kernel
theorem dX3_add_137 : decode cX3_add 137 = .ok (.getfield 21, 3) := by decide +kernel
theorem dX3_add_140 : decode cX3_add 140 = .ok (.aload_n 0, 1) := by decide +kernel
theorem dX3_add_141 : decode cX3_add 141 = .ok (.getfield 39, 3) := by decide +kernel
theorem dX3_add_144 : decode cX3_add 144 = .ok (.aload_n 0, 1) := by decide +kernel
theorem dX3_add_145 : decode cX3_add 145 = .ok (.getfield 39, 3) := by decide +kernel
theorem dX3_add_148 : decode cX3_add 148 = .ok (.aload_n 1, 1) := by decide +kernel
theorem dX3_add_149 : decode cX3_add 149 = .ok (.getfield 95, 3) := by decide +kernel
theorem dX3_add_152 : decode cX3_add 152 = .ok (.invokevirtual 106, 3) := by decide +kernel
theorem dX3_add_155 : decode cX3_add 155 = .ok (.aload_n 0, 1) := by decide +kernel
theorem dX3_add_156 : decode cX3_add 156 = .ok (.getfield 21, 3) := by decide +kernel
theorem dX3_add_159 : decode cX3_add 159 = .ok (.aload_n 0, 1) := by decide +kernel
theorem dX3_add_160 : decode cX3_add 160 = .ok (.getfield 39, 3) := by decide +kernel
theorem dX3_add_163 : decode cX3_add 163 = .ok (.aload_n 0, 1) := by decide +kernel
theorem dX3_add_164 : decode cX3_add 164 = .ok (.getfield 39, 3) := by decide +kernel
theorem dX3_add_167 : decode cX3_add 167 = .ok (.aload_n 2, 1) := by decide +kernel
theorem dX3_add_168 : decode cX3_add 168 = .ok (.getfield 90, 3) := by decide +kernel
theorem dX3_add_171 : decode cX3_add 171 = .ok (.invokevirtual 106, 3) := by decide +kernel
theorem dX3_add_174 : decode cX3_add 174 = .ok (.aload_n 0, 1) := by decide +kernel
theorem dX3_add_175 : decode cX3_add 175 = .ok (.getfield 21, 3) := by decide +kernel
theorem dX3_add_178 : decode cX3_add 178 = .ok (.aload_n 0, 1) := by decide +kernel
theorem dX3_add_179 : decode cX3_add 179 = .ok (.getfield 49, 3) := by decide +kernel
theorem dX3_add_182 : decode cX3_add 182 = .ok (.aload_n 0, 1) := by decide +kernel
theorem dX3_add_183 : decode cX3_add 183 = .ok (.getfield 49, 3) := by decide +kernel
theorem dX3_add_186 : decode cX3_add 186 = .ok (.aload_n 0, 1) := by decide +kernel
theorem dX3_add_187 : decode cX3_add 187 = .ok (.getfield 46, 3) := by decide +kernel
theorem dX3_add_190 : decode cX3_add 190 = .ok (.invokevirtual 113, 3) := by decide +kernel
theorem dX3_add_193 : decode cX3_add 193 = .ok (.aload_n 0, 1) := by decide +kernel
theorem dX3_add_194 : decode cX3_add 194 = .ok (.getfield 21, 3) := by decide +kernel
theorem dX3_add_197 : decode cX3_add 197 = .ok (.aload_n 0, 1) := by decide +kernel
theorem dX3_add_198 : decode cX3_add 198 = .ok (.getfield 39, 3) := by decide +kernel
theorem dX3_add_201 : decode cX3_add 201 = .ok (.aload_n 0, 1) := by decide +kernel
theorem dX3_add_202 : decode cX3_add 202 = .ok (.getfield 39, 3) := by decide +kernel
theorem dX3_add_205 : decode cX3_add 205 = .ok (.aload_n 0, 1) := by decide +kernel
theorem dX3_add_206 : decode cX3_add 206 = .ok (.getfield 43, 3) := by decide +kernel
theorem dX3_add_209 : decode cX3_add 209 = .ok (.invokevirtual 113, 3) := by decide +kernel
theorem dX3_add_212 : decode cX3_add 212 = .ok (.aload_n 0, 1) := by decide +kernel
theorem dX3_add_213 : decode cX3_add 213 = .ok (.getfield 49, 3) := by decide +kernel
theorem dX3_add_216 : decode cX3_add 216 = .ok (.invokevirtual 120, 3) := by decide +kernel
theorem dX3_add_219 : decode cX3_add 219 = .ok (.ifCond .eq 30, 3) := by decide +kernel
theorem dX3_add_222 : decode cX3_add 222 = .ok (.aload_n 0, 1) := by decide +kernel
theorem dX3_add_223 : decode cX3_add 223 = .ok (.getfield 39, 3) := by decide +kernel
theorem dX3_add_226 : decode cX3_add 226 = .ok (.invokevirtual 120, 3) := by decide +kernel
theorem dX3_add_229 : decode cX3_add 229 = .ok (.ifCond .eq 11, 3) := by decide +kernel
theorem dX3_add_232 : decode cX3_add 232 = .ok (.aload_n 0, 1) := by decide +kernel
theorem dX3_add_233 : decode cX3_add 233 = .ok (.aload_n 1, 1) := by decide +kernel
theorem dX3_add_234 : decode cX3_add 234 = .ok (.invokevirtual 123, 3) := by decide +kernel
theorem dX3_add_237 : decode cX3_add 237 = .ok (.goto 11, 3) := by decide +kernel
theorem dX3_add_240 : decode cX3_add 240 = .ok (.aload_n 1, 1) := by decide +kernel
theorem dX3_add_241 : decode cX3_add 241 = .ok (.getfield 95, 3) := by decide +kernel
theorem dX3_add_244 : decode cX3_add 244 = .ok (.invokevirtual 127, 3) := by decide +kernel
theorem dX3_add_247 : decode cX3_add 247 = .ok (.pop, 1) := by decide +kernel
theorem dX3_add_248 : decode cX3_add 248 = .ok (.return_, 1) := by decide +kernel
theorem dX3_add_249 : decode cX3_add 249 = .ok (.aload_n 0, 1) := by decide +kernel
theorem dX3_add_250 : decode cX3_add 250 = .ok (.getfield 21, 3) := by decide +kernel
theorem dX3_add_253 : decode cX3_add 253 = .ok (.aload_n 1, 1) := by decide +kernel
theorem dX3_add_254 : decode cX3_add 254 = .ok (.getfield 95, 3) := by decide +kernel
theorem dX3_add_257 : decode cX3_add 257 = .ok (.aload_n 1, 1) := by decide +kernel
theorem dX3_add_258 : decode cX3_add 258 = .ok (.getfield 95, 3) := by decide +kernel
theorem dX3_add_261 : decode cX3_add 261 = .ok (.aload_n 2, 1) := by decide +kernel
theorem dX3_add_262 : decode cX3_add 262 = .ok (.getfield 95, 3) := by decide +kernel
theorem dX3_add_265 : decode cX3_add 265 = .ok (.invokevirtual 106, 3) := by decide +kernel
theorem dX3_add_268 : decode cX3_add 268 = .ok (.aload_n 0, 1) := by decide +kernel
theorem dX3_add_269 : decode cX3_add 269 = .ok (.getfield 21, 3) := by decide +kernel
theorem dX3_add_272 : decode cX3_add 272 = .ok (.aload_n 1, 1) := by decide +kernel
theorem dX3_add_273 : decode cX3_add 273 = .ok (.getfield 95, 3) := by decide +kernel
theorem dX3_add_276 : decode cX3_add 276 = .ok (.aload_n 1, 1) := by decide +kernel
theorem dX3_add_277 : decode cX3_add 277 = .ok (.getfield 95, 3) := by decide +kernel
theorem dX3_add_280 : decode cX3_add 280 = .ok (.aload_n 0, 1) := by decide +kernel
theorem dX3_add_281 : decode cX3_add 281 = .ok (.getfield 49, 3) := by decide +kernel
theorem dX3_add_284 : decode cX3_add 284 = .ok (.invokevirtual 106, 3) := by decide +kernel
theorem dX3_add_287 : decode cX3_add 287 = .ok (.aload_n 0, 1) := by decide +kernel
theorem dX3_add_288 : decode cX3_add 288 = .ok (.getfield 21, 3) := by decide +kernel
theorem dX3_add_291 : decode cX3_add 291 = .ok (.aload_n 0, 1) := by decide +kernel
theorem dX3_add_292 : decode cX3_add 292 = .ok (.getfield 52, 3) := by decide +kernel
theorem dX3_add_295 : decode cX3_add 295 = .ok (.aload_n 0, 1) := by decide +kernel
theorem dX3_add_296 : decode cX3_add 296 = .ok (.getfield 49, 3) := by decide +kernel
theorem dX3_add_299 : decode cX3_add 299 = .ok (.aload_n 0, 1) := by decide +kernel
theorem dX3_add_300 : decode cX3_add 300 = .ok (.getfield 49, 3) := by decide +kernel
theorem dX3_add_303 : decode cX3_add 303 = .ok (.invokevirtual 106, 3) := by decide +kernel
theorem dX3_add_306 : decode cX3_add 306 = .ok (.aload_n 0, 1) := by decide +kernel
theorem dX3_add_307 : decode cX3_add 307 = .ok (.getfield 21, 3) := by decide +kernel
theorem dX3_add_310 : decode cX3_add 310 = .ok (.aload_n 0, 1) := by decide +kernel
theorem dX3_add_311 : decode cX3_add 311 = .ok (.getfield 55, 3) := by decide +kernel
theorem dX3_add_314 : decode cX3_add 314 = .ok (.aload_n 0, 1) := by decide +kernel
theorem dX3_add_315 : decode cX3_add 315 = .ok (.getfield 52, 3) := by decide +kernel
theorem dX3_add_318 : decode cX3_add 318 = .ok (.aload_n 0, 1) := by decide +kernel
theorem dX3_add_319 : decode cX3_add 319 = .ok (.getfield 46, 3) := by decide +kernel
theorem dX3_add_322 : decode cX3_add 322 = .ok (.invokevirtual 106, 3) := by decide +kernel
theorem dX3_add_325 : decode cX3_add 325 = .ok (.aload_n 0, 1) := by decide +kernel
theorem dX3_add_326 : decode cX3_add 326 = .ok (.getfield 21, 3) := by decide +kernel
theorem dX3_add_329 : decode cX3_add 329 = .ok (.aload_n 0, 1) := by decide +kernel
theorem dX3_add_330 : decode cX3_add 330 = .ok (.getfield 52, 3) := by decide +kernel
theorem dX3_add_333 : decode cX3_add 333 = .ok (.aload_n 0, 1) := by decide +kernel
theorem dX3_add_334 : decode cX3_add 334 = .ok (.getfield 52, 3) := by decide +kernel
theorem dX3_add_337 : decode cX3_add 337 = .ok (.aload_n 0, 1) := by decide +kernel
theorem dX3_add_338 : decode cX3_add 338 = .ok (.getfield 49, 3) := by decide +kernel
theorem dX3_add_341 : decode cX3_add 341 = .ok (.invokevirtual 106, 3) := by decide +kernel
theorem dX3_add_344 : decode cX3_add 344 = .ok (.aload_n 0, 1) := by decide +kernel
theorem dX3_add_345 : decode cX3_add 345 = .ok (.getfield 21, 3) := by decide +kernel
theorem dX3_add_348 : decode cX3_add 348 = .ok (.aload_n 1, 1) := by decide +kernel
theorem dX3_add_349 : decode cX3_add 349 = .ok (.getfield 85, 3) := by decide +kernel
theorem dX3_add_352 : decode cX3_add 352 = .ok (.aload_n 0, 1) := by decide +kernel
theorem dX3_add_353 : decode cX3_add 353 = .ok (.getfield 39, 3) := by decide +kernel
theorem dX3_add_356 : decode cX3_add 356 = .ok (.aload_n 0, 1) := by decide +kernel
theorem dX3_add_357 : decode cX3_add 357 = .ok (.getfield 39, 3) := by decide +kernel
theorem dX3_add_360 : decode cX3_add 360 = .ok (.invokevirtual 106, 3) := by decide +kernel
theorem dX3_add_363 : decode cX3_add 363 = .ok (.aload_n 0, 1) := by decide +kernel
theorem dX3_add_364 : decode cX3_add 364 = .ok (.getfield 21, 3) := by decide +kernel
theorem dX3_add_367 : decode cX3_add 367 = .ok (.aload_n 1, 1) := by decide +kernel
theorem dX3_add_368 : decode cX3_add 368 = .ok (.getfield 85, 3) := by decide +kernel
theorem dX3_add_371 : decode cX3_add 371 = .ok (.aload_n 1, 1) := by decide +kernel
theorem dX3_add_372 : decode cX3_add 372 = .ok (.getfield 85, 3) := by decide +kernel
theorem dX3_add_375 : decode cX3_add 375 = .ok (.aload_n 0, 1) := by decide +kernel
theorem dX3_add_376 : decode cX3_add 376 = .ok (.getfield 52, 3) := by decide +kernel
theorem dX3_add_379 : decode cX3_add 379 = .ok (.invokevirtual 113, 3) := by decide +kernel
theorem dX3_add_382 : decode cX3_add 382 = .ok (.aload_n 0, 1) := by decide +kernel
theorem dX3_add_383 : decode cX3_add 383 = .ok (.getfield 21, 3) := by decide +kernel
theorem dX3_add_386 : decode cX3_add 386 = .ok (.aload_n 1, 1) := by decide +kernel
theorem dX3_add_387 : decode cX3_add 387 = .ok (.getfield 85, 3) := by decide +kernel
theorem dX3_add_390 : decode cX3_add 390 = .ok (.aload_n 1, 1) := by decide +kernel
theorem dX3_add_391 : decode cX3_add 391 = .ok (.getfield 85, 3) := by decide +kernel
theorem dX3_add_394 : decode cX3_add 394 = .ok (.aload_n 0, 1) := by decide +kernel
theorem dX3_add_395 : decode cX3_add 395 = .ok (.getfield 55, 3) := by decide +kernel
theorem dX3_add_398 : decode cX3_add 398 = .ok (.invokevirtual 113, 3) := by decide +kernel
theorem dX3_add_401 : decode cX3_add 401 = .ok (.aload_n 0, 1) := by decide +kernel
theorem dX3_add_402 : decode cX3_add 402 = .ok (.getfield 21, 3) := by decide +kernel
theorem dX3_add_405 : decode cX3_add 405 = .ok (.aload_n 1, 1) := by decide +kernel
theorem dX3_add_406 : decode cX3_add 406 = .ok (.getfield 85, 3) := by decide +kernel
theorem dX3_add_409 : decode cX3_add 409 = .ok (.aload_n 1, 1) := by decide +kernel
theorem dX3_add_410 : decode cX3_add 410 = .ok (.getfield 85, 3) := by decide +kernel
theorem dX3_add_413 : decode cX3_add 413 = .ok (.aload_n 0, 1) := by decide +kernel
theorem dX3_add_414 : decode cX3_add 414 = .ok (.getfield 55, 3) := by decide +kernel
theorem dX3_add_417 : decode cX3_add 417 = .ok (.invokevirtual 113, 3) := by decide +kernel
theorem dX3_add_420 : decode cX3_add 420 = .ok (.aload_n 0, 1) := by decide +kernel
theorem dX3_add_421 : decode cX3_add 421 = .ok (.getfield 21, 3) := by decide +kernel
theorem dX3_add_424 : decode cX3_add 424 = .ok (.aload_n 0, 1) := by decide +kernel
theorem dX3_add_425 : decode cX3_add 425 = .ok (.getfield 55, 3) := by decide +kernel
theorem dX3_add_428 : decode cX3_add 428 = .ok (.aload_n 0, 1) := by decide +kernel
theorem dX3_add_429 : decode cX3_add 429 = .ok (.getfield 55, 3) := by decide +kernel
theorem dX3_add_432 : decode cX3_add 432 = .ok (.aload_n 1, 1) := by decide +kernel
theorem dX3_add_433 : decode cX3_add 433 = .ok (.getfield 85, 3) := by decide +kernel
theorem dX3_add_436 : decode cX3_add 436 = .ok (.invokevirtual 113, 3) := by decide +kernel
theorem dX3_add_439 : decode cX3_add 439 = .ok (.aload_n 0, 1) := by decide +kernel
theorem dX3_add_440 : decode cX3_add 440 = .ok (.getfield 21, 3) := by decide +kernel
theorem dX3_add_443 : decode cX3_add 443 = .ok (.aload_n 1, 1) := by decide +kernel
theorem dX3_add_444 : decode cX3_add 444 = .ok (.getfield 90, 3) := by decide +kernel
theorem dX3_add_447 : decode cX3_add 447 = .ok (.aload_n 0, 1) := by decide +kernel
theorem dX3_add_448 : decode cX3_add 448 = .ok (.getfield 39, 3) := by decide +kernel
theorem dX3_add_451 : decode cX3_add 451 = .ok (.aload_n 0, 1) := by decide +kernel
theorem dX3_add_452 : decode cX3_add 452 = .ok (.getfield 55, 3) := by decide +kernel
theorem dX3_add_455 : decode cX3_add 455 = .ok (.invokevirtual 106, 3) := by decide +kernel
theorem dX3_add_458 : decode cX3_add 458 = .ok (.aload_n 0, 1) := by decide +kernel
theorem dX3_add_459 : decode cX3_add 459 = .ok (.getfield 21, 3) := by decide +kernel
theorem dX3_add_462 : decode cX3_add 462 = .ok (.aload_n 0, 1) := by decide +kernel
theorem dX3_add_463 : decode cX3_add 463 = .ok (.getfield 43, 3) := by decide +kernel
theorem dX3_add_466 : decode cX3_add 466 = .ok (.aload_n 0, 1) := by decide +kernel
theorem dX3_add_467 : decode cX3_add 467 = .ok (.getfield 43, 3) := by decide +kernel
theorem dX3_add_470 : decode cX3_add 470 = .ok (.aload_n 0, 1) := by decide +kernel
theorem dX3_add_471 : decode cX3_add 471 = .ok (.getfield 52, 3) := by decide +kernel
theorem dX3_add_474 : decode cX3_add 474 = .ok (.invokevirtual 106, 3) := by decide +kernel
theorem dX3_add_477 : decode cX3_add 477 = .ok (.aload_n 0, 1) := by decide +kernel
theorem dX3_add_478 : decode cX3_add 478 = .ok (.getfield 21, 3) := by decide +kernel
theorem dX3_add_481 : decode cX3_add 481 = .ok (.aload_n 1, 1) := by decide +kernel
theorem dX3_add_482 : decode cX3_add 482 = .ok (.getfield 90, 3) := by decide +kernel
theorem dX3_add_485 : decode cX3_add 485 = .ok (.aload_n 1, 1) := by decide +kernel
theorem dX3_add_486 : decode cX3_add 486 = .ok (.getfield 90, 3) := by decide +kernel
theorem dX3_add_489 : decode cX3_add 489 = .ok (.aload_n 0, 1) := by decide +kernel
theorem dX3_add_490 : decode cX3_add 490 = .ok (.getfield 43, 3) := by decide +kernel
theorem dX3_add_493 : decode cX3_add 493 = .ok (.invokevirtual 113, 3) := by decide +kernel
theorem dX3_add_496 : decode cX3_add 496 = .ok (.return_, 1) := by decide +kernel
/-! CoinJudge$Curve.add(LCoinJudge$Point;LCoinJudge$Point;)V -/
set_option maxHeartbeats 4000000 in
theorem sX3_add_0 {G : Gx} {d t : Nat} {h0 : AH} {Φ : Out → AH → Prop} (h : AH) (v0 : Nat) (v1 : Nat) (v2 : Nat) (K : h.kd v2 = 6 ∧ Cw G mX6_none d 0 [vR v2] h (kI (fun x1 h2 => ((x1 = 0 → h2.kd v1 = 6 ∧ Cw G mX6_none d 0 [vR v1] h2 (kI (fun x5 h6 => ((x5 = 0 → h6.kd v0 = 3 ∧ ∀ r10 : Nat, r10 = (h6.r 3000 v0) → ∀ r11 : Nat, r11 = (h6.r 3003 v0) → ∀ r13 : Nat, r13 = (h6.r 6002 v1) → h6.kd r10 = 4 ∧ Cw G mX4_multiply d 0 [vR r10, vR r11, vR r13, vR r13] h6 (kV (fun h15 => ∀ r20 : Nat, r20 = (h15.r 3004 v0) → ∀ r24 : Nat, r24 = (h15.r 6002 v2) → Cw G mX4_multiply d 0 [vR r10, vR r20, vR r24, vR r24] h15 (kV (fun h26 => ∀ r30 : Nat, r30 = (h26.r 3005 v0) → ∀ r33 : Nat, r33 = (h26.r 6000 v1) → Cw G mX4_multiply d 0 [vR r10, vR r30, vR r33, vR r20] h26 (kV (fun h37 => ∀ r41 : Nat, r41 = (h37.r 3006 v0) → ∀ r44 : Nat, r44 = (h37.r 6000 v2) → Cw G mX4_multiply d 0 [vR r10, vR r41, vR r44, vR r11] h37 (kV (fun h50 => Cw G mX4_multiply d 0 [vR r10, vR r20, vR r20, vR r24] h50 (kV (fun h62 => ∀ r70 : Nat, r70 = (h62.r 6001 v1) → Cw G mX4_multiply d 0 [vR r10, vR r20, vR r20, vR r70] h62 (kV (fun h72 => Cw G mX4_multiply d 0 [vR r10, vR r11, vR r11, vR r13] h72 (kV (fun h88 => ∀ r96 : Nat, r96 = (h88.r 6001 v2) → Cw G mX4_multiply d 0 [vR r10, vR r11, vR r11, vR r96] h88 (kV (fun h98 => Cw G mX4_subtract d 0 [vR r10, vR r41, vR r41, vR r30] h98 (kV (fun h116 => Cw G mX4_subtract d 0 [vR r10, vR r11, vR r11, vR r20] h116 (kV (fun h127 => h127.kd r41 = 5 ∧ Cw G mX5_isZero d 0 [vR r41] h127 (kI (fun x132 h133 => ((x132 = 0 → Cw G mX4_multiply d 0 [vR r10, vR r13, vR r13, vR r24] h133 (kV (fun h161 => Cw G mX4_multiply d 0 [vR r10, vR r13, vR r13, vR r41] h161 (kV (fun h171 => ∀ r175 : Nat, r175 = (h171.r 3007 v0) → Cw G mX4_multiply d 0 [vR r10, vR r175, vR r41, vR r41] h171 (kV (fun h178 => ∀ r182 : Nat, r182 = (h178.r 3008 v0) → Cw G mX4_multiply d 0 [vR r10, vR r182, vR r175, vR r30] h178 (kV (fun h192 => Cw G mX4_multiply d 0 [vR r10, vR r175, vR r175, vR r41] h192 (kV (fun h200 => Cw G mX4_multiply d 0 [vR r10, vR r33, vR r11, vR r11] h200 (kV (fun h231 => Cw G mX4_subtract d 0 [vR r10, vR r33, vR r33, vR r175] h231 (kV (fun h240 => Cw G mX4_subtract d 0 [vR r10, vR r33, vR r33, vR r182] h240 (kV (fun h252 => Cw G mX4_subtract d 0 [vR r10, vR r33, vR r33, vR r182] h252 (kV (fun h260 => Cw G mX4_subtract d 0 [vR r10, vR r182, vR r182, vR r33] h260 (kV (fun h268 => Cw G mX4_multiply d 0 [vR r10, vR r70, vR r11, vR r182] h268 (kV (fun h297 => Cw G mX4_multiply d 0 [vR r10, vR r20, vR r20, vR r175] h297 (kV (fun h320 => Cw G mX4_subtract d 0 [vR r10, vR r70, vR r70, vR r20] h320 (kV (fun h330 => Φ (.inl none) h330) (fun x h => Φ (.inr x) h))) (fun x h => Φ (.inr x) h))) (fun x h => Φ (.inr x) h))) (fun x h => Φ (.inr x) h))) (fun x h => Φ (.inr x) h))) (fun x h => Φ (.inr x) h))) (fun x h => Φ (.inr x) h))) (fun x h => Φ (.inr x) h))) (fun x h => Φ (.inr x) h))) (fun x h => Φ (.inr x) h))) (fun x h => Φ (.inr x) h))) (fun x h => Φ (.inr x) h))) (fun x h => Φ (.inr x) h))) ∧ (¬ x132 = 0 → h133.kd r11 = 5 ∧ Cw G mX5_isZero d 0 [vR r11] h133 (kI (fun x335 h336 => ((x335 = 0 → h336.kd r13 = 5 ∧ Cw G mX5_zero d 0 [vR r13] h336 (kR (fun x351 h352 => Φ (.inl none) h352) (fun x h => Φ (.inr x) h))) ∧ (¬ x335 = 0 → Cw G mX3_twice d 0 [vR v0, vR v1] h336 (kV (fun h355 => Φ (.inl none) h355) (fun x h => Φ (.inr x) h))))) (fun x h => Φ (.inr x) h))))) (fun x h => Φ (.inr x) h))) (fun x h => Φ (.inr x) h))) (fun x h => Φ (.inr x) h))) (fun x h => Φ (.inr x) h))) (fun x h => Φ (.inr x) h))) (fun x h => Φ (.inr x) h))) (fun x h => Φ (.inr x) h))) (fun x h => Φ (.inr x) h))) (fun x h => Φ (.inr x) h))) (fun x h => Φ (.inr x) h))) (fun x h => Φ (.inr x) h))) ∧ (¬ x5 = 0 → Cw G mX6_copy d 0 [vR v1, vR v2] h6 (kR (fun x357 h358 => Φ (.inl none) h358) (fun x h => Φ (.inr x) h))))) (fun x h => Φ (.inr x) h))) ∧ (¬ x1 = 0 → Φ (.inl none) h2))) (fun x h => Φ (.inr x) h))) : Aw G mX3_add (d + 1) t h0 Φ 0 [vR v0, vR v1, vR v2] [] h := by
  refine r_aload_n (pc := 0) dX3_add_0 rfl ?_
  obtain ⟨hk3, K⟩ := K
  refine r_callV_I (pc := 1) (Y := mX6_none) (vs := []) (st := []) hk3 rfl kc6 q1462 q1463 q1464 dX3_add_1 rfl cd_X6_none rfl rfl fp_X3_add_X6_none K (fun x1 h2 eh2 wh2 K => ?_) (fun x h1 _ _ e => Tw.out rfl e)
  refine r_if_eq (pc := 4) (tgt := 8) dX3_add_4 rfl (fun c4 => ?_) (fun c4 => ?_)
  · have K := K.1 c4
    refine r_aload_n (pc := 8) dX3_add_8 rfl ?_
    obtain ⟨hk7, K⟩ := K
    refine r_callV_I (pc := 9) (Y := mX6_none) (vs := []) (st := []) hk7 rfl kc6 q1462 q1463 q1464 dX3_add_9 rfl cd_X6_none rfl rfl fp_X3_add_X6_none K (fun x5 h6 eh6 wh6 K => ?_) (fun x h1 _ _ e => Tw.out rfl e)
    refine r_if_eq (pc := 12) (tgt := 22) dX3_add_12 rfl (fun c8 => ?_) (fun c8 => ?_)
    · have K := K.1 c8
      refine r_aload_n (pc := 22) dX3_add_22 rfl ?_
      obtain ⟨hk9, K⟩ := K
      have K := K _ rfl
      refine r_getr' (pc := 23) (T := TX3) 3 0 rfl hk9 (Or.inl q435) dX3_add_23 kc3 g3000 ?_
      refine r_aload_n (pc := 26) dX3_add_26 rfl ?_
      have K := K _ rfl
      refine r_getr' (pc := 27) (T := TX3) 3 3 rfl hk9 (Or.inl q438) dX3_add_27 kc3 g3003 ?_
      refine r_aload_n (pc := 30) dX3_add_30 rfl ?_
      have hk12 := kd_ext eh6 hk7 (nz rfl)
      have K := K _ rfl
      refine r_getr' (pc := 31) (T := TX6) 6 2 rfl hk12 (Or.inr (Or.inl ⟨_, q421⟩)) dX3_add_31 kc6 g6002 ?_
      refine r_aload_n (pc := 34) dX3_add_34 rfl ?_
      refine r_getr' (pc := 35) (T := TX6) 6 2 rfl hk12 (Or.inr (Or.inl ⟨_, q421⟩)) dX3_add_35 kc6 g6002 ?_
      obtain ⟨hk16, K⟩ := K
      refine r_callV_V (pc := 38) (Y := mX4_multiply) (vs := [_, _, _]) (st := []) hk16 rfl kc4 q1399 q1400 q1401 dX3_add_38 rfl cd_X4_multiply rfl rfl fp_X3_add_X4_multiply K (fun h15 eh15 wh15 K => ?_) (fun x h1 _ _ e => Tw.out rfl e)
      refine r_aload_n (pc := 41) dX3_add_41 rfl ?_
      have hk17 := kd_ext eh15 hk9 (nz rfl)
      have hv18 := fr_self (key := 3000) hk9
      have hv19 := (fr_ext (key := 3000) eh15 hk9 (nz rfl) (ne0 wh15 hk17 (nz rfl)) (nm rfl)).trans hv18
      refine r_getr' (pc := 42) (T := TX3) 3 0 hv19 hk17 (Or.inl q435) dX3_add_42 kc3 g3000 ?_
      refine r_aload_n (pc := 45) dX3_add_45 rfl ?_
      have K := K _ rfl
      refine r_getr' (pc := 46) (T := TX3) 3 4 rfl hk17 (Or.inl q439) dX3_add_46 kc3 g3004 ?_
      refine r_aload_n (pc := 49) dX3_add_49 rfl ?_
      have hk21 := kd_ext eh2 hk3 (nz rfl)
      have hk22 := kd_ext eh6 hk21 (nz rfl)
      have hk23 := kd_ext eh15 hk22 (nz rfl)
      have K := K _ rfl
      refine r_getr' (pc := 50) (T := TX6) 6 2 rfl hk23 (Or.inr (Or.inl ⟨_, q421⟩)) dX3_add_50 kc6 g6002 ?_
      refine r_aload_n (pc := 53) dX3_add_53 rfl ?_
      refine r_getr' (pc := 54) (T := TX6) 6 2 rfl hk23 (Or.inr (Or.inl ⟨_, q421⟩)) dX3_add_54 kc6 g6002 ?_
      have hk27 := kd_ext eh15 hk16 (nz rfl)
      refine r_callV_V (pc := 57) (Y := mX4_multiply) (vs := [_, _, _]) (st := []) hk27 rfl kc4 q1399 q1400 q1401 dX3_add_57 rfl cd_X4_multiply rfl rfl fp_X3_add_X4_multiply K (fun h26 eh26 wh26 K => ?_) (fun x h1 _ _ e => Tw.out rfl e)
      refine r_aload_n (pc := 60) dX3_add_60 rfl ?_
      have hk28 := kd_ext eh26 hk17 (nz rfl)
      have hv29 := (fr_ext (key := 3000) eh26 hk17 (nz rfl) (ne0 wh26 hk28 (nz rfl)) (nm rfl)).trans hv19
      refine r_getr' (pc := 61) (T := TX3) 3 0 hv29 hk28 (Or.inl q435) dX3_add_61 kc3 g3000 ?_
      refine r_aload_n (pc := 64) dX3_add_64 rfl ?_
      have K := K _ rfl
      refine r_getr' (pc := 65) (T := TX3) 3 5 rfl hk28 (Or.inl q440) dX3_add_65 kc3 g3005 ?_
      refine r_aload_n (pc := 68) dX3_add_68 rfl ?_
      have hk31 := kd_ext eh15 hk12 (nz rfl)
      have hk32 := kd_ext eh26 hk31 (nz rfl)
      have K := K _ rfl
      refine r_getr' (pc := 69) (T := TX6) 6 0 rfl hk32 (Or.inr (Or.inl ⟨_, q417⟩)) dX3_add_69 kc6 g6000 ?_
      refine r_aload_n (pc := 72) dX3_add_72 rfl ?_
      have hv34 := fr_self (key := 3004) hk17
      have hv35 := (fr_ext (key := 3004) eh26 hk17 (nz rfl) (ne0 wh26 hk28 (nz rfl)) (nm rfl)).trans hv34
      refine r_getr' (pc := 73) (T := TX3) 3 4 hv35 hk28 (Or.inl q439) dX3_add_73 kc3 g3004 ?_
      have hk38 := kd_ext eh26 hk27 (nz rfl)
      refine r_callV_V (pc := 76) (Y := mX4_multiply) (vs := [_, _, _]) (st := []) hk38 rfl kc4 q1399 q1400 q1401 dX3_add_76 rfl cd_X4_multiply rfl rfl fp_X3_add_X4_multiply K (fun h37 eh37 wh37 K => ?_) (fun x h1 _ _ e => Tw.out rfl e)
      refine r_aload_n (pc := 79) dX3_add_79 rfl ?_
      have hk39 := kd_ext eh37 hk28 (nz rfl)
      have hv40 := (fr_ext (key := 3000) eh37 hk28 (nz rfl) (ne0 wh37 hk39 (nz rfl)) (nm rfl)).trans hv29
      refine r_getr' (pc := 80) (T := TX3) 3 0 hv40 hk39 (Or.inl q435) dX3_add_80 kc3 g3000 ?_
      refine r_aload_n (pc := 83) dX3_add_83 rfl ?_
      have K := K _ rfl
      refine r_getr' (pc := 84) (T := TX3) 3 6 rfl hk39 (Or.inl q441) dX3_add_84 kc3 g3006 ?_
      refine r_aload_n (pc := 87) dX3_add_87 rfl ?_
      have hk42 := kd_ext eh26 hk23 (nz rfl)
      have hk43 := kd_ext eh37 hk42 (nz rfl)
      have K := K _ rfl
      refine r_getr' (pc := 88) (T := TX6) 6 0 rfl hk43 (Or.inr (Or.inl ⟨_, q417⟩)) dX3_add_88 kc6 g6000 ?_
      refine r_aload_n (pc := 91) dX3_add_91 rfl ?_
      have hv45 := fr_self (key := 3003) hk9
      have hv46 := (fr_ext (key := 3003) eh15 hk9 (nz rfl) (ne0 wh15 hk17 (nz rfl)) (nm rfl)).trans hv45
      have hv47 := (fr_ext (key := 3003) eh26 hk17 (nz rfl) (ne0 wh26 hk28 (nz rfl)) (nm rfl)).trans hv46
      have hv48 := (fr_ext (key := 3003) eh37 hk28 (nz rfl) (ne0 wh37 hk39 (nz rfl)) (nm rfl)).trans hv47
      refine r_getr' (pc := 92) (T := TX3) 3 3 hv48 hk39 (Or.inl q438) dX3_add_92 kc3 g3003 ?_
      have hk51 := kd_ext eh37 hk38 (nz rfl)
      refine r_callV_V (pc := 95) (Y := mX4_multiply) (vs := [_, _, _]) (st := []) hk51 rfl kc4 q1399 q1400 q1401 dX3_add_95 rfl cd_X4_multiply rfl rfl fp_X3_add_X4_multiply K (fun h50 eh50 wh50 K => ?_) (fun x h1 _ _ e => Tw.out rfl e)
      refine r_aload_n (pc := 98) dX3_add_98 rfl ?_
      have hk52 := kd_ext eh50 hk39 (nz rfl)
      have hv53 := (fr_ext (key := 3000) eh50 hk39 (nz rfl) (ne0 wh50 hk52 (nz rfl)) (nm rfl)).trans hv40
      refine r_getr' (pc := 99) (T := TX3) 3 0 hv53 hk52 (Or.inl q435) dX3_add_99 kc3 g3000 ?_
      refine r_aload_n (pc := 102) dX3_add_102 rfl ?_
      have hv54 := (fr_ext (key := 3004) eh37 hk28 (nz rfl) (ne0 wh37 hk39 (nz rfl)) (nm rfl)).trans hv35
      have hv55 := (fr_ext (key := 3004) eh50 hk39 (nz rfl) (ne0 wh50 hk52 (nz rfl)) (nm rfl)).trans hv54
      refine r_getr' (pc := 103) (T := TX3) 3 4 hv55 hk52 (Or.inl q439) dX3_add_103 kc3 g3004 ?_
      refine r_aload_n (pc := 106) dX3_add_106 rfl ?_
      refine r_getr' (pc := 107) (T := TX3) 3 4 hv55 hk52 (Or.inl q439) dX3_add_107 kc3 g3004 ?_
      refine r_aload_n (pc := 110) dX3_add_110 rfl ?_
      have hk56 := kd_ext eh50 hk43 (nz rfl)
      have hv57 := fr_self (key := 6002) hk23
      have hv58 := (fr_ext (key := 6002) eh26 hk23 (nz rfl) (ne0 wh26 hk42 (nz rfl)) (nm rfl)).trans hv57
      have hv59 := (fr_ext (key := 6002) eh37 hk42 (nz rfl) (ne0 wh37 hk43 (nz rfl)) (nm rfl)).trans hv58
      have hv60 := (fr_ext (key := 6002) eh50 hk43 (nz rfl) (ne0 wh50 hk56 (nz rfl)) (nm rfl)).trans hv59
      refine r_getr' (pc := 111) (T := TX6) 6 2 hv60 hk56 (Or.inr (Or.inl ⟨_, q421⟩)) dX3_add_111 kc6 g6002 ?_
      have hk63 := kd_ext eh50 hk51 (nz rfl)
      refine r_callV_V (pc := 114) (Y := mX4_multiply) (vs := [_, _, _]) (st := []) hk63 rfl kc4 q1399 q1400 q1401 dX3_add_114 rfl cd_X4_multiply rfl rfl fp_X3_add_X4_multiply K (fun h62 eh62 wh62 K => ?_) (fun x h1 _ _ e => Tw.out rfl e)
      refine r_aload_n (pc := 117) dX3_add_117 rfl ?_
      have hk64 := kd_ext eh62 hk52 (nz rfl)
      have hv65 := (fr_ext (key := 3000) eh62 hk52 (nz rfl) (ne0 wh62 hk64 (nz rfl)) (nm rfl)).trans hv53
      refine r_getr' (pc := 118) (T := TX3) 3 0 hv65 hk64 (Or.inl q435) dX3_add_118 kc3 g3000 ?_
      refine r_aload_n (pc := 121) dX3_add_121 rfl ?_
      have hv66 := (fr_ext (key := 3004) eh62 hk52 (nz rfl) (ne0 wh62 hk64 (nz rfl)) (nm rfl)).trans hv55
      refine r_getr' (pc := 122) (T := TX3) 3 4 hv66 hk64 (Or.inl q439) dX3_add_122 kc3 g3004 ?_
      refine r_aload_n (pc := 125) dX3_add_125 rfl ?_
      refine r_getr' (pc := 126) (T := TX3) 3 4 hv66 hk64 (Or.inl q439) dX3_add_126 kc3 g3004 ?_
      refine r_aload_n (pc := 129) dX3_add_129 rfl ?_
      have hk67 := kd_ext eh37 hk32 (nz rfl)
      have hk68 := kd_ext eh50 hk67 (nz rfl)
      have hk69 := kd_ext eh62 hk68 (nz rfl)
      have K := K _ rfl
      refine r_getr' (pc := 130) (T := TX6) 6 1 rfl hk69 (Or.inr (Or.inl ⟨_, q419⟩)) dX3_add_130 kc6 g6001 ?_
      have hk73 := kd_ext eh62 hk63 (nz rfl)
      refine r_callV_V (pc := 133) (Y := mX4_multiply) (vs := [_, _, _]) (st := []) hk73 rfl kc4 q1399 q1400 q1401 dX3_add_133 rfl cd_X4_multiply rfl rfl fp_X3_add_X4_multiply K (fun h72 eh72 wh72 K => ?_) (fun x h1 _ _ e => Tw.out rfl e)
      refine r_aload_n (pc := 136) dX3_add_136 rfl ?_
      have hk74 := kd_ext eh72 hk64 (nz rfl)
      have hv75 := (fr_ext (key := 3000) eh72 hk64 (nz rfl) (ne0 wh72 hk74 (nz rfl)) (nm rfl)).trans hv65
      refine r_getr' (pc := 137) (T := TX3) 3 0 hv75 hk74 (Or.inl q435) dX3_add_137 kc3 g3000 ?_
      refine r_aload_n (pc := 140) dX3_add_140 rfl ?_
      have hv76 := (fr_ext (key := 3003) eh50 hk39 (nz rfl) (ne0 wh50 hk52 (nz rfl)) (nm rfl)).trans hv48
      have hv77 := (fr_ext (key := 3003) eh62 hk52 (nz rfl) (ne0 wh62 hk64 (nz rfl)) (nm rfl)).trans hv76
      have hv78 := (fr_ext (key := 3003) eh72 hk64 (nz rfl) (ne0 wh72 hk74 (nz rfl)) (nm rfl)).trans hv77
      refine r_getr' (pc := 141) (T := TX3) 3 3 hv78 hk74 (Or.inl q438) dX3_add_141 kc3 g3003 ?_
      refine r_aload_n (pc := 144) dX3_add_144 rfl ?_
      refine r_getr' (pc := 145) (T := TX3) 3 3 hv78 hk74 (Or.inl q438) dX3_add_145 kc3 g3003 ?_
      refine r_aload_n (pc := 148) dX3_add_148 rfl ?_
      have hk79 := kd_ext eh72 hk69 (nz rfl)
      have hv80 := fr_self (key := 6002) hk12
      have hv81 := (fr_ext (key := 6002) eh15 hk12 (nz rfl) (ne0 wh15 hk31 (nz rfl)) (nm rfl)).trans hv80
      have hv82 := (fr_ext (key := 6002) eh26 hk31 (nz rfl) (ne0 wh26 hk32 (nz rfl)) (nm rfl)).trans hv81
      have hv83 := (fr_ext (key := 6002) eh37 hk32 (nz rfl) (ne0 wh37 hk67 (nz rfl)) (nm rfl)).trans hv82
      have hv84 := (fr_ext (key := 6002) eh50 hk67 (nz rfl) (ne0 wh50 hk68 (nz rfl)) (nm rfl)).trans hv83
      have hv85 := (fr_ext (key := 6002) eh62 hk68 (nz rfl) (ne0 wh62 hk69 (nz rfl)) (nm rfl)).trans hv84
      have hv86 := (fr_ext (key := 6002) eh72 hk69 (nz rfl) (ne0 wh72 hk79 (nz rfl)) (nm rfl)).trans hv85
      refine r_getr' (pc := 149) (T := TX6) 6 2 hv86 hk79 (Or.inr (Or.inl ⟨_, q421⟩)) dX3_add_149 kc6 g6002 ?_
      have hk89 := kd_ext eh72 hk73 (nz rfl)
      refine r_callV_V (pc := 152) (Y := mX4_multiply) (vs := [_, _, _]) (st := []) hk89 rfl kc4 q1399 q1400 q1401 dX3_add_152 rfl cd_X4_multiply rfl rfl fp_X3_add_X4_multiply K (fun h88 eh88 wh88 K => ?_) (fun x h1 _ _ e => Tw.out rfl e)
      refine r_aload_n (pc := 155) dX3_add_155 rfl ?_
      have hk90 := kd_ext eh88 hk74 (nz rfl)
      have hv91 := (fr_ext (key := 3000) eh88 hk74 (nz rfl) (ne0 wh88 hk90 (nz rfl)) (nm rfl)).trans hv75
      refine r_getr' (pc := 156) (T := TX3) 3 0 hv91 hk90 (Or.inl q435) dX3_add_156 kc3 g3000 ?_
      refine r_aload_n (pc := 159) dX3_add_159 rfl ?_
      have hv92 := (fr_ext (key := 3003) eh88 hk74 (nz rfl) (ne0 wh88 hk90 (nz rfl)) (nm rfl)).trans hv78
      refine r_getr' (pc := 160) (T := TX3) 3 3 hv92 hk90 (Or.inl q438) dX3_add_160 kc3 g3003 ?_
      refine r_aload_n (pc := 163) dX3_add_163 rfl ?_
      refine r_getr' (pc := 164) (T := TX3) 3 3 hv92 hk90 (Or.inl q438) dX3_add_164 kc3 g3003 ?_
      refine r_aload_n (pc := 167) dX3_add_167 rfl ?_
      have hk93 := kd_ext eh62 hk56 (nz rfl)
      have hk94 := kd_ext eh72 hk93 (nz rfl)
      have hk95 := kd_ext eh88 hk94 (nz rfl)
      have K := K _ rfl
      refine r_getr' (pc := 168) (T := TX6) 6 1 rfl hk95 (Or.inr (Or.inl ⟨_, q419⟩)) dX3_add_168 kc6 g6001 ?_
      have hk99 := kd_ext eh88 hk89 (nz rfl)
      refine r_callV_V (pc := 171) (Y := mX4_multiply) (vs := [_, _, _]) (st := []) hk99 rfl kc4 q1399 q1400 q1401 dX3_add_171 rfl cd_X4_multiply rfl rfl fp_X3_add_X4_multiply K (fun h98 eh98 wh98 K => ?_) (fun x h1 _ _ e => Tw.out rfl e)
      refine r_aload_n (pc := 174) dX3_add_174 rfl ?_
      have hk100 := kd_ext eh98 hk90 (nz rfl)
      have hv101 := (fr_ext (key := 3000) eh98 hk90 (nz rfl) (ne0 wh98 hk100 (nz rfl)) (nm rfl)).trans hv91
      refine r_getr' (pc := 175) (T := TX3) 3 0 hv101 hk100 (Or.inl q435) dX3_add_175 kc3 g3000 ?_
      refine r_aload_n (pc := 178) dX3_add_178 rfl ?_
      have hv102 := fr_self (key := 3006) hk39
      have hv103 := (fr_ext (key := 3006) eh50 hk39 (nz rfl) (ne0 wh50 hk52 (nz rfl)) (nm rfl)).trans hv102
      have hv104 := (fr_ext (key := 3006) eh62 hk52 (nz rfl) (ne0 wh62 hk64 (nz rfl)) (nm rfl)).trans hv103
      have hv105 := (fr_ext (key := 3006) eh72 hk64 (nz rfl) (ne0 wh72 hk74 (nz rfl)) (nm rfl)).trans hv104
      have hv106 := (fr_ext (key := 3006) eh88 hk74 (nz rfl) (ne0 wh88 hk90 (nz rfl)) (nm rfl)).trans hv105
      have hv107 := (fr_ext (key := 3006) eh98 hk90 (nz rfl) (ne0 wh98 hk100 (nz rfl)) (nm rfl)).trans hv106
      refine r_getr' (pc := 179) (T := TX3) 3 6 hv107 hk100 (Or.inl q441) dX3_add_179 kc3 g3006 ?_
      refine r_aload_n (pc := 182) dX3_add_182 rfl ?_
      refine r_getr' (pc := 183) (T := TX3) 3 6 hv107 hk100 (Or.inl q441) dX3_add_183 kc3 g3006 ?_
      refine r_aload_n (pc := 186) dX3_add_186 rfl ?_
      have hv108 := fr_self (key := 3005) hk28
      have hv109 := (fr_ext (key := 3005) eh37 hk28 (nz rfl) (ne0 wh37 hk39 (nz rfl)) (nm rfl)).trans hv108
      have hv110 := (fr_ext (key := 3005) eh50 hk39 (nz rfl) (ne0 wh50 hk52 (nz rfl)) (nm rfl)).trans hv109
      have hv111 := (fr_ext (key := 3005) eh62 hk52 (nz rfl) (ne0 wh62 hk64 (nz rfl)) (nm rfl)).trans hv110
      have hv112 := (fr_ext (key := 3005) eh72 hk64 (nz rfl) (ne0 wh72 hk74 (nz rfl)) (nm rfl)).trans hv111
      have hv113 := (fr_ext (key := 3005) eh88 hk74 (nz rfl) (ne0 wh88 hk90 (nz rfl)) (nm rfl)).trans hv112
      have hv114 := (fr_ext (key := 3005) eh98 hk90 (nz rfl) (ne0 wh98 hk100 (nz rfl)) (nm rfl)).trans hv113
      refine r_getr' (pc := 187) (T := TX3) 3 5 hv114 hk100 (Or.inl q440) dX3_add_187 kc3 g3005 ?_
      have hk117 := kd_ext eh98 hk99 (nz rfl)
      refine r_callV_V (pc := 190) (Y := mX4_subtract) (vs := [_, _, _]) (st := []) hk117 rfl kc4 q1431 q1432 q1433 dX3_add_190 rfl cd_X4_subtract rfl rfl fp_X3_add_X4_subtract K (fun h116 eh116 wh116 K => ?_) (fun x h1 _ _ e => Tw.out rfl e)
      refine r_aload_n (pc := 193) dX3_add_193 rfl ?_
      have hk118 := kd_ext eh116 hk100 (nz rfl)
      have hv119 := (fr_ext (key := 3000) eh116 hk100 (nz rfl) (ne0 wh116 hk118 (nz rfl)) (nm rfl)).trans hv101
      refine r_getr' (pc := 194) (T := TX3) 3 0 hv119 hk118 (Or.inl q435) dX3_add_194 kc3 g3000 ?_
      refine r_aload_n (pc := 197) dX3_add_197 rfl ?_
      have hv120 := (fr_ext (key := 3003) eh98 hk90 (nz rfl) (ne0 wh98 hk100 (nz rfl)) (nm rfl)).trans hv92
      have hv121 := (fr_ext (key := 3003) eh116 hk100 (nz rfl) (ne0 wh116 hk118 (nz rfl)) (nm rfl)).trans hv120
      refine r_getr' (pc := 198) (T := TX3) 3 3 hv121 hk118 (Or.inl q438) dX3_add_198 kc3 g3003 ?_
      refine r_aload_n (pc := 201) dX3_add_201 rfl ?_
      refine r_getr' (pc := 202) (T := TX3) 3 3 hv121 hk118 (Or.inl q438) dX3_add_202 kc3 g3003 ?_
      refine r_aload_n (pc := 205) dX3_add_205 rfl ?_
      have hv122 := (fr_ext (key := 3004) eh72 hk64 (nz rfl) (ne0 wh72 hk74 (nz rfl)) (nm rfl)).trans hv66
      have hv123 := (fr_ext (key := 3004) eh88 hk74 (nz rfl) (ne0 wh88 hk90 (nz rfl)) (nm rfl)).trans hv122
      have hv124 := (fr_ext (key := 3004) eh98 hk90 (nz rfl) (ne0 wh98 hk100 (nz rfl)) (nm rfl)).trans hv123
      have hv125 := (fr_ext (key := 3004) eh116 hk100 (nz rfl) (ne0 wh116 hk118 (nz rfl)) (nm rfl)).trans hv124
      refine r_getr' (pc := 206) (T := TX3) 3 4 hv125 hk118 (Or.inl q439) dX3_add_206 kc3 g3004 ?_
      have hk128 := kd_ext eh116 hk117 (nz rfl)
      refine r_callV_V (pc := 209) (Y := mX4_subtract) (vs := [_, _, _]) (st := []) hk128 rfl kc4 q1431 q1432 q1433 dX3_add_209 rfl cd_X4_subtract rfl rfl fp_X3_add_X4_subtract K (fun h127 eh127 wh127 K => ?_) (fun x h1 _ _ e => Tw.out rfl e)
      refine r_aload_n (pc := 212) dX3_add_212 rfl ?_
      have hk129 := kd_ext eh127 hk118 (nz rfl)
      have hv130 := (fr_ext (key := 3006) eh116 hk100 (nz rfl) (ne0 wh116 hk118 (nz rfl)) (nm rfl)).trans hv107
      have hv131 := (fr_ext (key := 3006) eh127 hk118 (nz rfl) (ne0 wh127 hk129 (nz rfl)) (nm rfl)).trans hv130
      refine r_getr' (pc := 213) (T := TX3) 3 6 hv131 hk129 (Or.inl q441) dX3_add_213 kc3 g3006 ?_
      obtain ⟨hk134, K⟩ := K
      refine r_callV_I (pc := 216) (Y := mX5_isZero) (vs := []) (st := []) hk134 rfl kc5 q1439 q1440 q1441 dX3_add_216 rfl cd_X5_isZero rfl rfl fp_X3_add_X5_isZero K (fun x132 h133 eh133 wh133 K => ?_) (fun x h1 _ _ e => Tw.out rfl e)
      refine r_if_eq (pc := 219) (tgt := 249) dX3_add_219 rfl (fun c135 => ?_) (fun c135 => ?_)
      · have K := K.1 c135
        refine r_aload_n (pc := 249) dX3_add_249 rfl ?_
        have hk136 := kd_ext eh133 hk129 (nz rfl)
        have hv137 := (fr_ext (key := 3000) eh127 hk118 (nz rfl) (ne0 wh127 hk129 (nz rfl)) (nm rfl)).trans hv119
        have hv138 := (fr_ext (key := 3000) eh133 hk129 (nz rfl) (ne0 wh133 hk136 (nz rfl)) (nm rfl)).trans hv137
        refine r_getr' (pc := 250) (T := TX3) 3 0 hv138 hk136 (Or.inl q435) dX3_add_250 kc3 g3000 ?_
        refine r_aload_n (pc := 253) dX3_add_253 rfl ?_
        have hk139 := kd_ext eh88 hk79 (nz rfl)
        have hk140 := kd_ext eh98 hk139 (nz rfl)
        have hk141 := kd_ext eh116 hk140 (nz rfl)
        have hk142 := kd_ext eh127 hk141 (nz rfl)
        have hk143 := kd_ext eh133 hk142 (nz rfl)
        have hv144 := (fr_ext (key := 6002) eh88 hk79 (nz rfl) (ne0 wh88 hk139 (nz rfl)) (nm rfl)).trans hv86
        have hv145 := (fr_ext (key := 6002) eh98 hk139 (nz rfl) (ne0 wh98 hk140 (nz rfl)) (nm rfl)).trans hv144
        have hv146 := (fr_ext (key := 6002) eh116 hk140 (nz rfl) (ne0 wh116 hk141 (nz rfl)) (nm rfl)).trans hv145
        have hv147 := (fr_ext (key := 6002) eh127 hk141 (nz rfl) (ne0 wh127 hk142 (nz rfl)) (nm rfl)).trans hv146
        have hv148 := (fr_ext (key := 6002) eh133 hk142 (nz rfl) (ne0 wh133 hk143 (nz rfl)) (nm rfl)).trans hv147
        refine r_getr' (pc := 254) (T := TX6) 6 2 hv148 hk143 (Or.inr (Or.inl ⟨_, q421⟩)) dX3_add_254 kc6 g6002 ?_
        refine r_aload_n (pc := 257) dX3_add_257 rfl ?_
        refine r_getr' (pc := 258) (T := TX6) 6 2 hv148 hk143 (Or.inr (Or.inl ⟨_, q421⟩)) dX3_add_258 kc6 g6002 ?_
        refine r_aload_n (pc := 261) dX3_add_261 rfl ?_
        have hk149 := kd_ext eh98 hk95 (nz rfl)
        have hk150 := kd_ext eh116 hk149 (nz rfl)
        have hk151 := kd_ext eh127 hk150 (nz rfl)
        have hk152 := kd_ext eh133 hk151 (nz rfl)
        have hv153 := (fr_ext (key := 6002) eh62 hk56 (nz rfl) (ne0 wh62 hk93 (nz rfl)) (nm rfl)).trans hv60
        have hv154 := (fr_ext (key := 6002) eh72 hk93 (nz rfl) (ne0 wh72 hk94 (nz rfl)) (nm rfl)).trans hv153
        have hv155 := (fr_ext (key := 6002) eh88 hk94 (nz rfl) (ne0 wh88 hk95 (nz rfl)) (nm rfl)).trans hv154
        have hv156 := (fr_ext (key := 6002) eh98 hk95 (nz rfl) (ne0 wh98 hk149 (nz rfl)) (nm rfl)).trans hv155
        have hv157 := (fr_ext (key := 6002) eh116 hk149 (nz rfl) (ne0 wh116 hk150 (nz rfl)) (nm rfl)).trans hv156
        have hv158 := (fr_ext (key := 6002) eh127 hk150 (nz rfl) (ne0 wh127 hk151 (nz rfl)) (nm rfl)).trans hv157
        have hv159 := (fr_ext (key := 6002) eh133 hk151 (nz rfl) (ne0 wh133 hk152 (nz rfl)) (nm rfl)).trans hv158
        refine r_getr' (pc := 262) (T := TX6) 6 2 hv159 hk152 (Or.inr (Or.inl ⟨_, q421⟩)) dX3_add_262 kc6 g6002 ?_
        have hk162 := kd_ext eh127 hk128 (nz rfl)
        have hk163 := kd_ext eh133 hk162 (nz rfl)
        refine r_callV_V (pc := 265) (Y := mX4_multiply) (vs := [_, _, _]) (st := []) hk163 rfl kc4 q1399 q1400 q1401 dX3_add_265 rfl cd_X4_multiply rfl rfl fp_X3_add_X4_multiply K (fun h161 eh161 wh161 K => ?_) (fun x h1 _ _ e => Tw.out rfl e)
        refine r_aload_n (pc := 268) dX3_add_268 rfl ?_
        have hk164 := kd_ext eh161 hk136 (nz rfl)
        have hv165 := (fr_ext (key := 3000) eh161 hk136 (nz rfl) (ne0 wh161 hk164 (nz rfl)) (nm rfl)).trans hv138
        refine r_getr' (pc := 269) (T := TX3) 3 0 hv165 hk164 (Or.inl q435) dX3_add_269 kc3 g3000 ?_
        refine r_aload_n (pc := 272) dX3_add_272 rfl ?_
        have hk166 := kd_ext eh161 hk143 (nz rfl)
        have hv167 := (fr_ext (key := 6002) eh161 hk143 (nz rfl) (ne0 wh161 hk166 (nz rfl)) (nm rfl)).trans hv148
        refine r_getr' (pc := 273) (T := TX6) 6 2 hv167 hk166 (Or.inr (Or.inl ⟨_, q421⟩)) dX3_add_273 kc6 g6002 ?_
        refine r_aload_n (pc := 276) dX3_add_276 rfl ?_
        refine r_getr' (pc := 277) (T := TX6) 6 2 hv167 hk166 (Or.inr (Or.inl ⟨_, q421⟩)) dX3_add_277 kc6 g6002 ?_
        refine r_aload_n (pc := 280) dX3_add_280 rfl ?_
        have hv168 := (fr_ext (key := 3006) eh133 hk129 (nz rfl) (ne0 wh133 hk136 (nz rfl)) (nm rfl)).trans hv131
        have hv169 := (fr_ext (key := 3006) eh161 hk136 (nz rfl) (ne0 wh161 hk164 (nz rfl)) (nm rfl)).trans hv168
        refine r_getr' (pc := 281) (T := TX3) 3 6 hv169 hk164 (Or.inl q441) dX3_add_281 kc3 g3006 ?_
        have hk172 := kd_ext eh161 hk163 (nz rfl)
        refine r_callV_V (pc := 284) (Y := mX4_multiply) (vs := [_, _, _]) (st := []) hk172 rfl kc4 q1399 q1400 q1401 dX3_add_284 rfl cd_X4_multiply rfl rfl fp_X3_add_X4_multiply K (fun h171 eh171 wh171 K => ?_) (fun x h1 _ _ e => Tw.out rfl e)
        refine r_aload_n (pc := 287) dX3_add_287 rfl ?_
        have hk173 := kd_ext eh171 hk164 (nz rfl)
        have hv174 := (fr_ext (key := 3000) eh171 hk164 (nz rfl) (ne0 wh171 hk173 (nz rfl)) (nm rfl)).trans hv165
        refine r_getr' (pc := 288) (T := TX3) 3 0 hv174 hk173 (Or.inl q435) dX3_add_288 kc3 g3000 ?_
        refine r_aload_n (pc := 291) dX3_add_291 rfl ?_
        have K := K _ rfl
        refine r_getr' (pc := 292) (T := TX3) 3 7 rfl hk173 (Or.inl q442) dX3_add_292 kc3 g3007 ?_
        refine r_aload_n (pc := 295) dX3_add_295 rfl ?_
        have hv176 := (fr_ext (key := 3006) eh171 hk164 (nz rfl) (ne0 wh171 hk173 (nz rfl)) (nm rfl)).trans hv169
        refine r_getr' (pc := 296) (T := TX3) 3 6 hv176 hk173 (Or.inl q441) dX3_add_296 kc3 g3006 ?_
        refine r_aload_n (pc := 299) dX3_add_299 rfl ?_
        refine r_getr' (pc := 300) (T := TX3) 3 6 hv176 hk173 (Or.inl q441) dX3_add_300 kc3 g3006 ?_
        have hk179 := kd_ext eh171 hk172 (nz rfl)
        refine r_callV_V (pc := 303) (Y := mX4_multiply) (vs := [_, _, _]) (st := []) hk179 rfl kc4 q1399 q1400 q1401 dX3_add_303 rfl cd_X4_multiply rfl rfl fp_X3_add_X4_multiply K (fun h178 eh178 wh178 K => ?_) (fun x h1 _ _ e => Tw.out rfl e)
        refine r_aload_n (pc := 306) dX3_add_306 rfl ?_
        have hk180 := kd_ext eh178 hk173 (nz rfl)
        have hv181 := (fr_ext (key := 3000) eh178 hk173 (nz rfl) (ne0 wh178 hk180 (nz rfl)) (nm rfl)).trans hv174
        refine r_getr' (pc := 307) (T := TX3) 3 0 hv181 hk180 (Or.inl q435) dX3_add_307 kc3 g3000 ?_
        refine r_aload_n (pc := 310) dX3_add_310 rfl ?_
        have K := K _ rfl
        refine r_getr' (pc := 311) (T := TX3) 3 8 rfl hk180 (Or.inl q443) dX3_add_311 kc3 g3008 ?_
        refine r_aload_n (pc := 314) dX3_add_314 rfl ?_
        have hv183 := fr_self (key := 3007) hk173
        have hv184 := (fr_ext (key := 3007) eh178 hk173 (nz rfl) (ne0 wh178 hk180 (nz rfl)) (nm rfl)).trans hv183
        refine r_getr' (pc := 315) (T := TX3) 3 7 hv184 hk180 (Or.inl q442) dX3_add_315 kc3 g3007 ?_
        refine r_aload_n (pc := 318) dX3_add_318 rfl ?_
        have hv185 := (fr_ext (key := 3005) eh116 hk100 (nz rfl) (ne0 wh116 hk118 (nz rfl)) (nm rfl)).trans hv114
        have hv186 := (fr_ext (key := 3005) eh127 hk118 (nz rfl) (ne0 wh127 hk129 (nz rfl)) (nm rfl)).trans hv185
        have hv187 := (fr_ext (key := 3005) eh133 hk129 (nz rfl) (ne0 wh133 hk136 (nz rfl)) (nm rfl)).trans hv186
        have hv188 := (fr_ext (key := 3005) eh161 hk136 (nz rfl) (ne0 wh161 hk164 (nz rfl)) (nm rfl)).trans hv187
        have hv189 := (fr_ext (key := 3005) eh171 hk164 (nz rfl) (ne0 wh171 hk173 (nz rfl)) (nm rfl)).trans hv188
        have hv190 := (fr_ext (key := 3005) eh178 hk173 (nz rfl) (ne0 wh178 hk180 (nz rfl)) (nm rfl)).trans hv189
        refine r_getr' (pc := 319) (T := TX3) 3 5 hv190 hk180 (Or.inl q440) dX3_add_319 kc3 g3005 ?_
        have hk193 := kd_ext eh178 hk179 (nz rfl)
        refine r_callV_V (pc := 322) (Y := mX4_multiply) (vs := [_, _, _]) (st := []) hk193 rfl kc4 q1399 q1400 q1401 dX3_add_322 rfl cd_X4_multiply rfl rfl fp_X3_add_X4_multiply K (fun h192 eh192 wh192 K => ?_) (fun x h1 _ _ e => Tw.out rfl e)
        refine r_aload_n (pc := 325) dX3_add_325 rfl ?_
        have hk194 := kd_ext eh192 hk180 (nz rfl)
        have hv195 := (fr_ext (key := 3000) eh192 hk180 (nz rfl) (ne0 wh192 hk194 (nz rfl)) (nm rfl)).trans hv181
        refine r_getr' (pc := 326) (T := TX3) 3 0 hv195 hk194 (Or.inl q435) dX3_add_326 kc3 g3000 ?_
        refine r_aload_n (pc := 329) dX3_add_329 rfl ?_
        have hv196 := (fr_ext (key := 3007) eh192 hk180 (nz rfl) (ne0 wh192 hk194 (nz rfl)) (nm rfl)).trans hv184
        refine r_getr' (pc := 330) (T := TX3) 3 7 hv196 hk194 (Or.inl q442) dX3_add_330 kc3 g3007 ?_
        refine r_aload_n (pc := 333) dX3_add_333 rfl ?_
        refine r_getr' (pc := 334) (T := TX3) 3 7 hv196 hk194 (Or.inl q442) dX3_add_334 kc3 g3007 ?_
        refine r_aload_n (pc := 337) dX3_add_337 rfl ?_
        have hv197 := (fr_ext (key := 3006) eh178 hk173 (nz rfl) (ne0 wh178 hk180 (nz rfl)) (nm rfl)).trans hv176
        have hv198 := (fr_ext (key := 3006) eh192 hk180 (nz rfl) (ne0 wh192 hk194 (nz rfl)) (nm rfl)).trans hv197
        refine r_getr' (pc := 338) (T := TX3) 3 6 hv198 hk194 (Or.inl q441) dX3_add_338 kc3 g3006 ?_
        have hk201 := kd_ext eh192 hk193 (nz rfl)
        refine r_callV_V (pc := 341) (Y := mX4_multiply) (vs := [_, _, _]) (st := []) hk201 rfl kc4 q1399 q1400 q1401 dX3_add_341 rfl cd_X4_multiply rfl rfl fp_X3_add_X4_multiply K (fun h200 eh200 wh200 K => ?_) (fun x h1 _ _ e => Tw.out rfl e)
        refine r_aload_n (pc := 344) dX3_add_344 rfl ?_
        have hk202 := kd_ext eh200 hk194 (nz rfl)
        have hv203 := (fr_ext (key := 3000) eh200 hk194 (nz rfl) (ne0 wh200 hk202 (nz rfl)) (nm rfl)).trans hv195
        refine r_getr' (pc := 345) (T := TX3) 3 0 hv203 hk202 (Or.inl q435) dX3_add_345 kc3 g3000 ?_
        refine r_aload_n (pc := 348) dX3_add_348 rfl ?_
        have hk204 := kd_ext eh171 hk166 (nz rfl)
        have hk205 := kd_ext eh178 hk204 (nz rfl)
        have hk206 := kd_ext eh192 hk205 (nz rfl)
        have hk207 := kd_ext eh200 hk206 (nz rfl)
        have hv208 := fr_self (key := 6000) hk32
        have hv209 := (fr_ext (key := 6000) eh37 hk32 (nz rfl) (ne0 wh37 hk67 (nz rfl)) (nm rfl)).trans hv208
        have hv210 := (fr_ext (key := 6000) eh50 hk67 (nz rfl) (ne0 wh50 hk68 (nz rfl)) (nm rfl)).trans hv209
        have hv211 := (fr_ext (key := 6000) eh62 hk68 (nz rfl) (ne0 wh62 hk69 (nz rfl)) (nm rfl)).trans hv210
        have hv212 := (fr_ext (key := 6000) eh72 hk69 (nz rfl) (ne0 wh72 hk79 (nz rfl)) (nm rfl)).trans hv211
        have hv213 := (fr_ext (key := 6000) eh88 hk79 (nz rfl) (ne0 wh88 hk139 (nz rfl)) (nm rfl)).trans hv212
        have hv214 := (fr_ext (key := 6000) eh98 hk139 (nz rfl) (ne0 wh98 hk140 (nz rfl)) (nm rfl)).trans hv213
        have hv215 := (fr_ext (key := 6000) eh116 hk140 (nz rfl) (ne0 wh116 hk141 (nz rfl)) (nm rfl)).trans hv214
        have hv216 := (fr_ext (key := 6000) eh127 hk141 (nz rfl) (ne0 wh127 hk142 (nz rfl)) (nm rfl)).trans hv215
        have hv217 := (fr_ext (key := 6000) eh133 hk142 (nz rfl) (ne0 wh133 hk143 (nz rfl)) (nm rfl)).trans hv216
        have hv218 := (fr_ext (key := 6000) eh161 hk143 (nz rfl) (ne0 wh161 hk166 (nz rfl)) (nm rfl)).trans hv217
        have hv219 := (fr_ext (key := 6000) eh171 hk166 (nz rfl) (ne0 wh171 hk204 (nz rfl)) (nm rfl)).trans hv218
        have hv220 := (fr_ext (key := 6000) eh178 hk204 (nz rfl) (ne0 wh178 hk205 (nz rfl)) (nm rfl)).trans hv219
        have hv221 := (fr_ext (key := 6000) eh192 hk205 (nz rfl) (ne0 wh192 hk206 (nz rfl)) (nm rfl)).trans hv220
        have hv222 := (fr_ext (key := 6000) eh200 hk206 (nz rfl) (ne0 wh200 hk207 (nz rfl)) (nm rfl)).trans hv221
        refine r_getr' (pc := 349) (T := TX6) 6 0 hv222 hk207 (Or.inr (Or.inl ⟨_, q417⟩)) dX3_add_349 kc6 g6000 ?_
        refine r_aload_n (pc := 352) dX3_add_352 rfl ?_
        have hv223 := (fr_ext (key := 3003) eh127 hk118 (nz rfl) (ne0 wh127 hk129 (nz rfl)) (nm rfl)).trans hv121
        have hv224 := (fr_ext (key := 3003) eh133 hk129 (nz rfl) (ne0 wh133 hk136 (nz rfl)) (nm rfl)).trans hv223
        have hv225 := (fr_ext (key := 3003) eh161 hk136 (nz rfl) (ne0 wh161 hk164 (nz rfl)) (nm rfl)).trans hv224
        have hv226 := (fr_ext (key := 3003) eh171 hk164 (nz rfl) (ne0 wh171 hk173 (nz rfl)) (nm rfl)).trans hv225
        have hv227 := (fr_ext (key := 3003) eh178 hk173 (nz rfl) (ne0 wh178 hk180 (nz rfl)) (nm rfl)).trans hv226
        have hv228 := (fr_ext (key := 3003) eh192 hk180 (nz rfl) (ne0 wh192 hk194 (nz rfl)) (nm rfl)).trans hv227
        have hv229 := (fr_ext (key := 3003) eh200 hk194 (nz rfl) (ne0 wh200 hk202 (nz rfl)) (nm rfl)).trans hv228
        refine r_getr' (pc := 353) (T := TX3) 3 3 hv229 hk202 (Or.inl q438) dX3_add_353 kc3 g3003 ?_
        refine r_aload_n (pc := 356) dX3_add_356 rfl ?_
        refine r_getr' (pc := 357) (T := TX3) 3 3 hv229 hk202 (Or.inl q438) dX3_add_357 kc3 g3003 ?_
        have hk232 := kd_ext eh200 hk201 (nz rfl)
        refine r_callV_V (pc := 360) (Y := mX4_multiply) (vs := [_, _, _]) (st := []) hk232 rfl kc4 q1399 q1400 q1401 dX3_add_360 rfl cd_X4_multiply rfl rfl fp_X3_add_X4_multiply K (fun h231 eh231 wh231 K => ?_) (fun x h1 _ _ e => Tw.out rfl e)
        refine r_aload_n (pc := 363) dX3_add_363 rfl ?_
        have hk233 := kd_ext eh231 hk202 (nz rfl)
        have hv234 := (fr_ext (key := 3000) eh231 hk202 (nz rfl) (ne0 wh231 hk233 (nz rfl)) (nm rfl)).trans hv203
        refine r_getr' (pc := 364) (T := TX3) 3 0 hv234 hk233 (Or.inl q435) dX3_add_364 kc3 g3000 ?_
        refine r_aload_n (pc := 367) dX3_add_367 rfl ?_
        have hk235 := kd_ext eh231 hk207 (nz rfl)
        have hv236 := (fr_ext (key := 6000) eh231 hk207 (nz rfl) (ne0 wh231 hk235 (nz rfl)) (nm rfl)).trans hv222
        refine r_getr' (pc := 368) (T := TX6) 6 0 hv236 hk235 (Or.inr (Or.inl ⟨_, q417⟩)) dX3_add_368 kc6 g6000 ?_
        refine r_aload_n (pc := 371) dX3_add_371 rfl ?_
        refine r_getr' (pc := 372) (T := TX6) 6 0 hv236 hk235 (Or.inr (Or.inl ⟨_, q417⟩)) dX3_add_372 kc6 g6000 ?_
        refine r_aload_n (pc := 375) dX3_add_375 rfl ?_
        have hv237 := (fr_ext (key := 3007) eh200 hk194 (nz rfl) (ne0 wh200 hk202 (nz rfl)) (nm rfl)).trans hv196
        have hv238 := (fr_ext (key := 3007) eh231 hk202 (nz rfl) (ne0 wh231 hk233 (nz rfl)) (nm rfl)).trans hv237
        refine r_getr' (pc := 376) (T := TX3) 3 7 hv238 hk233 (Or.inl q442) dX3_add_376 kc3 g3007 ?_
        have hk241 := kd_ext eh231 hk232 (nz rfl)
        refine r_callV_V (pc := 379) (Y := mX4_subtract) (vs := [_, _, _]) (st := []) hk241 rfl kc4 q1431 q1432 q1433 dX3_add_379 rfl cd_X4_subtract rfl rfl fp_X3_add_X4_subtract K (fun h240 eh240 wh240 K => ?_) (fun x h1 _ _ e => Tw.out rfl e)
        refine r_aload_n (pc := 382) dX3_add_382 rfl ?_
        have hk242 := kd_ext eh240 hk233 (nz rfl)
        have hv243 := (fr_ext (key := 3000) eh240 hk233 (nz rfl) (ne0 wh240 hk242 (nz rfl)) (nm rfl)).trans hv234
        refine r_getr' (pc := 383) (T := TX3) 3 0 hv243 hk242 (Or.inl q435) dX3_add_383 kc3 g3000 ?_
        refine r_aload_n (pc := 386) dX3_add_386 rfl ?_
        have hk244 := kd_ext eh240 hk235 (nz rfl)
        have hv245 := (fr_ext (key := 6000) eh240 hk235 (nz rfl) (ne0 wh240 hk244 (nz rfl)) (nm rfl)).trans hv236
        refine r_getr' (pc := 387) (T := TX6) 6 0 hv245 hk244 (Or.inr (Or.inl ⟨_, q417⟩)) dX3_add_387 kc6 g6000 ?_
        refine r_aload_n (pc := 390) dX3_add_390 rfl ?_
        refine r_getr' (pc := 391) (T := TX6) 6 0 hv245 hk244 (Or.inr (Or.inl ⟨_, q417⟩)) dX3_add_391 kc6 g6000 ?_
        refine r_aload_n (pc := 394) dX3_add_394 rfl ?_
        have hv246 := fr_self (key := 3008) hk180
        have hv247 := (fr_ext (key := 3008) eh192 hk180 (nz rfl) (ne0 wh192 hk194 (nz rfl)) (nm rfl)).trans hv246
        have hv248 := (fr_ext (key := 3008) eh200 hk194 (nz rfl) (ne0 wh200 hk202 (nz rfl)) (nm rfl)).trans hv247
        have hv249 := (fr_ext (key := 3008) eh231 hk202 (nz rfl) (ne0 wh231 hk233 (nz rfl)) (nm rfl)).trans hv248
        have hv250 := (fr_ext (key := 3008) eh240 hk233 (nz rfl) (ne0 wh240 hk242 (nz rfl)) (nm rfl)).trans hv249
        refine r_getr' (pc := 395) (T := TX3) 3 8 hv250 hk242 (Or.inl q443) dX3_add_395 kc3 g3008 ?_
        have hk253 := kd_ext eh240 hk241 (nz rfl)
        refine r_callV_V (pc := 398) (Y := mX4_subtract) (vs := [_, _, _]) (st := []) hk253 rfl kc4 q1431 q1432 q1433 dX3_add_398 rfl cd_X4_subtract rfl rfl fp_X3_add_X4_subtract K (fun h252 eh252 wh252 K => ?_) (fun x h1 _ _ e => Tw.out rfl e)
        refine r_aload_n (pc := 401) dX3_add_401 rfl ?_
        have hk254 := kd_ext eh252 hk242 (nz rfl)
        have hv255 := (fr_ext (key := 3000) eh252 hk242 (nz rfl) (ne0 wh252 hk254 (nz rfl)) (nm rfl)).trans hv243
        refine r_getr' (pc := 402) (T := TX3) 3 0 hv255 hk254 (Or.inl q435) dX3_add_402 kc3 g3000 ?_
        refine r_aload_n (pc := 405) dX3_add_405 rfl ?_
        have hk256 := kd_ext eh252 hk244 (nz rfl)
        have hv257 := (fr_ext (key := 6000) eh252 hk244 (nz rfl) (ne0 wh252 hk256 (nz rfl)) (nm rfl)).trans hv245
        refine r_getr' (pc := 406) (T := TX6) 6 0 hv257 hk256 (Or.inr (Or.inl ⟨_, q417⟩)) dX3_add_406 kc6 g6000 ?_
        refine r_aload_n (pc := 409) dX3_add_409 rfl ?_
        refine r_getr' (pc := 410) (T := TX6) 6 0 hv257 hk256 (Or.inr (Or.inl ⟨_, q417⟩)) dX3_add_410 kc6 g6000 ?_
        refine r_aload_n (pc := 413) dX3_add_413 rfl ?_
        have hv258 := (fr_ext (key := 3008) eh252 hk242 (nz rfl) (ne0 wh252 hk254 (nz rfl)) (nm rfl)).trans hv250
        refine r_getr' (pc := 414) (T := TX3) 3 8 hv258 hk254 (Or.inl q443) dX3_add_414 kc3 g3008 ?_
        have hk261 := kd_ext eh252 hk253 (nz rfl)
        refine r_callV_V (pc := 417) (Y := mX4_subtract) (vs := [_, _, _]) (st := []) hk261 rfl kc4 q1431 q1432 q1433 dX3_add_417 rfl cd_X4_subtract rfl rfl fp_X3_add_X4_subtract K (fun h260 eh260 wh260 K => ?_) (fun x h1 _ _ e => Tw.out rfl e)
        refine r_aload_n (pc := 420) dX3_add_420 rfl ?_
        have hk262 := kd_ext eh260 hk254 (nz rfl)
        have hv263 := (fr_ext (key := 3000) eh260 hk254 (nz rfl) (ne0 wh260 hk262 (nz rfl)) (nm rfl)).trans hv255
        refine r_getr' (pc := 421) (T := TX3) 3 0 hv263 hk262 (Or.inl q435) dX3_add_421 kc3 g3000 ?_
        refine r_aload_n (pc := 424) dX3_add_424 rfl ?_
        have hv264 := (fr_ext (key := 3008) eh260 hk254 (nz rfl) (ne0 wh260 hk262 (nz rfl)) (nm rfl)).trans hv258
        refine r_getr' (pc := 425) (T := TX3) 3 8 hv264 hk262 (Or.inl q443) dX3_add_425 kc3 g3008 ?_
        refine r_aload_n (pc := 428) dX3_add_428 rfl ?_
        refine r_getr' (pc := 429) (T := TX3) 3 8 hv264 hk262 (Or.inl q443) dX3_add_429 kc3 g3008 ?_
        refine r_aload_n (pc := 432) dX3_add_432 rfl ?_
        have hk265 := kd_ext eh260 hk256 (nz rfl)
        have hv266 := (fr_ext (key := 6000) eh260 hk256 (nz rfl) (ne0 wh260 hk265 (nz rfl)) (nm rfl)).trans hv257
        refine r_getr' (pc := 433) (T := TX6) 6 0 hv266 hk265 (Or.inr (Or.inl ⟨_, q417⟩)) dX3_add_433 kc6 g6000 ?_
        have hk269 := kd_ext eh260 hk261 (nz rfl)
        refine r_callV_V (pc := 436) (Y := mX4_subtract) (vs := [_, _, _]) (st := []) hk269 rfl kc4 q1431 q1432 q1433 dX3_add_436 rfl cd_X4_subtract rfl rfl fp_X3_add_X4_subtract K (fun h268 eh268 wh268 K => ?_) (fun x h1 _ _ e => Tw.out rfl e)
        refine r_aload_n (pc := 439) dX3_add_439 rfl ?_
        have hk270 := kd_ext eh268 hk262 (nz rfl)
        have hv271 := (fr_ext (key := 3000) eh268 hk262 (nz rfl) (ne0 wh268 hk270 (nz rfl)) (nm rfl)).trans hv263
        refine r_getr' (pc := 440) (T := TX3) 3 0 hv271 hk270 (Or.inl q435) dX3_add_440 kc3 g3000 ?_
        refine r_aload_n (pc := 443) dX3_add_443 rfl ?_
        have hk272 := kd_ext eh268 hk265 (nz rfl)
        have hv273 := fr_self (key := 6001) hk69
        have hv274 := (fr_ext (key := 6001) eh72 hk69 (nz rfl) (ne0 wh72 hk79 (nz rfl)) (nm rfl)).trans hv273
        have hv275 := (fr_ext (key := 6001) eh88 hk79 (nz rfl) (ne0 wh88 hk139 (nz rfl)) (nm rfl)).trans hv274
        have hv276 := (fr_ext (key := 6001) eh98 hk139 (nz rfl) (ne0 wh98 hk140 (nz rfl)) (nm rfl)).trans hv275
        have hv277 := (fr_ext (key := 6001) eh116 hk140 (nz rfl) (ne0 wh116 hk141 (nz rfl)) (nm rfl)).trans hv276
        have hv278 := (fr_ext (key := 6001) eh127 hk141 (nz rfl) (ne0 wh127 hk142 (nz rfl)) (nm rfl)).trans hv277
        have hv279 := (fr_ext (key := 6001) eh133 hk142 (nz rfl) (ne0 wh133 hk143 (nz rfl)) (nm rfl)).trans hv278
        have hv280 := (fr_ext (key := 6001) eh161 hk143 (nz rfl) (ne0 wh161 hk166 (nz rfl)) (nm rfl)).trans hv279
        have hv281 := (fr_ext (key := 6001) eh171 hk166 (nz rfl) (ne0 wh171 hk204 (nz rfl)) (nm rfl)).trans hv280
        have hv282 := (fr_ext (key := 6001) eh178 hk204 (nz rfl) (ne0 wh178 hk205 (nz rfl)) (nm rfl)).trans hv281
        have hv283 := (fr_ext (key := 6001) eh192 hk205 (nz rfl) (ne0 wh192 hk206 (nz rfl)) (nm rfl)).trans hv282
        have hv284 := (fr_ext (key := 6001) eh200 hk206 (nz rfl) (ne0 wh200 hk207 (nz rfl)) (nm rfl)).trans hv283
        have hv285 := (fr_ext (key := 6001) eh231 hk207 (nz rfl) (ne0 wh231 hk235 (nz rfl)) (nm rfl)).trans hv284
        have hv286 := (fr_ext (key := 6001) eh240 hk235 (nz rfl) (ne0 wh240 hk244 (nz rfl)) (nm rfl)).trans hv285
        have hv287 := (fr_ext (key := 6001) eh252 hk244 (nz rfl) (ne0 wh252 hk256 (nz rfl)) (nm rfl)).trans hv286
        have hv288 := (fr_ext (key := 6001) eh260 hk256 (nz rfl) (ne0 wh260 hk265 (nz rfl)) (nm rfl)).trans hv287
        have hv289 := (fr_ext (key := 6001) eh268 hk265 (nz rfl) (ne0 wh268 hk272 (nz rfl)) (nm rfl)).trans hv288
        refine r_getr' (pc := 444) (T := TX6) 6 1 hv289 hk272 (Or.inr (Or.inl ⟨_, q419⟩)) dX3_add_444 kc6 g6001 ?_
        refine r_aload_n (pc := 447) dX3_add_447 rfl ?_
        have hv290 := (fr_ext (key := 3003) eh231 hk202 (nz rfl) (ne0 wh231 hk233 (nz rfl)) (nm rfl)).trans hv229
        have hv291 := (fr_ext (key := 3003) eh240 hk233 (nz rfl) (ne0 wh240 hk242 (nz rfl)) (nm rfl)).trans hv290
        have hv292 := (fr_ext (key := 3003) eh252 hk242 (nz rfl) (ne0 wh252 hk254 (nz rfl)) (nm rfl)).trans hv291
        have hv293 := (fr_ext (key := 3003) eh260 hk254 (nz rfl) (ne0 wh260 hk262 (nz rfl)) (nm rfl)).trans hv292
        have hv294 := (fr_ext (key := 3003) eh268 hk262 (nz rfl) (ne0 wh268 hk270 (nz rfl)) (nm rfl)).trans hv293
        refine r_getr' (pc := 448) (T := TX3) 3 3 hv294 hk270 (Or.inl q438) dX3_add_448 kc3 g3003 ?_
        refine r_aload_n (pc := 451) dX3_add_451 rfl ?_
        have hv295 := (fr_ext (key := 3008) eh268 hk262 (nz rfl) (ne0 wh268 hk270 (nz rfl)) (nm rfl)).trans hv264
        refine r_getr' (pc := 452) (T := TX3) 3 8 hv295 hk270 (Or.inl q443) dX3_add_452 kc3 g3008 ?_
        have hk298 := kd_ext eh268 hk269 (nz rfl)
        refine r_callV_V (pc := 455) (Y := mX4_multiply) (vs := [_, _, _]) (st := []) hk298 rfl kc4 q1399 q1400 q1401 dX3_add_455 rfl cd_X4_multiply rfl rfl fp_X3_add_X4_multiply K (fun h297 eh297 wh297 K => ?_) (fun x h1 _ _ e => Tw.out rfl e)
        refine r_aload_n (pc := 458) dX3_add_458 rfl ?_
        have hk299 := kd_ext eh297 hk270 (nz rfl)
        have hv300 := (fr_ext (key := 3000) eh297 hk270 (nz rfl) (ne0 wh297 hk299 (nz rfl)) (nm rfl)).trans hv271
        refine r_getr' (pc := 459) (T := TX3) 3 0 hv300 hk299 (Or.inl q435) dX3_add_459 kc3 g3000 ?_
        refine r_aload_n (pc := 462) dX3_add_462 rfl ?_
        have hv301 := (fr_ext (key := 3004) eh127 hk118 (nz rfl) (ne0 wh127 hk129 (nz rfl)) (nm rfl)).trans hv125
        have hv302 := (fr_ext (key := 3004) eh133 hk129 (nz rfl) (ne0 wh133 hk136 (nz rfl)) (nm rfl)).trans hv301
        have hv303 := (fr_ext (key := 3004) eh161 hk136 (nz rfl) (ne0 wh161 hk164 (nz rfl)) (nm rfl)).trans hv302
        have hv304 := (fr_ext (key := 3004) eh171 hk164 (nz rfl) (ne0 wh171 hk173 (nz rfl)) (nm rfl)).trans hv303
        have hv305 := (fr_ext (key := 3004) eh178 hk173 (nz rfl) (ne0 wh178 hk180 (nz rfl)) (nm rfl)).trans hv304
        have hv306 := (fr_ext (key := 3004) eh192 hk180 (nz rfl) (ne0 wh192 hk194 (nz rfl)) (nm rfl)).trans hv305
        have hv307 := (fr_ext (key := 3004) eh200 hk194 (nz rfl) (ne0 wh200 hk202 (nz rfl)) (nm rfl)).trans hv306
        have hv308 := (fr_ext (key := 3004) eh231 hk202 (nz rfl) (ne0 wh231 hk233 (nz rfl)) (nm rfl)).trans hv307
        have hv309 := (fr_ext (key := 3004) eh240 hk233 (nz rfl) (ne0 wh240 hk242 (nz rfl)) (nm rfl)).trans hv308
        have hv310 := (fr_ext (key := 3004) eh252 hk242 (nz rfl) (ne0 wh252 hk254 (nz rfl)) (nm rfl)).trans hv309
        have hv311 := (fr_ext (key := 3004) eh260 hk254 (nz rfl) (ne0 wh260 hk262 (nz rfl)) (nm rfl)).trans hv310
        have hv312 := (fr_ext (key := 3004) eh268 hk262 (nz rfl) (ne0 wh268 hk270 (nz rfl)) (nm rfl)).trans hv311
        have hv313 := (fr_ext (key := 3004) eh297 hk270 (nz rfl) (ne0 wh297 hk299 (nz rfl)) (nm rfl)).trans hv312
        refine r_getr' (pc := 463) (T := TX3) 3 4 hv313 hk299 (Or.inl q439) dX3_add_463 kc3 g3004 ?_
        refine r_aload_n (pc := 466) dX3_add_466 rfl ?_
        refine r_getr' (pc := 467) (T := TX3) 3 4 hv313 hk299 (Or.inl q439) dX3_add_467 kc3 g3004 ?_
        refine r_aload_n (pc := 470) dX3_add_470 rfl ?_
        have hv314 := (fr_ext (key := 3007) eh240 hk233 (nz rfl) (ne0 wh240 hk242 (nz rfl)) (nm rfl)).trans hv238
        have hv315 := (fr_ext (key := 3007) eh252 hk242 (nz rfl) (ne0 wh252 hk254 (nz rfl)) (nm rfl)).trans hv314
        have hv316 := (fr_ext (key := 3007) eh260 hk254 (nz rfl) (ne0 wh260 hk262 (nz rfl)) (nm rfl)).trans hv315
        have hv317 := (fr_ext (key := 3007) eh268 hk262 (nz rfl) (ne0 wh268 hk270 (nz rfl)) (nm rfl)).trans hv316
        have hv318 := (fr_ext (key := 3007) eh297 hk270 (nz rfl) (ne0 wh297 hk299 (nz rfl)) (nm rfl)).trans hv317
        refine r_getr' (pc := 471) (T := TX3) 3 7 hv318 hk299 (Or.inl q442) dX3_add_471 kc3 g3007 ?_
        have hk321 := kd_ext eh297 hk298 (nz rfl)
        refine r_callV_V (pc := 474) (Y := mX4_multiply) (vs := [_, _, _]) (st := []) hk321 rfl kc4 q1399 q1400 q1401 dX3_add_474 rfl cd_X4_multiply rfl rfl fp_X3_add_X4_multiply K (fun h320 eh320 wh320 K => ?_) (fun x h1 _ _ e => Tw.out rfl e)
        refine r_aload_n (pc := 477) dX3_add_477 rfl ?_
        have hk322 := kd_ext eh320 hk299 (nz rfl)
        have hv323 := (fr_ext (key := 3000) eh320 hk299 (nz rfl) (ne0 wh320 hk322 (nz rfl)) (nm rfl)).trans hv300
        refine r_getr' (pc := 478) (T := TX3) 3 0 hv323 hk322 (Or.inl q435) dX3_add_478 kc3 g3000 ?_
        refine r_aload_n (pc := 481) dX3_add_481 rfl ?_
        have hk324 := kd_ext eh297 hk272 (nz rfl)
        have hk325 := kd_ext eh320 hk324 (nz rfl)
        have hv326 := (fr_ext (key := 6001) eh297 hk272 (nz rfl) (ne0 wh297 hk324 (nz rfl)) (nm rfl)).trans hv289
        have hv327 := (fr_ext (key := 6001) eh320 hk324 (nz rfl) (ne0 wh320 hk325 (nz rfl)) (nm rfl)).trans hv326
        refine r_getr' (pc := 482) (T := TX6) 6 1 hv327 hk325 (Or.inr (Or.inl ⟨_, q419⟩)) dX3_add_482 kc6 g6001 ?_
        refine r_aload_n (pc := 485) dX3_add_485 rfl ?_
        refine r_getr' (pc := 486) (T := TX6) 6 1 hv327 hk325 (Or.inr (Or.inl ⟨_, q419⟩)) dX3_add_486 kc6 g6001 ?_
        refine r_aload_n (pc := 489) dX3_add_489 rfl ?_
        have hv328 := (fr_ext (key := 3004) eh320 hk299 (nz rfl) (ne0 wh320 hk322 (nz rfl)) (nm rfl)).trans hv313
        refine r_getr' (pc := 490) (T := TX3) 3 4 hv328 hk322 (Or.inl q439) dX3_add_490 kc3 g3004 ?_
        have hk331 := kd_ext eh320 hk321 (nz rfl)
        refine r_callV_V (pc := 493) (Y := mX4_subtract) (vs := [_, _, _]) (st := []) hk331 rfl kc4 q1431 q1432 q1433 dX3_add_493 rfl cd_X4_subtract rfl rfl fp_X3_add_X4_subtract K (fun h330 eh330 wh330 K => ?_) (fun x h1 _ _ e => Tw.out rfl e)
        exact r_vret (pc := 496) rfl dX3_add_496 K
      · have K := K.2 c135
        refine r_aload_n (pc := 222) dX3_add_222 rfl ?_
        have hk332 := kd_ext eh133 hk129 (nz rfl)
        have hv333 := (fr_ext (key := 3003) eh127 hk118 (nz rfl) (ne0 wh127 hk129 (nz rfl)) (nm rfl)).trans hv121
        have hv334 := (fr_ext (key := 3003) eh133 hk129 (nz rfl) (ne0 wh133 hk332 (nz rfl)) (nm rfl)).trans hv333
        refine r_getr' (pc := 223) (T := TX3) 3 3 hv334 hk332 (Or.inl q438) dX3_add_223 kc3 g3003 ?_
        obtain ⟨hk337, K⟩ := K
        refine r_callV_I (pc := 226) (Y := mX5_isZero) (vs := []) (st := []) hk337 rfl kc5 q1439 q1440 q1441 dX3_add_226 rfl cd_X5_isZero rfl rfl fp_X3_add_X5_isZero K (fun x335 h336 eh336 wh336 K => ?_) (fun x h1 _ _ e => Tw.out rfl e)
        refine r_if_eq (pc := 229) (tgt := 240) dX3_add_229 rfl (fun c338 => ?_) (fun c338 => ?_)
        · have K := K.1 c338
          refine r_aload_n (pc := 240) dX3_add_240 rfl ?_
          have hk339 := kd_ext eh88 hk79 (nz rfl)
          have hk340 := kd_ext eh98 hk339 (nz rfl)
          have hk341 := kd_ext eh116 hk340 (nz rfl)
          have hk342 := kd_ext eh127 hk341 (nz rfl)
          have hk343 := kd_ext eh133 hk342 (nz rfl)
          have hk344 := kd_ext eh336 hk343 (nz rfl)
          have hv345 := (fr_ext (key := 6002) eh88 hk79 (nz rfl) (ne0 wh88 hk339 (nz rfl)) (nm rfl)).trans hv86
          have hv346 := (fr_ext (key := 6002) eh98 hk339 (nz rfl) (ne0 wh98 hk340 (nz rfl)) (nm rfl)).trans hv345
          have hv347 := (fr_ext (key := 6002) eh116 hk340 (nz rfl) (ne0 wh116 hk341 (nz rfl)) (nm rfl)).trans hv346
          have hv348 := (fr_ext (key := 6002) eh127 hk341 (nz rfl) (ne0 wh127 hk342 (nz rfl)) (nm rfl)).trans hv347
          have hv349 := (fr_ext (key := 6002) eh133 hk342 (nz rfl) (ne0 wh133 hk343 (nz rfl)) (nm rfl)).trans hv348
          have hv350 := (fr_ext (key := 6002) eh336 hk343 (nz rfl) (ne0 wh336 hk344 (nz rfl)) (nm rfl)).trans hv349
          refine r_getr' (pc := 241) (T := TX6) 6 2 hv350 hk344 (Or.inr (Or.inl ⟨_, q421⟩)) dX3_add_241 kc6 g6002 ?_
          obtain ⟨hk353, K⟩ := K
          refine r_callV_R (pc := 244) (Y := mX5_zero) (vs := []) (st := []) hk353 rfl kc5 q1430 q312 q313 dX3_add_244 rfl cd_X5_zero rfl rfl fp_X3_add_X5_zero K (fun x351 h352 eh352 wh352 K => ?_) (fun x h1 _ _ e => Tw.out rfl e)
          refine r_pop (pc := 247) rfl dX3_add_247 ?_
          exact r_vret (pc := 248) rfl dX3_add_248 K
        · have K := K.2 c338
          refine r_aload_n (pc := 232) dX3_add_232 rfl ?_
          refine r_aload_n (pc := 233) dX3_add_233 rfl ?_
          have hk356 := kd_ext eh336 hk332 (nz rfl)
          refine r_callV_V (pc := 234) (Y := mX3_twice) (vs := [_]) (st := []) hk356 rfl kc3 q1458 q1460 qs31 dX3_add_234 rfl cd_X3_twice rfl rfl fp_X3_add_X3_twice K (fun h355 eh355 wh355 K => ?_) (fun x h1 _ _ e => Tw.out rfl e)
          refine r_goto (pc := 237) (tgt := 248) dX3_add_237 rfl ?_
          exact r_vret (pc := 248) rfl dX3_add_248 K
    · have K := K.2 c8
      refine r_aload_n (pc := 15) dX3_add_15 rfl ?_
      refine r_aload_n (pc := 16) dX3_add_16 rfl ?_
      have hk359 := kd_ext eh6 hk7 (nz rfl)
      refine r_callV_R (pc := 17) (Y := mX6_copy) (vs := [_]) (st := []) hk359 rfl kc6 q1471 q1472 q1473 dX3_add_17 rfl cd_X6_copy rfl rfl fp_X3_add_X6_copy K (fun x357 h358 eh358 wh358 K => ?_) (fun x h1 _ _ e => Tw.out rfl e)
      refine r_pop (pc := 20) rfl dX3_add_20 ?_
      exact r_vret (pc := 21) rfl dX3_add_21 K
  · have K := K.2 c4
    exact r_vret (pc := 7) rfl dX3_add_7 K
theorem eX3_add {G : Gx} {d : Nat} {Φ : Out → AH → Prop} (h : AH) (v0 : Nat) (v1 : Nat) (v2 : Nat) (K : WF G h → Aw G mX3_add (d + 1) 0 h Φ 0 [vR v0, vR v1, vR v2] [] h) : Cw G mX3_add (d + 1) 0 [vR v0, vR v1, vR v2] h Φ := Cw.of rfl K
theorem dX3_times_0 : decode cX3_times 0 = .ok (.aload_n 1, 1) := by decide +kernel
theorem dX3_times_1 : decode cX3_times 1 = .ok (.getfield 95, 3) := by decide +kernel
theorem dX3_times_4 : decode cX3_times 4 = .ok (.invokevirtual 127, 3) := by decide +kernel
theorem dX3_times_7 : decode cX3_times 7 = .ok (.pop, 1) := by decide +kernel
theorem dX3_times_8 : decode cX3_times 8 = .ok (.aload_n 2, 1) := by decide +kernel
theorem dX3_times_9 : decode cX3_times 9 = .ok (.invokevirtual 131, 3) := by decide +kernel
theorem dX3_times_12 : decode cX3_times 12 = .ok (.iconst 1, 1) := by decide +kernel
theorem dX3_times_13 : decode cX3_times 13 = .ok (.isub, 1) := by decide +kernel
theorem dX3_times_14 : decode cX3_times 14 = .ok (.istore 4, 2) := by decide +kernel
theorem dX3_times_16 : decode cX3_times 16 = .ok (.iload 4, 2) := by decide +kernel
theorem dX3_times_18 : decode cX3_times 18 = .ok (.ifCond .lt 30, 3) := by decide +kernel
theorem dX3_times_21 : decode cX3_times 21 = .ok (.aload_n 0, 1) := by decide +kernel
theorem dX3_times_22 : decode cX3_times 22 = .ok (.aload_n 1, 1) := by decide +kernel
theorem dX3_times_23 : decode cX3_times 23 = .ok (.invokevirtual 123, 3) := by decide +kernel
theorem dX3_times_26 : decode cX3_times 26 = .ok (.aload_n 2, 1) := by decide +kernel
theorem dX3_times_27 : decode cX3_times 27 = .ok (.iload 4, 2) := by decide +kernel
theorem dX3_times_29 : decode cX3_times 29 = .ok (.invokevirtual 135, 3) := by decide +kernel
theorem dX3_times_32 : decode cX3_times 32 = .ok (.iconst 1, 1) := by decide +kernel
theorem dX3_times_33 : decode cX3_times 33 = .ok (.if_icmp .ne 9, 3) := by decide +kernel
theorem dX3_times_36 : decode cX3_times 36 = .ok (.aload_n 0, 1) := by decide +kernel
theorem dX3_times_37 : decode cX3_times 37 = .ok (.aload_n 1, 1) := by decide +kernel
theorem dX3_times_38 : decode cX3_times 38 = .ok (.aload_n 3, 1) := by decide +kernel
theorem dX3_times_39 : decode cX3_times 39 = .ok (.invokevirtual 139, 3) := by decide +kernel
theorem dX3_times_42 : decode cX3_times 42 = .ok (.iinc 4 (-1), 3) := by decide +kernel
theorem dX3_times_45 : decode cX3_times 45 = .ok (.goto (-29), 3) := by decide +kernel
theorem dX3_times_48 : decode cX3_times 48 = .ok (.return_, 1) := by decide +kernel
/-! CoinJudge$Curve.times(LCoinJudge$Point;LCoinJudge$Big;LCoinJudge$Point;)V -/
set_option maxHeartbeats 4000000 in
theorem sX3_times_0 {G : Gx} {d t : Nat} {h0 : AH} {Φ : Out → AH → Prop} (h : AH) (v0 : Nat) (v1 : Nat) (v2 : Nat) (v3 : Nat) (K : h.kd v1 = 6 ∧ ∀ r2 : Nat, r2 = (h.r 6002 v1) → h.kd r2 = 5 ∧ Cw G mX5_zero d 0 [vR r2] h (kR (fun x3 h4 => h4.kd v2 = 5 ∧ Cw G mX5_length d 0 [vR v2] h4 (kI (fun x6 h7 => Aw G mX3_times (d + 1) t h0 Φ 16 [vR v0, vR v1, vR v2, vR v3, vI (x6 - 1)] [] h7) (fun x h => Φ (.inr x) h))) (fun x h => Φ (.inr x) h))) : Aw G mX3_times (d + 1) t h0 Φ 0 [vR v0, vR v1, vR v2, vR v3, vU] [] h := by
  refine r_aload_n (pc := 0) dX3_times_0 rfl ?_
  obtain ⟨hk1, K⟩ := K
  have K := K _ rfl
  refine r_getr' (pc := 1) (T := TX6) 6 2 rfl hk1 (Or.inr (Or.inl ⟨_, q421⟩)) dX3_times_1 kc6 g6002 ?_
  obtain ⟨hk5, K⟩ := K
  refine r_callV_R (pc := 4) (Y := mX5_zero) (vs := []) (st := []) hk5 rfl kc5 q1430 q312 q313 dX3_times_4 rfl cd_X5_zero rfl rfl fp_X3_times_X5_zero K (fun x3 h4 eh4 wh4 K => ?_) (fun x h1 _ _ e => Tw.out rfl e)
  refine r_pop (pc := 7) rfl dX3_times_7 ?_
  refine r_aload_n (pc := 8) dX3_times_8 rfl ?_
  obtain ⟨hk8, K⟩ := K
  refine r_callV_I (pc := 9) (Y := mX5_length) (vs := []) (st := []) hk8 rfl kc5 q1457 q859 q860 dX3_times_9 rfl cd_X5_length rfl rfl fp_X3_times_X5_length K (fun x6 h7 eh7 wh7 K => ?_) (fun x h1 _ _ e => Tw.out rfl e)
  refine r_iconst (pc := 12) (x := 1) dX3_times_12 rfl ?_
  refine r_isub (pc := 13) dX3_times_13 ?_
  refine r_istore (pc := 14) (lv' := [_, _, _, _, _]) dX3_times_14 (by decide) rfl ?_
  refine r_mask (pc := 16) [true, true, true, true, true] rfl ?_
  exact K
theorem eX3_times {G : Gx} {d : Nat} {Φ : Out → AH → Prop} (h : AH) (v0 : Nat) (v1 : Nat) (v2 : Nat) (v3 : Nat) (K : WF G h → Aw G mX3_times (d + 1) 0 h Φ 0 [vR v0, vR v1, vR v2, vR v3, vU] [] h) : Cw G mX3_times (d + 1) 0 [vR v0, vR v1, vR v2, vR v3] h Φ := Cw.of rfl K
set_option maxHeartbeats 4000000 in
theorem sX3_times_16 {G : Gx} {d t : Nat} {h0 : AH} {Φ : Out → AH → Prop} (h : AH) (v0 : Nat) (v1 : Nat) (v2 : Nat) (v3 : Nat) (v4 : Int32) (K : ((v4 < 0 → Φ (.inl none) h) ∧ (¬ v4 < 0 → h.kd v0 = 3 ∧ Cw G mX3_twice d 0 [vR v0, vR v1] h (kV (fun h3 => h3.kd v2 = 5 ∧ Cw G mX5_bit d 0 [vR v2, vI v4] h3 (kI (fun x5 h6 => ((¬ x5 = 1 → Aw G mX3_times (d + 1) t h0 Φ 16 [vR v0, vR v1, vR v2, vR v3, vI (v4 + (-1))] [] h6) ∧ (x5 = 1 → Cw G mX3_add d 0 [vR v0, vR v1, vR v3] h6 (kV (fun h10 => Aw G mX3_times (d + 1) t h0 Φ 16 [vR v0, vR v1, vR v2, vR v3, vI (v4 + (-1))] [] h10) (fun x h => Φ (.inr x) h))))) (fun x h => Φ (.inr x) h))) (fun x h => Φ (.inr x) h))))) : Aw G mX3_times (d + 1) t h0 Φ 16 [vR v0, vR v1, vR v2, vR v3, vI v4] [] h := by
  refine r_iload (pc := 16) dX3_times_16 rfl ?_
  refine r_if_lt (pc := 18) (tgt := 48) dX3_times_18 rfl (fun c1 => ?_) (fun c1 => ?_)
  · have K := K.1 c1
    exact r_vret (pc := 48) rfl dX3_times_48 K
  · have K := K.2 c1
    refine r_aload_n (pc := 21) dX3_times_21 rfl ?_
    refine r_aload_n (pc := 22) dX3_times_22 rfl ?_
    obtain ⟨hk4, K⟩ := K
    refine r_callV_V (pc := 23) (Y := mX3_twice) (vs := [_]) (st := []) hk4 rfl kc3 q1458 q1460 qs31 dX3_times_23 rfl cd_X3_twice rfl rfl fp_X3_times_X3_twice K (fun h3 eh3 wh3 K => ?_) (fun x h1 _ _ e => Tw.out rfl e)
    refine r_aload_n (pc := 26) dX3_times_26 rfl ?_
    refine r_iload (pc := 27) dX3_times_27 rfl ?_
    obtain ⟨hk7, K⟩ := K
    refine r_callV_I (pc := 29) (Y := mX5_bit) (vs := [_]) (st := []) hk7 rfl kc5 q1429 q1179 q1180 dX3_times_29 rfl cd_X5_bit rfl rfl fp_X3_times_X5_bit K (fun x5 h6 eh6 wh6 K => ?_) (fun x h1 _ _ e => Tw.out rfl e)
    refine r_iconst (pc := 32) (x := 1) dX3_times_32 rfl ?_
    refine r_icmp_ne (pc := 33) (tgt := 42) dX3_times_33 rfl (fun c8 => ?_) (fun c8 => ?_)
    · have K := K.1 c8
      refine r_iinc (pc := 42) (lv' := [_, _, _, _, _]) dX3_times_42 rfl rfl (by decide) rfl ?_
      refine r_goto (pc := 45) (tgt := 16) dX3_times_45 rfl ?_
      refine r_mask (pc := 16) [true, true, true, true, true] rfl ?_
      exact K
    · have K := K.2 c8
      refine r_aload_n (pc := 36) dX3_times_36 rfl ?_
      refine r_aload_n (pc := 37) dX3_times_37 rfl ?_
      refine r_aload_n (pc := 38) dX3_times_38 rfl ?_
      have hk11 := kd_ext eh3 hk4 (nz rfl)
      have hk12 := kd_ext eh6 hk11 (nz rfl)
      refine r_callV_V (pc := 39) (Y := mX3_add) (vs := [_, _]) (st := []) hk12 rfl kc3 q1467 q1469 qs32 dX3_times_39 rfl cd_X3_add rfl rfl fp_X3_times_X3_add K (fun h10 eh10 wh10 K => ?_) (fun x h1 _ _ e => Tw.out rfl e)
      refine r_iinc (pc := 42) (lv' := [_, _, _, _, _]) dX3_times_42 rfl rfl (by decide) rfl ?_
      refine r_goto (pc := 45) (tgt := 16) dX3_times_45 rfl ?_
      refine r_mask (pc := 16) [true, true, true, true, true] rfl ?_
      exact K
theorem dX3_keyOf_0 : decode cX3_keyOf 0 = .ok (.aload_n 0, 1) := by decide +kernel
theorem dX3_keyOf_1 : decode cX3_keyOf 1 = .ok (.aload_n 0, 1) := by decide +kernel
theorem dX3_keyOf_2 : decode cX3_keyOf 2 = .ok (.getfield 64, 3) := by decide +kernel
theorem dX3_keyOf_5 : decode cX3_keyOf 5 = .ok (.aload_n 1, 1) := by decide +kernel
theorem dX3_keyOf_6 : decode cX3_keyOf 6 = .ok (.aload_n 0, 1) := by decide +kernel
theorem dX3_keyOf_7 : decode cX3_keyOf 7 = .ok (.getfield 35, 3) := by decide +kernel
theorem dX3_keyOf_10 : decode cX3_keyOf 10 = .ok (.invokevirtual 184, 3) := by decide +kernel
theorem dX3_keyOf_13 : decode cX3_keyOf 13 = .ok (.aload_n 0, 1) := by decide +kernel
theorem dX3_keyOf_14 : decode cX3_keyOf 14 = .ok (.aload_n 0, 1) := by decide +kernel
theorem dX3_keyOf_15 : decode cX3_keyOf 15 = .ok (.getfield 64, 3) := by decide +kernel
theorem dX3_keyOf_18 : decode cX3_keyOf 18 = .ok (.invokevirtual 188, 3) := by decide +kernel
theorem dX3_keyOf_21 : decode cX3_keyOf 21 = .ok (.aload_n 3, 1) := by decide +kernel
theorem dX3_keyOf_22 : decode cX3_keyOf 22 = .ok (.iload 4, 2) := by decide +kernel
theorem dX3_keyOf_24 : decode cX3_keyOf 24 = .ok (.iload_n 2, 1) := by decide +kernel
theorem dX3_keyOf_25 : decode cX3_keyOf 25 = .ok (.ifCond .eq 7, 3) := by decide +kernel
theorem dX3_keyOf_28 : decode cX3_keyOf 28 = .ok (.iconst 4, 1) := by decide +kernel
theorem dX3_keyOf_29 : decode cX3_keyOf 29 = .ok (.goto 16, 3) := by decide +kernel
theorem dX3_keyOf_32 : decode cX3_keyOf 32 = .ok (.iconst 2, 1) := by decide +kernel
theorem dX3_keyOf_33 : decode cX3_keyOf 33 = .ok (.aload_n 0, 1) := by decide +kernel
theorem dX3_keyOf_34 : decode cX3_keyOf 34 = .ok (.getfield 64, 3) := by decide +kernel
theorem dX3_keyOf_37 : decode cX3_keyOf 37 = .ok (.getfield 90, 3) := by decide +kernel
theorem dX3_keyOf_40 : decode cX3_keyOf 40 = .ok (.iconst 0, 1) := by decide +kernel
theorem dX3_keyOf_41 : decode cX3_keyOf 41 = .ok (.invokevirtual 135, 3) := by decide +kernel
theorem dX3_keyOf_44 : decode cX3_keyOf 44 = .ok (.iadd, 1) := by decide +kernel
theorem dX3_keyOf_45 : decode cX3_keyOf 45 = .ok (.i2b, 1) := by decide +kernel
theorem dX3_keyOf_46 : decode cX3_keyOf 46 = .ok (.bastore, 1) := by decide +kernel
theorem dX3_keyOf_47 : decode cX3_keyOf 47 = .ok (.aload_n 0, 1) := by decide +kernel
theorem dX3_keyOf_48 : decode cX3_keyOf 48 = .ok (.getfield 64, 3) := by decide +kernel
theorem dX3_keyOf_51 : decode cX3_keyOf 51 = .ok (.getfield 85, 3) := by decide +kernel
theorem dX3_keyOf_54 : decode cX3_keyOf 54 = .ok (.aload_n 3, 1) := by decide +kernel
theorem dX3_keyOf_55 : decode cX3_keyOf 55 = .ok (.iload 4, 2) := by decide +kernel
theorem dX3_keyOf_57 : decode cX3_keyOf 57 = .ok (.iconst 1, 1) := by decide +kernel
theorem dX3_keyOf_58 : decode cX3_keyOf 58 = .ok (.iadd, 1) := by decide +kernel
theorem dX3_keyOf_59 : decode cX3_keyOf 59 = .ok (.invokevirtual 191, 3) := by decide +kernel
theorem dX3_keyOf_62 : decode cX3_keyOf 62 = .ok (.iload_n 2, 1) := by decide +kernel
theorem dX3_keyOf_63 : decode cX3_keyOf 63 = .ok (.ifCond .ne 6, 3) := by decide +kernel
theorem dX3_keyOf_66 : decode cX3_keyOf 66 = .ok (.bipush 33, 2) := by decide +kernel
theorem dX3_keyOf_68 : decode cX3_keyOf 68 = .ok (.ireturn, 1) := by decide +kernel
theorem dX3_keyOf_69 : decode cX3_keyOf 69 = .ok (.aload_n 0, 1) := by decide +kernel
theorem dX3_keyOf_70 : decode cX3_keyOf 70 = .ok (.getfield 64, 3) := by decide +kernel
theorem dX3_keyOf_73 : decode cX3_keyOf 73 = .ok (.getfield 90, 3) := by decide +kernel
theorem dX3_keyOf_76 : decode cX3_keyOf 76 = .ok (.aload_n 3, 1) := by decide +kernel
theorem dX3_keyOf_77 : decode cX3_keyOf 77 = .ok (.iload 4, 2) := by decide +kernel
theorem dX3_keyOf_79 : decode cX3_keyOf 79 = .ok (.bipush 33, 2) := by decide +kernel
theorem dX3_keyOf_81 : decode cX3_keyOf 81 = .ok (.iadd, 1) := by decide +kernel
theorem dX3_keyOf_82 : decode cX3_keyOf 82 = .ok (.invokevirtual 191, 3) := by decide +kernel
theorem dX3_keyOf_85 : decode cX3_keyOf 85 = .ok (.bipush 65, 2) := by decide +kernel
theorem dX3_keyOf_87 : decode cX3_keyOf 87 = .ok (.ireturn, 1) := by decide +kernel
/-! CoinJudge$Curve.keyOf(LCoinJudge$Big;Z[BI)I -/
set_option maxHeartbeats 4000000 in
theorem sX3_keyOf_0 {G : Gx} {d t : Nat} {h0 : AH} {Φ : Out → AH → Prop} (h : AH) (v0 : Nat) (v1 : Nat) (v2 : Int32) (v3 : Nat) (v4 : Int32) (K : h.kd v0 = 3 ∧ ∀ r2 : Nat, r2 = (h.r 3011 v0) → ∀ r3 : Nat, r3 = (h.r 3002 v0) → Cw G mX3_times d 0 [vR v0, vR r2, vR v1, vR r3] h (kV (fun h5 => Cw G mX3_plain d 0 [vR v0, vR r2] h5 (kV (fun h10 => ((v2 = 0 → h10.kd r2 = 6 ∧ ∀ r15 : Nat, r15 = (h10.r 6001 r2) → h10.kd r15 = 5 ∧ Cw G mX5_bit d 0 [vR r15, vI 0] h10 (kI (fun x16 h17 => h17.kd v3 = 101 ∧ vp_in v4 (h17.ai v3).length ∧ ∀ h21 : AH, h21 = h17.wi v3 ((h17.ai v3).set (v4.toNatClampNeg) (i2b (i2b (2 + x16)))) → ∀ r28 : Nat, r28 = (h21.r 6000 r2) → h21.kd r28 = 5 ∧ Cw G mX5_write d 0 [vR r28, vR v3, vI (v4 + 1)] h21 (kV (fun h30 => ((¬ v2 = 0 → Cw G mX5_write d 0 [vR r15, vR v3, vI (v4 + 33)] h30 (kV (fun h41 => Φ (.inl (some (vI 65))) h41) (fun x h => Φ (.inr x) h))) ∧ (v2 = 0 → Φ (.inl (some (vI 33))) h30))) (fun x h => Φ (.inr x) h))) (fun x h => Φ (.inr x) h))) ∧ (¬ v2 = 0 → h10.kd v3 = 101 ∧ vp_in v4 (h10.ai v3).length ∧ ∀ h47 : AH, h47 = h10.wi v3 ((h10.ai v3).set (v4.toNatClampNeg) (i2b (i2b 4))) → h47.kd r2 = 6 ∧ ∀ r53 : Nat, r53 = (h47.r 6000 r2) → h47.kd r53 = 5 ∧ Cw G mX5_write d 0 [vR r53, vR v3, vI (v4 + 1)] h47 (kV (fun h55 => ((¬ v2 = 0 → ∀ r61 : Nat, r61 = (h55.r 6001 r2) → h55.kd r61 = 5 ∧ Cw G mX5_write d 0 [vR r61, vR v3, vI (v4 + 33)] h55 (kV (fun h63 => Φ (.inl (some (vI 65))) h63) (fun x h => Φ (.inr x) h))) ∧ (v2 = 0 → Φ (.inl (some (vI 33))) h55))) (fun x h => Φ (.inr x) h))))) (fun x h => Φ (.inr x) h))) (fun x h => Φ (.inr x) h))) : Aw G mX3_keyOf (d + 1) t h0 Φ 0 [vR v0, vR v1, vI v2, vR v3, vI v4] [] h := by
  refine r_aload_n (pc := 0) dX3_keyOf_0 rfl ?_
  refine r_aload_n (pc := 1) dX3_keyOf_1 rfl ?_
  obtain ⟨hk1, K⟩ := K
  have K := K _ rfl
  refine r_getr' (pc := 2) (T := TX3) 3 11 rfl hk1 (Or.inl q446) dX3_keyOf_2 kc3 g3011 ?_
  refine r_aload_n (pc := 5) dX3_keyOf_5 rfl ?_
  refine r_aload_n (pc := 6) dX3_keyOf_6 rfl ?_
  have K := K _ rfl
  refine r_getr' (pc := 7) (T := TX3) 3 2 rfl hk1 (Or.inl q437) dX3_keyOf_7 kc3 g3002 ?_
  refine r_callV_V (pc := 10) (Y := mX3_times) (vs := [_, _, _]) (st := []) hk1 rfl kc3 q1453 q1455 qs30 dX3_keyOf_10 rfl cd_X3_times rfl rfl fp_X3_keyOf_X3_times K (fun h5 eh5 wh5 K => ?_) (fun x h1 _ _ e => Tw.out rfl e)
  refine r_aload_n (pc := 13) dX3_keyOf_13 rfl ?_
  refine r_aload_n (pc := 14) dX3_keyOf_14 rfl ?_
  have hk6 := kd_ext eh5 hk1 (nz rfl)
  have hv7 := fr_self (key := 3011) hk1
  have hv8 := (fr_ext (key := 3011) eh5 hk1 (nz rfl) (ne0 wh5 hk6 (nz rfl)) (nm rfl)).trans hv7
  refine r_getr' (pc := 15) (T := TX3) 3 11 hv8 hk6 (Or.inl q446) dX3_keyOf_15 kc3 g3011 ?_
  refine r_callV_V (pc := 18) (Y := mX3_plain) (vs := [_]) (st := []) hk6 rfl kc3 q1476 q1478 qs33 dX3_keyOf_18 rfl cd_X3_plain rfl rfl fp_X3_keyOf_X3_plain K (fun h10 eh10 wh10 K => ?_) (fun x h1 _ _ e => Tw.out rfl e)
  refine r_aload_n (pc := 21) dX3_keyOf_21 rfl ?_
  refine r_iload (pc := 22) dX3_keyOf_22 rfl ?_
  refine r_iload_n (pc := 24) dX3_keyOf_24 rfl ?_
  refine r_if_eq (pc := 25) (tgt := 32) dX3_keyOf_25 rfl (fun c11 => ?_) (fun c11 => ?_)
  · have K := K.1 c11
    refine r_iconst (pc := 32) (x := 2) dX3_keyOf_32 rfl ?_
    refine r_aload_n (pc := 33) dX3_keyOf_33 rfl ?_
    have hk12 := kd_ext eh10 hk6 (nz rfl)
    have hv13 := (fr_ext (key := 3011) eh10 hk6 (nz rfl) (ne0 wh10 hk12 (nz rfl)) (nm rfl)).trans hv8
    refine r_getr' (pc := 34) (T := TX3) 3 11 hv13 hk12 (Or.inl q446) dX3_keyOf_34 kc3 g3011 ?_
    obtain ⟨hk14, K⟩ := K
    have K := K _ rfl
    refine r_getr' (pc := 37) (T := TX6) 6 1 rfl hk14 (Or.inr (Or.inl ⟨_, q419⟩)) dX3_keyOf_37 kc6 g6001 ?_
    refine r_iconst (pc := 40) (x := 0) dX3_keyOf_40 rfl ?_
    obtain ⟨hk18, K⟩ := K
    refine r_callV_I (pc := 41) (Y := mX5_bit) (vs := [_]) (st := [_, _, _]) hk18 rfl kc5 q1429 q1179 q1180 dX3_keyOf_41 rfl cd_X5_bit rfl rfl fp_X3_keyOf_X5_bit K (fun x16 h17 eh17 wh17 K => ?_) (fun x h1 _ _ e => Tw.out rfl e)
    refine r_iadd (pc := 44) dX3_keyOf_44 ?_
    refine r_ji2b (pc := 45) dX3_keyOf_45 ?_
    obtain ⟨hk19, K⟩ := K
    obtain ⟨hi20, K⟩ := K
    refine r_jbast (pc := 46) hk19 hi20 (Or.inl (em rfl)) dX3_keyOf_46 ?_
    refine r_nameH (fun h21 eh21 => ?_)
    have K := K h21 eh21
    refine r_aload_n (pc := 47) dX3_keyOf_47 rfl ?_
    have hk22 := kd_ext eh17 hk12 (nz rfl)
    have hk23 := kd_wi eh21 hk22
    have hv24 := (fr_ext (key := 3011) eh17 hk12 (nz rfl) (ne0 wh17 hk22 (nz rfl)) (nm rfl)).trans hv13
    have hv25 := fr_wi (key := 3011) eh21 hv24
    refine r_getr' (pc := 48) (T := TX3) 3 11 hv25 hk23 (Or.inl q446) dX3_keyOf_48 kc3 g3011 ?_
    have hk26 := kd_ext eh17 hk14 (nz rfl)
    have hk27 := kd_wi eh21 hk26
    have K := K _ rfl
    refine r_getr' (pc := 51) (T := TX6) 6 0 rfl hk27 (Or.inr (Or.inl ⟨_, q417⟩)) dX3_keyOf_51 kc6 g6000 ?_
    refine r_aload_n (pc := 54) dX3_keyOf_54 rfl ?_
    refine r_iload (pc := 55) dX3_keyOf_55 rfl ?_
    refine r_iconst (pc := 57) (x := 1) dX3_keyOf_57 rfl ?_
    refine r_iadd (pc := 58) dX3_keyOf_58 ?_
    obtain ⟨hk31, K⟩ := K
    refine r_callV_V (pc := 59) (Y := mX5_write) (vs := [_, _]) (st := []) hk31 rfl kc5 q1880 q1881 q1882 dX3_keyOf_59 rfl cd_X5_write rfl rfl fp_X3_keyOf_X5_write K (fun h30 eh30 wh30 K => ?_) (fun x h1 _ _ e => Tw.out rfl e)
    refine r_iload_n (pc := 62) dX3_keyOf_62 rfl ?_
    refine r_if_ne (pc := 63) (tgt := 69) dX3_keyOf_63 rfl (fun c32 => ?_) (fun c32 => ?_)
    · have K := K.1 c32
      refine r_aload_n (pc := 69) dX3_keyOf_69 rfl ?_
      have hk33 := kd_ext eh30 hk23 (nz rfl)
      have hv34 := (fr_ext (key := 3011) eh30 hk23 (nz rfl) (ne0 wh30 hk33 (nz rfl)) (nm rfl)).trans hv25
      refine r_getr' (pc := 70) (T := TX3) 3 11 hv34 hk33 (Or.inl q446) dX3_keyOf_70 kc3 g3011 ?_
      have hk35 := kd_ext eh30 hk27 (nz rfl)
      have hv36 := fr_self (key := 6001) hk14
      have hv37 := (fr_ext (key := 6001) eh17 hk14 (nz rfl) (ne0 wh17 hk26 (nz rfl)) (nm rfl)).trans hv36
      have hv38 := fr_wi (key := 6001) eh21 hv37
      have hv39 := (fr_ext (key := 6001) eh30 hk27 (nz rfl) (ne0 wh30 hk35 (nz rfl)) (nm rfl)).trans hv38
      refine r_getr' (pc := 73) (T := TX6) 6 1 hv39 hk35 (Or.inr (Or.inl ⟨_, q419⟩)) dX3_keyOf_73 kc6 g6001 ?_
      refine r_aload_n (pc := 76) dX3_keyOf_76 rfl ?_
      refine r_iload (pc := 77) dX3_keyOf_77 rfl ?_
      refine r_bipush (pc := 79) (x := 33) dX3_keyOf_79 rfl ?_
      refine r_iadd (pc := 81) dX3_keyOf_81 ?_
      have hk42 := kd_ext eh17 hk18 (nz rfl)
      have hk43 := kd_wi eh21 hk42
      have hk44 := kd_ext eh30 hk43 (nz rfl)
      refine r_callV_V (pc := 82) (Y := mX5_write) (vs := [_, _]) (st := []) hk44 rfl kc5 q1880 q1881 q1882 dX3_keyOf_82 rfl cd_X5_write rfl rfl fp_X3_keyOf_X5_write K (fun h41 eh41 wh41 K => ?_) (fun x h1 _ _ e => Tw.out rfl e)
      refine r_bipush (pc := 85) (x := 65) dX3_keyOf_85 rfl ?_
      exact r_iret (pc := 87) rfl rfl dX3_keyOf_87 K
    · have K := K.2 c32
      refine r_bipush (pc := 66) (x := 33) dX3_keyOf_66 rfl ?_
      exact r_iret (pc := 68) rfl rfl dX3_keyOf_68 K
  · have K := K.2 c11
    refine r_iconst (pc := 28) (x := 4) dX3_keyOf_28 rfl ?_
    refine r_goto (pc := 29) (tgt := 45) dX3_keyOf_29 rfl ?_
    refine r_ji2b (pc := 45) dX3_keyOf_45 ?_
    obtain ⟨hk45, K⟩ := K
    obtain ⟨hi46, K⟩ := K
    refine r_jbast (pc := 46) hk45 hi46 (Or.inl (em rfl)) dX3_keyOf_46 ?_
    refine r_nameH (fun h47 eh47 => ?_)
    have K := K h47 eh47
    refine r_aload_n (pc := 47) dX3_keyOf_47 rfl ?_
    have hk48 := kd_ext eh10 hk6 (nz rfl)
    have hk49 := kd_wi eh47 hk48
    have hv50 := (fr_ext (key := 3011) eh10 hk6 (nz rfl) (ne0 wh10 hk48 (nz rfl)) (nm rfl)).trans hv8
    have hv51 := fr_wi (key := 3011) eh47 hv50
    refine r_getr' (pc := 48) (T := TX3) 3 11 hv51 hk49 (Or.inl q446) dX3_keyOf_48 kc3 g3011 ?_
    obtain ⟨hk52, K⟩ := K
    have K := K _ rfl
    refine r_getr' (pc := 51) (T := TX6) 6 0 rfl hk52 (Or.inr (Or.inl ⟨_, q417⟩)) dX3_keyOf_51 kc6 g6000 ?_
    refine r_aload_n (pc := 54) dX3_keyOf_54 rfl ?_
    refine r_iload (pc := 55) dX3_keyOf_55 rfl ?_
    refine r_iconst (pc := 57) (x := 1) dX3_keyOf_57 rfl ?_
    refine r_iadd (pc := 58) dX3_keyOf_58 ?_
    obtain ⟨hk56, K⟩ := K
    refine r_callV_V (pc := 59) (Y := mX5_write) (vs := [_, _]) (st := []) hk56 rfl kc5 q1880 q1881 q1882 dX3_keyOf_59 rfl cd_X5_write rfl rfl fp_X3_keyOf_X5_write K (fun h55 eh55 wh55 K => ?_) (fun x h1 _ _ e => Tw.out rfl e)
    refine r_iload_n (pc := 62) dX3_keyOf_62 rfl ?_
    refine r_if_ne (pc := 63) (tgt := 69) dX3_keyOf_63 rfl (fun c57 => ?_) (fun c57 => ?_)
    · have K := K.1 c57
      refine r_aload_n (pc := 69) dX3_keyOf_69 rfl ?_
      have hk58 := kd_ext eh55 hk49 (nz rfl)
      have hv59 := (fr_ext (key := 3011) eh55 hk49 (nz rfl) (ne0 wh55 hk58 (nz rfl)) (nm rfl)).trans hv51
      refine r_getr' (pc := 70) (T := TX3) 3 11 hv59 hk58 (Or.inl q446) dX3_keyOf_70 kc3 g3011 ?_
      have hk60 := kd_ext eh55 hk52 (nz rfl)
      have K := K _ rfl
      refine r_getr' (pc := 73) (T := TX6) 6 1 rfl hk60 (Or.inr (Or.inl ⟨_, q419⟩)) dX3_keyOf_73 kc6 g6001 ?_
      refine r_aload_n (pc := 76) dX3_keyOf_76 rfl ?_
      refine r_iload (pc := 77) dX3_keyOf_77 rfl ?_
      refine r_bipush (pc := 79) (x := 33) dX3_keyOf_79 rfl ?_
      refine r_iadd (pc := 81) dX3_keyOf_81 ?_
      obtain ⟨hk64, K⟩ := K
      refine r_callV_V (pc := 82) (Y := mX5_write) (vs := [_, _]) (st := []) hk64 rfl kc5 q1880 q1881 q1882 dX3_keyOf_82 rfl cd_X5_write rfl rfl fp_X3_keyOf_X5_write K (fun h63 eh63 wh63 K => ?_) (fun x h1 _ _ e => Tw.out rfl e)
      refine r_bipush (pc := 85) (x := 65) dX3_keyOf_85 rfl ?_
      exact r_iret (pc := 87) rfl rfl dX3_keyOf_87 K
    · have K := K.2 c57
      refine r_bipush (pc := 66) (x := 33) dX3_keyOf_66 rfl ?_
      exact r_iret (pc := 68) rfl rfl dX3_keyOf_68 K
theorem eX3_keyOf {G : Gx} {d : Nat} {Φ : Out → AH → Prop} (h : AH) (v0 : Nat) (v1 : Nat) (v2 : Int32) (v3 : Nat) (v4 : Int32) (K : WF G h → Aw G mX3_keyOf (d + 1) 0 h Φ 0 [vR v0, vR v1, vI v2, vR v3, vI v4] [] h) : Cw G mX3_keyOf (d + 1) 0 [vR v0, vR v1, vI v2, vR v3, vI v4] h Φ := Cw.of rfl K
theorem dX3_scalars_0 : decode cX3_scalars 0 = .ok (.aload_n 0, 1) := by decide +kernel
theorem dX3_scalars_1 : decode cX3_scalars 1 = .ok (.getfield 29, 3) := by decide +kernel
theorem dX3_scalars_4 : decode cX3_scalars 4 = .ok (.areturn, 1) := by decide +kernel
/-! CoinJudge$Curve.scalars()LCoinJudge$Ring; -/
set_option maxHeartbeats 4000000 in
theorem sX3_scalars_0 {G : Gx} {d t : Nat} {h0 : AH} {Φ : Out → AH → Prop} (h : AH) (v0 : Nat) (K : h.kd v0 = 3 ∧ ∀ r2 : Nat, r2 = (h.r 3001 v0) → Φ (.inl (some (vR r2))) h) : Aw G mX3_scalars (d + 1) t h0 Φ 0 [vR v0] [] h := by
  refine r_aload_n (pc := 0) dX3_scalars_0 rfl ?_
  obtain ⟨hk1, K⟩ := K
  have K := K _ rfl
  refine r_getr' (pc := 1) (T := TX3) 3 1 rfl hk1 (Or.inl q436) dX3_scalars_1 kc3 g3001 ?_
  exact r_aret (pc := 4) rfl rfl dX3_scalars_4 K
theorem eX3_scalars {G : Gx} {d : Nat} {Φ : Out → AH → Prop} (h : AH) (v0 : Nat) (K : WF G h → Aw G mX3_scalars (d + 1) 0 h Φ 0 [vR v0] [] h) : Cw G mX3_scalars (d + 1) 0 [vR v0] h Φ := Cw.of rfl K
theorem dX3_der_0 : decode cX3_der 0 = .ok (.aload_n 0, 1) := by decide +kernel
theorem dX3_der_1 : decode cX3_der 1 = .ok (.invokevirtual 131, 3) := by decide +kernel
theorem dX3_der_4 : decode cX3_der 4 = .ok (.bipush 8, 2) := by decide +kernel
theorem dX3_der_6 : decode cX3_der 6 = .ok (.idiv, 1) := by decide +kernel
theorem dX3_der_7 : decode cX3_der 7 = .ok (.iconst 1, 1) := by decide +kernel
theorem dX3_der_8 : decode cX3_der 8 = .ok (.iadd, 1) := by decide +kernel
theorem dX3_der_9 : decode cX3_der 9 = .ok (.istore_n 3, 1) := by decide +kernel
theorem dX3_der_10 : decode cX3_der 10 = .ok (.aload_n 1, 1) := by decide +kernel
theorem dX3_der_11 : decode cX3_der 11 = .ok (.iload_n 2, 1) := by decide +kernel
theorem dX3_der_12 : decode cX3_der 12 = .ok (.iconst 2, 1) := by decide +kernel
theorem dX3_der_13 : decode cX3_der 13 = .ok (.bastore, 1) := by decide +kernel
theorem dX3_der_14 : decode cX3_der 14 = .ok (.aload_n 1, 1) := by decide +kernel
theorem dX3_der_15 : decode cX3_der 15 = .ok (.iload_n 2, 1) := by decide +kernel
theorem dX3_der_16 : decode cX3_der 16 = .ok (.iconst 1, 1) := by decide +kernel
theorem dX3_der_17 : decode cX3_der 17 = .ok (.iadd, 1) := by decide +kernel
theorem dX3_der_18 : decode cX3_der 18 = .ok (.iload_n 3, 1) := by decide +kernel
theorem dX3_der_19 : decode cX3_der 19 = .ok (.i2b, 1) := by decide +kernel
theorem dX3_der_20 : decode cX3_der 20 = .ok (.bastore, 1) := by decide +kernel
theorem dX3_der_21 : decode cX3_der 21 = .ok (.iconst 0, 1) := by decide +kernel
theorem dX3_der_22 : decode cX3_der 22 = .ok (.istore 4, 2) := by decide +kernel
theorem dX3_der_24 : decode cX3_der 24 = .ok (.iload 4, 2) := by decide +kernel
theorem dX3_der_26 : decode cX3_der 26 = .ok (.iload_n 3, 1) := by decide +kernel
theorem dX3_der_27 : decode cX3_der 27 = .ok (.if_icmp .ge 54, 3) := by decide +kernel
theorem dX3_der_30 : decode cX3_der 30 = .ok (.iload_n 3, 1) := by decide +kernel
theorem dX3_der_31 : decode cX3_der 31 = .ok (.iconst 1, 1) := by decide +kernel
theorem dX3_der_32 : decode cX3_der 32 = .ok (.isub, 1) := by decide +kernel
theorem dX3_der_33 : decode cX3_der 33 = .ok (.iload 4, 2) := by decide +kernel
theorem dX3_der_35 : decode cX3_der 35 = .ok (.isub, 1) := by decide +kernel
theorem dX3_der_36 : decode cX3_der 36 = .ok (.istore 5, 2) := by decide +kernel
theorem dX3_der_38 : decode cX3_der 38 = .ok (.aload_n 1, 1) := by decide +kernel
theorem dX3_der_39 : decode cX3_der 39 = .ok (.iload_n 2, 1) := by decide +kernel
theorem dX3_der_40 : decode cX3_der 40 = .ok (.iconst 2, 1) := by decide +kernel
theorem dX3_der_41 : decode cX3_der 41 = .ok (.iadd, 1) := by decide +kernel
theorem dX3_der_42 : decode cX3_der 42 = .ok (.iload 4, 2) := by decide +kernel
theorem dX3_der_44 : decode cX3_der 44 = .ok (.iadd, 1) := by decide +kernel
theorem dX3_der_45 : decode cX3_der 45 = .ok (.iload 5, 2) := by decide +kernel
theorem dX3_der_47 : decode cX3_der 47 = .ok (.bipush 32, 2) := by decide +kernel
theorem dX3_der_49 : decode cX3_der 49 = .ok (.if_icmp .ge 23, 3) := by decide +kernel
theorem dX3_der_52 : decode cX3_der 52 = .ok (.aload_n 0, 1) := by decide +kernel
theorem dX3_der_53 : decode cX3_der 53 = .ok (.getfield 162, 3) := by decide +kernel
theorem dX3_der_56 : decode cX3_der 56 = .ok (.iload 5, 2) := by decide +kernel
theorem dX3_der_58 : decode cX3_der 58 = .ok (.iconst 2, 1) := by decide +kernel
theorem dX3_der_59 : decode cX3_der 59 = .ok (.ishr, 1) := by decide +kernel
theorem dX3_der_60 : decode cX3_der 60 = .ok (.iaload, 1) := by decide +kernel
theorem dX3_der_61 : decode cX3_der 61 = .ok (.bipush 8, 2) := by decide +kernel
theorem dX3_der_63 : decode cX3_der 63 = .ok (.iload 5, 2) := by decide +kernel
theorem dX3_der_65 : decode cX3_der 65 = .ok (.iconst 3, 1) := by decide +kernel
theorem dX3_der_66 : decode cX3_der 66 = .ok (.iand, 1) := by decide +kernel
theorem dX3_der_67 : decode cX3_der 67 = .ok (.imul, 1) := by decide +kernel
theorem dX3_der_68 : decode cX3_der 68 = .ok (.ishr, 1) := by decide +kernel
theorem dX3_der_69 : decode cX3_der 69 = .ok (.goto 4, 3) := by decide +kernel
theorem dX3_der_72 : decode cX3_der 72 = .ok (.iconst 0, 1) := by decide +kernel
theorem dX3_der_73 : decode cX3_der 73 = .ok (.i2b, 1) := by decide +kernel
theorem dX3_der_74 : decode cX3_der 74 = .ok (.bastore, 1) := by decide +kernel
theorem dX3_der_75 : decode cX3_der 75 = .ok (.iinc 4 1, 3) := by decide +kernel
theorem dX3_der_78 : decode cX3_der 78 = .ok (.goto (-54), 3) := by decide +kernel
theorem dX3_der_81 : decode cX3_der 81 = .ok (.iload_n 3, 1) := by decide +kernel
theorem dX3_der_82 : decode cX3_der 82 = .ok (.iconst 2, 1) := by decide +kernel
theorem dX3_der_83 : decode cX3_der 83 = .ok (.iadd, 1) := by decide +kernel
theorem dX3_der_84 : decode cX3_der 84 = .ok (.ireturn, 1) := by decide +kernel
/-! CoinJudge$Curve.der(LCoinJudge$Big;[BI)I -/
set_option maxHeartbeats 4000000 in
theorem sX3_der_0 {G : Gx} {d t : Nat} {h0 : AH} {Φ : Out → AH → Prop} (h : AH) (v0 : Nat) (v1 : Nat) (v2 : Int32) (K : h.kd v0 = 5 ∧ Cw G mX5_length d 0 [vR v0] h (kI (fun x1 h2 => h2.kd v1 = 101 ∧ vp_in v2 (h2.ai v1).length ∧ ∀ h6 : AH, h6 = h2.wi v1 ((h2.ai v1).set (v2.toNatClampNeg) (i2b 2)) → vp_in (v2 + 1) (h6.ai v1).length ∧ ∀ h9 : AH, h9 = h6.wi v1 ((h6.ai v1).set ((v2 + 1).toNatClampNeg) (i2b (i2b ((x1 / 8) + 1)))) → Aw G mX3_der (d + 1) t h0 Φ 24 [vR v0, vR v1, vI v2, vI ((x1 / 8) + 1), vI 0, vU] [] h9) (fun x h => Φ (.inr x) h))) : Aw G mX3_der (d + 1) t h0 Φ 0 [vR v0, vR v1, vI v2, vU, vU, vU] [] h := by
  refine r_aload_n (pc := 0) dX3_der_0 rfl ?_
  obtain ⟨hk3, K⟩ := K
  refine r_callV_I (pc := 1) (Y := mX5_length) (vs := []) (st := []) hk3 rfl kc5 q1457 q859 q860 dX3_der_1 rfl cd_X5_length rfl rfl fp_X3_der_X5_length K (fun x1 h2 eh2 wh2 K => ?_) (fun x h1 _ _ e => Tw.out rfl e)
  refine r_bipush (pc := 4) (x := 8) dX3_der_4 rfl ?_
  refine r_idiv (pc := 6) (by decide) dX3_der_6 ?_
  refine r_iconst (pc := 7) (x := 1) dX3_der_7 rfl ?_
  refine r_iadd (pc := 8) dX3_der_8 ?_
  refine r_istore_n (pc := 9) (lv' := [_, _, _, _, _, _]) dX3_der_9 (by decide) rfl ?_
  refine r_aload_n (pc := 10) dX3_der_10 rfl ?_
  refine r_iload_n (pc := 11) dX3_der_11 rfl ?_
  refine r_iconst (pc := 12) (x := 2) dX3_der_12 rfl ?_
  obtain ⟨hk4, K⟩ := K
  obtain ⟨hi5, K⟩ := K
  refine r_jbast (pc := 13) hk4 hi5 (Or.inl (em rfl)) dX3_der_13 ?_
  refine r_nameH (fun h6 eh6 => ?_)
  have K := K h6 eh6
  refine r_aload_n (pc := 14) dX3_der_14 rfl ?_
  refine r_iload_n (pc := 15) dX3_der_15 rfl ?_
  refine r_iconst (pc := 16) (x := 1) dX3_der_16 rfl ?_
  refine r_iadd (pc := 17) dX3_der_17 ?_
  refine r_iload_n (pc := 18) dX3_der_18 rfl ?_
  refine r_ji2b (pc := 19) dX3_der_19 ?_
  have hk7 := kd_wi eh6 hk4
  obtain ⟨hi8, K⟩ := K
  refine r_jbast (pc := 20) hk7 hi8 (Or.inl (em rfl)) dX3_der_20 ?_
  refine r_nameH (fun h9 eh9 => ?_)
  have K := K h9 eh9
  refine r_iconst (pc := 21) (x := 0) dX3_der_21 rfl ?_
  refine r_istore (pc := 22) (lv' := [_, _, _, _, _, _]) dX3_der_22 (by decide) rfl ?_
  refine r_mask (pc := 24) [true, true, true, true, true, false] rfl ?_
  exact K
theorem eX3_der {G : Gx} {d : Nat} {Φ : Out → AH → Prop} (h : AH) (v0 : Nat) (v1 : Nat) (v2 : Int32) (K : WF G h → Aw G mX3_der (d + 1) 0 h Φ 0 [vR v0, vR v1, vI v2, vU, vU, vU] [] h) : Cw G mX3_der (d + 1) 0 [vR v0, vR v1, vI v2] h Φ := Cw.of rfl K
set_option maxHeartbeats 4000000 in
theorem sX3_der_24 {G : Gx} {d t : Nat} {h0 : AH} {Φ : Out → AH → Prop} (h : AH) (v0 : Nat) (v1 : Nat) (v2 : Int32) (v3 : Int32) (v4 : Int32) (K : ((v3 ≤ v4 → Φ (.inl (some (vI (v3 + 2)))) h) ∧ (¬ v3 ≤ v4 → ((32 ≤ ((v3 - 1) - v4) → h.kd v1 = 101 ∧ vp_in ((v2 + 2) + v4) (h.ai v1).length ∧ ∀ h5 : AH, h5 = h.wi v1 ((h.ai v1).set (((v2 + 2) + v4).toNatClampNeg) (i2b (i2b 0))) → Aw G mX3_der (d + 1) t h0 Φ 24 [vR v0, vR v1, vI v2, vI v3, vI (v4 + 1), vU] [] h5) ∧ (¬ 32 ≤ ((v3 - 1) - v4) → h.kd v0 = 5 ∧ ∀ r7 : Nat, r7 = (h.r 5000 v0) → h.kd r7 = 100 ∧ vp_in (jshr ((v3 - 1) - v4) 2) (h.ai r7).length ∧ h.kd v1 = 101 ∧ vp_in ((v2 + 2) + v4) (h.ai v1).length ∧ ∀ h12 : AH, h12 = h.wi v1 ((h.ai v1).set (((v2 + 2) + v4).toNatClampNeg) (i2b (i2b (jshr ((h.ai r7).getD ((jshr ((v3 - 1) - v4) 2).toNatClampNeg) 0) (8 * (((v3 - 1) - v4) &&& 3)))))) → Aw G mX3_der (d + 1) t h0 Φ 24 [vR v0, vR v1, vI v2, vI v3, vI (v4 + 1), vU] [] h12))))) : Aw G mX3_der (d + 1) t h0 Φ 24 [vR v0, vR v1, vI v2, vI v3, vI v4, vU] [] h := by
  refine r_iload (pc := 24) dX3_der_24 rfl ?_
  refine r_iload_n (pc := 26) dX3_der_26 rfl ?_
  refine r_icmp_ge (pc := 27) (tgt := 81) dX3_der_27 rfl (fun c1 => ?_) (fun c1 => ?_)
  · have K := K.1 c1
    refine r_iload_n (pc := 81) dX3_der_81 rfl ?_
    refine r_iconst (pc := 82) (x := 2) dX3_der_82 rfl ?_
    refine r_iadd (pc := 83) dX3_der_83 ?_
    exact r_iret (pc := 84) rfl rfl dX3_der_84 K
  · have K := K.2 c1
    refine r_iload_n (pc := 30) dX3_der_30 rfl ?_
    refine r_iconst (pc := 31) (x := 1) dX3_der_31 rfl ?_
    refine r_isub (pc := 32) dX3_der_32 ?_
    refine r_iload (pc := 33) dX3_der_33 rfl ?_
    refine r_isub (pc := 35) dX3_der_35 ?_
    refine r_istore (pc := 36) (lv' := [_, _, _, _, _, _]) dX3_der_36 (by decide) rfl ?_
    refine r_aload_n (pc := 38) dX3_der_38 rfl ?_
    refine r_iload_n (pc := 39) dX3_der_39 rfl ?_
    refine r_iconst (pc := 40) (x := 2) dX3_der_40 rfl ?_
    refine r_iadd (pc := 41) dX3_der_41 ?_
    refine r_iload (pc := 42) dX3_der_42 rfl ?_
    refine r_iadd (pc := 44) dX3_der_44 ?_
    refine r_iload (pc := 45) dX3_der_45 rfl ?_
    refine r_bipush (pc := 47) (x := 32) dX3_der_47 rfl ?_
    refine r_icmp_ge (pc := 49) (tgt := 72) dX3_der_49 rfl (fun c2 => ?_) (fun c2 => ?_)
    · have K := K.1 c2
      refine r_iconst (pc := 72) (x := 0) dX3_der_72 rfl ?_
      refine r_ji2b (pc := 73) dX3_der_73 ?_
      obtain ⟨hk3, K⟩ := K
      obtain ⟨hi4, K⟩ := K
      refine r_jbast (pc := 74) hk3 hi4 (Or.inl (em rfl)) dX3_der_74 ?_
      refine r_nameH (fun h5 eh5 => ?_)
      have K := K h5 eh5
      refine r_iinc (pc := 75) (lv' := [_, _, _, _, _, _]) dX3_der_75 rfl rfl (by decide) rfl ?_
      refine r_goto (pc := 78) (tgt := 24) dX3_der_78 rfl ?_
      refine r_mask (pc := 24) [true, true, true, true, true, false] rfl ?_
      exact K
    · have K := K.2 c2
      refine r_aload_n (pc := 52) dX3_der_52 rfl ?_
      obtain ⟨hk6, K⟩ := K
      have K := K _ rfl
      refine r_getr' (pc := 53) (T := TX5) 5 0 rfl hk6 (Or.inr (Or.inl ⟨_, q302⟩)) dX3_der_53 kc5 g5000 ?_
      refine r_iload (pc := 56) dX3_der_56 rfl ?_
      refine r_iconst (pc := 58) (x := 2) dX3_der_58 rfl ?_
      refine r_jshr (pc := 59) dX3_der_59 ?_
      obtain ⟨hk8, K⟩ := K
      obtain ⟨hi9, K⟩ := K
      refine r_iaload (pc := 60) hk8 hi9 dX3_der_60 ?_
      refine r_bipush (pc := 61) (x := 8) dX3_der_61 rfl ?_
      refine r_iload (pc := 63) dX3_der_63 rfl ?_
      refine r_iconst (pc := 65) (x := 3) dX3_der_65 rfl ?_
      refine r_iand (pc := 66) dX3_der_66 ?_
      refine r_imul (pc := 67) dX3_der_67 ?_
      refine r_jshr (pc := 68) dX3_der_68 ?_
      refine r_goto (pc := 69) (tgt := 73) dX3_der_69 rfl ?_
      refine r_ji2b (pc := 73) dX3_der_73 ?_
      obtain ⟨hk10, K⟩ := K
      obtain ⟨hi11, K⟩ := K
      refine r_jbast (pc := 74) hk10 hi11 (Or.inl (em rfl)) dX3_der_74 ?_
      refine r_nameH (fun h12 eh12 => ?_)
      have K := K h12 eh12
      refine r_iinc (pc := 75) (lv' := [_, _, _, _, _, _]) dX3_der_75 rfl rfl (by decide) rfl ?_
      refine r_goto (pc := 78) (tgt := 24) dX3_der_78 rfl ?_
      refine r_mask (pc := 24) [true, true, true, true, true, false] rfl ?_
      exact K
theorem dX3_sign_0 : decode cX3_sign 0 = .ok (.aload_n 0, 1) := by decide +kernel
theorem dX3_sign_1 : decode cX3_sign 1 = .ok (.aload_n 0, 1) := by decide +kernel
theorem dX3_sign_2 : decode cX3_sign 2 = .ok (.getfield 64, 3) := by decide +kernel
theorem dX3_sign_5 : decode cX3_sign 5 = .ok (.aload_n 2, 1) := by decide +kernel
theorem dX3_sign_6 : decode cX3_sign 6 = .ok (.aload_n 0, 1) := by decide +kernel
theorem dX3_sign_7 : decode cX3_sign 7 = .ok (.getfield 35, 3) := by decide +kernel
theorem dX3_sign_10 : decode cX3_sign 10 = .ok (.invokevirtual 184, 3) := by decide +kernel
theorem dX3_sign_13 : decode cX3_sign 13 = .ok (.aload_n 0, 1) := by decide +kernel
theorem dX3_sign_14 : decode cX3_sign 14 = .ok (.aload_n 0, 1) := by decide +kernel
theorem dX3_sign_15 : decode cX3_sign 15 = .ok (.getfield 64, 3) := by decide +kernel
theorem dX3_sign_18 : decode cX3_sign 18 = .ok (.invokevirtual 188, 3) := by decide +kernel
theorem dX3_sign_21 : decode cX3_sign 21 = .ok (.aload_n 0, 1) := by decide +kernel
theorem dX3_sign_22 : decode cX3_sign 22 = .ok (.getfield 29, 3) := by decide +kernel
theorem dX3_sign_25 : decode cX3_sign 25 = .ok (.aload_n 0, 1) := by decide +kernel
theorem dX3_sign_26 : decode cX3_sign 26 = .ok (.getfield 64, 3) := by decide +kernel
theorem dX3_sign_29 : decode cX3_sign 29 = .ok (.getfield 85, 3) := by decide +kernel
theorem dX3_sign_32 : decode cX3_sign 32 = .ok (.invokevirtual 181, 3) := by decide +kernel
theorem dX3_sign_35 : decode cX3_sign 35 = .ok (.aload_n 0, 1) := by decide +kernel
theorem dX3_sign_36 : decode cX3_sign 36 = .ok (.getfield 70, 3) := by decide +kernel
theorem dX3_sign_39 : decode cX3_sign 39 = .ok (.aload_n 0, 1) := by decide +kernel
theorem dX3_sign_40 : decode cX3_sign 40 = .ok (.getfield 64, 3) := by decide +kernel
theorem dX3_sign_43 : decode cX3_sign 43 = .ok (.getfield 85, 3) := by decide +kernel
theorem dX3_sign_46 : decode cX3_sign 46 = .ok (.invokevirtual 195, 3) := by decide +kernel
theorem dX3_sign_49 : decode cX3_sign 49 = .ok (.pop, 1) := by decide +kernel
theorem dX3_sign_50 : decode cX3_sign 50 = .ok (.aload_n 0, 1) := by decide +kernel
theorem dX3_sign_51 : decode cX3_sign 51 = .ok (.getfield 76, 3) := by decide +kernel
theorem dX3_sign_54 : decode cX3_sign 54 = .ok (.aload_n 3, 1) := by decide +kernel
theorem dX3_sign_55 : decode cX3_sign 55 = .ok (.iconst 0, 1) := by decide +kernel
theorem dX3_sign_56 : decode cX3_sign 56 = .ok (.bipush 32, 2) := by decide +kernel
theorem dX3_sign_58 : decode cX3_sign 58 = .ok (.invokevirtual 146, 3) := by decide +kernel
theorem dX3_sign_61 : decode cX3_sign 61 = .ok (.pop, 1) := by decide +kernel
theorem dX3_sign_62 : decode cX3_sign 62 = .ok (.aload_n 0, 1) := by decide +kernel
theorem dX3_sign_63 : decode cX3_sign 63 = .ok (.getfield 29, 3) := by decide +kernel
theorem dX3_sign_66 : decode cX3_sign 66 = .ok (.aload_n 0, 1) := by decide +kernel
theorem dX3_sign_67 : decode cX3_sign 67 = .ok (.getfield 76, 3) := by decide +kernel
theorem dX3_sign_70 : decode cX3_sign 70 = .ok (.invokevirtual 181, 3) := by decide +kernel
theorem dX3_sign_73 : decode cX3_sign 73 = .ok (.aload_n 0, 1) := by decide +kernel
theorem dX3_sign_74 : decode cX3_sign 74 = .ok (.getfield 29, 3) := by decide +kernel
theorem dX3_sign_77 : decode cX3_sign 77 = .ok (.aload_n 0, 1) := by decide +kernel
theorem dX3_sign_78 : decode cX3_sign 78 = .ok (.getfield 79, 3) := by decide +kernel
theorem dX3_sign_81 : decode cX3_sign 81 = .ok (.aload_n 0, 1) := by decide +kernel
theorem dX3_sign_82 : decode cX3_sign 82 = .ok (.getfield 70, 3) := by decide +kernel
theorem dX3_sign_85 : decode cX3_sign 85 = .ok (.aload_n 1, 1) := by decide +kernel
theorem dX3_sign_86 : decode cX3_sign 86 = .ok (.invokevirtual 106, 3) := by decide +kernel
theorem dX3_sign_89 : decode cX3_sign 89 = .ok (.aload_n 0, 1) := by decide +kernel
theorem dX3_sign_90 : decode cX3_sign 90 = .ok (.getfield 29, 3) := by decide +kernel
theorem dX3_sign_93 : decode cX3_sign 93 = .ok (.aload_n 0, 1) := by decide +kernel
theorem dX3_sign_94 : decode cX3_sign 94 = .ok (.getfield 79, 3) := by decide +kernel
theorem dX3_sign_97 : decode cX3_sign 97 = .ok (.aload_n 0, 1) := by decide +kernel
theorem dX3_sign_98 : decode cX3_sign 98 = .ok (.getfield 79, 3) := by decide +kernel
theorem dX3_sign_101 : decode cX3_sign 101 = .ok (.aload_n 0, 1) := by decide +kernel
theorem dX3_sign_102 : decode cX3_sign 102 = .ok (.getfield 76, 3) := by decide +kernel
theorem dX3_sign_105 : decode cX3_sign 105 = .ok (.invokevirtual 110, 3) := by decide +kernel
theorem dX3_sign_108 : decode cX3_sign 108 = .ok (.aload_n 0, 1) := by decide +kernel
theorem dX3_sign_109 : decode cX3_sign 109 = .ok (.getfield 29, 3) := by decide +kernel
theorem dX3_sign_112 : decode cX3_sign 112 = .ok (.aload_n 0, 1) := by decide +kernel
theorem dX3_sign_113 : decode cX3_sign 113 = .ok (.getfield 82, 3) := by decide +kernel
theorem dX3_sign_116 : decode cX3_sign 116 = .ok (.aload_n 2, 1) := by decide +kernel
theorem dX3_sign_117 : decode cX3_sign 117 = .ok (.invokevirtual 142, 3) := by decide +kernel
theorem dX3_sign_120 : decode cX3_sign 120 = .ok (.aload_n 0, 1) := by decide +kernel
theorem dX3_sign_121 : decode cX3_sign 121 = .ok (.getfield 29, 3) := by decide +kernel
theorem dX3_sign_124 : decode cX3_sign 124 = .ok (.aload_n 0, 1) := by decide +kernel
theorem dX3_sign_125 : decode cX3_sign 125 = .ok (.getfield 73, 3) := by decide +kernel
theorem dX3_sign_128 : decode cX3_sign 128 = .ok (.aload_n 0, 1) := by decide +kernel
theorem dX3_sign_129 : decode cX3_sign 129 = .ok (.getfield 79, 3) := by decide +kernel
theorem dX3_sign_132 : decode cX3_sign 132 = .ok (.aload_n 0, 1) := by decide +kernel
theorem dX3_sign_133 : decode cX3_sign 133 = .ok (.getfield 82, 3) := by decide +kernel
theorem dX3_sign_136 : decode cX3_sign 136 = .ok (.invokevirtual 106, 3) := by decide +kernel
theorem dX3_sign_139 : decode cX3_sign 139 = .ok (.iconst 2, 1) := by decide +kernel
theorem dX3_sign_140 : decode cX3_sign 140 = .ok (.istore 5, 2) := by decide +kernel
theorem dX3_sign_142 : decode cX3_sign 142 = .ok (.iload 5, 2) := by decide +kernel
theorem dX3_sign_144 : decode cX3_sign 144 = .ok (.aload_n 0, 1) := by decide +kernel
theorem dX3_sign_145 : decode cX3_sign 145 = .ok (.getfield 70, 3) := by decide +kernel
theorem dX3_sign_148 : decode cX3_sign 148 = .ok (.aload 4, 2) := by decide +kernel
theorem dX3_sign_150 : decode cX3_sign 150 = .ok (.iload 5, 2) := by decide +kernel
theorem dX3_sign_152 : decode cX3_sign 152 = .ok (.invokestatic 198, 3) := by decide +kernel
theorem dX3_sign_155 : decode cX3_sign 155 = .ok (.iadd, 1) := by decide +kernel
theorem dX3_sign_156 : decode cX3_sign 156 = .ok (.istore 5, 2) := by decide +kernel
theorem dX3_sign_158 : decode cX3_sign 158 = .ok (.iload 5, 2) := by decide +kernel
theorem dX3_sign_160 : decode cX3_sign 160 = .ok (.aload_n 0, 1) := by decide +kernel
theorem dX3_sign_161 : decode cX3_sign 161 = .ok (.getfield 73, 3) := by decide +kernel
theorem dX3_sign_164 : decode cX3_sign 164 = .ok (.aload 4, 2) := by decide +kernel
theorem dX3_sign_166 : decode cX3_sign 166 = .ok (.iload 5, 2) := by decide +kernel
theorem dX3_sign_168 : decode cX3_sign 168 = .ok (.invokestatic 198, 3) := by decide +kernel
theorem dX3_sign_171 : decode cX3_sign 171 = .ok (.iadd, 1) := by decide +kernel
theorem dX3_sign_172 : decode cX3_sign 172 = .ok (.istore 5, 2) := by decide +kernel
theorem dX3_sign_174 : decode cX3_sign 174 = .ok (.aload 4, 2) := by decide +kernel
theorem dX3_sign_176 : decode cX3_sign 176 = .ok (.iconst 0, 1) := by decide +kernel
theorem dX3_sign_177 : decode cX3_sign 177 = .ok (.bipush 48, 2) := by decide +kernel
theorem dX3_sign_179 : decode cX3_sign 179 = .ok (.bastore, 1) := by decide +kernel
theorem dX3_sign_180 : decode cX3_sign 180 = .ok (.aload 4, 2) := by decide +kernel
theorem dX3_sign_182 : decode cX3_sign 182 = .ok (.iconst 1, 1) := by decide +kernel
theorem dX3_sign_183 : decode cX3_sign 183 = .ok (.iload 5, 2) := by decide +kernel
theorem dX3_sign_185 : decode cX3_sign 185 = .ok (.iconst 2, 1) := by decide +kernel
theorem dX3_sign_186 : decode cX3_sign 186 = .ok (.isub, 1) := by decide +kernel
theorem dX3_sign_187 : decode cX3_sign 187 = .ok (.i2b, 1) := by decide +kernel
theorem dX3_sign_188 : decode cX3_sign 188 = .ok (.bastore, 1) := by decide +kernel
theorem dX3_sign_189 : decode cX3_sign 189 = .ok (.iload 5, 2) := by decide +kernel
theorem dX3_sign_191 : decode cX3_sign 191 = .ok (.ireturn, 1) := by decide +kernel
/-! CoinJudge$Curve.sign(LCoinJudge$Big;LCoinJudge$Big;[B[B)I -/
set_option maxHeartbeats 4000000 in
theorem sX3_sign_0 {G : Gx} {d t : Nat} {h0 : AH} {Φ : Out → AH → Prop} (h : AH) (v0 : Nat) (v1 : Nat) (v2 : Nat) (v3 : Nat) (v4 : Nat) (K : h.kd v0 = 3 ∧ ∀ r2 : Nat, r2 = (h.r 3011 v0) → ∀ r3 : Nat, r3 = (h.r 3002 v0) → Cw G mX3_times d 0 [vR v0, vR r2, vR v2, vR r3] h (kV (fun h5 => Cw G mX3_plain d 0 [vR v0, vR r2] h5 (kV (fun h10 => ∀ r12 : Nat, r12 = (h10.r 3001 v0) → h10.kd r2 = 6 ∧ ∀ r15 : Nat, r15 = (h10.r 6000 r2) → h10.kd r12 = 4 ∧ Cw G mX4_reduce d 0 [vR r12, vR r15] h10 (kV (fun h17 => ∀ r20 : Nat, r20 = (h17.r 3013 v0) → h17.kd r20 = 5 ∧ Cw G mX5_copy d 0 [vR r20, vR r15] h17 (kR (fun x25 h26 => ∀ r29 : Nat, r29 = (h26.r 3015 v0) → h26.kd r29 = 5 ∧ Cw G mX5_read d 0 [vR r29, vR v3, vI 0, vI 32] h26 (kR (fun x30 h31 => Cw G mX4_reduce d 0 [vR r12, vR r29] h31 (kV (fun h41 => ∀ r47 : Nat, r47 = (h41.r 3016 v0) → Cw G mX4_multiply d 0 [vR r12, vR r47, vR r20, vR v1] h41 (kV (fun h53 => Cw G mX4_add d 0 [vR r12, vR r47, vR r47, vR r29] h53 (kV (fun h62 => ∀ r66 : Nat, r66 = (h62.r 3017 v0) → Cw G mX4_invert d 0 [vR r12, vR r66, vR v2] h62 (kV (fun h68 => ∀ r72 : Nat, r72 = (h68.r 3014 v0) → Cw G mX4_multiply d 0 [vR r12, vR r72, vR r47, vR r66] h68 (kV (fun h78 => Cw G mX3_der d 0 [vR r20, vR v4, vI 2] h78 (kI (fun x85 h86 => Cw G mX3_der d 0 [vR r72, vR v4, vI (2 + x85)] h86 (kI (fun x91 h92 => h92.kd v4 = 101 ∧ vp_in 0 (h92.ai v4).length ∧ ∀ h95 : AH, h95 = h92.wi v4 ((h92.ai v4).set ((0 : Int32).toNatClampNeg) (i2b 48)) → vp_in 1 (h95.ai v4).length ∧ ∀ h98 : AH, h98 = h95.wi v4 ((h95.ai v4).set ((1 : Int32).toNatClampNeg) (i2b (i2b (((2 + x85) + x91) - 2)))) → Φ (.inl (some (vI ((2 + x85) + x91)))) h98) (fun x h => Φ (.inr x) h))) (fun x h => Φ (.inr x) h))) (fun x h => Φ (.inr x) h))) (fun x h => Φ (.inr x) h))) (fun x h => Φ (.inr x) h))) (fun x h => Φ (.inr x) h))) (fun x h => Φ (.inr x) h))) (fun x h => Φ (.inr x) h))) (fun x h => Φ (.inr x) h))) (fun x h => Φ (.inr x) h))) (fun x h => Φ (.inr x) h))) (fun x h => Φ (.inr x) h))) : Aw G mX3_sign (d + 1) t h0 Φ 0 [vR v0, vR v1, vR v2, vR v3, vR v4, vU] [] h := by
  refine r_aload_n (pc := 0) dX3_sign_0 rfl ?_
  refine r_aload_n (pc := 1) dX3_sign_1 rfl ?_
  obtain ⟨hk1, K⟩ := K
  have K := K _ rfl
  refine r_getr' (pc := 2) (T := TX3) 3 11 rfl hk1 (Or.inl q446) dX3_sign_2 kc3 g3011 ?_
  refine r_aload_n (pc := 5) dX3_sign_5 rfl ?_
  refine r_aload_n (pc := 6) dX3_sign_6 rfl ?_
  have K := K _ rfl
  refine r_getr' (pc := 7) (T := TX3) 3 2 rfl hk1 (Or.inl q437) dX3_sign_7 kc3 g3002 ?_
  refine r_callV_V (pc := 10) (Y := mX3_times) (vs := [_, _, _]) (st := []) hk1 rfl kc3 q1453 q1455 qs30 dX3_sign_10 rfl cd_X3_times rfl rfl fp_X3_sign_X3_times K (fun h5 eh5 wh5 K => ?_) (fun x h1 _ _ e => Tw.out rfl e)
  refine r_aload_n (pc := 13) dX3_sign_13 rfl ?_
  refine r_aload_n (pc := 14) dX3_sign_14 rfl ?_
  have hk6 := kd_ext eh5 hk1 (nz rfl)
  have hv7 := fr_self (key := 3011) hk1
  have hv8 := (fr_ext (key := 3011) eh5 hk1 (nz rfl) (ne0 wh5 hk6 (nz rfl)) (nm rfl)).trans hv7
  refine r_getr' (pc := 15) (T := TX3) 3 11 hv8 hk6 (Or.inl q446) dX3_sign_15 kc3 g3011 ?_
  refine r_callV_V (pc := 18) (Y := mX3_plain) (vs := [_]) (st := []) hk6 rfl kc3 q1476 q1478 qs33 dX3_sign_18 rfl cd_X3_plain rfl rfl fp_X3_sign_X3_plain K (fun h10 eh10 wh10 K => ?_) (fun x h1 _ _ e => Tw.out rfl e)
  refine r_aload_n (pc := 21) dX3_sign_21 rfl ?_
  have hk11 := kd_ext eh10 hk6 (nz rfl)
  have K := K _ rfl
  refine r_getr' (pc := 22) (T := TX3) 3 1 rfl hk11 (Or.inl q436) dX3_sign_22 kc3 g3001 ?_
  refine r_aload_n (pc := 25) dX3_sign_25 rfl ?_
  have hv13 := (fr_ext (key := 3011) eh10 hk6 (nz rfl) (ne0 wh10 hk11 (nz rfl)) (nm rfl)).trans hv8
  refine r_getr' (pc := 26) (T := TX3) 3 11 hv13 hk11 (Or.inl q446) dX3_sign_26 kc3 g3011 ?_
  obtain ⟨hk14, K⟩ := K
  have K := K _ rfl
  refine r_getr' (pc := 29) (T := TX6) 6 0 rfl hk14 (Or.inr (Or.inl ⟨_, q417⟩)) dX3_sign_29 kc6 g6000 ?_
  obtain ⟨hk18, K⟩ := K
  refine r_callV_V (pc := 32) (Y := mX4_reduce) (vs := [_]) (st := []) hk18 rfl kc4 q1443 q1444 q1445 dX3_sign_32 rfl cd_X4_reduce rfl rfl fp_X3_sign_X4_reduce K (fun h17 eh17 wh17 K => ?_) (fun x h1 _ _ e => Tw.out rfl e)
  refine r_aload_n (pc := 35) dX3_sign_35 rfl ?_
  have hk19 := kd_ext eh17 hk11 (nz rfl)
  have K := K _ rfl
  refine r_getr' (pc := 36) (T := TX3) 3 13 rfl hk19 (Or.inl q448) dX3_sign_36 kc3 g3013 ?_
  refine r_aload_n (pc := 39) dX3_sign_39 rfl ?_
  have hv21 := (fr_ext (key := 3011) eh17 hk11 (nz rfl) (ne0 wh17 hk19 (nz rfl)) (nm rfl)).trans hv13
  refine r_getr' (pc := 40) (T := TX3) 3 11 hv21 hk19 (Or.inl q446) dX3_sign_40 kc3 g3011 ?_
  have hk22 := kd_ext eh17 hk14 (nz rfl)
  have hv23 := fr_self (key := 6000) hk14
  have hv24 := (fr_ext (key := 6000) eh17 hk14 (nz rfl) (ne0 wh17 hk22 (nz rfl)) (nm rfl)).trans hv23
  refine r_getr' (pc := 43) (T := TX6) 6 0 hv24 hk22 (Or.inr (Or.inl ⟨_, q417⟩)) dX3_sign_43 kc6 g6000 ?_
  obtain ⟨hk27, K⟩ := K
  refine r_callV_R (pc := 46) (Y := mX5_copy) (vs := [_]) (st := []) hk27 rfl kc5 q1983 q1185 q1186 dX3_sign_46 rfl cd_X5_copy rfl rfl fp_X3_sign_X5_copy K (fun x25 h26 eh26 wh26 K => ?_) (fun x h1 _ _ e => Tw.out rfl e)
  refine r_pop (pc := 49) rfl dX3_sign_49 ?_
  refine r_aload_n (pc := 50) dX3_sign_50 rfl ?_
  have hk28 := kd_ext eh26 hk19 (nz rfl)
  have K := K _ rfl
  refine r_getr' (pc := 51) (T := TX3) 3 15 rfl hk28 (Or.inl q450) dX3_sign_51 kc3 g3015 ?_
  refine r_aload_n (pc := 54) dX3_sign_54 rfl ?_
  refine r_iconst (pc := 55) (x := 0) dX3_sign_55 rfl ?_
  refine r_bipush (pc := 56) (x := 32) dX3_sign_56 rfl ?_
  obtain ⟨hk32, K⟩ := K
  refine r_callV_R (pc := 58) (Y := mX5_read) (vs := [_, _, _]) (st := []) hk32 rfl kc5 q1390 q1391 q1392 dX3_sign_58 rfl cd_X5_read rfl rfl fp_X3_sign_X5_read K (fun x30 h31 eh31 wh31 K => ?_) (fun x h1 _ _ e => Tw.out rfl e)
  refine r_pop (pc := 61) rfl dX3_sign_61 ?_
  refine r_aload_n (pc := 62) dX3_sign_62 rfl ?_
  have hk33 := kd_ext eh31 hk28 (nz rfl)
  have hv34 := fr_self (key := 3001) hk11
  have hv35 := (fr_ext (key := 3001) eh17 hk11 (nz rfl) (ne0 wh17 hk19 (nz rfl)) (nm rfl)).trans hv34
  have hv36 := (fr_ext (key := 3001) eh26 hk19 (nz rfl) (ne0 wh26 hk28 (nz rfl)) (nm rfl)).trans hv35
  have hv37 := (fr_ext (key := 3001) eh31 hk28 (nz rfl) (ne0 wh31 hk33 (nz rfl)) (nm rfl)).trans hv36
  refine r_getr' (pc := 63) (T := TX3) 3 1 hv37 hk33 (Or.inl q436) dX3_sign_63 kc3 g3001 ?_
  refine r_aload_n (pc := 66) dX3_sign_66 rfl ?_
  have hv38 := fr_self (key := 3015) hk28
  have hv39 := (fr_ext (key := 3015) eh31 hk28 (nz rfl) (ne0 wh31 hk33 (nz rfl)) (nm rfl)).trans hv38
  refine r_getr' (pc := 67) (T := TX3) 3 15 hv39 hk33 (Or.inl q450) dX3_sign_67 kc3 g3015 ?_
  have hk42 := kd_ext eh17 hk18 (nz rfl)
  have hk43 := kd_ext eh26 hk42 (nz rfl)
  have hk44 := kd_ext eh31 hk43 (nz rfl)
  refine r_callV_V (pc := 70) (Y := mX4_reduce) (vs := [_]) (st := []) hk44 rfl kc4 q1443 q1444 q1445 dX3_sign_70 rfl cd_X4_reduce rfl rfl fp_X3_sign_X4_reduce K (fun h41 eh41 wh41 K => ?_) (fun x h1 _ _ e => Tw.out rfl e)
  refine r_aload_n (pc := 73) dX3_sign_73 rfl ?_
  have hk45 := kd_ext eh41 hk33 (nz rfl)
  have hv46 := (fr_ext (key := 3001) eh41 hk33 (nz rfl) (ne0 wh41 hk45 (nz rfl)) (nm rfl)).trans hv37
  refine r_getr' (pc := 74) (T := TX3) 3 1 hv46 hk45 (Or.inl q436) dX3_sign_74 kc3 g3001 ?_
  refine r_aload_n (pc := 77) dX3_sign_77 rfl ?_
  have K := K _ rfl
  refine r_getr' (pc := 78) (T := TX3) 3 16 rfl hk45 (Or.inl q451) dX3_sign_78 kc3 g3016 ?_
  refine r_aload_n (pc := 81) dX3_sign_81 rfl ?_
  have hv48 := fr_self (key := 3013) hk19
  have hv49 := (fr_ext (key := 3013) eh26 hk19 (nz rfl) (ne0 wh26 hk28 (nz rfl)) (nm rfl)).trans hv48
  have hv50 := (fr_ext (key := 3013) eh31 hk28 (nz rfl) (ne0 wh31 hk33 (nz rfl)) (nm rfl)).trans hv49
  have hv51 := (fr_ext (key := 3013) eh41 hk33 (nz rfl) (ne0 wh41 hk45 (nz rfl)) (nm rfl)).trans hv50
  refine r_getr' (pc := 82) (T := TX3) 3 13 hv51 hk45 (Or.inl q448) dX3_sign_82 kc3 g3013 ?_
  refine r_aload_n (pc := 85) dX3_sign_85 rfl ?_
  have hk54 := kd_ext eh41 hk44 (nz rfl)
  refine r_callV_V (pc := 86) (Y := mX4_multiply) (vs := [_, _, _]) (st := []) hk54 rfl kc4 q1399 q1400 q1401 dX3_sign_86 rfl cd_X4_multiply rfl rfl fp_X3_sign_X4_multiply K (fun h53 eh53 wh53 K => ?_) (fun x h1 _ _ e => Tw.out rfl e)
  refine r_aload_n (pc := 89) dX3_sign_89 rfl ?_
  have hk55 := kd_ext eh53 hk45 (nz rfl)
  have hv56 := (fr_ext (key := 3001) eh53 hk45 (nz rfl) (ne0 wh53 hk55 (nz rfl)) (nm rfl)).trans hv46
  refine r_getr' (pc := 90) (T := TX3) 3 1 hv56 hk55 (Or.inl q436) dX3_sign_90 kc3 g3001 ?_
  refine r_aload_n (pc := 93) dX3_sign_93 rfl ?_
  have hv57 := fr_self (key := 3016) hk45
  have hv58 := (fr_ext (key := 3016) eh53 hk45 (nz rfl) (ne0 wh53 hk55 (nz rfl)) (nm rfl)).trans hv57
  refine r_getr' (pc := 94) (T := TX3) 3 16 hv58 hk55 (Or.inl q451) dX3_sign_94 kc3 g3016 ?_
  refine r_aload_n (pc := 97) dX3_sign_97 rfl ?_
  refine r_getr' (pc := 98) (T := TX3) 3 16 hv58 hk55 (Or.inl q451) dX3_sign_98 kc3 g3016 ?_
  refine r_aload_n (pc := 101) dX3_sign_101 rfl ?_
  have hv59 := (fr_ext (key := 3015) eh41 hk33 (nz rfl) (ne0 wh41 hk45 (nz rfl)) (nm rfl)).trans hv39
  have hv60 := (fr_ext (key := 3015) eh53 hk45 (nz rfl) (ne0 wh53 hk55 (nz rfl)) (nm rfl)).trans hv59
  refine r_getr' (pc := 102) (T := TX3) 3 15 hv60 hk55 (Or.inl q450) dX3_sign_102 kc3 g3015 ?_
  have hk63 := kd_ext eh53 hk54 (nz rfl)
  refine r_callV_V (pc := 105) (Y := mX4_add) (vs := [_, _, _]) (st := []) hk63 rfl kc4 q1414 q1415 q1416 dX3_sign_105 rfl cd_X4_add rfl rfl fp_X3_sign_X4_add K (fun h62 eh62 wh62 K => ?_) (fun x h1 _ _ e => Tw.out rfl e)
  refine r_aload_n (pc := 108) dX3_sign_108 rfl ?_
  have hk64 := kd_ext eh62 hk55 (nz rfl)
  have hv65 := (fr_ext (key := 3001) eh62 hk55 (nz rfl) (ne0 wh62 hk64 (nz rfl)) (nm rfl)).trans hv56
  refine r_getr' (pc := 109) (T := TX3) 3 1 hv65 hk64 (Or.inl q436) dX3_sign_109 kc3 g3001 ?_
  refine r_aload_n (pc := 112) dX3_sign_112 rfl ?_
  have K := K _ rfl
  refine r_getr' (pc := 113) (T := TX3) 3 17 rfl hk64 (Or.inl q452) dX3_sign_113 kc3 g3017 ?_
  refine r_aload_n (pc := 116) dX3_sign_116 rfl ?_
  have hk69 := kd_ext eh62 hk63 (nz rfl)
  refine r_callV_V (pc := 117) (Y := mX4_invert) (vs := [_, _]) (st := []) hk69 rfl kc4 q1447 q1448 q1449 dX3_sign_117 rfl cd_X4_invert rfl rfl fp_X3_sign_X4_invert K (fun h68 eh68 wh68 K => ?_) (fun x h1 _ _ e => Tw.out rfl e)
  refine r_aload_n (pc := 120) dX3_sign_120 rfl ?_
  have hk70 := kd_ext eh68 hk64 (nz rfl)
  have hv71 := (fr_ext (key := 3001) eh68 hk64 (nz rfl) (ne0 wh68 hk70 (nz rfl)) (nm rfl)).trans hv65
  refine r_getr' (pc := 121) (T := TX3) 3 1 hv71 hk70 (Or.inl q436) dX3_sign_121 kc3 g3001 ?_
  refine r_aload_n (pc := 124) dX3_sign_124 rfl ?_
  have K := K _ rfl
  refine r_getr' (pc := 125) (T := TX3) 3 14 rfl hk70 (Or.inl q449) dX3_sign_125 kc3 g3014 ?_
  refine r_aload_n (pc := 128) dX3_sign_128 rfl ?_
  have hv73 := (fr_ext (key := 3016) eh62 hk55 (nz rfl) (ne0 wh62 hk64 (nz rfl)) (nm rfl)).trans hv58
  have hv74 := (fr_ext (key := 3016) eh68 hk64 (nz rfl) (ne0 wh68 hk70 (nz rfl)) (nm rfl)).trans hv73
  refine r_getr' (pc := 129) (T := TX3) 3 16 hv74 hk70 (Or.inl q451) dX3_sign_129 kc3 g3016 ?_
  refine r_aload_n (pc := 132) dX3_sign_132 rfl ?_
  have hv75 := fr_self (key := 3017) hk64
  have hv76 := (fr_ext (key := 3017) eh68 hk64 (nz rfl) (ne0 wh68 hk70 (nz rfl)) (nm rfl)).trans hv75
  refine r_getr' (pc := 133) (T := TX3) 3 17 hv76 hk70 (Or.inl q452) dX3_sign_133 kc3 g3017 ?_
  have hk79 := kd_ext eh68 hk69 (nz rfl)
  refine r_callV_V (pc := 136) (Y := mX4_multiply) (vs := [_, _, _]) (st := []) hk79 rfl kc4 q1399 q1400 q1401 dX3_sign_136 rfl cd_X4_multiply rfl rfl fp_X3_sign_X4_multiply K (fun h78 eh78 wh78 K => ?_) (fun x h1 _ _ e => Tw.out rfl e)
  refine r_iconst (pc := 139) (x := 2) dX3_sign_139 rfl ?_
  refine r_istore (pc := 140) (lv' := [_, _, _, _, _, _]) dX3_sign_140 (by decide) rfl ?_
  refine r_iload (pc := 142) dX3_sign_142 rfl ?_
  refine r_aload_n (pc := 144) dX3_sign_144 rfl ?_
  have hk80 := kd_ext eh78 hk70 (nz rfl)
  have hv81 := (fr_ext (key := 3013) eh53 hk45 (nz rfl) (ne0 wh53 hk55 (nz rfl)) (nm rfl)).trans hv51
  have hv82 := (fr_ext (key := 3013) eh62 hk55 (nz rfl) (ne0 wh62 hk64 (nz rfl)) (nm rfl)).trans hv81
  have hv83 := (fr_ext (key := 3013) eh68 hk64 (nz rfl) (ne0 wh68 hk70 (nz rfl)) (nm rfl)).trans hv82
  have hv84 := (fr_ext (key := 3013) eh78 hk70 (nz rfl) (ne0 wh78 hk80 (nz rfl)) (nm rfl)).trans hv83
  refine r_getr' (pc := 145) (T := TX3) 3 13 hv84 hk80 (Or.inl q448) dX3_sign_145 kc3 g3013 ?_
  refine r_aload (pc := 148) dX3_sign_148 rfl ?_
  refine r_iload (pc := 150) dX3_sign_150 rfl ?_
  refine r_callS_I (pc := 152) (Y := mX3_der) (vs := [_, _, _]) (st := [_]) q1984 q1985 q153 dX3_sign_152 rfl cd_X3_der rfl rfl fp_X3_sign_X3_der K (fun x85 h86 eh86 wh86 K => ?_) (fun x h1 _ _ e => Tw.out rfl e)
  refine r_iadd (pc := 155) dX3_sign_155 ?_
  refine r_istore (pc := 156) (lv' := [_, _, _, _, _, _]) dX3_sign_156 (by decide) rfl ?_
  refine r_iload (pc := 158) dX3_sign_158 rfl ?_
  refine r_aload_n (pc := 160) dX3_sign_160 rfl ?_
  have hk87 := kd_ext eh86 hk80 (nz rfl)
  have hv88 := fr_self (key := 3014) hk70
  have hv89 := (fr_ext (key := 3014) eh78 hk70 (nz rfl) (ne0 wh78 hk80 (nz rfl)) (nm rfl)).trans hv88
  have hv90 := (fr_ext (key := 3014) eh86 hk80 (nz rfl) (ne0 wh86 hk87 (nz rfl)) (nm rfl)).trans hv89
  refine r_getr' (pc := 161) (T := TX3) 3 14 hv90 hk87 (Or.inl q449) dX3_sign_161 kc3 g3014 ?_
  refine r_aload (pc := 164) dX3_sign_164 rfl ?_
  refine r_iload (pc := 166) dX3_sign_166 rfl ?_
  refine r_callS_I (pc := 168) (Y := mX3_der) (vs := [_, _, _]) (st := [_]) q1984 q1985 q153 dX3_sign_168 rfl cd_X3_der rfl rfl fp_X3_sign_X3_der K (fun x91 h92 eh92 wh92 K => ?_) (fun x h1 _ _ e => Tw.out rfl e)
  refine r_iadd (pc := 171) dX3_sign_171 ?_
  refine r_istore (pc := 172) (lv' := [_, _, _, _, _, _]) dX3_sign_172 (by decide) rfl ?_
  refine r_aload (pc := 174) dX3_sign_174 rfl ?_
  refine r_iconst (pc := 176) (x := 0) dX3_sign_176 rfl ?_
  refine r_bipush (pc := 177) (x := 48) dX3_sign_177 rfl ?_
  obtain ⟨hk93, K⟩ := K
  obtain ⟨hi94, K⟩ := K
  refine r_jbast (pc := 179) hk93 hi94 (Or.inl (em rfl)) dX3_sign_179 ?_
  refine r_nameH (fun h95 eh95 => ?_)
  have K := K h95 eh95
  refine r_aload (pc := 180) dX3_sign_180 rfl ?_
  refine r_iconst (pc := 182) (x := 1) dX3_sign_182 rfl ?_
  refine r_iload (pc := 183) dX3_sign_183 rfl ?_
  refine r_iconst (pc := 185) (x := 2) dX3_sign_185 rfl ?_
  refine r_isub (pc := 186) dX3_sign_186 ?_
  refine r_ji2b (pc := 187) dX3_sign_187 ?_
  have hk96 := kd_wi eh95 hk93
  obtain ⟨hi97, K⟩ := K
  refine r_jbast (pc := 188) hk96 hi97 (Or.inl (em rfl)) dX3_sign_188 ?_
  refine r_nameH (fun h98 eh98 => ?_)
  have K := K h98 eh98
  refine r_iload (pc := 189) dX3_sign_189 rfl ?_
  exact r_iret (pc := 191) rfl rfl dX3_sign_191 K
theorem eX3_sign {G : Gx} {d : Nat} {Φ : Out → AH → Prop} (h : AH) (v0 : Nat) (v1 : Nat) (v2 : Nat) (v3 : Nat) (v4 : Nat) (K : WF G h → Aw G mX3_sign (d + 1) 0 h Φ 0 [vR v0, vR v1, vR v2, vR v3, vR v4, vU] [] h) : Cw G mX3_sign (d + 1) 0 [vR v0, vR v1, vR v2, vR v3, vR v4] h Φ := Cw.of rfl K
theorem dX3_integer_0 : decode cX3_integer 0 = .ok (.iload_n 1, 1) := by decide +kernel
theorem dX3_integer_1 : decode cX3_integer 1 = .ok (.iconst 2, 1) := by decide +kernel
theorem dX3_integer_2 : decode cX3_integer 2 = .ok (.iadd, 1) := by decide +kernel
theorem dX3_integer_3 : decode cX3_integer 3 = .ok (.iload_n 2, 1) := by decide +kernel
theorem dX3_integer_4 : decode cX3_integer 4 = .ok (.if_icmp .gt 10, 3) := by decide +kernel
theorem dX3_integer_7 : decode cX3_integer 7 = .ok (.aload_n 0, 1) := by decide +kernel
theorem dX3_integer_8 : decode cX3_integer 8 = .ok (.iload_n 1, 1) := by decide +kernel
theorem dX3_integer_9 : decode cX3_integer 9 = .ok (.baload, 1) := by decide +kernel
theorem dX3_integer_10 : decode cX3_integer 10 = .ok (.iconst 2, 1) := by decide +kernel
theorem dX3_integer_11 : decode cX3_integer 11 = .ok (.if_icmp .eq 5, 3) := by decide +kernel
theorem dX3_integer_14 : decode cX3_integer 14 = .ok (.iconst 0, 1) := by decide +kernel
theorem dX3_integer_15 : decode cX3_integer 15 = .ok (.ireturn, 1) := by decide +kernel
theorem dX3_integer_16 : decode cX3_integer 16 = .ok (.aload_n 0, 1) := by decide +kernel
theorem dX3_integer_17 : decode cX3_integer 17 = .ok (.iload_n 1, 1) := by decide +kernel
theorem dX3_integer_18 : decode cX3_integer 18 = .ok (.iconst 1, 1) := by decide +kernel
theorem dX3_integer_19 : decode cX3_integer 19 = .ok (.iadd, 1) := by decide +kernel
theorem dX3_integer_20 : decode cX3_integer 20 = .ok (.baload, 1) := by decide +kernel
theorem dX3_integer_21 : decode cX3_integer 21 = .ok (.istore_n 3, 1) := by decide +kernel
theorem dX3_integer_22 : decode cX3_integer 22 = .ok (.iload_n 3, 1) := by decide +kernel
theorem dX3_integer_23 : decode cX3_integer 23 = .ok (.iconst 1, 1) := by decide +kernel
theorem dX3_integer_24 : decode cX3_integer 24 = .ok (.if_icmp .lt 20, 3) := by decide +kernel
theorem dX3_integer_27 : decode cX3_integer 27 = .ok (.iload_n 1, 1) := by decide +kernel
theorem dX3_integer_28 : decode cX3_integer 28 = .ok (.iconst 2, 1) := by decide +kernel
theorem dX3_integer_29 : decode cX3_integer 29 = .ok (.iadd, 1) := by decide +kernel
theorem dX3_integer_30 : decode cX3_integer 30 = .ok (.iload_n 3, 1) := by decide +kernel
theorem dX3_integer_31 : decode cX3_integer 31 = .ok (.iadd, 1) := by decide +kernel
theorem dX3_integer_32 : decode cX3_integer 32 = .ok (.iload_n 2, 1) := by decide +kernel
theorem dX3_integer_33 : decode cX3_integer 33 = .ok (.if_icmp .gt 11, 3) := by decide +kernel
theorem dX3_integer_36 : decode cX3_integer 36 = .ok (.aload_n 0, 1) := by decide +kernel
theorem dX3_integer_37 : decode cX3_integer 37 = .ok (.iload_n 1, 1) := by decide +kernel
theorem dX3_integer_38 : decode cX3_integer 38 = .ok (.iconst 2, 1) := by decide +kernel
theorem dX3_integer_39 : decode cX3_integer 39 = .ok (.iadd, 1) := by decide +kernel
theorem dX3_integer_40 : decode cX3_integer 40 = .ok (.baload, 1) := by decide +kernel
theorem dX3_integer_41 : decode cX3_integer 41 = .ok (.ifCond .ge 5, 3) := by decide +kernel
theorem dX3_integer_44 : decode cX3_integer 44 = .ok (.iconst 0, 1) := by decide +kernel
theorem dX3_integer_45 : decode cX3_integer 45 = .ok (.ireturn, 1) := by decide +kernel
theorem dX3_integer_46 : decode cX3_integer 46 = .ok (.iload_n 3, 1) := by decide +kernel
theorem dX3_integer_47 : decode cX3_integer 47 = .ok (.iconst 1, 1) := by decide +kernel
theorem dX3_integer_48 : decode cX3_integer 48 = .ok (.if_icmp .le 21, 3) := by decide +kernel
theorem dX3_integer_51 : decode cX3_integer 51 = .ok (.aload_n 0, 1) := by decide +kernel
theorem dX3_integer_52 : decode cX3_integer 52 = .ok (.iload_n 1, 1) := by decide +kernel
theorem dX3_integer_53 : decode cX3_integer 53 = .ok (.iconst 2, 1) := by decide +kernel
theorem dX3_integer_54 : decode cX3_integer 54 = .ok (.iadd, 1) := by decide +kernel
theorem dX3_integer_55 : decode cX3_integer 55 = .ok (.baload, 1) := by decide +kernel
theorem dX3_integer_56 : decode cX3_integer 56 = .ok (.ifCond .ne 13, 3) := by decide +kernel
theorem dX3_integer_59 : decode cX3_integer 59 = .ok (.aload_n 0, 1) := by decide +kernel
theorem dX3_integer_60 : decode cX3_integer 60 = .ok (.iload_n 1, 1) := by decide +kernel
theorem dX3_integer_61 : decode cX3_integer 61 = .ok (.iconst 3, 1) := by decide +kernel
theorem dX3_integer_62 : decode cX3_integer 62 = .ok (.iadd, 1) := by decide +kernel
theorem dX3_integer_63 : decode cX3_integer 63 = .ok (.baload, 1) := by decide +kernel
theorem dX3_integer_64 : decode cX3_integer 64 = .ok (.ifCond .lt 5, 3) := by decide +kernel
theorem dX3_integer_67 : decode cX3_integer 67 = .ok (.iconst 0, 1) := by decide +kernel
theorem dX3_integer_68 : decode cX3_integer 68 = .ok (.ireturn, 1) := by decide +kernel
theorem dX3_integer_69 : decode cX3_integer 69 = .ok (.iload_n 3, 1) := by decide +kernel
theorem dX3_integer_70 : decode cX3_integer 70 = .ok (.iconst 2, 1) := by decide +kernel
theorem dX3_integer_71 : decode cX3_integer 71 = .ok (.iadd, 1) := by decide +kernel
theorem dX3_integer_72 : decode cX3_integer 72 = .ok (.ireturn, 1) := by decide +kernel
/-! CoinJudge$Curve.integer([BII)I -/
set_option maxHeartbeats 4000000 in
theorem sX3_integer_0 {G : Gx} {d t : Nat} {h0 : AH} {Φ : Out → AH → Prop} (h : AH) (v0 : Nat) (v1 : Int32) (v2 : Int32) (K : ((v2 < (v1 + 2) → Φ (.inl (some (vI 0))) h) ∧ (¬ v2 < (v1 + 2) → h.kd v0 = 101 ∧ vp_in v1 (h.ai v0).length ∧ ((((h.ai v0).getD (v1.toNatClampNeg) 0) = 2 → vp_in (v1 + 1) (h.ai v0).length ∧ ∀ u6 : Int32, u6 = ((h.ai v0).getD ((v1 + 1).toNatClampNeg) 0) → ((u6 < 1 → Φ (.inl (some (vI 0))) h) ∧ (¬ u6 < 1 → ((v2 < ((v1 + 2) + u6) → Φ (.inl (some (vI 0))) h) ∧ (¬ v2 < ((v1 + 2) + u6) → vp_in (v1 + 2) (h.ai v0).length ∧ ((0 ≤ ((h.ai v0).getD ((v1 + 2).toNatClampNeg) 0) → ((u6 ≤ 1 → Φ (.inl (some (vI (u6 + 2)))) h) ∧ (¬ u6 ≤ 1 → vp_in (v1 + 2) (h.ai v0).length ∧ ((¬ ((h.ai v0).getD ((v1 + 2).toNatClampNeg) 0) = 0 → Φ (.inl (some (vI (u6 + 2)))) h) ∧ (((h.ai v0).getD ((v1 + 2).toNatClampNeg) 0) = 0 → vp_in (v1 + 3) (h.ai v0).length ∧ ((((h.ai v0).getD ((v1 + 3).toNatClampNeg) 0) < 0 → Φ (.inl (some (vI (u6 + 2)))) h) ∧ (¬ ((h.ai v0).getD ((v1 + 3).toNatClampNeg) 0) < 0 → Φ (.inl (some (vI 0))) h))))))) ∧ (¬ 0 ≤ ((h.ai v0).getD ((v1 + 2).toNatClampNeg) 0) → Φ (.inl (some (vI 0))) h))))))) ∧ (¬ ((h.ai v0).getD (v1.toNatClampNeg) 0) = 2 → Φ (.inl (some (vI 0))) h))))) : Aw G mX3_integer (d + 1) t h0 Φ 0 [vR v0, vI v1, vI v2, vU] [] h := by
  refine r_iload_n (pc := 0) dX3_integer_0 rfl ?_
  refine r_iconst (pc := 1) (x := 2) dX3_integer_1 rfl ?_
  refine r_iadd (pc := 2) dX3_integer_2 ?_
  refine r_iload_n (pc := 3) dX3_integer_3 rfl ?_
  refine r_icmp_gt (pc := 4) (tgt := 14) dX3_integer_4 rfl (fun c1 => ?_) (fun c1 => ?_)
  · have K := K.1 c1
    refine r_iconst (pc := 14) (x := 0) dX3_integer_14 rfl ?_
    exact r_iret (pc := 15) rfl rfl dX3_integer_15 K
  · have K := K.2 c1
    refine r_aload_n (pc := 7) dX3_integer_7 rfl ?_
    refine r_iload_n (pc := 8) dX3_integer_8 rfl ?_
    obtain ⟨hk2, K⟩ := K
    obtain ⟨hi3, K⟩ := K
    refine r_baload (pc := 9) hk2 hi3 dX3_integer_9 ?_
    refine r_iconst (pc := 10) (x := 2) dX3_integer_10 rfl ?_
    refine r_icmp_eq (pc := 11) (tgt := 16) dX3_integer_11 rfl (fun c4 => ?_) (fun c4 => ?_)
    · have K := K.1 c4
      refine r_aload_n (pc := 16) dX3_integer_16 rfl ?_
      refine r_iload_n (pc := 17) dX3_integer_17 rfl ?_
      refine r_iconst (pc := 18) (x := 1) dX3_integer_18 rfl ?_
      refine r_iadd (pc := 19) dX3_integer_19 ?_
      obtain ⟨hi5, K⟩ := K
      refine r_baload (pc := 20) hk2 hi5 dX3_integer_20 ?_
      have K := K _ rfl
      refine r_istore_n (pc := 21) (lv' := [_, _, _, _]) dX3_integer_21 (by decide) rfl ?_
      refine r_iload_n (pc := 22) dX3_integer_22 rfl ?_
      refine r_iconst (pc := 23) (x := 1) dX3_integer_23 rfl ?_
      refine r_icmp_lt (pc := 24) (tgt := 44) dX3_integer_24 rfl (fun c7 => ?_) (fun c7 => ?_)
      · have K := K.1 c7
        refine r_iconst (pc := 44) (x := 0) dX3_integer_44 rfl ?_
        exact r_iret (pc := 45) rfl rfl dX3_integer_45 K
      · have K := K.2 c7
        refine r_iload_n (pc := 27) dX3_integer_27 rfl ?_
        refine r_iconst (pc := 28) (x := 2) dX3_integer_28 rfl ?_
        refine r_iadd (pc := 29) dX3_integer_29 ?_
        refine r_iload_n (pc := 30) dX3_integer_30 rfl ?_
        refine r_iadd (pc := 31) dX3_integer_31 ?_
        refine r_iload_n (pc := 32) dX3_integer_32 rfl ?_
        refine r_icmp_gt (pc := 33) (tgt := 44) dX3_integer_33 rfl (fun c8 => ?_) (fun c8 => ?_)
        · have K := K.1 c8
          refine r_iconst (pc := 44) (x := 0) dX3_integer_44 rfl ?_
          exact r_iret (pc := 45) rfl rfl dX3_integer_45 K
        · have K := K.2 c8
          refine r_aload_n (pc := 36) dX3_integer_36 rfl ?_
          refine r_iload_n (pc := 37) dX3_integer_37 rfl ?_
          refine r_iconst (pc := 38) (x := 2) dX3_integer_38 rfl ?_
          refine r_iadd (pc := 39) dX3_integer_39 ?_
          obtain ⟨hi9, K⟩ := K
          refine r_baload (pc := 40) hk2 hi9 dX3_integer_40 ?_
          refine r_if_ge (pc := 41) (tgt := 46) dX3_integer_41 rfl (fun c10 => ?_) (fun c10 => ?_)
          · have K := K.1 c10
            refine r_iload_n (pc := 46) dX3_integer_46 rfl ?_
            refine r_iconst (pc := 47) (x := 1) dX3_integer_47 rfl ?_
            refine r_icmp_le (pc := 48) (tgt := 69) dX3_integer_48 rfl (fun c11 => ?_) (fun c11 => ?_)
            · have K := K.1 c11
              refine r_iload_n (pc := 69) dX3_integer_69 rfl ?_
              refine r_iconst (pc := 70) (x := 2) dX3_integer_70 rfl ?_
              refine r_iadd (pc := 71) dX3_integer_71 ?_
              exact r_iret (pc := 72) rfl rfl dX3_integer_72 K
            · have K := K.2 c11
              refine r_aload_n (pc := 51) dX3_integer_51 rfl ?_
              refine r_iload_n (pc := 52) dX3_integer_52 rfl ?_
              refine r_iconst (pc := 53) (x := 2) dX3_integer_53 rfl ?_
              refine r_iadd (pc := 54) dX3_integer_54 ?_
              obtain ⟨hi12, K⟩ := K
              refine r_baload (pc := 55) hk2 hi12 dX3_integer_55 ?_
              refine r_if_ne (pc := 56) (tgt := 69) dX3_integer_56 rfl (fun c13 => ?_) (fun c13 => ?_)
              · have K := K.1 c13
                refine r_iload_n (pc := 69) dX3_integer_69 rfl ?_
                refine r_iconst (pc := 70) (x := 2) dX3_integer_70 rfl ?_
                refine r_iadd (pc := 71) dX3_integer_71 ?_
                exact r_iret (pc := 72) rfl rfl dX3_integer_72 K
              · have K := K.2 c13
                refine r_aload_n (pc := 59) dX3_integer_59 rfl ?_
                refine r_iload_n (pc := 60) dX3_integer_60 rfl ?_
                refine r_iconst (pc := 61) (x := 3) dX3_integer_61 rfl ?_
                refine r_iadd (pc := 62) dX3_integer_62 ?_
                obtain ⟨hi14, K⟩ := K
                refine r_baload (pc := 63) hk2 hi14 dX3_integer_63 ?_
                refine r_if_lt (pc := 64) (tgt := 69) dX3_integer_64 rfl (fun c15 => ?_) (fun c15 => ?_)
                · have K := K.1 c15
                  refine r_iload_n (pc := 69) dX3_integer_69 rfl ?_
                  refine r_iconst (pc := 70) (x := 2) dX3_integer_70 rfl ?_
                  refine r_iadd (pc := 71) dX3_integer_71 ?_
                  exact r_iret (pc := 72) rfl rfl dX3_integer_72 K
                · have K := K.2 c15
                  refine r_iconst (pc := 67) (x := 0) dX3_integer_67 rfl ?_
                  exact r_iret (pc := 68) rfl rfl dX3_integer_68 K
          · have K := K.2 c10
            refine r_iconst (pc := 44) (x := 0) dX3_integer_44 rfl ?_
            exact r_iret (pc := 45) rfl rfl dX3_integer_45 K
    · have K := K.2 c4
      refine r_iconst (pc := 14) (x := 0) dX3_integer_14 rfl ?_
      exact r_iret (pc := 15) rfl rfl dX3_integer_15 K
theorem eX3_integer {G : Gx} {d : Nat} {Φ : Out → AH → Prop} (h : AH) (v0 : Nat) (v1 : Int32) (v2 : Int32) (K : WF G h → Aw G mX3_integer (d + 1) 0 h Φ 0 [vR v0, vI v1, vI v2, vU] [] h) : Cw G mX3_integer (d + 1) 0 [vR v0, vI v1, vI v2] h Φ := Cw.of rfl K
theorem dX3_strict_0 : decode cX3_strict 0 = .ok (.iload_n 2, 1) := by decide +kernel
theorem dX3_strict_1 : decode cX3_strict 1 = .ok (.bipush 9, 2) := by decide +kernel
theorem dX3_strict_3 : decode cX3_strict 3 = .ok (.if_icmp .lt 28, 3) := by decide +kernel
theorem dX3_strict_6 : decode cX3_strict 6 = .ok (.iload_n 2, 1) := by decide +kernel
theorem dX3_strict_7 : decode cX3_strict 7 = .ok (.bipush 73, 2) := by decide +kernel
theorem dX3_strict_9 : decode cX3_strict 9 = .ok (.if_icmp .gt 22, 3) := by decide +kernel
theorem dX3_strict_12 : decode cX3_strict 12 = .ok (.aload_n 0, 1) := by decide +kernel
theorem dX3_strict_13 : decode cX3_strict 13 = .ok (.iload_n 1, 1) := by decide +kernel
theorem dX3_strict_14 : decode cX3_strict 14 = .ok (.baload, 1) := by decide +kernel
theorem dX3_strict_15 : decode cX3_strict 15 = .ok (.bipush 48, 2) := by decide +kernel
theorem dX3_strict_17 : decode cX3_strict 17 = .ok (.if_icmp .ne 14, 3) := by decide +kernel
theorem dX3_strict_20 : decode cX3_strict 20 = .ok (.aload_n 0, 1) := by decide +kernel
theorem dX3_strict_21 : decode cX3_strict 21 = .ok (.iload_n 1, 1) := by decide +kernel
theorem dX3_strict_22 : decode cX3_strict 22 = .ok (.iconst 1, 1) := by decide +kernel
theorem dX3_strict_23 : decode cX3_strict 23 = .ok (.iadd, 1) := by decide +kernel
theorem dX3_strict_24 : decode cX3_strict 24 = .ok (.baload, 1) := by decide +kernel
theorem dX3_strict_25 : decode cX3_strict 25 = .ok (.iload_n 2, 1) := by decide +kernel
theorem dX3_strict_26 : decode cX3_strict 26 = .ok (.iconst 3, 1) := by decide +kernel
theorem dX3_strict_27 : decode cX3_strict 27 = .ok (.isub, 1) := by decide +kernel
theorem dX3_strict_28 : decode cX3_strict 28 = .ok (.if_icmp .eq 5, 3) := by decide +kernel
theorem dX3_strict_31 : decode cX3_strict 31 = .ok (.iconst 0, 1) := by decide +kernel
theorem dX3_strict_32 : decode cX3_strict 32 = .ok (.ireturn, 1) := by decide +kernel
theorem dX3_strict_33 : decode cX3_strict 33 = .ok (.iload_n 1, 1) := by decide +kernel
theorem dX3_strict_34 : decode cX3_strict 34 = .ok (.iload_n 2, 1) := by decide +kernel
theorem dX3_strict_35 : decode cX3_strict 35 = .ok (.iadd, 1) := by decide +kernel
theorem dX3_strict_36 : decode cX3_strict 36 = .ok (.iconst 1, 1) := by decide +kernel
theorem dX3_strict_37 : decode cX3_strict 37 = .ok (.isub, 1) := by decide +kernel
theorem dX3_strict_38 : decode cX3_strict 38 = .ok (.istore_n 3, 1) := by decide +kernel
theorem dX3_strict_39 : decode cX3_strict 39 = .ok (.aload_n 0, 1) := by decide +kernel
theorem dX3_strict_40 : decode cX3_strict 40 = .ok (.iload_n 1, 1) := by decide +kernel
theorem dX3_strict_41 : decode cX3_strict 41 = .ok (.iconst 2, 1) := by decide +kernel
theorem dX3_strict_42 : decode cX3_strict 42 = .ok (.iadd, 1) := by decide +kernel
theorem dX3_strict_43 : decode cX3_strict 43 = .ok (.iload_n 3, 1) := by decide +kernel
theorem dX3_strict_44 : decode cX3_strict 44 = .ok (.invokestatic 169, 3) := by decide +kernel
theorem dX3_strict_47 : decode cX3_strict 47 = .ok (.istore 4, 2) := by decide +kernel
theorem dX3_strict_49 : decode cX3_strict 49 = .ok (.iload 4, 2) := by decide +kernel
theorem dX3_strict_51 : decode cX3_strict 51 = .ok (.ifCond .ne 5, 3) := by decide +kernel
theorem dX3_strict_54 : decode cX3_strict 54 = .ok (.iconst 0, 1) := by decide +kernel
theorem dX3_strict_55 : decode cX3_strict 55 = .ok (.ireturn, 1) := by decide +kernel
theorem dX3_strict_56 : decode cX3_strict 56 = .ok (.aload_n 0, 1) := by decide +kernel
theorem dX3_strict_57 : decode cX3_strict 57 = .ok (.iload_n 1, 1) := by decide +kernel
theorem dX3_strict_58 : decode cX3_strict 58 = .ok (.iconst 2, 1) := by decide +kernel
theorem dX3_strict_59 : decode cX3_strict 59 = .ok (.iadd, 1) := by decide +kernel
theorem dX3_strict_60 : decode cX3_strict 60 = .ok (.iload 4, 2) := by decide +kernel
theorem dX3_strict_62 : decode cX3_strict 62 = .ok (.iadd, 1) := by decide +kernel
theorem dX3_strict_63 : decode cX3_strict 63 = .ok (.iload_n 3, 1) := by decide +kernel
theorem dX3_strict_64 : decode cX3_strict 64 = .ok (.invokestatic 169, 3) := by decide +kernel
theorem dX3_strict_67 : decode cX3_strict 67 = .ok (.istore 5, 2) := by decide +kernel
theorem dX3_strict_69 : decode cX3_strict 69 = .ok (.iload 5, 2) := by decide +kernel
theorem dX3_strict_71 : decode cX3_strict 71 = .ok (.ifCond .le 20, 3) := by decide +kernel
theorem dX3_strict_74 : decode cX3_strict 74 = .ok (.iload_n 1, 1) := by decide +kernel
theorem dX3_strict_75 : decode cX3_strict 75 = .ok (.iconst 2, 1) := by decide +kernel
theorem dX3_strict_76 : decode cX3_strict 76 = .ok (.iadd, 1) := by decide +kernel
theorem dX3_strict_77 : decode cX3_strict 77 = .ok (.iload 4, 2) := by decide +kernel
theorem dX3_strict_79 : decode cX3_strict 79 = .ok (.iadd, 1) := by decide +kernel
theorem dX3_strict_80 : decode cX3_strict 80 = .ok (.iload 5, 2) := by decide +kernel
theorem dX3_strict_82 : decode cX3_strict 82 = .ok (.iadd, 1) := by decide +kernel
theorem dX3_strict_83 : decode cX3_strict 83 = .ok (.iload_n 3, 1) := by decide +kernel
theorem dX3_strict_84 : decode cX3_strict 84 = .ok (.if_icmp .ne 7, 3) := by decide +kernel
theorem dX3_strict_87 : decode cX3_strict 87 = .ok (.iconst 1, 1) := by decide +kernel
theorem dX3_strict_88 : decode cX3_strict 88 = .ok (.goto 4, 3) := by decide +kernel
theorem dX3_strict_91 : decode cX3_strict 91 = .ok (.iconst 0, 1) := by decide +kernel
theorem dX3_strict_92 : decode cX3_strict 92 = .ok (.ireturn, 1) := by decide +kernel
/-! CoinJudge$Curve.strict([BII)Z -/
set_option maxHeartbeats 4000000 in
theorem sX3_strict_0 {G : Gx} {d t : Nat} {h0 : AH} {Φ : Out → AH → Prop} (h : AH) (v0 : Nat) (v1 : Int32) (v2 : Int32) (K : ((v2 < 9 → Φ (.inl (some (vI 0))) h) ∧ (¬ v2 < 9 → ((73 < v2 → Φ (.inl (some (vI 0))) h) ∧ (¬ 73 < v2 → h.kd v0 = 101 ∧ vp_in v1 (h.ai v0).length ∧ ((¬ ((h.ai v0).getD (v1.toNatClampNeg) 0) = 48 → Φ (.inl (some (vI 0))) h) ∧ (((h.ai v0).getD (v1.toNatClampNeg) 0) = 48 → vp_in (v1 + 1) (h.ai v0).length ∧ ((((h.ai v0).getD ((v1 + 1).toNatClampNeg) 0) = (v2 - 3) → Cw G mX3_integer d 0 [vR v0, vI (v1 + 2), vI ((v1 + v2) - 1)] h (kI (fun x8 h9 => ((¬ x8 = 0 → Cw G mX3_integer d 0 [vR v0, vI ((v1 + 2) + x8), vI ((v1 + v2) - 1)] h9 (kI (fun x11 h12 => ((x11 ≤ 0 → Φ (.inl (some (vI 0))) h12) ∧ (¬ x11 ≤ 0 → ((¬ (((v1 + 2) + x8) + x11) = ((v1 + v2) - 1) → Φ (.inl (some (vI 0))) h12) ∧ ((((v1 + 2) + x8) + x11) = ((v1 + v2) - 1) → Φ (.inl (some (vI 1))) h12))))) (fun x h => Φ (.inr x) h))) ∧ (x8 = 0 → Φ (.inl (some (vI 0))) h9))) (fun x h => Φ (.inr x) h))) ∧ (¬ ((h.ai v0).getD ((v1 + 1).toNatClampNeg) 0) = (v2 - 3) → Φ (.inl (some (vI 0))) h))))))))) : Aw G mX3_strict (d + 1) t h0 Φ 0 [vR v0, vI v1, vI v2, vU, vU, vU] [] h := by
  refine r_iload_n (pc := 0) dX3_strict_0 rfl ?_
  refine r_bipush (pc := 1) (x := 9) dX3_strict_1 rfl ?_
  refine r_icmp_lt (pc := 3) (tgt := 31) dX3_strict_3 rfl (fun c1 => ?_) (fun c1 => ?_)
  · have K := K.1 c1
    refine r_iconst (pc := 31) (x := 0) dX3_strict_31 rfl ?_
    exact r_iret (pc := 32) rfl rfl dX3_strict_32 K
  · have K := K.2 c1
    refine r_iload_n (pc := 6) dX3_strict_6 rfl ?_
    refine r_bipush (pc := 7) (x := 73) dX3_strict_7 rfl ?_
    refine r_icmp_gt (pc := 9) (tgt := 31) dX3_strict_9 rfl (fun c2 => ?_) (fun c2 => ?_)
    · have K := K.1 c2
      refine r_iconst (pc := 31) (x := 0) dX3_strict_31 rfl ?_
      exact r_iret (pc := 32) rfl rfl dX3_strict_32 K
    · have K := K.2 c2
      refine r_aload_n (pc := 12) dX3_strict_12 rfl ?_
      refine r_iload_n (pc := 13) dX3_strict_13 rfl ?_
      obtain ⟨hk3, K⟩ := K
      obtain ⟨hi4, K⟩ := K
      refine r_baload (pc := 14) hk3 hi4 dX3_strict_14 ?_
      refine r_bipush (pc := 15) (x := 48) dX3_strict_15 rfl ?_
      refine r_icmp_ne (pc := 17) (tgt := 31) dX3_strict_17 rfl (fun c5 => ?_) (fun c5 => ?_)
      · have K := K.1 c5
        refine r_iconst (pc := 31) (x := 0) dX3_strict_31 rfl ?_
        exact r_iret (pc := 32) rfl rfl dX3_strict_32 K
      · have K := K.2 c5
        refine r_aload_n (pc := 20) dX3_strict_20 rfl ?_
        refine r_iload_n (pc := 21) dX3_strict_21 rfl ?_
        refine r_iconst (pc := 22) (x := 1) dX3_strict_22 rfl ?_
        refine r_iadd (pc := 23) dX3_strict_23 ?_
        obtain ⟨hi6, K⟩ := K
        refine r_baload (pc := 24) hk3 hi6 dX3_strict_24 ?_
        refine r_iload_n (pc := 25) dX3_strict_25 rfl ?_
        refine r_iconst (pc := 26) (x := 3) dX3_strict_26 rfl ?_
        refine r_isub (pc := 27) dX3_strict_27 ?_
        refine r_icmp_eq (pc := 28) (tgt := 33) dX3_strict_28 rfl (fun c7 => ?_) (fun c7 => ?_)
        · have K := K.1 c7
          refine r_iload_n (pc := 33) dX3_strict_33 rfl ?_
          refine r_iload_n (pc := 34) dX3_strict_34 rfl ?_
          refine r_iadd (pc := 35) dX3_strict_35 ?_
          refine r_iconst (pc := 36) (x := 1) dX3_strict_36 rfl ?_
          refine r_isub (pc := 37) dX3_strict_37 ?_
          refine r_istore_n (pc := 38) (lv' := [_, _, _, _, _, _]) dX3_strict_38 (by decide) rfl ?_
          refine r_aload_n (pc := 39) dX3_strict_39 rfl ?_
          refine r_iload_n (pc := 40) dX3_strict_40 rfl ?_
          refine r_iconst (pc := 41) (x := 2) dX3_strict_41 rfl ?_
          refine r_iadd (pc := 42) dX3_strict_42 ?_
          refine r_iload_n (pc := 43) dX3_strict_43 rfl ?_
          refine r_callS_I (pc := 44) (Y := mX3_integer) (vs := [_, _, _]) (st := []) q1341 q1342 q153 dX3_strict_44 rfl cd_X3_integer rfl rfl fp_X3_strict_X3_integer K (fun x8 h9 eh9 wh9 K => ?_) (fun x h1 _ _ e => Tw.out rfl e)
          refine r_istore (pc := 47) (lv' := [_, _, _, _, _, _]) dX3_strict_47 (by decide) rfl ?_
          refine r_iload (pc := 49) dX3_strict_49 rfl ?_
          refine r_if_ne (pc := 51) (tgt := 56) dX3_strict_51 rfl (fun c10 => ?_) (fun c10 => ?_)
          · have K := K.1 c10
            refine r_aload_n (pc := 56) dX3_strict_56 rfl ?_
            refine r_iload_n (pc := 57) dX3_strict_57 rfl ?_
            refine r_iconst (pc := 58) (x := 2) dX3_strict_58 rfl ?_
            refine r_iadd (pc := 59) dX3_strict_59 ?_
            refine r_iload (pc := 60) dX3_strict_60 rfl ?_
            refine r_iadd (pc := 62) dX3_strict_62 ?_
            refine r_iload_n (pc := 63) dX3_strict_63 rfl ?_
            refine r_callS_I (pc := 64) (Y := mX3_integer) (vs := [_, _, _]) (st := []) q1341 q1342 q153 dX3_strict_64 rfl cd_X3_integer rfl rfl fp_X3_strict_X3_integer K (fun x11 h12 eh12 wh12 K => ?_) (fun x h1 _ _ e => Tw.out rfl e)
            refine r_istore (pc := 67) (lv' := [_, _, _, _, _, _]) dX3_strict_67 (by decide) rfl ?_
            refine r_iload (pc := 69) dX3_strict_69 rfl ?_
            refine r_if_le (pc := 71) (tgt := 91) dX3_strict_71 rfl (fun c13 => ?_) (fun c13 => ?_)
            · have K := K.1 c13
              refine r_iconst (pc := 91) (x := 0) dX3_strict_91 rfl ?_
              exact r_iret (pc := 92) rfl rfl dX3_strict_92 K
            · have K := K.2 c13
              refine r_iload_n (pc := 74) dX3_strict_74 rfl ?_
              refine r_iconst (pc := 75) (x := 2) dX3_strict_75 rfl ?_
              refine r_iadd (pc := 76) dX3_strict_76 ?_
              refine r_iload (pc := 77) dX3_strict_77 rfl ?_
              refine r_iadd (pc := 79) dX3_strict_79 ?_
              refine r_iload (pc := 80) dX3_strict_80 rfl ?_
              refine r_iadd (pc := 82) dX3_strict_82 ?_
              refine r_iload_n (pc := 83) dX3_strict_83 rfl ?_
              refine r_icmp_ne (pc := 84) (tgt := 91) dX3_strict_84 rfl (fun c14 => ?_) (fun c14 => ?_)
              · have K := K.1 c14
                refine r_iconst (pc := 91) (x := 0) dX3_strict_91 rfl ?_
                exact r_iret (pc := 92) rfl rfl dX3_strict_92 K
              · have K := K.2 c14
                refine r_iconst (pc := 87) (x := 1) dX3_strict_87 rfl ?_
                refine r_goto (pc := 88) (tgt := 92) dX3_strict_88 rfl ?_
                exact r_iret (pc := 92) rfl rfl dX3_strict_92 K
          · have K := K.2 c10
            refine r_iconst (pc := 54) (x := 0) dX3_strict_54 rfl ?_
            exact r_iret (pc := 55) rfl rfl dX3_strict_55 K
        · have K := K.2 c7
          refine r_iconst (pc := 31) (x := 0) dX3_strict_31 rfl ?_
          exact r_iret (pc := 32) rfl rfl dX3_strict_32 K
theorem eX3_strict {G : Gx} {d : Nat} {Φ : Out → AH → Prop} (h : AH) (v0 : Nat) (v1 : Int32) (v2 : Int32) (K : WF G h → Aw G mX3_strict (d + 1) 0 h Φ 0 [vR v0, vI v1, vI v2, vU, vU, vU] [] h) : Cw G mX3_strict (d + 1) 0 [vR v0, vI v1, vI v2] h Φ := Cw.of rfl K
theorem dX3_decode_0 : decode cX3_decode 0 = .ok (.iload_n 3, 1) := by decide +kernel
theorem dX3_decode_1 : decode cX3_decode 1 = .ok (.ifCond .ne 7, 3) := by decide +kernel
theorem dX3_decode_4 : decode cX3_decode 4 = .ok (.iconst 0, 1) := by decide +kernel
theorem dX3_decode_5 : decode cX3_decode 5 = .ok (.goto 6, 3) := by decide +kernel
theorem dX3_decode_8 : decode cX3_decode 8 = .ok (.aload_n 1, 1) := by decide +kernel
theorem dX3_decode_9 : decode cX3_decode 9 = .ok (.iload_n 2, 1) := by decide +kernel
theorem dX3_decode_10 : decode cX3_decode 10 = .ok (.baload, 1) := by decide +kernel
theorem dX3_decode_11 : decode cX3_decode 11 = .ok (.istore 4, 2) := by decide +kernel
theorem dX3_decode_13 : decode cX3_decode 13 = .ok (.iload_n 3, 1) := by decide +kernel
theorem dX3_decode_14 : decode cX3_decode 14 = .ok (.bipush 33, 2) := by decide +kernel
theorem dX3_decode_16 : decode cX3_decode 16 = .ok (.if_icmp .ne 18, 3) := by decide +kernel
theorem dX3_decode_19 : decode cX3_decode 19 = .ok (.iload 4, 2) := by decide +kernel
theorem dX3_decode_21 : decode cX3_decode 21 = .ok (.iconst 2, 1) := by decide +kernel
theorem dX3_decode_22 : decode cX3_decode 22 = .ok (.if_icmp .eq 26, 3) := by decide +kernel
theorem dX3_decode_25 : decode cX3_decode 25 = .ok (.iload 4, 2) := by decide +kernel
theorem dX3_decode_27 : decode cX3_decode 27 = .ok (.iconst 3, 1) := by decide +kernel
theorem dX3_decode_28 : decode cX3_decode 28 = .ok (.if_icmp .eq 20, 3) := by decide +kernel
theorem dX3_decode_31 : decode cX3_decode 31 = .ok (.goto 15, 3) := by decide +kernel
theorem dX3_decode_34 : decode cX3_decode 34 = .ok (.iload_n 3, 1) := by decide +kernel
theorem dX3_decode_35 : decode cX3_decode 35 = .ok (.bipush 65, 2) := by decide +kernel
theorem dX3_decode_37 : decode cX3_decode 37 = .ok (.if_icmp .ne 9, 3) := by decide +kernel
theorem dX3_decode_40 : decode cX3_decode 40 = .ok (.iload 4, 2) := by decide +kernel
theorem dX3_decode_42 : decode cX3_decode 42 = .ok (.iconst 4, 1) := by decide +kernel
theorem dX3_decode_43 : decode cX3_decode 43 = .ok (.if_icmp .eq 5, 3) := by decide +kernel
theorem dX3_decode_46 : decode cX3_decode 46 = .ok (.iconst 0, 1) := by decide +kernel
theorem dX3_decode_47 : decode cX3_decode 47 = .ok (.ireturn, 1) := by decide +kernel
theorem dX3_decode_48 : decode cX3_decode 48 = .ok (.aload_n 0, 1) := by decide +kernel
theorem dX3_decode_49 : decode cX3_decode 49 = .ok (.getfield 61, 3) := by decide +kernel
theorem dX3_decode_52 : decode cX3_decode 52 = .ok (.getfield 85, 3) := by decide +kernel
theorem dX3_decode_55 : decode cX3_decode 55 = .ok (.aload_n 1, 1) := by decide +kernel
theorem dX3_decode_56 : decode cX3_decode 56 = .ok (.iload_n 2, 1) := by decide +kernel
theorem dX3_decode_57 : decode cX3_decode 57 = .ok (.iconst 1, 1) := by decide +kernel
theorem dX3_decode_58 : decode cX3_decode 58 = .ok (.iadd, 1) := by decide +kernel
theorem dX3_decode_59 : decode cX3_decode 59 = .ok (.bipush 32, 2) := by decide +kernel
theorem dX3_decode_61 : decode cX3_decode 61 = .ok (.invokevirtual 146, 3) := by decide +kernel
theorem dX3_decode_64 : decode cX3_decode 64 = .ok (.pop, 1) := by decide +kernel
theorem dX3_decode_65 : decode cX3_decode 65 = .ok (.aload_n 0, 1) := by decide +kernel
theorem dX3_decode_66 : decode cX3_decode 66 = .ok (.getfield 61, 3) := by decide +kernel
theorem dX3_decode_69 : decode cX3_decode 69 = .ok (.getfield 85, 3) := by decide +kernel
theorem dX3_decode_72 : decode cX3_decode 72 = .ok (.aload_n 0, 1) := by decide +kernel
theorem dX3_decode_73 : decode cX3_decode 73 = .ok (.getfield 21, 3) := by decide +kernel
theorem dX3_decode_76 : decode cX3_decode 76 = .ok (.invokevirtual 150, 3) := by decide +kernel
theorem dX3_decode_79 : decode cX3_decode 79 = .ok (.invokevirtual 153, 3) := by decide +kernel
theorem dX3_decode_82 : decode cX3_decode 82 = .ok (.ifCond .lt 5, 3) := by decide +kernel
theorem dX3_decode_85 : decode cX3_decode 85 = .ok (.iconst 0, 1) := by decide +kernel
theorem dX3_decode_86 : decode cX3_decode 86 = .ok (.ireturn, 1) := by decide +kernel
theorem dX3_decode_87 : decode cX3_decode 87 = .ok (.aload_n 0, 1) := by decide +kernel
theorem dX3_decode_88 : decode cX3_decode 88 = .ok (.getfield 61, 3) := by decide +kernel
theorem dX3_decode_91 : decode cX3_decode 91 = .ok (.getfield 95, 3) := by decide +kernel
theorem dX3_decode_94 : decode cX3_decode 94 = .ok (.lconst 1, 1) := by decide +kernel
theorem dX3_decode_95 : decode cX3_decode 95 = .ok (.invokevirtual 98, 3) := by decide +kernel
theorem dX3_decode_98 : decode cX3_decode 98 = .ok (.pop, 1) := by decide +kernel
theorem dX3_decode_99 : decode cX3_decode 99 = .ok (.aload_n 0, 1) := by decide +kernel
theorem dX3_decode_100 : decode cX3_decode 100 = .ok (.getfield 21, 3) := by decide +kernel
theorem dX3_decode_103 : decode cX3_decode 103 = .ok (.aload_n 0, 1) := by decide +kernel
theorem dX3_decode_104 : decode cX3_decode 104 = .ok (.getfield 39, 3) := by decide +kernel
theorem dX3_decode_107 : decode cX3_decode 107 = .ok (.aload_n 0, 1) := by decide +kernel
theorem dX3_decode_108 : decode cX3_decode 108 = .ok (.getfield 61, 3) := by decide +kernel
theorem dX3_decode_111 : decode cX3_decode 111 = .ok (.getfield 85, 3) := by decide +kernel
theorem dX3_decode_114 : decode cX3_decode 114 = .ok (.aload_n 0, 1) := by decide +kernel
theorem dX3_decode_115 : decode cX3_decode 115 = .ok (.getfield 61, 3) := by decide +kernel
theorem dX3_decode_118 : decode cX3_decode 118 = .ok (.getfield 85, 3) := by decide +kernel
theorem dX3_decode_121 : decode cX3_decode 121 = .ok (.invokevirtual 106, 3) := by decide +kernel
theorem dX3_decode_124 : decode cX3_decode 124 = .ok (.aload_n 0, 1) := by decide +kernel
theorem dX3_decode_125 : decode cX3_decode 125 = .ok (.getfield 21, 3) := by decide +kernel
theorem dX3_decode_128 : decode cX3_decode 128 = .ok (.aload_n 0, 1) := by decide +kernel
theorem dX3_decode_129 : decode cX3_decode 129 = .ok (.getfield 39, 3) := by decide +kernel
theorem dX3_decode_132 : decode cX3_decode 132 = .ok (.aload_n 0, 1) := by decide +kernel
theorem dX3_decode_133 : decode cX3_decode 133 = .ok (.getfield 39, 3) := by decide +kernel
theorem dX3_decode_136 : decode cX3_decode 136 = .ok (.aload_n 0, 1) := by decide +kernel
theorem dX3_decode_137 : decode cX3_decode 137 = .ok (.getfield 61, 3) := by decide +kernel
theorem dX3_decode_140 : decode cX3_decode 140 = .ok (.getfield 85, 3) := by decide +kernel
theorem dX3_decode_143 : decode cX3_decode 143 = .ok (.invokevirtual 106, 3) := by decide +kernel
theorem dX3_decode_146 : decode cX3_decode 146 = .ok (.aload_n 0, 1) := by decide +kernel
theorem dX3_decode_147 : decode cX3_decode 147 = .ok (.getfield 43, 3) := by decide +kernel
theorem dX3_decode_150 : decode cX3_decode 150 = .ok (.ldc2_w 157, 3) := by decide +kernel
theorem dX3_decode_153 : decode cX3_decode 153 = .ok (.invokevirtual 98, 3) := by decide +kernel
theorem dX3_decode_156 : decode cX3_decode 156 = .ok (.pop, 1) := by decide +kernel
theorem dX3_decode_157 : decode cX3_decode 157 = .ok (.aload_n 0, 1) := by decide +kernel
theorem dX3_decode_158 : decode cX3_decode 158 = .ok (.getfield 21, 3) := by decide +kernel
theorem dX3_decode_161 : decode cX3_decode 161 = .ok (.aload_n 0, 1) := by decide +kernel
theorem dX3_decode_162 : decode cX3_decode 162 = .ok (.getfield 39, 3) := by decide +kernel
theorem dX3_decode_165 : decode cX3_decode 165 = .ok (.aload_n 0, 1) := by decide +kernel
theorem dX3_decode_166 : decode cX3_decode 166 = .ok (.getfield 39, 3) := by decide +kernel
theorem dX3_decode_169 : decode cX3_decode 169 = .ok (.aload_n 0, 1) := by decide +kernel
theorem dX3_decode_170 : decode cX3_decode 170 = .ok (.getfield 43, 3) := by decide +kernel
theorem dX3_decode_173 : decode cX3_decode 173 = .ok (.invokevirtual 110, 3) := by decide +kernel
theorem dX3_decode_176 : decode cX3_decode 176 = .ok (.iload_n 3, 1) := by decide +kernel
theorem dX3_decode_177 : decode cX3_decode 177 = .ok (.bipush 65, 2) := by decide +kernel
theorem dX3_decode_179 : decode cX3_decode 179 = .ok (.if_icmp .ne 88, 3) := by decide +kernel
theorem dX3_decode_182 : decode cX3_decode 182 = .ok (.aload_n 0, 1) := by decide +kernel
theorem dX3_decode_183 : decode cX3_decode 183 = .ok (.getfield 61, 3) := by decide +kernel
theorem dX3_decode_186 : decode cX3_decode 186 = .ok (.getfield 90, 3) := by decide +kernel
theorem dX3_decode_189 : decode cX3_decode 189 = .ok (.aload_n 1, 1) := by decide +kernel
theorem dX3_decode_190 : decode cX3_decode 190 = .ok (.iload_n 2, 1) := by decide +kernel
theorem dX3_decode_191 : decode cX3_decode 191 = .ok (.bipush 33, 2) := by decide +kernel
theorem dX3_decode_193 : decode cX3_decode 193 = .ok (.iadd, 1) := by decide +kernel
theorem dX3_decode_194 : decode cX3_decode 194 = .ok (.bipush 32, 2) := by decide +kernel
theorem dX3_decode_196 : decode cX3_decode 196 = .ok (.invokevirtual 146, 3) := by decide +kernel
theorem dX3_decode_199 : decode cX3_decode 199 = .ok (.pop, 1) := by decide +kernel
theorem dX3_decode_200 : decode cX3_decode 200 = .ok (.aload_n 0, 1) := by decide +kernel
theorem dX3_decode_201 : decode cX3_decode 201 = .ok (.getfield 61, 3) := by decide +kernel
theorem dX3_decode_204 : decode cX3_decode 204 = .ok (.getfield 90, 3) := by decide +kernel
theorem dX3_decode_207 : decode cX3_decode 207 = .ok (.aload_n 0, 1) := by decide +kernel
theorem dX3_decode_208 : decode cX3_decode 208 = .ok (.getfield 21, 3) := by decide +kernel
theorem dX3_decode_211 : decode cX3_decode 211 = .ok (.invokevirtual 150, 3) := by decide +kernel
theorem dX3_decode_214 : decode cX3_decode 214 = .ok (.invokevirtual 153, 3) := by decide +kernel
theorem dX3_decode_217 : decode cX3_decode 217 = .ok (.ifCond .lt 5, 3) := by decide +kernel
theorem dX3_decode_220 : decode cX3_decode 220 = .ok (.iconst 0, 1) := by decide +kernel
theorem dX3_decode_221 : decode cX3_decode 221 = .ok (.ireturn, 1) := by decide +kernel
theorem dX3_decode_222 : decode cX3_decode 222 = .ok (.aload_n 0, 1) := by decide +kernel
theorem dX3_decode_223 : decode cX3_decode 223 = .ok (.getfield 21, 3) := by decide +kernel
theorem dX3_decode_226 : decode cX3_decode 226 = .ok (.aload_n 0, 1) := by decide +kernel
theorem dX3_decode_227 : decode cX3_decode 227 = .ok (.getfield 43, 3) := by decide +kernel
theorem dX3_decode_230 : decode cX3_decode 230 = .ok (.aload_n 0, 1) := by decide +kernel
theorem dX3_decode_231 : decode cX3_decode 231 = .ok (.getfield 61, 3) := by decide +kernel
theorem dX3_decode_234 : decode cX3_decode 234 = .ok (.getfield 90, 3) := by decide +kernel
theorem dX3_decode_237 : decode cX3_decode 237 = .ok (.aload_n 0, 1) := by decide +kernel
theorem dX3_decode_238 : decode cX3_decode 238 = .ok (.getfield 61, 3) := by decide +kernel
theorem dX3_decode_241 : decode cX3_decode 241 = .ok (.getfield 90, 3) := by decide +kernel
theorem dX3_decode_244 : decode cX3_decode 244 = .ok (.invokevirtual 106, 3) := by decide +kernel
theorem dX3_decode_247 : decode cX3_decode 247 = .ok (.aload_n 0, 1) := by decide +kernel
theorem dX3_decode_248 : decode cX3_decode 248 = .ok (.getfield 39, 3) := by decide +kernel
theorem dX3_decode_251 : decode cX3_decode 251 = .ok (.aload_n 0, 1) := by decide +kernel
theorem dX3_decode_252 : decode cX3_decode 252 = .ok (.getfield 43, 3) := by decide +kernel
theorem dX3_decode_255 : decode cX3_decode 255 = .ok (.invokevirtual 153, 3) := by decide +kernel
theorem dX3_decode_258 : decode cX3_decode 258 = .ok (.ifCond .ne 7, 3) := by decide +kernel
theorem dX3_decode_261 : decode cX3_decode 261 = .ok (.iconst 1, 1) := by decide +kernel
theorem dX3_decode_262 : decode cX3_decode 262 = .ok (.goto 4, 3) := by decide +kernel
theorem dX3_decode_265 : decode cX3_decode 265 = .ok (.iconst 0, 1) := by decide +kernel
theorem dX3_decode_266 : decode cX3_decode 266 = .ok (.ireturn, 1) := by decide +kernel
theorem dX3_decode_267 : decode cX3_decode 267 = .ok (.aload_n 0, 1) := by decide +kernel
theorem dX3_decode_268 : decode cX3_decode 268 = .ok (.getfield 46, 3) := by decide +kernel
theorem dX3_decode_271 : decode cX3_decode 271 = .ok (.lconst 1, 1) := by decide +kernel
theorem dX3_decode_272 : decode cX3_decode 272 = .ok (.invokevirtual 98, 3) := by decide +kernel
theorem dX3_decode_275 : decode cX3_decode 275 = .ok (.pop, 1) := by decide +kernel
theorem dX3_decode_276 : decode cX3_decode 276 = .ok (.aload_n 0, 1) := by decide +kernel
theorem dX3_decode_277 : decode cX3_decode 277 = .ok (.getfield 49, 3) := by decide +kernel
theorem dX3_decode_280 : decode cX3_decode 280 = .ok (.aload_n 0, 1) := by decide +kernel
theorem dX3_decode_281 : decode cX3_decode 281 = .ok (.getfield 21, 3) := by decide +kernel
theorem dX3_decode_284 : decode cX3_decode 284 = .ok (.invokevirtual 150, 3) := by decide +kernel
theorem dX3_decode_287 : decode cX3_decode 287 = .ok (.aload_n 0, 1) := by decide +kernel
theorem dX3_decode_288 : decode cX3_decode 288 = .ok (.getfield 46, 3) := by decide +kernel
theorem dX3_decode_291 : decode cX3_decode 291 = .ok (.invokevirtual 159, 3) := by decide +kernel
theorem dX3_decode_294 : decode cX3_decode 294 = .ok (.istore 5, 2) := by decide +kernel
theorem dX3_decode_296 : decode cX3_decode 296 = .ok (.iconst 0, 1) := by decide +kernel
theorem dX3_decode_297 : decode cX3_decode 297 = .ok (.istore 6, 2) := by decide +kernel
theorem dX3_decode_299 : decode cX3_decode 299 = .ok (.iload 6, 2) := by decide +kernel
theorem dX3_decode_301 : decode cX3_decode 301 = .ok (.bipush 8, 2) := by decide +kernel
theorem dX3_decode_303 : decode cX3_decode 303 = .ok (.if_icmp .ge 62, 3) := by decide +kernel
theorem dX3_decode_306 : decode cX3_decode 306 = .ok (.aload_n 0, 1) := by decide +kernel
theorem dX3_decode_307 : decode cX3_decode 307 = .ok (.getfield 49, 3) := by decide +kernel
theorem dX3_decode_310 : decode cX3_decode 310 = .ok (.getfield 162, 3) := by decide +kernel
theorem dX3_decode_313 : decode cX3_decode 313 = .ok (.iload 6, 2) := by decide +kernel
theorem dX3_decode_315 : decode cX3_decode 315 = .ok (.aload_n 0, 1) := by decide +kernel
theorem dX3_decode_316 : decode cX3_decode 316 = .ok (.getfield 49, 3) := by decide +kernel
theorem dX3_decode_319 : decode cX3_decode 319 = .ok (.getfield 162, 3) := by decide +kernel
theorem dX3_decode_322 : decode cX3_decode 322 = .ok (.iload 6, 2) := by decide +kernel
theorem dX3_decode_324 : decode cX3_decode 324 = .ok (.iaload, 1) := by decide +kernel
theorem dX3_decode_325 : decode cX3_decode 325 = .ok (.iconst 2, 1) := by decide +kernel
theorem dX3_decode_326 : decode cX3_decode 326 = .ok (.iushr, 1) := by decide +kernel
theorem dX3_decode_327 : decode cX3_decode 327 = .ok (.iload 6, 2) := by decide +kernel
theorem dX3_decode_329 : decode cX3_decode 329 = .ok (.bipush 7, 2) := by decide +kernel
theorem dX3_decode_331 : decode cX3_decode 331 = .ok (.if_icmp .ge 21, 3) := by decide +kernel
theorem dX3_decode_334 : decode cX3_decode 334 = .ok (.aload_n 0, 1) := by decide +kernel
theorem dX3_decode_335 : decode cX3_decode 335 = .ok (.getfield 49, 3) := by decide +kernel
theorem dX3_decode_338 : decode cX3_decode 338 = .ok (.getfield 162, 3) := by decide +kernel
theorem dX3_decode_341 : decode cX3_decode 341 = .ok (.iload 6, 2) := by decide +kernel
theorem dX3_decode_343 : decode cX3_decode 343 = .ok (.iconst 1, 1) := by decide +kernel
theorem dX3_decode_344 : decode cX3_decode 344 = .ok (.iadd, 1) := by decide +kernel
theorem dX3_decode_345 : decode cX3_decode 345 = .ok (.iaload, 1) := by decide +kernel
theorem dX3_decode_346 : decode cX3_decode 346 = .ok (.bipush 30, 2) := by decide +kernel
theorem dX3_decode_348 : decode cX3_decode 348 = .ok (.ishl, 1) := by decide +kernel
theorem dX3_decode_349 : decode cX3_decode 349 = .ok (.goto 8, 3) := by decide +kernel
theorem dX3_decode_352 : decode cX3_decode 352 = .ok (.iload 5, 2) := by decide +kernel
theorem dX3_decode_354 : decode cX3_decode 354 = .ok (.bipush 30, 2) := by decide +kernel
theorem dX3_decode_356 : decode cX3_decode 356 = .ok (.ishl, 1) := by decide +kernel
theorem dX3_decode_357 : decode cX3_decode 357 = .ok (.ior, 1) := by decide +kernel
theorem dX3_decode_358 : decode cX3_decode 358 = .ok (.iastore, 1) := by decide +kernel
theorem dX3_decode_359 : decode cX3_decode 359 = .ok (.iinc 6 1, 3) := by decide +kernel
theorem dX3_decode_362 : decode cX3_decode 362 = .ok (.goto (-63), 3) := by decide +kernel
theorem dX3_decode_365 : decode cX3_decode 365 = .ok (.aload_n 0, 1) := by decide +kernel
theorem dX3_decode_366 : decode cX3_decode 366 = .ok (.getfield 21, 3) := by decide +kernel
theorem dX3_decode_369 : decode cX3_decode 369 = .ok (.aload_n 0, 1) := by decide +kernel
theorem dX3_decode_370 : decode cX3_decode 370 = .ok (.getfield 61, 3) := by decide +kernel
theorem dX3_decode_373 : decode cX3_decode 373 = .ok (.getfield 90, 3) := by decide +kernel
theorem dX3_decode_376 : decode cX3_decode 376 = .ok (.aload_n 0, 1) := by decide +kernel
theorem dX3_decode_377 : decode cX3_decode 377 = .ok (.getfield 39, 3) := by decide +kernel
theorem dX3_decode_380 : decode cX3_decode 380 = .ok (.aload_n 0, 1) := by decide +kernel
theorem dX3_decode_381 : decode cX3_decode 381 = .ok (.getfield 49, 3) := by decide +kernel
theorem dX3_decode_384 : decode cX3_decode 384 = .ok (.invokevirtual 166, 3) := by decide +kernel
theorem dX3_decode_387 : decode cX3_decode 387 = .ok (.aload_n 0, 1) := by decide +kernel
theorem dX3_decode_388 : decode cX3_decode 388 = .ok (.getfield 21, 3) := by decide +kernel
theorem dX3_decode_391 : decode cX3_decode 391 = .ok (.aload_n 0, 1) := by decide +kernel
theorem dX3_decode_392 : decode cX3_decode 392 = .ok (.getfield 43, 3) := by decide +kernel
theorem dX3_decode_395 : decode cX3_decode 395 = .ok (.aload_n 0, 1) := by decide +kernel
theorem dX3_decode_396 : decode cX3_decode 396 = .ok (.getfield 61, 3) := by decide +kernel
theorem dX3_decode_399 : decode cX3_decode 399 = .ok (.getfield 90, 3) := by decide +kernel
theorem dX3_decode_402 : decode cX3_decode 402 = .ok (.aload_n 0, 1) := by decide +kernel
theorem dX3_decode_403 : decode cX3_decode 403 = .ok (.getfield 61, 3) := by decide +kernel
theorem dX3_decode_406 : decode cX3_decode 406 = .ok (.getfield 90, 3) := by decide +kernel
theorem dX3_decode_409 : decode cX3_decode 409 = .ok (.invokevirtual 106, 3) := by decide +kernel
theorem dX3_decode_412 : decode cX3_decode 412 = .ok (.aload_n 0, 1) := by decide +kernel
theorem dX3_decode_413 : decode cX3_decode 413 = .ok (.getfield 39, 3) := by decide +kernel
theorem dX3_decode_416 : decode cX3_decode 416 = .ok (.aload_n 0, 1) := by decide +kernel
theorem dX3_decode_417 : decode cX3_decode 417 = .ok (.getfield 43, 3) := by decide +kernel
theorem dX3_decode_420 : decode cX3_decode 420 = .ok (.invokevirtual 153, 3) := by decide +kernel
theorem dX3_decode_423 : decode cX3_decode 423 = .ok (.ifCond .eq 5, 3) := by decide +kernel
theorem dX3_decode_426 : decode cX3_decode 426 = .ok (.iconst 0, 1) := by decide +kernel
theorem dX3_decode_427 : decode cX3_decode 427 = .ok (.ireturn, 1) := by decide +kernel
theorem dX3_decode_428 : decode cX3_decode 428 = .ok (.aload_n 0, 1) := by decide +kernel
theorem dX3_decode_429 : decode cX3_decode 429 = .ok (.getfield 61, 3) := by decide +kernel
theorem dX3_decode_432 : decode cX3_decode 432 = .ok (.getfield 90, 3) := by decide +kernel
theorem dX3_decode_435 : decode cX3_decode 435 = .ok (.iconst 0, 1) := by decide +kernel
theorem dX3_decode_436 : decode cX3_decode 436 = .ok (.invokevirtual 135, 3) := by decide +kernel
theorem dX3_decode_439 : decode cX3_decode 439 = .ok (.iload 4, 2) := by decide +kernel
theorem dX3_decode_441 : decode cX3_decode 441 = .ok (.iconst 2, 1) := by decide +kernel
theorem dX3_decode_442 : decode cX3_decode 442 = .ok (.isub, 1) := by decide +kernel
theorem dX3_decode_443 : decode cX3_decode 443 = .ok (.if_icmp .eq 31, 3) := by decide +kernel
theorem dX3_decode_446 : decode cX3_decode 446 = .ok (.aload_n 0, 1) := by decide +kernel
theorem dX3_decode_447 : decode cX3_decode 447 = .ok (.getfield 21, 3) := by decide +kernel
theorem dX3_decode_450 : decode cX3_decode 450 = .ok (.aload_n 0, 1) := by decide +kernel
theorem dX3_decode_451 : decode cX3_decode 451 = .ok (.getfield 61, 3) := by decide +kernel
theorem dX3_decode_454 : decode cX3_decode 454 = .ok (.getfield 90, 3) := by decide +kernel
theorem dX3_decode_457 : decode cX3_decode 457 = .ok (.aload_n 0, 1) := by decide +kernel
theorem dX3_decode_458 : decode cX3_decode 458 = .ok (.getfield 46, 3) := by decide +kernel
theorem dX3_decode_461 : decode cX3_decode 461 = .ok (.invokevirtual 127, 3) := by decide +kernel
theorem dX3_decode_464 : decode cX3_decode 464 = .ok (.aload_n 0, 1) := by decide +kernel
theorem dX3_decode_465 : decode cX3_decode 465 = .ok (.getfield 61, 3) := by decide +kernel
theorem dX3_decode_468 : decode cX3_decode 468 = .ok (.getfield 90, 3) := by decide +kernel
theorem dX3_decode_471 : decode cX3_decode 471 = .ok (.invokevirtual 113, 3) := by decide +kernel
theorem dX3_decode_474 : decode cX3_decode 474 = .ok (.iconst 1, 1) := by decide +kernel
theorem dX3_decode_475 : decode cX3_decode 475 = .ok (.ireturn, 1) := by decide +kernel
/-! CoinJudge$Curve.decode([BII)Z -/
set_option maxHeartbeats 4000000 in
theorem sX3_decode_0 {G : Gx} {d t : Nat} {h0 : AH} {Φ : Out → AH → Prop} (h : AH) (v0 : Nat) (v1 : Nat) (v2 : Int32) (v3 : Int32) (K : ((¬ v3 = 0 → h.kd v1 = 101 ∧ vp_in v2 (h.ai v1).length ∧ ∀ u4 : Int32, u4 = ((h.ai v1).getD (v2.toNatClampNeg) 0) → ((¬ v3 = 33 → ((¬ v3 = 65 → Φ (.inl (some (vI 0))) h) ∧ (v3 = 65 → ((u4 = 4 → Aw G mX3_decode (d + 1) t h0 Φ 48 [vR v0, vR v1, vI v2, vI v3, vI u4, vU, vU] [] h) ∧ (¬ u4 = 4 → Φ (.inl (some (vI 0))) h))))) ∧ (v3 = 33 → ((u4 = 2 → Aw G mX3_decode (d + 1) t h0 Φ 48 [vR v0, vR v1, vI v2, vI v3, vI u4, vU, vU] [] h) ∧ (¬ u4 = 2 → ((u4 = 3 → Aw G mX3_decode (d + 1) t h0 Φ 48 [vR v0, vR v1, vI v2, vI v3, vI u4, vU, vU] [] h) ∧ (¬ u4 = 3 → Φ (.inl (some (vI 0))) h))))))) ∧ (v3 = 0 → ((¬ v3 = 33 → ((¬ v3 = 65 → Φ (.inl (some (vI 0))) h) ∧ (v3 = 65 → (((0 : Int32) = 4 → Aw G mX3_decode (d + 1) t h0 Φ 48 [vR v0, vR v1, vI v2, vI v3, vI 0, vU, vU] [] h) ∧ (¬ (0 : Int32) = 4 → Φ (.inl (some (vI 0))) h))))) ∧ (v3 = 33 → (((0 : Int32) = 2 → Aw G mX3_decode (d + 1) t h0 Φ 48 [vR v0, vR v1, vI v2, vI v3, vI 0, vU, vU] [] h) ∧ (¬ (0 : Int32) = 2 → (((0 : Int32) = 3 → Aw G mX3_decode (d + 1) t h0 Φ 48 [vR v0, vR v1, vI v2, vI v3, vI 0, vU, vU] [] h) ∧ (¬ (0 : Int32) = 3 → Φ (.inl (some (vI 0))) h))))))))) : Aw G mX3_decode (d + 1) t h0 Φ 0 [vR v0, vR v1, vI v2, vI v3, vU, vU, vU] [] h := by
  refine r_iload_n (pc := 0) dX3_decode_0 rfl ?_
  refine r_if_ne (pc := 1) (tgt := 8) dX3_decode_1 rfl (fun c1 => ?_) (fun c1 => ?_)
  · have K := K.1 c1
    refine r_aload_n (pc := 8) dX3_decode_8 rfl ?_
    refine r_iload_n (pc := 9) dX3_decode_9 rfl ?_
    obtain ⟨hk2, K⟩ := K
    obtain ⟨hi3, K⟩ := K
    refine r_baload (pc := 10) hk2 hi3 dX3_decode_10 ?_
    have K := K _ rfl
    refine r_istore (pc := 11) (lv' := [_, _, _, _, _, _, _]) dX3_decode_11 (by decide) rfl ?_
    refine r_iload_n (pc := 13) dX3_decode_13 rfl ?_
    refine r_bipush (pc := 14) (x := 33) dX3_decode_14 rfl ?_
    refine r_icmp_ne (pc := 16) (tgt := 34) dX3_decode_16 rfl (fun c5 => ?_) (fun c5 => ?_)
    · have K := K.1 c5
      refine r_iload_n (pc := 34) dX3_decode_34 rfl ?_
      refine r_bipush (pc := 35) (x := 65) dX3_decode_35 rfl ?_
      refine r_icmp_ne (pc := 37) (tgt := 46) dX3_decode_37 rfl (fun c6 => ?_) (fun c6 => ?_)
      · have K := K.1 c6
        refine r_iconst (pc := 46) (x := 0) dX3_decode_46 rfl ?_
        exact r_iret (pc := 47) rfl rfl dX3_decode_47 K
      · have K := K.2 c6
        refine r_iload (pc := 40) dX3_decode_40 rfl ?_
        refine r_iconst (pc := 42) (x := 4) dX3_decode_42 rfl ?_
        refine r_icmp_eq (pc := 43) (tgt := 48) dX3_decode_43 rfl (fun c7 => ?_) (fun c7 => ?_)
        · have K := K.1 c7
          refine r_mask (pc := 48) [true, true, true, true, true, false, false] rfl ?_
          exact K
        · have K := K.2 c7
          refine r_iconst (pc := 46) (x := 0) dX3_decode_46 rfl ?_
          exact r_iret (pc := 47) rfl rfl dX3_decode_47 K
    · have K := K.2 c5
      refine r_iload (pc := 19) dX3_decode_19 rfl ?_
      refine r_iconst (pc := 21) (x := 2) dX3_decode_21 rfl ?_
      refine r_icmp_eq (pc := 22) (tgt := 48) dX3_decode_22 rfl (fun c8 => ?_) (fun c8 => ?_)
      · have K := K.1 c8
        refine r_mask (pc := 48) [true, true, true, true, true, false, false] rfl ?_
        exact K
      · have K := K.2 c8
        refine r_iload (pc := 25) dX3_decode_25 rfl ?_
        refine r_iconst (pc := 27) (x := 3) dX3_decode_27 rfl ?_
        refine r_icmp_eq (pc := 28) (tgt := 48) dX3_decode_28 rfl (fun c9 => ?_) (fun c9 => ?_)
        · have K := K.1 c9
          refine r_mask (pc := 48) [true, true, true, true, true, false, false] rfl ?_
          exact K
        · have K := K.2 c9
          refine r_goto (pc := 31) (tgt := 46) dX3_decode_31 rfl ?_
          refine r_iconst (pc := 46) (x := 0) dX3_decode_46 rfl ?_
          exact r_iret (pc := 47) rfl rfl dX3_decode_47 K
  · have K := K.2 c1
    refine r_iconst (pc := 4) (x := 0) dX3_decode_4 rfl ?_
    refine r_goto (pc := 5) (tgt := 11) dX3_decode_5 rfl ?_
    refine r_istore (pc := 11) (lv' := [_, _, _, _, _, _, _]) dX3_decode_11 (by decide) rfl ?_
    refine r_iload_n (pc := 13) dX3_decode_13 rfl ?_
    refine r_bipush (pc := 14) (x := 33) dX3_decode_14 rfl ?_
    refine r_icmp_ne (pc := 16) (tgt := 34) dX3_decode_16 rfl (fun c10 => ?_) (fun c10 => ?_)
    · have K := K.1 c10
      refine r_iload_n (pc := 34) dX3_decode_34 rfl ?_
      refine r_bipush (pc := 35) (x := 65) dX3_decode_35 rfl ?_
      refine r_icmp_ne (pc := 37) (tgt := 46) dX3_decode_37 rfl (fun c11 => ?_) (fun c11 => ?_)
      · have K := K.1 c11
        refine r_iconst (pc := 46) (x := 0) dX3_decode_46 rfl ?_
        exact r_iret (pc := 47) rfl rfl dX3_decode_47 K
      · have K := K.2 c11
        refine r_iload (pc := 40) dX3_decode_40 rfl ?_
        refine r_iconst (pc := 42) (x := 4) dX3_decode_42 rfl ?_
        refine r_icmp_eq (pc := 43) (tgt := 48) dX3_decode_43 rfl (fun c12 => ?_) (fun c12 => ?_)
        · have K := K.1 c12
          refine r_mask (pc := 48) [true, true, true, true, true, false, false] rfl ?_
          exact K
        · have K := K.2 c12
          refine r_iconst (pc := 46) (x := 0) dX3_decode_46 rfl ?_
          exact r_iret (pc := 47) rfl rfl dX3_decode_47 K
    · have K := K.2 c10
      refine r_iload (pc := 19) dX3_decode_19 rfl ?_
      refine r_iconst (pc := 21) (x := 2) dX3_decode_21 rfl ?_
      refine r_icmp_eq (pc := 22) (tgt := 48) dX3_decode_22 rfl (fun c13 => ?_) (fun c13 => ?_)
      · have K := K.1 c13
        refine r_mask (pc := 48) [true, true, true, true, true, false, false] rfl ?_
        exact K
      · have K := K.2 c13
        refine r_iload (pc := 25) dX3_decode_25 rfl ?_
        refine r_iconst (pc := 27) (x := 3) dX3_decode_27 rfl ?_
        refine r_icmp_eq (pc := 28) (tgt := 48) dX3_decode_28 rfl (fun c14 => ?_) (fun c14 => ?_)
        · have K := K.1 c14
          refine r_mask (pc := 48) [true, true, true, true, true, false, false] rfl ?_
          exact K
        · have K := K.2 c14
          refine r_goto (pc := 31) (tgt := 46) dX3_decode_31 rfl ?_
          refine r_iconst (pc := 46) (x := 0) dX3_decode_46 rfl ?_
          exact r_iret (pc := 47) rfl rfl dX3_decode_47 K
theorem eX3_decode {G : Gx} {d : Nat} {Φ : Out → AH → Prop} (h : AH) (v0 : Nat) (v1 : Nat) (v2 : Int32) (v3 : Int32) (K : WF G h → Aw G mX3_decode (d + 1) 0 h Φ 0 [vR v0, vR v1, vI v2, vI v3, vU, vU, vU] [] h) : Cw G mX3_decode (d + 1) 0 [vR v0, vR v1, vI v2, vI v3] h Φ := Cw.of rfl K
set_option maxHeartbeats 4000000 in
theorem sX3_decode_48 {G : Gx} {d t : Nat} {h0 : AH} {Φ : Out → AH → Prop} (h : AH) (v0 : Nat) (v1 : Nat) (v2 : Int32) (v3 : Int32) (v4 : Int32) (K : h.kd v0 = 3 ∧ ∀ r2 : Nat, r2 = (h.r 3010 v0) → h.kd r2 = 6 ∧ ∀ r4 : Nat, r4 = (h.r 6000 r2) → h.kd r4 = 5 ∧ Cw G mX5_read d 0 [vR r4, vR v1, vI (v2 + 1), vI 32] h (kR (fun x5 h6 => ∀ r14 : Nat, r14 = (h6.r 3000 v0) → h6.kd r14 = 4 ∧ Cw G mX4_modulus d 0 [vR r14] h6 (kR (fun x15 h16 => Cw G mX5_compare d 0 [vR r4, vR x15] h16 (kI (fun x18 h19 => ((x18 < 0 → ∀ r29 : Nat, r29 = (h19.r 6002 r2) → h19.kd r29 = 5 ∧ Cw G mX5_small d 0 [vR r29, vJ 1] h19 (kR (fun x30 h31 => ∀ r38 : Nat, r38 = (h31.r 3003 v0) → Cw G mX4_multiply d 0 [vR r14, vR r38, vR r4, vR r4] h31 (kV (fun h45 => Cw G mX4_multiply d 0 [vR r14, vR r38, vR r38, vR r4] h45 (kV (fun h57 => ∀ r60 : Nat, r60 = (h57.r 3004 v0) → h57.kd r60 = 5 ∧ Cw G mX5_small d 0 [vR r60, vJ 7] h57 (kR (fun x61 h62 => Cw G mX4_add d 0 [vR r14, vR r38, vR r38, vR r60] h62 (kV (fun h72 => ((¬ v3 = 65 → ∀ r77 : Nat, r77 = (h72.r 3005 v0) → h72.kd r77 = 5 ∧ Cw G mX5_small d 0 [vR r77, vJ 1] h72 (kR (fun x78 h79 => ∀ r82 : Nat, r82 = (h79.r 3006 v0) → Cw G mX4_modulus d 0 [vR r14] h79 (kR (fun x85 h86 => h86.kd r82 = 5 ∧ Cw G mX5_add d 0 [vR r82, vR x85, vR r77] h86 (kI (fun x93 h94 => Aw G mX3_decode (d + 1) t h0 Φ 299 [vR v0, vU, vU, vU, vI v4, vI x93, vI 0] [] h94) (fun x h => Φ (.inr x) h))) (fun x h => Φ (.inr x) h))) (fun x h => Φ (.inr x) h))) ∧ (v3 = 65 → ∀ r103 : Nat, r103 = (h72.r 6001 r2) → h72.kd r103 = 5 ∧ Cw G mX5_read d 0 [vR r103, vR v1, vI (v2 + 33), vI 32] h72 (kR (fun x104 h105 => Cw G mX4_modulus d 0 [vR r14] h105 (kR (fun x114 h115 => Cw G mX5_compare d 0 [vR r103, vR x114] h115 (kI (fun x118 h119 => ((x118 < 0 → Cw G mX4_multiply d 0 [vR r14, vR r60, vR r103, vR r103] h119 (kV (fun h138 => h138.kd r38 = 5 ∧ Cw G mX5_compare d 0 [vR r38, vR r60] h138 (kI (fun x148 h149 => ((¬ x148 = 0 → Φ (.inl (some (vI 0))) h149) ∧ (x148 = 0 → Φ (.inl (some (vI 1))) h149))) (fun x h => Φ (.inr x) h))) (fun x h => Φ (.inr x) h))) ∧ (¬ x118 < 0 → Φ (.inl (some (vI 0))) h119))) (fun x h => Φ (.inr x) h))) (fun x h => Φ (.inr x) h))) (fun x h => Φ (.inr x) h))))) (fun x h => Φ (.inr x) h))) (fun x h => Φ (.inr x) h))) (fun x h => Φ (.inr x) h))) (fun x h => Φ (.inr x) h))) (fun x h => Φ (.inr x) h))) ∧ (¬ x18 < 0 → Φ (.inl (some (vI 0))) h19))) (fun x h => Φ (.inr x) h))) (fun x h => Φ (.inr x) h))) (fun x h => Φ (.inr x) h))) : Aw G mX3_decode (d + 1) t h0 Φ 48 [vR v0, vR v1, vI v2, vI v3, vI v4, vU, vU] [] h := by
  refine r_aload_n (pc := 48) dX3_decode_48 rfl ?_
  obtain ⟨hk1, K⟩ := K
  have K := K _ rfl
  refine r_getr' (pc := 49) (T := TX3) 3 10 rfl hk1 (Or.inl q445) dX3_decode_49 kc3 g3010 ?_
  obtain ⟨hk3, K⟩ := K
  have K := K _ rfl
  refine r_getr' (pc := 52) (T := TX6) 6 0 rfl hk3 (Or.inr (Or.inl ⟨_, q417⟩)) dX3_decode_52 kc6 g6000 ?_
  refine r_aload_n (pc := 55) dX3_decode_55 rfl ?_
  refine r_iload_n (pc := 56) dX3_decode_56 rfl ?_
  refine r_iconst (pc := 57) (x := 1) dX3_decode_57 rfl ?_
  refine r_iadd (pc := 58) dX3_decode_58 ?_
  refine r_bipush (pc := 59) (x := 32) dX3_decode_59 rfl ?_
  obtain ⟨hk7, K⟩ := K
  refine r_callV_R (pc := 61) (Y := mX5_read) (vs := [_, _, _]) (st := []) hk7 rfl kc5 q1390 q1391 q1392 dX3_decode_61 rfl cd_X5_read rfl rfl fp_X3_decode_X5_read K (fun x5 h6 eh6 wh6 K => ?_) (fun x h1 _ _ e => Tw.out rfl e)
  refine r_pop (pc := 64) rfl dX3_decode_64 ?_
  refine r_aload_n (pc := 65) dX3_decode_65 rfl ?_
  have hk8 := kd_ext eh6 hk1 (nz rfl)
  have hv9 := fr_self (key := 3010) hk1
  have hv10 := (fr_ext (key := 3010) eh6 hk1 (nz rfl) (ne0 wh6 hk8 (nz rfl)) (nm rfl)).trans hv9
  refine r_getr' (pc := 66) (T := TX3) 3 10 hv10 hk8 (Or.inl q445) dX3_decode_66 kc3 g3010 ?_
  have hk11 := kd_ext eh6 hk3 (nz rfl)
  have hv12 := fr_self (key := 6000) hk3
  have hv13 := (fr_ext (key := 6000) eh6 hk3 (nz rfl) (ne0 wh6 hk11 (nz rfl)) (nm rfl)).trans hv12
  refine r_getr' (pc := 69) (T := TX6) 6 0 hv13 hk11 (Or.inr (Or.inl ⟨_, q417⟩)) dX3_decode_69 kc6 g6000 ?_
  refine r_aload_n (pc := 72) dX3_decode_72 rfl ?_
  have K := K _ rfl
  refine r_getr' (pc := 73) (T := TX3) 3 0 rfl hk8 (Or.inl q435) dX3_decode_73 kc3 g3000 ?_
  obtain ⟨hk17, K⟩ := K
  refine r_callV_R (pc := 76) (Y := mX4_modulus) (vs := []) (st := [_]) hk17 rfl kc4 q1394 q1395 q1396 dX3_decode_76 rfl cd_X4_modulus rfl rfl fp_X3_decode_X4_modulus K (fun x15 h16 eh16 wh16 K => ?_) (fun x h1 _ _ e => Tw.out rfl e)
  have hk20 := kd_ext eh6 hk7 (nz rfl)
  have hk21 := kd_ext eh16 hk20 (nz rfl)
  refine r_callV_I (pc := 79) (Y := mX5_compare) (vs := [_]) (st := []) hk21 rfl kc5 q1398 q852 q853 dX3_decode_79 rfl cd_X5_compare rfl rfl fp_X3_decode_X5_compare K (fun x18 h19 eh19 wh19 K => ?_) (fun x h1 _ _ e => Tw.out rfl e)
  refine r_if_lt (pc := 82) (tgt := 87) dX3_decode_82 rfl (fun c22 => ?_) (fun c22 => ?_)
  · have K := K.1 c22
    refine r_aload_n (pc := 87) dX3_decode_87 rfl ?_
    have hk23 := kd_ext eh16 hk8 (nz rfl)
    have hk24 := kd_ext eh19 hk23 (nz rfl)
    have hv25 := (fr_ext (key := 3010) eh16 hk8 (nz rfl) (ne0 wh16 hk23 (nz rfl)) (nm rfl)).trans hv10
    have hv26 := (fr_ext (key := 3010) eh19 hk23 (nz rfl) (ne0 wh19 hk24 (nz rfl)) (nm rfl)).trans hv25
    refine r_getr' (pc := 88) (T := TX3) 3 10 hv26 hk24 (Or.inl q445) dX3_decode_88 kc3 g3010 ?_
    have hk27 := kd_ext eh16 hk11 (nz rfl)
    have hk28 := kd_ext eh19 hk27 (nz rfl)
    have K := K _ rfl
    refine r_getr' (pc := 91) (T := TX6) 6 2 rfl hk28 (Or.inr (Or.inl ⟨_, q421⟩)) dX3_decode_91 kc6 g6002 ?_
    refine r_lconst (pc := 94) (a := 1) dX3_decode_94 rfl ?_
    obtain ⟨hk32, K⟩ := K
    refine r_callV_R (pc := 95) (Y := mX5_small) (vs := [_]) (st := []) hk32 rfl kc5 q431 q432 q433 dX3_decode_95 rfl cd_X5_small rfl rfl fp_X3_decode_X5_small K (fun x30 h31 eh31 wh31 K => ?_) (fun x h1 _ _ e => Tw.out rfl e)
    refine r_pop (pc := 98) rfl dX3_decode_98 ?_
    refine r_aload_n (pc := 99) dX3_decode_99 rfl ?_
    have hk33 := kd_ext eh31 hk24 (nz rfl)
    have hv34 := fr_self (key := 3000) hk8
    have hv35 := (fr_ext (key := 3000) eh16 hk8 (nz rfl) (ne0 wh16 hk23 (nz rfl)) (nm rfl)).trans hv34
    have hv36 := (fr_ext (key := 3000) eh19 hk23 (nz rfl) (ne0 wh19 hk24 (nz rfl)) (nm rfl)).trans hv35
    have hv37 := (fr_ext (key := 3000) eh31 hk24 (nz rfl) (ne0 wh31 hk33 (nz rfl)) (nm rfl)).trans hv36
    refine r_getr' (pc := 100) (T := TX3) 3 0 hv37 hk33 (Or.inl q435) dX3_decode_100 kc3 g3000 ?_
    refine r_aload_n (pc := 103) dX3_decode_103 rfl ?_
    have K := K _ rfl
    refine r_getr' (pc := 104) (T := TX3) 3 3 rfl hk33 (Or.inl q438) dX3_decode_104 kc3 g3003 ?_
    refine r_aload_n (pc := 107) dX3_decode_107 rfl ?_
    have hv39 := (fr_ext (key := 3010) eh31 hk24 (nz rfl) (ne0 wh31 hk33 (nz rfl)) (nm rfl)).trans hv26
    refine r_getr' (pc := 108) (T := TX3) 3 10 hv39 hk33 (Or.inl q445) dX3_decode_108 kc3 g3010 ?_
    have hk40 := kd_ext eh31 hk28 (nz rfl)
    have hv41 := (fr_ext (key := 6000) eh16 hk11 (nz rfl) (ne0 wh16 hk27 (nz rfl)) (nm rfl)).trans hv13
    have hv42 := (fr_ext (key := 6000) eh19 hk27 (nz rfl) (ne0 wh19 hk28 (nz rfl)) (nm rfl)).trans hv41
    have hv43 := (fr_ext (key := 6000) eh31 hk28 (nz rfl) (ne0 wh31 hk40 (nz rfl)) (nm rfl)).trans hv42
    refine r_getr' (pc := 111) (T := TX6) 6 0 hv43 hk40 (Or.inr (Or.inl ⟨_, q417⟩)) dX3_decode_111 kc6 g6000 ?_
    refine r_aload_n (pc := 114) dX3_decode_114 rfl ?_
    refine r_getr' (pc := 115) (T := TX3) 3 10 hv39 hk33 (Or.inl q445) dX3_decode_115 kc3 g3010 ?_
    refine r_getr' (pc := 118) (T := TX6) 6 0 hv43 hk40 (Or.inr (Or.inl ⟨_, q417⟩)) dX3_decode_118 kc6 g6000 ?_
    have hk46 := kd_ext eh16 hk17 (nz rfl)
    have hk47 := kd_ext eh19 hk46 (nz rfl)
    have hk48 := kd_ext eh31 hk47 (nz rfl)
    refine r_callV_V (pc := 121) (Y := mX4_multiply) (vs := [_, _, _]) (st := []) hk48 rfl kc4 q1399 q1400 q1401 dX3_decode_121 rfl cd_X4_multiply rfl rfl fp_X3_decode_X4_multiply K (fun h45 eh45 wh45 K => ?_) (fun x h1 _ _ e => Tw.out rfl e)
    refine r_aload_n (pc := 124) dX3_decode_124 rfl ?_
    have hk49 := kd_ext eh45 hk33 (nz rfl)
    have hv50 := (fr_ext (key := 3000) eh45 hk33 (nz rfl) (ne0 wh45 hk49 (nz rfl)) (nm rfl)).trans hv37
    refine r_getr' (pc := 125) (T := TX3) 3 0 hv50 hk49 (Or.inl q435) dX3_decode_125 kc3 g3000 ?_
    refine r_aload_n (pc := 128) dX3_decode_128 rfl ?_
    have hv51 := fr_self (key := 3003) hk33
    have hv52 := (fr_ext (key := 3003) eh45 hk33 (nz rfl) (ne0 wh45 hk49 (nz rfl)) (nm rfl)).trans hv51
    refine r_getr' (pc := 129) (T := TX3) 3 3 hv52 hk49 (Or.inl q438) dX3_decode_129 kc3 g3003 ?_
    refine r_aload_n (pc := 132) dX3_decode_132 rfl ?_
    refine r_getr' (pc := 133) (T := TX3) 3 3 hv52 hk49 (Or.inl q438) dX3_decode_133 kc3 g3003 ?_
    refine r_aload_n (pc := 136) dX3_decode_136 rfl ?_
    have hv53 := (fr_ext (key := 3010) eh45 hk33 (nz rfl) (ne0 wh45 hk49 (nz rfl)) (nm rfl)).trans hv39
    refine r_getr' (pc := 137) (T := TX3) 3 10 hv53 hk49 (Or.inl q445) dX3_decode_137 kc3 g3010 ?_
    have hk54 := kd_ext eh45 hk40 (nz rfl)
    have hv55 := (fr_ext (key := 6000) eh45 hk40 (nz rfl) (ne0 wh45 hk54 (nz rfl)) (nm rfl)).trans hv43
    refine r_getr' (pc := 140) (T := TX6) 6 0 hv55 hk54 (Or.inr (Or.inl ⟨_, q417⟩)) dX3_decode_140 kc6 g6000 ?_
    have hk58 := kd_ext eh45 hk48 (nz rfl)
    refine r_callV_V (pc := 143) (Y := mX4_multiply) (vs := [_, _, _]) (st := []) hk58 rfl kc4 q1399 q1400 q1401 dX3_decode_143 rfl cd_X4_multiply rfl rfl fp_X3_decode_X4_multiply K (fun h57 eh57 wh57 K => ?_) (fun x h1 _ _ e => Tw.out rfl e)
    refine r_aload_n (pc := 146) dX3_decode_146 rfl ?_
    have hk59 := kd_ext eh57 hk49 (nz rfl)
    have K := K _ rfl
    refine r_getr' (pc := 147) (T := TX3) 3 4 rfl hk59 (Or.inl q439) dX3_decode_147 kc3 g3004 ?_
    refine r_ldc2 (pc := 150) dX3_decode_150 q1413 ?_
    obtain ⟨hk63, K⟩ := K
    refine r_callV_R (pc := 153) (Y := mX5_small) (vs := [_]) (st := []) hk63 rfl kc5 q431 q432 q433 dX3_decode_153 rfl cd_X5_small rfl rfl fp_X3_decode_X5_small K (fun x61 h62 eh62 wh62 K => ?_) (fun x h1 _ _ e => Tw.out rfl e)
    refine r_pop (pc := 156) rfl dX3_decode_156 ?_
    refine r_aload_n (pc := 157) dX3_decode_157 rfl ?_
    have hk64 := kd_ext eh62 hk59 (nz rfl)
    have hv65 := (fr_ext (key := 3000) eh57 hk49 (nz rfl) (ne0 wh57 hk59 (nz rfl)) (nm rfl)).trans hv50
    have hv66 := (fr_ext (key := 3000) eh62 hk59 (nz rfl) (ne0 wh62 hk64 (nz rfl)) (nm rfl)).trans hv65
    refine r_getr' (pc := 158) (T := TX3) 3 0 hv66 hk64 (Or.inl q435) dX3_decode_158 kc3 g3000 ?_
    refine r_aload_n (pc := 161) dX3_decode_161 rfl ?_
    have hv67 := (fr_ext (key := 3003) eh57 hk49 (nz rfl) (ne0 wh57 hk59 (nz rfl)) (nm rfl)).trans hv52
    have hv68 := (fr_ext (key := 3003) eh62 hk59 (nz rfl) (ne0 wh62 hk64 (nz rfl)) (nm rfl)).trans hv67
    refine r_getr' (pc := 162) (T := TX3) 3 3 hv68 hk64 (Or.inl q438) dX3_decode_162 kc3 g3003 ?_
    refine r_aload_n (pc := 165) dX3_decode_165 rfl ?_
    refine r_getr' (pc := 166) (T := TX3) 3 3 hv68 hk64 (Or.inl q438) dX3_decode_166 kc3 g3003 ?_
    refine r_aload_n (pc := 169) dX3_decode_169 rfl ?_
    have hv69 := fr_self (key := 3004) hk59
    have hv70 := (fr_ext (key := 3004) eh62 hk59 (nz rfl) (ne0 wh62 hk64 (nz rfl)) (nm rfl)).trans hv69
    refine r_getr' (pc := 170) (T := TX3) 3 4 hv70 hk64 (Or.inl q439) dX3_decode_170 kc3 g3004 ?_
    have hk73 := kd_ext eh57 hk58 (nz rfl)
    have hk74 := kd_ext eh62 hk73 (nz rfl)
    refine r_callV_V (pc := 173) (Y := mX4_add) (vs := [_, _, _]) (st := []) hk74 rfl kc4 q1414 q1415 q1416 dX3_decode_173 rfl cd_X4_add rfl rfl fp_X3_decode_X4_add K (fun h72 eh72 wh72 K => ?_) (fun x h1 _ _ e => Tw.out rfl e)
    refine r_iload_n (pc := 176) dX3_decode_176 rfl ?_
    refine r_bipush (pc := 177) (x := 65) dX3_decode_177 rfl ?_
    refine r_icmp_ne (pc := 179) (tgt := 267) dX3_decode_179 rfl (fun c75 => ?_) (fun c75 => ?_)
    · have K := K.1 c75
      refine r_aload_n (pc := 267) dX3_decode_267 rfl ?_
      have hk76 := kd_ext eh72 hk64 (nz rfl)
      have K := K _ rfl
      refine r_getr' (pc := 268) (T := TX3) 3 5 rfl hk76 (Or.inl q440) dX3_decode_268 kc3 g3005 ?_
      refine r_lconst (pc := 271) (a := 1) dX3_decode_271 rfl ?_
      obtain ⟨hk80, K⟩ := K
      refine r_callV_R (pc := 272) (Y := mX5_small) (vs := [_]) (st := []) hk80 rfl kc5 q431 q432 q433 dX3_decode_272 rfl cd_X5_small rfl rfl fp_X3_decode_X5_small K (fun x78 h79 eh79 wh79 K => ?_) (fun x h1 _ _ e => Tw.out rfl e)
      refine r_pop (pc := 275) rfl dX3_decode_275 ?_
      refine r_aload_n (pc := 276) dX3_decode_276 rfl ?_
      have hk81 := kd_ext eh79 hk76 (nz rfl)
      have K := K _ rfl
      refine r_getr' (pc := 277) (T := TX3) 3 6 rfl hk81 (Or.inl q441) dX3_decode_277 kc3 g3006 ?_
      refine r_aload_n (pc := 280) dX3_decode_280 rfl ?_
      have hv83 := (fr_ext (key := 3000) eh72 hk64 (nz rfl) (ne0 wh72 hk76 (nz rfl)) (nm rfl)).trans hv66
      have hv84 := (fr_ext (key := 3000) eh79 hk76 (nz rfl) (ne0 wh79 hk81 (nz rfl)) (nm rfl)).trans hv83
      refine r_getr' (pc := 281) (T := TX3) 3 0 hv84 hk81 (Or.inl q435) dX3_decode_281 kc3 g3000 ?_
      have hk87 := kd_ext eh72 hk74 (nz rfl)
      have hk88 := kd_ext eh79 hk87 (nz rfl)
      refine r_callV_R (pc := 284) (Y := mX4_modulus) (vs := []) (st := [_]) hk88 rfl kc4 q1394 q1395 q1396 dX3_decode_284 rfl cd_X4_modulus rfl rfl fp_X3_decode_X4_modulus K (fun x85 h86 eh86 wh86 K => ?_) (fun x h1 _ _ e => Tw.out rfl e)
      refine r_aload_n (pc := 287) dX3_decode_287 rfl ?_
      have hk89 := kd_ext eh86 hk81 (nz rfl)
      have hv90 := fr_self (key := 3005) hk76
      have hv91 := (fr_ext (key := 3005) eh79 hk76 (nz rfl) (ne0 wh79 hk81 (nz rfl)) (nm rfl)).trans hv90
      have hv92 := (fr_ext (key := 3005) eh86 hk81 (nz rfl) (ne0 wh86 hk89 (nz rfl)) (nm rfl)).trans hv91
      refine r_getr' (pc := 288) (T := TX3) 3 5 hv92 hk89 (Or.inl q440) dX3_decode_288 kc3 g3005 ?_
      obtain ⟨hk95, K⟩ := K
      refine r_callV_I (pc := 291) (Y := mX5_add) (vs := [_, _]) (st := []) hk95 rfl kc5 q1419 q1169 q1170 dX3_decode_291 rfl cd_X5_add rfl rfl fp_X3_decode_X5_add K (fun x93 h94 eh94 wh94 K => ?_) (fun x h1 _ _ e => Tw.out rfl e)
      refine r_istore (pc := 294) (lv' := [_, _, _, _, _, _, _]) dX3_decode_294 (by decide) rfl ?_
      refine r_iconst (pc := 296) (x := 0) dX3_decode_296 rfl ?_
      refine r_istore (pc := 297) (lv' := [_, _, _, _, _, _, _]) dX3_decode_297 (by decide) rfl ?_
      refine r_mask (pc := 299) [true, false, false, false, true, true, true] rfl ?_
      exact K
    · have K := K.2 c75
      refine r_aload_n (pc := 182) dX3_decode_182 rfl ?_
      have hk96 := kd_ext eh72 hk64 (nz rfl)
      have hv97 := (fr_ext (key := 3010) eh57 hk49 (nz rfl) (ne0 wh57 hk59 (nz rfl)) (nm rfl)).trans hv53
      have hv98 := (fr_ext (key := 3010) eh62 hk59 (nz rfl) (ne0 wh62 hk64 (nz rfl)) (nm rfl)).trans hv97
      have hv99 := (fr_ext (key := 3010) eh72 hk64 (nz rfl) (ne0 wh72 hk96 (nz rfl)) (nm rfl)).trans hv98
      refine r_getr' (pc := 183) (T := TX3) 3 10 hv99 hk96 (Or.inl q445) dX3_decode_183 kc3 g3010 ?_
      have hk100 := kd_ext eh57 hk54 (nz rfl)
      have hk101 := kd_ext eh62 hk100 (nz rfl)
      have hk102 := kd_ext eh72 hk101 (nz rfl)
      have K := K _ rfl
      refine r_getr' (pc := 186) (T := TX6) 6 1 rfl hk102 (Or.inr (Or.inl ⟨_, q419⟩)) dX3_decode_186 kc6 g6001 ?_
      refine r_aload_n (pc := 189) dX3_decode_189 rfl ?_
      refine r_iload_n (pc := 190) dX3_decode_190 rfl ?_
      refine r_bipush (pc := 191) (x := 33) dX3_decode_191 rfl ?_
      refine r_iadd (pc := 193) dX3_decode_193 ?_
      refine r_bipush (pc := 194) (x := 32) dX3_decode_194 rfl ?_
      obtain ⟨hk106, K⟩ := K
      refine r_callV_R (pc := 196) (Y := mX5_read) (vs := [_, _, _]) (st := []) hk106 rfl kc5 q1390 q1391 q1392 dX3_decode_196 rfl cd_X5_read rfl rfl fp_X3_decode_X5_read K (fun x104 h105 eh105 wh105 K => ?_) (fun x h1 _ _ e => Tw.out rfl e)
      refine r_pop (pc := 199) rfl dX3_decode_199 ?_
      refine r_aload_n (pc := 200) dX3_decode_200 rfl ?_
      have hk107 := kd_ext eh105 hk96 (nz rfl)
      have hv108 := (fr_ext (key := 3010) eh105 hk96 (nz rfl) (ne0 wh105 hk107 (nz rfl)) (nm rfl)).trans hv99
      refine r_getr' (pc := 201) (T := TX3) 3 10 hv108 hk107 (Or.inl q445) dX3_decode_201 kc3 g3010 ?_
      have hk109 := kd_ext eh105 hk102 (nz rfl)
      have hv110 := fr_self (key := 6001) hk102
      have hv111 := (fr_ext (key := 6001) eh105 hk102 (nz rfl) (ne0 wh105 hk109 (nz rfl)) (nm rfl)).trans hv110
      refine r_getr' (pc := 204) (T := TX6) 6 1 hv111 hk109 (Or.inr (Or.inl ⟨_, q419⟩)) dX3_decode_204 kc6 g6001 ?_
      refine r_aload_n (pc := 207) dX3_decode_207 rfl ?_
      have hv112 := (fr_ext (key := 3000) eh72 hk64 (nz rfl) (ne0 wh72 hk96 (nz rfl)) (nm rfl)).trans hv66
      have hv113 := (fr_ext (key := 3000) eh105 hk96 (nz rfl) (ne0 wh105 hk107 (nz rfl)) (nm rfl)).trans hv112
      refine r_getr' (pc := 208) (T := TX3) 3 0 hv113 hk107 (Or.inl q435) dX3_decode_208 kc3 g3000 ?_
      have hk116 := kd_ext eh72 hk74 (nz rfl)
      have hk117 := kd_ext eh105 hk116 (nz rfl)
      refine r_callV_R (pc := 211) (Y := mX4_modulus) (vs := []) (st := [_]) hk117 rfl kc4 q1394 q1395 q1396 dX3_decode_211 rfl cd_X4_modulus rfl rfl fp_X3_decode_X4_modulus K (fun x114 h115 eh115 wh115 K => ?_) (fun x h1 _ _ e => Tw.out rfl e)
      have hk120 := kd_ext eh105 hk106 (nz rfl)
      have hk121 := kd_ext eh115 hk120 (nz rfl)
      refine r_callV_I (pc := 214) (Y := mX5_compare) (vs := [_]) (st := []) hk121 rfl kc5 q1398 q852 q853 dX3_decode_214 rfl cd_X5_compare rfl rfl fp_X3_decode_X5_compare K (fun x118 h119 eh119 wh119 K => ?_) (fun x h1 _ _ e => Tw.out rfl e)
      refine r_if_lt (pc := 217) (tgt := 222) dX3_decode_217 rfl (fun c122 => ?_) (fun c122 => ?_)
      · have K := K.1 c122
        refine r_aload_n (pc := 222) dX3_decode_222 rfl ?_
        have hk123 := kd_ext eh115 hk107 (nz rfl)
        have hk124 := kd_ext eh119 hk123 (nz rfl)
        have hv125 := (fr_ext (key := 3000) eh115 hk107 (nz rfl) (ne0 wh115 hk123 (nz rfl)) (nm rfl)).trans hv113
        have hv126 := (fr_ext (key := 3000) eh119 hk123 (nz rfl) (ne0 wh119 hk124 (nz rfl)) (nm rfl)).trans hv125
        refine r_getr' (pc := 223) (T := TX3) 3 0 hv126 hk124 (Or.inl q435) dX3_decode_223 kc3 g3000 ?_
        refine r_aload_n (pc := 226) dX3_decode_226 rfl ?_
        have hv127 := (fr_ext (key := 3004) eh72 hk64 (nz rfl) (ne0 wh72 hk96 (nz rfl)) (nm rfl)).trans hv70
        have hv128 := (fr_ext (key := 3004) eh105 hk96 (nz rfl) (ne0 wh105 hk107 (nz rfl)) (nm rfl)).trans hv127
        have hv129 := (fr_ext (key := 3004) eh115 hk107 (nz rfl) (ne0 wh115 hk123 (nz rfl)) (nm rfl)).trans hv128
        have hv130 := (fr_ext (key := 3004) eh119 hk123 (nz rfl) (ne0 wh119 hk124 (nz rfl)) (nm rfl)).trans hv129
        refine r_getr' (pc := 227) (T := TX3) 3 4 hv130 hk124 (Or.inl q439) dX3_decode_227 kc3 g3004 ?_
        refine r_aload_n (pc := 230) dX3_decode_230 rfl ?_
        have hv131 := (fr_ext (key := 3010) eh115 hk107 (nz rfl) (ne0 wh115 hk123 (nz rfl)) (nm rfl)).trans hv108
        have hv132 := (fr_ext (key := 3010) eh119 hk123 (nz rfl) (ne0 wh119 hk124 (nz rfl)) (nm rfl)).trans hv131
        refine r_getr' (pc := 231) (T := TX3) 3 10 hv132 hk124 (Or.inl q445) dX3_decode_231 kc3 g3010 ?_
        have hk133 := kd_ext eh115 hk109 (nz rfl)
        have hk134 := kd_ext eh119 hk133 (nz rfl)
        have hv135 := (fr_ext (key := 6001) eh115 hk109 (nz rfl) (ne0 wh115 hk133 (nz rfl)) (nm rfl)).trans hv111
        have hv136 := (fr_ext (key := 6001) eh119 hk133 (nz rfl) (ne0 wh119 hk134 (nz rfl)) (nm rfl)).trans hv135
        refine r_getr' (pc := 234) (T := TX6) 6 1 hv136 hk134 (Or.inr (Or.inl ⟨_, q419⟩)) dX3_decode_234 kc6 g6001 ?_
        refine r_aload_n (pc := 237) dX3_decode_237 rfl ?_
        refine r_getr' (pc := 238) (T := TX3) 3 10 hv132 hk124 (Or.inl q445) dX3_decode_238 kc3 g3010 ?_
        refine r_getr' (pc := 241) (T := TX6) 6 1 hv136 hk134 (Or.inr (Or.inl ⟨_, q419⟩)) dX3_decode_241 kc6 g6001 ?_
        have hk139 := kd_ext eh115 hk117 (nz rfl)
        have hk140 := kd_ext eh119 hk139 (nz rfl)
        refine r_callV_V (pc := 244) (Y := mX4_multiply) (vs := [_, _, _]) (st := []) hk140 rfl kc4 q1399 q1400 q1401 dX3_decode_244 rfl cd_X4_multiply rfl rfl fp_X3_decode_X4_multiply K (fun h138 eh138 wh138 K => ?_) (fun x h1 _ _ e => Tw.out rfl e)
        refine r_aload_n (pc := 247) dX3_decode_247 rfl ?_
        have hk141 := kd_ext eh138 hk124 (nz rfl)
        have hv142 := (fr_ext (key := 3003) eh72 hk64 (nz rfl) (ne0 wh72 hk96 (nz rfl)) (nm rfl)).trans hv68
        have hv143 := (fr_ext (key := 3003) eh105 hk96 (nz rfl) (ne0 wh105 hk107 (nz rfl)) (nm rfl)).trans hv142
        have hv144 := (fr_ext (key := 3003) eh115 hk107 (nz rfl) (ne0 wh115 hk123 (nz rfl)) (nm rfl)).trans hv143
        have hv145 := (fr_ext (key := 3003) eh119 hk123 (nz rfl) (ne0 wh119 hk124 (nz rfl)) (nm rfl)).trans hv144
        have hv146 := (fr_ext (key := 3003) eh138 hk124 (nz rfl) (ne0 wh138 hk141 (nz rfl)) (nm rfl)).trans hv145
        refine r_getr' (pc := 248) (T := TX3) 3 3 hv146 hk141 (Or.inl q438) dX3_decode_248 kc3 g3003 ?_
        refine r_aload_n (pc := 251) dX3_decode_251 rfl ?_
        have hv147 := (fr_ext (key := 3004) eh138 hk124 (nz rfl) (ne0 wh138 hk141 (nz rfl)) (nm rfl)).trans hv130
        refine r_getr' (pc := 252) (T := TX3) 3 4 hv147 hk141 (Or.inl q439) dX3_decode_252 kc3 g3004 ?_
        obtain ⟨hk150, K⟩ := K
        refine r_callV_I (pc := 255) (Y := mX5_compare) (vs := [_]) (st := []) hk150 rfl kc5 q1398 q852 q853 dX3_decode_255 rfl cd_X5_compare rfl rfl fp_X3_decode_X5_compare K (fun x148 h149 eh149 wh149 K => ?_) (fun x h1 _ _ e => Tw.out rfl e)
        refine r_if_ne (pc := 258) (tgt := 265) dX3_decode_258 rfl (fun c151 => ?_) (fun c151 => ?_)
        · have K := K.1 c151
          refine r_iconst (pc := 265) (x := 0) dX3_decode_265 rfl ?_
          exact r_iret (pc := 266) rfl rfl dX3_decode_266 K
        · have K := K.2 c151
          refine r_iconst (pc := 261) (x := 1) dX3_decode_261 rfl ?_
          refine r_goto (pc := 262) (tgt := 266) dX3_decode_262 rfl ?_
          exact r_iret (pc := 266) rfl rfl dX3_decode_266 K
      · have K := K.2 c122
        refine r_iconst (pc := 220) (x := 0) dX3_decode_220 rfl ?_
        exact r_iret (pc := 221) rfl rfl dX3_decode_221 K
  · have K := K.2 c22
    refine r_iconst (pc := 85) (x := 0) dX3_decode_85 rfl ?_
    exact r_iret (pc := 86) rfl rfl dX3_decode_86 K
set_option maxHeartbeats 4000000 in
theorem sX3_decode_299 {G : Gx} {d t : Nat} {h0 : AH} {Φ : Out → AH → Prop} (h : AH) (v0 : Nat) (v4 : Int32) (v5 : Int32) (v6 : Int32) (K : ((8 ≤ v6 → h.kd v0 = 3 ∧ ∀ r3 : Nat, r3 = (h.r 3000 v0) → ∀ r4 : Nat, r4 = (h.r 3010 v0) → h.kd r4 = 6 ∧ ∀ r6 : Nat, r6 = (h.r 6001 r4) → ∀ r7 : Nat, r7 = (h.r 3003 v0) → ∀ r8 : Nat, r8 = (h.r 3006 v0) → h.kd r3 = 4 ∧ Cw G mX4_power d 0 [vR r3, vR r6, vR r7, vR r8] h (kV (fun h10 => ∀ r15 : Nat, r15 = (h10.r 3004 v0) → Cw G mX4_multiply d 0 [vR r3, vR r15, vR r6, vR r6] h10 (kV (fun h22 => h22.kd r7 = 5 ∧ Cw G mX5_compare d 0 [vR r7, vR r15] h22 (kI (fun x30 h31 => ((x30 = 0 → h31.kd r6 = 5 ∧ Cw G mX5_bit d 0 [vR r6, vI 0] h31 (kI (fun x41 h42 => ((x41 = (v4 - 2) → Φ (.inl (some (vI 1))) h42) ∧ (¬ x41 = (v4 - 2) → ∀ r52 : Nat, r52 = (h42.r 3005 v0) → h42.kd r52 = 5 ∧ Cw G mX5_zero d 0 [vR r52] h42 (kR (fun x53 h54 => Cw G mX4_subtract d 0 [vR r3, vR r6, vR x53, vR r6] h54 (kV (fun h61 => Φ (.inl (some (vI 1))) h61) (fun x h => Φ (.inr x) h))) (fun x h => Φ (.inr x) h))))) (fun x h => Φ (.inr x) h))) ∧ (¬ x30 = 0 → Φ (.inl (some (vI 0))) h31))) (fun x h => Φ (.inr x) h))) (fun x h => Φ (.inr x) h))) (fun x h => Φ (.inr x) h))) ∧ (¬ 8 ≤ v6 → h.kd v0 = 3 ∧ ∀ r67 : Nat, r67 = (h.r 3006 v0) → h.kd r67 = 5 ∧ ∀ r69 : Nat, r69 = (h.r 5000 r67) → h.kd r69 = 100 ∧ vp_in v6 (h.ai r69).length ∧ ((7 ≤ v6 → vp_in v6 (h.ai r69).length ∧ ∀ h74 : AH, h74 = h.wi r69 ((h.ai r69).set (v6.toNatClampNeg) ((jushr ((h.ai r69).getD (v6.toNatClampNeg) 0) 2) ||| (jshl v5 30))) → Aw G mX3_decode (d + 1) t h0 Φ 299 [vR v0, vU, vU, vU, vI v4, vI v5, vI (v6 + 1)] [] h74) ∧ (¬ 7 ≤ v6 → vp_in (v6 + 1) (h.ai r69).length ∧ vp_in v6 (h.ai r69).length ∧ ∀ h77 : AH, h77 = h.wi r69 ((h.ai r69).set (v6.toNatClampNeg) ((jushr ((h.ai r69).getD (v6.toNatClampNeg) 0) 2) ||| (jshl ((h.ai r69).getD ((v6 + 1).toNatClampNeg) 0) 30))) → Aw G mX3_decode (d + 1) t h0 Φ 299 [vR v0, vU, vU, vU, vI v4, vI v5, vI (v6 + 1)] [] h77))))) : Aw G mX3_decode (d + 1) t h0 Φ 299 [vR v0, vU, vU, vU, vI v4, vI v5, vI v6] [] h := by
  refine r_iload (pc := 299) dX3_decode_299 rfl ?_
  refine r_bipush (pc := 301) (x := 8) dX3_decode_301 rfl ?_
  refine r_icmp_ge (pc := 303) (tgt := 365) dX3_decode_303 rfl (fun c1 => ?_) (fun c1 => ?_)
  · have K := K.1 c1
    refine r_aload_n (pc := 365) dX3_decode_365 rfl ?_
    obtain ⟨hk2, K⟩ := K
    have K := K _ rfl
    refine r_getr' (pc := 366) (T := TX3) 3 0 rfl hk2 (Or.inl q435) dX3_decode_366 kc3 g3000 ?_
    refine r_aload_n (pc := 369) dX3_decode_369 rfl ?_
    have K := K _ rfl
    refine r_getr' (pc := 370) (T := TX3) 3 10 rfl hk2 (Or.inl q445) dX3_decode_370 kc3 g3010 ?_
    obtain ⟨hk5, K⟩ := K
    have K := K _ rfl
    refine r_getr' (pc := 373) (T := TX6) 6 1 rfl hk5 (Or.inr (Or.inl ⟨_, q419⟩)) dX3_decode_373 kc6 g6001 ?_
    refine r_aload_n (pc := 376) dX3_decode_376 rfl ?_
    have K := K _ rfl
    refine r_getr' (pc := 377) (T := TX3) 3 3 rfl hk2 (Or.inl q438) dX3_decode_377 kc3 g3003 ?_
    refine r_aload_n (pc := 380) dX3_decode_380 rfl ?_
    have K := K _ rfl
    refine r_getr' (pc := 381) (T := TX3) 3 6 rfl hk2 (Or.inl q441) dX3_decode_381 kc3 g3006 ?_
    obtain ⟨hk11, K⟩ := K
    refine r_callV_V (pc := 384) (Y := mX4_power) (vs := [_, _, _]) (st := []) hk11 rfl kc4 q1420 q1421 q1422 dX3_decode_384 rfl cd_X4_power rfl rfl fp_X3_decode_X4_power K (fun h10 eh10 wh10 K => ?_) (fun x h1 _ _ e => Tw.out rfl e)
    refine r_aload_n (pc := 387) dX3_decode_387 rfl ?_
    have hk12 := kd_ext eh10 hk2 (nz rfl)
    have hv13 := fr_self (key := 3000) hk2
    have hv14 := (fr_ext (key := 3000) eh10 hk2 (nz rfl) (ne0 wh10 hk12 (nz rfl)) (nm rfl)).trans hv13
    refine r_getr' (pc := 388) (T := TX3) 3 0 hv14 hk12 (Or.inl q435) dX3_decode_388 kc3 g3000 ?_
    refine r_aload_n (pc := 391) dX3_decode_391 rfl ?_
    have K := K _ rfl
    refine r_getr' (pc := 392) (T := TX3) 3 4 rfl hk12 (Or.inl q439) dX3_decode_392 kc3 g3004 ?_
    refine r_aload_n (pc := 395) dX3_decode_395 rfl ?_
    have hv16 := fr_self (key := 3010) hk2
    have hv17 := (fr_ext (key := 3010) eh10 hk2 (nz rfl) (ne0 wh10 hk12 (nz rfl)) (nm rfl)).trans hv16
    refine r_getr' (pc := 396) (T := TX3) 3 10 hv17 hk12 (Or.inl q445) dX3_decode_396 kc3 g3010 ?_
    have hk18 := kd_ext eh10 hk5 (nz rfl)
    have hv19 := fr_self (key := 6001) hk5
    have hv20 := (fr_ext (key := 6001) eh10 hk5 (nz rfl) (ne0 wh10 hk18 (nz rfl)) (nm rfl)).trans hv19
    refine r_getr' (pc := 399) (T := TX6) 6 1 hv20 hk18 (Or.inr (Or.inl ⟨_, q419⟩)) dX3_decode_399 kc6 g6001 ?_
    refine r_aload_n (pc := 402) dX3_decode_402 rfl ?_
    refine r_getr' (pc := 403) (T := TX3) 3 10 hv17 hk12 (Or.inl q445) dX3_decode_403 kc3 g3010 ?_
    refine r_getr' (pc := 406) (T := TX6) 6 1 hv20 hk18 (Or.inr (Or.inl ⟨_, q419⟩)) dX3_decode_406 kc6 g6001 ?_
    have hk23 := kd_ext eh10 hk11 (nz rfl)
    refine r_callV_V (pc := 409) (Y := mX4_multiply) (vs := [_, _, _]) (st := []) hk23 rfl kc4 q1399 q1400 q1401 dX3_decode_409 rfl cd_X4_multiply rfl rfl fp_X3_decode_X4_multiply K (fun h22 eh22 wh22 K => ?_) (fun x h1 _ _ e => Tw.out rfl e)
    refine r_aload_n (pc := 412) dX3_decode_412 rfl ?_
    have hk24 := kd_ext eh22 hk12 (nz rfl)
    have hv25 := fr_self (key := 3003) hk2
    have hv26 := (fr_ext (key := 3003) eh10 hk2 (nz rfl) (ne0 wh10 hk12 (nz rfl)) (nm rfl)).trans hv25
    have hv27 := (fr_ext (key := 3003) eh22 hk12 (nz rfl) (ne0 wh22 hk24 (nz rfl)) (nm rfl)).trans hv26
    refine r_getr' (pc := 413) (T := TX3) 3 3 hv27 hk24 (Or.inl q438) dX3_decode_413 kc3 g3003 ?_
    refine r_aload_n (pc := 416) dX3_decode_416 rfl ?_
    have hv28 := fr_self (key := 3004) hk12
    have hv29 := (fr_ext (key := 3004) eh22 hk12 (nz rfl) (ne0 wh22 hk24 (nz rfl)) (nm rfl)).trans hv28
    refine r_getr' (pc := 417) (T := TX3) 3 4 hv29 hk24 (Or.inl q439) dX3_decode_417 kc3 g3004 ?_
    obtain ⟨hk32, K⟩ := K
    refine r_callV_I (pc := 420) (Y := mX5_compare) (vs := [_]) (st := []) hk32 rfl kc5 q1398 q852 q853 dX3_decode_420 rfl cd_X5_compare rfl rfl fp_X3_decode_X5_compare K (fun x30 h31 eh31 wh31 K => ?_) (fun x h1 _ _ e => Tw.out rfl e)
    refine r_if_eq (pc := 423) (tgt := 428) dX3_decode_423 rfl (fun c33 => ?_) (fun c33 => ?_)
    · have K := K.1 c33
      refine r_aload_n (pc := 428) dX3_decode_428 rfl ?_
      have hk34 := kd_ext eh31 hk24 (nz rfl)
      have hv35 := (fr_ext (key := 3010) eh22 hk12 (nz rfl) (ne0 wh22 hk24 (nz rfl)) (nm rfl)).trans hv17
      have hv36 := (fr_ext (key := 3010) eh31 hk24 (nz rfl) (ne0 wh31 hk34 (nz rfl)) (nm rfl)).trans hv35
      refine r_getr' (pc := 429) (T := TX3) 3 10 hv36 hk34 (Or.inl q445) dX3_decode_429 kc3 g3010 ?_
      have hk37 := kd_ext eh22 hk18 (nz rfl)
      have hk38 := kd_ext eh31 hk37 (nz rfl)
      have hv39 := (fr_ext (key := 6001) eh22 hk18 (nz rfl) (ne0 wh22 hk37 (nz rfl)) (nm rfl)).trans hv20
      have hv40 := (fr_ext (key := 6001) eh31 hk37 (nz rfl) (ne0 wh31 hk38 (nz rfl)) (nm rfl)).trans hv39
      refine r_getr' (pc := 432) (T := TX6) 6 1 hv40 hk38 (Or.inr (Or.inl ⟨_, q419⟩)) dX3_decode_432 kc6 g6001 ?_
      refine r_iconst (pc := 435) (x := 0) dX3_decode_435 rfl ?_
      obtain ⟨hk43, K⟩ := K
      refine r_callV_I (pc := 436) (Y := mX5_bit) (vs := [_]) (st := []) hk43 rfl kc5 q1429 q1179 q1180 dX3_decode_436 rfl cd_X5_bit rfl rfl fp_X3_decode_X5_bit K (fun x41 h42 eh42 wh42 K => ?_) (fun x h1 _ _ e => Tw.out rfl e)
      refine r_iload (pc := 439) dX3_decode_439 rfl ?_
      refine r_iconst (pc := 441) (x := 2) dX3_decode_441 rfl ?_
      refine r_isub (pc := 442) dX3_decode_442 ?_
      refine r_icmp_eq (pc := 443) (tgt := 474) dX3_decode_443 rfl (fun c44 => ?_) (fun c44 => ?_)
      · have K := K.1 c44
        refine r_iconst (pc := 474) (x := 1) dX3_decode_474 rfl ?_
        exact r_iret (pc := 475) rfl rfl dX3_decode_475 K
      · have K := K.2 c44
        refine r_aload_n (pc := 446) dX3_decode_446 rfl ?_
        have hk45 := kd_ext eh42 hk34 (nz rfl)
        have hv46 := (fr_ext (key := 3000) eh22 hk12 (nz rfl) (ne0 wh22 hk24 (nz rfl)) (nm rfl)).trans hv14
        have hv47 := (fr_ext (key := 3000) eh31 hk24 (nz rfl) (ne0 wh31 hk34 (nz rfl)) (nm rfl)).trans hv46
        have hv48 := (fr_ext (key := 3000) eh42 hk34 (nz rfl) (ne0 wh42 hk45 (nz rfl)) (nm rfl)).trans hv47
        refine r_getr' (pc := 447) (T := TX3) 3 0 hv48 hk45 (Or.inl q435) dX3_decode_447 kc3 g3000 ?_
        refine r_aload_n (pc := 450) dX3_decode_450 rfl ?_
        have hv49 := (fr_ext (key := 3010) eh42 hk34 (nz rfl) (ne0 wh42 hk45 (nz rfl)) (nm rfl)).trans hv36
        refine r_getr' (pc := 451) (T := TX3) 3 10 hv49 hk45 (Or.inl q445) dX3_decode_451 kc3 g3010 ?_
        have hk50 := kd_ext eh42 hk38 (nz rfl)
        have hv51 := (fr_ext (key := 6001) eh42 hk38 (nz rfl) (ne0 wh42 hk50 (nz rfl)) (nm rfl)).trans hv40
        refine r_getr' (pc := 454) (T := TX6) 6 1 hv51 hk50 (Or.inr (Or.inl ⟨_, q419⟩)) dX3_decode_454 kc6 g6001 ?_
        refine r_aload_n (pc := 457) dX3_decode_457 rfl ?_
        have K := K _ rfl
        refine r_getr' (pc := 458) (T := TX3) 3 5 rfl hk45 (Or.inl q440) dX3_decode_458 kc3 g3005 ?_
        obtain ⟨hk55, K⟩ := K
        refine r_callV_R (pc := 461) (Y := mX5_zero) (vs := []) (st := [_, _]) hk55 rfl kc5 q1430 q312 q313 dX3_decode_461 rfl cd_X5_zero rfl rfl fp_X3_decode_X5_zero K (fun x53 h54 eh54 wh54 K => ?_) (fun x h1 _ _ e => Tw.out rfl e)
        refine r_aload_n (pc := 464) dX3_decode_464 rfl ?_
        have hk56 := kd_ext eh54 hk45 (nz rfl)
        have hv57 := (fr_ext (key := 3010) eh54 hk45 (nz rfl) (ne0 wh54 hk56 (nz rfl)) (nm rfl)).trans hv49
        refine r_getr' (pc := 465) (T := TX3) 3 10 hv57 hk56 (Or.inl q445) dX3_decode_465 kc3 g3010 ?_
        have hk58 := kd_ext eh54 hk50 (nz rfl)
        have hv59 := (fr_ext (key := 6001) eh54 hk50 (nz rfl) (ne0 wh54 hk58 (nz rfl)) (nm rfl)).trans hv51
        refine r_getr' (pc := 468) (T := TX6) 6 1 hv59 hk58 (Or.inr (Or.inl ⟨_, q419⟩)) dX3_decode_468 kc6 g6001 ?_
        have hk62 := kd_ext eh22 hk23 (nz rfl)
        have hk63 := kd_ext eh31 hk62 (nz rfl)
        have hk64 := kd_ext eh42 hk63 (nz rfl)
        have hk65 := kd_ext eh54 hk64 (nz rfl)
        refine r_callV_V (pc := 471) (Y := mX4_subtract) (vs := [_, _, _]) (st := []) hk65 rfl kc4 q1431 q1432 q1433 dX3_decode_471 rfl cd_X4_subtract rfl rfl fp_X3_decode_X4_subtract K (fun h61 eh61 wh61 K => ?_) (fun x h1 _ _ e => Tw.out rfl e)
        refine r_iconst (pc := 474) (x := 1) dX3_decode_474 rfl ?_
        exact r_iret (pc := 475) rfl rfl dX3_decode_475 K
    · have K := K.2 c33
      refine r_iconst (pc := 426) (x := 0) dX3_decode_426 rfl ?_
      exact r_iret (pc := 427) rfl rfl dX3_decode_427 K
  · have K := K.2 c1
    refine r_aload_n (pc := 306) dX3_decode_306 rfl ?_
    obtain ⟨hk66, K⟩ := K
    have K := K _ rfl
    refine r_getr' (pc := 307) (T := TX3) 3 6 rfl hk66 (Or.inl q441) dX3_decode_307 kc3 g3006 ?_
    obtain ⟨hk68, K⟩ := K
    have K := K _ rfl
    refine r_getr' (pc := 310) (T := TX5) 5 0 rfl hk68 (Or.inr (Or.inl ⟨_, q302⟩)) dX3_decode_310 kc5 g5000 ?_
    refine r_iload (pc := 313) dX3_decode_313 rfl ?_
    refine r_aload_n (pc := 315) dX3_decode_315 rfl ?_
    refine r_getr' (pc := 316) (T := TX3) 3 6 rfl hk66 (Or.inl q441) dX3_decode_316 kc3 g3006 ?_
    refine r_getr' (pc := 319) (T := TX5) 5 0 rfl hk68 (Or.inr (Or.inl ⟨_, q302⟩)) dX3_decode_319 kc5 g5000 ?_
    refine r_iload (pc := 322) dX3_decode_322 rfl ?_
    obtain ⟨hk70, K⟩ := K
    obtain ⟨hi71, K⟩ := K
    refine r_iaload (pc := 324) hk70 hi71 dX3_decode_324 ?_
    refine r_iconst (pc := 325) (x := 2) dX3_decode_325 rfl ?_
    refine r_jushr (pc := 326) dX3_decode_326 ?_
    refine r_iload (pc := 327) dX3_decode_327 rfl ?_
    refine r_bipush (pc := 329) (x := 7) dX3_decode_329 rfl ?_
    refine r_icmp_ge (pc := 331) (tgt := 352) dX3_decode_331 rfl (fun c72 => ?_) (fun c72 => ?_)
    · have K := K.1 c72
      refine r_iload (pc := 352) dX3_decode_352 rfl ?_
      refine r_bipush (pc := 354) (x := 30) dX3_decode_354 rfl ?_
      refine r_jshl (pc := 356) dX3_decode_356 ?_
      refine r_ior (pc := 357) dX3_decode_357 ?_
      obtain ⟨hi73, K⟩ := K
      refine r_iastore (pc := 358) hk70 hi73 (Or.inl (em rfl)) dX3_decode_358 ?_
      refine r_nameH (fun h74 eh74 => ?_)
      have K := K h74 eh74
      refine r_iinc (pc := 359) (lv' := [_, _, _, _, _, _, _]) dX3_decode_359 rfl rfl (by decide) rfl ?_
      refine r_goto (pc := 362) (tgt := 299) dX3_decode_362 rfl ?_
      refine r_mask (pc := 299) [true, false, false, false, true, true, true] rfl ?_
      exact K
    · have K := K.2 c72
      refine r_aload_n (pc := 334) dX3_decode_334 rfl ?_
      refine r_getr' (pc := 335) (T := TX3) 3 6 rfl hk66 (Or.inl q441) dX3_decode_335 kc3 g3006 ?_
      refine r_getr' (pc := 338) (T := TX5) 5 0 rfl hk68 (Or.inr (Or.inl ⟨_, q302⟩)) dX3_decode_338 kc5 g5000 ?_
      refine r_iload (pc := 341) dX3_decode_341 rfl ?_
      refine r_iconst (pc := 343) (x := 1) dX3_decode_343 rfl ?_
      refine r_iadd (pc := 344) dX3_decode_344 ?_
      obtain ⟨hi75, K⟩ := K
      refine r_iaload (pc := 345) hk70 hi75 dX3_decode_345 ?_
      refine r_bipush (pc := 346) (x := 30) dX3_decode_346 rfl ?_
      refine r_jshl (pc := 348) dX3_decode_348 ?_
      refine r_goto (pc := 349) (tgt := 357) dX3_decode_349 rfl ?_
      refine r_ior (pc := 357) dX3_decode_357 ?_
      obtain ⟨hi76, K⟩ := K
      refine r_iastore (pc := 358) hk70 hi76 (Or.inl (em rfl)) dX3_decode_358 ?_
      refine r_nameH (fun h77 eh77 => ?_)
      have K := K h77 eh77
      refine r_iinc (pc := 359) (lv' := [_, _, _, _, _, _, _]) dX3_decode_359 rfl rfl (by decide) rfl ?_
      refine r_goto (pc := 362) (tgt := 299) dX3_decode_362 rfl ?_
      refine r_mask (pc := 299) [true, false, false, false, true, true, true] rfl ?_
      exact K
theorem dX3_part_0 : decode cX3_part 0 = .ok (.aload_n 2, 1) := by decide +kernel
theorem dX3_part_1 : decode cX3_part 1 = .ok (.iload_n 3, 1) := by decide +kernel
theorem dX3_part_2 : decode cX3_part 2 = .ok (.iconst 1, 1) := by decide +kernel
theorem dX3_part_3 : decode cX3_part 3 = .ok (.iadd, 1) := by decide +kernel
theorem dX3_part_4 : decode cX3_part 4 = .ok (.baload, 1) := by decide +kernel
theorem dX3_part_5 : decode cX3_part 5 = .ok (.istore 4, 2) := by decide +kernel
theorem dX3_part_7 : decode cX3_part 7 = .ok (.iload_n 3, 1) := by decide +kernel
theorem dX3_part_8 : decode cX3_part 8 = .ok (.iconst 2, 1) := by decide +kernel
theorem dX3_part_9 : decode cX3_part 9 = .ok (.iadd, 1) := by decide +kernel
theorem dX3_part_10 : decode cX3_part 10 = .ok (.istore 5, 2) := by decide +kernel
theorem dX3_part_12 : decode cX3_part 12 = .ok (.iload 4, 2) := by decide +kernel
theorem dX3_part_14 : decode cX3_part 14 = .ok (.bipush 32, 2) := by decide +kernel
theorem dX3_part_16 : decode cX3_part 16 = .ok (.if_icmp .le 25, 3) := by decide +kernel
theorem dX3_part_19 : decode cX3_part 19 = .ok (.aload_n 2, 1) := by decide +kernel
theorem dX3_part_20 : decode cX3_part 20 = .ok (.iload 5, 2) := by decide +kernel
theorem dX3_part_22 : decode cX3_part 22 = .ok (.baload, 1) := by decide +kernel
theorem dX3_part_23 : decode cX3_part 23 = .ok (.ifCond .eq 9, 3) := by decide +kernel
theorem dX3_part_26 : decode cX3_part 26 = .ok (.aload_n 1, 1) := by decide +kernel
theorem dX3_part_27 : decode cX3_part 27 = .ok (.invokevirtual 127, 3) := by decide +kernel
theorem dX3_part_30 : decode cX3_part 30 = .ok (.pop, 1) := by decide +kernel
theorem dX3_part_31 : decode cX3_part 31 = .ok (.return_, 1) := by decide +kernel
theorem dX3_part_32 : decode cX3_part 32 = .ok (.iinc 5 1, 3) := by decide +kernel
theorem dX3_part_35 : decode cX3_part 35 = .ok (.iinc 4 (-1), 3) := by decide +kernel
theorem dX3_part_38 : decode cX3_part 38 = .ok (.goto (-26), 3) := by decide +kernel
theorem dX3_part_41 : decode cX3_part 41 = .ok (.aload_n 1, 1) := by decide +kernel
theorem dX3_part_42 : decode cX3_part 42 = .ok (.aload_n 2, 1) := by decide +kernel
theorem dX3_part_43 : decode cX3_part 43 = .ok (.iload 5, 2) := by decide +kernel
theorem dX3_part_45 : decode cX3_part 45 = .ok (.iload 4, 2) := by decide +kernel
theorem dX3_part_47 : decode cX3_part 47 = .ok (.invokevirtual 146, 3) := by decide +kernel
theorem dX3_part_50 : decode cX3_part 50 = .ok (.pop, 1) := by decide +kernel
theorem dX3_part_51 : decode cX3_part 51 = .ok (.return_, 1) := by decide +kernel
/-! CoinJudge$Curve.part(LCoinJudge$Big;[BI)V -/
set_option maxHeartbeats 4000000 in
theorem sX3_part_0 {G : Gx} {d t : Nat} {h0 : AH} {Φ : Out → AH → Prop} (h : AH) (v0 : Nat) (v1 : Nat) (v2 : Nat) (v3 : Int32) (K : h.kd v2 = 101 ∧ vp_in (v3 + 1) (h.ai v2).length ∧ ∀ u3 : Int32, u3 = ((h.ai v2).getD ((v3 + 1).toNatClampNeg) 0) → Aw G mX3_part (d + 1) t h0 Φ 12 [vU, vR v1, vR v2, vU, vI u3, vI (v3 + 2)] [] h) : Aw G mX3_part (d + 1) t h0 Φ 0 [vR v0, vR v1, vR v2, vI v3, vU, vU] [] h := by
  refine r_aload_n (pc := 0) dX3_part_0 rfl ?_
  refine r_iload_n (pc := 1) dX3_part_1 rfl ?_
  refine r_iconst (pc := 2) (x := 1) dX3_part_2 rfl ?_
  refine r_iadd (pc := 3) dX3_part_3 ?_
  obtain ⟨hk1, K⟩ := K
  obtain ⟨hi2, K⟩ := K
  refine r_baload (pc := 4) hk1 hi2 dX3_part_4 ?_
  have K := K _ rfl
  refine r_istore (pc := 5) (lv' := [_, _, _, _, _, _]) dX3_part_5 (by decide) rfl ?_
  refine r_iload_n (pc := 7) dX3_part_7 rfl ?_
  refine r_iconst (pc := 8) (x := 2) dX3_part_8 rfl ?_
  refine r_iadd (pc := 9) dX3_part_9 ?_
  refine r_istore (pc := 10) (lv' := [_, _, _, _, _, _]) dX3_part_10 (by decide) rfl ?_
  refine r_mask (pc := 12) [false, true, true, false, true, true] rfl ?_
  exact K
theorem eX3_part {G : Gx} {d : Nat} {Φ : Out → AH → Prop} (h : AH) (v0 : Nat) (v1 : Nat) (v2 : Nat) (v3 : Int32) (K : WF G h → Aw G mX3_part (d + 1) 0 h Φ 0 [vR v0, vR v1, vR v2, vI v3, vU, vU] [] h) : Cw G mX3_part (d + 1) 0 [vR v0, vR v1, vR v2, vI v3] h Φ := Cw.of rfl K
set_option maxHeartbeats 4000000 in
theorem sX3_part_12 {G : Gx} {d t : Nat} {h0 : AH} {Φ : Out → AH → Prop} (h : AH) (v1 : Nat) (v2 : Nat) (v4 : Int32) (v5 : Int32) (K : ((v4 ≤ 32 → h.kd v1 = 5 ∧ Cw G mX5_read d 0 [vR v1, vR v2, vI v5, vI v4] h (kR (fun x2 h3 => Φ (.inl none) h3) (fun x h => Φ (.inr x) h))) ∧ (¬ v4 ≤ 32 → h.kd v2 = 101 ∧ vp_in v5 (h.ai v2).length ∧ ((((h.ai v2).getD (v5.toNatClampNeg) 0) = 0 → Aw G mX3_part (d + 1) t h0 Φ 12 [vU, vR v1, vR v2, vU, vI (v4 + (-1)), vI (v5 + 1)] [] h) ∧ (¬ ((h.ai v2).getD (v5.toNatClampNeg) 0) = 0 → h.kd v1 = 5 ∧ Cw G mX5_zero d 0 [vR v1] h (kR (fun x8 h9 => Φ (.inl none) h9) (fun x h => Φ (.inr x) h))))))) : Aw G mX3_part (d + 1) t h0 Φ 12 [vU, vR v1, vR v2, vU, vI v4, vI v5] [] h := by
  refine r_iload (pc := 12) dX3_part_12 rfl ?_
  refine r_bipush (pc := 14) (x := 32) dX3_part_14 rfl ?_
  refine r_icmp_le (pc := 16) (tgt := 41) dX3_part_16 rfl (fun c1 => ?_) (fun c1 => ?_)
  · have K := K.1 c1
    refine r_aload_n (pc := 41) dX3_part_41 rfl ?_
    refine r_aload_n (pc := 42) dX3_part_42 rfl ?_
    refine r_iload (pc := 43) dX3_part_43 rfl ?_
    refine r_iload (pc := 45) dX3_part_45 rfl ?_
    obtain ⟨hk4, K⟩ := K
    refine r_callV_R (pc := 47) (Y := mX5_read) (vs := [_, _, _]) (st := []) hk4 rfl kc5 q1390 q1391 q1392 dX3_part_47 rfl cd_X5_read rfl rfl fp_X3_part_X5_read K (fun x2 h3 eh3 wh3 K => ?_) (fun x h1 _ _ e => Tw.out rfl e)
    refine r_pop (pc := 50) rfl dX3_part_50 ?_
    exact r_vret (pc := 51) rfl dX3_part_51 K
  · have K := K.2 c1
    refine r_aload_n (pc := 19) dX3_part_19 rfl ?_
    refine r_iload (pc := 20) dX3_part_20 rfl ?_
    obtain ⟨hk5, K⟩ := K
    obtain ⟨hi6, K⟩ := K
    refine r_baload (pc := 22) hk5 hi6 dX3_part_22 ?_
    refine r_if_eq (pc := 23) (tgt := 32) dX3_part_23 rfl (fun c7 => ?_) (fun c7 => ?_)
    · have K := K.1 c7
      refine r_iinc (pc := 32) (lv' := [_, _, _, _, _, _]) dX3_part_32 rfl rfl (by decide) rfl ?_
      refine r_iinc (pc := 35) (lv' := [_, _, _, _, _, _]) dX3_part_35 rfl rfl (by decide) rfl ?_
      refine r_goto (pc := 38) (tgt := 12) dX3_part_38 rfl ?_
      refine r_mask (pc := 12) [false, true, true, false, true, true] rfl ?_
      exact K
    · have K := K.2 c7
      refine r_aload_n (pc := 26) dX3_part_26 rfl ?_
      obtain ⟨hk10, K⟩ := K
      refine r_callV_R (pc := 27) (Y := mX5_zero) (vs := []) (st := []) hk10 rfl kc5 q1430 q312 q313 dX3_part_27 rfl cd_X5_zero rfl rfl fp_X3_part_X5_zero K (fun x8 h9 eh9 wh9 K => ?_) (fun x h1 _ _ e => Tw.out rfl e)
      refine r_pop (pc := 30) rfl dX3_part_30 ?_
      exact r_vret (pc := 31) rfl dX3_part_31 K
theorem dX3_verify_0 : decode cX3_verify 0 = .ok (.aload_n 0, 1) := by decide +kernel
theorem dX3_verify_1 : decode cX3_verify 1 = .ok (.aload 4, 2) := by decide +kernel
theorem dX3_verify_3 : decode cX3_verify 3 = .ok (.iload 5, 2) := by decide +kernel
theorem dX3_verify_5 : decode cX3_verify 5 = .ok (.iload 6, 2) := by decide +kernel
theorem dX3_verify_7 : decode cX3_verify 7 = .ok (.invokevirtual 173, 3) := by decide +kernel
theorem dX3_verify_10 : decode cX3_verify 10 = .ok (.ifCond .ne 5, 3) := by decide +kernel
theorem dX3_verify_13 : decode cX3_verify 13 = .ok (.iconst 0, 1) := by decide +kernel
theorem dX3_verify_14 : decode cX3_verify 14 = .ok (.ireturn, 1) := by decide +kernel
theorem dX3_verify_15 : decode cX3_verify 15 = .ok (.iload_n 2, 1) := by decide +kernel
theorem dX3_verify_16 : decode cX3_verify 16 = .ok (.iconst 2, 1) := by decide +kernel
theorem dX3_verify_17 : decode cX3_verify 17 = .ok (.iadd, 1) := by decide +kernel
theorem dX3_verify_18 : decode cX3_verify 18 = .ok (.istore 7, 2) := by decide +kernel
theorem dX3_verify_20 : decode cX3_verify 20 = .ok (.aload_n 0, 1) := by decide +kernel
theorem dX3_verify_21 : decode cX3_verify 21 = .ok (.aload_n 0, 1) := by decide +kernel
theorem dX3_verify_22 : decode cX3_verify 22 = .ok (.getfield 70, 3) := by decide +kernel
theorem dX3_verify_25 : decode cX3_verify 25 = .ok (.aload_n 1, 1) := by decide +kernel
theorem dX3_verify_26 : decode cX3_verify 26 = .ok (.iload 7, 2) := by decide +kernel
theorem dX3_verify_28 : decode cX3_verify 28 = .ok (.invokevirtual 177, 3) := by decide +kernel
theorem dX3_verify_31 : decode cX3_verify 31 = .ok (.aload_n 0, 1) := by decide +kernel
theorem dX3_verify_32 : decode cX3_verify 32 = .ok (.aload_n 0, 1) := by decide +kernel
theorem dX3_verify_33 : decode cX3_verify 33 = .ok (.getfield 73, 3) := by decide +kernel
theorem dX3_verify_36 : decode cX3_verify 36 = .ok (.aload_n 1, 1) := by decide +kernel
theorem dX3_verify_37 : decode cX3_verify 37 = .ok (.iload 7, 2) := by decide +kernel
theorem dX3_verify_39 : decode cX3_verify 39 = .ok (.iconst 2, 1) := by decide +kernel
theorem dX3_verify_40 : decode cX3_verify 40 = .ok (.iadd, 1) := by decide +kernel
theorem dX3_verify_41 : decode cX3_verify 41 = .ok (.aload_n 1, 1) := by decide +kernel
theorem dX3_verify_42 : decode cX3_verify 42 = .ok (.iload 7, 2) := by decide +kernel
theorem dX3_verify_44 : decode cX3_verify 44 = .ok (.iconst 1, 1) := by decide +kernel
theorem dX3_verify_45 : decode cX3_verify 45 = .ok (.iadd, 1) := by decide +kernel
theorem dX3_verify_46 : decode cX3_verify 46 = .ok (.baload, 1) := by decide +kernel
theorem dX3_verify_47 : decode cX3_verify 47 = .ok (.iadd, 1) := by decide +kernel
theorem dX3_verify_48 : decode cX3_verify 48 = .ok (.invokevirtual 177, 3) := by decide +kernel
theorem dX3_verify_51 : decode cX3_verify 51 = .ok (.aload_n 0, 1) := by decide +kernel
theorem dX3_verify_52 : decode cX3_verify 52 = .ok (.getfield 70, 3) := by decide +kernel
theorem dX3_verify_55 : decode cX3_verify 55 = .ok (.invokevirtual 120, 3) := by decide +kernel
theorem dX3_verify_58 : decode cX3_verify 58 = .ok (.ifCond .ne 47, 3) := by decide +kernel
theorem dX3_verify_61 : decode cX3_verify 61 = .ok (.aload_n 0, 1) := by decide +kernel
theorem dX3_verify_62 : decode cX3_verify 62 = .ok (.getfield 73, 3) := by decide +kernel
theorem dX3_verify_65 : decode cX3_verify 65 = .ok (.invokevirtual 120, 3) := by decide +kernel
theorem dX3_verify_68 : decode cX3_verify 68 = .ok (.ifCond .ne 37, 3) := by decide +kernel
theorem dX3_verify_71 : decode cX3_verify 71 = .ok (.aload_n 0, 1) := by decide +kernel
theorem dX3_verify_72 : decode cX3_verify 72 = .ok (.getfield 70, 3) := by decide +kernel
theorem dX3_verify_75 : decode cX3_verify 75 = .ok (.aload_n 0, 1) := by decide +kernel
theorem dX3_verify_76 : decode cX3_verify 76 = .ok (.getfield 29, 3) := by decide +kernel
theorem dX3_verify_79 : decode cX3_verify 79 = .ok (.invokevirtual 150, 3) := by decide +kernel
theorem dX3_verify_82 : decode cX3_verify 82 = .ok (.invokevirtual 153, 3) := by decide +kernel
theorem dX3_verify_85 : decode cX3_verify 85 = .ok (.ifCond .ge 20, 3) := by decide +kernel
theorem dX3_verify_88 : decode cX3_verify 88 = .ok (.aload_n 0, 1) := by decide +kernel
theorem dX3_verify_89 : decode cX3_verify 89 = .ok (.getfield 73, 3) := by decide +kernel
theorem dX3_verify_92 : decode cX3_verify 92 = .ok (.aload_n 0, 1) := by decide +kernel
theorem dX3_verify_93 : decode cX3_verify 93 = .ok (.getfield 29, 3) := by decide +kernel
theorem dX3_verify_96 : decode cX3_verify 96 = .ok (.invokevirtual 150, 3) := by decide +kernel
theorem dX3_verify_99 : decode cX3_verify 99 = .ok (.invokevirtual 153, 3) := by decide +kernel
theorem dX3_verify_102 : decode cX3_verify 102 = .ok (.ifCond .lt 5, 3) := by decide +kernel
theorem dX3_verify_105 : decode cX3_verify 105 = .ok (.iconst 0, 1) := by decide +kernel
theorem dX3_verify_106 : decode cX3_verify 106 = .ok (.ireturn, 1) := by decide +kernel
theorem dX3_verify_107 : decode cX3_verify 107 = .ok (.aload_n 0, 1) := by decide +kernel
theorem dX3_verify_108 : decode cX3_verify 108 = .ok (.getfield 76, 3) := by decide +kernel
theorem dX3_verify_111 : decode cX3_verify 111 = .ok (.aload_n 3, 1) := by decide +kernel
theorem dX3_verify_112 : decode cX3_verify 112 = .ok (.iconst 0, 1) := by decide +kernel
theorem dX3_verify_113 : decode cX3_verify 113 = .ok (.bipush 32, 2) := by decide +kernel
theorem dX3_verify_115 : decode cX3_verify 115 = .ok (.invokevirtual 146, 3) := by decide +kernel
theorem dX3_verify_118 : decode cX3_verify 118 = .ok (.pop, 1) := by decide +kernel
theorem dX3_verify_119 : decode cX3_verify 119 = .ok (.aload_n 0, 1) := by decide +kernel
theorem dX3_verify_120 : decode cX3_verify 120 = .ok (.getfield 29, 3) := by decide +kernel
theorem dX3_verify_123 : decode cX3_verify 123 = .ok (.aload_n 0, 1) := by decide +kernel
theorem dX3_verify_124 : decode cX3_verify 124 = .ok (.getfield 76, 3) := by decide +kernel
theorem dX3_verify_127 : decode cX3_verify 127 = .ok (.invokevirtual 181, 3) := by decide +kernel
theorem dX3_verify_130 : decode cX3_verify 130 = .ok (.aload_n 0, 1) := by decide +kernel
theorem dX3_verify_131 : decode cX3_verify 131 = .ok (.getfield 29, 3) := by decide +kernel
theorem dX3_verify_134 : decode cX3_verify 134 = .ok (.aload_n 0, 1) := by decide +kernel
theorem dX3_verify_135 : decode cX3_verify 135 = .ok (.getfield 82, 3) := by decide +kernel
theorem dX3_verify_138 : decode cX3_verify 138 = .ok (.aload_n 0, 1) := by decide +kernel
theorem dX3_verify_139 : decode cX3_verify 139 = .ok (.getfield 73, 3) := by decide +kernel
theorem dX3_verify_142 : decode cX3_verify 142 = .ok (.invokevirtual 142, 3) := by decide +kernel
theorem dX3_verify_145 : decode cX3_verify 145 = .ok (.aload_n 0, 1) := by decide +kernel
theorem dX3_verify_146 : decode cX3_verify 146 = .ok (.getfield 29, 3) := by decide +kernel
theorem dX3_verify_149 : decode cX3_verify 149 = .ok (.aload_n 0, 1) := by decide +kernel
theorem dX3_verify_150 : decode cX3_verify 150 = .ok (.getfield 79, 3) := by decide +kernel
theorem dX3_verify_153 : decode cX3_verify 153 = .ok (.aload_n 0, 1) := by decide +kernel
theorem dX3_verify_154 : decode cX3_verify 154 = .ok (.getfield 76, 3) := by decide +kernel
theorem dX3_verify_157 : decode cX3_verify 157 = .ok (.aload_n 0, 1) := by decide +kernel
theorem dX3_verify_158 : decode cX3_verify 158 = .ok (.getfield 82, 3) := by decide +kernel
theorem dX3_verify_161 : decode cX3_verify 161 = .ok (.invokevirtual 106, 3) := by decide +kernel
theorem dX3_verify_164 : decode cX3_verify 164 = .ok (.aload_n 0, 1) := by decide +kernel
theorem dX3_verify_165 : decode cX3_verify 165 = .ok (.getfield 29, 3) := by decide +kernel
theorem dX3_verify_168 : decode cX3_verify 168 = .ok (.aload_n 0, 1) := by decide +kernel
theorem dX3_verify_169 : decode cX3_verify 169 = .ok (.getfield 82, 3) := by decide +kernel
theorem dX3_verify_172 : decode cX3_verify 172 = .ok (.aload_n 0, 1) := by decide +kernel
theorem dX3_verify_173 : decode cX3_verify 173 = .ok (.getfield 70, 3) := by decide +kernel
theorem dX3_verify_176 : decode cX3_verify 176 = .ok (.aload_n 0, 1) := by decide +kernel
theorem dX3_verify_177 : decode cX3_verify 177 = .ok (.getfield 82, 3) := by decide +kernel
theorem dX3_verify_180 : decode cX3_verify 180 = .ok (.invokevirtual 106, 3) := by decide +kernel
theorem dX3_verify_183 : decode cX3_verify 183 = .ok (.aload_n 0, 1) := by decide +kernel
theorem dX3_verify_184 : decode cX3_verify 184 = .ok (.aload_n 0, 1) := by decide +kernel
theorem dX3_verify_185 : decode cX3_verify 185 = .ok (.getfield 64, 3) := by decide +kernel
theorem dX3_verify_188 : decode cX3_verify 188 = .ok (.aload_n 0, 1) := by decide +kernel
theorem dX3_verify_189 : decode cX3_verify 189 = .ok (.getfield 79, 3) := by decide +kernel
theorem dX3_verify_192 : decode cX3_verify 192 = .ok (.aload_n 0, 1) := by decide +kernel
theorem dX3_verify_193 : decode cX3_verify 193 = .ok (.getfield 35, 3) := by decide +kernel
theorem dX3_verify_196 : decode cX3_verify 196 = .ok (.invokevirtual 184, 3) := by decide +kernel
theorem dX3_verify_199 : decode cX3_verify 199 = .ok (.aload_n 0, 1) := by decide +kernel
theorem dX3_verify_200 : decode cX3_verify 200 = .ok (.aload_n 0, 1) := by decide +kernel
theorem dX3_verify_201 : decode cX3_verify 201 = .ok (.getfield 67, 3) := by decide +kernel
theorem dX3_verify_204 : decode cX3_verify 204 = .ok (.aload_n 0, 1) := by decide +kernel
theorem dX3_verify_205 : decode cX3_verify 205 = .ok (.getfield 82, 3) := by decide +kernel
theorem dX3_verify_208 : decode cX3_verify 208 = .ok (.aload_n 0, 1) := by decide +kernel
theorem dX3_verify_209 : decode cX3_verify 209 = .ok (.getfield 61, 3) := by decide +kernel
theorem dX3_verify_212 : decode cX3_verify 212 = .ok (.invokevirtual 184, 3) := by decide +kernel
theorem dX3_verify_215 : decode cX3_verify 215 = .ok (.aload_n 0, 1) := by decide +kernel
theorem dX3_verify_216 : decode cX3_verify 216 = .ok (.aload_n 0, 1) := by decide +kernel
theorem dX3_verify_217 : decode cX3_verify 217 = .ok (.getfield 64, 3) := by decide +kernel
theorem dX3_verify_220 : decode cX3_verify 220 = .ok (.aload_n 0, 1) := by decide +kernel
theorem dX3_verify_221 : decode cX3_verify 221 = .ok (.getfield 67, 3) := by decide +kernel
theorem dX3_verify_224 : decode cX3_verify 224 = .ok (.invokevirtual 139, 3) := by decide +kernel
theorem dX3_verify_227 : decode cX3_verify 227 = .ok (.aload_n 0, 1) := by decide +kernel
theorem dX3_verify_228 : decode cX3_verify 228 = .ok (.getfield 64, 3) := by decide +kernel
theorem dX3_verify_231 : decode cX3_verify 231 = .ok (.invokevirtual 102, 3) := by decide +kernel
theorem dX3_verify_234 : decode cX3_verify 234 = .ok (.ifCond .eq 5, 3) := by decide +kernel
theorem dX3_verify_237 : decode cX3_verify 237 = .ok (.iconst 0, 1) := by decide +kernel
theorem dX3_verify_238 : decode cX3_verify 238 = .ok (.ireturn, 1) := by decide +kernel
theorem dX3_verify_239 : decode cX3_verify 239 = .ok (.aload_n 0, 1) := by decide +kernel
theorem dX3_verify_240 : decode cX3_verify 240 = .ok (.aload_n 0, 1) := by decide +kernel
theorem dX3_verify_241 : decode cX3_verify 241 = .ok (.getfield 64, 3) := by decide +kernel
theorem dX3_verify_244 : decode cX3_verify 244 = .ok (.invokevirtual 188, 3) := by decide +kernel
theorem dX3_verify_247 : decode cX3_verify 247 = .ok (.aload_n 0, 1) := by decide +kernel
theorem dX3_verify_248 : decode cX3_verify 248 = .ok (.getfield 29, 3) := by decide +kernel
theorem dX3_verify_251 : decode cX3_verify 251 = .ok (.aload_n 0, 1) := by decide +kernel
theorem dX3_verify_252 : decode cX3_verify 252 = .ok (.getfield 64, 3) := by decide +kernel
theorem dX3_verify_255 : decode cX3_verify 255 = .ok (.getfield 85, 3) := by decide +kernel
theorem dX3_verify_258 : decode cX3_verify 258 = .ok (.invokevirtual 181, 3) := by decide +kernel
theorem dX3_verify_261 : decode cX3_verify 261 = .ok (.aload_n 0, 1) := by decide +kernel
theorem dX3_verify_262 : decode cX3_verify 262 = .ok (.getfield 64, 3) := by decide +kernel
theorem dX3_verify_265 : decode cX3_verify 265 = .ok (.getfield 85, 3) := by decide +kernel
theorem dX3_verify_268 : decode cX3_verify 268 = .ok (.aload_n 0, 1) := by decide +kernel
theorem dX3_verify_269 : decode cX3_verify 269 = .ok (.getfield 70, 3) := by decide +kernel
theorem dX3_verify_272 : decode cX3_verify 272 = .ok (.invokevirtual 153, 3) := by decide +kernel
theorem dX3_verify_275 : decode cX3_verify 275 = .ok (.ifCond .ne 7, 3) := by decide +kernel
theorem dX3_verify_278 : decode cX3_verify 278 = .ok (.iconst 1, 1) := by decide +kernel
theorem dX3_verify_279 : decode cX3_verify 279 = .ok (.goto 4, 3) := by decide +kernel
theorem dX3_verify_282 : decode cX3_verify 282 = .ok (.iconst 0, 1) := by decide +kernel
theorem dX3_verify_283 : decode cX3_verify 283 = .ok (.ireturn, 1) := by decide +kernel
/-! CoinJudge$Curve.verify([BI[B[BII)Z -/
set_option maxHeartbeats 4000000 in
theorem sX3_verify_0 {G : Gx} {d t : Nat} {h0 : AH} {Φ : Out → AH → Prop} (h : AH) (v0 : Nat) (v1 : Nat) (v2 : Int32) (v3 : Nat) (v4 : Nat) (v5 : Int32) (v6 : Int32) (K : h.kd v0 = 3 ∧ Cw G mX3_decode d 0 [vR v0, vR v4, vI v5, vI v6] h (kI (fun x1 h2 => ((¬ x1 = 0 → ∀ r6 : Nat, r6 = (h2.r 3013 v0) → Cw G mX3_part d 0 [vR v0, vR r6, vR v1, vI (v2 + 2)] h2 (kV (fun h8 => ∀ r10 : Nat, r10 = (h8.r 3014 v0) → h8.kd v1 = 101 ∧ vp_in ((v2 + 2) + 1) (h8.ai v1).length ∧ Cw G mX3_part d 0 [vR v0, vR r10, vR v1, vI (((v2 + 2) + 2) + ((h8.ai v1).getD (((v2 + 2) + 1).toNatClampNeg) 0))] h8 (kV (fun h14 => h14.kd r6 = 5 ∧ Cw G mX5_isZero d 0 [vR r6] h14 (kI (fun x19 h20 => ((¬ x19 = 0 → Φ (.inl (some (vI 0))) h20) ∧ (x19 = 0 → h20.kd r10 = 5 ∧ Cw G mX5_isZero d 0 [vR r10] h20 (kI (fun x27 h28 => ((¬ x27 = 0 → Φ (.inl (some (vI 0))) h28) ∧ (x27 = 0 → ∀ r34 : Nat, r34 = (h28.r 3001 v0) → h28.kd r34 = 4 ∧ Cw G mX4_modulus d 0 [vR r34] h28 (kR (fun x35 h36 => Cw G mX5_compare d 0 [vR r6, vR x35] h36 (kI (fun x38 h39 => ((0 ≤ x38 → Φ (.inl (some (vI 0))) h39) ∧ (¬ 0 ≤ x38 → Cw G mX4_modulus d 0 [vR r34] h39 (kR (fun x52 h53 => Cw G mX5_compare d 0 [vR r10, vR x52] h53 (kI (fun x56 h57 => ((x56 < 0 → ∀ r65 : Nat, r65 = (h57.r 3015 v0) → h57.kd r65 = 5 ∧ Cw G mX5_read d 0 [vR r65, vR v3, vI 0, vI 32] h57 (kR (fun x66 h67 => Cw G mX4_reduce d 0 [vR r34, vR r65] h67 (kV (fun h76 => ∀ r82 : Nat, r82 = (h76.r 3017 v0) → Cw G mX4_invert d 0 [vR r34, vR r82, vR r10] h76 (kV (fun h88 => ∀ r92 : Nat, r92 = (h88.r 3016 v0) → Cw G mX4_multiply d 0 [vR r34, vR r92, vR r65, vR r82] h88 (kV (fun h98 => Cw G mX4_multiply d 0 [vR r34, vR r82, vR r6, vR r82] h98 (kV (fun h112 => ∀ r115 : Nat, r115 = (h112.r 3011 v0) → ∀ r119 : Nat, r119 = (h112.r 3002 v0) → Cw G mX3_times d 0 [vR v0, vR r115, vR r92, vR r119] h112 (kV (fun h121 => ∀ r123 : Nat, r123 = (h121.r 3012 v0) → ∀ r126 : Nat, r126 = (h121.r 3010 v0) → Cw G mX3_times d 0 [vR v0, vR r123, vR r82, vR r126] h121 (kV (fun h128 => Cw G mX3_add d 0 [vR v0, vR r115, vR r123] h128 (kV (fun h136 => h136.kd r115 = 6 ∧ Cw G mX6_none d 0 [vR r115] h136 (kI (fun x139 h140 => ((x139 = 0 → Cw G mX3_plain d 0 [vR v0, vR r115] h140 (kV (fun h146 => ∀ r157 : Nat, r157 = (h146.r 6000 r115) → Cw G mX4_reduce d 0 [vR r34, vR r157] h146 (kV (fun h159 => h159.kd r157 = 5 ∧ Cw G mX5_compare d 0 [vR r157, vR r6] h159 (kI (fun x178 h179 => ((¬ x178 = 0 → Φ (.inl (some (vI 0))) h179) ∧ (x178 = 0 → Φ (.inl (some (vI 1))) h179))) (fun x h => Φ (.inr x) h))) (fun x h => Φ (.inr x) h))) (fun x h => Φ (.inr x) h))) ∧ (¬ x139 = 0 → Φ (.inl (some (vI 0))) h140))) (fun x h => Φ (.inr x) h))) (fun x h => Φ (.inr x) h))) (fun x h => Φ (.inr x) h))) (fun x h => Φ (.inr x) h))) (fun x h => Φ (.inr x) h))) (fun x h => Φ (.inr x) h))) (fun x h => Φ (.inr x) h))) (fun x h => Φ (.inr x) h))) (fun x h => Φ (.inr x) h))) ∧ (¬ x56 < 0 → Φ (.inl (some (vI 0))) h57))) (fun x h => Φ (.inr x) h))) (fun x h => Φ (.inr x) h))))) (fun x h => Φ (.inr x) h))) (fun x h => Φ (.inr x) h))))) (fun x h => Φ (.inr x) h))))) (fun x h => Φ (.inr x) h))) (fun x h => Φ (.inr x) h))) (fun x h => Φ (.inr x) h))) ∧ (x1 = 0 → Φ (.inl (some (vI 0))) h2))) (fun x h => Φ (.inr x) h))) : Aw G mX3_verify (d + 1) t h0 Φ 0 [vR v0, vR v1, vI v2, vR v3, vR v4, vI v5, vI v6, vU] [] h := by
  refine r_aload_n (pc := 0) dX3_verify_0 rfl ?_
  refine r_aload (pc := 1) dX3_verify_1 rfl ?_
  refine r_iload (pc := 3) dX3_verify_3 rfl ?_
  refine r_iload (pc := 5) dX3_verify_5 rfl ?_
  obtain ⟨hk3, K⟩ := K
  refine r_callV_I (pc := 7) (Y := mX3_decode) (vs := [_, _, _]) (st := []) hk3 rfl kc3 q1386 q1388 qs26 dX3_verify_7 rfl cd_X3_decode rfl rfl fp_X3_verify_X3_decode K (fun x1 h2 eh2 wh2 K => ?_) (fun x h1 _ _ e => Tw.out rfl e)
  refine r_if_ne (pc := 10) (tgt := 15) dX3_verify_10 rfl (fun c4 => ?_) (fun c4 => ?_)
  · have K := K.1 c4
    refine r_iload_n (pc := 15) dX3_verify_15 rfl ?_
    refine r_iconst (pc := 16) (x := 2) dX3_verify_16 rfl ?_
    refine r_iadd (pc := 17) dX3_verify_17 ?_
    refine r_istore (pc := 18) (lv' := [_, _, _, _, _, _, _, _]) dX3_verify_18 (by decide) rfl ?_
    refine r_aload_n (pc := 20) dX3_verify_20 rfl ?_
    refine r_aload_n (pc := 21) dX3_verify_21 rfl ?_
    have hk5 := kd_ext eh2 hk3 (nz rfl)
    have K := K _ rfl
    refine r_getr' (pc := 22) (T := TX3) 3 13 rfl hk5 (Or.inl q448) dX3_verify_22 kc3 g3013 ?_
    refine r_aload_n (pc := 25) dX3_verify_25 rfl ?_
    refine r_iload (pc := 26) dX3_verify_26 rfl ?_
    refine r_callV_V (pc := 28) (Y := mX3_part) (vs := [_, _, _]) (st := []) hk5 rfl kc3 q1435 q1437 qs29 dX3_verify_28 rfl cd_X3_part rfl rfl fp_X3_verify_X3_part K (fun h8 eh8 wh8 K => ?_) (fun x h1 _ _ e => Tw.out rfl e)
    refine r_aload_n (pc := 31) dX3_verify_31 rfl ?_
    refine r_aload_n (pc := 32) dX3_verify_32 rfl ?_
    have hk9 := kd_ext eh8 hk5 (nz rfl)
    have K := K _ rfl
    refine r_getr' (pc := 33) (T := TX3) 3 14 rfl hk9 (Or.inl q449) dX3_verify_33 kc3 g3014 ?_
    refine r_aload_n (pc := 36) dX3_verify_36 rfl ?_
    refine r_iload (pc := 37) dX3_verify_37 rfl ?_
    refine r_iconst (pc := 39) (x := 2) dX3_verify_39 rfl ?_
    refine r_iadd (pc := 40) dX3_verify_40 ?_
    refine r_aload_n (pc := 41) dX3_verify_41 rfl ?_
    refine r_iload (pc := 42) dX3_verify_42 rfl ?_
    refine r_iconst (pc := 44) (x := 1) dX3_verify_44 rfl ?_
    refine r_iadd (pc := 45) dX3_verify_45 ?_
    obtain ⟨hk11, K⟩ := K
    obtain ⟨hi12, K⟩ := K
    refine r_baload (pc := 46) hk11 hi12 dX3_verify_46 ?_
    refine r_iadd (pc := 47) dX3_verify_47 ?_
    refine r_callV_V (pc := 48) (Y := mX3_part) (vs := [_, _, _]) (st := []) hk9 rfl kc3 q1435 q1437 qs29 dX3_verify_48 rfl cd_X3_part rfl rfl fp_X3_verify_X3_part K (fun h14 eh14 wh14 K => ?_) (fun x h1 _ _ e => Tw.out rfl e)
    refine r_aload_n (pc := 51) dX3_verify_51 rfl ?_
    have hk15 := kd_ext eh14 hk9 (nz rfl)
    have hv16 := fr_self (key := 3013) hk5
    have hv17 := (fr_ext (key := 3013) eh8 hk5 (nz rfl) (ne0 wh8 hk9 (nz rfl)) (nm rfl)).trans hv16
    have hv18 := (fr_ext (key := 3013) eh14 hk9 (nz rfl) (ne0 wh14 hk15 (nz rfl)) (nm rfl)).trans hv17
    refine r_getr' (pc := 52) (T := TX3) 3 13 hv18 hk15 (Or.inl q448) dX3_verify_52 kc3 g3013 ?_
    obtain ⟨hk21, K⟩ := K
    refine r_callV_I (pc := 55) (Y := mX5_isZero) (vs := []) (st := []) hk21 rfl kc5 q1439 q1440 q1441 dX3_verify_55 rfl cd_X5_isZero rfl rfl fp_X3_verify_X5_isZero K (fun x19 h20 eh20 wh20 K => ?_) (fun x h1 _ _ e => Tw.out rfl e)
    refine r_if_ne (pc := 58) (tgt := 105) dX3_verify_58 rfl (fun c22 => ?_) (fun c22 => ?_)
    · have K := K.1 c22
      refine r_iconst (pc := 105) (x := 0) dX3_verify_105 rfl ?_
      exact r_iret (pc := 106) rfl rfl dX3_verify_106 K
    · have K := K.2 c22
      refine r_aload_n (pc := 61) dX3_verify_61 rfl ?_
      have hk23 := kd_ext eh20 hk15 (nz rfl)
      have hv24 := fr_self (key := 3014) hk9
      have hv25 := (fr_ext (key := 3014) eh14 hk9 (nz rfl) (ne0 wh14 hk15 (nz rfl)) (nm rfl)).trans hv24
      have hv26 := (fr_ext (key := 3014) eh20 hk15 (nz rfl) (ne0 wh20 hk23 (nz rfl)) (nm rfl)).trans hv25
      refine r_getr' (pc := 62) (T := TX3) 3 14 hv26 hk23 (Or.inl q449) dX3_verify_62 kc3 g3014 ?_
      obtain ⟨hk29, K⟩ := K
      refine r_callV_I (pc := 65) (Y := mX5_isZero) (vs := []) (st := []) hk29 rfl kc5 q1439 q1440 q1441 dX3_verify_65 rfl cd_X5_isZero rfl rfl fp_X3_verify_X5_isZero K (fun x27 h28 eh28 wh28 K => ?_) (fun x h1 _ _ e => Tw.out rfl e)
      refine r_if_ne (pc := 68) (tgt := 105) dX3_verify_68 rfl (fun c30 => ?_) (fun c30 => ?_)
      · have K := K.1 c30
        refine r_iconst (pc := 105) (x := 0) dX3_verify_105 rfl ?_
        exact r_iret (pc := 106) rfl rfl dX3_verify_106 K
      · have K := K.2 c30
        refine r_aload_n (pc := 71) dX3_verify_71 rfl ?_
        have hk31 := kd_ext eh28 hk23 (nz rfl)
        have hv32 := (fr_ext (key := 3013) eh20 hk15 (nz rfl) (ne0 wh20 hk23 (nz rfl)) (nm rfl)).trans hv18
        have hv33 := (fr_ext (key := 3013) eh28 hk23 (nz rfl) (ne0 wh28 hk31 (nz rfl)) (nm rfl)).trans hv32
        refine r_getr' (pc := 72) (T := TX3) 3 13 hv33 hk31 (Or.inl q448) dX3_verify_72 kc3 g3013 ?_
        refine r_aload_n (pc := 75) dX3_verify_75 rfl ?_
        have K := K _ rfl
        refine r_getr' (pc := 76) (T := TX3) 3 1 rfl hk31 (Or.inl q436) dX3_verify_76 kc3 g3001 ?_
        obtain ⟨hk37, K⟩ := K
        refine r_callV_R (pc := 79) (Y := mX4_modulus) (vs := []) (st := [_]) hk37 rfl kc4 q1394 q1395 q1396 dX3_verify_79 rfl cd_X4_modulus rfl rfl fp_X3_verify_X4_modulus K (fun x35 h36 eh36 wh36 K => ?_) (fun x h1 _ _ e => Tw.out rfl e)
        have hk40 := kd_ext eh20 hk21 (nz rfl)
        have hk41 := kd_ext eh28 hk40 (nz rfl)
        have hk42 := kd_ext eh36 hk41 (nz rfl)
        refine r_callV_I (pc := 82) (Y := mX5_compare) (vs := [_]) (st := []) hk42 rfl kc5 q1398 q852 q853 dX3_verify_82 rfl cd_X5_compare rfl rfl fp_X3_verify_X5_compare K (fun x38 h39 eh39 wh39 K => ?_) (fun x h1 _ _ e => Tw.out rfl e)
        refine r_if_ge (pc := 85) (tgt := 105) dX3_verify_85 rfl (fun c43 => ?_) (fun c43 => ?_)
        · have K := K.1 c43
          refine r_iconst (pc := 105) (x := 0) dX3_verify_105 rfl ?_
          exact r_iret (pc := 106) rfl rfl dX3_verify_106 K
        · have K := K.2 c43
          refine r_aload_n (pc := 88) dX3_verify_88 rfl ?_
          have hk44 := kd_ext eh36 hk31 (nz rfl)
          have hk45 := kd_ext eh39 hk44 (nz rfl)
          have hv46 := (fr_ext (key := 3014) eh28 hk23 (nz rfl) (ne0 wh28 hk31 (nz rfl)) (nm rfl)).trans hv26
          have hv47 := (fr_ext (key := 3014) eh36 hk31 (nz rfl) (ne0 wh36 hk44 (nz rfl)) (nm rfl)).trans hv46
          have hv48 := (fr_ext (key := 3014) eh39 hk44 (nz rfl) (ne0 wh39 hk45 (nz rfl)) (nm rfl)).trans hv47
          refine r_getr' (pc := 89) (T := TX3) 3 14 hv48 hk45 (Or.inl q449) dX3_verify_89 kc3 g3014 ?_
          refine r_aload_n (pc := 92) dX3_verify_92 rfl ?_
          have hv49 := fr_self (key := 3001) hk31
          have hv50 := (fr_ext (key := 3001) eh36 hk31 (nz rfl) (ne0 wh36 hk44 (nz rfl)) (nm rfl)).trans hv49
          have hv51 := (fr_ext (key := 3001) eh39 hk44 (nz rfl) (ne0 wh39 hk45 (nz rfl)) (nm rfl)).trans hv50
          refine r_getr' (pc := 93) (T := TX3) 3 1 hv51 hk45 (Or.inl q436) dX3_verify_93 kc3 g3001 ?_
          have hk54 := kd_ext eh36 hk37 (nz rfl)
          have hk55 := kd_ext eh39 hk54 (nz rfl)
          refine r_callV_R (pc := 96) (Y := mX4_modulus) (vs := []) (st := [_]) hk55 rfl kc4 q1394 q1395 q1396 dX3_verify_96 rfl cd_X4_modulus rfl rfl fp_X3_verify_X4_modulus K (fun x52 h53 eh53 wh53 K => ?_) (fun x h1 _ _ e => Tw.out rfl e)
          have hk58 := kd_ext eh28 hk29 (nz rfl)
          have hk59 := kd_ext eh36 hk58 (nz rfl)
          have hk60 := kd_ext eh39 hk59 (nz rfl)
          have hk61 := kd_ext eh53 hk60 (nz rfl)
          refine r_callV_I (pc := 99) (Y := mX5_compare) (vs := [_]) (st := []) hk61 rfl kc5 q1398 q852 q853 dX3_verify_99 rfl cd_X5_compare rfl rfl fp_X3_verify_X5_compare K (fun x56 h57 eh57 wh57 K => ?_) (fun x h1 _ _ e => Tw.out rfl e)
          refine r_if_lt (pc := 102) (tgt := 107) dX3_verify_102 rfl (fun c62 => ?_) (fun c62 => ?_)
          · have K := K.1 c62
            refine r_aload_n (pc := 107) dX3_verify_107 rfl ?_
            have hk63 := kd_ext eh53 hk45 (nz rfl)
            have hk64 := kd_ext eh57 hk63 (nz rfl)
            have K := K _ rfl
            refine r_getr' (pc := 108) (T := TX3) 3 15 rfl hk64 (Or.inl q450) dX3_verify_108 kc3 g3015 ?_
            refine r_aload_n (pc := 111) dX3_verify_111 rfl ?_
            refine r_iconst (pc := 112) (x := 0) dX3_verify_112 rfl ?_
            refine r_bipush (pc := 113) (x := 32) dX3_verify_113 rfl ?_
            obtain ⟨hk68, K⟩ := K
            refine r_callV_R (pc := 115) (Y := mX5_read) (vs := [_, _, _]) (st := []) hk68 rfl kc5 q1390 q1391 q1392 dX3_verify_115 rfl cd_X5_read rfl rfl fp_X3_verify_X5_read K (fun x66 h67 eh67 wh67 K => ?_) (fun x h1 _ _ e => Tw.out rfl e)
            refine r_pop (pc := 118) rfl dX3_verify_118 ?_
            refine r_aload_n (pc := 119) dX3_verify_119 rfl ?_
            have hk69 := kd_ext eh67 hk64 (nz rfl)
            have hv70 := (fr_ext (key := 3001) eh53 hk45 (nz rfl) (ne0 wh53 hk63 (nz rfl)) (nm rfl)).trans hv51
            have hv71 := (fr_ext (key := 3001) eh57 hk63 (nz rfl) (ne0 wh57 hk64 (nz rfl)) (nm rfl)).trans hv70
            have hv72 := (fr_ext (key := 3001) eh67 hk64 (nz rfl) (ne0 wh67 hk69 (nz rfl)) (nm rfl)).trans hv71
            refine r_getr' (pc := 120) (T := TX3) 3 1 hv72 hk69 (Or.inl q436) dX3_verify_120 kc3 g3001 ?_
            refine r_aload_n (pc := 123) dX3_verify_123 rfl ?_
            have hv73 := fr_self (key := 3015) hk64
            have hv74 := (fr_ext (key := 3015) eh67 hk64 (nz rfl) (ne0 wh67 hk69 (nz rfl)) (nm rfl)).trans hv73
            refine r_getr' (pc := 124) (T := TX3) 3 15 hv74 hk69 (Or.inl q450) dX3_verify_124 kc3 g3015 ?_
            have hk77 := kd_ext eh53 hk55 (nz rfl)
            have hk78 := kd_ext eh57 hk77 (nz rfl)
            have hk79 := kd_ext eh67 hk78 (nz rfl)
            refine r_callV_V (pc := 127) (Y := mX4_reduce) (vs := [_]) (st := []) hk79 rfl kc4 q1443 q1444 q1445 dX3_verify_127 rfl cd_X4_reduce rfl rfl fp_X3_verify_X4_reduce K (fun h76 eh76 wh76 K => ?_) (fun x h1 _ _ e => Tw.out rfl e)
            refine r_aload_n (pc := 130) dX3_verify_130 rfl ?_
            have hk80 := kd_ext eh76 hk69 (nz rfl)
            have hv81 := (fr_ext (key := 3001) eh76 hk69 (nz rfl) (ne0 wh76 hk80 (nz rfl)) (nm rfl)).trans hv72
            refine r_getr' (pc := 131) (T := TX3) 3 1 hv81 hk80 (Or.inl q436) dX3_verify_131 kc3 g3001 ?_
            refine r_aload_n (pc := 134) dX3_verify_134 rfl ?_
            have K := K _ rfl
            refine r_getr' (pc := 135) (T := TX3) 3 17 rfl hk80 (Or.inl q452) dX3_verify_135 kc3 g3017 ?_
            refine r_aload_n (pc := 138) dX3_verify_138 rfl ?_
            have hv83 := (fr_ext (key := 3014) eh53 hk45 (nz rfl) (ne0 wh53 hk63 (nz rfl)) (nm rfl)).trans hv48
            have hv84 := (fr_ext (key := 3014) eh57 hk63 (nz rfl) (ne0 wh57 hk64 (nz rfl)) (nm rfl)).trans hv83
            have hv85 := (fr_ext (key := 3014) eh67 hk64 (nz rfl) (ne0 wh67 hk69 (nz rfl)) (nm rfl)).trans hv84
            have hv86 := (fr_ext (key := 3014) eh76 hk69 (nz rfl) (ne0 wh76 hk80 (nz rfl)) (nm rfl)).trans hv85
            refine r_getr' (pc := 139) (T := TX3) 3 14 hv86 hk80 (Or.inl q449) dX3_verify_139 kc3 g3014 ?_
            have hk89 := kd_ext eh76 hk79 (nz rfl)
            refine r_callV_V (pc := 142) (Y := mX4_invert) (vs := [_, _]) (st := []) hk89 rfl kc4 q1447 q1448 q1449 dX3_verify_142 rfl cd_X4_invert rfl rfl fp_X3_verify_X4_invert K (fun h88 eh88 wh88 K => ?_) (fun x h1 _ _ e => Tw.out rfl e)
            refine r_aload_n (pc := 145) dX3_verify_145 rfl ?_
            have hk90 := kd_ext eh88 hk80 (nz rfl)
            have hv91 := (fr_ext (key := 3001) eh88 hk80 (nz rfl) (ne0 wh88 hk90 (nz rfl)) (nm rfl)).trans hv81
            refine r_getr' (pc := 146) (T := TX3) 3 1 hv91 hk90 (Or.inl q436) dX3_verify_146 kc3 g3001 ?_
            refine r_aload_n (pc := 149) dX3_verify_149 rfl ?_
            have K := K _ rfl
            refine r_getr' (pc := 150) (T := TX3) 3 16 rfl hk90 (Or.inl q451) dX3_verify_150 kc3 g3016 ?_
            refine r_aload_n (pc := 153) dX3_verify_153 rfl ?_
            have hv93 := (fr_ext (key := 3015) eh76 hk69 (nz rfl) (ne0 wh76 hk80 (nz rfl)) (nm rfl)).trans hv74
            have hv94 := (fr_ext (key := 3015) eh88 hk80 (nz rfl) (ne0 wh88 hk90 (nz rfl)) (nm rfl)).trans hv93
            refine r_getr' (pc := 154) (T := TX3) 3 15 hv94 hk90 (Or.inl q450) dX3_verify_154 kc3 g3015 ?_
            refine r_aload_n (pc := 157) dX3_verify_157 rfl ?_
            have hv95 := fr_self (key := 3017) hk80
            have hv96 := (fr_ext (key := 3017) eh88 hk80 (nz rfl) (ne0 wh88 hk90 (nz rfl)) (nm rfl)).trans hv95
            refine r_getr' (pc := 158) (T := TX3) 3 17 hv96 hk90 (Or.inl q452) dX3_verify_158 kc3 g3017 ?_
            have hk99 := kd_ext eh88 hk89 (nz rfl)
            refine r_callV_V (pc := 161) (Y := mX4_multiply) (vs := [_, _, _]) (st := []) hk99 rfl kc4 q1399 q1400 q1401 dX3_verify_161 rfl cd_X4_multiply rfl rfl fp_X3_verify_X4_multiply K (fun h98 eh98 wh98 K => ?_) (fun x h1 _ _ e => Tw.out rfl e)
            refine r_aload_n (pc := 164) dX3_verify_164 rfl ?_
            have hk100 := kd_ext eh98 hk90 (nz rfl)
            have hv101 := (fr_ext (key := 3001) eh98 hk90 (nz rfl) (ne0 wh98 hk100 (nz rfl)) (nm rfl)).trans hv91
            refine r_getr' (pc := 165) (T := TX3) 3 1 hv101 hk100 (Or.inl q436) dX3_verify_165 kc3 g3001 ?_
            refine r_aload_n (pc := 168) dX3_verify_168 rfl ?_
            have hv102 := (fr_ext (key := 3017) eh98 hk90 (nz rfl) (ne0 wh98 hk100 (nz rfl)) (nm rfl)).trans hv96
            refine r_getr' (pc := 169) (T := TX3) 3 17 hv102 hk100 (Or.inl q452) dX3_verify_169 kc3 g3017 ?_
            refine r_aload_n (pc := 172) dX3_verify_172 rfl ?_
            have hv103 := (fr_ext (key := 3013) eh36 hk31 (nz rfl) (ne0 wh36 hk44 (nz rfl)) (nm rfl)).trans hv33
            have hv104 := (fr_ext (key := 3013) eh39 hk44 (nz rfl) (ne0 wh39 hk45 (nz rfl)) (nm rfl)).trans hv103
            have hv105 := (fr_ext (key := 3013) eh53 hk45 (nz rfl) (ne0 wh53 hk63 (nz rfl)) (nm rfl)).trans hv104
            have hv106 := (fr_ext (key := 3013) eh57 hk63 (nz rfl) (ne0 wh57 hk64 (nz rfl)) (nm rfl)).trans hv105
            have hv107 := (fr_ext (key := 3013) eh67 hk64 (nz rfl) (ne0 wh67 hk69 (nz rfl)) (nm rfl)).trans hv106
            have hv108 := (fr_ext (key := 3013) eh76 hk69 (nz rfl) (ne0 wh76 hk80 (nz rfl)) (nm rfl)).trans hv107
            have hv109 := (fr_ext (key := 3013) eh88 hk80 (nz rfl) (ne0 wh88 hk90 (nz rfl)) (nm rfl)).trans hv108
            have hv110 := (fr_ext (key := 3013) eh98 hk90 (nz rfl) (ne0 wh98 hk100 (nz rfl)) (nm rfl)).trans hv109
            refine r_getr' (pc := 173) (T := TX3) 3 13 hv110 hk100 (Or.inl q448) dX3_verify_173 kc3 g3013 ?_
            refine r_aload_n (pc := 176) dX3_verify_176 rfl ?_
            refine r_getr' (pc := 177) (T := TX3) 3 17 hv102 hk100 (Or.inl q452) dX3_verify_177 kc3 g3017 ?_
            have hk113 := kd_ext eh98 hk99 (nz rfl)
            refine r_callV_V (pc := 180) (Y := mX4_multiply) (vs := [_, _, _]) (st := []) hk113 rfl kc4 q1399 q1400 q1401 dX3_verify_180 rfl cd_X4_multiply rfl rfl fp_X3_verify_X4_multiply K (fun h112 eh112 wh112 K => ?_) (fun x h1 _ _ e => Tw.out rfl e)
            refine r_aload_n (pc := 183) dX3_verify_183 rfl ?_
            refine r_aload_n (pc := 184) dX3_verify_184 rfl ?_
            have hk114 := kd_ext eh112 hk100 (nz rfl)
            have K := K _ rfl
            refine r_getr' (pc := 185) (T := TX3) 3 11 rfl hk114 (Or.inl q446) dX3_verify_185 kc3 g3011 ?_
            refine r_aload_n (pc := 188) dX3_verify_188 rfl ?_
            have hv116 := fr_self (key := 3016) hk90
            have hv117 := (fr_ext (key := 3016) eh98 hk90 (nz rfl) (ne0 wh98 hk100 (nz rfl)) (nm rfl)).trans hv116
            have hv118 := (fr_ext (key := 3016) eh112 hk100 (nz rfl) (ne0 wh112 hk114 (nz rfl)) (nm rfl)).trans hv117
            refine r_getr' (pc := 189) (T := TX3) 3 16 hv118 hk114 (Or.inl q451) dX3_verify_189 kc3 g3016 ?_
            refine r_aload_n (pc := 192) dX3_verify_192 rfl ?_
            have K := K _ rfl
            refine r_getr' (pc := 193) (T := TX3) 3 2 rfl hk114 (Or.inl q437) dX3_verify_193 kc3 g3002 ?_
            refine r_callV_V (pc := 196) (Y := mX3_times) (vs := [_, _, _]) (st := []) hk114 rfl kc3 q1453 q1455 qs30 dX3_verify_196 rfl cd_X3_times rfl rfl fp_X3_verify_X3_times K (fun h121 eh121 wh121 K => ?_) (fun x h1 _ _ e => Tw.out rfl e)
            refine r_aload_n (pc := 199) dX3_verify_199 rfl ?_
            refine r_aload_n (pc := 200) dX3_verify_200 rfl ?_
            have hk122 := kd_ext eh121 hk114 (nz rfl)
            have K := K _ rfl
            refine r_getr' (pc := 201) (T := TX3) 3 12 rfl hk122 (Or.inl q447) dX3_verify_201 kc3 g3012 ?_
            refine r_aload_n (pc := 204) dX3_verify_204 rfl ?_
            have hv124 := (fr_ext (key := 3017) eh112 hk100 (nz rfl) (ne0 wh112 hk114 (nz rfl)) (nm rfl)).trans hv102
            have hv125 := (fr_ext (key := 3017) eh121 hk114 (nz rfl) (ne0 wh121 hk122 (nz rfl)) (nm rfl)).trans hv124
            refine r_getr' (pc := 205) (T := TX3) 3 17 hv125 hk122 (Or.inl q452) dX3_verify_205 kc3 g3017 ?_
            refine r_aload_n (pc := 208) dX3_verify_208 rfl ?_
            have K := K _ rfl
            refine r_getr' (pc := 209) (T := TX3) 3 10 rfl hk122 (Or.inl q445) dX3_verify_209 kc3 g3010 ?_
            refine r_callV_V (pc := 212) (Y := mX3_times) (vs := [_, _, _]) (st := []) hk122 rfl kc3 q1453 q1455 qs30 dX3_verify_212 rfl cd_X3_times rfl rfl fp_X3_verify_X3_times K (fun h128 eh128 wh128 K => ?_) (fun x h1 _ _ e => Tw.out rfl e)
            refine r_aload_n (pc := 215) dX3_verify_215 rfl ?_
            refine r_aload_n (pc := 216) dX3_verify_216 rfl ?_
            have hk129 := kd_ext eh128 hk122 (nz rfl)
            have hv130 := fr_self (key := 3011) hk114
            have hv131 := (fr_ext (key := 3011) eh121 hk114 (nz rfl) (ne0 wh121 hk122 (nz rfl)) (nm rfl)).trans hv130
            have hv132 := (fr_ext (key := 3011) eh128 hk122 (nz rfl) (ne0 wh128 hk129 (nz rfl)) (nm rfl)).trans hv131
            refine r_getr' (pc := 217) (T := TX3) 3 11 hv132 hk129 (Or.inl q446) dX3_verify_217 kc3 g3011 ?_
            refine r_aload_n (pc := 220) dX3_verify_220 rfl ?_
            have hv133 := fr_self (key := 3012) hk122
            have hv134 := (fr_ext (key := 3012) eh128 hk122 (nz rfl) (ne0 wh128 hk129 (nz rfl)) (nm rfl)).trans hv133
            refine r_getr' (pc := 221) (T := TX3) 3 12 hv134 hk129 (Or.inl q447) dX3_verify_221 kc3 g3012 ?_
            refine r_callV_V (pc := 224) (Y := mX3_add) (vs := [_, _]) (st := []) hk129 rfl kc3 q1467 q1469 qs32 dX3_verify_224 rfl cd_X3_add rfl rfl fp_X3_verify_X3_add K (fun h136 eh136 wh136 K => ?_) (fun x h1 _ _ e => Tw.out rfl e)
            refine r_aload_n (pc := 227) dX3_verify_227 rfl ?_
            have hk137 := kd_ext eh136 hk129 (nz rfl)
            have hv138 := (fr_ext (key := 3011) eh136 hk129 (nz rfl) (ne0 wh136 hk137 (nz rfl)) (nm rfl)).trans hv132
            refine r_getr' (pc := 228) (T := TX3) 3 11 hv138 hk137 (Or.inl q446) dX3_verify_228 kc3 g3011 ?_
            obtain ⟨hk141, K⟩ := K
            refine r_callV_I (pc := 231) (Y := mX6_none) (vs := []) (st := []) hk141 rfl kc6 q1462 q1463 q1464 dX3_verify_231 rfl cd_X6_none rfl rfl fp_X3_verify_X6_none K (fun x139 h140 eh140 wh140 K => ?_) (fun x h1 _ _ e => Tw.out rfl e)
            refine r_if_eq (pc := 234) (tgt := 239) dX3_verify_234 rfl (fun c142 => ?_) (fun c142 => ?_)
            · have K := K.1 c142
              refine r_aload_n (pc := 239) dX3_verify_239 rfl ?_
              refine r_aload_n (pc := 240) dX3_verify_240 rfl ?_
              have hk143 := kd_ext eh140 hk137 (nz rfl)
              have hv144 := (fr_ext (key := 3011) eh140 hk137 (nz rfl) (ne0 wh140 hk143 (nz rfl)) (nm rfl)).trans hv138
              refine r_getr' (pc := 241) (T := TX3) 3 11 hv144 hk143 (Or.inl q446) dX3_verify_241 kc3 g3011 ?_
              refine r_callV_V (pc := 244) (Y := mX3_plain) (vs := [_]) (st := []) hk143 rfl kc3 q1476 q1478 qs33 dX3_verify_244 rfl cd_X3_plain rfl rfl fp_X3_verify_X3_plain K (fun h146 eh146 wh146 K => ?_) (fun x h1 _ _ e => Tw.out rfl e)
              refine r_aload_n (pc := 247) dX3_verify_247 rfl ?_
              have hk147 := kd_ext eh146 hk143 (nz rfl)
              have hv148 := (fr_ext (key := 3001) eh112 hk100 (nz rfl) (ne0 wh112 hk114 (nz rfl)) (nm rfl)).trans hv101
              have hv149 := (fr_ext (key := 3001) eh121 hk114 (nz rfl) (ne0 wh121 hk122 (nz rfl)) (nm rfl)).trans hv148
              have hv150 := (fr_ext (key := 3001) eh128 hk122 (nz rfl) (ne0 wh128 hk129 (nz rfl)) (nm rfl)).trans hv149
              have hv151 := (fr_ext (key := 3001) eh136 hk129 (nz rfl) (ne0 wh136 hk137 (nz rfl)) (nm rfl)).trans hv150
              have hv152 := (fr_ext (key := 3001) eh140 hk137 (nz rfl) (ne0 wh140 hk143 (nz rfl)) (nm rfl)).trans hv151
              have hv153 := (fr_ext (key := 3001) eh146 hk143 (nz rfl) (ne0 wh146 hk147 (nz rfl)) (nm rfl)).trans hv152
              refine r_getr' (pc := 248) (T := TX3) 3 1 hv153 hk147 (Or.inl q436) dX3_verify_248 kc3 g3001 ?_
              refine r_aload_n (pc := 251) dX3_verify_251 rfl ?_
              have hv154 := (fr_ext (key := 3011) eh146 hk143 (nz rfl) (ne0 wh146 hk147 (nz rfl)) (nm rfl)).trans hv144
              refine r_getr' (pc := 252) (T := TX3) 3 11 hv154 hk147 (Or.inl q446) dX3_verify_252 kc3 g3011 ?_
              have hk155 := kd_ext eh140 hk141 (nz rfl)
              have hk156 := kd_ext eh146 hk155 (nz rfl)
              have K := K _ rfl
              refine r_getr' (pc := 255) (T := TX6) 6 0 rfl hk156 (Or.inr (Or.inl ⟨_, q417⟩)) dX3_verify_255 kc6 g6000 ?_
              have hk160 := kd_ext eh112 hk113 (nz rfl)
              have hk161 := kd_ext eh121 hk160 (nz rfl)
              have hk162 := kd_ext eh128 hk161 (nz rfl)
              have hk163 := kd_ext eh136 hk162 (nz rfl)
              have hk164 := kd_ext eh140 hk163 (nz rfl)
              have hk165 := kd_ext eh146 hk164 (nz rfl)
              refine r_callV_V (pc := 258) (Y := mX4_reduce) (vs := [_]) (st := []) hk165 rfl kc4 q1443 q1444 q1445 dX3_verify_258 rfl cd_X4_reduce rfl rfl fp_X3_verify_X4_reduce K (fun h159 eh159 wh159 K => ?_) (fun x h1 _ _ e => Tw.out rfl e)
              refine r_aload_n (pc := 261) dX3_verify_261 rfl ?_
              have hk166 := kd_ext eh159 hk147 (nz rfl)
              have hv167 := (fr_ext (key := 3011) eh159 hk147 (nz rfl) (ne0 wh159 hk166 (nz rfl)) (nm rfl)).trans hv154
              refine r_getr' (pc := 262) (T := TX3) 3 11 hv167 hk166 (Or.inl q446) dX3_verify_262 kc3 g3011 ?_
              have hk168 := kd_ext eh159 hk156 (nz rfl)
              have hv169 := fr_self (key := 6000) hk156
              have hv170 := (fr_ext (key := 6000) eh159 hk156 (nz rfl) (ne0 wh159 hk168 (nz rfl)) (nm rfl)).trans hv169
              refine r_getr' (pc := 265) (T := TX6) 6 0 hv170 hk168 (Or.inr (Or.inl ⟨_, q417⟩)) dX3_verify_265 kc6 g6000 ?_
              refine r_aload_n (pc := 268) dX3_verify_268 rfl ?_
              have hv171 := (fr_ext (key := 3013) eh112 hk100 (nz rfl) (ne0 wh112 hk114 (nz rfl)) (nm rfl)).trans hv110
              have hv172 := (fr_ext (key := 3013) eh121 hk114 (nz rfl) (ne0 wh121 hk122 (nz rfl)) (nm rfl)).trans hv171
              have hv173 := (fr_ext (key := 3013) eh128 hk122 (nz rfl) (ne0 wh128 hk129 (nz rfl)) (nm rfl)).trans hv172
              have hv174 := (fr_ext (key := 3013) eh136 hk129 (nz rfl) (ne0 wh136 hk137 (nz rfl)) (nm rfl)).trans hv173
              have hv175 := (fr_ext (key := 3013) eh140 hk137 (nz rfl) (ne0 wh140 hk143 (nz rfl)) (nm rfl)).trans hv174
              have hv176 := (fr_ext (key := 3013) eh146 hk143 (nz rfl) (ne0 wh146 hk147 (nz rfl)) (nm rfl)).trans hv175
              have hv177 := (fr_ext (key := 3013) eh159 hk147 (nz rfl) (ne0 wh159 hk166 (nz rfl)) (nm rfl)).trans hv176
              refine r_getr' (pc := 269) (T := TX3) 3 13 hv177 hk166 (Or.inl q448) dX3_verify_269 kc3 g3013 ?_
              obtain ⟨hk180, K⟩ := K
              refine r_callV_I (pc := 272) (Y := mX5_compare) (vs := [_]) (st := []) hk180 rfl kc5 q1398 q852 q853 dX3_verify_272 rfl cd_X5_compare rfl rfl fp_X3_verify_X5_compare K (fun x178 h179 eh179 wh179 K => ?_) (fun x h1 _ _ e => Tw.out rfl e)
              refine r_if_ne (pc := 275) (tgt := 282) dX3_verify_275 rfl (fun c181 => ?_) (fun c181 => ?_)
              · have K := K.1 c181
                refine r_iconst (pc := 282) (x := 0) dX3_verify_282 rfl ?_
                exact r_iret (pc := 283) rfl rfl dX3_verify_283 K
              · have K := K.2 c181
                refine r_iconst (pc := 278) (x := 1) dX3_verify_278 rfl ?_
                refine r_goto (pc := 279) (tgt := 283) dX3_verify_279 rfl ?_
                exact r_iret (pc := 283) rfl rfl dX3_verify_283 K
            · have K := K.2 c142
              refine r_iconst (pc := 237) (x := 0) dX3_verify_237 rfl ?_
              exact r_iret (pc := 238) rfl rfl dX3_verify_238 K
          · have K := K.2 c62
            refine r_iconst (pc := 105) (x := 0) dX3_verify_105 rfl ?_
            exact r_iret (pc := 106) rfl rfl dX3_verify_106 K
  · have K := K.2 c4
    refine r_iconst (pc := 13) (x := 0) dX3_verify_13 rfl ?_
    exact r_iret (pc := 14) rfl rfl dX3_verify_14 K
theorem eX3_verify {G : Gx} {d : Nat} {Φ : Out → AH → Prop} (h : AH) (v0 : Nat) (v1 : Nat) (v2 : Int32) (v3 : Nat) (v4 : Nat) (v5 : Int32) (v6 : Int32) (K : WF G h → Aw G mX3_verify (d + 1) 0 h Φ 0 [vR v0, vR v1, vI v2, vR v3, vR v4, vI v5, vI v6, vU] [] h) : Cw G mX3_verify (d + 1) 0 [vR v0, vR v1, vI v2, vR v3, vR v4, vI v5, vI v6] h Φ := Cw.of rfl K
theorem dX3_init_0 : decode cX3_init 0 = .ok (.aload_n 0, 1) := by decide +kernel
theorem dX3_init_1 : decode cX3_init 1 = .ok (.invokespecial 1, 3) := by decide +kernel
theorem dX3_init_4 : decode cX3_init 4 = .ok (.aload_n 0, 1) := by decide +kernel
theorem dX3_init_5 : decode cX3_init 5 = .ok (.new 7, 3) := by decide +kernel
theorem dX3_init_8 : decode cX3_init 8 = .ok (.dup, 1) := by decide +kernel
theorem dX3_init_9 : decode cX3_init 9 = .ok (.new 9, 3) := by decide +kernel
theorem dX3_init_12 : decode cX3_init 12 = .ok (.dup, 1) := by decide +kernel
theorem dX3_init_13 : decode cX3_init 13 = .ok (.invokespecial 11, 3) := by decide +kernel
theorem dX3_init_16 : decode cX3_init 16 = .ok (.ldc 12, 2) := by decide +kernel
theorem dX3_init_18 : decode cX3_init 18 = .ok (.invokevirtual 14, 3) := by decide +kernel
theorem dX3_init_21 : decode cX3_init 21 = .ok (.invokespecial 18, 3) := by decide +kernel
theorem dX3_init_24 : decode cX3_init 24 = .ok (.putfield 21, 3) := by decide +kernel
theorem dX3_init_27 : decode cX3_init 27 = .ok (.aload_n 0, 1) := by decide +kernel
theorem dX3_init_28 : decode cX3_init 28 = .ok (.new 7, 3) := by decide +kernel
theorem dX3_init_31 : decode cX3_init 31 = .ok (.dup, 1) := by decide +kernel
theorem dX3_init_32 : decode cX3_init 32 = .ok (.new 9, 3) := by decide +kernel
theorem dX3_init_35 : decode cX3_init 35 = .ok (.dup, 1) := by decide +kernel
theorem dX3_init_36 : decode cX3_init 36 = .ok (.invokespecial 11, 3) := by decide +kernel
theorem dX3_init_39 : decode cX3_init 39 = .ok (.ldc 27, 2) := by decide +kernel
theorem dX3_init_41 : decode cX3_init 41 = .ok (.invokevirtual 14, 3) := by decide +kernel
theorem dX3_init_44 : decode cX3_init 44 = .ok (.invokespecial 18, 3) := by decide +kernel
theorem dX3_init_47 : decode cX3_init 47 = .ok (.putfield 29, 3) := by decide +kernel
theorem dX3_init_50 : decode cX3_init 50 = .ok (.aload_n 0, 1) := by decide +kernel
theorem dX3_init_51 : decode cX3_init 51 = .ok (.new 32, 3) := by decide +kernel
theorem dX3_init_54 : decode cX3_init 54 = .ok (.dup, 1) := by decide +kernel
theorem dX3_init_55 : decode cX3_init 55 = .ok (.invokespecial 34, 3) := by decide +kernel
theorem dX3_init_58 : decode cX3_init 58 = .ok (.putfield 35, 3) := by decide +kernel
theorem dX3_init_61 : decode cX3_init 61 = .ok (.aload_n 0, 1) := by decide +kernel
theorem dX3_init_62 : decode cX3_init 62 = .ok (.new 9, 3) := by decide +kernel
theorem dX3_init_65 : decode cX3_init 65 = .ok (.dup, 1) := by decide +kernel
theorem dX3_init_66 : decode cX3_init 66 = .ok (.invokespecial 11, 3) := by decide +kernel
theorem dX3_init_69 : decode cX3_init 69 = .ok (.putfield 39, 3) := by decide +kernel
theorem dX3_init_72 : decode cX3_init 72 = .ok (.aload_n 0, 1) := by decide +kernel
theorem dX3_init_73 : decode cX3_init 73 = .ok (.new 9, 3) := by decide +kernel
theorem dX3_init_76 : decode cX3_init 76 = .ok (.dup, 1) := by decide +kernel
theorem dX3_init_77 : decode cX3_init 77 = .ok (.invokespecial 11, 3) := by decide +kernel
theorem dX3_init_80 : decode cX3_init 80 = .ok (.putfield 43, 3) := by decide +kernel
theorem dX3_init_83 : decode cX3_init 83 = .ok (.aload_n 0, 1) := by decide +kernel
theorem dX3_init_84 : decode cX3_init 84 = .ok (.new 9, 3) := by decide +kernel
theorem dX3_init_87 : decode cX3_init 87 = .ok (.dup, 1) := by decide +kernel
theorem dX3_init_88 : decode cX3_init 88 = .ok (.invokespecial 11, 3) := by decide +kernel
theorem dX3_init_91 : decode cX3_init 91 = .ok (.putfield 46, 3) := by decide +kernel
theorem dX3_init_94 : decode cX3_init 94 = .ok (.aload_n 0, 1) := by decide +kernel
theorem dX3_init_95 : decode cX3_init 95 = .ok (.new 9, 3) := by decide +kernel
theorem dX3_init_98 : decode cX3_init 98 = .ok (.dup, 1) := by decide +kernel
theorem dX3_init_99 : decode cX3_init 99 = .ok (.invokespecial 11, 3) := by decide +kernel
theorem dX3_init_102 : decode cX3_init 102 = .ok (.putfield 49, 3) := by decide +kernel
theorem dX3_init_105 : decode cX3_init 105 = .ok (.aload_n 0, 1) := by decide +kernel
theorem dX3_init_106 : decode cX3_init 106 = .ok (.new 9, 3) := by decide +kernel
theorem dX3_init_109 : decode cX3_init 109 = .ok (.dup, 1) := by decide +kernel
theorem dX3_init_110 : decode cX3_init 110 = .ok (.invokespecial 11, 3) := by decide +kernel
theorem dX3_init_113 : decode cX3_init 113 = .ok (.putfield 52, 3) := by decide +kernel
theorem dX3_init_116 : decode cX3_init 116 = .ok (.aload_n 0, 1) := by decide +kernel
theorem dX3_init_117 : decode cX3_init 117 = .ok (.new 9, 3) := by decide +kernel
theorem dX3_init_120 : decode cX3_init 120 = .ok (.dup, 1) := by decide +kernel
theorem dX3_init_121 : decode cX3_init 121 = .ok (.invokespecial 11, 3) := by decide +kernel
theorem dX3_init_124 : decode cX3_init 124 = .ok (.putfield 55, 3) := by decide +kernel
theorem dX3_init_127 : decode cX3_init 127 = .ok (.aload_n 0, 1) := by decide +kernel
theorem dX3_init_128 : decode cX3_init 128 = .ok (.new 32, 3) := by decide +kernel
theorem dX3_init_131 : decode cX3_init 131 = .ok (.dup, 1) := by decide +kernel
theorem dX3_init_132 : decode cX3_init 132 = .ok (.invokespecial 34, 3) := by decide +kernel
theorem dX3_init_135 : decode cX3_init 135 = .ok (.putfield 58, 3) := by decide +kernel
theorem dX3_init_138 : decode cX3_init 138 = .ok (.aload_n 0, 1) := by decide +kernel
theorem dX3_init_139 : decode cX3_init 139 = .ok (.new 32, 3) := by decide +kernel
theorem dX3_init_142 : decode cX3_init 142 = .ok (.dup, 1) := by decide +kernel
theorem dX3_init_143 : decode cX3_init 143 = .ok (.invokespecial 34, 3) := by decide +kernel
theorem dX3_init_146 : decode cX3_init 146 = .ok (.putfield 61, 3) := by decide +kernel
theorem dX3_init_149 : decode cX3_init 149 = .ok (.aload_n 0, 1) := by decide +kernel
theorem dX3_init_150 : decode cX3_init 150 = .ok (.new 32, 3) := by decide +kernel
theorem dX3_init_153 : decode cX3_init 153 = .ok (.dup, 1) := by decide +kernel
theorem dX3_init_154 : decode cX3_init 154 = .ok (.invokespecial 34, 3) := by decide +kernel
theorem dX3_init_157 : decode cX3_init 157 = .ok (.putfield 64, 3) := by decide +kernel
theorem dX3_init_160 : decode cX3_init 160 = .ok (.aload_n 0, 1) := by decide +kernel
theorem dX3_init_161 : decode cX3_init 161 = .ok (.new 32, 3) := by decide +kernel
theorem dX3_init_164 : decode cX3_init 164 = .ok (.dup, 1) := by decide +kernel
theorem dX3_init_165 : decode cX3_init 165 = .ok (.invokespecial 34, 3) := by decide +kernel
theorem dX3_init_168 : decode cX3_init 168 = .ok (.putfield 67, 3) := by decide +kernel
theorem dX3_init_171 : decode cX3_init 171 = .ok (.aload_n 0, 1) := by decide +kernel
theorem dX3_init_172 : decode cX3_init 172 = .ok (.new 9, 3) := by decide +kernel
theorem dX3_init_175 : decode cX3_init 175 = .ok (.dup, 1) := by decide +kernel
theorem dX3_init_176 : decode cX3_init 176 = .ok (.invokespecial 11, 3) := by decide +kernel
theorem dX3_init_179 : decode cX3_init 179 = .ok (.putfield 70, 3) := by decide +kernel
theorem dX3_init_182 : decode cX3_init 182 = .ok (.aload_n 0, 1) := by decide +kernel
theorem dX3_init_183 : decode cX3_init 183 = .ok (.new 9, 3) := by decide +kernel
theorem dX3_init_186 : decode cX3_init 186 = .ok (.dup, 1) := by decide +kernel
theorem dX3_init_187 : decode cX3_init 187 = .ok (.invokespecial 11, 3) := by decide +kernel
theorem dX3_init_190 : decode cX3_init 190 = .ok (.putfield 73, 3) := by decide +kernel
theorem dX3_init_193 : decode cX3_init 193 = .ok (.aload_n 0, 1) := by decide +kernel
theorem dX3_init_194 : decode cX3_init 194 = .ok (.new 9, 3) := by decide +kernel
theorem dX3_init_197 : decode cX3_init 197 = .ok (.dup, 1) := by decide +kernel
theorem dX3_init_198 : decode cX3_init 198 = .ok (.invokespecial 11, 3) := by decide +kernel
theorem dX3_init_201 : decode cX3_init 201 = .ok (.putfield 76, 3) := by decide +kernel
theorem dX3_init_204 : decode cX3_init 204 = .ok (.aload_n 0, 1) := by decide +kernel
theorem dX3_init_205 : decode cX3_init 205 = .ok (.new 9, 3) := by decide +kernel
theorem dX3_init_208 : decode cX3_init 208 = .ok (.dup, 1) := by decide +kernel
theorem dX3_init_209 : decode cX3_init 209 = .ok (.invokespecial 11, 3) := by decide +kernel
theorem dX3_init_212 : decode cX3_init 212 = .ok (.putfield 79, 3) := by decide +kernel
theorem dX3_init_215 : decode cX3_init 215 = .ok (.aload_n 0, 1) := by decide +kernel
theorem dX3_init_216 : decode cX3_init 216 = .ok (.new 9, 3) := by decide +kernel
theorem dX3_init_219 : decode cX3_init 219 = .ok (.dup, 1) := by decide +kernel
theorem dX3_init_220 : decode cX3_init 220 = .ok (.invokespecial 11, 3) := by decide +kernel
theorem dX3_init_223 : decode cX3_init 223 = .ok (.putfield 82, 3) := by decide +kernel
theorem dX3_init_226 : decode cX3_init 226 = .ok (.aload_n 0, 1) := by decide +kernel
theorem dX3_init_227 : decode cX3_init 227 = .ok (.getfield 35, 3) := by decide +kernel
theorem dX3_init_230 : decode cX3_init 230 = .ok (.getfield 85, 3) := by decide +kernel
theorem dX3_init_233 : decode cX3_init 233 = .ok (.ldc 88, 2) := by decide +kernel
theorem dX3_init_235 : decode cX3_init 235 = .ok (.invokevirtual 14, 3) := by decide +kernel
theorem dX3_init_238 : decode cX3_init 238 = .ok (.pop, 1) := by decide +kernel
theorem dX3_init_239 : decode cX3_init 239 = .ok (.aload_n 0, 1) := by decide +kernel
theorem dX3_init_240 : decode cX3_init 240 = .ok (.getfield 35, 3) := by decide +kernel
theorem dX3_init_243 : decode cX3_init 243 = .ok (.getfield 90, 3) := by decide +kernel
theorem dX3_init_246 : decode cX3_init 246 = .ok (.ldc 93, 2) := by decide +kernel
theorem dX3_init_248 : decode cX3_init 248 = .ok (.invokevirtual 14, 3) := by decide +kernel
theorem dX3_init_251 : decode cX3_init 251 = .ok (.pop, 1) := by decide +kernel
theorem dX3_init_252 : decode cX3_init 252 = .ok (.aload_n 0, 1) := by decide +kernel
theorem dX3_init_253 : decode cX3_init 253 = .ok (.getfield 35, 3) := by decide +kernel
theorem dX3_init_256 : decode cX3_init 256 = .ok (.getfield 95, 3) := by decide +kernel
theorem dX3_init_259 : decode cX3_init 259 = .ok (.lconst 1, 1) := by decide +kernel
theorem dX3_init_260 : decode cX3_init 260 = .ok (.invokevirtual 98, 3) := by decide +kernel
theorem dX3_init_263 : decode cX3_init 263 = .ok (.pop, 1) := by decide +kernel
theorem dX3_init_264 : decode cX3_init 264 = .ok (.return_, 1) := by decide +kernel
/-! CoinJudge$Curve.<init>()V -/
set_option maxHeartbeats 4000000 in
theorem sX3_init_0 {G : Gx} {d t : Nat} {h0 : AH} {Φ : Out → AH → Prop} (h : AH) (v0 : Nat) (K : h.kd v0 = 3 ∧ ∀ q2 : Nat, q2 = h.z → WF G h → ∀ h3 : AH, h3 = h.new 4 9 [] [] [] → ∀ q5 : Nat, q5 = h3.z → WF G h3 → ∀ h6 : AH, h6 = h3.new 5 1 [] [] [] → Cw G mX5_init d q5 [vR q5] h6 (kV (fun h9 => ¬ (G.2.2.2.2 15) = 0 ∧ Cw G mX5_hex d 0 [vR q5, vR (G.2.2.2.2 15)] h9 (kR (fun x11 h12 => Cw G mX4_init d q2 [vR q2, vR x11] h12 (kV (fun h15 => ∀ h24 : AH, h24 = h15.pr 3000 v0 q2 → ∀ q25 : Nat, q25 = h24.z → WF G h24 → ∀ h26 : AH, h26 = h24.new 4 9 [] [] [] → ∀ q28 : Nat, q28 = h26.z → WF G h26 → ∀ h29 : AH, h29 = h26.new 5 1 [] [] [] → Cw G mX5_init d q28 [vR q28] h29 (kV (fun h32 => ¬ (G.2.2.2.2 16) = 0 ∧ Cw G mX5_hex d 0 [vR q28, vR (G.2.2.2.2 16)] h32 (kR (fun x34 h35 => Cw G mX4_init d q25 [vR q25, vR x34] h35 (kV (fun h38 => ∀ h48 : AH, h48 = h38.pr 3001 v0 q25 → ∀ q49 : Nat, q49 = h48.z → WF G h48 → ∀ h50 : AH, h50 = h48.new 6 3 [] [] [] → Cw G mX6_init d q49 [vR q49] h50 (kV (fun h53 => ∀ h57 : AH, h57 = h53.pr 3002 v0 q49 → ∀ q58 : Nat, q58 = h57.z → WF G h57 → ∀ h59 : AH, h59 = h57.new 5 1 [] [] [] → Cw G mX5_init d q58 [vR q58] h59 (kV (fun h62 => ∀ h66 : AH, h66 = h62.pr 3003 v0 q58 → ∀ q67 : Nat, q67 = h66.z → WF G h66 → ∀ h68 : AH, h68 = h66.new 5 1 [] [] [] → Cw G mX5_init d q67 [vR q67] h68 (kV (fun h71 => ∀ h75 : AH, h75 = h71.pr 3004 v0 q67 → ∀ q76 : Nat, q76 = h75.z → WF G h75 → ∀ h77 : AH, h77 = h75.new 5 1 [] [] [] → Cw G mX5_init d q76 [vR q76] h77 (kV (fun h80 => ∀ h84 : AH, h84 = h80.pr 3005 v0 q76 → ∀ q85 : Nat, q85 = h84.z → WF G h84 → ∀ h86 : AH, h86 = h84.new 5 1 [] [] [] → Cw G mX5_init d q85 [vR q85] h86 (kV (fun h89 => ∀ h93 : AH, h93 = h89.pr 3006 v0 q85 → ∀ q94 : Nat, q94 = h93.z → WF G h93 → ∀ h95 : AH, h95 = h93.new 5 1 [] [] [] → Cw G mX5_init d q94 [vR q94] h95 (kV (fun h98 => ∀ h102 : AH, h102 = h98.pr 3007 v0 q94 → ∀ q103 : Nat, q103 = h102.z → WF G h102 → ∀ h104 : AH, h104 = h102.new 5 1 [] [] [] → Cw G mX5_init d q103 [vR q103] h104 (kV (fun h107 => ∀ h111 : AH, h111 = h107.pr 3008 v0 q103 → ∀ q112 : Nat, q112 = h111.z → WF G h111 → ∀ h113 : AH, h113 = h111.new 6 3 [] [] [] → Cw G mX6_init d q112 [vR q112] h113 (kV (fun h116 => ∀ h120 : AH, h120 = h116.pr 3009 v0 q112 → ∀ q121 : Nat, q121 = h120.z → WF G h120 → ∀ h122 : AH, h122 = h120.new 6 3 [] [] [] → Cw G mX6_init d q121 [vR q121] h122 (kV (fun h125 => ∀ h129 : AH, h129 = h125.pr 3010 v0 q121 → ∀ q130 : Nat, q130 = h129.z → WF G h129 → ∀ h131 : AH, h131 = h129.new 6 3 [] [] [] → Cw G mX6_init d q130 [vR q130] h131 (kV (fun h134 => ∀ h138 : AH, h138 = h134.pr 3011 v0 q130 → ∀ q139 : Nat, q139 = h138.z → WF G h138 → ∀ h140 : AH, h140 = h138.new 6 3 [] [] [] → Cw G mX6_init d q139 [vR q139] h140 (kV (fun h143 => ∀ h147 : AH, h147 = h143.pr 3012 v0 q139 → ∀ q148 : Nat, q148 = h147.z → WF G h147 → ∀ h149 : AH, h149 = h147.new 5 1 [] [] [] → Cw G mX5_init d q148 [vR q148] h149 (kV (fun h152 => ∀ h156 : AH, h156 = h152.pr 3013 v0 q148 → ∀ q157 : Nat, q157 = h156.z → WF G h156 → ∀ h158 : AH, h158 = h156.new 5 1 [] [] [] → Cw G mX5_init d q157 [vR q157] h158 (kV (fun h161 => ∀ h165 : AH, h165 = h161.pr 3014 v0 q157 → ∀ q166 : Nat, q166 = h165.z → WF G h165 → ∀ h167 : AH, h167 = h165.new 5 1 [] [] [] → Cw G mX5_init d q166 [vR q166] h167 (kV (fun h170 => ∀ h174 : AH, h174 = h170.pr 3015 v0 q166 → ∀ q175 : Nat, q175 = h174.z → WF G h174 → ∀ h176 : AH, h176 = h174.new 5 1 [] [] [] → Cw G mX5_init d q175 [vR q175] h176 (kV (fun h179 => ∀ h183 : AH, h183 = h179.pr 3016 v0 q175 → ∀ q184 : Nat, q184 = h183.z → WF G h183 → ∀ h185 : AH, h185 = h183.new 5 1 [] [] [] → Cw G mX5_init d q184 [vR q184] h185 (kV (fun h188 => ∀ h192 : AH, h192 = h188.pr 3017 v0 q184 → ∀ r194 : Nat, r194 = (h192.r 3002 v0) → h192.kd r194 = 6 ∧ ∀ r196 : Nat, r196 = (h192.r 6000 r194) → ¬ (G.2.2.2.2 17) = 0 ∧ h192.kd r196 = 5 ∧ Cw G mX5_hex d 0 [vR r196, vR (G.2.2.2.2 17)] h192 (kR (fun x198 h199 => ∀ r205 : Nat, r205 = (h199.r 6001 r194) → ¬ (G.2.2.2.2 18) = 0 ∧ h199.kd r205 = 5 ∧ Cw G mX5_hex d 0 [vR r205, vR (G.2.2.2.2 18)] h199 (kR (fun x207 h208 => ∀ r213 : Nat, r213 = (h208.r 6002 r194) → h208.kd r213 = 5 ∧ Cw G mX5_small d 0 [vR r213, vJ 1] h208 (kR (fun x214 h215 => Φ (.inl none) h215) (fun x h => Φ (.inr x) h))) (fun x h => Φ (.inr x) h))) (fun x h => Φ (.inr x) h))) (fun x h => Φ (.inr x) h))) (fun x h => Φ (.inr x) h))) (fun x h => Φ (.inr x) h))) (fun x h => Φ (.inr x) h))) (fun x h => Φ (.inr x) h))) (fun x h => Φ (.inr x) h))) (fun x h => Φ (.inr x) h))) (fun x h => Φ (.inr x) h))) (fun x h => Φ (.inr x) h))) (fun x h => Φ (.inr x) h))) (fun x h => Φ (.inr x) h))) (fun x h => Φ (.inr x) h))) (fun x h => Φ (.inr x) h))) (fun x h => Φ (.inr x) h))) (fun x h => Φ (.inr x) h))) (fun x h => Φ (.inr x) h))) (fun x h => Φ (.inr x) h))) (fun x h => Φ (.inr x) h))) (fun x h => Φ (.inr x) h))) (fun x h => Φ (.inr x) h))) (fun x h => Φ (.inr x) h))) (fun x h => Φ (.inr x) h))) : Aw G mX3_init (d + 1) v0 h0 Φ 0 [vR v0] [] h := by
  refine r_aload_n (pc := 0) dX3_init_0 rfl ?_
  obtain ⟨hk1, K⟩ := K
  refine r_objInit (pc := 1) (nzk hk1 rfl) q290 q207 q208 dX3_init_1 (by decide) ?_
  refine r_aload_n (pc := 4) dX3_init_4 rfl ?_
  refine r_new (pc := 5) 4 kc4 rfl q291 q292 q154 dX3_init_5 (fun q2 eq2 zq2 wq2 => ?_)
  refine r_nameH (fun h3 eh3 => ?_)
  have K := K q2 eq2 wq2 h3 eh3
  have hk4 := kd_newSE eh3 eq2
  refine r_dup (pc := 8) rfl dX3_init_8 ?_
  refine r_new (pc := 9) 5 kc5 rfl q293 q294 q155 dX3_init_9 (fun q5 eq5 zq5 wq5 => ?_)
  refine r_nameH (fun h6 eh6 => ?_)
  have K := K q5 eq5 wq5 h6 eh6
  have hk7 := kd_newSE eh6 eq5
  refine r_dup (pc := 12) rfl dX3_init_12 ?_
  refine r_callIN_V (pc := 13) (Y := mX5_init) (vs := []) (st := [_, _, _, _]) (nzk hk7 rfl) q295 q296 q297 rfl rfl rfl dX3_init_13 rfl (Or.inr zq5) rfl rfl fp_X3_init_X5_init K (fun h9 eh9 wh9 K => ?_) (fun x h1 _ _ e => Tw.out rfl e)
  obtain ⟨hz10, K⟩ := K
  refine r_ldcS (pc := 16) "FFFFFFFFFFFFFFFFFFFFFFFFFFFFFFFFFFFFFFFFFFFFFFFFFFFFFFFEFFFFFC2F" 15 rfl (by decide) (fun _ => hz10) dX3_init_16 ?_
  have hk13 := kd_ext eh9 hk7 (nz rfl)
  refine r_callV_R (pc := 18) (Y := mX5_hex) (vs := [_]) (st := [_, _, _]) hk13 rfl kc5 q307 q308 q309 dX3_init_18 rfl cd_X5_hex rfl rfl fp_X3_init_X5_hex K (fun x11 h12 eh12 wh12 K => ?_) (fun x h1 _ _ e => Tw.out rfl e)
  have hk16 := kd_newE eh6 wq5 hk4 (nz rfl)
  have hk17 := kd_ext eh9 hk16 (nz rfl)
  have hk18 := kd_ext eh12 hk17 (nz rfl)
  refine r_callI_V (pc := 21) (Y := mX4_init) (vs := [_]) (st := [_, _]) (nzk hk18 rfl) q367 q368 q369 rfl rfl rfl dX3_init_21 rfl (Or.inr zq2) rfl rfl fp_X3_init_X4_init K (fun h15 eh15 wh15 K => ?_) (fun x h1 _ _ e => Tw.out rfl e)
  have hk19 := kd_newE eh3 wq2 hk1 (nz rfl)
  have hk20 := kd_newE eh6 wq5 hk19 (nz rfl)
  have hk21 := kd_ext eh9 hk20 (nz rfl)
  have hk22 := kd_ext eh12 hk21 (nz rfl)
  have hk23 := kd_ext eh15 hk22 (nz rfl)
  refine r_putr (pc := 24) (T := TX3) (key := 3000) 3 0 (ty := (.object "CoinJudge$Ring")) hk23 (Or.inl q435) dX3_init_24 kc3 rfl rfl (Or.inr q435) (Or.inr (Or.inl rfl)) ?_
  refine r_nameH (fun h24 eh24 => ?_)
  have K := K h24 eh24
  refine r_aload_n (pc := 27) dX3_init_27 rfl ?_
  refine r_new (pc := 28) 4 kc4 rfl q291 q292 q154 dX3_init_28 (fun q25 eq25 zq25 wq25 => ?_)
  refine r_nameH (fun h26 eh26 => ?_)
  have K := K q25 eq25 wq25 h26 eh26
  have hk27 := kd_newSE eh26 eq25
  refine r_dup (pc := 31) rfl dX3_init_31 ?_
  refine r_new (pc := 32) 5 kc5 rfl q293 q294 q155 dX3_init_32 (fun q28 eq28 zq28 wq28 => ?_)
  refine r_nameH (fun h29 eh29 => ?_)
  have K := K q28 eq28 wq28 h29 eh29
  have hk30 := kd_newSE eh29 eq28
  refine r_dup (pc := 35) rfl dX3_init_35 ?_
  refine r_callIN_V (pc := 36) (Y := mX5_init) (vs := []) (st := [_, _, _, _]) (nzk hk30 rfl) q295 q296 q297 rfl rfl rfl dX3_init_36 rfl (Or.inr zq28) rfl rfl fp_X3_init_X5_init K (fun h32 eh32 wh32 K => ?_) (fun x h1 _ _ e => Tw.out rfl e)
  obtain ⟨hz33, K⟩ := K
  refine r_ldcS (pc := 39) "FFFFFFFFFFFFFFFFFFFFFFFFFFFFFFFEBAAEDCE6AF48A03BBFD25E8CD0364141" 16 rfl (by decide) (fun _ => hz33) dX3_init_39 ?_
  have hk36 := kd_ext eh32 hk30 (nz rfl)
  refine r_callV_R (pc := 41) (Y := mX5_hex) (vs := [_]) (st := [_, _, _]) hk36 rfl kc5 q307 q308 q309 dX3_init_41 rfl cd_X5_hex rfl rfl fp_X3_init_X5_hex K (fun x34 h35 eh35 wh35 K => ?_) (fun x h1 _ _ e => Tw.out rfl e)
  have hk39 := kd_newE eh29 wq28 hk27 (nz rfl)
  have hk40 := kd_ext eh32 hk39 (nz rfl)
  have hk41 := kd_ext eh35 hk40 (nz rfl)
  refine r_callI_V (pc := 44) (Y := mX4_init) (vs := [_]) (st := [_, _]) (nzk hk41 rfl) q367 q368 q369 rfl rfl rfl dX3_init_44 rfl (Or.inr zq25) rfl rfl fp_X3_init_X4_init K (fun h38 eh38 wh38 K => ?_) (fun x h1 _ _ e => Tw.out rfl e)
  have hk42 := kd_pr eh24 hk23
  have hk43 := kd_newE eh26 wq25 hk42 (nz rfl)
  have hk44 := kd_newE eh29 wq28 hk43 (nz rfl)
  have hk45 := kd_ext eh32 hk44 (nz rfl)
  have hk46 := kd_ext eh35 hk45 (nz rfl)
  have hk47 := kd_ext eh38 hk46 (nz rfl)
  refine r_putr (pc := 47) (T := TX3) (key := 3001) 3 1 (ty := (.object "CoinJudge$Ring")) hk47 (Or.inl q436) dX3_init_47 kc3 rfl rfl (Or.inr q436) (Or.inr (Or.inl rfl)) ?_
  refine r_nameH (fun h48 eh48 => ?_)
  have K := K h48 eh48
  refine r_aload_n (pc := 50) dX3_init_50 rfl ?_
  refine r_new (pc := 51) 6 kc6 rfl q408 q409 q160 dX3_init_51 (fun q49 eq49 zq49 wq49 => ?_)
  refine r_nameH (fun h50 eh50 => ?_)
  have K := K q49 eq49 wq49 h50 eh50
  have hk51 := kd_newSE eh50 eq49
  refine r_dup (pc := 54) rfl dX3_init_54 ?_
  refine r_callIN_V (pc := 55) (Y := mX6_init) (vs := []) (st := [_, _]) (nzk hk51 rfl) q410 q411 q412 rfl rfl rfl dX3_init_55 rfl (Or.inr zq49) rfl rfl fp_X3_init_X6_init K (fun h53 eh53 wh53 K => ?_) (fun x h1 _ _ e => Tw.out rfl e)
  have hk54 := kd_pr eh48 hk47
  have hk55 := kd_newE eh50 wq49 hk54 (nz rfl)
  have hk56 := kd_ext eh53 hk55 (nz rfl)
  refine r_putr (pc := 58) (T := TX3) (key := 3002) 3 2 (ty := (.object "CoinJudge$Point")) hk56 (Or.inl q437) dX3_init_58 kc3 rfl rfl (Or.inr q437) (Or.inr (Or.inl rfl)) ?_
  refine r_nameH (fun h57 eh57 => ?_)
  have K := K h57 eh57
  refine r_aload_n (pc := 61) dX3_init_61 rfl ?_
  refine r_new (pc := 62) 5 kc5 rfl q293 q294 q155 dX3_init_62 (fun q58 eq58 zq58 wq58 => ?_)
  refine r_nameH (fun h59 eh59 => ?_)
  have K := K q58 eq58 wq58 h59 eh59
  have hk60 := kd_newSE eh59 eq58
  refine r_dup (pc := 65) rfl dX3_init_65 ?_
  refine r_callIN_V (pc := 66) (Y := mX5_init) (vs := []) (st := [_, _]) (nzk hk60 rfl) q295 q296 q297 rfl rfl rfl dX3_init_66 rfl (Or.inr zq58) rfl rfl fp_X3_init_X5_init K (fun h62 eh62 wh62 K => ?_) (fun x h1 _ _ e => Tw.out rfl e)
  have hk63 := kd_pr eh57 hk56
  have hk64 := kd_newE eh59 wq58 hk63 (nz rfl)
  have hk65 := kd_ext eh62 hk64 (nz rfl)
  refine r_putr (pc := 69) (T := TX3) (key := 3003) 3 3 (ty := (.object "CoinJudge$Big")) hk65 (Or.inl q438) dX3_init_69 kc3 rfl rfl (Or.inr q438) (Or.inr (Or.inl rfl)) ?_
  refine r_nameH (fun h66 eh66 => ?_)
  have K := K h66 eh66
  refine r_aload_n (pc := 72) dX3_init_72 rfl ?_
  refine r_new (pc := 73) 5 kc5 rfl q293 q294 q155 dX3_init_73 (fun q67 eq67 zq67 wq67 => ?_)
  refine r_nameH (fun h68 eh68 => ?_)
  have K := K q67 eq67 wq67 h68 eh68
  have hk69 := kd_newSE eh68 eq67
  refine r_dup (pc := 76) rfl dX3_init_76 ?_
  refine r_callIN_V (pc := 77) (Y := mX5_init) (vs := []) (st := [_, _]) (nzk hk69 rfl) q295 q296 q297 rfl rfl rfl dX3_init_77 rfl (Or.inr zq67) rfl rfl fp_X3_init_X5_init K (fun h71 eh71 wh71 K => ?_) (fun x h1 _ _ e => Tw.out rfl e)
  have hk72 := kd_pr eh66 hk65
  have hk73 := kd_newE eh68 wq67 hk72 (nz rfl)
  have hk74 := kd_ext eh71 hk73 (nz rfl)
  refine r_putr (pc := 80) (T := TX3) (key := 3004) 3 4 (ty := (.object "CoinJudge$Big")) hk74 (Or.inl q439) dX3_init_80 kc3 rfl rfl (Or.inr q439) (Or.inr (Or.inl rfl)) ?_
  refine r_nameH (fun h75 eh75 => ?_)
  have K := K h75 eh75
  refine r_aload_n (pc := 83) dX3_init_83 rfl ?_
  refine r_new (pc := 84) 5 kc5 rfl q293 q294 q155 dX3_init_84 (fun q76 eq76 zq76 wq76 => ?_)
  refine r_nameH (fun h77 eh77 => ?_)
  have K := K q76 eq76 wq76 h77 eh77
  have hk78 := kd_newSE eh77 eq76
  refine r_dup (pc := 87) rfl dX3_init_87 ?_
  refine r_callIN_V (pc := 88) (Y := mX5_init) (vs := []) (st := [_, _]) (nzk hk78 rfl) q295 q296 q297 rfl rfl rfl dX3_init_88 rfl (Or.inr zq76) rfl rfl fp_X3_init_X5_init K (fun h80 eh80 wh80 K => ?_) (fun x h1 _ _ e => Tw.out rfl e)
  have hk81 := kd_pr eh75 hk74
  have hk82 := kd_newE eh77 wq76 hk81 (nz rfl)
  have hk83 := kd_ext eh80 hk82 (nz rfl)
  refine r_putr (pc := 91) (T := TX3) (key := 3005) 3 5 (ty := (.object "CoinJudge$Big")) hk83 (Or.inl q440) dX3_init_91 kc3 rfl rfl (Or.inr q440) (Or.inr (Or.inl rfl)) ?_
  refine r_nameH (fun h84 eh84 => ?_)
  have K := K h84 eh84
  refine r_aload_n (pc := 94) dX3_init_94 rfl ?_
  refine r_new (pc := 95) 5 kc5 rfl q293 q294 q155 dX3_init_95 (fun q85 eq85 zq85 wq85 => ?_)
  refine r_nameH (fun h86 eh86 => ?_)
  have K := K q85 eq85 wq85 h86 eh86
  have hk87 := kd_newSE eh86 eq85
  refine r_dup (pc := 98) rfl dX3_init_98 ?_
  refine r_callIN_V (pc := 99) (Y := mX5_init) (vs := []) (st := [_, _]) (nzk hk87 rfl) q295 q296 q297 rfl rfl rfl dX3_init_99 rfl (Or.inr zq85) rfl rfl fp_X3_init_X5_init K (fun h89 eh89 wh89 K => ?_) (fun x h1 _ _ e => Tw.out rfl e)
  have hk90 := kd_pr eh84 hk83
  have hk91 := kd_newE eh86 wq85 hk90 (nz rfl)
  have hk92 := kd_ext eh89 hk91 (nz rfl)
  refine r_putr (pc := 102) (T := TX3) (key := 3006) 3 6 (ty := (.object "CoinJudge$Big")) hk92 (Or.inl q441) dX3_init_102 kc3 rfl rfl (Or.inr q441) (Or.inr (Or.inl rfl)) ?_
  refine r_nameH (fun h93 eh93 => ?_)
  have K := K h93 eh93
  refine r_aload_n (pc := 105) dX3_init_105 rfl ?_
  refine r_new (pc := 106) 5 kc5 rfl q293 q294 q155 dX3_init_106 (fun q94 eq94 zq94 wq94 => ?_)
  refine r_nameH (fun h95 eh95 => ?_)
  have K := K q94 eq94 wq94 h95 eh95
  have hk96 := kd_newSE eh95 eq94
  refine r_dup (pc := 109) rfl dX3_init_109 ?_
  refine r_callIN_V (pc := 110) (Y := mX5_init) (vs := []) (st := [_, _]) (nzk hk96 rfl) q295 q296 q297 rfl rfl rfl dX3_init_110 rfl (Or.inr zq94) rfl rfl fp_X3_init_X5_init K (fun h98 eh98 wh98 K => ?_) (fun x h1 _ _ e => Tw.out rfl e)
  have hk99 := kd_pr eh93 hk92
  have hk100 := kd_newE eh95 wq94 hk99 (nz rfl)
  have hk101 := kd_ext eh98 hk100 (nz rfl)
  refine r_putr (pc := 113) (T := TX3) (key := 3007) 3 7 (ty := (.object "CoinJudge$Big")) hk101 (Or.inl q442) dX3_init_113 kc3 rfl rfl (Or.inr q442) (Or.inr (Or.inl rfl)) ?_
  refine r_nameH (fun h102 eh102 => ?_)
  have K := K h102 eh102
  refine r_aload_n (pc := 116) dX3_init_116 rfl ?_
  refine r_new (pc := 117) 5 kc5 rfl q293 q294 q155 dX3_init_117 (fun q103 eq103 zq103 wq103 => ?_)
  refine r_nameH (fun h104 eh104 => ?_)
  have K := K q103 eq103 wq103 h104 eh104
  have hk105 := kd_newSE eh104 eq103
  refine r_dup (pc := 120) rfl dX3_init_120 ?_
  refine r_callIN_V (pc := 121) (Y := mX5_init) (vs := []) (st := [_, _]) (nzk hk105 rfl) q295 q296 q297 rfl rfl rfl dX3_init_121 rfl (Or.inr zq103) rfl rfl fp_X3_init_X5_init K (fun h107 eh107 wh107 K => ?_) (fun x h1 _ _ e => Tw.out rfl e)
  have hk108 := kd_pr eh102 hk101
  have hk109 := kd_newE eh104 wq103 hk108 (nz rfl)
  have hk110 := kd_ext eh107 hk109 (nz rfl)
  refine r_putr (pc := 124) (T := TX3) (key := 3008) 3 8 (ty := (.object "CoinJudge$Big")) hk110 (Or.inl q443) dX3_init_124 kc3 rfl rfl (Or.inr q443) (Or.inr (Or.inl rfl)) ?_
  refine r_nameH (fun h111 eh111 => ?_)
  have K := K h111 eh111
  refine r_aload_n (pc := 127) dX3_init_127 rfl ?_
  refine r_new (pc := 128) 6 kc6 rfl q408 q409 q160 dX3_init_128 (fun q112 eq112 zq112 wq112 => ?_)
  refine r_nameH (fun h113 eh113 => ?_)
  have K := K q112 eq112 wq112 h113 eh113
  have hk114 := kd_newSE eh113 eq112
  refine r_dup (pc := 131) rfl dX3_init_131 ?_
  refine r_callIN_V (pc := 132) (Y := mX6_init) (vs := []) (st := [_, _]) (nzk hk114 rfl) q410 q411 q412 rfl rfl rfl dX3_init_132 rfl (Or.inr zq112) rfl rfl fp_X3_init_X6_init K (fun h116 eh116 wh116 K => ?_) (fun x h1 _ _ e => Tw.out rfl e)
  have hk117 := kd_pr eh111 hk110
  have hk118 := kd_newE eh113 wq112 hk117 (nz rfl)
  have hk119 := kd_ext eh116 hk118 (nz rfl)
  refine r_putr (pc := 135) (T := TX3) (key := 3009) 3 9 (ty := (.object "CoinJudge$Point")) hk119 (Or.inl q444) dX3_init_135 kc3 rfl rfl (Or.inr q444) (Or.inr (Or.inl rfl)) ?_
  refine r_nameH (fun h120 eh120 => ?_)
  have K := K h120 eh120
  refine r_aload_n (pc := 138) dX3_init_138 rfl ?_
  refine r_new (pc := 139) 6 kc6 rfl q408 q409 q160 dX3_init_139 (fun q121 eq121 zq121 wq121 => ?_)
  refine r_nameH (fun h122 eh122 => ?_)
  have K := K q121 eq121 wq121 h122 eh122
  have hk123 := kd_newSE eh122 eq121
  refine r_dup (pc := 142) rfl dX3_init_142 ?_
  refine r_callIN_V (pc := 143) (Y := mX6_init) (vs := []) (st := [_, _]) (nzk hk123 rfl) q410 q411 q412 rfl rfl rfl dX3_init_143 rfl (Or.inr zq121) rfl rfl fp_X3_init_X6_init K (fun h125 eh125 wh125 K => ?_) (fun x h1 _ _ e => Tw.out rfl e)
  have hk126 := kd_pr eh120 hk119
  have hk127 := kd_newE eh122 wq121 hk126 (nz rfl)
  have hk128 := kd_ext eh125 hk127 (nz rfl)
  refine r_putr (pc := 146) (T := TX3) (key := 3010) 3 10 (ty := (.object "CoinJudge$Point")) hk128 (Or.inl q445) dX3_init_146 kc3 rfl rfl (Or.inr q445) (Or.inr (Or.inl rfl)) ?_
  refine r_nameH (fun h129 eh129 => ?_)
  have K := K h129 eh129
  refine r_aload_n (pc := 149) dX3_init_149 rfl ?_
  refine r_new (pc := 150) 6 kc6 rfl q408 q409 q160 dX3_init_150 (fun q130 eq130 zq130 wq130 => ?_)
  refine r_nameH (fun h131 eh131 => ?_)
  have K := K q130 eq130 wq130 h131 eh131
  have hk132 := kd_newSE eh131 eq130
  refine r_dup (pc := 153) rfl dX3_init_153 ?_
  refine r_callIN_V (pc := 154) (Y := mX6_init) (vs := []) (st := [_, _]) (nzk hk132 rfl) q410 q411 q412 rfl rfl rfl dX3_init_154 rfl (Or.inr zq130) rfl rfl fp_X3_init_X6_init K (fun h134 eh134 wh134 K => ?_) (fun x h1 _ _ e => Tw.out rfl e)
  have hk135 := kd_pr eh129 hk128
  have hk136 := kd_newE eh131 wq130 hk135 (nz rfl)
  have hk137 := kd_ext eh134 hk136 (nz rfl)
  refine r_putr (pc := 157) (T := TX3) (key := 3011) 3 11 (ty := (.object "CoinJudge$Point")) hk137 (Or.inl q446) dX3_init_157 kc3 rfl rfl (Or.inr q446) (Or.inr (Or.inl rfl)) ?_
  refine r_nameH (fun h138 eh138 => ?_)
  have K := K h138 eh138
  refine r_aload_n (pc := 160) dX3_init_160 rfl ?_
  refine r_new (pc := 161) 6 kc6 rfl q408 q409 q160 dX3_init_161 (fun q139 eq139 zq139 wq139 => ?_)
  refine r_nameH (fun h140 eh140 => ?_)
  have K := K q139 eq139 wq139 h140 eh140
  have hk141 := kd_newSE eh140 eq139
  refine r_dup (pc := 164) rfl dX3_init_164 ?_
  refine r_callIN_V (pc := 165) (Y := mX6_init) (vs := []) (st := [_, _]) (nzk hk141 rfl) q410 q411 q412 rfl rfl rfl dX3_init_165 rfl (Or.inr zq139) rfl rfl fp_X3_init_X6_init K (fun h143 eh143 wh143 K => ?_) (fun x h1 _ _ e => Tw.out rfl e)
  have hk144 := kd_pr eh138 hk137
  have hk145 := kd_newE eh140 wq139 hk144 (nz rfl)
  have hk146 := kd_ext eh143 hk145 (nz rfl)
  refine r_putr (pc := 168) (T := TX3) (key := 3012) 3 12 (ty := (.object "CoinJudge$Point")) hk146 (Or.inl q447) dX3_init_168 kc3 rfl rfl (Or.inr q447) (Or.inr (Or.inl rfl)) ?_
  refine r_nameH (fun h147 eh147 => ?_)
  have K := K h147 eh147
  refine r_aload_n (pc := 171) dX3_init_171 rfl ?_
  refine r_new (pc := 172) 5 kc5 rfl q293 q294 q155 dX3_init_172 (fun q148 eq148 zq148 wq148 => ?_)
  refine r_nameH (fun h149 eh149 => ?_)
  have K := K q148 eq148 wq148 h149 eh149
  have hk150 := kd_newSE eh149 eq148
  refine r_dup (pc := 175) rfl dX3_init_175 ?_
  refine r_callIN_V (pc := 176) (Y := mX5_init) (vs := []) (st := [_, _]) (nzk hk150 rfl) q295 q296 q297 rfl rfl rfl dX3_init_176 rfl (Or.inr zq148) rfl rfl fp_X3_init_X5_init K (fun h152 eh152 wh152 K => ?_) (fun x h1 _ _ e => Tw.out rfl e)
  have hk153 := kd_pr eh147 hk146
  have hk154 := kd_newE eh149 wq148 hk153 (nz rfl)
  have hk155 := kd_ext eh152 hk154 (nz rfl)
  refine r_putr (pc := 179) (T := TX3) (key := 3013) 3 13 (ty := (.object "CoinJudge$Big")) hk155 (Or.inl q448) dX3_init_179 kc3 rfl rfl (Or.inr q448) (Or.inr (Or.inl rfl)) ?_
  refine r_nameH (fun h156 eh156 => ?_)
  have K := K h156 eh156
  refine r_aload_n (pc := 182) dX3_init_182 rfl ?_
  refine r_new (pc := 183) 5 kc5 rfl q293 q294 q155 dX3_init_183 (fun q157 eq157 zq157 wq157 => ?_)
  refine r_nameH (fun h158 eh158 => ?_)
  have K := K q157 eq157 wq157 h158 eh158
  have hk159 := kd_newSE eh158 eq157
  refine r_dup (pc := 186) rfl dX3_init_186 ?_
  refine r_callIN_V (pc := 187) (Y := mX5_init) (vs := []) (st := [_, _]) (nzk hk159 rfl) q295 q296 q297 rfl rfl rfl dX3_init_187 rfl (Or.inr zq157) rfl rfl fp_X3_init_X5_init K (fun h161 eh161 wh161 K => ?_) (fun x h1 _ _ e => Tw.out rfl e)
  have hk162 := kd_pr eh156 hk155
  have hk163 := kd_newE eh158 wq157 hk162 (nz rfl)
  have hk164 := kd_ext eh161 hk163 (nz rfl)
  refine r_putr (pc := 190) (T := TX3) (key := 3014) 3 14 (ty := (.object "CoinJudge$Big")) hk164 (Or.inl q449) dX3_init_190 kc3 rfl rfl (Or.inr q449) (Or.inr (Or.inl rfl)) ?_
  refine r_nameH (fun h165 eh165 => ?_)
  have K := K h165 eh165
  refine r_aload_n (pc := 193) dX3_init_193 rfl ?_
  refine r_new (pc := 194) 5 kc5 rfl q293 q294 q155 dX3_init_194 (fun q166 eq166 zq166 wq166 => ?_)
  refine r_nameH (fun h167 eh167 => ?_)
  have K := K q166 eq166 wq166 h167 eh167
  have hk168 := kd_newSE eh167 eq166
  refine r_dup (pc := 197) rfl dX3_init_197 ?_
  refine r_callIN_V (pc := 198) (Y := mX5_init) (vs := []) (st := [_, _]) (nzk hk168 rfl) q295 q296 q297 rfl rfl rfl dX3_init_198 rfl (Or.inr zq166) rfl rfl fp_X3_init_X5_init K (fun h170 eh170 wh170 K => ?_) (fun x h1 _ _ e => Tw.out rfl e)
  have hk171 := kd_pr eh165 hk164
  have hk172 := kd_newE eh167 wq166 hk171 (nz rfl)
  have hk173 := kd_ext eh170 hk172 (nz rfl)
  refine r_putr (pc := 201) (T := TX3) (key := 3015) 3 15 (ty := (.object "CoinJudge$Big")) hk173 (Or.inl q450) dX3_init_201 kc3 rfl rfl (Or.inr q450) (Or.inr (Or.inl rfl)) ?_
  refine r_nameH (fun h174 eh174 => ?_)
  have K := K h174 eh174
  refine r_aload_n (pc := 204) dX3_init_204 rfl ?_
  refine r_new (pc := 205) 5 kc5 rfl q293 q294 q155 dX3_init_205 (fun q175 eq175 zq175 wq175 => ?_)
  refine r_nameH (fun h176 eh176 => ?_)
  have K := K q175 eq175 wq175 h176 eh176
  have hk177 := kd_newSE eh176 eq175
  refine r_dup (pc := 208) rfl dX3_init_208 ?_
  refine r_callIN_V (pc := 209) (Y := mX5_init) (vs := []) (st := [_, _]) (nzk hk177 rfl) q295 q296 q297 rfl rfl rfl dX3_init_209 rfl (Or.inr zq175) rfl rfl fp_X3_init_X5_init K (fun h179 eh179 wh179 K => ?_) (fun x h1 _ _ e => Tw.out rfl e)
  have hk180 := kd_pr eh174 hk173
  have hk181 := kd_newE eh176 wq175 hk180 (nz rfl)
  have hk182 := kd_ext eh179 hk181 (nz rfl)
  refine r_putr (pc := 212) (T := TX3) (key := 3016) 3 16 (ty := (.object "CoinJudge$Big")) hk182 (Or.inl q451) dX3_init_212 kc3 rfl rfl (Or.inr q451) (Or.inr (Or.inl rfl)) ?_
  refine r_nameH (fun h183 eh183 => ?_)
  have K := K h183 eh183
  refine r_aload_n (pc := 215) dX3_init_215 rfl ?_
  refine r_new (pc := 216) 5 kc5 rfl q293 q294 q155 dX3_init_216 (fun q184 eq184 zq184 wq184 => ?_)
  refine r_nameH (fun h185 eh185 => ?_)
  have K := K q184 eq184 wq184 h185 eh185
  have hk186 := kd_newSE eh185 eq184
  refine r_dup (pc := 219) rfl dX3_init_219 ?_
  refine r_callIN_V (pc := 220) (Y := mX5_init) (vs := []) (st := [_, _]) (nzk hk186 rfl) q295 q296 q297 rfl rfl rfl dX3_init_220 rfl (Or.inr zq184) rfl rfl fp_X3_init_X5_init K (fun h188 eh188 wh188 K => ?_) (fun x h1 _ _ e => Tw.out rfl e)
  have hk189 := kd_pr eh183 hk182
  have hk190 := kd_newE eh185 wq184 hk189 (nz rfl)
  have hk191 := kd_ext eh188 hk190 (nz rfl)
  refine r_putr (pc := 223) (T := TX3) (key := 3017) 3 17 (ty := (.object "CoinJudge$Big")) hk191 (Or.inl q452) dX3_init_223 kc3 rfl rfl (Or.inr q452) (Or.inr (Or.inl rfl)) ?_
  refine r_nameH (fun h192 eh192 => ?_)
  have K := K h192 eh192
  refine r_aload_n (pc := 226) dX3_init_226 rfl ?_
  have hk193 := kd_pr eh192 hk191
  have K := K _ rfl
  refine r_getr' (pc := 227) (T := TX3) 3 2 rfl hk193 (Or.inl q437) dX3_init_227 kc3 g3002 ?_
  obtain ⟨hk195, K⟩ := K
  have K := K _ rfl
  refine r_getr' (pc := 230) (T := TX6) 6 0 rfl hk195 (Or.inr (Or.inl ⟨_, q417⟩)) dX3_init_230 kc6 g6000 ?_
  obtain ⟨hz197, K⟩ := K
  refine r_ldcS (pc := 233) "79BE667EF9DCBBAC55A06295CE870B07029BFCDB2DCE28D959F2815B16F81798" 17 rfl (by decide) (fun _ => hz197) dX3_init_233 ?_
  obtain ⟨hk200, K⟩ := K
  refine r_callV_R (pc := 235) (Y := mX5_hex) (vs := [_]) (st := []) hk200 rfl kc5 q307 q308 q309 dX3_init_235 rfl cd_X5_hex rfl rfl fp_X3_init_X5_hex K (fun x198 h199 eh199 wh199 K => ?_) (fun x h1 _ _ e => Tw.out rfl e)
  refine r_pop (pc := 238) rfl dX3_init_238 ?_
  refine r_aload_n (pc := 239) dX3_init_239 rfl ?_
  have hk201 := kd_ext eh199 hk193 (nz rfl)
  have hv202 := fr_self (key := 3002) hk193
  have hv203 := (fr_ext (key := 3002) eh199 hk193 (nz rfl) (ne0 wh199 hk201 (nz rfl)) (nm rfl)).trans hv202
  refine r_getr' (pc := 240) (T := TX3) 3 2 hv203 hk201 (Or.inl q437) dX3_init_240 kc3 g3002 ?_
  have hk204 := kd_ext eh199 hk195 (nz rfl)
  have K := K _ rfl
  refine r_getr' (pc := 243) (T := TX6) 6 1 rfl hk204 (Or.inr (Or.inl ⟨_, q419⟩)) dX3_init_243 kc6 g6001 ?_
  obtain ⟨hz206, K⟩ := K
  refine r_ldcS (pc := 246) "483ADA7726A3C4655DA4FBFC0E1108A8FD17B448A68554199C47D08FFB10D4B8" 18 rfl (by decide) (fun _ => hz206) dX3_init_246 ?_
  obtain ⟨hk209, K⟩ := K
  refine r_callV_R (pc := 248) (Y := mX5_hex) (vs := [_]) (st := []) hk209 rfl kc5 q307 q308 q309 dX3_init_248 rfl cd_X5_hex rfl rfl fp_X3_init_X5_hex K (fun x207 h208 eh208 wh208 K => ?_) (fun x h1 _ _ e => Tw.out rfl e)
  refine r_pop (pc := 251) rfl dX3_init_251 ?_
  refine r_aload_n (pc := 252) dX3_init_252 rfl ?_
  have hk210 := kd_ext eh208 hk201 (nz rfl)
  have hv211 := (fr_ext (key := 3002) eh208 hk201 (nz rfl) (ne0 wh208 hk210 (nz rfl)) (nm rfl)).trans hv203
  refine r_getr' (pc := 253) (T := TX3) 3 2 hv211 hk210 (Or.inl q437) dX3_init_253 kc3 g3002 ?_
  have hk212 := kd_ext eh208 hk204 (nz rfl)
  have K := K _ rfl
  refine r_getr' (pc := 256) (T := TX6) 6 2 rfl hk212 (Or.inr (Or.inl ⟨_, q421⟩)) dX3_init_256 kc6 g6002 ?_
  refine r_lconst (pc := 259) (a := 1) dX3_init_259 rfl ?_
  obtain ⟨hk216, K⟩ := K
  refine r_callV_R (pc := 260) (Y := mX5_small) (vs := [_]) (st := []) hk216 rfl kc5 q431 q432 q433 dX3_init_260 rfl cd_X5_small rfl rfl fp_X3_init_X5_small K (fun x214 h215 eh215 wh215 K => ?_) (fun x h1 _ _ e => Tw.out rfl e)
  refine r_pop (pc := 263) rfl dX3_init_263 ?_
  exact r_vret (pc := 264) rfl dX3_init_264 K
theorem eX3_init {G : Gx} {d : Nat} {Φ : Out → AH → Prop} (h : AH) (v0 : Nat) (K : WF G h → Aw G mX3_init (d + 1) v0 h Φ 0 [vR v0] [] h) : Cw G mX3_init (d + 1) v0 [vR v0] h Φ := Cw.of rfl K

/-! printed by gen/segs.py: decode rows and segment lemmas of: X4_high X4_product X4_multiply X4_power X4_invert X4_add X4_subtract X6_none X6_copy X4_reduce X4_modulus X4_init X6_init X27_compare X27_copy X27_less X27_put X27_multiply X27_leave X27_power X27_isZero X27_plus X27_add X27_subtract X25_take X27_enter X27_same X26_init X28_init X25_init X27_init -/
set_option maxRecDepth 100000
theorem dX4_high_0 : decode cX4_high 0 = .ok (.bipush 8, 2) := by decide +kernel
theorem dX4_high_2 : decode cX4_high 2 = .ok (.istore_n 1, 1) := by decide +kernel
theorem dX4_high_3 : decode cX4_high 3 = .ok (.iload_n 1, 1) := by decide +kernel
theorem dX4_high_4 : decode cX4_high 4 = .ok (.bipush 16, 2) := by decide +kernel
theorem dX4_high_6 : decode cX4_high 6 = .ok (.if_icmp .ge 20, 3) := by decide +kernel
theorem dX4_high_9 : decode cX4_high 9 = .ok (.aload_n 0, 1) := by decide +kernel
theorem dX4_high_10 : decode cX4_high 10 = .ok (.getfield 18, 3) := by decide +kernel
theorem dX4_high_13 : decode cX4_high 13 = .ok (.iload_n 1, 1) := by decide +kernel
theorem dX4_high_14 : decode cX4_high 14 = .ok (.iaload, 1) := by decide +kernel
theorem dX4_high_15 : decode cX4_high 15 = .ok (.ifCond .eq 5, 3) := by decide +kernel
theorem dX4_high_18 : decode cX4_high 18 = .ok (.iconst 1, 1) := by decide +kernel
theorem dX4_high_19 : decode cX4_high 19 = .ok (.ireturn, 1) := by decide +kernel
theorem dX4_high_20 : decode cX4_high 20 = .ok (.iinc 1 1, 3) := by decide +kernel
theorem dX4_high_23 : decode cX4_high 23 = .ok (.goto (-20), 3) := by decide +kernel
theorem dX4_high_26 : decode cX4_high 26 = .ok (.iconst 0, 1) := by decide +kernel
theorem dX4_high_27 : decode cX4_high 27 = .ok (.ireturn, 1) := by decide +kernel
/-! CoinJudge$Ring.high()Z -/
set_option maxHeartbeats 4000000 in
theorem sX4_high_0 {G : Gx} {d t : Nat} {h0 : AH} {Φ : Out → AH → Prop} (h : AH) (v0 : Nat) (K : Aw G mX4_high (d + 1) t h0 Φ 3 [vR v0, vI 8] [] h) : Aw G mX4_high (d + 1) t h0 Φ 0 [vR v0, vU] [] h := by
  refine r_bipush (pc := 0) (x := 8) dX4_high_0 rfl ?_
  refine r_istore_n (pc := 2) (lv' := [_, _]) dX4_high_2 (by decide) rfl ?_
  refine r_mask (pc := 3) [true, true] rfl ?_
  exact K
theorem eX4_high {G : Gx} {d : Nat} {Φ : Out → AH → Prop} (h : AH) (v0 : Nat) (K : WF G h → Aw G mX4_high (d + 1) 0 h Φ 0 [vR v0, vU] [] h) : Cw G mX4_high (d + 1) 0 [vR v0] h Φ := Cw.of rfl K
set_option maxHeartbeats 4000000 in
theorem sX4_high_3 {G : Gx} {d t : Nat} {h0 : AH} {Φ : Out → AH → Prop} (h : AH) (v0 : Nat) (v1 : Int32) (K : ((16 ≤ v1 → Φ (.inl (some (vI 0))) h) ∧ (¬ 16 ≤ v1 → h.kd v0 = 4 ∧ ∀ r3 : Nat, r3 = (h.r 4002 v0) → h.kd r3 = 100 ∧ vp_in v1 (h.ai r3).length ∧ ((((h.ai r3).getD (v1.toNatClampNeg) 0) = 0 → Aw G mX4_high (d + 1) t h0 Φ 3 [vR v0, vI (v1 + 1)] [] h) ∧ (¬ ((h.ai r3).getD (v1.toNatClampNeg) 0) = 0 → Φ (.inl (some (vI 1))) h))))) : Aw G mX4_high (d + 1) t h0 Φ 3 [vR v0, vI v1] [] h := by
  refine r_iload_n (pc := 3) dX4_high_3 rfl ?_
  refine r_bipush (pc := 4) (x := 16) dX4_high_4 rfl ?_
  refine r_icmp_ge (pc := 6) (tgt := 26) dX4_high_6 rfl (fun c1 => ?_) (fun c1 => ?_)
  · have K := K.1 c1
    refine r_iconst (pc := 26) (x := 0) dX4_high_26 rfl ?_
    exact r_iret (pc := 27) rfl rfl dX4_high_27 K
  · have K := K.2 c1
    refine r_aload_n (pc := 9) dX4_high_9 rfl ?_
    obtain ⟨hk2, K⟩ := K
    have K := K _ rfl
    refine r_getr' (pc := 10) (T := TX4) 4 2 rfl hk2 (Or.inl q381) dX4_high_10 kc4 g4002 ?_
    refine r_iload_n (pc := 13) dX4_high_13 rfl ?_
    obtain ⟨hk4, K⟩ := K
    obtain ⟨hi5, K⟩ := K
    refine r_iaload (pc := 14) hk4 hi5 dX4_high_14 ?_
    refine r_if_eq (pc := 15) (tgt := 20) dX4_high_15 rfl (fun c6 => ?_) (fun c6 => ?_)
    · have K := K.1 c6
      refine r_iinc (pc := 20) (lv' := [_, _]) dX4_high_20 rfl rfl (by decide) rfl ?_
      refine r_goto (pc := 23) (tgt := 3) dX4_high_23 rfl ?_
      refine r_mask (pc := 3) [true, true] rfl ?_
      exact K
    · have K := K.2 c6
      refine r_iconst (pc := 18) (x := 1) dX4_high_18 rfl ?_
      exact r_iret (pc := 19) rfl rfl dX4_high_19 K
theorem dX4_product_0 : decode cX4_product 0 = .ok (.iconst 0, 1) := by decide +kernel
theorem dX4_product_1 : decode cX4_product 1 = .ok (.istore 6, 2) := by decide +kernel
theorem dX4_product_3 : decode cX4_product 3 = .ok (.iload 6, 2) := by decide +kernel
theorem dX4_product_5 : decode cX4_product 5 = .ok (.bipush 16, 2) := by decide +kernel
theorem dX4_product_7 : decode cX4_product 7 = .ok (.if_icmp .ge 37, 3) := by decide +kernel
theorem dX4_product_10 : decode cX4_product 10 = .ok (.aload_n 1, 1) := by decide +kernel
theorem dX4_product_11 : decode cX4_product 11 = .ok (.iload 6, 2) := by decide +kernel
theorem dX4_product_13 : decode cX4_product 13 = .ok (.aload 5, 2) := by decide +kernel
theorem dX4_product_15 : decode cX4_product 15 = .ok (.ifnull 21, 3) := by decide +kernel
theorem dX4_product_18 : decode cX4_product 18 = .ok (.iload 6, 2) := by decide +kernel
theorem dX4_product_20 : decode cX4_product 20 = .ok (.bipush 8, 2) := by decide +kernel
theorem dX4_product_22 : decode cX4_product 22 = .ok (.if_icmp .ge 14, 3) := by decide +kernel
theorem dX4_product_25 : decode cX4_product 25 = .ok (.aload 5, 2) := by decide +kernel
theorem dX4_product_27 : decode cX4_product 27 = .ok (.getfield 59, 3) := by decide +kernel
theorem dX4_product_30 : decode cX4_product 30 = .ok (.iload 6, 2) := by decide +kernel
theorem dX4_product_32 : decode cX4_product 32 = .ok (.iaload, 1) := by decide +kernel
theorem dX4_product_33 : decode cX4_product 33 = .ok (.goto 4, 3) := by decide +kernel
theorem dX4_product_36 : decode cX4_product 36 = .ok (.iconst 0, 1) := by decide +kernel
theorem dX4_product_37 : decode cX4_product 37 = .ok (.iastore, 1) := by decide +kernel
theorem dX4_product_38 : decode cX4_product 38 = .ok (.iinc 6 1, 3) := by decide +kernel
theorem dX4_product_41 : decode cX4_product 41 = .ok (.goto (-38), 3) := by decide +kernel
theorem dX4_product_44 : decode cX4_product 44 = .ok (.iconst 0, 1) := by decide +kernel
theorem dX4_product_45 : decode cX4_product 45 = .ok (.istore 6, 2) := by decide +kernel
theorem dX4_product_47 : decode cX4_product 47 = .ok (.iload 6, 2) := by decide +kernel
theorem dX4_product_49 : decode cX4_product 49 = .ok (.bipush 8, 2) := by decide +kernel
theorem dX4_product_51 : decode cX4_product 51 = .ok (.if_icmp .ge 157, 3) := by decide +kernel
theorem dX4_product_54 : decode cX4_product 54 = .ok (.aload_n 2, 1) := by decide +kernel
theorem dX4_product_55 : decode cX4_product 55 = .ok (.iload_n 3, 1) := by decide +kernel
theorem dX4_product_56 : decode cX4_product 56 = .ok (.iload 6, 2) := by decide +kernel
theorem dX4_product_58 : decode cX4_product 58 = .ok (.iadd, 1) := by decide +kernel
theorem dX4_product_59 : decode cX4_product 59 = .ok (.iaload, 1) := by decide +kernel
theorem dX4_product_60 : decode cX4_product 60 = .ok (.i2l, 1) := by decide +kernel
theorem dX4_product_61 : decode cX4_product 61 = .ok (.ldc2_w 62, 3) := by decide +kernel
theorem dX4_product_64 : decode cX4_product 64 = .ok (.land, 1) := by decide +kernel
theorem dX4_product_65 : decode cX4_product 65 = .ok (.lstore 7, 2) := by decide +kernel
theorem dX4_product_67 : decode cX4_product 67 = .ok (.lload 7, 2) := by decide +kernel
theorem dX4_product_69 : decode cX4_product 69 = .ok (.lconst 0, 1) := by decide +kernel
theorem dX4_product_70 : decode cX4_product 70 = .ok (.lcmp, 1) := by decide +kernel
theorem dX4_product_71 : decode cX4_product 71 = .ok (.ifCond .ne 6, 3) := by decide +kernel
theorem dX4_product_74 : decode cX4_product 74 = .ok (.goto 128, 3) := by decide +kernel
theorem dX4_product_77 : decode cX4_product 77 = .ok (.lconst 0, 1) := by decide +kernel
theorem dX4_product_78 : decode cX4_product 78 = .ok (.lstore 9, 2) := by decide +kernel
theorem dX4_product_80 : decode cX4_product 80 = .ok (.iconst 0, 1) := by decide +kernel
theorem dX4_product_81 : decode cX4_product 81 = .ok (.istore 11, 2) := by decide +kernel
theorem dX4_product_83 : decode cX4_product 83 = .ok (.iload 11, 2) := by decide +kernel
theorem dX4_product_85 : decode cX4_product 85 = .ok (.bipush 8, 2) := by decide +kernel
theorem dX4_product_87 : decode cX4_product 87 = .ok (.if_icmp .ge 60, 3) := by decide +kernel
theorem dX4_product_90 : decode cX4_product 90 = .ok (.lload 9, 2) := by decide +kernel
theorem dX4_product_92 : decode cX4_product 92 = .ok (.lload 7, 2) := by decide +kernel
theorem dX4_product_94 : decode cX4_product 94 = .ok (.aload 4, 2) := by decide +kernel
theorem dX4_product_96 : decode cX4_product 96 = .ok (.getfield 59, 3) := by decide +kernel
theorem dX4_product_99 : decode cX4_product 99 = .ok (.iload 11, 2) := by decide +kernel
theorem dX4_product_101 : decode cX4_product 101 = .ok (.iaload, 1) := by decide +kernel
theorem dX4_product_102 : decode cX4_product 102 = .ok (.i2l, 1) := by decide +kernel
theorem dX4_product_103 : decode cX4_product 103 = .ok (.ldc2_w 62, 3) := by decide +kernel
theorem dX4_product_106 : decode cX4_product 106 = .ok (.land, 1) := by decide +kernel
theorem dX4_product_107 : decode cX4_product 107 = .ok (.lmul, 1) := by decide +kernel
theorem dX4_product_108 : decode cX4_product 108 = .ok (.aload_n 1, 1) := by decide +kernel
theorem dX4_product_109 : decode cX4_product 109 = .ok (.iload 6, 2) := by decide +kernel
theorem dX4_product_111 : decode cX4_product 111 = .ok (.iload 11, 2) := by decide +kernel
theorem dX4_product_113 : decode cX4_product 113 = .ok (.iadd, 1) := by decide +kernel
theorem dX4_product_114 : decode cX4_product 114 = .ok (.iaload, 1) := by decide +kernel
theorem dX4_product_115 : decode cX4_product 115 = .ok (.i2l, 1) := by decide +kernel
theorem dX4_product_116 : decode cX4_product 116 = .ok (.ldc2_w 62, 3) := by decide +kernel
theorem dX4_product_119 : decode cX4_product 119 = .ok (.land, 1) := by decide +kernel
theorem dX4_product_120 : decode cX4_product 120 = .ok (.ladd, 1) := by decide +kernel
theorem dX4_product_121 : decode cX4_product 121 = .ok (.ladd, 1) := by decide +kernel
theorem dX4_product_122 : decode cX4_product 122 = .ok (.lstore 9, 2) := by decide +kernel
theorem dX4_product_124 : decode cX4_product 124 = .ok (.aload_n 1, 1) := by decide +kernel
theorem dX4_product_125 : decode cX4_product 125 = .ok (.iload 6, 2) := by decide +kernel
theorem dX4_product_127 : decode cX4_product 127 = .ok (.iload 11, 2) := by decide +kernel
theorem dX4_product_129 : decode cX4_product 129 = .ok (.iadd, 1) := by decide +kernel
theorem dX4_product_130 : decode cX4_product 130 = .ok (.lload 9, 2) := by decide +kernel
theorem dX4_product_132 : decode cX4_product 132 = .ok (.l2i, 1) := by decide +kernel
theorem dX4_product_133 : decode cX4_product 133 = .ok (.iastore, 1) := by decide +kernel
theorem dX4_product_134 : decode cX4_product 134 = .ok (.lload 9, 2) := by decide +kernel
theorem dX4_product_136 : decode cX4_product 136 = .ok (.bipush 32, 2) := by decide +kernel
theorem dX4_product_138 : decode cX4_product 138 = .ok (.lushr, 1) := by decide +kernel
theorem dX4_product_139 : decode cX4_product 139 = .ok (.lstore 9, 2) := by decide +kernel
theorem dX4_product_141 : decode cX4_product 141 = .ok (.iinc 11 1, 3) := by decide +kernel
theorem dX4_product_144 : decode cX4_product 144 = .ok (.goto (-61), 3) := by decide +kernel
theorem dX4_product_147 : decode cX4_product 147 = .ok (.iload 6, 2) := by decide +kernel
theorem dX4_product_149 : decode cX4_product 149 = .ok (.bipush 8, 2) := by decide +kernel
theorem dX4_product_151 : decode cX4_product 151 = .ok (.iadd, 1) := by decide +kernel
theorem dX4_product_152 : decode cX4_product 152 = .ok (.istore 11, 2) := by decide +kernel
theorem dX4_product_154 : decode cX4_product 154 = .ok (.iload 11, 2) := by decide +kernel
theorem dX4_product_156 : decode cX4_product 156 = .ok (.bipush 16, 2) := by decide +kernel
theorem dX4_product_158 : decode cX4_product 158 = .ok (.if_icmp .ge 44, 3) := by decide +kernel
theorem dX4_product_161 : decode cX4_product 161 = .ok (.lload 9, 2) := by decide +kernel
theorem dX4_product_163 : decode cX4_product 163 = .ok (.lconst 0, 1) := by decide +kernel
theorem dX4_product_164 : decode cX4_product 164 = .ok (.lcmp, 1) := by decide +kernel
theorem dX4_product_165 : decode cX4_product 165 = .ok (.ifCond .eq 37, 3) := by decide +kernel
theorem dX4_product_168 : decode cX4_product 168 = .ok (.lload 9, 2) := by decide +kernel
theorem dX4_product_170 : decode cX4_product 170 = .ok (.aload_n 1, 1) := by decide +kernel
theorem dX4_product_171 : decode cX4_product 171 = .ok (.iload 11, 2) := by decide +kernel
theorem dX4_product_173 : decode cX4_product 173 = .ok (.iaload, 1) := by decide +kernel
theorem dX4_product_174 : decode cX4_product 174 = .ok (.i2l, 1) := by decide +kernel
theorem dX4_product_175 : decode cX4_product 175 = .ok (.ldc2_w 62, 3) := by decide +kernel
theorem dX4_product_178 : decode cX4_product 178 = .ok (.land, 1) := by decide +kernel
theorem dX4_product_179 : decode cX4_product 179 = .ok (.ladd, 1) := by decide +kernel
theorem dX4_product_180 : decode cX4_product 180 = .ok (.lstore 9, 2) := by decide +kernel
theorem dX4_product_182 : decode cX4_product 182 = .ok (.aload_n 1, 1) := by decide +kernel
theorem dX4_product_183 : decode cX4_product 183 = .ok (.iload 11, 2) := by decide +kernel
theorem dX4_product_185 : decode cX4_product 185 = .ok (.lload 9, 2) := by decide +kernel
theorem dX4_product_187 : decode cX4_product 187 = .ok (.l2i, 1) := by decide +kernel
theorem dX4_product_188 : decode cX4_product 188 = .ok (.iastore, 1) := by decide +kernel
theorem dX4_product_189 : decode cX4_product 189 = .ok (.lload 9, 2) := by decide +kernel
theorem dX4_product_191 : decode cX4_product 191 = .ok (.bipush 32, 2) := by decide +kernel
theorem dX4_product_193 : decode cX4_product 193 = .ok (.lushr, 1) := by decide +kernel
theorem dX4_product_194 : decode cX4_product 194 = .ok (.lstore 9, 2) := by decide +kernel
theorem dX4_product_196 : decode cX4_product 196 = .ok (.iinc 11 1, 3) := by decide +kernel
theorem dX4_product_199 : decode cX4_product 199 = .ok (.goto (-45), 3) := by decide +kernel
theorem dX4_product_202 : decode cX4_product 202 = .ok (.iinc 6 1, 3) := by decide +kernel
theorem dX4_product_205 : decode cX4_product 205 = .ok (.goto (-158), 3) := by decide +kernel
theorem dX4_product_208 : decode cX4_product 208 = .ok (.return_, 1) := by decide +kernel
/-! CoinJudge$Ring.product([I[IILCoinJudge$Big;LCoinJudge$Big;)V -/
set_option maxHeartbeats 4000000 in
theorem sX4_product_0 {G : Gx} {d t : Nat} {h0 : AH} {Φ : Out → AH → Prop} (h : AH) (v0 : Nat) (v1 : Nat) (v2 : Nat) (v3 : Int32) (v4 : Nat) (v5 : Nat) (K : Aw G mX4_product (d + 1) t h0 Φ 3 [vU, vR v1, vR v2, vI v3, vR v4, vR v5, vI 0, vU, vU, vU, vU, vU] [] h) : Aw G mX4_product (d + 1) t h0 Φ 0 [vR v0, vR v1, vR v2, vI v3, vR v4, vR v5, vU, vU, vU, vU, vU, vU] [] h := by
  refine r_iconst (pc := 0) (x := 0) dX4_product_0 rfl ?_
  refine r_istore (pc := 1) (lv' := [_, _, _, _, _, _, _, _, _, _, _, _]) dX4_product_1 (by decide) rfl ?_
  refine r_mask (pc := 3) [false, true, true, true, true, true, true, false, false, false, false, false] rfl ?_
  exact K
theorem eX4_product {G : Gx} {d : Nat} {Φ : Out → AH → Prop} (h : AH) (v0 : Nat) (v1 : Nat) (v2 : Nat) (v3 : Int32) (v4 : Nat) (v5 : Nat) (K : WF G h → Aw G mX4_product (d + 1) 0 h Φ 0 [vR v0, vR v1, vR v2, vI v3, vR v4, vR v5, vU, vU, vU, vU, vU, vU] [] h) : Cw G mX4_product (d + 1) 0 [vR v0, vR v1, vR v2, vI v3, vR v4, vR v5] h Φ := Cw.of rfl K
set_option maxHeartbeats 4000000 in
theorem sX4_product_3 {G : Gx} {d t : Nat} {h0 : AH} {Φ : Out → AH → Prop} (h : AH) (v1 : Nat) (v2 : Nat) (v3 : Int32) (v4 : Nat) (v5 : Nat) (v6 : Int32) (K : ((16 ≤ v6 → Aw G mX4_product (d + 1) t h0 Φ 47 [vU, vR v1, vR v2, vI v3, vR v4, vU, vI 0, vU, vU, vU, vU, vU] [] h) ∧ (¬ 16 ≤ v6 → ((v5 = 0 → h.kd v1 = 100 ∧ vp_in v6 (h.ai v1).length ∧ ∀ h5 : AH, h5 = h.wi v1 ((h.ai v1).set (v6.toNatClampNeg) 0) → Aw G mX4_product (d + 1) t h0 Φ 3 [vU, vR v1, vR v2, vI v3, vR v4, vR v5, vI (v6 + 1), vU, vU, vU, vU, vU] [] h5) ∧ (¬ v5 = 0 → ((8 ≤ v6 → h.kd v1 = 100 ∧ vp_in v6 (h.ai v1).length ∧ ∀ h9 : AH, h9 = h.wi v1 ((h.ai v1).set (v6.toNatClampNeg) 0) → Aw G mX4_product (d + 1) t h0 Φ 3 [vU, vR v1, vR v2, vI v3, vR v4, vR v5, vI (v6 + 1), vU, vU, vU, vU, vU] [] h9) ∧ (¬ 8 ≤ v6 → h.kd v5 = 5 ∧ ∀ r11 : Nat, r11 = (h.r 5000 v5) → h.kd r11 = 100 ∧ vp_in v6 (h.ai r11).length ∧ h.kd v1 = 100 ∧ vp_in v6 (h.ai v1).length ∧ ∀ h16 : AH, h16 = h.wi v1 ((h.ai v1).set (v6.toNatClampNeg) ((h.ai r11).getD (v6.toNatClampNeg) 0)) → Aw G mX4_product (d + 1) t h0 Φ 3 [vU, vR v1, vR v2, vI v3, vR v4, vR v5, vI (v6 + 1), vU, vU, vU, vU, vU] [] h16))))))) : Aw G mX4_product (d + 1) t h0 Φ 3 [vU, vR v1, vR v2, vI v3, vR v4, vR v5, vI v6, vU, vU, vU, vU, vU] [] h := by
  refine r_iload (pc := 3) dX4_product_3 rfl ?_
  refine r_bipush (pc := 5) (x := 16) dX4_product_5 rfl ?_
  refine r_icmp_ge (pc := 7) (tgt := 44) dX4_product_7 rfl (fun c1 => ?_) (fun c1 => ?_)
  · have K := K.1 c1
    refine r_iconst (pc := 44) (x := 0) dX4_product_44 rfl ?_
    refine r_istore (pc := 45) (lv' := [_, _, _, _, _, _, _, _, _, _, _, _]) dX4_product_45 (by decide) rfl ?_
    refine r_mask (pc := 47) [false, true, true, true, true, false, true, false, false, false, false, false] rfl ?_
    exact K
  · have K := K.2 c1
    refine r_aload_n (pc := 10) dX4_product_10 rfl ?_
    refine r_iload (pc := 11) dX4_product_11 rfl ?_
    refine r_aload (pc := 13) dX4_product_13 rfl ?_
    refine r_ifnull (pc := 15) (tgt := 36) dX4_product_15 rfl (fun c2 => ?_) (fun c2 => ?_)
    · have K := K.1 c2
      refine r_iconst (pc := 36) (x := 0) dX4_product_36 rfl ?_
      obtain ⟨hk3, K⟩ := K
      obtain ⟨hi4, K⟩ := K
      refine r_iastore (pc := 37) hk3 hi4 (Or.inl (em rfl)) dX4_product_37 ?_
      refine r_nameH (fun h5 eh5 => ?_)
      have K := K h5 eh5
      refine r_iinc (pc := 38) (lv' := [_, _, _, _, _, _, _, _, _, _, _, _]) dX4_product_38 rfl rfl (by decide) rfl ?_
      refine r_goto (pc := 41) (tgt := 3) dX4_product_41 rfl ?_
      refine r_mask (pc := 3) [false, true, true, true, true, true, true, false, false, false, false, false] rfl ?_
      exact K
    · have K := K.2 c2
      refine r_iload (pc := 18) dX4_product_18 rfl ?_
      refine r_bipush (pc := 20) (x := 8) dX4_product_20 rfl ?_
      refine r_icmp_ge (pc := 22) (tgt := 36) dX4_product_22 rfl (fun c6 => ?_) (fun c6 => ?_)
      · have K := K.1 c6
        refine r_iconst (pc := 36) (x := 0) dX4_product_36 rfl ?_
        obtain ⟨hk7, K⟩ := K
        obtain ⟨hi8, K⟩ := K
        refine r_iastore (pc := 37) hk7 hi8 (Or.inl (em rfl)) dX4_product_37 ?_
        refine r_nameH (fun h9 eh9 => ?_)
        have K := K h9 eh9
        refine r_iinc (pc := 38) (lv' := [_, _, _, _, _, _, _, _, _, _, _, _]) dX4_product_38 rfl rfl (by decide) rfl ?_
        refine r_goto (pc := 41) (tgt := 3) dX4_product_41 rfl ?_
        refine r_mask (pc := 3) [false, true, true, true, true, true, true, false, false, false, false, false] rfl ?_
        exact K
      · have K := K.2 c6
        refine r_aload (pc := 25) dX4_product_25 rfl ?_
        obtain ⟨hk10, K⟩ := K
        have K := K _ rfl
        refine r_getr' (pc := 27) (T := TX5) 5 0 rfl hk10 (Or.inr (Or.inl ⟨_, q301⟩)) dX4_product_27 kc5 g5000 ?_
        refine r_iload (pc := 30) dX4_product_30 rfl ?_
        obtain ⟨hk12, K⟩ := K
        obtain ⟨hi13, K⟩ := K
        refine r_iaload (pc := 32) hk12 hi13 dX4_product_32 ?_
        refine r_goto (pc := 33) (tgt := 37) dX4_product_33 rfl ?_
        obtain ⟨hk14, K⟩ := K
        obtain ⟨hi15, K⟩ := K
        refine r_iastore (pc := 37) hk14 hi15 (Or.inl (em rfl)) dX4_product_37 ?_
        refine r_nameH (fun h16 eh16 => ?_)
        have K := K h16 eh16
        refine r_iinc (pc := 38) (lv' := [_, _, _, _, _, _, _, _, _, _, _, _]) dX4_product_38 rfl rfl (by decide) rfl ?_
        refine r_goto (pc := 41) (tgt := 3) dX4_product_41 rfl ?_
        refine r_mask (pc := 3) [false, true, true, true, true, true, true, false, false, false, false, false] rfl ?_
        exact K
set_option maxHeartbeats 4000000 in
theorem sX4_product_47 {G : Gx} {d t : Nat} {h0 : AH} {Φ : Out → AH → Prop} (h : AH) (v1 : Nat) (v2 : Nat) (v3 : Int32) (v4 : Nat) (v6 : Int32) (K : ((8 ≤ v6 → Φ (.inl none) h) ∧ (¬ 8 ≤ v6 → h.kd v2 = 100 ∧ vp_in (v3 + v6) (h.ai v2).length ∧ ∀ u4 : Int64, u4 = (((h.ai v2).getD ((v3 + v6).toNatClampNeg) 0).toInt64 &&& 4294967295) → ((¬ u4 = 0 → Aw G mX4_product (d + 1) t h0 Φ 83 [vU, vR v1, vR v2, vI v3, vR v4, vU, vI v6, vJ u4, vU, vJ 0, vU, vI 0] [] h) ∧ (u4 = 0 → Aw G mX4_product (d + 1) t h0 Φ 47 [vU, vR v1, vR v2, vI v3, vR v4, vU, vI (v6 + 1), vU, vU, vU, vU, vU] [] h))))) : Aw G mX4_product (d + 1) t h0 Φ 47 [vU, vR v1, vR v2, vI v3, vR v4, vU, vI v6, vU, vU, vU, vU, vU] [] h := by
  refine r_iload (pc := 47) dX4_product_47 rfl ?_
  refine r_bipush (pc := 49) (x := 8) dX4_product_49 rfl ?_
  refine r_icmp_ge (pc := 51) (tgt := 208) dX4_product_51 rfl (fun c1 => ?_) (fun c1 => ?_)
  · have K := K.1 c1
    exact r_vret (pc := 208) rfl dX4_product_208 K
  · have K := K.2 c1
    refine r_aload_n (pc := 54) dX4_product_54 rfl ?_
    refine r_iload_n (pc := 55) dX4_product_55 rfl ?_
    refine r_iload (pc := 56) dX4_product_56 rfl ?_
    refine r_iadd (pc := 58) dX4_product_58 ?_
    obtain ⟨hk2, K⟩ := K
    obtain ⟨hi3, K⟩ := K
    refine r_iaload (pc := 59) hk2 hi3 dX4_product_59 ?_
    refine r_i2l (pc := 60) dX4_product_60 ?_
    refine r_ldc2 (pc := 61) dX4_product_61 q1407 ?_
    refine r_land (pc := 64) dX4_product_64 ?_
    have K := K _ rfl
    refine r_lstore (pc := 65) (lv' := [_, _, _, _, _, _, _, _, _, _, _, _]) dX4_product_65 (by decide) rfl ?_
    refine r_lload (pc := 67) dX4_product_67 rfl ?_
    refine r_lconst (pc := 69) (a := 0) dX4_product_69 rfl ?_
    refine r_lcmp_ne (pc := 70) (tgt := 77) dX4_product_70 dX4_product_71 rfl (fun c5 => ?_) (fun c5 => ?_)
    · have K := K.1 c5
      refine r_lconst (pc := 77) (a := 0) dX4_product_77 rfl ?_
      refine r_lstore (pc := 78) (lv' := [_, _, _, _, _, _, _, _, _, _, _, _]) dX4_product_78 (by decide) rfl ?_
      refine r_iconst (pc := 80) (x := 0) dX4_product_80 rfl ?_
      refine r_istore (pc := 81) (lv' := [_, _, _, _, _, _, _, _, _, _, _, _]) dX4_product_81 (by decide) rfl ?_
      refine r_mask (pc := 83) [false, true, true, true, true, false, true, true, false, true, false, true] rfl ?_
      exact K
    · have K := K.2 c5
      refine r_goto (pc := 74) (tgt := 202) dX4_product_74 rfl ?_
      refine r_iinc (pc := 202) (lv' := [_, _, _, _, _, _, _, _, _, _, _, _]) dX4_product_202 rfl rfl (by decide) rfl ?_
      refine r_goto (pc := 205) (tgt := 47) dX4_product_205 rfl ?_
      refine r_mask (pc := 47) [false, true, true, true, true, false, true, false, false, false, false, false] rfl ?_
      exact K
set_option maxHeartbeats 4000000 in
theorem sX4_product_83 {G : Gx} {d t : Nat} {h0 : AH} {Φ : Out → AH → Prop} (h : AH) (v1 : Nat) (v2 : Nat) (v3 : Int32) (v4 : Nat) (v6 : Int32) (v7 : Int64) (v9 : Int64) (v11 : Int32) (K : ((8 ≤ v11 → Aw G mX4_product (d + 1) t h0 Φ 154 [vU, vR v1, vR v2, vI v3, vR v4, vU, vI v6, vU, vU, vJ v9, vU, vI (v6 + 8)] [] h) ∧ (¬ 8 ≤ v11 → h.kd v4 = 5 ∧ ∀ r3 : Nat, r3 = (h.r 5000 v4) → h.kd r3 = 100 ∧ vp_in v11 (h.ai r3).length ∧ h.kd v1 = 100 ∧ vp_in (v6 + v11) (h.ai v1).length ∧ ∀ u8 : Int64, u8 = (v9 + ((v7 * (((h.ai r3).getD (v11.toNatClampNeg) 0).toInt64 &&& 4294967295)) + (((h.ai v1).getD ((v6 + v11).toNatClampNeg) 0).toInt64 &&& 4294967295))) → vp_in (v6 + v11) (h.ai v1).length ∧ ∀ h10 : AH, h10 = h.wi v1 ((h.ai v1).set ((v6 + v11).toNatClampNeg) u8.toInt32) → Aw G mX4_product (d + 1) t h0 Φ 83 [vU, vR v1, vR v2, vI v3, vR v4, vU, vI v6, vJ v7, vU, vJ (Jushr u8 32), vU, vI (v11 + 1)] [] h10))) : Aw G mX4_product (d + 1) t h0 Φ 83 [vU, vR v1, vR v2, vI v3, vR v4, vU, vI v6, vJ v7, vU, vJ v9, vU, vI v11] [] h := by
  refine r_iload (pc := 83) dX4_product_83 rfl ?_
  refine r_bipush (pc := 85) (x := 8) dX4_product_85 rfl ?_
  refine r_icmp_ge (pc := 87) (tgt := 147) dX4_product_87 rfl (fun c1 => ?_) (fun c1 => ?_)
  · have K := K.1 c1
    refine r_iload (pc := 147) dX4_product_147 rfl ?_
    refine r_bipush (pc := 149) (x := 8) dX4_product_149 rfl ?_
    refine r_iadd (pc := 151) dX4_product_151 ?_
    refine r_istore (pc := 152) (lv' := [_, _, _, _, _, _, _, _, _, _, _, _]) dX4_product_152 (by decide) rfl ?_
    refine r_mask (pc := 154) [false, true, true, true, true, false, true, false, false, true, false, true] rfl ?_
    exact K
  · have K := K.2 c1
    refine r_lload (pc := 90) dX4_product_90 rfl ?_
    refine r_lload (pc := 92) dX4_product_92 rfl ?_
    refine r_aload (pc := 94) dX4_product_94 rfl ?_
    obtain ⟨hk2, K⟩ := K
    have K := K _ rfl
    refine r_getr' (pc := 96) (T := TX5) 5 0 rfl hk2 (Or.inr (Or.inl ⟨_, q301⟩)) dX4_product_96 kc5 g5000 ?_
    refine r_iload (pc := 99) dX4_product_99 rfl ?_
    obtain ⟨hk4, K⟩ := K
    obtain ⟨hi5, K⟩ := K
    refine r_iaload (pc := 101) hk4 hi5 dX4_product_101 ?_
    refine r_i2l (pc := 102) dX4_product_102 ?_
    refine r_ldc2 (pc := 103) dX4_product_103 q1407 ?_
    refine r_land (pc := 106) dX4_product_106 ?_
    refine r_lmul (pc := 107) dX4_product_107 ?_
    refine r_aload_n (pc := 108) dX4_product_108 rfl ?_
    refine r_iload (pc := 109) dX4_product_109 rfl ?_
    refine r_iload (pc := 111) dX4_product_111 rfl ?_
    refine r_iadd (pc := 113) dX4_product_113 ?_
    obtain ⟨hk6, K⟩ := K
    obtain ⟨hi7, K⟩ := K
    refine r_iaload (pc := 114) hk6 hi7 dX4_product_114 ?_
    refine r_i2l (pc := 115) dX4_product_115 ?_
    refine r_ldc2 (pc := 116) dX4_product_116 q1407 ?_
    refine r_land (pc := 119) dX4_product_119 ?_
    refine r_ladd (pc := 120) dX4_product_120 ?_
    refine r_ladd (pc := 121) dX4_product_121 ?_
    have K := K _ rfl
    refine r_lstore (pc := 122) (lv' := [_, _, _, _, _, _, _, _, _, _, _, _]) dX4_product_122 (by decide) rfl ?_
    refine r_aload_n (pc := 124) dX4_product_124 rfl ?_
    refine r_iload (pc := 125) dX4_product_125 rfl ?_
    refine r_iload (pc := 127) dX4_product_127 rfl ?_
    refine r_iadd (pc := 129) dX4_product_129 ?_
    refine r_lload (pc := 130) dX4_product_130 rfl ?_
    refine r_l2i (pc := 132) dX4_product_132 ?_
    obtain ⟨hi9, K⟩ := K
    refine r_iastore (pc := 133) hk6 hi9 (Or.inl (em rfl)) dX4_product_133 ?_
    refine r_nameH (fun h10 eh10 => ?_)
    have K := K h10 eh10
    refine r_lload (pc := 134) dX4_product_134 rfl ?_
    refine r_bipush (pc := 136) (x := 32) dX4_product_136 rfl ?_
    refine r_Jushr (pc := 138) dX4_product_138 ?_
    refine r_lstore (pc := 139) (lv' := [_, _, _, _, _, _, _, _, _, _, _, _]) dX4_product_139 (by decide) rfl ?_
    refine r_iinc (pc := 141) (lv' := [_, _, _, _, _, _, _, _, _, _, _, _]) dX4_product_141 rfl rfl (by decide) rfl ?_
    refine r_goto (pc := 144) (tgt := 83) dX4_product_144 rfl ?_
    refine r_mask (pc := 83) [false, true, true, true, true, false, true, true, false, true, false, true] rfl ?_
    exact K
set_option maxHeartbeats 4000000 in
theorem sX4_product_154 {G : Gx} {d t : Nat} {h0 : AH} {Φ : Out → AH → Prop} (h : AH) (v1 : Nat) (v2 : Nat) (v3 : Int32) (v4 : Nat) (v6 : Int32) (v9 : Int64) (v11 : Int32) (K : ((16 ≤ v11 → Aw G mX4_product (d + 1) t h0 Φ 47 [vU, vR v1, vR v2, vI v3, vR v4, vU, vI (v6 + 1), vU, vU, vU, vU, vU] [] h) ∧ (¬ 16 ≤ v11 → ((v9 = 0 → Aw G mX4_product (d + 1) t h0 Φ 47 [vU, vR v1, vR v2, vI v3, vR v4, vU, vI (v6 + 1), vU, vU, vU, vU, vU] [] h) ∧ (¬ v9 = 0 → h.kd v1 = 100 ∧ vp_in v11 (h.ai v1).length ∧ ∀ u5 : Int64, u5 = (v9 + (((h.ai v1).getD (v11.toNatClampNeg) 0).toInt64 &&& 4294967295)) → vp_in v11 (h.ai v1).length ∧ ∀ h7 : AH, h7 = h.wi v1 ((h.ai v1).set (v11.toNatClampNeg) u5.toInt32) → Aw G mX4_product (d + 1) t h0 Φ 154 [vU, vR v1, vR v2, vI v3, vR v4, vU, vI v6, vU, vU, vJ (Jushr u5 32), vU, vI (v11 + 1)] [] h7))))) : Aw G mX4_product (d + 1) t h0 Φ 154 [vU, vR v1, vR v2, vI v3, vR v4, vU, vI v6, vU, vU, vJ v9, vU, vI v11] [] h := by
  refine r_iload (pc := 154) dX4_product_154 rfl ?_
  refine r_bipush (pc := 156) (x := 16) dX4_product_156 rfl ?_
  refine r_icmp_ge (pc := 158) (tgt := 202) dX4_product_158 rfl (fun c1 => ?_) (fun c1 => ?_)
  · have K := K.1 c1
    refine r_iinc (pc := 202) (lv' := [_, _, _, _, _, _, _, _, _, _, _, _]) dX4_product_202 rfl rfl (by decide) rfl ?_
    refine r_goto (pc := 205) (tgt := 47) dX4_product_205 rfl ?_
    refine r_mask (pc := 47) [false, true, true, true, true, false, true, false, false, false, false, false] rfl ?_
    exact K
  · have K := K.2 c1
    refine r_lload (pc := 161) dX4_product_161 rfl ?_
    refine r_lconst (pc := 163) (a := 0) dX4_product_163 rfl ?_
    refine r_lcmp_eq (pc := 164) (tgt := 202) dX4_product_164 dX4_product_165 rfl (fun c2 => ?_) (fun c2 => ?_)
    · have K := K.1 c2
      refine r_iinc (pc := 202) (lv' := [_, _, _, _, _, _, _, _, _, _, _, _]) dX4_product_202 rfl rfl (by decide) rfl ?_
      refine r_goto (pc := 205) (tgt := 47) dX4_product_205 rfl ?_
      refine r_mask (pc := 47) [false, true, true, true, true, false, true, false, false, false, false, false] rfl ?_
      exact K
    · have K := K.2 c2
      refine r_lload (pc := 168) dX4_product_168 rfl ?_
      refine r_aload_n (pc := 170) dX4_product_170 rfl ?_
      refine r_iload (pc := 171) dX4_product_171 rfl ?_
      obtain ⟨hk3, K⟩ := K
      obtain ⟨hi4, K⟩ := K
      refine r_iaload (pc := 173) hk3 hi4 dX4_product_173 ?_
      refine r_i2l (pc := 174) dX4_product_174 ?_
      refine r_ldc2 (pc := 175) dX4_product_175 q1407 ?_
      refine r_land (pc := 178) dX4_product_178 ?_
      refine r_ladd (pc := 179) dX4_product_179 ?_
      have K := K _ rfl
      refine r_lstore (pc := 180) (lv' := [_, _, _, _, _, _, _, _, _, _, _, _]) dX4_product_180 (by decide) rfl ?_
      refine r_aload_n (pc := 182) dX4_product_182 rfl ?_
      refine r_iload (pc := 183) dX4_product_183 rfl ?_
      refine r_lload (pc := 185) dX4_product_185 rfl ?_
      refine r_l2i (pc := 187) dX4_product_187 ?_
      obtain ⟨hi6, K⟩ := K
      refine r_iastore (pc := 188) hk3 hi6 (Or.inl (em rfl)) dX4_product_188 ?_
      refine r_nameH (fun h7 eh7 => ?_)
      have K := K h7 eh7
      refine r_lload (pc := 189) dX4_product_189 rfl ?_
      refine r_bipush (pc := 191) (x := 32) dX4_product_191 rfl ?_
      refine r_Jushr (pc := 193) dX4_product_193 ?_
      refine r_lstore (pc := 194) (lv' := [_, _, _, _, _, _, _, _, _, _, _, _]) dX4_product_194 (by decide) rfl ?_
      refine r_iinc (pc := 196) (lv' := [_, _, _, _, _, _, _, _, _, _, _, _]) dX4_product_196 rfl rfl (by decide) rfl ?_
      refine r_goto (pc := 199) (tgt := 154) dX4_product_199 rfl ?_
      refine r_mask (pc := 154) [false, true, true, true, true, false, true, false, false, true, false, true] rfl ?_
      exact K
theorem dX4_multiply_0 : decode cX4_multiply 0 = .ok (.aload_n 0, 1) := by decide +kernel
theorem dX4_multiply_1 : decode cX4_multiply 1 = .ok (.aload_n 0, 1) := by decide +kernel
theorem dX4_multiply_2 : decode cX4_multiply 2 = .ok (.getfield 18, 3) := by decide +kernel
theorem dX4_multiply_5 : decode cX4_multiply 5 = .ok (.aload_n 2, 1) := by decide +kernel
theorem dX4_multiply_6 : decode cX4_multiply 6 = .ok (.getfield 59, 3) := by decide +kernel
theorem dX4_multiply_9 : decode cX4_multiply 9 = .ok (.iconst 0, 1) := by decide +kernel
theorem dX4_multiply_10 : decode cX4_multiply 10 = .ok (.aload_n 3, 1) := by decide +kernel
theorem dX4_multiply_11 : decode cX4_multiply 11 = .ok (.aconst_null, 1) := by decide +kernel
theorem dX4_multiply_12 : decode cX4_multiply 12 = .ok (.invokevirtual 64, 3) := by decide +kernel
theorem dX4_multiply_15 : decode cX4_multiply 15 = .ok (.aload_n 0, 1) := by decide +kernel
theorem dX4_multiply_16 : decode cX4_multiply 16 = .ok (.invokevirtual 68, 3) := by decide +kernel
theorem dX4_multiply_19 : decode cX4_multiply 19 = .ok (.ifCond .eq 91, 3) := by decide +kernel
theorem dX4_multiply_22 : decode cX4_multiply 22 = .ok (.iconst 0, 1) := by decide +kernel
theorem dX4_multiply_23 : decode cX4_multiply 23 = .ok (.istore 4, 2) := by decide +kernel
theorem dX4_multiply_25 : decode cX4_multiply 25 = .ok (.iload 4, 2) := by decide +kernel
theorem dX4_multiply_27 : decode cX4_multiply 27 = .ok (.bipush 8, 2) := by decide +kernel
theorem dX4_multiply_29 : decode cX4_multiply 29 = .ok (.if_icmp .ge 26, 3) := by decide +kernel
theorem dX4_multiply_32 : decode cX4_multiply 32 = .ok (.aload_n 0, 1) := by decide +kernel
theorem dX4_multiply_33 : decode cX4_multiply 33 = .ok (.getfield 31, 3) := by decide +kernel
theorem dX4_multiply_36 : decode cX4_multiply 36 = .ok (.getfield 59, 3) := by decide +kernel
theorem dX4_multiply_39 : decode cX4_multiply 39 = .ok (.iload 4, 2) := by decide +kernel
theorem dX4_multiply_41 : decode cX4_multiply 41 = .ok (.aload_n 0, 1) := by decide +kernel
theorem dX4_multiply_42 : decode cX4_multiply 42 = .ok (.getfield 18, 3) := by decide +kernel
theorem dX4_multiply_45 : decode cX4_multiply 45 = .ok (.iload 4, 2) := by decide +kernel
theorem dX4_multiply_47 : decode cX4_multiply 47 = .ok (.iaload, 1) := by decide +kernel
theorem dX4_multiply_48 : decode cX4_multiply 48 = .ok (.iastore, 1) := by decide +kernel
theorem dX4_multiply_49 : decode cX4_multiply 49 = .ok (.iinc 4 1, 3) := by decide +kernel
theorem dX4_multiply_52 : decode cX4_multiply 52 = .ok (.goto (-27), 3) := by decide +kernel
theorem dX4_multiply_55 : decode cX4_multiply 55 = .ok (.aload_n 0, 1) := by decide +kernel
theorem dX4_multiply_56 : decode cX4_multiply 56 = .ok (.aload_n 0, 1) := by decide +kernel
theorem dX4_multiply_57 : decode cX4_multiply 57 = .ok (.getfield 22, 3) := by decide +kernel
theorem dX4_multiply_60 : decode cX4_multiply 60 = .ok (.aload_n 0, 1) := by decide +kernel
theorem dX4_multiply_61 : decode cX4_multiply 61 = .ok (.getfield 18, 3) := by decide +kernel
theorem dX4_multiply_64 : decode cX4_multiply 64 = .ok (.bipush 8, 2) := by decide +kernel
theorem dX4_multiply_66 : decode cX4_multiply 66 = .ok (.aload_n 0, 1) := by decide +kernel
theorem dX4_multiply_67 : decode cX4_multiply 67 = .ok (.getfield 12, 3) := by decide +kernel
theorem dX4_multiply_70 : decode cX4_multiply 70 = .ok (.aload_n 0, 1) := by decide +kernel
theorem dX4_multiply_71 : decode cX4_multiply 71 = .ok (.getfield 31, 3) := by decide +kernel
theorem dX4_multiply_74 : decode cX4_multiply 74 = .ok (.invokevirtual 64, 3) := by decide +kernel
theorem dX4_multiply_77 : decode cX4_multiply 77 = .ok (.iconst 0, 1) := by decide +kernel
theorem dX4_multiply_78 : decode cX4_multiply 78 = .ok (.istore 4, 2) := by decide +kernel
theorem dX4_multiply_80 : decode cX4_multiply 80 = .ok (.iload 4, 2) := by decide +kernel
theorem dX4_multiply_82 : decode cX4_multiply 82 = .ok (.bipush 16, 2) := by decide +kernel
theorem dX4_multiply_84 : decode cX4_multiply 84 = .ok (.if_icmp .ge 23, 3) := by decide +kernel
theorem dX4_multiply_87 : decode cX4_multiply 87 = .ok (.aload_n 0, 1) := by decide +kernel
theorem dX4_multiply_88 : decode cX4_multiply 88 = .ok (.getfield 18, 3) := by decide +kernel
theorem dX4_multiply_91 : decode cX4_multiply 91 = .ok (.iload 4, 2) := by decide +kernel
theorem dX4_multiply_93 : decode cX4_multiply 93 = .ok (.aload_n 0, 1) := by decide +kernel
theorem dX4_multiply_94 : decode cX4_multiply 94 = .ok (.getfield 22, 3) := by decide +kernel
theorem dX4_multiply_97 : decode cX4_multiply 97 = .ok (.iload 4, 2) := by decide +kernel
theorem dX4_multiply_99 : decode cX4_multiply 99 = .ok (.iaload, 1) := by decide +kernel
theorem dX4_multiply_100 : decode cX4_multiply 100 = .ok (.iastore, 1) := by decide +kernel
theorem dX4_multiply_101 : decode cX4_multiply 101 = .ok (.iinc 4 1, 3) := by decide +kernel
theorem dX4_multiply_104 : decode cX4_multiply 104 = .ok (.goto (-24), 3) := by decide +kernel
theorem dX4_multiply_107 : decode cX4_multiply 107 = .ok (.goto (-92), 3) := by decide +kernel
theorem dX4_multiply_110 : decode cX4_multiply 110 = .ok (.iconst 0, 1) := by decide +kernel
theorem dX4_multiply_111 : decode cX4_multiply 111 = .ok (.istore 4, 2) := by decide +kernel
theorem dX4_multiply_113 : decode cX4_multiply 113 = .ok (.iload 4, 2) := by decide +kernel
theorem dX4_multiply_115 : decode cX4_multiply 115 = .ok (.bipush 8, 2) := by decide +kernel
theorem dX4_multiply_117 : decode cX4_multiply 117 = .ok (.if_icmp .ge 23, 3) := by decide +kernel
theorem dX4_multiply_120 : decode cX4_multiply 120 = .ok (.aload_n 1, 1) := by decide +kernel
theorem dX4_multiply_121 : decode cX4_multiply 121 = .ok (.getfield 59, 3) := by decide +kernel
theorem dX4_multiply_124 : decode cX4_multiply 124 = .ok (.iload 4, 2) := by decide +kernel
theorem dX4_multiply_126 : decode cX4_multiply 126 = .ok (.aload_n 0, 1) := by decide +kernel
theorem dX4_multiply_127 : decode cX4_multiply 127 = .ok (.getfield 18, 3) := by decide +kernel
theorem dX4_multiply_130 : decode cX4_multiply 130 = .ok (.iload 4, 2) := by decide +kernel
theorem dX4_multiply_132 : decode cX4_multiply 132 = .ok (.iaload, 1) := by decide +kernel
theorem dX4_multiply_133 : decode cX4_multiply 133 = .ok (.iastore, 1) := by decide +kernel
theorem dX4_multiply_134 : decode cX4_multiply 134 = .ok (.iinc 4 1, 3) := by decide +kernel
theorem dX4_multiply_137 : decode cX4_multiply 137 = .ok (.goto (-24), 3) := by decide +kernel
theorem dX4_multiply_140 : decode cX4_multiply 140 = .ok (.aload_n 1, 1) := by decide +kernel
theorem dX4_multiply_141 : decode cX4_multiply 141 = .ok (.aload_n 0, 1) := by decide +kernel
theorem dX4_multiply_142 : decode cX4_multiply 142 = .ok (.getfield 40, 3) := by decide +kernel
theorem dX4_multiply_145 : decode cX4_multiply 145 = .ok (.invokevirtual 55, 3) := by decide +kernel
theorem dX4_multiply_148 : decode cX4_multiply 148 = .ok (.ifCond .lt 16, 3) := by decide +kernel
theorem dX4_multiply_151 : decode cX4_multiply 151 = .ok (.aload_n 1, 1) := by decide +kernel
theorem dX4_multiply_152 : decode cX4_multiply 152 = .ok (.aload_n 1, 1) := by decide +kernel
theorem dX4_multiply_153 : decode cX4_multiply 153 = .ok (.aload_n 0, 1) := by decide +kernel
theorem dX4_multiply_154 : decode cX4_multiply 154 = .ok (.getfield 40, 3) := by decide +kernel
theorem dX4_multiply_157 : decode cX4_multiply 157 = .ok (.invokevirtual 47, 3) := by decide +kernel
theorem dX4_multiply_160 : decode cX4_multiply 160 = .ok (.pop, 1) := by decide +kernel
theorem dX4_multiply_161 : decode cX4_multiply 161 = .ok (.goto (-21), 3) := by decide +kernel
theorem dX4_multiply_164 : decode cX4_multiply 164 = .ok (.return_, 1) := by decide +kernel
/-! CoinJudge$Ring.multiply(LCoinJudge$Big;LCoinJudge$Big;LCoinJudge$Big;)V -/
set_option maxHeartbeats 4000000 in
theorem sX4_multiply_0 {G : Gx} {d t : Nat} {h0 : AH} {Φ : Out → AH → Prop} (h : AH) (v0 : Nat) (v1 : Nat) (v2 : Nat) (v3 : Nat) (K : h.kd v0 = 4 ∧ ∀ r2 : Nat, r2 = (h.r 4002 v0) → h.kd v2 = 5 ∧ ∀ r4 : Nat, r4 = (h.r 5000 v2) → Cw G mX4_product d 0 [vR v0, vR r2, vR r4, vI 0, vR v3, vR 0] h (kV (fun h6 => Aw G mX4_multiply (d + 1) t h0 Φ 15 [vR v0, vR v1, vU, vU, vU] [] h6) (fun x h => Φ (.inr x) h))) : Aw G mX4_multiply (d + 1) t h0 Φ 0 [vR v0, vR v1, vR v2, vR v3, vU] [] h := by
  refine r_aload_n (pc := 0) dX4_multiply_0 rfl ?_
  refine r_aload_n (pc := 1) dX4_multiply_1 rfl ?_
  obtain ⟨hk1, K⟩ := K
  have K := K _ rfl
  refine r_getr' (pc := 2) (T := TX4) 4 2 rfl hk1 (Or.inl q381) dX4_multiply_2 kc4 g4002 ?_
  refine r_aload_n (pc := 5) dX4_multiply_5 rfl ?_
  obtain ⟨hk3, K⟩ := K
  have K := K _ rfl
  refine r_getr' (pc := 6) (T := TX5) 5 0 rfl hk3 (Or.inr (Or.inl ⟨_, q301⟩)) dX4_multiply_6 kc5 g5000 ?_
  refine r_iconst (pc := 9) (x := 0) dX4_multiply_9 rfl ?_
  refine r_aload_n (pc := 10) dX4_multiply_10 rfl ?_
  refine r_null (pc := 11) dX4_multiply_11 ?_
  refine r_callV_V (pc := 12) (Y := mX4_product) (vs := [_, _, _, _, _]) (st := []) hk1 rfl kc4 q1403 q1405 qs27 dX4_multiply_12 rfl cd_X4_product rfl rfl fp_X4_multiply_X4_product K (fun h6 eh6 wh6 K => ?_) (fun x h1 _ _ e => Tw.out rfl e)
  refine r_mask (pc := 15) [true, true, false, false, false] rfl ?_
  exact K
theorem eX4_multiply {G : Gx} {d : Nat} {Φ : Out → AH → Prop} (h : AH) (v0 : Nat) (v1 : Nat) (v2 : Nat) (v3 : Nat) (K : WF G h → Aw G mX4_multiply (d + 1) 0 h Φ 0 [vR v0, vR v1, vR v2, vR v3, vU] [] h) : Cw G mX4_multiply (d + 1) 0 [vR v0, vR v1, vR v2, vR v3] h Φ := Cw.of rfl K
set_option maxHeartbeats 4000000 in
theorem sX4_multiply_15 {G : Gx} {d t : Nat} {h0 : AH} {Φ : Out → AH → Prop} (h : AH) (v0 : Nat) (v1 : Nat) (K : h.kd v0 = 4 ∧ Cw G mX4_high d 0 [vR v0] h (kI (fun x1 h2 => ((x1 = 0 → Aw G mX4_multiply (d + 1) t h0 Φ 113 [vR v0, vR v1, vU, vU, vI 0] [] h2) ∧ (¬ x1 = 0 → Aw G mX4_multiply (d + 1) t h0 Φ 25 [vR v0, vR v1, vU, vU, vI 0] [] h2))) (fun x h => Φ (.inr x) h))) : Aw G mX4_multiply (d + 1) t h0 Φ 15 [vR v0, vR v1, vU, vU, vU] [] h := by
  refine r_aload_n (pc := 15) dX4_multiply_15 rfl ?_
  obtain ⟨hk3, K⟩ := K
  refine r_callV_I (pc := 16) (Y := mX4_high) (vs := []) (st := []) hk3 rfl kc4 q1408 q1410 qs28 dX4_multiply_16 rfl cd_X4_high rfl rfl fp_X4_multiply_X4_high K (fun x1 h2 eh2 wh2 K => ?_) (fun x h1 _ _ e => Tw.out rfl e)
  refine r_if_eq (pc := 19) (tgt := 110) dX4_multiply_19 rfl (fun c4 => ?_) (fun c4 => ?_)
  · have K := K.1 c4
    refine r_iconst (pc := 110) (x := 0) dX4_multiply_110 rfl ?_
    refine r_istore (pc := 111) (lv' := [_, _, _, _, _]) dX4_multiply_111 (by decide) rfl ?_
    refine r_mask (pc := 113) [true, true, false, false, true] rfl ?_
    exact K
  · have K := K.2 c4
    refine r_iconst (pc := 22) (x := 0) dX4_multiply_22 rfl ?_
    refine r_istore (pc := 23) (lv' := [_, _, _, _, _]) dX4_multiply_23 (by decide) rfl ?_
    refine r_mask (pc := 25) [true, true, false, false, true] rfl ?_
    exact K
set_option maxHeartbeats 4000000 in
theorem sX4_multiply_25 {G : Gx} {d t : Nat} {h0 : AH} {Φ : Out → AH → Prop} (h : AH) (v0 : Nat) (v1 : Nat) (v4 : Int32) (K : ((8 ≤ v4 → h.kd v0 = 4 ∧ ∀ r3 : Nat, r3 = (h.r 4003 v0) → ∀ r4 : Nat, r4 = (h.r 4002 v0) → ∀ r5 : Nat, r5 = (h.r 4001 v0) → ∀ r6 : Nat, r6 = (h.r 4006 v0) → Cw G mX4_product d 0 [vR v0, vR r3, vR r4, vI 8, vR r5, vR r6] h (kV (fun h8 => Aw G mX4_multiply (d + 1) t h0 Φ 80 [vR v0, vR v1, vU, vU, vI 0] [] h8) (fun x h => Φ (.inr x) h))) ∧ (¬ 8 ≤ v4 → h.kd v0 = 4 ∧ ∀ r10 : Nat, r10 = (h.r 4006 v0) → h.kd r10 = 5 ∧ ∀ r12 : Nat, r12 = (h.r 5000 r10) → ∀ r13 : Nat, r13 = (h.r 4002 v0) → h.kd r13 = 100 ∧ vp_in v4 (h.ai r13).length ∧ h.kd r12 = 100 ∧ vp_in v4 (h.ai r12).length ∧ ∀ h18 : AH, h18 = h.wi r12 ((h.ai r12).set (v4.toNatClampNeg) ((h.ai r13).getD (v4.toNatClampNeg) 0)) → Aw G mX4_multiply (d + 1) t h0 Φ 25 [vR v0, vR v1, vU, vU, vI (v4 + 1)] [] h18))) : Aw G mX4_multiply (d + 1) t h0 Φ 25 [vR v0, vR v1, vU, vU, vI v4] [] h := by
  refine r_iload (pc := 25) dX4_multiply_25 rfl ?_
  refine r_bipush (pc := 27) (x := 8) dX4_multiply_27 rfl ?_
  refine r_icmp_ge (pc := 29) (tgt := 55) dX4_multiply_29 rfl (fun c1 => ?_) (fun c1 => ?_)
  · have K := K.1 c1
    refine r_aload_n (pc := 55) dX4_multiply_55 rfl ?_
    refine r_aload_n (pc := 56) dX4_multiply_56 rfl ?_
    obtain ⟨hk2, K⟩ := K
    have K := K _ rfl
    refine r_getr' (pc := 57) (T := TX4) 4 3 rfl hk2 (Or.inl q382) dX4_multiply_57 kc4 g4003 ?_
    refine r_aload_n (pc := 60) dX4_multiply_60 rfl ?_
    have K := K _ rfl
    refine r_getr' (pc := 61) (T := TX4) 4 2 rfl hk2 (Or.inl q381) dX4_multiply_61 kc4 g4002 ?_
    refine r_bipush (pc := 64) (x := 8) dX4_multiply_64 rfl ?_
    refine r_aload_n (pc := 66) dX4_multiply_66 rfl ?_
    have K := K _ rfl
    refine r_getr' (pc := 67) (T := TX4) 4 1 rfl hk2 (Or.inl q380) dX4_multiply_67 kc4 g4001 ?_
    refine r_aload_n (pc := 70) dX4_multiply_70 rfl ?_
    have K := K _ rfl
    refine r_getr' (pc := 71) (T := TX4) 4 6 rfl hk2 (Or.inl q385) dX4_multiply_71 kc4 g4006 ?_
    refine r_callV_V (pc := 74) (Y := mX4_product) (vs := [_, _, _, _, _]) (st := []) hk2 rfl kc4 q1403 q1405 qs27 dX4_multiply_74 rfl cd_X4_product rfl rfl fp_X4_multiply_X4_product K (fun h8 eh8 wh8 K => ?_) (fun x h1 _ _ e => Tw.out rfl e)
    refine r_iconst (pc := 77) (x := 0) dX4_multiply_77 rfl ?_
    refine r_istore (pc := 78) (lv' := [_, _, _, _, _]) dX4_multiply_78 (by decide) rfl ?_
    refine r_mask (pc := 80) [true, true, false, false, true] rfl ?_
    exact K
  · have K := K.2 c1
    refine r_aload_n (pc := 32) dX4_multiply_32 rfl ?_
    obtain ⟨hk9, K⟩ := K
    have K := K _ rfl
    refine r_getr' (pc := 33) (T := TX4) 4 6 rfl hk9 (Or.inl q385) dX4_multiply_33 kc4 g4006 ?_
    obtain ⟨hk11, K⟩ := K
    have K := K _ rfl
    refine r_getr' (pc := 36) (T := TX5) 5 0 rfl hk11 (Or.inr (Or.inl ⟨_, q301⟩)) dX4_multiply_36 kc5 g5000 ?_
    refine r_iload (pc := 39) dX4_multiply_39 rfl ?_
    refine r_aload_n (pc := 41) dX4_multiply_41 rfl ?_
    have K := K _ rfl
    refine r_getr' (pc := 42) (T := TX4) 4 2 rfl hk9 (Or.inl q381) dX4_multiply_42 kc4 g4002 ?_
    refine r_iload (pc := 45) dX4_multiply_45 rfl ?_
    obtain ⟨hk14, K⟩ := K
    obtain ⟨hi15, K⟩ := K
    refine r_iaload (pc := 47) hk14 hi15 dX4_multiply_47 ?_
    obtain ⟨hk16, K⟩ := K
    obtain ⟨hi17, K⟩ := K
    refine r_iastore (pc := 48) hk16 hi17 (Or.inl (em rfl)) dX4_multiply_48 ?_
    refine r_nameH (fun h18 eh18 => ?_)
    have K := K h18 eh18
    refine r_iinc (pc := 49) (lv' := [_, _, _, _, _]) dX4_multiply_49 rfl rfl (by decide) rfl ?_
    refine r_goto (pc := 52) (tgt := 25) dX4_multiply_52 rfl ?_
    refine r_mask (pc := 25) [true, true, false, false, true] rfl ?_
    exact K
set_option maxHeartbeats 4000000 in
theorem sX4_multiply_80 {G : Gx} {d t : Nat} {h0 : AH} {Φ : Out → AH → Prop} (h : AH) (v0 : Nat) (v1 : Nat) (v4 : Int32) (K : ((16 ≤ v4 → Aw G mX4_multiply (d + 1) t h0 Φ 15 [vR v0, vR v1, vU, vU, vU] [] h) ∧ (¬ 16 ≤ v4 → h.kd v0 = 4 ∧ ∀ r3 : Nat, r3 = (h.r 4002 v0) → ∀ r4 : Nat, r4 = (h.r 4003 v0) → h.kd r4 = 100 ∧ vp_in v4 (h.ai r4).length ∧ h.kd r3 = 100 ∧ vp_in v4 (h.ai r3).length ∧ ∀ h9 : AH, h9 = h.wi r3 ((h.ai r3).set (v4.toNatClampNeg) ((h.ai r4).getD (v4.toNatClampNeg) 0)) → Aw G mX4_multiply (d + 1) t h0 Φ 80 [vR v0, vR v1, vU, vU, vI (v4 + 1)] [] h9))) : Aw G mX4_multiply (d + 1) t h0 Φ 80 [vR v0, vR v1, vU, vU, vI v4] [] h := by
  refine r_iload (pc := 80) dX4_multiply_80 rfl ?_
  refine r_bipush (pc := 82) (x := 16) dX4_multiply_82 rfl ?_
  refine r_icmp_ge (pc := 84) (tgt := 107) dX4_multiply_84 rfl (fun c1 => ?_) (fun c1 => ?_)
  · have K := K.1 c1
    refine r_goto (pc := 107) (tgt := 15) dX4_multiply_107 rfl ?_
    refine r_mask (pc := 15) [true, true, false, false, false] rfl ?_
    exact K
  · have K := K.2 c1
    refine r_aload_n (pc := 87) dX4_multiply_87 rfl ?_
    obtain ⟨hk2, K⟩ := K
    have K := K _ rfl
    refine r_getr' (pc := 88) (T := TX4) 4 2 rfl hk2 (Or.inl q381) dX4_multiply_88 kc4 g4002 ?_
    refine r_iload (pc := 91) dX4_multiply_91 rfl ?_
    refine r_aload_n (pc := 93) dX4_multiply_93 rfl ?_
    have K := K _ rfl
    refine r_getr' (pc := 94) (T := TX4) 4 3 rfl hk2 (Or.inl q382) dX4_multiply_94 kc4 g4003 ?_
    refine r_iload (pc := 97) dX4_multiply_97 rfl ?_
    obtain ⟨hk5, K⟩ := K
    obtain ⟨hi6, K⟩ := K
    refine r_iaload (pc := 99) hk5 hi6 dX4_multiply_99 ?_
    obtain ⟨hk7, K⟩ := K
    obtain ⟨hi8, K⟩ := K
    refine r_iastore (pc := 100) hk7 hi8 (Or.inl (em rfl)) dX4_multiply_100 ?_
    refine r_nameH (fun h9 eh9 => ?_)
    have K := K h9 eh9
    refine r_iinc (pc := 101) (lv' := [_, _, _, _, _]) dX4_multiply_101 rfl rfl (by decide) rfl ?_
    refine r_goto (pc := 104) (tgt := 80) dX4_multiply_104 rfl ?_
    refine r_mask (pc := 80) [true, true, false, false, true] rfl ?_
    exact K
set_option maxHeartbeats 4000000 in
theorem sX4_multiply_113 {G : Gx} {d t : Nat} {h0 : AH} {Φ : Out → AH → Prop} (h : AH) (v0 : Nat) (v1 : Nat) (v4 : Int32) (K : ((8 ≤ v4 → Aw G mX4_multiply (d + 1) t h0 Φ 140 [vR v0, vR v1, vU, vU, vU] [] h) ∧ (¬ 8 ≤ v4 → h.kd v1 = 5 ∧ ∀ r3 : Nat, r3 = (h.r 5000 v1) → h.kd v0 = 4 ∧ ∀ r5 : Nat, r5 = (h.r 4002 v0) → h.kd r5 = 100 ∧ vp_in v4 (h.ai r5).length ∧ h.kd r3 = 100 ∧ vp_in v4 (h.ai r3).length ∧ ∀ h10 : AH, h10 = h.wi r3 ((h.ai r3).set (v4.toNatClampNeg) ((h.ai r5).getD (v4.toNatClampNeg) 0)) → Aw G mX4_multiply (d + 1) t h0 Φ 113 [vR v0, vR v1, vU, vU, vI (v4 + 1)] [] h10))) : Aw G mX4_multiply (d + 1) t h0 Φ 113 [vR v0, vR v1, vU, vU, vI v4] [] h := by
  refine r_iload (pc := 113) dX4_multiply_113 rfl ?_
  refine r_bipush (pc := 115) (x := 8) dX4_multiply_115 rfl ?_
  refine r_icmp_ge (pc := 117) (tgt := 140) dX4_multiply_117 rfl (fun c1 => ?_) (fun c1 => ?_)
  · have K := K.1 c1
    refine r_mask (pc := 140) [true, true, false, false, false] rfl ?_
    exact K
  · have K := K.2 c1
    refine r_aload_n (pc := 120) dX4_multiply_120 rfl ?_
    obtain ⟨hk2, K⟩ := K
    have K := K _ rfl
    refine r_getr' (pc := 121) (T := TX5) 5 0 rfl hk2 (Or.inr (Or.inl ⟨_, q301⟩)) dX4_multiply_121 kc5 g5000 ?_
    refine r_iload (pc := 124) dX4_multiply_124 rfl ?_
    refine r_aload_n (pc := 126) dX4_multiply_126 rfl ?_
    obtain ⟨hk4, K⟩ := K
    have K := K _ rfl
    refine r_getr' (pc := 127) (T := TX4) 4 2 rfl hk4 (Or.inl q381) dX4_multiply_127 kc4 g4002 ?_
    refine r_iload (pc := 130) dX4_multiply_130 rfl ?_
    obtain ⟨hk6, K⟩ := K
    obtain ⟨hi7, K⟩ := K
    refine r_iaload (pc := 132) hk6 hi7 dX4_multiply_132 ?_
    obtain ⟨hk8, K⟩ := K
    obtain ⟨hi9, K⟩ := K
    refine r_iastore (pc := 133) hk8 hi9 (Or.inl (em rfl)) dX4_multiply_133 ?_
    refine r_nameH (fun h10 eh10 => ?_)
    have K := K h10 eh10
    refine r_iinc (pc := 134) (lv' := [_, _, _, _, _]) dX4_multiply_134 rfl rfl (by decide) rfl ?_
    refine r_goto (pc := 137) (tgt := 113) dX4_multiply_137 rfl ?_
    refine r_mask (pc := 113) [true, true, false, false, true] rfl ?_
    exact K
set_option maxHeartbeats 4000000 in
theorem sX4_multiply_140 {G : Gx} {d t : Nat} {h0 : AH} {Φ : Out → AH → Prop} (h : AH) (v0 : Nat) (v1 : Nat) (K : h.kd v0 = 4 ∧ ∀ r2 : Nat, r2 = (h.r 4000 v0) → h.kd v1 = 5 ∧ Cw G mX5_compare d 0 [vR v1, vR r2] h (kI (fun x3 h4 => ((x3 < 0 → Φ (.inl none) h4) ∧ (¬ x3 < 0 → Cw G mX5_subtract d 0 [vR v1, vR v1, vR r2] h4 (kR (fun x10 h11 => Aw G mX4_multiply (d + 1) t h0 Φ 140 [vR v0, vR v1, vU, vU, vU] [] h11) (fun x h => Φ (.inr x) h))))) (fun x h => Φ (.inr x) h))) : Aw G mX4_multiply (d + 1) t h0 Φ 140 [vR v0, vR v1, vU, vU, vU] [] h := by
  refine r_aload_n (pc := 140) dX4_multiply_140 rfl ?_
  refine r_aload_n (pc := 141) dX4_multiply_141 rfl ?_
  obtain ⟨hk1, K⟩ := K
  have K := K _ rfl
  refine r_getr' (pc := 142) (T := TX4) 4 0 rfl hk1 (Or.inl q379) dX4_multiply_142 kc4 g4000 ?_
  obtain ⟨hk5, K⟩ := K
  refine r_callV_I (pc := 145) (Y := mX5_compare) (vs := [_]) (st := []) hk5 rfl kc5 q1412 q852 q853 dX4_multiply_145 rfl cd_X5_compare rfl rfl fp_X4_multiply_X5_compare K (fun x3 h4 eh4 wh4 K => ?_) (fun x h1 _ _ e => Tw.out rfl e)
  refine r_if_lt (pc := 148) (tgt := 164) dX4_multiply_148 rfl (fun c6 => ?_) (fun c6 => ?_)
  · have K := K.1 c6
    exact r_vret (pc := 164) rfl dX4_multiply_164 K
  · have K := K.2 c6
    refine r_aload_n (pc := 151) dX4_multiply_151 rfl ?_
    refine r_aload_n (pc := 152) dX4_multiply_152 rfl ?_
    refine r_aload_n (pc := 153) dX4_multiply_153 rfl ?_
    have hk7 := kd_ext eh4 hk1 (nz rfl)
    have hv8 := fr_self (key := 4000) hk1
    have hv9 := (fr_ext (key := 4000) eh4 hk1 (nz rfl) (ne0 wh4 hk7 (nz rfl)) (nm rfl)).trans hv8
    refine r_getr' (pc := 154) (T := TX4) 4 0 hv9 hk7 (Or.inl q379) dX4_multiply_154 kc4 g4000 ?_
    have hk12 := kd_ext eh4 hk5 (nz rfl)
    refine r_callV_R (pc := 157) (Y := mX5_subtract) (vs := [_, _]) (st := []) hk12 rfl kc5 q374 q375 q376 dX4_multiply_157 rfl cd_X5_subtract rfl rfl fp_X4_multiply_X5_subtract K (fun x10 h11 eh11 wh11 K => ?_) (fun x h1 _ _ e => Tw.out rfl e)
    refine r_pop (pc := 160) rfl dX4_multiply_160 ?_
    refine r_goto (pc := 161) (tgt := 140) dX4_multiply_161 rfl ?_
    refine r_mask (pc := 140) [true, true, false, false, false] rfl ?_
    exact K
theorem dX4_power_0 : decode cX4_power 0 = .ok (.aload_n 0, 1) := by decide +kernel
theorem dX4_power_1 : decode cX4_power 1 = .ok (.getfield 28, 3) := by decide +kernel
theorem dX4_power_4 : decode cX4_power 4 = .ok (.lconst 1, 1) := by decide +kernel
theorem dX4_power_5 : decode cX4_power 5 = .ok (.invokevirtual 72, 3) := by decide +kernel
theorem dX4_power_8 : decode cX4_power 8 = .ok (.pop, 1) := by decide +kernel
theorem dX4_power_9 : decode cX4_power 9 = .ok (.aload_n 0, 1) := by decide +kernel
theorem dX4_power_10 : decode cX4_power 10 = .ok (.getfield 25, 3) := by decide +kernel
theorem dX4_power_13 : decode cX4_power 13 = .ok (.aload_n 3, 1) := by decide +kernel
theorem dX4_power_14 : decode cX4_power 14 = .ok (.invokevirtual 76, 3) := by decide +kernel
theorem dX4_power_17 : decode cX4_power 17 = .ok (.pop, 1) := by decide +kernel
theorem dX4_power_18 : decode cX4_power 18 = .ok (.aload_n 0, 1) := by decide +kernel
theorem dX4_power_19 : decode cX4_power 19 = .ok (.getfield 34, 3) := by decide +kernel
theorem dX4_power_22 : decode cX4_power 22 = .ok (.aload_n 2, 1) := by decide +kernel
theorem dX4_power_23 : decode cX4_power 23 = .ok (.invokevirtual 76, 3) := by decide +kernel
theorem dX4_power_26 : decode cX4_power 26 = .ok (.pop, 1) := by decide +kernel
theorem dX4_power_27 : decode cX4_power 27 = .ok (.aload_n 0, 1) := by decide +kernel
theorem dX4_power_28 : decode cX4_power 28 = .ok (.getfield 25, 3) := by decide +kernel
theorem dX4_power_31 : decode cX4_power 31 = .ok (.invokevirtual 80, 3) := by decide +kernel
theorem dX4_power_34 : decode cX4_power 34 = .ok (.iconst 1, 1) := by decide +kernel
theorem dX4_power_35 : decode cX4_power 35 = .ok (.isub, 1) := by decide +kernel
theorem dX4_power_36 : decode cX4_power 36 = .ok (.istore 4, 2) := by decide +kernel
theorem dX4_power_38 : decode cX4_power 38 = .ok (.iload 4, 2) := by decide +kernel
theorem dX4_power_40 : decode cX4_power 40 = .ok (.ifCond .lt 54, 3) := by decide +kernel
theorem dX4_power_43 : decode cX4_power 43 = .ok (.aload_n 0, 1) := by decide +kernel
theorem dX4_power_44 : decode cX4_power 44 = .ok (.aload_n 0, 1) := by decide +kernel
theorem dX4_power_45 : decode cX4_power 45 = .ok (.getfield 28, 3) := by decide +kernel
theorem dX4_power_48 : decode cX4_power 48 = .ok (.aload_n 0, 1) := by decide +kernel
theorem dX4_power_49 : decode cX4_power 49 = .ok (.getfield 28, 3) := by decide +kernel
theorem dX4_power_52 : decode cX4_power 52 = .ok (.aload_n 0, 1) := by decide +kernel
theorem dX4_power_53 : decode cX4_power 53 = .ok (.getfield 28, 3) := by decide +kernel
theorem dX4_power_56 : decode cX4_power 56 = .ok (.invokevirtual 84, 3) := by decide +kernel
theorem dX4_power_59 : decode cX4_power 59 = .ok (.aload_n 0, 1) := by decide +kernel
theorem dX4_power_60 : decode cX4_power 60 = .ok (.getfield 25, 3) := by decide +kernel
theorem dX4_power_63 : decode cX4_power 63 = .ok (.iload 4, 2) := by decide +kernel
theorem dX4_power_65 : decode cX4_power 65 = .ok (.invokevirtual 88, 3) := by decide +kernel
theorem dX4_power_68 : decode cX4_power 68 = .ok (.iconst 1, 1) := by decide +kernel
theorem dX4_power_69 : decode cX4_power 69 = .ok (.if_icmp .ne 19, 3) := by decide +kernel
theorem dX4_power_72 : decode cX4_power 72 = .ok (.aload_n 0, 1) := by decide +kernel
theorem dX4_power_73 : decode cX4_power 73 = .ok (.aload_n 0, 1) := by decide +kernel
theorem dX4_power_74 : decode cX4_power 74 = .ok (.getfield 28, 3) := by decide +kernel
theorem dX4_power_77 : decode cX4_power 77 = .ok (.aload_n 0, 1) := by decide +kernel
theorem dX4_power_78 : decode cX4_power 78 = .ok (.getfield 28, 3) := by decide +kernel
theorem dX4_power_81 : decode cX4_power 81 = .ok (.aload_n 0, 1) := by decide +kernel
theorem dX4_power_82 : decode cX4_power 82 = .ok (.getfield 34, 3) := by decide +kernel
theorem dX4_power_85 : decode cX4_power 85 = .ok (.invokevirtual 84, 3) := by decide +kernel
theorem dX4_power_88 : decode cX4_power 88 = .ok (.iinc 4 (-1), 3) := by decide +kernel
theorem dX4_power_91 : decode cX4_power 91 = .ok (.goto (-53), 3) := by decide +kernel
theorem dX4_power_94 : decode cX4_power 94 = .ok (.aload_n 1, 1) := by decide +kernel
theorem dX4_power_95 : decode cX4_power 95 = .ok (.aload_n 0, 1) := by decide +kernel
theorem dX4_power_96 : decode cX4_power 96 = .ok (.getfield 28, 3) := by decide +kernel
theorem dX4_power_99 : decode cX4_power 99 = .ok (.invokevirtual 76, 3) := by decide +kernel
theorem dX4_power_102 : decode cX4_power 102 = .ok (.pop, 1) := by decide +kernel
theorem dX4_power_103 : decode cX4_power 103 = .ok (.return_, 1) := by decide +kernel
/-! CoinJudge$Ring.power(LCoinJudge$Big;LCoinJudge$Big;LCoinJudge$Big;)V -/
set_option maxHeartbeats 4000000 in
theorem sX4_power_0 {G : Gx} {d t : Nat} {h0 : AH} {Φ : Out → AH → Prop} (h : AH) (v0 : Nat) (v1 : Nat) (v2 : Nat) (v3 : Nat) (K : h.kd v0 = 4 ∧ ∀ r2 : Nat, r2 = (h.r 4005 v0) → h.kd r2 = 5 ∧ Cw G mX5_small d 0 [vR r2, vJ 1] h (kR (fun x3 h4 => ∀ r7 : Nat, r7 = (h4.r 4004 v0) → h4.kd r7 = 5 ∧ Cw G mX5_copy d 0 [vR r7, vR v3] h4 (kR (fun x8 h9 => ∀ r12 : Nat, r12 = (h9.r 4007 v0) → h9.kd r12 = 5 ∧ Cw G mX5_copy d 0 [vR r12, vR v2] h9 (kR (fun x13 h14 => Cw G mX5_length d 0 [vR r7] h14 (kI (fun x20 h21 => Aw G mX4_power (d + 1) t h0 Φ 38 [vR v0, vR v1, vU, vU, vI (x20 - 1)] [] h21) (fun x h => Φ (.inr x) h))) (fun x h => Φ (.inr x) h))) (fun x h => Φ (.inr x) h))) (fun x h => Φ (.inr x) h))) : Aw G mX4_power (d + 1) t h0 Φ 0 [vR v0, vR v1, vR v2, vR v3, vU] [] h := by
  refine r_aload_n (pc := 0) dX4_power_0 rfl ?_
  obtain ⟨hk1, K⟩ := K
  have K := K _ rfl
  refine r_getr' (pc := 1) (T := TX4) 4 5 rfl hk1 (Or.inl q384) dX4_power_1 kc4 g4005 ?_
  refine r_lconst (pc := 4) (a := 1) dX4_power_4 rfl ?_
  obtain ⟨hk5, K⟩ := K
  refine r_callV_R (pc := 5) (Y := mX5_small) (vs := [_]) (st := []) hk5 rfl kc5 q1424 q432 q433 dX4_power_5 rfl cd_X5_small rfl rfl fp_X4_power_X5_small K (fun x3 h4 eh4 wh4 K => ?_) (fun x h1 _ _ e => Tw.out rfl e)
  refine r_pop (pc := 8) rfl dX4_power_8 ?_
  refine r_aload_n (pc := 9) dX4_power_9 rfl ?_
  have hk6 := kd_ext eh4 hk1 (nz rfl)
  have K := K _ rfl
  refine r_getr' (pc := 10) (T := TX4) 4 4 rfl hk6 (Or.inl q383) dX4_power_10 kc4 g4004 ?_
  refine r_aload_n (pc := 13) dX4_power_13 rfl ?_
  obtain ⟨hk10, K⟩ := K
  refine r_callV_R (pc := 14) (Y := mX5_copy) (vs := [_]) (st := []) hk10 rfl kc5 q1425 q1185 q1186 dX4_power_14 rfl cd_X5_copy rfl rfl fp_X4_power_X5_copy K (fun x8 h9 eh9 wh9 K => ?_) (fun x h1 _ _ e => Tw.out rfl e)
  refine r_pop (pc := 17) rfl dX4_power_17 ?_
  refine r_aload_n (pc := 18) dX4_power_18 rfl ?_
  have hk11 := kd_ext eh9 hk6 (nz rfl)
  have K := K _ rfl
  refine r_getr' (pc := 19) (T := TX4) 4 7 rfl hk11 (Or.inl q386) dX4_power_19 kc4 g4007 ?_
  refine r_aload_n (pc := 22) dX4_power_22 rfl ?_
  obtain ⟨hk15, K⟩ := K
  refine r_callV_R (pc := 23) (Y := mX5_copy) (vs := [_]) (st := []) hk15 rfl kc5 q1425 q1185 q1186 dX4_power_23 rfl cd_X5_copy rfl rfl fp_X4_power_X5_copy K (fun x13 h14 eh14 wh14 K => ?_) (fun x h1 _ _ e => Tw.out rfl e)
  refine r_pop (pc := 26) rfl dX4_power_26 ?_
  refine r_aload_n (pc := 27) dX4_power_27 rfl ?_
  have hk16 := kd_ext eh14 hk11 (nz rfl)
  have hv17 := fr_self (key := 4004) hk6
  have hv18 := (fr_ext (key := 4004) eh9 hk6 (nz rfl) (ne0 wh9 hk11 (nz rfl)) (nm rfl)).trans hv17
  have hv19 := (fr_ext (key := 4004) eh14 hk11 (nz rfl) (ne0 wh14 hk16 (nz rfl)) (nm rfl)).trans hv18
  refine r_getr' (pc := 28) (T := TX4) 4 4 hv19 hk16 (Or.inl q383) dX4_power_28 kc4 g4004 ?_
  have hk22 := kd_ext eh9 hk10 (nz rfl)
  have hk23 := kd_ext eh14 hk22 (nz rfl)
  refine r_callV_I (pc := 31) (Y := mX5_length) (vs := []) (st := []) hk23 rfl kc5 q1426 q859 q860 dX4_power_31 rfl cd_X5_length rfl rfl fp_X4_power_X5_length K (fun x20 h21 eh21 wh21 K => ?_) (fun x h1 _ _ e => Tw.out rfl e)
  refine r_iconst (pc := 34) (x := 1) dX4_power_34 rfl ?_
  refine r_isub (pc := 35) dX4_power_35 ?_
  refine r_istore (pc := 36) (lv' := [_, _, _, _, _]) dX4_power_36 (by decide) rfl ?_
  refine r_mask (pc := 38) [true, true, false, false, true] rfl ?_
  exact K
theorem eX4_power {G : Gx} {d : Nat} {Φ : Out → AH → Prop} (h : AH) (v0 : Nat) (v1 : Nat) (v2 : Nat) (v3 : Nat) (K : WF G h → Aw G mX4_power (d + 1) 0 h Φ 0 [vR v0, vR v1, vR v2, vR v3, vU] [] h) : Cw G mX4_power (d + 1) 0 [vR v0, vR v1, vR v2, vR v3] h Φ := Cw.of rfl K
set_option maxHeartbeats 4000000 in
theorem sX4_power_38 {G : Gx} {d t : Nat} {h0 : AH} {Φ : Out → AH → Prop} (h : AH) (v0 : Nat) (v1 : Nat) (v4 : Int32) (K : ((v4 < 0 → h.kd v0 = 4 ∧ ∀ r3 : Nat, r3 = (h.r 4005 v0) → h.kd v1 = 5 ∧ Cw G mX5_copy d 0 [vR v1, vR r3] h (kR (fun x4 h5 => Φ (.inl none) h5) (fun x h => Φ (.inr x) h))) ∧ (¬ v4 < 0 → h.kd v0 = 4 ∧ ∀ r8 : Nat, r8 = (h.r 4005 v0) → Cw G mX4_multiply d 0 [vR v0, vR r8, vR r8, vR r8] h (kV (fun h10 => ∀ r12 : Nat, r12 = (h10.r 4004 v0) → h10.kd r12 = 5 ∧ Cw G mX5_bit d 0 [vR r12, vI v4] h10 (kI (fun x13 h14 => ((¬ x13 = 1 → Aw G mX4_power (d + 1) t h0 Φ 38 [vR v0, vR v1, vU, vU, vI (v4 + (-1))] [] h14) ∧ (x13 = 1 → ∀ r21 : Nat, r21 = (h14.r 4007 v0) → Cw G mX4_multiply d 0 [vR v0, vR r8, vR r8, vR r21] h14 (kV (fun h23 => Aw G mX4_power (d + 1) t h0 Φ 38 [vR v0, vR v1, vU, vU, vI (v4 + (-1))] [] h23) (fun x h => Φ (.inr x) h))))) (fun x h => Φ (.inr x) h))) (fun x h => Φ (.inr x) h))))) : Aw G mX4_power (d + 1) t h0 Φ 38 [vR v0, vR v1, vU, vU, vI v4] [] h := by
  refine r_iload (pc := 38) dX4_power_38 rfl ?_
  refine r_if_lt (pc := 40) (tgt := 94) dX4_power_40 rfl (fun c1 => ?_) (fun c1 => ?_)
  · have K := K.1 c1
    refine r_aload_n (pc := 94) dX4_power_94 rfl ?_
    refine r_aload_n (pc := 95) dX4_power_95 rfl ?_
    obtain ⟨hk2, K⟩ := K
    have K := K _ rfl
    refine r_getr' (pc := 96) (T := TX4) 4 5 rfl hk2 (Or.inl q384) dX4_power_96 kc4 g4005 ?_
    obtain ⟨hk6, K⟩ := K
    refine r_callV_R (pc := 99) (Y := mX5_copy) (vs := [_]) (st := []) hk6 rfl kc5 q1425 q1185 q1186 dX4_power_99 rfl cd_X5_copy rfl rfl fp_X4_power_X5_copy K (fun x4 h5 eh5 wh5 K => ?_) (fun x h1 _ _ e => Tw.out rfl e)
    refine r_pop (pc := 102) rfl dX4_power_102 ?_
    exact r_vret (pc := 103) rfl dX4_power_103 K
  · have K := K.2 c1
    refine r_aload_n (pc := 43) dX4_power_43 rfl ?_
    refine r_aload_n (pc := 44) dX4_power_44 rfl ?_
    obtain ⟨hk7, K⟩ := K
    have K := K _ rfl
    refine r_getr' (pc := 45) (T := TX4) 4 5 rfl hk7 (Or.inl q384) dX4_power_45 kc4 g4005 ?_
    refine r_aload_n (pc := 48) dX4_power_48 rfl ?_
    refine r_getr' (pc := 49) (T := TX4) 4 5 rfl hk7 (Or.inl q384) dX4_power_49 kc4 g4005 ?_
    refine r_aload_n (pc := 52) dX4_power_52 rfl ?_
    refine r_getr' (pc := 53) (T := TX4) 4 5 rfl hk7 (Or.inl q384) dX4_power_53 kc4 g4005 ?_
    refine r_callV_V (pc := 56) (Y := mX4_multiply) (vs := [_, _, _]) (st := []) hk7 rfl kc4 q1427 q1400 q1401 dX4_power_56 rfl cd_X4_multiply rfl rfl fp_X4_power_X4_multiply K (fun h10 eh10 wh10 K => ?_) (fun x h1 _ _ e => Tw.out rfl e)
    refine r_aload_n (pc := 59) dX4_power_59 rfl ?_
    have hk11 := kd_ext eh10 hk7 (nz rfl)
    have K := K _ rfl
    refine r_getr' (pc := 60) (T := TX4) 4 4 rfl hk11 (Or.inl q383) dX4_power_60 kc4 g4004 ?_
    refine r_iload (pc := 63) dX4_power_63 rfl ?_
    obtain ⟨hk15, K⟩ := K
    refine r_callV_I (pc := 65) (Y := mX5_bit) (vs := [_]) (st := []) hk15 rfl kc5 q1428 q1179 q1180 dX4_power_65 rfl cd_X5_bit rfl rfl fp_X4_power_X5_bit K (fun x13 h14 eh14 wh14 K => ?_) (fun x h1 _ _ e => Tw.out rfl e)
    refine r_iconst (pc := 68) (x := 1) dX4_power_68 rfl ?_
    refine r_icmp_ne (pc := 69) (tgt := 88) dX4_power_69 rfl (fun c16 => ?_) (fun c16 => ?_)
    · have K := K.1 c16
      refine r_iinc (pc := 88) (lv' := [_, _, _, _, _]) dX4_power_88 rfl rfl (by decide) rfl ?_
      refine r_goto (pc := 91) (tgt := 38) dX4_power_91 rfl ?_
      refine r_mask (pc := 38) [true, true, false, false, true] rfl ?_
      exact K
    · have K := K.2 c16
      refine r_aload_n (pc := 72) dX4_power_72 rfl ?_
      refine r_aload_n (pc := 73) dX4_power_73 rfl ?_
      have hk17 := kd_ext eh14 hk11 (nz rfl)
      have hv18 := fr_self (key := 4005) hk7
      have hv19 := (fr_ext (key := 4005) eh10 hk7 (nz rfl) (ne0 wh10 hk11 (nz rfl)) (nm rfl)).trans hv18
      have hv20 := (fr_ext (key := 4005) eh14 hk11 (nz rfl) (ne0 wh14 hk17 (nz rfl)) (nm rfl)).trans hv19
      refine r_getr' (pc := 74) (T := TX4) 4 5 hv20 hk17 (Or.inl q384) dX4_power_74 kc4 g4005 ?_
      refine r_aload_n (pc := 77) dX4_power_77 rfl ?_
      refine r_getr' (pc := 78) (T := TX4) 4 5 hv20 hk17 (Or.inl q384) dX4_power_78 kc4 g4005 ?_
      refine r_aload_n (pc := 81) dX4_power_81 rfl ?_
      have K := K _ rfl
      refine r_getr' (pc := 82) (T := TX4) 4 7 rfl hk17 (Or.inl q386) dX4_power_82 kc4 g4007 ?_
      refine r_callV_V (pc := 85) (Y := mX4_multiply) (vs := [_, _, _]) (st := []) hk17 rfl kc4 q1427 q1400 q1401 dX4_power_85 rfl cd_X4_multiply rfl rfl fp_X4_power_X4_multiply K (fun h23 eh23 wh23 K => ?_) (fun x h1 _ _ e => Tw.out rfl e)
      refine r_iinc (pc := 88) (lv' := [_, _, _, _, _]) dX4_power_88 rfl rfl (by decide) rfl ?_
      refine r_goto (pc := 91) (tgt := 38) dX4_power_91 rfl ?_
      refine r_mask (pc := 38) [true, true, false, false, true] rfl ?_
      exact K
theorem dX4_invert_0 : decode cX4_invert 0 = .ok (.aload_n 0, 1) := by decide +kernel
theorem dX4_invert_1 : decode cX4_invert 1 = .ok (.getfield 37, 3) := by decide +kernel
theorem dX4_invert_4 : decode cX4_invert 4 = .ok (.ldc2_w 92, 3) := by decide +kernel
theorem dX4_invert_7 : decode cX4_invert 7 = .ok (.invokevirtual 72, 3) := by decide +kernel
theorem dX4_invert_10 : decode cX4_invert 10 = .ok (.pop, 1) := by decide +kernel
theorem dX4_invert_11 : decode cX4_invert 11 = .ok (.aload_n 0, 1) := by decide +kernel
theorem dX4_invert_12 : decode cX4_invert 12 = .ok (.getfield 37, 3) := by decide +kernel
theorem dX4_invert_15 : decode cX4_invert 15 = .ok (.aload_n 0, 1) := by decide +kernel
theorem dX4_invert_16 : decode cX4_invert 16 = .ok (.getfield 40, 3) := by decide +kernel
theorem dX4_invert_19 : decode cX4_invert 19 = .ok (.aload_n 0, 1) := by decide +kernel
theorem dX4_invert_20 : decode cX4_invert 20 = .ok (.getfield 37, 3) := by decide +kernel
theorem dX4_invert_23 : decode cX4_invert 23 = .ok (.invokevirtual 47, 3) := by decide +kernel
theorem dX4_invert_26 : decode cX4_invert 26 = .ok (.pop, 1) := by decide +kernel
theorem dX4_invert_27 : decode cX4_invert 27 = .ok (.aload_n 0, 1) := by decide +kernel
theorem dX4_invert_28 : decode cX4_invert 28 = .ok (.aload_n 1, 1) := by decide +kernel
theorem dX4_invert_29 : decode cX4_invert 29 = .ok (.aload_n 2, 1) := by decide +kernel
theorem dX4_invert_30 : decode cX4_invert 30 = .ok (.aload_n 0, 1) := by decide +kernel
theorem dX4_invert_31 : decode cX4_invert 31 = .ok (.getfield 37, 3) := by decide +kernel
theorem dX4_invert_34 : decode cX4_invert 34 = .ok (.invokevirtual 94, 3) := by decide +kernel
theorem dX4_invert_37 : decode cX4_invert 37 = .ok (.return_, 1) := by decide +kernel
/-! CoinJudge$Ring.invert(LCoinJudge$Big;LCoinJudge$Big;)V -/
set_option maxHeartbeats 4000000 in
theorem sX4_invert_0 {G : Gx} {d t : Nat} {h0 : AH} {Φ : Out → AH → Prop} (h : AH) (v0 : Nat) (v1 : Nat) (v2 : Nat) (K : h.kd v0 = 4 ∧ ∀ r2 : Nat, r2 = (h.r 4008 v0) → h.kd r2 = 5 ∧ Cw G mX5_small d 0 [vR r2, vJ 2] h (kR (fun x3 h4 => ∀ r9 : Nat, r9 = (h4.r 4000 v0) → Cw G mX5_subtract d 0 [vR r2, vR r9, vR r2] h4 (kR (fun x10 h11 => Cw G mX4_power d 0 [vR v0, vR v1, vR v2, vR r2] h11 (kV (fun h16 => Φ (.inl none) h16) (fun x h => Φ (.inr x) h))) (fun x h => Φ (.inr x) h))) (fun x h => Φ (.inr x) h))) : Aw G mX4_invert (d + 1) t h0 Φ 0 [vR v0, vR v1, vR v2] [] h := by
  refine r_aload_n (pc := 0) dX4_invert_0 rfl ?_
  obtain ⟨hk1, K⟩ := K
  have K := K _ rfl
  refine r_getr' (pc := 1) (T := TX4) 4 8 rfl hk1 (Or.inl q387) dX4_invert_1 kc4 g4008 ?_
  refine r_ldc2 (pc := 4) dX4_invert_4 q1451 ?_
  obtain ⟨hk5, K⟩ := K
  refine r_callV_R (pc := 7) (Y := mX5_small) (vs := [_]) (st := []) hk5 rfl kc5 q1424 q432 q433 dX4_invert_7 rfl cd_X5_small rfl rfl fp_X4_invert_X5_small K (fun x3 h4 eh4 wh4 K => ?_) (fun x h1 _ _ e => Tw.out rfl e)
  refine r_pop (pc := 10) rfl dX4_invert_10 ?_
  refine r_aload_n (pc := 11) dX4_invert_11 rfl ?_
  have hk6 := kd_ext eh4 hk1 (nz rfl)
  have hv7 := fr_self (key := 4008) hk1
  have hv8 := (fr_ext (key := 4008) eh4 hk1 (nz rfl) (ne0 wh4 hk6 (nz rfl)) (nm rfl)).trans hv7
  refine r_getr' (pc := 12) (T := TX4) 4 8 hv8 hk6 (Or.inl q387) dX4_invert_12 kc4 g4008 ?_
  refine r_aload_n (pc := 15) dX4_invert_15 rfl ?_
  have K := K _ rfl
  refine r_getr' (pc := 16) (T := TX4) 4 0 rfl hk6 (Or.inl q379) dX4_invert_16 kc4 g4000 ?_
  refine r_aload_n (pc := 19) dX4_invert_19 rfl ?_
  refine r_getr' (pc := 20) (T := TX4) 4 8 hv8 hk6 (Or.inl q387) dX4_invert_20 kc4 g4008 ?_
  have hk12 := kd_ext eh4 hk5 (nz rfl)
  refine r_callV_R (pc := 23) (Y := mX5_subtract) (vs := [_, _]) (st := []) hk12 rfl kc5 q374 q375 q376 dX4_invert_23 rfl cd_X5_subtract rfl rfl fp_X4_invert_X5_subtract K (fun x10 h11 eh11 wh11 K => ?_) (fun x h1 _ _ e => Tw.out rfl e)
  refine r_pop (pc := 26) rfl dX4_invert_26 ?_
  refine r_aload_n (pc := 27) dX4_invert_27 rfl ?_
  refine r_aload_n (pc := 28) dX4_invert_28 rfl ?_
  refine r_aload_n (pc := 29) dX4_invert_29 rfl ?_
  refine r_aload_n (pc := 30) dX4_invert_30 rfl ?_
  have hk13 := kd_ext eh11 hk6 (nz rfl)
  have hv14 := (fr_ext (key := 4008) eh11 hk6 (nz rfl) (ne0 wh11 hk13 (nz rfl)) (nm rfl)).trans hv8
  refine r_getr' (pc := 31) (T := TX4) 4 8 hv14 hk13 (Or.inl q387) dX4_invert_31 kc4 g4008 ?_
  refine r_callV_V (pc := 34) (Y := mX4_power) (vs := [_, _, _]) (st := []) hk13 rfl kc4 q1452 q1421 q1422 dX4_invert_34 rfl cd_X4_power rfl rfl fp_X4_invert_X4_power K (fun h16 eh16 wh16 K => ?_) (fun x h1 _ _ e => Tw.out rfl e)
  exact r_vret (pc := 37) rfl dX4_invert_37 K
theorem eX4_invert {G : Gx} {d : Nat} {Φ : Out → AH → Prop} (h : AH) (v0 : Nat) (v1 : Nat) (v2 : Nat) (K : WF G h → Aw G mX4_invert (d + 1) 0 h Φ 0 [vR v0, vR v1, vR v2] [] h) : Cw G mX4_invert (d + 1) 0 [vR v0, vR v1, vR v2] h Φ := Cw.of rfl K
theorem dX4_add_0 : decode cX4_add 0 = .ok (.aload_n 1, 1) := by decide +kernel
theorem dX4_add_1 : decode cX4_add 1 = .ok (.aload_n 2, 1) := by decide +kernel
theorem dX4_add_2 : decode cX4_add 2 = .ok (.aload_n 3, 1) := by decide +kernel
theorem dX4_add_3 : decode cX4_add 3 = .ok (.invokevirtual 51, 3) := by decide +kernel
theorem dX4_add_6 : decode cX4_add 6 = .ok (.istore 4, 2) := by decide +kernel
theorem dX4_add_8 : decode cX4_add 8 = .ok (.iload 4, 2) := by decide +kernel
theorem dX4_add_10 : decode cX4_add 10 = .ok (.iconst 1, 1) := by decide +kernel
theorem dX4_add_11 : decode cX4_add 11 = .ok (.if_icmp .eq 14, 3) := by decide +kernel
theorem dX4_add_14 : decode cX4_add 14 = .ok (.aload_n 1, 1) := by decide +kernel
theorem dX4_add_15 : decode cX4_add 15 = .ok (.aload_n 0, 1) := by decide +kernel
theorem dX4_add_16 : decode cX4_add 16 = .ok (.getfield 40, 3) := by decide +kernel
theorem dX4_add_19 : decode cX4_add 19 = .ok (.invokevirtual 55, 3) := by decide +kernel
theorem dX4_add_22 : decode cX4_add 22 = .ok (.ifCond .lt 13, 3) := by decide +kernel
theorem dX4_add_25 : decode cX4_add 25 = .ok (.aload_n 1, 1) := by decide +kernel
theorem dX4_add_26 : decode cX4_add 26 = .ok (.aload_n 1, 1) := by decide +kernel
theorem dX4_add_27 : decode cX4_add 27 = .ok (.aload_n 0, 1) := by decide +kernel
theorem dX4_add_28 : decode cX4_add 28 = .ok (.getfield 40, 3) := by decide +kernel
theorem dX4_add_31 : decode cX4_add 31 = .ok (.invokevirtual 47, 3) := by decide +kernel
theorem dX4_add_34 : decode cX4_add 34 = .ok (.pop, 1) := by decide +kernel
theorem dX4_add_35 : decode cX4_add 35 = .ok (.return_, 1) := by decide +kernel
/-! CoinJudge$Ring.add(LCoinJudge$Big;LCoinJudge$Big;LCoinJudge$Big;)V -/
set_option maxHeartbeats 4000000 in
theorem sX4_add_0 {G : Gx} {d t : Nat} {h0 : AH} {Φ : Out → AH → Prop} (h : AH) (v0 : Nat) (v1 : Nat) (v2 : Nat) (v3 : Nat) (K : h.kd v1 = 5 ∧ Cw G mX5_add d 0 [vR v1, vR v2, vR v3] h (kI (fun x1 h2 => ((x1 = 1 → h2.kd v0 = 4 ∧ ∀ r6 : Nat, r6 = (h2.r 4000 v0) → Cw G mX5_subtract d 0 [vR v1, vR v1, vR r6] h2 (kR (fun x7 h8 => Φ (.inl none) h8) (fun x h => Φ (.inr x) h))) ∧ (¬ x1 = 1 → h2.kd v0 = 4 ∧ ∀ r11 : Nat, r11 = (h2.r 4000 v0) → Cw G mX5_compare d 0 [vR v1, vR r11] h2 (kI (fun x12 h13 => ((x12 < 0 → Φ (.inl none) h13) ∧ (¬ x12 < 0 → Cw G mX5_subtract d 0 [vR v1, vR v1, vR r11] h13 (kR (fun x19 h20 => Φ (.inl none) h20) (fun x h => Φ (.inr x) h))))) (fun x h => Φ (.inr x) h))))) (fun x h => Φ (.inr x) h))) : Aw G mX4_add (d + 1) t h0 Φ 0 [vR v0, vR v1, vR v2, vR v3, vU] [] h := by
  refine r_aload_n (pc := 0) dX4_add_0 rfl ?_
  refine r_aload_n (pc := 1) dX4_add_1 rfl ?_
  refine r_aload_n (pc := 2) dX4_add_2 rfl ?_
  obtain ⟨hk3, K⟩ := K
  refine r_callV_I (pc := 3) (Y := mX5_add) (vs := [_, _]) (st := []) hk3 rfl kc5 q1418 q1169 q1170 dX4_add_3 rfl cd_X5_add rfl rfl fp_X4_add_X5_add K (fun x1 h2 eh2 wh2 K => ?_) (fun x h1 _ _ e => Tw.out rfl e)
  refine r_istore (pc := 6) (lv' := [_, _, _, _, _]) dX4_add_6 (by decide) rfl ?_
  refine r_iload (pc := 8) dX4_add_8 rfl ?_
  refine r_iconst (pc := 10) (x := 1) dX4_add_10 rfl ?_
  refine r_icmp_eq (pc := 11) (tgt := 25) dX4_add_11 rfl (fun c4 => ?_) (fun c4 => ?_)
  · have K := K.1 c4
    refine r_aload_n (pc := 25) dX4_add_25 rfl ?_
    refine r_aload_n (pc := 26) dX4_add_26 rfl ?_
    refine r_aload_n (pc := 27) dX4_add_27 rfl ?_
    obtain ⟨hk5, K⟩ := K
    have K := K _ rfl
    refine r_getr' (pc := 28) (T := TX4) 4 0 rfl hk5 (Or.inl q379) dX4_add_28 kc4 g4000 ?_
    have hk9 := kd_ext eh2 hk3 (nz rfl)
    refine r_callV_R (pc := 31) (Y := mX5_subtract) (vs := [_, _]) (st := []) hk9 rfl kc5 q374 q375 q376 dX4_add_31 rfl cd_X5_subtract rfl rfl fp_X4_add_X5_subtract K (fun x7 h8 eh8 wh8 K => ?_) (fun x h1 _ _ e => Tw.out rfl e)
    refine r_pop (pc := 34) rfl dX4_add_34 ?_
    exact r_vret (pc := 35) rfl dX4_add_35 K
  · have K := K.2 c4
    refine r_aload_n (pc := 14) dX4_add_14 rfl ?_
    refine r_aload_n (pc := 15) dX4_add_15 rfl ?_
    obtain ⟨hk10, K⟩ := K
    have K := K _ rfl
    refine r_getr' (pc := 16) (T := TX4) 4 0 rfl hk10 (Or.inl q379) dX4_add_16 kc4 g4000 ?_
    have hk14 := kd_ext eh2 hk3 (nz rfl)
    refine r_callV_I (pc := 19) (Y := mX5_compare) (vs := [_]) (st := []) hk14 rfl kc5 q1412 q852 q853 dX4_add_19 rfl cd_X5_compare rfl rfl fp_X4_add_X5_compare K (fun x12 h13 eh13 wh13 K => ?_) (fun x h1 _ _ e => Tw.out rfl e)
    refine r_if_lt (pc := 22) (tgt := 35) dX4_add_22 rfl (fun c15 => ?_) (fun c15 => ?_)
    · have K := K.1 c15
      exact r_vret (pc := 35) rfl dX4_add_35 K
    · have K := K.2 c15
      refine r_aload_n (pc := 25) dX4_add_25 rfl ?_
      refine r_aload_n (pc := 26) dX4_add_26 rfl ?_
      refine r_aload_n (pc := 27) dX4_add_27 rfl ?_
      have hk16 := kd_ext eh13 hk10 (nz rfl)
      have hv17 := fr_self (key := 4000) hk10
      have hv18 := (fr_ext (key := 4000) eh13 hk10 (nz rfl) (ne0 wh13 hk16 (nz rfl)) (nm rfl)).trans hv17
      refine r_getr' (pc := 28) (T := TX4) 4 0 hv18 hk16 (Or.inl q379) dX4_add_28 kc4 g4000 ?_
      have hk21 := kd_ext eh13 hk14 (nz rfl)
      refine r_callV_R (pc := 31) (Y := mX5_subtract) (vs := [_, _]) (st := []) hk21 rfl kc5 q374 q375 q376 dX4_add_31 rfl cd_X5_subtract rfl rfl fp_X4_add_X5_subtract K (fun x19 h20 eh20 wh20 K => ?_) (fun x h1 _ _ e => Tw.out rfl e)
      refine r_pop (pc := 34) rfl dX4_add_34 ?_
      exact r_vret (pc := 35) rfl dX4_add_35 K
theorem eX4_add {G : Gx} {d : Nat} {Φ : Out → AH → Prop} (h : AH) (v0 : Nat) (v1 : Nat) (v2 : Nat) (v3 : Nat) (K : WF G h → Aw G mX4_add (d + 1) 0 h Φ 0 [vR v0, vR v1, vR v2, vR v3, vU] [] h) : Cw G mX4_add (d + 1) 0 [vR v0, vR v1, vR v2, vR v3] h Φ := Cw.of rfl K
theorem dX4_subtract_0 : decode cX4_subtract 0 = .ok (.aload_n 2, 1) := by decide +kernel
theorem dX4_subtract_1 : decode cX4_subtract 1 = .ok (.aload_n 3, 1) := by decide +kernel
theorem dX4_subtract_2 : decode cX4_subtract 2 = .ok (.invokevirtual 55, 3) := by decide +kernel
theorem dX4_subtract_5 : decode cX4_subtract 5 = .ok (.ifCond .ge 7, 3) := by decide +kernel
theorem dX4_subtract_8 : decode cX4_subtract 8 = .ok (.iconst 1, 1) := by decide +kernel
theorem dX4_subtract_9 : decode cX4_subtract 9 = .ok (.goto 4, 3) := by decide +kernel
theorem dX4_subtract_12 : decode cX4_subtract 12 = .ok (.iconst 0, 1) := by decide +kernel
theorem dX4_subtract_13 : decode cX4_subtract 13 = .ok (.istore 4, 2) := by decide +kernel
theorem dX4_subtract_15 : decode cX4_subtract 15 = .ok (.aload_n 1, 1) := by decide +kernel
theorem dX4_subtract_16 : decode cX4_subtract 16 = .ok (.aload_n 2, 1) := by decide +kernel
theorem dX4_subtract_17 : decode cX4_subtract 17 = .ok (.aload_n 3, 1) := by decide +kernel
theorem dX4_subtract_18 : decode cX4_subtract 18 = .ok (.invokevirtual 47, 3) := by decide +kernel
theorem dX4_subtract_21 : decode cX4_subtract 21 = .ok (.pop, 1) := by decide +kernel
theorem dX4_subtract_22 : decode cX4_subtract 22 = .ok (.iload 4, 2) := by decide +kernel
theorem dX4_subtract_24 : decode cX4_subtract 24 = .ok (.ifCond .eq 13, 3) := by decide +kernel
theorem dX4_subtract_27 : decode cX4_subtract 27 = .ok (.aload_n 1, 1) := by decide +kernel
theorem dX4_subtract_28 : decode cX4_subtract 28 = .ok (.aload_n 1, 1) := by decide +kernel
theorem dX4_subtract_29 : decode cX4_subtract 29 = .ok (.aload_n 0, 1) := by decide +kernel
theorem dX4_subtract_30 : decode cX4_subtract 30 = .ok (.getfield 40, 3) := by decide +kernel
theorem dX4_subtract_33 : decode cX4_subtract 33 = .ok (.invokevirtual 51, 3) := by decide +kernel
theorem dX4_subtract_36 : decode cX4_subtract 36 = .ok (.pop, 1) := by decide +kernel
theorem dX4_subtract_37 : decode cX4_subtract 37 = .ok (.return_, 1) := by decide +kernel
/-! CoinJudge$Ring.subtract(LCoinJudge$Big;LCoinJudge$Big;LCoinJudge$Big;)V -/
set_option maxHeartbeats 4000000 in
theorem sX4_subtract_0 {G : Gx} {d t : Nat} {h0 : AH} {Φ : Out → AH → Prop} (h : AH) (v0 : Nat) (v1 : Nat) (v2 : Nat) (v3 : Nat) (K : h.kd v2 = 5 ∧ Cw G mX5_compare d 0 [vR v2, vR v3] h (kI (fun x1 h2 => ((0 ≤ x1 → h2.kd v1 = 5 ∧ Cw G mX5_subtract d 0 [vR v1, vR v2, vR v3] h2 (kR (fun x5 h6 => (((0 : Int32) = 0 → Φ (.inl none) h6) ∧ (¬ (0 : Int32) = 0 → h6.kd v0 = 4 ∧ ∀ r10 : Nat, r10 = (h6.r 4000 v0) → Cw G mX5_add d 0 [vR v1, vR v1, vR r10] h6 (kI (fun x11 h12 => Φ (.inl none) h12) (fun x h => Φ (.inr x) h))))) (fun x h => Φ (.inr x) h))) ∧ (¬ 0 ≤ x1 → h2.kd v1 = 5 ∧ Cw G mX5_subtract d 0 [vR v1, vR v2, vR v3] h2 (kR (fun x14 h15 => (((1 : Int32) = 0 → Φ (.inl none) h15) ∧ (¬ (1 : Int32) = 0 → h15.kd v0 = 4 ∧ ∀ r19 : Nat, r19 = (h15.r 4000 v0) → Cw G mX5_add d 0 [vR v1, vR v1, vR r19] h15 (kI (fun x20 h21 => Φ (.inl none) h21) (fun x h => Φ (.inr x) h))))) (fun x h => Φ (.inr x) h))))) (fun x h => Φ (.inr x) h))) : Aw G mX4_subtract (d + 1) t h0 Φ 0 [vR v0, vR v1, vR v2, vR v3, vU] [] h := by
  refine r_aload_n (pc := 0) dX4_subtract_0 rfl ?_
  refine r_aload_n (pc := 1) dX4_subtract_1 rfl ?_
  obtain ⟨hk3, K⟩ := K
  refine r_callV_I (pc := 2) (Y := mX5_compare) (vs := [_]) (st := []) hk3 rfl kc5 q1412 q852 q853 dX4_subtract_2 rfl cd_X5_compare rfl rfl fp_X4_subtract_X5_compare K (fun x1 h2 eh2 wh2 K => ?_) (fun x h1 _ _ e => Tw.out rfl e)
  refine r_if_ge (pc := 5) (tgt := 12) dX4_subtract_5 rfl (fun c4 => ?_) (fun c4 => ?_)
  · have K := K.1 c4
    refine r_iconst (pc := 12) (x := 0) dX4_subtract_12 rfl ?_
    refine r_istore (pc := 13) (lv' := [_, _, _, _, _]) dX4_subtract_13 (by decide) rfl ?_
    refine r_aload_n (pc := 15) dX4_subtract_15 rfl ?_
    refine r_aload_n (pc := 16) dX4_subtract_16 rfl ?_
    refine r_aload_n (pc := 17) dX4_subtract_17 rfl ?_
    obtain ⟨hk7, K⟩ := K
    refine r_callV_R (pc := 18) (Y := mX5_subtract) (vs := [_, _]) (st := []) hk7 rfl kc5 q374 q375 q376 dX4_subtract_18 rfl cd_X5_subtract rfl rfl fp_X4_subtract_X5_subtract K (fun x5 h6 eh6 wh6 K => ?_) (fun x h1 _ _ e => Tw.out rfl e)
    refine r_pop (pc := 21) rfl dX4_subtract_21 ?_
    refine r_iload (pc := 22) dX4_subtract_22 rfl ?_
    refine r_if_eq (pc := 24) (tgt := 37) dX4_subtract_24 rfl (fun c8 => ?_) (fun c8 => ?_)
    · have K := K.1 c8
      exact r_vret (pc := 37) rfl dX4_subtract_37 K
    · have K := K.2 c8
      refine r_aload_n (pc := 27) dX4_subtract_27 rfl ?_
      refine r_aload_n (pc := 28) dX4_subtract_28 rfl ?_
      refine r_aload_n (pc := 29) dX4_subtract_29 rfl ?_
      obtain ⟨hk9, K⟩ := K
      have K := K _ rfl
      refine r_getr' (pc := 30) (T := TX4) 4 0 rfl hk9 (Or.inl q379) dX4_subtract_30 kc4 g4000 ?_
      have hk13 := kd_ext eh6 hk7 (nz rfl)
      refine r_callV_I (pc := 33) (Y := mX5_add) (vs := [_, _]) (st := []) hk13 rfl kc5 q1418 q1169 q1170 dX4_subtract_33 rfl cd_X5_add rfl rfl fp_X4_subtract_X5_add K (fun x11 h12 eh12 wh12 K => ?_) (fun x h1 _ _ e => Tw.out rfl e)
      refine r_pop (pc := 36) rfl dX4_subtract_36 ?_
      exact r_vret (pc := 37) rfl dX4_subtract_37 K
  · have K := K.2 c4
    refine r_iconst (pc := 8) (x := 1) dX4_subtract_8 rfl ?_
    refine r_goto (pc := 9) (tgt := 13) dX4_subtract_9 rfl ?_
    refine r_istore (pc := 13) (lv' := [_, _, _, _, _]) dX4_subtract_13 (by decide) rfl ?_
    refine r_aload_n (pc := 15) dX4_subtract_15 rfl ?_
    refine r_aload_n (pc := 16) dX4_subtract_16 rfl ?_
    refine r_aload_n (pc := 17) dX4_subtract_17 rfl ?_
    obtain ⟨hk16, K⟩ := K
    refine r_callV_R (pc := 18) (Y := mX5_subtract) (vs := [_, _]) (st := []) hk16 rfl kc5 q374 q375 q376 dX4_subtract_18 rfl cd_X5_subtract rfl rfl fp_X4_subtract_X5_subtract K (fun x14 h15 eh15 wh15 K => ?_) (fun x h1 _ _ e => Tw.out rfl e)
    refine r_pop (pc := 21) rfl dX4_subtract_21 ?_
    refine r_iload (pc := 22) dX4_subtract_22 rfl ?_
    refine r_if_eq (pc := 24) (tgt := 37) dX4_subtract_24 rfl (fun c17 => ?_) (fun c17 => ?_)
    · have K := K.1 c17
      exact r_vret (pc := 37) rfl dX4_subtract_37 K
    · have K := K.2 c17
      refine r_aload_n (pc := 27) dX4_subtract_27 rfl ?_
      refine r_aload_n (pc := 28) dX4_subtract_28 rfl ?_
      refine r_aload_n (pc := 29) dX4_subtract_29 rfl ?_
      obtain ⟨hk18, K⟩ := K
      have K := K _ rfl
      refine r_getr' (pc := 30) (T := TX4) 4 0 rfl hk18 (Or.inl q379) dX4_subtract_30 kc4 g4000 ?_
      have hk22 := kd_ext eh15 hk16 (nz rfl)
      refine r_callV_I (pc := 33) (Y := mX5_add) (vs := [_, _]) (st := []) hk22 rfl kc5 q1418 q1169 q1170 dX4_subtract_33 rfl cd_X5_add rfl rfl fp_X4_subtract_X5_add K (fun x20 h21 eh21 wh21 K => ?_) (fun x h1 _ _ e => Tw.out rfl e)
      refine r_pop (pc := 36) rfl dX4_subtract_36 ?_
      exact r_vret (pc := 37) rfl dX4_subtract_37 K
theorem eX4_subtract {G : Gx} {d : Nat} {Φ : Out → AH → Prop} (h : AH) (v0 : Nat) (v1 : Nat) (v2 : Nat) (v3 : Nat) (K : WF G h → Aw G mX4_subtract (d + 1) 0 h Φ 0 [vR v0, vR v1, vR v2, vR v3, vU] [] h) : Cw G mX4_subtract (d + 1) 0 [vR v0, vR v1, vR v2, vR v3] h Φ := Cw.of rfl K
theorem dX6_none_0 : decode cX6_none 0 = .ok (.aload_n 0, 1) := by decide +kernel
theorem dX6_none_1 : decode cX6_none 1 = .ok (.getfield 19, 3) := by decide +kernel
theorem dX6_none_4 : decode cX6_none 4 = .ok (.invokevirtual 26, 3) := by decide +kernel
theorem dX6_none_7 : decode cX6_none 7 = .ok (.ireturn, 1) := by decide +kernel
/-! CoinJudge$Point.none()Z -/
set_option maxHeartbeats 4000000 in
theorem sX6_none_0 {G : Gx} {d t : Nat} {h0 : AH} {Φ : Out → AH → Prop} (h : AH) (v0 : Nat) (K : h.kd v0 = 6 ∧ ∀ r2 : Nat, r2 = (h.r 6002 v0) → h.kd r2 = 5 ∧ Cw G mX5_isZero d 0 [vR r2] h (kI (fun x3 h4 => (x3 = 0 ∨ x3 = 1) ∧ Φ (.inl (some (vI x3))) h4) (fun x h => Φ (.inr x) h))) : Aw G mX6_none (d + 1) t h0 Φ 0 [vR v0] [] h := by
  refine r_aload_n (pc := 0) dX6_none_0 rfl ?_
  obtain ⟨hk1, K⟩ := K
  have K := K _ rfl
  refine r_getr' (pc := 1) (T := TX6) 6 2 rfl hk1 (Or.inl q420) dX6_none_1 kc6 g6002 ?_
  obtain ⟨hk5, K⟩ := K
  refine r_callV_I (pc := 4) (Y := mX5_isZero) (vs := []) (st := []) hk5 rfl kc5 q1466 q1440 q1441 dX6_none_4 rfl cd_X5_isZero rfl rfl fp_X6_none_X5_isZero K (fun x3 h4 eh4 wh4 K => ?_) (fun x h1 _ _ e => Tw.out rfl e)
  obtain ⟨hb6, K⟩ := K
  exact r_iret (pc := 7) rfl (nar_z hb6) dX6_none_7 K
theorem eX6_none {G : Gx} {d : Nat} {Φ : Out → AH → Prop} (h : AH) (v0 : Nat) (K : WF G h → Aw G mX6_none (d + 1) 0 h Φ 0 [vR v0] [] h) : Cw G mX6_none (d + 1) 0 [vR v0] h Φ := Cw.of rfl K
theorem dX6_copy_0 : decode cX6_copy 0 = .ok (.aload_n 0, 1) := by decide +kernel
theorem dX6_copy_1 : decode cX6_copy 1 = .ok (.getfield 10, 3) := by decide +kernel
theorem dX6_copy_4 : decode cX6_copy 4 = .ok (.aload_n 1, 1) := by decide +kernel
theorem dX6_copy_5 : decode cX6_copy 5 = .ok (.getfield 10, 3) := by decide +kernel
theorem dX6_copy_8 : decode cX6_copy 8 = .ok (.invokevirtual 22, 3) := by decide +kernel
theorem dX6_copy_11 : decode cX6_copy 11 = .ok (.pop, 1) := by decide +kernel
theorem dX6_copy_12 : decode cX6_copy 12 = .ok (.aload_n 0, 1) := by decide +kernel
theorem dX6_copy_13 : decode cX6_copy 13 = .ok (.getfield 16, 3) := by decide +kernel
theorem dX6_copy_16 : decode cX6_copy 16 = .ok (.aload_n 1, 1) := by decide +kernel
theorem dX6_copy_17 : decode cX6_copy 17 = .ok (.getfield 16, 3) := by decide +kernel
theorem dX6_copy_20 : decode cX6_copy 20 = .ok (.invokevirtual 22, 3) := by decide +kernel
theorem dX6_copy_23 : decode cX6_copy 23 = .ok (.pop, 1) := by decide +kernel
theorem dX6_copy_24 : decode cX6_copy 24 = .ok (.aload_n 0, 1) := by decide +kernel
theorem dX6_copy_25 : decode cX6_copy 25 = .ok (.getfield 19, 3) := by decide +kernel
theorem dX6_copy_28 : decode cX6_copy 28 = .ok (.aload_n 1, 1) := by decide +kernel
theorem dX6_copy_29 : decode cX6_copy 29 = .ok (.getfield 19, 3) := by decide +kernel
theorem dX6_copy_32 : decode cX6_copy 32 = .ok (.invokevirtual 22, 3) := by decide +kernel
theorem dX6_copy_35 : decode cX6_copy 35 = .ok (.pop, 1) := by decide +kernel
theorem dX6_copy_36 : decode cX6_copy 36 = .ok (.aload_n 0, 1) := by decide +kernel
theorem dX6_copy_37 : decode cX6_copy 37 = .ok (.areturn, 1) := by decide +kernel
/-! CoinJudge$Point.copy(LCoinJudge$Point;)LCoinJudge$Point; -/
set_option maxHeartbeats 4000000 in
theorem sX6_copy_0 {G : Gx} {d t : Nat} {h0 : AH} {Φ : Out → AH → Prop} (h : AH) (v0 : Nat) (v1 : Nat) (K : h.kd v0 = 6 ∧ ∀ r2 : Nat, r2 = (h.r 6000 v0) → h.kd v1 = 6 ∧ ∀ r4 : Nat, r4 = (h.r 6000 v1) → h.kd r2 = 5 ∧ Cw G mX5_copy d 0 [vR r2, vR r4] h (kR (fun x5 h6 => ∀ r9 : Nat, r9 = (h6.r 6001 v0) → ∀ r11 : Nat, r11 = (h6.r 6001 v1) → h6.kd r9 = 5 ∧ Cw G mX5_copy d 0 [vR r9, vR r11] h6 (kR (fun x12 h13 => ∀ r16 : Nat, r16 = (h13.r 6002 v0) → ∀ r18 : Nat, r18 = (h13.r 6002 v1) → h13.kd r16 = 5 ∧ Cw G mX5_copy d 0 [vR r16, vR r18] h13 (kR (fun x19 h20 => Φ (.inl (some (vR v0))) h20) (fun x h => Φ (.inr x) h))) (fun x h => Φ (.inr x) h))) (fun x h => Φ (.inr x) h))) : Aw G mX6_copy (d + 1) t h0 Φ 0 [vR v0, vR v1] [] h := by
  refine r_aload_n (pc := 0) dX6_copy_0 rfl ?_
  obtain ⟨hk1, K⟩ := K
  have K := K _ rfl
  refine r_getr' (pc := 1) (T := TX6) 6 0 rfl hk1 (Or.inl q416) dX6_copy_1 kc6 g6000 ?_
  refine r_aload_n (pc := 4) dX6_copy_4 rfl ?_
  obtain ⟨hk3, K⟩ := K
  have K := K _ rfl
  refine r_getr' (pc := 5) (T := TX6) 6 0 rfl hk3 (Or.inl q416) dX6_copy_5 kc6 g6000 ?_
  obtain ⟨hk7, K⟩ := K
  refine r_callV_R (pc := 8) (Y := mX5_copy) (vs := [_]) (st := []) hk7 rfl kc5 q1475 q1185 q1186 dX6_copy_8 rfl cd_X5_copy rfl rfl fp_X6_copy_X5_copy K (fun x5 h6 eh6 wh6 K => ?_) (fun x h1 _ _ e => Tw.out rfl e)
  refine r_pop (pc := 11) rfl dX6_copy_11 ?_
  refine r_aload_n (pc := 12) dX6_copy_12 rfl ?_
  have hk8 := kd_ext eh6 hk1 (nz rfl)
  have K := K _ rfl
  refine r_getr' (pc := 13) (T := TX6) 6 1 rfl hk8 (Or.inl q418) dX6_copy_13 kc6 g6001 ?_
  refine r_aload_n (pc := 16) dX6_copy_16 rfl ?_
  have hk10 := kd_ext eh6 hk3 (nz rfl)
  have K := K _ rfl
  refine r_getr' (pc := 17) (T := TX6) 6 1 rfl hk10 (Or.inl q418) dX6_copy_17 kc6 g6001 ?_
  obtain ⟨hk14, K⟩ := K
  refine r_callV_R (pc := 20) (Y := mX5_copy) (vs := [_]) (st := []) hk14 rfl kc5 q1475 q1185 q1186 dX6_copy_20 rfl cd_X5_copy rfl rfl fp_X6_copy_X5_copy K (fun x12 h13 eh13 wh13 K => ?_) (fun x h1 _ _ e => Tw.out rfl e)
  refine r_pop (pc := 23) rfl dX6_copy_23 ?_
  refine r_aload_n (pc := 24) dX6_copy_24 rfl ?_
  have hk15 := kd_ext eh13 hk8 (nz rfl)
  have K := K _ rfl
  refine r_getr' (pc := 25) (T := TX6) 6 2 rfl hk15 (Or.inl q420) dX6_copy_25 kc6 g6002 ?_
  refine r_aload_n (pc := 28) dX6_copy_28 rfl ?_
  have hk17 := kd_ext eh13 hk10 (nz rfl)
  have K := K _ rfl
  refine r_getr' (pc := 29) (T := TX6) 6 2 rfl hk17 (Or.inl q420) dX6_copy_29 kc6 g6002 ?_
  obtain ⟨hk21, K⟩ := K
  refine r_callV_R (pc := 32) (Y := mX5_copy) (vs := [_]) (st := []) hk21 rfl kc5 q1475 q1185 q1186 dX6_copy_32 rfl cd_X5_copy rfl rfl fp_X6_copy_X5_copy K (fun x19 h20 eh20 wh20 K => ?_) (fun x h1 _ _ e => Tw.out rfl e)
  refine r_pop (pc := 35) rfl dX6_copy_35 ?_
  refine r_aload_n (pc := 36) dX6_copy_36 rfl ?_
  exact r_aret (pc := 37) rfl rfl dX6_copy_37 K
theorem eX6_copy {G : Gx} {d : Nat} {Φ : Out → AH → Prop} (h : AH) (v0 : Nat) (v1 : Nat) (K : WF G h → Aw G mX6_copy (d + 1) 0 h Φ 0 [vR v0, vR v1] [] h) : Cw G mX6_copy (d + 1) 0 [vR v0, vR v1] h Φ := Cw.of rfl K
theorem dX4_reduce_0 : decode cX4_reduce 0 = .ok (.aload_n 1, 1) := by decide +kernel
theorem dX4_reduce_1 : decode cX4_reduce 1 = .ok (.aload_n 0, 1) := by decide +kernel
theorem dX4_reduce_2 : decode cX4_reduce 2 = .ok (.getfield 40, 3) := by decide +kernel
theorem dX4_reduce_5 : decode cX4_reduce 5 = .ok (.invokevirtual 55, 3) := by decide +kernel
theorem dX4_reduce_8 : decode cX4_reduce 8 = .ok (.ifCond .lt 16, 3) := by decide +kernel
theorem dX4_reduce_11 : decode cX4_reduce 11 = .ok (.aload_n 1, 1) := by decide +kernel
theorem dX4_reduce_12 : decode cX4_reduce 12 = .ok (.aload_n 1, 1) := by decide +kernel
theorem dX4_reduce_13 : decode cX4_reduce 13 = .ok (.aload_n 0, 1) := by decide +kernel
theorem dX4_reduce_14 : decode cX4_reduce 14 = .ok (.getfield 40, 3) := by decide +kernel
theorem dX4_reduce_17 : decode cX4_reduce 17 = .ok (.invokevirtual 47, 3) := by decide +kernel
theorem dX4_reduce_20 : decode cX4_reduce 20 = .ok (.pop, 1) := by decide +kernel
theorem dX4_reduce_21 : decode cX4_reduce 21 = .ok (.goto (-21), 3) := by decide +kernel
theorem dX4_reduce_24 : decode cX4_reduce 24 = .ok (.return_, 1) := by decide +kernel
/-! CoinJudge$Ring.reduce(LCoinJudge$Big;)V -/
set_option maxHeartbeats 4000000 in
theorem sX4_reduce_0 {G : Gx} {d t : Nat} {h0 : AH} {Φ : Out → AH → Prop} (h : AH) (v0 : Nat) (v1 : Nat) (K : h.kd v0 = 4 ∧ ∀ r2 : Nat, r2 = (h.r 4000 v0) → h.kd v1 = 5 ∧ Cw G mX5_compare d 0 [vR v1, vR r2] h (kI (fun x3 h4 => ((x3 < 0 → Φ (.inl none) h4) ∧ (¬ x3 < 0 → Cw G mX5_subtract d 0 [vR v1, vR v1, vR r2] h4 (kR (fun x10 h11 => Aw G mX4_reduce (d + 1) t h0 Φ 0 [vR v0, vR v1] [] h11) (fun x h => Φ (.inr x) h))))) (fun x h => Φ (.inr x) h))) : Aw G mX4_reduce (d + 1) t h0 Φ 0 [vR v0, vR v1] [] h := by
  refine r_aload_n (pc := 0) dX4_reduce_0 rfl ?_
  refine r_aload_n (pc := 1) dX4_reduce_1 rfl ?_
  obtain ⟨hk1, K⟩ := K
  have K := K _ rfl
  refine r_getr' (pc := 2) (T := TX4) 4 0 rfl hk1 (Or.inl q379) dX4_reduce_2 kc4 g4000 ?_
  obtain ⟨hk5, K⟩ := K
  refine r_callV_I (pc := 5) (Y := mX5_compare) (vs := [_]) (st := []) hk5 rfl kc5 q1412 q852 q853 dX4_reduce_5 rfl cd_X5_compare rfl rfl fp_X4_reduce_X5_compare K (fun x3 h4 eh4 wh4 K => ?_) (fun x h1 _ _ e => Tw.out rfl e)
  refine r_if_lt (pc := 8) (tgt := 24) dX4_reduce_8 rfl (fun c6 => ?_) (fun c6 => ?_)
  · have K := K.1 c6
    exact r_vret (pc := 24) rfl dX4_reduce_24 K
  · have K := K.2 c6
    refine r_aload_n (pc := 11) dX4_reduce_11 rfl ?_
    refine r_aload_n (pc := 12) dX4_reduce_12 rfl ?_
    refine r_aload_n (pc := 13) dX4_reduce_13 rfl ?_
    have hk7 := kd_ext eh4 hk1 (nz rfl)
    have hv8 := fr_self (key := 4000) hk1
    have hv9 := (fr_ext (key := 4000) eh4 hk1 (nz rfl) (ne0 wh4 hk7 (nz rfl)) (nm rfl)).trans hv8
    refine r_getr' (pc := 14) (T := TX4) 4 0 hv9 hk7 (Or.inl q379) dX4_reduce_14 kc4 g4000 ?_
    have hk12 := kd_ext eh4 hk5 (nz rfl)
    refine r_callV_R (pc := 17) (Y := mX5_subtract) (vs := [_, _]) (st := []) hk12 rfl kc5 q374 q375 q376 dX4_reduce_17 rfl cd_X5_subtract rfl rfl fp_X4_reduce_X5_subtract K (fun x10 h11 eh11 wh11 K => ?_) (fun x h1 _ _ e => Tw.out rfl e)
    refine r_pop (pc := 20) rfl dX4_reduce_20 ?_
    refine r_goto (pc := 21) (tgt := 0) dX4_reduce_21 rfl ?_
    refine r_mask (pc := 0) [true, true] rfl ?_
    exact K
theorem eX4_reduce {G : Gx} {d : Nat} {Φ : Out → AH → Prop} (h : AH) (v0 : Nat) (v1 : Nat) (K : WF G h → Aw G mX4_reduce (d + 1) 0 h Φ 0 [vR v0, vR v1] [] h) : Cw G mX4_reduce (d + 1) 0 [vR v0, vR v1] h Φ := Cw.of rfl K
theorem dX4_modulus_0 : decode cX4_modulus 0 = .ok (.aload_n 0, 1) := by decide +kernel
theorem dX4_modulus_1 : decode cX4_modulus 1 = .ok (.getfield 40, 3) := by decide +kernel
theorem dX4_modulus_4 : decode cX4_modulus 4 = .ok (.areturn, 1) := by decide +kernel
/-! CoinJudge$Ring.modulus()LCoinJudge$Big; -/
set_option maxHeartbeats 4000000 in
theorem sX4_modulus_0 {G : Gx} {d t : Nat} {h0 : AH} {Φ : Out → AH → Prop} (h : AH) (v0 : Nat) (K : h.kd v0 = 4 ∧ ∀ r2 : Nat, r2 = (h.r 4000 v0) → Φ (.inl (some (vR r2))) h) : Aw G mX4_modulus (d + 1) t h0 Φ 0 [vR v0] [] h := by
  refine r_aload_n (pc := 0) dX4_modulus_0 rfl ?_
  obtain ⟨hk1, K⟩ := K
  have K := K _ rfl
  refine r_getr' (pc := 1) (T := TX4) 4 0 rfl hk1 (Or.inl q379) dX4_modulus_1 kc4 g4000 ?_
  exact r_aret (pc := 4) rfl rfl dX4_modulus_4 K
theorem eX4_modulus {G : Gx} {d : Nat} {Φ : Out → AH → Prop} (h : AH) (v0 : Nat) (K : WF G h → Aw G mX4_modulus (d + 1) 0 h Φ 0 [vR v0] [] h) : Cw G mX4_modulus (d + 1) 0 [vR v0] h Φ := Cw.of rfl K
theorem dX4_init_0 : decode cX4_init 0 = .ok (.aload_n 0, 1) := by decide +kernel
theorem dX4_init_1 : decode cX4_init 1 = .ok (.invokespecial 3, 3) := by decide +kernel
theorem dX4_init_4 : decode cX4_init 4 = .ok (.aload_n 0, 1) := by decide +kernel
theorem dX4_init_5 : decode cX4_init 5 = .ok (.new 9, 3) := by decide +kernel
theorem dX4_init_8 : decode cX4_init 8 = .ok (.dup, 1) := by decide +kernel
theorem dX4_init_9 : decode cX4_init 9 = .ok (.invokespecial 11, 3) := by decide +kernel
theorem dX4_init_12 : decode cX4_init 12 = .ok (.putfield 12, 3) := by decide +kernel
theorem dX4_init_15 : decode cX4_init 15 = .ok (.aload_n 0, 1) := by decide +kernel
theorem dX4_init_16 : decode cX4_init 16 = .ok (.bipush 16, 2) := by decide +kernel
theorem dX4_init_18 : decode cX4_init 18 = .ok (.newarray .int, 2) := by decide +kernel
theorem dX4_init_20 : decode cX4_init 20 = .ok (.putfield 18, 3) := by decide +kernel
theorem dX4_init_23 : decode cX4_init 23 = .ok (.aload_n 0, 1) := by decide +kernel
theorem dX4_init_24 : decode cX4_init 24 = .ok (.bipush 16, 2) := by decide +kernel
theorem dX4_init_26 : decode cX4_init 26 = .ok (.newarray .int, 2) := by decide +kernel
theorem dX4_init_28 : decode cX4_init 28 = .ok (.putfield 22, 3) := by decide +kernel
theorem dX4_init_31 : decode cX4_init 31 = .ok (.aload_n 0, 1) := by decide +kernel
theorem dX4_init_32 : decode cX4_init 32 = .ok (.new 9, 3) := by decide +kernel
theorem dX4_init_35 : decode cX4_init 35 = .ok (.dup, 1) := by decide +kernel
theorem dX4_init_36 : decode cX4_init 36 = .ok (.invokespecial 11, 3) := by decide +kernel
theorem dX4_init_39 : decode cX4_init 39 = .ok (.putfield 25, 3) := by decide +kernel
theorem dX4_init_42 : decode cX4_init 42 = .ok (.aload_n 0, 1) := by decide +kernel
theorem dX4_init_43 : decode cX4_init 43 = .ok (.new 9, 3) := by decide +kernel
theorem dX4_init_46 : decode cX4_init 46 = .ok (.dup, 1) := by decide +kernel
theorem dX4_init_47 : decode cX4_init 47 = .ok (.invokespecial 11, 3) := by decide +kernel
theorem dX4_init_50 : decode cX4_init 50 = .ok (.putfield 28, 3) := by decide +kernel
theorem dX4_init_53 : decode cX4_init 53 = .ok (.aload_n 0, 1) := by decide +kernel
theorem dX4_init_54 : decode cX4_init 54 = .ok (.new 9, 3) := by decide +kernel
theorem dX4_init_57 : decode cX4_init 57 = .ok (.dup, 1) := by decide +kernel
theorem dX4_init_58 : decode cX4_init 58 = .ok (.invokespecial 11, 3) := by decide +kernel
theorem dX4_init_61 : decode cX4_init 61 = .ok (.putfield 31, 3) := by decide +kernel
theorem dX4_init_64 : decode cX4_init 64 = .ok (.aload_n 0, 1) := by decide +kernel
theorem dX4_init_65 : decode cX4_init 65 = .ok (.new 9, 3) := by decide +kernel
theorem dX4_init_68 : decode cX4_init 68 = .ok (.dup, 1) := by decide +kernel
theorem dX4_init_69 : decode cX4_init 69 = .ok (.invokespecial 11, 3) := by decide +kernel
theorem dX4_init_72 : decode cX4_init 72 = .ok (.putfield 34, 3) := by decide +kernel
theorem dX4_init_75 : decode cX4_init 75 = .ok (.aload_n 0, 1) := by decide +kernel
theorem dX4_init_76 : decode cX4_init 76 = .ok (.new 9, 3) := by decide +kernel
theorem dX4_init_79 : decode cX4_init 79 = .ok (.dup, 1) := by decide +kernel
theorem dX4_init_80 : decode cX4_init 80 = .ok (.invokespecial 11, 3) := by decide +kernel
theorem dX4_init_83 : decode cX4_init 83 = .ok (.putfield 37, 3) := by decide +kernel
theorem dX4_init_86 : decode cX4_init 86 = .ok (.aload_n 0, 1) := by decide +kernel
theorem dX4_init_87 : decode cX4_init 87 = .ok (.aload_n 1, 1) := by decide +kernel
theorem dX4_init_88 : decode cX4_init 88 = .ok (.putfield 40, 3) := by decide +kernel
theorem dX4_init_91 : decode cX4_init 91 = .ok (.aload_n 0, 1) := by decide +kernel
theorem dX4_init_92 : decode cX4_init 92 = .ok (.getfield 12, 3) := by decide +kernel
theorem dX4_init_95 : decode cX4_init 95 = .ok (.aload_n 0, 1) := by decide +kernel
theorem dX4_init_96 : decode cX4_init 96 = .ok (.getfield 12, 3) := by decide +kernel
theorem dX4_init_99 : decode cX4_init 99 = .ok (.invokevirtual 43, 3) := by decide +kernel
theorem dX4_init_102 : decode cX4_init 102 = .ok (.aload_n 1, 1) := by decide +kernel
theorem dX4_init_103 : decode cX4_init 103 = .ok (.invokevirtual 47, 3) := by decide +kernel
theorem dX4_init_106 : decode cX4_init 106 = .ok (.pop, 1) := by decide +kernel
theorem dX4_init_107 : decode cX4_init 107 = .ok (.return_, 1) := by decide +kernel
/-! CoinJudge$Ring.<init>(LCoinJudge$Big;)V -/
set_option maxHeartbeats 4000000 in
theorem sX4_init_0 {G : Gx} {d t : Nat} {h0 : AH} {Φ : Out → AH → Prop} (h : AH) (v0 : Nat) (v1 : Nat) (K : h.kd v0 = 4 ∧ ∀ q2 : Nat, q2 = h.z → WF G h → ∀ h3 : AH, h3 = h.new 5 1 [] [] [] → Cw G mX5_init d q2 [vR q2] h3 (kV (fun h6 => ∀ h9 : AH, h9 = h6.pr 4001 v0 q2 → ∀ q10 : Nat, q10 = h9.z → WF G h9 → ∀ h11 : AH, h11 = h9.new 100 16 (List.replicate 16 0) [] [] → ∀ h15 : AH, h15 = h11.pr 4002 v0 q10 → ∀ q16 : Nat, q16 = h15.z → WF G h15 → ∀ h17 : AH, h17 = h15.new 100 16 (List.replicate 16 0) [] [] → ∀ h21 : AH, h21 = h17.pr 4003 v0 q16 → ∀ q22 : Nat, q22 = h21.z → WF G h21 → ∀ h23 : AH, h23 = h21.new 5 1 [] [] [] → Cw G mX5_init d q22 [vR q22] h23 (kV (fun h26 => ∀ h30 : AH, h30 = h26.pr 4004 v0 q22 → ∀ q31 : Nat, q31 = h30.z → WF G h30 → ∀ h32 : AH, h32 = h30.new 5 1 [] [] [] → Cw G mX5_init d q31 [vR q31] h32 (kV (fun h35 => ∀ h39 : AH, h39 = h35.pr 4005 v0 q31 → ∀ q40 : Nat, q40 = h39.z → WF G h39 → ∀ h41 : AH, h41 = h39.new 5 1 [] [] [] → Cw G mX5_init d q40 [vR q40] h41 (kV (fun h44 => ∀ h48 : AH, h48 = h44.pr 4006 v0 q40 → ∀ q49 : Nat, q49 = h48.z → WF G h48 → ∀ h50 : AH, h50 = h48.new 5 1 [] [] [] → Cw G mX5_init d q49 [vR q49] h50 (kV (fun h53 => ∀ h57 : AH, h57 = h53.pr 4007 v0 q49 → ∀ q58 : Nat, q58 = h57.z → WF G h57 → ∀ h59 : AH, h59 = h57.new 5 1 [] [] [] → Cw G mX5_init d q58 [vR q58] h59 (kV (fun h62 => ∀ h66 : AH, h66 = h62.pr 4008 v0 q58 → ∀ h68 : AH, h68 = h66.pr 4000 v0 v1 → ∀ r70 : Nat, r70 = (h68.r 4001 v0) → h68.kd r70 = 5 ∧ Cw G mX5_zero d 0 [vR r70] h68 (kR (fun x71 h72 => Cw G mX5_subtract d 0 [vR r70, vR x71, vR v1] h72 (kR (fun x74 h75 => Φ (.inl none) h75) (fun x h => Φ (.inr x) h))) (fun x h => Φ (.inr x) h))) (fun x h => Φ (.inr x) h))) (fun x h => Φ (.inr x) h))) (fun x h => Φ (.inr x) h))) (fun x h => Φ (.inr x) h))) (fun x h => Φ (.inr x) h))) (fun x h => Φ (.inr x) h))) : Aw G mX4_init (d + 1) v0 h0 Φ 0 [vR v0, vR v1] [] h := by
  refine r_aload_n (pc := 0) dX4_init_0 rfl ?_
  obtain ⟨hk1, K⟩ := K
  refine r_objInit (pc := 1) (nzk hk1 rfl) q370 q207 q208 dX4_init_1 (by decide) ?_
  refine r_aload_n (pc := 4) dX4_init_4 rfl ?_
  refine r_new (pc := 5) 5 kc5 rfl q371 q294 q155 dX4_init_5 (fun q2 eq2 zq2 wq2 => ?_)
  refine r_nameH (fun h3 eh3 => ?_)
  have K := K q2 eq2 wq2 h3 eh3
  have hk4 := kd_newSE eh3 eq2
  refine r_dup (pc := 8) rfl dX4_init_8 ?_
  refine r_callIN_V (pc := 9) (Y := mX5_init) (vs := []) (st := [_, _]) (nzk hk4 rfl) q372 q296 q297 rfl rfl rfl dX4_init_9 rfl (Or.inr zq2) rfl rfl fp_X4_init_X5_init K (fun h6 eh6 wh6 K => ?_) (fun x h1 _ _ e => Tw.out rfl e)
  have hk7 := kd_newE eh3 wq2 hk1 (nz rfl)
  have hk8 := kd_ext eh6 hk7 (nz rfl)
  refine r_putr (pc := 12) (T := TX4) (key := 4001) 4 1 (ty := (.object "CoinJudge$Big")) hk8 (Or.inl q380) dX4_init_12 kc4 rfl rfl (Or.inr q380) (Or.inr (Or.inl rfl)) ?_
  refine r_nameH (fun h9 eh9 => ?_)
  have K := K h9 eh9
  refine r_aload_n (pc := 15) dX4_init_15 rfl ?_
  refine r_bipush (pc := 16) (x := 16) dX4_init_16 rfl ?_
  refine r_newaI (pc := 18) 100 (N := 16) rfl rfl (by decide) q283 (by decide) rfl (by decide) dX4_init_18 (fun q10 eq10 zq10 wq10 => ?_)
  refine r_nameH (fun h11 eh11 => ?_)
  have K := K q10 eq10 wq10 h11 eh11
  have hk12 := kd_newSE eh11 eq10
  have hk13 := kd_pr eh9 hk8
  have hk14 := kd_newE eh11 wq10 hk13 (nz rfl)
  refine r_putr (pc := 20) (T := TX4) (key := 4002) 4 2 (ty := (.array .int)) hk14 (Or.inl q381) dX4_init_20 kc4 rfl rfl (Or.inr q381) (Or.inr (Or.inl rfl)) ?_
  refine r_nameH (fun h15 eh15 => ?_)
  have K := K h15 eh15
  refine r_aload_n (pc := 23) dX4_init_23 rfl ?_
  refine r_bipush (pc := 24) (x := 16) dX4_init_24 rfl ?_
  refine r_newaI (pc := 26) 100 (N := 16) rfl rfl (by decide) q283 (by decide) rfl (by decide) dX4_init_26 (fun q16 eq16 zq16 wq16 => ?_)
  refine r_nameH (fun h17 eh17 => ?_)
  have K := K q16 eq16 wq16 h17 eh17
  have hk18 := kd_newSE eh17 eq16
  have hk19 := kd_pr eh15 hk14
  have hk20 := kd_newE eh17 wq16 hk19 (nz rfl)
  refine r_putr (pc := 28) (T := TX4) (key := 4003) 4 3 (ty := (.array .int)) hk20 (Or.inl q382) dX4_init_28 kc4 rfl rfl (Or.inr q382) (Or.inr (Or.inl rfl)) ?_
  refine r_nameH (fun h21 eh21 => ?_)
  have K := K h21 eh21
  refine r_aload_n (pc := 31) dX4_init_31 rfl ?_
  refine r_new (pc := 32) 5 kc5 rfl q371 q294 q155 dX4_init_32 (fun q22 eq22 zq22 wq22 => ?_)
  refine r_nameH (fun h23 eh23 => ?_)
  have K := K q22 eq22 wq22 h23 eh23
  have hk24 := kd_newSE eh23 eq22
  refine r_dup (pc := 35) rfl dX4_init_35 ?_
  refine r_callIN_V (pc := 36) (Y := mX5_init) (vs := []) (st := [_, _]) (nzk hk24 rfl) q372 q296 q297 rfl rfl rfl dX4_init_36 rfl (Or.inr zq22) rfl rfl fp_X4_init_X5_init K (fun h26 eh26 wh26 K => ?_) (fun x h1 _ _ e => Tw.out rfl e)
  have hk27 := kd_pr eh21 hk20
  have hk28 := kd_newE eh23 wq22 hk27 (nz rfl)
  have hk29 := kd_ext eh26 hk28 (nz rfl)
  refine r_putr (pc := 39) (T := TX4) (key := 4004) 4 4 (ty := (.object "CoinJudge$Big")) hk29 (Or.inl q383) dX4_init_39 kc4 rfl rfl (Or.inr q383) (Or.inr (Or.inl rfl)) ?_
  refine r_nameH (fun h30 eh30 => ?_)
  have K := K h30 eh30
  refine r_aload_n (pc := 42) dX4_init_42 rfl ?_
  refine r_new (pc := 43) 5 kc5 rfl q371 q294 q155 dX4_init_43 (fun q31 eq31 zq31 wq31 => ?_)
  refine r_nameH (fun h32 eh32 => ?_)
  have K := K q31 eq31 wq31 h32 eh32
  have hk33 := kd_newSE eh32 eq31
  refine r_dup (pc := 46) rfl dX4_init_46 ?_
  refine r_callIN_V (pc := 47) (Y := mX5_init) (vs := []) (st := [_, _]) (nzk hk33 rfl) q372 q296 q297 rfl rfl rfl dX4_init_47 rfl (Or.inr zq31) rfl rfl fp_X4_init_X5_init K (fun h35 eh35 wh35 K => ?_) (fun x h1 _ _ e => Tw.out rfl e)
  have hk36 := kd_pr eh30 hk29
  have hk37 := kd_newE eh32 wq31 hk36 (nz rfl)
  have hk38 := kd_ext eh35 hk37 (nz rfl)
  refine r_putr (pc := 50) (T := TX4) (key := 4005) 4 5 (ty := (.object "CoinJudge$Big")) hk38 (Or.inl q384) dX4_init_50 kc4 rfl rfl (Or.inr q384) (Or.inr (Or.inl rfl)) ?_
  refine r_nameH (fun h39 eh39 => ?_)
  have K := K h39 eh39
  refine r_aload_n (pc := 53) dX4_init_53 rfl ?_
  refine r_new (pc := 54) 5 kc5 rfl q371 q294 q155 dX4_init_54 (fun q40 eq40 zq40 wq40 => ?_)
  refine r_nameH (fun h41 eh41 => ?_)
  have K := K q40 eq40 wq40 h41 eh41
  have hk42 := kd_newSE eh41 eq40
  refine r_dup (pc := 57) rfl dX4_init_57 ?_
  refine r_callIN_V (pc := 58) (Y := mX5_init) (vs := []) (st := [_, _]) (nzk hk42 rfl) q372 q296 q297 rfl rfl rfl dX4_init_58 rfl (Or.inr zq40) rfl rfl fp_X4_init_X5_init K (fun h44 eh44 wh44 K => ?_) (fun x h1 _ _ e => Tw.out rfl e)
  have hk45 := kd_pr eh39 hk38
  have hk46 := kd_newE eh41 wq40 hk45 (nz rfl)
  have hk47 := kd_ext eh44 hk46 (nz rfl)
  refine r_putr (pc := 61) (T := TX4) (key := 4006) 4 6 (ty := (.object "CoinJudge$Big")) hk47 (Or.inl q385) dX4_init_61 kc4 rfl rfl (Or.inr q385) (Or.inr (Or.inl rfl)) ?_
  refine r_nameH (fun h48 eh48 => ?_)
  have K := K h48 eh48
  refine r_aload_n (pc := 64) dX4_init_64 rfl ?_
  refine r_new (pc := 65) 5 kc5 rfl q371 q294 q155 dX4_init_65 (fun q49 eq49 zq49 wq49 => ?_)
  refine r_nameH (fun h50 eh50 => ?_)
  have K := K q49 eq49 wq49 h50 eh50
  have hk51 := kd_newSE eh50 eq49
  refine r_dup (pc := 68) rfl dX4_init_68 ?_
  refine r_callIN_V (pc := 69) (Y := mX5_init) (vs := []) (st := [_, _]) (nzk hk51 rfl) q372 q296 q297 rfl rfl rfl dX4_init_69 rfl (Or.inr zq49) rfl rfl fp_X4_init_X5_init K (fun h53 eh53 wh53 K => ?_) (fun x h1 _ _ e => Tw.out rfl e)
  have hk54 := kd_pr eh48 hk47
  have hk55 := kd_newE eh50 wq49 hk54 (nz rfl)
  have hk56 := kd_ext eh53 hk55 (nz rfl)
  refine r_putr (pc := 72) (T := TX4) (key := 4007) 4 7 (ty := (.object "CoinJudge$Big")) hk56 (Or.inl q386) dX4_init_72 kc4 rfl rfl (Or.inr q386) (Or.inr (Or.inl rfl)) ?_
  refine r_nameH (fun h57 eh57 => ?_)
  have K := K h57 eh57
  refine r_aload_n (pc := 75) dX4_init_75 rfl ?_
  refine r_new (pc := 76) 5 kc5 rfl q371 q294 q155 dX4_init_76 (fun q58 eq58 zq58 wq58 => ?_)
  refine r_nameH (fun h59 eh59 => ?_)
  have K := K q58 eq58 wq58 h59 eh59
  have hk60 := kd_newSE eh59 eq58
  refine r_dup (pc := 79) rfl dX4_init_79 ?_
  refine r_callIN_V (pc := 80) (Y := mX5_init) (vs := []) (st := [_, _]) (nzk hk60 rfl) q372 q296 q297 rfl rfl rfl dX4_init_80 rfl (Or.inr zq58) rfl rfl fp_X4_init_X5_init K (fun h62 eh62 wh62 K => ?_) (fun x h1 _ _ e => Tw.out rfl e)
  have hk63 := kd_pr eh57 hk56
  have hk64 := kd_newE eh59 wq58 hk63 (nz rfl)
  have hk65 := kd_ext eh62 hk64 (nz rfl)
  refine r_putr (pc := 83) (T := TX4) (key := 4008) 4 8 (ty := (.object "CoinJudge$Big")) hk65 (Or.inl q387) dX4_init_83 kc4 rfl rfl (Or.inr q387) (Or.inr (Or.inl rfl)) ?_
  refine r_nameH (fun h66 eh66 => ?_)
  have K := K h66 eh66
  refine r_aload_n (pc := 86) dX4_init_86 rfl ?_
  refine r_aload_n (pc := 87) dX4_init_87 rfl ?_
  have hk67 := kd_pr eh66 hk65
  refine r_putr (pc := 88) (T := TX4) (key := 4000) 4 0 (ty := (.object "CoinJudge$Big")) hk67 (Or.inl q379) dX4_init_88 kc4 rfl rfl (Or.inr q379) (Or.inr (Or.inl rfl)) ?_
  refine r_nameH (fun h68 eh68 => ?_)
  have K := K h68 eh68
  refine r_aload_n (pc := 91) dX4_init_91 rfl ?_
  have hk69 := kd_pr eh68 hk67
  have K := K _ rfl
  refine r_getr' (pc := 92) (T := TX4) 4 1 rfl hk69 (Or.inl q380) dX4_init_92 kc4 g4001 ?_
  refine r_aload_n (pc := 95) dX4_init_95 rfl ?_
  refine r_getr' (pc := 96) (T := TX4) 4 1 rfl hk69 (Or.inl q380) dX4_init_96 kc4 g4001 ?_
  obtain ⟨hk73, K⟩ := K
  refine r_callV_R (pc := 99) (Y := mX5_zero) (vs := []) (st := [_]) hk73 rfl kc5 q373 q312 q313 dX4_init_99 rfl cd_X5_zero rfl rfl fp_X4_init_X5_zero K (fun x71 h72 eh72 wh72 K => ?_) (fun x h1 _ _ e => Tw.out rfl e)
  refine r_aload_n (pc := 102) dX4_init_102 rfl ?_
  have hk76 := kd_ext eh72 hk73 (nz rfl)
  refine r_callV_R (pc := 103) (Y := mX5_subtract) (vs := [_, _]) (st := []) hk76 rfl kc5 q374 q375 q376 dX4_init_103 rfl cd_X5_subtract rfl rfl fp_X4_init_X5_subtract K (fun x74 h75 eh75 wh75 K => ?_) (fun x h1 _ _ e => Tw.out rfl e)
  refine r_pop (pc := 106) rfl dX4_init_106 ?_
  exact r_vret (pc := 107) rfl dX4_init_107 K
theorem eX4_init {G : Gx} {d : Nat} {Φ : Out → AH → Prop} (h : AH) (v0 : Nat) (v1 : Nat) (K : WF G h → Aw G mX4_init (d + 1) v0 h Φ 0 [vR v0, vR v1] [] h) : Cw G mX4_init (d + 1) v0 [vR v0, vR v1] h Φ := Cw.of rfl K
theorem dX6_init_0 : decode cX6_init 0 = .ok (.aload_n 0, 1) := by decide +kernel
theorem dX6_init_1 : decode cX6_init 1 = .ok (.invokespecial 1, 3) := by decide +kernel
theorem dX6_init_4 : decode cX6_init 4 = .ok (.aload_n 0, 1) := by decide +kernel
theorem dX6_init_5 : decode cX6_init 5 = .ok (.new 7, 3) := by decide +kernel
theorem dX6_init_8 : decode cX6_init 8 = .ok (.dup, 1) := by decide +kernel
theorem dX6_init_9 : decode cX6_init 9 = .ok (.invokespecial 9, 3) := by decide +kernel
theorem dX6_init_12 : decode cX6_init 12 = .ok (.putfield 10, 3) := by decide +kernel
theorem dX6_init_15 : decode cX6_init 15 = .ok (.aload_n 0, 1) := by decide +kernel
theorem dX6_init_16 : decode cX6_init 16 = .ok (.new 7, 3) := by decide +kernel
theorem dX6_init_19 : decode cX6_init 19 = .ok (.dup, 1) := by decide +kernel
theorem dX6_init_20 : decode cX6_init 20 = .ok (.invokespecial 9, 3) := by decide +kernel
theorem dX6_init_23 : decode cX6_init 23 = .ok (.putfield 16, 3) := by decide +kernel
theorem dX6_init_26 : decode cX6_init 26 = .ok (.aload_n 0, 1) := by decide +kernel
theorem dX6_init_27 : decode cX6_init 27 = .ok (.new 7, 3) := by decide +kernel
theorem dX6_init_30 : decode cX6_init 30 = .ok (.dup, 1) := by decide +kernel
theorem dX6_init_31 : decode cX6_init 31 = .ok (.invokespecial 9, 3) := by decide +kernel
theorem dX6_init_34 : decode cX6_init 34 = .ok (.putfield 19, 3) := by decide +kernel
theorem dX6_init_37 : decode cX6_init 37 = .ok (.return_, 1) := by decide +kernel
/-! CoinJudge$Point.<init>()V -/
set_option maxHeartbeats 4000000 in
theorem sX6_init_0 {G : Gx} {d t : Nat} {h0 : AH} {Φ : Out → AH → Prop} (h : AH) (v0 : Nat) (K : h.kd v0 = 6 ∧ ∀ q2 : Nat, q2 = h.z → WF G h → ∀ h3 : AH, h3 = h.new 5 1 [] [] [] → Cw G mX5_init d q2 [vR q2] h3 (kV (fun h6 => ∀ h9 : AH, h9 = h6.pr 6000 v0 q2 → ∀ q10 : Nat, q10 = h9.z → WF G h9 → ∀ h11 : AH, h11 = h9.new 5 1 [] [] [] → Cw G mX5_init d q10 [vR q10] h11 (kV (fun h14 => ∀ h18 : AH, h18 = h14.pr 6001 v0 q10 → ∀ q19 : Nat, q19 = h18.z → WF G h18 → ∀ h20 : AH, h20 = h18.new 5 1 [] [] [] → Cw G mX5_init d q19 [vR q19] h20 (kV (fun h23 => ∀ h27 : AH, h27 = h23.pr 6002 v0 q19 → Φ (.inl none) h27) (fun x h => Φ (.inr x) h))) (fun x h => Φ (.inr x) h))) (fun x h => Φ (.inr x) h))) : Aw G mX6_init (d + 1) v0 h0 Φ 0 [vR v0] [] h := by
  refine r_aload_n (pc := 0) dX6_init_0 rfl ?_
  obtain ⟨hk1, K⟩ := K
  refine r_objInit (pc := 1) (nzk hk1 rfl) q413 q207 q208 dX6_init_1 (by decide) ?_
  refine r_aload_n (pc := 4) dX6_init_4 rfl ?_
  refine r_new (pc := 5) 5 kc5 rfl q414 q294 q155 dX6_init_5 (fun q2 eq2 zq2 wq2 => ?_)
  refine r_nameH (fun h3 eh3 => ?_)
  have K := K q2 eq2 wq2 h3 eh3
  have hk4 := kd_newSE eh3 eq2
  refine r_dup (pc := 8) rfl dX6_init_8 ?_
  refine r_callIN_V (pc := 9) (Y := mX5_init) (vs := []) (st := [_, _]) (nzk hk4 rfl) q415 q296 q297 rfl rfl rfl dX6_init_9 rfl (Or.inr zq2) rfl rfl fp_X6_init_X5_init K (fun h6 eh6 wh6 K => ?_) (fun x h1 _ _ e => Tw.out rfl e)
  have hk7 := kd_newE eh3 wq2 hk1 (nz rfl)
  have hk8 := kd_ext eh6 hk7 (nz rfl)
  refine r_putr (pc := 12) (T := TX6) (key := 6000) 6 0 (ty := (.object "CoinJudge$Big")) hk8 (Or.inl q416) dX6_init_12 kc6 rfl rfl (Or.inr q416) (Or.inr (Or.inl rfl)) ?_
  refine r_nameH (fun h9 eh9 => ?_)
  have K := K h9 eh9
  refine r_aload_n (pc := 15) dX6_init_15 rfl ?_
  refine r_new (pc := 16) 5 kc5 rfl q414 q294 q155 dX6_init_16 (fun q10 eq10 zq10 wq10 => ?_)
  refine r_nameH (fun h11 eh11 => ?_)
  have K := K q10 eq10 wq10 h11 eh11
  have hk12 := kd_newSE eh11 eq10
  refine r_dup (pc := 19) rfl dX6_init_19 ?_
  refine r_callIN_V (pc := 20) (Y := mX5_init) (vs := []) (st := [_, _]) (nzk hk12 rfl) q415 q296 q297 rfl rfl rfl dX6_init_20 rfl (Or.inr zq10) rfl rfl fp_X6_init_X5_init K (fun h14 eh14 wh14 K => ?_) (fun x h1 _ _ e => Tw.out rfl e)
  have hk15 := kd_pr eh9 hk8
  have hk16 := kd_newE eh11 wq10 hk15 (nz rfl)
  have hk17 := kd_ext eh14 hk16 (nz rfl)
  refine r_putr (pc := 23) (T := TX6) (key := 6001) 6 1 (ty := (.object "CoinJudge$Big")) hk17 (Or.inl q418) dX6_init_23 kc6 rfl rfl (Or.inr q418) (Or.inr (Or.inl rfl)) ?_
  refine r_nameH (fun h18 eh18 => ?_)
  have K := K h18 eh18
  refine r_aload_n (pc := 26) dX6_init_26 rfl ?_
  refine r_new (pc := 27) 5 kc5 rfl q414 q294 q155 dX6_init_27 (fun q19 eq19 zq19 wq19 => ?_)
  refine r_nameH (fun h20 eh20 => ?_)
  have K := K q19 eq19 wq19 h20 eh20
  have hk21 := kd_newSE eh20 eq19
  refine r_dup (pc := 30) rfl dX6_init_30 ?_
  refine r_callIN_V (pc := 31) (Y := mX5_init) (vs := []) (st := [_, _]) (nzk hk21 rfl) q415 q296 q297 rfl rfl rfl dX6_init_31 rfl (Or.inr zq19) rfl rfl fp_X6_init_X5_init K (fun h23 eh23 wh23 K => ?_) (fun x h1 _ _ e => Tw.out rfl e)
  have hk24 := kd_pr eh18 hk17
  have hk25 := kd_newE eh20 wq19 hk24 (nz rfl)
  have hk26 := kd_ext eh23 hk25 (nz rfl)
  refine r_putr (pc := 34) (T := TX6) (key := 6002) 6 2 (ty := (.object "CoinJudge$Big")) hk26 (Or.inl q420) dX6_init_34 kc6 rfl rfl (Or.inr q420) (Or.inr (Or.inl rfl)) ?_
  refine r_nameH (fun h27 eh27 => ?_)
  have K := K h27 eh27
  exact r_vret (pc := 37) rfl dX6_init_37 K
theorem eX6_init {G : Gx} {d : Nat} {Φ : Out → AH → Prop} (h : AH) (v0 : Nat) (K : WF G h → Aw G mX6_init (d + 1) v0 h Φ 0 [vR v0] [] h) : Cw G mX6_init (d + 1) v0 [vR v0] h Φ := Cw.of rfl K
theorem dX27_compare_0 : decode cX27_compare 0 = .ok (.bipush 7, 2) := by decide +kernel
theorem dX27_compare_2 : decode cX27_compare 2 = .ok (.istore_n 2, 1) := by decide +kernel
theorem dX27_compare_3 : decode cX27_compare 3 = .ok (.iload_n 2, 1) := by decide +kernel
theorem dX27_compare_4 : decode cX27_compare 4 = .ok (.ifCond .lt 44, 3) := by decide +kernel
theorem dX27_compare_7 : decode cX27_compare 7 = .ok (.aload_n 0, 1) := by decide +kernel
theorem dX27_compare_8 : decode cX27_compare 8 = .ok (.iload_n 2, 1) := by decide +kernel
theorem dX27_compare_9 : decode cX27_compare 9 = .ok (.iaload, 1) := by decide +kernel
theorem dX27_compare_10 : decode cX27_compare 10 = .ok (.aload_n 1, 1) := by decide +kernel
theorem dX27_compare_11 : decode cX27_compare 11 = .ok (.iload_n 2, 1) := by decide +kernel
theorem dX27_compare_12 : decode cX27_compare 12 = .ok (.iaload, 1) := by decide +kernel
theorem dX27_compare_13 : decode cX27_compare 13 = .ok (.if_icmp .eq 29, 3) := by decide +kernel
theorem dX27_compare_16 : decode cX27_compare 16 = .ok (.aload_n 0, 1) := by decide +kernel
theorem dX27_compare_17 : decode cX27_compare 17 = .ok (.iload_n 2, 1) := by decide +kernel
theorem dX27_compare_18 : decode cX27_compare 18 = .ok (.iaload, 1) := by decide +kernel
theorem dX27_compare_19 : decode cX27_compare 19 = .ok (.i2l, 1) := by decide +kernel
theorem dX27_compare_20 : decode cX27_compare 20 = .ok (.ldc2_w 49, 3) := by decide +kernel
theorem dX27_compare_23 : decode cX27_compare 23 = .ok (.land, 1) := by decide +kernel
theorem dX27_compare_24 : decode cX27_compare 24 = .ok (.aload_n 1, 1) := by decide +kernel
theorem dX27_compare_25 : decode cX27_compare 25 = .ok (.iload_n 2, 1) := by decide +kernel
theorem dX27_compare_26 : decode cX27_compare 26 = .ok (.iaload, 1) := by decide +kernel
theorem dX27_compare_27 : decode cX27_compare 27 = .ok (.i2l, 1) := by decide +kernel
theorem dX27_compare_28 : decode cX27_compare 28 = .ok (.ldc2_w 49, 3) := by decide +kernel
theorem dX27_compare_31 : decode cX27_compare 31 = .ok (.land, 1) := by decide +kernel
theorem dX27_compare_32 : decode cX27_compare 32 = .ok (.lcmp, 1) := by decide +kernel
theorem dX27_compare_33 : decode cX27_compare 33 = .ok (.ifCond .ge 7, 3) := by decide +kernel
theorem dX27_compare_36 : decode cX27_compare 36 = .ok (.iconst (-1), 1) := by decide +kernel
theorem dX27_compare_37 : decode cX27_compare 37 = .ok (.goto 4, 3) := by decide +kernel
theorem dX27_compare_40 : decode cX27_compare 40 = .ok (.iconst 1, 1) := by decide +kernel
theorem dX27_compare_41 : decode cX27_compare 41 = .ok (.ireturn, 1) := by decide +kernel
theorem dX27_compare_42 : decode cX27_compare 42 = .ok (.iinc 2 (-1), 3) := by decide +kernel
theorem dX27_compare_45 : decode cX27_compare 45 = .ok (.goto (-42), 3) := by decide +kernel
theorem dX27_compare_48 : decode cX27_compare 48 = .ok (.iconst 0, 1) := by decide +kernel
theorem dX27_compare_49 : decode cX27_compare 49 = .ok (.ireturn, 1) := by decide +kernel
/-! CoinJudgeModel$Ring.compare([I[I)I -/
set_option maxHeartbeats 4000000 in
theorem sX27_compare_0 {G : Gx} {d t : Nat} {h0 : AH} {Φ : Out → AH → Prop} (h : AH) (v0 : Nat) (v1 : Nat) (K : Aw G mX27_compare (d + 1) t h0 Φ 3 [vR v0, vR v1, vI 7] [] h) : Aw G mX27_compare (d + 1) t h0 Φ 0 [vR v0, vR v1, vU] [] h := by
  refine r_bipush (pc := 0) (x := 7) dX27_compare_0 rfl ?_
  refine r_istore_n (pc := 2) (lv' := [_, _, _]) dX27_compare_2 (by decide) rfl ?_
  refine r_mask (pc := 3) [true, true, true] rfl ?_
  exact K
theorem eX27_compare {G : Gx} {d : Nat} {Φ : Out → AH → Prop} (h : AH) (v0 : Nat) (v1 : Nat) (K : WF G h → Aw G mX27_compare (d + 1) 0 h Φ 0 [vR v0, vR v1, vU] [] h) : Cw G mX27_compare (d + 1) 0 [vR v0, vR v1] h Φ := Cw.of rfl K
set_option maxHeartbeats 4000000 in
theorem sX27_compare_3 {G : Gx} {d t : Nat} {h0 : AH} {Φ : Out → AH → Prop} (h : AH) (v0 : Nat) (v1 : Nat) (v2 : Int32) (K : ((v2 < 0 → Φ (.inl (some (vI 0))) h) ∧ (¬ v2 < 0 → h.kd v0 = 100 ∧ vp_in v2 (h.ai v0).length ∧ h.kd v1 = 100 ∧ vp_in v2 (h.ai v1).length ∧ ((((h.ai v0).getD (v2.toNatClampNeg) 0) = ((h.ai v1).getD (v2.toNatClampNeg) 0) → Aw G mX27_compare (d + 1) t h0 Φ 3 [vR v0, vR v1, vI (v2 + (-1))] [] h) ∧ (¬ ((h.ai v0).getD (v2.toNatClampNeg) 0) = ((h.ai v1).getD (v2.toNatClampNeg) 0) → vp_in v2 (h.ai v0).length ∧ vp_in v2 (h.ai v1).length ∧ (((((h.ai v1).getD (v2.toNatClampNeg) 0).toInt64 &&& 4294967295) ≤ (((h.ai v0).getD (v2.toNatClampNeg) 0).toInt64 &&& 4294967295) → Φ (.inl (some (vI 1))) h) ∧ (¬ (((h.ai v1).getD (v2.toNatClampNeg) 0).toInt64 &&& 4294967295) ≤ (((h.ai v0).getD (v2.toNatClampNeg) 0).toInt64 &&& 4294967295) → Φ (.inl (some (vI (-1)))) h))))))) : Aw G mX27_compare (d + 1) t h0 Φ 3 [vR v0, vR v1, vI v2] [] h := by
  refine r_iload_n (pc := 3) dX27_compare_3 rfl ?_
  refine r_if_lt (pc := 4) (tgt := 48) dX27_compare_4 rfl (fun c1 => ?_) (fun c1 => ?_)
  · have K := K.1 c1
    refine r_iconst (pc := 48) (x := 0) dX27_compare_48 rfl ?_
    exact r_iret (pc := 49) rfl rfl dX27_compare_49 K
  · have K := K.2 c1
    refine r_aload_n (pc := 7) dX27_compare_7 rfl ?_
    refine r_iload_n (pc := 8) dX27_compare_8 rfl ?_
    obtain ⟨hk2, K⟩ := K
    obtain ⟨hi3, K⟩ := K
    refine r_iaload (pc := 9) hk2 hi3 dX27_compare_9 ?_
    refine r_aload_n (pc := 10) dX27_compare_10 rfl ?_
    refine r_iload_n (pc := 11) dX27_compare_11 rfl ?_
    obtain ⟨hk4, K⟩ := K
    obtain ⟨hi5, K⟩ := K
    refine r_iaload (pc := 12) hk4 hi5 dX27_compare_12 ?_
    refine r_icmp_eq (pc := 13) (tgt := 42) dX27_compare_13 rfl (fun c6 => ?_) (fun c6 => ?_)
    · have K := K.1 c6
      refine r_iinc (pc := 42) (lv' := [_, _, _]) dX27_compare_42 rfl rfl (by decide) rfl ?_
      refine r_goto (pc := 45) (tgt := 3) dX27_compare_45 rfl ?_
      refine r_mask (pc := 3) [true, true, true] rfl ?_
      exact K
    · have K := K.2 c6
      refine r_aload_n (pc := 16) dX27_compare_16 rfl ?_
      refine r_iload_n (pc := 17) dX27_compare_17 rfl ?_
      obtain ⟨hi7, K⟩ := K
      refine r_iaload (pc := 18) hk2 hi7 dX27_compare_18 ?_
      refine r_i2l (pc := 19) dX27_compare_19 ?_
      refine r_ldc2 (pc := 20) dX27_compare_20 q2198 ?_
      refine r_land (pc := 23) dX27_compare_23 ?_
      refine r_aload_n (pc := 24) dX27_compare_24 rfl ?_
      refine r_iload_n (pc := 25) dX27_compare_25 rfl ?_
      obtain ⟨hi8, K⟩ := K
      refine r_iaload (pc := 26) hk4 hi8 dX27_compare_26 ?_
      refine r_i2l (pc := 27) dX27_compare_27 ?_
      refine r_ldc2 (pc := 28) dX27_compare_28 q2198 ?_
      refine r_land (pc := 31) dX27_compare_31 ?_
      refine r_lcmp_ge (pc := 32) (tgt := 40) dX27_compare_32 dX27_compare_33 rfl (fun c9 => ?_) (fun c9 => ?_)
      · have K := K.1 c9
        refine r_iconst (pc := 40) (x := 1) dX27_compare_40 rfl ?_
        exact r_iret (pc := 41) rfl rfl dX27_compare_41 K
      · have K := K.2 c9
        refine r_iconst (pc := 36) (x := (-1)) dX27_compare_36 rfl ?_
        refine r_goto (pc := 37) (tgt := 41) dX27_compare_37 rfl ?_
        exact r_iret (pc := 41) rfl rfl dX27_compare_41 K
theorem dX27_copy_0 : decode cX27_copy 0 = .ok (.iconst 0, 1) := by decide +kernel
theorem dX27_copy_1 : decode cX27_copy 1 = .ok (.istore_n 2, 1) := by decide +kernel
theorem dX27_copy_2 : decode cX27_copy 2 = .ok (.iload_n 2, 1) := by decide +kernel
theorem dX27_copy_3 : decode cX27_copy 3 = .ok (.bipush 8, 2) := by decide +kernel
theorem dX27_copy_5 : decode cX27_copy 5 = .ok (.if_icmp .ge 15, 3) := by decide +kernel
theorem dX27_copy_8 : decode cX27_copy 8 = .ok (.aload_n 1, 1) := by decide +kernel
theorem dX27_copy_9 : decode cX27_copy 9 = .ok (.iload_n 2, 1) := by decide +kernel
theorem dX27_copy_10 : decode cX27_copy 10 = .ok (.aload_n 0, 1) := by decide +kernel
theorem dX27_copy_11 : decode cX27_copy 11 = .ok (.iload_n 2, 1) := by decide +kernel
theorem dX27_copy_12 : decode cX27_copy 12 = .ok (.iaload, 1) := by decide +kernel
theorem dX27_copy_13 : decode cX27_copy 13 = .ok (.iastore, 1) := by decide +kernel
theorem dX27_copy_14 : decode cX27_copy 14 = .ok (.iinc 2 1, 3) := by decide +kernel
theorem dX27_copy_17 : decode cX27_copy 17 = .ok (.goto (-15), 3) := by decide +kernel
theorem dX27_copy_20 : decode cX27_copy 20 = .ok (.return_, 1) := by decide +kernel
/-! CoinJudgeModel$Ring.copy([I[I)V -/
set_option maxHeartbeats 4000000 in
theorem sX27_copy_0 {G : Gx} {d t : Nat} {h0 : AH} {Φ : Out → AH → Prop} (h : AH) (v0 : Nat) (v1 : Nat) (K : Aw G mX27_copy (d + 1) t h0 Φ 2 [vR v0, vR v1, vI 0] [] h) : Aw G mX27_copy (d + 1) t h0 Φ 0 [vR v0, vR v1, vU] [] h := by
  refine r_iconst (pc := 0) (x := 0) dX27_copy_0 rfl ?_
  refine r_istore_n (pc := 1) (lv' := [_, _, _]) dX27_copy_1 (by decide) rfl ?_
  refine r_mask (pc := 2) [true, true, true] rfl ?_
  exact K
theorem eX27_copy {G : Gx} {d : Nat} {Φ : Out → AH → Prop} (h : AH) (v0 : Nat) (v1 : Nat) (K : WF G h → Aw G mX27_copy (d + 1) 0 h Φ 0 [vR v0, vR v1, vU] [] h) : Cw G mX27_copy (d + 1) 0 [vR v0, vR v1] h Φ := Cw.of rfl K
set_option maxHeartbeats 4000000 in
theorem sX27_copy_2 {G : Gx} {d t : Nat} {h0 : AH} {Φ : Out → AH → Prop} (h : AH) (v0 : Nat) (v1 : Nat) (v2 : Int32) (K : ((8 ≤ v2 → Φ (.inl none) h) ∧ (¬ 8 ≤ v2 → h.kd v0 = 100 ∧ vp_in v2 (h.ai v0).length ∧ h.kd v1 = 100 ∧ vp_in v2 (h.ai v1).length ∧ ∀ h6 : AH, h6 = h.wi v1 ((h.ai v1).set (v2.toNatClampNeg) ((h.ai v0).getD (v2.toNatClampNeg) 0)) → Aw G mX27_copy (d + 1) t h0 Φ 2 [vR v0, vR v1, vI (v2 + 1)] [] h6))) : Aw G mX27_copy (d + 1) t h0 Φ 2 [vR v0, vR v1, vI v2] [] h := by
  refine r_iload_n (pc := 2) dX27_copy_2 rfl ?_
  refine r_bipush (pc := 3) (x := 8) dX27_copy_3 rfl ?_
  refine r_icmp_ge (pc := 5) (tgt := 20) dX27_copy_5 rfl (fun c1 => ?_) (fun c1 => ?_)
  · have K := K.1 c1
    exact r_vret (pc := 20) rfl dX27_copy_20 K
  · have K := K.2 c1
    refine r_aload_n (pc := 8) dX27_copy_8 rfl ?_
    refine r_iload_n (pc := 9) dX27_copy_9 rfl ?_
    refine r_aload_n (pc := 10) dX27_copy_10 rfl ?_
    refine r_iload_n (pc := 11) dX27_copy_11 rfl ?_
    obtain ⟨hk2, K⟩ := K
    obtain ⟨hi3, K⟩ := K
    refine r_iaload (pc := 12) hk2 hi3 dX27_copy_12 ?_
    obtain ⟨hk4, K⟩ := K
    obtain ⟨hi5, K⟩ := K
    refine r_iastore (pc := 13) hk4 hi5 (Or.inl (em rfl)) dX27_copy_13 ?_
    refine r_nameH (fun h6 eh6 => ?_)
    have K := K h6 eh6
    refine r_iinc (pc := 14) (lv' := [_, _, _]) dX27_copy_14 rfl rfl (by decide) rfl ?_
    refine r_goto (pc := 17) (tgt := 2) dX27_copy_17 rfl ?_
    refine r_mask (pc := 2) [true, true, true] rfl ?_
    exact K
theorem dX27_less_0 : decode cX27_less 0 = .ok (.lconst 0, 1) := by decide +kernel
theorem dX27_less_1 : decode cX27_less 1 = .ok (.lstore_n 3, 1) := by decide +kernel
theorem dX27_less_2 : decode cX27_less 2 = .ok (.iconst 0, 1) := by decide +kernel
theorem dX27_less_3 : decode cX27_less 3 = .ok (.istore 5, 2) := by decide +kernel
theorem dX27_less_5 : decode cX27_less 5 = .ok (.iload 5, 2) := by decide +kernel
theorem dX27_less_7 : decode cX27_less 7 = .ok (.bipush 8, 2) := by decide +kernel
theorem dX27_less_9 : decode cX27_less 9 = .ok (.if_icmp .ge 52, 3) := by decide +kernel
theorem dX27_less_12 : decode cX27_less 12 = .ok (.aload_n 0, 1) := by decide +kernel
theorem dX27_less_13 : decode cX27_less 13 = .ok (.iload 5, 2) := by decide +kernel
theorem dX27_less_15 : decode cX27_less 15 = .ok (.iaload, 1) := by decide +kernel
theorem dX27_less_16 : decode cX27_less 16 = .ok (.i2l, 1) := by decide +kernel
theorem dX27_less_17 : decode cX27_less 17 = .ok (.ldc2_w 49, 3) := by decide +kernel
theorem dX27_less_20 : decode cX27_less 20 = .ok (.land, 1) := by decide +kernel
theorem dX27_less_21 : decode cX27_less 21 = .ok (.aload_n 1, 1) := by decide +kernel
theorem dX27_less_22 : decode cX27_less 22 = .ok (.iload 5, 2) := by decide +kernel
theorem dX27_less_24 : decode cX27_less 24 = .ok (.iaload, 1) := by decide +kernel
theorem dX27_less_25 : decode cX27_less 25 = .ok (.i2l, 1) := by decide +kernel
theorem dX27_less_26 : decode cX27_less 26 = .ok (.ldc2_w 49, 3) := by decide +kernel
theorem dX27_less_29 : decode cX27_less 29 = .ok (.land, 1) := by decide +kernel
theorem dX27_less_30 : decode cX27_less 30 = .ok (.lsub, 1) := by decide +kernel
theorem dX27_less_31 : decode cX27_less 31 = .ok (.lload_n 3, 1) := by decide +kernel
theorem dX27_less_32 : decode cX27_less 32 = .ok (.lsub, 1) := by decide +kernel
theorem dX27_less_33 : decode cX27_less 33 = .ok (.lstore 6, 2) := by decide +kernel
theorem dX27_less_35 : decode cX27_less 35 = .ok (.aload_n 2, 1) := by decide +kernel
theorem dX27_less_36 : decode cX27_less 36 = .ok (.iload 5, 2) := by decide +kernel
theorem dX27_less_38 : decode cX27_less 38 = .ok (.lload 6, 2) := by decide +kernel
theorem dX27_less_40 : decode cX27_less 40 = .ok (.l2i, 1) := by decide +kernel
theorem dX27_less_41 : decode cX27_less 41 = .ok (.iastore, 1) := by decide +kernel
theorem dX27_less_42 : decode cX27_less 42 = .ok (.lload 6, 2) := by decide +kernel
theorem dX27_less_44 : decode cX27_less 44 = .ok (.lconst 0, 1) := by decide +kernel
theorem dX27_less_45 : decode cX27_less 45 = .ok (.lcmp, 1) := by decide +kernel
theorem dX27_less_46 : decode cX27_less 46 = .ok (.ifCond .ge 7, 3) := by decide +kernel
theorem dX27_less_49 : decode cX27_less 49 = .ok (.lconst 1, 1) := by decide +kernel
theorem dX27_less_50 : decode cX27_less 50 = .ok (.goto 4, 3) := by decide +kernel
theorem dX27_less_53 : decode cX27_less 53 = .ok (.lconst 0, 1) := by decide +kernel
theorem dX27_less_54 : decode cX27_less 54 = .ok (.lstore_n 3, 1) := by decide +kernel
theorem dX27_less_55 : decode cX27_less 55 = .ok (.iinc 5 1, 3) := by decide +kernel
theorem dX27_less_58 : decode cX27_less 58 = .ok (.goto (-53), 3) := by decide +kernel
theorem dX27_less_61 : decode cX27_less 61 = .ok (.lload_n 3, 1) := by decide +kernel
theorem dX27_less_62 : decode cX27_less 62 = .ok (.lreturn, 1) := by decide +kernel
/-! CoinJudgeModel$Ring.less([I[I[I)J -/
set_option maxHeartbeats 4000000 in
theorem sX27_less_0 {G : Gx} {d t : Nat} {h0 : AH} {Φ : Out → AH → Prop} (h : AH) (v0 : Nat) (v1 : Nat) (v2 : Nat) (K : Aw G mX27_less (d + 1) t h0 Φ 5 [vR v0, vR v1, vR v2, vJ 0, vU, vI 0, vU, vU] [] h) : Aw G mX27_less (d + 1) t h0 Φ 0 [vR v0, vR v1, vR v2, vU, vU, vU, vU, vU] [] h := by
  refine r_lconst (pc := 0) (a := 0) dX27_less_0 rfl ?_
  refine r_lstore_n (pc := 1) (lv' := [_, _, _, _, _, _, _, _]) dX27_less_1 (by decide) rfl ?_
  refine r_iconst (pc := 2) (x := 0) dX27_less_2 rfl ?_
  refine r_istore (pc := 3) (lv' := [_, _, _, _, _, _, _, _]) dX27_less_3 (by decide) rfl ?_
  refine r_mask (pc := 5) [true, true, true, true, false, true, false, false] rfl ?_
  exact K
theorem eX27_less {G : Gx} {d : Nat} {Φ : Out → AH → Prop} (h : AH) (v0 : Nat) (v1 : Nat) (v2 : Nat) (K : WF G h → Aw G mX27_less (d + 1) 0 h Φ 0 [vR v0, vR v1, vR v2, vU, vU, vU, vU, vU] [] h) : Cw G mX27_less (d + 1) 0 [vR v0, vR v1, vR v2] h Φ := Cw.of rfl K
set_option maxHeartbeats 4000000 in
theorem sX27_less_5 {G : Gx} {d t : Nat} {h0 : AH} {Φ : Out → AH → Prop} (h : AH) (v0 : Nat) (v1 : Nat) (v2 : Nat) (v3 : Int64) (v5 : Int32) (K : ((8 ≤ v5 → Φ (.inl (some (vJ v3))) h) ∧ (¬ 8 ≤ v5 → h.kd v0 = 100 ∧ vp_in v5 (h.ai v0).length ∧ h.kd v1 = 100 ∧ vp_in v5 (h.ai v1).length ∧ ∀ u6 : Int64, u6 = (((((h.ai v0).getD (v5.toNatClampNeg) 0).toInt64 &&& 4294967295) - (((h.ai v1).getD (v5.toNatClampNeg) 0).toInt64 &&& 4294967295)) - v3) → h.kd v2 = 100 ∧ vp_in v5 (h.ai v2).length ∧ ∀ h9 : AH, h9 = h.wi v2 ((h.ai v2).set (v5.toNatClampNeg) u6.toInt32) → ((0 ≤ u6 → Aw G mX27_less (d + 1) t h0 Φ 5 [vR v0, vR v1, vR v2, vJ 0, vU, vI (v5 + 1), vU, vU] [] h9) ∧ (¬ 0 ≤ u6 → Aw G mX27_less (d + 1) t h0 Φ 5 [vR v0, vR v1, vR v2, vJ 1, vU, vI (v5 + 1), vU, vU] [] h9))))) : Aw G mX27_less (d + 1) t h0 Φ 5 [vR v0, vR v1, vR v2, vJ v3, vU, vI v5, vU, vU] [] h := by
  refine r_iload (pc := 5) dX27_less_5 rfl ?_
  refine r_bipush (pc := 7) (x := 8) dX27_less_7 rfl ?_
  refine r_icmp_ge (pc := 9) (tgt := 61) dX27_less_9 rfl (fun c1 => ?_) (fun c1 => ?_)
  · have K := K.1 c1
    refine r_lload_n (pc := 61) dX27_less_61 rfl ?_
    exact r_lret (pc := 62) rfl dX27_less_62 K
  · have K := K.2 c1
    refine r_aload_n (pc := 12) dX27_less_12 rfl ?_
    refine r_iload (pc := 13) dX27_less_13 rfl ?_
    obtain ⟨hk2, K⟩ := K
    obtain ⟨hi3, K⟩ := K
    refine r_iaload (pc := 15) hk2 hi3 dX27_less_15 ?_
    refine r_i2l (pc := 16) dX27_less_16 ?_
    refine r_ldc2 (pc := 17) dX27_less_17 q2198 ?_
    refine r_land (pc := 20) dX27_less_20 ?_
    refine r_aload_n (pc := 21) dX27_less_21 rfl ?_
    refine r_iload (pc := 22) dX27_less_22 rfl ?_
    obtain ⟨hk4, K⟩ := K
    obtain ⟨hi5, K⟩ := K
    refine r_iaload (pc := 24) hk4 hi5 dX27_less_24 ?_
    refine r_i2l (pc := 25) dX27_less_25 ?_
    refine r_ldc2 (pc := 26) dX27_less_26 q2198 ?_
    refine r_land (pc := 29) dX27_less_29 ?_
    refine r_lsub (pc := 30) dX27_less_30 ?_
    refine r_lload_n (pc := 31) dX27_less_31 rfl ?_
    refine r_lsub (pc := 32) dX27_less_32 ?_
    have K := K _ rfl
    refine r_lstore (pc := 33) (lv' := [_, _, _, _, _, _, _, _]) dX27_less_33 (by decide) rfl ?_
    refine r_aload_n (pc := 35) dX27_less_35 rfl ?_
    refine r_iload (pc := 36) dX27_less_36 rfl ?_
    refine r_lload (pc := 38) dX27_less_38 rfl ?_
    refine r_l2i (pc := 40) dX27_less_40 ?_
    obtain ⟨hk7, K⟩ := K
    obtain ⟨hi8, K⟩ := K
    refine r_iastore (pc := 41) hk7 hi8 (Or.inl (em rfl)) dX27_less_41 ?_
    refine r_nameH (fun h9 eh9 => ?_)
    have K := K h9 eh9
    refine r_lload (pc := 42) dX27_less_42 rfl ?_
    refine r_lconst (pc := 44) (a := 0) dX27_less_44 rfl ?_
    refine r_lcmp_ge (pc := 45) (tgt := 53) dX27_less_45 dX27_less_46 rfl (fun c10 => ?_) (fun c10 => ?_)
    · have K := K.1 c10
      refine r_lconst (pc := 53) (a := 0) dX27_less_53 rfl ?_
      refine r_lstore_n (pc := 54) (lv' := [_, _, _, _, _, _, _, _]) dX27_less_54 (by decide) rfl ?_
      refine r_iinc (pc := 55) (lv' := [_, _, _, _, _, _, _, _]) dX27_less_55 rfl rfl (by decide) rfl ?_
      refine r_goto (pc := 58) (tgt := 5) dX27_less_58 rfl ?_
      refine r_mask (pc := 5) [true, true, true, true, false, true, false, false] rfl ?_
      exact K
    · have K := K.2 c10
      refine r_lconst (pc := 49) (a := 1) dX27_less_49 rfl ?_
      refine r_goto (pc := 50) (tgt := 54) dX27_less_50 rfl ?_
      refine r_lstore_n (pc := 54) (lv' := [_, _, _, _, _, _, _, _]) dX27_less_54 (by decide) rfl ?_
      refine r_iinc (pc := 55) (lv' := [_, _, _, _, _, _, _, _]) dX27_less_55 rfl rfl (by decide) rfl ?_
      refine r_goto (pc := 58) (tgt := 5) dX27_less_58 rfl ?_
      refine r_mask (pc := 5) [true, true, true, true, false, true, false, false] rfl ?_
      exact K
theorem dX27_put_0 : decode cX27_put 0 = .ok (.lconst 0, 1) := by decide +kernel
theorem dX27_put_1 : decode cX27_put 1 = .ok (.lstore_n 3, 1) := by decide +kernel
theorem dX27_put_2 : decode cX27_put 2 = .ok (.iconst 0, 1) := by decide +kernel
theorem dX27_put_3 : decode cX27_put 3 = .ok (.istore 5, 2) := by decide +kernel
theorem dX27_put_5 : decode cX27_put 5 = .ok (.iload 5, 2) := by decide +kernel
theorem dX27_put_7 : decode cX27_put 7 = .ok (.bipush 8, 2) := by decide +kernel
theorem dX27_put_9 : decode cX27_put 9 = .ok (.if_icmp .ge 55, 3) := by decide +kernel
theorem dX27_put_12 : decode cX27_put 12 = .ok (.lload_n 3, 1) := by decide +kernel
theorem dX27_put_13 : decode cX27_put 13 = .ok (.iload_n 1, 1) := by decide +kernel
theorem dX27_put_14 : decode cX27_put 14 = .ok (.i2l, 1) := by decide +kernel
theorem dX27_put_15 : decode cX27_put 15 = .ok (.ldc2_w 49, 3) := by decide +kernel
theorem dX27_put_18 : decode cX27_put 18 = .ok (.land, 1) := by decide +kernel
theorem dX27_put_19 : decode cX27_put 19 = .ok (.aload_n 2, 1) := by decide +kernel
theorem dX27_put_20 : decode cX27_put 20 = .ok (.iload 5, 2) := by decide +kernel
theorem dX27_put_22 : decode cX27_put 22 = .ok (.iaload, 1) := by decide +kernel
theorem dX27_put_23 : decode cX27_put 23 = .ok (.i2l, 1) := by decide +kernel
theorem dX27_put_24 : decode cX27_put 24 = .ok (.ldc2_w 49, 3) := by decide +kernel
theorem dX27_put_27 : decode cX27_put 27 = .ok (.land, 1) := by decide +kernel
theorem dX27_put_28 : decode cX27_put 28 = .ok (.lmul, 1) := by decide +kernel
theorem dX27_put_29 : decode cX27_put 29 = .ok (.aload_n 0, 1) := by decide +kernel
theorem dX27_put_30 : decode cX27_put 30 = .ok (.getfield 24, 3) := by decide +kernel
theorem dX27_put_33 : decode cX27_put 33 = .ok (.iload 5, 2) := by decide +kernel
theorem dX27_put_35 : decode cX27_put 35 = .ok (.iaload, 1) := by decide +kernel
theorem dX27_put_36 : decode cX27_put 36 = .ok (.i2l, 1) := by decide +kernel
theorem dX27_put_37 : decode cX27_put 37 = .ok (.ldc2_w 49, 3) := by decide +kernel
theorem dX27_put_40 : decode cX27_put 40 = .ok (.land, 1) := by decide +kernel
theorem dX27_put_41 : decode cX27_put 41 = .ok (.ladd, 1) := by decide +kernel
theorem dX27_put_42 : decode cX27_put 42 = .ok (.ladd, 1) := by decide +kernel
theorem dX27_put_43 : decode cX27_put 43 = .ok (.lstore_n 3, 1) := by decide +kernel
theorem dX27_put_44 : decode cX27_put 44 = .ok (.aload_n 0, 1) := by decide +kernel
theorem dX27_put_45 : decode cX27_put 45 = .ok (.getfield 24, 3) := by decide +kernel
theorem dX27_put_48 : decode cX27_put 48 = .ok (.iload 5, 2) := by decide +kernel
theorem dX27_put_50 : decode cX27_put 50 = .ok (.lload_n 3, 1) := by decide +kernel
theorem dX27_put_51 : decode cX27_put 51 = .ok (.l2i, 1) := by decide +kernel
theorem dX27_put_52 : decode cX27_put 52 = .ok (.iastore, 1) := by decide +kernel
theorem dX27_put_53 : decode cX27_put 53 = .ok (.lload_n 3, 1) := by decide +kernel
theorem dX27_put_54 : decode cX27_put 54 = .ok (.bipush 32, 2) := by decide +kernel
theorem dX27_put_56 : decode cX27_put 56 = .ok (.lushr, 1) := by decide +kernel
theorem dX27_put_57 : decode cX27_put 57 = .ok (.lstore_n 3, 1) := by decide +kernel
theorem dX27_put_58 : decode cX27_put 58 = .ok (.iinc 5 1, 3) := by decide +kernel
theorem dX27_put_61 : decode cX27_put 61 = .ok (.goto (-56), 3) := by decide +kernel
theorem dX27_put_64 : decode cX27_put 64 = .ok (.lload_n 3, 1) := by decide +kernel
theorem dX27_put_65 : decode cX27_put 65 = .ok (.aload_n 0, 1) := by decide +kernel
theorem dX27_put_66 : decode cX27_put 66 = .ok (.getfield 24, 3) := by decide +kernel
theorem dX27_put_69 : decode cX27_put 69 = .ok (.bipush 8, 2) := by decide +kernel
theorem dX27_put_71 : decode cX27_put 71 = .ok (.iaload, 1) := by decide +kernel
theorem dX27_put_72 : decode cX27_put 72 = .ok (.i2l, 1) := by decide +kernel
theorem dX27_put_73 : decode cX27_put 73 = .ok (.ldc2_w 49, 3) := by decide +kernel
theorem dX27_put_76 : decode cX27_put 76 = .ok (.land, 1) := by decide +kernel
theorem dX27_put_77 : decode cX27_put 77 = .ok (.ladd, 1) := by decide +kernel
theorem dX27_put_78 : decode cX27_put 78 = .ok (.lstore_n 3, 1) := by decide +kernel
theorem dX27_put_79 : decode cX27_put 79 = .ok (.aload_n 0, 1) := by decide +kernel
theorem dX27_put_80 : decode cX27_put 80 = .ok (.getfield 24, 3) := by decide +kernel
theorem dX27_put_83 : decode cX27_put 83 = .ok (.bipush 8, 2) := by decide +kernel
theorem dX27_put_85 : decode cX27_put 85 = .ok (.lload_n 3, 1) := by decide +kernel
theorem dX27_put_86 : decode cX27_put 86 = .ok (.l2i, 1) := by decide +kernel
theorem dX27_put_87 : decode cX27_put 87 = .ok (.iastore, 1) := by decide +kernel
theorem dX27_put_88 : decode cX27_put 88 = .ok (.aload_n 0, 1) := by decide +kernel
theorem dX27_put_89 : decode cX27_put 89 = .ok (.getfield 24, 3) := by decide +kernel
theorem dX27_put_92 : decode cX27_put 92 = .ok (.bipush 9, 2) := by decide +kernel
theorem dX27_put_94 : decode cX27_put 94 = .ok (.dup2, 1) := by decide +kernel
theorem dX27_put_95 : decode cX27_put 95 = .ok (.iaload, 1) := by decide +kernel
theorem dX27_put_96 : decode cX27_put 96 = .ok (.lload_n 3, 1) := by decide +kernel
theorem dX27_put_97 : decode cX27_put 97 = .ok (.bipush 32, 2) := by decide +kernel
theorem dX27_put_99 : decode cX27_put 99 = .ok (.lushr, 1) := by decide +kernel
theorem dX27_put_100 : decode cX27_put 100 = .ok (.l2i, 1) := by decide +kernel
theorem dX27_put_101 : decode cX27_put 101 = .ok (.iadd, 1) := by decide +kernel
theorem dX27_put_102 : decode cX27_put 102 = .ok (.iastore, 1) := by decide +kernel
theorem dX27_put_103 : decode cX27_put 103 = .ok (.return_, 1) := by decide +kernel
/-! CoinJudgeModel$Ring.put(I[I)V -/
set_option maxHeartbeats 4000000 in
theorem sX27_put_0 {G : Gx} {d t : Nat} {h0 : AH} {Φ : Out → AH → Prop} (h : AH) (v0 : Nat) (v1 : Int32) (v2 : Nat) (K : Aw G mX27_put (d + 1) t h0 Φ 5 [vR v0, vI v1, vR v2, vJ 0, vU, vI 0] [] h) : Aw G mX27_put (d + 1) t h0 Φ 0 [vR v0, vI v1, vR v2, vU, vU, vU] [] h := by
  refine r_lconst (pc := 0) (a := 0) dX27_put_0 rfl ?_
  refine r_lstore_n (pc := 1) (lv' := [_, _, _, _, _, _]) dX27_put_1 (by decide) rfl ?_
  refine r_iconst (pc := 2) (x := 0) dX27_put_2 rfl ?_
  refine r_istore (pc := 3) (lv' := [_, _, _, _, _, _]) dX27_put_3 (by decide) rfl ?_
  refine r_mask (pc := 5) [true, true, true, true, false, true] rfl ?_
  exact K
theorem eX27_put {G : Gx} {d : Nat} {Φ : Out → AH → Prop} (h : AH) (v0 : Nat) (v1 : Int32) (v2 : Nat) (K : WF G h → Aw G mX27_put (d + 1) 0 h Φ 0 [vR v0, vI v1, vR v2, vU, vU, vU] [] h) : Cw G mX27_put (d + 1) 0 [vR v0, vI v1, vR v2] h Φ := Cw.of rfl K
set_option maxHeartbeats 4000000 in
theorem sX27_put_5 {G : Gx} {d t : Nat} {h0 : AH} {Φ : Out → AH → Prop} (h : AH) (v0 : Nat) (v1 : Int32) (v2 : Nat) (v3 : Int64) (v5 : Int32) (K : ((8 ≤ v5 → h.kd v0 = 27 ∧ ∀ r3 : Nat, r3 = (h.r 27005 v0) → h.kd r3 = 100 ∧ vp_in 8 (h.ai r3).length ∧ ∀ u6 : Int64, u6 = (v3 + (((h.ai r3).getD ((8 : Int32).toNatClampNeg) 0).toInt64 &&& 4294967295)) → vp_in 8 (h.ai r3).length ∧ ∀ h8 : AH, h8 = h.wi r3 ((h.ai r3).set ((8 : Int32).toNatClampNeg) u6.toInt32) → vp_in 9 (h8.ai r3).length ∧ vp_in 9 (h8.ai r3).length ∧ ∀ h15 : AH, h15 = h8.wi r3 ((h8.ai r3).set ((9 : Int32).toNatClampNeg) (((h8.ai r3).getD ((9 : Int32).toNatClampNeg) 0) + (Jushr u6 32).toInt32)) → Φ (.inl none) h15) ∧ (¬ 8 ≤ v5 → h.kd v2 = 100 ∧ vp_in v5 (h.ai v2).length ∧ h.kd v0 = 27 ∧ ∀ r19 : Nat, r19 = (h.r 27005 v0) → h.kd r19 = 100 ∧ vp_in v5 (h.ai r19).length ∧ ∀ u22 : Int64, u22 = (v3 + (((v1.toInt64 &&& 4294967295) * (((h.ai v2).getD (v5.toNatClampNeg) 0).toInt64 &&& 4294967295)) + (((h.ai r19).getD (v5.toNatClampNeg) 0).toInt64 &&& 4294967295))) → vp_in v5 (h.ai r19).length ∧ ∀ h24 : AH, h24 = h.wi r19 ((h.ai r19).set (v5.toNatClampNeg) u22.toInt32) → Aw G mX27_put (d + 1) t h0 Φ 5 [vR v0, vI v1, vR v2, vJ (Jushr u22 32), vU, vI (v5 + 1)] [] h24))) : Aw G mX27_put (d + 1) t h0 Φ 5 [vR v0, vI v1, vR v2, vJ v3, vU, vI v5] [] h := by
  refine r_iload (pc := 5) dX27_put_5 rfl ?_
  refine r_bipush (pc := 7) (x := 8) dX27_put_7 rfl ?_
  refine r_icmp_ge (pc := 9) (tgt := 64) dX27_put_9 rfl (fun c1 => ?_) (fun c1 => ?_)
  · have K := K.1 c1
    refine r_lload_n (pc := 64) dX27_put_64 rfl ?_
    refine r_aload_n (pc := 65) dX27_put_65 rfl ?_
    obtain ⟨hk2, K⟩ := K
    have K := K _ rfl
    refine r_getr' (pc := 66) (T := TX27) 27 5 rfl hk2 (Or.inl q2215) dX27_put_66 kc27 g27005 ?_
    refine r_bipush (pc := 69) (x := 8) dX27_put_69 rfl ?_
    obtain ⟨hk4, K⟩ := K
    obtain ⟨hi5, K⟩ := K
    refine r_iaload (pc := 71) hk4 hi5 dX27_put_71 ?_
    refine r_i2l (pc := 72) dX27_put_72 ?_
    refine r_ldc2 (pc := 73) dX27_put_73 q2198 ?_
    refine r_land (pc := 76) dX27_put_76 ?_
    refine r_ladd (pc := 77) dX27_put_77 ?_
    have K := K _ rfl
    refine r_lstore_n (pc := 78) (lv' := [_, _, _, _, _, _]) dX27_put_78 (by decide) rfl ?_
    refine r_aload_n (pc := 79) dX27_put_79 rfl ?_
    refine r_getr' (pc := 80) (T := TX27) 27 5 rfl hk2 (Or.inl q2215) dX27_put_80 kc27 g27005 ?_
    refine r_bipush (pc := 83) (x := 8) dX27_put_83 rfl ?_
    refine r_lload_n (pc := 85) dX27_put_85 rfl ?_
    refine r_l2i (pc := 86) dX27_put_86 ?_
    obtain ⟨hi7, K⟩ := K
    refine r_iastore (pc := 87) hk4 hi7 (Or.inl (em rfl)) dX27_put_87 ?_
    refine r_nameH (fun h8 eh8 => ?_)
    have K := K h8 eh8
    refine r_aload_n (pc := 88) dX27_put_88 rfl ?_
    have hk9 := kd_wi eh8 hk2
    have hv10 := fr_self (key := 27005) hk2
    have hv11 := fr_wi (key := 27005) eh8 hv10
    refine r_getr' (pc := 89) (T := TX27) 27 5 hv11 hk9 (Or.inl q2215) dX27_put_89 kc27 g27005 ?_
    refine r_bipush (pc := 92) (x := 9) dX27_put_92 rfl ?_
    refine r_dup2 (pc := 94) rfl rfl dX27_put_94 ?_
    have hk12 := kd_wi eh8 hk4
    obtain ⟨hi13, K⟩ := K
    refine r_iaload (pc := 95) hk12 hi13 dX27_put_95 ?_
    refine r_lload_n (pc := 96) dX27_put_96 rfl ?_
    refine r_bipush (pc := 97) (x := 32) dX27_put_97 rfl ?_
    refine r_Jushr (pc := 99) dX27_put_99 ?_
    refine r_l2i (pc := 100) dX27_put_100 ?_
    refine r_iadd (pc := 101) dX27_put_101 ?_
    obtain ⟨hi14, K⟩ := K
    refine r_iastore (pc := 102) hk12 hi14 (Or.inl (em rfl)) dX27_put_102 ?_
    refine r_nameH (fun h15 eh15 => ?_)
    have K := K h15 eh15
    exact r_vret (pc := 103) rfl dX27_put_103 K
  · have K := K.2 c1
    refine r_lload_n (pc := 12) dX27_put_12 rfl ?_
    refine r_iload_n (pc := 13) dX27_put_13 rfl ?_
    refine r_i2l (pc := 14) dX27_put_14 ?_
    refine r_ldc2 (pc := 15) dX27_put_15 q2198 ?_
    refine r_land (pc := 18) dX27_put_18 ?_
    refine r_aload_n (pc := 19) dX27_put_19 rfl ?_
    refine r_iload (pc := 20) dX27_put_20 rfl ?_
    obtain ⟨hk16, K⟩ := K
    obtain ⟨hi17, K⟩ := K
    refine r_iaload (pc := 22) hk16 hi17 dX27_put_22 ?_
    refine r_i2l (pc := 23) dX27_put_23 ?_
    refine r_ldc2 (pc := 24) dX27_put_24 q2198 ?_
    refine r_land (pc := 27) dX27_put_27 ?_
    refine r_lmul (pc := 28) dX27_put_28 ?_
    refine r_aload_n (pc := 29) dX27_put_29 rfl ?_
    obtain ⟨hk18, K⟩ := K
    have K := K _ rfl
    refine r_getr' (pc := 30) (T := TX27) 27 5 rfl hk18 (Or.inl q2215) dX27_put_30 kc27 g27005 ?_
    refine r_iload (pc := 33) dX27_put_33 rfl ?_
    obtain ⟨hk20, K⟩ := K
    obtain ⟨hi21, K⟩ := K
    refine r_iaload (pc := 35) hk20 hi21 dX27_put_35 ?_
    refine r_i2l (pc := 36) dX27_put_36 ?_
    refine r_ldc2 (pc := 37) dX27_put_37 q2198 ?_
    refine r_land (pc := 40) dX27_put_40 ?_
    refine r_ladd (pc := 41) dX27_put_41 ?_
    refine r_ladd (pc := 42) dX27_put_42 ?_
    have K := K _ rfl
    refine r_lstore_n (pc := 43) (lv' := [_, _, _, _, _, _]) dX27_put_43 (by decide) rfl ?_
    refine r_aload_n (pc := 44) dX27_put_44 rfl ?_
    refine r_getr' (pc := 45) (T := TX27) 27 5 rfl hk18 (Or.inl q2215) dX27_put_45 kc27 g27005 ?_
    refine r_iload (pc := 48) dX27_put_48 rfl ?_
    refine r_lload_n (pc := 50) dX27_put_50 rfl ?_
    refine r_l2i (pc := 51) dX27_put_51 ?_
    obtain ⟨hi23, K⟩ := K
    refine r_iastore (pc := 52) hk20 hi23 (Or.inl (em rfl)) dX27_put_52 ?_
    refine r_nameH (fun h24 eh24 => ?_)
    have K := K h24 eh24
    refine r_lload_n (pc := 53) dX27_put_53 rfl ?_
    refine r_bipush (pc := 54) (x := 32) dX27_put_54 rfl ?_
    refine r_Jushr (pc := 56) dX27_put_56 ?_
    refine r_lstore_n (pc := 57) (lv' := [_, _, _, _, _, _]) dX27_put_57 (by decide) rfl ?_
    refine r_iinc (pc := 58) (lv' := [_, _, _, _, _, _]) dX27_put_58 rfl rfl (by decide) rfl ?_
    refine r_goto (pc := 61) (tgt := 5) dX27_put_61 rfl ?_
    refine r_mask (pc := 5) [true, true, true, true, false, true] rfl ?_
    exact K
theorem dX27_multiply_0 : decode cX27_multiply 0 = .ok (.iconst 0, 1) := by decide +kernel
theorem dX27_multiply_1 : decode cX27_multiply 1 = .ok (.istore 4, 2) := by decide +kernel
theorem dX27_multiply_3 : decode cX27_multiply 3 = .ok (.iload 4, 2) := by decide +kernel
theorem dX27_multiply_5 : decode cX27_multiply 5 = .ok (.bipush 10, 2) := by decide +kernel
theorem dX27_multiply_7 : decode cX27_multiply 7 = .ok (.if_icmp .ge 17, 3) := by decide +kernel
theorem dX27_multiply_10 : decode cX27_multiply 10 = .ok (.aload_n 0, 1) := by decide +kernel
theorem dX27_multiply_11 : decode cX27_multiply 11 = .ok (.getfield 24, 3) := by decide +kernel
theorem dX27_multiply_14 : decode cX27_multiply 14 = .ok (.iload 4, 2) := by decide +kernel
theorem dX27_multiply_16 : decode cX27_multiply 16 = .ok (.iconst 0, 1) := by decide +kernel
theorem dX27_multiply_17 : decode cX27_multiply 17 = .ok (.iastore, 1) := by decide +kernel
theorem dX27_multiply_18 : decode cX27_multiply 18 = .ok (.iinc 4 1, 3) := by decide +kernel
theorem dX27_multiply_21 : decode cX27_multiply 21 = .ok (.goto (-18), 3) := by decide +kernel
theorem dX27_multiply_24 : decode cX27_multiply 24 = .ok (.iconst 0, 1) := by decide +kernel
theorem dX27_multiply_25 : decode cX27_multiply 25 = .ok (.istore 4, 2) := by decide +kernel
theorem dX27_multiply_27 : decode cX27_multiply 27 = .ok (.iload 4, 2) := by decide +kernel
theorem dX27_multiply_29 : decode cX27_multiply 29 = .ok (.bipush 8, 2) := by decide +kernel
theorem dX27_multiply_31 : decode cX27_multiply 31 = .ok (.if_icmp .ge 77, 3) := by decide +kernel
theorem dX27_multiply_34 : decode cX27_multiply 34 = .ok (.aload_n 0, 1) := by decide +kernel
theorem dX27_multiply_35 : decode cX27_multiply 35 = .ok (.aload_n 1, 1) := by decide +kernel
theorem dX27_multiply_36 : decode cX27_multiply 36 = .ok (.iload 4, 2) := by decide +kernel
theorem dX27_multiply_38 : decode cX27_multiply 38 = .ok (.iaload, 1) := by decide +kernel
theorem dX27_multiply_39 : decode cX27_multiply 39 = .ok (.aload_n 2, 1) := by decide +kernel
theorem dX27_multiply_40 : decode cX27_multiply 40 = .ok (.invokevirtual 58, 3) := by decide +kernel
theorem dX27_multiply_43 : decode cX27_multiply 43 = .ok (.aload_n 0, 1) := by decide +kernel
theorem dX27_multiply_44 : decode cX27_multiply 44 = .ok (.aload_n 0, 1) := by decide +kernel
theorem dX27_multiply_45 : decode cX27_multiply 45 = .ok (.getfield 24, 3) := by decide +kernel
theorem dX27_multiply_48 : decode cX27_multiply 48 = .ok (.iconst 0, 1) := by decide +kernel
theorem dX27_multiply_49 : decode cX27_multiply 49 = .ok (.iaload, 1) := by decide +kernel
theorem dX27_multiply_50 : decode cX27_multiply 50 = .ok (.aload_n 0, 1) := by decide +kernel
theorem dX27_multiply_51 : decode cX27_multiply 51 = .ok (.getfield 33, 3) := by decide +kernel
theorem dX27_multiply_54 : decode cX27_multiply 54 = .ok (.imul, 1) := by decide +kernel
theorem dX27_multiply_55 : decode cX27_multiply 55 = .ok (.aload_n 0, 1) := by decide +kernel
theorem dX27_multiply_56 : decode cX27_multiply 56 = .ok (.getfield 9, 3) := by decide +kernel
theorem dX27_multiply_59 : decode cX27_multiply 59 = .ok (.invokevirtual 58, 3) := by decide +kernel
theorem dX27_multiply_62 : decode cX27_multiply 62 = .ok (.iconst 0, 1) := by decide +kernel
theorem dX27_multiply_63 : decode cX27_multiply 63 = .ok (.istore 5, 2) := by decide +kernel
theorem dX27_multiply_65 : decode cX27_multiply 65 = .ok (.iload 5, 2) := by decide +kernel
theorem dX27_multiply_67 : decode cX27_multiply 67 = .ok (.bipush 9, 2) := by decide +kernel
theorem dX27_multiply_69 : decode cX27_multiply 69 = .ok (.if_icmp .ge 25, 3) := by decide +kernel
theorem dX27_multiply_72 : decode cX27_multiply 72 = .ok (.aload_n 0, 1) := by decide +kernel
theorem dX27_multiply_73 : decode cX27_multiply 73 = .ok (.getfield 24, 3) := by decide +kernel
theorem dX27_multiply_76 : decode cX27_multiply 76 = .ok (.iload 5, 2) := by decide +kernel
theorem dX27_multiply_78 : decode cX27_multiply 78 = .ok (.aload_n 0, 1) := by decide +kernel
theorem dX27_multiply_79 : decode cX27_multiply 79 = .ok (.getfield 24, 3) := by decide +kernel
theorem dX27_multiply_82 : decode cX27_multiply 82 = .ok (.iload 5, 2) := by decide +kernel
theorem dX27_multiply_84 : decode cX27_multiply 84 = .ok (.iconst 1, 1) := by decide +kernel
theorem dX27_multiply_85 : decode cX27_multiply 85 = .ok (.iadd, 1) := by decide +kernel
theorem dX27_multiply_86 : decode cX27_multiply 86 = .ok (.iaload, 1) := by decide +kernel
theorem dX27_multiply_87 : decode cX27_multiply 87 = .ok (.iastore, 1) := by decide +kernel
theorem dX27_multiply_88 : decode cX27_multiply 88 = .ok (.iinc 5 1, 3) := by decide +kernel
theorem dX27_multiply_91 : decode cX27_multiply 91 = .ok (.goto (-26), 3) := by decide +kernel
theorem dX27_multiply_94 : decode cX27_multiply 94 = .ok (.aload_n 0, 1) := by decide +kernel
theorem dX27_multiply_95 : decode cX27_multiply 95 = .ok (.getfield 24, 3) := by decide +kernel
theorem dX27_multiply_98 : decode cX27_multiply 98 = .ok (.bipush 9, 2) := by decide +kernel
theorem dX27_multiply_100 : decode cX27_multiply 100 = .ok (.iconst 0, 1) := by decide +kernel
theorem dX27_multiply_101 : decode cX27_multiply 101 = .ok (.iastore, 1) := by decide +kernel
theorem dX27_multiply_102 : decode cX27_multiply 102 = .ok (.iinc 4 1, 3) := by decide +kernel
theorem dX27_multiply_105 : decode cX27_multiply 105 = .ok (.goto (-78), 3) := by decide +kernel
theorem dX27_multiply_108 : decode cX27_multiply 108 = .ok (.aload_n 0, 1) := by decide +kernel
theorem dX27_multiply_109 : decode cX27_multiply 109 = .ok (.getfield 24, 3) := by decide +kernel
theorem dX27_multiply_112 : decode cX27_multiply 112 = .ok (.bipush 8, 2) := by decide +kernel
theorem dX27_multiply_114 : decode cX27_multiply 114 = .ok (.iaload, 1) := by decide +kernel
theorem dX27_multiply_115 : decode cX27_multiply 115 = .ok (.ifCond .eq 7, 3) := by decide +kernel
theorem dX27_multiply_118 : decode cX27_multiply 118 = .ok (.iconst 1, 1) := by decide +kernel
theorem dX27_multiply_119 : decode cX27_multiply 119 = .ok (.goto 4, 3) := by decide +kernel
theorem dX27_multiply_122 : decode cX27_multiply 122 = .ok (.iconst 0, 1) := by decide +kernel
theorem dX27_multiply_123 : decode cX27_multiply 123 = .ok (.istore 4, 2) := by decide +kernel
theorem dX27_multiply_125 : decode cX27_multiply 125 = .ok (.iconst 0, 1) := by decide +kernel
theorem dX27_multiply_126 : decode cX27_multiply 126 = .ok (.istore 5, 2) := by decide +kernel
theorem dX27_multiply_128 : decode cX27_multiply 128 = .ok (.iload 5, 2) := by decide +kernel
theorem dX27_multiply_130 : decode cX27_multiply 130 = .ok (.bipush 8, 2) := by decide +kernel
theorem dX27_multiply_132 : decode cX27_multiply 132 = .ok (.if_icmp .ge 20, 3) := by decide +kernel
theorem dX27_multiply_135 : decode cX27_multiply 135 = .ok (.aload_n 3, 1) := by decide +kernel
theorem dX27_multiply_136 : decode cX27_multiply 136 = .ok (.iload 5, 2) := by decide +kernel
theorem dX27_multiply_138 : decode cX27_multiply 138 = .ok (.aload_n 0, 1) := by decide +kernel
theorem dX27_multiply_139 : decode cX27_multiply 139 = .ok (.getfield 24, 3) := by decide +kernel
theorem dX27_multiply_142 : decode cX27_multiply 142 = .ok (.iload 5, 2) := by decide +kernel
theorem dX27_multiply_144 : decode cX27_multiply 144 = .ok (.iaload, 1) := by decide +kernel
theorem dX27_multiply_145 : decode cX27_multiply 145 = .ok (.iastore, 1) := by decide +kernel
theorem dX27_multiply_146 : decode cX27_multiply 146 = .ok (.iinc 5 1, 3) := by decide +kernel
theorem dX27_multiply_149 : decode cX27_multiply 149 = .ok (.goto (-21), 3) := by decide +kernel
theorem dX27_multiply_152 : decode cX27_multiply 152 = .ok (.iload 4, 2) := by decide +kernel
theorem dX27_multiply_154 : decode cX27_multiply 154 = .ok (.ifCond .ne 14, 3) := by decide +kernel
theorem dX27_multiply_157 : decode cX27_multiply 157 = .ok (.aload_n 3, 1) := by decide +kernel
theorem dX27_multiply_158 : decode cX27_multiply 158 = .ok (.aload_n 0, 1) := by decide +kernel
theorem dX27_multiply_159 : decode cX27_multiply 159 = .ok (.getfield 9, 3) := by decide +kernel
theorem dX27_multiply_162 : decode cX27_multiply 162 = .ok (.invokestatic 45, 3) := by decide +kernel
theorem dX27_multiply_165 : decode cX27_multiply 165 = .ok (.ifCond .lt 13, 3) := by decide +kernel
theorem dX27_multiply_168 : decode cX27_multiply 168 = .ok (.aload_n 3, 1) := by decide +kernel
theorem dX27_multiply_169 : decode cX27_multiply 169 = .ok (.aload_n 0, 1) := by decide +kernel
theorem dX27_multiply_170 : decode cX27_multiply 170 = .ok (.getfield 9, 3) := by decide +kernel
theorem dX27_multiply_173 : decode cX27_multiply 173 = .ok (.aload_n 3, 1) := by decide +kernel
theorem dX27_multiply_174 : decode cX27_multiply 174 = .ok (.invokestatic 55, 3) := by decide +kernel
theorem dX27_multiply_177 : decode cX27_multiply 177 = .ok (.pop2, 1) := by decide +kernel
theorem dX27_multiply_178 : decode cX27_multiply 178 = .ok (.return_, 1) := by decide +kernel
/-! CoinJudgeModel$Ring.multiply([I[I[I)V -/
set_option maxHeartbeats 4000000 in
theorem sX27_multiply_0 {G : Gx} {d t : Nat} {h0 : AH} {Φ : Out → AH → Prop} (h : AH) (v0 : Nat) (v1 : Nat) (v2 : Nat) (v3 : Nat) (K : Aw G mX27_multiply (d + 1) t h0 Φ 3 [vR v0, vR v1, vR v2, vR v3, vI 0, vU] [] h) : Aw G mX27_multiply (d + 1) t h0 Φ 0 [vR v0, vR v1, vR v2, vR v3, vU, vU] [] h := by
  refine r_iconst (pc := 0) (x := 0) dX27_multiply_0 rfl ?_
  refine r_istore (pc := 1) (lv' := [_, _, _, _, _, _]) dX27_multiply_1 (by decide) rfl ?_
  refine r_mask (pc := 3) [true, true, true, true, true, false] rfl ?_
  exact K
theorem eX27_multiply {G : Gx} {d : Nat} {Φ : Out → AH → Prop} (h : AH) (v0 : Nat) (v1 : Nat) (v2 : Nat) (v3 : Nat) (K : WF G h → Aw G mX27_multiply (d + 1) 0 h Φ 0 [vR v0, vR v1, vR v2, vR v3, vU, vU] [] h) : Cw G mX27_multiply (d + 1) 0 [vR v0, vR v1, vR v2, vR v3] h Φ := Cw.of rfl K
set_option maxHeartbeats 4000000 in
theorem sX27_multiply_3 {G : Gx} {d t : Nat} {h0 : AH} {Φ : Out → AH → Prop} (h : AH) (v0 : Nat) (v1 : Nat) (v2 : Nat) (v3 : Nat) (v4 : Int32) (K : ((10 ≤ v4 → Aw G mX27_multiply (d + 1) t h0 Φ 27 [vR v0, vR v1, vR v2, vR v3, vI 0, vU] [] h) ∧ (¬ 10 ≤ v4 → h.kd v0 = 27 ∧ ∀ r3 : Nat, r3 = (h.r 27005 v0) → h.kd r3 = 100 ∧ vp_in v4 (h.ai r3).length ∧ ∀ h6 : AH, h6 = h.wi r3 ((h.ai r3).set (v4.toNatClampNeg) 0) → Aw G mX27_multiply (d + 1) t h0 Φ 3 [vR v0, vR v1, vR v2, vR v3, vI (v4 + 1), vU] [] h6))) : Aw G mX27_multiply (d + 1) t h0 Φ 3 [vR v0, vR v1, vR v2, vR v3, vI v4, vU] [] h := by
  refine r_iload (pc := 3) dX27_multiply_3 rfl ?_
  refine r_bipush (pc := 5) (x := 10) dX27_multiply_5 rfl ?_
  refine r_icmp_ge (pc := 7) (tgt := 24) dX27_multiply_7 rfl (fun c1 => ?_) (fun c1 => ?_)
  · have K := K.1 c1
    refine r_iconst (pc := 24) (x := 0) dX27_multiply_24 rfl ?_
    refine r_istore (pc := 25) (lv' := [_, _, _, _, _, _]) dX27_multiply_25 (by decide) rfl ?_
    refine r_mask (pc := 27) [true, true, true, true, true, false] rfl ?_
    exact K
  · have K := K.2 c1
    refine r_aload_n (pc := 10) dX27_multiply_10 rfl ?_
    obtain ⟨hk2, K⟩ := K
    have K := K _ rfl
    refine r_getr' (pc := 11) (T := TX27) 27 5 rfl hk2 (Or.inl q2215) dX27_multiply_11 kc27 g27005 ?_
    refine r_iload (pc := 14) dX27_multiply_14 rfl ?_
    refine r_iconst (pc := 16) (x := 0) dX27_multiply_16 rfl ?_
    obtain ⟨hk4, K⟩ := K
    obtain ⟨hi5, K⟩ := K
    refine r_iastore (pc := 17) hk4 hi5 (Or.inl (em rfl)) dX27_multiply_17 ?_
    refine r_nameH (fun h6 eh6 => ?_)
    have K := K h6 eh6
    refine r_iinc (pc := 18) (lv' := [_, _, _, _, _, _]) dX27_multiply_18 rfl rfl (by decide) rfl ?_
    refine r_goto (pc := 21) (tgt := 3) dX27_multiply_21 rfl ?_
    refine r_mask (pc := 3) [true, true, true, true, true, false] rfl ?_
    exact K
set_option maxHeartbeats 4000000 in
theorem sX27_multiply_27 {G : Gx} {d t : Nat} {h0 : AH} {Φ : Out → AH → Prop} (h : AH) (v0 : Nat) (v1 : Nat) (v2 : Nat) (v3 : Nat) (v4 : Int32) (K : ((8 ≤ v4 → h.kd v0 = 27 ∧ ∀ r3 : Nat, r3 = (h.r 27005 v0) → h.kd r3 = 100 ∧ vp_in 8 (h.ai r3).length ∧ ((((h.ai r3).getD ((8 : Int32).toNatClampNeg) 0) = 0 → Aw G mX27_multiply (d + 1) t h0 Φ 128 [vR v0, vU, vU, vR v3, vI 0, vI 0] [] h) ∧ (¬ ((h.ai r3).getD ((8 : Int32).toNatClampNeg) 0) = 0 → Aw G mX27_multiply (d + 1) t h0 Φ 128 [vR v0, vU, vU, vR v3, vI 1, vI 0] [] h))) ∧ (¬ 8 ≤ v4 → h.kd v1 = 100 ∧ vp_in v4 (h.ai v1).length ∧ h.kd v0 = 27 ∧ Cw G mX27_put d 0 [vR v0, vI ((h.ai v1).getD (v4.toNatClampNeg) 0), vR v2] h (kV (fun h10 => ∀ r13 : Nat, r13 = (h10.r 27005 v0) → h10.kd r13 = 100 ∧ vp_in 0 (h10.ai r13).length ∧ ∀ r16 : Nat, r16 = (h10.r 27000 v0) → Cw G mX27_put d 0 [vR v0, vI (((h10.ai r13).getD ((0 : Int32).toNatClampNeg) 0) * (h10.i 27001 v0)), vR r16] h10 (kV (fun h18 => Aw G mX27_multiply (d + 1) t h0 Φ 65 [vR v0, vR v1, vR v2, vR v3, vI v4, vI 0] [] h18) (fun x h => Φ (.inr x) h))) (fun x h => Φ (.inr x) h))))) : Aw G mX27_multiply (d + 1) t h0 Φ 27 [vR v0, vR v1, vR v2, vR v3, vI v4, vU] [] h := by
  refine r_iload (pc := 27) dX27_multiply_27 rfl ?_
  refine r_bipush (pc := 29) (x := 8) dX27_multiply_29 rfl ?_
  refine r_icmp_ge (pc := 31) (tgt := 108) dX27_multiply_31 rfl (fun c1 => ?_) (fun c1 => ?_)
  · have K := K.1 c1
    refine r_aload_n (pc := 108) dX27_multiply_108 rfl ?_
    obtain ⟨hk2, K⟩ := K
    have K := K _ rfl
    refine r_getr' (pc := 109) (T := TX27) 27 5 rfl hk2 (Or.inl q2215) dX27_multiply_109 kc27 g27005 ?_
    refine r_bipush (pc := 112) (x := 8) dX27_multiply_112 rfl ?_
    obtain ⟨hk4, K⟩ := K
    obtain ⟨hi5, K⟩ := K
    refine r_iaload (pc := 114) hk4 hi5 dX27_multiply_114 ?_
    refine r_if_eq (pc := 115) (tgt := 122) dX27_multiply_115 rfl (fun c6 => ?_) (fun c6 => ?_)
    · have K := K.1 c6
      refine r_iconst (pc := 122) (x := 0) dX27_multiply_122 rfl ?_
      refine r_istore (pc := 123) (lv' := [_, _, _, _, _, _]) dX27_multiply_123 (by decide) rfl ?_
      refine r_iconst (pc := 125) (x := 0) dX27_multiply_125 rfl ?_
      refine r_istore (pc := 126) (lv' := [_, _, _, _, _, _]) dX27_multiply_126 (by decide) rfl ?_
      refine r_mask (pc := 128) [true, false, false, true, true, true] rfl ?_
      exact K
    · have K := K.2 c6
      refine r_iconst (pc := 118) (x := 1) dX27_multiply_118 rfl ?_
      refine r_goto (pc := 119) (tgt := 123) dX27_multiply_119 rfl ?_
      refine r_istore (pc := 123) (lv' := [_, _, _, _, _, _]) dX27_multiply_123 (by decide) rfl ?_
      refine r_iconst (pc := 125) (x := 0) dX27_multiply_125 rfl ?_
      refine r_istore (pc := 126) (lv' := [_, _, _, _, _, _]) dX27_multiply_126 (by decide) rfl ?_
      refine r_mask (pc := 128) [true, false, false, true, true, true] rfl ?_
      exact K
  · have K := K.2 c1
    refine r_aload_n (pc := 34) dX27_multiply_34 rfl ?_
    refine r_aload_n (pc := 35) dX27_multiply_35 rfl ?_
    refine r_iload (pc := 36) dX27_multiply_36 rfl ?_
    obtain ⟨hk7, K⟩ := K
    obtain ⟨hi8, K⟩ := K
    refine r_iaload (pc := 38) hk7 hi8 dX27_multiply_38 ?_
    refine r_aload_n (pc := 39) dX27_multiply_39 rfl ?_
    obtain ⟨hk11, K⟩ := K
    refine r_callV_V (pc := 40) (Y := mX27_put) (vs := [_, _]) (st := []) hk11 rfl kc27 q2255 q2257 qs58 dX27_multiply_40 rfl cd_X27_put rfl rfl fp_X27_multiply_X27_put K (fun h10 eh10 wh10 K => ?_) (fun x h1 _ _ e => Tw.out rfl e)
    refine r_aload_n (pc := 43) dX27_multiply_43 rfl ?_
    refine r_aload_n (pc := 44) dX27_multiply_44 rfl ?_
    have hk12 := kd_ext eh10 hk11 (nz rfl)
    have K := K _ rfl
    refine r_getr' (pc := 45) (T := TX27) 27 5 rfl hk12 (Or.inl q2215) dX27_multiply_45 kc27 g27005 ?_
    refine r_iconst (pc := 48) (x := 0) dX27_multiply_48 rfl ?_
    obtain ⟨hk14, K⟩ := K
    obtain ⟨hi15, K⟩ := K
    refine r_iaload (pc := 49) hk14 hi15 dX27_multiply_49 ?_
    refine r_aload_n (pc := 50) dX27_multiply_50 rfl ?_
    refine r_geti' (pc := 51) (T := TX27) 27 1 rfl hk12 (Or.inl q2210) dX27_multiply_51 kc27 g27001 ?_
    refine r_imul (pc := 54) dX27_multiply_54 ?_
    refine r_aload_n (pc := 55) dX27_multiply_55 rfl ?_
    have K := K _ rfl
    refine r_getr' (pc := 56) (T := TX27) 27 0 rfl hk12 (Or.inl q2208) dX27_multiply_56 kc27 g27000 ?_
    refine r_callV_V (pc := 59) (Y := mX27_put) (vs := [_, _]) (st := []) hk12 rfl kc27 q2255 q2257 qs58 dX27_multiply_59 rfl cd_X27_put rfl rfl fp_X27_multiply_X27_put K (fun h18 eh18 wh18 K => ?_) (fun x h1 _ _ e => Tw.out rfl e)
    refine r_iconst (pc := 62) (x := 0) dX27_multiply_62 rfl ?_
    refine r_istore (pc := 63) (lv' := [_, _, _, _, _, _]) dX27_multiply_63 (by decide) rfl ?_
    refine r_mask (pc := 65) [true, true, true, true, true, true] rfl ?_
    exact K
set_option maxHeartbeats 4000000 in
theorem sX27_multiply_65 {G : Gx} {d t : Nat} {h0 : AH} {Φ : Out → AH → Prop} (h : AH) (v0 : Nat) (v1 : Nat) (v2 : Nat) (v3 : Nat) (v4 : Int32) (v5 : Int32) (K : ((9 ≤ v5 → h.kd v0 = 27 ∧ ∀ r3 : Nat, r3 = (h.r 27005 v0) → h.kd r3 = 100 ∧ vp_in 9 (h.ai r3).length ∧ ∀ h6 : AH, h6 = h.wi r3 ((h.ai r3).set ((9 : Int32).toNatClampNeg) 0) → Aw G mX27_multiply (d + 1) t h0 Φ 27 [vR v0, vR v1, vR v2, vR v3, vI (v4 + 1), vU] [] h6) ∧ (¬ 9 ≤ v5 → h.kd v0 = 27 ∧ ∀ r8 : Nat, r8 = (h.r 27005 v0) → h.kd r8 = 100 ∧ vp_in (v5 + 1) (h.ai r8).length ∧ vp_in v5 (h.ai r8).length ∧ ∀ h12 : AH, h12 = h.wi r8 ((h.ai r8).set (v5.toNatClampNeg) ((h.ai r8).getD ((v5 + 1).toNatClampNeg) 0)) → Aw G mX27_multiply (d + 1) t h0 Φ 65 [vR v0, vR v1, vR v2, vR v3, vI v4, vI (v5 + 1)] [] h12))) : Aw G mX27_multiply (d + 1) t h0 Φ 65 [vR v0, vR v1, vR v2, vR v3, vI v4, vI v5] [] h := by
  refine r_iload (pc := 65) dX27_multiply_65 rfl ?_
  refine r_bipush (pc := 67) (x := 9) dX27_multiply_67 rfl ?_
  refine r_icmp_ge (pc := 69) (tgt := 94) dX27_multiply_69 rfl (fun c1 => ?_) (fun c1 => ?_)
  · have K := K.1 c1
    refine r_aload_n (pc := 94) dX27_multiply_94 rfl ?_
    obtain ⟨hk2, K⟩ := K
    have K := K _ rfl
    refine r_getr' (pc := 95) (T := TX27) 27 5 rfl hk2 (Or.inl q2215) dX27_multiply_95 kc27 g27005 ?_
    refine r_bipush (pc := 98) (x := 9) dX27_multiply_98 rfl ?_
    refine r_iconst (pc := 100) (x := 0) dX27_multiply_100 rfl ?_
    obtain ⟨hk4, K⟩ := K
    obtain ⟨hi5, K⟩ := K
    refine r_iastore (pc := 101) hk4 hi5 (Or.inl (em rfl)) dX27_multiply_101 ?_
    refine r_nameH (fun h6 eh6 => ?_)
    have K := K h6 eh6
    refine r_iinc (pc := 102) (lv' := [_, _, _, _, _, _]) dX27_multiply_102 rfl rfl (by decide) rfl ?_
    refine r_goto (pc := 105) (tgt := 27) dX27_multiply_105 rfl ?_
    refine r_mask (pc := 27) [true, true, true, true, true, false] rfl ?_
    exact K
  · have K := K.2 c1
    refine r_aload_n (pc := 72) dX27_multiply_72 rfl ?_
    obtain ⟨hk7, K⟩ := K
    have K := K _ rfl
    refine r_getr' (pc := 73) (T := TX27) 27 5 rfl hk7 (Or.inl q2215) dX27_multiply_73 kc27 g27005 ?_
    refine r_iload (pc := 76) dX27_multiply_76 rfl ?_
    refine r_aload_n (pc := 78) dX27_multiply_78 rfl ?_
    refine r_getr' (pc := 79) (T := TX27) 27 5 rfl hk7 (Or.inl q2215) dX27_multiply_79 kc27 g27005 ?_
    refine r_iload (pc := 82) dX27_multiply_82 rfl ?_
    refine r_iconst (pc := 84) (x := 1) dX27_multiply_84 rfl ?_
    refine r_iadd (pc := 85) dX27_multiply_85 ?_
    obtain ⟨hk9, K⟩ := K
    obtain ⟨hi10, K⟩ := K
    refine r_iaload (pc := 86) hk9 hi10 dX27_multiply_86 ?_
    obtain ⟨hi11, K⟩ := K
    refine r_iastore (pc := 87) hk9 hi11 (Or.inl (em rfl)) dX27_multiply_87 ?_
    refine r_nameH (fun h12 eh12 => ?_)
    have K := K h12 eh12
    refine r_iinc (pc := 88) (lv' := [_, _, _, _, _, _]) dX27_multiply_88 rfl rfl (by decide) rfl ?_
    refine r_goto (pc := 91) (tgt := 65) dX27_multiply_91 rfl ?_
    refine r_mask (pc := 65) [true, true, true, true, true, true] rfl ?_
    exact K
set_option maxHeartbeats 4000000 in
theorem sX27_multiply_128 {G : Gx} {d t : Nat} {h0 : AH} {Φ : Out → AH → Prop} (h : AH) (v0 : Nat) (v3 : Nat) (v4 : Int32) (v5 : Int32) (K : ((8 ≤ v5 → ((¬ v4 = 0 → h.kd v0 = 27 ∧ ∀ r4 : Nat, r4 = (h.r 27000 v0) → Cw G mX27_less d 0 [vR v3, vR r4, vR v3] h (kJ (fun x5 h6 => Φ (.inl none) h6) (fun x h => Φ (.inr x) h))) ∧ (v4 = 0 → h.kd v0 = 27 ∧ ∀ r8 : Nat, r8 = (h.r 27000 v0) → Cw G mX27_compare d 0 [vR v3, vR r8] h (kI (fun x9 h10 => ((x9 < 0 → Φ (.inl none) h10) ∧ (¬ x9 < 0 → Cw G mX27_less d 0 [vR v3, vR r8, vR v3] h10 (kJ (fun x15 h16 => Φ (.inl none) h16) (fun x h => Φ (.inr x) h))))) (fun x h => Φ (.inr x) h))))) ∧ (¬ 8 ≤ v5 → h.kd v0 = 27 ∧ ∀ r18 : Nat, r18 = (h.r 27005 v0) → h.kd r18 = 100 ∧ vp_in v5 (h.ai r18).length ∧ h.kd v3 = 100 ∧ vp_in v5 (h.ai v3).length ∧ ∀ h23 : AH, h23 = h.wi v3 ((h.ai v3).set (v5.toNatClampNeg) ((h.ai r18).getD (v5.toNatClampNeg) 0)) → Aw G mX27_multiply (d + 1) t h0 Φ 128 [vR v0, vU, vU, vR v3, vI v4, vI (v5 + 1)] [] h23))) : Aw G mX27_multiply (d + 1) t h0 Φ 128 [vR v0, vU, vU, vR v3, vI v4, vI v5] [] h := by
  refine r_iload (pc := 128) dX27_multiply_128 rfl ?_
  refine r_bipush (pc := 130) (x := 8) dX27_multiply_130 rfl ?_
  refine r_icmp_ge (pc := 132) (tgt := 152) dX27_multiply_132 rfl (fun c1 => ?_) (fun c1 => ?_)
  · have K := K.1 c1
    refine r_iload (pc := 152) dX27_multiply_152 rfl ?_
    refine r_if_ne (pc := 154) (tgt := 168) dX27_multiply_154 rfl (fun c2 => ?_) (fun c2 => ?_)
    · have K := K.1 c2
      refine r_aload_n (pc := 168) dX27_multiply_168 rfl ?_
      refine r_aload_n (pc := 169) dX27_multiply_169 rfl ?_
      obtain ⟨hk3, K⟩ := K
      have K := K _ rfl
      refine r_getr' (pc := 170) (T := TX27) 27 0 rfl hk3 (Or.inl q2208) dX27_multiply_170 kc27 g27000 ?_
      refine r_aload_n (pc := 173) dX27_multiply_173 rfl ?_
      refine r_callS_J (pc := 174) (Y := mX27_less) (vs := [_, _, _]) (st := []) q2202 q2203 q195 dX27_multiply_174 rfl cd_X27_less rfl rfl fp_X27_multiply_X27_less K (fun x5 h6 eh6 wh6 K => ?_) (fun x h1 _ _ e => Tw.out rfl e)
      refine r_pop2L (pc := 177) rfl dX27_multiply_177 ?_
      exact r_vret (pc := 178) rfl dX27_multiply_178 K
    · have K := K.2 c2
      refine r_aload_n (pc := 157) dX27_multiply_157 rfl ?_
      refine r_aload_n (pc := 158) dX27_multiply_158 rfl ?_
      obtain ⟨hk7, K⟩ := K
      have K := K _ rfl
      refine r_getr' (pc := 159) (T := TX27) 27 0 rfl hk7 (Or.inl q2208) dX27_multiply_159 kc27 g27000 ?_
      refine r_callS_I (pc := 162) (Y := mX27_compare) (vs := [_, _]) (st := []) q2199 q2200 q195 dX27_multiply_162 rfl cd_X27_compare rfl rfl fp_X27_multiply_X27_compare K (fun x9 h10 eh10 wh10 K => ?_) (fun x h1 _ _ e => Tw.out rfl e)
      refine r_if_lt (pc := 165) (tgt := 178) dX27_multiply_165 rfl (fun c11 => ?_) (fun c11 => ?_)
      · have K := K.1 c11
        exact r_vret (pc := 178) rfl dX27_multiply_178 K
      · have K := K.2 c11
        refine r_aload_n (pc := 168) dX27_multiply_168 rfl ?_
        refine r_aload_n (pc := 169) dX27_multiply_169 rfl ?_
        have hk12 := kd_ext eh10 hk7 (nz rfl)
        have hv13 := fr_self (key := 27000) hk7
        have hv14 := (fr_ext (key := 27000) eh10 hk7 (nz rfl) (ne0 wh10 hk12 (nz rfl)) (nm rfl)).trans hv13
        refine r_getr' (pc := 170) (T := TX27) 27 0 hv14 hk12 (Or.inl q2208) dX27_multiply_170 kc27 g27000 ?_
        refine r_aload_n (pc := 173) dX27_multiply_173 rfl ?_
        refine r_callS_J (pc := 174) (Y := mX27_less) (vs := [_, _, _]) (st := []) q2202 q2203 q195 dX27_multiply_174 rfl cd_X27_less rfl rfl fp_X27_multiply_X27_less K (fun x15 h16 eh16 wh16 K => ?_) (fun x h1 _ _ e => Tw.out rfl e)
        refine r_pop2L (pc := 177) rfl dX27_multiply_177 ?_
        exact r_vret (pc := 178) rfl dX27_multiply_178 K
  · have K := K.2 c1
    refine r_aload_n (pc := 135) dX27_multiply_135 rfl ?_
    refine r_iload (pc := 136) dX27_multiply_136 rfl ?_
    refine r_aload_n (pc := 138) dX27_multiply_138 rfl ?_
    obtain ⟨hk17, K⟩ := K
    have K := K _ rfl
    refine r_getr' (pc := 139) (T := TX27) 27 5 rfl hk17 (Or.inl q2215) dX27_multiply_139 kc27 g27005 ?_
    refine r_iload (pc := 142) dX27_multiply_142 rfl ?_
    obtain ⟨hk19, K⟩ := K
    obtain ⟨hi20, K⟩ := K
    refine r_iaload (pc := 144) hk19 hi20 dX27_multiply_144 ?_
    obtain ⟨hk21, K⟩ := K
    obtain ⟨hi22, K⟩ := K
    refine r_iastore (pc := 145) hk21 hi22 (Or.inl (em rfl)) dX27_multiply_145 ?_
    refine r_nameH (fun h23 eh23 => ?_)
    have K := K h23 eh23
    refine r_iinc (pc := 146) (lv' := [_, _, _, _, _, _]) dX27_multiply_146 rfl rfl (by decide) rfl ?_
    refine r_goto (pc := 149) (tgt := 128) dX27_multiply_149 rfl ?_
    refine r_mask (pc := 128) [true, false, false, true, true, true] rfl ?_
    exact K
theorem dX27_leave_0 : decode cX27_leave 0 = .ok (.aload_n 0, 1) := by decide +kernel
theorem dX27_leave_1 : decode cX27_leave 1 = .ok (.aload_n 1, 1) := by decide +kernel
theorem dX27_leave_2 : decode cX27_leave 2 = .ok (.aload_n 0, 1) := by decide +kernel
theorem dX27_leave_3 : decode cX27_leave 3 = .ok (.getfield 21, 3) := by decide +kernel
theorem dX27_leave_6 : decode cX27_leave 6 = .ok (.aload_n 2, 1) := by decide +kernel
theorem dX27_leave_7 : decode cX27_leave 7 = .ok (.invokevirtual 62, 3) := by decide +kernel
theorem dX27_leave_10 : decode cX27_leave 10 = .ok (.return_, 1) := by decide +kernel
/-! CoinJudgeModel$Ring.leave([I[I)V -/
set_option maxHeartbeats 4000000 in
theorem sX27_leave_0 {G : Gx} {d t : Nat} {h0 : AH} {Φ : Out → AH → Prop} (h : AH) (v0 : Nat) (v1 : Nat) (v2 : Nat) (K : h.kd v0 = 27 ∧ ∀ r2 : Nat, r2 = (h.r 27004 v0) → Cw G mX27_multiply d 0 [vR v0, vR v1, vR r2, vR v2] h (kV (fun h4 => Φ (.inl none) h4) (fun x h => Φ (.inr x) h))) : Aw G mX27_leave (d + 1) t h0 Φ 0 [vR v0, vR v1, vR v2] [] h := by
  refine r_aload_n (pc := 0) dX27_leave_0 rfl ?_
  refine r_aload_n (pc := 1) dX27_leave_1 rfl ?_
  refine r_aload_n (pc := 2) dX27_leave_2 rfl ?_
  obtain ⟨hk1, K⟩ := K
  have K := K _ rfl
  refine r_getr' (pc := 3) (T := TX27) 27 4 rfl hk1 (Or.inl q2214) dX27_leave_3 kc27 g27004 ?_
  refine r_aload_n (pc := 6) dX27_leave_6 rfl ?_
  refine r_callV_V (pc := 7) (Y := mX27_multiply) (vs := [_, _, _]) (st := []) hk1 rfl kc27 q2251 q2252 q2253 dX27_leave_7 rfl cd_X27_multiply rfl rfl fp_X27_leave_X27_multiply K (fun h4 eh4 wh4 K => ?_) (fun x h1 _ _ e => Tw.out rfl e)
  exact r_vret (pc := 10) rfl dX27_leave_10 K
theorem eX27_leave {G : Gx} {d : Nat} {Φ : Out → AH → Prop} (h : AH) (v0 : Nat) (v1 : Nat) (v2 : Nat) (K : WF G h → Aw G mX27_leave (d + 1) 0 h Φ 0 [vR v0, vR v1, vR v2] [] h) : Cw G mX27_leave (d + 1) 0 [vR v0, vR v1, vR v2] h Φ := Cw.of rfl K
theorem dX27_power_0 : decode cX27_power 0 = .ok (.aload_n 1, 1) := by decide +kernel
theorem dX27_power_1 : decode cX27_power 1 = .ok (.aload_n 0, 1) := by decide +kernel
theorem dX27_power_2 : decode cX27_power 2 = .ok (.getfield 27, 3) := by decide +kernel
theorem dX27_power_5 : decode cX27_power 5 = .ok (.invokestatic 41, 3) := by decide +kernel
theorem dX27_power_8 : decode cX27_power 8 = .ok (.aload_n 0, 1) := by decide +kernel
theorem dX27_power_9 : decode cX27_power 9 = .ok (.getfield 15, 3) := by decide +kernel
theorem dX27_power_12 : decode cX27_power 12 = .ok (.aload_n 0, 1) := by decide +kernel
theorem dX27_power_13 : decode cX27_power 13 = .ok (.getfield 30, 3) := by decide +kernel
theorem dX27_power_16 : decode cX27_power 16 = .ok (.invokestatic 41, 3) := by decide +kernel
theorem dX27_power_19 : decode cX27_power 19 = .ok (.sipush 255, 3) := by decide +kernel
theorem dX27_power_22 : decode cX27_power 22 = .ok (.istore 5, 2) := by decide +kernel
theorem dX27_power_24 : decode cX27_power 24 = .ok (.iload 5, 2) := by decide +kernel
theorem dX27_power_26 : decode cX27_power 26 = .ok (.iload_n 3, 1) := by decide +kernel
theorem dX27_power_27 : decode cX27_power 27 = .ok (.if_icmp .lt 85, 3) := by decide +kernel
theorem dX27_power_30 : decode cX27_power 30 = .ok (.aload_n 0, 1) := by decide +kernel
theorem dX27_power_31 : decode cX27_power 31 = .ok (.aload_n 0, 1) := by decide +kernel
theorem dX27_power_32 : decode cX27_power 32 = .ok (.getfield 30, 3) := by decide +kernel
theorem dX27_power_35 : decode cX27_power 35 = .ok (.aload_n 0, 1) := by decide +kernel
theorem dX27_power_36 : decode cX27_power 36 = .ok (.getfield 30, 3) := by decide +kernel
theorem dX27_power_39 : decode cX27_power 39 = .ok (.aload_n 0, 1) := by decide +kernel
theorem dX27_power_40 : decode cX27_power 40 = .ok (.getfield 30, 3) := by decide +kernel
theorem dX27_power_43 : decode cX27_power 43 = .ok (.invokevirtual 62, 3) := by decide +kernel
theorem dX27_power_46 : decode cX27_power 46 = .ok (.iload 5, 2) := by decide +kernel
theorem dX27_power_48 : decode cX27_power 48 = .ok (.bipush 32, 2) := by decide +kernel
theorem dX27_power_50 : decode cX27_power 50 = .ok (.if_icmp .ge 14, 3) := by decide +kernel
theorem dX27_power_53 : decode cX27_power 53 = .ok (.aload_n 0, 1) := by decide +kernel
theorem dX27_power_54 : decode cX27_power 54 = .ok (.getfield 9, 3) := by decide +kernel
theorem dX27_power_57 : decode cX27_power 57 = .ok (.iconst 0, 1) := by decide +kernel
theorem dX27_power_58 : decode cX27_power 58 = .ok (.iaload, 1) := by decide +kernel
theorem dX27_power_59 : decode cX27_power 59 = .ok (.iload_n 2, 1) := by decide +kernel
theorem dX27_power_60 : decode cX27_power 60 = .ok (.iadd, 1) := by decide +kernel
theorem dX27_power_61 : decode cX27_power 61 = .ok (.goto 13, 3) := by decide +kernel
theorem dX27_power_64 : decode cX27_power 64 = .ok (.aload_n 0, 1) := by decide +kernel
theorem dX27_power_65 : decode cX27_power 65 = .ok (.getfield 9, 3) := by decide +kernel
theorem dX27_power_68 : decode cX27_power 68 = .ok (.iload 5, 2) := by decide +kernel
theorem dX27_power_70 : decode cX27_power 70 = .ok (.bipush 32, 2) := by decide +kernel
theorem dX27_power_72 : decode cX27_power 72 = .ok (.idiv, 1) := by decide +kernel
theorem dX27_power_73 : decode cX27_power 73 = .ok (.iaload, 1) := by decide +kernel
theorem dX27_power_74 : decode cX27_power 74 = .ok (.istore 6, 2) := by decide +kernel
theorem dX27_power_76 : decode cX27_power 76 = .ok (.iload 6, 2) := by decide +kernel
theorem dX27_power_78 : decode cX27_power 78 = .ok (.iload 5, 2) := by decide +kernel
theorem dX27_power_80 : decode cX27_power 80 = .ok (.bipush 32, 2) := by decide +kernel
theorem dX27_power_82 : decode cX27_power 82 = .ok (.irem, 1) := by decide +kernel
theorem dX27_power_83 : decode cX27_power 83 = .ok (.ishr, 1) := by decide +kernel
theorem dX27_power_84 : decode cX27_power 84 = .ok (.iconst 1, 1) := by decide +kernel
theorem dX27_power_85 : decode cX27_power 85 = .ok (.iand, 1) := by decide +kernel
theorem dX27_power_86 : decode cX27_power 86 = .ok (.iconst 1, 1) := by decide +kernel
theorem dX27_power_87 : decode cX27_power 87 = .ok (.if_icmp .ne 19, 3) := by decide +kernel
theorem dX27_power_90 : decode cX27_power 90 = .ok (.aload_n 0, 1) := by decide +kernel
theorem dX27_power_91 : decode cX27_power 91 = .ok (.aload_n 0, 1) := by decide +kernel
theorem dX27_power_92 : decode cX27_power 92 = .ok (.getfield 30, 3) := by decide +kernel
theorem dX27_power_95 : decode cX27_power 95 = .ok (.aload_n 0, 1) := by decide +kernel
theorem dX27_power_96 : decode cX27_power 96 = .ok (.getfield 27, 3) := by decide +kernel
theorem dX27_power_99 : decode cX27_power 99 = .ok (.aload_n 0, 1) := by decide +kernel
theorem dX27_power_100 : decode cX27_power 100 = .ok (.getfield 30, 3) := by decide +kernel
theorem dX27_power_103 : decode cX27_power 103 = .ok (.invokevirtual 62, 3) := by decide +kernel
theorem dX27_power_106 : decode cX27_power 106 = .ok (.iinc 5 (-1), 3) := by decide +kernel
theorem dX27_power_109 : decode cX27_power 109 = .ok (.goto (-85), 3) := by decide +kernel
theorem dX27_power_112 : decode cX27_power 112 = .ok (.aload_n 0, 1) := by decide +kernel
theorem dX27_power_113 : decode cX27_power 113 = .ok (.getfield 30, 3) := by decide +kernel
theorem dX27_power_116 : decode cX27_power 116 = .ok (.aload 4, 2) := by decide +kernel
theorem dX27_power_118 : decode cX27_power 118 = .ok (.invokestatic 41, 3) := by decide +kernel
theorem dX27_power_121 : decode cX27_power 121 = .ok (.return_, 1) := by decide +kernel
/-! CoinJudgeModel$Ring.power([III[I)V -/
set_option maxHeartbeats 4000000 in
theorem sX27_power_0 {G : Gx} {d t : Nat} {h0 : AH} {Φ : Out → AH → Prop} (h : AH) (v0 : Nat) (v1 : Nat) (v2 : Int32) (v3 : Int32) (v4 : Nat) (K : h.kd v0 = 27 ∧ ∀ r2 : Nat, r2 = (h.r 27006 v0) → Cw G mX27_copy d 0 [vR v1, vR r2] h (kV (fun h4 => ∀ r6 : Nat, r6 = (h4.r 27002 v0) → ∀ r7 : Nat, r7 = (h4.r 27007 v0) → Cw G mX27_copy d 0 [vR r6, vR r7] h4 (kV (fun h9 => Aw G mX27_power (d + 1) t h0 Φ 24 [vR v0, vU, vI v2, vI v3, vR v4, vI 255, vU] [] h9) (fun x h => Φ (.inr x) h))) (fun x h => Φ (.inr x) h))) : Aw G mX27_power (d + 1) t h0 Φ 0 [vR v0, vR v1, vI v2, vI v3, vR v4, vU, vU] [] h := by
  refine r_aload_n (pc := 0) dX27_power_0 rfl ?_
  refine r_aload_n (pc := 1) dX27_power_1 rfl ?_
  obtain ⟨hk1, K⟩ := K
  have K := K _ rfl
  refine r_getr' (pc := 2) (T := TX27) 27 6 rfl hk1 (Or.inl q2216) dX27_power_2 kc27 g27006 ?_
  refine r_callS_V (pc := 5) (Y := mX27_copy) (vs := [_, _]) (st := []) q2205 q2206 q195 dX27_power_5 rfl cd_X27_copy rfl rfl fp_X27_power_X27_copy K (fun h4 eh4 wh4 K => ?_) (fun x h1 _ _ e => Tw.out rfl e)
  refine r_aload_n (pc := 8) dX27_power_8 rfl ?_
  have hk5 := kd_ext eh4 hk1 (nz rfl)
  have K := K _ rfl
  refine r_getr' (pc := 9) (T := TX27) 27 2 rfl hk5 (Or.inl q2211) dX27_power_9 kc27 g27002 ?_
  refine r_aload_n (pc := 12) dX27_power_12 rfl ?_
  have K := K _ rfl
  refine r_getr' (pc := 13) (T := TX27) 27 7 rfl hk5 (Or.inl q2217) dX27_power_13 kc27 g27007 ?_
  refine r_callS_V (pc := 16) (Y := mX27_copy) (vs := [_, _]) (st := []) q2205 q2206 q195 dX27_power_16 rfl cd_X27_copy rfl rfl fp_X27_power_X27_copy K (fun h9 eh9 wh9 K => ?_) (fun x h1 _ _ e => Tw.out rfl e)
  refine r_sipush (pc := 19) (x := 255) dX27_power_19 rfl ?_
  refine r_istore (pc := 22) (lv' := [_, _, _, _, _, _, _]) dX27_power_22 (by decide) rfl ?_
  refine r_mask (pc := 24) [true, false, true, true, true, true, false] rfl ?_
  exact K
theorem eX27_power {G : Gx} {d : Nat} {Φ : Out → AH → Prop} (h : AH) (v0 : Nat) (v1 : Nat) (v2 : Int32) (v3 : Int32) (v4 : Nat) (K : WF G h → Aw G mX27_power (d + 1) 0 h Φ 0 [vR v0, vR v1, vI v2, vI v3, vR v4, vU, vU] [] h) : Cw G mX27_power (d + 1) 0 [vR v0, vR v1, vI v2, vI v3, vR v4] h Φ := Cw.of rfl K
set_option maxHeartbeats 4000000 in
theorem sX27_power_24 {G : Gx} {d t : Nat} {h0 : AH} {Φ : Out → AH → Prop} (h : AH) (v0 : Nat) (v2 : Int32) (v3 : Int32) (v4 : Nat) (v5 : Int32) (K : ((v5 < v3 → h.kd v0 = 27 ∧ ∀ r3 : Nat, r3 = (h.r 27007 v0) → Cw G mX27_copy d 0 [vR r3, vR v4] h (kV (fun h5 => Φ (.inl none) h5) (fun x h => Φ (.inr x) h))) ∧ (¬ v5 < v3 → h.kd v0 = 27 ∧ ∀ r7 : Nat, r7 = (h.r 27007 v0) → Cw G mX27_multiply d 0 [vR v0, vR r7, vR r7, vR r7] h (kV (fun h9 => ((32 ≤ v5 → ∀ r12 : Nat, r12 = (h9.r 27000 v0) → h9.kd r12 = 100 ∧ vp_in (v5 / 32) (h9.ai r12).length ∧ ∀ u15 : Int32, u15 = ((h9.ai r12).getD ((v5 / 32).toNatClampNeg) 0) → ((¬ ((jshr u15 (jrem v5 32)) &&& 1) = 1 → Aw G mX27_power (d + 1) t h0 Φ 24 [vR v0, vU, vI v2, vI v3, vR v4, vI (v5 + (-1)), vU] [] h9) ∧ (((jshr u15 (jrem v5 32)) &&& 1) = 1 → ∀ r19 : Nat, r19 = (h9.r 27006 v0) → Cw G mX27_multiply d 0 [vR v0, vR r7, vR r19, vR r7] h9 (kV (fun h21 => Aw G mX27_power (d + 1) t h0 Φ 24 [vR v0, vU, vI v2, vI v3, vR v4, vI (v5 + (-1)), vU] [] h21) (fun x h => Φ (.inr x) h))))) ∧ (¬ 32 ≤ v5 → ∀ r23 : Nat, r23 = (h9.r 27000 v0) → h9.kd r23 = 100 ∧ vp_in 0 (h9.ai r23).length ∧ ∀ u26 : Int32, u26 = (((h9.ai r23).getD ((0 : Int32).toNatClampNeg) 0) + v2) → ((¬ ((jshr u26 (jrem v5 32)) &&& 1) = 1 → Aw G mX27_power (d + 1) t h0 Φ 24 [vR v0, vU, vI v2, vI v3, vR v4, vI (v5 + (-1)), vU] [] h9) ∧ (((jshr u26 (jrem v5 32)) &&& 1) = 1 → ∀ r30 : Nat, r30 = (h9.r 27006 v0) → Cw G mX27_multiply d 0 [vR v0, vR r7, vR r30, vR r7] h9 (kV (fun h32 => Aw G mX27_power (d + 1) t h0 Φ 24 [vR v0, vU, vI v2, vI v3, vR v4, vI (v5 + (-1)), vU] [] h32) (fun x h => Φ (.inr x) h))))))) (fun x h => Φ (.inr x) h))))) : Aw G mX27_power (d + 1) t h0 Φ 24 [vR v0, vU, vI v2, vI v3, vR v4, vI v5, vU] [] h := by
  refine r_iload (pc := 24) dX27_power_24 rfl ?_
  refine r_iload_n (pc := 26) dX27_power_26 rfl ?_
  refine r_icmp_lt (pc := 27) (tgt := 112) dX27_power_27 rfl (fun c1 => ?_) (fun c1 => ?_)
  · have K := K.1 c1
    refine r_aload_n (pc := 112) dX27_power_112 rfl ?_
    obtain ⟨hk2, K⟩ := K
    have K := K _ rfl
    refine r_getr' (pc := 113) (T := TX27) 27 7 rfl hk2 (Or.inl q2217) dX27_power_113 kc27 g27007 ?_
    refine r_aload (pc := 116) dX27_power_116 rfl ?_
    refine r_callS_V (pc := 118) (Y := mX27_copy) (vs := [_, _]) (st := []) q2205 q2206 q195 dX27_power_118 rfl cd_X27_copy rfl rfl fp_X27_power_X27_copy K (fun h5 eh5 wh5 K => ?_) (fun x h1 _ _ e => Tw.out rfl e)
    exact r_vret (pc := 121) rfl dX27_power_121 K
  · have K := K.2 c1
    refine r_aload_n (pc := 30) dX27_power_30 rfl ?_
    refine r_aload_n (pc := 31) dX27_power_31 rfl ?_
    obtain ⟨hk6, K⟩ := K
    have K := K _ rfl
    refine r_getr' (pc := 32) (T := TX27) 27 7 rfl hk6 (Or.inl q2217) dX27_power_32 kc27 g27007 ?_
    refine r_aload_n (pc := 35) dX27_power_35 rfl ?_
    refine r_getr' (pc := 36) (T := TX27) 27 7 rfl hk6 (Or.inl q2217) dX27_power_36 kc27 g27007 ?_
    refine r_aload_n (pc := 39) dX27_power_39 rfl ?_
    refine r_getr' (pc := 40) (T := TX27) 27 7 rfl hk6 (Or.inl q2217) dX27_power_40 kc27 g27007 ?_
    refine r_callV_V (pc := 43) (Y := mX27_multiply) (vs := [_, _, _]) (st := []) hk6 rfl kc27 q2251 q2252 q2253 dX27_power_43 rfl cd_X27_multiply rfl rfl fp_X27_power_X27_multiply K (fun h9 eh9 wh9 K => ?_) (fun x h1 _ _ e => Tw.out rfl e)
    refine r_iload (pc := 46) dX27_power_46 rfl ?_
    refine r_bipush (pc := 48) (x := 32) dX27_power_48 rfl ?_
    refine r_icmp_ge (pc := 50) (tgt := 64) dX27_power_50 rfl (fun c10 => ?_) (fun c10 => ?_)
    · have K := K.1 c10
      refine r_aload_n (pc := 64) dX27_power_64 rfl ?_
      have hk11 := kd_ext eh9 hk6 (nz rfl)
      have K := K _ rfl
      refine r_getr' (pc := 65) (T := TX27) 27 0 rfl hk11 (Or.inl q2208) dX27_power_65 kc27 g27000 ?_
      refine r_iload (pc := 68) dX27_power_68 rfl ?_
      refine r_bipush (pc := 70) (x := 32) dX27_power_70 rfl ?_
      refine r_idiv (pc := 72) (by decide) dX27_power_72 ?_
      obtain ⟨hk13, K⟩ := K
      obtain ⟨hi14, K⟩ := K
      refine r_iaload (pc := 73) hk13 hi14 dX27_power_73 ?_
      have K := K _ rfl
      refine r_istore (pc := 74) (lv' := [_, _, _, _, _, _, _]) dX27_power_74 (by decide) rfl ?_
      refine r_iload (pc := 76) dX27_power_76 rfl ?_
      refine r_iload (pc := 78) dX27_power_78 rfl ?_
      refine r_bipush (pc := 80) (x := 32) dX27_power_80 rfl ?_
      refine r_jrem (pc := 82) (by decide) dX27_power_82 ?_
      refine r_jshr (pc := 83) dX27_power_83 ?_
      refine r_iconst (pc := 84) (x := 1) dX27_power_84 rfl ?_
      refine r_iand (pc := 85) dX27_power_85 ?_
      refine r_iconst (pc := 86) (x := 1) dX27_power_86 rfl ?_
      refine r_icmp_ne (pc := 87) (tgt := 106) dX27_power_87 rfl (fun c16 => ?_) (fun c16 => ?_)
      · have K := K.1 c16
        refine r_iinc (pc := 106) (lv' := [_, _, _, _, _, _, _]) dX27_power_106 rfl rfl (by decide) rfl ?_
        refine r_goto (pc := 109) (tgt := 24) dX27_power_109 rfl ?_
        refine r_mask (pc := 24) [true, false, true, true, true, true, false] rfl ?_
        exact K
      · have K := K.2 c16
        refine r_aload_n (pc := 90) dX27_power_90 rfl ?_
        refine r_aload_n (pc := 91) dX27_power_91 rfl ?_
        have hv17 := fr_self (key := 27007) hk6
        have hv18 := (fr_ext (key := 27007) eh9 hk6 (nz rfl) (ne0 wh9 hk11 (nz rfl)) (nm rfl)).trans hv17
        refine r_getr' (pc := 92) (T := TX27) 27 7 hv18 hk11 (Or.inl q2217) dX27_power_92 kc27 g27007 ?_
        refine r_aload_n (pc := 95) dX27_power_95 rfl ?_
        have K := K _ rfl
        refine r_getr' (pc := 96) (T := TX27) 27 6 rfl hk11 (Or.inl q2216) dX27_power_96 kc27 g27006 ?_
        refine r_aload_n (pc := 99) dX27_power_99 rfl ?_
        refine r_getr' (pc := 100) (T := TX27) 27 7 hv18 hk11 (Or.inl q2217) dX27_power_100 kc27 g27007 ?_
        refine r_callV_V (pc := 103) (Y := mX27_multiply) (vs := [_, _, _]) (st := []) hk11 rfl kc27 q2251 q2252 q2253 dX27_power_103 rfl cd_X27_multiply rfl rfl fp_X27_power_X27_multiply K (fun h21 eh21 wh21 K => ?_) (fun x h1 _ _ e => Tw.out rfl e)
        refine r_iinc (pc := 106) (lv' := [_, _, _, _, _, _, _]) dX27_power_106 rfl rfl (by decide) rfl ?_
        refine r_goto (pc := 109) (tgt := 24) dX27_power_109 rfl ?_
        refine r_mask (pc := 24) [true, false, true, true, true, true, false] rfl ?_
        exact K
    · have K := K.2 c10
      refine r_aload_n (pc := 53) dX27_power_53 rfl ?_
      have hk22 := kd_ext eh9 hk6 (nz rfl)
      have K := K _ rfl
      refine r_getr' (pc := 54) (T := TX27) 27 0 rfl hk22 (Or.inl q2208) dX27_power_54 kc27 g27000 ?_
      refine r_iconst (pc := 57) (x := 0) dX27_power_57 rfl ?_
      obtain ⟨hk24, K⟩ := K
      obtain ⟨hi25, K⟩ := K
      refine r_iaload (pc := 58) hk24 hi25 dX27_power_58 ?_
      refine r_iload_n (pc := 59) dX27_power_59 rfl ?_
      refine r_iadd (pc := 60) dX27_power_60 ?_
      refine r_goto (pc := 61) (tgt := 74) dX27_power_61 rfl ?_
      have K := K _ rfl
      refine r_istore (pc := 74) (lv' := [_, _, _, _, _, _, _]) dX27_power_74 (by decide) rfl ?_
      refine r_iload (pc := 76) dX27_power_76 rfl ?_
      refine r_iload (pc := 78) dX27_power_78 rfl ?_
      refine r_bipush (pc := 80) (x := 32) dX27_power_80 rfl ?_
      refine r_jrem (pc := 82) (by decide) dX27_power_82 ?_
      refine r_jshr (pc := 83) dX27_power_83 ?_
      refine r_iconst (pc := 84) (x := 1) dX27_power_84 rfl ?_
      refine r_iand (pc := 85) dX27_power_85 ?_
      refine r_iconst (pc := 86) (x := 1) dX27_power_86 rfl ?_
      refine r_icmp_ne (pc := 87) (tgt := 106) dX27_power_87 rfl (fun c27 => ?_) (fun c27 => ?_)
      · have K := K.1 c27
        refine r_iinc (pc := 106) (lv' := [_, _, _, _, _, _, _]) dX27_power_106 rfl rfl (by decide) rfl ?_
        refine r_goto (pc := 109) (tgt := 24) dX27_power_109 rfl ?_
        refine r_mask (pc := 24) [true, false, true, true, true, true, false] rfl ?_
        exact K
      · have K := K.2 c27
        refine r_aload_n (pc := 90) dX27_power_90 rfl ?_
        refine r_aload_n (pc := 91) dX27_power_91 rfl ?_
        have hv28 := fr_self (key := 27007) hk6
        have hv29 := (fr_ext (key := 27007) eh9 hk6 (nz rfl) (ne0 wh9 hk22 (nz rfl)) (nm rfl)).trans hv28
        refine r_getr' (pc := 92) (T := TX27) 27 7 hv29 hk22 (Or.inl q2217) dX27_power_92 kc27 g27007 ?_
        refine r_aload_n (pc := 95) dX27_power_95 rfl ?_
        have K := K _ rfl
        refine r_getr' (pc := 96) (T := TX27) 27 6 rfl hk22 (Or.inl q2216) dX27_power_96 kc27 g27006 ?_
        refine r_aload_n (pc := 99) dX27_power_99 rfl ?_
        refine r_getr' (pc := 100) (T := TX27) 27 7 hv29 hk22 (Or.inl q2217) dX27_power_100 kc27 g27007 ?_
        refine r_callV_V (pc := 103) (Y := mX27_multiply) (vs := [_, _, _]) (st := []) hk22 rfl kc27 q2251 q2252 q2253 dX27_power_103 rfl cd_X27_multiply rfl rfl fp_X27_power_X27_multiply K (fun h32 eh32 wh32 K => ?_) (fun x h1 _ _ e => Tw.out rfl e)
        refine r_iinc (pc := 106) (lv' := [_, _, _, _, _, _, _]) dX27_power_106 rfl rfl (by decide) rfl ?_
        refine r_goto (pc := 109) (tgt := 24) dX27_power_109 rfl ?_
        refine r_mask (pc := 24) [true, false, true, true, true, true, false] rfl ?_
        exact K
theorem dX27_isZero_0 : decode cX27_isZero 0 = .ok (.iconst 0, 1) := by decide +kernel
theorem dX27_isZero_1 : decode cX27_isZero 1 = .ok (.istore_n 1, 1) := by decide +kernel
theorem dX27_isZero_2 : decode cX27_isZero 2 = .ok (.iconst 0, 1) := by decide +kernel
theorem dX27_isZero_3 : decode cX27_isZero 3 = .ok (.istore_n 2, 1) := by decide +kernel
theorem dX27_isZero_4 : decode cX27_isZero 4 = .ok (.iload_n 2, 1) := by decide +kernel
theorem dX27_isZero_5 : decode cX27_isZero 5 = .ok (.bipush 8, 2) := by decide +kernel
theorem dX27_isZero_7 : decode cX27_isZero 7 = .ok (.if_icmp .ge 15, 3) := by decide +kernel
theorem dX27_isZero_10 : decode cX27_isZero 10 = .ok (.iload_n 1, 1) := by decide +kernel
theorem dX27_isZero_11 : decode cX27_isZero 11 = .ok (.aload_n 0, 1) := by decide +kernel
theorem dX27_isZero_12 : decode cX27_isZero 12 = .ok (.iload_n 2, 1) := by decide +kernel
theorem dX27_isZero_13 : decode cX27_isZero 13 = .ok (.iaload, 1) := by decide +kernel
theorem dX27_isZero_14 : decode cX27_isZero 14 = .ok (.ior, 1) := by decide +kernel
theorem dX27_isZero_15 : decode cX27_isZero 15 = .ok (.istore_n 1, 1) := by decide +kernel
theorem dX27_isZero_16 : decode cX27_isZero 16 = .ok (.iinc 2 1, 3) := by decide +kernel
theorem dX27_isZero_19 : decode cX27_isZero 19 = .ok (.goto (-15), 3) := by decide +kernel
theorem dX27_isZero_22 : decode cX27_isZero 22 = .ok (.iload_n 1, 1) := by decide +kernel
theorem dX27_isZero_23 : decode cX27_isZero 23 = .ok (.ifCond .ne 7, 3) := by decide +kernel
theorem dX27_isZero_26 : decode cX27_isZero 26 = .ok (.iconst 1, 1) := by decide +kernel
theorem dX27_isZero_27 : decode cX27_isZero 27 = .ok (.goto 4, 3) := by decide +kernel
theorem dX27_isZero_30 : decode cX27_isZero 30 = .ok (.iconst 0, 1) := by decide +kernel
theorem dX27_isZero_31 : decode cX27_isZero 31 = .ok (.ireturn, 1) := by decide +kernel
/-! CoinJudgeModel$Ring.isZero([I)Z -/
set_option maxHeartbeats 4000000 in
theorem sX27_isZero_0 {G : Gx} {d t : Nat} {h0 : AH} {Φ : Out → AH → Prop} (h : AH) (v0 : Nat) (K : Aw G mX27_isZero (d + 1) t h0 Φ 4 [vR v0, vI 0, vI 0] [] h) : Aw G mX27_isZero (d + 1) t h0 Φ 0 [vR v0, vU, vU] [] h := by
  refine r_iconst (pc := 0) (x := 0) dX27_isZero_0 rfl ?_
  refine r_istore_n (pc := 1) (lv' := [_, _, _]) dX27_isZero_1 (by decide) rfl ?_
  refine r_iconst (pc := 2) (x := 0) dX27_isZero_2 rfl ?_
  refine r_istore_n (pc := 3) (lv' := [_, _, _]) dX27_isZero_3 (by decide) rfl ?_
  refine r_mask (pc := 4) [true, true, true] rfl ?_
  exact K
theorem eX27_isZero {G : Gx} {d : Nat} {Φ : Out → AH → Prop} (h : AH) (v0 : Nat) (K : WF G h → Aw G mX27_isZero (d + 1) 0 h Φ 0 [vR v0, vU, vU] [] h) : Cw G mX27_isZero (d + 1) 0 [vR v0] h Φ := Cw.of rfl K
set_option maxHeartbeats 4000000 in
theorem sX27_isZero_4 {G : Gx} {d t : Nat} {h0 : AH} {Φ : Out → AH → Prop} (h : AH) (v0 : Nat) (v1 : Int32) (v2 : Int32) (K : ((8 ≤ v2 → ((¬ v1 = 0 → Φ (.inl (some (vI 0))) h) ∧ (v1 = 0 → Φ (.inl (some (vI 1))) h))) ∧ (¬ 8 ≤ v2 → h.kd v0 = 100 ∧ vp_in v2 (h.ai v0).length ∧ ∀ u5 : Int32, u5 = (v1 ||| ((h.ai v0).getD (v2.toNatClampNeg) 0)) → Aw G mX27_isZero (d + 1) t h0 Φ 4 [vR v0, vI u5, vI (v2 + 1)] [] h))) : Aw G mX27_isZero (d + 1) t h0 Φ 4 [vR v0, vI v1, vI v2] [] h := by
  refine r_iload_n (pc := 4) dX27_isZero_4 rfl ?_
  refine r_bipush (pc := 5) (x := 8) dX27_isZero_5 rfl ?_
  refine r_icmp_ge (pc := 7) (tgt := 22) dX27_isZero_7 rfl (fun c1 => ?_) (fun c1 => ?_)
  · have K := K.1 c1
    refine r_iload_n (pc := 22) dX27_isZero_22 rfl ?_
    refine r_if_ne (pc := 23) (tgt := 30) dX27_isZero_23 rfl (fun c2 => ?_) (fun c2 => ?_)
    · have K := K.1 c2
      refine r_iconst (pc := 30) (x := 0) dX27_isZero_30 rfl ?_
      exact r_iret (pc := 31) rfl rfl dX27_isZero_31 K
    · have K := K.2 c2
      refine r_iconst (pc := 26) (x := 1) dX27_isZero_26 rfl ?_
      refine r_goto (pc := 27) (tgt := 31) dX27_isZero_27 rfl ?_
      exact r_iret (pc := 31) rfl rfl dX27_isZero_31 K
  · have K := K.2 c1
    refine r_iload_n (pc := 10) dX27_isZero_10 rfl ?_
    refine r_aload_n (pc := 11) dX27_isZero_11 rfl ?_
    refine r_iload_n (pc := 12) dX27_isZero_12 rfl ?_
    obtain ⟨hk3, K⟩ := K
    obtain ⟨hi4, K⟩ := K
    refine r_iaload (pc := 13) hk3 hi4 dX27_isZero_13 ?_
    refine r_ior (pc := 14) dX27_isZero_14 ?_
    have K := K _ rfl
    refine r_istore_n (pc := 15) (lv' := [_, _, _]) dX27_isZero_15 (by decide) rfl ?_
    refine r_iinc (pc := 16) (lv' := [_, _, _]) dX27_isZero_16 rfl rfl (by decide) rfl ?_
    refine r_goto (pc := 19) (tgt := 4) dX27_isZero_19 rfl ?_
    refine r_mask (pc := 4) [true, true, true] rfl ?_
    exact K
theorem dX27_plus_0 : decode cX27_plus 0 = .ok (.lconst 0, 1) := by decide +kernel
theorem dX27_plus_1 : decode cX27_plus 1 = .ok (.lstore_n 3, 1) := by decide +kernel
theorem dX27_plus_2 : decode cX27_plus 2 = .ok (.iconst 0, 1) := by decide +kernel
theorem dX27_plus_3 : decode cX27_plus 3 = .ok (.istore 5, 2) := by decide +kernel
theorem dX27_plus_5 : decode cX27_plus 5 = .ok (.iload 5, 2) := by decide +kernel
theorem dX27_plus_7 : decode cX27_plus 7 = .ok (.bipush 8, 2) := by decide +kernel
theorem dX27_plus_9 : decode cX27_plus 9 = .ok (.if_icmp .ge 42, 3) := by decide +kernel
theorem dX27_plus_12 : decode cX27_plus 12 = .ok (.lload_n 3, 1) := by decide +kernel
theorem dX27_plus_13 : decode cX27_plus 13 = .ok (.aload_n 0, 1) := by decide +kernel
theorem dX27_plus_14 : decode cX27_plus 14 = .ok (.iload 5, 2) := by decide +kernel
theorem dX27_plus_16 : decode cX27_plus 16 = .ok (.iaload, 1) := by decide +kernel
theorem dX27_plus_17 : decode cX27_plus 17 = .ok (.i2l, 1) := by decide +kernel
theorem dX27_plus_18 : decode cX27_plus 18 = .ok (.ldc2_w 49, 3) := by decide +kernel
theorem dX27_plus_21 : decode cX27_plus 21 = .ok (.land, 1) := by decide +kernel
theorem dX27_plus_22 : decode cX27_plus 22 = .ok (.aload_n 1, 1) := by decide +kernel
theorem dX27_plus_23 : decode cX27_plus 23 = .ok (.iload 5, 2) := by decide +kernel
theorem dX27_plus_25 : decode cX27_plus 25 = .ok (.iaload, 1) := by decide +kernel
theorem dX27_plus_26 : decode cX27_plus 26 = .ok (.i2l, 1) := by decide +kernel
theorem dX27_plus_27 : decode cX27_plus 27 = .ok (.ldc2_w 49, 3) := by decide +kernel
theorem dX27_plus_30 : decode cX27_plus 30 = .ok (.land, 1) := by decide +kernel
theorem dX27_plus_31 : decode cX27_plus 31 = .ok (.ladd, 1) := by decide +kernel
theorem dX27_plus_32 : decode cX27_plus 32 = .ok (.ladd, 1) := by decide +kernel
theorem dX27_plus_33 : decode cX27_plus 33 = .ok (.lstore_n 3, 1) := by decide +kernel
theorem dX27_plus_34 : decode cX27_plus 34 = .ok (.aload_n 2, 1) := by decide +kernel
theorem dX27_plus_35 : decode cX27_plus 35 = .ok (.iload 5, 2) := by decide +kernel
theorem dX27_plus_37 : decode cX27_plus 37 = .ok (.lload_n 3, 1) := by decide +kernel
theorem dX27_plus_38 : decode cX27_plus 38 = .ok (.l2i, 1) := by decide +kernel
theorem dX27_plus_39 : decode cX27_plus 39 = .ok (.iastore, 1) := by decide +kernel
theorem dX27_plus_40 : decode cX27_plus 40 = .ok (.lload_n 3, 1) := by decide +kernel
theorem dX27_plus_41 : decode cX27_plus 41 = .ok (.bipush 32, 2) := by decide +kernel
theorem dX27_plus_43 : decode cX27_plus 43 = .ok (.lushr, 1) := by decide +kernel
theorem dX27_plus_44 : decode cX27_plus 44 = .ok (.lstore_n 3, 1) := by decide +kernel
theorem dX27_plus_45 : decode cX27_plus 45 = .ok (.iinc 5 1, 3) := by decide +kernel
theorem dX27_plus_48 : decode cX27_plus 48 = .ok (.goto (-43), 3) := by decide +kernel
theorem dX27_plus_51 : decode cX27_plus 51 = .ok (.lload_n 3, 1) := by decide +kernel
theorem dX27_plus_52 : decode cX27_plus 52 = .ok (.lreturn, 1) := by decide +kernel
/-! CoinJudgeModel$Ring.plus([I[I[I)J -/
set_option maxHeartbeats 4000000 in
theorem sX27_plus_0 {G : Gx} {d t : Nat} {h0 : AH} {Φ : Out → AH → Prop} (h : AH) (v0 : Nat) (v1 : Nat) (v2 : Nat) (K : Aw G mX27_plus (d + 1) t h0 Φ 5 [vR v0, vR v1, vR v2, vJ 0, vU, vI 0] [] h) : Aw G mX27_plus (d + 1) t h0 Φ 0 [vR v0, vR v1, vR v2, vU, vU, vU] [] h := by
  refine r_lconst (pc := 0) (a := 0) dX27_plus_0 rfl ?_
  refine r_lstore_n (pc := 1) (lv' := [_, _, _, _, _, _]) dX27_plus_1 (by decide) rfl ?_
  refine r_iconst (pc := 2) (x := 0) dX27_plus_2 rfl ?_
  refine r_istore (pc := 3) (lv' := [_, _, _, _, _, _]) dX27_plus_3 (by decide) rfl ?_
  refine r_mask (pc := 5) [true, true, true, true, false, true] rfl ?_
  exact K
theorem eX27_plus {G : Gx} {d : Nat} {Φ : Out → AH → Prop} (h : AH) (v0 : Nat) (v1 : Nat) (v2 : Nat) (K : WF G h → Aw G mX27_plus (d + 1) 0 h Φ 0 [vR v0, vR v1, vR v2, vU, vU, vU] [] h) : Cw G mX27_plus (d + 1) 0 [vR v0, vR v1, vR v2] h Φ := Cw.of rfl K
set_option maxHeartbeats 4000000 in
theorem sX27_plus_5 {G : Gx} {d t : Nat} {h0 : AH} {Φ : Out → AH → Prop} (h : AH) (v0 : Nat) (v1 : Nat) (v2 : Nat) (v3 : Int64) (v5 : Int32) (K : ((8 ≤ v5 → Φ (.inl (some (vJ v3))) h) ∧ (¬ 8 ≤ v5 → h.kd v0 = 100 ∧ vp_in v5 (h.ai v0).length ∧ h.kd v1 = 100 ∧ vp_in v5 (h.ai v1).length ∧ ∀ u6 : Int64, u6 = (v3 + ((((h.ai v0).getD (v5.toNatClampNeg) 0).toInt64 &&& 4294967295) + (((h.ai v1).getD (v5.toNatClampNeg) 0).toInt64 &&& 4294967295))) → h.kd v2 = 100 ∧ vp_in v5 (h.ai v2).length ∧ ∀ h9 : AH, h9 = h.wi v2 ((h.ai v2).set (v5.toNatClampNeg) u6.toInt32) → Aw G mX27_plus (d + 1) t h0 Φ 5 [vR v0, vR v1, vR v2, vJ (Jushr u6 32), vU, vI (v5 + 1)] [] h9))) : Aw G mX27_plus (d + 1) t h0 Φ 5 [vR v0, vR v1, vR v2, vJ v3, vU, vI v5] [] h := by
  refine r_iload (pc := 5) dX27_plus_5 rfl ?_
  refine r_bipush (pc := 7) (x := 8) dX27_plus_7 rfl ?_
  refine r_icmp_ge (pc := 9) (tgt := 51) dX27_plus_9 rfl (fun c1 => ?_) (fun c1 => ?_)
  · have K := K.1 c1
    refine r_lload_n (pc := 51) dX27_plus_51 rfl ?_
    exact r_lret (pc := 52) rfl dX27_plus_52 K
  · have K := K.2 c1
    refine r_lload_n (pc := 12) dX27_plus_12 rfl ?_
    refine r_aload_n (pc := 13) dX27_plus_13 rfl ?_
    refine r_iload (pc := 14) dX27_plus_14 rfl ?_
    obtain ⟨hk2, K⟩ := K
    obtain ⟨hi3, K⟩ := K
    refine r_iaload (pc := 16) hk2 hi3 dX27_plus_16 ?_
    refine r_i2l (pc := 17) dX27_plus_17 ?_
    refine r_ldc2 (pc := 18) dX27_plus_18 q2198 ?_
    refine r_land (pc := 21) dX27_plus_21 ?_
    refine r_aload_n (pc := 22) dX27_plus_22 rfl ?_
    refine r_iload (pc := 23) dX27_plus_23 rfl ?_
    obtain ⟨hk4, K⟩ := K
    obtain ⟨hi5, K⟩ := K
    refine r_iaload (pc := 25) hk4 hi5 dX27_plus_25 ?_
    refine r_i2l (pc := 26) dX27_plus_26 ?_
    refine r_ldc2 (pc := 27) dX27_plus_27 q2198 ?_
    refine r_land (pc := 30) dX27_plus_30 ?_
    refine r_ladd (pc := 31) dX27_plus_31 ?_
    refine r_ladd (pc := 32) dX27_plus_32 ?_
    have K := K _ rfl
    refine r_lstore_n (pc := 33) (lv' := [_, _, _, _, _, _]) dX27_plus_33 (by decide) rfl ?_
    refine r_aload_n (pc := 34) dX27_plus_34 rfl ?_
    refine r_iload (pc := 35) dX27_plus_35 rfl ?_
    refine r_lload_n (pc := 37) dX27_plus_37 rfl ?_
    refine r_l2i (pc := 38) dX27_plus_38 ?_
    obtain ⟨hk7, K⟩ := K
    obtain ⟨hi8, K⟩ := K
    refine r_iastore (pc := 39) hk7 hi8 (Or.inl (em rfl)) dX27_plus_39 ?_
    refine r_nameH (fun h9 eh9 => ?_)
    have K := K h9 eh9
    refine r_lload_n (pc := 40) dX27_plus_40 rfl ?_
    refine r_bipush (pc := 41) (x := 32) dX27_plus_41 rfl ?_
    refine r_Jushr (pc := 43) dX27_plus_43 ?_
    refine r_lstore_n (pc := 44) (lv' := [_, _, _, _, _, _]) dX27_plus_44 (by decide) rfl ?_
    refine r_iinc (pc := 45) (lv' := [_, _, _, _, _, _]) dX27_plus_45 rfl rfl (by decide) rfl ?_
    refine r_goto (pc := 48) (tgt := 5) dX27_plus_48 rfl ?_
    refine r_mask (pc := 5) [true, true, true, true, false, true] rfl ?_
    exact K
theorem dX27_add_0 : decode cX27_add 0 = .ok (.aload_n 1, 1) := by decide +kernel
theorem dX27_add_1 : decode cX27_add 1 = .ok (.aload_n 2, 1) := by decide +kernel
theorem dX27_add_2 : decode cX27_add 2 = .ok (.aload_n 3, 1) := by decide +kernel
theorem dX27_add_3 : decode cX27_add 3 = .ok (.invokestatic 51, 3) := by decide +kernel
theorem dX27_add_6 : decode cX27_add 6 = .ok (.lconst 0, 1) := by decide +kernel
theorem dX27_add_7 : decode cX27_add 7 = .ok (.lcmp, 1) := by decide +kernel
theorem dX27_add_8 : decode cX27_add 8 = .ok (.ifCond .ne 14, 3) := by decide +kernel
theorem dX27_add_11 : decode cX27_add 11 = .ok (.aload_n 3, 1) := by decide +kernel
theorem dX27_add_12 : decode cX27_add 12 = .ok (.aload_n 0, 1) := by decide +kernel
theorem dX27_add_13 : decode cX27_add 13 = .ok (.getfield 9, 3) := by decide +kernel
theorem dX27_add_16 : decode cX27_add 16 = .ok (.invokestatic 45, 3) := by decide +kernel
theorem dX27_add_19 : decode cX27_add 19 = .ok (.ifCond .lt 13, 3) := by decide +kernel
theorem dX27_add_22 : decode cX27_add 22 = .ok (.aload_n 3, 1) := by decide +kernel
theorem dX27_add_23 : decode cX27_add 23 = .ok (.aload_n 0, 1) := by decide +kernel
theorem dX27_add_24 : decode cX27_add 24 = .ok (.getfield 9, 3) := by decide +kernel
theorem dX27_add_27 : decode cX27_add 27 = .ok (.aload_n 3, 1) := by decide +kernel
theorem dX27_add_28 : decode cX27_add 28 = .ok (.invokestatic 55, 3) := by decide +kernel
theorem dX27_add_31 : decode cX27_add 31 = .ok (.pop2, 1) := by decide +kernel
theorem dX27_add_32 : decode cX27_add 32 = .ok (.return_, 1) := by decide +kernel
/-! CoinJudgeModel$Ring.add([I[I[I)V -/
set_option maxHeartbeats 4000000 in
theorem sX27_add_0 {G : Gx} {d t : Nat} {h0 : AH} {Φ : Out → AH → Prop} (h : AH) (v0 : Nat) (v1 : Nat) (v2 : Nat) (v3 : Nat) (K : Cw G mX27_plus d 0 [vR v1, vR v2, vR v3] h (kJ (fun x1 h2 => ((¬ x1 = 0 → h2.kd v0 = 27 ∧ ∀ r5 : Nat, r5 = (h2.r 27000 v0) → Cw G mX27_less d 0 [vR v3, vR r5, vR v3] h2 (kJ (fun x6 h7 => Φ (.inl none) h7) (fun x h => Φ (.inr x) h))) ∧ (x1 = 0 → h2.kd v0 = 27 ∧ ∀ r9 : Nat, r9 = (h2.r 27000 v0) → Cw G mX27_compare d 0 [vR v3, vR r9] h2 (kI (fun x10 h11 => ((x10 < 0 → Φ (.inl none) h11) ∧ (¬ x10 < 0 → Cw G mX27_less d 0 [vR v3, vR r9, vR v3] h11 (kJ (fun x16 h17 => Φ (.inl none) h17) (fun x h => Φ (.inr x) h))))) (fun x h => Φ (.inr x) h))))) (fun x h => Φ (.inr x) h))) : Aw G mX27_add (d + 1) t h0 Φ 0 [vR v0, vR v1, vR v2, vR v3] [] h := by
  refine r_aload_n (pc := 0) dX27_add_0 rfl ?_
  refine r_aload_n (pc := 1) dX27_add_1 rfl ?_
  refine r_aload_n (pc := 2) dX27_add_2 rfl ?_
  refine r_callS_J (pc := 3) (Y := mX27_plus) (vs := [_, _, _]) (st := []) q2195 q2196 q195 dX27_add_3 rfl cd_X27_plus rfl rfl fp_X27_add_X27_plus K (fun x1 h2 eh2 wh2 K => ?_) (fun x h1 _ _ e => Tw.out rfl e)
  refine r_lconst (pc := 6) (a := 0) dX27_add_6 rfl ?_
  refine r_lcmp_ne (pc := 7) (tgt := 22) dX27_add_7 dX27_add_8 rfl (fun c3 => ?_) (fun c3 => ?_)
  · have K := K.1 c3
    refine r_aload_n (pc := 22) dX27_add_22 rfl ?_
    refine r_aload_n (pc := 23) dX27_add_23 rfl ?_
    obtain ⟨hk4, K⟩ := K
    have K := K _ rfl
    refine r_getr' (pc := 24) (T := TX27) 27 0 rfl hk4 (Or.inl q2208) dX27_add_24 kc27 g27000 ?_
    refine r_aload_n (pc := 27) dX27_add_27 rfl ?_
    refine r_callS_J (pc := 28) (Y := mX27_less) (vs := [_, _, _]) (st := []) q2202 q2203 q195 dX27_add_28 rfl cd_X27_less rfl rfl fp_X27_add_X27_less K (fun x6 h7 eh7 wh7 K => ?_) (fun x h1 _ _ e => Tw.out rfl e)
    refine r_pop2L (pc := 31) rfl dX27_add_31 ?_
    exact r_vret (pc := 32) rfl dX27_add_32 K
  · have K := K.2 c3
    refine r_aload_n (pc := 11) dX27_add_11 rfl ?_
    refine r_aload_n (pc := 12) dX27_add_12 rfl ?_
    obtain ⟨hk8, K⟩ := K
    have K := K _ rfl
    refine r_getr' (pc := 13) (T := TX27) 27 0 rfl hk8 (Or.inl q2208) dX27_add_13 kc27 g27000 ?_
    refine r_callS_I (pc := 16) (Y := mX27_compare) (vs := [_, _]) (st := []) q2199 q2200 q195 dX27_add_16 rfl cd_X27_compare rfl rfl fp_X27_add_X27_compare K (fun x10 h11 eh11 wh11 K => ?_) (fun x h1 _ _ e => Tw.out rfl e)
    refine r_if_lt (pc := 19) (tgt := 32) dX27_add_19 rfl (fun c12 => ?_) (fun c12 => ?_)
    · have K := K.1 c12
      exact r_vret (pc := 32) rfl dX27_add_32 K
    · have K := K.2 c12
      refine r_aload_n (pc := 22) dX27_add_22 rfl ?_
      refine r_aload_n (pc := 23) dX27_add_23 rfl ?_
      have hk13 := kd_ext eh11 hk8 (nz rfl)
      have hv14 := fr_self (key := 27000) hk8
      have hv15 := (fr_ext (key := 27000) eh11 hk8 (nz rfl) (ne0 wh11 hk13 (nz rfl)) (nm rfl)).trans hv14
      refine r_getr' (pc := 24) (T := TX27) 27 0 hv15 hk13 (Or.inl q2208) dX27_add_24 kc27 g27000 ?_
      refine r_aload_n (pc := 27) dX27_add_27 rfl ?_
      refine r_callS_J (pc := 28) (Y := mX27_less) (vs := [_, _, _]) (st := []) q2202 q2203 q195 dX27_add_28 rfl cd_X27_less rfl rfl fp_X27_add_X27_less K (fun x16 h17 eh17 wh17 K => ?_) (fun x h1 _ _ e => Tw.out rfl e)
      refine r_pop2L (pc := 31) rfl dX27_add_31 ?_
      exact r_vret (pc := 32) rfl dX27_add_32 K
theorem eX27_add {G : Gx} {d : Nat} {Φ : Out → AH → Prop} (h : AH) (v0 : Nat) (v1 : Nat) (v2 : Nat) (v3 : Nat) (K : WF G h → Aw G mX27_add (d + 1) 0 h Φ 0 [vR v0, vR v1, vR v2, vR v3] [] h) : Cw G mX27_add (d + 1) 0 [vR v0, vR v1, vR v2, vR v3] h Φ := Cw.of rfl K
theorem dX27_subtract_0 : decode cX27_subtract 0 = .ok (.aload_n 1, 1) := by decide +kernel
theorem dX27_subtract_1 : decode cX27_subtract 1 = .ok (.aload_n 2, 1) := by decide +kernel
theorem dX27_subtract_2 : decode cX27_subtract 2 = .ok (.aload_n 3, 1) := by decide +kernel
theorem dX27_subtract_3 : decode cX27_subtract 3 = .ok (.invokestatic 55, 3) := by decide +kernel
theorem dX27_subtract_6 : decode cX27_subtract 6 = .ok (.lconst 0, 1) := by decide +kernel
theorem dX27_subtract_7 : decode cX27_subtract 7 = .ok (.lcmp, 1) := by decide +kernel
theorem dX27_subtract_8 : decode cX27_subtract 8 = .ok (.ifCond .eq 13, 3) := by decide +kernel
theorem dX27_subtract_11 : decode cX27_subtract 11 = .ok (.aload_n 3, 1) := by decide +kernel
theorem dX27_subtract_12 : decode cX27_subtract 12 = .ok (.aload_n 0, 1) := by decide +kernel
theorem dX27_subtract_13 : decode cX27_subtract 13 = .ok (.getfield 9, 3) := by decide +kernel
theorem dX27_subtract_16 : decode cX27_subtract 16 = .ok (.aload_n 3, 1) := by decide +kernel
theorem dX27_subtract_17 : decode cX27_subtract 17 = .ok (.invokestatic 51, 3) := by decide +kernel
theorem dX27_subtract_20 : decode cX27_subtract 20 = .ok (.pop2, 1) := by decide +kernel
theorem dX27_subtract_21 : decode cX27_subtract 21 = .ok (.return_, 1) := by decide +kernel
/-! CoinJudgeModel$Ring.subtract([I[I[I)V -/
set_option maxHeartbeats 4000000 in
theorem sX27_subtract_0 {G : Gx} {d t : Nat} {h0 : AH} {Φ : Out → AH → Prop} (h : AH) (v0 : Nat) (v1 : Nat) (v2 : Nat) (v3 : Nat) (K : Cw G mX27_less d 0 [vR v1, vR v2, vR v3] h (kJ (fun x1 h2 => ((x1 = 0 → Φ (.inl none) h2) ∧ (¬ x1 = 0 → h2.kd v0 = 27 ∧ ∀ r5 : Nat, r5 = (h2.r 27000 v0) → Cw G mX27_plus d 0 [vR v3, vR r5, vR v3] h2 (kJ (fun x6 h7 => Φ (.inl none) h7) (fun x h => Φ (.inr x) h))))) (fun x h => Φ (.inr x) h))) : Aw G mX27_subtract (d + 1) t h0 Φ 0 [vR v0, vR v1, vR v2, vR v3] [] h := by
  refine r_aload_n (pc := 0) dX27_subtract_0 rfl ?_
  refine r_aload_n (pc := 1) dX27_subtract_1 rfl ?_
  refine r_aload_n (pc := 2) dX27_subtract_2 rfl ?_
  refine r_callS_J (pc := 3) (Y := mX27_less) (vs := [_, _, _]) (st := []) q2202 q2203 q195 dX27_subtract_3 rfl cd_X27_less rfl rfl fp_X27_subtract_X27_less K (fun x1 h2 eh2 wh2 K => ?_) (fun x h1 _ _ e => Tw.out rfl e)
  refine r_lconst (pc := 6) (a := 0) dX27_subtract_6 rfl ?_
  refine r_lcmp_eq (pc := 7) (tgt := 21) dX27_subtract_7 dX27_subtract_8 rfl (fun c3 => ?_) (fun c3 => ?_)
  · have K := K.1 c3
    exact r_vret (pc := 21) rfl dX27_subtract_21 K
  · have K := K.2 c3
    refine r_aload_n (pc := 11) dX27_subtract_11 rfl ?_
    refine r_aload_n (pc := 12) dX27_subtract_12 rfl ?_
    obtain ⟨hk4, K⟩ := K
    have K := K _ rfl
    refine r_getr' (pc := 13) (T := TX27) 27 0 rfl hk4 (Or.inl q2208) dX27_subtract_13 kc27 g27000 ?_
    refine r_aload_n (pc := 16) dX27_subtract_16 rfl ?_
    refine r_callS_J (pc := 17) (Y := mX27_plus) (vs := [_, _, _]) (st := []) q2195 q2196 q195 dX27_subtract_17 rfl cd_X27_plus rfl rfl fp_X27_subtract_X27_plus K (fun x6 h7 eh7 wh7 K => ?_) (fun x h1 _ _ e => Tw.out rfl e)
    refine r_pop2L (pc := 20) rfl dX27_subtract_20 ?_
    exact r_vret (pc := 21) rfl dX27_subtract_21 K
theorem eX27_subtract {G : Gx} {d : Nat} {Φ : Out → AH → Prop} (h : AH) (v0 : Nat) (v1 : Nat) (v2 : Nat) (v3 : Nat) (K : WF G h → Aw G mX27_subtract (d + 1) 0 h Φ 0 [vR v0, vR v1, vR v2, vR v3] [] h) : Cw G mX27_subtract (d + 1) 0 [vR v0, vR v1, vR v2, vR v3] h Φ := Cw.of rfl K
theorem dX25_take_0 : decode cX25_take 0 = .ok (.aload_n 1, 1) := by decide +kernel
theorem dX25_take_1 : decode cX25_take 1 = .ok (.getfield 7, 3) := by decide +kernel
theorem dX25_take_4 : decode cX25_take 4 = .ok (.aload_n 0, 1) := by decide +kernel
theorem dX25_take_5 : decode cX25_take 5 = .ok (.getfield 7, 3) := by decide +kernel
theorem dX25_take_8 : decode cX25_take 8 = .ok (.invokestatic 19, 3) := by decide +kernel
theorem dX25_take_11 : decode cX25_take 11 = .ok (.aload_n 1, 1) := by decide +kernel
theorem dX25_take_12 : decode cX25_take 12 = .ok (.getfield 13, 3) := by decide +kernel
theorem dX25_take_15 : decode cX25_take 15 = .ok (.aload_n 0, 1) := by decide +kernel
theorem dX25_take_16 : decode cX25_take 16 = .ok (.getfield 13, 3) := by decide +kernel
theorem dX25_take_19 : decode cX25_take 19 = .ok (.invokestatic 19, 3) := by decide +kernel
theorem dX25_take_22 : decode cX25_take 22 = .ok (.aload_n 1, 1) := by decide +kernel
theorem dX25_take_23 : decode cX25_take 23 = .ok (.getfield 16, 3) := by decide +kernel
theorem dX25_take_26 : decode cX25_take 26 = .ok (.aload_n 0, 1) := by decide +kernel
theorem dX25_take_27 : decode cX25_take 27 = .ok (.getfield 16, 3) := by decide +kernel
theorem dX25_take_30 : decode cX25_take 30 = .ok (.invokestatic 19, 3) := by decide +kernel
theorem dX25_take_33 : decode cX25_take 33 = .ok (.return_, 1) := by decide +kernel
/-! CoinJudgeModel$Point.take(LCoinJudgeModel$Point;)V -/
set_option maxHeartbeats 4000000 in
theorem sX25_take_0 {G : Gx} {d t : Nat} {h0 : AH} {Φ : Out → AH → Prop} (h : AH) (v0 : Nat) (v1 : Nat) (K : h.kd v1 = 25 ∧ ∀ r2 : Nat, r2 = (h.r 25000 v1) → h.kd v0 = 25 ∧ ∀ r4 : Nat, r4 = (h.r 25000 v0) → Cw G mX27_copy d 0 [vR r2, vR r4] h (kV (fun h6 => ∀ r8 : Nat, r8 = (h6.r 25001 v1) → ∀ r10 : Nat, r10 = (h6.r 25001 v0) → Cw G mX27_copy d 0 [vR r8, vR r10] h6 (kV (fun h12 => ∀ r14 : Nat, r14 = (h12.r 25002 v1) → ∀ r16 : Nat, r16 = (h12.r 25002 v0) → Cw G mX27_copy d 0 [vR r14, vR r16] h12 (kV (fun h18 => Φ (.inl none) h18) (fun x h => Φ (.inr x) h))) (fun x h => Φ (.inr x) h))) (fun x h => Φ (.inr x) h))) : Aw G mX25_take (d + 1) t h0 Φ 0 [vR v0, vR v1] [] h := by
  refine r_aload_n (pc := 0) dX25_take_0 rfl ?_
  obtain ⟨hk1, K⟩ := K
  have K := K _ rfl
  refine r_getr' (pc := 1) (T := TX25) 25 0 rfl hk1 (Or.inl q2121) dX25_take_1 kc25 g25000 ?_
  refine r_aload_n (pc := 4) dX25_take_4 rfl ?_
  obtain ⟨hk3, K⟩ := K
  have K := K _ rfl
  refine r_getr' (pc := 5) (T := TX25) 25 0 rfl hk3 (Or.inl q2121) dX25_take_5 kc25 g25000 ?_
  refine r_callS_V (pc := 8) (Y := mX27_copy) (vs := [_, _]) (st := []) q2655 q2206 q195 dX25_take_8 rfl cd_X27_copy rfl rfl fp_X25_take_X27_copy K (fun h6 eh6 wh6 K => ?_) (fun x h1 _ _ e => Tw.out rfl e)
  refine r_aload_n (pc := 11) dX25_take_11 rfl ?_
  have hk7 := kd_ext eh6 hk1 (nz rfl)
  have K := K _ rfl
  refine r_getr' (pc := 12) (T := TX25) 25 1 rfl hk7 (Or.inl q2123) dX25_take_12 kc25 g25001 ?_
  refine r_aload_n (pc := 15) dX25_take_15 rfl ?_
  have hk9 := kd_ext eh6 hk3 (nz rfl)
  have K := K _ rfl
  refine r_getr' (pc := 16) (T := TX25) 25 1 rfl hk9 (Or.inl q2123) dX25_take_16 kc25 g25001 ?_
  refine r_callS_V (pc := 19) (Y := mX27_copy) (vs := [_, _]) (st := []) q2655 q2206 q195 dX25_take_19 rfl cd_X27_copy rfl rfl fp_X25_take_X27_copy K (fun h12 eh12 wh12 K => ?_) (fun x h1 _ _ e => Tw.out rfl e)
  refine r_aload_n (pc := 22) dX25_take_22 rfl ?_
  have hk13 := kd_ext eh12 hk7 (nz rfl)
  have K := K _ rfl
  refine r_getr' (pc := 23) (T := TX25) 25 2 rfl hk13 (Or.inl q2125) dX25_take_23 kc25 g25002 ?_
  refine r_aload_n (pc := 26) dX25_take_26 rfl ?_
  have hk15 := kd_ext eh12 hk9 (nz rfl)
  have K := K _ rfl
  refine r_getr' (pc := 27) (T := TX25) 25 2 rfl hk15 (Or.inl q2125) dX25_take_27 kc25 g25002 ?_
  refine r_callS_V (pc := 30) (Y := mX27_copy) (vs := [_, _]) (st := []) q2655 q2206 q195 dX25_take_30 rfl cd_X27_copy rfl rfl fp_X25_take_X27_copy K (fun h18 eh18 wh18 K => ?_) (fun x h1 _ _ e => Tw.out rfl e)
  exact r_vret (pc := 33) rfl dX25_take_33 K
theorem eX25_take {G : Gx} {d : Nat} {Φ : Out → AH → Prop} (h : AH) (v0 : Nat) (v1 : Nat) (K : WF G h → Aw G mX25_take (d + 1) 0 h Φ 0 [vR v0, vR v1] [] h) : Cw G mX25_take (d + 1) 0 [vR v0, vR v1] h Φ := Cw.of rfl K
theorem dX27_enter_0 : decode cX27_enter 0 = .ok (.aload_n 0, 1) := by decide +kernel
theorem dX27_enter_1 : decode cX27_enter 1 = .ok (.aload_n 1, 1) := by decide +kernel
theorem dX27_enter_2 : decode cX27_enter 2 = .ok (.aload_n 0, 1) := by decide +kernel
theorem dX27_enter_3 : decode cX27_enter 3 = .ok (.getfield 18, 3) := by decide +kernel
theorem dX27_enter_6 : decode cX27_enter 6 = .ok (.aload_n 2, 1) := by decide +kernel
theorem dX27_enter_7 : decode cX27_enter 7 = .ok (.invokevirtual 62, 3) := by decide +kernel
theorem dX27_enter_10 : decode cX27_enter 10 = .ok (.return_, 1) := by decide +kernel
/-! CoinJudgeModel$Ring.enter([I[I)V -/
set_option maxHeartbeats 4000000 in
theorem sX27_enter_0 {G : Gx} {d t : Nat} {h0 : AH} {Φ : Out → AH → Prop} (h : AH) (v0 : Nat) (v1 : Nat) (v2 : Nat) (K : h.kd v0 = 27 ∧ ∀ r2 : Nat, r2 = (h.r 27003 v0) → Cw G mX27_multiply d 0 [vR v0, vR v1, vR r2, vR v2] h (kV (fun h4 => Φ (.inl none) h4) (fun x h => Φ (.inr x) h))) : Aw G mX27_enter (d + 1) t h0 Φ 0 [vR v0, vR v1, vR v2] [] h := by
  refine r_aload_n (pc := 0) dX27_enter_0 rfl ?_
  refine r_aload_n (pc := 1) dX27_enter_1 rfl ?_
  refine r_aload_n (pc := 2) dX27_enter_2 rfl ?_
  obtain ⟨hk1, K⟩ := K
  have K := K _ rfl
  refine r_getr' (pc := 3) (T := TX27) 27 3 rfl hk1 (Or.inl q2213) dX27_enter_3 kc27 g27003 ?_
  refine r_aload_n (pc := 6) dX27_enter_6 rfl ?_
  refine r_callV_V (pc := 7) (Y := mX27_multiply) (vs := [_, _, _]) (st := []) hk1 rfl kc27 q2251 q2252 q2253 dX27_enter_7 rfl cd_X27_multiply rfl rfl fp_X27_enter_X27_multiply K (fun h4 eh4 wh4 K => ?_) (fun x h1 _ _ e => Tw.out rfl e)
  exact r_vret (pc := 10) rfl dX27_enter_10 K
theorem eX27_enter {G : Gx} {d : Nat} {Φ : Out → AH → Prop} (h : AH) (v0 : Nat) (v1 : Nat) (v2 : Nat) (K : WF G h → Aw G mX27_enter (d + 1) 0 h Φ 0 [vR v0, vR v1, vR v2] [] h) : Cw G mX27_enter (d + 1) 0 [vR v0, vR v1, vR v2] h Φ := Cw.of rfl K
theorem dX27_same_0 : decode cX27_same 0 = .ok (.aload_n 0, 1) := by decide +kernel
theorem dX27_same_1 : decode cX27_same 1 = .ok (.aload_n 1, 1) := by decide +kernel
theorem dX27_same_2 : decode cX27_same 2 = .ok (.invokestatic 45, 3) := by decide +kernel
theorem dX27_same_5 : decode cX27_same 5 = .ok (.ifCond .ne 7, 3) := by decide +kernel
theorem dX27_same_8 : decode cX27_same 8 = .ok (.iconst 1, 1) := by decide +kernel
theorem dX27_same_9 : decode cX27_same 9 = .ok (.goto 4, 3) := by decide +kernel
theorem dX27_same_12 : decode cX27_same 12 = .ok (.iconst 0, 1) := by decide +kernel
theorem dX27_same_13 : decode cX27_same 13 = .ok (.ireturn, 1) := by decide +kernel
/-! CoinJudgeModel$Ring.same([I[I)Z -/
set_option maxHeartbeats 4000000 in
theorem sX27_same_0 {G : Gx} {d t : Nat} {h0 : AH} {Φ : Out → AH → Prop} (h : AH) (v0 : Nat) (v1 : Nat) (K : Cw G mX27_compare d 0 [vR v0, vR v1] h (kI (fun x1 h2 => ((¬ x1 = 0 → Φ (.inl (some (vI 0))) h2) ∧ (x1 = 0 → Φ (.inl (some (vI 1))) h2))) (fun x h => Φ (.inr x) h))) : Aw G mX27_same (d + 1) t h0 Φ 0 [vR v0, vR v1] [] h := by
  refine r_aload_n (pc := 0) dX27_same_0 rfl ?_
  refine r_aload_n (pc := 1) dX27_same_1 rfl ?_
  refine r_callS_I (pc := 2) (Y := mX27_compare) (vs := [_, _]) (st := []) q2199 q2200 q195 dX27_same_2 rfl cd_X27_compare rfl rfl fp_X27_same_X27_compare K (fun x1 h2 eh2 wh2 K => ?_) (fun x h1 _ _ e => Tw.out rfl e)
  refine r_if_ne (pc := 5) (tgt := 12) dX27_same_5 rfl (fun c3 => ?_) (fun c3 => ?_)
  · have K := K.1 c3
    refine r_iconst (pc := 12) (x := 0) dX27_same_12 rfl ?_
    exact r_iret (pc := 13) rfl rfl dX27_same_13 K
  · have K := K.2 c3
    refine r_iconst (pc := 8) (x := 1) dX27_same_8 rfl ?_
    refine r_goto (pc := 9) (tgt := 13) dX27_same_9 rfl ?_
    exact r_iret (pc := 13) rfl rfl dX27_same_13 K
theorem eX27_same {G : Gx} {d : Nat} {Φ : Out → AH → Prop} (h : AH) (v0 : Nat) (v1 : Nat) (K : WF G h → Aw G mX27_same (d + 1) 0 h Φ 0 [vR v0, vR v1] [] h) : Cw G mX27_same (d + 1) 0 [vR v0, vR v1] h Φ := Cw.of rfl K
theorem dX26_init_0 : decode cX26_init 0 = .ok (.aload_n 0, 1) := by decide +kernel
theorem dX26_init_1 : decode cX26_init 1 = .ok (.invokespecial 1, 3) := by decide +kernel
theorem dX26_init_4 : decode cX26_init 4 = .ok (.aload_n 0, 1) := by decide +kernel
theorem dX26_init_5 : decode cX26_init 5 = .ok (.bipush 12, 2) := by decide +kernel
theorem dX26_init_7 : decode cX26_init 7 = .ok (.newarray .int, 2) := by decide +kernel
theorem dX26_init_9 : decode cX26_init 9 = .ok (.putfield 7, 3) := by decide +kernel
theorem dX26_init_12 : decode cX26_init 12 = .ok (.aload_n 0, 1) := by decide +kernel
theorem dX26_init_13 : decode cX26_init 13 = .ok (.bipush 12, 2) := by decide +kernel
theorem dX26_init_15 : decode cX26_init 15 = .ok (.newarray .int, 2) := by decide +kernel
theorem dX26_init_17 : decode cX26_init 17 = .ok (.putfield 13, 3) := by decide +kernel
theorem dX26_init_20 : decode cX26_init 20 = .ok (.aload_n 0, 1) := by decide +kernel
theorem dX26_init_21 : decode cX26_init 21 = .ok (.bipush 12, 2) := by decide +kernel
theorem dX26_init_23 : decode cX26_init 23 = .ok (.newarray .int, 2) := by decide +kernel
theorem dX26_init_25 : decode cX26_init 25 = .ok (.putfield 16, 3) := by decide +kernel
theorem dX26_init_28 : decode cX26_init 28 = .ok (.aload_n 0, 1) := by decide +kernel
theorem dX26_init_29 : decode cX26_init 29 = .ok (.bipush 12, 2) := by decide +kernel
theorem dX26_init_31 : decode cX26_init 31 = .ok (.newarray .int, 2) := by decide +kernel
theorem dX26_init_33 : decode cX26_init 33 = .ok (.putfield 19, 3) := by decide +kernel
theorem dX26_init_36 : decode cX26_init 36 = .ok (.aload_n 0, 1) := by decide +kernel
theorem dX26_init_37 : decode cX26_init 37 = .ok (.bipush 12, 2) := by decide +kernel
theorem dX26_init_39 : decode cX26_init 39 = .ok (.newarray .int, 2) := by decide +kernel
theorem dX26_init_41 : decode cX26_init 41 = .ok (.putfield 22, 3) := by decide +kernel
theorem dX26_init_44 : decode cX26_init 44 = .ok (.aload_n 0, 1) := by decide +kernel
theorem dX26_init_45 : decode cX26_init 45 = .ok (.bipush 12, 2) := by decide +kernel
theorem dX26_init_47 : decode cX26_init 47 = .ok (.newarray .int, 2) := by decide +kernel
theorem dX26_init_49 : decode cX26_init 49 = .ok (.putfield 25, 3) := by decide +kernel
theorem dX26_init_52 : decode cX26_init 52 = .ok (.aload_n 0, 1) := by decide +kernel
theorem dX26_init_53 : decode cX26_init 53 = .ok (.sipush 384, 3) := by decide +kernel
theorem dX26_init_56 : decode cX26_init 56 = .ok (.newarray .byte, 2) := by decide +kernel
theorem dX26_init_58 : decode cX26_init 58 = .ok (.putfield 28, 3) := by decide +kernel
theorem dX26_init_61 : decode cX26_init 61 = .ok (.return_, 1) := by decide +kernel
/-! CoinJudgeModel$Parsed.<init>()V -/
set_option maxHeartbeats 4000000 in
theorem sX26_init_0 {G : Gx} {d t : Nat} {h0 : AH} {Φ : Out → AH → Prop} (h : AH) (v0 : Nat) (K : h.kd v0 = 26 ∧ ∀ q2 : Nat, q2 = h.z → WF G h → ∀ h3 : AH, h3 = h.new 100 12 (List.replicate 12 0) [] [] → ∀ h6 : AH, h6 = h3.pr 26002 v0 q2 → ∀ q7 : Nat, q7 = h6.z → WF G h6 → ∀ h8 : AH, h8 = h6.new 100 12 (List.replicate 12 0) [] [] → ∀ h12 : AH, h12 = h8.pr 26003 v0 q7 → ∀ q13 : Nat, q13 = h12.z → WF G h12 → ∀ h14 : AH, h14 = h12.new 100 12 (List.replicate 12 0) [] [] → ∀ h18 : AH, h18 = h14.pr 26004 v0 q13 → ∀ q19 : Nat, q19 = h18.z → WF G h18 → ∀ h20 : AH, h20 = h18.new 100 12 (List.replicate 12 0) [] [] → ∀ h24 : AH, h24 = h20.pr 26005 v0 q19 → ∀ q25 : Nat, q25 = h24.z → WF G h24 → ∀ h26 : AH, h26 = h24.new 100 12 (List.replicate 12 0) [] [] → ∀ h30 : AH, h30 = h26.pr 26006 v0 q25 → ∀ q31 : Nat, q31 = h30.z → WF G h30 → ∀ h32 : AH, h32 = h30.new 100 12 (List.replicate 12 0) [] [] → ∀ h36 : AH, h36 = h32.pr 26007 v0 q31 → ∀ q37 : Nat, q37 = h36.z → WF G h36 → ∀ h38 : AH, h38 = h36.new 101 384 (List.replicate 384 0) [] [] → ∀ h42 : AH, h42 = h38.pr 26008 v0 q37 → Φ (.inl none) h42) : Aw G mX26_init (d + 1) v0 h0 Φ 0 [vR v0] [] h := by
  refine r_aload_n (pc := 0) dX26_init_0 rfl ?_
  obtain ⟨hk1, K⟩ := K
  refine r_objInit (pc := 1) (nzk hk1 rfl) q2141 q207 q208 dX26_init_1 (by decide) ?_
  refine r_aload_n (pc := 4) dX26_init_4 rfl ?_
  refine r_bipush (pc := 5) (x := 12) dX26_init_5 rfl ?_
  refine r_newaI (pc := 7) 100 (N := 12) rfl rfl (by decide) q283 (by decide) rfl (by decide) dX26_init_7 (fun q2 eq2 zq2 wq2 => ?_)
  refine r_nameH (fun h3 eh3 => ?_)
  have K := K q2 eq2 wq2 h3 eh3
  have hk4 := kd_newSE eh3 eq2
  have hk5 := kd_newE eh3 wq2 hk1 (nz rfl)
  refine r_putr (pc := 9) (T := TX26) (key := 26002) 26 2 (ty := (.array .int)) hk5 (Or.inl q2144) dX26_init_9 kc26 rfl rfl (Or.inr q2144) (Or.inr (Or.inl rfl)) ?_
  refine r_nameH (fun h6 eh6 => ?_)
  have K := K h6 eh6
  refine r_aload_n (pc := 12) dX26_init_12 rfl ?_
  refine r_bipush (pc := 13) (x := 12) dX26_init_13 rfl ?_
  refine r_newaI (pc := 15) 100 (N := 12) rfl rfl (by decide) q283 (by decide) rfl (by decide) dX26_init_15 (fun q7 eq7 zq7 wq7 => ?_)
  refine r_nameH (fun h8 eh8 => ?_)
  have K := K q7 eq7 wq7 h8 eh8
  have hk9 := kd_newSE eh8 eq7
  have hk10 := kd_pr eh6 hk5
  have hk11 := kd_newE eh8 wq7 hk10 (nz rfl)
  refine r_putr (pc := 17) (T := TX26) (key := 26003) 26 3 (ty := (.array .int)) hk11 (Or.inl q2146) dX26_init_17 kc26 rfl rfl (Or.inr q2146) (Or.inr (Or.inl rfl)) ?_
  refine r_nameH (fun h12 eh12 => ?_)
  have K := K h12 eh12
  refine r_aload_n (pc := 20) dX26_init_20 rfl ?_
  refine r_bipush (pc := 21) (x := 12) dX26_init_21 rfl ?_
  refine r_newaI (pc := 23) 100 (N := 12) rfl rfl (by decide) q283 (by decide) rfl (by decide) dX26_init_23 (fun q13 eq13 zq13 wq13 => ?_)
  refine r_nameH (fun h14 eh14 => ?_)
  have K := K q13 eq13 wq13 h14 eh14
  have hk15 := kd_newSE eh14 eq13
  have hk16 := kd_pr eh12 hk11
  have hk17 := kd_newE eh14 wq13 hk16 (nz rfl)
  refine r_putr (pc := 25) (T := TX26) (key := 26004) 26 4 (ty := (.array .int)) hk17 (Or.inl q2148) dX26_init_25 kc26 rfl rfl (Or.inr q2148) (Or.inr (Or.inl rfl)) ?_
  refine r_nameH (fun h18 eh18 => ?_)
  have K := K h18 eh18
  refine r_aload_n (pc := 28) dX26_init_28 rfl ?_
  refine r_bipush (pc := 29) (x := 12) dX26_init_29 rfl ?_
  refine r_newaI (pc := 31) 100 (N := 12) rfl rfl (by decide) q283 (by decide) rfl (by decide) dX26_init_31 (fun q19 eq19 zq19 wq19 => ?_)
  refine r_nameH (fun h20 eh20 => ?_)
  have K := K q19 eq19 wq19 h20 eh20
  have hk21 := kd_newSE eh20 eq19
  have hk22 := kd_pr eh18 hk17
  have hk23 := kd_newE eh20 wq19 hk22 (nz rfl)
  refine r_putr (pc := 33) (T := TX26) (key := 26005) 26 5 (ty := (.array .int)) hk23 (Or.inl q2150) dX26_init_33 kc26 rfl rfl (Or.inr q2150) (Or.inr (Or.inl rfl)) ?_
  refine r_nameH (fun h24 eh24 => ?_)
  have K := K h24 eh24
  refine r_aload_n (pc := 36) dX26_init_36 rfl ?_
  refine r_bipush (pc := 37) (x := 12) dX26_init_37 rfl ?_
  refine r_newaI (pc := 39) 100 (N := 12) rfl rfl (by decide) q283 (by decide) rfl (by decide) dX26_init_39 (fun q25 eq25 zq25 wq25 => ?_)
  refine r_nameH (fun h26 eh26 => ?_)
  have K := K q25 eq25 wq25 h26 eh26
  have hk27 := kd_newSE eh26 eq25
  have hk28 := kd_pr eh24 hk23
  have hk29 := kd_newE eh26 wq25 hk28 (nz rfl)
  refine r_putr (pc := 41) (T := TX26) (key := 26006) 26 6 (ty := (.array .int)) hk29 (Or.inl q2152) dX26_init_41 kc26 rfl rfl (Or.inr q2152) (Or.inr (Or.inl rfl)) ?_
  refine r_nameH (fun h30 eh30 => ?_)
  have K := K h30 eh30
  refine r_aload_n (pc := 44) dX26_init_44 rfl ?_
  refine r_bipush (pc := 45) (x := 12) dX26_init_45 rfl ?_
  refine r_newaI (pc := 47) 100 (N := 12) rfl rfl (by decide) q283 (by decide) rfl (by decide) dX26_init_47 (fun q31 eq31 zq31 wq31 => ?_)
  refine r_nameH (fun h32 eh32 => ?_)
  have K := K q31 eq31 wq31 h32 eh32
  have hk33 := kd_newSE eh32 eq31
  have hk34 := kd_pr eh30 hk29
  have hk35 := kd_newE eh32 wq31 hk34 (nz rfl)
  refine r_putr (pc := 49) (T := TX26) (key := 26007) 26 7 (ty := (.array .int)) hk35 (Or.inl q2154) dX26_init_49 kc26 rfl rfl (Or.inr q2154) (Or.inr (Or.inl rfl)) ?_
  refine r_nameH (fun h36 eh36 => ?_)
  have K := K h36 eh36
  refine r_aload_n (pc := 52) dX26_init_52 rfl ?_
  refine r_sipush (pc := 53) (x := 384) dX26_init_53 rfl ?_
  refine r_newaI (pc := 56) 101 (N := 384) rfl rfl (by decide) q284 (by decide) rfl (by decide) dX26_init_56 (fun q37 eq37 zq37 wq37 => ?_)
  refine r_nameH (fun h38 eh38 => ?_)
  have K := K q37 eq37 wq37 h38 eh38
  have hk39 := kd_newSE eh38 eq37
  have hk40 := kd_pr eh36 hk35
  have hk41 := kd_newE eh38 wq37 hk40 (nz rfl)
  refine r_putr (pc := 58) (T := TX26) (key := 26008) 26 8 (ty := (.array .byte)) hk41 (Or.inl q2156) dX26_init_58 kc26 rfl rfl (Or.inr q2156) (Or.inr (Or.inl rfl)) ?_
  refine r_nameH (fun h42 eh42 => ?_)
  have K := K h42 eh42
  exact r_vret (pc := 61) rfl dX26_init_61 K
theorem eX26_init {G : Gx} {d : Nat} {Φ : Out → AH → Prop} (h : AH) (v0 : Nat) (K : WF G h → Aw G mX26_init (d + 1) v0 h Φ 0 [vR v0] [] h) : Cw G mX26_init (d + 1) v0 [vR v0] h Φ := Cw.of rfl K
theorem dX28_init_0 : decode cX28_init 0 = .ok (.aload_n 0, 1) := by decide +kernel
theorem dX28_init_1 : decode cX28_init 1 = .ok (.invokespecial 3, 3) := by decide +kernel
theorem dX28_init_4 : decode cX28_init 4 = .ok (.aload_n 0, 1) := by decide +kernel
theorem dX28_init_5 : decode cX28_init 5 = .ok (.sipush 1600, 3) := by decide +kernel
theorem dX28_init_8 : decode cX28_init 8 = .ok (.newarray .byte, 2) := by decide +kernel
theorem dX28_init_10 : decode cX28_init 10 = .ok (.putfield 9, 3) := by decide +kernel
theorem dX28_init_13 : decode cX28_init 13 = .ok (.aload_n 0, 1) := by decide +kernel
theorem dX28_init_14 : decode cX28_init 14 = .ok (.bipush 32, 2) := by decide +kernel
theorem dX28_init_16 : decode cX28_init 16 = .ok (.newarray .byte, 2) := by decide +kernel
theorem dX28_init_18 : decode cX28_init 18 = .ok (.putfield 15, 3) := by decide +kernel
theorem dX28_init_21 : decode cX28_init 21 = .ok (.aload_n 0, 1) := by decide +kernel
theorem dX28_init_22 : decode cX28_init 22 = .ok (.new 18, 3) := by decide +kernel
theorem dX28_init_25 : decode cX28_init 25 = .ok (.dup, 1) := by decide +kernel
theorem dX28_init_26 : decode cX28_init 26 = .ok (.invokespecial 20, 3) := by decide +kernel
theorem dX28_init_29 : decode cX28_init 29 = .ok (.putfield 21, 3) := by decide +kernel
theorem dX28_init_32 : decode cX28_init 32 = .ok (.aload_n 0, 1) := by decide +kernel
theorem dX28_init_33 : decode cX28_init 33 = .ok (.bipush 8, 2) := by decide +kernel
theorem dX28_init_35 : decode cX28_init 35 = .ok (.newarray .int, 2) := by decide +kernel
theorem dX28_init_37 : decode cX28_init 37 = .ok (.putfield 25, 3) := by decide +kernel
theorem dX28_init_40 : decode cX28_init 40 = .ok (.return_, 1) := by decide +kernel
/-! CoinJudgeModel$Block.<init>()V -/
set_option maxHeartbeats 4000000 in
theorem sX28_init_0 {G : Gx} {d t : Nat} {h0 : AH} {Φ : Out → AH → Prop} (h : AH) (v0 : Nat) (K : h.kd v0 = 28 ∧ ∀ q2 : Nat, q2 = h.z → WF G h → ∀ h3 : AH, h3 = h.new 101 1600 (List.replicate 1600 0) [] [] → ∀ h6 : AH, h6 = h3.pr 28000 v0 q2 → ∀ q7 : Nat, q7 = h6.z → WF G h6 → ∀ h8 : AH, h8 = h6.new 101 32 (List.replicate 32 0) [] [] → ∀ h12 : AH, h12 = h8.pr 28002 v0 q7 → ∀ q13 : Nat, q13 = h12.z → WF G h12 → ∀ h14 : AH, h14 = h12.new 26 9 [] [] [] → Cw G mX26_init d q13 [vR q13] h14 (kV (fun h17 => ∀ h21 : AH, h21 = h17.pr 28003 v0 q13 → ∀ q22 : Nat, q22 = h21.z → WF G h21 → ∀ h23 : AH, h23 = h21.new 100 8 (List.replicate 8 0) [] [] → ∀ h27 : AH, h27 = h23.pr 28008 v0 q22 → Φ (.inl none) h27) (fun x h => Φ (.inr x) h))) : Aw G mX28_init (d + 1) v0 h0 Φ 0 [vR v0] [] h := by
  refine r_aload_n (pc := 0) dX28_init_0 rfl ?_
  obtain ⟨hk1, K⟩ := K
  refine r_objInit (pc := 1) (nzk hk1 rfl) q2384 q207 q208 dX28_init_1 (by decide) ?_
  refine r_aload_n (pc := 4) dX28_init_4 rfl ?_
  refine r_sipush (pc := 5) (x := 1600) dX28_init_5 rfl ?_
  refine r_newaI (pc := 8) 101 (N := 1600) rfl rfl (by decide) q284 (by decide) rfl (by decide) dX28_init_8 (fun q2 eq2 zq2 wq2 => ?_)
  refine r_nameH (fun h3 eh3 => ?_)
  have K := K q2 eq2 wq2 h3 eh3
  have hk4 := kd_newSE eh3 eq2
  have hk5 := kd_newE eh3 wq2 hk1 (nz rfl)
  refine r_putr (pc := 10) (T := TX28) (key := 28000) 28 0 (ty := (.array .byte)) hk5 (Or.inl q2387) dX28_init_10 kc28 rfl rfl (Or.inr q2387) (Or.inr (Or.inl rfl)) ?_
  refine r_nameH (fun h6 eh6 => ?_)
  have K := K h6 eh6
  refine r_aload_n (pc := 13) dX28_init_13 rfl ?_
  refine r_bipush (pc := 14) (x := 32) dX28_init_14 rfl ?_
  refine r_newaI (pc := 16) 101 (N := 32) rfl rfl (by decide) q284 (by decide) rfl (by decide) dX28_init_16 (fun q7 eq7 zq7 wq7 => ?_)
  refine r_nameH (fun h8 eh8 => ?_)
  have K := K q7 eq7 wq7 h8 eh8
  have hk9 := kd_newSE eh8 eq7
  have hk10 := kd_pr eh6 hk5
  have hk11 := kd_newE eh8 wq7 hk10 (nz rfl)
  refine r_putr (pc := 18) (T := TX28) (key := 28002) 28 2 (ty := (.array .byte)) hk11 (Or.inl q2390) dX28_init_18 kc28 rfl rfl (Or.inr q2390) (Or.inr (Or.inl rfl)) ?_
  refine r_nameH (fun h12 eh12 => ?_)
  have K := K h12 eh12
  refine r_aload_n (pc := 21) dX28_init_21 rfl ?_
  refine r_new (pc := 22) 26 kc26 rfl q2385 q2137 q194 dX28_init_22 (fun q13 eq13 zq13 wq13 => ?_)
  refine r_nameH (fun h14 eh14 => ?_)
  have K := K q13 eq13 wq13 h14 eh14
  have hk15 := kd_newSE eh14 eq13
  refine r_dup (pc := 25) rfl dX28_init_25 ?_
  refine r_callIN_V (pc := 26) (Y := mX26_init) (vs := []) (st := [_, _]) (nzk hk15 rfl) q2386 q2139 q2140 rfl rfl rfl dX28_init_26 rfl (Or.inr zq13) rfl rfl fp_X28_init_X26_init K (fun h17 eh17 wh17 K => ?_) (fun x h1 _ _ e => Tw.out rfl e)
  have hk18 := kd_pr eh12 hk11
  have hk19 := kd_newE eh14 wq13 hk18 (nz rfl)
  have hk20 := kd_ext eh17 hk19 (nz rfl)
  refine r_putr (pc := 29) (T := TX28) (key := 28003) 28 3 (ty := (.object "CoinJudgeModel$Parsed")) hk20 (Or.inl q2392) dX28_init_29 kc28 rfl rfl (Or.inr q2392) (Or.inr (Or.inl rfl)) ?_
  refine r_nameH (fun h21 eh21 => ?_)
  have K := K h21 eh21
  refine r_aload_n (pc := 32) dX28_init_32 rfl ?_
  refine r_bipush (pc := 33) (x := 8) dX28_init_33 rfl ?_
  refine r_newaI (pc := 35) 100 (N := 8) rfl rfl (by decide) q283 (by decide) rfl (by decide) dX28_init_35 (fun q22 eq22 zq22 wq22 => ?_)
  refine r_nameH (fun h23 eh23 => ?_)
  have K := K q22 eq22 wq22 h23 eh23
  have hk24 := kd_newSE eh23 eq22
  have hk25 := kd_pr eh21 hk20
  have hk26 := kd_newE eh23 wq22 hk25 (nz rfl)
  refine r_putr (pc := 37) (T := TX28) (key := 28008) 28 8 (ty := (.array .int)) hk26 (Or.inl q2398) dX28_init_37 kc28 rfl rfl (Or.inr q2398) (Or.inr (Or.inl rfl)) ?_
  refine r_nameH (fun h27 eh27 => ?_)
  have K := K h27 eh27
  exact r_vret (pc := 40) rfl dX28_init_40 K
theorem eX28_init {G : Gx} {d : Nat} {Φ : Out → AH → Prop} (h : AH) (v0 : Nat) (K : WF G h → Aw G mX28_init (d + 1) v0 h Φ 0 [vR v0] [] h) : Cw G mX28_init (d + 1) v0 [vR v0] h Φ := Cw.of rfl K
theorem dX25_init_0 : decode cX25_init 0 = .ok (.aload_n 0, 1) := by decide +kernel
theorem dX25_init_1 : decode cX25_init 1 = .ok (.invokespecial 1, 3) := by decide +kernel
theorem dX25_init_4 : decode cX25_init 4 = .ok (.aload_n 0, 1) := by decide +kernel
theorem dX25_init_5 : decode cX25_init 5 = .ok (.bipush 8, 2) := by decide +kernel
theorem dX25_init_7 : decode cX25_init 7 = .ok (.newarray .int, 2) := by decide +kernel
theorem dX25_init_9 : decode cX25_init 9 = .ok (.putfield 7, 3) := by decide +kernel
theorem dX25_init_12 : decode cX25_init 12 = .ok (.aload_n 0, 1) := by decide +kernel
theorem dX25_init_13 : decode cX25_init 13 = .ok (.bipush 8, 2) := by decide +kernel
theorem dX25_init_15 : decode cX25_init 15 = .ok (.newarray .int, 2) := by decide +kernel
theorem dX25_init_17 : decode cX25_init 17 = .ok (.putfield 13, 3) := by decide +kernel
theorem dX25_init_20 : decode cX25_init 20 = .ok (.aload_n 0, 1) := by decide +kernel
theorem dX25_init_21 : decode cX25_init 21 = .ok (.bipush 8, 2) := by decide +kernel
theorem dX25_init_23 : decode cX25_init 23 = .ok (.newarray .int, 2) := by decide +kernel
theorem dX25_init_25 : decode cX25_init 25 = .ok (.putfield 16, 3) := by decide +kernel
theorem dX25_init_28 : decode cX25_init 28 = .ok (.return_, 1) := by decide +kernel
/-! CoinJudgeModel$Point.<init>()V -/
set_option maxHeartbeats 4000000 in
theorem sX25_init_0 {G : Gx} {d t : Nat} {h0 : AH} {Φ : Out → AH → Prop} (h : AH) (v0 : Nat) (K : h.kd v0 = 25 ∧ ∀ q2 : Nat, q2 = h.z → WF G h → ∀ h3 : AH, h3 = h.new 100 8 (List.replicate 8 0) [] [] → ∀ h6 : AH, h6 = h3.pr 25000 v0 q2 → ∀ q7 : Nat, q7 = h6.z → WF G h6 → ∀ h8 : AH, h8 = h6.new 100 8 (List.replicate 8 0) [] [] → ∀ h12 : AH, h12 = h8.pr 25001 v0 q7 → ∀ q13 : Nat, q13 = h12.z → WF G h12 → ∀ h14 : AH, h14 = h12.new 100 8 (List.replicate 8 0) [] [] → ∀ h18 : AH, h18 = h14.pr 25002 v0 q13 → Φ (.inl none) h18) : Aw G mX25_init (d + 1) v0 h0 Φ 0 [vR v0] [] h := by
  refine r_aload_n (pc := 0) dX25_init_0 rfl ?_
  obtain ⟨hk1, K⟩ := K
  refine r_objInit (pc := 1) (nzk hk1 rfl) q2120 q207 q208 dX25_init_1 (by decide) ?_
  refine r_aload_n (pc := 4) dX25_init_4 rfl ?_
  refine r_bipush (pc := 5) (x := 8) dX25_init_5 rfl ?_
  refine r_newaI (pc := 7) 100 (N := 8) rfl rfl (by decide) q283 (by decide) rfl (by decide) dX25_init_7 (fun q2 eq2 zq2 wq2 => ?_)
  refine r_nameH (fun h3 eh3 => ?_)
  have K := K q2 eq2 wq2 h3 eh3
  have hk4 := kd_newSE eh3 eq2
  have hk5 := kd_newE eh3 wq2 hk1 (nz rfl)
  refine r_putr (pc := 9) (T := TX25) (key := 25000) 25 0 (ty := (.array .int)) hk5 (Or.inl q2121) dX25_init_9 kc25 rfl rfl (Or.inr q2121) (Or.inr (Or.inl rfl)) ?_
  refine r_nameH (fun h6 eh6 => ?_)
  have K := K h6 eh6
  refine r_aload_n (pc := 12) dX25_init_12 rfl ?_
  refine r_bipush (pc := 13) (x := 8) dX25_init_13 rfl ?_
  refine r_newaI (pc := 15) 100 (N := 8) rfl rfl (by decide) q283 (by decide) rfl (by decide) dX25_init_15 (fun q7 eq7 zq7 wq7 => ?_)
  refine r_nameH (fun h8 eh8 => ?_)
  have K := K q7 eq7 wq7 h8 eh8
  have hk9 := kd_newSE eh8 eq7
  have hk10 := kd_pr eh6 hk5
  have hk11 := kd_newE eh8 wq7 hk10 (nz rfl)
  refine r_putr (pc := 17) (T := TX25) (key := 25001) 25 1 (ty := (.array .int)) hk11 (Or.inl q2123) dX25_init_17 kc25 rfl rfl (Or.inr q2123) (Or.inr (Or.inl rfl)) ?_
  refine r_nameH (fun h12 eh12 => ?_)
  have K := K h12 eh12
  refine r_aload_n (pc := 20) dX25_init_20 rfl ?_
  refine r_bipush (pc := 21) (x := 8) dX25_init_21 rfl ?_
  refine r_newaI (pc := 23) 100 (N := 8) rfl rfl (by decide) q283 (by decide) rfl (by decide) dX25_init_23 (fun q13 eq13 zq13 wq13 => ?_)
  refine r_nameH (fun h14 eh14 => ?_)
  have K := K q13 eq13 wq13 h14 eh14
  have hk15 := kd_newSE eh14 eq13
  have hk16 := kd_pr eh12 hk11
  have hk17 := kd_newE eh14 wq13 hk16 (nz rfl)
  refine r_putr (pc := 25) (T := TX25) (key := 25002) 25 2 (ty := (.array .int)) hk17 (Or.inl q2125) dX25_init_25 kc25 rfl rfl (Or.inr q2125) (Or.inr (Or.inl rfl)) ?_
  refine r_nameH (fun h18 eh18 => ?_)
  have K := K h18 eh18
  exact r_vret (pc := 28) rfl dX25_init_28 K
theorem eX25_init {G : Gx} {d : Nat} {Φ : Out → AH → Prop} (h : AH) (v0 : Nat) (K : WF G h → Aw G mX25_init (d + 1) v0 h Φ 0 [vR v0] [] h) : Cw G mX25_init (d + 1) v0 [vR v0] h Φ := Cw.of rfl K
theorem dX27_init_0 : decode cX27_init 0 = .ok (.aload_n 0, 1) := by decide +kernel
theorem dX27_init_1 : decode cX27_init 1 = .ok (.invokespecial 3, 3) := by decide +kernel
theorem dX27_init_4 : decode cX27_init 4 = .ok (.aload_n 0, 1) := by decide +kernel
theorem dX27_init_5 : decode cX27_init 5 = .ok (.bipush 8, 2) := by decide +kernel
theorem dX27_init_7 : decode cX27_init 7 = .ok (.newarray .int, 2) := by decide +kernel
theorem dX27_init_9 : decode cX27_init 9 = .ok (.putfield 9, 3) := by decide +kernel
theorem dX27_init_12 : decode cX27_init 12 = .ok (.aload_n 0, 1) := by decide +kernel
theorem dX27_init_13 : decode cX27_init 13 = .ok (.bipush 8, 2) := by decide +kernel
theorem dX27_init_15 : decode cX27_init 15 = .ok (.newarray .int, 2) := by decide +kernel
theorem dX27_init_17 : decode cX27_init 17 = .ok (.putfield 15, 3) := by decide +kernel
theorem dX27_init_20 : decode cX27_init 20 = .ok (.aload_n 0, 1) := by decide +kernel
theorem dX27_init_21 : decode cX27_init 21 = .ok (.bipush 8, 2) := by decide +kernel
theorem dX27_init_23 : decode cX27_init 23 = .ok (.newarray .int, 2) := by decide +kernel
theorem dX27_init_25 : decode cX27_init 25 = .ok (.putfield 18, 3) := by decide +kernel
theorem dX27_init_28 : decode cX27_init 28 = .ok (.aload_n 0, 1) := by decide +kernel
theorem dX27_init_29 : decode cX27_init 29 = .ok (.bipush 8, 2) := by decide +kernel
theorem dX27_init_31 : decode cX27_init 31 = .ok (.newarray .int, 2) := by decide +kernel
theorem dX27_init_33 : decode cX27_init 33 = .ok (.putfield 21, 3) := by decide +kernel
theorem dX27_init_36 : decode cX27_init 36 = .ok (.aload_n 0, 1) := by decide +kernel
theorem dX27_init_37 : decode cX27_init 37 = .ok (.bipush 10, 2) := by decide +kernel
theorem dX27_init_39 : decode cX27_init 39 = .ok (.newarray .int, 2) := by decide +kernel
theorem dX27_init_41 : decode cX27_init 41 = .ok (.putfield 24, 3) := by decide +kernel
theorem dX27_init_44 : decode cX27_init 44 = .ok (.aload_n 0, 1) := by decide +kernel
theorem dX27_init_45 : decode cX27_init 45 = .ok (.bipush 8, 2) := by decide +kernel
theorem dX27_init_47 : decode cX27_init 47 = .ok (.newarray .int, 2) := by decide +kernel
theorem dX27_init_49 : decode cX27_init 49 = .ok (.putfield 27, 3) := by decide +kernel
theorem dX27_init_52 : decode cX27_init 52 = .ok (.aload_n 0, 1) := by decide +kernel
theorem dX27_init_53 : decode cX27_init 53 = .ok (.bipush 8, 2) := by decide +kernel
theorem dX27_init_55 : decode cX27_init 55 = .ok (.newarray .int, 2) := by decide +kernel
theorem dX27_init_57 : decode cX27_init 57 = .ok (.putfield 30, 3) := by decide +kernel
theorem dX27_init_60 : decode cX27_init 60 = .ok (.iconst 0, 1) := by decide +kernel
theorem dX27_init_61 : decode cX27_init 61 = .ok (.istore_n 2, 1) := by decide +kernel
theorem dX27_init_62 : decode cX27_init 62 = .ok (.iload_n 2, 1) := by decide +kernel
theorem dX27_init_63 : decode cX27_init 63 = .ok (.bipush 8, 2) := by decide +kernel
theorem dX27_init_65 : decode cX27_init 65 = .ok (.if_icmp .ge 18, 3) := by decide +kernel
theorem dX27_init_68 : decode cX27_init 68 = .ok (.aload_n 0, 1) := by decide +kernel
theorem dX27_init_69 : decode cX27_init 69 = .ok (.getfield 9, 3) := by decide +kernel
theorem dX27_init_72 : decode cX27_init 72 = .ok (.iload_n 2, 1) := by decide +kernel
theorem dX27_init_73 : decode cX27_init 73 = .ok (.aload_n 1, 1) := by decide +kernel
theorem dX27_init_74 : decode cX27_init 74 = .ok (.iload_n 2, 1) := by decide +kernel
theorem dX27_init_75 : decode cX27_init 75 = .ok (.iaload, 1) := by decide +kernel
theorem dX27_init_76 : decode cX27_init 76 = .ok (.iastore, 1) := by decide +kernel
theorem dX27_init_77 : decode cX27_init 77 = .ok (.iinc 2 1, 3) := by decide +kernel
theorem dX27_init_80 : decode cX27_init 80 = .ok (.goto (-18), 3) := by decide +kernel
theorem dX27_init_83 : decode cX27_init 83 = .ok (.iconst 1, 1) := by decide +kernel
theorem dX27_init_84 : decode cX27_init 84 = .ok (.istore_n 2, 1) := by decide +kernel
theorem dX27_init_85 : decode cX27_init 85 = .ok (.iconst 0, 1) := by decide +kernel
theorem dX27_init_86 : decode cX27_init 86 = .ok (.istore_n 3, 1) := by decide +kernel
theorem dX27_init_87 : decode cX27_init 87 = .ok (.iload_n 3, 1) := by decide +kernel
theorem dX27_init_88 : decode cX27_init 88 = .ok (.iconst 5, 1) := by decide +kernel
theorem dX27_init_89 : decode cX27_init 89 = .ok (.if_icmp .ge 19, 3) := by decide +kernel
theorem dX27_init_92 : decode cX27_init 92 = .ok (.iload_n 2, 1) := by decide +kernel
theorem dX27_init_93 : decode cX27_init 93 = .ok (.iconst 2, 1) := by decide +kernel
theorem dX27_init_94 : decode cX27_init 94 = .ok (.aload_n 1, 1) := by decide +kernel
theorem dX27_init_95 : decode cX27_init 95 = .ok (.iconst 0, 1) := by decide +kernel
theorem dX27_init_96 : decode cX27_init 96 = .ok (.iaload, 1) := by decide +kernel
theorem dX27_init_97 : decode cX27_init 97 = .ok (.iload_n 2, 1) := by decide +kernel
theorem dX27_init_98 : decode cX27_init 98 = .ok (.imul, 1) := by decide +kernel
theorem dX27_init_99 : decode cX27_init 99 = .ok (.isub, 1) := by decide +kernel
theorem dX27_init_100 : decode cX27_init 100 = .ok (.imul, 1) := by decide +kernel
theorem dX27_init_101 : decode cX27_init 101 = .ok (.istore_n 2, 1) := by decide +kernel
theorem dX27_init_102 : decode cX27_init 102 = .ok (.iinc 3 1, 3) := by decide +kernel
theorem dX27_init_105 : decode cX27_init 105 = .ok (.goto (-18), 3) := by decide +kernel
theorem dX27_init_108 : decode cX27_init 108 = .ok (.aload_n 0, 1) := by decide +kernel
theorem dX27_init_109 : decode cX27_init 109 = .ok (.iload_n 2, 1) := by decide +kernel
theorem dX27_init_110 : decode cX27_init 110 = .ok (.ineg, 1) := by decide +kernel
theorem dX27_init_111 : decode cX27_init 111 = .ok (.putfield 33, 3) := by decide +kernel
theorem dX27_init_114 : decode cX27_init 114 = .ok (.aload_n 0, 1) := by decide +kernel
theorem dX27_init_115 : decode cX27_init 115 = .ok (.getfield 21, 3) := by decide +kernel
theorem dX27_init_118 : decode cX27_init 118 = .ok (.iconst 0, 1) := by decide +kernel
theorem dX27_init_119 : decode cX27_init 119 = .ok (.iconst 1, 1) := by decide +kernel
theorem dX27_init_120 : decode cX27_init 120 = .ok (.iastore, 1) := by decide +kernel
theorem dX27_init_121 : decode cX27_init 121 = .ok (.aload_n 0, 1) := by decide +kernel
theorem dX27_init_122 : decode cX27_init 122 = .ok (.getfield 15, 3) := by decide +kernel
theorem dX27_init_125 : decode cX27_init 125 = .ok (.iconst 0, 1) := by decide +kernel
theorem dX27_init_126 : decode cX27_init 126 = .ok (.iconst 1, 1) := by decide +kernel
theorem dX27_init_127 : decode cX27_init 127 = .ok (.iastore, 1) := by decide +kernel
theorem dX27_init_128 : decode cX27_init 128 = .ok (.iconst 0, 1) := by decide +kernel
theorem dX27_init_129 : decode cX27_init 129 = .ok (.istore_n 3, 1) := by decide +kernel
theorem dX27_init_130 : decode cX27_init 130 = .ok (.iload_n 3, 1) := by decide +kernel
theorem dX27_init_131 : decode cX27_init 131 = .ok (.sipush 256, 3) := by decide +kernel
theorem dX27_init_134 : decode cX27_init 134 = .ok (.if_icmp .ge 25, 3) := by decide +kernel
theorem dX27_init_137 : decode cX27_init 137 = .ok (.aload_n 0, 1) := by decide +kernel
theorem dX27_init_138 : decode cX27_init 138 = .ok (.aload_n 0, 1) := by decide +kernel
theorem dX27_init_139 : decode cX27_init 139 = .ok (.getfield 15, 3) := by decide +kernel
theorem dX27_init_142 : decode cX27_init 142 = .ok (.aload_n 0, 1) := by decide +kernel
theorem dX27_init_143 : decode cX27_init 143 = .ok (.getfield 15, 3) := by decide +kernel
theorem dX27_init_146 : decode cX27_init 146 = .ok (.aload_n 0, 1) := by decide +kernel
theorem dX27_init_147 : decode cX27_init 147 = .ok (.getfield 15, 3) := by decide +kernel
theorem dX27_init_150 : decode cX27_init 150 = .ok (.invokevirtual 37, 3) := by decide +kernel
theorem dX27_init_153 : decode cX27_init 153 = .ok (.iinc 3 1, 3) := by decide +kernel
theorem dX27_init_156 : decode cX27_init 156 = .ok (.goto (-26), 3) := by decide +kernel
theorem dX27_init_159 : decode cX27_init 159 = .ok (.aload_n 0, 1) := by decide +kernel
theorem dX27_init_160 : decode cX27_init 160 = .ok (.getfield 15, 3) := by decide +kernel
theorem dX27_init_163 : decode cX27_init 163 = .ok (.aload_n 0, 1) := by decide +kernel
theorem dX27_init_164 : decode cX27_init 164 = .ok (.getfield 18, 3) := by decide +kernel
theorem dX27_init_167 : decode cX27_init 167 = .ok (.invokestatic 41, 3) := by decide +kernel
theorem dX27_init_170 : decode cX27_init 170 = .ok (.iconst 0, 1) := by decide +kernel
theorem dX27_init_171 : decode cX27_init 171 = .ok (.istore_n 3, 1) := by decide +kernel
theorem dX27_init_172 : decode cX27_init 172 = .ok (.iload_n 3, 1) := by decide +kernel
theorem dX27_init_173 : decode cX27_init 173 = .ok (.sipush 256, 3) := by decide +kernel
theorem dX27_init_176 : decode cX27_init 176 = .ok (.if_icmp .ge 25, 3) := by decide +kernel
theorem dX27_init_179 : decode cX27_init 179 = .ok (.aload_n 0, 1) := by decide +kernel
theorem dX27_init_180 : decode cX27_init 180 = .ok (.aload_n 0, 1) := by decide +kernel
theorem dX27_init_181 : decode cX27_init 181 = .ok (.getfield 18, 3) := by decide +kernel
theorem dX27_init_184 : decode cX27_init 184 = .ok (.aload_n 0, 1) := by decide +kernel
theorem dX27_init_185 : decode cX27_init 185 = .ok (.getfield 18, 3) := by decide +kernel
theorem dX27_init_188 : decode cX27_init 188 = .ok (.aload_n 0, 1) := by decide +kernel
theorem dX27_init_189 : decode cX27_init 189 = .ok (.getfield 18, 3) := by decide +kernel
theorem dX27_init_192 : decode cX27_init 192 = .ok (.invokevirtual 37, 3) := by decide +kernel
theorem dX27_init_195 : decode cX27_init 195 = .ok (.iinc 3 1, 3) := by decide +kernel
theorem dX27_init_198 : decode cX27_init 198 = .ok (.goto (-26), 3) := by decide +kernel
theorem dX27_init_201 : decode cX27_init 201 = .ok (.return_, 1) := by decide +kernel
/-! CoinJudgeModel$Ring.<init>([I)V -/
set_option maxHeartbeats 4000000 in
theorem sX27_init_0 {G : Gx} {d t : Nat} {h0 : AH} {Φ : Out → AH → Prop} (h : AH) (v0 : Nat) (v1 : Nat) (K : h.kd v0 = 27 ∧ ∀ q2 : Nat, q2 = h.z → WF G h → ∀ h3 : AH, h3 = h.new 100 8 (List.replicate 8 0) [] [] → ∀ h6 : AH, h6 = h3.pr 27000 v0 q2 → ∀ q7 : Nat, q7 = h6.z → WF G h6 → ∀ h8 : AH, h8 = h6.new 100 8 (List.replicate 8 0) [] [] → ∀ h12 : AH, h12 = h8.pr 27002 v0 q7 → ∀ q13 : Nat, q13 = h12.z → WF G h12 → ∀ h14 : AH, h14 = h12.new 100 8 (List.replicate 8 0) [] [] → ∀ h18 : AH, h18 = h14.pr 27003 v0 q13 → ∀ q19 : Nat, q19 = h18.z → WF G h18 → ∀ h20 : AH, h20 = h18.new 100 8 (List.replicate 8 0) [] [] → ∀ h24 : AH, h24 = h20.pr 27004 v0 q19 → ∀ q25 : Nat, q25 = h24.z → WF G h24 → ∀ h26 : AH, h26 = h24.new 100 10 (List.replicate 10 0) [] [] → ∀ h30 : AH, h30 = h26.pr 27005 v0 q25 → ∀ q31 : Nat, q31 = h30.z → WF G h30 → ∀ h32 : AH, h32 = h30.new 100 8 (List.replicate 8 0) [] [] → ∀ h36 : AH, h36 = h32.pr 27006 v0 q31 → ∀ q37 : Nat, q37 = h36.z → WF G h36 → ∀ h38 : AH, h38 = h36.new 100 8 (List.replicate 8 0) [] [] → ∀ h42 : AH, h42 = h38.pr 27007 v0 q37 → Aw G mX27_init (d + 1) v0 h0 Φ 62 [vR v0, vR v1, vI 0, vU] [] h42) : Aw G mX27_init (d + 1) v0 h0 Φ 0 [vR v0, vR v1, vU, vU] [] h := by
  refine r_aload_n (pc := 0) dX27_init_0 rfl ?_
  obtain ⟨hk1, K⟩ := K
  refine r_objInit (pc := 1) (nzk hk1 rfl) q2190 q207 q208 dX27_init_1 (by decide) ?_
  refine r_aload_n (pc := 4) dX27_init_4 rfl ?_
  refine r_bipush (pc := 5) (x := 8) dX27_init_5 rfl ?_
  refine r_newaI (pc := 7) 100 (N := 8) rfl rfl (by decide) q283 (by decide) rfl (by decide) dX27_init_7 (fun q2 eq2 zq2 wq2 => ?_)
  refine r_nameH (fun h3 eh3 => ?_)
  have K := K q2 eq2 wq2 h3 eh3
  have hk4 := kd_newSE eh3 eq2
  have hk5 := kd_newE eh3 wq2 hk1 (nz rfl)
  refine r_putr (pc := 9) (T := TX27) (key := 27000) 27 0 (ty := (.array .int)) hk5 (Or.inl q2208) dX27_init_9 kc27 rfl rfl (Or.inr q2208) (Or.inr (Or.inl rfl)) ?_
  refine r_nameH (fun h6 eh6 => ?_)
  have K := K h6 eh6
  refine r_aload_n (pc := 12) dX27_init_12 rfl ?_
  refine r_bipush (pc := 13) (x := 8) dX27_init_13 rfl ?_
  refine r_newaI (pc := 15) 100 (N := 8) rfl rfl (by decide) q283 (by decide) rfl (by decide) dX27_init_15 (fun q7 eq7 zq7 wq7 => ?_)
  refine r_nameH (fun h8 eh8 => ?_)
  have K := K q7 eq7 wq7 h8 eh8
  have hk9 := kd_newSE eh8 eq7
  have hk10 := kd_pr eh6 hk5
  have hk11 := kd_newE eh8 wq7 hk10 (nz rfl)
  refine r_putr (pc := 17) (T := TX27) (key := 27002) 27 2 (ty := (.array .int)) hk11 (Or.inl q2211) dX27_init_17 kc27 rfl rfl (Or.inr q2211) (Or.inr (Or.inl rfl)) ?_
  refine r_nameH (fun h12 eh12 => ?_)
  have K := K h12 eh12
  refine r_aload_n (pc := 20) dX27_init_20 rfl ?_
  refine r_bipush (pc := 21) (x := 8) dX27_init_21 rfl ?_
  refine r_newaI (pc := 23) 100 (N := 8) rfl rfl (by decide) q283 (by decide) rfl (by decide) dX27_init_23 (fun q13 eq13 zq13 wq13 => ?_)
  refine r_nameH (fun h14 eh14 => ?_)
  have K := K q13 eq13 wq13 h14 eh14
  have hk15 := kd_newSE eh14 eq13
  have hk16 := kd_pr eh12 hk11
  have hk17 := kd_newE eh14 wq13 hk16 (nz rfl)
  refine r_putr (pc := 25) (T := TX27) (key := 27003) 27 3 (ty := (.array .int)) hk17 (Or.inl q2213) dX27_init_25 kc27 rfl rfl (Or.inr q2213) (Or.inr (Or.inl rfl)) ?_
  refine r_nameH (fun h18 eh18 => ?_)
  have K := K h18 eh18
  refine r_aload_n (pc := 28) dX27_init_28 rfl ?_
  refine r_bipush (pc := 29) (x := 8) dX27_init_29 rfl ?_
  refine r_newaI (pc := 31) 100 (N := 8) rfl rfl (by decide) q283 (by decide) rfl (by decide) dX27_init_31 (fun q19 eq19 zq19 wq19 => ?_)
  refine r_nameH (fun h20 eh20 => ?_)
  have K := K q19 eq19 wq19 h20 eh20
  have hk21 := kd_newSE eh20 eq19
  have hk22 := kd_pr eh18 hk17
  have hk23 := kd_newE eh20 wq19 hk22 (nz rfl)
  refine r_putr (pc := 33) (T := TX27) (key := 27004) 27 4 (ty := (.array .int)) hk23 (Or.inl q2214) dX27_init_33 kc27 rfl rfl (Or.inr q2214) (Or.inr (Or.inl rfl)) ?_
  refine r_nameH (fun h24 eh24 => ?_)
  have K := K h24 eh24
  refine r_aload_n (pc := 36) dX27_init_36 rfl ?_
  refine r_bipush (pc := 37) (x := 10) dX27_init_37 rfl ?_
  refine r_newaI (pc := 39) 100 (N := 10) rfl rfl (by decide) q283 (by decide) rfl (by decide) dX27_init_39 (fun q25 eq25 zq25 wq25 => ?_)
  refine r_nameH (fun h26 eh26 => ?_)
  have K := K q25 eq25 wq25 h26 eh26
  have hk27 := kd_newSE eh26 eq25
  have hk28 := kd_pr eh24 hk23
  have hk29 := kd_newE eh26 wq25 hk28 (nz rfl)
  refine r_putr (pc := 41) (T := TX27) (key := 27005) 27 5 (ty := (.array .int)) hk29 (Or.inl q2215) dX27_init_41 kc27 rfl rfl (Or.inr q2215) (Or.inr (Or.inl rfl)) ?_
  refine r_nameH (fun h30 eh30 => ?_)
  have K := K h30 eh30
  refine r_aload_n (pc := 44) dX27_init_44 rfl ?_
  refine r_bipush (pc := 45) (x := 8) dX27_init_45 rfl ?_
  refine r_newaI (pc := 47) 100 (N := 8) rfl rfl (by decide) q283 (by decide) rfl (by decide) dX27_init_47 (fun q31 eq31 zq31 wq31 => ?_)
  refine r_nameH (fun h32 eh32 => ?_)
  have K := K q31 eq31 wq31 h32 eh32
  have hk33 := kd_newSE eh32 eq31
  have hk34 := kd_pr eh30 hk29
  have hk35 := kd_newE eh32 wq31 hk34 (nz rfl)
  refine r_putr (pc := 49) (T := TX27) (key := 27006) 27 6 (ty := (.array .int)) hk35 (Or.inl q2216) dX27_init_49 kc27 rfl rfl (Or.inr q2216) (Or.inr (Or.inl rfl)) ?_
  refine r_nameH (fun h36 eh36 => ?_)
  have K := K h36 eh36
  refine r_aload_n (pc := 52) dX27_init_52 rfl ?_
  refine r_bipush (pc := 53) (x := 8) dX27_init_53 rfl ?_
  refine r_newaI (pc := 55) 100 (N := 8) rfl rfl (by decide) q283 (by decide) rfl (by decide) dX27_init_55 (fun q37 eq37 zq37 wq37 => ?_)
  refine r_nameH (fun h38 eh38 => ?_)
  have K := K q37 eq37 wq37 h38 eh38
  have hk39 := kd_newSE eh38 eq37
  have hk40 := kd_pr eh36 hk35
  have hk41 := kd_newE eh38 wq37 hk40 (nz rfl)
  refine r_putr (pc := 57) (T := TX27) (key := 27007) 27 7 (ty := (.array .int)) hk41 (Or.inl q2217) dX27_init_57 kc27 rfl rfl (Or.inr q2217) (Or.inr (Or.inl rfl)) ?_
  refine r_nameH (fun h42 eh42 => ?_)
  have K := K h42 eh42
  refine r_iconst (pc := 60) (x := 0) dX27_init_60 rfl ?_
  refine r_istore_n (pc := 61) (lv' := [_, _, _, _]) dX27_init_61 (by decide) rfl ?_
  refine r_mask (pc := 62) [true, true, true, false] rfl ?_
  exact K
theorem eX27_init {G : Gx} {d : Nat} {Φ : Out → AH → Prop} (h : AH) (v0 : Nat) (v1 : Nat) (K : WF G h → Aw G mX27_init (d + 1) v0 h Φ 0 [vR v0, vR v1, vU, vU] [] h) : Cw G mX27_init (d + 1) v0 [vR v0, vR v1] h Φ := Cw.of rfl K
set_option maxHeartbeats 4000000 in
theorem sX27_init_62 {G : Gx} {d t : Nat} {h0 : AH} {Φ : Out → AH → Prop} (h : AH) (v0 : Nat) (v1 : Nat) (v2 : Int32) (K : ((8 ≤ v2 → Aw G mX27_init (d + 1) v0 h0 Φ 87 [vR v0, vR v1, vI 1, vI 0] [] h) ∧ (¬ 8 ≤ v2 → h.kd v0 = 27 ∧ ∀ r3 : Nat, r3 = (h.r 27000 v0) → h.kd v1 = 100 ∧ vp_in v2 (h.ai v1).length ∧ h.kd r3 = 100 ∧ vp_in v2 (h.ai r3).length ∧ ∀ h8 : AH, h8 = h.wi r3 ((h.ai r3).set (v2.toNatClampNeg) ((h.ai v1).getD (v2.toNatClampNeg) 0)) → Aw G mX27_init (d + 1) v0 h0 Φ 62 [vR v0, vR v1, vI (v2 + 1), vU] [] h8))) : Aw G mX27_init (d + 1) v0 h0 Φ 62 [vR v0, vR v1, vI v2, vU] [] h := by
  refine r_iload_n (pc := 62) dX27_init_62 rfl ?_
  refine r_bipush (pc := 63) (x := 8) dX27_init_63 rfl ?_
  refine r_icmp_ge (pc := 65) (tgt := 83) dX27_init_65 rfl (fun c1 => ?_) (fun c1 => ?_)
  · have K := K.1 c1
    refine r_iconst (pc := 83) (x := 1) dX27_init_83 rfl ?_
    refine r_istore_n (pc := 84) (lv' := [_, _, _, _]) dX27_init_84 (by decide) rfl ?_
    refine r_iconst (pc := 85) (x := 0) dX27_init_85 rfl ?_
    refine r_istore_n (pc := 86) (lv' := [_, _, _, _]) dX27_init_86 (by decide) rfl ?_
    refine r_mask (pc := 87) [true, true, true, true] rfl ?_
    exact K
  · have K := K.2 c1
    refine r_aload_n (pc := 68) dX27_init_68 rfl ?_
    obtain ⟨hk2, K⟩ := K
    have K := K _ rfl
    refine r_getr' (pc := 69) (T := TX27) 27 0 rfl hk2 (Or.inl q2208) dX27_init_69 kc27 g27000 ?_
    refine r_iload_n (pc := 72) dX27_init_72 rfl ?_
    refine r_aload_n (pc := 73) dX27_init_73 rfl ?_
    refine r_iload_n (pc := 74) dX27_init_74 rfl ?_
    obtain ⟨hk4, K⟩ := K
    obtain ⟨hi5, K⟩ := K
    refine r_iaload (pc := 75) hk4 hi5 dX27_init_75 ?_
    obtain ⟨hk6, K⟩ := K
    obtain ⟨hi7, K⟩ := K
    refine r_iastore (pc := 76) hk6 hi7 (Or.inl (em rfl)) dX27_init_76 ?_
    refine r_nameH (fun h8 eh8 => ?_)
    have K := K h8 eh8
    refine r_iinc (pc := 77) (lv' := [_, _, _, _]) dX27_init_77 rfl rfl (by decide) rfl ?_
    refine r_goto (pc := 80) (tgt := 62) dX27_init_80 rfl ?_
    refine r_mask (pc := 62) [true, true, true, false] rfl ?_
    exact K
set_option maxHeartbeats 4000000 in
theorem sX27_init_87 {G : Gx} {d t : Nat} {h0 : AH} {Φ : Out → AH → Prop} (h : AH) (v0 : Nat) (v1 : Nat) (v2 : Int32) (v3 : Int32) (K : ((5 ≤ v3 → h.kd v0 = 27 ∧ ∀ h3 : AH, h3 = h.pi 27001 v0 (-v2) → ∀ r5 : Nat, r5 = (h3.r 27004 v0) → h3.kd r5 = 100 ∧ vp_in 0 (h3.ai r5).length ∧ ∀ h8 : AH, h8 = h3.wi r5 ((h3.ai r5).set ((0 : Int32).toNatClampNeg) 1) → ∀ r10 : Nat, r10 = (h8.r 27002 v0) → h8.kd r10 = 100 ∧ vp_in 0 (h8.ai r10).length ∧ ∀ h13 : AH, h13 = h8.wi r10 ((h8.ai r10).set ((0 : Int32).toNatClampNeg) 1) → Aw G mX27_init (d + 1) v0 h0 Φ 130 [vR v0, vU, vU, vI 0] [] h13) ∧ (¬ 5 ≤ v3 → h.kd v1 = 100 ∧ vp_in 0 (h.ai v1).length ∧ ∀ u16 : Int32, u16 = (v2 * (2 - (((h.ai v1).getD ((0 : Int32).toNatClampNeg) 0) * v2))) → Aw G mX27_init (d + 1) v0 h0 Φ 87 [vR v0, vR v1, vI u16, vI (v3 + 1)] [] h))) : Aw G mX27_init (d + 1) v0 h0 Φ 87 [vR v0, vR v1, vI v2, vI v3] [] h := by
  refine r_iload_n (pc := 87) dX27_init_87 rfl ?_
  refine r_iconst (pc := 88) (x := 5) dX27_init_88 rfl ?_
  refine r_icmp_ge (pc := 89) (tgt := 108) dX27_init_89 rfl (fun c1 => ?_) (fun c1 => ?_)
  · have K := K.1 c1
    refine r_aload_n (pc := 108) dX27_init_108 rfl ?_
    refine r_iload_n (pc := 109) dX27_init_109 rfl ?_
    refine r_ineg (pc := 110) dX27_init_110 ?_
    obtain ⟨hk2, K⟩ := K
    refine r_puti (pc := 111) (T := TX27) (key := 27001) 27 1 hk2 (Or.inl q2210) dX27_init_111 kc27 rfl (Or.inr q2210) (Or.inr (Or.inl rfl)) ?_
    refine r_nameH (fun h3 eh3 => ?_)
    have K := K h3 eh3
    refine r_aload_n (pc := 114) dX27_init_114 rfl ?_
    have hk4 := kd_pi eh3 hk2
    have K := K _ rfl
    refine r_getr' (pc := 115) (T := TX27) 27 4 rfl hk4 (Or.inl q2214) dX27_init_115 kc27 g27004 ?_
    refine r_iconst (pc := 118) (x := 0) dX27_init_118 rfl ?_
    refine r_iconst (pc := 119) (x := 1) dX27_init_119 rfl ?_
    obtain ⟨hk6, K⟩ := K
    obtain ⟨hi7, K⟩ := K
    refine r_iastore (pc := 120) hk6 hi7 (Or.inl (em rfl)) dX27_init_120 ?_
    refine r_nameH (fun h8 eh8 => ?_)
    have K := K h8 eh8
    refine r_aload_n (pc := 121) dX27_init_121 rfl ?_
    have hk9 := kd_wi eh8 hk4
    have K := K _ rfl
    refine r_getr' (pc := 122) (T := TX27) 27 2 rfl hk9 (Or.inl q2211) dX27_init_122 kc27 g27002 ?_
    refine r_iconst (pc := 125) (x := 0) dX27_init_125 rfl ?_
    refine r_iconst (pc := 126) (x := 1) dX27_init_126 rfl ?_
    obtain ⟨hk11, K⟩ := K
    obtain ⟨hi12, K⟩ := K
    refine r_iastore (pc := 127) hk11 hi12 (Or.inl (em rfl)) dX27_init_127 ?_
    refine r_nameH (fun h13 eh13 => ?_)
    have K := K h13 eh13
    refine r_iconst (pc := 128) (x := 0) dX27_init_128 rfl ?_
    refine r_istore_n (pc := 129) (lv' := [_, _, _, _]) dX27_init_129 (by decide) rfl ?_
    refine r_mask (pc := 130) [true, false, false, true] rfl ?_
    exact K
  · have K := K.2 c1
    refine r_iload_n (pc := 92) dX27_init_92 rfl ?_
    refine r_iconst (pc := 93) (x := 2) dX27_init_93 rfl ?_
    refine r_aload_n (pc := 94) dX27_init_94 rfl ?_
    refine r_iconst (pc := 95) (x := 0) dX27_init_95 rfl ?_
    obtain ⟨hk14, K⟩ := K
    obtain ⟨hi15, K⟩ := K
    refine r_iaload (pc := 96) hk14 hi15 dX27_init_96 ?_
    refine r_iload_n (pc := 97) dX27_init_97 rfl ?_
    refine r_imul (pc := 98) dX27_init_98 ?_
    refine r_isub (pc := 99) dX27_init_99 ?_
    refine r_imul (pc := 100) dX27_init_100 ?_
    have K := K _ rfl
    refine r_istore_n (pc := 101) (lv' := [_, _, _, _]) dX27_init_101 (by decide) rfl ?_
    refine r_iinc (pc := 102) (lv' := [_, _, _, _]) dX27_init_102 rfl rfl (by decide) rfl ?_
    refine r_goto (pc := 105) (tgt := 87) dX27_init_105 rfl ?_
    refine r_mask (pc := 87) [true, true, true, true] rfl ?_
    exact K
set_option maxHeartbeats 4000000 in
theorem sX27_init_130 {G : Gx} {d t : Nat} {h0 : AH} {Φ : Out → AH → Prop} (h : AH) (v0 : Nat) (v3 : Int32) (K : ((256 ≤ v3 → h.kd v0 = 27 ∧ ∀ r3 : Nat, r3 = (h.r 27002 v0) → ∀ r4 : Nat, r4 = (h.r 27003 v0) → Cw G mX27_copy d 0 [vR r3, vR r4] h (kV (fun h6 => Aw G mX27_init (d + 1) v0 h0 Φ 172 [vR v0, vU, vU, vI 0] [] h6) (fun x h => Φ (.inr x) h))) ∧ (¬ 256 ≤ v3 → h.kd v0 = 27 ∧ ∀ r8 : Nat, r8 = (h.r 27002 v0) → Cw G mX27_add d 0 [vR v0, vR r8, vR r8, vR r8] h (kV (fun h10 => Aw G mX27_init (d + 1) v0 h0 Φ 130 [vR v0, vU, vU, vI (v3 + 1)] [] h10) (fun x h => Φ (.inr x) h))))) : Aw G mX27_init (d + 1) v0 h0 Φ 130 [vR v0, vU, vU, vI v3] [] h := by
  refine r_iload_n (pc := 130) dX27_init_130 rfl ?_
  refine r_sipush (pc := 131) (x := 256) dX27_init_131 rfl ?_
  refine r_icmp_ge (pc := 134) (tgt := 159) dX27_init_134 rfl (fun c1 => ?_) (fun c1 => ?_)
  · have K := K.1 c1
    refine r_aload_n (pc := 159) dX27_init_159 rfl ?_
    obtain ⟨hk2, K⟩ := K
    have K := K _ rfl
    refine r_getr' (pc := 160) (T := TX27) 27 2 rfl hk2 (Or.inl q2211) dX27_init_160 kc27 g27002 ?_
    refine r_aload_n (pc := 163) dX27_init_163 rfl ?_
    have K := K _ rfl
    refine r_getr' (pc := 164) (T := TX27) 27 3 rfl hk2 (Or.inl q2213) dX27_init_164 kc27 g27003 ?_
    refine r_callS_V (pc := 167) (Y := mX27_copy) (vs := [_, _]) (st := []) q2205 q2206 q195 dX27_init_167 rfl cd_X27_copy rfl rfl fp_X27_init_X27_copy K (fun h6 eh6 wh6 K => ?_) (fun x h1 _ _ e => Tw.out rfl e)
    refine r_iconst (pc := 170) (x := 0) dX27_init_170 rfl ?_
    refine r_istore_n (pc := 171) (lv' := [_, _, _, _]) dX27_init_171 (by decide) rfl ?_
    refine r_mask (pc := 172) [true, false, false, true] rfl ?_
    exact K
  · have K := K.2 c1
    refine r_aload_n (pc := 137) dX27_init_137 rfl ?_
    refine r_aload_n (pc := 138) dX27_init_138 rfl ?_
    obtain ⟨hk7, K⟩ := K
    have K := K _ rfl
    refine r_getr' (pc := 139) (T := TX27) 27 2 rfl hk7 (Or.inl q2211) dX27_init_139 kc27 g27002 ?_
    refine r_aload_n (pc := 142) dX27_init_142 rfl ?_
    refine r_getr' (pc := 143) (T := TX27) 27 2 rfl hk7 (Or.inl q2211) dX27_init_143 kc27 g27002 ?_
    refine r_aload_n (pc := 146) dX27_init_146 rfl ?_
    refine r_getr' (pc := 147) (T := TX27) 27 2 rfl hk7 (Or.inl q2211) dX27_init_147 kc27 g27002 ?_
    refine r_callV_V (pc := 150) (Y := mX27_add) (vs := [_, _, _]) (st := []) hk7 rfl kc27 q2191 q2192 q2193 dX27_init_150 rfl cd_X27_add rfl rfl fp_X27_init_X27_add K (fun h10 eh10 wh10 K => ?_) (fun x h1 _ _ e => Tw.out rfl e)
    refine r_iinc (pc := 153) (lv' := [_, _, _, _]) dX27_init_153 rfl rfl (by decide) rfl ?_
    refine r_goto (pc := 156) (tgt := 130) dX27_init_156 rfl ?_
    refine r_mask (pc := 130) [true, false, false, true] rfl ?_
    exact K
set_option maxHeartbeats 4000000 in
theorem sX27_init_172 {G : Gx} {d t : Nat} {h0 : AH} {Φ : Out → AH → Prop} (h : AH) (v0 : Nat) (v3 : Int32) (K : ((256 ≤ v3 → Φ (.inl none) h) ∧ (¬ 256 ≤ v3 → h.kd v0 = 27 ∧ ∀ r3 : Nat, r3 = (h.r 27003 v0) → Cw G mX27_add d 0 [vR v0, vR r3, vR r3, vR r3] h (kV (fun h5 => Aw G mX27_init (d + 1) v0 h0 Φ 172 [vR v0, vU, vU, vI (v3 + 1)] [] h5) (fun x h => Φ (.inr x) h))))) : Aw G mX27_init (d + 1) v0 h0 Φ 172 [vR v0, vU, vU, vI v3] [] h := by
  refine r_iload_n (pc := 172) dX27_init_172 rfl ?_
  refine r_sipush (pc := 173) (x := 256) dX27_init_173 rfl ?_
  refine r_icmp_ge (pc := 176) (tgt := 201) dX27_init_176 rfl (fun c1 => ?_) (fun c1 => ?_)
  · have K := K.1 c1
    exact r_vret (pc := 201) rfl dX27_init_201 K
  · have K := K.2 c1
    refine r_aload_n (pc := 179) dX27_init_179 rfl ?_
    refine r_aload_n (pc := 180) dX27_init_180 rfl ?_
    obtain ⟨hk2, K⟩ := K
    have K := K _ rfl
    refine r_getr' (pc := 181) (T := TX27) 27 3 rfl hk2 (Or.inl q2213) dX27_init_181 kc27 g27003 ?_
    refine r_aload_n (pc := 184) dX27_init_184 rfl ?_
    refine r_getr' (pc := 185) (T := TX27) 27 3 rfl hk2 (Or.inl q2213) dX27_init_185 kc27 g27003 ?_
    refine r_aload_n (pc := 188) dX27_init_188 rfl ?_
    refine r_getr' (pc := 189) (T := TX27) 27 3 rfl hk2 (Or.inl q2213) dX27_init_189 kc27 g27003 ?_
    refine r_callV_V (pc := 192) (Y := mX27_add) (vs := [_, _, _]) (st := []) hk2 rfl kc27 q2191 q2192 q2193 dX27_init_192 rfl cd_X27_add rfl rfl fp_X27_init_X27_add K (fun h5 eh5 wh5 K => ?_) (fun x h1 _ _ e => Tw.out rfl e)
    refine r_iinc (pc := 195) (lv' := [_, _, _, _]) dX27_init_195 rfl rfl (by decide) rfl ?_
    refine r_goto (pc := 198) (tgt := 172) dX27_init_198 rfl ?_
    refine r_mask (pc := 172) [true, false, false, true] rfl ?_
    exact K

/-! printed by gen/segs.py: decode rows and segment lemmas of: J9_rotateRight J9_rotateLeft J9_numberOfLeadingZeros J0_max J0_min J13_clear J13_elementData J3_checkIndex J16_checkIndex J13_get J13_size J0_abs J0_max_2 J14_hugeLength J14_newLength J0_min_2 J15_copyOf_2 J15_copyOf J13_grow_2 J13_grow J13_add_2 J13_add J11_init J12_init J13_init J10_ordinal J0_multiplyHigh J1_isLatin1 J1_checkIndex J2_charAt J1_charAt J1_coder J1_length X21_init X21_why -/
set_option maxRecDepth 100000
theorem dJ9_rotateRight_0 : decode cJ9_rotateRight 0 = .ok (.iload_n 0, 1) := by decide +kernel
theorem dJ9_rotateRight_1 : decode cJ9_rotateRight 1 = .ok (.iload_n 1, 1) := by decide +kernel
theorem dJ9_rotateRight_2 : decode cJ9_rotateRight 2 = .ok (.iushr, 1) := by decide +kernel
theorem dJ9_rotateRight_3 : decode cJ9_rotateRight 3 = .ok (.iload_n 0, 1) := by decide +kernel
theorem dJ9_rotateRight_4 : decode cJ9_rotateRight 4 = .ok (.iload_n 1, 1) := by decide +kernel
theorem dJ9_rotateRight_5 : decode cJ9_rotateRight 5 = .ok (.ineg, 1) := by decide +kernel
theorem dJ9_rotateRight_6 : decode cJ9_rotateRight 6 = .ok (.ishl, 1) := by decide +kernel
theorem dJ9_rotateRight_7 : decode cJ9_rotateRight 7 = .ok (.ior, 1) := by decide +kernel
theorem dJ9_rotateRight_8 : decode cJ9_rotateRight 8 = .ok (.ireturn, 1) := by decide +kernel
/-! java/lang/Integer.rotateRight(II)I -/
set_option maxHeartbeats 4000000 in
theorem sJ9_rotateRight_0 {G : Gx} {d t : Nat} {h0 : AH} {Φ : Out → AH → Prop} (h : AH) (v0 : Int32) (v1 : Int32) (K : Φ (.inl (some (vI ((jushr v0 v1) ||| (jshl v0 (-v1)))))) h) : Aw G mJ9_rotateRight (d + 1) t h0 Φ 0 [vI v0, vI v1] [] h := by
  refine r_iload_n (pc := 0) dJ9_rotateRight_0 rfl ?_
  refine r_iload_n (pc := 1) dJ9_rotateRight_1 rfl ?_
  refine r_jushr (pc := 2) dJ9_rotateRight_2 ?_
  refine r_iload_n (pc := 3) dJ9_rotateRight_3 rfl ?_
  refine r_iload_n (pc := 4) dJ9_rotateRight_4 rfl ?_
  refine r_ineg (pc := 5) dJ9_rotateRight_5 ?_
  refine r_jshl (pc := 6) dJ9_rotateRight_6 ?_
  refine r_ior (pc := 7) dJ9_rotateRight_7 ?_
  exact r_iret (pc := 8) rfl rfl dJ9_rotateRight_8 K
theorem eJ9_rotateRight {G : Gx} {d : Nat} {Φ : Out → AH → Prop} (h : AH) (v0 : Int32) (v1 : Int32) (K : WF G h → Aw G mJ9_rotateRight (d + 1) 0 h Φ 0 [vI v0, vI v1] [] h) : Cw G mJ9_rotateRight (d + 1) 0 [vI v0, vI v1] h Φ := Cw.of rfl K
theorem dJ9_rotateLeft_0 : decode cJ9_rotateLeft 0 = .ok (.iload_n 0, 1) := by decide +kernel
theorem dJ9_rotateLeft_1 : decode cJ9_rotateLeft 1 = .ok (.iload_n 1, 1) := by decide +kernel
theorem dJ9_rotateLeft_2 : decode cJ9_rotateLeft 2 = .ok (.ishl, 1) := by decide +kernel
theorem dJ9_rotateLeft_3 : decode cJ9_rotateLeft 3 = .ok (.iload_n 0, 1) := by decide +kernel
theorem dJ9_rotateLeft_4 : decode cJ9_rotateLeft 4 = .ok (.iload_n 1, 1) := by decide +kernel
theorem dJ9_rotateLeft_5 : decode cJ9_rotateLeft 5 = .ok (.ineg, 1) := by decide +kernel
theorem dJ9_rotateLeft_6 : decode cJ9_rotateLeft 6 = .ok (.iushr, 1) := by decide +kernel
theorem dJ9_rotateLeft_7 : decode cJ9_rotateLeft 7 = .ok (.ior, 1) := by decide +kernel
theorem dJ9_rotateLeft_8 : decode cJ9_rotateLeft 8 = .ok (.ireturn, 1) := by decide +kernel
/-! java/lang/Integer.rotateLeft(II)I -/
set_option maxHeartbeats 4000000 in
theorem sJ9_rotateLeft_0 {G : Gx} {d t : Nat} {h0 : AH} {Φ : Out → AH → Prop} (h : AH) (v0 : Int32) (v1 : Int32) (K : Φ (.inl (some (vI ((jshl v0 v1) ||| (jushr v0 (-v1)))))) h) : Aw G mJ9_rotateLeft (d + 1) t h0 Φ 0 [vI v0, vI v1] [] h := by
  refine r_iload_n (pc := 0) dJ9_rotateLeft_0 rfl ?_
  refine r_iload_n (pc := 1) dJ9_rotateLeft_1 rfl ?_
  refine r_jshl (pc := 2) dJ9_rotateLeft_2 ?_
  refine r_iload_n (pc := 3) dJ9_rotateLeft_3 rfl ?_
  refine r_iload_n (pc := 4) dJ9_rotateLeft_4 rfl ?_
  refine r_ineg (pc := 5) dJ9_rotateLeft_5 ?_
  refine r_jushr (pc := 6) dJ9_rotateLeft_6 ?_
  refine r_ior (pc := 7) dJ9_rotateLeft_7 ?_
  exact r_iret (pc := 8) rfl rfl dJ9_rotateLeft_8 K
theorem eJ9_rotateLeft {G : Gx} {d : Nat} {Φ : Out → AH → Prop} (h : AH) (v0 : Int32) (v1 : Int32) (K : WF G h → Aw G mJ9_rotateLeft (d + 1) 0 h Φ 0 [vI v0, vI v1] [] h) : Cw G mJ9_rotateLeft (d + 1) 0 [vI v0, vI v1] h Φ := Cw.of rfl K
theorem dJ9_numberOfLeadingZeros_0 : decode cJ9_numberOfLeadingZeros 0 = .ok (.iload_n 0, 1) := by decide +kernel
theorem dJ9_numberOfLeadingZeros_1 : decode cJ9_numberOfLeadingZeros 1 = .ok (.ifCond .gt 14, 3) := by decide +kernel
theorem dJ9_numberOfLeadingZeros_4 : decode cJ9_numberOfLeadingZeros 4 = .ok (.iload_n 0, 1) := by decide +kernel
theorem dJ9_numberOfLeadingZeros_5 : decode cJ9_numberOfLeadingZeros 5 = .ok (.ifCond .ne 8, 3) := by decide +kernel
theorem dJ9_numberOfLeadingZeros_8 : decode cJ9_numberOfLeadingZeros 8 = .ok (.bipush 32, 2) := by decide +kernel
theorem dJ9_numberOfLeadingZeros_10 : decode cJ9_numberOfLeadingZeros 10 = .ok (.goto 4, 3) := by decide +kernel
theorem dJ9_numberOfLeadingZeros_13 : decode cJ9_numberOfLeadingZeros 13 = .ok (.iconst 0, 1) := by decide +kernel
theorem dJ9_numberOfLeadingZeros_14 : decode cJ9_numberOfLeadingZeros 14 = .ok (.ireturn, 1) := by decide +kernel
theorem dJ9_numberOfLeadingZeros_15 : decode cJ9_numberOfLeadingZeros 15 = .ok (.bipush 31, 2) := by decide +kernel
theorem dJ9_numberOfLeadingZeros_17 : decode cJ9_numberOfLeadingZeros 17 = .ok (.istore_n 1, 1) := by decide +kernel
theorem dJ9_numberOfLeadingZeros_18 : decode cJ9_numberOfLeadingZeros 18 = .ok (.iload_n 0, 1) := by decide +kernel
theorem dJ9_numberOfLeadingZeros_19 : decode cJ9_numberOfLeadingZeros 19 = .ok (.ldc_w 264, 3) := by decide +kernel
theorem dJ9_numberOfLeadingZeros_22 : decode cJ9_numberOfLeadingZeros 22 = .ok (.if_icmp .lt 11, 3) := by decide +kernel
theorem dJ9_numberOfLeadingZeros_25 : decode cJ9_numberOfLeadingZeros 25 = .ok (.iinc 1 (-16), 3) := by decide +kernel
theorem dJ9_numberOfLeadingZeros_28 : decode cJ9_numberOfLeadingZeros 28 = .ok (.iload_n 0, 1) := by decide +kernel
theorem dJ9_numberOfLeadingZeros_29 : decode cJ9_numberOfLeadingZeros 29 = .ok (.bipush 16, 2) := by decide +kernel
theorem dJ9_numberOfLeadingZeros_31 : decode cJ9_numberOfLeadingZeros 31 = .ok (.iushr, 1) := by decide +kernel
theorem dJ9_numberOfLeadingZeros_32 : decode cJ9_numberOfLeadingZeros 32 = .ok (.istore_n 0, 1) := by decide +kernel
theorem dJ9_numberOfLeadingZeros_33 : decode cJ9_numberOfLeadingZeros 33 = .ok (.iload_n 0, 1) := by decide +kernel
theorem dJ9_numberOfLeadingZeros_34 : decode cJ9_numberOfLeadingZeros 34 = .ok (.sipush 256, 3) := by decide +kernel
theorem dJ9_numberOfLeadingZeros_37 : decode cJ9_numberOfLeadingZeros 37 = .ok (.if_icmp .lt 11, 3) := by decide +kernel
theorem dJ9_numberOfLeadingZeros_40 : decode cJ9_numberOfLeadingZeros 40 = .ok (.iinc 1 (-8), 3) := by decide +kernel
theorem dJ9_numberOfLeadingZeros_43 : decode cJ9_numberOfLeadingZeros 43 = .ok (.iload_n 0, 1) := by decide +kernel
theorem dJ9_numberOfLeadingZeros_44 : decode cJ9_numberOfLeadingZeros 44 = .ok (.bipush 8, 2) := by decide +kernel
theorem dJ9_numberOfLeadingZeros_46 : decode cJ9_numberOfLeadingZeros 46 = .ok (.iushr, 1) := by decide +kernel
theorem dJ9_numberOfLeadingZeros_47 : decode cJ9_numberOfLeadingZeros 47 = .ok (.istore_n 0, 1) := by decide +kernel
theorem dJ9_numberOfLeadingZeros_48 : decode cJ9_numberOfLeadingZeros 48 = .ok (.iload_n 0, 1) := by decide +kernel
theorem dJ9_numberOfLeadingZeros_49 : decode cJ9_numberOfLeadingZeros 49 = .ok (.bipush 16, 2) := by decide +kernel
theorem dJ9_numberOfLeadingZeros_51 : decode cJ9_numberOfLeadingZeros 51 = .ok (.if_icmp .lt 10, 3) := by decide +kernel
theorem dJ9_numberOfLeadingZeros_54 : decode cJ9_numberOfLeadingZeros 54 = .ok (.iinc 1 (-4), 3) := by decide +kernel
theorem dJ9_numberOfLeadingZeros_57 : decode cJ9_numberOfLeadingZeros 57 = .ok (.iload_n 0, 1) := by decide +kernel
theorem dJ9_numberOfLeadingZeros_58 : decode cJ9_numberOfLeadingZeros 58 = .ok (.iconst 4, 1) := by decide +kernel
theorem dJ9_numberOfLeadingZeros_59 : decode cJ9_numberOfLeadingZeros 59 = .ok (.iushr, 1) := by decide +kernel
theorem dJ9_numberOfLeadingZeros_60 : decode cJ9_numberOfLeadingZeros 60 = .ok (.istore_n 0, 1) := by decide +kernel
theorem dJ9_numberOfLeadingZeros_61 : decode cJ9_numberOfLeadingZeros 61 = .ok (.iload_n 0, 1) := by decide +kernel
theorem dJ9_numberOfLeadingZeros_62 : decode cJ9_numberOfLeadingZeros 62 = .ok (.iconst 4, 1) := by decide +kernel
theorem dJ9_numberOfLeadingZeros_63 : decode cJ9_numberOfLeadingZeros 63 = .ok (.if_icmp .lt 10, 3) := by decide +kernel
theorem dJ9_numberOfLeadingZeros_66 : decode cJ9_numberOfLeadingZeros 66 = .ok (.iinc 1 (-2), 3) := by decide +kernel
theorem dJ9_numberOfLeadingZeros_69 : decode cJ9_numberOfLeadingZeros 69 = .ok (.iload_n 0, 1) := by decide +kernel
theorem dJ9_numberOfLeadingZeros_70 : decode cJ9_numberOfLeadingZeros 70 = .ok (.iconst 2, 1) := by decide +kernel
theorem dJ9_numberOfLeadingZeros_71 : decode cJ9_numberOfLeadingZeros 71 = .ok (.iushr, 1) := by decide +kernel
theorem dJ9_numberOfLeadingZeros_72 : decode cJ9_numberOfLeadingZeros 72 = .ok (.istore_n 0, 1) := by decide +kernel
theorem dJ9_numberOfLeadingZeros_73 : decode cJ9_numberOfLeadingZeros 73 = .ok (.iload_n 1, 1) := by decide +kernel
theorem dJ9_numberOfLeadingZeros_74 : decode cJ9_numberOfLeadingZeros 74 = .ok (.iload_n 0, 1) := by decide +kernel
theorem dJ9_numberOfLeadingZeros_75 : decode cJ9_numberOfLeadingZeros 75 = .ok (.iconst 1, 1) := by decide +kernel
theorem dJ9_numberOfLeadingZeros_76 : decode cJ9_numberOfLeadingZeros 76 = .ok (.iushr, 1) := by decide +kernel
theorem dJ9_numberOfLeadingZeros_77 : decode cJ9_numberOfLeadingZeros 77 = .ok (.isub, 1) := by decide +kernel
theorem dJ9_numberOfLeadingZeros_78 : decode cJ9_numberOfLeadingZeros 78 = .ok (.ireturn, 1) := by decide +kernel
/-! java/lang/Integer.numberOfLeadingZeros(I)I -/
set_option maxHeartbeats 4000000 in
theorem sJ9_numberOfLeadingZeros_0 {G : Gx} {d t : Nat} {h0 : AH} {Φ : Out → AH → Prop} (h : AH) (v0 : Int32) (K : ((0 < v0 → ((v0 < 65536 → Aw G mJ9_numberOfLeadingZeros (d + 1) t h0 Φ 33 [vI v0, vI 31] [] h) ∧ (¬ v0 < 65536 → Aw G mJ9_numberOfLeadingZeros (d + 1) t h0 Φ 33 [vI (jushr v0 16), vI (31 + (-16))] [] h))) ∧ (¬ 0 < v0 → ((¬ v0 = 0 → Φ (.inl (some (vI 0))) h) ∧ (v0 = 0 → Φ (.inl (some (vI 32))) h))))) : Aw G mJ9_numberOfLeadingZeros (d + 1) t h0 Φ 0 [vI v0, vU] [] h := by
  refine r_iload_n (pc := 0) dJ9_numberOfLeadingZeros_0 rfl ?_
  refine r_if_gt (pc := 1) (tgt := 15) dJ9_numberOfLeadingZeros_1 rfl (fun c1 => ?_) (fun c1 => ?_)
  · have K := K.1 c1
    refine r_bipush (pc := 15) (x := 31) dJ9_numberOfLeadingZeros_15 rfl ?_
    refine r_istore_n (pc := 17) (lv' := [_, _]) dJ9_numberOfLeadingZeros_17 (by decide) rfl ?_
    refine r_iload_n (pc := 18) dJ9_numberOfLeadingZeros_18 rfl ?_
    refine r_ldc_w (pc := 19) dJ9_numberOfLeadingZeros_19 q865 ?_
    refine r_icmp_lt (pc := 22) (tgt := 33) dJ9_numberOfLeadingZeros_22 rfl (fun c2 => ?_) (fun c2 => ?_)
    · have K := K.1 c2
      refine r_mask (pc := 33) [true, true] rfl ?_
      exact K
    · have K := K.2 c2
      refine r_iinc (pc := 25) (lv' := [_, _]) dJ9_numberOfLeadingZeros_25 rfl rfl (by decide) rfl ?_
      refine r_iload_n (pc := 28) dJ9_numberOfLeadingZeros_28 rfl ?_
      refine r_bipush (pc := 29) (x := 16) dJ9_numberOfLeadingZeros_29 rfl ?_
      refine r_jushr (pc := 31) dJ9_numberOfLeadingZeros_31 ?_
      refine r_istore_n (pc := 32) (lv' := [_, _]) dJ9_numberOfLeadingZeros_32 (by decide) rfl ?_
      refine r_mask (pc := 33) [true, true] rfl ?_
      exact K
  · have K := K.2 c1
    refine r_iload_n (pc := 4) dJ9_numberOfLeadingZeros_4 rfl ?_
    refine r_if_ne (pc := 5) (tgt := 13) dJ9_numberOfLeadingZeros_5 rfl (fun c3 => ?_) (fun c3 => ?_)
    · have K := K.1 c3
      refine r_iconst (pc := 13) (x := 0) dJ9_numberOfLeadingZeros_13 rfl ?_
      exact r_iret (pc := 14) rfl rfl dJ9_numberOfLeadingZeros_14 K
    · have K := K.2 c3
      refine r_bipush (pc := 8) (x := 32) dJ9_numberOfLeadingZeros_8 rfl ?_
      refine r_goto (pc := 10) (tgt := 14) dJ9_numberOfLeadingZeros_10 rfl ?_
      exact r_iret (pc := 14) rfl rfl dJ9_numberOfLeadingZeros_14 K
theorem eJ9_numberOfLeadingZeros {G : Gx} {d : Nat} {Φ : Out → AH → Prop} (h : AH) (v0 : Int32) (K : WF G h → Aw G mJ9_numberOfLeadingZeros (d + 1) 0 h Φ 0 [vI v0, vU] [] h) : Cw G mJ9_numberOfLeadingZeros (d + 1) 0 [vI v0] h Φ := Cw.of rfl K
set_option maxHeartbeats 4000000 in
theorem sJ9_numberOfLeadingZeros_33 {G : Gx} {d t : Nat} {h0 : AH} {Φ : Out → AH → Prop} (h : AH) (v0 : Int32) (v1 : Int32) (K : ((v0 < 256 → ((v0 < 16 → Aw G mJ9_numberOfLeadingZeros (d + 1) t h0 Φ 61 [vI v0, vI v1] [] h) ∧ (¬ v0 < 16 → Aw G mJ9_numberOfLeadingZeros (d + 1) t h0 Φ 61 [vI (jushr v0 4), vI (v1 + (-4))] [] h))) ∧ (¬ v0 < 256 → (((jushr v0 8) < 16 → Aw G mJ9_numberOfLeadingZeros (d + 1) t h0 Φ 61 [vI (jushr v0 8), vI (v1 + (-8))] [] h) ∧ (¬ (jushr v0 8) < 16 → Aw G mJ9_numberOfLeadingZeros (d + 1) t h0 Φ 61 [vI (jushr (jushr v0 8) 4), vI ((v1 + (-8)) + (-4))] [] h))))) : Aw G mJ9_numberOfLeadingZeros (d + 1) t h0 Φ 33 [vI v0, vI v1] [] h := by
  refine r_iload_n (pc := 33) dJ9_numberOfLeadingZeros_33 rfl ?_
  refine r_sipush (pc := 34) (x := 256) dJ9_numberOfLeadingZeros_34 rfl ?_
  refine r_icmp_lt (pc := 37) (tgt := 48) dJ9_numberOfLeadingZeros_37 rfl (fun c1 => ?_) (fun c1 => ?_)
  · have K := K.1 c1
    refine r_iload_n (pc := 48) dJ9_numberOfLeadingZeros_48 rfl ?_
    refine r_bipush (pc := 49) (x := 16) dJ9_numberOfLeadingZeros_49 rfl ?_
    refine r_icmp_lt (pc := 51) (tgt := 61) dJ9_numberOfLeadingZeros_51 rfl (fun c2 => ?_) (fun c2 => ?_)
    · have K := K.1 c2
      refine r_mask (pc := 61) [true, true] rfl ?_
      exact K
    · have K := K.2 c2
      refine r_iinc (pc := 54) (lv' := [_, _]) dJ9_numberOfLeadingZeros_54 rfl rfl (by decide) rfl ?_
      refine r_iload_n (pc := 57) dJ9_numberOfLeadingZeros_57 rfl ?_
      refine r_iconst (pc := 58) (x := 4) dJ9_numberOfLeadingZeros_58 rfl ?_
      refine r_jushr (pc := 59) dJ9_numberOfLeadingZeros_59 ?_
      refine r_istore_n (pc := 60) (lv' := [_, _]) dJ9_numberOfLeadingZeros_60 (by decide) rfl ?_
      refine r_mask (pc := 61) [true, true] rfl ?_
      exact K
  · have K := K.2 c1
    refine r_iinc (pc := 40) (lv' := [_, _]) dJ9_numberOfLeadingZeros_40 rfl rfl (by decide) rfl ?_
    refine r_iload_n (pc := 43) dJ9_numberOfLeadingZeros_43 rfl ?_
    refine r_bipush (pc := 44) (x := 8) dJ9_numberOfLeadingZeros_44 rfl ?_
    refine r_jushr (pc := 46) dJ9_numberOfLeadingZeros_46 ?_
    refine r_istore_n (pc := 47) (lv' := [_, _]) dJ9_numberOfLeadingZeros_47 (by decide) rfl ?_
    refine r_iload_n (pc := 48) dJ9_numberOfLeadingZeros_48 rfl ?_
    refine r_bipush (pc := 49) (x := 16) dJ9_numberOfLeadingZeros_49 rfl ?_
    refine r_icmp_lt (pc := 51) (tgt := 61) dJ9_numberOfLeadingZeros_51 rfl (fun c3 => ?_) (fun c3 => ?_)
    · have K := K.1 c3
      refine r_mask (pc := 61) [true, true] rfl ?_
      exact K
    · have K := K.2 c3
      refine r_iinc (pc := 54) (lv' := [_, _]) dJ9_numberOfLeadingZeros_54 rfl rfl (by decide) rfl ?_
      refine r_iload_n (pc := 57) dJ9_numberOfLeadingZeros_57 rfl ?_
      refine r_iconst (pc := 58) (x := 4) dJ9_numberOfLeadingZeros_58 rfl ?_
      refine r_jushr (pc := 59) dJ9_numberOfLeadingZeros_59 ?_
      refine r_istore_n (pc := 60) (lv' := [_, _]) dJ9_numberOfLeadingZeros_60 (by decide) rfl ?_
      refine r_mask (pc := 61) [true, true] rfl ?_
      exact K
set_option maxHeartbeats 4000000 in
theorem sJ9_numberOfLeadingZeros_61 {G : Gx} {d t : Nat} {h0 : AH} {Φ : Out → AH → Prop} (h : AH) (v0 : Int32) (v1 : Int32) (K : ((v0 < 4 → Φ (.inl (some (vI (v1 - (jushr v0 1))))) h) ∧ (¬ v0 < 4 → Φ (.inl (some (vI ((v1 + (-2)) - (jushr (jushr v0 2) 1))))) h))) : Aw G mJ9_numberOfLeadingZeros (d + 1) t h0 Φ 61 [vI v0, vI v1] [] h := by
  refine r_iload_n (pc := 61) dJ9_numberOfLeadingZeros_61 rfl ?_
  refine r_iconst (pc := 62) (x := 4) dJ9_numberOfLeadingZeros_62 rfl ?_
  refine r_icmp_lt (pc := 63) (tgt := 73) dJ9_numberOfLeadingZeros_63 rfl (fun c1 => ?_) (fun c1 => ?_)
  · have K := K.1 c1
    refine r_iload_n (pc := 73) dJ9_numberOfLeadingZeros_73 rfl ?_
    refine r_iload_n (pc := 74) dJ9_numberOfLeadingZeros_74 rfl ?_
    refine r_iconst (pc := 75) (x := 1) dJ9_numberOfLeadingZeros_75 rfl ?_
    refine r_jushr (pc := 76) dJ9_numberOfLeadingZeros_76 ?_
    refine r_isub (pc := 77) dJ9_numberOfLeadingZeros_77 ?_
    exact r_iret (pc := 78) rfl rfl dJ9_numberOfLeadingZeros_78 K
  · have K := K.2 c1
    refine r_iinc (pc := 66) (lv' := [_, _]) dJ9_numberOfLeadingZeros_66 rfl rfl (by decide) rfl ?_
    refine r_iload_n (pc := 69) dJ9_numberOfLeadingZeros_69 rfl ?_
    refine r_iconst (pc := 70) (x := 2) dJ9_numberOfLeadingZeros_70 rfl ?_
    refine r_jushr (pc := 71) dJ9_numberOfLeadingZeros_71 ?_
    refine r_istore_n (pc := 72) (lv' := [_, _]) dJ9_numberOfLeadingZeros_72 (by decide) rfl ?_
    refine r_iload_n (pc := 73) dJ9_numberOfLeadingZeros_73 rfl ?_
    refine r_iload_n (pc := 74) dJ9_numberOfLeadingZeros_74 rfl ?_
    refine r_iconst (pc := 75) (x := 1) dJ9_numberOfLeadingZeros_75 rfl ?_
    refine r_jushr (pc := 76) dJ9_numberOfLeadingZeros_76 ?_
    refine r_isub (pc := 77) dJ9_numberOfLeadingZeros_77 ?_
    exact r_iret (pc := 78) rfl rfl dJ9_numberOfLeadingZeros_78 K
theorem dJ0_max_0 : decode cJ0_max 0 = .ok (.lload_n 0, 1) := by decide +kernel
theorem dJ0_max_1 : decode cJ0_max 1 = .ok (.lload_n 2, 1) := by decide +kernel
theorem dJ0_max_2 : decode cJ0_max 2 = .ok (.lcmp, 1) := by decide +kernel
theorem dJ0_max_3 : decode cJ0_max 3 = .ok (.ifCond .lt 7, 3) := by decide +kernel
theorem dJ0_max_6 : decode cJ0_max 6 = .ok (.lload_n 0, 1) := by decide +kernel
theorem dJ0_max_7 : decode cJ0_max 7 = .ok (.goto 4, 3) := by decide +kernel
theorem dJ0_max_10 : decode cJ0_max 10 = .ok (.lload_n 2, 1) := by decide +kernel
theorem dJ0_max_11 : decode cJ0_max 11 = .ok (.lreturn, 1) := by decide +kernel
/-! java/lang/Math.max(JJ)J -/
set_option maxHeartbeats 4000000 in
theorem sJ0_max_0 {G : Gx} {d t : Nat} {h0 : AH} {Φ : Out → AH → Prop} (h : AH) (v0 : Int64) (v2 : Int64) (K : ((v0 < v2 → Φ (.inl (some (vJ v2))) h) ∧ (¬ v0 < v2 → Φ (.inl (some (vJ v0))) h))) : Aw G mJ0_max (d + 1) t h0 Φ 0 [vJ v0, vU, vJ v2, vU] [] h := by
  refine r_lload_n (pc := 0) dJ0_max_0 rfl ?_
  refine r_lload_n (pc := 1) dJ0_max_1 rfl ?_
  refine r_lcmp_lt (pc := 2) (tgt := 10) dJ0_max_2 dJ0_max_3 rfl (fun c1 => ?_) (fun c1 => ?_)
  · have K := K.1 c1
    refine r_lload_n (pc := 10) dJ0_max_10 rfl ?_
    exact r_lret (pc := 11) rfl dJ0_max_11 K
  · have K := K.2 c1
    refine r_lload_n (pc := 6) dJ0_max_6 rfl ?_
    refine r_goto (pc := 7) (tgt := 11) dJ0_max_7 rfl ?_
    exact r_lret (pc := 11) rfl dJ0_max_11 K
theorem eJ0_max {G : Gx} {d : Nat} {Φ : Out → AH → Prop} (h : AH) (v0 : Int64) (v2 : Int64) (K : WF G h → Aw G mJ0_max (d + 1) 0 h Φ 0 [vJ v0, vU, vJ v2, vU] [] h) : Cw G mJ0_max (d + 1) 0 [vJ v0, vJ v2] h Φ := Cw.of rfl K
theorem dJ0_min_0 : decode cJ0_min 0 = .ok (.lload_n 0, 1) := by decide +kernel
theorem dJ0_min_1 : decode cJ0_min 1 = .ok (.lload_n 2, 1) := by decide +kernel
theorem dJ0_min_2 : decode cJ0_min 2 = .ok (.lcmp, 1) := by decide +kernel
theorem dJ0_min_3 : decode cJ0_min 3 = .ok (.ifCond .gt 7, 3) := by decide +kernel
theorem dJ0_min_6 : decode cJ0_min 6 = .ok (.lload_n 0, 1) := by decide +kernel
theorem dJ0_min_7 : decode cJ0_min 7 = .ok (.goto 4, 3) := by decide +kernel
theorem dJ0_min_10 : decode cJ0_min 10 = .ok (.lload_n 2, 1) := by decide +kernel
theorem dJ0_min_11 : decode cJ0_min 11 = .ok (.lreturn, 1) := by decide +kernel
/-! java/lang/Math.min(JJ)J -/
set_option maxHeartbeats 4000000 in
theorem sJ0_min_0 {G : Gx} {d t : Nat} {h0 : AH} {Φ : Out → AH → Prop} (h : AH) (v0 : Int64) (v2 : Int64) (K : ((v2 < v0 → Φ (.inl (some (vJ v2))) h) ∧ (¬ v2 < v0 → Φ (.inl (some (vJ v0))) h))) : Aw G mJ0_min (d + 1) t h0 Φ 0 [vJ v0, vU, vJ v2, vU] [] h := by
  refine r_lload_n (pc := 0) dJ0_min_0 rfl ?_
  refine r_lload_n (pc := 1) dJ0_min_1 rfl ?_
  refine r_lcmp_gt (pc := 2) (tgt := 10) dJ0_min_2 dJ0_min_3 rfl (fun c1 => ?_) (fun c1 => ?_)
  · have K := K.1 c1
    refine r_lload_n (pc := 10) dJ0_min_10 rfl ?_
    exact r_lret (pc := 11) rfl dJ0_min_11 K
  · have K := K.2 c1
    refine r_lload_n (pc := 6) dJ0_min_6 rfl ?_
    refine r_goto (pc := 7) (tgt := 11) dJ0_min_7 rfl ?_
    exact r_lret (pc := 11) rfl dJ0_min_11 K
theorem eJ0_min {G : Gx} {d : Nat} {Φ : Out → AH → Prop} (h : AH) (v0 : Int64) (v2 : Int64) (K : WF G h → Aw G mJ0_min (d + 1) 0 h Φ 0 [vJ v0, vU, vJ v2, vU] [] h) : Cw G mJ0_min (d + 1) 0 [vJ v0, vJ v2] h Φ := Cw.of rfl K
theorem dJ13_clear_0 : decode cJ13_clear 0 = .ok (.aload_n 0, 1) := by decide +kernel
theorem dJ13_clear_1 : decode cJ13_clear 1 = .ok (.dup, 1) := by decide +kernel
theorem dJ13_clear_2 : decode cJ13_clear 2 = .ok (.getfield 63, 3) := by decide +kernel
theorem dJ13_clear_5 : decode cJ13_clear 5 = .ok (.iconst 1, 1) := by decide +kernel
theorem dJ13_clear_6 : decode cJ13_clear 6 = .ok (.iadd, 1) := by decide +kernel
theorem dJ13_clear_7 : decode cJ13_clear 7 = .ok (.putfield 63, 3) := by decide +kernel
theorem dJ13_clear_10 : decode cJ13_clear 10 = .ok (.aload_n 0, 1) := by decide +kernel
theorem dJ13_clear_11 : decode cJ13_clear 11 = .ok (.getfield 9, 3) := by decide +kernel
theorem dJ13_clear_14 : decode cJ13_clear 14 = .ok (.astore_n 1, 1) := by decide +kernel
theorem dJ13_clear_15 : decode cJ13_clear 15 = .ok (.aload_n 0, 1) := by decide +kernel
theorem dJ13_clear_16 : decode cJ13_clear 16 = .ok (.getfield 48, 3) := by decide +kernel
theorem dJ13_clear_19 : decode cJ13_clear 19 = .ok (.istore_n 2, 1) := by decide +kernel
theorem dJ13_clear_20 : decode cJ13_clear 20 = .ok (.aload_n 0, 1) := by decide +kernel
theorem dJ13_clear_21 : decode cJ13_clear 21 = .ok (.iconst 0, 1) := by decide +kernel
theorem dJ13_clear_22 : decode cJ13_clear 22 = .ok (.dup_x1, 1) := by decide +kernel
theorem dJ13_clear_23 : decode cJ13_clear 23 = .ok (.putfield 48, 3) := by decide +kernel
theorem dJ13_clear_26 : decode cJ13_clear 26 = .ok (.istore_n 3, 1) := by decide +kernel
theorem dJ13_clear_27 : decode cJ13_clear 27 = .ok (.iload_n 3, 1) := by decide +kernel
theorem dJ13_clear_28 : decode cJ13_clear 28 = .ok (.iload_n 2, 1) := by decide +kernel
theorem dJ13_clear_29 : decode cJ13_clear 29 = .ok (.if_icmp .ge 13, 3) := by decide +kernel
theorem dJ13_clear_32 : decode cJ13_clear 32 = .ok (.aload_n 1, 1) := by decide +kernel
theorem dJ13_clear_33 : decode cJ13_clear 33 = .ok (.iload_n 3, 1) := by decide +kernel
theorem dJ13_clear_34 : decode cJ13_clear 34 = .ok (.aconst_null, 1) := by decide +kernel
theorem dJ13_clear_35 : decode cJ13_clear 35 = .ok (.aastore, 1) := by decide +kernel
theorem dJ13_clear_36 : decode cJ13_clear 36 = .ok (.iinc 3 1, 3) := by decide +kernel
theorem dJ13_clear_39 : decode cJ13_clear 39 = .ok (.goto (-12), 3) := by decide +kernel
theorem dJ13_clear_42 : decode cJ13_clear 42 = .ok (.return_, 1) := by decide +kernel
/-! java/util/ArrayList.clear()V -/
set_option maxHeartbeats 4000000 in
theorem sJ13_clear_0 {G : Gx} {d t : Nat} {h0 : AH} {Φ : Out → AH → Prop} (h : AH) (v0 : Nat) (K : h.kd v0 = 29 ∧ ∀ h2 : AH, h2 = h.pi 29000 v0 ((h.i 29000 v0) + 1) → ∀ r4 : Nat, r4 = (h2.r 29001 v0) → ∀ h5 : AH, h5 = h2.pi 29002 v0 0 → Aw G mJ13_clear (d + 1) t h0 Φ 27 [vU, vR r4, vI (h2.i 29002 v0), vI 0] [] h5) : Aw G mJ13_clear (d + 1) t h0 Φ 0 [vR v0, vU, vU, vU] [] h := by
  refine r_aload_n (pc := 0) dJ13_clear_0 rfl ?_
  refine r_dup (pc := 1) rfl dJ13_clear_1 ?_
  obtain ⟨hk1, K⟩ := K
  refine r_geti' (pc := 2) (T := TJ13) 29 0 rfl hk1 (Or.inr (Or.inr ⟨_, q963, q964⟩)) dJ13_clear_2 kc29 g29000 ?_
  refine r_iconst (pc := 5) (x := 1) dJ13_clear_5 rfl ?_
  refine r_iadd (pc := 6) dJ13_clear_6 ?_
  refine r_puti (pc := 7) (T := TJ13) (key := 29000) 29 0 hk1 (Or.inr (Or.inr ⟨_, q963, q964⟩)) dJ13_clear_7 kc29 rfl (Or.inl rfl) (Or.inl (em rfl)) ?_
  refine r_nameH (fun h2 eh2 => ?_)
  have K := K h2 eh2
  refine r_aload_n (pc := 10) dJ13_clear_10 rfl ?_
  have hk3 := kd_pi eh2 hk1
  have K := K _ rfl
  refine r_getr' (pc := 11) (T := TJ13) 29 1 rfl hk3 (Or.inl q960) dJ13_clear_11 kc29 g29001 ?_
  refine r_astore_n (pc := 14) (lv' := [_, _, _, _]) dJ13_clear_14 (by decide) rfl ?_
  refine r_aload_n (pc := 15) dJ13_clear_15 rfl ?_
  refine r_geti' (pc := 16) (T := TJ13) 29 2 rfl hk3 (Or.inl q961) dJ13_clear_16 kc29 g29002 ?_
  refine r_istore_n (pc := 19) (lv' := [_, _, _, _]) dJ13_clear_19 (by decide) rfl ?_
  refine r_aload_n (pc := 20) dJ13_clear_20 rfl ?_
  refine r_iconst (pc := 21) (x := 0) dJ13_clear_21 rfl ?_
  refine r_dup_x1 (pc := 22) rfl rfl dJ13_clear_22 ?_
  refine r_puti (pc := 23) (T := TJ13) (key := 29002) 29 2 hk3 (Or.inl q961) dJ13_clear_23 kc29 rfl (Or.inl rfl) (Or.inl (em rfl)) ?_
  refine r_nameH (fun h5 eh5 => ?_)
  have K := K h5 eh5
  refine r_istore_n (pc := 26) (lv' := [_, _, _, _]) dJ13_clear_26 (by decide) rfl ?_
  refine r_mask (pc := 27) [false, true, true, true] rfl ?_
  exact K
theorem eJ13_clear {G : Gx} {d : Nat} {Φ : Out → AH → Prop} (h : AH) (v0 : Nat) (K : WF G h → Aw G mJ13_clear (d + 1) 0 h Φ 0 [vR v0, vU, vU, vU] [] h) : Cw G mJ13_clear (d + 1) 0 [vR v0] h Φ := Cw.of rfl K
set_option maxHeartbeats 4000000 in
theorem sJ13_clear_27 {G : Gx} {d t : Nat} {h0 : AH} {Φ : Out → AH → Prop} (h : AH) (v1 : Nat) (v2 : Int32) (v3 : Int32) (K : ((v2 ≤ v3 → Φ (.inl none) h) ∧ (¬ v2 ≤ v3 → h.kd v1 = 113 ∧ vp_in v3 (h.ar v1).length ∧ ∀ h4 : AH, h4 = h.wr v1 ((h.ar v1).set (v3.toNatClampNeg) 0) → Aw G mJ13_clear (d + 1) t h0 Φ 27 [vU, vR v1, vI v2, vI (v3 + 1)] [] h4))) : Aw G mJ13_clear (d + 1) t h0 Φ 27 [vU, vR v1, vI v2, vI v3] [] h := by
  refine r_iload_n (pc := 27) dJ13_clear_27 rfl ?_
  refine r_iload_n (pc := 28) dJ13_clear_28 rfl ?_
  refine r_icmp_ge (pc := 29) (tgt := 42) dJ13_clear_29 rfl (fun c1 => ?_) (fun c1 => ?_)
  · have K := K.1 c1
    exact r_vret (pc := 42) rfl dJ13_clear_42 K
  · have K := K.2 c1
    refine r_aload_n (pc := 32) dJ13_clear_32 rfl ?_
    refine r_iload_n (pc := 33) dJ13_clear_33 rfl ?_
    refine r_null (pc := 34) dJ13_clear_34 ?_
    obtain ⟨hk2, K⟩ := K
    obtain ⟨hi3, K⟩ := K
    refine r_aastN (pc := 35) hk2 rfl hi3 (Or.inl (em rfl)) dJ13_clear_35 ?_
    refine r_nameH (fun h4 eh4 => ?_)
    have K := K h4 eh4
    refine r_iinc (pc := 36) (lv' := [_, _, _, _]) dJ13_clear_36 rfl rfl (by decide) rfl ?_
    refine r_goto (pc := 39) (tgt := 27) dJ13_clear_39 rfl ?_
    refine r_mask (pc := 27) [false, true, true, true] rfl ?_
    exact K
theorem dJ13_elementData_0 : decode cJ13_elementData 0 = .ok (.aload_n 0, 1) := by decide +kernel
theorem dJ13_elementData_1 : decode cJ13_elementData 1 = .ok (.getfield 9, 3) := by decide +kernel
theorem dJ13_elementData_4 : decode cJ13_elementData 4 = .ok (.iload_n 1, 1) := by decide +kernel
theorem dJ13_elementData_5 : decode cJ13_elementData 5 = .ok (.aaload, 1) := by decide +kernel
theorem dJ13_elementData_6 : decode cJ13_elementData 6 = .ok (.areturn, 1) := by decide +kernel
/-! java/util/ArrayList.elementData(I)Ljava/lang/Object; -/
set_option maxHeartbeats 4000000 in
theorem sJ13_elementData_0 {G : Gx} {d t : Nat} {h0 : AH} {Φ : Out → AH → Prop} (h : AH) (v0 : Nat) (v1 : Int32) (K : h.kd v0 = 29 ∧ ∀ r2 : Nat, r2 = (h.r 29001 v0) → h.kd r2 = 113 ∧ vp_in v1 (h.ar r2).length ∧ ∀ r5 : Nat, r5 = ((h.ar r2).getD (v1.toNatClampNeg) 0) → Φ (.inl (some (vR r5))) h) : Aw G mJ13_elementData (d + 1) t h0 Φ 0 [vR v0, vI v1] [] h := by
  refine r_aload_n (pc := 0) dJ13_elementData_0 rfl ?_
  obtain ⟨hk1, K⟩ := K
  have K := K _ rfl
  refine r_getr' (pc := 1) (T := TJ13) 29 1 rfl hk1 (Or.inl q960) dJ13_elementData_1 kc29 g29001 ?_
  refine r_iload_n (pc := 4) dJ13_elementData_4 rfl ?_
  obtain ⟨hk3, K⟩ := K
  obtain ⟨hi4, K⟩ := K
  have K := K _ rfl
  refine r_aaload (pc := 5) (le_of_eq_r hk3 (by decide)) hi4 dJ13_elementData_5 ?_
  exact r_aret (pc := 6) rfl rfl dJ13_elementData_6 K
theorem eJ13_elementData {G : Gx} {d : Nat} {Φ : Out → AH → Prop} (h : AH) (v0 : Nat) (v1 : Int32) (K : WF G h → Aw G mJ13_elementData (d + 1) 0 h Φ 0 [vR v0, vI v1] [] h) : Cw G mJ13_elementData (d + 1) 0 [vR v0, vI v1] h Φ := Cw.of rfl K
theorem dJ3_checkIndex_0 : decode cJ3_checkIndex 0 = .ok (.iload_n 0, 1) := by decide +kernel
theorem dJ3_checkIndex_1 : decode cJ3_checkIndex 1 = .ok (.ifCond .lt 8, 3) := by decide +kernel
theorem dJ3_checkIndex_4 : decode cJ3_checkIndex 4 = .ok (.iload_n 0, 1) := by decide +kernel
theorem dJ3_checkIndex_5 : decode cJ3_checkIndex 5 = .ok (.iload_n 1, 1) := by decide +kernel
theorem dJ3_checkIndex_6 : decode cJ3_checkIndex 6 = .ok (.if_icmp .lt 10, 3) := by decide +kernel
theorem dJ3_checkIndex_9 : decode cJ3_checkIndex 9 = .ok (.aload_n 2, 1) := by decide +kernel
theorem dJ3_checkIndex_10 : decode cJ3_checkIndex 10 = .ok (.iload_n 0, 1) := by decide +kernel
theorem dJ3_checkIndex_11 : decode cJ3_checkIndex 11 = .ok (.iload_n 1, 1) := by decide +kernel
theorem dJ3_checkIndex_12 : decode cJ3_checkIndex 12 = .ok (.invokestatic 95, 3) := by decide +kernel
theorem dJ3_checkIndex_15 : decode cJ3_checkIndex 15 = .ok (.athrow, 1) := by decide +kernel
theorem dJ3_checkIndex_16 : decode cJ3_checkIndex 16 = .ok (.iload_n 0, 1) := by decide +kernel
theorem dJ3_checkIndex_17 : decode cJ3_checkIndex 17 = .ok (.ireturn, 1) := by decide +kernel
/-! jdk/internal/util/Preconditions.checkIndex(IILjava/util/function/BiFunction;)I -/
set_option maxHeartbeats 4000000 in
theorem sJ3_checkIndex_0 {G : Gx} {d t : Nat} {h0 : AH} {Φ : Out → AH → Prop} (h : AH) (v0 : Int32) (v1 : Int32) (v2 : Nat) (K : ((v0 < 0 → False) ∧ (¬ v0 < 0 → ((v0 < v1 → Φ (.inl (some (vI v0))) h) ∧ (¬ v0 < v1 → False))))) : Aw G mJ3_checkIndex (d + 1) t h0 Φ 0 [vI v0, vI v1, vR v2] [] h := by
  refine r_iload_n (pc := 0) dJ3_checkIndex_0 rfl ?_
  refine r_if_lt (pc := 1) (tgt := 9) dJ3_checkIndex_1 rfl (fun c1 => ?_) (fun c1 => ?_)
  · have K := K.1 c1
    refine r_aload_n (pc := 9) dJ3_checkIndex_9 rfl ?_
    refine r_iload_n (pc := 10) dJ3_checkIndex_10 rfl ?_
    refine r_iload_n (pc := 11) dJ3_checkIndex_11 rfl ?_
    exact K.elim
  · have K := K.2 c1
    refine r_iload_n (pc := 4) dJ3_checkIndex_4 rfl ?_
    refine r_iload_n (pc := 5) dJ3_checkIndex_5 rfl ?_
    refine r_icmp_lt (pc := 6) (tgt := 16) dJ3_checkIndex_6 rfl (fun c2 => ?_) (fun c2 => ?_)
    · have K := K.1 c2
      refine r_iload_n (pc := 16) dJ3_checkIndex_16 rfl ?_
      exact r_iret (pc := 17) rfl rfl dJ3_checkIndex_17 K
    · have K := K.2 c2
      refine r_aload_n (pc := 9) dJ3_checkIndex_9 rfl ?_
      refine r_iload_n (pc := 10) dJ3_checkIndex_10 rfl ?_
      refine r_iload_n (pc := 11) dJ3_checkIndex_11 rfl ?_
      exact K.elim
theorem eJ3_checkIndex {G : Gx} {d : Nat} {Φ : Out → AH → Prop} (h : AH) (v0 : Int32) (v1 : Int32) (v2 : Nat) (K : WF G h → Aw G mJ3_checkIndex (d + 1) 0 h Φ 0 [vI v0, vI v1, vR v2] [] h) : Cw G mJ3_checkIndex (d + 1) 0 [vI v0, vI v1, vR v2] h Φ := Cw.of rfl K
theorem dJ16_checkIndex_0 : decode cJ16_checkIndex 0 = .ok (.iload_n 0, 1) := by decide +kernel
theorem dJ16_checkIndex_1 : decode cJ16_checkIndex 1 = .ok (.iload_n 1, 1) := by decide +kernel
theorem dJ16_checkIndex_2 : decode cJ16_checkIndex 2 = .ok (.aconst_null, 1) := by decide +kernel
theorem dJ16_checkIndex_3 : decode cJ16_checkIndex 3 = .ok (.invokestatic 105, 3) := by decide +kernel
theorem dJ16_checkIndex_6 : decode cJ16_checkIndex 6 = .ok (.ireturn, 1) := by decide +kernel
/-! java/util/Objects.checkIndex(II)I -/
set_option maxHeartbeats 4000000 in
theorem sJ16_checkIndex_0 {G : Gx} {d t : Nat} {h0 : AH} {Φ : Out → AH → Prop} (h : AH) (v0 : Int32) (v1 : Int32) (K : Cw G mJ3_checkIndex d 0 [vI v0, vI v1, vR 0] h (kI (fun x1 h2 => Φ (.inl (some (vI x1))) h2) (fun x h => Φ (.inr x) h))) : Aw G mJ16_checkIndex (d + 1) t h0 Φ 0 [vI v0, vI v1] [] h := by
  refine r_iload_n (pc := 0) dJ16_checkIndex_0 rfl ?_
  refine r_iload_n (pc := 1) dJ16_checkIndex_1 rfl ?_
  refine r_null (pc := 2) dJ16_checkIndex_2 ?_
  refine r_callS_I (pc := 3) (Y := mJ3_checkIndex) (vs := [_, _, _]) (st := []) q1724 q346 q158 dJ16_checkIndex_3 rfl cd_J3_checkIndex (cOk_of pf_J3_checkIndex rfl) rfl fp_J16_checkIndex_J3_checkIndex K (fun x1 h2 eh2 wh2 K => ?_) (fun x h1 _ _ e => Tw.out rfl e)
  exact r_iret (pc := 6) rfl rfl dJ16_checkIndex_6 K
theorem eJ16_checkIndex {G : Gx} {d : Nat} {Φ : Out → AH → Prop} (h : AH) (v0 : Int32) (v1 : Int32) (K : WF G h → Aw G mJ16_checkIndex (d + 1) 0 h Φ 0 [vI v0, vI v1] [] h) : Cw G mJ16_checkIndex (d + 1) 0 [vI v0, vI v1] h Φ := Cw.of rfl K
theorem dJ13_get_0 : decode cJ13_get 0 = .ok (.iload_n 1, 1) := by decide +kernel
theorem dJ13_get_1 : decode cJ13_get 1 = .ok (.aload_n 0, 1) := by decide +kernel
theorem dJ13_get_2 : decode cJ13_get 2 = .ok (.getfield 48, 3) := by decide +kernel
theorem dJ13_get_5 : decode cJ13_get 5 = .ok (.invokestatic 118, 3) := by decide +kernel
theorem dJ13_get_8 : decode cJ13_get 8 = .ok (.pop, 1) := by decide +kernel
theorem dJ13_get_9 : decode cJ13_get 9 = .ok (.aload_n 0, 1) := by decide +kernel
theorem dJ13_get_10 : decode cJ13_get 10 = .ok (.iload_n 1, 1) := by decide +kernel
theorem dJ13_get_11 : decode cJ13_get 11 = .ok (.invokevirtual 123, 3) := by decide +kernel
theorem dJ13_get_14 : decode cJ13_get 14 = .ok (.areturn, 1) := by decide +kernel
/-! java/util/ArrayList.get(I)Ljava/lang/Object; -/
set_option maxHeartbeats 4000000 in
theorem sJ13_get_0 {G : Gx} {d t : Nat} {h0 : AH} {Φ : Out → AH → Prop} (h : AH) (v0 : Nat) (v1 : Int32) (K : h.kd v0 = 29 ∧ Cw G mJ16_checkIndex d 0 [vI v1, vI (h.i 29002 v0)] h (kI (fun x2 h3 => Cw G mJ13_elementData d 0 [vR v0, vI v1] h3 (kR (fun x4 h5 => Φ (.inl (some (vR x4))) h5) (fun x h => Φ (.inr x) h))) (fun x h => Φ (.inr x) h))) : Aw G mJ13_get (d + 1) t h0 Φ 0 [vR v0, vI v1] [] h := by
  refine r_iload_n (pc := 0) dJ13_get_0 rfl ?_
  refine r_aload_n (pc := 1) dJ13_get_1 rfl ?_
  obtain ⟨hk1, K⟩ := K
  refine r_geti' (pc := 2) (T := TJ13) 29 2 rfl hk1 (Or.inl q961) dJ13_get_2 kc29 g29002 ?_
  refine r_callS_I (pc := 5) (Y := mJ16_checkIndex) (vs := [_, _]) (st := []) q1721 q1722 q191 dJ13_get_5 rfl cd_J16_checkIndex (cOk_of pf_J16_checkIndex rfl) rfl fp_J13_get_J16_checkIndex K (fun x2 h3 eh3 wh3 K => ?_) (fun x h1 _ _ e => Tw.out rfl e)
  refine r_pop (pc := 8) rfl dJ13_get_8 ?_
  refine r_aload_n (pc := 9) dJ13_get_9 rfl ?_
  refine r_iload_n (pc := 10) dJ13_get_10 rfl ?_
  have hk6 := kd_ext eh3 hk1 (nz rfl)
  refine r_callV_R (pc := 11) (Y := mJ13_elementData) (vs := [_]) (st := []) hk6 rfl kc29 q1725 q1726 q1727 dJ13_get_11 rfl cd_J13_elementData (cOk_of pf_J13_elementData rfl) rfl fp_J13_get_J13_elementData K (fun x4 h5 eh5 wh5 K => ?_) (fun x h1 _ _ e => Tw.out rfl e)
  exact r_aret (pc := 14) rfl rfl dJ13_get_14 K
theorem eJ13_get {G : Gx} {d : Nat} {Φ : Out → AH → Prop} (h : AH) (v0 : Nat) (v1 : Int32) (K : WF G h → Aw G mJ13_get (d + 1) 0 h Φ 0 [vR v0, vI v1] [] h) : Cw G mJ13_get (d + 1) 0 [vR v0, vI v1] h Φ := Cw.of rfl K
theorem dJ13_size_0 : decode cJ13_size 0 = .ok (.aload_n 0, 1) := by decide +kernel
theorem dJ13_size_1 : decode cJ13_size 1 = .ok (.getfield 48, 3) := by decide +kernel
theorem dJ13_size_4 : decode cJ13_size 4 = .ok (.ireturn, 1) := by decide +kernel
/-! java/util/ArrayList.size()I -/
set_option maxHeartbeats 4000000 in
theorem sJ13_size_0 {G : Gx} {d t : Nat} {h0 : AH} {Φ : Out → AH → Prop} (h : AH) (v0 : Nat) (K : h.kd v0 = 29 ∧ Φ (.inl (some (vI (h.i 29002 v0)))) h) : Aw G mJ13_size (d + 1) t h0 Φ 0 [vR v0] [] h := by
  refine r_aload_n (pc := 0) dJ13_size_0 rfl ?_
  obtain ⟨hk1, K⟩ := K
  refine r_geti' (pc := 1) (T := TJ13) 29 2 rfl hk1 (Or.inl q961) dJ13_size_1 kc29 g29002 ?_
  exact r_iret (pc := 4) rfl rfl dJ13_size_4 K
theorem eJ13_size {G : Gx} {d : Nat} {Φ : Out → AH → Prop} (h : AH) (v0 : Nat) (K : WF G h → Aw G mJ13_size (d + 1) 0 h Φ 0 [vR v0] [] h) : Cw G mJ13_size (d + 1) 0 [vR v0] h Φ := Cw.of rfl K
theorem dJ0_abs_0 : decode cJ0_abs 0 = .ok (.lload_n 0, 1) := by decide +kernel
theorem dJ0_abs_1 : decode cJ0_abs 1 = .ok (.lconst 0, 1) := by decide +kernel
theorem dJ0_abs_2 : decode cJ0_abs 2 = .ok (.lcmp, 1) := by decide +kernel
theorem dJ0_abs_3 : decode cJ0_abs 3 = .ok (.ifCond .ge 8, 3) := by decide +kernel
theorem dJ0_abs_6 : decode cJ0_abs 6 = .ok (.lload_n 0, 1) := by decide +kernel
theorem dJ0_abs_7 : decode cJ0_abs 7 = .ok (.lneg, 1) := by decide +kernel
theorem dJ0_abs_8 : decode cJ0_abs 8 = .ok (.goto 4, 3) := by decide +kernel
theorem dJ0_abs_11 : decode cJ0_abs 11 = .ok (.lload_n 0, 1) := by decide +kernel
theorem dJ0_abs_12 : decode cJ0_abs 12 = .ok (.lreturn, 1) := by decide +kernel
/-! java/lang/Math.abs(J)J -/
set_option maxHeartbeats 4000000 in
theorem sJ0_abs_0 {G : Gx} {d t : Nat} {h0 : AH} {Φ : Out → AH → Prop} (h : AH) (v0 : Int64) (K : ((0 ≤ v0 → Φ (.inl (some (vJ v0))) h) ∧ (¬ 0 ≤ v0 → Φ (.inl (some (vJ (-v0)))) h))) : Aw G mJ0_abs (d + 1) t h0 Φ 0 [vJ v0, vU] [] h := by
  refine r_lload_n (pc := 0) dJ0_abs_0 rfl ?_
  refine r_lconst (pc := 1) (a := 0) dJ0_abs_1 rfl ?_
  refine r_lcmp_ge (pc := 2) (tgt := 11) dJ0_abs_2 dJ0_abs_3 rfl (fun c1 => ?_) (fun c1 => ?_)
  · have K := K.1 c1
    refine r_lload_n (pc := 11) dJ0_abs_11 rfl ?_
    exact r_lret (pc := 12) rfl dJ0_abs_12 K
  · have K := K.2 c1
    refine r_lload_n (pc := 6) dJ0_abs_6 rfl ?_
    refine r_lneg (pc := 7) dJ0_abs_7 ?_
    refine r_goto (pc := 8) (tgt := 12) dJ0_abs_8 rfl ?_
    exact r_lret (pc := 12) rfl dJ0_abs_12 K
theorem eJ0_abs {G : Gx} {d : Nat} {Φ : Out → AH → Prop} (h : AH) (v0 : Int64) (K : WF G h → Aw G mJ0_abs (d + 1) 0 h Φ 0 [vJ v0, vU] [] h) : Cw G mJ0_abs (d + 1) 0 [vJ v0] h Φ := Cw.of rfl K
theorem dJ0_max_2_0 : decode cJ0_max_2 0 = .ok (.iload_n 0, 1) := by decide +kernel
theorem dJ0_max_2_1 : decode cJ0_max_2 1 = .ok (.iload_n 1, 1) := by decide +kernel
theorem dJ0_max_2_2 : decode cJ0_max_2 2 = .ok (.if_icmp .lt 7, 3) := by decide +kernel
theorem dJ0_max_2_5 : decode cJ0_max_2 5 = .ok (.iload_n 0, 1) := by decide +kernel
theorem dJ0_max_2_6 : decode cJ0_max_2 6 = .ok (.goto 4, 3) := by decide +kernel
theorem dJ0_max_2_9 : decode cJ0_max_2 9 = .ok (.iload_n 1, 1) := by decide +kernel
theorem dJ0_max_2_10 : decode cJ0_max_2 10 = .ok (.ireturn, 1) := by decide +kernel
/-! java/lang/Math.max(II)I -/
set_option maxHeartbeats 4000000 in
theorem sJ0_max_2_0 {G : Gx} {d t : Nat} {h0 : AH} {Φ : Out → AH → Prop} (h : AH) (v0 : Int32) (v1 : Int32) (K : ((v0 < v1 → Φ (.inl (some (vI v1))) h) ∧ (¬ v0 < v1 → Φ (.inl (some (vI v0))) h))) : Aw G mJ0_max_2 (d + 1) t h0 Φ 0 [vI v0, vI v1] [] h := by
  refine r_iload_n (pc := 0) dJ0_max_2_0 rfl ?_
  refine r_iload_n (pc := 1) dJ0_max_2_1 rfl ?_
  refine r_icmp_lt (pc := 2) (tgt := 9) dJ0_max_2_2 rfl (fun c1 => ?_) (fun c1 => ?_)
  · have K := K.1 c1
    refine r_iload_n (pc := 9) dJ0_max_2_9 rfl ?_
    exact r_iret (pc := 10) rfl rfl dJ0_max_2_10 K
  · have K := K.2 c1
    refine r_iload_n (pc := 5) dJ0_max_2_5 rfl ?_
    refine r_goto (pc := 6) (tgt := 10) dJ0_max_2_6 rfl ?_
    exact r_iret (pc := 10) rfl rfl dJ0_max_2_10 K
theorem eJ0_max_2 {G : Gx} {d : Nat} {Φ : Out → AH → Prop} (h : AH) (v0 : Int32) (v1 : Int32) (K : WF G h → Aw G mJ0_max_2 (d + 1) 0 h Φ 0 [vI v0, vI v1] [] h) : Cw G mJ0_max_2 (d + 1) 0 [vI v0, vI v1] h Φ := Cw.of rfl K
theorem dJ14_hugeLength_0 : decode cJ14_hugeLength 0 = .ok (.iload_n 0, 1) := by decide +kernel
theorem dJ14_hugeLength_1 : decode cJ14_hugeLength 1 = .ok (.iload_n 1, 1) := by decide +kernel
theorem dJ14_hugeLength_2 : decode cJ14_hugeLength 2 = .ok (.iadd, 1) := by decide +kernel
theorem dJ14_hugeLength_3 : decode cJ14_hugeLength 3 = .ok (.istore_n 2, 1) := by decide +kernel
theorem dJ14_hugeLength_4 : decode cJ14_hugeLength 4 = .ok (.iload_n 2, 1) := by decide +kernel
theorem dJ14_hugeLength_5 : decode cJ14_hugeLength 5 = .ok (.ifCond .ge 44, 3) := by decide +kernel
theorem dJ14_hugeLength_8 : decode cJ14_hugeLength 8 = .ok (.new 204, 3) := by decide +kernel
theorem dJ14_hugeLength_11 : decode cJ14_hugeLength 11 = .ok (.dup, 1) := by decide +kernel
theorem dJ14_hugeLength_12 : decode cJ14_hugeLength 12 = .ok (.new 89, 3) := by decide +kernel
theorem dJ14_hugeLength_15 : decode cJ14_hugeLength 15 = .ok (.dup, 1) := by decide +kernel
theorem dJ14_hugeLength_16 : decode cJ14_hugeLength 16 = .ok (.invokespecial 91, 3) := by decide +kernel
theorem dJ14_hugeLength_19 : decode cJ14_hugeLength 19 = .ok (.ldc 206, 2) := by decide +kernel
theorem dJ14_hugeLength_21 : decode cJ14_hugeLength 21 = .ok (.invokevirtual 94, 3) := by decide +kernel
theorem dJ14_hugeLength_24 : decode cJ14_hugeLength 24 = .ok (.iload_n 0, 1) := by decide +kernel
theorem dJ14_hugeLength_25 : decode cJ14_hugeLength 25 = .ok (.invokevirtual 98, 3) := by decide +kernel
theorem dJ14_hugeLength_28 : decode cJ14_hugeLength 28 = .ok (.ldc 208, 2) := by decide +kernel
theorem dJ14_hugeLength_30 : decode cJ14_hugeLength 30 = .ok (.invokevirtual 94, 3) := by decide +kernel
theorem dJ14_hugeLength_33 : decode cJ14_hugeLength 33 = .ok (.iload_n 1, 1) := by decide +kernel
theorem dJ14_hugeLength_34 : decode cJ14_hugeLength 34 = .ok (.invokevirtual 98, 3) := by decide +kernel
theorem dJ14_hugeLength_37 : decode cJ14_hugeLength 37 = .ok (.ldc 210, 2) := by decide +kernel
theorem dJ14_hugeLength_39 : decode cJ14_hugeLength 39 = .ok (.invokevirtual 94, 3) := by decide +kernel
theorem dJ14_hugeLength_42 : decode cJ14_hugeLength 42 = .ok (.invokevirtual 101, 3) := by decide +kernel
theorem dJ14_hugeLength_45 : decode cJ14_hugeLength 45 = .ok (.invokespecial 212, 3) := by decide +kernel
theorem dJ14_hugeLength_48 : decode cJ14_hugeLength 48 = .ok (.athrow, 1) := by decide +kernel
theorem dJ14_hugeLength_49 : decode cJ14_hugeLength 49 = .ok (.iload_n 2, 1) := by decide +kernel
theorem dJ14_hugeLength_50 : decode cJ14_hugeLength 50 = .ok (.ldc 200, 2) := by decide +kernel
theorem dJ14_hugeLength_52 : decode cJ14_hugeLength 52 = .ok (.if_icmp .gt 6, 3) := by decide +kernel
theorem dJ14_hugeLength_55 : decode cJ14_hugeLength 55 = .ok (.ldc 200, 2) := by decide +kernel
theorem dJ14_hugeLength_57 : decode cJ14_hugeLength 57 = .ok (.ireturn, 1) := by decide +kernel
theorem dJ14_hugeLength_58 : decode cJ14_hugeLength 58 = .ok (.iload_n 2, 1) := by decide +kernel
theorem dJ14_hugeLength_59 : decode cJ14_hugeLength 59 = .ok (.ireturn, 1) := by decide +kernel
/-! jdk/internal/util/ArraysSupport.hugeLength(II)I -/
set_option maxHeartbeats 4000000 in
theorem sJ14_hugeLength_0 {G : Gx} {d t : Nat} {h0 : AH} {Φ : Out → AH → Prop} (h : AH) (v0 : Int32) (v1 : Int32) (K : ((0 ≤ (v0 + v1) → ((2147483639 < (v0 + v1) → Φ (.inl (some (vI (v0 + v1)))) h) ∧ (¬ 2147483639 < (v0 + v1) → Φ (.inl (some (vI 2147483639))) h))) ∧ (¬ 0 ≤ (v0 + v1) → False))) : Aw G mJ14_hugeLength (d + 1) t h0 Φ 0 [vI v0, vI v1, vU] [] h := by
  refine r_iload_n (pc := 0) dJ14_hugeLength_0 rfl ?_
  refine r_iload_n (pc := 1) dJ14_hugeLength_1 rfl ?_
  refine r_iadd (pc := 2) dJ14_hugeLength_2 ?_
  refine r_istore_n (pc := 3) (lv' := [_, _, _]) dJ14_hugeLength_3 (by decide) rfl ?_
  refine r_iload_n (pc := 4) dJ14_hugeLength_4 rfl ?_
  refine r_if_ge (pc := 5) (tgt := 49) dJ14_hugeLength_5 rfl (fun c1 => ?_) (fun c1 => ?_)
  · have K := K.1 c1
    refine r_iload_n (pc := 49) dJ14_hugeLength_49 rfl ?_
    refine r_ldc (pc := 50) dJ14_hugeLength_50 q1609 ?_
    refine r_icmp_gt (pc := 52) (tgt := 58) dJ14_hugeLength_52 rfl (fun c2 => ?_) (fun c2 => ?_)
    · have K := K.1 c2
      refine r_iload_n (pc := 58) dJ14_hugeLength_58 rfl ?_
      exact r_iret (pc := 59) rfl rfl dJ14_hugeLength_59 K
    · have K := K.2 c2
      refine r_ldc (pc := 55) dJ14_hugeLength_55 q1609 ?_
      exact r_iret (pc := 57) rfl rfl dJ14_hugeLength_57 K
  · have K := K.2 c1
    exact K.elim
theorem eJ14_hugeLength {G : Gx} {d : Nat} {Φ : Out → AH → Prop} (h : AH) (v0 : Int32) (v1 : Int32) (K : WF G h → Aw G mJ14_hugeLength (d + 1) 0 h Φ 0 [vI v0, vI v1, vU] [] h) : Cw G mJ14_hugeLength (d + 1) 0 [vI v0, vI v1] h Φ := Cw.of rfl K
theorem dJ14_newLength_0 : decode cJ14_newLength 0 = .ok (.iload_n 0, 1) := by decide +kernel
theorem dJ14_newLength_1 : decode cJ14_newLength 1 = .ok (.iload_n 1, 1) := by decide +kernel
theorem dJ14_newLength_2 : decode cJ14_newLength 2 = .ok (.iload_n 2, 1) := by decide +kernel
theorem dJ14_newLength_3 : decode cJ14_newLength 3 = .ok (.invokestatic 194, 3) := by decide +kernel
theorem dJ14_newLength_6 : decode cJ14_newLength 6 = .ok (.iadd, 1) := by decide +kernel
theorem dJ14_newLength_7 : decode cJ14_newLength 7 = .ok (.istore_n 3, 1) := by decide +kernel
theorem dJ14_newLength_8 : decode cJ14_newLength 8 = .ok (.iconst 0, 1) := by decide +kernel
theorem dJ14_newLength_9 : decode cJ14_newLength 9 = .ok (.iload_n 3, 1) := by decide +kernel
theorem dJ14_newLength_10 : decode cJ14_newLength 10 = .ok (.if_icmp .ge 11, 3) := by decide +kernel
theorem dJ14_newLength_13 : decode cJ14_newLength 13 = .ok (.iload_n 3, 1) := by decide +kernel
theorem dJ14_newLength_14 : decode cJ14_newLength 14 = .ok (.ldc 200, 2) := by decide +kernel
theorem dJ14_newLength_16 : decode cJ14_newLength 16 = .ok (.if_icmp .gt 5, 3) := by decide +kernel
theorem dJ14_newLength_19 : decode cJ14_newLength 19 = .ok (.iload_n 3, 1) := by decide +kernel
theorem dJ14_newLength_20 : decode cJ14_newLength 20 = .ok (.ireturn, 1) := by decide +kernel
theorem dJ14_newLength_21 : decode cJ14_newLength 21 = .ok (.iload_n 0, 1) := by decide +kernel
theorem dJ14_newLength_22 : decode cJ14_newLength 22 = .ok (.iload_n 1, 1) := by decide +kernel
theorem dJ14_newLength_23 : decode cJ14_newLength 23 = .ok (.invokestatic 201, 3) := by decide +kernel
theorem dJ14_newLength_26 : decode cJ14_newLength 26 = .ok (.ireturn, 1) := by decide +kernel
/-! jdk/internal/util/ArraysSupport.newLength(III)I -/
set_option maxHeartbeats 4000000 in
theorem sJ14_newLength_0 {G : Gx} {d t : Nat} {h0 : AH} {Φ : Out → AH → Prop} (h : AH) (v0 : Int32) (v1 : Int32) (v2 : Int32) (K : Cw G mJ0_max_2 d 0 [vI v1, vI v2] h (kI (fun x1 h2 => (((v0 + x1) ≤ 0 → Cw G mJ14_hugeLength d 0 [vI v0, vI v1] h2 (kI (fun x4 h5 => Φ (.inl (some (vI x4))) h5) (fun x h => Φ (.inr x) h))) ∧ (¬ (v0 + x1) ≤ 0 → ((2147483639 < (v0 + x1) → Cw G mJ14_hugeLength d 0 [vI v0, vI v1] h2 (kI (fun x7 h8 => Φ (.inl (some (vI x7))) h8) (fun x h => Φ (.inr x) h))) ∧ (¬ 2147483639 < (v0 + x1) → Φ (.inl (some (vI (v0 + x1)))) h2))))) (fun x h => Φ (.inr x) h))) : Aw G mJ14_newLength (d + 1) t h0 Φ 0 [vI v0, vI v1, vI v2, vU] [] h := by
  refine r_iload_n (pc := 0) dJ14_newLength_0 rfl ?_
  refine r_iload_n (pc := 1) dJ14_newLength_1 rfl ?_
  refine r_iload_n (pc := 2) dJ14_newLength_2 rfl ?_
  refine r_callS_I (pc := 3) (Y := mJ0_max_2) (vs := [_, _]) (st := [_]) q1606 q1607 q152 dJ14_newLength_3 rfl cd_J0_max_2 (cOk_of pf_J0_max_2 rfl) rfl fp_J14_newLength_J0_max_2 K (fun x1 h2 eh2 wh2 K => ?_) (fun x h1 _ _ e => Tw.out rfl e)
  refine r_iadd (pc := 6) dJ14_newLength_6 ?_
  refine r_istore_n (pc := 7) (lv' := [_, _, _, _]) dJ14_newLength_7 (by decide) rfl ?_
  refine r_iconst (pc := 8) (x := 0) dJ14_newLength_8 rfl ?_
  refine r_iload_n (pc := 9) dJ14_newLength_9 rfl ?_
  refine r_icmp_ge (pc := 10) (tgt := 21) dJ14_newLength_10 rfl (fun c3 => ?_) (fun c3 => ?_)
  · have K := K.1 c3
    refine r_iload_n (pc := 21) dJ14_newLength_21 rfl ?_
    refine r_iload_n (pc := 22) dJ14_newLength_22 rfl ?_
    refine r_callS_I (pc := 23) (Y := mJ14_hugeLength) (vs := [_, _]) (st := []) q1610 q1611 q188 dJ14_newLength_23 rfl cd_J14_hugeLength (cOk_of pf_J14_hugeLength rfl) rfl fp_J14_newLength_J14_hugeLength K (fun x4 h5 eh5 wh5 K => ?_) (fun x h1 _ _ e => Tw.out rfl e)
    exact r_iret (pc := 26) rfl rfl dJ14_newLength_26 K
  · have K := K.2 c3
    refine r_iload_n (pc := 13) dJ14_newLength_13 rfl ?_
    refine r_ldc (pc := 14) dJ14_newLength_14 q1609 ?_
    refine r_icmp_gt (pc := 16) (tgt := 21) dJ14_newLength_16 rfl (fun c6 => ?_) (fun c6 => ?_)
    · have K := K.1 c6
      refine r_iload_n (pc := 21) dJ14_newLength_21 rfl ?_
      refine r_iload_n (pc := 22) dJ14_newLength_22 rfl ?_
      refine r_callS_I (pc := 23) (Y := mJ14_hugeLength) (vs := [_, _]) (st := []) q1610 q1611 q188 dJ14_newLength_23 rfl cd_J14_hugeLength (cOk_of pf_J14_hugeLength rfl) rfl fp_J14_newLength_J14_hugeLength K (fun x7 h8 eh8 wh8 K => ?_) (fun x h1 _ _ e => Tw.out rfl e)
      exact r_iret (pc := 26) rfl rfl dJ14_newLength_26 K
    · have K := K.2 c6
      refine r_iload_n (pc := 19) dJ14_newLength_19 rfl ?_
      exact r_iret (pc := 20) rfl rfl dJ14_newLength_20 K
theorem eJ14_newLength {G : Gx} {d : Nat} {Φ : Out → AH → Prop} (h : AH) (v0 : Int32) (v1 : Int32) (v2 : Int32) (K : WF G h → Aw G mJ14_newLength (d + 1) 0 h Φ 0 [vI v0, vI v1, vI v2, vU] [] h) : Cw G mJ14_newLength (d + 1) 0 [vI v0, vI v1, vI v2] h Φ := Cw.of rfl K
theorem dJ0_min_2_0 : decode cJ0_min_2 0 = .ok (.iload_n 0, 1) := by decide +kernel
theorem dJ0_min_2_1 : decode cJ0_min_2 1 = .ok (.iload_n 1, 1) := by decide +kernel
theorem dJ0_min_2_2 : decode cJ0_min_2 2 = .ok (.if_icmp .gt 7, 3) := by decide +kernel
theorem dJ0_min_2_5 : decode cJ0_min_2 5 = .ok (.iload_n 0, 1) := by decide +kernel
theorem dJ0_min_2_6 : decode cJ0_min_2 6 = .ok (.goto 4, 3) := by decide +kernel
theorem dJ0_min_2_9 : decode cJ0_min_2 9 = .ok (.iload_n 1, 1) := by decide +kernel
theorem dJ0_min_2_10 : decode cJ0_min_2 10 = .ok (.ireturn, 1) := by decide +kernel
/-! java/lang/Math.min(II)I -/
set_option maxHeartbeats 4000000 in
theorem sJ0_min_2_0 {G : Gx} {d t : Nat} {h0 : AH} {Φ : Out → AH → Prop} (h : AH) (v0 : Int32) (v1 : Int32) (K : ((v1 < v0 → Φ (.inl (some (vI v1))) h) ∧ (¬ v1 < v0 → Φ (.inl (some (vI v0))) h))) : Aw G mJ0_min_2 (d + 1) t h0 Φ 0 [vI v0, vI v1] [] h := by
  refine r_iload_n (pc := 0) dJ0_min_2_0 rfl ?_
  refine r_iload_n (pc := 1) dJ0_min_2_1 rfl ?_
  refine r_icmp_gt (pc := 2) (tgt := 9) dJ0_min_2_2 rfl (fun c1 => ?_) (fun c1 => ?_)
  · have K := K.1 c1
    refine r_iload_n (pc := 9) dJ0_min_2_9 rfl ?_
    exact r_iret (pc := 10) rfl rfl dJ0_min_2_10 K
  · have K := K.2 c1
    refine r_iload_n (pc := 5) dJ0_min_2_5 rfl ?_
    refine r_goto (pc := 6) (tgt := 10) dJ0_min_2_6 rfl ?_
    exact r_iret (pc := 10) rfl rfl dJ0_min_2_10 K
theorem eJ0_min_2 {G : Gx} {d : Nat} {Φ : Out → AH → Prop} (h : AH) (v0 : Int32) (v1 : Int32) (K : WF G h → Aw G mJ0_min_2 (d + 1) 0 h Φ 0 [vI v0, vI v1] [] h) : Cw G mJ0_min_2 (d + 1) 0 [vI v0, vI v1] h Φ := Cw.of rfl K
theorem dJ15_copyOf_2_0 : decode cJ15_copyOf_2 0 = .ok (.aload_n 2, 1) := by decide +kernel
theorem dJ15_copyOf_2_1 : decode cJ15_copyOf_2 1 = .ok (.ldc 110, 2) := by decide +kernel
theorem dJ15_copyOf_2_3 : decode cJ15_copyOf_2 3 = .ok (.if_acmp .ne 10, 3) := by decide +kernel
theorem dJ15_copyOf_2_6 : decode cJ15_copyOf_2 6 = .ok (.iload_n 1, 1) := by decide +kernel
theorem dJ15_copyOf_2_7 : decode cJ15_copyOf_2 7 = .ok (.anewarray 2, 3) := by decide +kernel
theorem dJ15_copyOf_2_10 : decode cJ15_copyOf_2 10 = .ok (.goto 14, 3) := by decide +kernel
theorem dJ15_copyOf_2_13 : decode cJ15_copyOf_2 13 = .ok (.aload_n 2, 1) := by decide +kernel
theorem dJ15_copyOf_2_14 : decode cJ15_copyOf_2 14 = .ok (.invokevirtual 90, 3) := by decide +kernel
theorem dJ15_copyOf_2_17 : decode cJ15_copyOf_2 17 = .ok (.iload_n 1, 1) := by decide +kernel
theorem dJ15_copyOf_2_18 : decode cJ15_copyOf_2 18 = .ok (.invokestatic 95, 3) := by decide +kernel
theorem dJ15_copyOf_2_21 : decode cJ15_copyOf_2 21 = .ok (.checkcast 110, 3) := by decide +kernel
theorem dJ15_copyOf_2_24 : decode cJ15_copyOf_2 24 = .ok (.astore_n 3, 1) := by decide +kernel
theorem dJ15_copyOf_2_25 : decode cJ15_copyOf_2 25 = .ok (.aload_n 0, 1) := by decide +kernel
theorem dJ15_copyOf_2_26 : decode cJ15_copyOf_2 26 = .ok (.iconst 0, 1) := by decide +kernel
theorem dJ15_copyOf_2_27 : decode cJ15_copyOf_2 27 = .ok (.aload_n 3, 1) := by decide +kernel
theorem dJ15_copyOf_2_28 : decode cJ15_copyOf_2 28 = .ok (.iconst 0, 1) := by decide +kernel
theorem dJ15_copyOf_2_29 : decode cJ15_copyOf_2 29 = .ok (.aload_n 0, 1) := by decide +kernel
theorem dJ15_copyOf_2_30 : decode cJ15_copyOf_2 30 = .ok (.arraylength, 1) := by decide +kernel
theorem dJ15_copyOf_2_31 : decode cJ15_copyOf_2 31 = .ok (.iload_n 1, 1) := by decide +kernel
theorem dJ15_copyOf_2_32 : decode cJ15_copyOf_2 32 = .ok (.invokestatic 304, 3) := by decide +kernel
theorem dJ15_copyOf_2_35 : decode cJ15_copyOf_2 35 = .ok (.invokestatic 150, 3) := by decide +kernel
theorem dJ15_copyOf_2_38 : decode cJ15_copyOf_2 38 = .ok (.aload_n 3, 1) := by decide +kernel
theorem dJ15_copyOf_2_39 : decode cJ15_copyOf_2 39 = .ok (.areturn, 1) := by decide +kernel
/-! java/util/Arrays.copyOf([Ljava/lang/Object;ILjava/lang/Class;)[Ljava/lang/Object; -/
set_option maxHeartbeats 4000000 in
theorem sJ15_copyOf_2_0 {G : Gx} {d t : Nat} {h0 : AH} {Φ : Out → AH → Prop} (h : AH) (v0 : Nat) (v1 : Int32) (v2 : Nat) (K : ¬ (G.2.2.2.2 19) = 0 ∧ ((¬ v2 = (G.2.2.2.2 19) → False) ∧ (v2 = (G.2.2.2.2 19) → ¬ v1 < 0 ∧ v1.toNatClampNeg ≤ 60000000 ∧ ∀ q5 : Nat, q5 = h.z → WF G h → ∀ h6 : AH, h6 = h.new 113 v1.toNatClampNeg [] [] (List.replicate v1.toNatClampNeg 0) → (h6.kd v0 = 113 ∨ (h6.kd v0 = 116 ∧ h6.ar v0 = [])) ∧ Cw G mJ0_min_2 d 0 [vI (nI (h6.ar v0).length), vI v1] h6 (kI (fun x9 h10 => h10.kd v0 = 113 ∧ (∀ x ∈ h10.ar v0, x = 0 ∨ h10.kd x = 23) ∧ cpOk 0 0 x9 (h10.ar v0).length (h10.ar q5).length ∧ ∀ h15 : AH, h15 = h10.wr q5 (lcpR (h10.ar v0) (h10.ar q5) 0 0 x9) → Φ (.inl (some (vR q5))) h15) (fun x h => Φ (.inr x) h))))) : Aw G mJ15_copyOf_2 (d + 1) t h0 Φ 0 [vR v0, vI v1, vR v2, vU] [] h := by
  refine r_aload_n (pc := 0) dJ15_copyOf_2_0 rfl ?_
  obtain ⟨hz1, K⟩ := K
  refine r_ldcM (pc := 1) q1658 hz1 dJ15_copyOf_2_1 ?_
  refine r_acmp_ne (pc := 3) (tgt := 13) dJ15_copyOf_2_3 rfl (fun c2 => ?_) (fun c2 => ?_)
  · have K := K.1 c2
    refine r_aload_n (pc := 13) dJ15_copyOf_2_13 rfl ?_
    exact K.elim
  · have K := K.2 c2
    refine r_iload_n (pc := 6) dJ15_copyOf_2_6 rfl ?_
    obtain ⟨hn3, hm4, K⟩ := K
    refine r_newaR (pc := 7) 113  rfl q1660 hn3 rfl hm4 dJ15_copyOf_2_7 (fun q5 eq5 zq5 wq5 => ?_)
    refine r_nameH (fun h6 eh6 => ?_)
    have K := K q5 eq5 wq5 h6 eh6
    have hk7 := kd_newSE eh6 eq5
    refine r_goto (pc := 10) (tgt := 24) dJ15_copyOf_2_10 rfl ?_
    refine r_astore_n (pc := 24) (lv' := [_, _, _, _]) dJ15_copyOf_2_24 (by decide) rfl ?_
    refine r_aload_n (pc := 25) dJ15_copyOf_2_25 rfl ?_
    refine r_iconst (pc := 26) (x := 0) dJ15_copyOf_2_26 rfl ?_
    refine r_aload_n (pc := 27) dJ15_copyOf_2_27 rfl ?_
    refine r_iconst (pc := 28) (x := 0) dJ15_copyOf_2_28 rfl ?_
    refine r_aload_n (pc := 29) dJ15_copyOf_2_29 rfl ?_
    obtain ⟨hk8, K⟩ := K
    refine r_alenO (pc := 30) hk8 dJ15_copyOf_2_30 ?_
    refine r_iload_n (pc := 31) dJ15_copyOf_2_31 rfl ?_
    refine r_callS_I (pc := 32) (Y := mJ0_min_2) (vs := [_, _]) (st := [_, _, _, _]) q1661 q1662 q152 dJ15_copyOf_2_32 rfl cd_J0_min_2 (cOk_of pf_J0_min_2 rfl) rfl fp_J15_copyOf_2_J0_min_2 K (fun x9 h10 eh10 wh10 K => ?_) (fun x h1 _ _ e => Tw.out rfl e)
    obtain ⟨hk11, K⟩ := K
    have hk12 := kd_ext eh10 hk7 (nz rfl)
    obtain ⟨hc14, hi13, K⟩ := K
    refine r_acopyR (pc := 35) hk11 hk12 hc14 hi13 (Or.inr zq5) q1664 q903 q902 q174 q3234 dJ15_copyOf_2_35 rfl ?_
    refine r_nameH (fun h15 eh15 => ?_)
    have K := K h15 eh15
    refine r_aload_n (pc := 38) dJ15_copyOf_2_38 rfl ?_
    exact r_aret (pc := 39) rfl rfl dJ15_copyOf_2_39 K
theorem eJ15_copyOf_2 {G : Gx} {d : Nat} {Φ : Out → AH → Prop} (h : AH) (v0 : Nat) (v1 : Int32) (v2 : Nat) (K : WF G h → Aw G mJ15_copyOf_2 (d + 1) 0 h Φ 0 [vR v0, vI v1, vR v2, vU] [] h) : Cw G mJ15_copyOf_2 (d + 1) 0 [vR v0, vI v1, vR v2] h Φ := Cw.of rfl K
theorem dJ15_copyOf_0 : decode cJ15_copyOf 0 = .ok (.aload_n 0, 1) := by decide +kernel
theorem dJ15_copyOf_1 : decode cJ15_copyOf 1 = .ok (.iload_n 1, 1) := by decide +kernel
theorem dJ15_copyOf_2 : decode cJ15_copyOf 2 = .ok (.aload_n 0, 1) := by decide +kernel
theorem dJ15_copyOf_3 : decode cJ15_copyOf 3 = .ok (.invokevirtual 86, 3) := by decide +kernel
theorem dJ15_copyOf_6 : decode cJ15_copyOf 6 = .ok (.invokestatic 300, 3) := by decide +kernel
theorem dJ15_copyOf_9 : decode cJ15_copyOf 9 = .ok (.areturn, 1) := by decide +kernel
/-! java/util/Arrays.copyOf([Ljava/lang/Object;I)[Ljava/lang/Object; -/
set_option maxHeartbeats 4000000 in
theorem sJ15_copyOf_0 {G : Gx} {d t : Nat} {h0 : AH} {Φ : Out → AH → Prop} (h : AH) (v0 : Nat) (v1 : Int32) (K : h.kd v0 = 113 ∧ ¬ (G.2.2.2.2 19) = 0 ∧ Cw G mJ15_copyOf_2 d 0 [vR v0, vI v1, vR (G.2.2.2.2 19)] h (kR (fun x3 h4 => Φ (.inl (some (vR x3))) h4) (fun x h => Φ (.inr x) h))) : Aw G mJ15_copyOf (d + 1) t h0 Φ 0 [vR v0, vI v1] [] h := by
  refine r_aload_n (pc := 0) dJ15_copyOf_0 rfl ?_
  refine r_iload_n (pc := 1) dJ15_copyOf_1 rfl ?_
  refine r_aload_n (pc := 2) dJ15_copyOf_2 rfl ?_
  obtain ⟨hk1, K⟩ := K
  obtain ⟨hz2, K⟩ := K
  refine r_getC (pc := 3) hk1 hz2 q1616 q3209 q3208 q1617 q1654 dJ15_copyOf_3 rfl ?_
  refine r_callS_R (pc := 6) (Y := mJ15_copyOf_2) (vs := [_, _, _]) (st := []) q1655 q1656 q189 dJ15_copyOf_6 rfl cd_J15_copyOf_2 (cOk_of pf_J15_copyOf_2 rfl) rfl fp_J15_copyOf_J15_copyOf_2 K (fun x3 h4 eh4 wh4 K => ?_) (fun x h1 _ _ e => Tw.out rfl e)
  exact r_aret (pc := 9) rfl rfl dJ15_copyOf_9 K
theorem eJ15_copyOf {G : Gx} {d : Nat} {Φ : Out → AH → Prop} (h : AH) (v0 : Nat) (v1 : Int32) (K : WF G h → Aw G mJ15_copyOf (d + 1) 0 h Φ 0 [vR v0, vI v1] [] h) : Cw G mJ15_copyOf (d + 1) 0 [vR v0, vI v1] h Φ := Cw.of rfl K
theorem dJ13_grow_2_0 : decode cJ13_grow_2 0 = .ok (.aload_n 0, 1) := by decide +kernel
theorem dJ13_grow_2_1 : decode cJ13_grow_2 1 = .ok (.getfield 9, 3) := by decide +kernel
theorem dJ13_grow_2_4 : decode cJ13_grow_2 4 = .ok (.arraylength, 1) := by decide +kernel
theorem dJ13_grow_2_5 : decode cJ13_grow_2 5 = .ok (.istore_n 2, 1) := by decide +kernel
theorem dJ13_grow_2_6 : decode cJ13_grow_2 6 = .ok (.iload_n 2, 1) := by decide +kernel
theorem dJ13_grow_2_7 : decode cJ13_grow_2 7 = .ok (.ifCond .gt 13, 3) := by decide +kernel
theorem dJ13_grow_2_10 : decode cJ13_grow_2 10 = .ok (.aload_n 0, 1) := by decide +kernel
theorem dJ13_grow_2_11 : decode cJ13_grow_2 11 = .ok (.getfield 9, 3) := by decide +kernel
theorem dJ13_grow_2_14 : decode cJ13_grow_2 14 = .ok (.getstatic 39, 3) := by decide +kernel
theorem dJ13_grow_2_17 : decode cJ13_grow_2 17 = .ok (.if_acmp .eq 28, 3) := by decide +kernel
theorem dJ13_grow_2_20 : decode cJ13_grow_2 20 = .ok (.iload_n 2, 1) := by decide +kernel
theorem dJ13_grow_2_21 : decode cJ13_grow_2 21 = .ok (.iload_n 1, 1) := by decide +kernel
theorem dJ13_grow_2_22 : decode cJ13_grow_2 22 = .ok (.iload_n 2, 1) := by decide +kernel
theorem dJ13_grow_2_23 : decode cJ13_grow_2 23 = .ok (.isub, 1) := by decide +kernel
theorem dJ13_grow_2_24 : decode cJ13_grow_2 24 = .ok (.iload_n 2, 1) := by decide +kernel
theorem dJ13_grow_2_25 : decode cJ13_grow_2 25 = .ok (.iconst 1, 1) := by decide +kernel
theorem dJ13_grow_2_26 : decode cJ13_grow_2 26 = .ok (.ishr, 1) := by decide +kernel
theorem dJ13_grow_2_27 : decode cJ13_grow_2 27 = .ok (.invokestatic 73, 3) := by decide +kernel
theorem dJ13_grow_2_30 : decode cJ13_grow_2 30 = .ok (.istore_n 3, 1) := by decide +kernel
theorem dJ13_grow_2_31 : decode cJ13_grow_2 31 = .ok (.aload_n 0, 1) := by decide +kernel
theorem dJ13_grow_2_32 : decode cJ13_grow_2 32 = .ok (.aload_n 0, 1) := by decide +kernel
theorem dJ13_grow_2_33 : decode cJ13_grow_2 33 = .ok (.getfield 9, 3) := by decide +kernel
theorem dJ13_grow_2_36 : decode cJ13_grow_2 36 = .ok (.iload_n 3, 1) := by decide +kernel
theorem dJ13_grow_2_37 : decode cJ13_grow_2 37 = .ok (.invokestatic 66, 3) := by decide +kernel
theorem dJ13_grow_2_40 : decode cJ13_grow_2 40 = .ok (.dup_x1, 1) := by decide +kernel
theorem dJ13_grow_2_41 : decode cJ13_grow_2 41 = .ok (.putfield 9, 3) := by decide +kernel
theorem dJ13_grow_2_44 : decode cJ13_grow_2 44 = .ok (.areturn, 1) := by decide +kernel
theorem dJ13_grow_2_45 : decode cJ13_grow_2 45 = .ok (.aload_n 0, 1) := by decide +kernel
theorem dJ13_grow_2_46 : decode cJ13_grow_2 46 = .ok (.bipush 10, 2) := by decide +kernel
theorem dJ13_grow_2_48 : decode cJ13_grow_2 48 = .ok (.iload_n 1, 1) := by decide +kernel
theorem dJ13_grow_2_49 : decode cJ13_grow_2 49 = .ok (.invokestatic 79, 3) := by decide +kernel
theorem dJ13_grow_2_52 : decode cJ13_grow_2 52 = .ok (.anewarray 7, 3) := by decide +kernel
theorem dJ13_grow_2_55 : decode cJ13_grow_2 55 = .ok (.dup_x1, 1) := by decide +kernel
theorem dJ13_grow_2_56 : decode cJ13_grow_2 56 = .ok (.putfield 9, 3) := by decide +kernel
theorem dJ13_grow_2_59 : decode cJ13_grow_2 59 = .ok (.areturn, 1) := by decide +kernel
/-! java/util/ArrayList.grow(I)[Ljava/lang/Object; -/
set_option maxHeartbeats 4000000 in
theorem sJ13_grow_2_0 {G : Gx} {d t : Nat} {h0 : AH} {Φ : Out → AH → Prop} (h : AH) (v0 : Nat) (v1 : Int32) (K : h.kd v0 = 29 ∧ ∀ r2 : Nat, r2 = (h.r 29001 v0) → (h.kd r2 = 113 ∨ (h.kd r2 = 116 ∧ h.ar r2 = [])) ∧ ((0 < (nI (h.ar r2).length) → Aw G mJ13_grow_2 (d + 1) t h0 Φ 20 [vR v0, vI v1, vI (nI (h.ar r2).length), vU] [] h) ∧ (¬ 0 < (nI (h.ar r2).length) → ((r2 = (G.2.2.2.2 13) → Cw G mJ0_max_2 d 0 [vI 10, vI v1] h (kI (fun x6 h7 => ¬ x6 < 0 ∧ x6.toNatClampNeg ≤ 60000000 ∧ ∀ q10 : Nat, q10 = h7.z → WF G h7 → ∀ h11 : AH, h11 = h7.new 113 x6.toNatClampNeg [] [] (List.replicate x6.toNatClampNeg 0) → ∀ h15 : AH, h15 = h11.pr 29001 v0 q10 → Φ (.inl (some (vR q10))) h15) (fun x h => Φ (.inr x) h))) ∧ (¬ r2 = (G.2.2.2.2 13) → Aw G mJ13_grow_2 (d + 1) t h0 Φ 20 [vR v0, vI v1, vI (nI (h.ar r2).length), vU] [] h))))) : Aw G mJ13_grow_2 (d + 1) t h0 Φ 0 [vR v0, vI v1, vU, vU] [] h := by
  refine r_aload_n (pc := 0) dJ13_grow_2_0 rfl ?_
  obtain ⟨hk1, K⟩ := K
  have K := K _ rfl
  refine r_getr' (pc := 1) (T := TJ13) 29 1 rfl hk1 (Or.inl q960) dJ13_grow_2_1 kc29 g29001 ?_
  obtain ⟨hk3, K⟩ := K
  refine r_alenO (pc := 4) hk3 dJ13_grow_2_4 ?_
  refine r_istore_n (pc := 5) (lv' := [_, _, _, _]) dJ13_grow_2_5 (by decide) rfl ?_
  refine r_iload_n (pc := 6) dJ13_grow_2_6 rfl ?_
  refine r_if_gt (pc := 7) (tgt := 20) dJ13_grow_2_7 rfl (fun c4 => ?_) (fun c4 => ?_)
  · have K := K.1 c4
    refine r_mask (pc := 20) [true, true, true, false] rfl ?_
    exact K
  · have K := K.2 c4
    refine r_aload_n (pc := 10) dJ13_grow_2_10 rfl ?_
    refine r_getr' (pc := 11) (T := TJ13) 29 1 rfl hk1 (Or.inl q960) dJ13_grow_2_11 kc29 g29001 ?_
    refine r_gets (pc := 14) 13 (by decide) q958 dJ13_grow_2_14 ?_
    refine r_acmp_eq (pc := 17) (tgt := 45) dJ13_grow_2_17 rfl (fun c5 => ?_) (fun c5 => ?_)
    · have K := K.1 c5
      refine r_aload_n (pc := 45) dJ13_grow_2_45 rfl ?_
      refine r_bipush (pc := 46) (x := 10) dJ13_grow_2_46 rfl ?_
      refine r_iload_n (pc := 48) dJ13_grow_2_48 rfl ?_
      refine r_callS_I (pc := 49) (Y := mJ0_max_2) (vs := [_, _]) (st := [_]) q1665 q1607 q152 dJ13_grow_2_49 rfl cd_J0_max_2 (cOk_of pf_J0_max_2 rfl) rfl fp_J13_grow_2_J0_max_2 K (fun x6 h7 eh7 wh7 K => ?_) (fun x h1 _ _ e => Tw.out rfl e)
      obtain ⟨hn8, hm9, K⟩ := K
      refine r_newaR (pc := 52) 113  rfl q1666 hn8 rfl hm9 dJ13_grow_2_52 (fun q10 eq10 zq10 wq10 => ?_)
      refine r_nameH (fun h11 eh11 => ?_)
      have K := K q10 eq10 wq10 h11 eh11
      have hk12 := kd_newSE eh11 eq10
      refine r_dup_x1 (pc := 55) rfl rfl dJ13_grow_2_55 ?_
      have hk13 := kd_ext eh7 hk1 (nz rfl)
      have hk14 := kd_newE eh11 wq10 hk13 (nz rfl)
      refine r_putr (pc := 56) (T := TJ13) (key := 29001) 29 1 (ty := (.array (.object "java/lang/Object"))) hk14 (Or.inl q960) dJ13_grow_2_56 kc29 rfl rfl (Or.inl rfl) (Or.inl (em rfl)) ?_
      refine r_nameH (fun h15 eh15 => ?_)
      have K := K h15 eh15
      exact r_aret (pc := 59) rfl rfl dJ13_grow_2_59 K
    · have K := K.2 c5
      refine r_mask (pc := 20) [true, true, true, false] rfl ?_
      exact K
theorem eJ13_grow_2 {G : Gx} {d : Nat} {Φ : Out → AH → Prop} (h : AH) (v0 : Nat) (v1 : Int32) (K : WF G h → Aw G mJ13_grow_2 (d + 1) 0 h Φ 0 [vR v0, vI v1, vU, vU] [] h) : Cw G mJ13_grow_2 (d + 1) 0 [vR v0, vI v1] h Φ := Cw.of rfl K
set_option maxHeartbeats 4000000 in
theorem sJ13_grow_2_20 {G : Gx} {d t : Nat} {h0 : AH} {Φ : Out → AH → Prop} (h : AH) (v0 : Nat) (v1 : Int32) (v2 : Int32) (K : Cw G mJ14_newLength d 0 [vI v2, vI (v1 - v2), vI (jshr v2 1)] h (kI (fun x1 h2 => h2.kd v0 = 29 ∧ ∀ r4 : Nat, r4 = (h2.r 29001 v0) → Cw G mJ15_copyOf d 0 [vR r4, vI x1] h2 (kR (fun x5 h6 => ∀ h8 : AH, h8 = h6.pr 29001 v0 x5 → Φ (.inl (some (vR x5))) h8) (fun x h => Φ (.inr x) h))) (fun x h => Φ (.inr x) h))) : Aw G mJ13_grow_2 (d + 1) t h0 Φ 20 [vR v0, vI v1, vI v2, vU] [] h := by
  refine r_iload_n (pc := 20) dJ13_grow_2_20 rfl ?_
  refine r_iload_n (pc := 21) dJ13_grow_2_21 rfl ?_
  refine r_iload_n (pc := 22) dJ13_grow_2_22 rfl ?_
  refine r_isub (pc := 23) dJ13_grow_2_23 ?_
  refine r_iload_n (pc := 24) dJ13_grow_2_24 rfl ?_
  refine r_iconst (pc := 25) (x := 1) dJ13_grow_2_25 rfl ?_
  refine r_jshr (pc := 26) dJ13_grow_2_26 ?_
  refine r_callS_I (pc := 27) (Y := mJ14_newLength) (vs := [_, _, _]) (st := []) q1603 q1604 q188 dJ13_grow_2_27 rfl cd_J14_newLength (cOk_of pf_J14_newLength rfl) rfl fp_J13_grow_2_J14_newLength K (fun x1 h2 eh2 wh2 K => ?_) (fun x h1 _ _ e => Tw.out rfl e)
  refine r_istore_n (pc := 30) (lv' := [_, _, _, _]) dJ13_grow_2_30 (by decide) rfl ?_
  refine r_aload_n (pc := 31) dJ13_grow_2_31 rfl ?_
  refine r_aload_n (pc := 32) dJ13_grow_2_32 rfl ?_
  obtain ⟨hk3, K⟩ := K
  have K := K _ rfl
  refine r_getr' (pc := 33) (T := TJ13) 29 1 rfl hk3 (Or.inl q960) dJ13_grow_2_33 kc29 g29001 ?_
  refine r_iload_n (pc := 36) dJ13_grow_2_36 rfl ?_
  refine r_callS_R (pc := 37) (Y := mJ15_copyOf) (vs := [_, _]) (st := [_]) q1613 q1614 q189 dJ13_grow_2_37 rfl cd_J15_copyOf (cOk_of pf_J15_copyOf rfl) rfl fp_J13_grow_2_J15_copyOf K (fun x5 h6 eh6 wh6 K => ?_) (fun x h1 _ _ e => Tw.out rfl e)
  refine r_dup_x1 (pc := 40) rfl rfl dJ13_grow_2_40 ?_
  have hk7 := kd_ext eh6 hk3 (nz rfl)
  refine r_putr (pc := 41) (T := TJ13) (key := 29001) 29 1 (ty := (.array (.object "java/lang/Object"))) hk7 (Or.inl q960) dJ13_grow_2_41 kc29 rfl rfl (Or.inl rfl) (Or.inl (em rfl)) ?_
  refine r_nameH (fun h8 eh8 => ?_)
  have K := K h8 eh8
  exact r_aret (pc := 44) rfl rfl dJ13_grow_2_44 K
theorem dJ13_grow_0 : decode cJ13_grow 0 = .ok (.aload_n 0, 1) := by decide +kernel
theorem dJ13_grow_1 : decode cJ13_grow 1 = .ok (.aload_n 0, 1) := by decide +kernel
theorem dJ13_grow_2 : decode cJ13_grow 2 = .ok (.getfield 48, 3) := by decide +kernel
theorem dJ13_grow_5 : decode cJ13_grow 5 = .ok (.iconst 1, 1) := by decide +kernel
theorem dJ13_grow_6 : decode cJ13_grow 6 = .ok (.iadd, 1) := by decide +kernel
theorem dJ13_grow_7 : decode cJ13_grow 7 = .ok (.invokevirtual 69, 3) := by decide +kernel
theorem dJ13_grow_10 : decode cJ13_grow 10 = .ok (.areturn, 1) := by decide +kernel
/-! java/util/ArrayList.grow()[Ljava/lang/Object; -/
set_option maxHeartbeats 4000000 in
theorem sJ13_grow_0 {G : Gx} {d t : Nat} {h0 : AH} {Φ : Out → AH → Prop} (h : AH) (v0 : Nat) (K : h.kd v0 = 29 ∧ Cw G mJ13_grow_2 d 0 [vR v0, vI ((h.i 29002 v0) + 1)] h (kR (fun x2 h3 => Φ (.inl (some (vR x2))) h3) (fun x h => Φ (.inr x) h))) : Aw G mJ13_grow (d + 1) t h0 Φ 0 [vR v0] [] h := by
  refine r_aload_n (pc := 0) dJ13_grow_0 rfl ?_
  refine r_aload_n (pc := 1) dJ13_grow_1 rfl ?_
  obtain ⟨hk1, K⟩ := K
  refine r_geti' (pc := 2) (T := TJ13) 29 2 rfl hk1 (Or.inl q961) dJ13_grow_2 kc29 g29002 ?_
  refine r_iconst (pc := 5) (x := 1) dJ13_grow_5 rfl ?_
  refine r_iadd (pc := 6) dJ13_grow_6 ?_
  refine r_callV_R (pc := 7) (Y := mJ13_grow_2) (vs := [_]) (st := []) hk1 rfl kc29 q1599 q1601 qs46 dJ13_grow_7 rfl cd_J13_grow_2 (cOk_of pf_J13_grow_2 rfl) rfl fp_J13_grow_J13_grow_2 K (fun x2 h3 eh3 wh3 K => ?_) (fun x h1 _ _ e => Tw.out rfl e)
  exact r_aret (pc := 10) rfl rfl dJ13_grow_10 K
theorem eJ13_grow {G : Gx} {d : Nat} {Φ : Out → AH → Prop} (h : AH) (v0 : Nat) (K : WF G h → Aw G mJ13_grow (d + 1) 0 h Φ 0 [vR v0] [] h) : Cw G mJ13_grow (d + 1) 0 [vR v0] h Φ := Cw.of rfl K
theorem dJ13_add_2_0 : decode cJ13_add_2 0 = .ok (.iload_n 3, 1) := by decide +kernel
theorem dJ13_add_2_1 : decode cJ13_add_2 1 = .ok (.aload_n 2, 1) := by decide +kernel
theorem dJ13_add_2_2 : decode cJ13_add_2 2 = .ok (.arraylength, 1) := by decide +kernel
theorem dJ13_add_2_3 : decode cJ13_add_2 3 = .ok (.if_icmp .ne 8, 3) := by decide +kernel
theorem dJ13_add_2_6 : decode cJ13_add_2 6 = .ok (.aload_n 0, 1) := by decide +kernel
theorem dJ13_add_2_7 : decode cJ13_add_2 7 = .ok (.invokevirtual 129, 3) := by decide +kernel
theorem dJ13_add_2_10 : decode cJ13_add_2 10 = .ok (.astore_n 2, 1) := by decide +kernel
theorem dJ13_add_2_11 : decode cJ13_add_2 11 = .ok (.aload_n 2, 1) := by decide +kernel
theorem dJ13_add_2_12 : decode cJ13_add_2 12 = .ok (.iload_n 3, 1) := by decide +kernel
theorem dJ13_add_2_13 : decode cJ13_add_2 13 = .ok (.aload_n 1, 1) := by decide +kernel
theorem dJ13_add_2_14 : decode cJ13_add_2 14 = .ok (.aastore, 1) := by decide +kernel
theorem dJ13_add_2_15 : decode cJ13_add_2 15 = .ok (.aload_n 0, 1) := by decide +kernel
theorem dJ13_add_2_16 : decode cJ13_add_2 16 = .ok (.iload_n 3, 1) := by decide +kernel
theorem dJ13_add_2_17 : decode cJ13_add_2 17 = .ok (.iconst 1, 1) := by decide +kernel
theorem dJ13_add_2_18 : decode cJ13_add_2 18 = .ok (.iadd, 1) := by decide +kernel
theorem dJ13_add_2_19 : decode cJ13_add_2 19 = .ok (.putfield 48, 3) := by decide +kernel
theorem dJ13_add_2_22 : decode cJ13_add_2 22 = .ok (.return_, 1) := by decide +kernel
/-! java/util/ArrayList.add(Ljava/lang/Object;[Ljava/lang/Object;I)V -/
set_option maxHeartbeats 4000000 in
theorem sJ13_add_2_0 {G : Gx} {d t : Nat} {h0 : AH} {Φ : Out → AH → Prop} (h : AH) (v0 : Nat) (v1 : Nat) (v2 : Nat) (v3 : Int32) (K : (h.kd v2 = 113 ∨ (h.kd v2 = 116 ∧ h.ar v2 = [])) ∧ ((¬ v3 = (nI (h.ar v2).length) → h.kd v2 = 113 ∧ vp_in v3 (h.ar v2).length ∧ (v1 = 0 ∨ h.kd v1 = 23) ∧ ∀ h6 : AH, h6 = h.wr v2 ((h.ar v2).set (v3.toNatClampNeg) v1) → h6.kd v0 = 29 ∧ ∀ h8 : AH, h8 = h6.pi 29002 v0 (v3 + 1) → Φ (.inl none) h8) ∧ (v3 = (nI (h.ar v2).length) → h.kd v0 = 29 ∧ Cw G mJ13_grow d 0 [vR v0] h (kR (fun x9 h10 => h10.kd x9 = 113 ∧ vp_in v3 (h10.ar x9).length ∧ (v1 = 0 ∨ h10.kd v1 = 23) ∧ ∀ h15 : AH, h15 = h10.wr x9 ((h10.ar x9).set (v3.toNatClampNeg) v1) → ∀ h18 : AH, h18 = h15.pi 29002 v0 (v3 + 1) → Φ (.inl none) h18) (fun x h => Φ (.inr x) h))))) : Aw G mJ13_add_2 (d + 1) t h0 Φ 0 [vR v0, vR v1, vR v2, vI v3] [] h := by
  refine r_iload_n (pc := 0) dJ13_add_2_0 rfl ?_
  refine r_aload_n (pc := 1) dJ13_add_2_1 rfl ?_
  obtain ⟨hk1, K⟩ := K
  refine r_alenO (pc := 2) hk1 dJ13_add_2_2 ?_
  refine r_icmp_ne (pc := 3) (tgt := 11) dJ13_add_2_3 rfl (fun c2 => ?_) (fun c2 => ?_)
  · have K := K.1 c2
    refine r_aload_n (pc := 11) dJ13_add_2_11 rfl ?_
    refine r_iload_n (pc := 12) dJ13_add_2_12 rfl ?_
    refine r_aload_n (pc := 13) dJ13_add_2_13 rfl ?_
    obtain ⟨hk3, K⟩ := K
    obtain ⟨hi4, K⟩ := K
    obtain ⟨hk5, K⟩ := K
    refine r_aastG (pc := 14) 113 23 hk3 rfl rfl kc23 hi4 hk5 (Or.inl (em rfl)) (Or.inr q3234) dJ13_add_2_14 ?_
    refine r_nameH (fun h6 eh6 => ?_)
    have K := K h6 eh6
    refine r_aload_n (pc := 15) dJ13_add_2_15 rfl ?_
    refine r_iload_n (pc := 16) dJ13_add_2_16 rfl ?_
    refine r_iconst (pc := 17) (x := 1) dJ13_add_2_17 rfl ?_
    refine r_iadd (pc := 18) dJ13_add_2_18 ?_
    obtain ⟨hk7, K⟩ := K
    refine r_puti (pc := 19) (T := TJ13) (key := 29002) 29 2 hk7 (Or.inl q961) dJ13_add_2_19 kc29 rfl (Or.inl rfl) (Or.inl (em rfl)) ?_
    refine r_nameH (fun h8 eh8 => ?_)
    have K := K h8 eh8
    exact r_vret (pc := 22) rfl dJ13_add_2_22 K
  · have K := K.2 c2
    refine r_aload_n (pc := 6) dJ13_add_2_6 rfl ?_
    obtain ⟨hk11, K⟩ := K
    refine r_callV_R (pc := 7) (Y := mJ13_grow) (vs := []) (st := []) hk11 rfl kc29 q1595 q1597 qs45 dJ13_add_2_7 rfl cd_J13_grow (cOk_of pf_J13_grow rfl) rfl fp_J13_add_2_J13_grow K (fun x9 h10 eh10 wh10 K => ?_) (fun x h1 _ _ e => Tw.out rfl e)
    refine r_astore_n (pc := 10) (lv' := [_, _, _, _]) dJ13_add_2_10 (by decide) rfl ?_
    refine r_aload_n (pc := 11) dJ13_add_2_11 rfl ?_
    refine r_iload_n (pc := 12) dJ13_add_2_12 rfl ?_
    refine r_aload_n (pc := 13) dJ13_add_2_13 rfl ?_
    obtain ⟨hk12, K⟩ := K
    obtain ⟨hi13, K⟩ := K
    obtain ⟨hk14, K⟩ := K
    refine r_aastG (pc := 14) 113 23 hk12 rfl rfl kc23 hi13 hk14 (Or.inl (em rfl)) (Or.inr q3234) dJ13_add_2_14 ?_
    refine r_nameH (fun h15 eh15 => ?_)
    have K := K h15 eh15
    refine r_aload_n (pc := 15) dJ13_add_2_15 rfl ?_
    refine r_iload_n (pc := 16) dJ13_add_2_16 rfl ?_
    refine r_iconst (pc := 17) (x := 1) dJ13_add_2_17 rfl ?_
    refine r_iadd (pc := 18) dJ13_add_2_18 ?_
    have hk16 := kd_ext eh10 hk11 (nz rfl)
    have hk17 := kd_wr eh15 hk16
    refine r_puti (pc := 19) (T := TJ13) (key := 29002) 29 2 hk17 (Or.inl q961) dJ13_add_2_19 kc29 rfl (Or.inl rfl) (Or.inl (em rfl)) ?_
    refine r_nameH (fun h18 eh18 => ?_)
    have K := K h18 eh18
    exact r_vret (pc := 22) rfl dJ13_add_2_22 K
theorem eJ13_add_2 {G : Gx} {d : Nat} {Φ : Out → AH → Prop} (h : AH) (v0 : Nat) (v1 : Nat) (v2 : Nat) (v3 : Int32) (K : WF G h → Aw G mJ13_add_2 (d + 1) 0 h Φ 0 [vR v0, vR v1, vR v2, vI v3] [] h) : Cw G mJ13_add_2 (d + 1) 0 [vR v0, vR v1, vR v2, vI v3] h Φ := Cw.of rfl K
theorem dJ13_add_0 : decode cJ13_add 0 = .ok (.aload_n 0, 1) := by decide +kernel
theorem dJ13_add_1 : decode cJ13_add 1 = .ok (.dup, 1) := by decide +kernel
theorem dJ13_add_2 : decode cJ13_add 2 = .ok (.getfield 63, 3) := by decide +kernel
theorem dJ13_add_5 : decode cJ13_add 5 = .ok (.iconst 1, 1) := by decide +kernel
theorem dJ13_add_6 : decode cJ13_add 6 = .ok (.iadd, 1) := by decide +kernel
theorem dJ13_add_7 : decode cJ13_add 7 = .ok (.putfield 63, 3) := by decide +kernel
theorem dJ13_add_10 : decode cJ13_add 10 = .ok (.aload_n 0, 1) := by decide +kernel
theorem dJ13_add_11 : decode cJ13_add 11 = .ok (.aload_n 1, 1) := by decide +kernel
theorem dJ13_add_12 : decode cJ13_add 12 = .ok (.aload_n 0, 1) := by decide +kernel
theorem dJ13_add_13 : decode cJ13_add 13 = .ok (.getfield 9, 3) := by decide +kernel
theorem dJ13_add_16 : decode cJ13_add 16 = .ok (.aload_n 0, 1) := by decide +kernel
theorem dJ13_add_17 : decode cJ13_add 17 = .ok (.getfield 48, 3) := by decide +kernel
theorem dJ13_add_20 : decode cJ13_add 20 = .ok (.invokevirtual 131, 3) := by decide +kernel
theorem dJ13_add_23 : decode cJ13_add 23 = .ok (.iconst 1, 1) := by decide +kernel
theorem dJ13_add_24 : decode cJ13_add 24 = .ok (.ireturn, 1) := by decide +kernel
/-! java/util/ArrayList.add(Ljava/lang/Object;)Z -/
set_option maxHeartbeats 4000000 in
theorem sJ13_add_0 {G : Gx} {d t : Nat} {h0 : AH} {Φ : Out → AH → Prop} (h : AH) (v0 : Nat) (v1 : Nat) (K : h.kd v0 = 29 ∧ ∀ h2 : AH, h2 = h.pi 29000 v0 ((h.i 29000 v0) + 1) → ∀ r4 : Nat, r4 = (h2.r 29001 v0) → Cw G mJ13_add_2 d 0 [vR v0, vR v1, vR r4, vI (h2.i 29002 v0)] h2 (kV (fun h6 => Φ (.inl (some (vI 1))) h6) (fun x h => Φ (.inr x) h))) : Aw G mJ13_add (d + 1) t h0 Φ 0 [vR v0, vR v1] [] h := by
  refine r_aload_n (pc := 0) dJ13_add_0 rfl ?_
  refine r_dup (pc := 1) rfl dJ13_add_1 ?_
  obtain ⟨hk1, K⟩ := K
  refine r_geti' (pc := 2) (T := TJ13) 29 0 rfl hk1 (Or.inr (Or.inr ⟨_, q963, q964⟩)) dJ13_add_2 kc29 g29000 ?_
  refine r_iconst (pc := 5) (x := 1) dJ13_add_5 rfl ?_
  refine r_iadd (pc := 6) dJ13_add_6 ?_
  refine r_puti (pc := 7) (T := TJ13) (key := 29000) 29 0 hk1 (Or.inr (Or.inr ⟨_, q963, q964⟩)) dJ13_add_7 kc29 rfl (Or.inl rfl) (Or.inl (em rfl)) ?_
  refine r_nameH (fun h2 eh2 => ?_)
  have K := K h2 eh2
  refine r_aload_n (pc := 10) dJ13_add_10 rfl ?_
  refine r_aload_n (pc := 11) dJ13_add_11 rfl ?_
  refine r_aload_n (pc := 12) dJ13_add_12 rfl ?_
  have hk3 := kd_pi eh2 hk1
  have K := K _ rfl
  refine r_getr' (pc := 13) (T := TJ13) 29 1 rfl hk3 (Or.inl q960) dJ13_add_13 kc29 g29001 ?_
  refine r_aload_n (pc := 16) dJ13_add_16 rfl ?_
  refine r_geti' (pc := 17) (T := TJ13) 29 2 rfl hk3 (Or.inl q961) dJ13_add_17 kc29 g29002 ?_
  refine r_callV_V (pc := 20) (Y := mJ13_add_2) (vs := [_, _, _]) (st := []) hk3 rfl kc29 q1591 q1593 qs44 dJ13_add_20 rfl cd_J13_add_2 (cOk_of pf_J13_add_2 rfl) rfl fp_J13_add_J13_add_2 K (fun h6 eh6 wh6 K => ?_) (fun x h1 _ _ e => Tw.out rfl e)
  refine r_iconst (pc := 23) (x := 1) dJ13_add_23 rfl ?_
  exact r_iret (pc := 24) rfl rfl dJ13_add_24 K
theorem eJ13_add {G : Gx} {d : Nat} {Φ : Out → AH → Prop} (h : AH) (v0 : Nat) (v1 : Nat) (K : WF G h → Aw G mJ13_add (d + 1) 0 h Φ 0 [vR v0, vR v1] [] h) : Cw G mJ13_add (d + 1) 0 [vR v0, vR v1] h Φ := Cw.of rfl K
theorem dJ11_init_0 : decode cJ11_init 0 = .ok (.aload_n 0, 1) := by decide +kernel
theorem dJ11_init_1 : decode cJ11_init 1 = .ok (.invokespecial 1, 3) := by decide +kernel
theorem dJ11_init_4 : decode cJ11_init 4 = .ok (.return_, 1) := by decide +kernel
/-! java/util/AbstractCollection.<init>()V -/
set_option maxHeartbeats 4000000 in
theorem sJ11_init_0 {G : Gx} {d t : Nat} {h0 : AH} {Φ : Out → AH → Prop} (h : AH) (v0 : Nat) (K : h.kd v0 = 29 ∧ Φ (.inl none) h) : Aw G mJ11_init (d + 1) v0 h0 Φ 0 [vR v0] [] h := by
  refine r_aload_n (pc := 0) dJ11_init_0 rfl ?_
  obtain ⟨hk1, K⟩ := K
  refine r_objInit (pc := 1) (nzk hk1 rfl) q957 q207 q208 dJ11_init_1 (by decide) ?_
  exact r_vret (pc := 4) rfl dJ11_init_4 K
theorem eJ11_init {G : Gx} {d : Nat} {Φ : Out → AH → Prop} (h : AH) (v0 : Nat) (K : WF G h → Aw G mJ11_init (d + 1) v0 h Φ 0 [vR v0] [] h) : Cw G mJ11_init (d + 1) v0 [vR v0] h Φ := Cw.of rfl K
theorem dJ12_init_0 : decode cJ12_init 0 = .ok (.aload_n 0, 1) := by decide +kernel
theorem dJ12_init_1 : decode cJ12_init 1 = .ok (.invokespecial 1, 3) := by decide +kernel
theorem dJ12_init_4 : decode cJ12_init 4 = .ok (.aload_n 0, 1) := by decide +kernel
theorem dJ12_init_5 : decode cJ12_init 5 = .ok (.iconst 0, 1) := by decide +kernel
theorem dJ12_init_6 : decode cJ12_init 6 = .ok (.putfield 7, 3) := by decide +kernel
theorem dJ12_init_9 : decode cJ12_init 9 = .ok (.return_, 1) := by decide +kernel
/-! java/util/AbstractList.<init>()V -/
set_option maxHeartbeats 4000000 in
theorem sJ12_init_0 {G : Gx} {d t : Nat} {h0 : AH} {Φ : Out → AH → Prop} (h : AH) (v0 : Nat) (K : h.kd v0 = 29 ∧ Cw G mJ11_init d v0 [vR v0] h (kV (fun h2 => ∀ h5 : AH, h5 = h2.pi 29000 v0 0 → Φ (.inl none) h5) (fun x h => Φ (.inr x) h))) : Aw G mJ12_init (d + 1) v0 h0 Φ 0 [vR v0] [] h := by
  refine r_aload_n (pc := 0) dJ12_init_0 rfl ?_
  obtain ⟨hk3, K⟩ := K
  refine r_callI_V (pc := 1) (Y := mJ11_init) (vs := []) (st := []) (nzk hk3 rfl) q954 q955 q956 rfl rfl rfl dJ12_init_1 rfl (Or.inl rfl) (cOk_of pf_J11_init rfl) rfl fp_J12_init_J11_init K (fun h2 eh2 wh2 K => ?_) (fun x h1 _ _ e => Tw.out rfl e)
  refine r_aload_n (pc := 4) dJ12_init_4 rfl ?_
  refine r_iconst (pc := 5) (x := 0) dJ12_init_5 rfl ?_
  have hk4 := kd_ext eh2 hk3 (nz rfl)
  refine r_puti (pc := 6) (T := TJ13) (key := 29000) 29 0 hk4 (Or.inl q962) dJ12_init_6 kc29 rfl (Or.inl rfl) (Or.inr (Or.inl rfl)) ?_
  refine r_nameH (fun h5 eh5 => ?_)
  have K := K h5 eh5
  exact r_vret (pc := 9) rfl dJ12_init_9 K
theorem eJ12_init {G : Gx} {d : Nat} {Φ : Out → AH → Prop} (h : AH) (v0 : Nat) (K : WF G h → Aw G mJ12_init (d + 1) v0 h Φ 0 [vR v0] [] h) : Cw G mJ12_init (d + 1) v0 [vR v0] h Φ := Cw.of rfl K
theorem dJ13_init_0 : decode cJ13_init 0 = .ok (.aload_n 0, 1) := by decide +kernel
theorem dJ13_init_1 : decode cJ13_init 1 = .ok (.invokespecial 1, 3) := by decide +kernel
theorem dJ13_init_4 : decode cJ13_init 4 = .ok (.aload_n 0, 1) := by decide +kernel
theorem dJ13_init_5 : decode cJ13_init 5 = .ok (.getstatic 39, 3) := by decide +kernel
theorem dJ13_init_8 : decode cJ13_init 8 = .ok (.putfield 9, 3) := by decide +kernel
theorem dJ13_init_11 : decode cJ13_init 11 = .ok (.return_, 1) := by decide +kernel
/-! java/util/ArrayList.<init>()V -/
set_option maxHeartbeats 4000000 in
theorem sJ13_init_0 {G : Gx} {d t : Nat} {h0 : AH} {Φ : Out → AH → Prop} (h : AH) (v0 : Nat) (K : h.kd v0 = 29 ∧ Cw G mJ12_init d v0 [vR v0] h (kV (fun h2 => ∀ h5 : AH, h5 = h2.pr 29001 v0 (G.2.2.2.2 13) → Φ (.inl none) h5) (fun x h => Φ (.inr x) h))) : Aw G mJ13_init (d + 1) v0 h0 Φ 0 [vR v0] [] h := by
  refine r_aload_n (pc := 0) dJ13_init_0 rfl ?_
  obtain ⟨hk3, K⟩ := K
  refine r_callI_V (pc := 1) (Y := mJ12_init) (vs := []) (st := []) (nzk hk3 rfl) q951 q952 q953 rfl rfl rfl dJ13_init_1 rfl (Or.inl rfl) (cOk_of pf_J12_init rfl) rfl fp_J13_init_J12_init K (fun h2 eh2 wh2 K => ?_) (fun x h1 _ _ e => Tw.out rfl e)
  refine r_aload_n (pc := 4) dJ13_init_4 rfl ?_
  refine r_gets (pc := 5) 13 (by decide) q958 dJ13_init_5 ?_
  have hk4 := kd_ext eh2 hk3 (nz rfl)
  refine r_putr (pc := 8) (T := TJ13) (key := 29001) 29 1 (ty := (.array (.object "java/lang/Object"))) hk4 (Or.inl q960) dJ13_init_8 kc29 rfl rfl (Or.inl rfl) (Or.inr (Or.inl rfl)) ?_
  refine r_nameH (fun h5 eh5 => ?_)
  have K := K h5 eh5
  exact r_vret (pc := 11) rfl dJ13_init_11 K
theorem eJ13_init {G : Gx} {d : Nat} {Φ : Out → AH → Prop} (h : AH) (v0 : Nat) (K : WF G h → Aw G mJ13_init (d + 1) v0 h Φ 0 [vR v0] [] h) : Cw G mJ13_init (d + 1) v0 [vR v0] h Φ := Cw.of rfl K
theorem dJ10_ordinal_0 : decode cJ10_ordinal 0 = .ok (.aload_n 0, 1) := by decide +kernel
theorem dJ10_ordinal_1 : decode cJ10_ordinal 1 = .ok (.getfield 7, 3) := by decide +kernel
theorem dJ10_ordinal_4 : decode cJ10_ordinal 4 = .ok (.ireturn, 1) := by decide +kernel
/-! java/lang/Enum.ordinal()I -/
set_option maxHeartbeats 4000000 in
theorem sJ10_ordinal_0 {G : Gx} {d t : Nat} {h0 : AH} {Φ : Out → AH → Prop} (h : AH) (v0 : Nat) (K : h.kd v0 = 117 ∧ Φ (.inl (some (vI (h.i 117000 v0)))) h) : Aw G mJ10_ordinal (d + 1) t h0 Φ 0 [vR v0] [] h := by
  refine r_aload_n (pc := 0) dJ10_ordinal_0 rfl ?_
  obtain ⟨hk1, K⟩ := K
  refine r_getOrd (pc := 1) rfl hk1 q3265 dJ10_ordinal_1 ?_
  exact r_iret (pc := 4) rfl rfl dJ10_ordinal_4 K
theorem eJ10_ordinal {G : Gx} {d : Nat} {Φ : Out → AH → Prop} (h : AH) (v0 : Nat) (K : WF G h → Aw G mJ10_ordinal (d + 1) 0 h Φ 0 [vR v0] [] h) : Cw G mJ10_ordinal (d + 1) 0 [vR v0] h Φ := Cw.of rfl K
theorem dJ0_multiplyHigh_0 : decode cJ0_multiplyHigh 0 = .ok (.lload_n 0, 1) := by decide +kernel
theorem dJ0_multiplyHigh_1 : decode cJ0_multiplyHigh 1 = .ok (.bipush 32, 2) := by decide +kernel
theorem dJ0_multiplyHigh_3 : decode cJ0_multiplyHigh 3 = .ok (.lshr, 1) := by decide +kernel
theorem dJ0_multiplyHigh_4 : decode cJ0_multiplyHigh 4 = .ok (.lstore 4, 2) := by decide +kernel
theorem dJ0_multiplyHigh_6 : decode cJ0_multiplyHigh 6 = .ok (.lload_n 0, 1) := by decide +kernel
theorem dJ0_multiplyHigh_7 : decode cJ0_multiplyHigh 7 = .ok (.ldc2_w 138, 3) := by decide +kernel
theorem dJ0_multiplyHigh_10 : decode cJ0_multiplyHigh 10 = .ok (.land, 1) := by decide +kernel
theorem dJ0_multiplyHigh_11 : decode cJ0_multiplyHigh 11 = .ok (.lstore 6, 2) := by decide +kernel
theorem dJ0_multiplyHigh_13 : decode cJ0_multiplyHigh 13 = .ok (.lload_n 2, 1) := by decide +kernel
theorem dJ0_multiplyHigh_14 : decode cJ0_multiplyHigh 14 = .ok (.bipush 32, 2) := by decide +kernel
theorem dJ0_multiplyHigh_16 : decode cJ0_multiplyHigh 16 = .ok (.lshr, 1) := by decide +kernel
theorem dJ0_multiplyHigh_17 : decode cJ0_multiplyHigh 17 = .ok (.lstore 8, 2) := by decide +kernel
theorem dJ0_multiplyHigh_19 : decode cJ0_multiplyHigh 19 = .ok (.lload_n 2, 1) := by decide +kernel
theorem dJ0_multiplyHigh_20 : decode cJ0_multiplyHigh 20 = .ok (.ldc2_w 138, 3) := by decide +kernel
theorem dJ0_multiplyHigh_23 : decode cJ0_multiplyHigh 23 = .ok (.land, 1) := by decide +kernel
theorem dJ0_multiplyHigh_24 : decode cJ0_multiplyHigh 24 = .ok (.lstore 10, 2) := by decide +kernel
theorem dJ0_multiplyHigh_26 : decode cJ0_multiplyHigh 26 = .ok (.lload 6, 2) := by decide +kernel
theorem dJ0_multiplyHigh_28 : decode cJ0_multiplyHigh 28 = .ok (.lload 10, 2) := by decide +kernel
theorem dJ0_multiplyHigh_30 : decode cJ0_multiplyHigh 30 = .ok (.lmul, 1) := by decide +kernel
theorem dJ0_multiplyHigh_31 : decode cJ0_multiplyHigh 31 = .ok (.lstore 12, 2) := by decide +kernel
theorem dJ0_multiplyHigh_33 : decode cJ0_multiplyHigh 33 = .ok (.lload 4, 2) := by decide +kernel
theorem dJ0_multiplyHigh_35 : decode cJ0_multiplyHigh 35 = .ok (.lload 10, 2) := by decide +kernel
theorem dJ0_multiplyHigh_37 : decode cJ0_multiplyHigh 37 = .ok (.lmul, 1) := by decide +kernel
theorem dJ0_multiplyHigh_38 : decode cJ0_multiplyHigh 38 = .ok (.lload 12, 2) := by decide +kernel
theorem dJ0_multiplyHigh_40 : decode cJ0_multiplyHigh 40 = .ok (.bipush 32, 2) := by decide +kernel
theorem dJ0_multiplyHigh_42 : decode cJ0_multiplyHigh 42 = .ok (.lushr, 1) := by decide +kernel
theorem dJ0_multiplyHigh_43 : decode cJ0_multiplyHigh 43 = .ok (.ladd, 1) := by decide +kernel
theorem dJ0_multiplyHigh_44 : decode cJ0_multiplyHigh 44 = .ok (.lstore 14, 2) := by decide +kernel
theorem dJ0_multiplyHigh_46 : decode cJ0_multiplyHigh 46 = .ok (.lload 14, 2) := by decide +kernel
theorem dJ0_multiplyHigh_48 : decode cJ0_multiplyHigh 48 = .ok (.ldc2_w 138, 3) := by decide +kernel
theorem dJ0_multiplyHigh_51 : decode cJ0_multiplyHigh 51 = .ok (.land, 1) := by decide +kernel
theorem dJ0_multiplyHigh_52 : decode cJ0_multiplyHigh 52 = .ok (.lstore 16, 2) := by decide +kernel
theorem dJ0_multiplyHigh_54 : decode cJ0_multiplyHigh 54 = .ok (.lload 14, 2) := by decide +kernel
theorem dJ0_multiplyHigh_56 : decode cJ0_multiplyHigh 56 = .ok (.bipush 32, 2) := by decide +kernel
theorem dJ0_multiplyHigh_58 : decode cJ0_multiplyHigh 58 = .ok (.lshr, 1) := by decide +kernel
theorem dJ0_multiplyHigh_59 : decode cJ0_multiplyHigh 59 = .ok (.lstore 18, 2) := by decide +kernel
theorem dJ0_multiplyHigh_61 : decode cJ0_multiplyHigh 61 = .ok (.lload 16, 2) := by decide +kernel
theorem dJ0_multiplyHigh_63 : decode cJ0_multiplyHigh 63 = .ok (.lload 6, 2) := by decide +kernel
theorem dJ0_multiplyHigh_65 : decode cJ0_multiplyHigh 65 = .ok (.lload 8, 2) := by decide +kernel
theorem dJ0_multiplyHigh_67 : decode cJ0_multiplyHigh 67 = .ok (.lmul, 1) := by decide +kernel
theorem dJ0_multiplyHigh_68 : decode cJ0_multiplyHigh 68 = .ok (.ladd, 1) := by decide +kernel
theorem dJ0_multiplyHigh_69 : decode cJ0_multiplyHigh 69 = .ok (.lstore 16, 2) := by decide +kernel
theorem dJ0_multiplyHigh_71 : decode cJ0_multiplyHigh 71 = .ok (.lload 4, 2) := by decide +kernel
theorem dJ0_multiplyHigh_73 : decode cJ0_multiplyHigh 73 = .ok (.lload 8, 2) := by decide +kernel
theorem dJ0_multiplyHigh_75 : decode cJ0_multiplyHigh 75 = .ok (.lmul, 1) := by decide +kernel
theorem dJ0_multiplyHigh_76 : decode cJ0_multiplyHigh 76 = .ok (.lload 18, 2) := by decide +kernel
theorem dJ0_multiplyHigh_78 : decode cJ0_multiplyHigh 78 = .ok (.ladd, 1) := by decide +kernel
theorem dJ0_multiplyHigh_79 : decode cJ0_multiplyHigh 79 = .ok (.lload 16, 2) := by decide +kernel
theorem dJ0_multiplyHigh_81 : decode cJ0_multiplyHigh 81 = .ok (.bipush 32, 2) := by decide +kernel
theorem dJ0_multiplyHigh_83 : decode cJ0_multiplyHigh 83 = .ok (.lshr, 1) := by decide +kernel
theorem dJ0_multiplyHigh_84 : decode cJ0_multiplyHigh 84 = .ok (.ladd, 1) := by decide +kernel
theorem dJ0_multiplyHigh_85 : decode cJ0_multiplyHigh 85 = .ok (.lreturn, 1) := by decide +kernel
/-! java/lang/Math.multiplyHigh(JJ)J -/
set_option maxHeartbeats 4000000 in
theorem sJ0_multiplyHigh_0 {G : Gx} {d t : Nat} {h0 : AH} {Φ : Out → AH → Prop} (h : AH) (v0 : Int64) (v2 : Int64) (K : ∀ u1 : Int64, u1 = ((v0 &&& 4294967295) * (v2 &&& 4294967295)) → ∀ u2 : Int64, u2 = (((Jshr v0 32) * (v2 &&& 4294967295)) + (Jushr u1 32)) → ∀ u3 : Int64, u3 = ((u2 &&& 4294967295) + ((v0 &&& 4294967295) * (Jshr v2 32))) → Φ (.inl (some (vJ ((((Jshr v0 32) * (Jshr v2 32)) + (Jshr u2 32)) + (Jshr u3 32))))) h) : Aw G mJ0_multiplyHigh (d + 1) t h0 Φ 0 [vJ v0, vU, vJ v2, vU, vU, vU, vU, vU, vU, vU, vU, vU, vU, vU, vU, vU, vU, vU, vU, vU] [] h := by
  refine r_lload_n (pc := 0) dJ0_multiplyHigh_0 rfl ?_
  refine r_bipush (pc := 1) (x := 32) dJ0_multiplyHigh_1 rfl ?_
  refine r_Jshr (pc := 3) dJ0_multiplyHigh_3 ?_
  refine r_lstore (pc := 4) (lv' := [_, _, _, _, _, _, _, _, _, _, _, _, _, _, _, _, _, _, _, _]) dJ0_multiplyHigh_4 (by decide) rfl ?_
  refine r_lload_n (pc := 6) dJ0_multiplyHigh_6 rfl ?_
  refine r_ldc2 (pc := 7) dJ0_multiplyHigh_7 q236 ?_
  refine r_land (pc := 10) dJ0_multiplyHigh_10 ?_
  refine r_lstore (pc := 11) (lv' := [_, _, _, _, _, _, _, _, _, _, _, _, _, _, _, _, _, _, _, _]) dJ0_multiplyHigh_11 (by decide) rfl ?_
  refine r_lload_n (pc := 13) dJ0_multiplyHigh_13 rfl ?_
  refine r_bipush (pc := 14) (x := 32) dJ0_multiplyHigh_14 rfl ?_
  refine r_Jshr (pc := 16) dJ0_multiplyHigh_16 ?_
  refine r_lstore (pc := 17) (lv' := [_, _, _, _, _, _, _, _, _, _, _, _, _, _, _, _, _, _, _, _]) dJ0_multiplyHigh_17 (by decide) rfl ?_
  refine r_lload_n (pc := 19) dJ0_multiplyHigh_19 rfl ?_
  refine r_ldc2 (pc := 20) dJ0_multiplyHigh_20 q236 ?_
  refine r_land (pc := 23) dJ0_multiplyHigh_23 ?_
  refine r_lstore (pc := 24) (lv' := [_, _, _, _, _, _, _, _, _, _, _, _, _, _, _, _, _, _, _, _]) dJ0_multiplyHigh_24 (by decide) rfl ?_
  refine r_lload (pc := 26) dJ0_multiplyHigh_26 rfl ?_
  refine r_lload (pc := 28) dJ0_multiplyHigh_28 rfl ?_
  refine r_lmul (pc := 30) dJ0_multiplyHigh_30 ?_
  have K := K _ rfl
  refine r_lstore (pc := 31) (lv' := [_, _, _, _, _, _, _, _, _, _, _, _, _, _, _, _, _, _, _, _]) dJ0_multiplyHigh_31 (by decide) rfl ?_
  refine r_lload (pc := 33) dJ0_multiplyHigh_33 rfl ?_
  refine r_lload (pc := 35) dJ0_multiplyHigh_35 rfl ?_
  refine r_lmul (pc := 37) dJ0_multiplyHigh_37 ?_
  refine r_lload (pc := 38) dJ0_multiplyHigh_38 rfl ?_
  refine r_bipush (pc := 40) (x := 32) dJ0_multiplyHigh_40 rfl ?_
  refine r_Jushr (pc := 42) dJ0_multiplyHigh_42 ?_
  refine r_ladd (pc := 43) dJ0_multiplyHigh_43 ?_
  have K := K _ rfl
  refine r_lstore (pc := 44) (lv' := [_, _, _, _, _, _, _, _, _, _, _, _, _, _, _, _, _, _, _, _]) dJ0_multiplyHigh_44 (by decide) rfl ?_
  refine r_lload (pc := 46) dJ0_multiplyHigh_46 rfl ?_
  refine r_ldc2 (pc := 48) dJ0_multiplyHigh_48 q236 ?_
  refine r_land (pc := 51) dJ0_multiplyHigh_51 ?_
  refine r_lstore (pc := 52) (lv' := [_, _, _, _, _, _, _, _, _, _, _, _, _, _, _, _, _, _, _, _]) dJ0_multiplyHigh_52 (by decide) rfl ?_
  refine r_lload (pc := 54) dJ0_multiplyHigh_54 rfl ?_
  refine r_bipush (pc := 56) (x := 32) dJ0_multiplyHigh_56 rfl ?_
  refine r_Jshr (pc := 58) dJ0_multiplyHigh_58 ?_
  refine r_lstore (pc := 59) (lv' := [_, _, _, _, _, _, _, _, _, _, _, _, _, _, _, _, _, _, _, _]) dJ0_multiplyHigh_59 (by decide) rfl ?_
  refine r_lload (pc := 61) dJ0_multiplyHigh_61 rfl ?_
  refine r_lload (pc := 63) dJ0_multiplyHigh_63 rfl ?_
  refine r_lload (pc := 65) dJ0_multiplyHigh_65 rfl ?_
  refine r_lmul (pc := 67) dJ0_multiplyHigh_67 ?_
  refine r_ladd (pc := 68) dJ0_multiplyHigh_68 ?_
  have K := K _ rfl
  refine r_lstore (pc := 69) (lv' := [_, _, _, _, _, _, _, _, _, _, _, _, _, _, _, _, _, _, _, _]) dJ0_multiplyHigh_69 (by decide) rfl ?_
  refine r_lload (pc := 71) dJ0_multiplyHigh_71 rfl ?_
  refine r_lload (pc := 73) dJ0_multiplyHigh_73 rfl ?_
  refine r_lmul (pc := 75) dJ0_multiplyHigh_75 ?_
  refine r_lload (pc := 76) dJ0_multiplyHigh_76 rfl ?_
  refine r_ladd (pc := 78) dJ0_multiplyHigh_78 ?_
  refine r_lload (pc := 79) dJ0_multiplyHigh_79 rfl ?_
  refine r_bipush (pc := 81) (x := 32) dJ0_multiplyHigh_81 rfl ?_
  refine r_Jshr (pc := 83) dJ0_multiplyHigh_83 ?_
  refine r_ladd (pc := 84) dJ0_multiplyHigh_84 ?_
  exact r_lret (pc := 85) rfl dJ0_multiplyHigh_85 K
theorem eJ0_multiplyHigh {G : Gx} {d : Nat} {Φ : Out → AH → Prop} (h : AH) (v0 : Int64) (v2 : Int64) (K : WF G h → Aw G mJ0_multiplyHigh (d + 1) 0 h Φ 0 [vJ v0, vU, vJ v2, vU, vU, vU, vU, vU, vU, vU, vU, vU, vU, vU, vU, vU, vU, vU, vU, vU] [] h) : Cw G mJ0_multiplyHigh (d + 1) 0 [vJ v0, vJ v2] h Φ := Cw.of rfl K
theorem dJ1_isLatin1_0 : decode cJ1_isLatin1 0 = .ok (.getstatic 38, 3) := by decide +kernel
theorem dJ1_isLatin1_3 : decode cJ1_isLatin1 3 = .ok (.ifCond .eq 14, 3) := by decide +kernel
theorem dJ1_isLatin1_6 : decode cJ1_isLatin1 6 = .ok (.aload_n 0, 1) := by decide +kernel
theorem dJ1_isLatin1_7 : decode cJ1_isLatin1 7 = .ok (.getfield 15, 3) := by decide +kernel
theorem dJ1_isLatin1_10 : decode cJ1_isLatin1 10 = .ok (.ifCond .ne 7, 3) := by decide +kernel
theorem dJ1_isLatin1_13 : decode cJ1_isLatin1 13 = .ok (.iconst 1, 1) := by decide +kernel
theorem dJ1_isLatin1_14 : decode cJ1_isLatin1 14 = .ok (.goto 4, 3) := by decide +kernel
theorem dJ1_isLatin1_17 : decode cJ1_isLatin1 17 = .ok (.iconst 0, 1) := by decide +kernel
theorem dJ1_isLatin1_18 : decode cJ1_isLatin1 18 = .ok (.ireturn, 1) := by decide +kernel
/-! java/lang/String.isLatin1()Z -/
set_option maxHeartbeats 4000000 in
theorem sJ1_isLatin1_0 {G : Gx} {d t : Nat} {h0 : AH} {Φ : Out → AH → Prop} (h : AH) (v0 : Nat) (K : (((1 : Int32) = 0 → Φ (.inl (some (vI 0))) h) ∧ (¬ (1 : Int32) = 0 → h.kd v0 = 35 ∧ ((¬ (h.i 35001 v0) = 0 → Φ (.inl (some (vI 0))) h) ∧ ((h.i 35001 v0) = 0 → Φ (.inl (some (vI 1))) h))))) : Aw G mJ1_isLatin1 (d + 1) t h0 Φ 0 [vR v0] [] h := by
  refine r_getsC (pc := 0) q323 dJ1_isLatin1_0 ?_
  refine r_if_eq (pc := 3) (tgt := 17) dJ1_isLatin1_3 rfl (fun c1 => ?_) (fun c1 => ?_)
  · have K := K.1 c1
    refine r_iconst (pc := 17) (x := 0) dJ1_isLatin1_17 rfl ?_
    exact r_iret (pc := 18) rfl rfl dJ1_isLatin1_18 K
  · have K := K.2 c1
    refine r_aload_n (pc := 6) dJ1_isLatin1_6 rfl ?_
    obtain ⟨hk2, K⟩ := K
    refine r_geti' (pc := 7) (T := TJ1) 35 1 rfl hk2 (Or.inl q3264) dJ1_isLatin1_7 kc35 g35001 ?_
    refine r_if_ne (pc := 10) (tgt := 17) dJ1_isLatin1_10 rfl (fun c3 => ?_) (fun c3 => ?_)
    · have K := K.1 c3
      refine r_iconst (pc := 17) (x := 0) dJ1_isLatin1_17 rfl ?_
      exact r_iret (pc := 18) rfl rfl dJ1_isLatin1_18 K
    · have K := K.2 c3
      refine r_iconst (pc := 13) (x := 1) dJ1_isLatin1_13 rfl ?_
      refine r_goto (pc := 14) (tgt := 18) dJ1_isLatin1_14 rfl ?_
      exact r_iret (pc := 18) rfl rfl dJ1_isLatin1_18 K
theorem eJ1_isLatin1 {G : Gx} {d : Nat} {Φ : Out → AH → Prop} (h : AH) (v0 : Nat) (K : WF G h → Aw G mJ1_isLatin1 (d + 1) 0 h Φ 0 [vR v0] [] h) : Cw G mJ1_isLatin1 (d + 1) 0 [vR v0] h Φ := Cw.of rfl K
theorem dJ1_checkIndex_0 : decode cJ1_checkIndex 0 = .ok (.iload_n 0, 1) := by decide +kernel
theorem dJ1_checkIndex_1 : decode cJ1_checkIndex 1 = .ok (.iload_n 1, 1) := by decide +kernel
theorem dJ1_checkIndex_2 : decode cJ1_checkIndex 2 = .ok (.getstatic 1053, 3) := by decide +kernel
theorem dJ1_checkIndex_5 : decode cJ1_checkIndex 5 = .ok (.invokestatic 1059, 3) := by decide +kernel
theorem dJ1_checkIndex_8 : decode cJ1_checkIndex 8 = .ok (.pop, 1) := by decide +kernel
theorem dJ1_checkIndex_9 : decode cJ1_checkIndex 9 = .ok (.return_, 1) := by decide +kernel
/-! java/lang/String.checkIndex(II)V -/
set_option maxHeartbeats 4000000 in
theorem sJ1_checkIndex_0 {G : Gx} {d t : Nat} {h0 : AH} {Φ : Out → AH → Prop} (h : AH) (v0 : Int32) (v1 : Int32) (K : Cw G mJ3_checkIndex d 0 [vI v0, vI v1, vR (G.2.2.2.2 14)] h (kI (fun x1 h2 => Φ (.inl none) h2) (fun x h => Φ (.inr x) h))) : Aw G mJ1_checkIndex (d + 1) t h0 Φ 0 [vI v0, vI v1] [] h := by
  refine r_iload_n (pc := 0) dJ1_checkIndex_0 rfl ?_
  refine r_iload_n (pc := 1) dJ1_checkIndex_1 rfl ?_
  refine r_gets (pc := 2) 14 (by decide) q343 dJ1_checkIndex_2 ?_
  refine r_callS_I (pc := 5) (Y := mJ3_checkIndex) (vs := [_, _, _]) (st := []) q345 q346 q158 dJ1_checkIndex_5 rfl cd_J3_checkIndex (cOk_of pf_J3_checkIndex rfl) rfl fp_J1_checkIndex_J3_checkIndex K (fun x1 h2 eh2 wh2 K => ?_) (fun x h1 _ _ e => Tw.out rfl e)
  refine r_pop (pc := 8) rfl dJ1_checkIndex_8 ?_
  exact r_vret (pc := 9) rfl dJ1_checkIndex_9 K
theorem eJ1_checkIndex {G : Gx} {d : Nat} {Φ : Out → AH → Prop} (h : AH) (v0 : Int32) (v1 : Int32) (K : WF G h → Aw G mJ1_checkIndex (d + 1) 0 h Φ 0 [vI v0, vI v1] [] h) : Cw G mJ1_checkIndex (d + 1) 0 [vI v0, vI v1] h Φ := Cw.of rfl K
theorem dJ2_charAt_0 : decode cJ2_charAt 0 = .ok (.iload_n 1, 1) := by decide +kernel
theorem dJ2_charAt_1 : decode cJ2_charAt 1 = .ok (.aload_n 0, 1) := by decide +kernel
theorem dJ2_charAt_2 : decode cJ2_charAt 2 = .ok (.arraylength, 1) := by decide +kernel
theorem dJ2_charAt_3 : decode cJ2_charAt 3 = .ok (.invokestatic 9, 3) := by decide +kernel
theorem dJ2_charAt_6 : decode cJ2_charAt 6 = .ok (.aload_n 0, 1) := by decide +kernel
theorem dJ2_charAt_7 : decode cJ2_charAt 7 = .ok (.iload_n 1, 1) := by decide +kernel
theorem dJ2_charAt_8 : decode cJ2_charAt 8 = .ok (.baload, 1) := by decide +kernel
theorem dJ2_charAt_9 : decode cJ2_charAt 9 = .ok (.sipush 255, 3) := by decide +kernel
theorem dJ2_charAt_12 : decode cJ2_charAt 12 = .ok (.iand, 1) := by decide +kernel
theorem dJ2_charAt_13 : decode cJ2_charAt 13 = .ok (.i2c, 1) := by decide +kernel
theorem dJ2_charAt_14 : decode cJ2_charAt 14 = .ok (.ireturn, 1) := by decide +kernel
/-! java/lang/StringLatin1.charAt([BI)C -/
set_option maxHeartbeats 4000000 in
theorem sJ2_charAt_0 {G : Gx} {d t : Nat} {h0 : AH} {Φ : Out → AH → Prop} (h : AH) (v0 : Nat) (v1 : Int32) (K : h.kd v0 = 119 ∧ Cw G mJ1_checkIndex d 0 [vI v1, vI (nI (h.ai v0).length)] h (kV (fun h3 => vp_in v1 (h3.ai v0).length ∧ narrow .char (.int (i2c (((h3.ai v0).getD (v1.toNatClampNeg) 0) &&& 255))) = .int (i2c (((h3.ai v0).getD (v1.toNatClampNeg) 0) &&& 255)) ∧ Φ (.inl (some (vI (i2c (((h3.ai v0).getD (v1.toNatClampNeg) 0) &&& 255))))) h3) (fun x h => Φ (.inr x) h))) : Aw G mJ2_charAt (d + 1) t h0 Φ 0 [vR v0, vI v1] [] h := by
  refine r_iload_n (pc := 0) dJ2_charAt_0 rfl ?_
  refine r_aload_n (pc := 1) dJ2_charAt_1 rfl ?_
  obtain ⟨hk1, K⟩ := K
  refine r_alenRo (pc := 2) hk1 dJ2_charAt_2 ?_
  refine r_callS_V (pc := 3) (Y := mJ1_checkIndex) (vs := [_, _]) (st := []) q340 q341 q156 dJ2_charAt_3 rfl cd_J1_checkIndex (cOk_of pf_J1_checkIndex rfl) rfl fp_J2_charAt_J1_checkIndex K (fun h3 eh3 wh3 K => ?_) (fun x h1 _ _ e => Tw.out rfl e)
  refine r_aload_n (pc := 6) dJ2_charAt_6 rfl ?_
  refine r_iload_n (pc := 7) dJ2_charAt_7 rfl ?_
  have hk4 := kd_ext eh3 hk1 (nz rfl)
  obtain ⟨hi5, K⟩ := K
  refine r_baloadRo (pc := 8) hk4 hi5 dJ2_charAt_8 ?_
  refine r_sipush (pc := 9) (x := 255) dJ2_charAt_9 rfl ?_
  refine r_iand (pc := 12) dJ2_charAt_12 ?_
  refine r_ji2c (pc := 13) dJ2_charAt_13 ?_
  obtain ⟨hb6, K⟩ := K
  exact r_iret (pc := 14) rfl hb6 dJ2_charAt_14 K
theorem eJ2_charAt {G : Gx} {d : Nat} {Φ : Out → AH → Prop} (h : AH) (v0 : Nat) (v1 : Int32) (K : WF G h → Aw G mJ2_charAt (d + 1) 0 h Φ 0 [vR v0, vI v1] [] h) : Cw G mJ2_charAt (d + 1) 0 [vR v0, vI v1] h Φ := Cw.of rfl K
theorem dJ1_charAt_0 : decode cJ1_charAt 0 = .ok (.aload_n 0, 1) := by decide +kernel
theorem dJ1_charAt_1 : decode cJ1_charAt 1 = .ok (.invokevirtual 492, 3) := by decide +kernel
theorem dJ1_charAt_4 : decode cJ1_charAt 4 = .ok (.ifCond .eq 12, 3) := by decide +kernel
theorem dJ1_charAt_7 : decode cJ1_charAt 7 = .ok (.aload_n 0, 1) := by decide +kernel
theorem dJ1_charAt_8 : decode cJ1_charAt 8 = .ok (.getfield 9, 3) := by decide +kernel
theorem dJ1_charAt_11 : decode cJ1_charAt 11 = .ok (.iload_n 1, 1) := by decide +kernel
theorem dJ1_charAt_12 : decode cJ1_charAt 12 = .ok (.invokestatic 495, 3) := by decide +kernel
theorem dJ1_charAt_15 : decode cJ1_charAt 15 = .ok (.ireturn, 1) := by decide +kernel
theorem dJ1_charAt_16 : decode cJ1_charAt 16 = .ok (.aload_n 0, 1) := by decide +kernel
theorem dJ1_charAt_17 : decode cJ1_charAt 17 = .ok (.getfield 9, 3) := by decide +kernel
theorem dJ1_charAt_20 : decode cJ1_charAt 20 = .ok (.iload_n 1, 1) := by decide +kernel
theorem dJ1_charAt_21 : decode cJ1_charAt 21 = .ok (.invokestatic 498, 3) := by decide +kernel
theorem dJ1_charAt_24 : decode cJ1_charAt 24 = .ok (.ireturn, 1) := by decide +kernel
/-! java/lang/String.charAt(I)C -/
set_option maxHeartbeats 4000000 in
theorem sJ1_charAt_0 {G : Gx} {d t : Nat} {h0 : AH} {Φ : Out → AH → Prop} (h : AH) (v0 : Nat) (v1 : Int32) (K : h.kd v0 = 35 ∧ Cw G mJ1_isLatin1 d 0 [vR v0] h (kI (fun x1 h2 => ((x1 = 0 → ∀ r6 : Nat, r6 = (h2.r 35000 v0) → Cw G mJ4_charAt d 0 [vR r6, vI v1] h2 (kI (fun x7 h8 => narrow .char (.int x7) = .int x7 ∧ Φ (.inl (some (vI x7))) h8) (fun x h => Φ (.inr x) h))) ∧ (¬ x1 = 0 → ∀ r11 : Nat, r11 = (h2.r 35000 v0) → Cw G mJ2_charAt d 0 [vR r11, vI v1] h2 (kI (fun x12 h13 => narrow .char (.int x12) = .int x12 ∧ Φ (.inl (some (vI x12))) h13) (fun x h => Φ (.inr x) h))))) (fun x h => Φ (.inr x) h))) : Aw G mJ1_charAt (d + 1) t h0 Φ 0 [vR v0, vI v1] [] h := by
  refine r_aload_n (pc := 0) dJ1_charAt_0 rfl ?_
  obtain ⟨hk3, K⟩ := K
  refine r_callV_I (pc := 1) (Y := mJ1_isLatin1) (vs := []) (st := []) hk3 rfl kc35 q333 q334 q335 dJ1_charAt_1 rfl cd_J1_isLatin1 (cOk_of pf_J1_isLatin1 rfl) rfl fp_J1_charAt_J1_isLatin1 K (fun x1 h2 eh2 wh2 K => ?_) (fun x h1 _ _ e => Tw.out rfl e)
  refine r_if_eq (pc := 4) (tgt := 16) dJ1_charAt_4 rfl (fun c4 => ?_) (fun c4 => ?_)
  · have K := K.1 c4
    refine r_aload_n (pc := 16) dJ1_charAt_16 rfl ?_
    have hk5 := kd_ext eh2 hk3 (nz rfl)
    have K := K _ rfl
    refine r_getr' (pc := 17) (T := TJ1) 35 0 rfl hk5 (Or.inl q3263) dJ1_charAt_17 kc35 g35000 ?_
    refine r_iload_n (pc := 20) dJ1_charAt_20 rfl ?_
    refine r_callS_I (pc := 21) (Y := mJ4_charAt) (vs := [_, _]) (st := []) q348 q349 q159 dJ1_charAt_21 rfl cd_J4_charAt (cOk_of pf_J4_charAt rfl) rfl fp_J1_charAt_J4_charAt K (fun x7 h8 eh8 wh8 K => ?_) (fun x h1 _ _ e => Tw.out rfl e)
    obtain ⟨hb9, K⟩ := K
    exact r_iret (pc := 24) rfl hb9 dJ1_charAt_24 K
  · have K := K.2 c4
    refine r_aload_n (pc := 7) dJ1_charAt_7 rfl ?_
    have hk10 := kd_ext eh2 hk3 (nz rfl)
    have K := K _ rfl
    refine r_getr' (pc := 8) (T := TJ1) 35 0 rfl hk10 (Or.inl q3263) dJ1_charAt_8 kc35 g35000 ?_
    refine r_iload_n (pc := 11) dJ1_charAt_11 rfl ?_
    refine r_callS_I (pc := 12) (Y := mJ2_charAt) (vs := [_, _]) (st := []) q337 q338 q157 dJ1_charAt_12 rfl cd_J2_charAt (cOk_of pf_J2_charAt rfl) rfl fp_J1_charAt_J2_charAt K (fun x12 h13 eh13 wh13 K => ?_) (fun x h1 _ _ e => Tw.out rfl e)
    obtain ⟨hb14, K⟩ := K
    exact r_iret (pc := 15) rfl hb14 dJ1_charAt_15 K
theorem eJ1_charAt {G : Gx} {d : Nat} {Φ : Out → AH → Prop} (h : AH) (v0 : Nat) (v1 : Int32) (K : WF G h → Aw G mJ1_charAt (d + 1) 0 h Φ 0 [vR v0, vI v1] [] h) : Cw G mJ1_charAt (d + 1) 0 [vR v0, vI v1] h Φ := Cw.of rfl K
theorem dJ1_coder_0 : decode cJ1_coder 0 = .ok (.getstatic 38, 3) := by decide +kernel
theorem dJ1_coder_3 : decode cJ1_coder 3 = .ok (.ifCond .eq 10, 3) := by decide +kernel
theorem dJ1_coder_6 : decode cJ1_coder 6 = .ok (.aload_n 0, 1) := by decide +kernel
theorem dJ1_coder_7 : decode cJ1_coder 7 = .ok (.getfield 15, 3) := by decide +kernel
theorem dJ1_coder_10 : decode cJ1_coder 10 = .ok (.goto 4, 3) := by decide +kernel
theorem dJ1_coder_13 : decode cJ1_coder 13 = .ok (.iconst 1, 1) := by decide +kernel
theorem dJ1_coder_14 : decode cJ1_coder 14 = .ok (.ireturn, 1) := by decide +kernel
/-! java/lang/String.coder()B -/
set_option maxHeartbeats 4000000 in
theorem sJ1_coder_0 {G : Gx} {d t : Nat} {h0 : AH} {Φ : Out → AH → Prop} (h : AH) (v0 : Nat) (K : (((1 : Int32) = 0 → narrow .byte (.int 1) = .int 1 ∧ Φ (.inl (some (vI 1))) h) ∧ (¬ (1 : Int32) = 0 → h.kd v0 = 35 ∧ narrow .byte (.int (h.i 35001 v0)) = .int (h.i 35001 v0) ∧ Φ (.inl (some (vI (h.i 35001 v0)))) h))) : Aw G mJ1_coder (d + 1) t h0 Φ 0 [vR v0] [] h := by
  refine r_getsC (pc := 0) q323 dJ1_coder_0 ?_
  refine r_if_eq (pc := 3) (tgt := 13) dJ1_coder_3 rfl (fun c1 => ?_) (fun c1 => ?_)
  · have K := K.1 c1
    refine r_iconst (pc := 13) (x := 1) dJ1_coder_13 rfl ?_
    obtain ⟨hb2, K⟩ := K
    exact r_iret (pc := 14) rfl hb2 dJ1_coder_14 K
  · have K := K.2 c1
    refine r_aload_n (pc := 6) dJ1_coder_6 rfl ?_
    obtain ⟨hk3, K⟩ := K
    refine r_geti' (pc := 7) (T := TJ1) 35 1 rfl hk3 (Or.inl q3264) dJ1_coder_7 kc35 g35001 ?_
    refine r_goto (pc := 10) (tgt := 14) dJ1_coder_10 rfl ?_
    obtain ⟨hb4, K⟩ := K
    exact r_iret (pc := 14) rfl hb4 dJ1_coder_14 K
theorem eJ1_coder {G : Gx} {d : Nat} {Φ : Out → AH → Prop} (h : AH) (v0 : Nat) (K : WF G h → Aw G mJ1_coder (d + 1) 0 h Φ 0 [vR v0] [] h) : Cw G mJ1_coder (d + 1) 0 [vR v0] h Φ := Cw.of rfl K
theorem dJ1_length_0 : decode cJ1_length 0 = .ok (.aload_n 0, 1) := by decide +kernel
theorem dJ1_length_1 : decode cJ1_length 1 = .ok (.getfield 9, 3) := by decide +kernel
theorem dJ1_length_4 : decode cJ1_length 4 = .ok (.arraylength, 1) := by decide +kernel
theorem dJ1_length_5 : decode cJ1_length 5 = .ok (.aload_n 0, 1) := by decide +kernel
theorem dJ1_length_6 : decode cJ1_length 6 = .ok (.invokevirtual 335, 3) := by decide +kernel
theorem dJ1_length_9 : decode cJ1_length 9 = .ok (.ishr, 1) := by decide +kernel
theorem dJ1_length_10 : decode cJ1_length 10 = .ok (.ireturn, 1) := by decide +kernel
/-! java/lang/String.length()I -/
set_option maxHeartbeats 4000000 in
theorem sJ1_length_0 {G : Gx} {d t : Nat} {h0 : AH} {Φ : Out → AH → Prop} (h : AH) (v0 : Nat) (K : h.kd v0 = 35 ∧ ∀ r2 : Nat, r2 = (h.r 35000 v0) → h.kd r2 = 119 ∧ Cw G mJ1_coder d 0 [vR v0] h (kI (fun x4 h5 => Φ (.inl (some (vI (jshr (nI (h.ai r2).length) x4)))) h5) (fun x h => Φ (.inr x) h))) : Aw G mJ1_length (d + 1) t h0 Φ 0 [vR v0] [] h := by
  refine r_aload_n (pc := 0) dJ1_length_0 rfl ?_
  obtain ⟨hk1, K⟩ := K
  have K := K _ rfl
  refine r_getr' (pc := 1) (T := TJ1) 35 0 rfl hk1 (Or.inl q3263) dJ1_length_1 kc35 g35000 ?_
  obtain ⟨hk3, K⟩ := K
  refine r_alenRo (pc := 4) hk3 dJ1_length_4 ?_
  refine r_aload_n (pc := 5) dJ1_length_5 rfl ?_
  refine r_callV_I (pc := 6) (Y := mJ1_coder) (vs := []) (st := [_]) hk1 rfl kc35 q319 q320 q321 dJ1_length_6 rfl cd_J1_coder (cOk_of pf_J1_coder rfl) rfl fp_J1_length_J1_coder K (fun x4 h5 eh5 wh5 K => ?_) (fun x h1 _ _ e => Tw.out rfl e)
  refine r_jshr (pc := 9) dJ1_length_9 ?_
  exact r_iret (pc := 10) rfl rfl dJ1_length_10 K
theorem eJ1_length {G : Gx} {d : Nat} {Φ : Out → AH → Prop} (h : AH) (v0 : Nat) (K : WF G h → Aw G mJ1_length (d + 1) 0 h Φ 0 [vR v0] [] h) : Cw G mJ1_length (d + 1) 0 [vR v0] h Φ := Cw.of rfl K
theorem dX21_init_0 : decode cX21_init 0 = .ok (.aload_n 0, 1) := by decide +kernel
theorem dX21_init_1 : decode cX21_init 1 = .ok (.invokespecial 1, 3) := by decide +kernel
theorem dX21_init_4 : decode cX21_init 4 = .ok (.aload_n 0, 1) := by decide +kernel
theorem dX21_init_5 : decode cX21_init 5 = .ok (.iload_n 1, 1) := by decide +kernel
theorem dX21_init_6 : decode cX21_init 6 = .ok (.putfield 7, 3) := by decide +kernel
theorem dX21_init_9 : decode cX21_init 9 = .ok (.return_, 1) := by decide +kernel
/-! CoinJudge$Refused.<init>(I)V -/
set_option maxHeartbeats 4000000 in
theorem sX21_init_0 {G : Gx} {d t : Nat} {h0 : AH} {Φ : Out → AH → Prop} (h : AH) (v0 : Nat) (v1 : Int32) (K : h.kd v0 = 21 ∧ h.r 21004 v0 = 0 ∧ 5 ≤ d ∧ ∀ h4 : AH, h4 = exH G 21 v0 h → ∀ h6 : AH, h6 = h4.pi 21006 v0 v1 → Φ (.inl none) h6) : Aw G mX21_init (d + 1) v0 h0 Φ 0 [vR v0, vI v1] [] h := by
  refine r_aload_n (pc := 0) dX21_init_0 rfl ?_
  obtain ⟨hk1, K⟩ := K
  obtain ⟨hb2, K⟩ := K
  obtain ⟨hd3, K⟩ := K
  refine r_exInit (pc := 1) 21 _ hd3 hk1 hb2 (Or.inl rfl) kc21 rfl ex_21 (Or.inl q1241) dX21_init_1 rfl ?_
  refine r_nameH (fun h4 eh4 => ?_)
  have K := K h4 eh4
  refine r_aload_n (pc := 4) dX21_init_4 rfl ?_
  refine r_iload_n (pc := 5) dX21_init_5 rfl ?_
  have hk5 := kd_exH eh4 hk1
  refine r_puti (pc := 6) (T := TX21) (key := 21006) 21 6 hk5 (Or.inl q1242) dX21_init_6 kc21 rfl (Or.inr q1242) (Or.inr (Or.inl rfl)) ?_
  refine r_nameH (fun h6 eh6 => ?_)
  have K := K h6 eh6
  exact r_vret (pc := 9) rfl dX21_init_9 K
theorem eX21_init {G : Gx} {d : Nat} {Φ : Out → AH → Prop} (h : AH) (v0 : Nat) (v1 : Int32) (K : WF G h → Aw G mX21_init (d + 1) v0 h Φ 0 [vR v0, vI v1] [] h) : Cw G mX21_init (d + 1) v0 [vR v0, vI v1] h Φ := Cw.of rfl K
theorem dX21_why_0 : decode cX21_why 0 = .ok (.aload_n 0, 1) := by decide +kernel
theorem dX21_why_1 : decode cX21_why 1 = .ok (.getfield 7, 3) := by decide +kernel
theorem dX21_why_4 : decode cX21_why 4 = .ok (.ireturn, 1) := by decide +kernel
/-! CoinJudge$Refused.why()I -/
set_option maxHeartbeats 4000000 in
theorem sX21_why_0 {G : Gx} {d t : Nat} {h0 : AH} {Φ : Out → AH → Prop} (h : AH) (v0 : Nat) (K : h.kd v0 = 21 ∧ Φ (.inl (some (vI (h.i 21006 v0)))) h) : Aw G mX21_why (d + 1) t h0 Φ 0 [vR v0] [] h := by
  refine r_aload_n (pc := 0) dX21_why_0 rfl ?_
  obtain ⟨hk1, K⟩ := K
  refine r_geti' (pc := 1) (T := TX21) 21 6 rfl hk1 (Or.inl q1242) dX21_why_1 kc21 g21006 ?_
  exact r_iret (pc := 4) rfl rfl dX21_why_4 K
theorem eX21_why {G : Gx} {d : Nat} {Φ : Out → AH → Prop} (h : AH) (v0 : Nat) (K : WF G h → Aw G mX21_why (d + 1) 0 h Φ 0 [vR v0] [] h) : Cw G mX21_why (d + 1) 0 [vR v0] h Φ := Cw.of rfl K

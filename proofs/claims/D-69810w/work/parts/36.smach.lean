/-! printed by gen/segs.py: decode rows and segment lemmas of: X7_length X7_asks X7_at X7_drop X7_need X7_pushes X7_top X7_branch X7_never X7_push X7_cleaned X7_code X7_encoded X7_truth X7_verify X7_several X7_single X7_copy X7_digested X7_later X7_numbers X7_roll X7_step X7_run X7_unlocks X7_init -/
set_option maxRecDepth 100000
theorem dX7_length_0 : decode cX7_length 0 = .ok (.aload_n 0, 1) := by decide +kernel
theorem dX7_length_1 : decode cX7_length 1 = .ok (.iload_n 1, 1) := by decide +kernel
theorem dX7_length_2 : decode cX7_length 2 = .ok (.baload, 1) := by decide +kernel
theorem dX7_length_3 : decode cX7_length 3 = .ok (.sipush 255, 3) := by decide +kernel
theorem dX7_length_6 : decode cX7_length 6 = .ok (.iand, 1) := by decide +kernel
theorem dX7_length_7 : decode cX7_length 7 = .ok (.istore_n 3, 1) := by decide +kernel
theorem dX7_length_8 : decode cX7_length 8 = .ok (.iload_n 3, 1) := by decide +kernel
theorem dX7_length_9 : decode cX7_length 9 = .ok (.bipush 76, 2) := by decide +kernel
theorem dX7_length_11 : decode cX7_length 11 = .ok (.if_icmp .ge 7, 3) := by decide +kernel
theorem dX7_length_14 : decode cX7_length 14 = .ok (.iload_n 3, 1) := by decide +kernel
theorem dX7_length_15 : decode cX7_length 15 = .ok (.goto 4, 3) := by decide +kernel
theorem dX7_length_18 : decode cX7_length 18 = .ok (.iconst 0, 1) := by decide +kernel
theorem dX7_length_19 : decode cX7_length 19 = .ok (.istore 4, 2) := by decide +kernel
theorem dX7_length_21 : decode cX7_length 21 = .ok (.iconst 1, 1) := by decide +kernel
theorem dX7_length_22 : decode cX7_length 22 = .ok (.istore 5, 2) := by decide +kernel
theorem dX7_length_24 : decode cX7_length 24 = .ok (.iload_n 3, 1) := by decide +kernel
theorem dX7_length_25 : decode cX7_length 25 = .ok (.bipush 76, 2) := by decide +kernel
theorem dX7_length_27 : decode cX7_length 27 = .ok (.if_icmp .lt 87, 3) := by decide +kernel
theorem dX7_length_30 : decode cX7_length 30 = .ok (.iload_n 3, 1) := by decide +kernel
theorem dX7_length_31 : decode cX7_length 31 = .ok (.bipush 78, 2) := by decide +kernel
theorem dX7_length_33 : decode cX7_length 33 = .ok (.if_icmp .gt 81, 3) := by decide +kernel
theorem dX7_length_36 : decode cX7_length 36 = .ok (.iload_n 3, 1) := by decide +kernel
theorem dX7_length_37 : decode cX7_length 37 = .ok (.bipush 76, 2) := by decide +kernel
theorem dX7_length_39 : decode cX7_length 39 = .ok (.if_icmp .ne 7, 3) := by decide +kernel
theorem dX7_length_42 : decode cX7_length 42 = .ok (.iconst 2, 1) := by decide +kernel
theorem dX7_length_43 : decode cX7_length 43 = .ok (.goto 14, 3) := by decide +kernel
theorem dX7_length_46 : decode cX7_length 46 = .ok (.iload_n 3, 1) := by decide +kernel
theorem dX7_length_47 : decode cX7_length 47 = .ok (.bipush 77, 2) := by decide +kernel
theorem dX7_length_49 : decode cX7_length 49 = .ok (.if_icmp .ne 7, 3) := by decide +kernel
theorem dX7_length_52 : decode cX7_length 52 = .ok (.iconst 3, 1) := by decide +kernel
theorem dX7_length_53 : decode cX7_length 53 = .ok (.goto 4, 3) := by decide +kernel
theorem dX7_length_56 : decode cX7_length 56 = .ok (.iconst 5, 1) := by decide +kernel
theorem dX7_length_57 : decode cX7_length 57 = .ok (.istore 5, 2) := by decide +kernel
theorem dX7_length_59 : decode cX7_length 59 = .ok (.iload_n 1, 1) := by decide +kernel
theorem dX7_length_60 : decode cX7_length 60 = .ok (.iload 5, 2) := by decide +kernel
theorem dX7_length_62 : decode cX7_length 62 = .ok (.iadd, 1) := by decide +kernel
theorem dX7_length_63 : decode cX7_length 63 = .ok (.iload_n 2, 1) := by decide +kernel
theorem dX7_length_64 : decode cX7_length 64 = .ok (.if_icmp .le 5, 3) := by decide +kernel
theorem dX7_length_67 : decode cX7_length 67 = .ok (.iconst 0, 1) := by decide +kernel
theorem dX7_length_68 : decode cX7_length 68 = .ok (.ireturn, 1) := by decide +kernel
theorem dX7_length_69 : decode cX7_length 69 = .ok (.iload 5, 2) := by decide +kernel
theorem dX7_length_71 : decode cX7_length 71 = .ok (.iconst 1, 1) := by decide +kernel
theorem dX7_length_72 : decode cX7_length 72 = .ok (.isub, 1) := by decide +kernel
theorem dX7_length_73 : decode cX7_length 73 = .ok (.istore 6, 2) := by decide +kernel
theorem dX7_length_75 : decode cX7_length 75 = .ok (.iload 6, 2) := by decide +kernel
theorem dX7_length_77 : decode cX7_length 77 = .ok (.ifCond .le 37, 3) := by decide +kernel
theorem dX7_length_80 : decode cX7_length 80 = .ok (.iload 4, 2) := by decide +kernel
theorem dX7_length_82 : decode cX7_length 82 = .ok (.sipush 4095, 3) := by decide +kernel
theorem dX7_length_85 : decode cX7_length 85 = .ok (.if_icmp .le 5, 3) := by decide +kernel
theorem dX7_length_88 : decode cX7_length 88 = .ok (.iconst 0, 1) := by decide +kernel
theorem dX7_length_89 : decode cX7_length 89 = .ok (.ireturn, 1) := by decide +kernel
theorem dX7_length_90 : decode cX7_length 90 = .ok (.iload 4, 2) := by decide +kernel
theorem dX7_length_92 : decode cX7_length 92 = .ok (.bipush 8, 2) := by decide +kernel
theorem dX7_length_94 : decode cX7_length 94 = .ok (.ishl, 1) := by decide +kernel
theorem dX7_length_95 : decode cX7_length 95 = .ok (.aload_n 0, 1) := by decide +kernel
theorem dX7_length_96 : decode cX7_length 96 = .ok (.iload_n 1, 1) := by decide +kernel
theorem dX7_length_97 : decode cX7_length 97 = .ok (.iload 6, 2) := by decide +kernel
theorem dX7_length_99 : decode cX7_length 99 = .ok (.iadd, 1) := by decide +kernel
theorem dX7_length_100 : decode cX7_length 100 = .ok (.baload, 1) := by decide +kernel
theorem dX7_length_101 : decode cX7_length 101 = .ok (.sipush 255, 3) := by decide +kernel
theorem dX7_length_104 : decode cX7_length 104 = .ok (.iand, 1) := by decide +kernel
theorem dX7_length_105 : decode cX7_length 105 = .ok (.ior, 1) := by decide +kernel
theorem dX7_length_106 : decode cX7_length 106 = .ok (.istore 4, 2) := by decide +kernel
theorem dX7_length_108 : decode cX7_length 108 = .ok (.iinc 6 (-1), 3) := by decide +kernel
theorem dX7_length_111 : decode cX7_length 111 = .ok (.goto (-36), 3) := by decide +kernel
theorem dX7_length_114 : decode cX7_length 114 = .ok (.iload 4, 2) := by decide +kernel
theorem dX7_length_116 : decode cX7_length 116 = .ok (.iload_n 2, 1) := by decide +kernel
theorem dX7_length_117 : decode cX7_length 117 = .ok (.iload_n 1, 1) := by decide +kernel
theorem dX7_length_118 : decode cX7_length 118 = .ok (.isub, 1) := by decide +kernel
theorem dX7_length_119 : decode cX7_length 119 = .ok (.iload 5, 2) := by decide +kernel
theorem dX7_length_121 : decode cX7_length 121 = .ok (.isub, 1) := by decide +kernel
theorem dX7_length_122 : decode cX7_length 122 = .ok (.if_icmp .le 7, 3) := by decide +kernel
theorem dX7_length_125 : decode cX7_length 125 = .ok (.iconst 0, 1) := by decide +kernel
theorem dX7_length_126 : decode cX7_length 126 = .ok (.goto 8, 3) := by decide +kernel
theorem dX7_length_129 : decode cX7_length 129 = .ok (.iload 5, 2) := by decide +kernel
theorem dX7_length_131 : decode cX7_length 131 = .ok (.iload 4, 2) := by decide +kernel
theorem dX7_length_133 : decode cX7_length 133 = .ok (.iadd, 1) := by decide +kernel
theorem dX7_length_134 : decode cX7_length 134 = .ok (.ireturn, 1) := by decide +kernel
/-! CoinJudge$Machine.length([BII)I -/
set_option maxHeartbeats 4000000 in
theorem sX7_length_0 {G : Gx} {d t : Nat} {h0 : AH} {Φ : Out → AH → Prop} (h : AH) (v0 : Nat) (v1 : Int32) (v2 : Int32) (K : h.kd v0 = 101 ∧ vp_in v1 (h.ai v0).length ∧ ∀ u3 : Int32, u3 = (((h.ai v0).getD (v1.toNatClampNeg) 0) &&& 255) → ((76 ≤ u3 → ((u3 < 76 → Aw G mX7_length (d + 1) t h0 Φ 114 [vU, vI v1, vI v2, vU, vI 0, vI 1, vU] [] h) ∧ (¬ u3 < 76 → ((78 < u3 → Aw G mX7_length (d + 1) t h0 Φ 114 [vU, vI v1, vI v2, vU, vI 0, vI 1, vU] [] h) ∧ (¬ 78 < u3 → ((¬ u3 = 76 → ((¬ u3 = 77 → (((v1 + 5) ≤ v2 → Aw G mX7_length (d + 1) t h0 Φ 75 [vR v0, vI v1, vI v2, vU, vI 0, vI 5, vI (5 - 1)] [] h) ∧ (¬ (v1 + 5) ≤ v2 → Φ (.inl (some (vI 0))) h))) ∧ (u3 = 77 → (((v1 + 3) ≤ v2 → Aw G mX7_length (d + 1) t h0 Φ 75 [vR v0, vI v1, vI v2, vU, vI 0, vI 3, vI (3 - 1)] [] h) ∧ (¬ (v1 + 3) ≤ v2 → Φ (.inl (some (vI 0))) h))))) ∧ (u3 = 76 → (((v1 + 2) ≤ v2 → Aw G mX7_length (d + 1) t h0 Φ 75 [vR v0, vI v1, vI v2, vU, vI 0, vI 2, vI (2 - 1)] [] h) ∧ (¬ (v1 + 2) ≤ v2 → Φ (.inl (some (vI 0))) h))))))))) ∧ (¬ 76 ≤ u3 → ((u3 < 76 → Aw G mX7_length (d + 1) t h0 Φ 114 [vU, vI v1, vI v2, vU, vI u3, vI 1, vU] [] h) ∧ (¬ u3 < 76 → ((78 < u3 → Aw G mX7_length (d + 1) t h0 Φ 114 [vU, vI v1, vI v2, vU, vI u3, vI 1, vU] [] h) ∧ (¬ 78 < u3 → ((¬ u3 = 76 → ((¬ u3 = 77 → (((v1 + 5) ≤ v2 → Aw G mX7_length (d + 1) t h0 Φ 75 [vR v0, vI v1, vI v2, vU, vI u3, vI 5, vI (5 - 1)] [] h) ∧ (¬ (v1 + 5) ≤ v2 → Φ (.inl (some (vI 0))) h))) ∧ (u3 = 77 → (((v1 + 3) ≤ v2 → Aw G mX7_length (d + 1) t h0 Φ 75 [vR v0, vI v1, vI v2, vU, vI u3, vI 3, vI (3 - 1)] [] h) ∧ (¬ (v1 + 3) ≤ v2 → Φ (.inl (some (vI 0))) h))))) ∧ (u3 = 76 → (((v1 + 2) ≤ v2 → Aw G mX7_length (d + 1) t h0 Φ 75 [vR v0, vI v1, vI v2, vU, vI u3, vI 2, vI (2 - 1)] [] h) ∧ (¬ (v1 + 2) ≤ v2 → Φ (.inl (some (vI 0))) h))))))))))) : Aw G mX7_length (d + 1) t h0 Φ 0 [vR v0, vI v1, vI v2, vU, vU, vU, vU] [] h := by
  refine r_aload_n (pc := 0) dX7_length_0 rfl ?_
  refine r_iload_n (pc := 1) dX7_length_1 rfl ?_
  obtain ⟨hk1, K⟩ := K
  obtain ⟨hi2, K⟩ := K
  refine r_baload (pc := 2) hk1 hi2 dX7_length_2 ?_
  refine r_sipush (pc := 3) (x := 255) dX7_length_3 rfl ?_
  refine r_iand (pc := 6) dX7_length_6 ?_
  have K := K _ rfl
  refine r_istore_n (pc := 7) (lv' := [_, _, _, _, _, _, _]) dX7_length_7 (by decide) rfl ?_
  refine r_iload_n (pc := 8) dX7_length_8 rfl ?_
  refine r_bipush (pc := 9) (x := 76) dX7_length_9 rfl ?_
  refine r_icmp_ge (pc := 11) (tgt := 18) dX7_length_11 rfl (fun c4 => ?_) (fun c4 => ?_)
  · have K := K.1 c4
    refine r_iconst (pc := 18) (x := 0) dX7_length_18 rfl ?_
    refine r_istore (pc := 19) (lv' := [_, _, _, _, _, _, _]) dX7_length_19 (by decide) rfl ?_
    refine r_iconst (pc := 21) (x := 1) dX7_length_21 rfl ?_
    refine r_istore (pc := 22) (lv' := [_, _, _, _, _, _, _]) dX7_length_22 (by decide) rfl ?_
    refine r_iload_n (pc := 24) dX7_length_24 rfl ?_
    refine r_bipush (pc := 25) (x := 76) dX7_length_25 rfl ?_
    refine r_icmp_lt (pc := 27) (tgt := 114) dX7_length_27 rfl (fun c5 => ?_) (fun c5 => ?_)
    · have K := K.1 c5
      refine r_mask (pc := 114) [false, true, true, false, true, true, false] rfl ?_
      exact K
    · have K := K.2 c5
      refine r_iload_n (pc := 30) dX7_length_30 rfl ?_
      refine r_bipush (pc := 31) (x := 78) dX7_length_31 rfl ?_
      refine r_icmp_gt (pc := 33) (tgt := 114) dX7_length_33 rfl (fun c6 => ?_) (fun c6 => ?_)
      · have K := K.1 c6
        refine r_mask (pc := 114) [false, true, true, false, true, true, false] rfl ?_
        exact K
      · have K := K.2 c6
        refine r_iload_n (pc := 36) dX7_length_36 rfl ?_
        refine r_bipush (pc := 37) (x := 76) dX7_length_37 rfl ?_
        refine r_icmp_ne (pc := 39) (tgt := 46) dX7_length_39 rfl (fun c7 => ?_) (fun c7 => ?_)
        · have K := K.1 c7
          refine r_iload_n (pc := 46) dX7_length_46 rfl ?_
          refine r_bipush (pc := 47) (x := 77) dX7_length_47 rfl ?_
          refine r_icmp_ne (pc := 49) (tgt := 56) dX7_length_49 rfl (fun c8 => ?_) (fun c8 => ?_)
          · have K := K.1 c8
            refine r_iconst (pc := 56) (x := 5) dX7_length_56 rfl ?_
            refine r_istore (pc := 57) (lv' := [_, _, _, _, _, _, _]) dX7_length_57 (by decide) rfl ?_
            refine r_iload_n (pc := 59) dX7_length_59 rfl ?_
            refine r_iload (pc := 60) dX7_length_60 rfl ?_
            refine r_iadd (pc := 62) dX7_length_62 ?_
            refine r_iload_n (pc := 63) dX7_length_63 rfl ?_
            refine r_icmp_le (pc := 64) (tgt := 69) dX7_length_64 rfl (fun c9 => ?_) (fun c9 => ?_)
            · have K := K.1 c9
              refine r_iload (pc := 69) dX7_length_69 rfl ?_
              refine r_iconst (pc := 71) (x := 1) dX7_length_71 rfl ?_
              refine r_isub (pc := 72) dX7_length_72 ?_
              refine r_istore (pc := 73) (lv' := [_, _, _, _, _, _, _]) dX7_length_73 (by decide) rfl ?_
              refine r_mask (pc := 75) [true, true, true, false, true, true, true] rfl ?_
              exact K
            · have K := K.2 c9
              refine r_iconst (pc := 67) (x := 0) dX7_length_67 rfl ?_
              exact r_iret (pc := 68) rfl rfl dX7_length_68 K
          · have K := K.2 c8
            refine r_iconst (pc := 52) (x := 3) dX7_length_52 rfl ?_
            refine r_goto (pc := 53) (tgt := 57) dX7_length_53 rfl ?_
            refine r_istore (pc := 57) (lv' := [_, _, _, _, _, _, _]) dX7_length_57 (by decide) rfl ?_
            refine r_iload_n (pc := 59) dX7_length_59 rfl ?_
            refine r_iload (pc := 60) dX7_length_60 rfl ?_
            refine r_iadd (pc := 62) dX7_length_62 ?_
            refine r_iload_n (pc := 63) dX7_length_63 rfl ?_
            refine r_icmp_le (pc := 64) (tgt := 69) dX7_length_64 rfl (fun c10 => ?_) (fun c10 => ?_)
            · have K := K.1 c10
              refine r_iload (pc := 69) dX7_length_69 rfl ?_
              refine r_iconst (pc := 71) (x := 1) dX7_length_71 rfl ?_
              refine r_isub (pc := 72) dX7_length_72 ?_
              refine r_istore (pc := 73) (lv' := [_, _, _, _, _, _, _]) dX7_length_73 (by decide) rfl ?_
              refine r_mask (pc := 75) [true, true, true, false, true, true, true] rfl ?_
              exact K
            · have K := K.2 c10
              refine r_iconst (pc := 67) (x := 0) dX7_length_67 rfl ?_
              exact r_iret (pc := 68) rfl rfl dX7_length_68 K
        · have K := K.2 c7
          refine r_iconst (pc := 42) (x := 2) dX7_length_42 rfl ?_
          refine r_goto (pc := 43) (tgt := 57) dX7_length_43 rfl ?_
          refine r_istore (pc := 57) (lv' := [_, _, _, _, _, _, _]) dX7_length_57 (by decide) rfl ?_
          refine r_iload_n (pc := 59) dX7_length_59 rfl ?_
          refine r_iload (pc := 60) dX7_length_60 rfl ?_
          refine r_iadd (pc := 62) dX7_length_62 ?_
          refine r_iload_n (pc := 63) dX7_length_63 rfl ?_
          refine r_icmp_le (pc := 64) (tgt := 69) dX7_length_64 rfl (fun c11 => ?_) (fun c11 => ?_)
          · have K := K.1 c11
            refine r_iload (pc := 69) dX7_length_69 rfl ?_
            refine r_iconst (pc := 71) (x := 1) dX7_length_71 rfl ?_
            refine r_isub (pc := 72) dX7_length_72 ?_
            refine r_istore (pc := 73) (lv' := [_, _, _, _, _, _, _]) dX7_length_73 (by decide) rfl ?_
            refine r_mask (pc := 75) [true, true, true, false, true, true, true] rfl ?_
            exact K
          · have K := K.2 c11
            refine r_iconst (pc := 67) (x := 0) dX7_length_67 rfl ?_
            exact r_iret (pc := 68) rfl rfl dX7_length_68 K
  · have K := K.2 c4
    refine r_iload_n (pc := 14) dX7_length_14 rfl ?_
    refine r_goto (pc := 15) (tgt := 19) dX7_length_15 rfl ?_
    refine r_istore (pc := 19) (lv' := [_, _, _, _, _, _, _]) dX7_length_19 (by decide) rfl ?_
    refine r_iconst (pc := 21) (x := 1) dX7_length_21 rfl ?_
    refine r_istore (pc := 22) (lv' := [_, _, _, _, _, _, _]) dX7_length_22 (by decide) rfl ?_
    refine r_iload_n (pc := 24) dX7_length_24 rfl ?_
    refine r_bipush (pc := 25) (x := 76) dX7_length_25 rfl ?_
    refine r_icmp_lt (pc := 27) (tgt := 114) dX7_length_27 rfl (fun c12 => ?_) (fun c12 => ?_)
    · have K := K.1 c12
      refine r_mask (pc := 114) [false, true, true, false, true, true, false] rfl ?_
      exact K
    · have K := K.2 c12
      refine r_iload_n (pc := 30) dX7_length_30 rfl ?_
      refine r_bipush (pc := 31) (x := 78) dX7_length_31 rfl ?_
      refine r_icmp_gt (pc := 33) (tgt := 114) dX7_length_33 rfl (fun c13 => ?_) (fun c13 => ?_)
      · have K := K.1 c13
        refine r_mask (pc := 114) [false, true, true, false, true, true, false] rfl ?_
        exact K
      · have K := K.2 c13
        refine r_iload_n (pc := 36) dX7_length_36 rfl ?_
        refine r_bipush (pc := 37) (x := 76) dX7_length_37 rfl ?_
        refine r_icmp_ne (pc := 39) (tgt := 46) dX7_length_39 rfl (fun c14 => ?_) (fun c14 => ?_)
        · have K := K.1 c14
          refine r_iload_n (pc := 46) dX7_length_46 rfl ?_
          refine r_bipush (pc := 47) (x := 77) dX7_length_47 rfl ?_
          refine r_icmp_ne (pc := 49) (tgt := 56) dX7_length_49 rfl (fun c15 => ?_) (fun c15 => ?_)
          · have K := K.1 c15
            refine r_iconst (pc := 56) (x := 5) dX7_length_56 rfl ?_
            refine r_istore (pc := 57) (lv' := [_, _, _, _, _, _, _]) dX7_length_57 (by decide) rfl ?_
            refine r_iload_n (pc := 59) dX7_length_59 rfl ?_
            refine r_iload (pc := 60) dX7_length_60 rfl ?_
            refine r_iadd (pc := 62) dX7_length_62 ?_
            refine r_iload_n (pc := 63) dX7_length_63 rfl ?_
            refine r_icmp_le (pc := 64) (tgt := 69) dX7_length_64 rfl (fun c16 => ?_) (fun c16 => ?_)
            · have K := K.1 c16
              refine r_iload (pc := 69) dX7_length_69 rfl ?_
              refine r_iconst (pc := 71) (x := 1) dX7_length_71 rfl ?_
              refine r_isub (pc := 72) dX7_length_72 ?_
              refine r_istore (pc := 73) (lv' := [_, _, _, _, _, _, _]) dX7_length_73 (by decide) rfl ?_
              refine r_mask (pc := 75) [true, true, true, false, true, true, true] rfl ?_
              exact K
            · have K := K.2 c16
              refine r_iconst (pc := 67) (x := 0) dX7_length_67 rfl ?_
              exact r_iret (pc := 68) rfl rfl dX7_length_68 K
          · have K := K.2 c15
            refine r_iconst (pc := 52) (x := 3) dX7_length_52 rfl ?_
            refine r_goto (pc := 53) (tgt := 57) dX7_length_53 rfl ?_
            refine r_istore (pc := 57) (lv' := [_, _, _, _, _, _, _]) dX7_length_57 (by decide) rfl ?_
            refine r_iload_n (pc := 59) dX7_length_59 rfl ?_
            refine r_iload (pc := 60) dX7_length_60 rfl ?_
            refine r_iadd (pc := 62) dX7_length_62 ?_
            refine r_iload_n (pc := 63) dX7_length_63 rfl ?_
            refine r_icmp_le (pc := 64) (tgt := 69) dX7_length_64 rfl (fun c17 => ?_) (fun c17 => ?_)
            · have K := K.1 c17
              refine r_iload (pc := 69) dX7_length_69 rfl ?_
              refine r_iconst (pc := 71) (x := 1) dX7_length_71 rfl ?_
              refine r_isub (pc := 72) dX7_length_72 ?_
              refine r_istore (pc := 73) (lv' := [_, _, _, _, _, _, _]) dX7_length_73 (by decide) rfl ?_
              refine r_mask (pc := 75) [true, true, true, false, true, true, true] rfl ?_
              exact K
            · have K := K.2 c17
              refine r_iconst (pc := 67) (x := 0) dX7_length_67 rfl ?_
              exact r_iret (pc := 68) rfl rfl dX7_length_68 K
        · have K := K.2 c14
          refine r_iconst (pc := 42) (x := 2) dX7_length_42 rfl ?_
          refine r_goto (pc := 43) (tgt := 57) dX7_length_43 rfl ?_
          refine r_istore (pc := 57) (lv' := [_, _, _, _, _, _, _]) dX7_length_57 (by decide) rfl ?_
          refine r_iload_n (pc := 59) dX7_length_59 rfl ?_
          refine r_iload (pc := 60) dX7_length_60 rfl ?_
          refine r_iadd (pc := 62) dX7_length_62 ?_
          refine r_iload_n (pc := 63) dX7_length_63 rfl ?_
          refine r_icmp_le (pc := 64) (tgt := 69) dX7_length_64 rfl (fun c18 => ?_) (fun c18 => ?_)
          · have K := K.1 c18
            refine r_iload (pc := 69) dX7_length_69 rfl ?_
            refine r_iconst (pc := 71) (x := 1) dX7_length_71 rfl ?_
            refine r_isub (pc := 72) dX7_length_72 ?_
            refine r_istore (pc := 73) (lv' := [_, _, _, _, _, _, _]) dX7_length_73 (by decide) rfl ?_
            refine r_mask (pc := 75) [true, true, true, false, true, true, true] rfl ?_
            exact K
          · have K := K.2 c18
            refine r_iconst (pc := 67) (x := 0) dX7_length_67 rfl ?_
            exact r_iret (pc := 68) rfl rfl dX7_length_68 K
theorem eX7_length {G : Gx} {d : Nat} {Φ : Out → AH → Prop} (h : AH) (v0 : Nat) (v1 : Int32) (v2 : Int32) (K : WF G h → Aw G mX7_length (d + 1) 0 h Φ 0 [vR v0, vI v1, vI v2, vU, vU, vU, vU] [] h) : Cw G mX7_length (d + 1) 0 [vR v0, vI v1, vI v2] h Φ := Cw.of rfl K
set_option maxHeartbeats 4000000 in
theorem sX7_length_75 {G : Gx} {d t : Nat} {h0 : AH} {Φ : Out → AH → Prop} (h : AH) (v0 : Nat) (v1 : Int32) (v2 : Int32) (v4 : Int32) (v5 : Int32) (v6 : Int32) (K : ((v6 ≤ 0 → Aw G mX7_length (d + 1) t h0 Φ 114 [vU, vI v1, vI v2, vU, vI v4, vI v5, vU] [] h) ∧ (¬ v6 ≤ 0 → ((v4 ≤ 4095 → h.kd v0 = 101 ∧ vp_in (v1 + v6) (h.ai v0).length ∧ ∀ u5 : Int32, u5 = ((jshl v4 8) ||| (((h.ai v0).getD ((v1 + v6).toNatClampNeg) 0) &&& 255)) → Aw G mX7_length (d + 1) t h0 Φ 75 [vR v0, vI v1, vI v2, vU, vI u5, vI v5, vI (v6 + (-1))] [] h) ∧ (¬ v4 ≤ 4095 → Φ (.inl (some (vI 0))) h))))) : Aw G mX7_length (d + 1) t h0 Φ 75 [vR v0, vI v1, vI v2, vU, vI v4, vI v5, vI v6] [] h := by
  refine r_iload (pc := 75) dX7_length_75 rfl ?_
  refine r_if_le (pc := 77) (tgt := 114) dX7_length_77 rfl (fun c1 => ?_) (fun c1 => ?_)
  · have K := K.1 c1
    refine r_mask (pc := 114) [false, true, true, false, true, true, false] rfl ?_
    exact K
  · have K := K.2 c1
    refine r_iload (pc := 80) dX7_length_80 rfl ?_
    refine r_sipush (pc := 82) (x := 4095) dX7_length_82 rfl ?_
    refine r_icmp_le (pc := 85) (tgt := 90) dX7_length_85 rfl (fun c2 => ?_) (fun c2 => ?_)
    · have K := K.1 c2
      refine r_iload (pc := 90) dX7_length_90 rfl ?_
      refine r_bipush (pc := 92) (x := 8) dX7_length_92 rfl ?_
      refine r_jshl (pc := 94) dX7_length_94 ?_
      refine r_aload_n (pc := 95) dX7_length_95 rfl ?_
      refine r_iload_n (pc := 96) dX7_length_96 rfl ?_
      refine r_iload (pc := 97) dX7_length_97 rfl ?_
      refine r_iadd (pc := 99) dX7_length_99 ?_
      obtain ⟨hk3, K⟩ := K
      obtain ⟨hi4, K⟩ := K
      refine r_baload (pc := 100) hk3 hi4 dX7_length_100 ?_
      refine r_sipush (pc := 101) (x := 255) dX7_length_101 rfl ?_
      refine r_iand (pc := 104) dX7_length_104 ?_
      refine r_ior (pc := 105) dX7_length_105 ?_
      have K := K _ rfl
      refine r_istore (pc := 106) (lv' := [_, _, _, _, _, _, _]) dX7_length_106 (by decide) rfl ?_
      refine r_iinc (pc := 108) (lv' := [_, _, _, _, _, _, _]) dX7_length_108 rfl rfl (by decide) rfl ?_
      refine r_goto (pc := 111) (tgt := 75) dX7_length_111 rfl ?_
      refine r_mask (pc := 75) [true, true, true, false, true, true, true] rfl ?_
      exact K
    · have K := K.2 c2
      refine r_iconst (pc := 88) (x := 0) dX7_length_88 rfl ?_
      exact r_iret (pc := 89) rfl rfl dX7_length_89 K
set_option maxHeartbeats 4000000 in
theorem sX7_length_114 {G : Gx} {d t : Nat} {h0 : AH} {Φ : Out → AH → Prop} (h : AH) (v1 : Int32) (v2 : Int32) (v4 : Int32) (v5 : Int32) (K : ((v4 ≤ ((v2 - v1) - v5) → Φ (.inl (some (vI (v5 + v4)))) h) ∧ (¬ v4 ≤ ((v2 - v1) - v5) → Φ (.inl (some (vI 0))) h))) : Aw G mX7_length (d + 1) t h0 Φ 114 [vU, vI v1, vI v2, vU, vI v4, vI v5, vU] [] h := by
  refine r_iload (pc := 114) dX7_length_114 rfl ?_
  refine r_iload_n (pc := 116) dX7_length_116 rfl ?_
  refine r_iload_n (pc := 117) dX7_length_117 rfl ?_
  refine r_isub (pc := 118) dX7_length_118 ?_
  refine r_iload (pc := 119) dX7_length_119 rfl ?_
  refine r_isub (pc := 121) dX7_length_121 ?_
  refine r_icmp_le (pc := 122) (tgt := 129) dX7_length_122 rfl (fun c1 => ?_) (fun c1 => ?_)
  · have K := K.1 c1
    refine r_iload (pc := 129) dX7_length_129 rfl ?_
    refine r_iload (pc := 131) dX7_length_131 rfl ?_
    refine r_iadd (pc := 133) dX7_length_133 ?_
    exact r_iret (pc := 134) rfl rfl dX7_length_134 K
  · have K := K.2 c1
    refine r_iconst (pc := 125) (x := 0) dX7_length_125 rfl ?_
    refine r_goto (pc := 126) (tgt := 134) dX7_length_126 rfl ?_
    exact r_iret (pc := 134) rfl rfl dX7_length_134 K
theorem dX7_asks_0 : decode cX7_asks 0 = .ok (.iconst 0, 1) := by decide +kernel
theorem dX7_asks_1 : decode cX7_asks 1 = .ok (.istore_n 3, 1) := by decide +kernel
theorem dX7_asks_2 : decode cX7_asks 2 = .ok (.iload_n 1, 1) := by decide +kernel
theorem dX7_asks_3 : decode cX7_asks 3 = .ok (.iload_n 2, 1) := by decide +kernel
theorem dX7_asks_4 : decode cX7_asks 4 = .ok (.iadd, 1) := by decide +kernel
theorem dX7_asks_5 : decode cX7_asks 5 = .ok (.istore 4, 2) := by decide +kernel
theorem dX7_asks_7 : decode cX7_asks 7 = .ok (.iload_n 1, 1) := by decide +kernel
theorem dX7_asks_8 : decode cX7_asks 8 = .ok (.istore 5, 2) := by decide +kernel
theorem dX7_asks_10 : decode cX7_asks 10 = .ok (.iload 5, 2) := by decide +kernel
theorem dX7_asks_12 : decode cX7_asks 12 = .ok (.iload 4, 2) := by decide +kernel
theorem dX7_asks_14 : decode cX7_asks 14 = .ok (.if_icmp .ge 80, 3) := by decide +kernel
theorem dX7_asks_17 : decode cX7_asks 17 = .ok (.aload_n 0, 1) := by decide +kernel
theorem dX7_asks_18 : decode cX7_asks 18 = .ok (.iload 5, 2) := by decide +kernel
theorem dX7_asks_20 : decode cX7_asks 20 = .ok (.baload, 1) := by decide +kernel
theorem dX7_asks_21 : decode cX7_asks 21 = .ok (.sipush 255, 3) := by decide +kernel
theorem dX7_asks_24 : decode cX7_asks 24 = .ok (.iand, 1) := by decide +kernel
theorem dX7_asks_25 : decode cX7_asks 25 = .ok (.istore 6, 2) := by decide +kernel
theorem dX7_asks_27 : decode cX7_asks 27 = .ok (.aload_n 0, 1) := by decide +kernel
theorem dX7_asks_28 : decode cX7_asks 28 = .ok (.iload 5, 2) := by decide +kernel
theorem dX7_asks_30 : decode cX7_asks 30 = .ok (.iload 4, 2) := by decide +kernel
theorem dX7_asks_32 : decode cX7_asks 32 = .ok (.invokestatic 99, 3) := by decide +kernel
theorem dX7_asks_35 : decode cX7_asks 35 = .ok (.ifCond .ne 5, 3) := by decide +kernel
theorem dX7_asks_38 : decode cX7_asks 38 = .ok (.iload_n 3, 1) := by decide +kernel
theorem dX7_asks_39 : decode cX7_asks 39 = .ok (.ireturn, 1) := by decide +kernel
theorem dX7_asks_40 : decode cX7_asks 40 = .ok (.iload 6, 2) := by decide +kernel
theorem dX7_asks_42 : decode cX7_asks 42 = .ok (.sipush 172, 3) := by decide +kernel
theorem dX7_asks_45 : decode cX7_asks 45 = .ok (.if_icmp .eq 11, 3) := by decide +kernel
theorem dX7_asks_48 : decode cX7_asks 48 = .ok (.iload 6, 2) := by decide +kernel
theorem dX7_asks_50 : decode cX7_asks 50 = .ok (.sipush 173, 3) := by decide +kernel
theorem dX7_asks_53 : decode cX7_asks 53 = .ok (.if_icmp .ne 6, 3) := by decide +kernel
theorem dX7_asks_56 : decode cX7_asks 56 = .ok (.iinc 3 1, 3) := by decide +kernel
theorem dX7_asks_59 : decode cX7_asks 59 = .ok (.iload 6, 2) := by decide +kernel
theorem dX7_asks_61 : decode cX7_asks 61 = .ok (.sipush 174, 3) := by decide +kernel
theorem dX7_asks_64 : decode cX7_asks 64 = .ok (.if_icmp .eq 11, 3) := by decide +kernel
theorem dX7_asks_67 : decode cX7_asks 67 = .ok (.iload 6, 2) := by decide +kernel
theorem dX7_asks_69 : decode cX7_asks 69 = .ok (.sipush 175, 3) := by decide +kernel
theorem dX7_asks_72 : decode cX7_asks 72 = .ok (.if_icmp .ne 6, 3) := by decide +kernel
theorem dX7_asks_75 : decode cX7_asks 75 = .ok (.iinc 3 20, 3) := by decide +kernel
theorem dX7_asks_78 : decode cX7_asks 78 = .ok (.iload 5, 2) := by decide +kernel
theorem dX7_asks_80 : decode cX7_asks 80 = .ok (.aload_n 0, 1) := by decide +kernel
theorem dX7_asks_81 : decode cX7_asks 81 = .ok (.iload 5, 2) := by decide +kernel
theorem dX7_asks_83 : decode cX7_asks 83 = .ok (.iload 4, 2) := by decide +kernel
theorem dX7_asks_85 : decode cX7_asks 85 = .ok (.invokestatic 99, 3) := by decide +kernel
theorem dX7_asks_88 : decode cX7_asks 88 = .ok (.iadd, 1) := by decide +kernel
theorem dX7_asks_89 : decode cX7_asks 89 = .ok (.istore 5, 2) := by decide +kernel
theorem dX7_asks_91 : decode cX7_asks 91 = .ok (.goto (-81), 3) := by decide +kernel
theorem dX7_asks_94 : decode cX7_asks 94 = .ok (.iload_n 3, 1) := by decide +kernel
theorem dX7_asks_95 : decode cX7_asks 95 = .ok (.ireturn, 1) := by decide +kernel
/-! CoinJudge$Machine.asks([BII)I -/
set_option maxHeartbeats 4000000 in
theorem sX7_asks_0 {G : Gx} {d t : Nat} {h0 : AH} {Φ : Out → AH → Prop} (h : AH) (v0 : Nat) (v1 : Int32) (v2 : Int32) (K : Aw G mX7_asks (d + 1) t h0 Φ 10 [vR v0, vU, vU, vI 0, vI (v1 + v2), vI v1, vU] [] h) : Aw G mX7_asks (d + 1) t h0 Φ 0 [vR v0, vI v1, vI v2, vU, vU, vU, vU] [] h := by
  refine r_iconst (pc := 0) (x := 0) dX7_asks_0 rfl ?_
  refine r_istore_n (pc := 1) (lv' := [_, _, _, _, _, _, _]) dX7_asks_1 (by decide) rfl ?_
  refine r_iload_n (pc := 2) dX7_asks_2 rfl ?_
  refine r_iload_n (pc := 3) dX7_asks_3 rfl ?_
  refine r_iadd (pc := 4) dX7_asks_4 ?_
  refine r_istore (pc := 5) (lv' := [_, _, _, _, _, _, _]) dX7_asks_5 (by decide) rfl ?_
  refine r_iload_n (pc := 7) dX7_asks_7 rfl ?_
  refine r_istore (pc := 8) (lv' := [_, _, _, _, _, _, _]) dX7_asks_8 (by decide) rfl ?_
  refine r_mask (pc := 10) [true, false, false, true, true, true, false] rfl ?_
  exact K
theorem eX7_asks {G : Gx} {d : Nat} {Φ : Out → AH → Prop} (h : AH) (v0 : Nat) (v1 : Int32) (v2 : Int32) (K : WF G h → Aw G mX7_asks (d + 1) 0 h Φ 0 [vR v0, vI v1, vI v2, vU, vU, vU, vU] [] h) : Cw G mX7_asks (d + 1) 0 [vR v0, vI v1, vI v2] h Φ := Cw.of rfl K
set_option maxHeartbeats 4000000 in
theorem sX7_asks_10 {G : Gx} {d t : Nat} {h0 : AH} {Φ : Out → AH → Prop} (h : AH) (v0 : Nat) (v3 : Int32) (v4 : Int32) (v5 : Int32) (K : ((v4 ≤ v5 → Φ (.inl (some (vI v3))) h) ∧ (¬ v4 ≤ v5 → h.kd v0 = 101 ∧ vp_in v5 (h.ai v0).length ∧ ∀ u4 : Int32, u4 = (((h.ai v0).getD (v5.toNatClampNeg) 0) &&& 255) → Cw G mX7_length d 0 [vR v0, vI v5, vI v4] h (kI (fun x5 h6 => ((¬ x5 = 0 → ((u4 = 172 → Aw G mX7_asks (d + 1) t h0 Φ 59 [vR v0, vU, vU, vI (v3 + 1), vI v4, vI v5, vI u4] [] h6) ∧ (¬ u4 = 172 → ((¬ u4 = 173 → Aw G mX7_asks (d + 1) t h0 Φ 59 [vR v0, vU, vU, vI v3, vI v4, vI v5, vI u4] [] h6) ∧ (u4 = 173 → Aw G mX7_asks (d + 1) t h0 Φ 59 [vR v0, vU, vU, vI (v3 + 1), vI v4, vI v5, vI u4] [] h6))))) ∧ (x5 = 0 → Φ (.inl (some (vI v3))) h6))) (fun x h => Φ (.inr x) h))))) : Aw G mX7_asks (d + 1) t h0 Φ 10 [vR v0, vU, vU, vI v3, vI v4, vI v5, vU] [] h := by
  refine r_iload (pc := 10) dX7_asks_10 rfl ?_
  refine r_iload (pc := 12) dX7_asks_12 rfl ?_
  refine r_icmp_ge (pc := 14) (tgt := 94) dX7_asks_14 rfl (fun c1 => ?_) (fun c1 => ?_)
  · have K := K.1 c1
    refine r_iload_n (pc := 94) dX7_asks_94 rfl ?_
    exact r_iret (pc := 95) rfl rfl dX7_asks_95 K
  · have K := K.2 c1
    refine r_aload_n (pc := 17) dX7_asks_17 rfl ?_
    refine r_iload (pc := 18) dX7_asks_18 rfl ?_
    obtain ⟨hk2, K⟩ := K
    obtain ⟨hi3, K⟩ := K
    refine r_baload (pc := 20) hk2 hi3 dX7_asks_20 ?_
    refine r_sipush (pc := 21) (x := 255) dX7_asks_21 rfl ?_
    refine r_iand (pc := 24) dX7_asks_24 ?_
    have K := K _ rfl
    refine r_istore (pc := 25) (lv' := [_, _, _, _, _, _, _]) dX7_asks_25 (by decide) rfl ?_
    refine r_aload_n (pc := 27) dX7_asks_27 rfl ?_
    refine r_iload (pc := 28) dX7_asks_28 rfl ?_
    refine r_iload (pc := 30) dX7_asks_30 rfl ?_
    refine r_callS_I (pc := 32) (Y := mX7_length) (vs := [_, _, _]) (st := []) q1269 q1270 q161 dX7_asks_32 rfl cd_X7_length rfl rfl fp_X7_asks_X7_length K (fun x5 h6 eh6 wh6 K => ?_) (fun x h1 _ _ e => Tw.out rfl e)
    refine r_if_ne (pc := 35) (tgt := 40) dX7_asks_35 rfl (fun c7 => ?_) (fun c7 => ?_)
    · have K := K.1 c7
      refine r_iload (pc := 40) dX7_asks_40 rfl ?_
      refine r_sipush (pc := 42) (x := 172) dX7_asks_42 rfl ?_
      refine r_icmp_eq (pc := 45) (tgt := 56) dX7_asks_45 rfl (fun c8 => ?_) (fun c8 => ?_)
      · have K := K.1 c8
        refine r_iinc (pc := 56) (lv' := [_, _, _, _, _, _, _]) dX7_asks_56 rfl rfl (by decide) rfl ?_
        refine r_mask (pc := 59) [true, false, false, true, true, true, true] rfl ?_
        exact K
      · have K := K.2 c8
        refine r_iload (pc := 48) dX7_asks_48 rfl ?_
        refine r_sipush (pc := 50) (x := 173) dX7_asks_50 rfl ?_
        refine r_icmp_ne (pc := 53) (tgt := 59) dX7_asks_53 rfl (fun c9 => ?_) (fun c9 => ?_)
        · have K := K.1 c9
          refine r_mask (pc := 59) [true, false, false, true, true, true, true] rfl ?_
          exact K
        · have K := K.2 c9
          refine r_iinc (pc := 56) (lv' := [_, _, _, _, _, _, _]) dX7_asks_56 rfl rfl (by decide) rfl ?_
          refine r_mask (pc := 59) [true, false, false, true, true, true, true] rfl ?_
          exact K
    · have K := K.2 c7
      refine r_iload_n (pc := 38) dX7_asks_38 rfl ?_
      exact r_iret (pc := 39) rfl rfl dX7_asks_39 K
set_option maxHeartbeats 4000000 in
theorem sX7_asks_59 {G : Gx} {d t : Nat} {h0 : AH} {Φ : Out → AH → Prop} (h : AH) (v0 : Nat) (v3 : Int32) (v4 : Int32) (v5 : Int32) (v6 : Int32) (K : ((v6 = 174 → Cw G mX7_length d 0 [vR v0, vI v5, vI v4] h (kI (fun x2 h3 => Aw G mX7_asks (d + 1) t h0 Φ 10 [vR v0, vU, vU, vI (v3 + 20), vI v4, vI (v5 + x2), vU] [] h3) (fun x h => Φ (.inr x) h))) ∧ (¬ v6 = 174 → ((¬ v6 = 175 → Cw G mX7_length d 0 [vR v0, vI v5, vI v4] h (kI (fun x5 h6 => Aw G mX7_asks (d + 1) t h0 Φ 10 [vR v0, vU, vU, vI v3, vI v4, vI (v5 + x5), vU] [] h6) (fun x h => Φ (.inr x) h))) ∧ (v6 = 175 → Cw G mX7_length d 0 [vR v0, vI v5, vI v4] h (kI (fun x7 h8 => Aw G mX7_asks (d + 1) t h0 Φ 10 [vR v0, vU, vU, vI (v3 + 20), vI v4, vI (v5 + x7), vU] [] h8) (fun x h => Φ (.inr x) h))))))) : Aw G mX7_asks (d + 1) t h0 Φ 59 [vR v0, vU, vU, vI v3, vI v4, vI v5, vI v6] [] h := by
  refine r_iload (pc := 59) dX7_asks_59 rfl ?_
  refine r_sipush (pc := 61) (x := 174) dX7_asks_61 rfl ?_
  refine r_icmp_eq (pc := 64) (tgt := 75) dX7_asks_64 rfl (fun c1 => ?_) (fun c1 => ?_)
  · have K := K.1 c1
    refine r_iinc (pc := 75) (lv' := [_, _, _, _, _, _, _]) dX7_asks_75 rfl rfl (by decide) rfl ?_
    refine r_iload (pc := 78) dX7_asks_78 rfl ?_
    refine r_aload_n (pc := 80) dX7_asks_80 rfl ?_
    refine r_iload (pc := 81) dX7_asks_81 rfl ?_
    refine r_iload (pc := 83) dX7_asks_83 rfl ?_
    refine r_callS_I (pc := 85) (Y := mX7_length) (vs := [_, _, _]) (st := [_]) q1269 q1270 q161 dX7_asks_85 rfl cd_X7_length rfl rfl fp_X7_asks_X7_length K (fun x2 h3 eh3 wh3 K => ?_) (fun x h1 _ _ e => Tw.out rfl e)
    refine r_iadd (pc := 88) dX7_asks_88 ?_
    refine r_istore (pc := 89) (lv' := [_, _, _, _, _, _, _]) dX7_asks_89 (by decide) rfl ?_
    refine r_goto (pc := 91) (tgt := 10) dX7_asks_91 rfl ?_
    refine r_mask (pc := 10) [true, false, false, true, true, true, false] rfl ?_
    exact K
  · have K := K.2 c1
    refine r_iload (pc := 67) dX7_asks_67 rfl ?_
    refine r_sipush (pc := 69) (x := 175) dX7_asks_69 rfl ?_
    refine r_icmp_ne (pc := 72) (tgt := 78) dX7_asks_72 rfl (fun c4 => ?_) (fun c4 => ?_)
    · have K := K.1 c4
      refine r_iload (pc := 78) dX7_asks_78 rfl ?_
      refine r_aload_n (pc := 80) dX7_asks_80 rfl ?_
      refine r_iload (pc := 81) dX7_asks_81 rfl ?_
      refine r_iload (pc := 83) dX7_asks_83 rfl ?_
      refine r_callS_I (pc := 85) (Y := mX7_length) (vs := [_, _, _]) (st := [_]) q1269 q1270 q161 dX7_asks_85 rfl cd_X7_length rfl rfl fp_X7_asks_X7_length K (fun x5 h6 eh6 wh6 K => ?_) (fun x h1 _ _ e => Tw.out rfl e)
      refine r_iadd (pc := 88) dX7_asks_88 ?_
      refine r_istore (pc := 89) (lv' := [_, _, _, _, _, _, _]) dX7_asks_89 (by decide) rfl ?_
      refine r_goto (pc := 91) (tgt := 10) dX7_asks_91 rfl ?_
      refine r_mask (pc := 10) [true, false, false, true, true, true, false] rfl ?_
      exact K
    · have K := K.2 c4
      refine r_iinc (pc := 75) (lv' := [_, _, _, _, _, _, _]) dX7_asks_75 rfl rfl (by decide) rfl ?_
      refine r_iload (pc := 78) dX7_asks_78 rfl ?_
      refine r_aload_n (pc := 80) dX7_asks_80 rfl ?_
      refine r_iload (pc := 81) dX7_asks_81 rfl ?_
      refine r_iload (pc := 83) dX7_asks_83 rfl ?_
      refine r_callS_I (pc := 85) (Y := mX7_length) (vs := [_, _, _]) (st := [_]) q1269 q1270 q161 dX7_asks_85 rfl cd_X7_length rfl rfl fp_X7_asks_X7_length K (fun x7 h8 eh8 wh8 K => ?_) (fun x h1 _ _ e => Tw.out rfl e)
      refine r_iadd (pc := 88) dX7_asks_88 ?_
      refine r_istore (pc := 89) (lv' := [_, _, _, _, _, _, _]) dX7_asks_89 (by decide) rfl ?_
      refine r_goto (pc := 91) (tgt := 10) dX7_asks_91 rfl ?_
      refine r_mask (pc := 10) [true, false, false, true, true, true, false] rfl ?_
      exact K
theorem dX7_at_0 : decode cX7_at 0 = .ok (.aload_n 0, 1) := by decide +kernel
theorem dX7_at_1 : decode cX7_at 1 = .ok (.iload_n 1, 1) := by decide +kernel
theorem dX7_at_2 : decode cX7_at 2 = .ok (.aaload, 1) := by decide +kernel
theorem dX7_at_3 : decode cX7_at 3 = .ok (.ifnonnull 13, 3) := by decide +kernel
theorem dX7_at_6 : decode cX7_at 6 = .ok (.aload_n 0, 1) := by decide +kernel
theorem dX7_at_7 : decode cX7_at 7 = .ok (.iload_n 1, 1) := by decide +kernel
theorem dX7_at_8 : decode cX7_at 8 = .ok (.new 11, 3) := by decide +kernel
theorem dX7_at_11 : decode cX7_at 11 = .ok (.dup, 1) := by decide +kernel
theorem dX7_at_12 : decode cX7_at 12 = .ok (.invokespecial 44, 3) := by decide +kernel
theorem dX7_at_15 : decode cX7_at 15 = .ok (.aastore, 1) := by decide +kernel
theorem dX7_at_16 : decode cX7_at 16 = .ok (.aload_n 0, 1) := by decide +kernel
theorem dX7_at_17 : decode cX7_at 17 = .ok (.iload_n 1, 1) := by decide +kernel
theorem dX7_at_18 : decode cX7_at 18 = .ok (.aaload, 1) := by decide +kernel
theorem dX7_at_19 : decode cX7_at 19 = .ok (.areturn, 1) := by decide +kernel
/-! CoinJudge$Machine.at([LCoinJudge$Element;I)LCoinJudge$Element; -/
set_option maxHeartbeats 4000000 in
theorem sX7_at_0 {G : Gx} {d t : Nat} {h0 : AH} {Φ : Out → AH → Prop} (h : AH) (v0 : Nat) (v1 : Int32) (K : h.kd v0 = 104 ∧ vp_in v1 (h.ar v0).length ∧ ∀ r3 : Nat, r3 = ((h.ar v0).getD (v1.toNatClampNeg) 0) → ((¬ r3 = 0 → vp_in v1 (h.ar v0).length ∧ ∀ r6 : Nat, r6 = ((h.ar v0).getD (v1.toNatClampNeg) 0) → Φ (.inl (some (vR r6))) h) ∧ (r3 = 0 → ∀ q7 : Nat, q7 = h.z → WF G h → ∀ h8 : AH, h8 = h.new 22 2 [] [] [] → Cw G mX22_init d q7 [vR q7] h8 (kV (fun h11 => vp_in v1 (h11.ar v0).length ∧ (q7 = 0 ∨ h11.kd q7 = 22) ∧ ∀ h16 : AH, h16 = h11.wr v0 ((h11.ar v0).set (v1.toNatClampNeg) q7) → vp_in v1 (h16.ar v0).length ∧ ∀ r19 : Nat, r19 = ((h16.ar v0).getD (v1.toNatClampNeg) 0) → Φ (.inl (some (vR r19))) h16) (fun x h => Φ (.inr x) h))))) : Aw G mX7_at (d + 1) t h0 Φ 0 [vR v0, vI v1] [] h := by
  refine r_aload_n (pc := 0) dX7_at_0 rfl ?_
  refine r_iload_n (pc := 1) dX7_at_1 rfl ?_
  obtain ⟨hk1, K⟩ := K
  obtain ⟨hi2, K⟩ := K
  have K := K _ rfl
  refine r_aaload (pc := 2) (le_of_eq_r hk1 (by decide)) hi2 dX7_at_2 ?_
  refine r_ifnonnull (pc := 3) (tgt := 16) dX7_at_3 rfl (fun c4 => ?_) (fun c4 => ?_)
  · have K := K.1 c4
    refine r_aload_n (pc := 16) dX7_at_16 rfl ?_
    refine r_iload_n (pc := 17) dX7_at_17 rfl ?_
    obtain ⟨hi5, K⟩ := K
    have K := K _ rfl
    refine r_aaload (pc := 18) (le_of_eq_r hk1 (by decide)) hi5 dX7_at_18 ?_
    exact r_aret (pc := 19) rfl rfl dX7_at_19 K
  · have K := K.2 c4
    refine r_aload_n (pc := 6) dX7_at_6 rfl ?_
    refine r_iload_n (pc := 7) dX7_at_7 rfl ?_
    refine r_new (pc := 8) 22 kc22 rfl q496 q1287 q187 dX7_at_8 (fun q7 eq7 zq7 wq7 => ?_)
    refine r_nameH (fun h8 eh8 => ?_)
    have K := K q7 eq7 wq7 h8 eh8
    have hk9 := kd_newSE eh8 eq7
    refine r_dup (pc := 11) rfl dX7_at_11 ?_
    refine r_callIN_V (pc := 12) (Y := mX22_init) (vs := []) (st := [_, _, _]) (nzk hk9 rfl) q1288 q1289 q1290 rfl rfl rfl dX7_at_12 rfl (Or.inr zq7) rfl rfl fp_X7_at_X22_init K (fun h11 eh11 wh11 K => ?_) (fun x h1 _ _ e => Tw.out rfl e)
    have hk12 := kd_newE eh8 wq7 hk1 (nz rfl)
    have hk13 := kd_ext eh11 hk12 (nz rfl)
    obtain ⟨hi14, K⟩ := K
    obtain ⟨hk15, K⟩ := K
    refine r_aastore (pc := 15) 104 22 hk13 rfl kc22 hi14 hk15 (Or.inl (em rfl)) dX7_at_15 rfl ?_
    refine r_nameH (fun h16 eh16 => ?_)
    have K := K h16 eh16
    refine r_aload_n (pc := 16) dX7_at_16 rfl ?_
    refine r_iload_n (pc := 17) dX7_at_17 rfl ?_
    have hk17 := kd_wr eh16 hk13
    obtain ⟨hi18, K⟩ := K
    have K := K _ rfl
    refine r_aaload (pc := 18) (le_of_eq_r hk17 (by decide)) hi18 dX7_at_18 ?_
    exact r_aret (pc := 19) rfl rfl dX7_at_19 K
theorem eX7_at {G : Gx} {d : Nat} {Φ : Out → AH → Prop} (h : AH) (v0 : Nat) (v1 : Int32) (K : WF G h → Aw G mX7_at (d + 1) 0 h Φ 0 [vR v0, vI v1] [] h) : Cw G mX7_at (d + 1) 0 [vR v0, vI v1] h Φ := Cw.of rfl K
theorem dX7_drop_0 : decode cX7_drop 0 = .ok (.iload_n 1, 1) := by decide +kernel
theorem dX7_drop_1 : decode cX7_drop 1 = .ok (.aload_n 0, 1) := by decide +kernel
theorem dX7_drop_2 : decode cX7_drop 2 = .ok (.getfield 45, 3) := by decide +kernel
theorem dX7_drop_5 : decode cX7_drop 5 = .ok (.if_icmp .le 11, 3) := by decide +kernel
theorem dX7_drop_8 : decode cX7_drop 8 = .ok (.new 52, 3) := by decide +kernel
theorem dX7_drop_11 : decode cX7_drop 11 = .ok (.dup, 1) := by decide +kernel
theorem dX7_drop_12 : decode cX7_drop 12 = .ok (.invokespecial 54, 3) := by decide +kernel
theorem dX7_drop_15 : decode cX7_drop 15 = .ok (.athrow, 1) := by decide +kernel
theorem dX7_drop_16 : decode cX7_drop 16 = .ok (.aload_n 0, 1) := by decide +kernel
theorem dX7_drop_17 : decode cX7_drop 17 = .ok (.dup, 1) := by decide +kernel
theorem dX7_drop_18 : decode cX7_drop 18 = .ok (.getfield 45, 3) := by decide +kernel
theorem dX7_drop_21 : decode cX7_drop 21 = .ok (.iload_n 1, 1) := by decide +kernel
theorem dX7_drop_22 : decode cX7_drop 22 = .ok (.isub, 1) := by decide +kernel
theorem dX7_drop_23 : decode cX7_drop 23 = .ok (.putfield 45, 3) := by decide +kernel
theorem dX7_drop_26 : decode cX7_drop 26 = .ok (.return_, 1) := by decide +kernel
/-! CoinJudge$Machine.drop(I)V -/
set_option maxHeartbeats 4000000 in
theorem sX7_drop_0 {G : Gx} {d t : Nat} {h0 : AH} {Φ : Out → AH → Prop} (h : AH) (v0 : Nat) (v1 : Int32) (K : h.kd v0 = 7 ∧ ((v1 ≤ (h.i 7004 v0) → ∀ h3 : AH, h3 = h.pi 7004 v0 ((h.i 7004 v0) - v1) → Φ (.inl none) h3) ∧ (¬ v1 ≤ (h.i 7004 v0) → ∀ q4 : Nat, q4 = h.z → WF G h → ∀ h5 : AH, h5 = h.new 17 6 [] [] [] → 5 ≤ d ∧ ∀ h8 : AH, h8 = exH G 17 q4 h5 → Φ (.inr q4) h8))) : Aw G mX7_drop (d + 1) t h0 Φ 0 [vR v0, vI v1] [] h := by
  refine r_iload_n (pc := 0) dX7_drop_0 rfl ?_
  refine r_aload_n (pc := 1) dX7_drop_1 rfl ?_
  obtain ⟨hk1, K⟩ := K
  refine r_geti' (pc := 2) (T := TX7) 7 4 rfl hk1 (Or.inl q502) dX7_drop_2 kc7 g7004 ?_
  refine r_icmp_le (pc := 5) (tgt := 16) dX7_drop_5 rfl (fun c2 => ?_) (fun c2 => ?_)
  · have K := K.1 c2
    refine r_aload_n (pc := 16) dX7_drop_16 rfl ?_
    refine r_dup (pc := 17) rfl dX7_drop_17 ?_
    refine r_geti' (pc := 18) (T := TX7) 7 4 rfl hk1 (Or.inl q502) dX7_drop_18 kc7 g7004 ?_
    refine r_iload_n (pc := 21) dX7_drop_21 rfl ?_
    refine r_isub (pc := 22) dX7_drop_22 ?_
    refine r_puti (pc := 23) (T := TX7) (key := 7004) 7 4 hk1 (Or.inl q502) dX7_drop_23 kc7 rfl (Or.inl rfl) (Or.inl (em rfl)) ?_
    refine r_nameH (fun h3 eh3 => ?_)
    have K := K h3 eh3
    exact r_vret (pc := 26) rfl dX7_drop_26 K
  · have K := K.2 c2
    refine r_new (pc := 8) 17 kc17 rfl q1264 q1037 q182 dX7_drop_8 (fun q4 eq4 zq4 wq4 => ?_)
    refine r_nameH (fun h5 eh5 => ?_)
    have K := K q4 eq4 wq4 h5 eh5
    have hk6 := kd_newSE eh5 eq4
    refine r_dup (pc := 11) rfl dX7_drop_11 ?_
    obtain ⟨hd7, K⟩ := K
    refine r_exInit (pc := 12) 17 _ hd7 hk6 (fr_newS eh5 eq4) (Or.inr zq4) kc17 rfl ex_17 (Or.inr ⟨_, q1276⟩) dX7_drop_12 rfl ?_
    refine r_nameH (fun h8 eh8 => ?_)
    have K := K h8 eh8
    have hk9 := kd_exH eh8 hk6
    exact r_athrow (pc := 15) (nzk hk9 rfl) dX7_drop_15 (Tw.out rfl K)
theorem eX7_drop {G : Gx} {d : Nat} {Φ : Out → AH → Prop} (h : AH) (v0 : Nat) (v1 : Int32) (K : WF G h → Aw G mX7_drop (d + 1) 0 h Φ 0 [vR v0, vI v1] [] h) : Cw G mX7_drop (d + 1) 0 [vR v0, vI v1] h Φ := Cw.of rfl K
theorem dX7_need_0 : decode cX7_need 0 = .ok (.iload_n 1, 1) := by decide +kernel
theorem dX7_need_1 : decode cX7_need 1 = .ok (.ifCond .ne 11, 3) := by decide +kernel
theorem dX7_need_4 : decode cX7_need 4 = .ok (.new 52, 3) := by decide +kernel
theorem dX7_need_7 : decode cX7_need 7 = .ok (.dup, 1) := by decide +kernel
theorem dX7_need_8 : decode cX7_need 8 = .ok (.invokespecial 54, 3) := by decide +kernel
theorem dX7_need_11 : decode cX7_need 11 = .ok (.athrow, 1) := by decide +kernel
theorem dX7_need_12 : decode cX7_need 12 = .ok (.return_, 1) := by decide +kernel
/-! CoinJudge$Machine.need(Z)V -/
set_option maxHeartbeats 4000000 in
theorem sX7_need_0 {G : Gx} {d t : Nat} {h0 : AH} {Φ : Out → AH → Prop} (h : AH) (v0 : Nat) (v1 : Int32) (K : ((¬ v1 = 0 → Φ (.inl none) h) ∧ (v1 = 0 → ∀ q2 : Nat, q2 = h.z → WF G h → ∀ h3 : AH, h3 = h.new 17 6 [] [] [] → 5 ≤ d ∧ ∀ h6 : AH, h6 = exH G 17 q2 h3 → Φ (.inr q2) h6))) : Aw G mX7_need (d + 1) t h0 Φ 0 [vR v0, vI v1] [] h := by
  refine r_iload_n (pc := 0) dX7_need_0 rfl ?_
  refine r_if_ne (pc := 1) (tgt := 12) dX7_need_1 rfl (fun c1 => ?_) (fun c1 => ?_)
  · have K := K.1 c1
    exact r_vret (pc := 12) rfl dX7_need_12 K
  · have K := K.2 c1
    refine r_new (pc := 4) 17 kc17 rfl q1264 q1037 q182 dX7_need_4 (fun q2 eq2 zq2 wq2 => ?_)
    refine r_nameH (fun h3 eh3 => ?_)
    have K := K q2 eq2 wq2 h3 eh3
    have hk4 := kd_newSE eh3 eq2
    refine r_dup (pc := 7) rfl dX7_need_7 ?_
    obtain ⟨hd5, K⟩ := K
    refine r_exInit (pc := 8) 17 _ hd5 hk4 (fr_newS eh3 eq2) (Or.inr zq2) kc17 rfl ex_17 (Or.inr ⟨_, q1276⟩) dX7_need_8 rfl ?_
    refine r_nameH (fun h6 eh6 => ?_)
    have K := K h6 eh6
    have hk7 := kd_exH eh6 hk4
    exact r_athrow (pc := 11) (nzk hk7 rfl) dX7_need_11 (Tw.out rfl K)
theorem eX7_need {G : Gx} {d : Nat} {Φ : Out → AH → Prop} (h : AH) (v0 : Nat) (v1 : Int32) (K : WF G h → Aw G mX7_need (d + 1) 0 h Φ 0 [vR v0, vI v1] [] h) : Cw G mX7_need (d + 1) 0 [vR v0, vI v1] h Φ := Cw.of rfl K
theorem dX7_pushes_0 : decode cX7_pushes 0 = .ok (.iload_n 1, 1) := by decide +kernel
theorem dX7_pushes_1 : decode cX7_pushes 1 = .ok (.istore_n 3, 1) := by decide +kernel
theorem dX7_pushes_2 : decode cX7_pushes 2 = .ok (.iload_n 3, 1) := by decide +kernel
theorem dX7_pushes_3 : decode cX7_pushes 3 = .ok (.iload_n 1, 1) := by decide +kernel
theorem dX7_pushes_4 : decode cX7_pushes 4 = .ok (.iload_n 2, 1) := by decide +kernel
theorem dX7_pushes_5 : decode cX7_pushes 5 = .ok (.iadd, 1) := by decide +kernel
theorem dX7_pushes_6 : decode cX7_pushes 6 = .ok (.if_icmp .ge 42, 3) := by decide +kernel
theorem dX7_pushes_9 : decode cX7_pushes 9 = .ok (.aload_n 0, 1) := by decide +kernel
theorem dX7_pushes_10 : decode cX7_pushes 10 = .ok (.iload_n 3, 1) := by decide +kernel
theorem dX7_pushes_11 : decode cX7_pushes 11 = .ok (.baload, 1) := by decide +kernel
theorem dX7_pushes_12 : decode cX7_pushes 12 = .ok (.sipush 255, 3) := by decide +kernel
theorem dX7_pushes_15 : decode cX7_pushes 15 = .ok (.iand, 1) := by decide +kernel
theorem dX7_pushes_16 : decode cX7_pushes 16 = .ok (.bipush 96, 2) := by decide +kernel
theorem dX7_pushes_18 : decode cX7_pushes 18 = .ok (.if_icmp .gt 14, 3) := by decide +kernel
theorem dX7_pushes_21 : decode cX7_pushes 21 = .ok (.aload_n 0, 1) := by decide +kernel
theorem dX7_pushes_22 : decode cX7_pushes 22 = .ok (.iload_n 3, 1) := by decide +kernel
theorem dX7_pushes_23 : decode cX7_pushes 23 = .ok (.iload_n 1, 1) := by decide +kernel
theorem dX7_pushes_24 : decode cX7_pushes 24 = .ok (.iload_n 2, 1) := by decide +kernel
theorem dX7_pushes_25 : decode cX7_pushes 25 = .ok (.iadd, 1) := by decide +kernel
theorem dX7_pushes_26 : decode cX7_pushes 26 = .ok (.invokestatic 99, 3) := by decide +kernel
theorem dX7_pushes_29 : decode cX7_pushes 29 = .ok (.ifCond .ne 5, 3) := by decide +kernel
theorem dX7_pushes_32 : decode cX7_pushes 32 = .ok (.iconst 0, 1) := by decide +kernel
theorem dX7_pushes_33 : decode cX7_pushes 33 = .ok (.ireturn, 1) := by decide +kernel
theorem dX7_pushes_34 : decode cX7_pushes 34 = .ok (.iload_n 3, 1) := by decide +kernel
theorem dX7_pushes_35 : decode cX7_pushes 35 = .ok (.aload_n 0, 1) := by decide +kernel
theorem dX7_pushes_36 : decode cX7_pushes 36 = .ok (.iload_n 3, 1) := by decide +kernel
theorem dX7_pushes_37 : decode cX7_pushes 37 = .ok (.iload_n 1, 1) := by decide +kernel
theorem dX7_pushes_38 : decode cX7_pushes 38 = .ok (.iload_n 2, 1) := by decide +kernel
theorem dX7_pushes_39 : decode cX7_pushes 39 = .ok (.iadd, 1) := by decide +kernel
theorem dX7_pushes_40 : decode cX7_pushes 40 = .ok (.invokestatic 99, 3) := by decide +kernel
theorem dX7_pushes_43 : decode cX7_pushes 43 = .ok (.iadd, 1) := by decide +kernel
theorem dX7_pushes_44 : decode cX7_pushes 44 = .ok (.istore_n 3, 1) := by decide +kernel
theorem dX7_pushes_45 : decode cX7_pushes 45 = .ok (.goto (-43), 3) := by decide +kernel
theorem dX7_pushes_48 : decode cX7_pushes 48 = .ok (.iconst 1, 1) := by decide +kernel
theorem dX7_pushes_49 : decode cX7_pushes 49 = .ok (.ireturn, 1) := by decide +kernel
/-! CoinJudge$Machine.pushes([BII)Z -/
set_option maxHeartbeats 4000000 in
theorem sX7_pushes_0 {G : Gx} {d t : Nat} {h0 : AH} {Φ : Out → AH → Prop} (h : AH) (v0 : Nat) (v1 : Int32) (v2 : Int32) (K : Aw G mX7_pushes (d + 1) t h0 Φ 2 [vR v0, vI v1, vI v2, vI v1] [] h) : Aw G mX7_pushes (d + 1) t h0 Φ 0 [vR v0, vI v1, vI v2, vU] [] h := by
  refine r_iload_n (pc := 0) dX7_pushes_0 rfl ?_
  refine r_istore_n (pc := 1) (lv' := [_, _, _, _]) dX7_pushes_1 (by decide) rfl ?_
  refine r_mask (pc := 2) [true, true, true, true] rfl ?_
  exact K
theorem eX7_pushes {G : Gx} {d : Nat} {Φ : Out → AH → Prop} (h : AH) (v0 : Nat) (v1 : Int32) (v2 : Int32) (K : WF G h → Aw G mX7_pushes (d + 1) 0 h Φ 0 [vR v0, vI v1, vI v2, vU] [] h) : Cw G mX7_pushes (d + 1) 0 [vR v0, vI v1, vI v2] h Φ := Cw.of rfl K
set_option maxHeartbeats 4000000 in
theorem sX7_pushes_2 {G : Gx} {d t : Nat} {h0 : AH} {Φ : Out → AH → Prop} (h : AH) (v0 : Nat) (v1 : Int32) (v2 : Int32) (v3 : Int32) (K : (((v1 + v2) ≤ v3 → Φ (.inl (some (vI 1))) h) ∧ (¬ (v1 + v2) ≤ v3 → h.kd v0 = 101 ∧ vp_in v3 (h.ai v0).length ∧ ((96 < (((h.ai v0).getD (v3.toNatClampNeg) 0) &&& 255) → Φ (.inl (some (vI 0))) h) ∧ (¬ 96 < (((h.ai v0).getD (v3.toNatClampNeg) 0) &&& 255) → Cw G mX7_length d 0 [vR v0, vI v3, vI (v1 + v2)] h (kI (fun x5 h6 => ((¬ x5 = 0 → Cw G mX7_length d 0 [vR v0, vI v3, vI (v1 + v2)] h6 (kI (fun x8 h9 => Aw G mX7_pushes (d + 1) t h0 Φ 2 [vR v0, vI v1, vI v2, vI (v3 + x8)] [] h9) (fun x h => Φ (.inr x) h))) ∧ (x5 = 0 → Φ (.inl (some (vI 0))) h6))) (fun x h => Φ (.inr x) h))))))) : Aw G mX7_pushes (d + 1) t h0 Φ 2 [vR v0, vI v1, vI v2, vI v3] [] h := by
  refine r_iload_n (pc := 2) dX7_pushes_2 rfl ?_
  refine r_iload_n (pc := 3) dX7_pushes_3 rfl ?_
  refine r_iload_n (pc := 4) dX7_pushes_4 rfl ?_
  refine r_iadd (pc := 5) dX7_pushes_5 ?_
  refine r_icmp_ge (pc := 6) (tgt := 48) dX7_pushes_6 rfl (fun c1 => ?_) (fun c1 => ?_)
  · have K := K.1 c1
    refine r_iconst (pc := 48) (x := 1) dX7_pushes_48 rfl ?_
    exact r_iret (pc := 49) rfl rfl dX7_pushes_49 K
  · have K := K.2 c1
    refine r_aload_n (pc := 9) dX7_pushes_9 rfl ?_
    refine r_iload_n (pc := 10) dX7_pushes_10 rfl ?_
    obtain ⟨hk2, K⟩ := K
    obtain ⟨hi3, K⟩ := K
    refine r_baload (pc := 11) hk2 hi3 dX7_pushes_11 ?_
    refine r_sipush (pc := 12) (x := 255) dX7_pushes_12 rfl ?_
    refine r_iand (pc := 15) dX7_pushes_15 ?_
    refine r_bipush (pc := 16) (x := 96) dX7_pushes_16 rfl ?_
    refine r_icmp_gt (pc := 18) (tgt := 32) dX7_pushes_18 rfl (fun c4 => ?_) (fun c4 => ?_)
    · have K := K.1 c4
      refine r_iconst (pc := 32) (x := 0) dX7_pushes_32 rfl ?_
      exact r_iret (pc := 33) rfl rfl dX7_pushes_33 K
    · have K := K.2 c4
      refine r_aload_n (pc := 21) dX7_pushes_21 rfl ?_
      refine r_iload_n (pc := 22) dX7_pushes_22 rfl ?_
      refine r_iload_n (pc := 23) dX7_pushes_23 rfl ?_
      refine r_iload_n (pc := 24) dX7_pushes_24 rfl ?_
      refine r_iadd (pc := 25) dX7_pushes_25 ?_
      refine r_callS_I (pc := 26) (Y := mX7_length) (vs := [_, _, _]) (st := []) q1269 q1270 q161 dX7_pushes_26 rfl cd_X7_length rfl rfl fp_X7_pushes_X7_length K (fun x5 h6 eh6 wh6 K => ?_) (fun x h1 _ _ e => Tw.out rfl e)
      refine r_if_ne (pc := 29) (tgt := 34) dX7_pushes_29 rfl (fun c7 => ?_) (fun c7 => ?_)
      · have K := K.1 c7
        refine r_iload_n (pc := 34) dX7_pushes_34 rfl ?_
        refine r_aload_n (pc := 35) dX7_pushes_35 rfl ?_
        refine r_iload_n (pc := 36) dX7_pushes_36 rfl ?_
        refine r_iload_n (pc := 37) dX7_pushes_37 rfl ?_
        refine r_iload_n (pc := 38) dX7_pushes_38 rfl ?_
        refine r_iadd (pc := 39) dX7_pushes_39 ?_
        refine r_callS_I (pc := 40) (Y := mX7_length) (vs := [_, _, _]) (st := [_]) q1269 q1270 q161 dX7_pushes_40 rfl cd_X7_length rfl rfl fp_X7_pushes_X7_length K (fun x8 h9 eh9 wh9 K => ?_) (fun x h1 _ _ e => Tw.out rfl e)
        refine r_iadd (pc := 43) dX7_pushes_43 ?_
        refine r_istore_n (pc := 44) (lv' := [_, _, _, _]) dX7_pushes_44 (by decide) rfl ?_
        refine r_goto (pc := 45) (tgt := 2) dX7_pushes_45 rfl ?_
        refine r_mask (pc := 2) [true, true, true, true] rfl ?_
        exact K
      · have K := K.2 c7
        refine r_iconst (pc := 32) (x := 0) dX7_pushes_32 rfl ?_
        exact r_iret (pc := 33) rfl rfl dX7_pushes_33 K
theorem dX7_top_0 : decode cX7_top 0 = .ok (.iload_n 1, 1) := by decide +kernel
theorem dX7_top_1 : decode cX7_top 1 = .ok (.aload_n 0, 1) := by decide +kernel
theorem dX7_top_2 : decode cX7_top 2 = .ok (.getfield 45, 3) := by decide +kernel
theorem dX7_top_5 : decode cX7_top 5 = .ok (.if_icmp .lt 11, 3) := by decide +kernel
theorem dX7_top_8 : decode cX7_top 8 = .ok (.new 52, 3) := by decide +kernel
theorem dX7_top_11 : decode cX7_top 11 = .ok (.dup, 1) := by decide +kernel
theorem dX7_top_12 : decode cX7_top 12 = .ok (.invokespecial 54, 3) := by decide +kernel
theorem dX7_top_15 : decode cX7_top 15 = .ok (.athrow, 1) := by decide +kernel
theorem dX7_top_16 : decode cX7_top 16 = .ok (.aload_n 0, 1) := by decide +kernel
theorem dX7_top_17 : decode cX7_top 17 = .ok (.getfield 13, 3) := by decide +kernel
theorem dX7_top_20 : decode cX7_top 20 = .ok (.aload_n 0, 1) := by decide +kernel
theorem dX7_top_21 : decode cX7_top 21 = .ok (.getfield 45, 3) := by decide +kernel
theorem dX7_top_24 : decode cX7_top 24 = .ok (.iconst 1, 1) := by decide +kernel
theorem dX7_top_25 : decode cX7_top 25 = .ok (.isub, 1) := by decide +kernel
theorem dX7_top_26 : decode cX7_top 26 = .ok (.iload_n 1, 1) := by decide +kernel
theorem dX7_top_27 : decode cX7_top 27 = .ok (.isub, 1) := by decide +kernel
theorem dX7_top_28 : decode cX7_top 28 = .ok (.aaload, 1) := by decide +kernel
theorem dX7_top_29 : decode cX7_top 29 = .ok (.areturn, 1) := by decide +kernel
/-! CoinJudge$Machine.top(I)LCoinJudge$Element; -/
set_option maxHeartbeats 4000000 in
theorem sX7_top_0 {G : Gx} {d t : Nat} {h0 : AH} {Φ : Out → AH → Prop} (h : AH) (v0 : Nat) (v1 : Int32) (K : h.kd v0 = 7 ∧ ((v1 < (h.i 7004 v0) → ∀ r3 : Nat, r3 = (h.r 7001 v0) → h.kd r3 = 104 ∧ vp_in (((h.i 7004 v0) - 1) - v1) (h.ar r3).length ∧ ∀ r6 : Nat, r6 = ((h.ar r3).getD ((((h.i 7004 v0) - 1) - v1).toNatClampNeg) 0) → Φ (.inl (some (vR r6))) h) ∧ (¬ v1 < (h.i 7004 v0) → ∀ q7 : Nat, q7 = h.z → WF G h → ∀ h8 : AH, h8 = h.new 17 6 [] [] [] → 5 ≤ d ∧ ∀ h11 : AH, h11 = exH G 17 q7 h8 → Φ (.inr q7) h11))) : Aw G mX7_top (d + 1) t h0 Φ 0 [vR v0, vI v1] [] h := by
  refine r_iload_n (pc := 0) dX7_top_0 rfl ?_
  refine r_aload_n (pc := 1) dX7_top_1 rfl ?_
  obtain ⟨hk1, K⟩ := K
  refine r_geti' (pc := 2) (T := TX7) 7 4 rfl hk1 (Or.inl q502) dX7_top_2 kc7 g7004 ?_
  refine r_icmp_lt (pc := 5) (tgt := 16) dX7_top_5 rfl (fun c2 => ?_) (fun c2 => ?_)
  · have K := K.1 c2
    refine r_aload_n (pc := 16) dX7_top_16 rfl ?_
    have K := K _ rfl
    refine r_getr' (pc := 17) (T := TX7) 7 1 rfl hk1 (Or.inl q499) dX7_top_17 kc7 g7001 ?_
    refine r_aload_n (pc := 20) dX7_top_20 rfl ?_
    refine r_geti' (pc := 21) (T := TX7) 7 4 rfl hk1 (Or.inl q502) dX7_top_21 kc7 g7004 ?_
    refine r_iconst (pc := 24) (x := 1) dX7_top_24 rfl ?_
    refine r_isub (pc := 25) dX7_top_25 ?_
    refine r_iload_n (pc := 26) dX7_top_26 rfl ?_
    refine r_isub (pc := 27) dX7_top_27 ?_
    obtain ⟨hk4, K⟩ := K
    obtain ⟨hi5, K⟩ := K
    have K := K _ rfl
    refine r_aaload (pc := 28) (le_of_eq_r hk4 (by decide)) hi5 dX7_top_28 ?_
    exact r_aret (pc := 29) rfl rfl dX7_top_29 K
  · have K := K.2 c2
    refine r_new (pc := 8) 17 kc17 rfl q1264 q1037 q182 dX7_top_8 (fun q7 eq7 zq7 wq7 => ?_)
    refine r_nameH (fun h8 eh8 => ?_)
    have K := K q7 eq7 wq7 h8 eh8
    have hk9 := kd_newSE eh8 eq7
    refine r_dup (pc := 11) rfl dX7_top_11 ?_
    obtain ⟨hd10, K⟩ := K
    refine r_exInit (pc := 12) 17 _ hd10 hk9 (fr_newS eh8 eq7) (Or.inr zq7) kc17 rfl ex_17 (Or.inr ⟨_, q1276⟩) dX7_top_12 rfl ?_
    refine r_nameH (fun h11 eh11 => ?_)
    have K := K h11 eh11
    have hk12 := kd_exH eh11 hk9
    exact r_athrow (pc := 15) (nzk hk12 rfl) dX7_top_15 (Tw.out rfl K)
theorem eX7_top {G : Gx} {d : Nat} {Φ : Out → AH → Prop} (h : AH) (v0 : Nat) (v1 : Int32) (K : WF G h → Aw G mX7_top (d + 1) 0 h Φ 0 [vR v0, vI v1] [] h) : Cw G mX7_top (d + 1) 0 [vR v0, vI v1] h Φ := Cw.of rfl K
theorem dX7_branch_0 : decode cX7_branch 0 = .ok (.iload_n 1, 1) := by decide +kernel
theorem dX7_branch_1 : decode cX7_branch 1 = .ok (.bipush 99, 2) := by decide +kernel
theorem dX7_branch_3 : decode cX7_branch 3 = .ok (.if_icmp .eq 9, 3) := by decide +kernel
theorem dX7_branch_6 : decode cX7_branch 6 = .ok (.iload_n 1, 1) := by decide +kernel
theorem dX7_branch_7 : decode cX7_branch 7 = .ok (.bipush 100, 2) := by decide +kernel
theorem dX7_branch_9 : decode cX7_branch 9 = .ok (.if_icmp .ne 63, 3) := by decide +kernel
theorem dX7_branch_12 : decode cX7_branch 12 = .ok (.iconst 0, 1) := by decide +kernel
theorem dX7_branch_13 : decode cX7_branch 13 = .ok (.istore_n 3, 1) := by decide +kernel
theorem dX7_branch_14 : decode cX7_branch 14 = .ok (.iload_n 2, 1) := by decide +kernel
theorem dX7_branch_15 : decode cX7_branch 15 = .ok (.ifCond .eq 36, 3) := by decide +kernel
theorem dX7_branch_18 : decode cX7_branch 18 = .ok (.aload_n 0, 1) := by decide +kernel
theorem dX7_branch_19 : decode cX7_branch 19 = .ok (.iconst 0, 1) := by decide +kernel
theorem dX7_branch_20 : decode cX7_branch 20 = .ok (.invokevirtual 59, 3) := by decide +kernel
theorem dX7_branch_23 : decode cX7_branch 23 = .ok (.invokevirtual 83, 3) := by decide +kernel
theorem dX7_branch_26 : decode cX7_branch 26 = .ok (.iload_n 1, 1) := by decide +kernel
theorem dX7_branch_27 : decode cX7_branch 27 = .ok (.bipush 99, 2) := by decide +kernel
theorem dX7_branch_29 : decode cX7_branch 29 = .ok (.if_icmp .ne 7, 3) := by decide +kernel
theorem dX7_branch_32 : decode cX7_branch 32 = .ok (.iconst 1, 1) := by decide +kernel
theorem dX7_branch_33 : decode cX7_branch 33 = .ok (.goto 4, 3) := by decide +kernel
theorem dX7_branch_36 : decode cX7_branch 36 = .ok (.iconst 0, 1) := by decide +kernel
theorem dX7_branch_37 : decode cX7_branch 37 = .ok (.if_icmp .ne 7, 3) := by decide +kernel
theorem dX7_branch_40 : decode cX7_branch 40 = .ok (.iconst 1, 1) := by decide +kernel
theorem dX7_branch_41 : decode cX7_branch 41 = .ok (.goto 4, 3) := by decide +kernel
theorem dX7_branch_44 : decode cX7_branch 44 = .ok (.iconst 0, 1) := by decide +kernel
theorem dX7_branch_45 : decode cX7_branch 45 = .ok (.istore_n 3, 1) := by decide +kernel
theorem dX7_branch_46 : decode cX7_branch 46 = .ok (.aload_n 0, 1) := by decide +kernel
theorem dX7_branch_47 : decode cX7_branch 47 = .ok (.iconst 1, 1) := by decide +kernel
theorem dX7_branch_48 : decode cX7_branch 48 = .ok (.invokevirtual 95, 3) := by decide +kernel
theorem dX7_branch_51 : decode cX7_branch 51 = .ok (.aload_n 0, 1) := by decide +kernel
theorem dX7_branch_52 : decode cX7_branch 52 = .ok (.getfield 23, 3) := by decide +kernel
theorem dX7_branch_55 : decode cX7_branch 55 = .ok (.aload_n 0, 1) := by decide +kernel
theorem dX7_branch_56 : decode cX7_branch 56 = .ok (.getfield 103, 3) := by decide +kernel
theorem dX7_branch_59 : decode cX7_branch 59 = .ok (.iload_n 3, 1) := by decide +kernel
theorem dX7_branch_60 : decode cX7_branch 60 = .ok (.bastore, 1) := by decide +kernel
theorem dX7_branch_61 : decode cX7_branch 61 = .ok (.aload_n 0, 1) := by decide +kernel
theorem dX7_branch_62 : decode cX7_branch 62 = .ok (.dup, 1) := by decide +kernel
theorem dX7_branch_63 : decode cX7_branch 63 = .ok (.getfield 103, 3) := by decide +kernel
theorem dX7_branch_66 : decode cX7_branch 66 = .ok (.iconst 1, 1) := by decide +kernel
theorem dX7_branch_67 : decode cX7_branch 67 = .ok (.iadd, 1) := by decide +kernel
theorem dX7_branch_68 : decode cX7_branch 68 = .ok (.putfield 103, 3) := by decide +kernel
theorem dX7_branch_71 : decode cX7_branch 71 = .ok (.return_, 1) := by decide +kernel
theorem dX7_branch_72 : decode cX7_branch 72 = .ok (.aload_n 0, 1) := by decide +kernel
theorem dX7_branch_73 : decode cX7_branch 73 = .ok (.aload_n 0, 1) := by decide +kernel
theorem dX7_branch_74 : decode cX7_branch 74 = .ok (.getfield 103, 3) := by decide +kernel
theorem dX7_branch_77 : decode cX7_branch 77 = .ok (.ifCond .le 7, 3) := by decide +kernel
theorem dX7_branch_80 : decode cX7_branch 80 = .ok (.iconst 1, 1) := by decide +kernel
theorem dX7_branch_81 : decode cX7_branch 81 = .ok (.goto 4, 3) := by decide +kernel
theorem dX7_branch_84 : decode cX7_branch 84 = .ok (.iconst 0, 1) := by decide +kernel
theorem dX7_branch_85 : decode cX7_branch 85 = .ok (.invokevirtual 91, 3) := by decide +kernel
theorem dX7_branch_88 : decode cX7_branch 88 = .ok (.iload_n 1, 1) := by decide +kernel
theorem dX7_branch_89 : decode cX7_branch 89 = .ok (.bipush 103, 2) := by decide +kernel
theorem dX7_branch_91 : decode cX7_branch 91 = .ok (.if_icmp .ne 36, 3) := by decide +kernel
theorem dX7_branch_94 : decode cX7_branch 94 = .ok (.aload_n 0, 1) := by decide +kernel
theorem dX7_branch_95 : decode cX7_branch 95 = .ok (.getfield 23, 3) := by decide +kernel
theorem dX7_branch_98 : decode cX7_branch 98 = .ok (.aload_n 0, 1) := by decide +kernel
theorem dX7_branch_99 : decode cX7_branch 99 = .ok (.getfield 103, 3) := by decide +kernel
theorem dX7_branch_102 : decode cX7_branch 102 = .ok (.iconst 1, 1) := by decide +kernel
theorem dX7_branch_103 : decode cX7_branch 103 = .ok (.isub, 1) := by decide +kernel
theorem dX7_branch_104 : decode cX7_branch 104 = .ok (.aload_n 0, 1) := by decide +kernel
theorem dX7_branch_105 : decode cX7_branch 105 = .ok (.getfield 23, 3) := by decide +kernel
theorem dX7_branch_108 : decode cX7_branch 108 = .ok (.aload_n 0, 1) := by decide +kernel
theorem dX7_branch_109 : decode cX7_branch 109 = .ok (.getfield 103, 3) := by decide +kernel
theorem dX7_branch_112 : decode cX7_branch 112 = .ok (.iconst 1, 1) := by decide +kernel
theorem dX7_branch_113 : decode cX7_branch 113 = .ok (.isub, 1) := by decide +kernel
theorem dX7_branch_114 : decode cX7_branch 114 = .ok (.baload, 1) := by decide +kernel
theorem dX7_branch_115 : decode cX7_branch 115 = .ok (.ifCond .ne 7, 3) := by decide +kernel
theorem dX7_branch_118 : decode cX7_branch 118 = .ok (.iconst 1, 1) := by decide +kernel
theorem dX7_branch_119 : decode cX7_branch 119 = .ok (.goto 4, 3) := by decide +kernel
theorem dX7_branch_122 : decode cX7_branch 122 = .ok (.iconst 0, 1) := by decide +kernel
theorem dX7_branch_123 : decode cX7_branch 123 = .ok (.bastore, 1) := by decide +kernel
theorem dX7_branch_124 : decode cX7_branch 124 = .ok (.goto 13, 3) := by decide +kernel
theorem dX7_branch_127 : decode cX7_branch 127 = .ok (.aload_n 0, 1) := by decide +kernel
theorem dX7_branch_128 : decode cX7_branch 128 = .ok (.dup, 1) := by decide +kernel
theorem dX7_branch_129 : decode cX7_branch 129 = .ok (.getfield 103, 3) := by decide +kernel
theorem dX7_branch_132 : decode cX7_branch 132 = .ok (.iconst 1, 1) := by decide +kernel
theorem dX7_branch_133 : decode cX7_branch 133 = .ok (.isub, 1) := by decide +kernel
theorem dX7_branch_134 : decode cX7_branch 134 = .ok (.putfield 103, 3) := by decide +kernel
theorem dX7_branch_137 : decode cX7_branch 137 = .ok (.return_, 1) := by decide +kernel
/-! CoinJudge$Machine.branch(IZ)V -/
set_option maxHeartbeats 4000000 in
theorem sX7_branch_0 {G : Gx} {d t : Nat} {h0 : AH} {Φ : Out → AH → Prop} (h : AH) (v0 : Nat) (v1 : Int32) (v2 : Int32) (K : ((v1 = 99 → Aw G mX7_branch (d + 1) t h0 Φ 12 [vR v0, vI v1, vI v2, vU] [] h) ∧ (¬ v1 = 99 → ((¬ v1 = 100 → h.kd v0 = 7 ∧ (((h.i 7008 v0) ≤ 0 → Cw G mX7_need d 0 [vR v0, vI 0] h (kV (fun h6 => ((¬ v1 = 103 → ∀ h11 : AH, h11 = h6.pi 7008 v0 ((h.i 7008 v0) - 1) → Φ (.inl none) h11) ∧ (v1 = 103 → ∀ r13 : Nat, r13 = (h6.r 7007 v0) → h6.kd r13 = 102 ∧ vp_in ((h.i 7008 v0) - 1) (h6.ai r13).length ∧ ((¬ ((h6.ai r13).getD (((h.i 7008 v0) - 1).toNatClampNeg) 0) = 0 → vp_in ((h.i 7008 v0) - 1) (h6.ai r13).length ∧ ∀ h20 : AH, h20 = h6.wi r13 ((h6.ai r13).set (((h.i 7008 v0) - 1).toNatClampNeg) 0) → Φ (.inl none) h20) ∧ (((h6.ai r13).getD (((h.i 7008 v0) - 1).toNatClampNeg) 0) = 0 → vp_in ((h.i 7008 v0) - 1) (h6.ai r13).length ∧ ∀ h22 : AH, h22 = h6.wi r13 ((h6.ai r13).set (((h.i 7008 v0) - 1).toNatClampNeg) 1) → Φ (.inl none) h22))))) (fun x h => Φ (.inr x) h))) ∧ (¬ (h.i 7008 v0) ≤ 0 → Cw G mX7_need d 0 [vR v0, vI 1] h (kV (fun h24 => ((¬ v1 = 103 → ∀ h29 : AH, h29 = h24.pi 7008 v0 ((h.i 7008 v0) - 1) → Φ (.inl none) h29) ∧ (v1 = 103 → ∀ r31 : Nat, r31 = (h24.r 7007 v0) → h24.kd r31 = 102 ∧ vp_in ((h.i 7008 v0) - 1) (h24.ai r31).length ∧ ((¬ ((h24.ai r31).getD (((h.i 7008 v0) - 1).toNatClampNeg) 0) = 0 → vp_in ((h.i 7008 v0) - 1) (h24.ai r31).length ∧ ∀ h38 : AH, h38 = h24.wi r31 ((h24.ai r31).set (((h.i 7008 v0) - 1).toNatClampNeg) 0) → Φ (.inl none) h38) ∧ (((h24.ai r31).getD (((h.i 7008 v0) - 1).toNatClampNeg) 0) = 0 → vp_in ((h.i 7008 v0) - 1) (h24.ai r31).length ∧ ∀ h40 : AH, h40 = h24.wi r31 ((h24.ai r31).set (((h.i 7008 v0) - 1).toNatClampNeg) 1) → Φ (.inl none) h40))))) (fun x h => Φ (.inr x) h))))) ∧ (v1 = 100 → Aw G mX7_branch (d + 1) t h0 Φ 12 [vR v0, vI v1, vI v2, vU] [] h))))) : Aw G mX7_branch (d + 1) t h0 Φ 0 [vR v0, vI v1, vI v2, vU] [] h := by
  refine r_iload_n (pc := 0) dX7_branch_0 rfl ?_
  refine r_bipush (pc := 1) (x := 99) dX7_branch_1 rfl ?_
  refine r_icmp_eq (pc := 3) (tgt := 12) dX7_branch_3 rfl (fun c1 => ?_) (fun c1 => ?_)
  · have K := K.1 c1
    refine r_mask (pc := 12) [true, true, true, false] rfl ?_
    exact K
  · have K := K.2 c1
    refine r_iload_n (pc := 6) dX7_branch_6 rfl ?_
    refine r_bipush (pc := 7) (x := 100) dX7_branch_7 rfl ?_
    refine r_icmp_ne (pc := 9) (tgt := 72) dX7_branch_9 rfl (fun c2 => ?_) (fun c2 => ?_)
    · have K := K.1 c2
      refine r_aload_n (pc := 72) dX7_branch_72 rfl ?_
      refine r_aload_n (pc := 73) dX7_branch_73 rfl ?_
      obtain ⟨hk3, K⟩ := K
      refine r_geti' (pc := 74) (T := TX7) 7 8 rfl hk3 (Or.inl q506) dX7_branch_74 kc7 g7008 ?_
      refine r_if_le (pc := 77) (tgt := 84) dX7_branch_77 rfl (fun c4 => ?_) (fun c4 => ?_)
      · have K := K.1 c4
        refine r_iconst (pc := 84) (x := 0) dX7_branch_84 rfl ?_
        refine r_callV_V (pc := 85) (Y := mX7_need) (vs := [_]) (st := []) hk3 rfl kc7 q1272 q1274 qs14 dX7_branch_85 rfl cd_X7_need rfl rfl fp_X7_branch_X7_need K (fun h6 eh6 wh6 K => ?_) (fun x h1 _ _ e => Tw.out rfl e)
        refine r_iload_n (pc := 88) dX7_branch_88 rfl ?_
        refine r_bipush (pc := 89) (x := 103) dX7_branch_89 rfl ?_
        refine r_icmp_ne (pc := 91) (tgt := 127) dX7_branch_91 rfl (fun c7 => ?_) (fun c7 => ?_)
        · have K := K.1 c7
          refine r_aload_n (pc := 127) dX7_branch_127 rfl ?_
          refine r_dup (pc := 128) rfl dX7_branch_128 ?_
          have hk8 := kd_ext eh6 hk3 (nz rfl)
          have hv9 := fi_self (key := 7008) hk3
          have hv10 := (fi_ext (key := 7008) eh6 hk3 (nz rfl) (ne0 wh6 hk8 (nz rfl)) (nm rfl)).trans hv9
          refine r_geti' (pc := 129) (T := TX7) 7 8 hv10 hk8 (Or.inl q506) dX7_branch_129 kc7 g7008 ?_
          refine r_iconst (pc := 132) (x := 1) dX7_branch_132 rfl ?_
          refine r_isub (pc := 133) dX7_branch_133 ?_
          refine r_puti (pc := 134) (T := TX7) (key := 7008) 7 8 hk8 (Or.inl q506) dX7_branch_134 kc7 rfl (Or.inl rfl) (Or.inl (em rfl)) ?_
          refine r_nameH (fun h11 eh11 => ?_)
          have K := K h11 eh11
          exact r_vret (pc := 137) rfl dX7_branch_137 K
        · have K := K.2 c7
          refine r_aload_n (pc := 94) dX7_branch_94 rfl ?_
          have hk12 := kd_ext eh6 hk3 (nz rfl)
          have K := K _ rfl
          refine r_getr' (pc := 95) (T := TX7) 7 7 rfl hk12 (Or.inl q505) dX7_branch_95 kc7 g7007 ?_
          refine r_aload_n (pc := 98) dX7_branch_98 rfl ?_
          have hv14 := fi_self (key := 7008) hk3
          have hv15 := (fi_ext (key := 7008) eh6 hk3 (nz rfl) (ne0 wh6 hk12 (nz rfl)) (nm rfl)).trans hv14
          refine r_geti' (pc := 99) (T := TX7) 7 8 hv15 hk12 (Or.inl q506) dX7_branch_99 kc7 g7008 ?_
          refine r_iconst (pc := 102) (x := 1) dX7_branch_102 rfl ?_
          refine r_isub (pc := 103) dX7_branch_103 ?_
          refine r_aload_n (pc := 104) dX7_branch_104 rfl ?_
          refine r_getr' (pc := 105) (T := TX7) 7 7 rfl hk12 (Or.inl q505) dX7_branch_105 kc7 g7007 ?_
          refine r_aload_n (pc := 108) dX7_branch_108 rfl ?_
          refine r_geti' (pc := 109) (T := TX7) 7 8 hv15 hk12 (Or.inl q506) dX7_branch_109 kc7 g7008 ?_
          refine r_iconst (pc := 112) (x := 1) dX7_branch_112 rfl ?_
          refine r_isub (pc := 113) dX7_branch_113 ?_
          obtain ⟨hk16, K⟩ := K
          obtain ⟨hi17, K⟩ := K
          refine r_zaload (pc := 114) hk16 hi17 dX7_branch_114 ?_
          refine r_if_ne (pc := 115) (tgt := 122) dX7_branch_115 rfl (fun c18 => ?_) (fun c18 => ?_)
          · have K := K.1 c18
            refine r_iconst (pc := 122) (x := 0) dX7_branch_122 rfl ?_
            obtain ⟨hi19, K⟩ := K
            refine r_zastore (pc := 123) hk16 hi19 (by decide) (Or.inl (em rfl)) dX7_branch_123 ?_
            refine r_nameH (fun h20 eh20 => ?_)
            have K := K h20 eh20
            refine r_goto (pc := 124) (tgt := 137) dX7_branch_124 rfl ?_
            exact r_vret (pc := 137) rfl dX7_branch_137 K
          · have K := K.2 c18
            refine r_iconst (pc := 118) (x := 1) dX7_branch_118 rfl ?_
            refine r_goto (pc := 119) (tgt := 123) dX7_branch_119 rfl ?_
            obtain ⟨hi21, K⟩ := K
            refine r_zastore (pc := 123) hk16 hi21 (by decide) (Or.inl (em rfl)) dX7_branch_123 ?_
            refine r_nameH (fun h22 eh22 => ?_)
            have K := K h22 eh22
            refine r_goto (pc := 124) (tgt := 137) dX7_branch_124 rfl ?_
            exact r_vret (pc := 137) rfl dX7_branch_137 K
      · have K := K.2 c4
        refine r_iconst (pc := 80) (x := 1) dX7_branch_80 rfl ?_
        refine r_goto (pc := 81) (tgt := 85) dX7_branch_81 rfl ?_
        refine r_callV_V (pc := 85) (Y := mX7_need) (vs := [_]) (st := []) hk3 rfl kc7 q1272 q1274 qs14 dX7_branch_85 rfl cd_X7_need rfl rfl fp_X7_branch_X7_need K (fun h24 eh24 wh24 K => ?_) (fun x h1 _ _ e => Tw.out rfl e)
        refine r_iload_n (pc := 88) dX7_branch_88 rfl ?_
        refine r_bipush (pc := 89) (x := 103) dX7_branch_89 rfl ?_
        refine r_icmp_ne (pc := 91) (tgt := 127) dX7_branch_91 rfl (fun c25 => ?_) (fun c25 => ?_)
        · have K := K.1 c25
          refine r_aload_n (pc := 127) dX7_branch_127 rfl ?_
          refine r_dup (pc := 128) rfl dX7_branch_128 ?_
          have hk26 := kd_ext eh24 hk3 (nz rfl)
          have hv27 := fi_self (key := 7008) hk3
          have hv28 := (fi_ext (key := 7008) eh24 hk3 (nz rfl) (ne0 wh24 hk26 (nz rfl)) (nm rfl)).trans hv27
          refine r_geti' (pc := 129) (T := TX7) 7 8 hv28 hk26 (Or.inl q506) dX7_branch_129 kc7 g7008 ?_
          refine r_iconst (pc := 132) (x := 1) dX7_branch_132 rfl ?_
          refine r_isub (pc := 133) dX7_branch_133 ?_
          refine r_puti (pc := 134) (T := TX7) (key := 7008) 7 8 hk26 (Or.inl q506) dX7_branch_134 kc7 rfl (Or.inl rfl) (Or.inl (em rfl)) ?_
          refine r_nameH (fun h29 eh29 => ?_)
          have K := K h29 eh29
          exact r_vret (pc := 137) rfl dX7_branch_137 K
        · have K := K.2 c25
          refine r_aload_n (pc := 94) dX7_branch_94 rfl ?_
          have hk30 := kd_ext eh24 hk3 (nz rfl)
          have K := K _ rfl
          refine r_getr' (pc := 95) (T := TX7) 7 7 rfl hk30 (Or.inl q505) dX7_branch_95 kc7 g7007 ?_
          refine r_aload_n (pc := 98) dX7_branch_98 rfl ?_
          have hv32 := fi_self (key := 7008) hk3
          have hv33 := (fi_ext (key := 7008) eh24 hk3 (nz rfl) (ne0 wh24 hk30 (nz rfl)) (nm rfl)).trans hv32
          refine r_geti' (pc := 99) (T := TX7) 7 8 hv33 hk30 (Or.inl q506) dX7_branch_99 kc7 g7008 ?_
          refine r_iconst (pc := 102) (x := 1) dX7_branch_102 rfl ?_
          refine r_isub (pc := 103) dX7_branch_103 ?_
          refine r_aload_n (pc := 104) dX7_branch_104 rfl ?_
          refine r_getr' (pc := 105) (T := TX7) 7 7 rfl hk30 (Or.inl q505) dX7_branch_105 kc7 g7007 ?_
          refine r_aload_n (pc := 108) dX7_branch_108 rfl ?_
          refine r_geti' (pc := 109) (T := TX7) 7 8 hv33 hk30 (Or.inl q506) dX7_branch_109 kc7 g7008 ?_
          refine r_iconst (pc := 112) (x := 1) dX7_branch_112 rfl ?_
          refine r_isub (pc := 113) dX7_branch_113 ?_
          obtain ⟨hk34, K⟩ := K
          obtain ⟨hi35, K⟩ := K
          refine r_zaload (pc := 114) hk34 hi35 dX7_branch_114 ?_
          refine r_if_ne (pc := 115) (tgt := 122) dX7_branch_115 rfl (fun c36 => ?_) (fun c36 => ?_)
          · have K := K.1 c36
            refine r_iconst (pc := 122) (x := 0) dX7_branch_122 rfl ?_
            obtain ⟨hi37, K⟩ := K
            refine r_zastore (pc := 123) hk34 hi37 (by decide) (Or.inl (em rfl)) dX7_branch_123 ?_
            refine r_nameH (fun h38 eh38 => ?_)
            have K := K h38 eh38
            refine r_goto (pc := 124) (tgt := 137) dX7_branch_124 rfl ?_
            exact r_vret (pc := 137) rfl dX7_branch_137 K
          · have K := K.2 c36
            refine r_iconst (pc := 118) (x := 1) dX7_branch_118 rfl ?_
            refine r_goto (pc := 119) (tgt := 123) dX7_branch_119 rfl ?_
            obtain ⟨hi39, K⟩ := K
            refine r_zastore (pc := 123) hk34 hi39 (by decide) (Or.inl (em rfl)) dX7_branch_123 ?_
            refine r_nameH (fun h40 eh40 => ?_)
            have K := K h40 eh40
            refine r_goto (pc := 124) (tgt := 137) dX7_branch_124 rfl ?_
            exact r_vret (pc := 137) rfl dX7_branch_137 K
    · have K := K.2 c2
      refine r_mask (pc := 12) [true, true, true, false] rfl ?_
      exact K
theorem eX7_branch {G : Gx} {d : Nat} {Φ : Out → AH → Prop} (h : AH) (v0 : Nat) (v1 : Int32) (v2 : Int32) (K : WF G h → Aw G mX7_branch (d + 1) 0 h Φ 0 [vR v0, vI v1, vI v2, vU] [] h) : Cw G mX7_branch (d + 1) 0 [vR v0, vI v1, vI v2] h Φ := Cw.of rfl K
set_option maxHeartbeats 4000000 in
theorem sX7_branch_12 {G : Gx} {d t : Nat} {h0 : AH} {Φ : Out → AH → Prop} (h : AH) (v0 : Nat) (v1 : Int32) (v2 : Int32) (K : ((v2 = 0 → Aw G mX7_branch (d + 1) t h0 Φ 51 [vR v0, vU, vU, vI 0] [] h) ∧ (¬ v2 = 0 → h.kd v0 = 7 ∧ Cw G mX7_top d 0 [vR v0, vI 0] h (kR (fun x2 h3 => h3.kd x2 = 22 ∧ Cw G mX22_isTrue d 0 [vR x2] h3 (kI (fun x5 h6 => ((¬ v1 = 99 → ((¬ x5 = 0 → Cw G mX7_drop d 0 [vR v0, vI 1] h6 (kV (fun h11 => Aw G mX7_branch (d + 1) t h0 Φ 51 [vR v0, vU, vU, vI 0] [] h11) (fun x h => Φ (.inr x) h))) ∧ (x5 = 0 → Cw G mX7_drop d 0 [vR v0, vI 1] h6 (kV (fun h15 => Aw G mX7_branch (d + 1) t h0 Φ 51 [vR v0, vU, vU, vI 1] [] h15) (fun x h => Φ (.inr x) h))))) ∧ (v1 = 99 → ((¬ x5 = 1 → Cw G mX7_drop d 0 [vR v0, vI 1] h6 (kV (fun h20 => Aw G mX7_branch (d + 1) t h0 Φ 51 [vR v0, vU, vU, vI 0] [] h20) (fun x h => Φ (.inr x) h))) ∧ (x5 = 1 → Cw G mX7_drop d 0 [vR v0, vI 1] h6 (kV (fun h24 => Aw G mX7_branch (d + 1) t h0 Φ 51 [vR v0, vU, vU, vI 1] [] h24) (fun x h => Φ (.inr x) h))))))) (fun x h => Φ (.inr x) h))) (fun x h => Φ (.inr x) h))))) : Aw G mX7_branch (d + 1) t h0 Φ 12 [vR v0, vI v1, vI v2, vU] [] h := by
  refine r_iconst (pc := 12) (x := 0) dX7_branch_12 rfl ?_
  refine r_istore_n (pc := 13) (lv' := [_, _, _, _]) dX7_branch_13 (by decide) rfl ?_
  refine r_iload_n (pc := 14) dX7_branch_14 rfl ?_
  refine r_if_eq (pc := 15) (tgt := 51) dX7_branch_15 rfl (fun c1 => ?_) (fun c1 => ?_)
  · have K := K.1 c1
    refine r_mask (pc := 51) [true, false, false, true] rfl ?_
    exact K
  · have K := K.2 c1
    refine r_aload_n (pc := 18) dX7_branch_18 rfl ?_
    refine r_iconst (pc := 19) (x := 0) dX7_branch_19 rfl ?_
    obtain ⟨hk4, K⟩ := K
    refine r_callV_R (pc := 20) (Y := mX7_top) (vs := [_]) (st := []) hk4 rfl kc7 q1311 q1313 qs17 dX7_branch_20 rfl cd_X7_top rfl rfl fp_X7_branch_X7_top K (fun x2 h3 eh3 wh3 K => ?_) (fun x h1 _ _ e => Tw.out rfl e)
    obtain ⟨hk7, K⟩ := K
    refine r_callV_I (pc := 23) (Y := mX22_isTrue) (vs := []) (st := []) hk7 rfl kc22 q1315 q1316 q1317 dX7_branch_23 rfl cd_X22_isTrue rfl rfl fp_X7_branch_X22_isTrue K (fun x5 h6 eh6 wh6 K => ?_) (fun x h1 _ _ e => Tw.out rfl e)
    refine r_iload_n (pc := 26) dX7_branch_26 rfl ?_
    refine r_bipush (pc := 27) (x := 99) dX7_branch_27 rfl ?_
    refine r_icmp_ne (pc := 29) (tgt := 36) dX7_branch_29 rfl (fun c8 => ?_) (fun c8 => ?_)
    · have K := K.1 c8
      refine r_iconst (pc := 36) (x := 0) dX7_branch_36 rfl ?_
      refine r_icmp_ne (pc := 37) (tgt := 44) dX7_branch_37 rfl (fun c9 => ?_) (fun c9 => ?_)
      · have K := K.1 c9
        refine r_iconst (pc := 44) (x := 0) dX7_branch_44 rfl ?_
        refine r_istore_n (pc := 45) (lv' := [_, _, _, _]) dX7_branch_45 (by decide) rfl ?_
        refine r_aload_n (pc := 46) dX7_branch_46 rfl ?_
        refine r_iconst (pc := 47) (x := 1) dX7_branch_47 rfl ?_
        have hk12 := kd_ext eh3 hk4 (nz rfl)
        have hk13 := kd_ext eh6 hk12 (nz rfl)
        refine r_callV_V (pc := 48) (Y := mX7_drop) (vs := [_]) (st := []) hk13 rfl kc7 q1319 q1321 qs18 dX7_branch_48 rfl cd_X7_drop rfl rfl fp_X7_branch_X7_drop K (fun h11 eh11 wh11 K => ?_) (fun x h1 _ _ e => Tw.out rfl e)
        refine r_mask (pc := 51) [true, false, false, true] rfl ?_
        exact K
      · have K := K.2 c9
        refine r_iconst (pc := 40) (x := 1) dX7_branch_40 rfl ?_
        refine r_goto (pc := 41) (tgt := 45) dX7_branch_41 rfl ?_
        refine r_istore_n (pc := 45) (lv' := [_, _, _, _]) dX7_branch_45 (by decide) rfl ?_
        refine r_aload_n (pc := 46) dX7_branch_46 rfl ?_
        refine r_iconst (pc := 47) (x := 1) dX7_branch_47 rfl ?_
        have hk16 := kd_ext eh3 hk4 (nz rfl)
        have hk17 := kd_ext eh6 hk16 (nz rfl)
        refine r_callV_V (pc := 48) (Y := mX7_drop) (vs := [_]) (st := []) hk17 rfl kc7 q1319 q1321 qs18 dX7_branch_48 rfl cd_X7_drop rfl rfl fp_X7_branch_X7_drop K (fun h15 eh15 wh15 K => ?_) (fun x h1 _ _ e => Tw.out rfl e)
        refine r_mask (pc := 51) [true, false, false, true] rfl ?_
        exact K
    · have K := K.2 c8
      refine r_iconst (pc := 32) (x := 1) dX7_branch_32 rfl ?_
      refine r_goto (pc := 33) (tgt := 37) dX7_branch_33 rfl ?_
      refine r_icmp_ne (pc := 37) (tgt := 44) dX7_branch_37 rfl (fun c18 => ?_) (fun c18 => ?_)
      · have K := K.1 c18
        refine r_iconst (pc := 44) (x := 0) dX7_branch_44 rfl ?_
        refine r_istore_n (pc := 45) (lv' := [_, _, _, _]) dX7_branch_45 (by decide) rfl ?_
        refine r_aload_n (pc := 46) dX7_branch_46 rfl ?_
        refine r_iconst (pc := 47) (x := 1) dX7_branch_47 rfl ?_
        have hk21 := kd_ext eh3 hk4 (nz rfl)
        have hk22 := kd_ext eh6 hk21 (nz rfl)
        refine r_callV_V (pc := 48) (Y := mX7_drop) (vs := [_]) (st := []) hk22 rfl kc7 q1319 q1321 qs18 dX7_branch_48 rfl cd_X7_drop rfl rfl fp_X7_branch_X7_drop K (fun h20 eh20 wh20 K => ?_) (fun x h1 _ _ e => Tw.out rfl e)
        refine r_mask (pc := 51) [true, false, false, true] rfl ?_
        exact K
      · have K := K.2 c18
        refine r_iconst (pc := 40) (x := 1) dX7_branch_40 rfl ?_
        refine r_goto (pc := 41) (tgt := 45) dX7_branch_41 rfl ?_
        refine r_istore_n (pc := 45) (lv' := [_, _, _, _]) dX7_branch_45 (by decide) rfl ?_
        refine r_aload_n (pc := 46) dX7_branch_46 rfl ?_
        refine r_iconst (pc := 47) (x := 1) dX7_branch_47 rfl ?_
        have hk25 := kd_ext eh3 hk4 (nz rfl)
        have hk26 := kd_ext eh6 hk25 (nz rfl)
        refine r_callV_V (pc := 48) (Y := mX7_drop) (vs := [_]) (st := []) hk26 rfl kc7 q1319 q1321 qs18 dX7_branch_48 rfl cd_X7_drop rfl rfl fp_X7_branch_X7_drop K (fun h24 eh24 wh24 K => ?_) (fun x h1 _ _ e => Tw.out rfl e)
        refine r_mask (pc := 51) [true, false, false, true] rfl ?_
        exact K
set_option maxHeartbeats 4000000 in
theorem sX7_branch_51 {G : Gx} {d t : Nat} {h0 : AH} {Φ : Out → AH → Prop} (h : AH) (v0 : Nat) (v3 : Int32) (K : h.kd v0 = 7 ∧ ∀ r2 : Nat, r2 = (h.r 7007 v0) → h.kd r2 = 102 ∧ vp_in (h.i 7008 v0) (h.ai r2).length ∧ (v3 = 0 ∨ v3 = 1) ∧ ∀ h6 : AH, h6 = h.wi r2 ((h.ai r2).set ((h.i 7008 v0).toNatClampNeg) v3) → ∀ h10 : AH, h10 = h6.pi 7008 v0 ((h.i 7008 v0) + 1) → Φ (.inl none) h10) : Aw G mX7_branch (d + 1) t h0 Φ 51 [vR v0, vU, vU, vI v3] [] h := by
  refine r_aload_n (pc := 51) dX7_branch_51 rfl ?_
  obtain ⟨hk1, K⟩ := K
  have K := K _ rfl
  refine r_getr' (pc := 52) (T := TX7) 7 7 rfl hk1 (Or.inl q505) dX7_branch_52 kc7 g7007 ?_
  refine r_aload_n (pc := 55) dX7_branch_55 rfl ?_
  refine r_geti' (pc := 56) (T := TX7) 7 8 rfl hk1 (Or.inl q506) dX7_branch_56 kc7 g7008 ?_
  refine r_iload_n (pc := 59) dX7_branch_59 rfl ?_
  obtain ⟨hk3, K⟩ := K
  obtain ⟨hi4, K⟩ := K
  obtain ⟨hb5, K⟩ := K
  refine r_zastore (pc := 60) hk3 hi4 hb5 (Or.inl (em rfl)) dX7_branch_60 ?_
  refine r_nameH (fun h6 eh6 => ?_)
  have K := K h6 eh6
  refine r_aload_n (pc := 61) dX7_branch_61 rfl ?_
  refine r_dup (pc := 62) rfl dX7_branch_62 ?_
  have hk7 := kd_wi eh6 hk1
  have hv8 := fi_self (key := 7008) hk1
  have hv9 := fi_wi (key := 7008) eh6 hv8
  refine r_geti' (pc := 63) (T := TX7) 7 8 hv9 hk7 (Or.inl q506) dX7_branch_63 kc7 g7008 ?_
  refine r_iconst (pc := 66) (x := 1) dX7_branch_66 rfl ?_
  refine r_iadd (pc := 67) dX7_branch_67 ?_
  refine r_puti (pc := 68) (T := TX7) (key := 7008) 7 8 hk7 (Or.inl q506) dX7_branch_68 kc7 rfl (Or.inl rfl) (Or.inl (em rfl)) ?_
  refine r_nameH (fun h10 eh10 => ?_)
  have K := K h10 eh10
  exact r_vret (pc := 71) rfl dX7_branch_71 K
theorem dX7_never_0 : decode cX7_never 0 = .ok (.iload_n 0, 1) := by decide +kernel
theorem dX7_never_1 : decode cX7_never 1 = .ok (.bipush 126, 2) := by decide +kernel
theorem dX7_never_3 : decode cX7_never 3 = .ok (.if_icmp .lt 10, 3) := by decide +kernel
theorem dX7_never_6 : decode cX7_never 6 = .ok (.iload_n 0, 1) := by decide +kernel
theorem dX7_never_7 : decode cX7_never 7 = .ok (.sipush 129, 3) := by decide +kernel
theorem dX7_never_10 : decode cX7_never 10 = .ok (.if_icmp .le 57, 3) := by decide +kernel
theorem dX7_never_13 : decode cX7_never 13 = .ok (.iload_n 0, 1) := by decide +kernel
theorem dX7_never_14 : decode cX7_never 14 = .ok (.sipush 131, 3) := by decide +kernel
theorem dX7_never_17 : decode cX7_never 17 = .ok (.if_icmp .lt 10, 3) := by decide +kernel
theorem dX7_never_20 : decode cX7_never 20 = .ok (.iload_n 0, 1) := by decide +kernel
theorem dX7_never_21 : decode cX7_never 21 = .ok (.sipush 134, 3) := by decide +kernel
theorem dX7_never_24 : decode cX7_never 24 = .ok (.if_icmp .le 43, 3) := by decide +kernel
theorem dX7_never_27 : decode cX7_never 27 = .ok (.iload_n 0, 1) := by decide +kernel
theorem dX7_never_28 : decode cX7_never 28 = .ok (.sipush 141, 3) := by decide +kernel
theorem dX7_never_31 : decode cX7_never 31 = .ok (.if_icmp .eq 36, 3) := by decide +kernel
theorem dX7_never_34 : decode cX7_never 34 = .ok (.iload_n 0, 1) := by decide +kernel
theorem dX7_never_35 : decode cX7_never 35 = .ok (.sipush 142, 3) := by decide +kernel
theorem dX7_never_38 : decode cX7_never 38 = .ok (.if_icmp .eq 29, 3) := by decide +kernel
theorem dX7_never_41 : decode cX7_never 41 = .ok (.iload_n 0, 1) := by decide +kernel
theorem dX7_never_42 : decode cX7_never 42 = .ok (.sipush 149, 3) := by decide +kernel
theorem dX7_never_45 : decode cX7_never 45 = .ok (.if_icmp .lt 10, 3) := by decide +kernel
theorem dX7_never_48 : decode cX7_never 48 = .ok (.iload_n 0, 1) := by decide +kernel
theorem dX7_never_49 : decode cX7_never 49 = .ok (.sipush 153, 3) := by decide +kernel
theorem dX7_never_52 : decode cX7_never 52 = .ok (.if_icmp .le 15, 3) := by decide +kernel
theorem dX7_never_55 : decode cX7_never 55 = .ok (.iload_n 0, 1) := by decide +kernel
theorem dX7_never_56 : decode cX7_never 56 = .ok (.bipush 101, 2) := by decide +kernel
theorem dX7_never_58 : decode cX7_never 58 = .ok (.if_icmp .eq 9, 3) := by decide +kernel
theorem dX7_never_61 : decode cX7_never 61 = .ok (.iload_n 0, 1) := by decide +kernel
theorem dX7_never_62 : decode cX7_never 62 = .ok (.bipush 102, 2) := by decide +kernel
theorem dX7_never_64 : decode cX7_never 64 = .ok (.if_icmp .ne 7, 3) := by decide +kernel
theorem dX7_never_67 : decode cX7_never 67 = .ok (.iconst 1, 1) := by decide +kernel
theorem dX7_never_68 : decode cX7_never 68 = .ok (.goto 4, 3) := by decide +kernel
theorem dX7_never_71 : decode cX7_never 71 = .ok (.iconst 0, 1) := by decide +kernel
theorem dX7_never_72 : decode cX7_never 72 = .ok (.ireturn, 1) := by decide +kernel
/-! CoinJudge$Machine.never(I)Z -/
set_option maxHeartbeats 4000000 in
theorem sX7_never_0 {G : Gx} {d t : Nat} {h0 : AH} {Φ : Out → AH → Prop} (h : AH) (v0 : Int32) (K : ((v0 < 126 → ((v0 < 131 → Aw G mX7_never (d + 1) t h0 Φ 27 [vI v0] [] h) ∧ (¬ v0 < 131 → ((v0 ≤ 134 → Φ (.inl (some (vI 1))) h) ∧ (¬ v0 ≤ 134 → Aw G mX7_never (d + 1) t h0 Φ 27 [vI v0] [] h))))) ∧ (¬ v0 < 126 → ((v0 ≤ 129 → Φ (.inl (some (vI 1))) h) ∧ (¬ v0 ≤ 129 → ((v0 < 131 → Aw G mX7_never (d + 1) t h0 Φ 27 [vI v0] [] h) ∧ (¬ v0 < 131 → ((v0 ≤ 134 → Φ (.inl (some (vI 1))) h) ∧ (¬ v0 ≤ 134 → Aw G mX7_never (d + 1) t h0 Φ 27 [vI v0] [] h))))))))) : Aw G mX7_never (d + 1) t h0 Φ 0 [vI v0] [] h := by
  refine r_iload_n (pc := 0) dX7_never_0 rfl ?_
  refine r_bipush (pc := 1) (x := 126) dX7_never_1 rfl ?_
  refine r_icmp_lt (pc := 3) (tgt := 13) dX7_never_3 rfl (fun c1 => ?_) (fun c1 => ?_)
  · have K := K.1 c1
    refine r_iload_n (pc := 13) dX7_never_13 rfl ?_
    refine r_sipush (pc := 14) (x := 131) dX7_never_14 rfl ?_
    refine r_icmp_lt (pc := 17) (tgt := 27) dX7_never_17 rfl (fun c2 => ?_) (fun c2 => ?_)
    · have K := K.1 c2
      refine r_mask (pc := 27) [true] rfl ?_
      exact K
    · have K := K.2 c2
      refine r_iload_n (pc := 20) dX7_never_20 rfl ?_
      refine r_sipush (pc := 21) (x := 134) dX7_never_21 rfl ?_
      refine r_icmp_le (pc := 24) (tgt := 67) dX7_never_24 rfl (fun c3 => ?_) (fun c3 => ?_)
      · have K := K.1 c3
        refine r_iconst (pc := 67) (x := 1) dX7_never_67 rfl ?_
        refine r_goto (pc := 68) (tgt := 72) dX7_never_68 rfl ?_
        exact r_iret (pc := 72) rfl rfl dX7_never_72 K
      · have K := K.2 c3
        refine r_mask (pc := 27) [true] rfl ?_
        exact K
  · have K := K.2 c1
    refine r_iload_n (pc := 6) dX7_never_6 rfl ?_
    refine r_sipush (pc := 7) (x := 129) dX7_never_7 rfl ?_
    refine r_icmp_le (pc := 10) (tgt := 67) dX7_never_10 rfl (fun c4 => ?_) (fun c4 => ?_)
    · have K := K.1 c4
      refine r_iconst (pc := 67) (x := 1) dX7_never_67 rfl ?_
      refine r_goto (pc := 68) (tgt := 72) dX7_never_68 rfl ?_
      exact r_iret (pc := 72) rfl rfl dX7_never_72 K
    · have K := K.2 c4
      refine r_iload_n (pc := 13) dX7_never_13 rfl ?_
      refine r_sipush (pc := 14) (x := 131) dX7_never_14 rfl ?_
      refine r_icmp_lt (pc := 17) (tgt := 27) dX7_never_17 rfl (fun c5 => ?_) (fun c5 => ?_)
      · have K := K.1 c5
        refine r_mask (pc := 27) [true] rfl ?_
        exact K
      · have K := K.2 c5
        refine r_iload_n (pc := 20) dX7_never_20 rfl ?_
        refine r_sipush (pc := 21) (x := 134) dX7_never_21 rfl ?_
        refine r_icmp_le (pc := 24) (tgt := 67) dX7_never_24 rfl (fun c6 => ?_) (fun c6 => ?_)
        · have K := K.1 c6
          refine r_iconst (pc := 67) (x := 1) dX7_never_67 rfl ?_
          refine r_goto (pc := 68) (tgt := 72) dX7_never_68 rfl ?_
          exact r_iret (pc := 72) rfl rfl dX7_never_72 K
        · have K := K.2 c6
          refine r_mask (pc := 27) [true] rfl ?_
          exact K
theorem eX7_never {G : Gx} {d : Nat} {Φ : Out → AH → Prop} (h : AH) (v0 : Int32) (K : WF G h → Aw G mX7_never (d + 1) 0 h Φ 0 [vI v0] [] h) : Cw G mX7_never (d + 1) 0 [vI v0] h Φ := Cw.of rfl K
set_option maxHeartbeats 4000000 in
theorem sX7_never_27 {G : Gx} {d t : Nat} {h0 : AH} {Φ : Out → AH → Prop} (h : AH) (v0 : Int32) (K : ((v0 = 141 → Φ (.inl (some (vI 1))) h) ∧ (¬ v0 = 141 → ((v0 = 142 → Φ (.inl (some (vI 1))) h) ∧ (¬ v0 = 142 → ((v0 < 149 → ((v0 = 101 → Φ (.inl (some (vI 1))) h) ∧ (¬ v0 = 101 → ((¬ v0 = 102 → Φ (.inl (some (vI 0))) h) ∧ (v0 = 102 → Φ (.inl (some (vI 1))) h))))) ∧ (¬ v0 < 149 → ((v0 ≤ 153 → Φ (.inl (some (vI 1))) h) ∧ (¬ v0 ≤ 153 → ((v0 = 101 → Φ (.inl (some (vI 1))) h) ∧ (¬ v0 = 101 → ((¬ v0 = 102 → Φ (.inl (some (vI 0))) h) ∧ (v0 = 102 → Φ (.inl (some (vI 1))) h))))))))))))) : Aw G mX7_never (d + 1) t h0 Φ 27 [vI v0] [] h := by
  refine r_iload_n (pc := 27) dX7_never_27 rfl ?_
  refine r_sipush (pc := 28) (x := 141) dX7_never_28 rfl ?_
  refine r_icmp_eq (pc := 31) (tgt := 67) dX7_never_31 rfl (fun c1 => ?_) (fun c1 => ?_)
  · have K := K.1 c1
    refine r_iconst (pc := 67) (x := 1) dX7_never_67 rfl ?_
    refine r_goto (pc := 68) (tgt := 72) dX7_never_68 rfl ?_
    exact r_iret (pc := 72) rfl rfl dX7_never_72 K
  · have K := K.2 c1
    refine r_iload_n (pc := 34) dX7_never_34 rfl ?_
    refine r_sipush (pc := 35) (x := 142) dX7_never_35 rfl ?_
    refine r_icmp_eq (pc := 38) (tgt := 67) dX7_never_38 rfl (fun c2 => ?_) (fun c2 => ?_)
    · have K := K.1 c2
      refine r_iconst (pc := 67) (x := 1) dX7_never_67 rfl ?_
      refine r_goto (pc := 68) (tgt := 72) dX7_never_68 rfl ?_
      exact r_iret (pc := 72) rfl rfl dX7_never_72 K
    · have K := K.2 c2
      refine r_iload_n (pc := 41) dX7_never_41 rfl ?_
      refine r_sipush (pc := 42) (x := 149) dX7_never_42 rfl ?_
      refine r_icmp_lt (pc := 45) (tgt := 55) dX7_never_45 rfl (fun c3 => ?_) (fun c3 => ?_)
      · have K := K.1 c3
        refine r_iload_n (pc := 55) dX7_never_55 rfl ?_
        refine r_bipush (pc := 56) (x := 101) dX7_never_56 rfl ?_
        refine r_icmp_eq (pc := 58) (tgt := 67) dX7_never_58 rfl (fun c4 => ?_) (fun c4 => ?_)
        · have K := K.1 c4
          refine r_iconst (pc := 67) (x := 1) dX7_never_67 rfl ?_
          refine r_goto (pc := 68) (tgt := 72) dX7_never_68 rfl ?_
          exact r_iret (pc := 72) rfl rfl dX7_never_72 K
        · have K := K.2 c4
          refine r_iload_n (pc := 61) dX7_never_61 rfl ?_
          refine r_bipush (pc := 62) (x := 102) dX7_never_62 rfl ?_
          refine r_icmp_ne (pc := 64) (tgt := 71) dX7_never_64 rfl (fun c5 => ?_) (fun c5 => ?_)
          · have K := K.1 c5
            refine r_iconst (pc := 71) (x := 0) dX7_never_71 rfl ?_
            exact r_iret (pc := 72) rfl rfl dX7_never_72 K
          · have K := K.2 c5
            refine r_iconst (pc := 67) (x := 1) dX7_never_67 rfl ?_
            refine r_goto (pc := 68) (tgt := 72) dX7_never_68 rfl ?_
            exact r_iret (pc := 72) rfl rfl dX7_never_72 K
      · have K := K.2 c3
        refine r_iload_n (pc := 48) dX7_never_48 rfl ?_
        refine r_sipush (pc := 49) (x := 153) dX7_never_49 rfl ?_
        refine r_icmp_le (pc := 52) (tgt := 67) dX7_never_52 rfl (fun c6 => ?_) (fun c6 => ?_)
        · have K := K.1 c6
          refine r_iconst (pc := 67) (x := 1) dX7_never_67 rfl ?_
          refine r_goto (pc := 68) (tgt := 72) dX7_never_68 rfl ?_
          exact r_iret (pc := 72) rfl rfl dX7_never_72 K
        · have K := K.2 c6
          refine r_iload_n (pc := 55) dX7_never_55 rfl ?_
          refine r_bipush (pc := 56) (x := 101) dX7_never_56 rfl ?_
          refine r_icmp_eq (pc := 58) (tgt := 67) dX7_never_58 rfl (fun c7 => ?_) (fun c7 => ?_)
          · have K := K.1 c7
            refine r_iconst (pc := 67) (x := 1) dX7_never_67 rfl ?_
            refine r_goto (pc := 68) (tgt := 72) dX7_never_68 rfl ?_
            exact r_iret (pc := 72) rfl rfl dX7_never_72 K
          · have K := K.2 c7
            refine r_iload_n (pc := 61) dX7_never_61 rfl ?_
            refine r_bipush (pc := 62) (x := 102) dX7_never_62 rfl ?_
            refine r_icmp_ne (pc := 64) (tgt := 71) dX7_never_64 rfl (fun c8 => ?_) (fun c8 => ?_)
            · have K := K.1 c8
              refine r_iconst (pc := 71) (x := 0) dX7_never_71 rfl ?_
              exact r_iret (pc := 72) rfl rfl dX7_never_72 K
            · have K := K.2 c8
              refine r_iconst (pc := 67) (x := 1) dX7_never_67 rfl ?_
              refine r_goto (pc := 68) (tgt := 72) dX7_never_68 rfl ?_
              exact r_iret (pc := 72) rfl rfl dX7_never_72 K
theorem dX7_push_0 : decode cX7_push 0 = .ok (.aload_n 0, 1) := by decide +kernel
theorem dX7_push_1 : decode cX7_push 1 = .ok (.getfield 45, 3) := by decide +kernel
theorem dX7_push_4 : decode cX7_push 4 = .ok (.aload_n 0, 1) := by decide +kernel
theorem dX7_push_5 : decode cX7_push 5 = .ok (.getfield 49, 3) := by decide +kernel
theorem dX7_push_8 : decode cX7_push 8 = .ok (.iadd, 1) := by decide +kernel
theorem dX7_push_9 : decode cX7_push 9 = .ok (.sipush 1003, 3) := by decide +kernel
theorem dX7_push_12 : decode cX7_push 12 = .ok (.if_icmp .lt 11, 3) := by decide +kernel
theorem dX7_push_15 : decode cX7_push 15 = .ok (.new 52, 3) := by decide +kernel
theorem dX7_push_18 : decode cX7_push 18 = .ok (.dup, 1) := by decide +kernel
theorem dX7_push_19 : decode cX7_push 19 = .ok (.invokespecial 54, 3) := by decide +kernel
theorem dX7_push_22 : decode cX7_push 22 = .ok (.athrow, 1) := by decide +kernel
theorem dX7_push_23 : decode cX7_push 23 = .ok (.aload_n 0, 1) := by decide +kernel
theorem dX7_push_24 : decode cX7_push 24 = .ok (.dup, 1) := by decide +kernel
theorem dX7_push_25 : decode cX7_push 25 = .ok (.getfield 45, 3) := by decide +kernel
theorem dX7_push_28 : decode cX7_push 28 = .ok (.iconst 1, 1) := by decide +kernel
theorem dX7_push_29 : decode cX7_push 29 = .ok (.iadd, 1) := by decide +kernel
theorem dX7_push_30 : decode cX7_push 30 = .ok (.putfield 45, 3) := by decide +kernel
theorem dX7_push_33 : decode cX7_push 33 = .ok (.aload_n 0, 1) := by decide +kernel
theorem dX7_push_34 : decode cX7_push 34 = .ok (.getfield 13, 3) := by decide +kernel
theorem dX7_push_37 : decode cX7_push 37 = .ok (.aload_n 0, 1) := by decide +kernel
theorem dX7_push_38 : decode cX7_push 38 = .ok (.getfield 45, 3) := by decide +kernel
theorem dX7_push_41 : decode cX7_push 41 = .ok (.iconst 1, 1) := by decide +kernel
theorem dX7_push_42 : decode cX7_push 42 = .ok (.isub, 1) := by decide +kernel
theorem dX7_push_43 : decode cX7_push 43 = .ok (.invokestatic 55, 3) := by decide +kernel
theorem dX7_push_46 : decode cX7_push 46 = .ok (.areturn, 1) := by decide +kernel
/-! CoinJudge$Machine.push()LCoinJudge$Element; -/
set_option maxHeartbeats 4000000 in
theorem sX7_push_0 {G : Gx} {d t : Nat} {h0 : AH} {Φ : Out → AH → Prop} (h : AH) (v0 : Nat) (K : h.kd v0 = 7 ∧ ((((h.i 7004 v0) + (h.i 7005 v0)) < 1003 → ∀ h3 : AH, h3 = h.pi 7004 v0 ((h.i 7004 v0) + 1) → ∀ r5 : Nat, r5 = (h3.r 7001 v0) → Cw G mX7_at d 0 [vR r5, vI ((h3.i 7004 v0) - 1)] h3 (kR (fun x6 h7 => Φ (.inl (some (vR x6))) h7) (fun x h => Φ (.inr x) h))) ∧ (¬ ((h.i 7004 v0) + (h.i 7005 v0)) < 1003 → ∀ q8 : Nat, q8 = h.z → WF G h → ∀ h9 : AH, h9 = h.new 17 6 [] [] [] → 5 ≤ d ∧ ∀ h12 : AH, h12 = exH G 17 q8 h9 → Φ (.inr q8) h12))) : Aw G mX7_push (d + 1) t h0 Φ 0 [vR v0] [] h := by
  refine r_aload_n (pc := 0) dX7_push_0 rfl ?_
  obtain ⟨hk1, K⟩ := K
  refine r_geti' (pc := 1) (T := TX7) 7 4 rfl hk1 (Or.inl q502) dX7_push_1 kc7 g7004 ?_
  refine r_aload_n (pc := 4) dX7_push_4 rfl ?_
  refine r_geti' (pc := 5) (T := TX7) 7 5 rfl hk1 (Or.inl q503) dX7_push_5 kc7 g7005 ?_
  refine r_iadd (pc := 8) dX7_push_8 ?_
  refine r_sipush (pc := 9) (x := 1003) dX7_push_9 rfl ?_
  refine r_icmp_lt (pc := 12) (tgt := 23) dX7_push_12 rfl (fun c2 => ?_) (fun c2 => ?_)
  · have K := K.1 c2
    refine r_aload_n (pc := 23) dX7_push_23 rfl ?_
    refine r_dup (pc := 24) rfl dX7_push_24 ?_
    refine r_geti' (pc := 25) (T := TX7) 7 4 rfl hk1 (Or.inl q502) dX7_push_25 kc7 g7004 ?_
    refine r_iconst (pc := 28) (x := 1) dX7_push_28 rfl ?_
    refine r_iadd (pc := 29) dX7_push_29 ?_
    refine r_puti (pc := 30) (T := TX7) (key := 7004) 7 4 hk1 (Or.inl q502) dX7_push_30 kc7 rfl (Or.inl rfl) (Or.inl (em rfl)) ?_
    refine r_nameH (fun h3 eh3 => ?_)
    have K := K h3 eh3
    refine r_aload_n (pc := 33) dX7_push_33 rfl ?_
    have hk4 := kd_pi eh3 hk1
    have K := K _ rfl
    refine r_getr' (pc := 34) (T := TX7) 7 1 rfl hk4 (Or.inl q499) dX7_push_34 kc7 g7001 ?_
    refine r_aload_n (pc := 37) dX7_push_37 rfl ?_
    refine r_geti' (pc := 38) (T := TX7) 7 4 rfl hk4 (Or.inl q502) dX7_push_38 kc7 g7004 ?_
    refine r_iconst (pc := 41) (x := 1) dX7_push_41 rfl ?_
    refine r_isub (pc := 42) dX7_push_42 ?_
    refine r_callS_R (pc := 43) (Y := mX7_at) (vs := [_, _]) (st := []) q1284 q1285 q161 dX7_push_43 rfl cd_X7_at rfl rfl fp_X7_push_X7_at K (fun x6 h7 eh7 wh7 K => ?_) (fun x h1 _ _ e => Tw.out rfl e)
    exact r_aret (pc := 46) rfl rfl dX7_push_46 K
  · have K := K.2 c2
    refine r_new (pc := 15) 17 kc17 rfl q1264 q1037 q182 dX7_push_15 (fun q8 eq8 zq8 wq8 => ?_)
    refine r_nameH (fun h9 eh9 => ?_)
    have K := K q8 eq8 wq8 h9 eh9
    have hk10 := kd_newSE eh9 eq8
    refine r_dup (pc := 18) rfl dX7_push_18 ?_
    obtain ⟨hd11, K⟩ := K
    refine r_exInit (pc := 19) 17 _ hd11 hk10 (fr_newS eh9 eq8) (Or.inr zq8) kc17 rfl ex_17 (Or.inr ⟨_, q1276⟩) dX7_push_19 rfl ?_
    refine r_nameH (fun h12 eh12 => ?_)
    have K := K h12 eh12
    have hk13 := kd_exH eh12 hk10
    exact r_athrow (pc := 22) (nzk hk13 rfl) dX7_push_22 (Tw.out rfl K)
theorem eX7_push {G : Gx} {d : Nat} {Φ : Out → AH → Prop} (h : AH) (v0 : Nat) (K : WF G h → Aw G mX7_push (d + 1) 0 h Φ 0 [vR v0] [] h) : Cw G mX7_push (d + 1) 0 [vR v0] h Φ := Cw.of rfl K
theorem dX7_cleaned_0 : decode cX7_cleaned 0 = .ok (.iconst 0, 1) := by decide +kernel
theorem dX7_cleaned_1 : decode cX7_cleaned 1 = .ok (.istore 4, 2) := by decide +kernel
theorem dX7_cleaned_3 : decode cX7_cleaned 3 = .ok (.aload_n 3, 1) := by decide +kernel
theorem dX7_cleaned_4 : decode cX7_cleaned 4 = .ok (.getfield 69, 3) := by decide +kernel
theorem dX7_cleaned_7 : decode cX7_cleaned 7 = .ok (.bipush 76, 2) := by decide +kernel
theorem dX7_cleaned_9 : decode cX7_cleaned 9 = .ok (.if_icmp .ge 7, 3) := by decide +kernel
theorem dX7_cleaned_12 : decode cX7_cleaned 12 = .ok (.iconst 1, 1) := by decide +kernel
theorem dX7_cleaned_13 : decode cX7_cleaned 13 = .ok (.goto 4, 3) := by decide +kernel
theorem dX7_cleaned_16 : decode cX7_cleaned 16 = .ok (.iconst 2, 1) := by decide +kernel
theorem dX7_cleaned_17 : decode cX7_cleaned 17 = .ok (.istore 5, 2) := by decide +kernel
theorem dX7_cleaned_19 : decode cX7_cleaned 19 = .ok (.iconst 0, 1) := by decide +kernel
theorem dX7_cleaned_20 : decode cX7_cleaned 20 = .ok (.istore 6, 2) := by decide +kernel
theorem dX7_cleaned_22 : decode cX7_cleaned 22 = .ok (.iload 6, 2) := by decide +kernel
theorem dX7_cleaned_24 : decode cX7_cleaned 24 = .ok (.iload_n 2, 1) := by decide +kernel
theorem dX7_cleaned_25 : decode cX7_cleaned 25 = .ok (.if_icmp .ge 214, 3) := by decide +kernel
theorem dX7_cleaned_28 : decode cX7_cleaned 28 = .ok (.iload 6, 2) := by decide +kernel
theorem dX7_cleaned_30 : decode cX7_cleaned 30 = .ok (.iload 5, 2) := by decide +kernel
theorem dX7_cleaned_32 : decode cX7_cleaned 32 = .ok (.iadd, 1) := by decide +kernel
theorem dX7_cleaned_33 : decode cX7_cleaned 33 = .ok (.aload_n 3, 1) := by decide +kernel
theorem dX7_cleaned_34 : decode cX7_cleaned 34 = .ok (.getfield 69, 3) := by decide +kernel
theorem dX7_cleaned_37 : decode cX7_cleaned 37 = .ok (.iadd, 1) := by decide +kernel
theorem dX7_cleaned_38 : decode cX7_cleaned 38 = .ok (.iload_n 2, 1) := by decide +kernel
theorem dX7_cleaned_39 : decode cX7_cleaned 39 = .ok (.if_icmp .gt 57, 3) := by decide +kernel
theorem dX7_cleaned_42 : decode cX7_cleaned 42 = .ok (.iload 5, 2) := by decide +kernel
theorem dX7_cleaned_44 : decode cX7_cleaned 44 = .ok (.iconst 1, 1) := by decide +kernel
theorem dX7_cleaned_45 : decode cX7_cleaned 45 = .ok (.if_icmp .ne 21, 3) := by decide +kernel
theorem dX7_cleaned_48 : decode cX7_cleaned 48 = .ok (.aload_n 1, 1) := by decide +kernel
theorem dX7_cleaned_49 : decode cX7_cleaned 49 = .ok (.iload 6, 2) := by decide +kernel
theorem dX7_cleaned_51 : decode cX7_cleaned 51 = .ok (.baload, 1) := by decide +kernel
theorem dX7_cleaned_52 : decode cX7_cleaned 52 = .ok (.sipush 255, 3) := by decide +kernel
theorem dX7_cleaned_55 : decode cX7_cleaned 55 = .ok (.iand, 1) := by decide +kernel
theorem dX7_cleaned_56 : decode cX7_cleaned 56 = .ok (.aload_n 3, 1) := by decide +kernel
theorem dX7_cleaned_57 : decode cX7_cleaned 57 = .ok (.getfield 69, 3) := by decide +kernel
theorem dX7_cleaned_60 : decode cX7_cleaned 60 = .ok (.if_icmp .ne 36, 3) := by decide +kernel
theorem dX7_cleaned_63 : decode cX7_cleaned 63 = .ok (.goto 29, 3) := by decide +kernel
theorem dX7_cleaned_66 : decode cX7_cleaned 66 = .ok (.aload_n 1, 1) := by decide +kernel
theorem dX7_cleaned_67 : decode cX7_cleaned 67 = .ok (.iload 6, 2) := by decide +kernel
theorem dX7_cleaned_69 : decode cX7_cleaned 69 = .ok (.baload, 1) := by decide +kernel
theorem dX7_cleaned_70 : decode cX7_cleaned 70 = .ok (.bipush 76, 2) := by decide +kernel
theorem dX7_cleaned_72 : decode cX7_cleaned 72 = .ok (.if_icmp .ne 24, 3) := by decide +kernel
theorem dX7_cleaned_75 : decode cX7_cleaned 75 = .ok (.aload_n 1, 1) := by decide +kernel
theorem dX7_cleaned_76 : decode cX7_cleaned 76 = .ok (.iload 6, 2) := by decide +kernel
theorem dX7_cleaned_78 : decode cX7_cleaned 78 = .ok (.iconst 1, 1) := by decide +kernel
theorem dX7_cleaned_79 : decode cX7_cleaned 79 = .ok (.iadd, 1) := by decide +kernel
theorem dX7_cleaned_80 : decode cX7_cleaned 80 = .ok (.baload, 1) := by decide +kernel
theorem dX7_cleaned_81 : decode cX7_cleaned 81 = .ok (.sipush 255, 3) := by decide +kernel
theorem dX7_cleaned_84 : decode cX7_cleaned 84 = .ok (.iand, 1) := by decide +kernel
theorem dX7_cleaned_85 : decode cX7_cleaned 85 = .ok (.aload_n 3, 1) := by decide +kernel
theorem dX7_cleaned_86 : decode cX7_cleaned 86 = .ok (.getfield 69, 3) := by decide +kernel
theorem dX7_cleaned_89 : decode cX7_cleaned 89 = .ok (.if_icmp .ne 7, 3) := by decide +kernel
theorem dX7_cleaned_92 : decode cX7_cleaned 92 = .ok (.iconst 1, 1) := by decide +kernel
theorem dX7_cleaned_93 : decode cX7_cleaned 93 = .ok (.goto 4, 3) := by decide +kernel
theorem dX7_cleaned_96 : decode cX7_cleaned 96 = .ok (.iconst 0, 1) := by decide +kernel
theorem dX7_cleaned_97 : decode cX7_cleaned 97 = .ok (.istore 7, 2) := by decide +kernel
theorem dX7_cleaned_99 : decode cX7_cleaned 99 = .ok (.iconst 0, 1) := by decide +kernel
theorem dX7_cleaned_100 : decode cX7_cleaned 100 = .ok (.istore 8, 2) := by decide +kernel
theorem dX7_cleaned_102 : decode cX7_cleaned 102 = .ok (.iload 8, 2) := by decide +kernel
theorem dX7_cleaned_104 : decode cX7_cleaned 104 = .ok (.aload_n 3, 1) := by decide +kernel
theorem dX7_cleaned_105 : decode cX7_cleaned 105 = .ok (.getfield 69, 3) := by decide +kernel
theorem dX7_cleaned_108 : decode cX7_cleaned 108 = .ok (.if_icmp .ge 41, 3) := by decide +kernel
theorem dX7_cleaned_111 : decode cX7_cleaned 111 = .ok (.iload 7, 2) := by decide +kernel
theorem dX7_cleaned_113 : decode cX7_cleaned 113 = .ok (.ifCond .eq 36, 3) := by decide +kernel
theorem dX7_cleaned_116 : decode cX7_cleaned 116 = .ok (.aload_n 1, 1) := by decide +kernel
theorem dX7_cleaned_117 : decode cX7_cleaned 117 = .ok (.iload 6, 2) := by decide +kernel
theorem dX7_cleaned_119 : decode cX7_cleaned 119 = .ok (.iload 5, 2) := by decide +kernel
theorem dX7_cleaned_121 : decode cX7_cleaned 121 = .ok (.iadd, 1) := by decide +kernel
theorem dX7_cleaned_122 : decode cX7_cleaned 122 = .ok (.iload 8, 2) := by decide +kernel
theorem dX7_cleaned_124 : decode cX7_cleaned 124 = .ok (.iadd, 1) := by decide +kernel
theorem dX7_cleaned_125 : decode cX7_cleaned 125 = .ok (.baload, 1) := by decide +kernel
theorem dX7_cleaned_126 : decode cX7_cleaned 126 = .ok (.aload_n 3, 1) := by decide +kernel
theorem dX7_cleaned_127 : decode cX7_cleaned 127 = .ok (.getfield 66, 3) := by decide +kernel
theorem dX7_cleaned_130 : decode cX7_cleaned 130 = .ok (.iload 8, 2) := by decide +kernel
theorem dX7_cleaned_132 : decode cX7_cleaned 132 = .ok (.baload, 1) := by decide +kernel
theorem dX7_cleaned_133 : decode cX7_cleaned 133 = .ok (.if_icmp .ne 7, 3) := by decide +kernel
theorem dX7_cleaned_136 : decode cX7_cleaned 136 = .ok (.iconst 1, 1) := by decide +kernel
theorem dX7_cleaned_137 : decode cX7_cleaned 137 = .ok (.goto 4, 3) := by decide +kernel
theorem dX7_cleaned_140 : decode cX7_cleaned 140 = .ok (.iconst 0, 1) := by decide +kernel
theorem dX7_cleaned_141 : decode cX7_cleaned 141 = .ok (.istore 7, 2) := by decide +kernel
theorem dX7_cleaned_143 : decode cX7_cleaned 143 = .ok (.iinc 8 1, 3) := by decide +kernel
theorem dX7_cleaned_146 : decode cX7_cleaned 146 = .ok (.goto (-44), 3) := by decide +kernel
theorem dX7_cleaned_149 : decode cX7_cleaned 149 = .ok (.iload 7, 2) := by decide +kernel
theorem dX7_cleaned_151 : decode cX7_cleaned 151 = .ok (.ifCond .eq 13, 3) := by decide +kernel
theorem dX7_cleaned_154 : decode cX7_cleaned 154 = .ok (.iload 5, 2) := by decide +kernel
theorem dX7_cleaned_156 : decode cX7_cleaned 156 = .ok (.aload_n 3, 1) := by decide +kernel
theorem dX7_cleaned_157 : decode cX7_cleaned 157 = .ok (.getfield 69, 3) := by decide +kernel
theorem dX7_cleaned_160 : decode cX7_cleaned 160 = .ok (.iadd, 1) := by decide +kernel
theorem dX7_cleaned_161 : decode cX7_cleaned 161 = .ok (.goto 10, 3) := by decide +kernel
theorem dX7_cleaned_164 : decode cX7_cleaned 164 = .ok (.aload_n 1, 1) := by decide +kernel
theorem dX7_cleaned_165 : decode cX7_cleaned 165 = .ok (.iload 6, 2) := by decide +kernel
theorem dX7_cleaned_167 : decode cX7_cleaned 167 = .ok (.iload_n 2, 1) := by decide +kernel
theorem dX7_cleaned_168 : decode cX7_cleaned 168 = .ok (.invokestatic 99, 3) := by decide +kernel
theorem dX7_cleaned_171 : decode cX7_cleaned 171 = .ok (.istore 8, 2) := by decide +kernel
theorem dX7_cleaned_173 : decode cX7_cleaned 173 = .ok (.iload 7, 2) := by decide +kernel
theorem dX7_cleaned_175 : decode cX7_cleaned 175 = .ok (.ifCond .ne 54, 3) := by decide +kernel
theorem dX7_cleaned_178 : decode cX7_cleaned 178 = .ok (.iload 8, 2) := by decide +kernel
theorem dX7_cleaned_180 : decode cX7_cleaned 180 = .ok (.ifCond .ne 9, 3) := by decide +kernel
theorem dX7_cleaned_183 : decode cX7_cleaned 183 = .ok (.iload_n 2, 1) := by decide +kernel
theorem dX7_cleaned_184 : decode cX7_cleaned 184 = .ok (.iload 6, 2) := by decide +kernel
theorem dX7_cleaned_186 : decode cX7_cleaned 186 = .ok (.isub, 1) := by decide +kernel
theorem dX7_cleaned_187 : decode cX7_cleaned 187 = .ok (.istore 8, 2) := by decide +kernel
theorem dX7_cleaned_189 : decode cX7_cleaned 189 = .ok (.iconst 0, 1) := by decide +kernel
theorem dX7_cleaned_190 : decode cX7_cleaned 190 = .ok (.istore 9, 2) := by decide +kernel
theorem dX7_cleaned_192 : decode cX7_cleaned 192 = .ok (.iload 9, 2) := by decide +kernel
theorem dX7_cleaned_194 : decode cX7_cleaned 194 = .ok (.iload 8, 2) := by decide +kernel
theorem dX7_cleaned_196 : decode cX7_cleaned 196 = .ok (.if_icmp .ge 26, 3) := by decide +kernel
theorem dX7_cleaned_199 : decode cX7_cleaned 199 = .ok (.aload_n 0, 1) := by decide +kernel
theorem dX7_cleaned_200 : decode cX7_cleaned 200 = .ok (.getfield 31, 3) := by decide +kernel
theorem dX7_cleaned_203 : decode cX7_cleaned 203 = .ok (.iload 4, 2) := by decide +kernel
theorem dX7_cleaned_205 : decode cX7_cleaned 205 = .ok (.iload 9, 2) := by decide +kernel
theorem dX7_cleaned_207 : decode cX7_cleaned 207 = .ok (.iadd, 1) := by decide +kernel
theorem dX7_cleaned_208 : decode cX7_cleaned 208 = .ok (.aload_n 1, 1) := by decide +kernel
theorem dX7_cleaned_209 : decode cX7_cleaned 209 = .ok (.iload 6, 2) := by decide +kernel
theorem dX7_cleaned_211 : decode cX7_cleaned 211 = .ok (.iload 9, 2) := by decide +kernel
theorem dX7_cleaned_213 : decode cX7_cleaned 213 = .ok (.iadd, 1) := by decide +kernel
theorem dX7_cleaned_214 : decode cX7_cleaned 214 = .ok (.baload, 1) := by decide +kernel
theorem dX7_cleaned_215 : decode cX7_cleaned 215 = .ok (.bastore, 1) := by decide +kernel
theorem dX7_cleaned_216 : decode cX7_cleaned 216 = .ok (.iinc 9 1, 3) := by decide +kernel
theorem dX7_cleaned_219 : decode cX7_cleaned 219 = .ok (.goto (-27), 3) := by decide +kernel
theorem dX7_cleaned_222 : decode cX7_cleaned 222 = .ok (.iload 4, 2) := by decide +kernel
theorem dX7_cleaned_224 : decode cX7_cleaned 224 = .ok (.iload 8, 2) := by decide +kernel
theorem dX7_cleaned_226 : decode cX7_cleaned 226 = .ok (.iadd, 1) := by decide +kernel
theorem dX7_cleaned_227 : decode cX7_cleaned 227 = .ok (.istore 4, 2) := by decide +kernel
theorem dX7_cleaned_229 : decode cX7_cleaned 229 = .ok (.iload 6, 2) := by decide +kernel
theorem dX7_cleaned_231 : decode cX7_cleaned 231 = .ok (.iload 8, 2) := by decide +kernel
theorem dX7_cleaned_233 : decode cX7_cleaned 233 = .ok (.iadd, 1) := by decide +kernel
theorem dX7_cleaned_234 : decode cX7_cleaned 234 = .ok (.istore 6, 2) := by decide +kernel
theorem dX7_cleaned_236 : decode cX7_cleaned 236 = .ok (.goto (-214), 3) := by decide +kernel
theorem dX7_cleaned_239 : decode cX7_cleaned 239 = .ok (.iconst 0, 1) := by decide +kernel
theorem dX7_cleaned_240 : decode cX7_cleaned 240 = .ok (.istore 7, 2) := by decide +kernel
theorem dX7_cleaned_242 : decode cX7_cleaned 242 = .ok (.iload 7, 2) := by decide +kernel
theorem dX7_cleaned_244 : decode cX7_cleaned 244 = .ok (.iload 4, 2) := by decide +kernel
theorem dX7_cleaned_246 : decode cX7_cleaned 246 = .ok (.if_icmp .ge 20, 3) := by decide +kernel
theorem dX7_cleaned_249 : decode cX7_cleaned 249 = .ok (.aload_n 1, 1) := by decide +kernel
theorem dX7_cleaned_250 : decode cX7_cleaned 250 = .ok (.iload 7, 2) := by decide +kernel
theorem dX7_cleaned_252 : decode cX7_cleaned 252 = .ok (.aload_n 0, 1) := by decide +kernel
theorem dX7_cleaned_253 : decode cX7_cleaned 253 = .ok (.getfield 31, 3) := by decide +kernel
theorem dX7_cleaned_256 : decode cX7_cleaned 256 = .ok (.iload 7, 2) := by decide +kernel
theorem dX7_cleaned_258 : decode cX7_cleaned 258 = .ok (.baload, 1) := by decide +kernel
theorem dX7_cleaned_259 : decode cX7_cleaned 259 = .ok (.bastore, 1) := by decide +kernel
theorem dX7_cleaned_260 : decode cX7_cleaned 260 = .ok (.iinc 7 1, 3) := by decide +kernel
theorem dX7_cleaned_263 : decode cX7_cleaned 263 = .ok (.goto (-21), 3) := by decide +kernel
theorem dX7_cleaned_266 : decode cX7_cleaned 266 = .ok (.iload 4, 2) := by decide +kernel
theorem dX7_cleaned_268 : decode cX7_cleaned 268 = .ok (.ireturn, 1) := by decide +kernel
/-! CoinJudge$Machine.cleaned([BILCoinJudge$Element;)I -/
set_option maxHeartbeats 4000000 in
theorem sX7_cleaned_0 {G : Gx} {d t : Nat} {h0 : AH} {Φ : Out → AH → Prop} (h : AH) (v0 : Nat) (v1 : Nat) (v2 : Int32) (v3 : Nat) (K : h.kd v3 = 22 ∧ ((76 ≤ (h.i 22001 v3) → Aw G mX7_cleaned (d + 1) t h0 Φ 22 [vR v0, vR v1, vI v2, vR v3, vI 0, vI 2, vI 0, vU, vU, vU] [] h) ∧ (¬ 76 ≤ (h.i 22001 v3) → Aw G mX7_cleaned (d + 1) t h0 Φ 22 [vR v0, vR v1, vI v2, vR v3, vI 0, vI 1, vI 0, vU, vU, vU] [] h))) : Aw G mX7_cleaned (d + 1) t h0 Φ 0 [vR v0, vR v1, vI v2, vR v3, vU, vU, vU, vU, vU, vU] [] h := by
  refine r_iconst (pc := 0) (x := 0) dX7_cleaned_0 rfl ?_
  refine r_istore (pc := 1) (lv' := [_, _, _, _, _, _, _, _, _, _]) dX7_cleaned_1 (by decide) rfl ?_
  refine r_aload_n (pc := 3) dX7_cleaned_3 rfl ?_
  obtain ⟨hk1, K⟩ := K
  refine r_geti' (pc := 4) (T := TX22) 22 1 rfl hk1 (Or.inr (Or.inl ⟨_, q1296⟩)) dX7_cleaned_4 kc22 g22001 ?_
  refine r_bipush (pc := 7) (x := 76) dX7_cleaned_7 rfl ?_
  refine r_icmp_ge (pc := 9) (tgt := 16) dX7_cleaned_9 rfl (fun c2 => ?_) (fun c2 => ?_)
  · have K := K.1 c2
    refine r_iconst (pc := 16) (x := 2) dX7_cleaned_16 rfl ?_
    refine r_istore (pc := 17) (lv' := [_, _, _, _, _, _, _, _, _, _]) dX7_cleaned_17 (by decide) rfl ?_
    refine r_iconst (pc := 19) (x := 0) dX7_cleaned_19 rfl ?_
    refine r_istore (pc := 20) (lv' := [_, _, _, _, _, _, _, _, _, _]) dX7_cleaned_20 (by decide) rfl ?_
    refine r_mask (pc := 22) [true, true, true, true, true, true, true, false, false, false] rfl ?_
    exact K
  · have K := K.2 c2
    refine r_iconst (pc := 12) (x := 1) dX7_cleaned_12 rfl ?_
    refine r_goto (pc := 13) (tgt := 17) dX7_cleaned_13 rfl ?_
    refine r_istore (pc := 17) (lv' := [_, _, _, _, _, _, _, _, _, _]) dX7_cleaned_17 (by decide) rfl ?_
    refine r_iconst (pc := 19) (x := 0) dX7_cleaned_19 rfl ?_
    refine r_istore (pc := 20) (lv' := [_, _, _, _, _, _, _, _, _, _]) dX7_cleaned_20 (by decide) rfl ?_
    refine r_mask (pc := 22) [true, true, true, true, true, true, true, false, false, false] rfl ?_
    exact K
theorem eX7_cleaned {G : Gx} {d : Nat} {Φ : Out → AH → Prop} (h : AH) (v0 : Nat) (v1 : Nat) (v2 : Int32) (v3 : Nat) (K : WF G h → Aw G mX7_cleaned (d + 1) 0 h Φ 0 [vR v0, vR v1, vI v2, vR v3, vU, vU, vU, vU, vU, vU] [] h) : Cw G mX7_cleaned (d + 1) 0 [vR v0, vR v1, vI v2, vR v3] h Φ := Cw.of rfl K
set_option maxHeartbeats 4000000 in
theorem sX7_cleaned_22 {G : Gx} {d t : Nat} {h0 : AH} {Φ : Out → AH → Prop} (h : AH) (v0 : Nat) (v1 : Nat) (v2 : Int32) (v3 : Nat) (v4 : Int32) (v5 : Int32) (v6 : Int32) (K : ((v2 ≤ v6 → Aw G mX7_cleaned (d + 1) t h0 Φ 242 [vR v0, vR v1, vU, vU, vI v4, vU, vU, vI 0, vU, vU] [] h) ∧ (¬ v2 ≤ v6 → h.kd v3 = 22 ∧ ((v2 < ((v6 + v5) + (h.i 22001 v3)) → Aw G mX7_cleaned (d + 1) t h0 Φ 102 [vR v0, vR v1, vI v2, vR v3, vI v4, vI v5, vI v6, vI 0, vI 0, vU] [] h) ∧ (¬ v2 < ((v6 + v5) + (h.i 22001 v3)) → ((¬ v5 = 1 → h.kd v1 = 101 ∧ vp_in v6 (h.ai v1).length ∧ ((¬ ((h.ai v1).getD (v6.toNatClampNeg) 0) = 76 → Aw G mX7_cleaned (d + 1) t h0 Φ 102 [vR v0, vR v1, vI v2, vR v3, vI v4, vI v5, vI v6, vI 0, vI 0, vU] [] h) ∧ (((h.ai v1).getD (v6.toNatClampNeg) 0) = 76 → vp_in (v6 + 1) (h.ai v1).length ∧ ((¬ (((h.ai v1).getD ((v6 + 1).toNatClampNeg) 0) &&& 255) = (h.i 22001 v3) → Aw G mX7_cleaned (d + 1) t h0 Φ 102 [vR v0, vR v1, vI v2, vR v3, vI v4, vI v5, vI v6, vI 0, vI 0, vU] [] h) ∧ ((((h.ai v1).getD ((v6 + 1).toNatClampNeg) 0) &&& 255) = (h.i 22001 v3) → Aw G mX7_cleaned (d + 1) t h0 Φ 102 [vR v0, vR v1, vI v2, vR v3, vI v4, vI v5, vI v6, vI 1, vI 0, vU] [] h))))) ∧ (v5 = 1 → h.kd v1 = 101 ∧ vp_in v6 (h.ai v1).length ∧ ((¬ (((h.ai v1).getD (v6.toNatClampNeg) 0) &&& 255) = (h.i 22001 v3) → Aw G mX7_cleaned (d + 1) t h0 Φ 102 [vR v0, vR v1, vI v2, vR v3, vI v4, vI v5, vI v6, vI 0, vI 0, vU] [] h) ∧ ((((h.ai v1).getD (v6.toNatClampNeg) 0) &&& 255) = (h.i 22001 v3) → Aw G mX7_cleaned (d + 1) t h0 Φ 102 [vR v0, vR v1, vI v2, vR v3, vI v4, vI v5, vI v6, vI 1, vI 0, vU] [] h))))))))) : Aw G mX7_cleaned (d + 1) t h0 Φ 22 [vR v0, vR v1, vI v2, vR v3, vI v4, vI v5, vI v6, vU, vU, vU] [] h := by
  refine r_iload (pc := 22) dX7_cleaned_22 rfl ?_
  refine r_iload_n (pc := 24) dX7_cleaned_24 rfl ?_
  refine r_icmp_ge (pc := 25) (tgt := 239) dX7_cleaned_25 rfl (fun c1 => ?_) (fun c1 => ?_)
  · have K := K.1 c1
    refine r_iconst (pc := 239) (x := 0) dX7_cleaned_239 rfl ?_
    refine r_istore (pc := 240) (lv' := [_, _, _, _, _, _, _, _, _, _]) dX7_cleaned_240 (by decide) rfl ?_
    refine r_mask (pc := 242) [true, true, false, false, true, false, false, true, false, false] rfl ?_
    exact K
  · have K := K.2 c1
    refine r_iload (pc := 28) dX7_cleaned_28 rfl ?_
    refine r_iload (pc := 30) dX7_cleaned_30 rfl ?_
    refine r_iadd (pc := 32) dX7_cleaned_32 ?_
    refine r_aload_n (pc := 33) dX7_cleaned_33 rfl ?_
    obtain ⟨hk2, K⟩ := K
    refine r_geti' (pc := 34) (T := TX22) 22 1 rfl hk2 (Or.inr (Or.inl ⟨_, q1296⟩)) dX7_cleaned_34 kc22 g22001 ?_
    refine r_iadd (pc := 37) dX7_cleaned_37 ?_
    refine r_iload_n (pc := 38) dX7_cleaned_38 rfl ?_
    refine r_icmp_gt (pc := 39) (tgt := 96) dX7_cleaned_39 rfl (fun c3 => ?_) (fun c3 => ?_)
    · have K := K.1 c3
      refine r_iconst (pc := 96) (x := 0) dX7_cleaned_96 rfl ?_
      refine r_istore (pc := 97) (lv' := [_, _, _, _, _, _, _, _, _, _]) dX7_cleaned_97 (by decide) rfl ?_
      refine r_iconst (pc := 99) (x := 0) dX7_cleaned_99 rfl ?_
      refine r_istore (pc := 100) (lv' := [_, _, _, _, _, _, _, _, _, _]) dX7_cleaned_100 (by decide) rfl ?_
      refine r_mask (pc := 102) [true, true, true, true, true, true, true, true, true, false] rfl ?_
      exact K
    · have K := K.2 c3
      refine r_iload (pc := 42) dX7_cleaned_42 rfl ?_
      refine r_iconst (pc := 44) (x := 1) dX7_cleaned_44 rfl ?_
      refine r_icmp_ne (pc := 45) (tgt := 66) dX7_cleaned_45 rfl (fun c4 => ?_) (fun c4 => ?_)
      · have K := K.1 c4
        refine r_aload_n (pc := 66) dX7_cleaned_66 rfl ?_
        refine r_iload (pc := 67) dX7_cleaned_67 rfl ?_
        obtain ⟨hk5, K⟩ := K
        obtain ⟨hi6, K⟩ := K
        refine r_baload (pc := 69) hk5 hi6 dX7_cleaned_69 ?_
        refine r_bipush (pc := 70) (x := 76) dX7_cleaned_70 rfl ?_
        refine r_icmp_ne (pc := 72) (tgt := 96) dX7_cleaned_72 rfl (fun c7 => ?_) (fun c7 => ?_)
        · have K := K.1 c7
          refine r_iconst (pc := 96) (x := 0) dX7_cleaned_96 rfl ?_
          refine r_istore (pc := 97) (lv' := [_, _, _, _, _, _, _, _, _, _]) dX7_cleaned_97 (by decide) rfl ?_
          refine r_iconst (pc := 99) (x := 0) dX7_cleaned_99 rfl ?_
          refine r_istore (pc := 100) (lv' := [_, _, _, _, _, _, _, _, _, _]) dX7_cleaned_100 (by decide) rfl ?_
          refine r_mask (pc := 102) [true, true, true, true, true, true, true, true, true, false] rfl ?_
          exact K
        · have K := K.2 c7
          refine r_aload_n (pc := 75) dX7_cleaned_75 rfl ?_
          refine r_iload (pc := 76) dX7_cleaned_76 rfl ?_
          refine r_iconst (pc := 78) (x := 1) dX7_cleaned_78 rfl ?_
          refine r_iadd (pc := 79) dX7_cleaned_79 ?_
          obtain ⟨hi8, K⟩ := K
          refine r_baload (pc := 80) hk5 hi8 dX7_cleaned_80 ?_
          refine r_sipush (pc := 81) (x := 255) dX7_cleaned_81 rfl ?_
          refine r_iand (pc := 84) dX7_cleaned_84 ?_
          refine r_aload_n (pc := 85) dX7_cleaned_85 rfl ?_
          refine r_geti' (pc := 86) (T := TX22) 22 1 rfl hk2 (Or.inr (Or.inl ⟨_, q1296⟩)) dX7_cleaned_86 kc22 g22001 ?_
          refine r_icmp_ne (pc := 89) (tgt := 96) dX7_cleaned_89 rfl (fun c9 => ?_) (fun c9 => ?_)
          · have K := K.1 c9
            refine r_iconst (pc := 96) (x := 0) dX7_cleaned_96 rfl ?_
            refine r_istore (pc := 97) (lv' := [_, _, _, _, _, _, _, _, _, _]) dX7_cleaned_97 (by decide) rfl ?_
            refine r_iconst (pc := 99) (x := 0) dX7_cleaned_99 rfl ?_
            refine r_istore (pc := 100) (lv' := [_, _, _, _, _, _, _, _, _, _]) dX7_cleaned_100 (by decide) rfl ?_
            refine r_mask (pc := 102) [true, true, true, true, true, true, true, true, true, false] rfl ?_
            exact K
          · have K := K.2 c9
            refine r_iconst (pc := 92) (x := 1) dX7_cleaned_92 rfl ?_
            refine r_goto (pc := 93) (tgt := 97) dX7_cleaned_93 rfl ?_
            refine r_istore (pc := 97) (lv' := [_, _, _, _, _, _, _, _, _, _]) dX7_cleaned_97 (by decide) rfl ?_
            refine r_iconst (pc := 99) (x := 0) dX7_cleaned_99 rfl ?_
            refine r_istore (pc := 100) (lv' := [_, _, _, _, _, _, _, _, _, _]) dX7_cleaned_100 (by decide) rfl ?_
            refine r_mask (pc := 102) [true, true, true, true, true, true, true, true, true, false] rfl ?_
            exact K
      · have K := K.2 c4
        refine r_aload_n (pc := 48) dX7_cleaned_48 rfl ?_
        refine r_iload (pc := 49) dX7_cleaned_49 rfl ?_
        obtain ⟨hk10, K⟩ := K
        obtain ⟨hi11, K⟩ := K
        refine r_baload (pc := 51) hk10 hi11 dX7_cleaned_51 ?_
        refine r_sipush (pc := 52) (x := 255) dX7_cleaned_52 rfl ?_
        refine r_iand (pc := 55) dX7_cleaned_55 ?_
        refine r_aload_n (pc := 56) dX7_cleaned_56 rfl ?_
        refine r_geti' (pc := 57) (T := TX22) 22 1 rfl hk2 (Or.inr (Or.inl ⟨_, q1296⟩)) dX7_cleaned_57 kc22 g22001 ?_
        refine r_icmp_ne (pc := 60) (tgt := 96) dX7_cleaned_60 rfl (fun c12 => ?_) (fun c12 => ?_)
        · have K := K.1 c12
          refine r_iconst (pc := 96) (x := 0) dX7_cleaned_96 rfl ?_
          refine r_istore (pc := 97) (lv' := [_, _, _, _, _, _, _, _, _, _]) dX7_cleaned_97 (by decide) rfl ?_
          refine r_iconst (pc := 99) (x := 0) dX7_cleaned_99 rfl ?_
          refine r_istore (pc := 100) (lv' := [_, _, _, _, _, _, _, _, _, _]) dX7_cleaned_100 (by decide) rfl ?_
          refine r_mask (pc := 102) [true, true, true, true, true, true, true, true, true, false] rfl ?_
          exact K
        · have K := K.2 c12
          refine r_goto (pc := 63) (tgt := 92) dX7_cleaned_63 rfl ?_
          refine r_iconst (pc := 92) (x := 1) dX7_cleaned_92 rfl ?_
          refine r_goto (pc := 93) (tgt := 97) dX7_cleaned_93 rfl ?_
          refine r_istore (pc := 97) (lv' := [_, _, _, _, _, _, _, _, _, _]) dX7_cleaned_97 (by decide) rfl ?_
          refine r_iconst (pc := 99) (x := 0) dX7_cleaned_99 rfl ?_
          refine r_istore (pc := 100) (lv' := [_, _, _, _, _, _, _, _, _, _]) dX7_cleaned_100 (by decide) rfl ?_
          refine r_mask (pc := 102) [true, true, true, true, true, true, true, true, true, false] rfl ?_
          exact K
set_option maxHeartbeats 4000000 in
theorem sX7_cleaned_102 {G : Gx} {d t : Nat} {h0 : AH} {Φ : Out → AH → Prop} (h : AH) (v0 : Nat) (v1 : Nat) (v2 : Int32) (v3 : Nat) (v4 : Int32) (v5 : Int32) (v6 : Int32) (v7 : Int32) (v8 : Int32) (K : h.kd v3 = 22 ∧ (((h.i 22001 v3) ≤ v8 → Aw G mX7_cleaned (d + 1) t h0 Φ 149 [vR v0, vR v1, vI v2, vR v3, vI v4, vI v5, vI v6, vI v7, vU, vU] [] h) ∧ (¬ (h.i 22001 v3) ≤ v8 → ((v7 = 0 → Aw G mX7_cleaned (d + 1) t h0 Φ 149 [vR v0, vR v1, vI v2, vR v3, vI v4, vI v5, vI v6, vI v7, vU, vU] [] h) ∧ (¬ v7 = 0 → h.kd v1 = 101 ∧ vp_in ((v6 + v5) + v8) (h.ai v1).length ∧ ∀ r6 : Nat, r6 = (h.r 22000 v3) → h.kd r6 = 101 ∧ vp_in v8 (h.ai r6).length ∧ ((¬ ((h.ai v1).getD (((v6 + v5) + v8).toNatClampNeg) 0) = ((h.ai r6).getD (v8.toNatClampNeg) 0) → Aw G mX7_cleaned (d + 1) t h0 Φ 102 [vR v0, vR v1, vI v2, vR v3, vI v4, vI v5, vI v6, vI 0, vI (v8 + 1), vU] [] h) ∧ (((h.ai v1).getD (((v6 + v5) + v8).toNatClampNeg) 0) = ((h.ai r6).getD (v8.toNatClampNeg) 0) → Aw G mX7_cleaned (d + 1) t h0 Φ 102 [vR v0, vR v1, vI v2, vR v3, vI v4, vI v5, vI v6, vI 1, vI (v8 + 1), vU] [] h))))))) : Aw G mX7_cleaned (d + 1) t h0 Φ 102 [vR v0, vR v1, vI v2, vR v3, vI v4, vI v5, vI v6, vI v7, vI v8, vU] [] h := by
  refine r_iload (pc := 102) dX7_cleaned_102 rfl ?_
  refine r_aload_n (pc := 104) dX7_cleaned_104 rfl ?_
  obtain ⟨hk1, K⟩ := K
  refine r_geti' (pc := 105) (T := TX22) 22 1 rfl hk1 (Or.inr (Or.inl ⟨_, q1296⟩)) dX7_cleaned_105 kc22 g22001 ?_
  refine r_icmp_ge (pc := 108) (tgt := 149) dX7_cleaned_108 rfl (fun c2 => ?_) (fun c2 => ?_)
  · have K := K.1 c2
    refine r_mask (pc := 149) [true, true, true, true, true, true, true, true, false, false] rfl ?_
    exact K
  · have K := K.2 c2
    refine r_iload (pc := 111) dX7_cleaned_111 rfl ?_
    refine r_if_eq (pc := 113) (tgt := 149) dX7_cleaned_113 rfl (fun c3 => ?_) (fun c3 => ?_)
    · have K := K.1 c3
      refine r_mask (pc := 149) [true, true, true, true, true, true, true, true, false, false] rfl ?_
      exact K
    · have K := K.2 c3
      refine r_aload_n (pc := 116) dX7_cleaned_116 rfl ?_
      refine r_iload (pc := 117) dX7_cleaned_117 rfl ?_
      refine r_iload (pc := 119) dX7_cleaned_119 rfl ?_
      refine r_iadd (pc := 121) dX7_cleaned_121 ?_
      refine r_iload (pc := 122) dX7_cleaned_122 rfl ?_
      refine r_iadd (pc := 124) dX7_cleaned_124 ?_
      obtain ⟨hk4, K⟩ := K
      obtain ⟨hi5, K⟩ := K
      refine r_baload (pc := 125) hk4 hi5 dX7_cleaned_125 ?_
      refine r_aload_n (pc := 126) dX7_cleaned_126 rfl ?_
      have K := K _ rfl
      refine r_getr' (pc := 127) (T := TX22) 22 0 rfl hk1 (Or.inr (Or.inl ⟨_, q1293⟩)) dX7_cleaned_127 kc22 g22000 ?_
      refine r_iload (pc := 130) dX7_cleaned_130 rfl ?_
      obtain ⟨hk7, K⟩ := K
      obtain ⟨hi8, K⟩ := K
      refine r_baload (pc := 132) hk7 hi8 dX7_cleaned_132 ?_
      refine r_icmp_ne (pc := 133) (tgt := 140) dX7_cleaned_133 rfl (fun c9 => ?_) (fun c9 => ?_)
      · have K := K.1 c9
        refine r_iconst (pc := 140) (x := 0) dX7_cleaned_140 rfl ?_
        refine r_istore (pc := 141) (lv' := [_, _, _, _, _, _, _, _, _, _]) dX7_cleaned_141 (by decide) rfl ?_
        refine r_iinc (pc := 143) (lv' := [_, _, _, _, _, _, _, _, _, _]) dX7_cleaned_143 rfl rfl (by decide) rfl ?_
        refine r_goto (pc := 146) (tgt := 102) dX7_cleaned_146 rfl ?_
        refine r_mask (pc := 102) [true, true, true, true, true, true, true, true, true, false] rfl ?_
        exact K
      · have K := K.2 c9
        refine r_iconst (pc := 136) (x := 1) dX7_cleaned_136 rfl ?_
        refine r_goto (pc := 137) (tgt := 141) dX7_cleaned_137 rfl ?_
        refine r_istore (pc := 141) (lv' := [_, _, _, _, _, _, _, _, _, _]) dX7_cleaned_141 (by decide) rfl ?_
        refine r_iinc (pc := 143) (lv' := [_, _, _, _, _, _, _, _, _, _]) dX7_cleaned_143 rfl rfl (by decide) rfl ?_
        refine r_goto (pc := 146) (tgt := 102) dX7_cleaned_146 rfl ?_
        refine r_mask (pc := 102) [true, true, true, true, true, true, true, true, true, false] rfl ?_
        exact K
set_option maxHeartbeats 4000000 in
theorem sX7_cleaned_149 {G : Gx} {d t : Nat} {h0 : AH} {Φ : Out → AH → Prop} (h : AH) (v0 : Nat) (v1 : Nat) (v2 : Int32) (v3 : Nat) (v4 : Int32) (v5 : Int32) (v6 : Int32) (v7 : Int32) (K : ((v7 = 0 → Cw G mX7_length d 0 [vR v1, vI v6, vI v2] h (kI (fun x2 h3 => ((¬ v7 = 0 → Aw G mX7_cleaned (d + 1) t h0 Φ 22 [vR v0, vR v1, vI v2, vR v3, vI v4, vI v5, vI (v6 + x2), vU, vU, vU] [] h3) ∧ (v7 = 0 → ((¬ x2 = 0 → Aw G mX7_cleaned (d + 1) t h0 Φ 192 [vR v0, vR v1, vI v2, vR v3, vI v4, vI v5, vI v6, vU, vI x2, vI 0] [] h3) ∧ (x2 = 0 → Aw G mX7_cleaned (d + 1) t h0 Φ 192 [vR v0, vR v1, vI v2, vR v3, vI v4, vI v5, vI v6, vU, vI (v2 - v6), vI 0] [] h3))))) (fun x h => Φ (.inr x) h))) ∧ (¬ v7 = 0 → h.kd v3 = 22 ∧ ((¬ v7 = 0 → Aw G mX7_cleaned (d + 1) t h0 Φ 22 [vR v0, vR v1, vI v2, vR v3, vI v4, vI v5, vI (v6 + (v5 + (h.i 22001 v3))), vU, vU, vU] [] h) ∧ (v7 = 0 → ((¬ (v5 + (h.i 22001 v3)) = 0 → Aw G mX7_cleaned (d + 1) t h0 Φ 192 [vR v0, vR v1, vI v2, vR v3, vI v4, vI v5, vI v6, vU, vI (v5 + (h.i 22001 v3)), vI 0] [] h) ∧ ((v5 + (h.i 22001 v3)) = 0 → Aw G mX7_cleaned (d + 1) t h0 Φ 192 [vR v0, vR v1, vI v2, vR v3, vI v4, vI v5, vI v6, vU, vI (v2 - v6), vI 0] [] h))))))) : Aw G mX7_cleaned (d + 1) t h0 Φ 149 [vR v0, vR v1, vI v2, vR v3, vI v4, vI v5, vI v6, vI v7, vU, vU] [] h := by
  refine r_iload (pc := 149) dX7_cleaned_149 rfl ?_
  refine r_if_eq (pc := 151) (tgt := 164) dX7_cleaned_151 rfl (fun c1 => ?_) (fun c1 => ?_)
  · have K := K.1 c1
    refine r_aload_n (pc := 164) dX7_cleaned_164 rfl ?_
    refine r_iload (pc := 165) dX7_cleaned_165 rfl ?_
    refine r_iload_n (pc := 167) dX7_cleaned_167 rfl ?_
    refine r_callS_I (pc := 168) (Y := mX7_length) (vs := [_, _, _]) (st := []) q1269 q1270 q161 dX7_cleaned_168 rfl cd_X7_length rfl rfl fp_X7_cleaned_X7_length K (fun x2 h3 eh3 wh3 K => ?_) (fun x h1 _ _ e => Tw.out rfl e)
    refine r_istore (pc := 171) (lv' := [_, _, _, _, _, _, _, _, _, _]) dX7_cleaned_171 (by decide) rfl ?_
    refine r_iload (pc := 173) dX7_cleaned_173 rfl ?_
    refine r_if_ne (pc := 175) (tgt := 229) dX7_cleaned_175 rfl (fun c4 => ?_) (fun c4 => ?_)
    · have K := K.1 c4
      refine r_iload (pc := 229) dX7_cleaned_229 rfl ?_
      refine r_iload (pc := 231) dX7_cleaned_231 rfl ?_
      refine r_iadd (pc := 233) dX7_cleaned_233 ?_
      refine r_istore (pc := 234) (lv' := [_, _, _, _, _, _, _, _, _, _]) dX7_cleaned_234 (by decide) rfl ?_
      refine r_goto (pc := 236) (tgt := 22) dX7_cleaned_236 rfl ?_
      refine r_mask (pc := 22) [true, true, true, true, true, true, true, false, false, false] rfl ?_
      exact K
    · have K := K.2 c4
      refine r_iload (pc := 178) dX7_cleaned_178 rfl ?_
      refine r_if_ne (pc := 180) (tgt := 189) dX7_cleaned_180 rfl (fun c5 => ?_) (fun c5 => ?_)
      · have K := K.1 c5
        refine r_iconst (pc := 189) (x := 0) dX7_cleaned_189 rfl ?_
        refine r_istore (pc := 190) (lv' := [_, _, _, _, _, _, _, _, _, _]) dX7_cleaned_190 (by decide) rfl ?_
        refine r_mask (pc := 192) [true, true, true, true, true, true, true, false, true, true] rfl ?_
        exact K
      · have K := K.2 c5
        refine r_iload_n (pc := 183) dX7_cleaned_183 rfl ?_
        refine r_iload (pc := 184) dX7_cleaned_184 rfl ?_
        refine r_isub (pc := 186) dX7_cleaned_186 ?_
        refine r_istore (pc := 187) (lv' := [_, _, _, _, _, _, _, _, _, _]) dX7_cleaned_187 (by decide) rfl ?_
        refine r_iconst (pc := 189) (x := 0) dX7_cleaned_189 rfl ?_
        refine r_istore (pc := 190) (lv' := [_, _, _, _, _, _, _, _, _, _]) dX7_cleaned_190 (by decide) rfl ?_
        refine r_mask (pc := 192) [true, true, true, true, true, true, true, false, true, true] rfl ?_
        exact K
  · have K := K.2 c1
    refine r_iload (pc := 154) dX7_cleaned_154 rfl ?_
    refine r_aload_n (pc := 156) dX7_cleaned_156 rfl ?_
    obtain ⟨hk6, K⟩ := K
    refine r_geti' (pc := 157) (T := TX22) 22 1 rfl hk6 (Or.inr (Or.inl ⟨_, q1296⟩)) dX7_cleaned_157 kc22 g22001 ?_
    refine r_iadd (pc := 160) dX7_cleaned_160 ?_
    refine r_goto (pc := 161) (tgt := 171) dX7_cleaned_161 rfl ?_
    refine r_istore (pc := 171) (lv' := [_, _, _, _, _, _, _, _, _, _]) dX7_cleaned_171 (by decide) rfl ?_
    refine r_iload (pc := 173) dX7_cleaned_173 rfl ?_
    refine r_if_ne (pc := 175) (tgt := 229) dX7_cleaned_175 rfl (fun c7 => ?_) (fun c7 => ?_)
    · have K := K.1 c7
      refine r_iload (pc := 229) dX7_cleaned_229 rfl ?_
      refine r_iload (pc := 231) dX7_cleaned_231 rfl ?_
      refine r_iadd (pc := 233) dX7_cleaned_233 ?_
      refine r_istore (pc := 234) (lv' := [_, _, _, _, _, _, _, _, _, _]) dX7_cleaned_234 (by decide) rfl ?_
      refine r_goto (pc := 236) (tgt := 22) dX7_cleaned_236 rfl ?_
      refine r_mask (pc := 22) [true, true, true, true, true, true, true, false, false, false] rfl ?_
      exact K
    · have K := K.2 c7
      refine r_iload (pc := 178) dX7_cleaned_178 rfl ?_
      refine r_if_ne (pc := 180) (tgt := 189) dX7_cleaned_180 rfl (fun c8 => ?_) (fun c8 => ?_)
      · have K := K.1 c8
        refine r_iconst (pc := 189) (x := 0) dX7_cleaned_189 rfl ?_
        refine r_istore (pc := 190) (lv' := [_, _, _, _, _, _, _, _, _, _]) dX7_cleaned_190 (by decide) rfl ?_
        refine r_mask (pc := 192) [true, true, true, true, true, true, true, false, true, true] rfl ?_
        exact K
      · have K := K.2 c8
        refine r_iload_n (pc := 183) dX7_cleaned_183 rfl ?_
        refine r_iload (pc := 184) dX7_cleaned_184 rfl ?_
        refine r_isub (pc := 186) dX7_cleaned_186 ?_
        refine r_istore (pc := 187) (lv' := [_, _, _, _, _, _, _, _, _, _]) dX7_cleaned_187 (by decide) rfl ?_
        refine r_iconst (pc := 189) (x := 0) dX7_cleaned_189 rfl ?_
        refine r_istore (pc := 190) (lv' := [_, _, _, _, _, _, _, _, _, _]) dX7_cleaned_190 (by decide) rfl ?_
        refine r_mask (pc := 192) [true, true, true, true, true, true, true, false, true, true] rfl ?_
        exact K
set_option maxHeartbeats 4000000 in
theorem sX7_cleaned_192 {G : Gx} {d t : Nat} {h0 : AH} {Φ : Out → AH → Prop} (h : AH) (v0 : Nat) (v1 : Nat) (v2 : Int32) (v3 : Nat) (v4 : Int32) (v5 : Int32) (v6 : Int32) (v8 : Int32) (v9 : Int32) (K : ((v8 ≤ v9 → Aw G mX7_cleaned (d + 1) t h0 Φ 22 [vR v0, vR v1, vI v2, vR v3, vI (v4 + v8), vI v5, vI (v6 + v8), vU, vU, vU] [] h) ∧ (¬ v8 ≤ v9 → h.kd v0 = 7 ∧ ∀ r3 : Nat, r3 = (h.r 7010 v0) → h.kd v1 = 101 ∧ vp_in (v6 + v9) (h.ai v1).length ∧ h.kd r3 = 101 ∧ vp_in (v4 + v9) (h.ai r3).length ∧ ∀ h8 : AH, h8 = h.wi r3 ((h.ai r3).set ((v4 + v9).toNatClampNeg) (i2b ((h.ai v1).getD ((v6 + v9).toNatClampNeg) 0))) → Aw G mX7_cleaned (d + 1) t h0 Φ 192 [vR v0, vR v1, vI v2, vR v3, vI v4, vI v5, vI v6, vU, vI v8, vI (v9 + 1)] [] h8))) : Aw G mX7_cleaned (d + 1) t h0 Φ 192 [vR v0, vR v1, vI v2, vR v3, vI v4, vI v5, vI v6, vU, vI v8, vI v9] [] h := by
  refine r_iload (pc := 192) dX7_cleaned_192 rfl ?_
  refine r_iload (pc := 194) dX7_cleaned_194 rfl ?_
  refine r_icmp_ge (pc := 196) (tgt := 222) dX7_cleaned_196 rfl (fun c1 => ?_) (fun c1 => ?_)
  · have K := K.1 c1
    refine r_iload (pc := 222) dX7_cleaned_222 rfl ?_
    refine r_iload (pc := 224) dX7_cleaned_224 rfl ?_
    refine r_iadd (pc := 226) dX7_cleaned_226 ?_
    refine r_istore (pc := 227) (lv' := [_, _, _, _, _, _, _, _, _, _]) dX7_cleaned_227 (by decide) rfl ?_
    refine r_iload (pc := 229) dX7_cleaned_229 rfl ?_
    refine r_iload (pc := 231) dX7_cleaned_231 rfl ?_
    refine r_iadd (pc := 233) dX7_cleaned_233 ?_
    refine r_istore (pc := 234) (lv' := [_, _, _, _, _, _, _, _, _, _]) dX7_cleaned_234 (by decide) rfl ?_
    refine r_goto (pc := 236) (tgt := 22) dX7_cleaned_236 rfl ?_
    refine r_mask (pc := 22) [true, true, true, true, true, true, true, false, false, false] rfl ?_
    exact K
  · have K := K.2 c1
    refine r_aload_n (pc := 199) dX7_cleaned_199 rfl ?_
    obtain ⟨hk2, K⟩ := K
    have K := K _ rfl
    refine r_getr' (pc := 200) (T := TX7) 7 10 rfl hk2 (Or.inl q508) dX7_cleaned_200 kc7 g7010 ?_
    refine r_iload (pc := 203) dX7_cleaned_203 rfl ?_
    refine r_iload (pc := 205) dX7_cleaned_205 rfl ?_
    refine r_iadd (pc := 207) dX7_cleaned_207 ?_
    refine r_aload_n (pc := 208) dX7_cleaned_208 rfl ?_
    refine r_iload (pc := 209) dX7_cleaned_209 rfl ?_
    refine r_iload (pc := 211) dX7_cleaned_211 rfl ?_
    refine r_iadd (pc := 213) dX7_cleaned_213 ?_
    obtain ⟨hk4, K⟩ := K
    obtain ⟨hi5, K⟩ := K
    refine r_baload (pc := 214) hk4 hi5 dX7_cleaned_214 ?_
    obtain ⟨hk6, K⟩ := K
    obtain ⟨hi7, K⟩ := K
    refine r_jbast (pc := 215) hk6 hi7 (Or.inl (em rfl)) dX7_cleaned_215 ?_
    refine r_nameH (fun h8 eh8 => ?_)
    have K := K h8 eh8
    refine r_iinc (pc := 216) (lv' := [_, _, _, _, _, _, _, _, _, _]) dX7_cleaned_216 rfl rfl (by decide) rfl ?_
    refine r_goto (pc := 219) (tgt := 192) dX7_cleaned_219 rfl ?_
    refine r_mask (pc := 192) [true, true, true, true, true, true, true, false, true, true] rfl ?_
    exact K
set_option maxHeartbeats 4000000 in
theorem sX7_cleaned_242 {G : Gx} {d t : Nat} {h0 : AH} {Φ : Out → AH → Prop} (h : AH) (v0 : Nat) (v1 : Nat) (v4 : Int32) (v7 : Int32) (K : ((v4 ≤ v7 → Φ (.inl (some (vI v4))) h) ∧ (¬ v4 ≤ v7 → h.kd v0 = 7 ∧ ∀ r3 : Nat, r3 = (h.r 7010 v0) → h.kd r3 = 101 ∧ vp_in v7 (h.ai r3).length ∧ h.kd v1 = 101 ∧ vp_in v7 (h.ai v1).length ∧ ∀ h8 : AH, h8 = h.wi v1 ((h.ai v1).set (v7.toNatClampNeg) (i2b ((h.ai r3).getD (v7.toNatClampNeg) 0))) → Aw G mX7_cleaned (d + 1) t h0 Φ 242 [vR v0, vR v1, vU, vU, vI v4, vU, vU, vI (v7 + 1), vU, vU] [] h8))) : Aw G mX7_cleaned (d + 1) t h0 Φ 242 [vR v0, vR v1, vU, vU, vI v4, vU, vU, vI v7, vU, vU] [] h := by
  refine r_iload (pc := 242) dX7_cleaned_242 rfl ?_
  refine r_iload (pc := 244) dX7_cleaned_244 rfl ?_
  refine r_icmp_ge (pc := 246) (tgt := 266) dX7_cleaned_246 rfl (fun c1 => ?_) (fun c1 => ?_)
  · have K := K.1 c1
    refine r_iload (pc := 266) dX7_cleaned_266 rfl ?_
    exact r_iret (pc := 268) rfl rfl dX7_cleaned_268 K
  · have K := K.2 c1
    refine r_aload_n (pc := 249) dX7_cleaned_249 rfl ?_
    refine r_iload (pc := 250) dX7_cleaned_250 rfl ?_
    refine r_aload_n (pc := 252) dX7_cleaned_252 rfl ?_
    obtain ⟨hk2, K⟩ := K
    have K := K _ rfl
    refine r_getr' (pc := 253) (T := TX7) 7 10 rfl hk2 (Or.inl q508) dX7_cleaned_253 kc7 g7010 ?_
    refine r_iload (pc := 256) dX7_cleaned_256 rfl ?_
    obtain ⟨hk4, K⟩ := K
    obtain ⟨hi5, K⟩ := K
    refine r_baload (pc := 258) hk4 hi5 dX7_cleaned_258 ?_
    obtain ⟨hk6, K⟩ := K
    obtain ⟨hi7, K⟩ := K
    refine r_jbast (pc := 259) hk6 hi7 (Or.inl (em rfl)) dX7_cleaned_259 ?_
    refine r_nameH (fun h8 eh8 => ?_)
    have K := K h8 eh8
    refine r_iinc (pc := 260) (lv' := [_, _, _, _, _, _, _, _, _, _]) dX7_cleaned_260 rfl rfl (by decide) rfl ?_
    refine r_goto (pc := 263) (tgt := 242) dX7_cleaned_263 rfl ?_
    refine r_mask (pc := 242) [true, true, false, false, true, false, false, true, false, false] rfl ?_
    exact K
theorem dX7_code_0 : decode cX7_code 0 = .ok (.iload_n 2, 1) := by decide +kernel
theorem dX7_code_1 : decode cX7_code 1 = .ok (.istore 4, 2) := by decide +kernel
theorem dX7_code_3 : decode cX7_code 3 = .ok (.iload 4, 2) := by decide +kernel
theorem dX7_code_5 : decode cX7_code 5 = .ok (.iload_n 3, 1) := by decide +kernel
theorem dX7_code_6 : decode cX7_code 6 = .ok (.if_icmp .ge 22, 3) := by decide +kernel
theorem dX7_code_9 : decode cX7_code 9 = .ok (.aload_n 0, 1) := by decide +kernel
theorem dX7_code_10 : decode cX7_code 10 = .ok (.getfield 27, 3) := by decide +kernel
theorem dX7_code_13 : decode cX7_code 13 = .ok (.iload 4, 2) := by decide +kernel
theorem dX7_code_15 : decode cX7_code 15 = .ok (.iload_n 2, 1) := by decide +kernel
theorem dX7_code_16 : decode cX7_code 16 = .ok (.isub, 1) := by decide +kernel
theorem dX7_code_17 : decode cX7_code 17 = .ok (.aload_n 1, 1) := by decide +kernel
theorem dX7_code_18 : decode cX7_code 18 = .ok (.iload 4, 2) := by decide +kernel
theorem dX7_code_20 : decode cX7_code 20 = .ok (.baload, 1) := by decide +kernel
theorem dX7_code_21 : decode cX7_code 21 = .ok (.bastore, 1) := by decide +kernel
theorem dX7_code_22 : decode cX7_code 22 = .ok (.iinc 4 1, 3) := by decide +kernel
theorem dX7_code_25 : decode cX7_code 25 = .ok (.goto (-22), 3) := by decide +kernel
theorem dX7_code_28 : decode cX7_code 28 = .ok (.iload_n 3, 1) := by decide +kernel
theorem dX7_code_29 : decode cX7_code 29 = .ok (.iload_n 2, 1) := by decide +kernel
theorem dX7_code_30 : decode cX7_code 30 = .ok (.isub, 1) := by decide +kernel
theorem dX7_code_31 : decode cX7_code 31 = .ok (.ireturn, 1) := by decide +kernel
/-! CoinJudge$Machine.code([BII)I -/
set_option maxHeartbeats 4000000 in
theorem sX7_code_0 {G : Gx} {d t : Nat} {h0 : AH} {Φ : Out → AH → Prop} (h : AH) (v0 : Nat) (v1 : Nat) (v2 : Int32) (v3 : Int32) (K : Aw G mX7_code (d + 1) t h0 Φ 3 [vR v0, vR v1, vI v2, vI v3, vI v2] [] h) : Aw G mX7_code (d + 1) t h0 Φ 0 [vR v0, vR v1, vI v2, vI v3, vU] [] h := by
  refine r_iload_n (pc := 0) dX7_code_0 rfl ?_
  refine r_istore (pc := 1) (lv' := [_, _, _, _, _]) dX7_code_1 (by decide) rfl ?_
  refine r_mask (pc := 3) [true, true, true, true, true] rfl ?_
  exact K
theorem eX7_code {G : Gx} {d : Nat} {Φ : Out → AH → Prop} (h : AH) (v0 : Nat) (v1 : Nat) (v2 : Int32) (v3 : Int32) (K : WF G h → Aw G mX7_code (d + 1) 0 h Φ 0 [vR v0, vR v1, vI v2, vI v3, vU] [] h) : Cw G mX7_code (d + 1) 0 [vR v0, vR v1, vI v2, vI v3] h Φ := Cw.of rfl K
set_option maxHeartbeats 4000000 in
theorem sX7_code_3 {G : Gx} {d t : Nat} {h0 : AH} {Φ : Out → AH → Prop} (h : AH) (v0 : Nat) (v1 : Nat) (v2 : Int32) (v3 : Int32) (v4 : Int32) (K : ((v3 ≤ v4 → Φ (.inl (some (vI (v3 - v2)))) h) ∧ (¬ v3 ≤ v4 → h.kd v0 = 7 ∧ ∀ r3 : Nat, r3 = (h.r 7009 v0) → h.kd v1 = 101 ∧ vp_in v4 (h.ai v1).length ∧ h.kd r3 = 101 ∧ vp_in (v4 - v2) (h.ai r3).length ∧ ∀ h8 : AH, h8 = h.wi r3 ((h.ai r3).set ((v4 - v2).toNatClampNeg) (i2b ((h.ai v1).getD (v4.toNatClampNeg) 0))) → Aw G mX7_code (d + 1) t h0 Φ 3 [vR v0, vR v1, vI v2, vI v3, vI (v4 + 1)] [] h8))) : Aw G mX7_code (d + 1) t h0 Φ 3 [vR v0, vR v1, vI v2, vI v3, vI v4] [] h := by
  refine r_iload (pc := 3) dX7_code_3 rfl ?_
  refine r_iload_n (pc := 5) dX7_code_5 rfl ?_
  refine r_icmp_ge (pc := 6) (tgt := 28) dX7_code_6 rfl (fun c1 => ?_) (fun c1 => ?_)
  · have K := K.1 c1
    refine r_iload_n (pc := 28) dX7_code_28 rfl ?_
    refine r_iload_n (pc := 29) dX7_code_29 rfl ?_
    refine r_isub (pc := 30) dX7_code_30 ?_
    exact r_iret (pc := 31) rfl rfl dX7_code_31 K
  · have K := K.2 c1
    refine r_aload_n (pc := 9) dX7_code_9 rfl ?_
    obtain ⟨hk2, K⟩ := K
    have K := K _ rfl
    refine r_getr' (pc := 10) (T := TX7) 7 9 rfl hk2 (Or.inl q507) dX7_code_10 kc7 g7009 ?_
    refine r_iload (pc := 13) dX7_code_13 rfl ?_
    refine r_iload_n (pc := 15) dX7_code_15 rfl ?_
    refine r_isub (pc := 16) dX7_code_16 ?_
    refine r_aload_n (pc := 17) dX7_code_17 rfl ?_
    refine r_iload (pc := 18) dX7_code_18 rfl ?_
    obtain ⟨hk4, K⟩ := K
    obtain ⟨hi5, K⟩ := K
    refine r_baload (pc := 20) hk4 hi5 dX7_code_20 ?_
    obtain ⟨hk6, K⟩ := K
    obtain ⟨hi7, K⟩ := K
    refine r_jbast (pc := 21) hk6 hi7 (Or.inl (em rfl)) dX7_code_21 ?_
    refine r_nameH (fun h8 eh8 => ?_)
    have K := K h8 eh8
    refine r_iinc (pc := 22) (lv' := [_, _, _, _, _]) dX7_code_22 rfl rfl (by decide) rfl ?_
    refine r_goto (pc := 25) (tgt := 3) dX7_code_25 rfl ?_
    refine r_mask (pc := 3) [true, true, true, true, true] rfl ?_
    exact K
theorem dX7_encoded_0 : decode cX7_encoded 0 = .ok (.aload_n 0, 1) := by decide +kernel
theorem dX7_encoded_1 : decode cX7_encoded 1 = .ok (.getfield 69, 3) := by decide +kernel
theorem dX7_encoded_4 : decode cX7_encoded 4 = .ok (.ifCond .le 26, 3) := by decide +kernel
theorem dX7_encoded_7 : decode cX7_encoded 7 = .ok (.aload_n 0, 1) := by decide +kernel
theorem dX7_encoded_8 : decode cX7_encoded 8 = .ok (.getfield 66, 3) := by decide +kernel
theorem dX7_encoded_11 : decode cX7_encoded 11 = .ok (.iconst 0, 1) := by decide +kernel
theorem dX7_encoded_12 : decode cX7_encoded 12 = .ok (.aload_n 0, 1) := by decide +kernel
theorem dX7_encoded_13 : decode cX7_encoded 13 = .ok (.getfield 69, 3) := by decide +kernel
theorem dX7_encoded_16 : decode cX7_encoded 16 = .ok (.invokestatic 205, 3) := by decide +kernel
theorem dX7_encoded_19 : decode cX7_encoded 19 = .ok (.ifCond .ne 11, 3) := by decide +kernel
theorem dX7_encoded_22 : decode cX7_encoded 22 = .ok (.new 52, 3) := by decide +kernel
theorem dX7_encoded_25 : decode cX7_encoded 25 = .ok (.dup, 1) := by decide +kernel
theorem dX7_encoded_26 : decode cX7_encoded 26 = .ok (.invokespecial 54, 3) := by decide +kernel
theorem dX7_encoded_29 : decode cX7_encoded 29 = .ok (.athrow, 1) := by decide +kernel
theorem dX7_encoded_30 : decode cX7_encoded 30 = .ok (.return_, 1) := by decide +kernel
/-! CoinJudge$Machine.encoded(LCoinJudge$Element;)V -/
set_option maxHeartbeats 4000000 in
theorem sX7_encoded_0 {G : Gx} {d t : Nat} {h0 : AH} {Φ : Out → AH → Prop} (h : AH) (v0 : Nat) (K : h.kd v0 = 22 ∧ (((h.i 22001 v0) ≤ 0 → Φ (.inl none) h) ∧ (¬ (h.i 22001 v0) ≤ 0 → ∀ r3 : Nat, r3 = (h.r 22000 v0) → Cw G mX3_strict d 0 [vR r3, vI 0, vI (h.i 22001 v0)] h (kI (fun x4 h5 => ((¬ x4 = 0 → Φ (.inl none) h5) ∧ (x4 = 0 → ∀ q7 : Nat, q7 = h5.z → WF G h5 → ∀ h8 : AH, h8 = h5.new 17 6 [] [] [] → 5 ≤ d ∧ ∀ h11 : AH, h11 = exH G 17 q7 h8 → Φ (.inr q7) h11))) (fun x h => Φ (.inr x) h))))) : Aw G mX7_encoded (d + 1) t h0 Φ 0 [vR v0] [] h := by
  refine r_aload_n (pc := 0) dX7_encoded_0 rfl ?_
  obtain ⟨hk1, K⟩ := K
  refine r_geti' (pc := 1) (T := TX22) 22 1 rfl hk1 (Or.inr (Or.inl ⟨_, q1296⟩)) dX7_encoded_1 kc22 g22001 ?_
  refine r_if_le (pc := 4) (tgt := 30) dX7_encoded_4 rfl (fun c2 => ?_) (fun c2 => ?_)
  · have K := K.1 c2
    exact r_vret (pc := 30) rfl dX7_encoded_30 K
  · have K := K.2 c2
    refine r_aload_n (pc := 7) dX7_encoded_7 rfl ?_
    have K := K _ rfl
    refine r_getr' (pc := 8) (T := TX22) 22 0 rfl hk1 (Or.inr (Or.inl ⟨_, q1293⟩)) dX7_encoded_8 kc22 g22000 ?_
    refine r_iconst (pc := 11) (x := 0) dX7_encoded_11 rfl ?_
    refine r_aload_n (pc := 12) dX7_encoded_12 rfl ?_
    refine r_geti' (pc := 13) (T := TX22) 22 1 rfl hk1 (Or.inr (Or.inl ⟨_, q1296⟩)) dX7_encoded_13 kc22 g22001 ?_
    refine r_callS_I (pc := 16) (Y := mX3_strict) (vs := [_, _, _]) (st := []) q1338 q1339 q153 dX7_encoded_16 rfl cd_X3_strict rfl rfl fp_X7_encoded_X3_strict K (fun x4 h5 eh5 wh5 K => ?_) (fun x h1 _ _ e => Tw.out rfl e)
    refine r_if_ne (pc := 19) (tgt := 30) dX7_encoded_19 rfl (fun c6 => ?_) (fun c6 => ?_)
    · have K := K.1 c6
      exact r_vret (pc := 30) rfl dX7_encoded_30 K
    · have K := K.2 c6
      refine r_new (pc := 22) 17 kc17 rfl q1264 q1037 q182 dX7_encoded_22 (fun q7 eq7 zq7 wq7 => ?_)
      refine r_nameH (fun h8 eh8 => ?_)
      have K := K q7 eq7 wq7 h8 eh8
      have hk9 := kd_newSE eh8 eq7
      refine r_dup (pc := 25) rfl dX7_encoded_25 ?_
      obtain ⟨hd10, K⟩ := K
      refine r_exInit (pc := 26) 17 _ hd10 hk9 (fr_newS eh8 eq7) (Or.inr zq7) kc17 rfl ex_17 (Or.inr ⟨_, q1276⟩) dX7_encoded_26 rfl ?_
      refine r_nameH (fun h11 eh11 => ?_)
      have K := K h11 eh11
      have hk12 := kd_exH eh11 hk9
      exact r_athrow (pc := 29) (nzk hk12 rfl) dX7_encoded_29 (Tw.out rfl K)
theorem eX7_encoded {G : Gx} {d : Nat} {Φ : Out → AH → Prop} (h : AH) (v0 : Nat) (K : WF G h → Aw G mX7_encoded (d + 1) 0 h Φ 0 [vR v0] [] h) : Cw G mX7_encoded (d + 1) 0 [vR v0] h Φ := Cw.of rfl K
theorem dX7_truth_0 : decode cX7_truth 0 = .ok (.aload_n 0, 1) := by decide +kernel
theorem dX7_truth_1 : decode cX7_truth 1 = .ok (.invokevirtual 62, 3) := by decide +kernel
theorem dX7_truth_4 : decode cX7_truth 4 = .ok (.iload_n 1, 1) := by decide +kernel
theorem dX7_truth_5 : decode cX7_truth 5 = .ok (.ifCond .eq 7, 3) := by decide +kernel
theorem dX7_truth_8 : decode cX7_truth 8 = .ok (.lconst 1, 1) := by decide +kernel
theorem dX7_truth_9 : decode cX7_truth 9 = .ok (.goto 4, 3) := by decide +kernel
theorem dX7_truth_12 : decode cX7_truth 12 = .ok (.lconst 0, 1) := by decide +kernel
theorem dX7_truth_13 : decode cX7_truth 13 = .ok (.invokevirtual 126, 3) := by decide +kernel
theorem dX7_truth_16 : decode cX7_truth 16 = .ok (.return_, 1) := by decide +kernel
/-! CoinJudge$Machine.truth(Z)V -/
set_option maxHeartbeats 4000000 in
theorem sX7_truth_0 {G : Gx} {d t : Nat} {h0 : AH} {Φ : Out → AH → Prop} (h : AH) (v0 : Nat) (v1 : Int32) (K : h.kd v0 = 7 ∧ Cw G mX7_push d 0 [vR v0] h (kR (fun x1 h2 => ((v1 = 0 → h2.kd x1 = 22 ∧ Cw G mX22_be d 0 [vR x1, vJ 0] h2 (kV (fun h6 => Φ (.inl none) h6) (fun x h => Φ (.inr x) h))) ∧ (¬ v1 = 0 → h2.kd x1 = 22 ∧ Cw G mX22_be d 0 [vR x1, vJ 1] h2 (kV (fun h9 => Φ (.inl none) h9) (fun x h => Φ (.inr x) h))))) (fun x h => Φ (.inr x) h))) : Aw G mX7_truth (d + 1) t h0 Φ 0 [vR v0, vI v1] [] h := by
  refine r_aload_n (pc := 0) dX7_truth_0 rfl ?_
  obtain ⟨hk3, K⟩ := K
  refine r_callV_R (pc := 1) (Y := mX7_push) (vs := []) (st := []) hk3 rfl kc7 q1280 q1282 qs15 dX7_truth_1 rfl cd_X7_push rfl rfl fp_X7_truth_X7_push K (fun x1 h2 eh2 wh2 K => ?_) (fun x h1 _ _ e => Tw.out rfl e)
  refine r_iload_n (pc := 4) dX7_truth_4 rfl ?_
  refine r_if_eq (pc := 5) (tgt := 12) dX7_truth_5 rfl (fun c4 => ?_) (fun c4 => ?_)
  · have K := K.1 c4
    refine r_lconst (pc := 12) (a := 0) dX7_truth_12 rfl ?_
    obtain ⟨hk7, K⟩ := K
    refine r_callV_V (pc := 13) (Y := mX22_be) (vs := [_]) (st := []) hk7 rfl kc22 q1484 q1485 q1486 dX7_truth_13 rfl cd_X22_be rfl rfl fp_X7_truth_X22_be K (fun h6 eh6 wh6 K => ?_) (fun x h1 _ _ e => Tw.out rfl e)
    exact r_vret (pc := 16) rfl dX7_truth_16 K
  · have K := K.2 c4
    refine r_lconst (pc := 8) (a := 1) dX7_truth_8 rfl ?_
    refine r_goto (pc := 9) (tgt := 13) dX7_truth_9 rfl ?_
    obtain ⟨hk10, K⟩ := K
    refine r_callV_V (pc := 13) (Y := mX22_be) (vs := [_]) (st := []) hk10 rfl kc22 q1484 q1485 q1486 dX7_truth_13 rfl cd_X22_be rfl rfl fp_X7_truth_X22_be K (fun h9 eh9 wh9 K => ?_) (fun x h1 _ _ e => Tw.out rfl e)
    exact r_vret (pc := 16) rfl dX7_truth_16 K
theorem eX7_truth {G : Gx} {d : Nat} {Φ : Out → AH → Prop} (h : AH) (v0 : Nat) (v1 : Int32) (K : WF G h → Aw G mX7_truth (d + 1) 0 h Φ 0 [vR v0, vI v1] [] h) : Cw G mX7_truth (d + 1) 0 [vR v0, vI v1] h Φ := Cw.of rfl K
theorem dX7_verify_0 : decode cX7_verify 0 = .ok (.aload_n 0, 1) := by decide +kernel
theorem dX7_verify_1 : decode cX7_verify 1 = .ok (.aload_n 0, 1) := by decide +kernel
theorem dX7_verify_2 : decode cX7_verify 2 = .ok (.iconst 0, 1) := by decide +kernel
theorem dX7_verify_3 : decode cX7_verify 3 = .ok (.invokevirtual 59, 3) := by decide +kernel
theorem dX7_verify_6 : decode cX7_verify 6 = .ok (.invokevirtual 83, 3) := by decide +kernel
theorem dX7_verify_9 : decode cX7_verify 9 = .ok (.invokevirtual 91, 3) := by decide +kernel
theorem dX7_verify_12 : decode cX7_verify 12 = .ok (.aload_n 0, 1) := by decide +kernel
theorem dX7_verify_13 : decode cX7_verify 13 = .ok (.iconst 1, 1) := by decide +kernel
theorem dX7_verify_14 : decode cX7_verify 14 = .ok (.invokevirtual 95, 3) := by decide +kernel
theorem dX7_verify_17 : decode cX7_verify 17 = .ok (.return_, 1) := by decide +kernel
/-! CoinJudge$Machine.verify()V -/
set_option maxHeartbeats 4000000 in
theorem sX7_verify_0 {G : Gx} {d t : Nat} {h0 : AH} {Φ : Out → AH → Prop} (h : AH) (v0 : Nat) (K : h.kd v0 = 7 ∧ Cw G mX7_top d 0 [vR v0, vI 0] h (kR (fun x1 h2 => h2.kd x1 = 22 ∧ Cw G mX22_isTrue d 0 [vR x1] h2 (kI (fun x4 h5 => Cw G mX7_need d 0 [vR v0, vI x4] h5 (kV (fun h8 => Cw G mX7_drop d 0 [vR v0, vI 1] h8 (kV (fun h12 => Φ (.inl none) h12) (fun x h => Φ (.inr x) h))) (fun x h => Φ (.inr x) h))) (fun x h => Φ (.inr x) h))) (fun x h => Φ (.inr x) h))) : Aw G mX7_verify (d + 1) t h0 Φ 0 [vR v0] [] h := by
  refine r_aload_n (pc := 0) dX7_verify_0 rfl ?_
  refine r_aload_n (pc := 1) dX7_verify_1 rfl ?_
  refine r_iconst (pc := 2) (x := 0) dX7_verify_2 rfl ?_
  obtain ⟨hk3, K⟩ := K
  refine r_callV_R (pc := 3) (Y := mX7_top) (vs := [_]) (st := [_]) hk3 rfl kc7 q1311 q1313 qs17 dX7_verify_3 rfl cd_X7_top rfl rfl fp_X7_verify_X7_top K (fun x1 h2 eh2 wh2 K => ?_) (fun x h1 _ _ e => Tw.out rfl e)
  obtain ⟨hk6, K⟩ := K
  refine r_callV_I (pc := 6) (Y := mX22_isTrue) (vs := []) (st := [_]) hk6 rfl kc22 q1315 q1316 q1317 dX7_verify_6 rfl cd_X22_isTrue rfl rfl fp_X7_verify_X22_isTrue K (fun x4 h5 eh5 wh5 K => ?_) (fun x h1 _ _ e => Tw.out rfl e)
  have hk9 := kd_ext eh2 hk3 (nz rfl)
  have hk10 := kd_ext eh5 hk9 (nz rfl)
  refine r_callV_V (pc := 9) (Y := mX7_need) (vs := [_]) (st := []) hk10 rfl kc7 q1272 q1274 qs14 dX7_verify_9 rfl cd_X7_need rfl rfl fp_X7_verify_X7_need K (fun h8 eh8 wh8 K => ?_) (fun x h1 _ _ e => Tw.out rfl e)
  refine r_aload_n (pc := 12) dX7_verify_12 rfl ?_
  refine r_iconst (pc := 13) (x := 1) dX7_verify_13 rfl ?_
  have hk13 := kd_ext eh8 hk10 (nz rfl)
  refine r_callV_V (pc := 14) (Y := mX7_drop) (vs := [_]) (st := []) hk13 rfl kc7 q1319 q1321 qs18 dX7_verify_14 rfl cd_X7_drop rfl rfl fp_X7_verify_X7_drop K (fun h12 eh12 wh12 K => ?_) (fun x h1 _ _ e => Tw.out rfl e)
  exact r_vret (pc := 17) rfl dX7_verify_17 K
theorem eX7_verify {G : Gx} {d : Nat} {Φ : Out → AH → Prop} (h : AH) (v0 : Nat) (K : WF G h → Aw G mX7_verify (d + 1) 0 h Φ 0 [vR v0] [] h) : Cw G mX7_verify (d + 1) 0 [vR v0] h Φ := Cw.of rfl K
theorem dX7_several_0 : decode cX7_several 0 = .ok (.aload_n 0, 1) := by decide +kernel
theorem dX7_several_1 : decode cX7_several 1 = .ok (.iconst 0, 1) := by decide +kernel
theorem dX7_several_2 : decode cX7_several 2 = .ok (.invokevirtual 59, 3) := by decide +kernel
theorem dX7_several_5 : decode cX7_several 5 = .ok (.iconst 4, 1) := by decide +kernel
theorem dX7_several_6 : decode cX7_several 6 = .ok (.invokevirtual 149, 3) := by decide +kernel
theorem dX7_several_9 : decode cX7_several 9 = .ok (.lstore 7, 2) := by decide +kernel
theorem dX7_several_11 : decode cX7_several 11 = .ok (.aload_n 0, 1) := by decide +kernel
theorem dX7_several_12 : decode cX7_several 12 = .ok (.lload 7, 2) := by decide +kernel
theorem dX7_several_14 : decode cX7_several 14 = .ok (.lconst 0, 1) := by decide +kernel
theorem dX7_several_15 : decode cX7_several 15 = .ok (.lcmp, 1) := by decide +kernel
theorem dX7_several_16 : decode cX7_several 16 = .ok (.ifCond .lt 29, 3) := by decide +kernel
theorem dX7_several_19 : decode cX7_several 19 = .ok (.lload 7, 2) := by decide +kernel
theorem dX7_several_21 : decode cX7_several 21 = .ok (.ldc2_w 224, 3) := by decide +kernel
theorem dX7_several_24 : decode cX7_several 24 = .ok (.lcmp, 1) := by decide +kernel
theorem dX7_several_25 : decode cX7_several 25 = .ok (.ifCond .gt 20, 3) := by decide +kernel
theorem dX7_several_28 : decode cX7_several 28 = .ok (.iload 6, 2) := by decide +kernel
theorem dX7_several_30 : decode cX7_several 30 = .ok (.i2l, 1) := by decide +kernel
theorem dX7_several_31 : decode cX7_several 31 = .ok (.lload 7, 2) := by decide +kernel
theorem dX7_several_33 : decode cX7_several 33 = .ok (.ladd, 1) := by decide +kernel
theorem dX7_several_34 : decode cX7_several 34 = .ok (.ldc2_w 226, 3) := by decide +kernel
theorem dX7_several_37 : decode cX7_several 37 = .ok (.lcmp, 1) := by decide +kernel
theorem dX7_several_38 : decode cX7_several 38 = .ok (.ifCond .gt 7, 3) := by decide +kernel
theorem dX7_several_41 : decode cX7_several 41 = .ok (.iconst 1, 1) := by decide +kernel
theorem dX7_several_42 : decode cX7_several 42 = .ok (.goto 4, 3) := by decide +kernel
theorem dX7_several_45 : decode cX7_several 45 = .ok (.iconst 0, 1) := by decide +kernel
theorem dX7_several_46 : decode cX7_several 46 = .ok (.invokevirtual 91, 3) := by decide +kernel
theorem dX7_several_49 : decode cX7_several 49 = .ok (.lload 7, 2) := by decide +kernel
theorem dX7_several_51 : decode cX7_several 51 = .ok (.l2i, 1) := by decide +kernel
theorem dX7_several_52 : decode cX7_several 52 = .ok (.istore 9, 2) := by decide +kernel
theorem dX7_several_54 : decode cX7_several 54 = .ok (.aload_n 0, 1) := by decide +kernel
theorem dX7_several_55 : decode cX7_several 55 = .ok (.iload 9, 2) := by decide +kernel
theorem dX7_several_57 : decode cX7_several 57 = .ok (.iconst 1, 1) := by decide +kernel
theorem dX7_several_58 : decode cX7_several 58 = .ok (.iadd, 1) := by decide +kernel
theorem dX7_several_59 : decode cX7_several 59 = .ok (.invokevirtual 59, 3) := by decide +kernel
theorem dX7_several_62 : decode cX7_several 62 = .ok (.iconst 4, 1) := by decide +kernel
theorem dX7_several_63 : decode cX7_several 63 = .ok (.invokevirtual 149, 3) := by decide +kernel
theorem dX7_several_66 : decode cX7_several 66 = .ok (.lstore 10, 2) := by decide +kernel
theorem dX7_several_68 : decode cX7_several 68 = .ok (.aload_n 0, 1) := by decide +kernel
theorem dX7_several_69 : decode cX7_several 69 = .ok (.lload 10, 2) := by decide +kernel
theorem dX7_several_71 : decode cX7_several 71 = .ok (.lconst 0, 1) := by decide +kernel
theorem dX7_several_72 : decode cX7_several 72 = .ok (.lcmp, 1) := by decide +kernel
theorem dX7_several_73 : decode cX7_several 73 = .ok (.ifCond .lt 15, 3) := by decide +kernel
theorem dX7_several_76 : decode cX7_several 76 = .ok (.lload 10, 2) := by decide +kernel
theorem dX7_several_78 : decode cX7_several 78 = .ok (.lload 7, 2) := by decide +kernel
theorem dX7_several_80 : decode cX7_several 80 = .ok (.lcmp, 1) := by decide +kernel
theorem dX7_several_81 : decode cX7_several 81 = .ok (.ifCond .gt 7, 3) := by decide +kernel
theorem dX7_several_84 : decode cX7_several 84 = .ok (.iconst 1, 1) := by decide +kernel
theorem dX7_several_85 : decode cX7_several 85 = .ok (.goto 4, 3) := by decide +kernel
theorem dX7_several_88 : decode cX7_several 88 = .ok (.iconst 0, 1) := by decide +kernel
theorem dX7_several_89 : decode cX7_several 89 = .ok (.invokevirtual 91, 3) := by decide +kernel
theorem dX7_several_92 : decode cX7_several 92 = .ok (.lload 10, 2) := by decide +kernel
theorem dX7_several_94 : decode cX7_several 94 = .ok (.l2i, 1) := by decide +kernel
theorem dX7_several_95 : decode cX7_several 95 = .ok (.istore 12, 2) := by decide +kernel
theorem dX7_several_97 : decode cX7_several 97 = .ok (.aload_n 0, 1) := by decide +kernel
theorem dX7_several_98 : decode cX7_several 98 = .ok (.aload_n 0, 1) := by decide +kernel
theorem dX7_several_99 : decode cX7_several 99 = .ok (.getfield 45, 3) := by decide +kernel
theorem dX7_several_102 : decode cX7_several 102 = .ok (.iload 9, 2) := by decide +kernel
theorem dX7_several_104 : decode cX7_several 104 = .ok (.iload 12, 2) := by decide +kernel
theorem dX7_several_106 : decode cX7_several 106 = .ok (.iadd, 1) := by decide +kernel
theorem dX7_several_107 : decode cX7_several 107 = .ok (.iconst 3, 1) := by decide +kernel
theorem dX7_several_108 : decode cX7_several 108 = .ok (.iadd, 1) := by decide +kernel
theorem dX7_several_109 : decode cX7_several 109 = .ok (.if_icmp .lt 7, 3) := by decide +kernel
theorem dX7_several_112 : decode cX7_several 112 = .ok (.iconst 1, 1) := by decide +kernel
theorem dX7_several_113 : decode cX7_several 113 = .ok (.goto 4, 3) := by decide +kernel
theorem dX7_several_116 : decode cX7_several 116 = .ok (.iconst 0, 1) := by decide +kernel
theorem dX7_several_117 : decode cX7_several 117 = .ok (.invokevirtual 91, 3) := by decide +kernel
theorem dX7_several_120 : decode cX7_several 120 = .ok (.aload_n 0, 1) := by decide +kernel
theorem dX7_several_121 : decode cX7_several 121 = .ok (.aload_n 3, 1) := by decide +kernel
theorem dX7_several_122 : decode cX7_several 122 = .ok (.iload 4, 2) := by decide +kernel
theorem dX7_several_124 : decode cX7_several 124 = .ok (.iload 5, 2) := by decide +kernel
theorem dX7_several_126 : decode cX7_several 126 = .ok (.invokevirtual 210, 3) := by decide +kernel
theorem dX7_several_129 : decode cX7_several 129 = .ok (.istore 13, 2) := by decide +kernel
theorem dX7_several_131 : decode cX7_several 131 = .ok (.iconst 0, 1) := by decide +kernel
theorem dX7_several_132 : decode cX7_several 132 = .ok (.istore 14, 2) := by decide +kernel
theorem dX7_several_134 : decode cX7_several 134 = .ok (.iload 14, 2) := by decide +kernel
theorem dX7_several_136 : decode cX7_several 136 = .ok (.iload 12, 2) := by decide +kernel
theorem dX7_several_138 : decode cX7_several 138 = .ok (.if_icmp .ge 32, 3) := by decide +kernel
theorem dX7_several_141 : decode cX7_several 141 = .ok (.aload_n 0, 1) := by decide +kernel
theorem dX7_several_142 : decode cX7_several 142 = .ok (.aload_n 0, 1) := by decide +kernel
theorem dX7_several_143 : decode cX7_several 143 = .ok (.getfield 27, 3) := by decide +kernel
theorem dX7_several_146 : decode cX7_several 146 = .ok (.iload 13, 2) := by decide +kernel
theorem dX7_several_148 : decode cX7_several 148 = .ok (.aload_n 0, 1) := by decide +kernel
theorem dX7_several_149 : decode cX7_several 149 = .ok (.iload 9, 2) := by decide +kernel
theorem dX7_several_151 : decode cX7_several 151 = .ok (.iconst 2, 1) := by decide +kernel
theorem dX7_several_152 : decode cX7_several 152 = .ok (.iadd, 1) := by decide +kernel
theorem dX7_several_153 : decode cX7_several 153 = .ok (.iload 14, 2) := by decide +kernel
theorem dX7_several_155 : decode cX7_several 155 = .ok (.iadd, 1) := by decide +kernel
theorem dX7_several_156 : decode cX7_several 156 = .ok (.invokevirtual 59, 3) := by decide +kernel
theorem dX7_several_159 : decode cX7_several 159 = .ok (.invokevirtual 212, 3) := by decide +kernel
theorem dX7_several_162 : decode cX7_several 162 = .ok (.istore 13, 2) := by decide +kernel
theorem dX7_several_164 : decode cX7_several 164 = .ok (.iinc 14 1, 3) := by decide +kernel
theorem dX7_several_167 : decode cX7_several 167 = .ok (.goto (-33), 3) := by decide +kernel
theorem dX7_several_170 : decode cX7_several 170 = .ok (.iconst 1, 1) := by decide +kernel
theorem dX7_several_171 : decode cX7_several 171 = .ok (.istore 14, 2) := by decide +kernel
theorem dX7_several_173 : decode cX7_several 173 = .ok (.iconst 1, 1) := by decide +kernel
theorem dX7_several_174 : decode cX7_several 174 = .ok (.istore 15, 2) := by decide +kernel
theorem dX7_several_176 : decode cX7_several 176 = .ok (.iload 9, 2) := by decide +kernel
theorem dX7_several_178 : decode cX7_several 178 = .ok (.iconst 2, 1) := by decide +kernel
theorem dX7_several_179 : decode cX7_several 179 = .ok (.iadd, 1) := by decide +kernel
theorem dX7_several_180 : decode cX7_several 180 = .ok (.istore 16, 2) := by decide +kernel
theorem dX7_several_182 : decode cX7_several 182 = .ok (.iload 9, 2) := by decide +kernel
theorem dX7_several_184 : decode cX7_several 184 = .ok (.istore 17, 2) := by decide +kernel
theorem dX7_several_186 : decode cX7_several 186 = .ok (.iload 12, 2) := by decide +kernel
theorem dX7_several_188 : decode cX7_several 188 = .ok (.istore 18, 2) := by decide +kernel
theorem dX7_several_190 : decode cX7_several 190 = .ok (.iload 14, 2) := by decide +kernel
theorem dX7_several_192 : decode cX7_several 192 = .ok (.ifCond .eq 82, 3) := by decide +kernel
theorem dX7_several_195 : decode cX7_several 195 = .ok (.iload 18, 2) := by decide +kernel
theorem dX7_several_197 : decode cX7_several 197 = .ok (.ifCond .le 77, 3) := by decide +kernel
theorem dX7_several_200 : decode cX7_several 200 = .ok (.aload_n 0, 1) := by decide +kernel
theorem dX7_several_201 : decode cX7_several 201 = .ok (.iload 16, 2) := by decide +kernel
theorem dX7_several_203 : decode cX7_several 203 = .ok (.invokevirtual 59, 3) := by decide +kernel
theorem dX7_several_206 : decode cX7_several 206 = .ok (.astore 19, 2) := by decide +kernel
theorem dX7_several_208 : decode cX7_several 208 = .ok (.aload 19, 2) := by decide +kernel
theorem dX7_several_210 : decode cX7_several 210 = .ok (.invokestatic 216, 3) := by decide +kernel
theorem dX7_several_213 : decode cX7_several 213 = .ok (.aload 19, 2) := by decide +kernel
theorem dX7_several_215 : decode cX7_several 215 = .ok (.getfield 69, 3) := by decide +kernel
theorem dX7_several_218 : decode cX7_several 218 = .ok (.ifCond .le 33, 3) := by decide +kernel
theorem dX7_several_221 : decode cX7_several 221 = .ok (.aload_n 2, 1) := by decide +kernel
theorem dX7_several_222 : decode cX7_several 222 = .ok (.aload 19, 2) := by decide +kernel
theorem dX7_several_224 : decode cX7_several 224 = .ok (.aload_n 0, 1) := by decide +kernel
theorem dX7_several_225 : decode cX7_several 225 = .ok (.iload 15, 2) := by decide +kernel
theorem dX7_several_227 : decode cX7_several 227 = .ok (.invokevirtual 59, 3) := by decide +kernel
theorem dX7_several_230 : decode cX7_several 230 = .ok (.aload_n 0, 1) := by decide +kernel
theorem dX7_several_231 : decode cX7_several 231 = .ok (.getfield 27, 3) := by decide +kernel
theorem dX7_several_234 : decode cX7_several 234 = .ok (.iconst 0, 1) := by decide +kernel
theorem dX7_several_235 : decode cX7_several 235 = .ok (.iload 13, 2) := by decide +kernel
theorem dX7_several_237 : decode cX7_several 237 = .ok (.invokeinterface 220 6, 5) := by decide +kernel
theorem dX7_several_242 : decode cX7_several 242 = .ok (.ifCond .eq 9, 3) := by decide +kernel
theorem dX7_several_245 : decode cX7_several 245 = .ok (.iinc 16 1, 3) := by decide +kernel
theorem dX7_several_248 : decode cX7_several 248 = .ok (.iinc 18 (-1), 3) := by decide +kernel
theorem dX7_several_251 : decode cX7_several 251 = .ok (.iinc 15 1, 3) := by decide +kernel
theorem dX7_several_254 : decode cX7_several 254 = .ok (.iinc 17 (-1), 3) := by decide +kernel
theorem dX7_several_257 : decode cX7_several 257 = .ok (.iload 18, 2) := by decide +kernel
theorem dX7_several_259 : decode cX7_several 259 = .ok (.iload 17, 2) := by decide +kernel
theorem dX7_several_261 : decode cX7_several 261 = .ok (.if_icmp .gt 7, 3) := by decide +kernel
theorem dX7_several_264 : decode cX7_several 264 = .ok (.iconst 1, 1) := by decide +kernel
theorem dX7_several_265 : decode cX7_several 265 = .ok (.goto 4, 3) := by decide +kernel
theorem dX7_several_268 : decode cX7_several 268 = .ok (.iconst 0, 1) := by decide +kernel
theorem dX7_several_269 : decode cX7_several 269 = .ok (.istore 14, 2) := by decide +kernel
theorem dX7_several_271 : decode cX7_several 271 = .ok (.goto (-81), 3) := by decide +kernel
theorem dX7_several_274 : decode cX7_several 274 = .ok (.aload_n 0, 1) := by decide +kernel
theorem dX7_several_275 : decode cX7_several 275 = .ok (.iload 9, 2) := by decide +kernel
theorem dX7_several_277 : decode cX7_several 277 = .ok (.iload 12, 2) := by decide +kernel
theorem dX7_several_279 : decode cX7_several 279 = .ok (.iadd, 1) := by decide +kernel
theorem dX7_several_280 : decode cX7_several 280 = .ok (.iconst 3, 1) := by decide +kernel
theorem dX7_several_281 : decode cX7_several 281 = .ok (.iadd, 1) := by decide +kernel
theorem dX7_several_282 : decode cX7_several 282 = .ok (.invokevirtual 95, 3) := by decide +kernel
theorem dX7_several_285 : decode cX7_several 285 = .ok (.aload_n 0, 1) := by decide +kernel
theorem dX7_several_286 : decode cX7_several 286 = .ok (.iload 14, 2) := by decide +kernel
theorem dX7_several_288 : decode cX7_several 288 = .ok (.invokevirtual 157, 3) := by decide +kernel
theorem dX7_several_291 : decode cX7_several 291 = .ok (.iload_n 1, 1) := by decide +kernel
theorem dX7_several_292 : decode cX7_several 292 = .ok (.sipush 175, 3) := by decide +kernel
theorem dX7_several_295 : decode cX7_several 295 = .ok (.if_icmp .ne 7, 3) := by decide +kernel
theorem dX7_several_298 : decode cX7_several 298 = .ok (.aload_n 0, 1) := by decide +kernel
theorem dX7_several_299 : decode cX7_several 299 = .ok (.invokevirtual 140, 3) := by decide +kernel
theorem dX7_several_302 : decode cX7_several 302 = .ok (.iload 6, 2) := by decide +kernel
theorem dX7_several_304 : decode cX7_several 304 = .ok (.iload 9, 2) := by decide +kernel
theorem dX7_several_306 : decode cX7_several 306 = .ok (.iadd, 1) := by decide +kernel
theorem dX7_several_307 : decode cX7_several 307 = .ok (.ireturn, 1) := by decide +kernel
/-! CoinJudge$Machine.several(ILCoinJudge$Signed;[BIII)I -/
set_option maxHeartbeats 4000000 in
theorem sX7_several_0 {G : Gx} {d t : Nat} {h0 : AH} {Φ : Out → AH → Prop} (h : AH) (v0 : Nat) (v1 : Int32) (v2 : Nat) (v3 : Nat) (v4 : Int32) (v5 : Int32) (v6 : Int32) (K : h.kd v0 = 7 ∧ Cw G mX7_top d 0 [vR v0, vI 0] h (kR (fun x1 h2 => h2.kd x1 = 22 ∧ Cw G mX22_number d 0 [vR x1, vI 4] h2 (kJ (fun x4 h5 => ((x4 < 0 → Cw G mX7_need d 0 [vR v0, vI 0] h5 (kV (fun h9 => Cw G mX7_top d 0 [vR v0, vI (x4.toInt32 + 1)] h9 (kR (fun x12 h13 => h13.kd x12 = 22 ∧ Cw G mX22_number d 0 [vR x12, vI 4] h13 (kJ (fun x15 h16 => ((x15 < 0 → Cw G mX7_need d 0 [vR v0, vI 0] h16 (kV (fun h20 => (((h20.i 7004 v0) < ((x4.toInt32 + x15.toInt32) + 3) → Cw G mX7_need d 0 [vR v0, vI 0] h20 (kV (fun h26 => Cw G mX7_code d 0 [vR v0, vR v3, vI v4, vI v5] h26 (kI (fun x27 h28 => Aw G mX7_several (d + 1) t h0 Φ 134 [vR v0, vI v1, vR v2, vU, vU, vU, vI v6, vU, vU, vI x4.toInt32, vU, vU, vI x15.toInt32, vI x27, vI 0, vU, vU, vU, vU, vU] [] h28) (fun x h => Φ (.inr x) h))) (fun x h => Φ (.inr x) h))) ∧ (¬ (h20.i 7004 v0) < ((x4.toInt32 + x15.toInt32) + 3) → Cw G mX7_need d 0 [vR v0, vI 1] h20 (kV (fun h31 => Cw G mX7_code d 0 [vR v0, vR v3, vI v4, vI v5] h31 (kI (fun x32 h33 => Aw G mX7_several (d + 1) t h0 Φ 134 [vR v0, vI v1, vR v2, vU, vU, vU, vI v6, vU, vU, vI x4.toInt32, vU, vU, vI x15.toInt32, vI x32, vI 0, vU, vU, vU, vU, vU] [] h33) (fun x h => Φ (.inr x) h))) (fun x h => Φ (.inr x) h))))) (fun x h => Φ (.inr x) h))) ∧ (¬ x15 < 0 → ((x4 < x15 → Cw G mX7_need d 0 [vR v0, vI 0] h16 (kV (fun h37 => (((h37.i 7004 v0) < ((x4.toInt32 + x15.toInt32) + 3) → Cw G mX7_need d 0 [vR v0, vI 0] h37 (kV (fun h43 => Cw G mX7_code d 0 [vR v0, vR v3, vI v4, vI v5] h43 (kI (fun x44 h45 => Aw G mX7_several (d + 1) t h0 Φ 134 [vR v0, vI v1, vR v2, vU, vU, vU, vI v6, vU, vU, vI x4.toInt32, vU, vU, vI x15.toInt32, vI x44, vI 0, vU, vU, vU, vU, vU] [] h45) (fun x h => Φ (.inr x) h))) (fun x h => Φ (.inr x) h))) ∧ (¬ (h37.i 7004 v0) < ((x4.toInt32 + x15.toInt32) + 3) → Cw G mX7_need d 0 [vR v0, vI 1] h37 (kV (fun h48 => Cw G mX7_code d 0 [vR v0, vR v3, vI v4, vI v5] h48 (kI (fun x49 h50 => Aw G mX7_several (d + 1) t h0 Φ 134 [vR v0, vI v1, vR v2, vU, vU, vU, vI v6, vU, vU, vI x4.toInt32, vU, vU, vI x15.toInt32, vI x49, vI 0, vU, vU, vU, vU, vU] [] h50) (fun x h => Φ (.inr x) h))) (fun x h => Φ (.inr x) h))))) (fun x h => Φ (.inr x) h))) ∧ (¬ x4 < x15 → Cw G mX7_need d 0 [vR v0, vI 1] h16 (kV (fun h53 => (((h53.i 7004 v0) < ((x4.toInt32 + x15.toInt32) + 3) → Cw G mX7_need d 0 [vR v0, vI 0] h53 (kV (fun h59 => Cw G mX7_code d 0 [vR v0, vR v3, vI v4, vI v5] h59 (kI (fun x60 h61 => Aw G mX7_several (d + 1) t h0 Φ 134 [vR v0, vI v1, vR v2, vU, vU, vU, vI v6, vU, vU, vI x4.toInt32, vU, vU, vI x15.toInt32, vI x60, vI 0, vU, vU, vU, vU, vU] [] h61) (fun x h => Φ (.inr x) h))) (fun x h => Φ (.inr x) h))) ∧ (¬ (h53.i 7004 v0) < ((x4.toInt32 + x15.toInt32) + 3) → Cw G mX7_need d 0 [vR v0, vI 1] h53 (kV (fun h64 => Cw G mX7_code d 0 [vR v0, vR v3, vI v4, vI v5] h64 (kI (fun x65 h66 => Aw G mX7_several (d + 1) t h0 Φ 134 [vR v0, vI v1, vR v2, vU, vU, vU, vI v6, vU, vU, vI x4.toInt32, vU, vU, vI x15.toInt32, vI x65, vI 0, vU, vU, vU, vU, vU] [] h66) (fun x h => Φ (.inr x) h))) (fun x h => Φ (.inr x) h))))) (fun x h => Φ (.inr x) h))))))) (fun x h => Φ (.inr x) h))) (fun x h => Φ (.inr x) h))) (fun x h => Φ (.inr x) h))) ∧ (¬ x4 < 0 → ((20 < x4 → Cw G mX7_need d 0 [vR v0, vI 0] h5 (kV (fun h70 => Cw G mX7_top d 0 [vR v0, vI (x4.toInt32 + 1)] h70 (kR (fun x73 h74 => h74.kd x73 = 22 ∧ Cw G mX22_number d 0 [vR x73, vI 4] h74 (kJ (fun x76 h77 => ((x76 < 0 → Cw G mX7_need d 0 [vR v0, vI 0] h77 (kV (fun h81 => (((h81.i 7004 v0) < ((x4.toInt32 + x76.toInt32) + 3) → Cw G mX7_need d 0 [vR v0, vI 0] h81 (kV (fun h87 => Cw G mX7_code d 0 [vR v0, vR v3, vI v4, vI v5] h87 (kI (fun x88 h89 => Aw G mX7_several (d + 1) t h0 Φ 134 [vR v0, vI v1, vR v2, vU, vU, vU, vI v6, vU, vU, vI x4.toInt32, vU, vU, vI x76.toInt32, vI x88, vI 0, vU, vU, vU, vU, vU] [] h89) (fun x h => Φ (.inr x) h))) (fun x h => Φ (.inr x) h))) ∧ (¬ (h81.i 7004 v0) < ((x4.toInt32 + x76.toInt32) + 3) → Cw G mX7_need d 0 [vR v0, vI 1] h81 (kV (fun h92 => Cw G mX7_code d 0 [vR v0, vR v3, vI v4, vI v5] h92 (kI (fun x93 h94 => Aw G mX7_several (d + 1) t h0 Φ 134 [vR v0, vI v1, vR v2, vU, vU, vU, vI v6, vU, vU, vI x4.toInt32, vU, vU, vI x76.toInt32, vI x93, vI 0, vU, vU, vU, vU, vU] [] h94) (fun x h => Φ (.inr x) h))) (fun x h => Φ (.inr x) h))))) (fun x h => Φ (.inr x) h))) ∧ (¬ x76 < 0 → ((x4 < x76 → Cw G mX7_need d 0 [vR v0, vI 0] h77 (kV (fun h98 => (((h98.i 7004 v0) < ((x4.toInt32 + x76.toInt32) + 3) → Cw G mX7_need d 0 [vR v0, vI 0] h98 (kV (fun h104 => Cw G mX7_code d 0 [vR v0, vR v3, vI v4, vI v5] h104 (kI (fun x105 h106 => Aw G mX7_several (d + 1) t h0 Φ 134 [vR v0, vI v1, vR v2, vU, vU, vU, vI v6, vU, vU, vI x4.toInt32, vU, vU, vI x76.toInt32, vI x105, vI 0, vU, vU, vU, vU, vU] [] h106) (fun x h => Φ (.inr x) h))) (fun x h => Φ (.inr x) h))) ∧ (¬ (h98.i 7004 v0) < ((x4.toInt32 + x76.toInt32) + 3) → Cw G mX7_need d 0 [vR v0, vI 1] h98 (kV (fun h109 => Cw G mX7_code d 0 [vR v0, vR v3, vI v4, vI v5] h109 (kI (fun x110 h111 => Aw G mX7_several (d + 1) t h0 Φ 134 [vR v0, vI v1, vR v2, vU, vU, vU, vI v6, vU, vU, vI x4.toInt32, vU, vU, vI x76.toInt32, vI x110, vI 0, vU, vU, vU, vU, vU] [] h111) (fun x h => Φ (.inr x) h))) (fun x h => Φ (.inr x) h))))) (fun x h => Φ (.inr x) h))) ∧ (¬ x4 < x76 → Cw G mX7_need d 0 [vR v0, vI 1] h77 (kV (fun h114 => (((h114.i 7004 v0) < ((x4.toInt32 + x76.toInt32) + 3) → Cw G mX7_need d 0 [vR v0, vI 0] h114 (kV (fun h120 => Cw G mX7_code d 0 [vR v0, vR v3, vI v4, vI v5] h120 (kI (fun x121 h122 => Aw G mX7_several (d + 1) t h0 Φ 134 [vR v0, vI v1, vR v2, vU, vU, vU, vI v6, vU, vU, vI x4.toInt32, vU, vU, vI x76.toInt32, vI x121, vI 0, vU, vU, vU, vU, vU] [] h122) (fun x h => Φ (.inr x) h))) (fun x h => Φ (.inr x) h))) ∧ (¬ (h114.i 7004 v0) < ((x4.toInt32 + x76.toInt32) + 3) → Cw G mX7_need d 0 [vR v0, vI 1] h114 (kV (fun h125 => Cw G mX7_code d 0 [vR v0, vR v3, vI v4, vI v5] h125 (kI (fun x126 h127 => Aw G mX7_several (d + 1) t h0 Φ 134 [vR v0, vI v1, vR v2, vU, vU, vU, vI v6, vU, vU, vI x4.toInt32, vU, vU, vI x76.toInt32, vI x126, vI 0, vU, vU, vU, vU, vU] [] h127) (fun x h => Φ (.inr x) h))) (fun x h => Φ (.inr x) h))))) (fun x h => Φ (.inr x) h))))))) (fun x h => Φ (.inr x) h))) (fun x h => Φ (.inr x) h))) (fun x h => Φ (.inr x) h))) ∧ (¬ 20 < x4 → ((201 < (v6.toInt64 + x4) → Cw G mX7_need d 0 [vR v0, vI 0] h5 (kV (fun h131 => Cw G mX7_top d 0 [vR v0, vI (x4.toInt32 + 1)] h131 (kR (fun x134 h135 => h135.kd x134 = 22 ∧ Cw G mX22_number d 0 [vR x134, vI 4] h135 (kJ (fun x137 h138 => ((x137 < 0 → Cw G mX7_need d 0 [vR v0, vI 0] h138 (kV (fun h142 => (((h142.i 7004 v0) < ((x4.toInt32 + x137.toInt32) + 3) → Cw G mX7_need d 0 [vR v0, vI 0] h142 (kV (fun h148 => Cw G mX7_code d 0 [vR v0, vR v3, vI v4, vI v5] h148 (kI (fun x149 h150 => Aw G mX7_several (d + 1) t h0 Φ 134 [vR v0, vI v1, vR v2, vU, vU, vU, vI v6, vU, vU, vI x4.toInt32, vU, vU, vI x137.toInt32, vI x149, vI 0, vU, vU, vU, vU, vU] [] h150) (fun x h => Φ (.inr x) h))) (fun x h => Φ (.inr x) h))) ∧ (¬ (h142.i 7004 v0) < ((x4.toInt32 + x137.toInt32) + 3) → Cw G mX7_need d 0 [vR v0, vI 1] h142 (kV (fun h153 => Cw G mX7_code d 0 [vR v0, vR v3, vI v4, vI v5] h153 (kI (fun x154 h155 => Aw G mX7_several (d + 1) t h0 Φ 134 [vR v0, vI v1, vR v2, vU, vU, vU, vI v6, vU, vU, vI x4.toInt32, vU, vU, vI x137.toInt32, vI x154, vI 0, vU, vU, vU, vU, vU] [] h155) (fun x h => Φ (.inr x) h))) (fun x h => Φ (.inr x) h))))) (fun x h => Φ (.inr x) h))) ∧ (¬ x137 < 0 → ((x4 < x137 → Cw G mX7_need d 0 [vR v0, vI 0] h138 (kV (fun h159 => (((h159.i 7004 v0) < ((x4.toInt32 + x137.toInt32) + 3) → Cw G mX7_need d 0 [vR v0, vI 0] h159 (kV (fun h165 => Cw G mX7_code d 0 [vR v0, vR v3, vI v4, vI v5] h165 (kI (fun x166 h167 => Aw G mX7_several (d + 1) t h0 Φ 134 [vR v0, vI v1, vR v2, vU, vU, vU, vI v6, vU, vU, vI x4.toInt32, vU, vU, vI x137.toInt32, vI x166, vI 0, vU, vU, vU, vU, vU] [] h167) (fun x h => Φ (.inr x) h))) (fun x h => Φ (.inr x) h))) ∧ (¬ (h159.i 7004 v0) < ((x4.toInt32 + x137.toInt32) + 3) → Cw G mX7_need d 0 [vR v0, vI 1] h159 (kV (fun h170 => Cw G mX7_code d 0 [vR v0, vR v3, vI v4, vI v5] h170 (kI (fun x171 h172 => Aw G mX7_several (d + 1) t h0 Φ 134 [vR v0, vI v1, vR v2, vU, vU, vU, vI v6, vU, vU, vI x4.toInt32, vU, vU, vI x137.toInt32, vI x171, vI 0, vU, vU, vU, vU, vU] [] h172) (fun x h => Φ (.inr x) h))) (fun x h => Φ (.inr x) h))))) (fun x h => Φ (.inr x) h))) ∧ (¬ x4 < x137 → Cw G mX7_need d 0 [vR v0, vI 1] h138 (kV (fun h175 => (((h175.i 7004 v0) < ((x4.toInt32 + x137.toInt32) + 3) → Cw G mX7_need d 0 [vR v0, vI 0] h175 (kV (fun h181 => Cw G mX7_code d 0 [vR v0, vR v3, vI v4, vI v5] h181 (kI (fun x182 h183 => Aw G mX7_several (d + 1) t h0 Φ 134 [vR v0, vI v1, vR v2, vU, vU, vU, vI v6, vU, vU, vI x4.toInt32, vU, vU, vI x137.toInt32, vI x182, vI 0, vU, vU, vU, vU, vU] [] h183) (fun x h => Φ (.inr x) h))) (fun x h => Φ (.inr x) h))) ∧ (¬ (h175.i 7004 v0) < ((x4.toInt32 + x137.toInt32) + 3) → Cw G mX7_need d 0 [vR v0, vI 1] h175 (kV (fun h186 => Cw G mX7_code d 0 [vR v0, vR v3, vI v4, vI v5] h186 (kI (fun x187 h188 => Aw G mX7_several (d + 1) t h0 Φ 134 [vR v0, vI v1, vR v2, vU, vU, vU, vI v6, vU, vU, vI x4.toInt32, vU, vU, vI x137.toInt32, vI x187, vI 0, vU, vU, vU, vU, vU] [] h188) (fun x h => Φ (.inr x) h))) (fun x h => Φ (.inr x) h))))) (fun x h => Φ (.inr x) h))))))) (fun x h => Φ (.inr x) h))) (fun x h => Φ (.inr x) h))) (fun x h => Φ (.inr x) h))) ∧ (¬ 201 < (v6.toInt64 + x4) → Cw G mX7_need d 0 [vR v0, vI 1] h5 (kV (fun h191 => Cw G mX7_top d 0 [vR v0, vI (x4.toInt32 + 1)] h191 (kR (fun x194 h195 => h195.kd x194 = 22 ∧ Cw G mX22_number d 0 [vR x194, vI 4] h195 (kJ (fun x197 h198 => ((x197 < 0 → Cw G mX7_need d 0 [vR v0, vI 0] h198 (kV (fun h202 => (((h202.i 7004 v0) < ((x4.toInt32 + x197.toInt32) + 3) → Cw G mX7_need d 0 [vR v0, vI 0] h202 (kV (fun h208 => Cw G mX7_code d 0 [vR v0, vR v3, vI v4, vI v5] h208 (kI (fun x209 h210 => Aw G mX7_several (d + 1) t h0 Φ 134 [vR v0, vI v1, vR v2, vU, vU, vU, vI v6, vU, vU, vI x4.toInt32, vU, vU, vI x197.toInt32, vI x209, vI 0, vU, vU, vU, vU, vU] [] h210) (fun x h => Φ (.inr x) h))) (fun x h => Φ (.inr x) h))) ∧ (¬ (h202.i 7004 v0) < ((x4.toInt32 + x197.toInt32) + 3) → Cw G mX7_need d 0 [vR v0, vI 1] h202 (kV (fun h213 => Cw G mX7_code d 0 [vR v0, vR v3, vI v4, vI v5] h213 (kI (fun x214 h215 => Aw G mX7_several (d + 1) t h0 Φ 134 [vR v0, vI v1, vR v2, vU, vU, vU, vI v6, vU, vU, vI x4.toInt32, vU, vU, vI x197.toInt32, vI x214, vI 0, vU, vU, vU, vU, vU] [] h215) (fun x h => Φ (.inr x) h))) (fun x h => Φ (.inr x) h))))) (fun x h => Φ (.inr x) h))) ∧ (¬ x197 < 0 → ((x4 < x197 → Cw G mX7_need d 0 [vR v0, vI 0] h198 (kV (fun h219 => (((h219.i 7004 v0) < ((x4.toInt32 + x197.toInt32) + 3) → Cw G mX7_need d 0 [vR v0, vI 0] h219 (kV (fun h225 => Cw G mX7_code d 0 [vR v0, vR v3, vI v4, vI v5] h225 (kI (fun x226 h227 => Aw G mX7_several (d + 1) t h0 Φ 134 [vR v0, vI v1, vR v2, vU, vU, vU, vI v6, vU, vU, vI x4.toInt32, vU, vU, vI x197.toInt32, vI x226, vI 0, vU, vU, vU, vU, vU] [] h227) (fun x h => Φ (.inr x) h))) (fun x h => Φ (.inr x) h))) ∧ (¬ (h219.i 7004 v0) < ((x4.toInt32 + x197.toInt32) + 3) → Cw G mX7_need d 0 [vR v0, vI 1] h219 (kV (fun h230 => Cw G mX7_code d 0 [vR v0, vR v3, vI v4, vI v5] h230 (kI (fun x231 h232 => Aw G mX7_several (d + 1) t h0 Φ 134 [vR v0, vI v1, vR v2, vU, vU, vU, vI v6, vU, vU, vI x4.toInt32, vU, vU, vI x197.toInt32, vI x231, vI 0, vU, vU, vU, vU, vU] [] h232) (fun x h => Φ (.inr x) h))) (fun x h => Φ (.inr x) h))))) (fun x h => Φ (.inr x) h))) ∧ (¬ x4 < x197 → Cw G mX7_need d 0 [vR v0, vI 1] h198 (kV (fun h235 => (((h235.i 7004 v0) < ((x4.toInt32 + x197.toInt32) + 3) → Cw G mX7_need d 0 [vR v0, vI 0] h235 (kV (fun h241 => Cw G mX7_code d 0 [vR v0, vR v3, vI v4, vI v5] h241 (kI (fun x242 h243 => Aw G mX7_several (d + 1) t h0 Φ 134 [vR v0, vI v1, vR v2, vU, vU, vU, vI v6, vU, vU, vI x4.toInt32, vU, vU, vI x197.toInt32, vI x242, vI 0, vU, vU, vU, vU, vU] [] h243) (fun x h => Φ (.inr x) h))) (fun x h => Φ (.inr x) h))) ∧ (¬ (h235.i 7004 v0) < ((x4.toInt32 + x197.toInt32) + 3) → Cw G mX7_need d 0 [vR v0, vI 1] h235 (kV (fun h246 => Cw G mX7_code d 0 [vR v0, vR v3, vI v4, vI v5] h246 (kI (fun x247 h248 => Aw G mX7_several (d + 1) t h0 Φ 134 [vR v0, vI v1, vR v2, vU, vU, vU, vI v6, vU, vU, vI x4.toInt32, vU, vU, vI x197.toInt32, vI x247, vI 0, vU, vU, vU, vU, vU] [] h248) (fun x h => Φ (.inr x) h))) (fun x h => Φ (.inr x) h))))) (fun x h => Φ (.inr x) h))))))) (fun x h => Φ (.inr x) h))) (fun x h => Φ (.inr x) h))) (fun x h => Φ (.inr x) h))))))))) (fun x h => Φ (.inr x) h))) (fun x h => Φ (.inr x) h))) : Aw G mX7_several (d + 1) t h0 Φ 0 [vR v0, vI v1, vR v2, vR v3, vI v4, vI v5, vI v6, vU, vU, vU, vU, vU, vU, vU, vU, vU, vU, vU, vU, vU] [] h := by
  refine r_aload_n (pc := 0) dX7_several_0 rfl ?_
  refine r_iconst (pc := 1) (x := 0) dX7_several_1 rfl ?_
  obtain ⟨hk3, K⟩ := K
  refine r_callV_R (pc := 2) (Y := mX7_top) (vs := [_]) (st := []) hk3 rfl kc7 q1311 q1313 qs17 dX7_several_2 rfl cd_X7_top rfl rfl fp_X7_several_X7_top K (fun x1 h2 eh2 wh2 K => ?_) (fun x h1 _ _ e => Tw.out rfl e)
  refine r_iconst (pc := 5) (x := 4) dX7_several_5 rfl ?_
  obtain ⟨hk6, K⟩ := K
  refine r_callV_J (pc := 6) (Y := mX22_number) (vs := [_]) (st := []) hk6 rfl kc22 q1496 q1497 q1498 dX7_several_6 rfl cd_X22_number rfl rfl fp_X7_several_X22_number K (fun x4 h5 eh5 wh5 K => ?_) (fun x h1 _ _ e => Tw.out rfl e)
  refine r_lstore (pc := 9) (lv' := [_, _, _, _, _, _, _, _, _, _, _, _, _, _, _, _, _, _, _, _]) dX7_several_9 (by decide) rfl ?_
  refine r_aload_n (pc := 11) dX7_several_11 rfl ?_
  refine r_lload (pc := 12) dX7_several_12 rfl ?_
  refine r_lconst (pc := 14) (a := 0) dX7_several_14 rfl ?_
  refine r_lcmp_lt (pc := 15) (tgt := 45) dX7_several_15 dX7_several_16 rfl (fun c7 => ?_) (fun c7 => ?_)
  · have K := K.1 c7
    refine r_iconst (pc := 45) (x := 0) dX7_several_45 rfl ?_
    have hk10 := kd_ext eh2 hk3 (nz rfl)
    have hk11 := kd_ext eh5 hk10 (nz rfl)
    refine r_callV_V (pc := 46) (Y := mX7_need) (vs := [_]) (st := []) hk11 rfl kc7 q1272 q1274 qs14 dX7_several_46 rfl cd_X7_need rfl rfl fp_X7_several_X7_need K (fun h9 eh9 wh9 K => ?_) (fun x h1 _ _ e => Tw.out rfl e)
    refine r_lload (pc := 49) dX7_several_49 rfl ?_
    refine r_l2i (pc := 51) dX7_several_51 ?_
    refine r_istore (pc := 52) (lv' := [_, _, _, _, _, _, _, _, _, _, _, _, _, _, _, _, _, _, _, _]) dX7_several_52 (by decide) rfl ?_
    refine r_aload_n (pc := 54) dX7_several_54 rfl ?_
    refine r_iload (pc := 55) dX7_several_55 rfl ?_
    refine r_iconst (pc := 57) (x := 1) dX7_several_57 rfl ?_
    refine r_iadd (pc := 58) dX7_several_58 ?_
    have hk14 := kd_ext eh9 hk11 (nz rfl)
    refine r_callV_R (pc := 59) (Y := mX7_top) (vs := [_]) (st := []) hk14 rfl kc7 q1311 q1313 qs17 dX7_several_59 rfl cd_X7_top rfl rfl fp_X7_several_X7_top K (fun x12 h13 eh13 wh13 K => ?_) (fun x h1 _ _ e => Tw.out rfl e)
    refine r_iconst (pc := 62) (x := 4) dX7_several_62 rfl ?_
    obtain ⟨hk17, K⟩ := K
    refine r_callV_J (pc := 63) (Y := mX22_number) (vs := [_]) (st := []) hk17 rfl kc22 q1496 q1497 q1498 dX7_several_63 rfl cd_X22_number rfl rfl fp_X7_several_X22_number K (fun x15 h16 eh16 wh16 K => ?_) (fun x h1 _ _ e => Tw.out rfl e)
    refine r_lstore (pc := 66) (lv' := [_, _, _, _, _, _, _, _, _, _, _, _, _, _, _, _, _, _, _, _]) dX7_several_66 (by decide) rfl ?_
    refine r_aload_n (pc := 68) dX7_several_68 rfl ?_
    refine r_lload (pc := 69) dX7_several_69 rfl ?_
    refine r_lconst (pc := 71) (a := 0) dX7_several_71 rfl ?_
    refine r_lcmp_lt (pc := 72) (tgt := 88) dX7_several_72 dX7_several_73 rfl (fun c18 => ?_) (fun c18 => ?_)
    · have K := K.1 c18
      refine r_iconst (pc := 88) (x := 0) dX7_several_88 rfl ?_
      have hk21 := kd_ext eh13 hk14 (nz rfl)
      have hk22 := kd_ext eh16 hk21 (nz rfl)
      refine r_callV_V (pc := 89) (Y := mX7_need) (vs := [_]) (st := []) hk22 rfl kc7 q1272 q1274 qs14 dX7_several_89 rfl cd_X7_need rfl rfl fp_X7_several_X7_need K (fun h20 eh20 wh20 K => ?_) (fun x h1 _ _ e => Tw.out rfl e)
      refine r_lload (pc := 92) dX7_several_92 rfl ?_
      refine r_l2i (pc := 94) dX7_several_94 ?_
      refine r_istore (pc := 95) (lv' := [_, _, _, _, _, _, _, _, _, _, _, _, _, _, _, _, _, _, _, _]) dX7_several_95 (by decide) rfl ?_
      refine r_aload_n (pc := 97) dX7_several_97 rfl ?_
      refine r_aload_n (pc := 98) dX7_several_98 rfl ?_
      have hk23 := kd_ext eh20 hk22 (nz rfl)
      refine r_geti' (pc := 99) (T := TX7) 7 4 rfl hk23 (Or.inl q502) dX7_several_99 kc7 g7004 ?_
      refine r_iload (pc := 102) dX7_several_102 rfl ?_
      refine r_iload (pc := 104) dX7_several_104 rfl ?_
      refine r_iadd (pc := 106) dX7_several_106 ?_
      refine r_iconst (pc := 107) (x := 3) dX7_several_107 rfl ?_
      refine r_iadd (pc := 108) dX7_several_108 ?_
      refine r_icmp_lt (pc := 109) (tgt := 116) dX7_several_109 rfl (fun c24 => ?_) (fun c24 => ?_)
      · have K := K.1 c24
        refine r_iconst (pc := 116) (x := 0) dX7_several_116 rfl ?_
        refine r_callV_V (pc := 117) (Y := mX7_need) (vs := [_]) (st := []) hk23 rfl kc7 q1272 q1274 qs14 dX7_several_117 rfl cd_X7_need rfl rfl fp_X7_several_X7_need K (fun h26 eh26 wh26 K => ?_) (fun x h1 _ _ e => Tw.out rfl e)
        refine r_aload_n (pc := 120) dX7_several_120 rfl ?_
        refine r_aload_n (pc := 121) dX7_several_121 rfl ?_
        refine r_iload (pc := 122) dX7_several_122 rfl ?_
        refine r_iload (pc := 124) dX7_several_124 rfl ?_
        have hk29 := kd_ext eh26 hk23 (nz rfl)
        refine r_callV_I (pc := 126) (Y := mX7_code) (vs := [_, _, _]) (st := []) hk29 rfl kc7 q1327 q1329 qs20 dX7_several_126 rfl cd_X7_code rfl rfl fp_X7_several_X7_code K (fun x27 h28 eh28 wh28 K => ?_) (fun x h1 _ _ e => Tw.out rfl e)
        refine r_istore (pc := 129) (lv' := [_, _, _, _, _, _, _, _, _, _, _, _, _, _, _, _, _, _, _, _]) dX7_several_129 (by decide) rfl ?_
        refine r_iconst (pc := 131) (x := 0) dX7_several_131 rfl ?_
        refine r_istore (pc := 132) (lv' := [_, _, _, _, _, _, _, _, _, _, _, _, _, _, _, _, _, _, _, _]) dX7_several_132 (by decide) rfl ?_
        refine r_mask (pc := 134) [true, true, true, false, false, false, true, false, false, true, false, false, true, true, true, false, false, false, false, false] rfl ?_
        exact K
      · have K := K.2 c24
        refine r_iconst (pc := 112) (x := 1) dX7_several_112 rfl ?_
        refine r_goto (pc := 113) (tgt := 117) dX7_several_113 rfl ?_
        refine r_callV_V (pc := 117) (Y := mX7_need) (vs := [_]) (st := []) hk23 rfl kc7 q1272 q1274 qs14 dX7_several_117 rfl cd_X7_need rfl rfl fp_X7_several_X7_need K (fun h31 eh31 wh31 K => ?_) (fun x h1 _ _ e => Tw.out rfl e)
        refine r_aload_n (pc := 120) dX7_several_120 rfl ?_
        refine r_aload_n (pc := 121) dX7_several_121 rfl ?_
        refine r_iload (pc := 122) dX7_several_122 rfl ?_
        refine r_iload (pc := 124) dX7_several_124 rfl ?_
        have hk34 := kd_ext eh31 hk23 (nz rfl)
        refine r_callV_I (pc := 126) (Y := mX7_code) (vs := [_, _, _]) (st := []) hk34 rfl kc7 q1327 q1329 qs20 dX7_several_126 rfl cd_X7_code rfl rfl fp_X7_several_X7_code K (fun x32 h33 eh33 wh33 K => ?_) (fun x h1 _ _ e => Tw.out rfl e)
        refine r_istore (pc := 129) (lv' := [_, _, _, _, _, _, _, _, _, _, _, _, _, _, _, _, _, _, _, _]) dX7_several_129 (by decide) rfl ?_
        refine r_iconst (pc := 131) (x := 0) dX7_several_131 rfl ?_
        refine r_istore (pc := 132) (lv' := [_, _, _, _, _, _, _, _, _, _, _, _, _, _, _, _, _, _, _, _]) dX7_several_132 (by decide) rfl ?_
        refine r_mask (pc := 134) [true, true, true, false, false, false, true, false, false, true, false, false, true, true, true, false, false, false, false, false] rfl ?_
        exact K
    · have K := K.2 c18
      refine r_lload (pc := 76) dX7_several_76 rfl ?_
      refine r_lload (pc := 78) dX7_several_78 rfl ?_
      refine r_lcmp_gt (pc := 80) (tgt := 88) dX7_several_80 dX7_several_81 rfl (fun c35 => ?_) (fun c35 => ?_)
      · have K := K.1 c35
        refine r_iconst (pc := 88) (x := 0) dX7_several_88 rfl ?_
        have hk38 := kd_ext eh13 hk14 (nz rfl)
        have hk39 := kd_ext eh16 hk38 (nz rfl)
        refine r_callV_V (pc := 89) (Y := mX7_need) (vs := [_]) (st := []) hk39 rfl kc7 q1272 q1274 qs14 dX7_several_89 rfl cd_X7_need rfl rfl fp_X7_several_X7_need K (fun h37 eh37 wh37 K => ?_) (fun x h1 _ _ e => Tw.out rfl e)
        refine r_lload (pc := 92) dX7_several_92 rfl ?_
        refine r_l2i (pc := 94) dX7_several_94 ?_
        refine r_istore (pc := 95) (lv' := [_, _, _, _, _, _, _, _, _, _, _, _, _, _, _, _, _, _, _, _]) dX7_several_95 (by decide) rfl ?_
        refine r_aload_n (pc := 97) dX7_several_97 rfl ?_
        refine r_aload_n (pc := 98) dX7_several_98 rfl ?_
        have hk40 := kd_ext eh37 hk39 (nz rfl)
        refine r_geti' (pc := 99) (T := TX7) 7 4 rfl hk40 (Or.inl q502) dX7_several_99 kc7 g7004 ?_
        refine r_iload (pc := 102) dX7_several_102 rfl ?_
        refine r_iload (pc := 104) dX7_several_104 rfl ?_
        refine r_iadd (pc := 106) dX7_several_106 ?_
        refine r_iconst (pc := 107) (x := 3) dX7_several_107 rfl ?_
        refine r_iadd (pc := 108) dX7_several_108 ?_
        refine r_icmp_lt (pc := 109) (tgt := 116) dX7_several_109 rfl (fun c41 => ?_) (fun c41 => ?_)
        · have K := K.1 c41
          refine r_iconst (pc := 116) (x := 0) dX7_several_116 rfl ?_
          refine r_callV_V (pc := 117) (Y := mX7_need) (vs := [_]) (st := []) hk40 rfl kc7 q1272 q1274 qs14 dX7_several_117 rfl cd_X7_need rfl rfl fp_X7_several_X7_need K (fun h43 eh43 wh43 K => ?_) (fun x h1 _ _ e => Tw.out rfl e)
          refine r_aload_n (pc := 120) dX7_several_120 rfl ?_
          refine r_aload_n (pc := 121) dX7_several_121 rfl ?_
          refine r_iload (pc := 122) dX7_several_122 rfl ?_
          refine r_iload (pc := 124) dX7_several_124 rfl ?_
          have hk46 := kd_ext eh43 hk40 (nz rfl)
          refine r_callV_I (pc := 126) (Y := mX7_code) (vs := [_, _, _]) (st := []) hk46 rfl kc7 q1327 q1329 qs20 dX7_several_126 rfl cd_X7_code rfl rfl fp_X7_several_X7_code K (fun x44 h45 eh45 wh45 K => ?_) (fun x h1 _ _ e => Tw.out rfl e)
          refine r_istore (pc := 129) (lv' := [_, _, _, _, _, _, _, _, _, _, _, _, _, _, _, _, _, _, _, _]) dX7_several_129 (by decide) rfl ?_
          refine r_iconst (pc := 131) (x := 0) dX7_several_131 rfl ?_
          refine r_istore (pc := 132) (lv' := [_, _, _, _, _, _, _, _, _, _, _, _, _, _, _, _, _, _, _, _]) dX7_several_132 (by decide) rfl ?_
          refine r_mask (pc := 134) [true, true, true, false, false, false, true, false, false, true, false, false, true, true, true, false, false, false, false, false] rfl ?_
          exact K
        · have K := K.2 c41
          refine r_iconst (pc := 112) (x := 1) dX7_several_112 rfl ?_
          refine r_goto (pc := 113) (tgt := 117) dX7_several_113 rfl ?_
          refine r_callV_V (pc := 117) (Y := mX7_need) (vs := [_]) (st := []) hk40 rfl kc7 q1272 q1274 qs14 dX7_several_117 rfl cd_X7_need rfl rfl fp_X7_several_X7_need K (fun h48 eh48 wh48 K => ?_) (fun x h1 _ _ e => Tw.out rfl e)
          refine r_aload_n (pc := 120) dX7_several_120 rfl ?_
          refine r_aload_n (pc := 121) dX7_several_121 rfl ?_
          refine r_iload (pc := 122) dX7_several_122 rfl ?_
          refine r_iload (pc := 124) dX7_several_124 rfl ?_
          have hk51 := kd_ext eh48 hk40 (nz rfl)
          refine r_callV_I (pc := 126) (Y := mX7_code) (vs := [_, _, _]) (st := []) hk51 rfl kc7 q1327 q1329 qs20 dX7_several_126 rfl cd_X7_code rfl rfl fp_X7_several_X7_code K (fun x49 h50 eh50 wh50 K => ?_) (fun x h1 _ _ e => Tw.out rfl e)
          refine r_istore (pc := 129) (lv' := [_, _, _, _, _, _, _, _, _, _, _, _, _, _, _, _, _, _, _, _]) dX7_several_129 (by decide) rfl ?_
          refine r_iconst (pc := 131) (x := 0) dX7_several_131 rfl ?_
          refine r_istore (pc := 132) (lv' := [_, _, _, _, _, _, _, _, _, _, _, _, _, _, _, _, _, _, _, _]) dX7_several_132 (by decide) rfl ?_
          refine r_mask (pc := 134) [true, true, true, false, false, false, true, false, false, true, false, false, true, true, true, false, false, false, false, false] rfl ?_
          exact K
      · have K := K.2 c35
        refine r_iconst (pc := 84) (x := 1) dX7_several_84 rfl ?_
        refine r_goto (pc := 85) (tgt := 89) dX7_several_85 rfl ?_
        have hk54 := kd_ext eh13 hk14 (nz rfl)
        have hk55 := kd_ext eh16 hk54 (nz rfl)
        refine r_callV_V (pc := 89) (Y := mX7_need) (vs := [_]) (st := []) hk55 rfl kc7 q1272 q1274 qs14 dX7_several_89 rfl cd_X7_need rfl rfl fp_X7_several_X7_need K (fun h53 eh53 wh53 K => ?_) (fun x h1 _ _ e => Tw.out rfl e)
        refine r_lload (pc := 92) dX7_several_92 rfl ?_
        refine r_l2i (pc := 94) dX7_several_94 ?_
        refine r_istore (pc := 95) (lv' := [_, _, _, _, _, _, _, _, _, _, _, _, _, _, _, _, _, _, _, _]) dX7_several_95 (by decide) rfl ?_
        refine r_aload_n (pc := 97) dX7_several_97 rfl ?_
        refine r_aload_n (pc := 98) dX7_several_98 rfl ?_
        have hk56 := kd_ext eh53 hk55 (nz rfl)
        refine r_geti' (pc := 99) (T := TX7) 7 4 rfl hk56 (Or.inl q502) dX7_several_99 kc7 g7004 ?_
        refine r_iload (pc := 102) dX7_several_102 rfl ?_
        refine r_iload (pc := 104) dX7_several_104 rfl ?_
        refine r_iadd (pc := 106) dX7_several_106 ?_
        refine r_iconst (pc := 107) (x := 3) dX7_several_107 rfl ?_
        refine r_iadd (pc := 108) dX7_several_108 ?_
        refine r_icmp_lt (pc := 109) (tgt := 116) dX7_several_109 rfl (fun c57 => ?_) (fun c57 => ?_)
        · have K := K.1 c57
          refine r_iconst (pc := 116) (x := 0) dX7_several_116 rfl ?_
          refine r_callV_V (pc := 117) (Y := mX7_need) (vs := [_]) (st := []) hk56 rfl kc7 q1272 q1274 qs14 dX7_several_117 rfl cd_X7_need rfl rfl fp_X7_several_X7_need K (fun h59 eh59 wh59 K => ?_) (fun x h1 _ _ e => Tw.out rfl e)
          refine r_aload_n (pc := 120) dX7_several_120 rfl ?_
          refine r_aload_n (pc := 121) dX7_several_121 rfl ?_
          refine r_iload (pc := 122) dX7_several_122 rfl ?_
          refine r_iload (pc := 124) dX7_several_124 rfl ?_
          have hk62 := kd_ext eh59 hk56 (nz rfl)
          refine r_callV_I (pc := 126) (Y := mX7_code) (vs := [_, _, _]) (st := []) hk62 rfl kc7 q1327 q1329 qs20 dX7_several_126 rfl cd_X7_code rfl rfl fp_X7_several_X7_code K (fun x60 h61 eh61 wh61 K => ?_) (fun x h1 _ _ e => Tw.out rfl e)
          refine r_istore (pc := 129) (lv' := [_, _, _, _, _, _, _, _, _, _, _, _, _, _, _, _, _, _, _, _]) dX7_several_129 (by decide) rfl ?_
          refine r_iconst (pc := 131) (x := 0) dX7_several_131 rfl ?_
          refine r_istore (pc := 132) (lv' := [_, _, _, _, _, _, _, _, _, _, _, _, _, _, _, _, _, _, _, _]) dX7_several_132 (by decide) rfl ?_
          refine r_mask (pc := 134) [true, true, true, false, false, false, true, false, false, true, false, false, true, true, true, false, false, false, false, false] rfl ?_
          exact K
        · have K := K.2 c57
          refine r_iconst (pc := 112) (x := 1) dX7_several_112 rfl ?_
          refine r_goto (pc := 113) (tgt := 117) dX7_several_113 rfl ?_
          refine r_callV_V (pc := 117) (Y := mX7_need) (vs := [_]) (st := []) hk56 rfl kc7 q1272 q1274 qs14 dX7_several_117 rfl cd_X7_need rfl rfl fp_X7_several_X7_need K (fun h64 eh64 wh64 K => ?_) (fun x h1 _ _ e => Tw.out rfl e)
          refine r_aload_n (pc := 120) dX7_several_120 rfl ?_
          refine r_aload_n (pc := 121) dX7_several_121 rfl ?_
          refine r_iload (pc := 122) dX7_several_122 rfl ?_
          refine r_iload (pc := 124) dX7_several_124 rfl ?_
          have hk67 := kd_ext eh64 hk56 (nz rfl)
          refine r_callV_I (pc := 126) (Y := mX7_code) (vs := [_, _, _]) (st := []) hk67 rfl kc7 q1327 q1329 qs20 dX7_several_126 rfl cd_X7_code rfl rfl fp_X7_several_X7_code K (fun x65 h66 eh66 wh66 K => ?_) (fun x h1 _ _ e => Tw.out rfl e)
          refine r_istore (pc := 129) (lv' := [_, _, _, _, _, _, _, _, _, _, _, _, _, _, _, _, _, _, _, _]) dX7_several_129 (by decide) rfl ?_
          refine r_iconst (pc := 131) (x := 0) dX7_several_131 rfl ?_
          refine r_istore (pc := 132) (lv' := [_, _, _, _, _, _, _, _, _, _, _, _, _, _, _, _, _, _, _, _]) dX7_several_132 (by decide) rfl ?_
          refine r_mask (pc := 134) [true, true, true, false, false, false, true, false, false, true, false, false, true, true, true, false, false, false, false, false] rfl ?_
          exact K
  · have K := K.2 c7
    refine r_lload (pc := 19) dX7_several_19 rfl ?_
    refine r_ldc2 (pc := 21) dX7_several_21 q1502 ?_
    refine r_lcmp_gt (pc := 24) (tgt := 45) dX7_several_24 dX7_several_25 rfl (fun c68 => ?_) (fun c68 => ?_)
    · have K := K.1 c68
      refine r_iconst (pc := 45) (x := 0) dX7_several_45 rfl ?_
      have hk71 := kd_ext eh2 hk3 (nz rfl)
      have hk72 := kd_ext eh5 hk71 (nz rfl)
      refine r_callV_V (pc := 46) (Y := mX7_need) (vs := [_]) (st := []) hk72 rfl kc7 q1272 q1274 qs14 dX7_several_46 rfl cd_X7_need rfl rfl fp_X7_several_X7_need K (fun h70 eh70 wh70 K => ?_) (fun x h1 _ _ e => Tw.out rfl e)
      refine r_lload (pc := 49) dX7_several_49 rfl ?_
      refine r_l2i (pc := 51) dX7_several_51 ?_
      refine r_istore (pc := 52) (lv' := [_, _, _, _, _, _, _, _, _, _, _, _, _, _, _, _, _, _, _, _]) dX7_several_52 (by decide) rfl ?_
      refine r_aload_n (pc := 54) dX7_several_54 rfl ?_
      refine r_iload (pc := 55) dX7_several_55 rfl ?_
      refine r_iconst (pc := 57) (x := 1) dX7_several_57 rfl ?_
      refine r_iadd (pc := 58) dX7_several_58 ?_
      have hk75 := kd_ext eh70 hk72 (nz rfl)
      refine r_callV_R (pc := 59) (Y := mX7_top) (vs := [_]) (st := []) hk75 rfl kc7 q1311 q1313 qs17 dX7_several_59 rfl cd_X7_top rfl rfl fp_X7_several_X7_top K (fun x73 h74 eh74 wh74 K => ?_) (fun x h1 _ _ e => Tw.out rfl e)
      refine r_iconst (pc := 62) (x := 4) dX7_several_62 rfl ?_
      obtain ⟨hk78, K⟩ := K
      refine r_callV_J (pc := 63) (Y := mX22_number) (vs := [_]) (st := []) hk78 rfl kc22 q1496 q1497 q1498 dX7_several_63 rfl cd_X22_number rfl rfl fp_X7_several_X22_number K (fun x76 h77 eh77 wh77 K => ?_) (fun x h1 _ _ e => Tw.out rfl e)
      refine r_lstore (pc := 66) (lv' := [_, _, _, _, _, _, _, _, _, _, _, _, _, _, _, _, _, _, _, _]) dX7_several_66 (by decide) rfl ?_
      refine r_aload_n (pc := 68) dX7_several_68 rfl ?_
      refine r_lload (pc := 69) dX7_several_69 rfl ?_
      refine r_lconst (pc := 71) (a := 0) dX7_several_71 rfl ?_
      refine r_lcmp_lt (pc := 72) (tgt := 88) dX7_several_72 dX7_several_73 rfl (fun c79 => ?_) (fun c79 => ?_)
      · have K := K.1 c79
        refine r_iconst (pc := 88) (x := 0) dX7_several_88 rfl ?_
        have hk82 := kd_ext eh74 hk75 (nz rfl)
        have hk83 := kd_ext eh77 hk82 (nz rfl)
        refine r_callV_V (pc := 89) (Y := mX7_need) (vs := [_]) (st := []) hk83 rfl kc7 q1272 q1274 qs14 dX7_several_89 rfl cd_X7_need rfl rfl fp_X7_several_X7_need K (fun h81 eh81 wh81 K => ?_) (fun x h1 _ _ e => Tw.out rfl e)
        refine r_lload (pc := 92) dX7_several_92 rfl ?_
        refine r_l2i (pc := 94) dX7_several_94 ?_
        refine r_istore (pc := 95) (lv' := [_, _, _, _, _, _, _, _, _, _, _, _, _, _, _, _, _, _, _, _]) dX7_several_95 (by decide) rfl ?_
        refine r_aload_n (pc := 97) dX7_several_97 rfl ?_
        refine r_aload_n (pc := 98) dX7_several_98 rfl ?_
        have hk84 := kd_ext eh81 hk83 (nz rfl)
        refine r_geti' (pc := 99) (T := TX7) 7 4 rfl hk84 (Or.inl q502) dX7_several_99 kc7 g7004 ?_
        refine r_iload (pc := 102) dX7_several_102 rfl ?_
        refine r_iload (pc := 104) dX7_several_104 rfl ?_
        refine r_iadd (pc := 106) dX7_several_106 ?_
        refine r_iconst (pc := 107) (x := 3) dX7_several_107 rfl ?_
        refine r_iadd (pc := 108) dX7_several_108 ?_
        refine r_icmp_lt (pc := 109) (tgt := 116) dX7_several_109 rfl (fun c85 => ?_) (fun c85 => ?_)
        · have K := K.1 c85
          refine r_iconst (pc := 116) (x := 0) dX7_several_116 rfl ?_
          refine r_callV_V (pc := 117) (Y := mX7_need) (vs := [_]) (st := []) hk84 rfl kc7 q1272 q1274 qs14 dX7_several_117 rfl cd_X7_need rfl rfl fp_X7_several_X7_need K (fun h87 eh87 wh87 K => ?_) (fun x h1 _ _ e => Tw.out rfl e)
          refine r_aload_n (pc := 120) dX7_several_120 rfl ?_
          refine r_aload_n (pc := 121) dX7_several_121 rfl ?_
          refine r_iload (pc := 122) dX7_several_122 rfl ?_
          refine r_iload (pc := 124) dX7_several_124 rfl ?_
          have hk90 := kd_ext eh87 hk84 (nz rfl)
          refine r_callV_I (pc := 126) (Y := mX7_code) (vs := [_, _, _]) (st := []) hk90 rfl kc7 q1327 q1329 qs20 dX7_several_126 rfl cd_X7_code rfl rfl fp_X7_several_X7_code K (fun x88 h89 eh89 wh89 K => ?_) (fun x h1 _ _ e => Tw.out rfl e)
          refine r_istore (pc := 129) (lv' := [_, _, _, _, _, _, _, _, _, _, _, _, _, _, _, _, _, _, _, _]) dX7_several_129 (by decide) rfl ?_
          refine r_iconst (pc := 131) (x := 0) dX7_several_131 rfl ?_
          refine r_istore (pc := 132) (lv' := [_, _, _, _, _, _, _, _, _, _, _, _, _, _, _, _, _, _, _, _]) dX7_several_132 (by decide) rfl ?_
          refine r_mask (pc := 134) [true, true, true, false, false, false, true, false, false, true, false, false, true, true, true, false, false, false, false, false] rfl ?_
          exact K
        · have K := K.2 c85
          refine r_iconst (pc := 112) (x := 1) dX7_several_112 rfl ?_
          refine r_goto (pc := 113) (tgt := 117) dX7_several_113 rfl ?_
          refine r_callV_V (pc := 117) (Y := mX7_need) (vs := [_]) (st := []) hk84 rfl kc7 q1272 q1274 qs14 dX7_several_117 rfl cd_X7_need rfl rfl fp_X7_several_X7_need K (fun h92 eh92 wh92 K => ?_) (fun x h1 _ _ e => Tw.out rfl e)
          refine r_aload_n (pc := 120) dX7_several_120 rfl ?_
          refine r_aload_n (pc := 121) dX7_several_121 rfl ?_
          refine r_iload (pc := 122) dX7_several_122 rfl ?_
          refine r_iload (pc := 124) dX7_several_124 rfl ?_
          have hk95 := kd_ext eh92 hk84 (nz rfl)
          refine r_callV_I (pc := 126) (Y := mX7_code) (vs := [_, _, _]) (st := []) hk95 rfl kc7 q1327 q1329 qs20 dX7_several_126 rfl cd_X7_code rfl rfl fp_X7_several_X7_code K (fun x93 h94 eh94 wh94 K => ?_) (fun x h1 _ _ e => Tw.out rfl e)
          refine r_istore (pc := 129) (lv' := [_, _, _, _, _, _, _, _, _, _, _, _, _, _, _, _, _, _, _, _]) dX7_several_129 (by decide) rfl ?_
          refine r_iconst (pc := 131) (x := 0) dX7_several_131 rfl ?_
          refine r_istore (pc := 132) (lv' := [_, _, _, _, _, _, _, _, _, _, _, _, _, _, _, _, _, _, _, _]) dX7_several_132 (by decide) rfl ?_
          refine r_mask (pc := 134) [true, true, true, false, false, false, true, false, false, true, false, false, true, true, true, false, false, false, false, false] rfl ?_
          exact K
      · have K := K.2 c79
        refine r_lload (pc := 76) dX7_several_76 rfl ?_
        refine r_lload (pc := 78) dX7_several_78 rfl ?_
        refine r_lcmp_gt (pc := 80) (tgt := 88) dX7_several_80 dX7_several_81 rfl (fun c96 => ?_) (fun c96 => ?_)
        · have K := K.1 c96
          refine r_iconst (pc := 88) (x := 0) dX7_several_88 rfl ?_
          have hk99 := kd_ext eh74 hk75 (nz rfl)
          have hk100 := kd_ext eh77 hk99 (nz rfl)
          refine r_callV_V (pc := 89) (Y := mX7_need) (vs := [_]) (st := []) hk100 rfl kc7 q1272 q1274 qs14 dX7_several_89 rfl cd_X7_need rfl rfl fp_X7_several_X7_need K (fun h98 eh98 wh98 K => ?_) (fun x h1 _ _ e => Tw.out rfl e)
          refine r_lload (pc := 92) dX7_several_92 rfl ?_
          refine r_l2i (pc := 94) dX7_several_94 ?_
          refine r_istore (pc := 95) (lv' := [_, _, _, _, _, _, _, _, _, _, _, _, _, _, _, _, _, _, _, _]) dX7_several_95 (by decide) rfl ?_
          refine r_aload_n (pc := 97) dX7_several_97 rfl ?_
          refine r_aload_n (pc := 98) dX7_several_98 rfl ?_
          have hk101 := kd_ext eh98 hk100 (nz rfl)
          refine r_geti' (pc := 99) (T := TX7) 7 4 rfl hk101 (Or.inl q502) dX7_several_99 kc7 g7004 ?_
          refine r_iload (pc := 102) dX7_several_102 rfl ?_
          refine r_iload (pc := 104) dX7_several_104 rfl ?_
          refine r_iadd (pc := 106) dX7_several_106 ?_
          refine r_iconst (pc := 107) (x := 3) dX7_several_107 rfl ?_
          refine r_iadd (pc := 108) dX7_several_108 ?_
          refine r_icmp_lt (pc := 109) (tgt := 116) dX7_several_109 rfl (fun c102 => ?_) (fun c102 => ?_)
          · have K := K.1 c102
            refine r_iconst (pc := 116) (x := 0) dX7_several_116 rfl ?_
            refine r_callV_V (pc := 117) (Y := mX7_need) (vs := [_]) (st := []) hk101 rfl kc7 q1272 q1274 qs14 dX7_several_117 rfl cd_X7_need rfl rfl fp_X7_several_X7_need K (fun h104 eh104 wh104 K => ?_) (fun x h1 _ _ e => Tw.out rfl e)
            refine r_aload_n (pc := 120) dX7_several_120 rfl ?_
            refine r_aload_n (pc := 121) dX7_several_121 rfl ?_
            refine r_iload (pc := 122) dX7_several_122 rfl ?_
            refine r_iload (pc := 124) dX7_several_124 rfl ?_
            have hk107 := kd_ext eh104 hk101 (nz rfl)
            refine r_callV_I (pc := 126) (Y := mX7_code) (vs := [_, _, _]) (st := []) hk107 rfl kc7 q1327 q1329 qs20 dX7_several_126 rfl cd_X7_code rfl rfl fp_X7_several_X7_code K (fun x105 h106 eh106 wh106 K => ?_) (fun x h1 _ _ e => Tw.out rfl e)
            refine r_istore (pc := 129) (lv' := [_, _, _, _, _, _, _, _, _, _, _, _, _, _, _, _, _, _, _, _]) dX7_several_129 (by decide) rfl ?_
            refine r_iconst (pc := 131) (x := 0) dX7_several_131 rfl ?_
            refine r_istore (pc := 132) (lv' := [_, _, _, _, _, _, _, _, _, _, _, _, _, _, _, _, _, _, _, _]) dX7_several_132 (by decide) rfl ?_
            refine r_mask (pc := 134) [true, true, true, false, false, false, true, false, false, true, false, false, true, true, true, false, false, false, false, false] rfl ?_
            exact K
          · have K := K.2 c102
            refine r_iconst (pc := 112) (x := 1) dX7_several_112 rfl ?_
            refine r_goto (pc := 113) (tgt := 117) dX7_several_113 rfl ?_
            refine r_callV_V (pc := 117) (Y := mX7_need) (vs := [_]) (st := []) hk101 rfl kc7 q1272 q1274 qs14 dX7_several_117 rfl cd_X7_need rfl rfl fp_X7_several_X7_need K (fun h109 eh109 wh109 K => ?_) (fun x h1 _ _ e => Tw.out rfl e)
            refine r_aload_n (pc := 120) dX7_several_120 rfl ?_
            refine r_aload_n (pc := 121) dX7_several_121 rfl ?_
            refine r_iload (pc := 122) dX7_several_122 rfl ?_
            refine r_iload (pc := 124) dX7_several_124 rfl ?_
            have hk112 := kd_ext eh109 hk101 (nz rfl)
            refine r_callV_I (pc := 126) (Y := mX7_code) (vs := [_, _, _]) (st := []) hk112 rfl kc7 q1327 q1329 qs20 dX7_several_126 rfl cd_X7_code rfl rfl fp_X7_several_X7_code K (fun x110 h111 eh111 wh111 K => ?_) (fun x h1 _ _ e => Tw.out rfl e)
            refine r_istore (pc := 129) (lv' := [_, _, _, _, _, _, _, _, _, _, _, _, _, _, _, _, _, _, _, _]) dX7_several_129 (by decide) rfl ?_
            refine r_iconst (pc := 131) (x := 0) dX7_several_131 rfl ?_
            refine r_istore (pc := 132) (lv' := [_, _, _, _, _, _, _, _, _, _, _, _, _, _, _, _, _, _, _, _]) dX7_several_132 (by decide) rfl ?_
            refine r_mask (pc := 134) [true, true, true, false, false, false, true, false, false, true, false, false, true, true, true, false, false, false, false, false] rfl ?_
            exact K
        · have K := K.2 c96
          refine r_iconst (pc := 84) (x := 1) dX7_several_84 rfl ?_
          refine r_goto (pc := 85) (tgt := 89) dX7_several_85 rfl ?_
          have hk115 := kd_ext eh74 hk75 (nz rfl)
          have hk116 := kd_ext eh77 hk115 (nz rfl)
          refine r_callV_V (pc := 89) (Y := mX7_need) (vs := [_]) (st := []) hk116 rfl kc7 q1272 q1274 qs14 dX7_several_89 rfl cd_X7_need rfl rfl fp_X7_several_X7_need K (fun h114 eh114 wh114 K => ?_) (fun x h1 _ _ e => Tw.out rfl e)
          refine r_lload (pc := 92) dX7_several_92 rfl ?_
          refine r_l2i (pc := 94) dX7_several_94 ?_
          refine r_istore (pc := 95) (lv' := [_, _, _, _, _, _, _, _, _, _, _, _, _, _, _, _, _, _, _, _]) dX7_several_95 (by decide) rfl ?_
          refine r_aload_n (pc := 97) dX7_several_97 rfl ?_
          refine r_aload_n (pc := 98) dX7_several_98 rfl ?_
          have hk117 := kd_ext eh114 hk116 (nz rfl)
          refine r_geti' (pc := 99) (T := TX7) 7 4 rfl hk117 (Or.inl q502) dX7_several_99 kc7 g7004 ?_
          refine r_iload (pc := 102) dX7_several_102 rfl ?_
          refine r_iload (pc := 104) dX7_several_104 rfl ?_
          refine r_iadd (pc := 106) dX7_several_106 ?_
          refine r_iconst (pc := 107) (x := 3) dX7_several_107 rfl ?_
          refine r_iadd (pc := 108) dX7_several_108 ?_
          refine r_icmp_lt (pc := 109) (tgt := 116) dX7_several_109 rfl (fun c118 => ?_) (fun c118 => ?_)
          · have K := K.1 c118
            refine r_iconst (pc := 116) (x := 0) dX7_several_116 rfl ?_
            refine r_callV_V (pc := 117) (Y := mX7_need) (vs := [_]) (st := []) hk117 rfl kc7 q1272 q1274 qs14 dX7_several_117 rfl cd_X7_need rfl rfl fp_X7_several_X7_need K (fun h120 eh120 wh120 K => ?_) (fun x h1 _ _ e => Tw.out rfl e)
            refine r_aload_n (pc := 120) dX7_several_120 rfl ?_
            refine r_aload_n (pc := 121) dX7_several_121 rfl ?_
            refine r_iload (pc := 122) dX7_several_122 rfl ?_
            refine r_iload (pc := 124) dX7_several_124 rfl ?_
            have hk123 := kd_ext eh120 hk117 (nz rfl)
            refine r_callV_I (pc := 126) (Y := mX7_code) (vs := [_, _, _]) (st := []) hk123 rfl kc7 q1327 q1329 qs20 dX7_several_126 rfl cd_X7_code rfl rfl fp_X7_several_X7_code K (fun x121 h122 eh122 wh122 K => ?_) (fun x h1 _ _ e => Tw.out rfl e)
            refine r_istore (pc := 129) (lv' := [_, _, _, _, _, _, _, _, _, _, _, _, _, _, _, _, _, _, _, _]) dX7_several_129 (by decide) rfl ?_
            refine r_iconst (pc := 131) (x := 0) dX7_several_131 rfl ?_
            refine r_istore (pc := 132) (lv' := [_, _, _, _, _, _, _, _, _, _, _, _, _, _, _, _, _, _, _, _]) dX7_several_132 (by decide) rfl ?_
            refine r_mask (pc := 134) [true, true, true, false, false, false, true, false, false, true, false, false, true, true, true, false, false, false, false, false] rfl ?_
            exact K
          · have K := K.2 c118
            refine r_iconst (pc := 112) (x := 1) dX7_several_112 rfl ?_
            refine r_goto (pc := 113) (tgt := 117) dX7_several_113 rfl ?_
            refine r_callV_V (pc := 117) (Y := mX7_need) (vs := [_]) (st := []) hk117 rfl kc7 q1272 q1274 qs14 dX7_several_117 rfl cd_X7_need rfl rfl fp_X7_several_X7_need K (fun h125 eh125 wh125 K => ?_) (fun x h1 _ _ e => Tw.out rfl e)
            refine r_aload_n (pc := 120) dX7_several_120 rfl ?_
            refine r_aload_n (pc := 121) dX7_several_121 rfl ?_
            refine r_iload (pc := 122) dX7_several_122 rfl ?_
            refine r_iload (pc := 124) dX7_several_124 rfl ?_
            have hk128 := kd_ext eh125 hk117 (nz rfl)
            refine r_callV_I (pc := 126) (Y := mX7_code) (vs := [_, _, _]) (st := []) hk128 rfl kc7 q1327 q1329 qs20 dX7_several_126 rfl cd_X7_code rfl rfl fp_X7_several_X7_code K (fun x126 h127 eh127 wh127 K => ?_) (fun x h1 _ _ e => Tw.out rfl e)
            refine r_istore (pc := 129) (lv' := [_, _, _, _, _, _, _, _, _, _, _, _, _, _, _, _, _, _, _, _]) dX7_several_129 (by decide) rfl ?_
            refine r_iconst (pc := 131) (x := 0) dX7_several_131 rfl ?_
            refine r_istore (pc := 132) (lv' := [_, _, _, _, _, _, _, _, _, _, _, _, _, _, _, _, _, _, _, _]) dX7_several_132 (by decide) rfl ?_
            refine r_mask (pc := 134) [true, true, true, false, false, false, true, false, false, true, false, false, true, true, true, false, false, false, false, false] rfl ?_
            exact K
    · have K := K.2 c68
      refine r_iload (pc := 28) dX7_several_28 rfl ?_
      refine r_i2l (pc := 30) dX7_several_30 ?_
      refine r_lload (pc := 31) dX7_several_31 rfl ?_
      refine r_ladd (pc := 33) dX7_several_33 ?_
      refine r_ldc2 (pc := 34) dX7_several_34 q1503 ?_
      refine r_lcmp_gt (pc := 37) (tgt := 45) dX7_several_37 dX7_several_38 rfl (fun c129 => ?_) (fun c129 => ?_)
      · have K := K.1 c129
        refine r_iconst (pc := 45) (x := 0) dX7_several_45 rfl ?_
        have hk132 := kd_ext eh2 hk3 (nz rfl)
        have hk133 := kd_ext eh5 hk132 (nz rfl)
        refine r_callV_V (pc := 46) (Y := mX7_need) (vs := [_]) (st := []) hk133 rfl kc7 q1272 q1274 qs14 dX7_several_46 rfl cd_X7_need rfl rfl fp_X7_several_X7_need K (fun h131 eh131 wh131 K => ?_) (fun x h1 _ _ e => Tw.out rfl e)
        refine r_lload (pc := 49) dX7_several_49 rfl ?_
        refine r_l2i (pc := 51) dX7_several_51 ?_
        refine r_istore (pc := 52) (lv' := [_, _, _, _, _, _, _, _, _, _, _, _, _, _, _, _, _, _, _, _]) dX7_several_52 (by decide) rfl ?_
        refine r_aload_n (pc := 54) dX7_several_54 rfl ?_
        refine r_iload (pc := 55) dX7_several_55 rfl ?_
        refine r_iconst (pc := 57) (x := 1) dX7_several_57 rfl ?_
        refine r_iadd (pc := 58) dX7_several_58 ?_
        have hk136 := kd_ext eh131 hk133 (nz rfl)
        refine r_callV_R (pc := 59) (Y := mX7_top) (vs := [_]) (st := []) hk136 rfl kc7 q1311 q1313 qs17 dX7_several_59 rfl cd_X7_top rfl rfl fp_X7_several_X7_top K (fun x134 h135 eh135 wh135 K => ?_) (fun x h1 _ _ e => Tw.out rfl e)
        refine r_iconst (pc := 62) (x := 4) dX7_several_62 rfl ?_
        obtain ⟨hk139, K⟩ := K
        refine r_callV_J (pc := 63) (Y := mX22_number) (vs := [_]) (st := []) hk139 rfl kc22 q1496 q1497 q1498 dX7_several_63 rfl cd_X22_number rfl rfl fp_X7_several_X22_number K (fun x137 h138 eh138 wh138 K => ?_) (fun x h1 _ _ e => Tw.out rfl e)
        refine r_lstore (pc := 66) (lv' := [_, _, _, _, _, _, _, _, _, _, _, _, _, _, _, _, _, _, _, _]) dX7_several_66 (by decide) rfl ?_
        refine r_aload_n (pc := 68) dX7_several_68 rfl ?_
        refine r_lload (pc := 69) dX7_several_69 rfl ?_
        refine r_lconst (pc := 71) (a := 0) dX7_several_71 rfl ?_
        refine r_lcmp_lt (pc := 72) (tgt := 88) dX7_several_72 dX7_several_73 rfl (fun c140 => ?_) (fun c140 => ?_)
        · have K := K.1 c140
          refine r_iconst (pc := 88) (x := 0) dX7_several_88 rfl ?_
          have hk143 := kd_ext eh135 hk136 (nz rfl)
          have hk144 := kd_ext eh138 hk143 (nz rfl)
          refine r_callV_V (pc := 89) (Y := mX7_need) (vs := [_]) (st := []) hk144 rfl kc7 q1272 q1274 qs14 dX7_several_89 rfl cd_X7_need rfl rfl fp_X7_several_X7_need K (fun h142 eh142 wh142 K => ?_) (fun x h1 _ _ e => Tw.out rfl e)
          refine r_lload (pc := 92) dX7_several_92 rfl ?_
          refine r_l2i (pc := 94) dX7_several_94 ?_
          refine r_istore (pc := 95) (lv' := [_, _, _, _, _, _, _, _, _, _, _, _, _, _, _, _, _, _, _, _]) dX7_several_95 (by decide) rfl ?_
          refine r_aload_n (pc := 97) dX7_several_97 rfl ?_
          refine r_aload_n (pc := 98) dX7_several_98 rfl ?_
          have hk145 := kd_ext eh142 hk144 (nz rfl)
          refine r_geti' (pc := 99) (T := TX7) 7 4 rfl hk145 (Or.inl q502) dX7_several_99 kc7 g7004 ?_
          refine r_iload (pc := 102) dX7_several_102 rfl ?_
          refine r_iload (pc := 104) dX7_several_104 rfl ?_
          refine r_iadd (pc := 106) dX7_several_106 ?_
          refine r_iconst (pc := 107) (x := 3) dX7_several_107 rfl ?_
          refine r_iadd (pc := 108) dX7_several_108 ?_
          refine r_icmp_lt (pc := 109) (tgt := 116) dX7_several_109 rfl (fun c146 => ?_) (fun c146 => ?_)
          · have K := K.1 c146
            refine r_iconst (pc := 116) (x := 0) dX7_several_116 rfl ?_
            refine r_callV_V (pc := 117) (Y := mX7_need) (vs := [_]) (st := []) hk145 rfl kc7 q1272 q1274 qs14 dX7_several_117 rfl cd_X7_need rfl rfl fp_X7_several_X7_need K (fun h148 eh148 wh148 K => ?_) (fun x h1 _ _ e => Tw.out rfl e)
            refine r_aload_n (pc := 120) dX7_several_120 rfl ?_
            refine r_aload_n (pc := 121) dX7_several_121 rfl ?_
            refine r_iload (pc := 122) dX7_several_122 rfl ?_
            refine r_iload (pc := 124) dX7_several_124 rfl ?_
            have hk151 := kd_ext eh148 hk145 (nz rfl)
            refine r_callV_I (pc := 126) (Y := mX7_code) (vs := [_, _, _]) (st := []) hk151 rfl kc7 q1327 q1329 qs20 dX7_several_126 rfl cd_X7_code rfl rfl fp_X7_several_X7_code K (fun x149 h150 eh150 wh150 K => ?_) (fun x h1 _ _ e => Tw.out rfl e)
            refine r_istore (pc := 129) (lv' := [_, _, _, _, _, _, _, _, _, _, _, _, _, _, _, _, _, _, _, _]) dX7_several_129 (by decide) rfl ?_
            refine r_iconst (pc := 131) (x := 0) dX7_several_131 rfl ?_
            refine r_istore (pc := 132) (lv' := [_, _, _, _, _, _, _, _, _, _, _, _, _, _, _, _, _, _, _, _]) dX7_several_132 (by decide) rfl ?_
            refine r_mask (pc := 134) [true, true, true, false, false, false, true, false, false, true, false, false, true, true, true, false, false, false, false, false] rfl ?_
            exact K
          · have K := K.2 c146
            refine r_iconst (pc := 112) (x := 1) dX7_several_112 rfl ?_
            refine r_goto (pc := 113) (tgt := 117) dX7_several_113 rfl ?_
            refine r_callV_V (pc := 117) (Y := mX7_need) (vs := [_]) (st := []) hk145 rfl kc7 q1272 q1274 qs14 dX7_several_117 rfl cd_X7_need rfl rfl fp_X7_several_X7_need K (fun h153 eh153 wh153 K => ?_) (fun x h1 _ _ e => Tw.out rfl e)
            refine r_aload_n (pc := 120) dX7_several_120 rfl ?_
            refine r_aload_n (pc := 121) dX7_several_121 rfl ?_
            refine r_iload (pc := 122) dX7_several_122 rfl ?_
            refine r_iload (pc := 124) dX7_several_124 rfl ?_
            have hk156 := kd_ext eh153 hk145 (nz rfl)
            refine r_callV_I (pc := 126) (Y := mX7_code) (vs := [_, _, _]) (st := []) hk156 rfl kc7 q1327 q1329 qs20 dX7_several_126 rfl cd_X7_code rfl rfl fp_X7_several_X7_code K (fun x154 h155 eh155 wh155 K => ?_) (fun x h1 _ _ e => Tw.out rfl e)
            refine r_istore (pc := 129) (lv' := [_, _, _, _, _, _, _, _, _, _, _, _, _, _, _, _, _, _, _, _]) dX7_several_129 (by decide) rfl ?_
            refine r_iconst (pc := 131) (x := 0) dX7_several_131 rfl ?_
            refine r_istore (pc := 132) (lv' := [_, _, _, _, _, _, _, _, _, _, _, _, _, _, _, _, _, _, _, _]) dX7_several_132 (by decide) rfl ?_
            refine r_mask (pc := 134) [true, true, true, false, false, false, true, false, false, true, false, false, true, true, true, false, false, false, false, false] rfl ?_
            exact K
        · have K := K.2 c140
          refine r_lload (pc := 76) dX7_several_76 rfl ?_
          refine r_lload (pc := 78) dX7_several_78 rfl ?_
          refine r_lcmp_gt (pc := 80) (tgt := 88) dX7_several_80 dX7_several_81 rfl (fun c157 => ?_) (fun c157 => ?_)
          · have K := K.1 c157
            refine r_iconst (pc := 88) (x := 0) dX7_several_88 rfl ?_
            have hk160 := kd_ext eh135 hk136 (nz rfl)
            have hk161 := kd_ext eh138 hk160 (nz rfl)
            refine r_callV_V (pc := 89) (Y := mX7_need) (vs := [_]) (st := []) hk161 rfl kc7 q1272 q1274 qs14 dX7_several_89 rfl cd_X7_need rfl rfl fp_X7_several_X7_need K (fun h159 eh159 wh159 K => ?_) (fun x h1 _ _ e => Tw.out rfl e)
            refine r_lload (pc := 92) dX7_several_92 rfl ?_
            refine r_l2i (pc := 94) dX7_several_94 ?_
            refine r_istore (pc := 95) (lv' := [_, _, _, _, _, _, _, _, _, _, _, _, _, _, _, _, _, _, _, _]) dX7_several_95 (by decide) rfl ?_
            refine r_aload_n (pc := 97) dX7_several_97 rfl ?_
            refine r_aload_n (pc := 98) dX7_several_98 rfl ?_
            have hk162 := kd_ext eh159 hk161 (nz rfl)
            refine r_geti' (pc := 99) (T := TX7) 7 4 rfl hk162 (Or.inl q502) dX7_several_99 kc7 g7004 ?_
            refine r_iload (pc := 102) dX7_several_102 rfl ?_
            refine r_iload (pc := 104) dX7_several_104 rfl ?_
            refine r_iadd (pc := 106) dX7_several_106 ?_
            refine r_iconst (pc := 107) (x := 3) dX7_several_107 rfl ?_
            refine r_iadd (pc := 108) dX7_several_108 ?_
            refine r_icmp_lt (pc := 109) (tgt := 116) dX7_several_109 rfl (fun c163 => ?_) (fun c163 => ?_)
            · have K := K.1 c163
              refine r_iconst (pc := 116) (x := 0) dX7_several_116 rfl ?_
              refine r_callV_V (pc := 117) (Y := mX7_need) (vs := [_]) (st := []) hk162 rfl kc7 q1272 q1274 qs14 dX7_several_117 rfl cd_X7_need rfl rfl fp_X7_several_X7_need K (fun h165 eh165 wh165 K => ?_) (fun x h1 _ _ e => Tw.out rfl e)
              refine r_aload_n (pc := 120) dX7_several_120 rfl ?_
              refine r_aload_n (pc := 121) dX7_several_121 rfl ?_
              refine r_iload (pc := 122) dX7_several_122 rfl ?_
              refine r_iload (pc := 124) dX7_several_124 rfl ?_
              have hk168 := kd_ext eh165 hk162 (nz rfl)
              refine r_callV_I (pc := 126) (Y := mX7_code) (vs := [_, _, _]) (st := []) hk168 rfl kc7 q1327 q1329 qs20 dX7_several_126 rfl cd_X7_code rfl rfl fp_X7_several_X7_code K (fun x166 h167 eh167 wh167 K => ?_) (fun x h1 _ _ e => Tw.out rfl e)
              refine r_istore (pc := 129) (lv' := [_, _, _, _, _, _, _, _, _, _, _, _, _, _, _, _, _, _, _, _]) dX7_several_129 (by decide) rfl ?_
              refine r_iconst (pc := 131) (x := 0) dX7_several_131 rfl ?_
              refine r_istore (pc := 132) (lv' := [_, _, _, _, _, _, _, _, _, _, _, _, _, _, _, _, _, _, _, _]) dX7_several_132 (by decide) rfl ?_
              refine r_mask (pc := 134) [true, true, true, false, false, false, true, false, false, true, false, false, true, true, true, false, false, false, false, false] rfl ?_
              exact K
            · have K := K.2 c163
              refine r_iconst (pc := 112) (x := 1) dX7_several_112 rfl ?_
              refine r_goto (pc := 113) (tgt := 117) dX7_several_113 rfl ?_
              refine r_callV_V (pc := 117) (Y := mX7_need) (vs := [_]) (st := []) hk162 rfl kc7 q1272 q1274 qs14 dX7_several_117 rfl cd_X7_need rfl rfl fp_X7_several_X7_need K (fun h170 eh170 wh170 K => ?_) (fun x h1 _ _ e => Tw.out rfl e)
              refine r_aload_n (pc := 120) dX7_several_120 rfl ?_
              refine r_aload_n (pc := 121) dX7_several_121 rfl ?_
              refine r_iload (pc := 122) dX7_several_122 rfl ?_
              refine r_iload (pc := 124) dX7_several_124 rfl ?_
              have hk173 := kd_ext eh170 hk162 (nz rfl)
              refine r_callV_I (pc := 126) (Y := mX7_code) (vs := [_, _, _]) (st := []) hk173 rfl kc7 q1327 q1329 qs20 dX7_several_126 rfl cd_X7_code rfl rfl fp_X7_several_X7_code K (fun x171 h172 eh172 wh172 K => ?_) (fun x h1 _ _ e => Tw.out rfl e)
              refine r_istore (pc := 129) (lv' := [_, _, _, _, _, _, _, _, _, _, _, _, _, _, _, _, _, _, _, _]) dX7_several_129 (by decide) rfl ?_
              refine r_iconst (pc := 131) (x := 0) dX7_several_131 rfl ?_
              refine r_istore (pc := 132) (lv' := [_, _, _, _, _, _, _, _, _, _, _, _, _, _, _, _, _, _, _, _]) dX7_several_132 (by decide) rfl ?_
              refine r_mask (pc := 134) [true, true, true, false, false, false, true, false, false, true, false, false, true, true, true, false, false, false, false, false] rfl ?_
              exact K
          · have K := K.2 c157
            refine r_iconst (pc := 84) (x := 1) dX7_several_84 rfl ?_
            refine r_goto (pc := 85) (tgt := 89) dX7_several_85 rfl ?_
            have hk176 := kd_ext eh135 hk136 (nz rfl)
            have hk177 := kd_ext eh138 hk176 (nz rfl)
            refine r_callV_V (pc := 89) (Y := mX7_need) (vs := [_]) (st := []) hk177 rfl kc7 q1272 q1274 qs14 dX7_several_89 rfl cd_X7_need rfl rfl fp_X7_several_X7_need K (fun h175 eh175 wh175 K => ?_) (fun x h1 _ _ e => Tw.out rfl e)
            refine r_lload (pc := 92) dX7_several_92 rfl ?_
            refine r_l2i (pc := 94) dX7_several_94 ?_
            refine r_istore (pc := 95) (lv' := [_, _, _, _, _, _, _, _, _, _, _, _, _, _, _, _, _, _, _, _]) dX7_several_95 (by decide) rfl ?_
            refine r_aload_n (pc := 97) dX7_several_97 rfl ?_
            refine r_aload_n (pc := 98) dX7_several_98 rfl ?_
            have hk178 := kd_ext eh175 hk177 (nz rfl)
            refine r_geti' (pc := 99) (T := TX7) 7 4 rfl hk178 (Or.inl q502) dX7_several_99 kc7 g7004 ?_
            refine r_iload (pc := 102) dX7_several_102 rfl ?_
            refine r_iload (pc := 104) dX7_several_104 rfl ?_
            refine r_iadd (pc := 106) dX7_several_106 ?_
            refine r_iconst (pc := 107) (x := 3) dX7_several_107 rfl ?_
            refine r_iadd (pc := 108) dX7_several_108 ?_
            refine r_icmp_lt (pc := 109) (tgt := 116) dX7_several_109 rfl (fun c179 => ?_) (fun c179 => ?_)
            · have K := K.1 c179
              refine r_iconst (pc := 116) (x := 0) dX7_several_116 rfl ?_
              refine r_callV_V (pc := 117) (Y := mX7_need) (vs := [_]) (st := []) hk178 rfl kc7 q1272 q1274 qs14 dX7_several_117 rfl cd_X7_need rfl rfl fp_X7_several_X7_need K (fun h181 eh181 wh181 K => ?_) (fun x h1 _ _ e => Tw.out rfl e)
              refine r_aload_n (pc := 120) dX7_several_120 rfl ?_
              refine r_aload_n (pc := 121) dX7_several_121 rfl ?_
              refine r_iload (pc := 122) dX7_several_122 rfl ?_
              refine r_iload (pc := 124) dX7_several_124 rfl ?_
              have hk184 := kd_ext eh181 hk178 (nz rfl)
              refine r_callV_I (pc := 126) (Y := mX7_code) (vs := [_, _, _]) (st := []) hk184 rfl kc7 q1327 q1329 qs20 dX7_several_126 rfl cd_X7_code rfl rfl fp_X7_several_X7_code K (fun x182 h183 eh183 wh183 K => ?_) (fun x h1 _ _ e => Tw.out rfl e)
              refine r_istore (pc := 129) (lv' := [_, _, _, _, _, _, _, _, _, _, _, _, _, _, _, _, _, _, _, _]) dX7_several_129 (by decide) rfl ?_
              refine r_iconst (pc := 131) (x := 0) dX7_several_131 rfl ?_
              refine r_istore (pc := 132) (lv' := [_, _, _, _, _, _, _, _, _, _, _, _, _, _, _, _, _, _, _, _]) dX7_several_132 (by decide) rfl ?_
              refine r_mask (pc := 134) [true, true, true, false, false, false, true, false, false, true, false, false, true, true, true, false, false, false, false, false] rfl ?_
              exact K
            · have K := K.2 c179
              refine r_iconst (pc := 112) (x := 1) dX7_several_112 rfl ?_
              refine r_goto (pc := 113) (tgt := 117) dX7_several_113 rfl ?_
              refine r_callV_V (pc := 117) (Y := mX7_need) (vs := [_]) (st := []) hk178 rfl kc7 q1272 q1274 qs14 dX7_several_117 rfl cd_X7_need rfl rfl fp_X7_several_X7_need K (fun h186 eh186 wh186 K => ?_) (fun x h1 _ _ e => Tw.out rfl e)
              refine r_aload_n (pc := 120) dX7_several_120 rfl ?_
              refine r_aload_n (pc := 121) dX7_several_121 rfl ?_
              refine r_iload (pc := 122) dX7_several_122 rfl ?_
              refine r_iload (pc := 124) dX7_several_124 rfl ?_
              have hk189 := kd_ext eh186 hk178 (nz rfl)
              refine r_callV_I (pc := 126) (Y := mX7_code) (vs := [_, _, _]) (st := []) hk189 rfl kc7 q1327 q1329 qs20 dX7_several_126 rfl cd_X7_code rfl rfl fp_X7_several_X7_code K (fun x187 h188 eh188 wh188 K => ?_) (fun x h1 _ _ e => Tw.out rfl e)
              refine r_istore (pc := 129) (lv' := [_, _, _, _, _, _, _, _, _, _, _, _, _, _, _, _, _, _, _, _]) dX7_several_129 (by decide) rfl ?_
              refine r_iconst (pc := 131) (x := 0) dX7_several_131 rfl ?_
              refine r_istore (pc := 132) (lv' := [_, _, _, _, _, _, _, _, _, _, _, _, _, _, _, _, _, _, _, _]) dX7_several_132 (by decide) rfl ?_
              refine r_mask (pc := 134) [true, true, true, false, false, false, true, false, false, true, false, false, true, true, true, false, false, false, false, false] rfl ?_
              exact K
      · have K := K.2 c129
        refine r_iconst (pc := 41) (x := 1) dX7_several_41 rfl ?_
        refine r_goto (pc := 42) (tgt := 46) dX7_several_42 rfl ?_
        have hk192 := kd_ext eh2 hk3 (nz rfl)
        have hk193 := kd_ext eh5 hk192 (nz rfl)
        refine r_callV_V (pc := 46) (Y := mX7_need) (vs := [_]) (st := []) hk193 rfl kc7 q1272 q1274 qs14 dX7_several_46 rfl cd_X7_need rfl rfl fp_X7_several_X7_need K (fun h191 eh191 wh191 K => ?_) (fun x h1 _ _ e => Tw.out rfl e)
        refine r_lload (pc := 49) dX7_several_49 rfl ?_
        refine r_l2i (pc := 51) dX7_several_51 ?_
        refine r_istore (pc := 52) (lv' := [_, _, _, _, _, _, _, _, _, _, _, _, _, _, _, _, _, _, _, _]) dX7_several_52 (by decide) rfl ?_
        refine r_aload_n (pc := 54) dX7_several_54 rfl ?_
        refine r_iload (pc := 55) dX7_several_55 rfl ?_
        refine r_iconst (pc := 57) (x := 1) dX7_several_57 rfl ?_
        refine r_iadd (pc := 58) dX7_several_58 ?_
        have hk196 := kd_ext eh191 hk193 (nz rfl)
        refine r_callV_R (pc := 59) (Y := mX7_top) (vs := [_]) (st := []) hk196 rfl kc7 q1311 q1313 qs17 dX7_several_59 rfl cd_X7_top rfl rfl fp_X7_several_X7_top K (fun x194 h195 eh195 wh195 K => ?_) (fun x h1 _ _ e => Tw.out rfl e)
        refine r_iconst (pc := 62) (x := 4) dX7_several_62 rfl ?_
        obtain ⟨hk199, K⟩ := K
        refine r_callV_J (pc := 63) (Y := mX22_number) (vs := [_]) (st := []) hk199 rfl kc22 q1496 q1497 q1498 dX7_several_63 rfl cd_X22_number rfl rfl fp_X7_several_X22_number K (fun x197 h198 eh198 wh198 K => ?_) (fun x h1 _ _ e => Tw.out rfl e)
        refine r_lstore (pc := 66) (lv' := [_, _, _, _, _, _, _, _, _, _, _, _, _, _, _, _, _, _, _, _]) dX7_several_66 (by decide) rfl ?_
        refine r_aload_n (pc := 68) dX7_several_68 rfl ?_
        refine r_lload (pc := 69) dX7_several_69 rfl ?_
        refine r_lconst (pc := 71) (a := 0) dX7_several_71 rfl ?_
        refine r_lcmp_lt (pc := 72) (tgt := 88) dX7_several_72 dX7_several_73 rfl (fun c200 => ?_) (fun c200 => ?_)
        · have K := K.1 c200
          refine r_iconst (pc := 88) (x := 0) dX7_several_88 rfl ?_
          have hk203 := kd_ext eh195 hk196 (nz rfl)
          have hk204 := kd_ext eh198 hk203 (nz rfl)
          refine r_callV_V (pc := 89) (Y := mX7_need) (vs := [_]) (st := []) hk204 rfl kc7 q1272 q1274 qs14 dX7_several_89 rfl cd_X7_need rfl rfl fp_X7_several_X7_need K (fun h202 eh202 wh202 K => ?_) (fun x h1 _ _ e => Tw.out rfl e)
          refine r_lload (pc := 92) dX7_several_92 rfl ?_
          refine r_l2i (pc := 94) dX7_several_94 ?_
          refine r_istore (pc := 95) (lv' := [_, _, _, _, _, _, _, _, _, _, _, _, _, _, _, _, _, _, _, _]) dX7_several_95 (by decide) rfl ?_
          refine r_aload_n (pc := 97) dX7_several_97 rfl ?_
          refine r_aload_n (pc := 98) dX7_several_98 rfl ?_
          have hk205 := kd_ext eh202 hk204 (nz rfl)
          refine r_geti' (pc := 99) (T := TX7) 7 4 rfl hk205 (Or.inl q502) dX7_several_99 kc7 g7004 ?_
          refine r_iload (pc := 102) dX7_several_102 rfl ?_
          refine r_iload (pc := 104) dX7_several_104 rfl ?_
          refine r_iadd (pc := 106) dX7_several_106 ?_
          refine r_iconst (pc := 107) (x := 3) dX7_several_107 rfl ?_
          refine r_iadd (pc := 108) dX7_several_108 ?_
          refine r_icmp_lt (pc := 109) (tgt := 116) dX7_several_109 rfl (fun c206 => ?_) (fun c206 => ?_)
          · have K := K.1 c206
            refine r_iconst (pc := 116) (x := 0) dX7_several_116 rfl ?_
            refine r_callV_V (pc := 117) (Y := mX7_need) (vs := [_]) (st := []) hk205 rfl kc7 q1272 q1274 qs14 dX7_several_117 rfl cd_X7_need rfl rfl fp_X7_several_X7_need K (fun h208 eh208 wh208 K => ?_) (fun x h1 _ _ e => Tw.out rfl e)
            refine r_aload_n (pc := 120) dX7_several_120 rfl ?_
            refine r_aload_n (pc := 121) dX7_several_121 rfl ?_
            refine r_iload (pc := 122) dX7_several_122 rfl ?_
            refine r_iload (pc := 124) dX7_several_124 rfl ?_
            have hk211 := kd_ext eh208 hk205 (nz rfl)
            refine r_callV_I (pc := 126) (Y := mX7_code) (vs := [_, _, _]) (st := []) hk211 rfl kc7 q1327 q1329 qs20 dX7_several_126 rfl cd_X7_code rfl rfl fp_X7_several_X7_code K (fun x209 h210 eh210 wh210 K => ?_) (fun x h1 _ _ e => Tw.out rfl e)
            refine r_istore (pc := 129) (lv' := [_, _, _, _, _, _, _, _, _, _, _, _, _, _, _, _, _, _, _, _]) dX7_several_129 (by decide) rfl ?_
            refine r_iconst (pc := 131) (x := 0) dX7_several_131 rfl ?_
            refine r_istore (pc := 132) (lv' := [_, _, _, _, _, _, _, _, _, _, _, _, _, _, _, _, _, _, _, _]) dX7_several_132 (by decide) rfl ?_
            refine r_mask (pc := 134) [true, true, true, false, false, false, true, false, false, true, false, false, true, true, true, false, false, false, false, false] rfl ?_
            exact K
          · have K := K.2 c206
            refine r_iconst (pc := 112) (x := 1) dX7_several_112 rfl ?_
            refine r_goto (pc := 113) (tgt := 117) dX7_several_113 rfl ?_
            refine r_callV_V (pc := 117) (Y := mX7_need) (vs := [_]) (st := []) hk205 rfl kc7 q1272 q1274 qs14 dX7_several_117 rfl cd_X7_need rfl rfl fp_X7_several_X7_need K (fun h213 eh213 wh213 K => ?_) (fun x h1 _ _ e => Tw.out rfl e)
            refine r_aload_n (pc := 120) dX7_several_120 rfl ?_
            refine r_aload_n (pc := 121) dX7_several_121 rfl ?_
            refine r_iload (pc := 122) dX7_several_122 rfl ?_
            refine r_iload (pc := 124) dX7_several_124 rfl ?_
            have hk216 := kd_ext eh213 hk205 (nz rfl)
            refine r_callV_I (pc := 126) (Y := mX7_code) (vs := [_, _, _]) (st := []) hk216 rfl kc7 q1327 q1329 qs20 dX7_several_126 rfl cd_X7_code rfl rfl fp_X7_several_X7_code K (fun x214 h215 eh215 wh215 K => ?_) (fun x h1 _ _ e => Tw.out rfl e)
            refine r_istore (pc := 129) (lv' := [_, _, _, _, _, _, _, _, _, _, _, _, _, _, _, _, _, _, _, _]) dX7_several_129 (by decide) rfl ?_
            refine r_iconst (pc := 131) (x := 0) dX7_several_131 rfl ?_
            refine r_istore (pc := 132) (lv' := [_, _, _, _, _, _, _, _, _, _, _, _, _, _, _, _, _, _, _, _]) dX7_several_132 (by decide) rfl ?_
            refine r_mask (pc := 134) [true, true, true, false, false, false, true, false, false, true, false, false, true, true, true, false, false, false, false, false] rfl ?_
            exact K
        · have K := K.2 c200
          refine r_lload (pc := 76) dX7_several_76 rfl ?_
          refine r_lload (pc := 78) dX7_several_78 rfl ?_
          refine r_lcmp_gt (pc := 80) (tgt := 88) dX7_several_80 dX7_several_81 rfl (fun c217 => ?_) (fun c217 => ?_)
          · have K := K.1 c217
            refine r_iconst (pc := 88) (x := 0) dX7_several_88 rfl ?_
            have hk220 := kd_ext eh195 hk196 (nz rfl)
            have hk221 := kd_ext eh198 hk220 (nz rfl)
            refine r_callV_V (pc := 89) (Y := mX7_need) (vs := [_]) (st := []) hk221 rfl kc7 q1272 q1274 qs14 dX7_several_89 rfl cd_X7_need rfl rfl fp_X7_several_X7_need K (fun h219 eh219 wh219 K => ?_) (fun x h1 _ _ e => Tw.out rfl e)
            refine r_lload (pc := 92) dX7_several_92 rfl ?_
            refine r_l2i (pc := 94) dX7_several_94 ?_
            refine r_istore (pc := 95) (lv' := [_, _, _, _, _, _, _, _, _, _, _, _, _, _, _, _, _, _, _, _]) dX7_several_95 (by decide) rfl ?_
            refine r_aload_n (pc := 97) dX7_several_97 rfl ?_
            refine r_aload_n (pc := 98) dX7_several_98 rfl ?_
            have hk222 := kd_ext eh219 hk221 (nz rfl)
            refine r_geti' (pc := 99) (T := TX7) 7 4 rfl hk222 (Or.inl q502) dX7_several_99 kc7 g7004 ?_
            refine r_iload (pc := 102) dX7_several_102 rfl ?_
            refine r_iload (pc := 104) dX7_several_104 rfl ?_
            refine r_iadd (pc := 106) dX7_several_106 ?_
            refine r_iconst (pc := 107) (x := 3) dX7_several_107 rfl ?_
            refine r_iadd (pc := 108) dX7_several_108 ?_
            refine r_icmp_lt (pc := 109) (tgt := 116) dX7_several_109 rfl (fun c223 => ?_) (fun c223 => ?_)
            · have K := K.1 c223
              refine r_iconst (pc := 116) (x := 0) dX7_several_116 rfl ?_
              refine r_callV_V (pc := 117) (Y := mX7_need) (vs := [_]) (st := []) hk222 rfl kc7 q1272 q1274 qs14 dX7_several_117 rfl cd_X7_need rfl rfl fp_X7_several_X7_need K (fun h225 eh225 wh225 K => ?_) (fun x h1 _ _ e => Tw.out rfl e)
              refine r_aload_n (pc := 120) dX7_several_120 rfl ?_
              refine r_aload_n (pc := 121) dX7_several_121 rfl ?_
              refine r_iload (pc := 122) dX7_several_122 rfl ?_
              refine r_iload (pc := 124) dX7_several_124 rfl ?_
              have hk228 := kd_ext eh225 hk222 (nz rfl)
              refine r_callV_I (pc := 126) (Y := mX7_code) (vs := [_, _, _]) (st := []) hk228 rfl kc7 q1327 q1329 qs20 dX7_several_126 rfl cd_X7_code rfl rfl fp_X7_several_X7_code K (fun x226 h227 eh227 wh227 K => ?_) (fun x h1 _ _ e => Tw.out rfl e)
              refine r_istore (pc := 129) (lv' := [_, _, _, _, _, _, _, _, _, _, _, _, _, _, _, _, _, _, _, _]) dX7_several_129 (by decide) rfl ?_
              refine r_iconst (pc := 131) (x := 0) dX7_several_131 rfl ?_
              refine r_istore (pc := 132) (lv' := [_, _, _, _, _, _, _, _, _, _, _, _, _, _, _, _, _, _, _, _]) dX7_several_132 (by decide) rfl ?_
              refine r_mask (pc := 134) [true, true, true, false, false, false, true, false, false, true, false, false, true, true, true, false, false, false, false, false] rfl ?_
              exact K
            · have K := K.2 c223
              refine r_iconst (pc := 112) (x := 1) dX7_several_112 rfl ?_
              refine r_goto (pc := 113) (tgt := 117) dX7_several_113 rfl ?_
              refine r_callV_V (pc := 117) (Y := mX7_need) (vs := [_]) (st := []) hk222 rfl kc7 q1272 q1274 qs14 dX7_several_117 rfl cd_X7_need rfl rfl fp_X7_several_X7_need K (fun h230 eh230 wh230 K => ?_) (fun x h1 _ _ e => Tw.out rfl e)
              refine r_aload_n (pc := 120) dX7_several_120 rfl ?_
              refine r_aload_n (pc := 121) dX7_several_121 rfl ?_
              refine r_iload (pc := 122) dX7_several_122 rfl ?_
              refine r_iload (pc := 124) dX7_several_124 rfl ?_
              have hk233 := kd_ext eh230 hk222 (nz rfl)
              refine r_callV_I (pc := 126) (Y := mX7_code) (vs := [_, _, _]) (st := []) hk233 rfl kc7 q1327 q1329 qs20 dX7_several_126 rfl cd_X7_code rfl rfl fp_X7_several_X7_code K (fun x231 h232 eh232 wh232 K => ?_) (fun x h1 _ _ e => Tw.out rfl e)
              refine r_istore (pc := 129) (lv' := [_, _, _, _, _, _, _, _, _, _, _, _, _, _, _, _, _, _, _, _]) dX7_several_129 (by decide) rfl ?_
              refine r_iconst (pc := 131) (x := 0) dX7_several_131 rfl ?_
              refine r_istore (pc := 132) (lv' := [_, _, _, _, _, _, _, _, _, _, _, _, _, _, _, _, _, _, _, _]) dX7_several_132 (by decide) rfl ?_
              refine r_mask (pc := 134) [true, true, true, false, false, false, true, false, false, true, false, false, true, true, true, false, false, false, false, false] rfl ?_
              exact K
          · have K := K.2 c217
            refine r_iconst (pc := 84) (x := 1) dX7_several_84 rfl ?_
            refine r_goto (pc := 85) (tgt := 89) dX7_several_85 rfl ?_
            have hk236 := kd_ext eh195 hk196 (nz rfl)
            have hk237 := kd_ext eh198 hk236 (nz rfl)
            refine r_callV_V (pc := 89) (Y := mX7_need) (vs := [_]) (st := []) hk237 rfl kc7 q1272 q1274 qs14 dX7_several_89 rfl cd_X7_need rfl rfl fp_X7_several_X7_need K (fun h235 eh235 wh235 K => ?_) (fun x h1 _ _ e => Tw.out rfl e)
            refine r_lload (pc := 92) dX7_several_92 rfl ?_
            refine r_l2i (pc := 94) dX7_several_94 ?_
            refine r_istore (pc := 95) (lv' := [_, _, _, _, _, _, _, _, _, _, _, _, _, _, _, _, _, _, _, _]) dX7_several_95 (by decide) rfl ?_
            refine r_aload_n (pc := 97) dX7_several_97 rfl ?_
            refine r_aload_n (pc := 98) dX7_several_98 rfl ?_
            have hk238 := kd_ext eh235 hk237 (nz rfl)
            refine r_geti' (pc := 99) (T := TX7) 7 4 rfl hk238 (Or.inl q502) dX7_several_99 kc7 g7004 ?_
            refine r_iload (pc := 102) dX7_several_102 rfl ?_
            refine r_iload (pc := 104) dX7_several_104 rfl ?_
            refine r_iadd (pc := 106) dX7_several_106 ?_
            refine r_iconst (pc := 107) (x := 3) dX7_several_107 rfl ?_
            refine r_iadd (pc := 108) dX7_several_108 ?_
            refine r_icmp_lt (pc := 109) (tgt := 116) dX7_several_109 rfl (fun c239 => ?_) (fun c239 => ?_)
            · have K := K.1 c239
              refine r_iconst (pc := 116) (x := 0) dX7_several_116 rfl ?_
              refine r_callV_V (pc := 117) (Y := mX7_need) (vs := [_]) (st := []) hk238 rfl kc7 q1272 q1274 qs14 dX7_several_117 rfl cd_X7_need rfl rfl fp_X7_several_X7_need K (fun h241 eh241 wh241 K => ?_) (fun x h1 _ _ e => Tw.out rfl e)
              refine r_aload_n (pc := 120) dX7_several_120 rfl ?_
              refine r_aload_n (pc := 121) dX7_several_121 rfl ?_
              refine r_iload (pc := 122) dX7_several_122 rfl ?_
              refine r_iload (pc := 124) dX7_several_124 rfl ?_
              have hk244 := kd_ext eh241 hk238 (nz rfl)
              refine r_callV_I (pc := 126) (Y := mX7_code) (vs := [_, _, _]) (st := []) hk244 rfl kc7 q1327 q1329 qs20 dX7_several_126 rfl cd_X7_code rfl rfl fp_X7_several_X7_code K (fun x242 h243 eh243 wh243 K => ?_) (fun x h1 _ _ e => Tw.out rfl e)
              refine r_istore (pc := 129) (lv' := [_, _, _, _, _, _, _, _, _, _, _, _, _, _, _, _, _, _, _, _]) dX7_several_129 (by decide) rfl ?_
              refine r_iconst (pc := 131) (x := 0) dX7_several_131 rfl ?_
              refine r_istore (pc := 132) (lv' := [_, _, _, _, _, _, _, _, _, _, _, _, _, _, _, _, _, _, _, _]) dX7_several_132 (by decide) rfl ?_
              refine r_mask (pc := 134) [true, true, true, false, false, false, true, false, false, true, false, false, true, true, true, false, false, false, false, false] rfl ?_
              exact K
            · have K := K.2 c239
              refine r_iconst (pc := 112) (x := 1) dX7_several_112 rfl ?_
              refine r_goto (pc := 113) (tgt := 117) dX7_several_113 rfl ?_
              refine r_callV_V (pc := 117) (Y := mX7_need) (vs := [_]) (st := []) hk238 rfl kc7 q1272 q1274 qs14 dX7_several_117 rfl cd_X7_need rfl rfl fp_X7_several_X7_need K (fun h246 eh246 wh246 K => ?_) (fun x h1 _ _ e => Tw.out rfl e)
              refine r_aload_n (pc := 120) dX7_several_120 rfl ?_
              refine r_aload_n (pc := 121) dX7_several_121 rfl ?_
              refine r_iload (pc := 122) dX7_several_122 rfl ?_
              refine r_iload (pc := 124) dX7_several_124 rfl ?_
              have hk249 := kd_ext eh246 hk238 (nz rfl)
              refine r_callV_I (pc := 126) (Y := mX7_code) (vs := [_, _, _]) (st := []) hk249 rfl kc7 q1327 q1329 qs20 dX7_several_126 rfl cd_X7_code rfl rfl fp_X7_several_X7_code K (fun x247 h248 eh248 wh248 K => ?_) (fun x h1 _ _ e => Tw.out rfl e)
              refine r_istore (pc := 129) (lv' := [_, _, _, _, _, _, _, _, _, _, _, _, _, _, _, _, _, _, _, _]) dX7_several_129 (by decide) rfl ?_
              refine r_iconst (pc := 131) (x := 0) dX7_several_131 rfl ?_
              refine r_istore (pc := 132) (lv' := [_, _, _, _, _, _, _, _, _, _, _, _, _, _, _, _, _, _, _, _]) dX7_several_132 (by decide) rfl ?_
              refine r_mask (pc := 134) [true, true, true, false, false, false, true, false, false, true, false, false, true, true, true, false, false, false, false, false] rfl ?_
              exact K
theorem eX7_several {G : Gx} {d : Nat} {Φ : Out → AH → Prop} (h : AH) (v0 : Nat) (v1 : Int32) (v2 : Nat) (v3 : Nat) (v4 : Int32) (v5 : Int32) (v6 : Int32) (K : WF G h → Aw G mX7_several (d + 1) 0 h Φ 0 [vR v0, vI v1, vR v2, vR v3, vI v4, vI v5, vI v6, vU, vU, vU, vU, vU, vU, vU, vU, vU, vU, vU, vU, vU] [] h) : Cw G mX7_several (d + 1) 0 [vR v0, vI v1, vR v2, vR v3, vI v4, vI v5, vI v6] h Φ := Cw.of rfl K
set_option maxHeartbeats 4000000 in
theorem sX7_several_134 {G : Gx} {d t : Nat} {h0 : AH} {Φ : Out → AH → Prop} (h : AH) (v0 : Nat) (v1 : Int32) (v2 : Nat) (v6 : Int32) (v9 : Int32) (v12 : Int32) (v13 : Int32) (v14 : Int32) (K : ((v12 ≤ v14 → Aw G mX7_several (d + 1) t h0 Φ 190 [vR v0, vI v1, vR v2, vU, vU, vU, vI v6, vU, vU, vI v9, vU, vU, vI v12, vI v13, vI 1, vI 1, vI (v9 + 2), vI v9, vI v12, vU] [] h) ∧ (¬ v12 ≤ v14 → h.kd v0 = 7 ∧ ∀ r3 : Nat, r3 = (h.r 7009 v0) → Cw G mX7_top d 0 [vR v0, vI ((v9 + 2) + v14)] h (kR (fun x4 h5 => Cw G mX7_cleaned d 0 [vR v0, vR r3, vI v13, vR x4] h5 (kI (fun x6 h7 => Aw G mX7_several (d + 1) t h0 Φ 134 [vR v0, vI v1, vR v2, vU, vU, vU, vI v6, vU, vU, vI v9, vU, vU, vI v12, vI x6, vI (v14 + 1), vU, vU, vU, vU, vU] [] h7) (fun x h => Φ (.inr x) h))) (fun x h => Φ (.inr x) h))))) : Aw G mX7_several (d + 1) t h0 Φ 134 [vR v0, vI v1, vR v2, vU, vU, vU, vI v6, vU, vU, vI v9, vU, vU, vI v12, vI v13, vI v14, vU, vU, vU, vU, vU] [] h := by
  refine r_iload (pc := 134) dX7_several_134 rfl ?_
  refine r_iload (pc := 136) dX7_several_136 rfl ?_
  refine r_icmp_ge (pc := 138) (tgt := 170) dX7_several_138 rfl (fun c1 => ?_) (fun c1 => ?_)
  · have K := K.1 c1
    refine r_iconst (pc := 170) (x := 1) dX7_several_170 rfl ?_
    refine r_istore (pc := 171) (lv' := [_, _, _, _, _, _, _, _, _, _, _, _, _, _, _, _, _, _, _, _]) dX7_several_171 (by decide) rfl ?_
    refine r_iconst (pc := 173) (x := 1) dX7_several_173 rfl ?_
    refine r_istore (pc := 174) (lv' := [_, _, _, _, _, _, _, _, _, _, _, _, _, _, _, _, _, _, _, _]) dX7_several_174 (by decide) rfl ?_
    refine r_iload (pc := 176) dX7_several_176 rfl ?_
    refine r_iconst (pc := 178) (x := 2) dX7_several_178 rfl ?_
    refine r_iadd (pc := 179) dX7_several_179 ?_
    refine r_istore (pc := 180) (lv' := [_, _, _, _, _, _, _, _, _, _, _, _, _, _, _, _, _, _, _, _]) dX7_several_180 (by decide) rfl ?_
    refine r_iload (pc := 182) dX7_several_182 rfl ?_
    refine r_istore (pc := 184) (lv' := [_, _, _, _, _, _, _, _, _, _, _, _, _, _, _, _, _, _, _, _]) dX7_several_184 (by decide) rfl ?_
    refine r_iload (pc := 186) dX7_several_186 rfl ?_
    refine r_istore (pc := 188) (lv' := [_, _, _, _, _, _, _, _, _, _, _, _, _, _, _, _, _, _, _, _]) dX7_several_188 (by decide) rfl ?_
    refine r_mask (pc := 190) [true, true, true, false, false, false, true, false, false, true, false, false, true, true, true, true, true, true, true, false] rfl ?_
    exact K
  · have K := K.2 c1
    refine r_aload_n (pc := 141) dX7_several_141 rfl ?_
    refine r_aload_n (pc := 142) dX7_several_142 rfl ?_
    obtain ⟨hk2, K⟩ := K
    have K := K _ rfl
    refine r_getr' (pc := 143) (T := TX7) 7 9 rfl hk2 (Or.inl q507) dX7_several_143 kc7 g7009 ?_
    refine r_iload (pc := 146) dX7_several_146 rfl ?_
    refine r_aload_n (pc := 148) dX7_several_148 rfl ?_
    refine r_iload (pc := 149) dX7_several_149 rfl ?_
    refine r_iconst (pc := 151) (x := 2) dX7_several_151 rfl ?_
    refine r_iadd (pc := 152) dX7_several_152 ?_
    refine r_iload (pc := 153) dX7_several_153 rfl ?_
    refine r_iadd (pc := 155) dX7_several_155 ?_
    refine r_callV_R (pc := 156) (Y := mX7_top) (vs := [_]) (st := [_, _, _]) hk2 rfl kc7 q1311 q1313 qs17 dX7_several_156 rfl cd_X7_top rfl rfl fp_X7_several_X7_top K (fun x4 h5 eh5 wh5 K => ?_) (fun x h1 _ _ e => Tw.out rfl e)
    have hk8 := kd_ext eh5 hk2 (nz rfl)
    refine r_callV_I (pc := 159) (Y := mX7_cleaned) (vs := [_, _, _]) (st := []) hk8 rfl kc7 q1331 q1333 qs21 dX7_several_159 rfl cd_X7_cleaned rfl rfl fp_X7_several_X7_cleaned K (fun x6 h7 eh7 wh7 K => ?_) (fun x h1 _ _ e => Tw.out rfl e)
    refine r_istore (pc := 162) (lv' := [_, _, _, _, _, _, _, _, _, _, _, _, _, _, _, _, _, _, _, _]) dX7_several_162 (by decide) rfl ?_
    refine r_iinc (pc := 164) (lv' := [_, _, _, _, _, _, _, _, _, _, _, _, _, _, _, _, _, _, _, _]) dX7_several_164 rfl rfl (by decide) rfl ?_
    refine r_goto (pc := 167) (tgt := 134) dX7_several_167 rfl ?_
    refine r_mask (pc := 134) [true, true, true, false, false, false, true, false, false, true, false, false, true, true, true, false, false, false, false, false] rfl ?_
    exact K
set_option maxHeartbeats 4000000 in
theorem sX7_several_190 {G : Gx} {d t : Nat} {h0 : AH} {Φ : Out → AH → Prop} (h : AH) (v0 : Nat) (v1 : Int32) (v2 : Nat) (v6 : Int32) (v9 : Int32) (v12 : Int32) (v13 : Int32) (v14 : Int32) (v15 : Int32) (v16 : Int32) (v17 : Int32) (v18 : Int32) (K : ((v14 = 0 → Aw G mX7_several (d + 1) t h0 Φ 274 [vR v0, vI v1, vU, vU, vU, vU, vI v6, vU, vU, vI v9, vU, vU, vI v12, vU, vI v14, vU, vU, vU, vU, vU] [] h) ∧ (¬ v14 = 0 → ((v18 ≤ 0 → Aw G mX7_several (d + 1) t h0 Φ 274 [vR v0, vI v1, vU, vU, vU, vU, vI v6, vU, vU, vI v9, vU, vU, vI v12, vU, vI v14, vU, vU, vU, vU, vU] [] h) ∧ (¬ v18 ≤ 0 → h.kd v0 = 7 ∧ Cw G mX7_top d 0 [vR v0, vI v16] h (kR (fun x3 h4 => Cw G mX7_encoded d 0 [vR x3] h4 (kV (fun h7 => h7.kd x3 = 22 ∧ (((h7.i 22001 x3) ≤ 0 → (((v17 + (-1)) < v18 → Aw G mX7_several (d + 1) t h0 Φ 190 [vR v0, vI v1, vR v2, vU, vU, vU, vI v6, vU, vU, vI v9, vU, vU, vI v12, vI v13, vI 0, vI (v15 + 1), vI v16, vI (v17 + (-1)), vI v18, vU] [] h7) ∧ (¬ (v17 + (-1)) < v18 → Aw G mX7_several (d + 1) t h0 Φ 190 [vR v0, vI v1, vR v2, vU, vU, vU, vI v6, vU, vU, vI v9, vU, vU, vI v12, vI v13, vI 1, vI (v15 + 1), vI v16, vI (v17 + (-1)), vI v18, vU] [] h7))) ∧ (¬ (h7.i 22001 x3) ≤ 0 → Cw G mX7_top d 0 [vR v0, vI v15] h7 (kR (fun x11 h12 => ∀ r16 : Nat, r16 = (h12.r 7009 v0) → h12.kd v2 = 8 ∧ Cw G mX8_signed d 0 [vR v2, vR x3, vR x11, vR r16, vI 0, vI v13] h12 (kI (fun x17 h18 => ((x17 = 0 → (((v17 + (-1)) < v18 → Aw G mX7_several (d + 1) t h0 Φ 190 [vR v0, vI v1, vR v2, vU, vU, vU, vI v6, vU, vU, vI v9, vU, vU, vI v12, vI v13, vI 0, vI (v15 + 1), vI v16, vI (v17 + (-1)), vI v18, vU] [] h18) ∧ (¬ (v17 + (-1)) < v18 → Aw G mX7_several (d + 1) t h0 Φ 190 [vR v0, vI v1, vR v2, vU, vU, vU, vI v6, vU, vU, vI v9, vU, vU, vI v12, vI v13, vI 1, vI (v15 + 1), vI v16, vI (v17 + (-1)), vI v18, vU] [] h18))) ∧ (¬ x17 = 0 → (((v17 + (-1)) < (v18 + (-1)) → Aw G mX7_several (d + 1) t h0 Φ 190 [vR v0, vI v1, vR v2, vU, vU, vU, vI v6, vU, vU, vI v9, vU, vU, vI v12, vI v13, vI 0, vI (v15 + 1), vI (v16 + 1), vI (v17 + (-1)), vI (v18 + (-1)), vU] [] h18) ∧ (¬ (v17 + (-1)) < (v18 + (-1)) → Aw G mX7_several (d + 1) t h0 Φ 190 [vR v0, vI v1, vR v2, vU, vU, vU, vI v6, vU, vU, vI v9, vU, vU, vI v12, vI v13, vI 1, vI (v15 + 1), vI (v16 + 1), vI (v17 + (-1)), vI (v18 + (-1)), vU] [] h18))))) (fun x h => Φ (.inr x) h))) (fun x h => Φ (.inr x) h))))) (fun x h => Φ (.inr x) h))) (fun x h => Φ (.inr x) h))))))) : Aw G mX7_several (d + 1) t h0 Φ 190 [vR v0, vI v1, vR v2, vU, vU, vU, vI v6, vU, vU, vI v9, vU, vU, vI v12, vI v13, vI v14, vI v15, vI v16, vI v17, vI v18, vU] [] h := by
  refine r_iload (pc := 190) dX7_several_190 rfl ?_
  refine r_if_eq (pc := 192) (tgt := 274) dX7_several_192 rfl (fun c1 => ?_) (fun c1 => ?_)
  · have K := K.1 c1
    refine r_mask (pc := 274) [true, true, false, false, false, false, true, false, false, true, false, false, true, false, true, false, false, false, false, false] rfl ?_
    exact K
  · have K := K.2 c1
    refine r_iload (pc := 195) dX7_several_195 rfl ?_
    refine r_if_le (pc := 197) (tgt := 274) dX7_several_197 rfl (fun c2 => ?_) (fun c2 => ?_)
    · have K := K.1 c2
      refine r_mask (pc := 274) [true, true, false, false, false, false, true, false, false, true, false, false, true, false, true, false, false, false, false, false] rfl ?_
      exact K
    · have K := K.2 c2
      refine r_aload_n (pc := 200) dX7_several_200 rfl ?_
      refine r_iload (pc := 201) dX7_several_201 rfl ?_
      obtain ⟨hk5, K⟩ := K
      refine r_callV_R (pc := 203) (Y := mX7_top) (vs := [_]) (st := []) hk5 rfl kc7 q1311 q1313 qs17 dX7_several_203 rfl cd_X7_top rfl rfl fp_X7_several_X7_top K (fun x3 h4 eh4 wh4 K => ?_) (fun x h1 _ _ e => Tw.out rfl e)
      refine r_astore (pc := 206) (lv' := [_, _, _, _, _, _, _, _, _, _, _, _, _, _, _, _, _, _, _, _]) dX7_several_206 (by decide) rfl ?_
      refine r_aload (pc := 208) dX7_several_208 rfl ?_
      refine r_callS_V (pc := 210) (Y := mX7_encoded) (vs := [_]) (st := []) q1335 q1336 q161 dX7_several_210 rfl cd_X7_encoded rfl rfl fp_X7_several_X7_encoded K (fun h7 eh7 wh7 K => ?_) (fun x h1 _ _ e => Tw.out rfl e)
      refine r_aload (pc := 213) dX7_several_213 rfl ?_
      obtain ⟨hk8, K⟩ := K
      refine r_geti' (pc := 215) (T := TX22) 22 1 rfl hk8 (Or.inr (Or.inl ⟨_, q1296⟩)) dX7_several_215 kc22 g22001 ?_
      refine r_if_le (pc := 218) (tgt := 251) dX7_several_218 rfl (fun c9 => ?_) (fun c9 => ?_)
      · have K := K.1 c9
        refine r_iinc (pc := 251) (lv' := [_, _, _, _, _, _, _, _, _, _, _, _, _, _, _, _, _, _, _, _]) dX7_several_251 rfl rfl (by decide) rfl ?_
        refine r_iinc (pc := 254) (lv' := [_, _, _, _, _, _, _, _, _, _, _, _, _, _, _, _, _, _, _, _]) dX7_several_254 rfl rfl (by decide) rfl ?_
        refine r_iload (pc := 257) dX7_several_257 rfl ?_
        refine r_iload (pc := 259) dX7_several_259 rfl ?_
        refine r_icmp_gt (pc := 261) (tgt := 268) dX7_several_261 rfl (fun c10 => ?_) (fun c10 => ?_)
        · have K := K.1 c10
          refine r_iconst (pc := 268) (x := 0) dX7_several_268 rfl ?_
          refine r_istore (pc := 269) (lv' := [_, _, _, _, _, _, _, _, _, _, _, _, _, _, _, _, _, _, _, _]) dX7_several_269 (by decide) rfl ?_
          refine r_goto (pc := 271) (tgt := 190) dX7_several_271 rfl ?_
          refine r_mask (pc := 190) [true, true, true, false, false, false, true, false, false, true, false, false, true, true, true, true, true, true, true, false] rfl ?_
          exact K
        · have K := K.2 c10
          refine r_iconst (pc := 264) (x := 1) dX7_several_264 rfl ?_
          refine r_goto (pc := 265) (tgt := 269) dX7_several_265 rfl ?_
          refine r_istore (pc := 269) (lv' := [_, _, _, _, _, _, _, _, _, _, _, _, _, _, _, _, _, _, _, _]) dX7_several_269 (by decide) rfl ?_
          refine r_goto (pc := 271) (tgt := 190) dX7_several_271 rfl ?_
          refine r_mask (pc := 190) [true, true, true, false, false, false, true, false, false, true, false, false, true, true, true, true, true, true, true, false] rfl ?_
          exact K
      · have K := K.2 c9
        refine r_aload_n (pc := 221) dX7_several_221 rfl ?_
        refine r_aload (pc := 222) dX7_several_222 rfl ?_
        refine r_aload_n (pc := 224) dX7_several_224 rfl ?_
        refine r_iload (pc := 225) dX7_several_225 rfl ?_
        have hk13 := kd_ext eh4 hk5 (nz rfl)
        have hk14 := kd_ext eh7 hk13 (nz rfl)
        refine r_callV_R (pc := 227) (Y := mX7_top) (vs := [_]) (st := [_, _]) hk14 rfl kc7 q1311 q1313 qs17 dX7_several_227 rfl cd_X7_top rfl rfl fp_X7_several_X7_top K (fun x11 h12 eh12 wh12 K => ?_) (fun x h1 _ _ e => Tw.out rfl e)
        refine r_aload_n (pc := 230) dX7_several_230 rfl ?_
        have hk15 := kd_ext eh12 hk14 (nz rfl)
        have K := K _ rfl
        refine r_getr' (pc := 231) (T := TX7) 7 9 rfl hk15 (Or.inl q507) dX7_several_231 kc7 g7009 ?_
        refine r_iconst (pc := 234) (x := 0) dX7_several_234 rfl ?_
        refine r_iload (pc := 235) dX7_several_235 rfl ?_
        obtain ⟨hk19, K⟩ := K
        refine r_callF_I (pc := 237) (Y := mX8_signed) (vs := [_, _, _, _, _]) (st := []) hk19 rfl kc8 (by decide) q1345 q1351 q1349 (by decide) dX7_several_237 rfl cd_X8_signed rfl rfl fp_X7_several_X8_signed K (fun x17 h18 eh18 wh18 K => ?_) (fun x h1 _ _ e => Tw.out rfl e)
        refine r_if_eq (pc := 242) (tgt := 251) dX7_several_242 rfl (fun c20 => ?_) (fun c20 => ?_)
        · have K := K.1 c20
          refine r_iinc (pc := 251) (lv' := [_, _, _, _, _, _, _, _, _, _, _, _, _, _, _, _, _, _, _, _]) dX7_several_251 rfl rfl (by decide) rfl ?_
          refine r_iinc (pc := 254) (lv' := [_, _, _, _, _, _, _, _, _, _, _, _, _, _, _, _, _, _, _, _]) dX7_several_254 rfl rfl (by decide) rfl ?_
          refine r_iload (pc := 257) dX7_several_257 rfl ?_
          refine r_iload (pc := 259) dX7_several_259 rfl ?_
          refine r_icmp_gt (pc := 261) (tgt := 268) dX7_several_261 rfl (fun c21 => ?_) (fun c21 => ?_)
          · have K := K.1 c21
            refine r_iconst (pc := 268) (x := 0) dX7_several_268 rfl ?_
            refine r_istore (pc := 269) (lv' := [_, _, _, _, _, _, _, _, _, _, _, _, _, _, _, _, _, _, _, _]) dX7_several_269 (by decide) rfl ?_
            refine r_goto (pc := 271) (tgt := 190) dX7_several_271 rfl ?_
            refine r_mask (pc := 190) [true, true, true, false, false, false, true, false, false, true, false, false, true, true, true, true, true, true, true, false] rfl ?_
            exact K
          · have K := K.2 c21
            refine r_iconst (pc := 264) (x := 1) dX7_several_264 rfl ?_
            refine r_goto (pc := 265) (tgt := 269) dX7_several_265 rfl ?_
            refine r_istore (pc := 269) (lv' := [_, _, _, _, _, _, _, _, _, _, _, _, _, _, _, _, _, _, _, _]) dX7_several_269 (by decide) rfl ?_
            refine r_goto (pc := 271) (tgt := 190) dX7_several_271 rfl ?_
            refine r_mask (pc := 190) [true, true, true, false, false, false, true, false, false, true, false, false, true, true, true, true, true, true, true, false] rfl ?_
            exact K
        · have K := K.2 c20
          refine r_iinc (pc := 245) (lv' := [_, _, _, _, _, _, _, _, _, _, _, _, _, _, _, _, _, _, _, _]) dX7_several_245 rfl rfl (by decide) rfl ?_
          refine r_iinc (pc := 248) (lv' := [_, _, _, _, _, _, _, _, _, _, _, _, _, _, _, _, _, _, _, _]) dX7_several_248 rfl rfl (by decide) rfl ?_
          refine r_iinc (pc := 251) (lv' := [_, _, _, _, _, _, _, _, _, _, _, _, _, _, _, _, _, _, _, _]) dX7_several_251 rfl rfl (by decide) rfl ?_
          refine r_iinc (pc := 254) (lv' := [_, _, _, _, _, _, _, _, _, _, _, _, _, _, _, _, _, _, _, _]) dX7_several_254 rfl rfl (by decide) rfl ?_
          refine r_iload (pc := 257) dX7_several_257 rfl ?_
          refine r_iload (pc := 259) dX7_several_259 rfl ?_
          refine r_icmp_gt (pc := 261) (tgt := 268) dX7_several_261 rfl (fun c22 => ?_) (fun c22 => ?_)
          · have K := K.1 c22
            refine r_iconst (pc := 268) (x := 0) dX7_several_268 rfl ?_
            refine r_istore (pc := 269) (lv' := [_, _, _, _, _, _, _, _, _, _, _, _, _, _, _, _, _, _, _, _]) dX7_several_269 (by decide) rfl ?_
            refine r_goto (pc := 271) (tgt := 190) dX7_several_271 rfl ?_
            refine r_mask (pc := 190) [true, true, true, false, false, false, true, false, false, true, false, false, true, true, true, true, true, true, true, false] rfl ?_
            exact K
          · have K := K.2 c22
            refine r_iconst (pc := 264) (x := 1) dX7_several_264 rfl ?_
            refine r_goto (pc := 265) (tgt := 269) dX7_several_265 rfl ?_
            refine r_istore (pc := 269) (lv' := [_, _, _, _, _, _, _, _, _, _, _, _, _, _, _, _, _, _, _, _]) dX7_several_269 (by decide) rfl ?_
            refine r_goto (pc := 271) (tgt := 190) dX7_several_271 rfl ?_
            refine r_mask (pc := 190) [true, true, true, false, false, false, true, false, false, true, false, false, true, true, true, true, true, true, true, false] rfl ?_
            exact K
set_option maxHeartbeats 4000000 in
theorem sX7_several_274 {G : Gx} {d t : Nat} {h0 : AH} {Φ : Out → AH → Prop} (h : AH) (v0 : Nat) (v1 : Int32) (v6 : Int32) (v9 : Int32) (v12 : Int32) (v14 : Int32) (K : h.kd v0 = 7 ∧ Cw G mX7_drop d 0 [vR v0, vI ((v9 + v12) + 3)] h (kV (fun h2 => Cw G mX7_truth d 0 [vR v0, vI v14] h2 (kV (fun h5 => ((¬ v1 = 175 → Φ (.inl (some (vI (v6 + v9)))) h5) ∧ (v1 = 175 → Cw G mX7_verify d 0 [vR v0] h5 (kV (fun h9 => Φ (.inl (some (vI (v6 + v9)))) h9) (fun x h => Φ (.inr x) h))))) (fun x h => Φ (.inr x) h))) (fun x h => Φ (.inr x) h))) : Aw G mX7_several (d + 1) t h0 Φ 274 [vR v0, vI v1, vU, vU, vU, vU, vI v6, vU, vU, vI v9, vU, vU, vI v12, vU, vI v14, vU, vU, vU, vU, vU] [] h := by
  refine r_aload_n (pc := 274) dX7_several_274 rfl ?_
  refine r_iload (pc := 275) dX7_several_275 rfl ?_
  refine r_iload (pc := 277) dX7_several_277 rfl ?_
  refine r_iadd (pc := 279) dX7_several_279 ?_
  refine r_iconst (pc := 280) (x := 3) dX7_several_280 rfl ?_
  refine r_iadd (pc := 281) dX7_several_281 ?_
  obtain ⟨hk3, K⟩ := K
  refine r_callV_V (pc := 282) (Y := mX7_drop) (vs := [_]) (st := []) hk3 rfl kc7 q1319 q1321 qs18 dX7_several_282 rfl cd_X7_drop rfl rfl fp_X7_several_X7_drop K (fun h2 eh2 wh2 K => ?_) (fun x h1 _ _ e => Tw.out rfl e)
  refine r_aload_n (pc := 285) dX7_several_285 rfl ?_
  refine r_iload (pc := 286) dX7_several_286 rfl ?_
  have hk6 := kd_ext eh2 hk3 (nz rfl)
  refine r_callV_V (pc := 288) (Y := mX7_truth) (vs := [_]) (st := []) hk6 rfl kc7 q1480 q1482 qs34 dX7_several_288 rfl cd_X7_truth rfl rfl fp_X7_several_X7_truth K (fun h5 eh5 wh5 K => ?_) (fun x h1 _ _ e => Tw.out rfl e)
  refine r_iload_n (pc := 291) dX7_several_291 rfl ?_
  refine r_sipush (pc := 292) (x := 175) dX7_several_292 rfl ?_
  refine r_icmp_ne (pc := 295) (tgt := 302) dX7_several_295 rfl (fun c7 => ?_) (fun c7 => ?_)
  · have K := K.1 c7
    refine r_iload (pc := 302) dX7_several_302 rfl ?_
    refine r_iload (pc := 304) dX7_several_304 rfl ?_
    refine r_iadd (pc := 306) dX7_several_306 ?_
    exact r_iret (pc := 307) rfl rfl dX7_several_307 K
  · have K := K.2 c7
    refine r_aload_n (pc := 298) dX7_several_298 rfl ?_
    have hk10 := kd_ext eh5 hk6 (nz rfl)
    refine r_callV_V (pc := 299) (Y := mX7_verify) (vs := []) (st := []) hk10 rfl kc7 q1488 q1490 qs35 dX7_several_299 rfl cd_X7_verify rfl rfl fp_X7_several_X7_verify K (fun h9 eh9 wh9 K => ?_) (fun x h1 _ _ e => Tw.out rfl e)
    refine r_iload (pc := 302) dX7_several_302 rfl ?_
    refine r_iload (pc := 304) dX7_several_304 rfl ?_
    refine r_iadd (pc := 306) dX7_several_306 ?_
    exact r_iret (pc := 307) rfl rfl dX7_several_307 K
theorem dX7_single_0 : decode cX7_single 0 = .ok (.aload_n 0, 1) := by decide +kernel
theorem dX7_single_1 : decode cX7_single 1 = .ok (.iconst 1, 1) := by decide +kernel
theorem dX7_single_2 : decode cX7_single 2 = .ok (.invokevirtual 59, 3) := by decide +kernel
theorem dX7_single_5 : decode cX7_single 5 = .ok (.astore 6, 2) := by decide +kernel
theorem dX7_single_7 : decode cX7_single 7 = .ok (.aload_n 0, 1) := by decide +kernel
theorem dX7_single_8 : decode cX7_single 8 = .ok (.iconst 0, 1) := by decide +kernel
theorem dX7_single_9 : decode cX7_single 9 = .ok (.invokevirtual 59, 3) := by decide +kernel
theorem dX7_single_12 : decode cX7_single 12 = .ok (.astore 7, 2) := by decide +kernel
theorem dX7_single_14 : decode cX7_single 14 = .ok (.aload_n 0, 1) := by decide +kernel
theorem dX7_single_15 : decode cX7_single 15 = .ok (.aload_n 0, 1) := by decide +kernel
theorem dX7_single_16 : decode cX7_single 16 = .ok (.getfield 27, 3) := by decide +kernel
theorem dX7_single_19 : decode cX7_single 19 = .ok (.aload_n 0, 1) := by decide +kernel
theorem dX7_single_20 : decode cX7_single 20 = .ok (.aload_n 3, 1) := by decide +kernel
theorem dX7_single_21 : decode cX7_single 21 = .ok (.iload 4, 2) := by decide +kernel
theorem dX7_single_23 : decode cX7_single 23 = .ok (.iload 5, 2) := by decide +kernel
theorem dX7_single_25 : decode cX7_single 25 = .ok (.invokevirtual 210, 3) := by decide +kernel
theorem dX7_single_28 : decode cX7_single 28 = .ok (.aload 6, 2) := by decide +kernel
theorem dX7_single_30 : decode cX7_single 30 = .ok (.invokevirtual 212, 3) := by decide +kernel
theorem dX7_single_33 : decode cX7_single 33 = .ok (.istore 8, 2) := by decide +kernel
theorem dX7_single_35 : decode cX7_single 35 = .ok (.aload 6, 2) := by decide +kernel
theorem dX7_single_37 : decode cX7_single 37 = .ok (.invokestatic 216, 3) := by decide +kernel
theorem dX7_single_40 : decode cX7_single 40 = .ok (.aload 6, 2) := by decide +kernel
theorem dX7_single_42 : decode cX7_single 42 = .ok (.getfield 69, 3) := by decide +kernel
theorem dX7_single_45 : decode cX7_single 45 = .ok (.ifCond .le 27, 3) := by decide +kernel
theorem dX7_single_48 : decode cX7_single 48 = .ok (.aload_n 2, 1) := by decide +kernel
theorem dX7_single_49 : decode cX7_single 49 = .ok (.aload 6, 2) := by decide +kernel
theorem dX7_single_51 : decode cX7_single 51 = .ok (.aload 7, 2) := by decide +kernel
theorem dX7_single_53 : decode cX7_single 53 = .ok (.aload_n 0, 1) := by decide +kernel
theorem dX7_single_54 : decode cX7_single 54 = .ok (.getfield 27, 3) := by decide +kernel
theorem dX7_single_57 : decode cX7_single 57 = .ok (.iconst 0, 1) := by decide +kernel
theorem dX7_single_58 : decode cX7_single 58 = .ok (.iload 8, 2) := by decide +kernel
theorem dX7_single_60 : decode cX7_single 60 = .ok (.invokeinterface 220 6, 5) := by decide +kernel
theorem dX7_single_65 : decode cX7_single 65 = .ok (.ifCond .eq 7, 3) := by decide +kernel
theorem dX7_single_68 : decode cX7_single 68 = .ok (.iconst 1, 1) := by decide +kernel
theorem dX7_single_69 : decode cX7_single 69 = .ok (.goto 4, 3) := by decide +kernel
theorem dX7_single_72 : decode cX7_single 72 = .ok (.iconst 0, 1) := by decide +kernel
theorem dX7_single_73 : decode cX7_single 73 = .ok (.istore 9, 2) := by decide +kernel
theorem dX7_single_75 : decode cX7_single 75 = .ok (.aload_n 0, 1) := by decide +kernel
theorem dX7_single_76 : decode cX7_single 76 = .ok (.iconst 2, 1) := by decide +kernel
theorem dX7_single_77 : decode cX7_single 77 = .ok (.invokevirtual 95, 3) := by decide +kernel
theorem dX7_single_80 : decode cX7_single 80 = .ok (.aload_n 0, 1) := by decide +kernel
theorem dX7_single_81 : decode cX7_single 81 = .ok (.iload 9, 2) := by decide +kernel
theorem dX7_single_83 : decode cX7_single 83 = .ok (.invokevirtual 157, 3) := by decide +kernel
theorem dX7_single_86 : decode cX7_single 86 = .ok (.iload_n 1, 1) := by decide +kernel
theorem dX7_single_87 : decode cX7_single 87 = .ok (.sipush 173, 3) := by decide +kernel
theorem dX7_single_90 : decode cX7_single 90 = .ok (.if_icmp .ne 7, 3) := by decide +kernel
theorem dX7_single_93 : decode cX7_single 93 = .ok (.aload_n 0, 1) := by decide +kernel
theorem dX7_single_94 : decode cX7_single 94 = .ok (.invokevirtual 140, 3) := by decide +kernel
theorem dX7_single_97 : decode cX7_single 97 = .ok (.return_, 1) := by decide +kernel
/-! CoinJudge$Machine.single(ILCoinJudge$Signed;[BII)V -/
set_option maxHeartbeats 4000000 in
theorem sX7_single_0 {G : Gx} {d t : Nat} {h0 : AH} {Φ : Out → AH → Prop} (h : AH) (v0 : Nat) (v1 : Int32) (v2 : Nat) (v3 : Nat) (v4 : Int32) (v5 : Int32) (K : h.kd v0 = 7 ∧ Cw G mX7_top d 0 [vR v0, vI 1] h (kR (fun x1 h2 => Cw G mX7_top d 0 [vR v0, vI 0] h2 (kR (fun x4 h5 => ∀ r8 : Nat, r8 = (h5.r 7009 v0) → Cw G mX7_code d 0 [vR v0, vR v3, vI v4, vI v5] h5 (kI (fun x9 h10 => Cw G mX7_cleaned d 0 [vR v0, vR r8, vI x9, vR x1] h10 (kI (fun x11 h12 => Cw G mX7_encoded d 0 [vR x1] h12 (kV (fun h15 => h15.kd x1 = 22 ∧ (((h15.i 22001 x1) ≤ 0 → Aw G mX7_single (d + 1) t h0 Φ 72 [vR v0, vI v1, vU, vU, vU, vU, vU, vU, vU, vU] [] h15) ∧ (¬ (h15.i 22001 x1) ≤ 0 → h15.kd v2 = 8 ∧ Cw G mX8_signed d 0 [vR v2, vR x1, vR x4, vR r8, vI 0, vI x11] h15 (kI (fun x24 h25 => ((x24 = 0 → Aw G mX7_single (d + 1) t h0 Φ 72 [vR v0, vI v1, vU, vU, vU, vU, vU, vU, vU, vU] [] h25) ∧ (¬ x24 = 0 → Cw G mX7_drop d 0 [vR v0, vI 2] h25 (kV (fun h29 => Cw G mX7_truth d 0 [vR v0, vI 1] h29 (kV (fun h32 => ((¬ v1 = 173 → Φ (.inl none) h32) ∧ (v1 = 173 → Cw G mX7_verify d 0 [vR v0] h32 (kV (fun h36 => Φ (.inl none) h36) (fun x h => Φ (.inr x) h))))) (fun x h => Φ (.inr x) h))) (fun x h => Φ (.inr x) h))))) (fun x h => Φ (.inr x) h))))) (fun x h => Φ (.inr x) h))) (fun x h => Φ (.inr x) h))) (fun x h => Φ (.inr x) h))) (fun x h => Φ (.inr x) h))) (fun x h => Φ (.inr x) h))) : Aw G mX7_single (d + 1) t h0 Φ 0 [vR v0, vI v1, vR v2, vR v3, vI v4, vI v5, vU, vU, vU, vU] [] h := by
  refine r_aload_n (pc := 0) dX7_single_0 rfl ?_
  refine r_iconst (pc := 1) (x := 1) dX7_single_1 rfl ?_
  obtain ⟨hk3, K⟩ := K
  refine r_callV_R (pc := 2) (Y := mX7_top) (vs := [_]) (st := []) hk3 rfl kc7 q1311 q1313 qs17 dX7_single_2 rfl cd_X7_top rfl rfl fp_X7_single_X7_top K (fun x1 h2 eh2 wh2 K => ?_) (fun x h1 _ _ e => Tw.out rfl e)
  refine r_astore (pc := 5) (lv' := [_, _, _, _, _, _, _, _, _, _]) dX7_single_5 (by decide) rfl ?_
  refine r_aload_n (pc := 7) dX7_single_7 rfl ?_
  refine r_iconst (pc := 8) (x := 0) dX7_single_8 rfl ?_
  have hk6 := kd_ext eh2 hk3 (nz rfl)
  refine r_callV_R (pc := 9) (Y := mX7_top) (vs := [_]) (st := []) hk6 rfl kc7 q1311 q1313 qs17 dX7_single_9 rfl cd_X7_top rfl rfl fp_X7_single_X7_top K (fun x4 h5 eh5 wh5 K => ?_) (fun x h1 _ _ e => Tw.out rfl e)
  refine r_astore (pc := 12) (lv' := [_, _, _, _, _, _, _, _, _, _]) dX7_single_12 (by decide) rfl ?_
  refine r_aload_n (pc := 14) dX7_single_14 rfl ?_
  refine r_aload_n (pc := 15) dX7_single_15 rfl ?_
  have hk7 := kd_ext eh5 hk6 (nz rfl)
  have K := K _ rfl
  refine r_getr' (pc := 16) (T := TX7) 7 9 rfl hk7 (Or.inl q507) dX7_single_16 kc7 g7009 ?_
  refine r_aload_n (pc := 19) dX7_single_19 rfl ?_
  refine r_aload_n (pc := 20) dX7_single_20 rfl ?_
  refine r_iload (pc := 21) dX7_single_21 rfl ?_
  refine r_iload (pc := 23) dX7_single_23 rfl ?_
  refine r_callV_I (pc := 25) (Y := mX7_code) (vs := [_, _, _]) (st := [_, _]) hk7 rfl kc7 q1327 q1329 qs20 dX7_single_25 rfl cd_X7_code rfl rfl fp_X7_single_X7_code K (fun x9 h10 eh10 wh10 K => ?_) (fun x h1 _ _ e => Tw.out rfl e)
  refine r_aload (pc := 28) dX7_single_28 rfl ?_
  have hk13 := kd_ext eh10 hk7 (nz rfl)
  refine r_callV_I (pc := 30) (Y := mX7_cleaned) (vs := [_, _, _]) (st := []) hk13 rfl kc7 q1331 q1333 qs21 dX7_single_30 rfl cd_X7_cleaned rfl rfl fp_X7_single_X7_cleaned K (fun x11 h12 eh12 wh12 K => ?_) (fun x h1 _ _ e => Tw.out rfl e)
  refine r_istore (pc := 33) (lv' := [_, _, _, _, _, _, _, _, _, _]) dX7_single_33 (by decide) rfl ?_
  refine r_aload (pc := 35) dX7_single_35 rfl ?_
  refine r_callS_V (pc := 37) (Y := mX7_encoded) (vs := [_]) (st := []) q1335 q1336 q161 dX7_single_37 rfl cd_X7_encoded rfl rfl fp_X7_single_X7_encoded K (fun h15 eh15 wh15 K => ?_) (fun x h1 _ _ e => Tw.out rfl e)
  refine r_aload (pc := 40) dX7_single_40 rfl ?_
  obtain ⟨hk16, K⟩ := K
  refine r_geti' (pc := 42) (T := TX22) 22 1 rfl hk16 (Or.inr (Or.inl ⟨_, q1296⟩)) dX7_single_42 kc22 g22001 ?_
  refine r_if_le (pc := 45) (tgt := 72) dX7_single_45 rfl (fun c17 => ?_) (fun c17 => ?_)
  · have K := K.1 c17
    refine r_mask (pc := 72) [true, true, false, false, false, false, false, false, false, false] rfl ?_
    exact K
  · have K := K.2 c17
    refine r_aload_n (pc := 48) dX7_single_48 rfl ?_
    refine r_aload (pc := 49) dX7_single_49 rfl ?_
    refine r_aload (pc := 51) dX7_single_51 rfl ?_
    refine r_aload_n (pc := 53) dX7_single_53 rfl ?_
    have hk18 := kd_ext eh12 hk13 (nz rfl)
    have hk19 := kd_ext eh15 hk18 (nz rfl)
    have hv20 := fr_self (key := 7009) hk7
    have hv21 := (fr_ext (key := 7009) eh10 hk7 (nz rfl) (ne0 wh10 hk13 (nz rfl)) (nm rfl)).trans hv20
    have hv22 := (fr_ext (key := 7009) eh12 hk13 (nz rfl) (ne0 wh12 hk18 (nz rfl)) (nm rfl)).trans hv21
    have hv23 := (fr_ext (key := 7009) eh15 hk18 (nz rfl) (ne0 wh15 hk19 (nz rfl)) (nm rfl)).trans hv22
    refine r_getr' (pc := 54) (T := TX7) 7 9 hv23 hk19 (Or.inl q507) dX7_single_54 kc7 g7009 ?_
    refine r_iconst (pc := 57) (x := 0) dX7_single_57 rfl ?_
    refine r_iload (pc := 58) dX7_single_58 rfl ?_
    obtain ⟨hk26, K⟩ := K
    refine r_callF_I (pc := 60) (Y := mX8_signed) (vs := [_, _, _, _, _]) (st := []) hk26 rfl kc8 (by decide) q1345 q1351 q1349 (by decide) dX7_single_60 rfl cd_X8_signed rfl rfl fp_X7_single_X8_signed K (fun x24 h25 eh25 wh25 K => ?_) (fun x h1 _ _ e => Tw.out rfl e)
    refine r_if_eq (pc := 65) (tgt := 72) dX7_single_65 rfl (fun c27 => ?_) (fun c27 => ?_)
    · have K := K.1 c27
      refine r_mask (pc := 72) [true, true, false, false, false, false, false, false, false, false] rfl ?_
      exact K
    · have K := K.2 c27
      refine r_iconst (pc := 68) (x := 1) dX7_single_68 rfl ?_
      refine r_goto (pc := 69) (tgt := 73) dX7_single_69 rfl ?_
      refine r_istore (pc := 73) (lv' := [_, _, _, _, _, _, _, _, _, _]) dX7_single_73 (by decide) rfl ?_
      refine r_aload_n (pc := 75) dX7_single_75 rfl ?_
      refine r_iconst (pc := 76) (x := 2) dX7_single_76 rfl ?_
      have hk30 := kd_ext eh25 hk19 (nz rfl)
      refine r_callV_V (pc := 77) (Y := mX7_drop) (vs := [_]) (st := []) hk30 rfl kc7 q1319 q1321 qs18 dX7_single_77 rfl cd_X7_drop rfl rfl fp_X7_single_X7_drop K (fun h29 eh29 wh29 K => ?_) (fun x h1 _ _ e => Tw.out rfl e)
      refine r_aload_n (pc := 80) dX7_single_80 rfl ?_
      refine r_iload (pc := 81) dX7_single_81 rfl ?_
      have hk33 := kd_ext eh29 hk30 (nz rfl)
      refine r_callV_V (pc := 83) (Y := mX7_truth) (vs := [_]) (st := []) hk33 rfl kc7 q1480 q1482 qs34 dX7_single_83 rfl cd_X7_truth rfl rfl fp_X7_single_X7_truth K (fun h32 eh32 wh32 K => ?_) (fun x h1 _ _ e => Tw.out rfl e)
      refine r_iload_n (pc := 86) dX7_single_86 rfl ?_
      refine r_sipush (pc := 87) (x := 173) dX7_single_87 rfl ?_
      refine r_icmp_ne (pc := 90) (tgt := 97) dX7_single_90 rfl (fun c34 => ?_) (fun c34 => ?_)
      · have K := K.1 c34
        exact r_vret (pc := 97) rfl dX7_single_97 K
      · have K := K.2 c34
        refine r_aload_n (pc := 93) dX7_single_93 rfl ?_
        have hk37 := kd_ext eh32 hk33 (nz rfl)
        refine r_callV_V (pc := 94) (Y := mX7_verify) (vs := []) (st := []) hk37 rfl kc7 q1488 q1490 qs35 dX7_single_94 rfl cd_X7_verify rfl rfl fp_X7_single_X7_verify K (fun h36 eh36 wh36 K => ?_) (fun x h1 _ _ e => Tw.out rfl e)
        exact r_vret (pc := 97) rfl dX7_single_97 K
theorem eX7_single {G : Gx} {d : Nat} {Φ : Out → AH → Prop} (h : AH) (v0 : Nat) (v1 : Int32) (v2 : Nat) (v3 : Nat) (v4 : Int32) (v5 : Int32) (K : WF G h → Aw G mX7_single (d + 1) 0 h Φ 0 [vR v0, vI v1, vR v2, vR v3, vI v4, vI v5, vU, vU, vU, vU] [] h) : Cw G mX7_single (d + 1) 0 [vR v0, vI v1, vR v2, vR v3, vI v4, vI v5] h Φ := Cw.of rfl K
set_option maxHeartbeats 4000000 in
theorem sX7_single_72 {G : Gx} {d t : Nat} {h0 : AH} {Φ : Out → AH → Prop} (h : AH) (v0 : Nat) (v1 : Int32) (K : h.kd v0 = 7 ∧ Cw G mX7_drop d 0 [vR v0, vI 2] h (kV (fun h2 => Cw G mX7_truth d 0 [vR v0, vI 0] h2 (kV (fun h5 => ((¬ v1 = 173 → Φ (.inl none) h5) ∧ (v1 = 173 → Cw G mX7_verify d 0 [vR v0] h5 (kV (fun h9 => Φ (.inl none) h9) (fun x h => Φ (.inr x) h))))) (fun x h => Φ (.inr x) h))) (fun x h => Φ (.inr x) h))) : Aw G mX7_single (d + 1) t h0 Φ 72 [vR v0, vI v1, vU, vU, vU, vU, vU, vU, vU, vU] [] h := by
  refine r_iconst (pc := 72) (x := 0) dX7_single_72 rfl ?_
  refine r_istore (pc := 73) (lv' := [_, _, _, _, _, _, _, _, _, _]) dX7_single_73 (by decide) rfl ?_
  refine r_aload_n (pc := 75) dX7_single_75 rfl ?_
  refine r_iconst (pc := 76) (x := 2) dX7_single_76 rfl ?_
  obtain ⟨hk3, K⟩ := K
  refine r_callV_V (pc := 77) (Y := mX7_drop) (vs := [_]) (st := []) hk3 rfl kc7 q1319 q1321 qs18 dX7_single_77 rfl cd_X7_drop rfl rfl fp_X7_single_X7_drop K (fun h2 eh2 wh2 K => ?_) (fun x h1 _ _ e => Tw.out rfl e)
  refine r_aload_n (pc := 80) dX7_single_80 rfl ?_
  refine r_iload (pc := 81) dX7_single_81 rfl ?_
  have hk6 := kd_ext eh2 hk3 (nz rfl)
  refine r_callV_V (pc := 83) (Y := mX7_truth) (vs := [_]) (st := []) hk6 rfl kc7 q1480 q1482 qs34 dX7_single_83 rfl cd_X7_truth rfl rfl fp_X7_single_X7_truth K (fun h5 eh5 wh5 K => ?_) (fun x h1 _ _ e => Tw.out rfl e)
  refine r_iload_n (pc := 86) dX7_single_86 rfl ?_
  refine r_sipush (pc := 87) (x := 173) dX7_single_87 rfl ?_
  refine r_icmp_ne (pc := 90) (tgt := 97) dX7_single_90 rfl (fun c7 => ?_) (fun c7 => ?_)
  · have K := K.1 c7
    exact r_vret (pc := 97) rfl dX7_single_97 K
  · have K := K.2 c7
    refine r_aload_n (pc := 93) dX7_single_93 rfl ?_
    have hk10 := kd_ext eh5 hk6 (nz rfl)
    refine r_callV_V (pc := 94) (Y := mX7_verify) (vs := []) (st := []) hk10 rfl kc7 q1488 q1490 qs35 dX7_single_94 rfl cd_X7_verify rfl rfl fp_X7_single_X7_verify K (fun h9 eh9 wh9 K => ?_) (fun x h1 _ _ e => Tw.out rfl e)
    exact r_vret (pc := 97) rfl dX7_single_97 K
theorem dX7_copy_0 : decode cX7_copy 0 = .ok (.aload_n 0, 1) := by decide +kernel
theorem dX7_copy_1 : decode cX7_copy 1 = .ok (.iload_n 1, 1) := by decide +kernel
theorem dX7_copy_2 : decode cX7_copy 2 = .ok (.invokevirtual 59, 3) := by decide +kernel
theorem dX7_copy_5 : decode cX7_copy 5 = .ok (.astore_n 2, 1) := by decide +kernel
theorem dX7_copy_6 : decode cX7_copy 6 = .ok (.aload_n 0, 1) := by decide +kernel
theorem dX7_copy_7 : decode cX7_copy 7 = .ok (.invokevirtual 62, 3) := by decide +kernel
theorem dX7_copy_10 : decode cX7_copy 10 = .ok (.aload_n 2, 1) := by decide +kernel
theorem dX7_copy_11 : decode cX7_copy 11 = .ok (.getfield 66, 3) := by decide +kernel
theorem dX7_copy_14 : decode cX7_copy 14 = .ok (.iconst 0, 1) := by decide +kernel
theorem dX7_copy_15 : decode cX7_copy 15 = .ok (.aload_n 2, 1) := by decide +kernel
theorem dX7_copy_16 : decode cX7_copy 16 = .ok (.getfield 69, 3) := by decide +kernel
theorem dX7_copy_19 : decode cX7_copy 19 = .ok (.invokevirtual 72, 3) := by decide +kernel
theorem dX7_copy_22 : decode cX7_copy 22 = .ok (.pop, 1) := by decide +kernel
theorem dX7_copy_23 : decode cX7_copy 23 = .ok (.return_, 1) := by decide +kernel
/-! CoinJudge$Machine.copy(I)V -/
set_option maxHeartbeats 4000000 in
theorem sX7_copy_0 {G : Gx} {d t : Nat} {h0 : AH} {Φ : Out → AH → Prop} (h : AH) (v0 : Nat) (v1 : Int32) (K : h.kd v0 = 7 ∧ Cw G mX7_top d 0 [vR v0, vI v1] h (kR (fun x1 h2 => Cw G mX7_push d 0 [vR v0] h2 (kR (fun x4 h5 => h5.kd x1 = 22 ∧ ∀ r8 : Nat, r8 = (h5.r 22000 x1) → h5.kd x4 = 22 ∧ Cw G mX22_set d 0 [vR x4, vR r8, vI 0, vI (h5.i 22001 x1)] h5 (kR (fun x9 h10 => Φ (.inl none) h10) (fun x h => Φ (.inr x) h))) (fun x h => Φ (.inr x) h))) (fun x h => Φ (.inr x) h))) : Aw G mX7_copy (d + 1) t h0 Φ 0 [vR v0, vI v1, vU] [] h := by
  refine r_aload_n (pc := 0) dX7_copy_0 rfl ?_
  refine r_iload_n (pc := 1) dX7_copy_1 rfl ?_
  obtain ⟨hk3, K⟩ := K
  refine r_callV_R (pc := 2) (Y := mX7_top) (vs := [_]) (st := []) hk3 rfl kc7 q1311 q1313 qs17 dX7_copy_2 rfl cd_X7_top rfl rfl fp_X7_copy_X7_top K (fun x1 h2 eh2 wh2 K => ?_) (fun x h1 _ _ e => Tw.out rfl e)
  refine r_astore_n (pc := 5) (lv' := [_, _, _]) dX7_copy_5 (by decide) rfl ?_
  refine r_aload_n (pc := 6) dX7_copy_6 rfl ?_
  have hk6 := kd_ext eh2 hk3 (nz rfl)
  refine r_callV_R (pc := 7) (Y := mX7_push) (vs := []) (st := []) hk6 rfl kc7 q1280 q1282 qs15 dX7_copy_7 rfl cd_X7_push rfl rfl fp_X7_copy_X7_push K (fun x4 h5 eh5 wh5 K => ?_) (fun x h1 _ _ e => Tw.out rfl e)
  refine r_aload_n (pc := 10) dX7_copy_10 rfl ?_
  obtain ⟨hk7, K⟩ := K
  have K := K _ rfl
  refine r_getr' (pc := 11) (T := TX22) 22 0 rfl hk7 (Or.inr (Or.inl ⟨_, q1293⟩)) dX7_copy_11 kc22 g22000 ?_
  refine r_iconst (pc := 14) (x := 0) dX7_copy_14 rfl ?_
  refine r_aload_n (pc := 15) dX7_copy_15 rfl ?_
  refine r_geti' (pc := 16) (T := TX22) 22 1 rfl hk7 (Or.inr (Or.inl ⟨_, q1296⟩)) dX7_copy_16 kc22 g22001 ?_
  obtain ⟨hk11, K⟩ := K
  refine r_callV_R (pc := 19) (Y := mX22_set) (vs := [_, _, _]) (st := []) hk11 rfl kc22 q1303 q1304 q1305 dX7_copy_19 rfl cd_X22_set rfl rfl fp_X7_copy_X22_set K (fun x9 h10 eh10 wh10 K => ?_) (fun x h1 _ _ e => Tw.out rfl e)
  refine r_pop (pc := 22) rfl dX7_copy_22 ?_
  exact r_vret (pc := 23) rfl dX7_copy_23 K
theorem eX7_copy {G : Gx} {d : Nat} {Φ : Out → AH → Prop} (h : AH) (v0 : Nat) (v1 : Int32) (K : WF G h → Aw G mX7_copy (d + 1) 0 h Φ 0 [vR v0, vI v1, vU] [] h) : Cw G mX7_copy (d + 1) 0 [vR v0, vI v1] h Φ := Cw.of rfl K
theorem dX7_digested_0 : decode cX7_digested 0 = .ok (.aload_n 0, 1) := by decide +kernel
theorem dX7_digested_1 : decode cX7_digested 1 = .ok (.iload_n 1, 1) := by decide +kernel
theorem dX7_digested_2 : decode cX7_digested 2 = .ok (.sipush 167, 3) := by decide +kernel
theorem dX7_digested_5 : decode cX7_digested 5 = .ok (.if_icmp .eq 7, 3) := by decide +kernel
theorem dX7_digested_8 : decode cX7_digested 8 = .ok (.iconst 1, 1) := by decide +kernel
theorem dX7_digested_9 : decode cX7_digested 9 = .ok (.goto 4, 3) := by decide +kernel
theorem dX7_digested_12 : decode cX7_digested 12 = .ok (.iconst 0, 1) := by decide +kernel
theorem dX7_digested_13 : decode cX7_digested 13 = .ok (.invokevirtual 91, 3) := by decide +kernel
theorem dX7_digested_16 : decode cX7_digested 16 = .ok (.aload_n 0, 1) := by decide +kernel
theorem dX7_digested_17 : decode cX7_digested 17 = .ok (.iconst 0, 1) := by decide +kernel
theorem dX7_digested_18 : decode cX7_digested 18 = .ok (.invokevirtual 59, 3) := by decide +kernel
theorem dX7_digested_21 : decode cX7_digested 21 = .ok (.astore_n 2, 1) := by decide +kernel
theorem dX7_digested_22 : decode cX7_digested 22 = .ok (.iload_n 1, 1) := by decide +kernel
theorem dX7_digested_23 : decode cX7_digested 23 = .ok (.sipush 168, 3) := by decide +kernel
theorem dX7_digested_26 : decode cX7_digested 26 = .ok (.if_icmp .eq 10, 3) := by decide +kernel
theorem dX7_digested_29 : decode cX7_digested 29 = .ok (.iload_n 1, 1) := by decide +kernel
theorem dX7_digested_30 : decode cX7_digested 30 = .ok (.sipush 170, 3) := by decide +kernel
theorem dX7_digested_33 : decode cX7_digested 33 = .ok (.if_icmp .ne 8, 3) := by decide +kernel
theorem dX7_digested_36 : decode cX7_digested 36 = .ok (.bipush 32, 2) := by decide +kernel
theorem dX7_digested_38 : decode cX7_digested 38 = .ok (.goto 5, 3) := by decide +kernel
theorem dX7_digested_41 : decode cX7_digested 41 = .ok (.bipush 20, 2) := by decide +kernel
theorem dX7_digested_43 : decode cX7_digested 43 = .ok (.istore_n 3, 1) := by decide +kernel
theorem dX7_digested_44 : decode cX7_digested 44 = .ok (.iload_n 1, 1) := by decide +kernel
theorem dX7_digested_45 : decode cX7_digested 45 = .ok (.sipush 166, 3) := by decide +kernel
theorem dX7_digested_48 : decode cX7_digested 48 = .ok (.if_icmp .ne 27, 3) := by decide +kernel
theorem dX7_digested_51 : decode cX7_digested 51 = .ok (.aload_n 0, 1) := by decide +kernel
theorem dX7_digested_52 : decode cX7_digested 52 = .ok (.getfield 40, 3) := by decide +kernel
theorem dX7_digested_55 : decode cX7_digested 55 = .ok (.aload_n 2, 1) := by decide +kernel
theorem dX7_digested_56 : decode cX7_digested 56 = .ok (.getfield 66, 3) := by decide +kernel
theorem dX7_digested_59 : decode cX7_digested 59 = .ok (.iconst 0, 1) := by decide +kernel
theorem dX7_digested_60 : decode cX7_digested 60 = .ok (.aload_n 2, 1) := by decide +kernel
theorem dX7_digested_61 : decode cX7_digested 61 = .ok (.getfield 69, 3) := by decide +kernel
theorem dX7_digested_64 : decode cX7_digested 64 = .ok (.aload_n 0, 1) := by decide +kernel
theorem dX7_digested_65 : decode cX7_digested 65 = .ok (.getfield 34, 3) := by decide +kernel
theorem dX7_digested_68 : decode cX7_digested 68 = .ok (.iconst 0, 1) := by decide +kernel
theorem dX7_digested_69 : decode cX7_digested 69 = .ok (.invokevirtual 190, 3) := by decide +kernel
theorem dX7_digested_72 : decode cX7_digested 72 = .ok (.goto 86, 3) := by decide +kernel
theorem dX7_digested_75 : decode cX7_digested 75 = .ok (.iload_n 1, 1) := by decide +kernel
theorem dX7_digested_76 : decode cX7_digested 76 = .ok (.sipush 168, 3) := by decide +kernel
theorem dX7_digested_79 : decode cX7_digested 79 = .ok (.if_icmp .ne 27, 3) := by decide +kernel
theorem dX7_digested_82 : decode cX7_digested 82 = .ok (.aload_n 0, 1) := by decide +kernel
theorem dX7_digested_83 : decode cX7_digested 83 = .ok (.getfield 40, 3) := by decide +kernel
theorem dX7_digested_86 : decode cX7_digested 86 = .ok (.aload_n 2, 1) := by decide +kernel
theorem dX7_digested_87 : decode cX7_digested 87 = .ok (.getfield 66, 3) := by decide +kernel
theorem dX7_digested_90 : decode cX7_digested 90 = .ok (.iconst 0, 1) := by decide +kernel
theorem dX7_digested_91 : decode cX7_digested 91 = .ok (.aload_n 2, 1) := by decide +kernel
theorem dX7_digested_92 : decode cX7_digested 92 = .ok (.getfield 69, 3) := by decide +kernel
theorem dX7_digested_95 : decode cX7_digested 95 = .ok (.aload_n 0, 1) := by decide +kernel
theorem dX7_digested_96 : decode cX7_digested 96 = .ok (.getfield 34, 3) := by decide +kernel
theorem dX7_digested_99 : decode cX7_digested 99 = .ok (.iconst 0, 1) := by decide +kernel
theorem dX7_digested_100 : decode cX7_digested 100 = .ok (.invokevirtual 196, 3) := by decide +kernel
theorem dX7_digested_103 : decode cX7_digested 103 = .ok (.goto 55, 3) := by decide +kernel
theorem dX7_digested_106 : decode cX7_digested 106 = .ok (.iload_n 1, 1) := by decide +kernel
theorem dX7_digested_107 : decode cX7_digested 107 = .ok (.sipush 169, 3) := by decide +kernel
theorem dX7_digested_110 : decode cX7_digested 110 = .ok (.if_icmp .ne 27, 3) := by decide +kernel
theorem dX7_digested_113 : decode cX7_digested 113 = .ok (.aload_n 0, 1) := by decide +kernel
theorem dX7_digested_114 : decode cX7_digested 114 = .ok (.getfield 40, 3) := by decide +kernel
theorem dX7_digested_117 : decode cX7_digested 117 = .ok (.aload_n 2, 1) := by decide +kernel
theorem dX7_digested_118 : decode cX7_digested 118 = .ok (.getfield 66, 3) := by decide +kernel
theorem dX7_digested_121 : decode cX7_digested 121 = .ok (.iconst 0, 1) := by decide +kernel
theorem dX7_digested_122 : decode cX7_digested 122 = .ok (.aload_n 2, 1) := by decide +kernel
theorem dX7_digested_123 : decode cX7_digested 123 = .ok (.getfield 69, 3) := by decide +kernel
theorem dX7_digested_126 : decode cX7_digested 126 = .ok (.aload_n 0, 1) := by decide +kernel
theorem dX7_digested_127 : decode cX7_digested 127 = .ok (.getfield 34, 3) := by decide +kernel
theorem dX7_digested_130 : decode cX7_digested 130 = .ok (.iconst 0, 1) := by decide +kernel
theorem dX7_digested_131 : decode cX7_digested 131 = .ok (.invokevirtual 199, 3) := by decide +kernel
theorem dX7_digested_134 : decode cX7_digested 134 = .ok (.goto 24, 3) := by decide +kernel
theorem dX7_digested_137 : decode cX7_digested 137 = .ok (.aload_n 0, 1) := by decide +kernel
theorem dX7_digested_138 : decode cX7_digested 138 = .ok (.getfield 40, 3) := by decide +kernel
theorem dX7_digested_141 : decode cX7_digested 141 = .ok (.aload_n 2, 1) := by decide +kernel
theorem dX7_digested_142 : decode cX7_digested 142 = .ok (.getfield 66, 3) := by decide +kernel
theorem dX7_digested_145 : decode cX7_digested 145 = .ok (.iconst 0, 1) := by decide +kernel
theorem dX7_digested_146 : decode cX7_digested 146 = .ok (.aload_n 2, 1) := by decide +kernel
theorem dX7_digested_147 : decode cX7_digested 147 = .ok (.getfield 69, 3) := by decide +kernel
theorem dX7_digested_150 : decode cX7_digested 150 = .ok (.aload_n 0, 1) := by decide +kernel
theorem dX7_digested_151 : decode cX7_digested 151 = .ok (.getfield 34, 3) := by decide +kernel
theorem dX7_digested_154 : decode cX7_digested 154 = .ok (.iconst 0, 1) := by decide +kernel
theorem dX7_digested_155 : decode cX7_digested 155 = .ok (.invokevirtual 202, 3) := by decide +kernel
theorem dX7_digested_158 : decode cX7_digested 158 = .ok (.aload_n 2, 1) := by decide +kernel
theorem dX7_digested_159 : decode cX7_digested 159 = .ok (.aload_n 0, 1) := by decide +kernel
theorem dX7_digested_160 : decode cX7_digested 160 = .ok (.getfield 34, 3) := by decide +kernel
theorem dX7_digested_163 : decode cX7_digested 163 = .ok (.iconst 0, 1) := by decide +kernel
theorem dX7_digested_164 : decode cX7_digested 164 = .ok (.iload_n 3, 1) := by decide +kernel
theorem dX7_digested_165 : decode cX7_digested 165 = .ok (.invokevirtual 72, 3) := by decide +kernel
theorem dX7_digested_168 : decode cX7_digested 168 = .ok (.pop, 1) := by decide +kernel
theorem dX7_digested_169 : decode cX7_digested 169 = .ok (.return_, 1) := by decide +kernel
/-! CoinJudge$Machine.digested(I)V -/
set_option maxHeartbeats 4000000 in
theorem sX7_digested_0 {G : Gx} {d t : Nat} {h0 : AH} {Φ : Out → AH → Prop} (h : AH) (v0 : Nat) (v1 : Int32) (K : ((v1 = 167 → h.kd v0 = 7 ∧ Cw G mX7_need d 0 [vR v0, vI 0] h (kV (fun h3 => Cw G mX7_top d 0 [vR v0, vI 0] h3 (kR (fun x5 h6 => ((v1 = 168 → Aw G mX7_digested (d + 1) t h0 Φ 36 [vR v0, vI v1, vR x5, vU] [] h6) ∧ (¬ v1 = 168 → ((¬ v1 = 170 → ((¬ v1 = 166 → ((¬ v1 = 168 → ((¬ v1 = 169 → ∀ r14 : Nat, r14 = (h6.r 7000 v0) → h6.kd x5 = 22 ∧ ∀ r16 : Nat, r16 = (h6.r 22000 x5) → ∀ r17 : Nat, r17 = (h6.r 7011 v0) → h6.kd r14 = 2 ∧ Cw G mX2_twice d 0 [vR r14, vR r16, vI 0, vI (h6.i 22001 x5), vR r17, vI 0] h6 (kV (fun h19 => Cw G mX22_set d 0 [vR x5, vR r17, vI 0, vI 20] h19 (kR (fun x24 h25 => Φ (.inl none) h25) (fun x h => Φ (.inr x) h))) (fun x h => Φ (.inr x) h))) ∧ (v1 = 169 → ∀ r28 : Nat, r28 = (h6.r 7000 v0) → h6.kd x5 = 22 ∧ ∀ r30 : Nat, r30 = (h6.r 22000 x5) → ∀ r31 : Nat, r31 = (h6.r 7011 v0) → h6.kd r28 = 2 ∧ Cw G mX2_hash160 d 0 [vR r28, vR r30, vI 0, vI (h6.i 22001 x5), vR r31, vI 0] h6 (kV (fun h33 => Cw G mX22_set d 0 [vR x5, vR r31, vI 0, vI 20] h33 (kR (fun x38 h39 => Φ (.inl none) h39) (fun x h => Φ (.inr x) h))) (fun x h => Φ (.inr x) h))))) ∧ (v1 = 168 → ∀ r42 : Nat, r42 = (h6.r 7000 v0) → h6.kd x5 = 22 ∧ ∀ r44 : Nat, r44 = (h6.r 22000 x5) → ∀ r45 : Nat, r45 = (h6.r 7011 v0) → h6.kd r42 = 2 ∧ Cw G mX2_sha d 0 [vR r42, vR r44, vI 0, vI (h6.i 22001 x5), vR r45, vI 0] h6 (kV (fun h47 => Cw G mX22_set d 0 [vR x5, vR r45, vI 0, vI 20] h47 (kR (fun x52 h53 => Φ (.inl none) h53) (fun x h => Φ (.inr x) h))) (fun x h => Φ (.inr x) h))))) ∧ (v1 = 166 → ∀ r56 : Nat, r56 = (h6.r 7000 v0) → h6.kd x5 = 22 ∧ ∀ r58 : Nat, r58 = (h6.r 22000 x5) → ∀ r59 : Nat, r59 = (h6.r 7011 v0) → h6.kd r56 = 2 ∧ Cw G mX2_ripe d 0 [vR r56, vR r58, vI 0, vI (h6.i 22001 x5), vR r59, vI 0] h6 (kV (fun h61 => Cw G mX22_set d 0 [vR x5, vR r59, vI 0, vI 20] h61 (kR (fun x66 h67 => Φ (.inl none) h67) (fun x h => Φ (.inr x) h))) (fun x h => Φ (.inr x) h))))) ∧ (v1 = 170 → Aw G mX7_digested (d + 1) t h0 Φ 36 [vR v0, vI v1, vR x5, vU] [] h6))))) (fun x h => Φ (.inr x) h))) (fun x h => Φ (.inr x) h))) ∧ (¬ v1 = 167 → h.kd v0 = 7 ∧ Cw G mX7_need d 0 [vR v0, vI 1] h (kV (fun h70 => Cw G mX7_top d 0 [vR v0, vI 0] h70 (kR (fun x72 h73 => ((v1 = 168 → Aw G mX7_digested (d + 1) t h0 Φ 36 [vR v0, vI v1, vR x72, vU] [] h73) ∧ (¬ v1 = 168 → ((¬ v1 = 170 → ((¬ v1 = 166 → ((¬ v1 = 168 → ((¬ v1 = 169 → ∀ r81 : Nat, r81 = (h73.r 7000 v0) → h73.kd x72 = 22 ∧ ∀ r83 : Nat, r83 = (h73.r 22000 x72) → ∀ r84 : Nat, r84 = (h73.r 7011 v0) → h73.kd r81 = 2 ∧ Cw G mX2_twice d 0 [vR r81, vR r83, vI 0, vI (h73.i 22001 x72), vR r84, vI 0] h73 (kV (fun h86 => Cw G mX22_set d 0 [vR x72, vR r84, vI 0, vI 20] h86 (kR (fun x91 h92 => Φ (.inl none) h92) (fun x h => Φ (.inr x) h))) (fun x h => Φ (.inr x) h))) ∧ (v1 = 169 → ∀ r95 : Nat, r95 = (h73.r 7000 v0) → h73.kd x72 = 22 ∧ ∀ r97 : Nat, r97 = (h73.r 22000 x72) → ∀ r98 : Nat, r98 = (h73.r 7011 v0) → h73.kd r95 = 2 ∧ Cw G mX2_hash160 d 0 [vR r95, vR r97, vI 0, vI (h73.i 22001 x72), vR r98, vI 0] h73 (kV (fun h100 => Cw G mX22_set d 0 [vR x72, vR r98, vI 0, vI 20] h100 (kR (fun x105 h106 => Φ (.inl none) h106) (fun x h => Φ (.inr x) h))) (fun x h => Φ (.inr x) h))))) ∧ (v1 = 168 → ∀ r109 : Nat, r109 = (h73.r 7000 v0) → h73.kd x72 = 22 ∧ ∀ r111 : Nat, r111 = (h73.r 22000 x72) → ∀ r112 : Nat, r112 = (h73.r 7011 v0) → h73.kd r109 = 2 ∧ Cw G mX2_sha d 0 [vR r109, vR r111, vI 0, vI (h73.i 22001 x72), vR r112, vI 0] h73 (kV (fun h114 => Cw G mX22_set d 0 [vR x72, vR r112, vI 0, vI 20] h114 (kR (fun x119 h120 => Φ (.inl none) h120) (fun x h => Φ (.inr x) h))) (fun x h => Φ (.inr x) h))))) ∧ (v1 = 166 → ∀ r123 : Nat, r123 = (h73.r 7000 v0) → h73.kd x72 = 22 ∧ ∀ r125 : Nat, r125 = (h73.r 22000 x72) → ∀ r126 : Nat, r126 = (h73.r 7011 v0) → h73.kd r123 = 2 ∧ Cw G mX2_ripe d 0 [vR r123, vR r125, vI 0, vI (h73.i 22001 x72), vR r126, vI 0] h73 (kV (fun h128 => Cw G mX22_set d 0 [vR x72, vR r126, vI 0, vI 20] h128 (kR (fun x133 h134 => Φ (.inl none) h134) (fun x h => Φ (.inr x) h))) (fun x h => Φ (.inr x) h))))) ∧ (v1 = 170 → Aw G mX7_digested (d + 1) t h0 Φ 36 [vR v0, vI v1, vR x72, vU] [] h73))))) (fun x h => Φ (.inr x) h))) (fun x h => Φ (.inr x) h))))) : Aw G mX7_digested (d + 1) t h0 Φ 0 [vR v0, vI v1, vU, vU] [] h := by
  refine r_aload_n (pc := 0) dX7_digested_0 rfl ?_
  refine r_iload_n (pc := 1) dX7_digested_1 rfl ?_
  refine r_sipush (pc := 2) (x := 167) dX7_digested_2 rfl ?_
  refine r_icmp_eq (pc := 5) (tgt := 12) dX7_digested_5 rfl (fun c1 => ?_) (fun c1 => ?_)
  · have K := K.1 c1
    refine r_iconst (pc := 12) (x := 0) dX7_digested_12 rfl ?_
    obtain ⟨hk4, K⟩ := K
    refine r_callV_V (pc := 13) (Y := mX7_need) (vs := [_]) (st := []) hk4 rfl kc7 q1272 q1274 qs14 dX7_digested_13 rfl cd_X7_need rfl rfl fp_X7_digested_X7_need K (fun h3 eh3 wh3 K => ?_) (fun x h1 _ _ e => Tw.out rfl e)
    refine r_aload_n (pc := 16) dX7_digested_16 rfl ?_
    refine r_iconst (pc := 17) (x := 0) dX7_digested_17 rfl ?_
    have hk7 := kd_ext eh3 hk4 (nz rfl)
    refine r_callV_R (pc := 18) (Y := mX7_top) (vs := [_]) (st := []) hk7 rfl kc7 q1311 q1313 qs17 dX7_digested_18 rfl cd_X7_top rfl rfl fp_X7_digested_X7_top K (fun x5 h6 eh6 wh6 K => ?_) (fun x h1 _ _ e => Tw.out rfl e)
    refine r_astore_n (pc := 21) (lv' := [_, _, _, _]) dX7_digested_21 (by decide) rfl ?_
    refine r_iload_n (pc := 22) dX7_digested_22 rfl ?_
    refine r_sipush (pc := 23) (x := 168) dX7_digested_23 rfl ?_
    refine r_icmp_eq (pc := 26) (tgt := 36) dX7_digested_26 rfl (fun c8 => ?_) (fun c8 => ?_)
    · have K := K.1 c8
      refine r_mask (pc := 36) [true, true, true, false] rfl ?_
      exact K
    · have K := K.2 c8
      refine r_iload_n (pc := 29) dX7_digested_29 rfl ?_
      refine r_sipush (pc := 30) (x := 170) dX7_digested_30 rfl ?_
      refine r_icmp_ne (pc := 33) (tgt := 41) dX7_digested_33 rfl (fun c9 => ?_) (fun c9 => ?_)
      · have K := K.1 c9
        refine r_bipush (pc := 41) (x := 20) dX7_digested_41 rfl ?_
        refine r_istore_n (pc := 43) (lv' := [_, _, _, _]) dX7_digested_43 (by decide) rfl ?_
        refine r_iload_n (pc := 44) dX7_digested_44 rfl ?_
        refine r_sipush (pc := 45) (x := 166) dX7_digested_45 rfl ?_
        refine r_icmp_ne (pc := 48) (tgt := 75) dX7_digested_48 rfl (fun c10 => ?_) (fun c10 => ?_)
        · have K := K.1 c10
          refine r_iload_n (pc := 75) dX7_digested_75 rfl ?_
          refine r_sipush (pc := 76) (x := 168) dX7_digested_76 rfl ?_
          refine r_icmp_ne (pc := 79) (tgt := 106) dX7_digested_79 rfl (fun c11 => ?_) (fun c11 => ?_)
          · have K := K.1 c11
            refine r_iload_n (pc := 106) dX7_digested_106 rfl ?_
            refine r_sipush (pc := 107) (x := 169) dX7_digested_107 rfl ?_
            refine r_icmp_ne (pc := 110) (tgt := 137) dX7_digested_110 rfl (fun c12 => ?_) (fun c12 => ?_)
            · have K := K.1 c12
              refine r_aload_n (pc := 137) dX7_digested_137 rfl ?_
              have hk13 := kd_ext eh6 hk7 (nz rfl)
              have K := K _ rfl
              refine r_getr' (pc := 138) (T := TX7) 7 0 rfl hk13 (Or.inl q498) dX7_digested_138 kc7 g7000 ?_
              refine r_aload_n (pc := 141) dX7_digested_141 rfl ?_
              obtain ⟨hk15, K⟩ := K
              have K := K _ rfl
              refine r_getr' (pc := 142) (T := TX22) 22 0 rfl hk15 (Or.inr (Or.inl ⟨_, q1293⟩)) dX7_digested_142 kc22 g22000 ?_
              refine r_iconst (pc := 145) (x := 0) dX7_digested_145 rfl ?_
              refine r_aload_n (pc := 146) dX7_digested_146 rfl ?_
              refine r_geti' (pc := 147) (T := TX22) 22 1 rfl hk15 (Or.inr (Or.inl ⟨_, q1296⟩)) dX7_digested_147 kc22 g22001 ?_
              refine r_aload_n (pc := 150) dX7_digested_150 rfl ?_
              have K := K _ rfl
              refine r_getr' (pc := 151) (T := TX7) 7 11 rfl hk13 (Or.inl q509) dX7_digested_151 kc7 g7011 ?_
              refine r_iconst (pc := 154) (x := 0) dX7_digested_154 rfl ?_
              obtain ⟨hk20, K⟩ := K
              refine r_callV_V (pc := 155) (Y := mX2_twice) (vs := [_, _, _, _, _]) (st := []) hk20 rfl kc2 q1538 q886 q887 dX7_digested_155 rfl cd_X2_twice rfl rfl fp_X7_digested_X2_twice K (fun h19 eh19 wh19 K => ?_) (fun x h1 _ _ e => Tw.out rfl e)
              refine r_aload_n (pc := 158) dX7_digested_158 rfl ?_
              refine r_aload_n (pc := 159) dX7_digested_159 rfl ?_
              have hk21 := kd_ext eh19 hk13 (nz rfl)
              have hv22 := fr_self (key := 7011) hk13
              have hv23 := (fr_ext (key := 7011) eh19 hk13 (nz rfl) (ne0 wh19 hk21 (nz rfl)) (nm rfl)).trans hv22
              refine r_getr' (pc := 160) (T := TX7) 7 11 hv23 hk21 (Or.inl q509) dX7_digested_160 kc7 g7011 ?_
              refine r_iconst (pc := 163) (x := 0) dX7_digested_163 rfl ?_
              refine r_iload_n (pc := 164) dX7_digested_164 rfl ?_
              have hk26 := kd_ext eh19 hk15 (nz rfl)
              refine r_callV_R (pc := 165) (Y := mX22_set) (vs := [_, _, _]) (st := []) hk26 rfl kc22 q1303 q1304 q1305 dX7_digested_165 rfl cd_X22_set rfl rfl fp_X7_digested_X22_set K (fun x24 h25 eh25 wh25 K => ?_) (fun x h1 _ _ e => Tw.out rfl e)
              refine r_pop (pc := 168) rfl dX7_digested_168 ?_
              exact r_vret (pc := 169) rfl dX7_digested_169 K
            · have K := K.2 c12
              refine r_aload_n (pc := 113) dX7_digested_113 rfl ?_
              have hk27 := kd_ext eh6 hk7 (nz rfl)
              have K := K _ rfl
              refine r_getr' (pc := 114) (T := TX7) 7 0 rfl hk27 (Or.inl q498) dX7_digested_114 kc7 g7000 ?_
              refine r_aload_n (pc := 117) dX7_digested_117 rfl ?_
              obtain ⟨hk29, K⟩ := K
              have K := K _ rfl
              refine r_getr' (pc := 118) (T := TX22) 22 0 rfl hk29 (Or.inr (Or.inl ⟨_, q1293⟩)) dX7_digested_118 kc22 g22000 ?_
              refine r_iconst (pc := 121) (x := 0) dX7_digested_121 rfl ?_
              refine r_aload_n (pc := 122) dX7_digested_122 rfl ?_
              refine r_geti' (pc := 123) (T := TX22) 22 1 rfl hk29 (Or.inr (Or.inl ⟨_, q1296⟩)) dX7_digested_123 kc22 g22001 ?_
              refine r_aload_n (pc := 126) dX7_digested_126 rfl ?_
              have K := K _ rfl
              refine r_getr' (pc := 127) (T := TX7) 7 11 rfl hk27 (Or.inl q509) dX7_digested_127 kc7 g7011 ?_
              refine r_iconst (pc := 130) (x := 0) dX7_digested_130 rfl ?_
              obtain ⟨hk34, K⟩ := K
              refine r_callV_V (pc := 131) (Y := mX2_hash160) (vs := [_, _, _, _, _]) (st := []) hk34 rfl kc2 q1533 q1534 q1535 dX7_digested_131 rfl cd_X2_hash160 rfl rfl fp_X7_digested_X2_hash160 K (fun h33 eh33 wh33 K => ?_) (fun x h1 _ _ e => Tw.out rfl e)
              refine r_goto (pc := 134) (tgt := 158) dX7_digested_134 rfl ?_
              refine r_aload_n (pc := 158) dX7_digested_158 rfl ?_
              refine r_aload_n (pc := 159) dX7_digested_159 rfl ?_
              have hk35 := kd_ext eh33 hk27 (nz rfl)
              have hv36 := fr_self (key := 7011) hk27
              have hv37 := (fr_ext (key := 7011) eh33 hk27 (nz rfl) (ne0 wh33 hk35 (nz rfl)) (nm rfl)).trans hv36
              refine r_getr' (pc := 160) (T := TX7) 7 11 hv37 hk35 (Or.inl q509) dX7_digested_160 kc7 g7011 ?_
              refine r_iconst (pc := 163) (x := 0) dX7_digested_163 rfl ?_
              refine r_iload_n (pc := 164) dX7_digested_164 rfl ?_
              have hk40 := kd_ext eh33 hk29 (nz rfl)
              refine r_callV_R (pc := 165) (Y := mX22_set) (vs := [_, _, _]) (st := []) hk40 rfl kc22 q1303 q1304 q1305 dX7_digested_165 rfl cd_X22_set rfl rfl fp_X7_digested_X22_set K (fun x38 h39 eh39 wh39 K => ?_) (fun x h1 _ _ e => Tw.out rfl e)
              refine r_pop (pc := 168) rfl dX7_digested_168 ?_
              exact r_vret (pc := 169) rfl dX7_digested_169 K
          · have K := K.2 c11
            refine r_aload_n (pc := 82) dX7_digested_82 rfl ?_
            have hk41 := kd_ext eh6 hk7 (nz rfl)
            have K := K _ rfl
            refine r_getr' (pc := 83) (T := TX7) 7 0 rfl hk41 (Or.inl q498) dX7_digested_83 kc7 g7000 ?_
            refine r_aload_n (pc := 86) dX7_digested_86 rfl ?_
            obtain ⟨hk43, K⟩ := K
            have K := K _ rfl
            refine r_getr' (pc := 87) (T := TX22) 22 0 rfl hk43 (Or.inr (Or.inl ⟨_, q1293⟩)) dX7_digested_87 kc22 g22000 ?_
            refine r_iconst (pc := 90) (x := 0) dX7_digested_90 rfl ?_
            refine r_aload_n (pc := 91) dX7_digested_91 rfl ?_
            refine r_geti' (pc := 92) (T := TX22) 22 1 rfl hk43 (Or.inr (Or.inl ⟨_, q1296⟩)) dX7_digested_92 kc22 g22001 ?_
            refine r_aload_n (pc := 95) dX7_digested_95 rfl ?_
            have K := K _ rfl
            refine r_getr' (pc := 96) (T := TX7) 7 11 rfl hk41 (Or.inl q509) dX7_digested_96 kc7 g7011 ?_
            refine r_iconst (pc := 99) (x := 0) dX7_digested_99 rfl ?_
            obtain ⟨hk48, K⟩ := K
            refine r_callV_V (pc := 100) (Y := mX2_sha) (vs := [_, _, _, _, _]) (st := []) hk48 rfl kc2 q1532 q890 q891 dX7_digested_100 rfl cd_X2_sha rfl rfl fp_X7_digested_X2_sha K (fun h47 eh47 wh47 K => ?_) (fun x h1 _ _ e => Tw.out rfl e)
            refine r_goto (pc := 103) (tgt := 158) dX7_digested_103 rfl ?_
            refine r_aload_n (pc := 158) dX7_digested_158 rfl ?_
            refine r_aload_n (pc := 159) dX7_digested_159 rfl ?_
            have hk49 := kd_ext eh47 hk41 (nz rfl)
            have hv50 := fr_self (key := 7011) hk41
            have hv51 := (fr_ext (key := 7011) eh47 hk41 (nz rfl) (ne0 wh47 hk49 (nz rfl)) (nm rfl)).trans hv50
            refine r_getr' (pc := 160) (T := TX7) 7 11 hv51 hk49 (Or.inl q509) dX7_digested_160 kc7 g7011 ?_
            refine r_iconst (pc := 163) (x := 0) dX7_digested_163 rfl ?_
            refine r_iload_n (pc := 164) dX7_digested_164 rfl ?_
            have hk54 := kd_ext eh47 hk43 (nz rfl)
            refine r_callV_R (pc := 165) (Y := mX22_set) (vs := [_, _, _]) (st := []) hk54 rfl kc22 q1303 q1304 q1305 dX7_digested_165 rfl cd_X22_set rfl rfl fp_X7_digested_X22_set K (fun x52 h53 eh53 wh53 K => ?_) (fun x h1 _ _ e => Tw.out rfl e)
            refine r_pop (pc := 168) rfl dX7_digested_168 ?_
            exact r_vret (pc := 169) rfl dX7_digested_169 K
        · have K := K.2 c10
          refine r_aload_n (pc := 51) dX7_digested_51 rfl ?_
          have hk55 := kd_ext eh6 hk7 (nz rfl)
          have K := K _ rfl
          refine r_getr' (pc := 52) (T := TX7) 7 0 rfl hk55 (Or.inl q498) dX7_digested_52 kc7 g7000 ?_
          refine r_aload_n (pc := 55) dX7_digested_55 rfl ?_
          obtain ⟨hk57, K⟩ := K
          have K := K _ rfl
          refine r_getr' (pc := 56) (T := TX22) 22 0 rfl hk57 (Or.inr (Or.inl ⟨_, q1293⟩)) dX7_digested_56 kc22 g22000 ?_
          refine r_iconst (pc := 59) (x := 0) dX7_digested_59 rfl ?_
          refine r_aload_n (pc := 60) dX7_digested_60 rfl ?_
          refine r_geti' (pc := 61) (T := TX22) 22 1 rfl hk57 (Or.inr (Or.inl ⟨_, q1296⟩)) dX7_digested_61 kc22 g22001 ?_
          refine r_aload_n (pc := 64) dX7_digested_64 rfl ?_
          have K := K _ rfl
          refine r_getr' (pc := 65) (T := TX7) 7 11 rfl hk55 (Or.inl q509) dX7_digested_65 kc7 g7011 ?_
          refine r_iconst (pc := 68) (x := 0) dX7_digested_68 rfl ?_
          obtain ⟨hk62, K⟩ := K
          refine r_callV_V (pc := 69) (Y := mX2_ripe) (vs := [_, _, _, _, _]) (st := []) hk62 rfl kc2 q1523 q1524 q1525 dX7_digested_69 rfl cd_X2_ripe rfl rfl fp_X7_digested_X2_ripe K (fun h61 eh61 wh61 K => ?_) (fun x h1 _ _ e => Tw.out rfl e)
          refine r_goto (pc := 72) (tgt := 158) dX7_digested_72 rfl ?_
          refine r_aload_n (pc := 158) dX7_digested_158 rfl ?_
          refine r_aload_n (pc := 159) dX7_digested_159 rfl ?_
          have hk63 := kd_ext eh61 hk55 (nz rfl)
          have hv64 := fr_self (key := 7011) hk55
          have hv65 := (fr_ext (key := 7011) eh61 hk55 (nz rfl) (ne0 wh61 hk63 (nz rfl)) (nm rfl)).trans hv64
          refine r_getr' (pc := 160) (T := TX7) 7 11 hv65 hk63 (Or.inl q509) dX7_digested_160 kc7 g7011 ?_
          refine r_iconst (pc := 163) (x := 0) dX7_digested_163 rfl ?_
          refine r_iload_n (pc := 164) dX7_digested_164 rfl ?_
          have hk68 := kd_ext eh61 hk57 (nz rfl)
          refine r_callV_R (pc := 165) (Y := mX22_set) (vs := [_, _, _]) (st := []) hk68 rfl kc22 q1303 q1304 q1305 dX7_digested_165 rfl cd_X22_set rfl rfl fp_X7_digested_X22_set K (fun x66 h67 eh67 wh67 K => ?_) (fun x h1 _ _ e => Tw.out rfl e)
          refine r_pop (pc := 168) rfl dX7_digested_168 ?_
          exact r_vret (pc := 169) rfl dX7_digested_169 K
      · have K := K.2 c9
        refine r_mask (pc := 36) [true, true, true, false] rfl ?_
        exact K
  · have K := K.2 c1
    refine r_iconst (pc := 8) (x := 1) dX7_digested_8 rfl ?_
    refine r_goto (pc := 9) (tgt := 13) dX7_digested_9 rfl ?_
    obtain ⟨hk71, K⟩ := K
    refine r_callV_V (pc := 13) (Y := mX7_need) (vs := [_]) (st := []) hk71 rfl kc7 q1272 q1274 qs14 dX7_digested_13 rfl cd_X7_need rfl rfl fp_X7_digested_X7_need K (fun h70 eh70 wh70 K => ?_) (fun x h1 _ _ e => Tw.out rfl e)
    refine r_aload_n (pc := 16) dX7_digested_16 rfl ?_
    refine r_iconst (pc := 17) (x := 0) dX7_digested_17 rfl ?_
    have hk74 := kd_ext eh70 hk71 (nz rfl)
    refine r_callV_R (pc := 18) (Y := mX7_top) (vs := [_]) (st := []) hk74 rfl kc7 q1311 q1313 qs17 dX7_digested_18 rfl cd_X7_top rfl rfl fp_X7_digested_X7_top K (fun x72 h73 eh73 wh73 K => ?_) (fun x h1 _ _ e => Tw.out rfl e)
    refine r_astore_n (pc := 21) (lv' := [_, _, _, _]) dX7_digested_21 (by decide) rfl ?_
    refine r_iload_n (pc := 22) dX7_digested_22 rfl ?_
    refine r_sipush (pc := 23) (x := 168) dX7_digested_23 rfl ?_
    refine r_icmp_eq (pc := 26) (tgt := 36) dX7_digested_26 rfl (fun c75 => ?_) (fun c75 => ?_)
    · have K := K.1 c75
      refine r_mask (pc := 36) [true, true, true, false] rfl ?_
      exact K
    · have K := K.2 c75
      refine r_iload_n (pc := 29) dX7_digested_29 rfl ?_
      refine r_sipush (pc := 30) (x := 170) dX7_digested_30 rfl ?_
      refine r_icmp_ne (pc := 33) (tgt := 41) dX7_digested_33 rfl (fun c76 => ?_) (fun c76 => ?_)
      · have K := K.1 c76
        refine r_bipush (pc := 41) (x := 20) dX7_digested_41 rfl ?_
        refine r_istore_n (pc := 43) (lv' := [_, _, _, _]) dX7_digested_43 (by decide) rfl ?_
        refine r_iload_n (pc := 44) dX7_digested_44 rfl ?_
        refine r_sipush (pc := 45) (x := 166) dX7_digested_45 rfl ?_
        refine r_icmp_ne (pc := 48) (tgt := 75) dX7_digested_48 rfl (fun c77 => ?_) (fun c77 => ?_)
        · have K := K.1 c77
          refine r_iload_n (pc := 75) dX7_digested_75 rfl ?_
          refine r_sipush (pc := 76) (x := 168) dX7_digested_76 rfl ?_
          refine r_icmp_ne (pc := 79) (tgt := 106) dX7_digested_79 rfl (fun c78 => ?_) (fun c78 => ?_)
          · have K := K.1 c78
            refine r_iload_n (pc := 106) dX7_digested_106 rfl ?_
            refine r_sipush (pc := 107) (x := 169) dX7_digested_107 rfl ?_
            refine r_icmp_ne (pc := 110) (tgt := 137) dX7_digested_110 rfl (fun c79 => ?_) (fun c79 => ?_)
            · have K := K.1 c79
              refine r_aload_n (pc := 137) dX7_digested_137 rfl ?_
              have hk80 := kd_ext eh73 hk74 (nz rfl)
              have K := K _ rfl
              refine r_getr' (pc := 138) (T := TX7) 7 0 rfl hk80 (Or.inl q498) dX7_digested_138 kc7 g7000 ?_
              refine r_aload_n (pc := 141) dX7_digested_141 rfl ?_
              obtain ⟨hk82, K⟩ := K
              have K := K _ rfl
              refine r_getr' (pc := 142) (T := TX22) 22 0 rfl hk82 (Or.inr (Or.inl ⟨_, q1293⟩)) dX7_digested_142 kc22 g22000 ?_
              refine r_iconst (pc := 145) (x := 0) dX7_digested_145 rfl ?_
              refine r_aload_n (pc := 146) dX7_digested_146 rfl ?_
              refine r_geti' (pc := 147) (T := TX22) 22 1 rfl hk82 (Or.inr (Or.inl ⟨_, q1296⟩)) dX7_digested_147 kc22 g22001 ?_
              refine r_aload_n (pc := 150) dX7_digested_150 rfl ?_
              have K := K _ rfl
              refine r_getr' (pc := 151) (T := TX7) 7 11 rfl hk80 (Or.inl q509) dX7_digested_151 kc7 g7011 ?_
              refine r_iconst (pc := 154) (x := 0) dX7_digested_154 rfl ?_
              obtain ⟨hk87, K⟩ := K
              refine r_callV_V (pc := 155) (Y := mX2_twice) (vs := [_, _, _, _, _]) (st := []) hk87 rfl kc2 q1538 q886 q887 dX7_digested_155 rfl cd_X2_twice rfl rfl fp_X7_digested_X2_twice K (fun h86 eh86 wh86 K => ?_) (fun x h1 _ _ e => Tw.out rfl e)
              refine r_aload_n (pc := 158) dX7_digested_158 rfl ?_
              refine r_aload_n (pc := 159) dX7_digested_159 rfl ?_
              have hk88 := kd_ext eh86 hk80 (nz rfl)
              have hv89 := fr_self (key := 7011) hk80
              have hv90 := (fr_ext (key := 7011) eh86 hk80 (nz rfl) (ne0 wh86 hk88 (nz rfl)) (nm rfl)).trans hv89
              refine r_getr' (pc := 160) (T := TX7) 7 11 hv90 hk88 (Or.inl q509) dX7_digested_160 kc7 g7011 ?_
              refine r_iconst (pc := 163) (x := 0) dX7_digested_163 rfl ?_
              refine r_iload_n (pc := 164) dX7_digested_164 rfl ?_
              have hk93 := kd_ext eh86 hk82 (nz rfl)
              refine r_callV_R (pc := 165) (Y := mX22_set) (vs := [_, _, _]) (st := []) hk93 rfl kc22 q1303 q1304 q1305 dX7_digested_165 rfl cd_X22_set rfl rfl fp_X7_digested_X22_set K (fun x91 h92 eh92 wh92 K => ?_) (fun x h1 _ _ e => Tw.out rfl e)
              refine r_pop (pc := 168) rfl dX7_digested_168 ?_
              exact r_vret (pc := 169) rfl dX7_digested_169 K
            · have K := K.2 c79
              refine r_aload_n (pc := 113) dX7_digested_113 rfl ?_
              have hk94 := kd_ext eh73 hk74 (nz rfl)
              have K := K _ rfl
              refine r_getr' (pc := 114) (T := TX7) 7 0 rfl hk94 (Or.inl q498) dX7_digested_114 kc7 g7000 ?_
              refine r_aload_n (pc := 117) dX7_digested_117 rfl ?_
              obtain ⟨hk96, K⟩ := K
              have K := K _ rfl
              refine r_getr' (pc := 118) (T := TX22) 22 0 rfl hk96 (Or.inr (Or.inl ⟨_, q1293⟩)) dX7_digested_118 kc22 g22000 ?_
              refine r_iconst (pc := 121) (x := 0) dX7_digested_121 rfl ?_
              refine r_aload_n (pc := 122) dX7_digested_122 rfl ?_
              refine r_geti' (pc := 123) (T := TX22) 22 1 rfl hk96 (Or.inr (Or.inl ⟨_, q1296⟩)) dX7_digested_123 kc22 g22001 ?_
              refine r_aload_n (pc := 126) dX7_digested_126 rfl ?_
              have K := K _ rfl
              refine r_getr' (pc := 127) (T := TX7) 7 11 rfl hk94 (Or.inl q509) dX7_digested_127 kc7 g7011 ?_
              refine r_iconst (pc := 130) (x := 0) dX7_digested_130 rfl ?_
              obtain ⟨hk101, K⟩ := K
              refine r_callV_V (pc := 131) (Y := mX2_hash160) (vs := [_, _, _, _, _]) (st := []) hk101 rfl kc2 q1533 q1534 q1535 dX7_digested_131 rfl cd_X2_hash160 rfl rfl fp_X7_digested_X2_hash160 K (fun h100 eh100 wh100 K => ?_) (fun x h1 _ _ e => Tw.out rfl e)
              refine r_goto (pc := 134) (tgt := 158) dX7_digested_134 rfl ?_
              refine r_aload_n (pc := 158) dX7_digested_158 rfl ?_
              refine r_aload_n (pc := 159) dX7_digested_159 rfl ?_
              have hk102 := kd_ext eh100 hk94 (nz rfl)
              have hv103 := fr_self (key := 7011) hk94
              have hv104 := (fr_ext (key := 7011) eh100 hk94 (nz rfl) (ne0 wh100 hk102 (nz rfl)) (nm rfl)).trans hv103
              refine r_getr' (pc := 160) (T := TX7) 7 11 hv104 hk102 (Or.inl q509) dX7_digested_160 kc7 g7011 ?_
              refine r_iconst (pc := 163) (x := 0) dX7_digested_163 rfl ?_
              refine r_iload_n (pc := 164) dX7_digested_164 rfl ?_
              have hk107 := kd_ext eh100 hk96 (nz rfl)
              refine r_callV_R (pc := 165) (Y := mX22_set) (vs := [_, _, _]) (st := []) hk107 rfl kc22 q1303 q1304 q1305 dX7_digested_165 rfl cd_X22_set rfl rfl fp_X7_digested_X22_set K (fun x105 h106 eh106 wh106 K => ?_) (fun x h1 _ _ e => Tw.out rfl e)
              refine r_pop (pc := 168) rfl dX7_digested_168 ?_
              exact r_vret (pc := 169) rfl dX7_digested_169 K
          · have K := K.2 c78
            refine r_aload_n (pc := 82) dX7_digested_82 rfl ?_
            have hk108 := kd_ext eh73 hk74 (nz rfl)
            have K := K _ rfl
            refine r_getr' (pc := 83) (T := TX7) 7 0 rfl hk108 (Or.inl q498) dX7_digested_83 kc7 g7000 ?_
            refine r_aload_n (pc := 86) dX7_digested_86 rfl ?_
            obtain ⟨hk110, K⟩ := K
            have K := K _ rfl
            refine r_getr' (pc := 87) (T := TX22) 22 0 rfl hk110 (Or.inr (Or.inl ⟨_, q1293⟩)) dX7_digested_87 kc22 g22000 ?_
            refine r_iconst (pc := 90) (x := 0) dX7_digested_90 rfl ?_
            refine r_aload_n (pc := 91) dX7_digested_91 rfl ?_
            refine r_geti' (pc := 92) (T := TX22) 22 1 rfl hk110 (Or.inr (Or.inl ⟨_, q1296⟩)) dX7_digested_92 kc22 g22001 ?_
            refine r_aload_n (pc := 95) dX7_digested_95 rfl ?_
            have K := K _ rfl
            refine r_getr' (pc := 96) (T := TX7) 7 11 rfl hk108 (Or.inl q509) dX7_digested_96 kc7 g7011 ?_
            refine r_iconst (pc := 99) (x := 0) dX7_digested_99 rfl ?_
            obtain ⟨hk115, K⟩ := K
            refine r_callV_V (pc := 100) (Y := mX2_sha) (vs := [_, _, _, _, _]) (st := []) hk115 rfl kc2 q1532 q890 q891 dX7_digested_100 rfl cd_X2_sha rfl rfl fp_X7_digested_X2_sha K (fun h114 eh114 wh114 K => ?_) (fun x h1 _ _ e => Tw.out rfl e)
            refine r_goto (pc := 103) (tgt := 158) dX7_digested_103 rfl ?_
            refine r_aload_n (pc := 158) dX7_digested_158 rfl ?_
            refine r_aload_n (pc := 159) dX7_digested_159 rfl ?_
            have hk116 := kd_ext eh114 hk108 (nz rfl)
            have hv117 := fr_self (key := 7011) hk108
            have hv118 := (fr_ext (key := 7011) eh114 hk108 (nz rfl) (ne0 wh114 hk116 (nz rfl)) (nm rfl)).trans hv117
            refine r_getr' (pc := 160) (T := TX7) 7 11 hv118 hk116 (Or.inl q509) dX7_digested_160 kc7 g7011 ?_
            refine r_iconst (pc := 163) (x := 0) dX7_digested_163 rfl ?_
            refine r_iload_n (pc := 164) dX7_digested_164 rfl ?_
            have hk121 := kd_ext eh114 hk110 (nz rfl)
            refine r_callV_R (pc := 165) (Y := mX22_set) (vs := [_, _, _]) (st := []) hk121 rfl kc22 q1303 q1304 q1305 dX7_digested_165 rfl cd_X22_set rfl rfl fp_X7_digested_X22_set K (fun x119 h120 eh120 wh120 K => ?_) (fun x h1 _ _ e => Tw.out rfl e)
            refine r_pop (pc := 168) rfl dX7_digested_168 ?_
            exact r_vret (pc := 169) rfl dX7_digested_169 K
        · have K := K.2 c77
          refine r_aload_n (pc := 51) dX7_digested_51 rfl ?_
          have hk122 := kd_ext eh73 hk74 (nz rfl)
          have K := K _ rfl
          refine r_getr' (pc := 52) (T := TX7) 7 0 rfl hk122 (Or.inl q498) dX7_digested_52 kc7 g7000 ?_
          refine r_aload_n (pc := 55) dX7_digested_55 rfl ?_
          obtain ⟨hk124, K⟩ := K
          have K := K _ rfl
          refine r_getr' (pc := 56) (T := TX22) 22 0 rfl hk124 (Or.inr (Or.inl ⟨_, q1293⟩)) dX7_digested_56 kc22 g22000 ?_
          refine r_iconst (pc := 59) (x := 0) dX7_digested_59 rfl ?_
          refine r_aload_n (pc := 60) dX7_digested_60 rfl ?_
          refine r_geti' (pc := 61) (T := TX22) 22 1 rfl hk124 (Or.inr (Or.inl ⟨_, q1296⟩)) dX7_digested_61 kc22 g22001 ?_
          refine r_aload_n (pc := 64) dX7_digested_64 rfl ?_
          have K := K _ rfl
          refine r_getr' (pc := 65) (T := TX7) 7 11 rfl hk122 (Or.inl q509) dX7_digested_65 kc7 g7011 ?_
          refine r_iconst (pc := 68) (x := 0) dX7_digested_68 rfl ?_
          obtain ⟨hk129, K⟩ := K
          refine r_callV_V (pc := 69) (Y := mX2_ripe) (vs := [_, _, _, _, _]) (st := []) hk129 rfl kc2 q1523 q1524 q1525 dX7_digested_69 rfl cd_X2_ripe rfl rfl fp_X7_digested_X2_ripe K (fun h128 eh128 wh128 K => ?_) (fun x h1 _ _ e => Tw.out rfl e)
          refine r_goto (pc := 72) (tgt := 158) dX7_digested_72 rfl ?_
          refine r_aload_n (pc := 158) dX7_digested_158 rfl ?_
          refine r_aload_n (pc := 159) dX7_digested_159 rfl ?_
          have hk130 := kd_ext eh128 hk122 (nz rfl)
          have hv131 := fr_self (key := 7011) hk122
          have hv132 := (fr_ext (key := 7011) eh128 hk122 (nz rfl) (ne0 wh128 hk130 (nz rfl)) (nm rfl)).trans hv131
          refine r_getr' (pc := 160) (T := TX7) 7 11 hv132 hk130 (Or.inl q509) dX7_digested_160 kc7 g7011 ?_
          refine r_iconst (pc := 163) (x := 0) dX7_digested_163 rfl ?_
          refine r_iload_n (pc := 164) dX7_digested_164 rfl ?_
          have hk135 := kd_ext eh128 hk124 (nz rfl)
          refine r_callV_R (pc := 165) (Y := mX22_set) (vs := [_, _, _]) (st := []) hk135 rfl kc22 q1303 q1304 q1305 dX7_digested_165 rfl cd_X22_set rfl rfl fp_X7_digested_X22_set K (fun x133 h134 eh134 wh134 K => ?_) (fun x h1 _ _ e => Tw.out rfl e)
          refine r_pop (pc := 168) rfl dX7_digested_168 ?_
          exact r_vret (pc := 169) rfl dX7_digested_169 K
      · have K := K.2 c76
        refine r_mask (pc := 36) [true, true, true, false] rfl ?_
        exact K
theorem eX7_digested {G : Gx} {d : Nat} {Φ : Out → AH → Prop} (h : AH) (v0 : Nat) (v1 : Int32) (K : WF G h → Aw G mX7_digested (d + 1) 0 h Φ 0 [vR v0, vI v1, vU, vU] [] h) : Cw G mX7_digested (d + 1) 0 [vR v0, vI v1] h Φ := Cw.of rfl K
set_option maxHeartbeats 4000000 in
theorem sX7_digested_36 {G : Gx} {d t : Nat} {h0 : AH} {Φ : Out → AH → Prop} (h : AH) (v0 : Nat) (v1 : Int32) (v2 : Nat) (K : ((¬ v1 = 166 → ((¬ v1 = 168 → ((¬ v1 = 169 → h.kd v0 = 7 ∧ ∀ r5 : Nat, r5 = (h.r 7000 v0) → h.kd v2 = 22 ∧ ∀ r7 : Nat, r7 = (h.r 22000 v2) → ∀ r8 : Nat, r8 = (h.r 7011 v0) → h.kd r5 = 2 ∧ Cw G mX2_twice d 0 [vR r5, vR r7, vI 0, vI (h.i 22001 v2), vR r8, vI 0] h (kV (fun h10 => Cw G mX22_set d 0 [vR v2, vR r8, vI 0, vI 32] h10 (kR (fun x15 h16 => Φ (.inl none) h16) (fun x h => Φ (.inr x) h))) (fun x h => Φ (.inr x) h))) ∧ (v1 = 169 → h.kd v0 = 7 ∧ ∀ r19 : Nat, r19 = (h.r 7000 v0) → h.kd v2 = 22 ∧ ∀ r21 : Nat, r21 = (h.r 22000 v2) → ∀ r22 : Nat, r22 = (h.r 7011 v0) → h.kd r19 = 2 ∧ Cw G mX2_hash160 d 0 [vR r19, vR r21, vI 0, vI (h.i 22001 v2), vR r22, vI 0] h (kV (fun h24 => Cw G mX22_set d 0 [vR v2, vR r22, vI 0, vI 32] h24 (kR (fun x29 h30 => Φ (.inl none) h30) (fun x h => Φ (.inr x) h))) (fun x h => Φ (.inr x) h))))) ∧ (v1 = 168 → h.kd v0 = 7 ∧ ∀ r33 : Nat, r33 = (h.r 7000 v0) → h.kd v2 = 22 ∧ ∀ r35 : Nat, r35 = (h.r 22000 v2) → ∀ r36 : Nat, r36 = (h.r 7011 v0) → h.kd r33 = 2 ∧ Cw G mX2_sha d 0 [vR r33, vR r35, vI 0, vI (h.i 22001 v2), vR r36, vI 0] h (kV (fun h38 => Cw G mX22_set d 0 [vR v2, vR r36, vI 0, vI 32] h38 (kR (fun x43 h44 => Φ (.inl none) h44) (fun x h => Φ (.inr x) h))) (fun x h => Φ (.inr x) h))))) ∧ (v1 = 166 → h.kd v0 = 7 ∧ ∀ r47 : Nat, r47 = (h.r 7000 v0) → h.kd v2 = 22 ∧ ∀ r49 : Nat, r49 = (h.r 22000 v2) → ∀ r50 : Nat, r50 = (h.r 7011 v0) → h.kd r47 = 2 ∧ Cw G mX2_ripe d 0 [vR r47, vR r49, vI 0, vI (h.i 22001 v2), vR r50, vI 0] h (kV (fun h52 => Cw G mX22_set d 0 [vR v2, vR r50, vI 0, vI 32] h52 (kR (fun x57 h58 => Φ (.inl none) h58) (fun x h => Φ (.inr x) h))) (fun x h => Φ (.inr x) h))))) : Aw G mX7_digested (d + 1) t h0 Φ 36 [vR v0, vI v1, vR v2, vU] [] h := by
  refine r_bipush (pc := 36) (x := 32) dX7_digested_36 rfl ?_
  refine r_goto (pc := 38) (tgt := 43) dX7_digested_38 rfl ?_
  refine r_istore_n (pc := 43) (lv' := [_, _, _, _]) dX7_digested_43 (by decide) rfl ?_
  refine r_iload_n (pc := 44) dX7_digested_44 rfl ?_
  refine r_sipush (pc := 45) (x := 166) dX7_digested_45 rfl ?_
  refine r_icmp_ne (pc := 48) (tgt := 75) dX7_digested_48 rfl (fun c1 => ?_) (fun c1 => ?_)
  · have K := K.1 c1
    refine r_iload_n (pc := 75) dX7_digested_75 rfl ?_
    refine r_sipush (pc := 76) (x := 168) dX7_digested_76 rfl ?_
    refine r_icmp_ne (pc := 79) (tgt := 106) dX7_digested_79 rfl (fun c2 => ?_) (fun c2 => ?_)
    · have K := K.1 c2
      refine r_iload_n (pc := 106) dX7_digested_106 rfl ?_
      refine r_sipush (pc := 107) (x := 169) dX7_digested_107 rfl ?_
      refine r_icmp_ne (pc := 110) (tgt := 137) dX7_digested_110 rfl (fun c3 => ?_) (fun c3 => ?_)
      · have K := K.1 c3
        refine r_aload_n (pc := 137) dX7_digested_137 rfl ?_
        obtain ⟨hk4, K⟩ := K
        have K := K _ rfl
        refine r_getr' (pc := 138) (T := TX7) 7 0 rfl hk4 (Or.inl q498) dX7_digested_138 kc7 g7000 ?_
        refine r_aload_n (pc := 141) dX7_digested_141 rfl ?_
        obtain ⟨hk6, K⟩ := K
        have K := K _ rfl
        refine r_getr' (pc := 142) (T := TX22) 22 0 rfl hk6 (Or.inr (Or.inl ⟨_, q1293⟩)) dX7_digested_142 kc22 g22000 ?_
        refine r_iconst (pc := 145) (x := 0) dX7_digested_145 rfl ?_
        refine r_aload_n (pc := 146) dX7_digested_146 rfl ?_
        refine r_geti' (pc := 147) (T := TX22) 22 1 rfl hk6 (Or.inr (Or.inl ⟨_, q1296⟩)) dX7_digested_147 kc22 g22001 ?_
        refine r_aload_n (pc := 150) dX7_digested_150 rfl ?_
        have K := K _ rfl
        refine r_getr' (pc := 151) (T := TX7) 7 11 rfl hk4 (Or.inl q509) dX7_digested_151 kc7 g7011 ?_
        refine r_iconst (pc := 154) (x := 0) dX7_digested_154 rfl ?_
        obtain ⟨hk11, K⟩ := K
        refine r_callV_V (pc := 155) (Y := mX2_twice) (vs := [_, _, _, _, _]) (st := []) hk11 rfl kc2 q1538 q886 q887 dX7_digested_155 rfl cd_X2_twice rfl rfl fp_X7_digested_X2_twice K (fun h10 eh10 wh10 K => ?_) (fun x h1 _ _ e => Tw.out rfl e)
        refine r_aload_n (pc := 158) dX7_digested_158 rfl ?_
        refine r_aload_n (pc := 159) dX7_digested_159 rfl ?_
        have hk12 := kd_ext eh10 hk4 (nz rfl)
        have hv13 := fr_self (key := 7011) hk4
        have hv14 := (fr_ext (key := 7011) eh10 hk4 (nz rfl) (ne0 wh10 hk12 (nz rfl)) (nm rfl)).trans hv13
        refine r_getr' (pc := 160) (T := TX7) 7 11 hv14 hk12 (Or.inl q509) dX7_digested_160 kc7 g7011 ?_
        refine r_iconst (pc := 163) (x := 0) dX7_digested_163 rfl ?_
        refine r_iload_n (pc := 164) dX7_digested_164 rfl ?_
        have hk17 := kd_ext eh10 hk6 (nz rfl)
        refine r_callV_R (pc := 165) (Y := mX22_set) (vs := [_, _, _]) (st := []) hk17 rfl kc22 q1303 q1304 q1305 dX7_digested_165 rfl cd_X22_set rfl rfl fp_X7_digested_X22_set K (fun x15 h16 eh16 wh16 K => ?_) (fun x h1 _ _ e => Tw.out rfl e)
        refine r_pop (pc := 168) rfl dX7_digested_168 ?_
        exact r_vret (pc := 169) rfl dX7_digested_169 K
      · have K := K.2 c3
        refine r_aload_n (pc := 113) dX7_digested_113 rfl ?_
        obtain ⟨hk18, K⟩ := K
        have K := K _ rfl
        refine r_getr' (pc := 114) (T := TX7) 7 0 rfl hk18 (Or.inl q498) dX7_digested_114 kc7 g7000 ?_
        refine r_aload_n (pc := 117) dX7_digested_117 rfl ?_
        obtain ⟨hk20, K⟩ := K
        have K := K _ rfl
        refine r_getr' (pc := 118) (T := TX22) 22 0 rfl hk20 (Or.inr (Or.inl ⟨_, q1293⟩)) dX7_digested_118 kc22 g22000 ?_
        refine r_iconst (pc := 121) (x := 0) dX7_digested_121 rfl ?_
        refine r_aload_n (pc := 122) dX7_digested_122 rfl ?_
        refine r_geti' (pc := 123) (T := TX22) 22 1 rfl hk20 (Or.inr (Or.inl ⟨_, q1296⟩)) dX7_digested_123 kc22 g22001 ?_
        refine r_aload_n (pc := 126) dX7_digested_126 rfl ?_
        have K := K _ rfl
        refine r_getr' (pc := 127) (T := TX7) 7 11 rfl hk18 (Or.inl q509) dX7_digested_127 kc7 g7011 ?_
        refine r_iconst (pc := 130) (x := 0) dX7_digested_130 rfl ?_
        obtain ⟨hk25, K⟩ := K
        refine r_callV_V (pc := 131) (Y := mX2_hash160) (vs := [_, _, _, _, _]) (st := []) hk25 rfl kc2 q1533 q1534 q1535 dX7_digested_131 rfl cd_X2_hash160 rfl rfl fp_X7_digested_X2_hash160 K (fun h24 eh24 wh24 K => ?_) (fun x h1 _ _ e => Tw.out rfl e)
        refine r_goto (pc := 134) (tgt := 158) dX7_digested_134 rfl ?_
        refine r_aload_n (pc := 158) dX7_digested_158 rfl ?_
        refine r_aload_n (pc := 159) dX7_digested_159 rfl ?_
        have hk26 := kd_ext eh24 hk18 (nz rfl)
        have hv27 := fr_self (key := 7011) hk18
        have hv28 := (fr_ext (key := 7011) eh24 hk18 (nz rfl) (ne0 wh24 hk26 (nz rfl)) (nm rfl)).trans hv27
        refine r_getr' (pc := 160) (T := TX7) 7 11 hv28 hk26 (Or.inl q509) dX7_digested_160 kc7 g7011 ?_
        refine r_iconst (pc := 163) (x := 0) dX7_digested_163 rfl ?_
        refine r_iload_n (pc := 164) dX7_digested_164 rfl ?_
        have hk31 := kd_ext eh24 hk20 (nz rfl)
        refine r_callV_R (pc := 165) (Y := mX22_set) (vs := [_, _, _]) (st := []) hk31 rfl kc22 q1303 q1304 q1305 dX7_digested_165 rfl cd_X22_set rfl rfl fp_X7_digested_X22_set K (fun x29 h30 eh30 wh30 K => ?_) (fun x h1 _ _ e => Tw.out rfl e)
        refine r_pop (pc := 168) rfl dX7_digested_168 ?_
        exact r_vret (pc := 169) rfl dX7_digested_169 K
    · have K := K.2 c2
      refine r_aload_n (pc := 82) dX7_digested_82 rfl ?_
      obtain ⟨hk32, K⟩ := K
      have K := K _ rfl
      refine r_getr' (pc := 83) (T := TX7) 7 0 rfl hk32 (Or.inl q498) dX7_digested_83 kc7 g7000 ?_
      refine r_aload_n (pc := 86) dX7_digested_86 rfl ?_
      obtain ⟨hk34, K⟩ := K
      have K := K _ rfl
      refine r_getr' (pc := 87) (T := TX22) 22 0 rfl hk34 (Or.inr (Or.inl ⟨_, q1293⟩)) dX7_digested_87 kc22 g22000 ?_
      refine r_iconst (pc := 90) (x := 0) dX7_digested_90 rfl ?_
      refine r_aload_n (pc := 91) dX7_digested_91 rfl ?_
      refine r_geti' (pc := 92) (T := TX22) 22 1 rfl hk34 (Or.inr (Or.inl ⟨_, q1296⟩)) dX7_digested_92 kc22 g22001 ?_
      refine r_aload_n (pc := 95) dX7_digested_95 rfl ?_
      have K := K _ rfl
      refine r_getr' (pc := 96) (T := TX7) 7 11 rfl hk32 (Or.inl q509) dX7_digested_96 kc7 g7011 ?_
      refine r_iconst (pc := 99) (x := 0) dX7_digested_99 rfl ?_
      obtain ⟨hk39, K⟩ := K
      refine r_callV_V (pc := 100) (Y := mX2_sha) (vs := [_, _, _, _, _]) (st := []) hk39 rfl kc2 q1532 q890 q891 dX7_digested_100 rfl cd_X2_sha rfl rfl fp_X7_digested_X2_sha K (fun h38 eh38 wh38 K => ?_) (fun x h1 _ _ e => Tw.out rfl e)
      refine r_goto (pc := 103) (tgt := 158) dX7_digested_103 rfl ?_
      refine r_aload_n (pc := 158) dX7_digested_158 rfl ?_
      refine r_aload_n (pc := 159) dX7_digested_159 rfl ?_
      have hk40 := kd_ext eh38 hk32 (nz rfl)
      have hv41 := fr_self (key := 7011) hk32
      have hv42 := (fr_ext (key := 7011) eh38 hk32 (nz rfl) (ne0 wh38 hk40 (nz rfl)) (nm rfl)).trans hv41
      refine r_getr' (pc := 160) (T := TX7) 7 11 hv42 hk40 (Or.inl q509) dX7_digested_160 kc7 g7011 ?_
      refine r_iconst (pc := 163) (x := 0) dX7_digested_163 rfl ?_
      refine r_iload_n (pc := 164) dX7_digested_164 rfl ?_
      have hk45 := kd_ext eh38 hk34 (nz rfl)
      refine r_callV_R (pc := 165) (Y := mX22_set) (vs := [_, _, _]) (st := []) hk45 rfl kc22 q1303 q1304 q1305 dX7_digested_165 rfl cd_X22_set rfl rfl fp_X7_digested_X22_set K (fun x43 h44 eh44 wh44 K => ?_) (fun x h1 _ _ e => Tw.out rfl e)
      refine r_pop (pc := 168) rfl dX7_digested_168 ?_
      exact r_vret (pc := 169) rfl dX7_digested_169 K
  · have K := K.2 c1
    refine r_aload_n (pc := 51) dX7_digested_51 rfl ?_
    obtain ⟨hk46, K⟩ := K
    have K := K _ rfl
    refine r_getr' (pc := 52) (T := TX7) 7 0 rfl hk46 (Or.inl q498) dX7_digested_52 kc7 g7000 ?_
    refine r_aload_n (pc := 55) dX7_digested_55 rfl ?_
    obtain ⟨hk48, K⟩ := K
    have K := K _ rfl
    refine r_getr' (pc := 56) (T := TX22) 22 0 rfl hk48 (Or.inr (Or.inl ⟨_, q1293⟩)) dX7_digested_56 kc22 g22000 ?_
    refine r_iconst (pc := 59) (x := 0) dX7_digested_59 rfl ?_
    refine r_aload_n (pc := 60) dX7_digested_60 rfl ?_
    refine r_geti' (pc := 61) (T := TX22) 22 1 rfl hk48 (Or.inr (Or.inl ⟨_, q1296⟩)) dX7_digested_61 kc22 g22001 ?_
    refine r_aload_n (pc := 64) dX7_digested_64 rfl ?_
    have K := K _ rfl
    refine r_getr' (pc := 65) (T := TX7) 7 11 rfl hk46 (Or.inl q509) dX7_digested_65 kc7 g7011 ?_
    refine r_iconst (pc := 68) (x := 0) dX7_digested_68 rfl ?_
    obtain ⟨hk53, K⟩ := K
    refine r_callV_V (pc := 69) (Y := mX2_ripe) (vs := [_, _, _, _, _]) (st := []) hk53 rfl kc2 q1523 q1524 q1525 dX7_digested_69 rfl cd_X2_ripe rfl rfl fp_X7_digested_X2_ripe K (fun h52 eh52 wh52 K => ?_) (fun x h1 _ _ e => Tw.out rfl e)
    refine r_goto (pc := 72) (tgt := 158) dX7_digested_72 rfl ?_
    refine r_aload_n (pc := 158) dX7_digested_158 rfl ?_
    refine r_aload_n (pc := 159) dX7_digested_159 rfl ?_
    have hk54 := kd_ext eh52 hk46 (nz rfl)
    have hv55 := fr_self (key := 7011) hk46
    have hv56 := (fr_ext (key := 7011) eh52 hk46 (nz rfl) (ne0 wh52 hk54 (nz rfl)) (nm rfl)).trans hv55
    refine r_getr' (pc := 160) (T := TX7) 7 11 hv56 hk54 (Or.inl q509) dX7_digested_160 kc7 g7011 ?_
    refine r_iconst (pc := 163) (x := 0) dX7_digested_163 rfl ?_
    refine r_iload_n (pc := 164) dX7_digested_164 rfl ?_
    have hk59 := kd_ext eh52 hk48 (nz rfl)
    refine r_callV_R (pc := 165) (Y := mX22_set) (vs := [_, _, _]) (st := []) hk59 rfl kc22 q1303 q1304 q1305 dX7_digested_165 rfl cd_X22_set rfl rfl fp_X7_digested_X22_set K (fun x57 h58 eh58 wh58 K => ?_) (fun x h1 _ _ e => Tw.out rfl e)
    refine r_pop (pc := 168) rfl dX7_digested_168 ?_
    exact r_vret (pc := 169) rfl dX7_digested_169 K
theorem dX7_later_0 : decode cX7_later 0 = .ok (.aload_n 0, 1) := by decide +kernel
theorem dX7_later_1 : decode cX7_later 1 = .ok (.iconst 0, 1) := by decide +kernel
theorem dX7_later_2 : decode cX7_later 2 = .ok (.invokevirtual 59, 3) := by decide +kernel
theorem dX7_later_5 : decode cX7_later 5 = .ok (.iconst 5, 1) := by decide +kernel
theorem dX7_later_6 : decode cX7_later 6 = .ok (.invokevirtual 149, 3) := by decide +kernel
theorem dX7_later_9 : decode cX7_later 9 = .ok (.lstore_n 2, 1) := by decide +kernel
theorem dX7_later_10 : decode cX7_later 10 = .ok (.aload_n 0, 1) := by decide +kernel
theorem dX7_later_11 : decode cX7_later 11 = .ok (.lload_n 2, 1) := by decide +kernel
theorem dX7_later_12 : decode cX7_later 12 = .ok (.lconst 0, 1) := by decide +kernel
theorem dX7_later_13 : decode cX7_later 13 = .ok (.lcmp, 1) := by decide +kernel
theorem dX7_later_14 : decode cX7_later 14 = .ok (.ifCond .lt 65, 3) := by decide +kernel
theorem dX7_later_17 : decode cX7_later 17 = .ok (.lload_n 2, 1) := by decide +kernel
theorem dX7_later_18 : decode cX7_later 18 = .ok (.ldc2_w 164, 3) := by decide +kernel
theorem dX7_later_21 : decode cX7_later 21 = .ok (.lcmp, 1) := by decide +kernel
theorem dX7_later_22 : decode cX7_later 22 = .ok (.ifCond .ge 7, 3) := by decide +kernel
theorem dX7_later_25 : decode cX7_later 25 = .ok (.iconst 1, 1) := by decide +kernel
theorem dX7_later_26 : decode cX7_later 26 = .ok (.goto 4, 3) := by decide +kernel
theorem dX7_later_29 : decode cX7_later 29 = .ok (.iconst 0, 1) := by decide +kernel
theorem dX7_later_30 : decode cX7_later 30 = .ok (.aload_n 1, 1) := by decide +kernel
theorem dX7_later_31 : decode cX7_later 31 = .ok (.invokeinterface 166 1, 5) := by decide +kernel
theorem dX7_later_36 : decode cX7_later 36 = .ok (.ldc2_w 164, 3) := by decide +kernel
theorem dX7_later_39 : decode cX7_later 39 = .ok (.lcmp, 1) := by decide +kernel
theorem dX7_later_40 : decode cX7_later 40 = .ok (.ifCond .ge 7, 3) := by decide +kernel
theorem dX7_later_43 : decode cX7_later 43 = .ok (.iconst 1, 1) := by decide +kernel
theorem dX7_later_44 : decode cX7_later 44 = .ok (.goto 4, 3) := by decide +kernel
theorem dX7_later_47 : decode cX7_later 47 = .ok (.iconst 0, 1) := by decide +kernel
theorem dX7_later_48 : decode cX7_later 48 = .ok (.if_icmp .ne 31, 3) := by decide +kernel
theorem dX7_later_51 : decode cX7_later 51 = .ok (.lload_n 2, 1) := by decide +kernel
theorem dX7_later_52 : decode cX7_later 52 = .ok (.aload_n 1, 1) := by decide +kernel
theorem dX7_later_53 : decode cX7_later 53 = .ok (.invokeinterface 166 1, 5) := by decide +kernel
theorem dX7_later_58 : decode cX7_later 58 = .ok (.lcmp, 1) := by decide +kernel
theorem dX7_later_59 : decode cX7_later 59 = .ok (.ifCond .gt 20, 3) := by decide +kernel
theorem dX7_later_62 : decode cX7_later 62 = .ok (.aload_n 1, 1) := by decide +kernel
theorem dX7_later_63 : decode cX7_later 63 = .ok (.invokeinterface 172 1, 5) := by decide +kernel
theorem dX7_later_68 : decode cX7_later 68 = .ok (.ldc2_w 175, 3) := by decide +kernel
theorem dX7_later_71 : decode cX7_later 71 = .ok (.lcmp, 1) := by decide +kernel
theorem dX7_later_72 : decode cX7_later 72 = .ok (.ifCond .eq 7, 3) := by decide +kernel
theorem dX7_later_75 : decode cX7_later 75 = .ok (.iconst 1, 1) := by decide +kernel
theorem dX7_later_76 : decode cX7_later 76 = .ok (.goto 4, 3) := by decide +kernel
theorem dX7_later_79 : decode cX7_later 79 = .ok (.iconst 0, 1) := by decide +kernel
theorem dX7_later_80 : decode cX7_later 80 = .ok (.invokevirtual 91, 3) := by decide +kernel
theorem dX7_later_83 : decode cX7_later 83 = .ok (.return_, 1) := by decide +kernel
/-! CoinJudge$Machine.later(LCoinJudge$Signed;)V -/
set_option maxHeartbeats 4000000 in
theorem sX7_later_0 {G : Gx} {d t : Nat} {h0 : AH} {Φ : Out → AH → Prop} (h : AH) (v0 : Nat) (v1 : Nat) (K : h.kd v0 = 7 ∧ Cw G mX7_top d 0 [vR v0, vI 0] h (kR (fun x1 h2 => h2.kd x1 = 22 ∧ Cw G mX22_number d 0 [vR x1, vI 5] h2 (kJ (fun x4 h5 => ((x4 < 0 → Cw G mX7_need d 0 [vR v0, vI 0] h5 (kV (fun h9 => Φ (.inl none) h9) (fun x h => Φ (.inr x) h))) ∧ (¬ x4 < 0 → ((500000000 ≤ x4 → h5.kd v1 = 8 ∧ Cw G mX8_lock d 0 [vR v1] h5 (kJ (fun x13 h14 => ((500000000 ≤ x13 → ((¬ (0 : Int32) = 0 → Cw G mX7_need d 0 [vR v0, vI 0] h14 (kV (fun h19 => Φ (.inl none) h19) (fun x h => Φ (.inr x) h))) ∧ ((0 : Int32) = 0 → Cw G mX8_lock d 0 [vR v1] h14 (kJ (fun x23 h24 => ((x23 < x4 → Cw G mX7_need d 0 [vR v0, vI 0] h24 (kV (fun h28 => Φ (.inl none) h28) (fun x h => Φ (.inr x) h))) ∧ (¬ x23 < x4 → Cw G mX8_sequence d 0 [vR v1] h24 (kJ (fun x33 h34 => ((x33 = 4294967295 → Cw G mX7_need d 0 [vR v0, vI 0] h34 (kV (fun h38 => Φ (.inl none) h38) (fun x h => Φ (.inr x) h))) ∧ (¬ x33 = 4294967295 → Cw G mX7_need d 0 [vR v0, vI 1] h34 (kV (fun h45 => Φ (.inl none) h45) (fun x h => Φ (.inr x) h))))) (fun x h => Φ (.inr x) h))))) (fun x h => Φ (.inr x) h))))) ∧ (¬ 500000000 ≤ x13 → ((¬ (0 : Int32) = 1 → Cw G mX7_need d 0 [vR v0, vI 0] h14 (kV (fun h53 => Φ (.inl none) h53) (fun x h => Φ (.inr x) h))) ∧ ((0 : Int32) = 1 → Cw G mX8_lock d 0 [vR v1] h14 (kJ (fun x57 h58 => ((x57 < x4 → Cw G mX7_need d 0 [vR v0, vI 0] h58 (kV (fun h62 => Φ (.inl none) h62) (fun x h => Φ (.inr x) h))) ∧ (¬ x57 < x4 → Cw G mX8_sequence d 0 [vR v1] h58 (kJ (fun x67 h68 => ((x67 = 4294967295 → Cw G mX7_need d 0 [vR v0, vI 0] h68 (kV (fun h72 => Φ (.inl none) h72) (fun x h => Φ (.inr x) h))) ∧ (¬ x67 = 4294967295 → Cw G mX7_need d 0 [vR v0, vI 1] h68 (kV (fun h79 => Φ (.inl none) h79) (fun x h => Φ (.inr x) h))))) (fun x h => Φ (.inr x) h))))) (fun x h => Φ (.inr x) h))))))) (fun x h => Φ (.inr x) h))) ∧ (¬ 500000000 ≤ x4 → h5.kd v1 = 8 ∧ Cw G mX8_lock d 0 [vR v1] h5 (kJ (fun x85 h86 => ((500000000 ≤ x85 → ((¬ (1 : Int32) = 0 → Cw G mX7_need d 0 [vR v0, vI 0] h86 (kV (fun h91 => Φ (.inl none) h91) (fun x h => Φ (.inr x) h))) ∧ ((1 : Int32) = 0 → Cw G mX8_lock d 0 [vR v1] h86 (kJ (fun x95 h96 => ((x95 < x4 → Cw G mX7_need d 0 [vR v0, vI 0] h96 (kV (fun h100 => Φ (.inl none) h100) (fun x h => Φ (.inr x) h))) ∧ (¬ x95 < x4 → Cw G mX8_sequence d 0 [vR v1] h96 (kJ (fun x105 h106 => ((x105 = 4294967295 → Cw G mX7_need d 0 [vR v0, vI 0] h106 (kV (fun h110 => Φ (.inl none) h110) (fun x h => Φ (.inr x) h))) ∧ (¬ x105 = 4294967295 → Cw G mX7_need d 0 [vR v0, vI 1] h106 (kV (fun h117 => Φ (.inl none) h117) (fun x h => Φ (.inr x) h))))) (fun x h => Φ (.inr x) h))))) (fun x h => Φ (.inr x) h))))) ∧ (¬ 500000000 ≤ x85 → ((¬ (1 : Int32) = 1 → Cw G mX7_need d 0 [vR v0, vI 0] h86 (kV (fun h125 => Φ (.inl none) h125) (fun x h => Φ (.inr x) h))) ∧ ((1 : Int32) = 1 → Cw G mX8_lock d 0 [vR v1] h86 (kJ (fun x129 h130 => ((x129 < x4 → Cw G mX7_need d 0 [vR v0, vI 0] h130 (kV (fun h134 => Φ (.inl none) h134) (fun x h => Φ (.inr x) h))) ∧ (¬ x129 < x4 → Cw G mX8_sequence d 0 [vR v1] h130 (kJ (fun x139 h140 => ((x139 = 4294967295 → Cw G mX7_need d 0 [vR v0, vI 0] h140 (kV (fun h144 => Φ (.inl none) h144) (fun x h => Φ (.inr x) h))) ∧ (¬ x139 = 4294967295 → Cw G mX7_need d 0 [vR v0, vI 1] h140 (kV (fun h151 => Φ (.inl none) h151) (fun x h => Φ (.inr x) h))))) (fun x h => Φ (.inr x) h))))) (fun x h => Φ (.inr x) h))))))) (fun x h => Φ (.inr x) h))))))) (fun x h => Φ (.inr x) h))) (fun x h => Φ (.inr x) h))) : Aw G mX7_later (d + 1) t h0 Φ 0 [vR v0, vR v1, vU, vU] [] h := by
  refine r_aload_n (pc := 0) dX7_later_0 rfl ?_
  refine r_iconst (pc := 1) (x := 0) dX7_later_1 rfl ?_
  obtain ⟨hk3, K⟩ := K
  refine r_callV_R (pc := 2) (Y := mX7_top) (vs := [_]) (st := []) hk3 rfl kc7 q1311 q1313 qs17 dX7_later_2 rfl cd_X7_top rfl rfl fp_X7_later_X7_top K (fun x1 h2 eh2 wh2 K => ?_) (fun x h1 _ _ e => Tw.out rfl e)
  refine r_iconst (pc := 5) (x := 5) dX7_later_5 rfl ?_
  obtain ⟨hk6, K⟩ := K
  refine r_callV_J (pc := 6) (Y := mX22_number) (vs := [_]) (st := []) hk6 rfl kc22 q1496 q1497 q1498 dX7_later_6 rfl cd_X22_number rfl rfl fp_X7_later_X22_number K (fun x4 h5 eh5 wh5 K => ?_) (fun x h1 _ _ e => Tw.out rfl e)
  refine r_lstore_n (pc := 9) (lv' := [_, _, _, _]) dX7_later_9 (by decide) rfl ?_
  refine r_aload_n (pc := 10) dX7_later_10 rfl ?_
  refine r_lload_n (pc := 11) dX7_later_11 rfl ?_
  refine r_lconst (pc := 12) (a := 0) dX7_later_12 rfl ?_
  refine r_lcmp_lt (pc := 13) (tgt := 79) dX7_later_13 dX7_later_14 rfl (fun c7 => ?_) (fun c7 => ?_)
  · have K := K.1 c7
    refine r_iconst (pc := 79) (x := 0) dX7_later_79 rfl ?_
    have hk10 := kd_ext eh2 hk3 (nz rfl)
    have hk11 := kd_ext eh5 hk10 (nz rfl)
    refine r_callV_V (pc := 80) (Y := mX7_need) (vs := [_]) (st := []) hk11 rfl kc7 q1272 q1274 qs14 dX7_later_80 rfl cd_X7_need rfl rfl fp_X7_later_X7_need K (fun h9 eh9 wh9 K => ?_) (fun x h1 _ _ e => Tw.out rfl e)
    exact r_vret (pc := 83) rfl dX7_later_83 K
  · have K := K.2 c7
    refine r_lload_n (pc := 17) dX7_later_17 rfl ?_
    refine r_ldc2 (pc := 18) dX7_later_18 q1555 ?_
    refine r_lcmp_ge (pc := 21) (tgt := 29) dX7_later_21 dX7_later_22 rfl (fun c12 => ?_) (fun c12 => ?_)
    · have K := K.1 c12
      refine r_iconst (pc := 29) (x := 0) dX7_later_29 rfl ?_
      refine r_aload_n (pc := 30) dX7_later_30 rfl ?_
      obtain ⟨hk15, K⟩ := K
      refine r_callF_J (pc := 31) (Y := mX8_lock) (vs := []) (st := [_, _]) hk15 rfl kc8 (by decide) q1557 q1562 q1560 (by decide) dX7_later_31 rfl cd_X8_lock rfl rfl fp_X7_later_X8_lock K (fun x13 h14 eh14 wh14 K => ?_) (fun x h1 _ _ e => Tw.out rfl e)
      refine r_ldc2 (pc := 36) dX7_later_36 q1555 ?_
      refine r_lcmp_ge (pc := 39) (tgt := 47) dX7_later_39 dX7_later_40 rfl (fun c16 => ?_) (fun c16 => ?_)
      · have K := K.1 c16
        refine r_iconst (pc := 47) (x := 0) dX7_later_47 rfl ?_
        refine r_icmp_ne (pc := 48) (tgt := 79) dX7_later_48 rfl (fun c17 => ?_) (fun c17 => ?_)
        · have K := K.1 c17
          refine r_iconst (pc := 79) (x := 0) dX7_later_79 rfl ?_
          have hk20 := kd_ext eh2 hk3 (nz rfl)
          have hk21 := kd_ext eh5 hk20 (nz rfl)
          have hk22 := kd_ext eh14 hk21 (nz rfl)
          refine r_callV_V (pc := 80) (Y := mX7_need) (vs := [_]) (st := []) hk22 rfl kc7 q1272 q1274 qs14 dX7_later_80 rfl cd_X7_need rfl rfl fp_X7_later_X7_need K (fun h19 eh19 wh19 K => ?_) (fun x h1 _ _ e => Tw.out rfl e)
          exact r_vret (pc := 83) rfl dX7_later_83 K
        · have K := K.2 c17
          refine r_lload_n (pc := 51) dX7_later_51 rfl ?_
          refine r_aload_n (pc := 52) dX7_later_52 rfl ?_
          have hk25 := kd_ext eh14 hk15 (nz rfl)
          refine r_callF_J (pc := 53) (Y := mX8_lock) (vs := []) (st := [_, _]) hk25 rfl kc8 (by decide) q1557 q1562 q1560 (by decide) dX7_later_53 rfl cd_X8_lock rfl rfl fp_X7_later_X8_lock K (fun x23 h24 eh24 wh24 K => ?_) (fun x h1 _ _ e => Tw.out rfl e)
          refine r_lcmp_gt (pc := 58) (tgt := 79) dX7_later_58 dX7_later_59 rfl (fun c26 => ?_) (fun c26 => ?_)
          · have K := K.1 c26
            refine r_iconst (pc := 79) (x := 0) dX7_later_79 rfl ?_
            have hk29 := kd_ext eh2 hk3 (nz rfl)
            have hk30 := kd_ext eh5 hk29 (nz rfl)
            have hk31 := kd_ext eh14 hk30 (nz rfl)
            have hk32 := kd_ext eh24 hk31 (nz rfl)
            refine r_callV_V (pc := 80) (Y := mX7_need) (vs := [_]) (st := []) hk32 rfl kc7 q1272 q1274 qs14 dX7_later_80 rfl cd_X7_need rfl rfl fp_X7_later_X7_need K (fun h28 eh28 wh28 K => ?_) (fun x h1 _ _ e => Tw.out rfl e)
            exact r_vret (pc := 83) rfl dX7_later_83 K
          · have K := K.2 c26
            refine r_aload_n (pc := 62) dX7_later_62 rfl ?_
            have hk35 := kd_ext eh24 hk25 (nz rfl)
            refine r_callF_J (pc := 63) (Y := mX8_sequence) (vs := []) (st := [_]) hk35 rfl kc8 (by decide) q1566 q1571 q1569 (by decide) dX7_later_63 rfl cd_X8_sequence rfl rfl fp_X7_later_X8_sequence K (fun x33 h34 eh34 wh34 K => ?_) (fun x h1 _ _ e => Tw.out rfl e)
            refine r_ldc2 (pc := 68) dX7_later_68 q1574 ?_
            refine r_lcmp_eq (pc := 71) (tgt := 79) dX7_later_71 dX7_later_72 rfl (fun c36 => ?_) (fun c36 => ?_)
            · have K := K.1 c36
              refine r_iconst (pc := 79) (x := 0) dX7_later_79 rfl ?_
              have hk39 := kd_ext eh2 hk3 (nz rfl)
              have hk40 := kd_ext eh5 hk39 (nz rfl)
              have hk41 := kd_ext eh14 hk40 (nz rfl)
              have hk42 := kd_ext eh24 hk41 (nz rfl)
              have hk43 := kd_ext eh34 hk42 (nz rfl)
              refine r_callV_V (pc := 80) (Y := mX7_need) (vs := [_]) (st := []) hk43 rfl kc7 q1272 q1274 qs14 dX7_later_80 rfl cd_X7_need rfl rfl fp_X7_later_X7_need K (fun h38 eh38 wh38 K => ?_) (fun x h1 _ _ e => Tw.out rfl e)
              exact r_vret (pc := 83) rfl dX7_later_83 K
            · have K := K.2 c36
              refine r_iconst (pc := 75) (x := 1) dX7_later_75 rfl ?_
              refine r_goto (pc := 76) (tgt := 80) dX7_later_76 rfl ?_
              have hk46 := kd_ext eh2 hk3 (nz rfl)
              have hk47 := kd_ext eh5 hk46 (nz rfl)
              have hk48 := kd_ext eh14 hk47 (nz rfl)
              have hk49 := kd_ext eh24 hk48 (nz rfl)
              have hk50 := kd_ext eh34 hk49 (nz rfl)
              refine r_callV_V (pc := 80) (Y := mX7_need) (vs := [_]) (st := []) hk50 rfl kc7 q1272 q1274 qs14 dX7_later_80 rfl cd_X7_need rfl rfl fp_X7_later_X7_need K (fun h45 eh45 wh45 K => ?_) (fun x h1 _ _ e => Tw.out rfl e)
              exact r_vret (pc := 83) rfl dX7_later_83 K
      · have K := K.2 c16
        refine r_iconst (pc := 43) (x := 1) dX7_later_43 rfl ?_
        refine r_goto (pc := 44) (tgt := 48) dX7_later_44 rfl ?_
        refine r_icmp_ne (pc := 48) (tgt := 79) dX7_later_48 rfl (fun c51 => ?_) (fun c51 => ?_)
        · have K := K.1 c51
          refine r_iconst (pc := 79) (x := 0) dX7_later_79 rfl ?_
          have hk54 := kd_ext eh2 hk3 (nz rfl)
          have hk55 := kd_ext eh5 hk54 (nz rfl)
          have hk56 := kd_ext eh14 hk55 (nz rfl)
          refine r_callV_V (pc := 80) (Y := mX7_need) (vs := [_]) (st := []) hk56 rfl kc7 q1272 q1274 qs14 dX7_later_80 rfl cd_X7_need rfl rfl fp_X7_later_X7_need K (fun h53 eh53 wh53 K => ?_) (fun x h1 _ _ e => Tw.out rfl e)
          exact r_vret (pc := 83) rfl dX7_later_83 K
        · have K := K.2 c51
          refine r_lload_n (pc := 51) dX7_later_51 rfl ?_
          refine r_aload_n (pc := 52) dX7_later_52 rfl ?_
          have hk59 := kd_ext eh14 hk15 (nz rfl)
          refine r_callF_J (pc := 53) (Y := mX8_lock) (vs := []) (st := [_, _]) hk59 rfl kc8 (by decide) q1557 q1562 q1560 (by decide) dX7_later_53 rfl cd_X8_lock rfl rfl fp_X7_later_X8_lock K (fun x57 h58 eh58 wh58 K => ?_) (fun x h1 _ _ e => Tw.out rfl e)
          refine r_lcmp_gt (pc := 58) (tgt := 79) dX7_later_58 dX7_later_59 rfl (fun c60 => ?_) (fun c60 => ?_)
          · have K := K.1 c60
            refine r_iconst (pc := 79) (x := 0) dX7_later_79 rfl ?_
            have hk63 := kd_ext eh2 hk3 (nz rfl)
            have hk64 := kd_ext eh5 hk63 (nz rfl)
            have hk65 := kd_ext eh14 hk64 (nz rfl)
            have hk66 := kd_ext eh58 hk65 (nz rfl)
            refine r_callV_V (pc := 80) (Y := mX7_need) (vs := [_]) (st := []) hk66 rfl kc7 q1272 q1274 qs14 dX7_later_80 rfl cd_X7_need rfl rfl fp_X7_later_X7_need K (fun h62 eh62 wh62 K => ?_) (fun x h1 _ _ e => Tw.out rfl e)
            exact r_vret (pc := 83) rfl dX7_later_83 K
          · have K := K.2 c60
            refine r_aload_n (pc := 62) dX7_later_62 rfl ?_
            have hk69 := kd_ext eh58 hk59 (nz rfl)
            refine r_callF_J (pc := 63) (Y := mX8_sequence) (vs := []) (st := [_]) hk69 rfl kc8 (by decide) q1566 q1571 q1569 (by decide) dX7_later_63 rfl cd_X8_sequence rfl rfl fp_X7_later_X8_sequence K (fun x67 h68 eh68 wh68 K => ?_) (fun x h1 _ _ e => Tw.out rfl e)
            refine r_ldc2 (pc := 68) dX7_later_68 q1574 ?_
            refine r_lcmp_eq (pc := 71) (tgt := 79) dX7_later_71 dX7_later_72 rfl (fun c70 => ?_) (fun c70 => ?_)
            · have K := K.1 c70
              refine r_iconst (pc := 79) (x := 0) dX7_later_79 rfl ?_
              have hk73 := kd_ext eh2 hk3 (nz rfl)
              have hk74 := kd_ext eh5 hk73 (nz rfl)
              have hk75 := kd_ext eh14 hk74 (nz rfl)
              have hk76 := kd_ext eh58 hk75 (nz rfl)
              have hk77 := kd_ext eh68 hk76 (nz rfl)
              refine r_callV_V (pc := 80) (Y := mX7_need) (vs := [_]) (st := []) hk77 rfl kc7 q1272 q1274 qs14 dX7_later_80 rfl cd_X7_need rfl rfl fp_X7_later_X7_need K (fun h72 eh72 wh72 K => ?_) (fun x h1 _ _ e => Tw.out rfl e)
              exact r_vret (pc := 83) rfl dX7_later_83 K
            · have K := K.2 c70
              refine r_iconst (pc := 75) (x := 1) dX7_later_75 rfl ?_
              refine r_goto (pc := 76) (tgt := 80) dX7_later_76 rfl ?_
              have hk80 := kd_ext eh2 hk3 (nz rfl)
              have hk81 := kd_ext eh5 hk80 (nz rfl)
              have hk82 := kd_ext eh14 hk81 (nz rfl)
              have hk83 := kd_ext eh58 hk82 (nz rfl)
              have hk84 := kd_ext eh68 hk83 (nz rfl)
              refine r_callV_V (pc := 80) (Y := mX7_need) (vs := [_]) (st := []) hk84 rfl kc7 q1272 q1274 qs14 dX7_later_80 rfl cd_X7_need rfl rfl fp_X7_later_X7_need K (fun h79 eh79 wh79 K => ?_) (fun x h1 _ _ e => Tw.out rfl e)
              exact r_vret (pc := 83) rfl dX7_later_83 K
    · have K := K.2 c12
      refine r_iconst (pc := 25) (x := 1) dX7_later_25 rfl ?_
      refine r_goto (pc := 26) (tgt := 30) dX7_later_26 rfl ?_
      refine r_aload_n (pc := 30) dX7_later_30 rfl ?_
      obtain ⟨hk87, K⟩ := K
      refine r_callF_J (pc := 31) (Y := mX8_lock) (vs := []) (st := [_, _]) hk87 rfl kc8 (by decide) q1557 q1562 q1560 (by decide) dX7_later_31 rfl cd_X8_lock rfl rfl fp_X7_later_X8_lock K (fun x85 h86 eh86 wh86 K => ?_) (fun x h1 _ _ e => Tw.out rfl e)
      refine r_ldc2 (pc := 36) dX7_later_36 q1555 ?_
      refine r_lcmp_ge (pc := 39) (tgt := 47) dX7_later_39 dX7_later_40 rfl (fun c88 => ?_) (fun c88 => ?_)
      · have K := K.1 c88
        refine r_iconst (pc := 47) (x := 0) dX7_later_47 rfl ?_
        refine r_icmp_ne (pc := 48) (tgt := 79) dX7_later_48 rfl (fun c89 => ?_) (fun c89 => ?_)
        · have K := K.1 c89
          refine r_iconst (pc := 79) (x := 0) dX7_later_79 rfl ?_
          have hk92 := kd_ext eh2 hk3 (nz rfl)
          have hk93 := kd_ext eh5 hk92 (nz rfl)
          have hk94 := kd_ext eh86 hk93 (nz rfl)
          refine r_callV_V (pc := 80) (Y := mX7_need) (vs := [_]) (st := []) hk94 rfl kc7 q1272 q1274 qs14 dX7_later_80 rfl cd_X7_need rfl rfl fp_X7_later_X7_need K (fun h91 eh91 wh91 K => ?_) (fun x h1 _ _ e => Tw.out rfl e)
          exact r_vret (pc := 83) rfl dX7_later_83 K
        · have K := K.2 c89
          refine r_lload_n (pc := 51) dX7_later_51 rfl ?_
          refine r_aload_n (pc := 52) dX7_later_52 rfl ?_
          have hk97 := kd_ext eh86 hk87 (nz rfl)
          refine r_callF_J (pc := 53) (Y := mX8_lock) (vs := []) (st := [_, _]) hk97 rfl kc8 (by decide) q1557 q1562 q1560 (by decide) dX7_later_53 rfl cd_X8_lock rfl rfl fp_X7_later_X8_lock K (fun x95 h96 eh96 wh96 K => ?_) (fun x h1 _ _ e => Tw.out rfl e)
          refine r_lcmp_gt (pc := 58) (tgt := 79) dX7_later_58 dX7_later_59 rfl (fun c98 => ?_) (fun c98 => ?_)
          · have K := K.1 c98
            refine r_iconst (pc := 79) (x := 0) dX7_later_79 rfl ?_
            have hk101 := kd_ext eh2 hk3 (nz rfl)
            have hk102 := kd_ext eh5 hk101 (nz rfl)
            have hk103 := kd_ext eh86 hk102 (nz rfl)
            have hk104 := kd_ext eh96 hk103 (nz rfl)
            refine r_callV_V (pc := 80) (Y := mX7_need) (vs := [_]) (st := []) hk104 rfl kc7 q1272 q1274 qs14 dX7_later_80 rfl cd_X7_need rfl rfl fp_X7_later_X7_need K (fun h100 eh100 wh100 K => ?_) (fun x h1 _ _ e => Tw.out rfl e)
            exact r_vret (pc := 83) rfl dX7_later_83 K
          · have K := K.2 c98
            refine r_aload_n (pc := 62) dX7_later_62 rfl ?_
            have hk107 := kd_ext eh96 hk97 (nz rfl)
            refine r_callF_J (pc := 63) (Y := mX8_sequence) (vs := []) (st := [_]) hk107 rfl kc8 (by decide) q1566 q1571 q1569 (by decide) dX7_later_63 rfl cd_X8_sequence rfl rfl fp_X7_later_X8_sequence K (fun x105 h106 eh106 wh106 K => ?_) (fun x h1 _ _ e => Tw.out rfl e)
            refine r_ldc2 (pc := 68) dX7_later_68 q1574 ?_
            refine r_lcmp_eq (pc := 71) (tgt := 79) dX7_later_71 dX7_later_72 rfl (fun c108 => ?_) (fun c108 => ?_)
            · have K := K.1 c108
              refine r_iconst (pc := 79) (x := 0) dX7_later_79 rfl ?_
              have hk111 := kd_ext eh2 hk3 (nz rfl)
              have hk112 := kd_ext eh5 hk111 (nz rfl)
              have hk113 := kd_ext eh86 hk112 (nz rfl)
              have hk114 := kd_ext eh96 hk113 (nz rfl)
              have hk115 := kd_ext eh106 hk114 (nz rfl)
              refine r_callV_V (pc := 80) (Y := mX7_need) (vs := [_]) (st := []) hk115 rfl kc7 q1272 q1274 qs14 dX7_later_80 rfl cd_X7_need rfl rfl fp_X7_later_X7_need K (fun h110 eh110 wh110 K => ?_) (fun x h1 _ _ e => Tw.out rfl e)
              exact r_vret (pc := 83) rfl dX7_later_83 K
            · have K := K.2 c108
              refine r_iconst (pc := 75) (x := 1) dX7_later_75 rfl ?_
              refine r_goto (pc := 76) (tgt := 80) dX7_later_76 rfl ?_
              have hk118 := kd_ext eh2 hk3 (nz rfl)
              have hk119 := kd_ext eh5 hk118 (nz rfl)
              have hk120 := kd_ext eh86 hk119 (nz rfl)
              have hk121 := kd_ext eh96 hk120 (nz rfl)
              have hk122 := kd_ext eh106 hk121 (nz rfl)
              refine r_callV_V (pc := 80) (Y := mX7_need) (vs := [_]) (st := []) hk122 rfl kc7 q1272 q1274 qs14 dX7_later_80 rfl cd_X7_need rfl rfl fp_X7_later_X7_need K (fun h117 eh117 wh117 K => ?_) (fun x h1 _ _ e => Tw.out rfl e)
              exact r_vret (pc := 83) rfl dX7_later_83 K
      · have K := K.2 c88
        refine r_iconst (pc := 43) (x := 1) dX7_later_43 rfl ?_
        refine r_goto (pc := 44) (tgt := 48) dX7_later_44 rfl ?_
        refine r_icmp_ne (pc := 48) (tgt := 79) dX7_later_48 rfl (fun c123 => ?_) (fun c123 => ?_)
        · have K := K.1 c123
          refine r_iconst (pc := 79) (x := 0) dX7_later_79 rfl ?_
          have hk126 := kd_ext eh2 hk3 (nz rfl)
          have hk127 := kd_ext eh5 hk126 (nz rfl)
          have hk128 := kd_ext eh86 hk127 (nz rfl)
          refine r_callV_V (pc := 80) (Y := mX7_need) (vs := [_]) (st := []) hk128 rfl kc7 q1272 q1274 qs14 dX7_later_80 rfl cd_X7_need rfl rfl fp_X7_later_X7_need K (fun h125 eh125 wh125 K => ?_) (fun x h1 _ _ e => Tw.out rfl e)
          exact r_vret (pc := 83) rfl dX7_later_83 K
        · have K := K.2 c123
          refine r_lload_n (pc := 51) dX7_later_51 rfl ?_
          refine r_aload_n (pc := 52) dX7_later_52 rfl ?_
          have hk131 := kd_ext eh86 hk87 (nz rfl)
          refine r_callF_J (pc := 53) (Y := mX8_lock) (vs := []) (st := [_, _]) hk131 rfl kc8 (by decide) q1557 q1562 q1560 (by decide) dX7_later_53 rfl cd_X8_lock rfl rfl fp_X7_later_X8_lock K (fun x129 h130 eh130 wh130 K => ?_) (fun x h1 _ _ e => Tw.out rfl e)
          refine r_lcmp_gt (pc := 58) (tgt := 79) dX7_later_58 dX7_later_59 rfl (fun c132 => ?_) (fun c132 => ?_)
          · have K := K.1 c132
            refine r_iconst (pc := 79) (x := 0) dX7_later_79 rfl ?_
            have hk135 := kd_ext eh2 hk3 (nz rfl)
            have hk136 := kd_ext eh5 hk135 (nz rfl)
            have hk137 := kd_ext eh86 hk136 (nz rfl)
            have hk138 := kd_ext eh130 hk137 (nz rfl)
            refine r_callV_V (pc := 80) (Y := mX7_need) (vs := [_]) (st := []) hk138 rfl kc7 q1272 q1274 qs14 dX7_later_80 rfl cd_X7_need rfl rfl fp_X7_later_X7_need K (fun h134 eh134 wh134 K => ?_) (fun x h1 _ _ e => Tw.out rfl e)
            exact r_vret (pc := 83) rfl dX7_later_83 K
          · have K := K.2 c132
            refine r_aload_n (pc := 62) dX7_later_62 rfl ?_
            have hk141 := kd_ext eh130 hk131 (nz rfl)
            refine r_callF_J (pc := 63) (Y := mX8_sequence) (vs := []) (st := [_]) hk141 rfl kc8 (by decide) q1566 q1571 q1569 (by decide) dX7_later_63 rfl cd_X8_sequence rfl rfl fp_X7_later_X8_sequence K (fun x139 h140 eh140 wh140 K => ?_) (fun x h1 _ _ e => Tw.out rfl e)
            refine r_ldc2 (pc := 68) dX7_later_68 q1574 ?_
            refine r_lcmp_eq (pc := 71) (tgt := 79) dX7_later_71 dX7_later_72 rfl (fun c142 => ?_) (fun c142 => ?_)
            · have K := K.1 c142
              refine r_iconst (pc := 79) (x := 0) dX7_later_79 rfl ?_
              have hk145 := kd_ext eh2 hk3 (nz rfl)
              have hk146 := kd_ext eh5 hk145 (nz rfl)
              have hk147 := kd_ext eh86 hk146 (nz rfl)
              have hk148 := kd_ext eh130 hk147 (nz rfl)
              have hk149 := kd_ext eh140 hk148 (nz rfl)
              refine r_callV_V (pc := 80) (Y := mX7_need) (vs := [_]) (st := []) hk149 rfl kc7 q1272 q1274 qs14 dX7_later_80 rfl cd_X7_need rfl rfl fp_X7_later_X7_need K (fun h144 eh144 wh144 K => ?_) (fun x h1 _ _ e => Tw.out rfl e)
              exact r_vret (pc := 83) rfl dX7_later_83 K
            · have K := K.2 c142
              refine r_iconst (pc := 75) (x := 1) dX7_later_75 rfl ?_
              refine r_goto (pc := 76) (tgt := 80) dX7_later_76 rfl ?_
              have hk152 := kd_ext eh2 hk3 (nz rfl)
              have hk153 := kd_ext eh5 hk152 (nz rfl)
              have hk154 := kd_ext eh86 hk153 (nz rfl)
              have hk155 := kd_ext eh130 hk154 (nz rfl)
              have hk156 := kd_ext eh140 hk155 (nz rfl)
              refine r_callV_V (pc := 80) (Y := mX7_need) (vs := [_]) (st := []) hk156 rfl kc7 q1272 q1274 qs14 dX7_later_80 rfl cd_X7_need rfl rfl fp_X7_later_X7_need K (fun h151 eh151 wh151 K => ?_) (fun x h1 _ _ e => Tw.out rfl e)
              exact r_vret (pc := 83) rfl dX7_later_83 K
theorem eX7_later {G : Gx} {d : Nat} {Φ : Out → AH → Prop} (h : AH) (v0 : Nat) (v1 : Nat) (K : WF G h → Aw G mX7_later (d + 1) 0 h Φ 0 [vR v0, vR v1, vU, vU] [] h) : Cw G mX7_later (d + 1) 0 [vR v0, vR v1] h Φ := Cw.of rfl K
theorem dX7_numbers_0 : decode cX7_numbers 0 = .ok (.iload_n 1, 1) := by decide +kernel
theorem dX7_numbers_1 : decode cX7_numbers 1 = .ok (.sipush 146, 3) := by decide +kernel
theorem dX7_numbers_4 : decode cX7_numbers 4 = .ok (.if_icmp .gt 136, 3) := by decide +kernel
theorem dX7_numbers_7 : decode cX7_numbers 7 = .ok (.aload_n 0, 1) := by decide +kernel
theorem dX7_numbers_8 : decode cX7_numbers 8 = .ok (.iconst 0, 1) := by decide +kernel
theorem dX7_numbers_9 : decode cX7_numbers 9 = .ok (.invokevirtual 59, 3) := by decide +kernel
theorem dX7_numbers_12 : decode cX7_numbers 12 = .ok (.iconst 4, 1) := by decide +kernel
theorem dX7_numbers_13 : decode cX7_numbers 13 = .ok (.invokevirtual 149, 3) := by decide +kernel
theorem dX7_numbers_16 : decode cX7_numbers 16 = .ok (.lstore_n 2, 1) := by decide +kernel
theorem dX7_numbers_17 : decode cX7_numbers 17 = .ok (.aload_n 0, 1) := by decide +kernel
theorem dX7_numbers_18 : decode cX7_numbers 18 = .ok (.iconst 1, 1) := by decide +kernel
theorem dX7_numbers_19 : decode cX7_numbers 19 = .ok (.invokevirtual 95, 3) := by decide +kernel
theorem dX7_numbers_22 : decode cX7_numbers 22 = .ok (.iload_n 1, 1) := by decide +kernel
theorem dX7_numbers_23 : decode cX7_numbers 23 = .ok (.tableswitch 101 139 145 #[41, 52, 101, 101, 63, 73, 85], 41) := by decide +kernel
theorem dX7_numbers_64 : decode cX7_numbers 64 = .ok (.aload_n 0, 1) := by decide +kernel
theorem dX7_numbers_65 : decode cX7_numbers 65 = .ok (.invokevirtual 62, 3) := by decide +kernel
theorem dX7_numbers_68 : decode cX7_numbers 68 = .ok (.lload_n 2, 1) := by decide +kernel
theorem dX7_numbers_69 : decode cX7_numbers 69 = .ok (.lconst 1, 1) := by decide +kernel
theorem dX7_numbers_70 : decode cX7_numbers 70 = .ok (.ladd, 1) := by decide +kernel
theorem dX7_numbers_71 : decode cX7_numbers 71 = .ok (.invokevirtual 126, 3) := by decide +kernel
theorem dX7_numbers_74 : decode cX7_numbers 74 = .ok (.return_, 1) := by decide +kernel
theorem dX7_numbers_75 : decode cX7_numbers 75 = .ok (.aload_n 0, 1) := by decide +kernel
theorem dX7_numbers_76 : decode cX7_numbers 76 = .ok (.invokevirtual 62, 3) := by decide +kernel
theorem dX7_numbers_79 : decode cX7_numbers 79 = .ok (.lload_n 2, 1) := by decide +kernel
theorem dX7_numbers_80 : decode cX7_numbers 80 = .ok (.lconst 1, 1) := by decide +kernel
theorem dX7_numbers_81 : decode cX7_numbers 81 = .ok (.lsub, 1) := by decide +kernel
theorem dX7_numbers_82 : decode cX7_numbers 82 = .ok (.invokevirtual 126, 3) := by decide +kernel
theorem dX7_numbers_85 : decode cX7_numbers 85 = .ok (.return_, 1) := by decide +kernel
theorem dX7_numbers_86 : decode cX7_numbers 86 = .ok (.aload_n 0, 1) := by decide +kernel
theorem dX7_numbers_87 : decode cX7_numbers 87 = .ok (.invokevirtual 62, 3) := by decide +kernel
theorem dX7_numbers_90 : decode cX7_numbers 90 = .ok (.lload_n 2, 1) := by decide +kernel
theorem dX7_numbers_91 : decode cX7_numbers 91 = .ok (.lneg, 1) := by decide +kernel
theorem dX7_numbers_92 : decode cX7_numbers 92 = .ok (.invokevirtual 126, 3) := by decide +kernel
theorem dX7_numbers_95 : decode cX7_numbers 95 = .ok (.return_, 1) := by decide +kernel
theorem dX7_numbers_96 : decode cX7_numbers 96 = .ok (.aload_n 0, 1) := by decide +kernel
theorem dX7_numbers_97 : decode cX7_numbers 97 = .ok (.invokevirtual 62, 3) := by decide +kernel
theorem dX7_numbers_100 : decode cX7_numbers 100 = .ok (.lload_n 2, 1) := by decide +kernel
theorem dX7_numbers_101 : decode cX7_numbers 101 = .ok (.invokestatic 177, 3) := by decide +kernel
theorem dX7_numbers_104 : decode cX7_numbers 104 = .ok (.invokevirtual 126, 3) := by decide +kernel
theorem dX7_numbers_107 : decode cX7_numbers 107 = .ok (.return_, 1) := by decide +kernel
theorem dX7_numbers_108 : decode cX7_numbers 108 = .ok (.aload_n 0, 1) := by decide +kernel
theorem dX7_numbers_109 : decode cX7_numbers 109 = .ok (.lload_n 2, 1) := by decide +kernel
theorem dX7_numbers_110 : decode cX7_numbers 110 = .ok (.lconst 0, 1) := by decide +kernel
theorem dX7_numbers_111 : decode cX7_numbers 111 = .ok (.lcmp, 1) := by decide +kernel
theorem dX7_numbers_112 : decode cX7_numbers 112 = .ok (.ifCond .ne 7, 3) := by decide +kernel
theorem dX7_numbers_115 : decode cX7_numbers 115 = .ok (.iconst 1, 1) := by decide +kernel
theorem dX7_numbers_116 : decode cX7_numbers 116 = .ok (.goto 4, 3) := by decide +kernel
theorem dX7_numbers_119 : decode cX7_numbers 119 = .ok (.iconst 0, 1) := by decide +kernel
theorem dX7_numbers_120 : decode cX7_numbers 120 = .ok (.invokevirtual 157, 3) := by decide +kernel
theorem dX7_numbers_123 : decode cX7_numbers 123 = .ok (.return_, 1) := by decide +kernel
theorem dX7_numbers_124 : decode cX7_numbers 124 = .ok (.aload_n 0, 1) := by decide +kernel
theorem dX7_numbers_125 : decode cX7_numbers 125 = .ok (.lload_n 2, 1) := by decide +kernel
theorem dX7_numbers_126 : decode cX7_numbers 126 = .ok (.lconst 0, 1) := by decide +kernel
theorem dX7_numbers_127 : decode cX7_numbers 127 = .ok (.lcmp, 1) := by decide +kernel
theorem dX7_numbers_128 : decode cX7_numbers 128 = .ok (.ifCond .eq 7, 3) := by decide +kernel
theorem dX7_numbers_131 : decode cX7_numbers 131 = .ok (.iconst 1, 1) := by decide +kernel
theorem dX7_numbers_132 : decode cX7_numbers 132 = .ok (.goto 4, 3) := by decide +kernel
theorem dX7_numbers_135 : decode cX7_numbers 135 = .ok (.iconst 0, 1) := by decide +kernel
theorem dX7_numbers_136 : decode cX7_numbers 136 = .ok (.invokevirtual 157, 3) := by decide +kernel
theorem dX7_numbers_139 : decode cX7_numbers 139 = .ok (.return_, 1) := by decide +kernel
theorem dX7_numbers_140 : decode cX7_numbers 140 = .ok (.iload_n 1, 1) := by decide +kernel
theorem dX7_numbers_141 : decode cX7_numbers 141 = .ok (.sipush 165, 3) := by decide +kernel
theorem dX7_numbers_144 : decode cX7_numbers 144 = .ok (.if_icmp .ne 64, 3) := by decide +kernel
theorem dX7_numbers_147 : decode cX7_numbers 147 = .ok (.aload_n 0, 1) := by decide +kernel
theorem dX7_numbers_148 : decode cX7_numbers 148 = .ok (.iconst 2, 1) := by decide +kernel
theorem dX7_numbers_149 : decode cX7_numbers 149 = .ok (.invokevirtual 59, 3) := by decide +kernel
theorem dX7_numbers_152 : decode cX7_numbers 152 = .ok (.iconst 4, 1) := by decide +kernel
theorem dX7_numbers_153 : decode cX7_numbers 153 = .ok (.invokevirtual 149, 3) := by decide +kernel
theorem dX7_numbers_156 : decode cX7_numbers 156 = .ok (.lstore_n 2, 1) := by decide +kernel
theorem dX7_numbers_157 : decode cX7_numbers 157 = .ok (.aload_n 0, 1) := by decide +kernel
theorem dX7_numbers_158 : decode cX7_numbers 158 = .ok (.iconst 1, 1) := by decide +kernel
theorem dX7_numbers_159 : decode cX7_numbers 159 = .ok (.invokevirtual 59, 3) := by decide +kernel
theorem dX7_numbers_162 : decode cX7_numbers 162 = .ok (.iconst 4, 1) := by decide +kernel
theorem dX7_numbers_163 : decode cX7_numbers 163 = .ok (.invokevirtual 149, 3) := by decide +kernel
theorem dX7_numbers_166 : decode cX7_numbers 166 = .ok (.lstore 4, 2) := by decide +kernel
theorem dX7_numbers_168 : decode cX7_numbers 168 = .ok (.aload_n 0, 1) := by decide +kernel
theorem dX7_numbers_169 : decode cX7_numbers 169 = .ok (.iconst 0, 1) := by decide +kernel
theorem dX7_numbers_170 : decode cX7_numbers 170 = .ok (.invokevirtual 59, 3) := by decide +kernel
theorem dX7_numbers_173 : decode cX7_numbers 173 = .ok (.iconst 4, 1) := by decide +kernel
theorem dX7_numbers_174 : decode cX7_numbers 174 = .ok (.invokevirtual 149, 3) := by decide +kernel
theorem dX7_numbers_177 : decode cX7_numbers 177 = .ok (.lstore 6, 2) := by decide +kernel
theorem dX7_numbers_179 : decode cX7_numbers 179 = .ok (.aload_n 0, 1) := by decide +kernel
theorem dX7_numbers_180 : decode cX7_numbers 180 = .ok (.iconst 3, 1) := by decide +kernel
theorem dX7_numbers_181 : decode cX7_numbers 181 = .ok (.invokevirtual 95, 3) := by decide +kernel
theorem dX7_numbers_184 : decode cX7_numbers 184 = .ok (.aload_n 0, 1) := by decide +kernel
theorem dX7_numbers_185 : decode cX7_numbers 185 = .ok (.lload_n 2, 1) := by decide +kernel
theorem dX7_numbers_186 : decode cX7_numbers 186 = .ok (.lload 4, 2) := by decide +kernel
theorem dX7_numbers_188 : decode cX7_numbers 188 = .ok (.lcmp, 1) := by decide +kernel
theorem dX7_numbers_189 : decode cX7_numbers 189 = .ok (.ifCond .lt 14, 3) := by decide +kernel
theorem dX7_numbers_192 : decode cX7_numbers 192 = .ok (.lload_n 2, 1) := by decide +kernel
theorem dX7_numbers_193 : decode cX7_numbers 193 = .ok (.lload 6, 2) := by decide +kernel
theorem dX7_numbers_195 : decode cX7_numbers 195 = .ok (.lcmp, 1) := by decide +kernel
theorem dX7_numbers_196 : decode cX7_numbers 196 = .ok (.ifCond .ge 7, 3) := by decide +kernel
theorem dX7_numbers_199 : decode cX7_numbers 199 = .ok (.iconst 1, 1) := by decide +kernel
theorem dX7_numbers_200 : decode cX7_numbers 200 = .ok (.goto 4, 3) := by decide +kernel
theorem dX7_numbers_203 : decode cX7_numbers 203 = .ok (.iconst 0, 1) := by decide +kernel
theorem dX7_numbers_204 : decode cX7_numbers 204 = .ok (.invokevirtual 157, 3) := by decide +kernel
theorem dX7_numbers_207 : decode cX7_numbers 207 = .ok (.return_, 1) := by decide +kernel
theorem dX7_numbers_208 : decode cX7_numbers 208 = .ok (.aload_n 0, 1) := by decide +kernel
theorem dX7_numbers_209 : decode cX7_numbers 209 = .ok (.iconst 1, 1) := by decide +kernel
theorem dX7_numbers_210 : decode cX7_numbers 210 = .ok (.invokevirtual 59, 3) := by decide +kernel
theorem dX7_numbers_213 : decode cX7_numbers 213 = .ok (.iconst 4, 1) := by decide +kernel
theorem dX7_numbers_214 : decode cX7_numbers 214 = .ok (.invokevirtual 149, 3) := by decide +kernel
theorem dX7_numbers_217 : decode cX7_numbers 217 = .ok (.lstore_n 2, 1) := by decide +kernel
theorem dX7_numbers_218 : decode cX7_numbers 218 = .ok (.aload_n 0, 1) := by decide +kernel
theorem dX7_numbers_219 : decode cX7_numbers 219 = .ok (.iconst 0, 1) := by decide +kernel
theorem dX7_numbers_220 : decode cX7_numbers 220 = .ok (.invokevirtual 59, 3) := by decide +kernel
theorem dX7_numbers_223 : decode cX7_numbers 223 = .ok (.iconst 4, 1) := by decide +kernel
theorem dX7_numbers_224 : decode cX7_numbers 224 = .ok (.invokevirtual 149, 3) := by decide +kernel
theorem dX7_numbers_227 : decode cX7_numbers 227 = .ok (.lstore 4, 2) := by decide +kernel
theorem dX7_numbers_229 : decode cX7_numbers 229 = .ok (.aload_n 0, 1) := by decide +kernel
theorem dX7_numbers_230 : decode cX7_numbers 230 = .ok (.iconst 2, 1) := by decide +kernel
theorem dX7_numbers_231 : decode cX7_numbers 231 = .ok (.invokevirtual 95, 3) := by decide +kernel
theorem dX7_numbers_234 : decode cX7_numbers 234 = .ok (.iload_n 1, 1) := by decide +kernel
theorem dX7_numbers_235 : decode cX7_numbers 235 = .ok (.tableswitch 284 147 163 #[81, 93, 284, 284, 284, 284, 284, 105, 128, 151, 168, 185, 202, 219, 236, 253, 270], 81) := by decide +kernel
theorem dX7_numbers_316 : decode cX7_numbers 316 = .ok (.aload_n 0, 1) := by decide +kernel
theorem dX7_numbers_317 : decode cX7_numbers 317 = .ok (.invokevirtual 62, 3) := by decide +kernel
theorem dX7_numbers_320 : decode cX7_numbers 320 = .ok (.lload_n 2, 1) := by decide +kernel
theorem dX7_numbers_321 : decode cX7_numbers 321 = .ok (.lload 4, 2) := by decide +kernel
theorem dX7_numbers_323 : decode cX7_numbers 323 = .ok (.ladd, 1) := by decide +kernel
theorem dX7_numbers_324 : decode cX7_numbers 324 = .ok (.invokevirtual 126, 3) := by decide +kernel
theorem dX7_numbers_327 : decode cX7_numbers 327 = .ok (.return_, 1) := by decide +kernel
theorem dX7_numbers_328 : decode cX7_numbers 328 = .ok (.aload_n 0, 1) := by decide +kernel
theorem dX7_numbers_329 : decode cX7_numbers 329 = .ok (.invokevirtual 62, 3) := by decide +kernel
theorem dX7_numbers_332 : decode cX7_numbers 332 = .ok (.lload_n 2, 1) := by decide +kernel
theorem dX7_numbers_333 : decode cX7_numbers 333 = .ok (.lload 4, 2) := by decide +kernel
theorem dX7_numbers_335 : decode cX7_numbers 335 = .ok (.lsub, 1) := by decide +kernel
theorem dX7_numbers_336 : decode cX7_numbers 336 = .ok (.invokevirtual 126, 3) := by decide +kernel
theorem dX7_numbers_339 : decode cX7_numbers 339 = .ok (.return_, 1) := by decide +kernel
theorem dX7_numbers_340 : decode cX7_numbers 340 = .ok (.aload_n 0, 1) := by decide +kernel
theorem dX7_numbers_341 : decode cX7_numbers 341 = .ok (.lload_n 2, 1) := by decide +kernel
theorem dX7_numbers_342 : decode cX7_numbers 342 = .ok (.lconst 0, 1) := by decide +kernel
theorem dX7_numbers_343 : decode cX7_numbers 343 = .ok (.lcmp, 1) := by decide +kernel
theorem dX7_numbers_344 : decode cX7_numbers 344 = .ok (.ifCond .eq 14, 3) := by decide +kernel
theorem dX7_numbers_347 : decode cX7_numbers 347 = .ok (.lload 4, 2) := by decide +kernel
theorem dX7_numbers_349 : decode cX7_numbers 349 = .ok (.lconst 0, 1) := by decide +kernel
theorem dX7_numbers_350 : decode cX7_numbers 350 = .ok (.lcmp, 1) := by decide +kernel
theorem dX7_numbers_351 : decode cX7_numbers 351 = .ok (.ifCond .eq 7, 3) := by decide +kernel
theorem dX7_numbers_354 : decode cX7_numbers 354 = .ok (.iconst 1, 1) := by decide +kernel
theorem dX7_numbers_355 : decode cX7_numbers 355 = .ok (.goto 4, 3) := by decide +kernel
theorem dX7_numbers_358 : decode cX7_numbers 358 = .ok (.iconst 0, 1) := by decide +kernel
theorem dX7_numbers_359 : decode cX7_numbers 359 = .ok (.invokevirtual 157, 3) := by decide +kernel
theorem dX7_numbers_362 : decode cX7_numbers 362 = .ok (.return_, 1) := by decide +kernel
theorem dX7_numbers_363 : decode cX7_numbers 363 = .ok (.aload_n 0, 1) := by decide +kernel
theorem dX7_numbers_364 : decode cX7_numbers 364 = .ok (.lload_n 2, 1) := by decide +kernel
theorem dX7_numbers_365 : decode cX7_numbers 365 = .ok (.lconst 0, 1) := by decide +kernel
theorem dX7_numbers_366 : decode cX7_numbers 366 = .ok (.lcmp, 1) := by decide +kernel
theorem dX7_numbers_367 : decode cX7_numbers 367 = .ok (.ifCond .ne 10, 3) := by decide +kernel
theorem dX7_numbers_370 : decode cX7_numbers 370 = .ok (.lload 4, 2) := by decide +kernel
theorem dX7_numbers_372 : decode cX7_numbers 372 = .ok (.lconst 0, 1) := by decide +kernel
theorem dX7_numbers_373 : decode cX7_numbers 373 = .ok (.lcmp, 1) := by decide +kernel
theorem dX7_numbers_374 : decode cX7_numbers 374 = .ok (.ifCond .eq 7, 3) := by decide +kernel
theorem dX7_numbers_377 : decode cX7_numbers 377 = .ok (.iconst 1, 1) := by decide +kernel
theorem dX7_numbers_378 : decode cX7_numbers 378 = .ok (.goto 4, 3) := by decide +kernel
theorem dX7_numbers_381 : decode cX7_numbers 381 = .ok (.iconst 0, 1) := by decide +kernel
theorem dX7_numbers_382 : decode cX7_numbers 382 = .ok (.invokevirtual 157, 3) := by decide +kernel
theorem dX7_numbers_385 : decode cX7_numbers 385 = .ok (.return_, 1) := by decide +kernel
theorem dX7_numbers_386 : decode cX7_numbers 386 = .ok (.aload_n 0, 1) := by decide +kernel
theorem dX7_numbers_387 : decode cX7_numbers 387 = .ok (.lload_n 2, 1) := by decide +kernel
theorem dX7_numbers_388 : decode cX7_numbers 388 = .ok (.lload 4, 2) := by decide +kernel
theorem dX7_numbers_390 : decode cX7_numbers 390 = .ok (.lcmp, 1) := by decide +kernel
theorem dX7_numbers_391 : decode cX7_numbers 391 = .ok (.ifCond .ne 7, 3) := by decide +kernel
theorem dX7_numbers_394 : decode cX7_numbers 394 = .ok (.iconst 1, 1) := by decide +kernel
theorem dX7_numbers_395 : decode cX7_numbers 395 = .ok (.goto 4, 3) := by decide +kernel
theorem dX7_numbers_398 : decode cX7_numbers 398 = .ok (.iconst 0, 1) := by decide +kernel
theorem dX7_numbers_399 : decode cX7_numbers 399 = .ok (.invokevirtual 157, 3) := by decide +kernel
theorem dX7_numbers_402 : decode cX7_numbers 402 = .ok (.return_, 1) := by decide +kernel
theorem dX7_numbers_403 : decode cX7_numbers 403 = .ok (.aload_n 0, 1) := by decide +kernel
theorem dX7_numbers_404 : decode cX7_numbers 404 = .ok (.lload_n 2, 1) := by decide +kernel
theorem dX7_numbers_405 : decode cX7_numbers 405 = .ok (.lload 4, 2) := by decide +kernel
theorem dX7_numbers_407 : decode cX7_numbers 407 = .ok (.lcmp, 1) := by decide +kernel
theorem dX7_numbers_408 : decode cX7_numbers 408 = .ok (.ifCond .ne 7, 3) := by decide +kernel
theorem dX7_numbers_411 : decode cX7_numbers 411 = .ok (.iconst 1, 1) := by decide +kernel
theorem dX7_numbers_412 : decode cX7_numbers 412 = .ok (.goto 4, 3) := by decide +kernel
theorem dX7_numbers_415 : decode cX7_numbers 415 = .ok (.iconst 0, 1) := by decide +kernel
theorem dX7_numbers_416 : decode cX7_numbers 416 = .ok (.invokevirtual 91, 3) := by decide +kernel
theorem dX7_numbers_419 : decode cX7_numbers 419 = .ok (.return_, 1) := by decide +kernel
theorem dX7_numbers_420 : decode cX7_numbers 420 = .ok (.aload_n 0, 1) := by decide +kernel
theorem dX7_numbers_421 : decode cX7_numbers 421 = .ok (.lload_n 2, 1) := by decide +kernel
theorem dX7_numbers_422 : decode cX7_numbers 422 = .ok (.lload 4, 2) := by decide +kernel
theorem dX7_numbers_424 : decode cX7_numbers 424 = .ok (.lcmp, 1) := by decide +kernel
theorem dX7_numbers_425 : decode cX7_numbers 425 = .ok (.ifCond .eq 7, 3) := by decide +kernel
theorem dX7_numbers_428 : decode cX7_numbers 428 = .ok (.iconst 1, 1) := by decide +kernel
theorem dX7_numbers_429 : decode cX7_numbers 429 = .ok (.goto 4, 3) := by decide +kernel
theorem dX7_numbers_432 : decode cX7_numbers 432 = .ok (.iconst 0, 1) := by decide +kernel
theorem dX7_numbers_433 : decode cX7_numbers 433 = .ok (.invokevirtual 157, 3) := by decide +kernel
theorem dX7_numbers_436 : decode cX7_numbers 436 = .ok (.return_, 1) := by decide +kernel
theorem dX7_numbers_437 : decode cX7_numbers 437 = .ok (.aload_n 0, 1) := by decide +kernel
theorem dX7_numbers_438 : decode cX7_numbers 438 = .ok (.lload_n 2, 1) := by decide +kernel
theorem dX7_numbers_439 : decode cX7_numbers 439 = .ok (.lload 4, 2) := by decide +kernel
theorem dX7_numbers_441 : decode cX7_numbers 441 = .ok (.lcmp, 1) := by decide +kernel
theorem dX7_numbers_442 : decode cX7_numbers 442 = .ok (.ifCond .ge 7, 3) := by decide +kernel
theorem dX7_numbers_445 : decode cX7_numbers 445 = .ok (.iconst 1, 1) := by decide +kernel
theorem dX7_numbers_446 : decode cX7_numbers 446 = .ok (.goto 4, 3) := by decide +kernel
theorem dX7_numbers_449 : decode cX7_numbers 449 = .ok (.iconst 0, 1) := by decide +kernel
theorem dX7_numbers_450 : decode cX7_numbers 450 = .ok (.invokevirtual 157, 3) := by decide +kernel
theorem dX7_numbers_453 : decode cX7_numbers 453 = .ok (.return_, 1) := by decide +kernel
theorem dX7_numbers_454 : decode cX7_numbers 454 = .ok (.aload_n 0, 1) := by decide +kernel
theorem dX7_numbers_455 : decode cX7_numbers 455 = .ok (.lload_n 2, 1) := by decide +kernel
theorem dX7_numbers_456 : decode cX7_numbers 456 = .ok (.lload 4, 2) := by decide +kernel
theorem dX7_numbers_458 : decode cX7_numbers 458 = .ok (.lcmp, 1) := by decide +kernel
theorem dX7_numbers_459 : decode cX7_numbers 459 = .ok (.ifCond .le 7, 3) := by decide +kernel
theorem dX7_numbers_462 : decode cX7_numbers 462 = .ok (.iconst 1, 1) := by decide +kernel
theorem dX7_numbers_463 : decode cX7_numbers 463 = .ok (.goto 4, 3) := by decide +kernel
theorem dX7_numbers_466 : decode cX7_numbers 466 = .ok (.iconst 0, 1) := by decide +kernel
theorem dX7_numbers_467 : decode cX7_numbers 467 = .ok (.invokevirtual 157, 3) := by decide +kernel
theorem dX7_numbers_470 : decode cX7_numbers 470 = .ok (.return_, 1) := by decide +kernel
theorem dX7_numbers_471 : decode cX7_numbers 471 = .ok (.aload_n 0, 1) := by decide +kernel
theorem dX7_numbers_472 : decode cX7_numbers 472 = .ok (.lload_n 2, 1) := by decide +kernel
theorem dX7_numbers_473 : decode cX7_numbers 473 = .ok (.lload 4, 2) := by decide +kernel
theorem dX7_numbers_475 : decode cX7_numbers 475 = .ok (.lcmp, 1) := by decide +kernel
theorem dX7_numbers_476 : decode cX7_numbers 476 = .ok (.ifCond .gt 7, 3) := by decide +kernel
theorem dX7_numbers_479 : decode cX7_numbers 479 = .ok (.iconst 1, 1) := by decide +kernel
theorem dX7_numbers_480 : decode cX7_numbers 480 = .ok (.goto 4, 3) := by decide +kernel
theorem dX7_numbers_483 : decode cX7_numbers 483 = .ok (.iconst 0, 1) := by decide +kernel
theorem dX7_numbers_484 : decode cX7_numbers 484 = .ok (.invokevirtual 157, 3) := by decide +kernel
theorem dX7_numbers_487 : decode cX7_numbers 487 = .ok (.return_, 1) := by decide +kernel
theorem dX7_numbers_488 : decode cX7_numbers 488 = .ok (.aload_n 0, 1) := by decide +kernel
theorem dX7_numbers_489 : decode cX7_numbers 489 = .ok (.lload_n 2, 1) := by decide +kernel
theorem dX7_numbers_490 : decode cX7_numbers 490 = .ok (.lload 4, 2) := by decide +kernel
theorem dX7_numbers_492 : decode cX7_numbers 492 = .ok (.lcmp, 1) := by decide +kernel
theorem dX7_numbers_493 : decode cX7_numbers 493 = .ok (.ifCond .lt 7, 3) := by decide +kernel
theorem dX7_numbers_496 : decode cX7_numbers 496 = .ok (.iconst 1, 1) := by decide +kernel
theorem dX7_numbers_497 : decode cX7_numbers 497 = .ok (.goto 4, 3) := by decide +kernel
theorem dX7_numbers_500 : decode cX7_numbers 500 = .ok (.iconst 0, 1) := by decide +kernel
theorem dX7_numbers_501 : decode cX7_numbers 501 = .ok (.invokevirtual 157, 3) := by decide +kernel
theorem dX7_numbers_504 : decode cX7_numbers 504 = .ok (.return_, 1) := by decide +kernel
theorem dX7_numbers_505 : decode cX7_numbers 505 = .ok (.aload_n 0, 1) := by decide +kernel
theorem dX7_numbers_506 : decode cX7_numbers 506 = .ok (.invokevirtual 62, 3) := by decide +kernel
theorem dX7_numbers_509 : decode cX7_numbers 509 = .ok (.lload_n 2, 1) := by decide +kernel
theorem dX7_numbers_510 : decode cX7_numbers 510 = .ok (.lload 4, 2) := by decide +kernel
theorem dX7_numbers_512 : decode cX7_numbers 512 = .ok (.invokestatic 183, 3) := by decide +kernel
theorem dX7_numbers_515 : decode cX7_numbers 515 = .ok (.invokevirtual 126, 3) := by decide +kernel
theorem dX7_numbers_518 : decode cX7_numbers 518 = .ok (.return_, 1) := by decide +kernel
theorem dX7_numbers_519 : decode cX7_numbers 519 = .ok (.aload_n 0, 1) := by decide +kernel
theorem dX7_numbers_520 : decode cX7_numbers 520 = .ok (.invokevirtual 62, 3) := by decide +kernel
theorem dX7_numbers_523 : decode cX7_numbers 523 = .ok (.lload_n 2, 1) := by decide +kernel
theorem dX7_numbers_524 : decode cX7_numbers 524 = .ok (.lload 4, 2) := by decide +kernel
theorem dX7_numbers_526 : decode cX7_numbers 526 = .ok (.invokestatic 187, 3) := by decide +kernel
theorem dX7_numbers_529 : decode cX7_numbers 529 = .ok (.invokevirtual 126, 3) := by decide +kernel
theorem dX7_numbers_532 : decode cX7_numbers 532 = .ok (.return_, 1) := by decide +kernel
/-! CoinJudge$Machine.numbers(I)V -/
set_option maxHeartbeats 4000000 in
theorem sX7_numbers_0 {G : Gx} {d t : Nat} {h0 : AH} {Φ : Out → AH → Prop} (h : AH) (v0 : Nat) (v1 : Int32) (K : ((146 < v1 → ((¬ v1 = 165 → h.kd v0 = 7 ∧ Cw G mX7_top d 0 [vR v0, vI 1] h (kR (fun x3 h4 => h4.kd x3 = 22 ∧ Cw G mX22_number d 0 [vR x3, vI 4] h4 (kJ (fun x6 h7 => Cw G mX7_top d 0 [vR v0, vI 0] h7 (kR (fun x9 h10 => h10.kd x9 = 22 ∧ Cw G mX22_number d 0 [vR x9, vI 4] h10 (kJ (fun x13 h14 => Cw G mX7_drop d 0 [vR v0, vI 2] h14 (kV (fun h17 => ((v1 = 147 → Cw G mX7_push d 0 [vR v0] h17 (kR (fun x21 h22 => h22.kd x21 = 22 ∧ Cw G mX22_be d 0 [vR x21, vJ (x6 + x13)] h22 (kV (fun h25 => Φ (.inl none) h25) (fun x h => Φ (.inr x) h))) (fun x h => Φ (.inr x) h))) ∧ (v1 = 148 → Cw G mX7_push d 0 [vR v0] h17 (kR (fun x28 h29 => h29.kd x28 = 22 ∧ Cw G mX22_be d 0 [vR x28, vJ (x6 - x13)] h29 (kV (fun h32 => Φ (.inl none) h32) (fun x h => Φ (.inr x) h))) (fun x h => Φ (.inr x) h))) ∧ (v1 = 154 → ((x6 = 0 → Cw G mX7_truth d 0 [vR v0, vI 0] h17 (kV (fun h37 => Φ (.inl none) h37) (fun x h => Φ (.inr x) h))) ∧ (¬ x6 = 0 → ((x13 = 0 → Cw G mX7_truth d 0 [vR v0, vI 0] h17 (kV (fun h41 => Φ (.inl none) h41) (fun x h => Φ (.inr x) h))) ∧ (¬ x13 = 0 → Cw G mX7_truth d 0 [vR v0, vI 1] h17 (kV (fun h44 => Φ (.inl none) h44) (fun x h => Φ (.inr x) h))))))) ∧ (v1 = 155 → ((¬ x6 = 0 → Cw G mX7_truth d 0 [vR v0, vI 1] h17 (kV (fun h49 => Φ (.inl none) h49) (fun x h => Φ (.inr x) h))) ∧ (x6 = 0 → ((x13 = 0 → Cw G mX7_truth d 0 [vR v0, vI 0] h17 (kV (fun h53 => Φ (.inl none) h53) (fun x h => Φ (.inr x) h))) ∧ (¬ x13 = 0 → Cw G mX7_truth d 0 [vR v0, vI 1] h17 (kV (fun h56 => Φ (.inl none) h56) (fun x h => Φ (.inr x) h))))))) ∧ (v1 = 156 → ((¬ x6 = x13 → Cw G mX7_truth d 0 [vR v0, vI 0] h17 (kV (fun h61 => Φ (.inl none) h61) (fun x h => Φ (.inr x) h))) ∧ (x6 = x13 → Cw G mX7_truth d 0 [vR v0, vI 1] h17 (kV (fun h64 => Φ (.inl none) h64) (fun x h => Φ (.inr x) h))))) ∧ (v1 = 157 → ((¬ x6 = x13 → Cw G mX7_need d 0 [vR v0, vI 0] h17 (kV (fun h69 => Φ (.inl none) h69) (fun x h => Φ (.inr x) h))) ∧ (x6 = x13 → Cw G mX7_need d 0 [vR v0, vI 1] h17 (kV (fun h72 => Φ (.inl none) h72) (fun x h => Φ (.inr x) h))))) ∧ (v1 = 158 → ((x6 = x13 → Cw G mX7_truth d 0 [vR v0, vI 0] h17 (kV (fun h77 => Φ (.inl none) h77) (fun x h => Φ (.inr x) h))) ∧ (¬ x6 = x13 → Cw G mX7_truth d 0 [vR v0, vI 1] h17 (kV (fun h80 => Φ (.inl none) h80) (fun x h => Φ (.inr x) h))))) ∧ (v1 = 159 → ((x13 ≤ x6 → Cw G mX7_truth d 0 [vR v0, vI 0] h17 (kV (fun h85 => Φ (.inl none) h85) (fun x h => Φ (.inr x) h))) ∧ (¬ x13 ≤ x6 → Cw G mX7_truth d 0 [vR v0, vI 1] h17 (kV (fun h88 => Φ (.inl none) h88) (fun x h => Φ (.inr x) h))))) ∧ (v1 = 160 → ((x6 ≤ x13 → Cw G mX7_truth d 0 [vR v0, vI 0] h17 (kV (fun h93 => Φ (.inl none) h93) (fun x h => Φ (.inr x) h))) ∧ (¬ x6 ≤ x13 → Cw G mX7_truth d 0 [vR v0, vI 1] h17 (kV (fun h96 => Φ (.inl none) h96) (fun x h => Φ (.inr x) h))))) ∧ (v1 = 161 → ((x13 < x6 → Cw G mX7_truth d 0 [vR v0, vI 0] h17 (kV (fun h101 => Φ (.inl none) h101) (fun x h => Φ (.inr x) h))) ∧ (¬ x13 < x6 → Cw G mX7_truth d 0 [vR v0, vI 1] h17 (kV (fun h104 => Φ (.inl none) h104) (fun x h => Φ (.inr x) h))))) ∧ (v1 = 162 → ((x6 < x13 → Cw G mX7_truth d 0 [vR v0, vI 0] h17 (kV (fun h109 => Φ (.inl none) h109) (fun x h => Φ (.inr x) h))) ∧ (¬ x6 < x13 → Cw G mX7_truth d 0 [vR v0, vI 1] h17 (kV (fun h112 => Φ (.inl none) h112) (fun x h => Φ (.inr x) h))))) ∧ (v1 = 163 → Cw G mX7_push d 0 [vR v0] h17 (kR (fun x115 h116 => Cw G mJ0_min d 0 [vJ x6, vJ x13] h116 (kJ (fun x118 h119 => h119.kd x115 = 22 ∧ Cw G mX22_be d 0 [vR x115, vJ x118] h119 (kV (fun h121 => Φ (.inl none) h121) (fun x h => Φ (.inr x) h))) (fun x h => Φ (.inr x) h))) (fun x h => Φ (.inr x) h))) ∧ (¬ v1 = 147 ∧ ¬ v1 = 148 ∧ ¬ v1 = 154 ∧ ¬ v1 = 155 ∧ ¬ v1 = 156 ∧ ¬ v1 = 157 ∧ ¬ v1 = 158 ∧ ¬ v1 = 159 ∧ ¬ v1 = 160 ∧ ¬ v1 = 161 ∧ ¬ v1 = 162 ∧ ¬ v1 = 163 → Cw G mX7_push d 0 [vR v0] h17 (kR (fun x123 h124 => Cw G mJ0_max d 0 [vJ x6, vJ x13] h124 (kJ (fun x126 h127 => h127.kd x123 = 22 ∧ Cw G mX22_be d 0 [vR x123, vJ x126] h127 (kV (fun h129 => Φ (.inl none) h129) (fun x h => Φ (.inr x) h))) (fun x h => Φ (.inr x) h))) (fun x h => Φ (.inr x) h))))) (fun x h => Φ (.inr x) h))) (fun x h => Φ (.inr x) h))) (fun x h => Φ (.inr x) h))) (fun x h => Φ (.inr x) h))) (fun x h => Φ (.inr x) h))) ∧ (v1 = 165 → h.kd v0 = 7 ∧ Cw G mX7_top d 0 [vR v0, vI 2] h (kR (fun x133 h134 => h134.kd x133 = 22 ∧ Cw G mX22_number d 0 [vR x133, vI 4] h134 (kJ (fun x136 h137 => Cw G mX7_top d 0 [vR v0, vI 1] h137 (kR (fun x139 h140 => h140.kd x139 = 22 ∧ Cw G mX22_number d 0 [vR x139, vI 4] h140 (kJ (fun x143 h144 => Cw G mX7_top d 0 [vR v0, vI 0] h144 (kR (fun x146 h147 => h147.kd x146 = 22 ∧ Cw G mX22_number d 0 [vR x146, vI 4] h147 (kJ (fun x150 h151 => Cw G mX7_drop d 0 [vR v0, vI 3] h151 (kV (fun h154 => ((x136 < x143 → Cw G mX7_truth d 0 [vR v0, vI 0] h154 (kV (fun h159 => Φ (.inl none) h159) (fun x h => Φ (.inr x) h))) ∧ (¬ x136 < x143 → ((x150 ≤ x136 → Cw G mX7_truth d 0 [vR v0, vI 0] h154 (kV (fun h163 => Φ (.inl none) h163) (fun x h => Φ (.inr x) h))) ∧ (¬ x150 ≤ x136 → Cw G mX7_truth d 0 [vR v0, vI 1] h154 (kV (fun h166 => Φ (.inl none) h166) (fun x h => Φ (.inr x) h))))))) (fun x h => Φ (.inr x) h))) (fun x h => Φ (.inr x) h))) (fun x h => Φ (.inr x) h))) (fun x h => Φ (.inr x) h))) (fun x h => Φ (.inr x) h))) (fun x h => Φ (.inr x) h))) (fun x h => Φ (.inr x) h))))) ∧ (¬ 146 < v1 → h.kd v0 = 7 ∧ Cw G mX7_top d 0 [vR v0, vI 0] h (kR (fun x168 h169 => h169.kd x168 = 22 ∧ Cw G mX22_number d 0 [vR x168, vI 4] h169 (kJ (fun x171 h172 => Cw G mX7_drop d 0 [vR v0, vI 1] h172 (kV (fun h175 => ((v1 = 139 → Cw G mX7_push d 0 [vR v0] h175 (kR (fun x179 h180 => h180.kd x179 = 22 ∧ Cw G mX22_be d 0 [vR x179, vJ (x171 + 1)] h180 (kV (fun h183 => Φ (.inl none) h183) (fun x h => Φ (.inr x) h))) (fun x h => Φ (.inr x) h))) ∧ (v1 = 140 → Cw G mX7_push d 0 [vR v0] h175 (kR (fun x186 h187 => h187.kd x186 = 22 ∧ Cw G mX22_be d 0 [vR x186, vJ (x171 - 1)] h187 (kV (fun h190 => Φ (.inl none) h190) (fun x h => Φ (.inr x) h))) (fun x h => Φ (.inr x) h))) ∧ (v1 = 143 → Cw G mX7_push d 0 [vR v0] h175 (kR (fun x193 h194 => h194.kd x193 = 22 ∧ Cw G mX22_be d 0 [vR x193, vJ (-x171)] h194 (kV (fun h197 => Φ (.inl none) h197) (fun x h => Φ (.inr x) h))) (fun x h => Φ (.inr x) h))) ∧ (v1 = 144 → Cw G mX7_push d 0 [vR v0] h175 (kR (fun x200 h201 => Cw G mJ0_abs d 0 [vJ x171] h201 (kJ (fun x203 h204 => h204.kd x200 = 22 ∧ Cw G mX22_be d 0 [vR x200, vJ x203] h204 (kV (fun h206 => Φ (.inl none) h206) (fun x h => Φ (.inr x) h))) (fun x h => Φ (.inr x) h))) (fun x h => Φ (.inr x) h))) ∧ (v1 = 145 → ((¬ x171 = 0 → Cw G mX7_truth d 0 [vR v0, vI 0] h175 (kV (fun h211 => Φ (.inl none) h211) (fun x h => Φ (.inr x) h))) ∧ (x171 = 0 → Cw G mX7_truth d 0 [vR v0, vI 1] h175 (kV (fun h214 => Φ (.inl none) h214) (fun x h => Φ (.inr x) h))))) ∧ (¬ v1 = 139 ∧ ¬ v1 = 140 ∧ ¬ v1 = 143 ∧ ¬ v1 = 144 ∧ ¬ v1 = 145 → ((x171 = 0 → Cw G mX7_truth d 0 [vR v0, vI 0] h175 (kV (fun h218 => Φ (.inl none) h218) (fun x h => Φ (.inr x) h))) ∧ (¬ x171 = 0 → Cw G mX7_truth d 0 [vR v0, vI 1] h175 (kV (fun h221 => Φ (.inl none) h221) (fun x h => Φ (.inr x) h))))))) (fun x h => Φ (.inr x) h))) (fun x h => Φ (.inr x) h))) (fun x h => Φ (.inr x) h))))) : Aw G mX7_numbers (d + 1) t h0 Φ 0 [vR v0, vI v1, vU, vU, vU, vU, vU, vU] [] h := by
  refine r_iload_n (pc := 0) dX7_numbers_0 rfl ?_
  refine r_sipush (pc := 1) (x := 146) dX7_numbers_1 rfl ?_
  refine r_icmp_gt (pc := 4) (tgt := 140) dX7_numbers_4 rfl (fun c1 => ?_) (fun c1 => ?_)
  · have K := K.1 c1
    refine r_iload_n (pc := 140) dX7_numbers_140 rfl ?_
    refine r_sipush (pc := 141) (x := 165) dX7_numbers_141 rfl ?_
    refine r_icmp_ne (pc := 144) (tgt := 208) dX7_numbers_144 rfl (fun c2 => ?_) (fun c2 => ?_)
    · have K := K.1 c2
      refine r_aload_n (pc := 208) dX7_numbers_208 rfl ?_
      refine r_iconst (pc := 209) (x := 1) dX7_numbers_209 rfl ?_
      obtain ⟨hk5, K⟩ := K
      refine r_callV_R (pc := 210) (Y := mX7_top) (vs := [_]) (st := []) hk5 rfl kc7 q1311 q1313 qs17 dX7_numbers_210 rfl cd_X7_top rfl rfl fp_X7_numbers_X7_top K (fun x3 h4 eh4 wh4 K => ?_) (fun x h1 _ _ e => Tw.out rfl e)
      refine r_iconst (pc := 213) (x := 4) dX7_numbers_213 rfl ?_
      obtain ⟨hk8, K⟩ := K
      refine r_callV_J (pc := 214) (Y := mX22_number) (vs := [_]) (st := []) hk8 rfl kc22 q1496 q1497 q1498 dX7_numbers_214 rfl cd_X22_number rfl rfl fp_X7_numbers_X22_number K (fun x6 h7 eh7 wh7 K => ?_) (fun x h1 _ _ e => Tw.out rfl e)
      refine r_lstore_n (pc := 217) (lv' := [_, _, _, _, _, _, _, _]) dX7_numbers_217 (by decide) rfl ?_
      refine r_aload_n (pc := 218) dX7_numbers_218 rfl ?_
      refine r_iconst (pc := 219) (x := 0) dX7_numbers_219 rfl ?_
      have hk11 := kd_ext eh4 hk5 (nz rfl)
      have hk12 := kd_ext eh7 hk11 (nz rfl)
      refine r_callV_R (pc := 220) (Y := mX7_top) (vs := [_]) (st := []) hk12 rfl kc7 q1311 q1313 qs17 dX7_numbers_220 rfl cd_X7_top rfl rfl fp_X7_numbers_X7_top K (fun x9 h10 eh10 wh10 K => ?_) (fun x h1 _ _ e => Tw.out rfl e)
      refine r_iconst (pc := 223) (x := 4) dX7_numbers_223 rfl ?_
      obtain ⟨hk15, K⟩ := K
      refine r_callV_J (pc := 224) (Y := mX22_number) (vs := [_]) (st := []) hk15 rfl kc22 q1496 q1497 q1498 dX7_numbers_224 rfl cd_X22_number rfl rfl fp_X7_numbers_X22_number K (fun x13 h14 eh14 wh14 K => ?_) (fun x h1 _ _ e => Tw.out rfl e)
      refine r_lstore (pc := 227) (lv' := [_, _, _, _, _, _, _, _]) dX7_numbers_227 (by decide) rfl ?_
      refine r_aload_n (pc := 229) dX7_numbers_229 rfl ?_
      refine r_iconst (pc := 230) (x := 2) dX7_numbers_230 rfl ?_
      have hk18 := kd_ext eh10 hk12 (nz rfl)
      have hk19 := kd_ext eh14 hk18 (nz rfl)
      refine r_callV_V (pc := 231) (Y := mX7_drop) (vs := [_]) (st := []) hk19 rfl kc7 q1319 q1321 qs18 dX7_numbers_231 rfl cd_X7_drop rfl rfl fp_X7_numbers_X7_drop K (fun h17 eh17 wh17 K => ?_) (fun x h1 _ _ e => Tw.out rfl e)
      refine r_iload_n (pc := 234) dX7_numbers_234 rfl ?_
      have K132 := K
      by_cases c20 : v1 = 147
      · have K := K132.1 c20
        refine r_tableIn (pc := 235) (tgt := 316) dX7_numbers_235 (by rw [c20]; decide) (by rw [c20]; decide) (by rw [c20]; rfl) rfl ?_
        refine r_aload_n (pc := 316) dX7_numbers_316 rfl ?_
        have hk23 := kd_ext eh17 hk19 (nz rfl)
        refine r_callV_R (pc := 317) (Y := mX7_push) (vs := []) (st := []) hk23 rfl kc7 q1280 q1282 qs15 dX7_numbers_317 rfl cd_X7_push rfl rfl fp_X7_numbers_X7_push K (fun x21 h22 eh22 wh22 K => ?_) (fun x h1 _ _ e => Tw.out rfl e)
        refine r_lload_n (pc := 320) dX7_numbers_320 rfl ?_
        refine r_lload (pc := 321) dX7_numbers_321 rfl ?_
        refine r_ladd (pc := 323) dX7_numbers_323 ?_
        obtain ⟨hk26, K⟩ := K
        refine r_callV_V (pc := 324) (Y := mX22_be) (vs := [_]) (st := []) hk26 rfl kc22 q1484 q1485 q1486 dX7_numbers_324 rfl cd_X22_be rfl rfl fp_X7_numbers_X22_be K (fun h25 eh25 wh25 K => ?_) (fun x h1 _ _ e => Tw.out rfl e)
        exact r_vret (pc := 327) rfl dX7_numbers_327 K
      · by_cases c27 : v1 = 148
        · have K := K132.2.1 c27
          refine r_tableIn (pc := 235) (tgt := 328) dX7_numbers_235 (by rw [c27]; decide) (by rw [c27]; decide) (by rw [c27]; rfl) rfl ?_
          refine r_aload_n (pc := 328) dX7_numbers_328 rfl ?_
          have hk30 := kd_ext eh17 hk19 (nz rfl)
          refine r_callV_R (pc := 329) (Y := mX7_push) (vs := []) (st := []) hk30 rfl kc7 q1280 q1282 qs15 dX7_numbers_329 rfl cd_X7_push rfl rfl fp_X7_numbers_X7_push K (fun x28 h29 eh29 wh29 K => ?_) (fun x h1 _ _ e => Tw.out rfl e)
          refine r_lload_n (pc := 332) dX7_numbers_332 rfl ?_
          refine r_lload (pc := 333) dX7_numbers_333 rfl ?_
          refine r_lsub (pc := 335) dX7_numbers_335 ?_
          obtain ⟨hk33, K⟩ := K
          refine r_callV_V (pc := 336) (Y := mX22_be) (vs := [_]) (st := []) hk33 rfl kc22 q1484 q1485 q1486 dX7_numbers_336 rfl cd_X22_be rfl rfl fp_X7_numbers_X22_be K (fun h32 eh32 wh32 K => ?_) (fun x h1 _ _ e => Tw.out rfl e)
          exact r_vret (pc := 339) rfl dX7_numbers_339 K
        · by_cases c34 : v1 = 154
          · have K := K132.2.2.1 c34
            refine r_tableIn (pc := 235) (tgt := 340) dX7_numbers_235 (by rw [c34]; decide) (by rw [c34]; decide) (by rw [c34]; rfl) rfl ?_
            refine r_aload_n (pc := 340) dX7_numbers_340 rfl ?_
            refine r_lload_n (pc := 341) dX7_numbers_341 rfl ?_
            refine r_lconst (pc := 342) (a := 0) dX7_numbers_342 rfl ?_
            refine r_lcmp_eq (pc := 343) (tgt := 358) dX7_numbers_343 dX7_numbers_344 rfl (fun c35 => ?_) (fun c35 => ?_)
            · have K := K.1 c35
              refine r_iconst (pc := 358) (x := 0) dX7_numbers_358 rfl ?_
              have hk38 := kd_ext eh17 hk19 (nz rfl)
              refine r_callV_V (pc := 359) (Y := mX7_truth) (vs := [_]) (st := []) hk38 rfl kc7 q1480 q1482 qs34 dX7_numbers_359 rfl cd_X7_truth rfl rfl fp_X7_numbers_X7_truth K (fun h37 eh37 wh37 K => ?_) (fun x h1 _ _ e => Tw.out rfl e)
              exact r_vret (pc := 362) rfl dX7_numbers_362 K
            · have K := K.2 c35
              refine r_lload (pc := 347) dX7_numbers_347 rfl ?_
              refine r_lconst (pc := 349) (a := 0) dX7_numbers_349 rfl ?_
              refine r_lcmp_eq (pc := 350) (tgt := 358) dX7_numbers_350 dX7_numbers_351 rfl (fun c39 => ?_) (fun c39 => ?_)
              · have K := K.1 c39
                refine r_iconst (pc := 358) (x := 0) dX7_numbers_358 rfl ?_
                have hk42 := kd_ext eh17 hk19 (nz rfl)
                refine r_callV_V (pc := 359) (Y := mX7_truth) (vs := [_]) (st := []) hk42 rfl kc7 q1480 q1482 qs34 dX7_numbers_359 rfl cd_X7_truth rfl rfl fp_X7_numbers_X7_truth K (fun h41 eh41 wh41 K => ?_) (fun x h1 _ _ e => Tw.out rfl e)
                exact r_vret (pc := 362) rfl dX7_numbers_362 K
              · have K := K.2 c39
                refine r_iconst (pc := 354) (x := 1) dX7_numbers_354 rfl ?_
                refine r_goto (pc := 355) (tgt := 359) dX7_numbers_355 rfl ?_
                have hk45 := kd_ext eh17 hk19 (nz rfl)
                refine r_callV_V (pc := 359) (Y := mX7_truth) (vs := [_]) (st := []) hk45 rfl kc7 q1480 q1482 qs34 dX7_numbers_359 rfl cd_X7_truth rfl rfl fp_X7_numbers_X7_truth K (fun h44 eh44 wh44 K => ?_) (fun x h1 _ _ e => Tw.out rfl e)
                exact r_vret (pc := 362) rfl dX7_numbers_362 K
          · by_cases c46 : v1 = 155
            · have K := K132.2.2.2.1 c46
              refine r_tableIn (pc := 235) (tgt := 363) dX7_numbers_235 (by rw [c46]; decide) (by rw [c46]; decide) (by rw [c46]; rfl) rfl ?_
              refine r_aload_n (pc := 363) dX7_numbers_363 rfl ?_
              refine r_lload_n (pc := 364) dX7_numbers_364 rfl ?_
              refine r_lconst (pc := 365) (a := 0) dX7_numbers_365 rfl ?_
              refine r_lcmp_ne (pc := 366) (tgt := 377) dX7_numbers_366 dX7_numbers_367 rfl (fun c47 => ?_) (fun c47 => ?_)
              · have K := K.1 c47
                refine r_iconst (pc := 377) (x := 1) dX7_numbers_377 rfl ?_
                refine r_goto (pc := 378) (tgt := 382) dX7_numbers_378 rfl ?_
                have hk50 := kd_ext eh17 hk19 (nz rfl)
                refine r_callV_V (pc := 382) (Y := mX7_truth) (vs := [_]) (st := []) hk50 rfl kc7 q1480 q1482 qs34 dX7_numbers_382 rfl cd_X7_truth rfl rfl fp_X7_numbers_X7_truth K (fun h49 eh49 wh49 K => ?_) (fun x h1 _ _ e => Tw.out rfl e)
                exact r_vret (pc := 385) rfl dX7_numbers_385 K
              · have K := K.2 c47
                refine r_lload (pc := 370) dX7_numbers_370 rfl ?_
                refine r_lconst (pc := 372) (a := 0) dX7_numbers_372 rfl ?_
                refine r_lcmp_eq (pc := 373) (tgt := 381) dX7_numbers_373 dX7_numbers_374 rfl (fun c51 => ?_) (fun c51 => ?_)
                · have K := K.1 c51
                  refine r_iconst (pc := 381) (x := 0) dX7_numbers_381 rfl ?_
                  have hk54 := kd_ext eh17 hk19 (nz rfl)
                  refine r_callV_V (pc := 382) (Y := mX7_truth) (vs := [_]) (st := []) hk54 rfl kc7 q1480 q1482 qs34 dX7_numbers_382 rfl cd_X7_truth rfl rfl fp_X7_numbers_X7_truth K (fun h53 eh53 wh53 K => ?_) (fun x h1 _ _ e => Tw.out rfl e)
                  exact r_vret (pc := 385) rfl dX7_numbers_385 K
                · have K := K.2 c51
                  refine r_iconst (pc := 377) (x := 1) dX7_numbers_377 rfl ?_
                  refine r_goto (pc := 378) (tgt := 382) dX7_numbers_378 rfl ?_
                  have hk57 := kd_ext eh17 hk19 (nz rfl)
                  refine r_callV_V (pc := 382) (Y := mX7_truth) (vs := [_]) (st := []) hk57 rfl kc7 q1480 q1482 qs34 dX7_numbers_382 rfl cd_X7_truth rfl rfl fp_X7_numbers_X7_truth K (fun h56 eh56 wh56 K => ?_) (fun x h1 _ _ e => Tw.out rfl e)
                  exact r_vret (pc := 385) rfl dX7_numbers_385 K
            · by_cases c58 : v1 = 156
              · have K := K132.2.2.2.2.1 c58
                refine r_tableIn (pc := 235) (tgt := 386) dX7_numbers_235 (by rw [c58]; decide) (by rw [c58]; decide) (by rw [c58]; rfl) rfl ?_
                refine r_aload_n (pc := 386) dX7_numbers_386 rfl ?_
                refine r_lload_n (pc := 387) dX7_numbers_387 rfl ?_
                refine r_lload (pc := 388) dX7_numbers_388 rfl ?_
                refine r_lcmp_ne (pc := 390) (tgt := 398) dX7_numbers_390 dX7_numbers_391 rfl (fun c59 => ?_) (fun c59 => ?_)
                · have K := K.1 c59
                  refine r_iconst (pc := 398) (x := 0) dX7_numbers_398 rfl ?_
                  have hk62 := kd_ext eh17 hk19 (nz rfl)
                  refine r_callV_V (pc := 399) (Y := mX7_truth) (vs := [_]) (st := []) hk62 rfl kc7 q1480 q1482 qs34 dX7_numbers_399 rfl cd_X7_truth rfl rfl fp_X7_numbers_X7_truth K (fun h61 eh61 wh61 K => ?_) (fun x h1 _ _ e => Tw.out rfl e)
                  exact r_vret (pc := 402) rfl dX7_numbers_402 K
                · have K := K.2 c59
                  refine r_iconst (pc := 394) (x := 1) dX7_numbers_394 rfl ?_
                  refine r_goto (pc := 395) (tgt := 399) dX7_numbers_395 rfl ?_
                  have hk65 := kd_ext eh17 hk19 (nz rfl)
                  refine r_callV_V (pc := 399) (Y := mX7_truth) (vs := [_]) (st := []) hk65 rfl kc7 q1480 q1482 qs34 dX7_numbers_399 rfl cd_X7_truth rfl rfl fp_X7_numbers_X7_truth K (fun h64 eh64 wh64 K => ?_) (fun x h1 _ _ e => Tw.out rfl e)
                  exact r_vret (pc := 402) rfl dX7_numbers_402 K
              · by_cases c66 : v1 = 157
                · have K := K132.2.2.2.2.2.1 c66
                  refine r_tableIn (pc := 235) (tgt := 403) dX7_numbers_235 (by rw [c66]; decide) (by rw [c66]; decide) (by rw [c66]; rfl) rfl ?_
                  refine r_aload_n (pc := 403) dX7_numbers_403 rfl ?_
                  refine r_lload_n (pc := 404) dX7_numbers_404 rfl ?_
                  refine r_lload (pc := 405) dX7_numbers_405 rfl ?_
                  refine r_lcmp_ne (pc := 407) (tgt := 415) dX7_numbers_407 dX7_numbers_408 rfl (fun c67 => ?_) (fun c67 => ?_)
                  · have K := K.1 c67
                    refine r_iconst (pc := 415) (x := 0) dX7_numbers_415 rfl ?_
                    have hk70 := kd_ext eh17 hk19 (nz rfl)
                    refine r_callV_V (pc := 416) (Y := mX7_need) (vs := [_]) (st := []) hk70 rfl kc7 q1272 q1274 qs14 dX7_numbers_416 rfl cd_X7_need rfl rfl fp_X7_numbers_X7_need K (fun h69 eh69 wh69 K => ?_) (fun x h1 _ _ e => Tw.out rfl e)
                    exact r_vret (pc := 419) rfl dX7_numbers_419 K
                  · have K := K.2 c67
                    refine r_iconst (pc := 411) (x := 1) dX7_numbers_411 rfl ?_
                    refine r_goto (pc := 412) (tgt := 416) dX7_numbers_412 rfl ?_
                    have hk73 := kd_ext eh17 hk19 (nz rfl)
                    refine r_callV_V (pc := 416) (Y := mX7_need) (vs := [_]) (st := []) hk73 rfl kc7 q1272 q1274 qs14 dX7_numbers_416 rfl cd_X7_need rfl rfl fp_X7_numbers_X7_need K (fun h72 eh72 wh72 K => ?_) (fun x h1 _ _ e => Tw.out rfl e)
                    exact r_vret (pc := 419) rfl dX7_numbers_419 K
                · by_cases c74 : v1 = 158
                  · have K := K132.2.2.2.2.2.2.1 c74
                    refine r_tableIn (pc := 235) (tgt := 420) dX7_numbers_235 (by rw [c74]; decide) (by rw [c74]; decide) (by rw [c74]; rfl) rfl ?_
                    refine r_aload_n (pc := 420) dX7_numbers_420 rfl ?_
                    refine r_lload_n (pc := 421) dX7_numbers_421 rfl ?_
                    refine r_lload (pc := 422) dX7_numbers_422 rfl ?_
                    refine r_lcmp_eq (pc := 424) (tgt := 432) dX7_numbers_424 dX7_numbers_425 rfl (fun c75 => ?_) (fun c75 => ?_)
                    · have K := K.1 c75
                      refine r_iconst (pc := 432) (x := 0) dX7_numbers_432 rfl ?_
                      have hk78 := kd_ext eh17 hk19 (nz rfl)
                      refine r_callV_V (pc := 433) (Y := mX7_truth) (vs := [_]) (st := []) hk78 rfl kc7 q1480 q1482 qs34 dX7_numbers_433 rfl cd_X7_truth rfl rfl fp_X7_numbers_X7_truth K (fun h77 eh77 wh77 K => ?_) (fun x h1 _ _ e => Tw.out rfl e)
                      exact r_vret (pc := 436) rfl dX7_numbers_436 K
                    · have K := K.2 c75
                      refine r_iconst (pc := 428) (x := 1) dX7_numbers_428 rfl ?_
                      refine r_goto (pc := 429) (tgt := 433) dX7_numbers_429 rfl ?_
                      have hk81 := kd_ext eh17 hk19 (nz rfl)
                      refine r_callV_V (pc := 433) (Y := mX7_truth) (vs := [_]) (st := []) hk81 rfl kc7 q1480 q1482 qs34 dX7_numbers_433 rfl cd_X7_truth rfl rfl fp_X7_numbers_X7_truth K (fun h80 eh80 wh80 K => ?_) (fun x h1 _ _ e => Tw.out rfl e)
                      exact r_vret (pc := 436) rfl dX7_numbers_436 K
                  · by_cases c82 : v1 = 159
                    · have K := K132.2.2.2.2.2.2.2.1 c82
                      refine r_tableIn (pc := 235) (tgt := 437) dX7_numbers_235 (by rw [c82]; decide) (by rw [c82]; decide) (by rw [c82]; rfl) rfl ?_
                      refine r_aload_n (pc := 437) dX7_numbers_437 rfl ?_
                      refine r_lload_n (pc := 438) dX7_numbers_438 rfl ?_
                      refine r_lload (pc := 439) dX7_numbers_439 rfl ?_
                      refine r_lcmp_ge (pc := 441) (tgt := 449) dX7_numbers_441 dX7_numbers_442 rfl (fun c83 => ?_) (fun c83 => ?_)
                      · have K := K.1 c83
                        refine r_iconst (pc := 449) (x := 0) dX7_numbers_449 rfl ?_
                        have hk86 := kd_ext eh17 hk19 (nz rfl)
                        refine r_callV_V (pc := 450) (Y := mX7_truth) (vs := [_]) (st := []) hk86 rfl kc7 q1480 q1482 qs34 dX7_numbers_450 rfl cd_X7_truth rfl rfl fp_X7_numbers_X7_truth K (fun h85 eh85 wh85 K => ?_) (fun x h1 _ _ e => Tw.out rfl e)
                        exact r_vret (pc := 453) rfl dX7_numbers_453 K
                      · have K := K.2 c83
                        refine r_iconst (pc := 445) (x := 1) dX7_numbers_445 rfl ?_
                        refine r_goto (pc := 446) (tgt := 450) dX7_numbers_446 rfl ?_
                        have hk89 := kd_ext eh17 hk19 (nz rfl)
                        refine r_callV_V (pc := 450) (Y := mX7_truth) (vs := [_]) (st := []) hk89 rfl kc7 q1480 q1482 qs34 dX7_numbers_450 rfl cd_X7_truth rfl rfl fp_X7_numbers_X7_truth K (fun h88 eh88 wh88 K => ?_) (fun x h1 _ _ e => Tw.out rfl e)
                        exact r_vret (pc := 453) rfl dX7_numbers_453 K
                    · by_cases c90 : v1 = 160
                      · have K := K132.2.2.2.2.2.2.2.2.1 c90
                        refine r_tableIn (pc := 235) (tgt := 454) dX7_numbers_235 (by rw [c90]; decide) (by rw [c90]; decide) (by rw [c90]; rfl) rfl ?_
                        refine r_aload_n (pc := 454) dX7_numbers_454 rfl ?_
                        refine r_lload_n (pc := 455) dX7_numbers_455 rfl ?_
                        refine r_lload (pc := 456) dX7_numbers_456 rfl ?_
                        refine r_lcmp_le (pc := 458) (tgt := 466) dX7_numbers_458 dX7_numbers_459 rfl (fun c91 => ?_) (fun c91 => ?_)
                        · have K := K.1 c91
                          refine r_iconst (pc := 466) (x := 0) dX7_numbers_466 rfl ?_
                          have hk94 := kd_ext eh17 hk19 (nz rfl)
                          refine r_callV_V (pc := 467) (Y := mX7_truth) (vs := [_]) (st := []) hk94 rfl kc7 q1480 q1482 qs34 dX7_numbers_467 rfl cd_X7_truth rfl rfl fp_X7_numbers_X7_truth K (fun h93 eh93 wh93 K => ?_) (fun x h1 _ _ e => Tw.out rfl e)
                          exact r_vret (pc := 470) rfl dX7_numbers_470 K
                        · have K := K.2 c91
                          refine r_iconst (pc := 462) (x := 1) dX7_numbers_462 rfl ?_
                          refine r_goto (pc := 463) (tgt := 467) dX7_numbers_463 rfl ?_
                          have hk97 := kd_ext eh17 hk19 (nz rfl)
                          refine r_callV_V (pc := 467) (Y := mX7_truth) (vs := [_]) (st := []) hk97 rfl kc7 q1480 q1482 qs34 dX7_numbers_467 rfl cd_X7_truth rfl rfl fp_X7_numbers_X7_truth K (fun h96 eh96 wh96 K => ?_) (fun x h1 _ _ e => Tw.out rfl e)
                          exact r_vret (pc := 470) rfl dX7_numbers_470 K
                      · by_cases c98 : v1 = 161
                        · have K := K132.2.2.2.2.2.2.2.2.2.1 c98
                          refine r_tableIn (pc := 235) (tgt := 471) dX7_numbers_235 (by rw [c98]; decide) (by rw [c98]; decide) (by rw [c98]; rfl) rfl ?_
                          refine r_aload_n (pc := 471) dX7_numbers_471 rfl ?_
                          refine r_lload_n (pc := 472) dX7_numbers_472 rfl ?_
                          refine r_lload (pc := 473) dX7_numbers_473 rfl ?_
                          refine r_lcmp_gt (pc := 475) (tgt := 483) dX7_numbers_475 dX7_numbers_476 rfl (fun c99 => ?_) (fun c99 => ?_)
                          · have K := K.1 c99
                            refine r_iconst (pc := 483) (x := 0) dX7_numbers_483 rfl ?_
                            have hk102 := kd_ext eh17 hk19 (nz rfl)
                            refine r_callV_V (pc := 484) (Y := mX7_truth) (vs := [_]) (st := []) hk102 rfl kc7 q1480 q1482 qs34 dX7_numbers_484 rfl cd_X7_truth rfl rfl fp_X7_numbers_X7_truth K (fun h101 eh101 wh101 K => ?_) (fun x h1 _ _ e => Tw.out rfl e)
                            exact r_vret (pc := 487) rfl dX7_numbers_487 K
                          · have K := K.2 c99
                            refine r_iconst (pc := 479) (x := 1) dX7_numbers_479 rfl ?_
                            refine r_goto (pc := 480) (tgt := 484) dX7_numbers_480 rfl ?_
                            have hk105 := kd_ext eh17 hk19 (nz rfl)
                            refine r_callV_V (pc := 484) (Y := mX7_truth) (vs := [_]) (st := []) hk105 rfl kc7 q1480 q1482 qs34 dX7_numbers_484 rfl cd_X7_truth rfl rfl fp_X7_numbers_X7_truth K (fun h104 eh104 wh104 K => ?_) (fun x h1 _ _ e => Tw.out rfl e)
                            exact r_vret (pc := 487) rfl dX7_numbers_487 K
                        · by_cases c106 : v1 = 162
                          · have K := K132.2.2.2.2.2.2.2.2.2.2.1 c106
                            refine r_tableIn (pc := 235) (tgt := 488) dX7_numbers_235 (by rw [c106]; decide) (by rw [c106]; decide) (by rw [c106]; rfl) rfl ?_
                            refine r_aload_n (pc := 488) dX7_numbers_488 rfl ?_
                            refine r_lload_n (pc := 489) dX7_numbers_489 rfl ?_
                            refine r_lload (pc := 490) dX7_numbers_490 rfl ?_
                            refine r_lcmp_lt (pc := 492) (tgt := 500) dX7_numbers_492 dX7_numbers_493 rfl (fun c107 => ?_) (fun c107 => ?_)
                            · have K := K.1 c107
                              refine r_iconst (pc := 500) (x := 0) dX7_numbers_500 rfl ?_
                              have hk110 := kd_ext eh17 hk19 (nz rfl)
                              refine r_callV_V (pc := 501) (Y := mX7_truth) (vs := [_]) (st := []) hk110 rfl kc7 q1480 q1482 qs34 dX7_numbers_501 rfl cd_X7_truth rfl rfl fp_X7_numbers_X7_truth K (fun h109 eh109 wh109 K => ?_) (fun x h1 _ _ e => Tw.out rfl e)
                              exact r_vret (pc := 504) rfl dX7_numbers_504 K
                            · have K := K.2 c107
                              refine r_iconst (pc := 496) (x := 1) dX7_numbers_496 rfl ?_
                              refine r_goto (pc := 497) (tgt := 501) dX7_numbers_497 rfl ?_
                              have hk113 := kd_ext eh17 hk19 (nz rfl)
                              refine r_callV_V (pc := 501) (Y := mX7_truth) (vs := [_]) (st := []) hk113 rfl kc7 q1480 q1482 qs34 dX7_numbers_501 rfl cd_X7_truth rfl rfl fp_X7_numbers_X7_truth K (fun h112 eh112 wh112 K => ?_) (fun x h1 _ _ e => Tw.out rfl e)
                              exact r_vret (pc := 504) rfl dX7_numbers_504 K
                          · by_cases c114 : v1 = 163
                            · have K := K132.2.2.2.2.2.2.2.2.2.2.2.1 c114
                              refine r_tableIn (pc := 235) (tgt := 505) dX7_numbers_235 (by rw [c114]; decide) (by rw [c114]; decide) (by rw [c114]; rfl) rfl ?_
                              refine r_aload_n (pc := 505) dX7_numbers_505 rfl ?_
                              have hk117 := kd_ext eh17 hk19 (nz rfl)
                              refine r_callV_R (pc := 506) (Y := mX7_push) (vs := []) (st := []) hk117 rfl kc7 q1280 q1282 qs15 dX7_numbers_506 rfl cd_X7_push rfl rfl fp_X7_numbers_X7_push K (fun x115 h116 eh116 wh116 K => ?_) (fun x h1 _ _ e => Tw.out rfl e)
                              refine r_lload_n (pc := 509) dX7_numbers_509 rfl ?_
                              refine r_lload (pc := 510) dX7_numbers_510 rfl ?_
                              refine r_callS_J (pc := 512) (Y := mJ0_min) (vs := [_, _]) (st := [_]) q1517 q840 q152 dX7_numbers_512 rfl cd_J0_min (cOk_of pf_J0_min rfl) rfl fp_X7_numbers_J0_min K (fun x118 h119 eh119 wh119 K => ?_) (fun x h1 _ _ e => Tw.out rfl e)
                              obtain ⟨hk122, K⟩ := K
                              refine r_callV_V (pc := 515) (Y := mX22_be) (vs := [_]) (st := []) hk122 rfl kc22 q1484 q1485 q1486 dX7_numbers_515 rfl cd_X22_be rfl rfl fp_X7_numbers_X22_be K (fun h121 eh121 wh121 K => ?_) (fun x h1 _ _ e => Tw.out rfl e)
                              exact r_vret (pc := 518) rfl dX7_numbers_518 K
                            · have K := K132.2.2.2.2.2.2.2.2.2.2.2.2 ⟨c20, c27, c34, c46, c58, c66, c74, c82, c90, c98, c106, c114⟩
                              refine r_tableD (pc := 235) (tgt := 519) dX7_numbers_235 (by decide) ?_ rfl ?_
                              · intro i hi hq
                                match i, hi with
                                | 0, _ => exact c20
                                | 1, _ => exact c27
                                | 2, _ => exact absurd rfl hq
                                | 3, _ => exact absurd rfl hq
                                | 4, _ => exact absurd rfl hq
                                | 5, _ => exact absurd rfl hq
                                | 6, _ => exact absurd rfl hq
                                | 7, _ => exact c34
                                | 8, _ => exact c46
                                | 9, _ => exact c58
                                | 10, _ => exact c66
                                | 11, _ => exact c74
                                | 12, _ => exact c82
                                | 13, _ => exact c90
                                | 14, _ => exact c98
                                | 15, _ => exact c106
                                | 16, _ => exact c114
                                | i + 17, hi => exact absurd hi (Nat.not_lt.mpr (Nat.le_add_left 17 i))
                              · refine r_aload_n (pc := 519) dX7_numbers_519 rfl ?_
                                have hk125 := kd_ext eh17 hk19 (nz rfl)
                                refine r_callV_R (pc := 520) (Y := mX7_push) (vs := []) (st := []) hk125 rfl kc7 q1280 q1282 qs15 dX7_numbers_520 rfl cd_X7_push rfl rfl fp_X7_numbers_X7_push K (fun x123 h124 eh124 wh124 K => ?_) (fun x h1 _ _ e => Tw.out rfl e)
                                refine r_lload_n (pc := 523) dX7_numbers_523 rfl ?_
                                refine r_lload (pc := 524) dX7_numbers_524 rfl ?_
                                refine r_callS_J (pc := 526) (Y := mJ0_max) (vs := [_, _]) (st := [_]) q1518 q843 q152 dX7_numbers_526 rfl cd_J0_max (cOk_of pf_J0_max rfl) rfl fp_X7_numbers_J0_max K (fun x126 h127 eh127 wh127 K => ?_) (fun x h1 _ _ e => Tw.out rfl e)
                                obtain ⟨hk130, K⟩ := K
                                refine r_callV_V (pc := 529) (Y := mX22_be) (vs := [_]) (st := []) hk130 rfl kc22 q1484 q1485 q1486 dX7_numbers_529 rfl cd_X22_be rfl rfl fp_X7_numbers_X22_be K (fun h129 eh129 wh129 K => ?_) (fun x h1 _ _ e => Tw.out rfl e)
                                exact r_vret (pc := 532) rfl dX7_numbers_532 K
    · have K := K.2 c2
      refine r_aload_n (pc := 147) dX7_numbers_147 rfl ?_
      refine r_iconst (pc := 148) (x := 2) dX7_numbers_148 rfl ?_
      obtain ⟨hk135, K⟩ := K
      refine r_callV_R (pc := 149) (Y := mX7_top) (vs := [_]) (st := []) hk135 rfl kc7 q1311 q1313 qs17 dX7_numbers_149 rfl cd_X7_top rfl rfl fp_X7_numbers_X7_top K (fun x133 h134 eh134 wh134 K => ?_) (fun x h1 _ _ e => Tw.out rfl e)
      refine r_iconst (pc := 152) (x := 4) dX7_numbers_152 rfl ?_
      obtain ⟨hk138, K⟩ := K
      refine r_callV_J (pc := 153) (Y := mX22_number) (vs := [_]) (st := []) hk138 rfl kc22 q1496 q1497 q1498 dX7_numbers_153 rfl cd_X22_number rfl rfl fp_X7_numbers_X22_number K (fun x136 h137 eh137 wh137 K => ?_) (fun x h1 _ _ e => Tw.out rfl e)
      refine r_lstore_n (pc := 156) (lv' := [_, _, _, _, _, _, _, _]) dX7_numbers_156 (by decide) rfl ?_
      refine r_aload_n (pc := 157) dX7_numbers_157 rfl ?_
      refine r_iconst (pc := 158) (x := 1) dX7_numbers_158 rfl ?_
      have hk141 := kd_ext eh134 hk135 (nz rfl)
      have hk142 := kd_ext eh137 hk141 (nz rfl)
      refine r_callV_R (pc := 159) (Y := mX7_top) (vs := [_]) (st := []) hk142 rfl kc7 q1311 q1313 qs17 dX7_numbers_159 rfl cd_X7_top rfl rfl fp_X7_numbers_X7_top K (fun x139 h140 eh140 wh140 K => ?_) (fun x h1 _ _ e => Tw.out rfl e)
      refine r_iconst (pc := 162) (x := 4) dX7_numbers_162 rfl ?_
      obtain ⟨hk145, K⟩ := K
      refine r_callV_J (pc := 163) (Y := mX22_number) (vs := [_]) (st := []) hk145 rfl kc22 q1496 q1497 q1498 dX7_numbers_163 rfl cd_X22_number rfl rfl fp_X7_numbers_X22_number K (fun x143 h144 eh144 wh144 K => ?_) (fun x h1 _ _ e => Tw.out rfl e)
      refine r_lstore (pc := 166) (lv' := [_, _, _, _, _, _, _, _]) dX7_numbers_166 (by decide) rfl ?_
      refine r_aload_n (pc := 168) dX7_numbers_168 rfl ?_
      refine r_iconst (pc := 169) (x := 0) dX7_numbers_169 rfl ?_
      have hk148 := kd_ext eh140 hk142 (nz rfl)
      have hk149 := kd_ext eh144 hk148 (nz rfl)
      refine r_callV_R (pc := 170) (Y := mX7_top) (vs := [_]) (st := []) hk149 rfl kc7 q1311 q1313 qs17 dX7_numbers_170 rfl cd_X7_top rfl rfl fp_X7_numbers_X7_top K (fun x146 h147 eh147 wh147 K => ?_) (fun x h1 _ _ e => Tw.out rfl e)
      refine r_iconst (pc := 173) (x := 4) dX7_numbers_173 rfl ?_
      obtain ⟨hk152, K⟩ := K
      refine r_callV_J (pc := 174) (Y := mX22_number) (vs := [_]) (st := []) hk152 rfl kc22 q1496 q1497 q1498 dX7_numbers_174 rfl cd_X22_number rfl rfl fp_X7_numbers_X22_number K (fun x150 h151 eh151 wh151 K => ?_) (fun x h1 _ _ e => Tw.out rfl e)
      refine r_lstore (pc := 177) (lv' := [_, _, _, _, _, _, _, _]) dX7_numbers_177 (by decide) rfl ?_
      refine r_aload_n (pc := 179) dX7_numbers_179 rfl ?_
      refine r_iconst (pc := 180) (x := 3) dX7_numbers_180 rfl ?_
      have hk155 := kd_ext eh147 hk149 (nz rfl)
      have hk156 := kd_ext eh151 hk155 (nz rfl)
      refine r_callV_V (pc := 181) (Y := mX7_drop) (vs := [_]) (st := []) hk156 rfl kc7 q1319 q1321 qs18 dX7_numbers_181 rfl cd_X7_drop rfl rfl fp_X7_numbers_X7_drop K (fun h154 eh154 wh154 K => ?_) (fun x h1 _ _ e => Tw.out rfl e)
      refine r_aload_n (pc := 184) dX7_numbers_184 rfl ?_
      refine r_lload_n (pc := 185) dX7_numbers_185 rfl ?_
      refine r_lload (pc := 186) dX7_numbers_186 rfl ?_
      refine r_lcmp_lt (pc := 188) (tgt := 203) dX7_numbers_188 dX7_numbers_189 rfl (fun c157 => ?_) (fun c157 => ?_)
      · have K := K.1 c157
        refine r_iconst (pc := 203) (x := 0) dX7_numbers_203 rfl ?_
        have hk160 := kd_ext eh154 hk156 (nz rfl)
        refine r_callV_V (pc := 204) (Y := mX7_truth) (vs := [_]) (st := []) hk160 rfl kc7 q1480 q1482 qs34 dX7_numbers_204 rfl cd_X7_truth rfl rfl fp_X7_numbers_X7_truth K (fun h159 eh159 wh159 K => ?_) (fun x h1 _ _ e => Tw.out rfl e)
        exact r_vret (pc := 207) rfl dX7_numbers_207 K
      · have K := K.2 c157
        refine r_lload_n (pc := 192) dX7_numbers_192 rfl ?_
        refine r_lload (pc := 193) dX7_numbers_193 rfl ?_
        refine r_lcmp_ge (pc := 195) (tgt := 203) dX7_numbers_195 dX7_numbers_196 rfl (fun c161 => ?_) (fun c161 => ?_)
        · have K := K.1 c161
          refine r_iconst (pc := 203) (x := 0) dX7_numbers_203 rfl ?_
          have hk164 := kd_ext eh154 hk156 (nz rfl)
          refine r_callV_V (pc := 204) (Y := mX7_truth) (vs := [_]) (st := []) hk164 rfl kc7 q1480 q1482 qs34 dX7_numbers_204 rfl cd_X7_truth rfl rfl fp_X7_numbers_X7_truth K (fun h163 eh163 wh163 K => ?_) (fun x h1 _ _ e => Tw.out rfl e)
          exact r_vret (pc := 207) rfl dX7_numbers_207 K
        · have K := K.2 c161
          refine r_iconst (pc := 199) (x := 1) dX7_numbers_199 rfl ?_
          refine r_goto (pc := 200) (tgt := 204) dX7_numbers_200 rfl ?_
          have hk167 := kd_ext eh154 hk156 (nz rfl)
          refine r_callV_V (pc := 204) (Y := mX7_truth) (vs := [_]) (st := []) hk167 rfl kc7 q1480 q1482 qs34 dX7_numbers_204 rfl cd_X7_truth rfl rfl fp_X7_numbers_X7_truth K (fun h166 eh166 wh166 K => ?_) (fun x h1 _ _ e => Tw.out rfl e)
          exact r_vret (pc := 207) rfl dX7_numbers_207 K
  · have K := K.2 c1
    refine r_aload_n (pc := 7) dX7_numbers_7 rfl ?_
    refine r_iconst (pc := 8) (x := 0) dX7_numbers_8 rfl ?_
    obtain ⟨hk170, K⟩ := K
    refine r_callV_R (pc := 9) (Y := mX7_top) (vs := [_]) (st := []) hk170 rfl kc7 q1311 q1313 qs17 dX7_numbers_9 rfl cd_X7_top rfl rfl fp_X7_numbers_X7_top K (fun x168 h169 eh169 wh169 K => ?_) (fun x h1 _ _ e => Tw.out rfl e)
    refine r_iconst (pc := 12) (x := 4) dX7_numbers_12 rfl ?_
    obtain ⟨hk173, K⟩ := K
    refine r_callV_J (pc := 13) (Y := mX22_number) (vs := [_]) (st := []) hk173 rfl kc22 q1496 q1497 q1498 dX7_numbers_13 rfl cd_X22_number rfl rfl fp_X7_numbers_X22_number K (fun x171 h172 eh172 wh172 K => ?_) (fun x h1 _ _ e => Tw.out rfl e)
    refine r_lstore_n (pc := 16) (lv' := [_, _, _, _, _, _, _, _]) dX7_numbers_16 (by decide) rfl ?_
    refine r_aload_n (pc := 17) dX7_numbers_17 rfl ?_
    refine r_iconst (pc := 18) (x := 1) dX7_numbers_18 rfl ?_
    have hk176 := kd_ext eh169 hk170 (nz rfl)
    have hk177 := kd_ext eh172 hk176 (nz rfl)
    refine r_callV_V (pc := 19) (Y := mX7_drop) (vs := [_]) (st := []) hk177 rfl kc7 q1319 q1321 qs18 dX7_numbers_19 rfl cd_X7_drop rfl rfl fp_X7_numbers_X7_drop K (fun h175 eh175 wh175 K => ?_) (fun x h1 _ _ e => Tw.out rfl e)
    refine r_iload_n (pc := 22) dX7_numbers_22 rfl ?_
    have K224 := K
    by_cases c178 : v1 = 139
    · have K := K224.1 c178
      refine r_tableIn (pc := 23) (tgt := 64) dX7_numbers_23 (by rw [c178]; decide) (by rw [c178]; decide) (by rw [c178]; rfl) rfl ?_
      refine r_aload_n (pc := 64) dX7_numbers_64 rfl ?_
      have hk181 := kd_ext eh175 hk177 (nz rfl)
      refine r_callV_R (pc := 65) (Y := mX7_push) (vs := []) (st := []) hk181 rfl kc7 q1280 q1282 qs15 dX7_numbers_65 rfl cd_X7_push rfl rfl fp_X7_numbers_X7_push K (fun x179 h180 eh180 wh180 K => ?_) (fun x h1 _ _ e => Tw.out rfl e)
      refine r_lload_n (pc := 68) dX7_numbers_68 rfl ?_
      refine r_lconst (pc := 69) (a := 1) dX7_numbers_69 rfl ?_
      refine r_ladd (pc := 70) dX7_numbers_70 ?_
      obtain ⟨hk184, K⟩ := K
      refine r_callV_V (pc := 71) (Y := mX22_be) (vs := [_]) (st := []) hk184 rfl kc22 q1484 q1485 q1486 dX7_numbers_71 rfl cd_X22_be rfl rfl fp_X7_numbers_X22_be K (fun h183 eh183 wh183 K => ?_) (fun x h1 _ _ e => Tw.out rfl e)
      exact r_vret (pc := 74) rfl dX7_numbers_74 K
    · by_cases c185 : v1 = 140
      · have K := K224.2.1 c185
        refine r_tableIn (pc := 23) (tgt := 75) dX7_numbers_23 (by rw [c185]; decide) (by rw [c185]; decide) (by rw [c185]; rfl) rfl ?_
        refine r_aload_n (pc := 75) dX7_numbers_75 rfl ?_
        have hk188 := kd_ext eh175 hk177 (nz rfl)
        refine r_callV_R (pc := 76) (Y := mX7_push) (vs := []) (st := []) hk188 rfl kc7 q1280 q1282 qs15 dX7_numbers_76 rfl cd_X7_push rfl rfl fp_X7_numbers_X7_push K (fun x186 h187 eh187 wh187 K => ?_) (fun x h1 _ _ e => Tw.out rfl e)
        refine r_lload_n (pc := 79) dX7_numbers_79 rfl ?_
        refine r_lconst (pc := 80) (a := 1) dX7_numbers_80 rfl ?_
        refine r_lsub (pc := 81) dX7_numbers_81 ?_
        obtain ⟨hk191, K⟩ := K
        refine r_callV_V (pc := 82) (Y := mX22_be) (vs := [_]) (st := []) hk191 rfl kc22 q1484 q1485 q1486 dX7_numbers_82 rfl cd_X22_be rfl rfl fp_X7_numbers_X22_be K (fun h190 eh190 wh190 K => ?_) (fun x h1 _ _ e => Tw.out rfl e)
        exact r_vret (pc := 85) rfl dX7_numbers_85 K
      · by_cases c192 : v1 = 143
        · have K := K224.2.2.1 c192
          refine r_tableIn (pc := 23) (tgt := 86) dX7_numbers_23 (by rw [c192]; decide) (by rw [c192]; decide) (by rw [c192]; rfl) rfl ?_
          refine r_aload_n (pc := 86) dX7_numbers_86 rfl ?_
          have hk195 := kd_ext eh175 hk177 (nz rfl)
          refine r_callV_R (pc := 87) (Y := mX7_push) (vs := []) (st := []) hk195 rfl kc7 q1280 q1282 qs15 dX7_numbers_87 rfl cd_X7_push rfl rfl fp_X7_numbers_X7_push K (fun x193 h194 eh194 wh194 K => ?_) (fun x h1 _ _ e => Tw.out rfl e)
          refine r_lload_n (pc := 90) dX7_numbers_90 rfl ?_
          refine r_lneg (pc := 91) dX7_numbers_91 ?_
          obtain ⟨hk198, K⟩ := K
          refine r_callV_V (pc := 92) (Y := mX22_be) (vs := [_]) (st := []) hk198 rfl kc22 q1484 q1485 q1486 dX7_numbers_92 rfl cd_X22_be rfl rfl fp_X7_numbers_X22_be K (fun h197 eh197 wh197 K => ?_) (fun x h1 _ _ e => Tw.out rfl e)
          exact r_vret (pc := 95) rfl dX7_numbers_95 K
        · by_cases c199 : v1 = 144
          · have K := K224.2.2.2.1 c199
            refine r_tableIn (pc := 23) (tgt := 96) dX7_numbers_23 (by rw [c199]; decide) (by rw [c199]; decide) (by rw [c199]; rfl) rfl ?_
            refine r_aload_n (pc := 96) dX7_numbers_96 rfl ?_
            have hk202 := kd_ext eh175 hk177 (nz rfl)
            refine r_callV_R (pc := 97) (Y := mX7_push) (vs := []) (st := []) hk202 rfl kc7 q1280 q1282 qs15 dX7_numbers_97 rfl cd_X7_push rfl rfl fp_X7_numbers_X7_push K (fun x200 h201 eh201 wh201 K => ?_) (fun x h1 _ _ e => Tw.out rfl e)
            refine r_lload_n (pc := 100) dX7_numbers_100 rfl ?_
            refine r_callS_J (pc := 101) (Y := mJ0_abs) (vs := [_]) (st := [_]) q1514 q1515 q152 dX7_numbers_101 rfl cd_J0_abs (cOk_of pf_J0_abs rfl) rfl fp_X7_numbers_J0_abs K (fun x203 h204 eh204 wh204 K => ?_) (fun x h1 _ _ e => Tw.out rfl e)
            obtain ⟨hk207, K⟩ := K
            refine r_callV_V (pc := 104) (Y := mX22_be) (vs := [_]) (st := []) hk207 rfl kc22 q1484 q1485 q1486 dX7_numbers_104 rfl cd_X22_be rfl rfl fp_X7_numbers_X22_be K (fun h206 eh206 wh206 K => ?_) (fun x h1 _ _ e => Tw.out rfl e)
            exact r_vret (pc := 107) rfl dX7_numbers_107 K
          · by_cases c208 : v1 = 145
            · have K := K224.2.2.2.2.1 c208
              refine r_tableIn (pc := 23) (tgt := 108) dX7_numbers_23 (by rw [c208]; decide) (by rw [c208]; decide) (by rw [c208]; rfl) rfl ?_
              refine r_aload_n (pc := 108) dX7_numbers_108 rfl ?_
              refine r_lload_n (pc := 109) dX7_numbers_109 rfl ?_
              refine r_lconst (pc := 110) (a := 0) dX7_numbers_110 rfl ?_
              refine r_lcmp_ne (pc := 111) (tgt := 119) dX7_numbers_111 dX7_numbers_112 rfl (fun c209 => ?_) (fun c209 => ?_)
              · have K := K.1 c209
                refine r_iconst (pc := 119) (x := 0) dX7_numbers_119 rfl ?_
                have hk212 := kd_ext eh175 hk177 (nz rfl)
                refine r_callV_V (pc := 120) (Y := mX7_truth) (vs := [_]) (st := []) hk212 rfl kc7 q1480 q1482 qs34 dX7_numbers_120 rfl cd_X7_truth rfl rfl fp_X7_numbers_X7_truth K (fun h211 eh211 wh211 K => ?_) (fun x h1 _ _ e => Tw.out rfl e)
                exact r_vret (pc := 123) rfl dX7_numbers_123 K
              · have K := K.2 c209
                refine r_iconst (pc := 115) (x := 1) dX7_numbers_115 rfl ?_
                refine r_goto (pc := 116) (tgt := 120) dX7_numbers_116 rfl ?_
                have hk215 := kd_ext eh175 hk177 (nz rfl)
                refine r_callV_V (pc := 120) (Y := mX7_truth) (vs := [_]) (st := []) hk215 rfl kc7 q1480 q1482 qs34 dX7_numbers_120 rfl cd_X7_truth rfl rfl fp_X7_numbers_X7_truth K (fun h214 eh214 wh214 K => ?_) (fun x h1 _ _ e => Tw.out rfl e)
                exact r_vret (pc := 123) rfl dX7_numbers_123 K
            · have K := K224.2.2.2.2.2 ⟨c178, c185, c192, c199, c208⟩
              refine r_tableD (pc := 23) (tgt := 124) dX7_numbers_23 (by decide) ?_ rfl ?_
              · intro i hi hq
                match i, hi with
                | 0, _ => exact c178
                | 1, _ => exact c185
                | 2, _ => exact absurd rfl hq
                | 3, _ => exact absurd rfl hq
                | 4, _ => exact c192
                | 5, _ => exact c199
                | 6, _ => exact c208
                | i + 7, hi => exact absurd hi (Nat.not_lt.mpr (Nat.le_add_left 7 i))
              · refine r_aload_n (pc := 124) dX7_numbers_124 rfl ?_
                refine r_lload_n (pc := 125) dX7_numbers_125 rfl ?_
                refine r_lconst (pc := 126) (a := 0) dX7_numbers_126 rfl ?_
                refine r_lcmp_eq (pc := 127) (tgt := 135) dX7_numbers_127 dX7_numbers_128 rfl (fun c216 => ?_) (fun c216 => ?_)
                · have K := K.1 c216
                  refine r_iconst (pc := 135) (x := 0) dX7_numbers_135 rfl ?_
                  have hk219 := kd_ext eh175 hk177 (nz rfl)
                  refine r_callV_V (pc := 136) (Y := mX7_truth) (vs := [_]) (st := []) hk219 rfl kc7 q1480 q1482 qs34 dX7_numbers_136 rfl cd_X7_truth rfl rfl fp_X7_numbers_X7_truth K (fun h218 eh218 wh218 K => ?_) (fun x h1 _ _ e => Tw.out rfl e)
                  exact r_vret (pc := 139) rfl dX7_numbers_139 K
                · have K := K.2 c216
                  refine r_iconst (pc := 131) (x := 1) dX7_numbers_131 rfl ?_
                  refine r_goto (pc := 132) (tgt := 136) dX7_numbers_132 rfl ?_
                  have hk222 := kd_ext eh175 hk177 (nz rfl)
                  refine r_callV_V (pc := 136) (Y := mX7_truth) (vs := [_]) (st := []) hk222 rfl kc7 q1480 q1482 qs34 dX7_numbers_136 rfl cd_X7_truth rfl rfl fp_X7_numbers_X7_truth K (fun h221 eh221 wh221 K => ?_) (fun x h1 _ _ e => Tw.out rfl e)
                  exact r_vret (pc := 139) rfl dX7_numbers_139 K
theorem eX7_numbers {G : Gx} {d : Nat} {Φ : Out → AH → Prop} (h : AH) (v0 : Nat) (v1 : Int32) (K : WF G h → Aw G mX7_numbers (d + 1) 0 h Φ 0 [vR v0, vI v1, vU, vU, vU, vU, vU, vU] [] h) : Cw G mX7_numbers (d + 1) 0 [vR v0, vI v1] h Φ := Cw.of rfl K
theorem dX7_roll_0 : decode cX7_roll 0 = .ok (.aload_n 0, 1) := by decide +kernel
theorem dX7_roll_1 : decode cX7_roll 1 = .ok (.iload_n 1, 1) := by decide +kernel
theorem dX7_roll_2 : decode cX7_roll 2 = .ok (.invokevirtual 59, 3) := by decide +kernel
theorem dX7_roll_5 : decode cX7_roll 5 = .ok (.astore_n 2, 1) := by decide +kernel
theorem dX7_roll_6 : decode cX7_roll 6 = .ok (.aload_n 0, 1) := by decide +kernel
theorem dX7_roll_7 : decode cX7_roll 7 = .ok (.getfield 45, 3) := by decide +kernel
theorem dX7_roll_10 : decode cX7_roll 10 = .ok (.iconst 1, 1) := by decide +kernel
theorem dX7_roll_11 : decode cX7_roll 11 = .ok (.isub, 1) := by decide +kernel
theorem dX7_roll_12 : decode cX7_roll 12 = .ok (.iload_n 1, 1) := by decide +kernel
theorem dX7_roll_13 : decode cX7_roll 13 = .ok (.isub, 1) := by decide +kernel
theorem dX7_roll_14 : decode cX7_roll 14 = .ok (.istore_n 3, 1) := by decide +kernel
theorem dX7_roll_15 : decode cX7_roll 15 = .ok (.iload_n 3, 1) := by decide +kernel
theorem dX7_roll_16 : decode cX7_roll 16 = .ok (.aload_n 0, 1) := by decide +kernel
theorem dX7_roll_17 : decode cX7_roll 17 = .ok (.getfield 45, 3) := by decide +kernel
theorem dX7_roll_20 : decode cX7_roll 20 = .ok (.iconst 1, 1) := by decide +kernel
theorem dX7_roll_21 : decode cX7_roll 21 = .ok (.isub, 1) := by decide +kernel
theorem dX7_roll_22 : decode cX7_roll 22 = .ok (.if_icmp .ge 23, 3) := by decide +kernel
theorem dX7_roll_25 : decode cX7_roll 25 = .ok (.aload_n 0, 1) := by decide +kernel
theorem dX7_roll_26 : decode cX7_roll 26 = .ok (.getfield 13, 3) := by decide +kernel
theorem dX7_roll_29 : decode cX7_roll 29 = .ok (.iload_n 3, 1) := by decide +kernel
theorem dX7_roll_30 : decode cX7_roll 30 = .ok (.aload_n 0, 1) := by decide +kernel
theorem dX7_roll_31 : decode cX7_roll 31 = .ok (.getfield 13, 3) := by decide +kernel
theorem dX7_roll_34 : decode cX7_roll 34 = .ok (.iload_n 3, 1) := by decide +kernel
theorem dX7_roll_35 : decode cX7_roll 35 = .ok (.iconst 1, 1) := by decide +kernel
theorem dX7_roll_36 : decode cX7_roll 36 = .ok (.iadd, 1) := by decide +kernel
theorem dX7_roll_37 : decode cX7_roll 37 = .ok (.aaload, 1) := by decide +kernel
theorem dX7_roll_38 : decode cX7_roll 38 = .ok (.aastore, 1) := by decide +kernel
theorem dX7_roll_39 : decode cX7_roll 39 = .ok (.iinc 3 1, 3) := by decide +kernel
theorem dX7_roll_42 : decode cX7_roll 42 = .ok (.goto (-27), 3) := by decide +kernel
theorem dX7_roll_45 : decode cX7_roll 45 = .ok (.aload_n 0, 1) := by decide +kernel
theorem dX7_roll_46 : decode cX7_roll 46 = .ok (.getfield 13, 3) := by decide +kernel
theorem dX7_roll_49 : decode cX7_roll 49 = .ok (.aload_n 0, 1) := by decide +kernel
theorem dX7_roll_50 : decode cX7_roll 50 = .ok (.getfield 45, 3) := by decide +kernel
theorem dX7_roll_53 : decode cX7_roll 53 = .ok (.iconst 1, 1) := by decide +kernel
theorem dX7_roll_54 : decode cX7_roll 54 = .ok (.isub, 1) := by decide +kernel
theorem dX7_roll_55 : decode cX7_roll 55 = .ok (.aload_n 2, 1) := by decide +kernel
theorem dX7_roll_56 : decode cX7_roll 56 = .ok (.aastore, 1) := by decide +kernel
theorem dX7_roll_57 : decode cX7_roll 57 = .ok (.return_, 1) := by decide +kernel
/-! CoinJudge$Machine.roll(I)V -/
set_option maxHeartbeats 4000000 in
theorem sX7_roll_0 {G : Gx} {d t : Nat} {h0 : AH} {Φ : Out → AH → Prop} (h : AH) (v0 : Nat) (v1 : Int32) (K : h.kd v0 = 7 ∧ Cw G mX7_top d 0 [vR v0, vI v1] h (kR (fun x1 h2 => Aw G mX7_roll (d + 1) t h0 Φ 15 [vR v0, vU, vR x1, vI (((h2.i 7004 v0) - 1) - v1)] [] h2) (fun x h => Φ (.inr x) h))) : Aw G mX7_roll (d + 1) t h0 Φ 0 [vR v0, vI v1, vU, vU] [] h := by
  refine r_aload_n (pc := 0) dX7_roll_0 rfl ?_
  refine r_iload_n (pc := 1) dX7_roll_1 rfl ?_
  obtain ⟨hk3, K⟩ := K
  refine r_callV_R (pc := 2) (Y := mX7_top) (vs := [_]) (st := []) hk3 rfl kc7 q1311 q1313 qs17 dX7_roll_2 rfl cd_X7_top rfl rfl fp_X7_roll_X7_top K (fun x1 h2 eh2 wh2 K => ?_) (fun x h1 _ _ e => Tw.out rfl e)
  refine r_astore_n (pc := 5) (lv' := [_, _, _, _]) dX7_roll_5 (by decide) rfl ?_
  refine r_aload_n (pc := 6) dX7_roll_6 rfl ?_
  have hk4 := kd_ext eh2 hk3 (nz rfl)
  refine r_geti' (pc := 7) (T := TX7) 7 4 rfl hk4 (Or.inl q502) dX7_roll_7 kc7 g7004 ?_
  refine r_iconst (pc := 10) (x := 1) dX7_roll_10 rfl ?_
  refine r_isub (pc := 11) dX7_roll_11 ?_
  refine r_iload_n (pc := 12) dX7_roll_12 rfl ?_
  refine r_isub (pc := 13) dX7_roll_13 ?_
  refine r_istore_n (pc := 14) (lv' := [_, _, _, _]) dX7_roll_14 (by decide) rfl ?_
  refine r_mask (pc := 15) [true, false, true, true] rfl ?_
  exact K
theorem eX7_roll {G : Gx} {d : Nat} {Φ : Out → AH → Prop} (h : AH) (v0 : Nat) (v1 : Int32) (K : WF G h → Aw G mX7_roll (d + 1) 0 h Φ 0 [vR v0, vI v1, vU, vU] [] h) : Cw G mX7_roll (d + 1) 0 [vR v0, vI v1] h Φ := Cw.of rfl K
set_option maxHeartbeats 4000000 in
theorem sX7_roll_15 {G : Gx} {d t : Nat} {h0 : AH} {Φ : Out → AH → Prop} (h : AH) (v0 : Nat) (v2 : Nat) (v3 : Int32) (K : h.kd v0 = 7 ∧ ((((h.i 7004 v0) - 1) ≤ v3 → ∀ r3 : Nat, r3 = (h.r 7001 v0) → h.kd r3 = 104 ∧ vp_in ((h.i 7004 v0) - 1) (h.ar r3).length ∧ (v2 = 0 ∨ h.kd v2 = 22) ∧ ∀ h7 : AH, h7 = h.wr r3 ((h.ar r3).set (((h.i 7004 v0) - 1).toNatClampNeg) v2) → Φ (.inl none) h7) ∧ (¬ ((h.i 7004 v0) - 1) ≤ v3 → ∀ r8 : Nat, r8 = (h.r 7001 v0) → h.kd r8 = 104 ∧ vp_in (v3 + 1) (h.ar r8).length ∧ ∀ r11 : Nat, r11 = ((h.ar r8).getD ((v3 + 1).toNatClampNeg) 0) → vp_in v3 (h.ar r8).length ∧ (r11 = 0 ∨ h.kd r11 = 22) ∧ ∀ h14 : AH, h14 = h.wr r8 ((h.ar r8).set (v3.toNatClampNeg) r11) → Aw G mX7_roll (d + 1) t h0 Φ 15 [vR v0, vU, vR v2, vI (v3 + 1)] [] h14))) : Aw G mX7_roll (d + 1) t h0 Φ 15 [vR v0, vU, vR v2, vI v3] [] h := by
  refine r_iload_n (pc := 15) dX7_roll_15 rfl ?_
  refine r_aload_n (pc := 16) dX7_roll_16 rfl ?_
  obtain ⟨hk1, K⟩ := K
  refine r_geti' (pc := 17) (T := TX7) 7 4 rfl hk1 (Or.inl q502) dX7_roll_17 kc7 g7004 ?_
  refine r_iconst (pc := 20) (x := 1) dX7_roll_20 rfl ?_
  refine r_isub (pc := 21) dX7_roll_21 ?_
  refine r_icmp_ge (pc := 22) (tgt := 45) dX7_roll_22 rfl (fun c2 => ?_) (fun c2 => ?_)
  · have K := K.1 c2
    refine r_aload_n (pc := 45) dX7_roll_45 rfl ?_
    have K := K _ rfl
    refine r_getr' (pc := 46) (T := TX7) 7 1 rfl hk1 (Or.inl q499) dX7_roll_46 kc7 g7001 ?_
    refine r_aload_n (pc := 49) dX7_roll_49 rfl ?_
    refine r_geti' (pc := 50) (T := TX7) 7 4 rfl hk1 (Or.inl q502) dX7_roll_50 kc7 g7004 ?_
    refine r_iconst (pc := 53) (x := 1) dX7_roll_53 rfl ?_
    refine r_isub (pc := 54) dX7_roll_54 ?_
    refine r_aload_n (pc := 55) dX7_roll_55 rfl ?_
    obtain ⟨hk4, K⟩ := K
    obtain ⟨hi5, K⟩ := K
    obtain ⟨hk6, K⟩ := K
    refine r_aastore (pc := 56) 104 22 hk4 rfl kc22 hi5 hk6 (Or.inl (em rfl)) dX7_roll_56 rfl ?_
    refine r_nameH (fun h7 eh7 => ?_)
    have K := K h7 eh7
    exact r_vret (pc := 57) rfl dX7_roll_57 K
  · have K := K.2 c2
    refine r_aload_n (pc := 25) dX7_roll_25 rfl ?_
    have K := K _ rfl
    refine r_getr' (pc := 26) (T := TX7) 7 1 rfl hk1 (Or.inl q499) dX7_roll_26 kc7 g7001 ?_
    refine r_iload_n (pc := 29) dX7_roll_29 rfl ?_
    refine r_aload_n (pc := 30) dX7_roll_30 rfl ?_
    refine r_getr' (pc := 31) (T := TX7) 7 1 rfl hk1 (Or.inl q499) dX7_roll_31 kc7 g7001 ?_
    refine r_iload_n (pc := 34) dX7_roll_34 rfl ?_
    refine r_iconst (pc := 35) (x := 1) dX7_roll_35 rfl ?_
    refine r_iadd (pc := 36) dX7_roll_36 ?_
    obtain ⟨hk9, K⟩ := K
    obtain ⟨hi10, K⟩ := K
    have K := K _ rfl
    refine r_aaload (pc := 37) (le_of_eq_r hk9 (by decide)) hi10 dX7_roll_37 ?_
    obtain ⟨hi12, K⟩ := K
    obtain ⟨hk13, K⟩ := K
    refine r_aastore (pc := 38) 104 22 hk9 rfl kc22 hi12 hk13 (Or.inl (em rfl)) dX7_roll_38 rfl ?_
    refine r_nameH (fun h14 eh14 => ?_)
    have K := K h14 eh14
    refine r_iinc (pc := 39) (lv' := [_, _, _, _]) dX7_roll_39 rfl rfl (by decide) rfl ?_
    refine r_goto (pc := 42) (tgt := 15) dX7_roll_42 rfl ?_
    refine r_mask (pc := 15) [true, false, true, true] rfl ?_
    exact K
theorem dX7_step_0 : decode cX7_step 0 = .ok (.iload_n 1, 1) := by decide +kernel
theorem dX7_step_1 : decode cX7_step 1 = .ok (.bipush 79, 2) := by decide +kernel
theorem dX7_step_3 : decode cX7_step 3 = .ok (.if_icmp .eq 15, 3) := by decide +kernel
theorem dX7_step_6 : decode cX7_step 6 = .ok (.iload_n 1, 1) := by decide +kernel
theorem dX7_step_7 : decode cX7_step 7 = .ok (.bipush 81, 2) := by decide +kernel
theorem dX7_step_9 : decode cX7_step 9 = .ok (.if_icmp .lt 35, 3) := by decide +kernel
theorem dX7_step_12 : decode cX7_step 12 = .ok (.iload_n 1, 1) := by decide +kernel
theorem dX7_step_13 : decode cX7_step 13 = .ok (.bipush 96, 2) := by decide +kernel
theorem dX7_step_15 : decode cX7_step 15 = .ok (.if_icmp .gt 29, 3) := by decide +kernel
theorem dX7_step_18 : decode cX7_step 18 = .ok (.aload_n 0, 1) := by decide +kernel
theorem dX7_step_19 : decode cX7_step 19 = .ok (.invokevirtual 62, 3) := by decide +kernel
theorem dX7_step_22 : decode cX7_step 22 = .ok (.iload_n 1, 1) := by decide +kernel
theorem dX7_step_23 : decode cX7_step 23 = .ok (.bipush 79, 2) := by decide +kernel
theorem dX7_step_25 : decode cX7_step 25 = .ok (.if_icmp .ne 9, 3) := by decide +kernel
theorem dX7_step_28 : decode cX7_step 28 = .ok (.ldc2_w 130, 3) := by decide +kernel
theorem dX7_step_31 : decode cX7_step 31 = .ok (.goto 9, 3) := by decide +kernel
theorem dX7_step_34 : decode cX7_step 34 = .ok (.iload_n 1, 1) := by decide +kernel
theorem dX7_step_35 : decode cX7_step 35 = .ok (.i2l, 1) := by decide +kernel
theorem dX7_step_36 : decode cX7_step 36 = .ok (.ldc2_w 132, 3) := by decide +kernel
theorem dX7_step_39 : decode cX7_step 39 = .ok (.lsub, 1) := by decide +kernel
theorem dX7_step_40 : decode cX7_step 40 = .ok (.invokevirtual 126, 3) := by decide +kernel
theorem dX7_step_43 : decode cX7_step 43 = .ok (.return_, 1) := by decide +kernel
theorem dX7_step_44 : decode cX7_step 44 = .ok (.iload_n 1, 1) := by decide +kernel
theorem dX7_step_45 : decode cX7_step 45 = .ok (.sipush 139, 3) := by decide +kernel
theorem dX7_step_48 : decode cX7_step 48 = .ok (.if_icmp .lt 16, 3) := by decide +kernel
theorem dX7_step_51 : decode cX7_step 51 = .ok (.iload_n 1, 1) := by decide +kernel
theorem dX7_step_52 : decode cX7_step 52 = .ok (.sipush 165, 3) := by decide +kernel
theorem dX7_step_55 : decode cX7_step 55 = .ok (.if_icmp .gt 9, 3) := by decide +kernel
theorem dX7_step_58 : decode cX7_step 58 = .ok (.aload_n 0, 1) := by decide +kernel
theorem dX7_step_59 : decode cX7_step 59 = .ok (.iload_n 1, 1) := by decide +kernel
theorem dX7_step_60 : decode cX7_step 60 = .ok (.invokevirtual 134, 3) := by decide +kernel
theorem dX7_step_63 : decode cX7_step 63 = .ok (.return_, 1) := by decide +kernel
theorem dX7_step_64 : decode cX7_step 64 = .ok (.iload_n 1, 1) := by decide +kernel
theorem dX7_step_65 : decode cX7_step 65 = .ok (.sipush 166, 3) := by decide +kernel
theorem dX7_step_68 : decode cX7_step 68 = .ok (.if_icmp .lt 16, 3) := by decide +kernel
theorem dX7_step_71 : decode cX7_step 71 = .ok (.iload_n 1, 1) := by decide +kernel
theorem dX7_step_72 : decode cX7_step 72 = .ok (.sipush 170, 3) := by decide +kernel
theorem dX7_step_75 : decode cX7_step 75 = .ok (.if_icmp .gt 9, 3) := by decide +kernel
theorem dX7_step_78 : decode cX7_step 78 = .ok (.aload_n 0, 1) := by decide +kernel
theorem dX7_step_79 : decode cX7_step 79 = .ok (.iload_n 1, 1) := by decide +kernel
theorem dX7_step_80 : decode cX7_step 80 = .ok (.invokevirtual 137, 3) := by decide +kernel
theorem dX7_step_83 : decode cX7_step 83 = .ok (.return_, 1) := by decide +kernel
theorem dX7_step_84 : decode cX7_step 84 = .ok (.iload_n 1, 1) := by decide +kernel
theorem dX7_step_85 : decode cX7_step 85 = .ok (.bipush 97, 2) := by decide +kernel
theorem dX7_step_87 : decode cX7_step 87 = .ok (.if_icmp .eq 24, 3) := by decide +kernel
theorem dX7_step_90 : decode cX7_step 90 = .ok (.iload_n 1, 1) := by decide +kernel
theorem dX7_step_91 : decode cX7_step 91 = .ok (.sipush 176, 3) := by decide +kernel
theorem dX7_step_94 : decode cX7_step 94 = .ok (.if_icmp .eq 17, 3) := by decide +kernel
theorem dX7_step_97 : decode cX7_step 97 = .ok (.iload_n 1, 1) := by decide +kernel
theorem dX7_step_98 : decode cX7_step 98 = .ok (.sipush 178, 3) := by decide +kernel
theorem dX7_step_101 : decode cX7_step 101 = .ok (.if_icmp .lt 11, 3) := by decide +kernel
theorem dX7_step_104 : decode cX7_step 104 = .ok (.iload_n 1, 1) := by decide +kernel
theorem dX7_step_105 : decode cX7_step 105 = .ok (.sipush 185, 3) := by decide +kernel
theorem dX7_step_108 : decode cX7_step 108 = .ok (.if_icmp .gt 4, 3) := by decide +kernel
theorem dX7_step_111 : decode cX7_step 111 = .ok (.return_, 1) := by decide +kernel
theorem dX7_step_112 : decode cX7_step 112 = .ok (.iload_n 1, 1) := by decide +kernel
theorem dX7_step_113 : decode cX7_step 113 = .ok (.tableswitch 824 105 177 #[307, 824, 312, 374, 434, 440, 440, 489, 517, 546, 574, 591, 606, 612, 618, 646, 652, 652, 719, 725, 731, 824, 824, 824, 824, 759, 824, 824, 824, 824, 780, 780, 824, 824, 824, 824, 824, 824, 824, 824, 824, 824, 824, 824, 824, 824, 824, 824, 824, 824, 824, 824, 824, 824, 824, 824, 824, 824, 824, 824, 824, 824, 824, 824, 824, 824, 824, 824, 824, 824, 824, 824, 818], 307) := by decide +kernel
theorem dX7_step_420 : decode cX7_step 420 = .ok (.aload_n 0, 1) := by decide +kernel
theorem dX7_step_421 : decode cX7_step 421 = .ok (.invokevirtual 140, 3) := by decide +kernel
theorem dX7_step_424 : decode cX7_step 424 = .ok (.return_, 1) := by decide +kernel
theorem dX7_step_425 : decode cX7_step 425 = .ok (.aload_n 0, 1) := by decide +kernel
theorem dX7_step_426 : decode cX7_step 426 = .ok (.aload_n 0, 1) := by decide +kernel
theorem dX7_step_427 : decode cX7_step 427 = .ok (.getfield 45, 3) := by decide +kernel
theorem dX7_step_430 : decode cX7_step 430 = .ok (.ifCond .le 7, 3) := by decide +kernel
theorem dX7_step_433 : decode cX7_step 433 = .ok (.iconst 1, 1) := by decide +kernel
theorem dX7_step_434 : decode cX7_step 434 = .ok (.goto 4, 3) := by decide +kernel
theorem dX7_step_437 : decode cX7_step 437 = .ok (.iconst 0, 1) := by decide +kernel
theorem dX7_step_438 : decode cX7_step 438 = .ok (.invokevirtual 91, 3) := by decide +kernel
theorem dX7_step_441 : decode cX7_step 441 = .ok (.aload_n 0, 1) := by decide +kernel
theorem dX7_step_442 : decode cX7_step 442 = .ok (.iconst 0, 1) := by decide +kernel
theorem dX7_step_443 : decode cX7_step 443 = .ok (.invokevirtual 59, 3) := by decide +kernel
theorem dX7_step_446 : decode cX7_step 446 = .ok (.astore_n 3, 1) := by decide +kernel
theorem dX7_step_447 : decode cX7_step 447 = .ok (.aload_n 0, 1) := by decide +kernel
theorem dX7_step_448 : decode cX7_step 448 = .ok (.getfield 17, 3) := by decide +kernel
theorem dX7_step_451 : decode cX7_step 451 = .ok (.aload_n 0, 1) := by decide +kernel
theorem dX7_step_452 : decode cX7_step 452 = .ok (.getfield 49, 3) := by decide +kernel
theorem dX7_step_455 : decode cX7_step 455 = .ok (.invokestatic 55, 3) := by decide +kernel
theorem dX7_step_458 : decode cX7_step 458 = .ok (.aload_n 3, 1) := by decide +kernel
theorem dX7_step_459 : decode cX7_step 459 = .ok (.getfield 66, 3) := by decide +kernel
theorem dX7_step_462 : decode cX7_step 462 = .ok (.iconst 0, 1) := by decide +kernel
theorem dX7_step_463 : decode cX7_step 463 = .ok (.aload_n 3, 1) := by decide +kernel
theorem dX7_step_464 : decode cX7_step 464 = .ok (.getfield 69, 3) := by decide +kernel
theorem dX7_step_467 : decode cX7_step 467 = .ok (.invokevirtual 72, 3) := by decide +kernel
theorem dX7_step_470 : decode cX7_step 470 = .ok (.pop, 1) := by decide +kernel
theorem dX7_step_471 : decode cX7_step 471 = .ok (.aload_n 0, 1) := by decide +kernel
theorem dX7_step_472 : decode cX7_step 472 = .ok (.dup, 1) := by decide +kernel
theorem dX7_step_473 : decode cX7_step 473 = .ok (.getfield 49, 3) := by decide +kernel
theorem dX7_step_476 : decode cX7_step 476 = .ok (.iconst 1, 1) := by decide +kernel
theorem dX7_step_477 : decode cX7_step 477 = .ok (.iadd, 1) := by decide +kernel
theorem dX7_step_478 : decode cX7_step 478 = .ok (.putfield 49, 3) := by decide +kernel
theorem dX7_step_481 : decode cX7_step 481 = .ok (.aload_n 0, 1) := by decide +kernel
theorem dX7_step_482 : decode cX7_step 482 = .ok (.iconst 1, 1) := by decide +kernel
theorem dX7_step_483 : decode cX7_step 483 = .ok (.invokevirtual 95, 3) := by decide +kernel
theorem dX7_step_486 : decode cX7_step 486 = .ok (.return_, 1) := by decide +kernel
theorem dX7_step_487 : decode cX7_step 487 = .ok (.aload_n 0, 1) := by decide +kernel
theorem dX7_step_488 : decode cX7_step 488 = .ok (.aload_n 0, 1) := by decide +kernel
theorem dX7_step_489 : decode cX7_step 489 = .ok (.getfield 49, 3) := by decide +kernel
theorem dX7_step_492 : decode cX7_step 492 = .ok (.ifCond .le 7, 3) := by decide +kernel
theorem dX7_step_495 : decode cX7_step 495 = .ok (.iconst 1, 1) := by decide +kernel
theorem dX7_step_496 : decode cX7_step 496 = .ok (.goto 4, 3) := by decide +kernel
theorem dX7_step_499 : decode cX7_step 499 = .ok (.iconst 0, 1) := by decide +kernel
theorem dX7_step_500 : decode cX7_step 500 = .ok (.invokevirtual 91, 3) := by decide +kernel
theorem dX7_step_503 : decode cX7_step 503 = .ok (.aload_n 0, 1) := by decide +kernel
theorem dX7_step_504 : decode cX7_step 504 = .ok (.dup, 1) := by decide +kernel
theorem dX7_step_505 : decode cX7_step 505 = .ok (.getfield 49, 3) := by decide +kernel
theorem dX7_step_508 : decode cX7_step 508 = .ok (.iconst 1, 1) := by decide +kernel
theorem dX7_step_509 : decode cX7_step 509 = .ok (.isub, 1) := by decide +kernel
theorem dX7_step_510 : decode cX7_step 510 = .ok (.putfield 49, 3) := by decide +kernel
theorem dX7_step_513 : decode cX7_step 513 = .ok (.aload_n 0, 1) := by decide +kernel
theorem dX7_step_514 : decode cX7_step 514 = .ok (.invokevirtual 62, 3) := by decide +kernel
theorem dX7_step_517 : decode cX7_step 517 = .ok (.aload_n 0, 1) := by decide +kernel
theorem dX7_step_518 : decode cX7_step 518 = .ok (.getfield 17, 3) := by decide +kernel
theorem dX7_step_521 : decode cX7_step 521 = .ok (.aload_n 0, 1) := by decide +kernel
theorem dX7_step_522 : decode cX7_step 522 = .ok (.getfield 49, 3) := by decide +kernel
theorem dX7_step_525 : decode cX7_step 525 = .ok (.aaload, 1) := by decide +kernel
theorem dX7_step_526 : decode cX7_step 526 = .ok (.getfield 66, 3) := by decide +kernel
theorem dX7_step_529 : decode cX7_step 529 = .ok (.iconst 0, 1) := by decide +kernel
theorem dX7_step_530 : decode cX7_step 530 = .ok (.aload_n 0, 1) := by decide +kernel
theorem dX7_step_531 : decode cX7_step 531 = .ok (.getfield 17, 3) := by decide +kernel
theorem dX7_step_534 : decode cX7_step 534 = .ok (.aload_n 0, 1) := by decide +kernel
theorem dX7_step_535 : decode cX7_step 535 = .ok (.getfield 49, 3) := by decide +kernel
theorem dX7_step_538 : decode cX7_step 538 = .ok (.aaload, 1) := by decide +kernel
theorem dX7_step_539 : decode cX7_step 539 = .ok (.getfield 69, 3) := by decide +kernel
theorem dX7_step_542 : decode cX7_step 542 = .ok (.invokevirtual 72, 3) := by decide +kernel
theorem dX7_step_545 : decode cX7_step 545 = .ok (.pop, 1) := by decide +kernel
theorem dX7_step_546 : decode cX7_step 546 = .ok (.return_, 1) := by decide +kernel
theorem dX7_step_547 : decode cX7_step 547 = .ok (.aload_n 0, 1) := by decide +kernel
theorem dX7_step_548 : decode cX7_step 548 = .ok (.iconst 2, 1) := by decide +kernel
theorem dX7_step_549 : decode cX7_step 549 = .ok (.invokevirtual 95, 3) := by decide +kernel
theorem dX7_step_552 : decode cX7_step 552 = .ok (.return_, 1) := by decide +kernel
theorem dX7_step_553 : decode cX7_step 553 = .ok (.iload_n 1, 1) := by decide +kernel
theorem dX7_step_554 : decode cX7_step 554 = .ok (.bipush 108, 2) := by decide +kernel
theorem dX7_step_556 : decode cX7_step 556 = .ok (.isub, 1) := by decide +kernel
theorem dX7_step_557 : decode cX7_step 557 = .ok (.istore 4, 2) := by decide +kernel
theorem dX7_step_559 : decode cX7_step 559 = .ok (.aload_n 0, 1) := by decide +kernel
theorem dX7_step_560 : decode cX7_step 560 = .ok (.aload_n 0, 1) := by decide +kernel
theorem dX7_step_561 : decode cX7_step 561 = .ok (.getfield 45, 3) := by decide +kernel
theorem dX7_step_564 : decode cX7_step 564 = .ok (.iload 4, 2) := by decide +kernel
theorem dX7_step_566 : decode cX7_step 566 = .ok (.if_icmp .lt 7, 3) := by decide +kernel
theorem dX7_step_569 : decode cX7_step 569 = .ok (.iconst 1, 1) := by decide +kernel
theorem dX7_step_570 : decode cX7_step 570 = .ok (.goto 4, 3) := by decide +kernel
theorem dX7_step_573 : decode cX7_step 573 = .ok (.iconst 0, 1) := by decide +kernel
theorem dX7_step_574 : decode cX7_step 574 = .ok (.invokevirtual 91, 3) := by decide +kernel
theorem dX7_step_577 : decode cX7_step 577 = .ok (.iconst 0, 1) := by decide +kernel
theorem dX7_step_578 : decode cX7_step 578 = .ok (.istore 5, 2) := by decide +kernel
theorem dX7_step_580 : decode cX7_step 580 = .ok (.iload 5, 2) := by decide +kernel
theorem dX7_step_582 : decode cX7_step 582 = .ok (.iload 4, 2) := by decide +kernel
theorem dX7_step_584 : decode cX7_step 584 = .ok (.if_icmp .ge 17, 3) := by decide +kernel
theorem dX7_step_587 : decode cX7_step 587 = .ok (.aload_n 0, 1) := by decide +kernel
theorem dX7_step_588 : decode cX7_step 588 = .ok (.iload 4, 2) := by decide +kernel
theorem dX7_step_590 : decode cX7_step 590 = .ok (.iconst 1, 1) := by decide +kernel
theorem dX7_step_591 : decode cX7_step 591 = .ok (.isub, 1) := by decide +kernel
theorem dX7_step_592 : decode cX7_step 592 = .ok (.invokevirtual 143, 3) := by decide +kernel
theorem dX7_step_595 : decode cX7_step 595 = .ok (.iinc 5 1, 3) := by decide +kernel
theorem dX7_step_598 : decode cX7_step 598 = .ok (.goto (-18), 3) := by decide +kernel
theorem dX7_step_601 : decode cX7_step 601 = .ok (.return_, 1) := by decide +kernel
theorem dX7_step_602 : decode cX7_step 602 = .ok (.aload_n 0, 1) := by decide +kernel
theorem dX7_step_603 : decode cX7_step 603 = .ok (.aload_n 0, 1) := by decide +kernel
theorem dX7_step_604 : decode cX7_step 604 = .ok (.getfield 45, 3) := by decide +kernel
theorem dX7_step_607 : decode cX7_step 607 = .ok (.iconst 4, 1) := by decide +kernel
theorem dX7_step_608 : decode cX7_step 608 = .ok (.if_icmp .lt 7, 3) := by decide +kernel
theorem dX7_step_611 : decode cX7_step 611 = .ok (.iconst 1, 1) := by decide +kernel
theorem dX7_step_612 : decode cX7_step 612 = .ok (.goto 4, 3) := by decide +kernel
theorem dX7_step_615 : decode cX7_step 615 = .ok (.iconst 0, 1) := by decide +kernel
theorem dX7_step_616 : decode cX7_step 616 = .ok (.invokevirtual 91, 3) := by decide +kernel
theorem dX7_step_619 : decode cX7_step 619 = .ok (.aload_n 0, 1) := by decide +kernel
theorem dX7_step_620 : decode cX7_step 620 = .ok (.iconst 3, 1) := by decide +kernel
theorem dX7_step_621 : decode cX7_step 621 = .ok (.invokevirtual 143, 3) := by decide +kernel
theorem dX7_step_624 : decode cX7_step 624 = .ok (.aload_n 0, 1) := by decide +kernel
theorem dX7_step_625 : decode cX7_step 625 = .ok (.iconst 3, 1) := by decide +kernel
theorem dX7_step_626 : decode cX7_step 626 = .ok (.invokevirtual 143, 3) := by decide +kernel
theorem dX7_step_629 : decode cX7_step 629 = .ok (.return_, 1) := by decide +kernel
theorem dX7_step_630 : decode cX7_step 630 = .ok (.aload_n 0, 1) := by decide +kernel
theorem dX7_step_631 : decode cX7_step 631 = .ok (.aload_n 0, 1) := by decide +kernel
theorem dX7_step_632 : decode cX7_step 632 = .ok (.getfield 45, 3) := by decide +kernel
theorem dX7_step_635 : decode cX7_step 635 = .ok (.bipush 6, 2) := by decide +kernel
theorem dX7_step_637 : decode cX7_step 637 = .ok (.if_icmp .lt 7, 3) := by decide +kernel
theorem dX7_step_640 : decode cX7_step 640 = .ok (.iconst 1, 1) := by decide +kernel
theorem dX7_step_641 : decode cX7_step 641 = .ok (.goto 4, 3) := by decide +kernel
theorem dX7_step_644 : decode cX7_step 644 = .ok (.iconst 0, 1) := by decide +kernel
theorem dX7_step_645 : decode cX7_step 645 = .ok (.invokevirtual 91, 3) := by decide +kernel
theorem dX7_step_648 : decode cX7_step 648 = .ok (.aload_n 0, 1) := by decide +kernel
theorem dX7_step_649 : decode cX7_step 649 = .ok (.iconst 5, 1) := by decide +kernel
theorem dX7_step_650 : decode cX7_step 650 = .ok (.invokevirtual 146, 3) := by decide +kernel
theorem dX7_step_653 : decode cX7_step 653 = .ok (.aload_n 0, 1) := by decide +kernel
theorem dX7_step_654 : decode cX7_step 654 = .ok (.iconst 5, 1) := by decide +kernel
theorem dX7_step_655 : decode cX7_step 655 = .ok (.invokevirtual 146, 3) := by decide +kernel
theorem dX7_step_658 : decode cX7_step 658 = .ok (.return_, 1) := by decide +kernel
theorem dX7_step_659 : decode cX7_step 659 = .ok (.aload_n 0, 1) := by decide +kernel
theorem dX7_step_660 : decode cX7_step 660 = .ok (.aload_n 0, 1) := by decide +kernel
theorem dX7_step_661 : decode cX7_step 661 = .ok (.getfield 45, 3) := by decide +kernel
theorem dX7_step_664 : decode cX7_step 664 = .ok (.iconst 4, 1) := by decide +kernel
theorem dX7_step_665 : decode cX7_step 665 = .ok (.if_icmp .lt 7, 3) := by decide +kernel
theorem dX7_step_668 : decode cX7_step 668 = .ok (.iconst 1, 1) := by decide +kernel
theorem dX7_step_669 : decode cX7_step 669 = .ok (.goto 4, 3) := by decide +kernel
theorem dX7_step_672 : decode cX7_step 672 = .ok (.iconst 0, 1) := by decide +kernel
theorem dX7_step_673 : decode cX7_step 673 = .ok (.invokevirtual 91, 3) := by decide +kernel
theorem dX7_step_676 : decode cX7_step 676 = .ok (.aload_n 0, 1) := by decide +kernel
theorem dX7_step_677 : decode cX7_step 677 = .ok (.iconst 3, 1) := by decide +kernel
theorem dX7_step_678 : decode cX7_step 678 = .ok (.invokevirtual 146, 3) := by decide +kernel
theorem dX7_step_681 : decode cX7_step 681 = .ok (.aload_n 0, 1) := by decide +kernel
theorem dX7_step_682 : decode cX7_step 682 = .ok (.iconst 3, 1) := by decide +kernel
theorem dX7_step_683 : decode cX7_step 683 = .ok (.invokevirtual 146, 3) := by decide +kernel
theorem dX7_step_686 : decode cX7_step 686 = .ok (.return_, 1) := by decide +kernel
theorem dX7_step_687 : decode cX7_step 687 = .ok (.aload_n 0, 1) := by decide +kernel
theorem dX7_step_688 : decode cX7_step 688 = .ok (.iconst 0, 1) := by decide +kernel
theorem dX7_step_689 : decode cX7_step 689 = .ok (.invokevirtual 59, 3) := by decide +kernel
theorem dX7_step_692 : decode cX7_step 692 = .ok (.invokevirtual 83, 3) := by decide +kernel
theorem dX7_step_695 : decode cX7_step 695 = .ok (.ifCond .eq 8, 3) := by decide +kernel
theorem dX7_step_698 : decode cX7_step 698 = .ok (.aload_n 0, 1) := by decide +kernel
theorem dX7_step_699 : decode cX7_step 699 = .ok (.iconst 0, 1) := by decide +kernel
theorem dX7_step_700 : decode cX7_step 700 = .ok (.invokevirtual 143, 3) := by decide +kernel
theorem dX7_step_703 : decode cX7_step 703 = .ok (.return_, 1) := by decide +kernel
theorem dX7_step_704 : decode cX7_step 704 = .ok (.aload_n 0, 1) := by decide +kernel
theorem dX7_step_705 : decode cX7_step 705 = .ok (.invokevirtual 62, 3) := by decide +kernel
theorem dX7_step_708 : decode cX7_step 708 = .ok (.aload_n 0, 1) := by decide +kernel
theorem dX7_step_709 : decode cX7_step 709 = .ok (.getfield 45, 3) := by decide +kernel
theorem dX7_step_712 : decode cX7_step 712 = .ok (.i2l, 1) := by decide +kernel
theorem dX7_step_713 : decode cX7_step 713 = .ok (.lconst 1, 1) := by decide +kernel
theorem dX7_step_714 : decode cX7_step 714 = .ok (.lsub, 1) := by decide +kernel
theorem dX7_step_715 : decode cX7_step 715 = .ok (.invokevirtual 126, 3) := by decide +kernel
theorem dX7_step_718 : decode cX7_step 718 = .ok (.return_, 1) := by decide +kernel
theorem dX7_step_719 : decode cX7_step 719 = .ok (.aload_n 0, 1) := by decide +kernel
theorem dX7_step_720 : decode cX7_step 720 = .ok (.iconst 1, 1) := by decide +kernel
theorem dX7_step_721 : decode cX7_step 721 = .ok (.invokevirtual 95, 3) := by decide +kernel
theorem dX7_step_724 : decode cX7_step 724 = .ok (.return_, 1) := by decide +kernel
theorem dX7_step_725 : decode cX7_step 725 = .ok (.aload_n 0, 1) := by decide +kernel
theorem dX7_step_726 : decode cX7_step 726 = .ok (.iconst 0, 1) := by decide +kernel
theorem dX7_step_727 : decode cX7_step 727 = .ok (.invokevirtual 143, 3) := by decide +kernel
theorem dX7_step_730 : decode cX7_step 730 = .ok (.return_, 1) := by decide +kernel
theorem dX7_step_731 : decode cX7_step 731 = .ok (.aload_n 0, 1) := by decide +kernel
theorem dX7_step_732 : decode cX7_step 732 = .ok (.aload_n 0, 1) := by decide +kernel
theorem dX7_step_733 : decode cX7_step 733 = .ok (.getfield 45, 3) := by decide +kernel
theorem dX7_step_736 : decode cX7_step 736 = .ok (.iconst 2, 1) := by decide +kernel
theorem dX7_step_737 : decode cX7_step 737 = .ok (.if_icmp .lt 7, 3) := by decide +kernel
theorem dX7_step_740 : decode cX7_step 740 = .ok (.iconst 1, 1) := by decide +kernel
theorem dX7_step_741 : decode cX7_step 741 = .ok (.goto 4, 3) := by decide +kernel
theorem dX7_step_744 : decode cX7_step 744 = .ok (.iconst 0, 1) := by decide +kernel
theorem dX7_step_745 : decode cX7_step 745 = .ok (.invokevirtual 91, 3) := by decide +kernel
theorem dX7_step_748 : decode cX7_step 748 = .ok (.aload_n 0, 1) := by decide +kernel
theorem dX7_step_749 : decode cX7_step 749 = .ok (.iconst 1, 1) := by decide +kernel
theorem dX7_step_750 : decode cX7_step 750 = .ok (.invokevirtual 146, 3) := by decide +kernel
theorem dX7_step_753 : decode cX7_step 753 = .ok (.aload_n 0, 1) := by decide +kernel
theorem dX7_step_754 : decode cX7_step 754 = .ok (.iconst 1, 1) := by decide +kernel
theorem dX7_step_755 : decode cX7_step 755 = .ok (.invokevirtual 95, 3) := by decide +kernel
theorem dX7_step_758 : decode cX7_step 758 = .ok (.return_, 1) := by decide +kernel
theorem dX7_step_759 : decode cX7_step 759 = .ok (.aload_n 0, 1) := by decide +kernel
theorem dX7_step_760 : decode cX7_step 760 = .ok (.iconst 1, 1) := by decide +kernel
theorem dX7_step_761 : decode cX7_step 761 = .ok (.invokevirtual 143, 3) := by decide +kernel
theorem dX7_step_764 : decode cX7_step 764 = .ok (.return_, 1) := by decide +kernel
theorem dX7_step_765 : decode cX7_step 765 = .ok (.aload_n 0, 1) := by decide +kernel
theorem dX7_step_766 : decode cX7_step 766 = .ok (.iconst 0, 1) := by decide +kernel
theorem dX7_step_767 : decode cX7_step 767 = .ok (.invokevirtual 59, 3) := by decide +kernel
theorem dX7_step_770 : decode cX7_step 770 = .ok (.iconst 4, 1) := by decide +kernel
theorem dX7_step_771 : decode cX7_step 771 = .ok (.invokevirtual 149, 3) := by decide +kernel
theorem dX7_step_774 : decode cX7_step 774 = .ok (.lstore 5, 2) := by decide +kernel
theorem dX7_step_776 : decode cX7_step 776 = .ok (.aload_n 0, 1) := by decide +kernel
theorem dX7_step_777 : decode cX7_step 777 = .ok (.iconst 1, 1) := by decide +kernel
theorem dX7_step_778 : decode cX7_step 778 = .ok (.invokevirtual 95, 3) := by decide +kernel
theorem dX7_step_781 : decode cX7_step 781 = .ok (.aload_n 0, 1) := by decide +kernel
theorem dX7_step_782 : decode cX7_step 782 = .ok (.lload 5, 2) := by decide +kernel
theorem dX7_step_784 : decode cX7_step 784 = .ok (.lconst 0, 1) := by decide +kernel
theorem dX7_step_785 : decode cX7_step 785 = .ok (.lcmp, 1) := by decide +kernel
theorem dX7_step_786 : decode cX7_step 786 = .ok (.ifCond .lt 18, 3) := by decide +kernel
theorem dX7_step_789 : decode cX7_step 789 = .ok (.lload 5, 2) := by decide +kernel
theorem dX7_step_791 : decode cX7_step 791 = .ok (.aload_n 0, 1) := by decide +kernel
theorem dX7_step_792 : decode cX7_step 792 = .ok (.getfield 45, 3) := by decide +kernel
theorem dX7_step_795 : decode cX7_step 795 = .ok (.i2l, 1) := by decide +kernel
theorem dX7_step_796 : decode cX7_step 796 = .ok (.lcmp, 1) := by decide +kernel
theorem dX7_step_797 : decode cX7_step 797 = .ok (.ifCond .ge 7, 3) := by decide +kernel
theorem dX7_step_800 : decode cX7_step 800 = .ok (.iconst 1, 1) := by decide +kernel
theorem dX7_step_801 : decode cX7_step 801 = .ok (.goto 4, 3) := by decide +kernel
theorem dX7_step_804 : decode cX7_step 804 = .ok (.iconst 0, 1) := by decide +kernel
theorem dX7_step_805 : decode cX7_step 805 = .ok (.invokevirtual 91, 3) := by decide +kernel
theorem dX7_step_808 : decode cX7_step 808 = .ok (.iload_n 1, 1) := by decide +kernel
theorem dX7_step_809 : decode cX7_step 809 = .ok (.bipush 121, 2) := by decide +kernel
theorem dX7_step_811 : decode cX7_step 811 = .ok (.if_icmp .ne 13, 3) := by decide +kernel
theorem dX7_step_814 : decode cX7_step 814 = .ok (.aload_n 0, 1) := by decide +kernel
theorem dX7_step_815 : decode cX7_step 815 = .ok (.lload 5, 2) := by decide +kernel
theorem dX7_step_817 : decode cX7_step 817 = .ok (.l2i, 1) := by decide +kernel
theorem dX7_step_818 : decode cX7_step 818 = .ok (.invokevirtual 143, 3) := by decide +kernel
theorem dX7_step_821 : decode cX7_step 821 = .ok (.goto 10, 3) := by decide +kernel
theorem dX7_step_824 : decode cX7_step 824 = .ok (.aload_n 0, 1) := by decide +kernel
theorem dX7_step_825 : decode cX7_step 825 = .ok (.lload 5, 2) := by decide +kernel
theorem dX7_step_827 : decode cX7_step 827 = .ok (.l2i, 1) := by decide +kernel
theorem dX7_step_828 : decode cX7_step 828 = .ok (.invokevirtual 146, 3) := by decide +kernel
theorem dX7_step_831 : decode cX7_step 831 = .ok (.return_, 1) := by decide +kernel
theorem dX7_step_832 : decode cX7_step 832 = .ok (.aload_n 0, 1) := by decide +kernel
theorem dX7_step_833 : decode cX7_step 833 = .ok (.iconst 2, 1) := by decide +kernel
theorem dX7_step_834 : decode cX7_step 834 = .ok (.invokevirtual 146, 3) := by decide +kernel
theorem dX7_step_837 : decode cX7_step 837 = .ok (.return_, 1) := by decide +kernel
theorem dX7_step_838 : decode cX7_step 838 = .ok (.aload_n 0, 1) := by decide +kernel
theorem dX7_step_839 : decode cX7_step 839 = .ok (.iconst 1, 1) := by decide +kernel
theorem dX7_step_840 : decode cX7_step 840 = .ok (.invokevirtual 146, 3) := by decide +kernel
theorem dX7_step_843 : decode cX7_step 843 = .ok (.return_, 1) := by decide +kernel
theorem dX7_step_844 : decode cX7_step 844 = .ok (.aload_n 0, 1) := by decide +kernel
theorem dX7_step_845 : decode cX7_step 845 = .ok (.aload_n 0, 1) := by decide +kernel
theorem dX7_step_846 : decode cX7_step 846 = .ok (.getfield 45, 3) := by decide +kernel
theorem dX7_step_849 : decode cX7_step 849 = .ok (.iconst 2, 1) := by decide +kernel
theorem dX7_step_850 : decode cX7_step 850 = .ok (.if_icmp .lt 7, 3) := by decide +kernel
theorem dX7_step_853 : decode cX7_step 853 = .ok (.iconst 1, 1) := by decide +kernel
theorem dX7_step_854 : decode cX7_step 854 = .ok (.goto 4, 3) := by decide +kernel
theorem dX7_step_857 : decode cX7_step 857 = .ok (.iconst 0, 1) := by decide +kernel
theorem dX7_step_858 : decode cX7_step 858 = .ok (.invokevirtual 91, 3) := by decide +kernel
theorem dX7_step_861 : decode cX7_step 861 = .ok (.aload_n 0, 1) := by decide +kernel
theorem dX7_step_862 : decode cX7_step 862 = .ok (.iconst 1, 1) := by decide +kernel
theorem dX7_step_863 : decode cX7_step 863 = .ok (.invokevirtual 146, 3) := by decide +kernel
theorem dX7_step_866 : decode cX7_step 866 = .ok (.aload_n 0, 1) := by decide +kernel
theorem dX7_step_867 : decode cX7_step 867 = .ok (.iconst 1, 1) := by decide +kernel
theorem dX7_step_868 : decode cX7_step 868 = .ok (.invokevirtual 143, 3) := by decide +kernel
theorem dX7_step_871 : decode cX7_step 871 = .ok (.return_, 1) := by decide +kernel
theorem dX7_step_872 : decode cX7_step 872 = .ok (.aload_n 0, 1) := by decide +kernel
theorem dX7_step_873 : decode cX7_step 873 = .ok (.iconst 0, 1) := by decide +kernel
theorem dX7_step_874 : decode cX7_step 874 = .ok (.invokevirtual 59, 3) := by decide +kernel
theorem dX7_step_877 : decode cX7_step 877 = .ok (.getfield 69, 3) := by decide +kernel
theorem dX7_step_880 : decode cX7_step 880 = .ok (.istore 7, 2) := by decide +kernel
theorem dX7_step_882 : decode cX7_step 882 = .ok (.aload_n 0, 1) := by decide +kernel
theorem dX7_step_883 : decode cX7_step 883 = .ok (.invokevirtual 62, 3) := by decide +kernel
theorem dX7_step_886 : decode cX7_step 886 = .ok (.iload 7, 2) := by decide +kernel
theorem dX7_step_888 : decode cX7_step 888 = .ok (.i2l, 1) := by decide +kernel
theorem dX7_step_889 : decode cX7_step 889 = .ok (.invokevirtual 126, 3) := by decide +kernel
theorem dX7_step_892 : decode cX7_step 892 = .ok (.return_, 1) := by decide +kernel
theorem dX7_step_893 : decode cX7_step 893 = .ok (.aload_n 0, 1) := by decide +kernel
theorem dX7_step_894 : decode cX7_step 894 = .ok (.iconst 0, 1) := by decide +kernel
theorem dX7_step_895 : decode cX7_step 895 = .ok (.invokevirtual 59, 3) := by decide +kernel
theorem dX7_step_898 : decode cX7_step 898 = .ok (.aload_n 0, 1) := by decide +kernel
theorem dX7_step_899 : decode cX7_step 899 = .ok (.iconst 1, 1) := by decide +kernel
theorem dX7_step_900 : decode cX7_step 900 = .ok (.invokevirtual 59, 3) := by decide +kernel
theorem dX7_step_903 : decode cX7_step 903 = .ok (.invokevirtual 153, 3) := by decide +kernel
theorem dX7_step_906 : decode cX7_step 906 = .ok (.istore 8, 2) := by decide +kernel
theorem dX7_step_908 : decode cX7_step 908 = .ok (.aload_n 0, 1) := by decide +kernel
theorem dX7_step_909 : decode cX7_step 909 = .ok (.iconst 2, 1) := by decide +kernel
theorem dX7_step_910 : decode cX7_step 910 = .ok (.invokevirtual 95, 3) := by decide +kernel
theorem dX7_step_913 : decode cX7_step 913 = .ok (.aload_n 0, 1) := by decide +kernel
theorem dX7_step_914 : decode cX7_step 914 = .ok (.iload 8, 2) := by decide +kernel
theorem dX7_step_916 : decode cX7_step 916 = .ok (.invokevirtual 157, 3) := by decide +kernel
theorem dX7_step_919 : decode cX7_step 919 = .ok (.iload_n 1, 1) := by decide +kernel
theorem dX7_step_920 : decode cX7_step 920 = .ok (.sipush 136, 3) := by decide +kernel
theorem dX7_step_923 : decode cX7_step 923 = .ok (.if_icmp .ne 7, 3) := by decide +kernel
theorem dX7_step_926 : decode cX7_step 926 = .ok (.aload_n 0, 1) := by decide +kernel
theorem dX7_step_927 : decode cX7_step 927 = .ok (.invokevirtual 140, 3) := by decide +kernel
theorem dX7_step_930 : decode cX7_step 930 = .ok (.return_, 1) := by decide +kernel
theorem dX7_step_931 : decode cX7_step 931 = .ok (.aload_n 0, 1) := by decide +kernel
theorem dX7_step_932 : decode cX7_step 932 = .ok (.aload_n 2, 1) := by decide +kernel
theorem dX7_step_933 : decode cX7_step 933 = .ok (.invokevirtual 160, 3) := by decide +kernel
theorem dX7_step_936 : decode cX7_step 936 = .ok (.return_, 1) := by decide +kernel
theorem dX7_step_937 : decode cX7_step 937 = .ok (.new 52, 3) := by decide +kernel
theorem dX7_step_940 : decode cX7_step 940 = .ok (.dup, 1) := by decide +kernel
theorem dX7_step_941 : decode cX7_step 941 = .ok (.invokespecial 54, 3) := by decide +kernel
theorem dX7_step_944 : decode cX7_step 944 = .ok (.athrow, 1) := by decide +kernel
/-! CoinJudge$Machine.step(ILCoinJudge$Signed;)V -/
set_option maxHeartbeats 4000000 in
theorem sX7_step_0 {G : Gx} {d t : Nat} {h0 : AH} {Φ : Out → AH → Prop} (h : AH) (v0 : Nat) (v1 : Int32) (v2 : Nat) (K : ((v1 = 79 → Aw G mX7_step (d + 1) t h0 Φ 18 [vR v0, vI v1, vU, vU, vU, vU, vU, vU, vU] [] h) ∧ (¬ v1 = 79 → ((v1 < 81 → Aw G mX7_step (d + 1) t h0 Φ 44 [vR v0, vI v1, vR v2, vU, vU, vU, vU, vU, vU] [] h) ∧ (¬ v1 < 81 → ((96 < v1 → Aw G mX7_step (d + 1) t h0 Φ 44 [vR v0, vI v1, vR v2, vU, vU, vU, vU, vU, vU] [] h) ∧ (¬ 96 < v1 → Aw G mX7_step (d + 1) t h0 Φ 18 [vR v0, vI v1, vU, vU, vU, vU, vU, vU, vU] [] h))))))) : Aw G mX7_step (d + 1) t h0 Φ 0 [vR v0, vI v1, vR v2, vU, vU, vU, vU, vU, vU] [] h := by
  refine r_iload_n (pc := 0) dX7_step_0 rfl ?_
  refine r_bipush (pc := 1) (x := 79) dX7_step_1 rfl ?_
  refine r_icmp_eq (pc := 3) (tgt := 18) dX7_step_3 rfl (fun c1 => ?_) (fun c1 => ?_)
  · have K := K.1 c1
    refine r_mask (pc := 18) [true, true, false, false, false, false, false, false, false] rfl ?_
    exact K
  · have K := K.2 c1
    refine r_iload_n (pc := 6) dX7_step_6 rfl ?_
    refine r_bipush (pc := 7) (x := 81) dX7_step_7 rfl ?_
    refine r_icmp_lt (pc := 9) (tgt := 44) dX7_step_9 rfl (fun c2 => ?_) (fun c2 => ?_)
    · have K := K.1 c2
      refine r_mask (pc := 44) [true, true, true, false, false, false, false, false, false] rfl ?_
      exact K
    · have K := K.2 c2
      refine r_iload_n (pc := 12) dX7_step_12 rfl ?_
      refine r_bipush (pc := 13) (x := 96) dX7_step_13 rfl ?_
      refine r_icmp_gt (pc := 15) (tgt := 44) dX7_step_15 rfl (fun c3 => ?_) (fun c3 => ?_)
      · have K := K.1 c3
        refine r_mask (pc := 44) [true, true, true, false, false, false, false, false, false] rfl ?_
        exact K
      · have K := K.2 c3
        refine r_mask (pc := 18) [true, true, false, false, false, false, false, false, false] rfl ?_
        exact K
theorem eX7_step {G : Gx} {d : Nat} {Φ : Out → AH → Prop} (h : AH) (v0 : Nat) (v1 : Int32) (v2 : Nat) (K : WF G h → Aw G mX7_step (d + 1) 0 h Φ 0 [vR v0, vI v1, vR v2, vU, vU, vU, vU, vU, vU] [] h) : Cw G mX7_step (d + 1) 0 [vR v0, vI v1, vR v2] h Φ := Cw.of rfl K
set_option maxHeartbeats 4000000 in
theorem sX7_step_18 {G : Gx} {d t : Nat} {h0 : AH} {Φ : Out → AH → Prop} (h : AH) (v0 : Nat) (v1 : Int32) (K : h.kd v0 = 7 ∧ Cw G mX7_push d 0 [vR v0] h (kR (fun x1 h2 => ((¬ v1 = 79 → h2.kd x1 = 22 ∧ Cw G mX22_be d 0 [vR x1, vJ (v1.toInt64 - 80)] h2 (kV (fun h6 => Φ (.inl none) h6) (fun x h => Φ (.inr x) h))) ∧ (v1 = 79 → h2.kd x1 = 22 ∧ Cw G mX22_be d 0 [vR x1, vJ (-1)] h2 (kV (fun h9 => Φ (.inl none) h9) (fun x h => Φ (.inr x) h))))) (fun x h => Φ (.inr x) h))) : Aw G mX7_step (d + 1) t h0 Φ 18 [vR v0, vI v1, vU, vU, vU, vU, vU, vU, vU] [] h := by
  refine r_aload_n (pc := 18) dX7_step_18 rfl ?_
  obtain ⟨hk3, K⟩ := K
  refine r_callV_R (pc := 19) (Y := mX7_push) (vs := []) (st := []) hk3 rfl kc7 q1280 q1282 qs15 dX7_step_19 rfl cd_X7_push rfl rfl fp_X7_step_X7_push K (fun x1 h2 eh2 wh2 K => ?_) (fun x h1 _ _ e => Tw.out rfl e)
  refine r_iload_n (pc := 22) dX7_step_22 rfl ?_
  refine r_bipush (pc := 23) (x := 79) dX7_step_23 rfl ?_
  refine r_icmp_ne (pc := 25) (tgt := 34) dX7_step_25 rfl (fun c4 => ?_) (fun c4 => ?_)
  · have K := K.1 c4
    refine r_iload_n (pc := 34) dX7_step_34 rfl ?_
    refine r_i2l (pc := 35) dX7_step_35 ?_
    refine r_ldc2 (pc := 36) dX7_step_36 q1509 ?_
    refine r_lsub (pc := 39) dX7_step_39 ?_
    obtain ⟨hk7, K⟩ := K
    refine r_callV_V (pc := 40) (Y := mX22_be) (vs := [_]) (st := []) hk7 rfl kc22 q1484 q1485 q1486 dX7_step_40 rfl cd_X22_be rfl rfl fp_X7_step_X22_be K (fun h6 eh6 wh6 K => ?_) (fun x h1 _ _ e => Tw.out rfl e)
    exact r_vret (pc := 43) rfl dX7_step_43 K
  · have K := K.2 c4
    refine r_ldc2 (pc := 28) dX7_step_28 q1508 ?_
    refine r_goto (pc := 31) (tgt := 40) dX7_step_31 rfl ?_
    obtain ⟨hk10, K⟩ := K
    refine r_callV_V (pc := 40) (Y := mX22_be) (vs := [_]) (st := []) hk10 rfl kc22 q1484 q1485 q1486 dX7_step_40 rfl cd_X22_be rfl rfl fp_X7_step_X22_be K (fun h9 eh9 wh9 K => ?_) (fun x h1 _ _ e => Tw.out rfl e)
    exact r_vret (pc := 43) rfl dX7_step_43 K
set_option maxHeartbeats 4000000 in
theorem sX7_step_44 {G : Gx} {d t : Nat} {h0 : AH} {Φ : Out → AH → Prop} (h : AH) (v0 : Nat) (v1 : Int32) (v2 : Nat) (K : ((v1 < 139 → ((v1 < 166 → Aw G mX7_step (d + 1) t h0 Φ 84 [vR v0, vI v1, vR v2, vU, vU, vU, vU, vU, vU] [] h) ∧ (¬ v1 < 166 → ((170 < v1 → Aw G mX7_step (d + 1) t h0 Φ 84 [vR v0, vI v1, vR v2, vU, vU, vU, vU, vU, vU] [] h) ∧ (¬ 170 < v1 → h.kd v0 = 7 ∧ Cw G mX7_digested d 0 [vR v0, vI v1] h (kV (fun h5 => Φ (.inl none) h5) (fun x h => Φ (.inr x) h))))))) ∧ (¬ v1 < 139 → ((165 < v1 → ((v1 < 166 → Aw G mX7_step (d + 1) t h0 Φ 84 [vR v0, vI v1, vR v2, vU, vU, vU, vU, vU, vU] [] h) ∧ (¬ v1 < 166 → ((170 < v1 → Aw G mX7_step (d + 1) t h0 Φ 84 [vR v0, vI v1, vR v2, vU, vU, vU, vU, vU, vU] [] h) ∧ (¬ 170 < v1 → h.kd v0 = 7 ∧ Cw G mX7_digested d 0 [vR v0, vI v1] h (kV (fun h11 => Φ (.inl none) h11) (fun x h => Φ (.inr x) h))))))) ∧ (¬ 165 < v1 → h.kd v0 = 7 ∧ Cw G mX7_numbers d 0 [vR v0, vI v1] h (kV (fun h14 => Φ (.inl none) h14) (fun x h => Φ (.inr x) h))))))) : Aw G mX7_step (d + 1) t h0 Φ 44 [vR v0, vI v1, vR v2, vU, vU, vU, vU, vU, vU] [] h := by
  refine r_iload_n (pc := 44) dX7_step_44 rfl ?_
  refine r_sipush (pc := 45) (x := 139) dX7_step_45 rfl ?_
  refine r_icmp_lt (pc := 48) (tgt := 64) dX7_step_48 rfl (fun c1 => ?_) (fun c1 => ?_)
  · have K := K.1 c1
    refine r_iload_n (pc := 64) dX7_step_64 rfl ?_
    refine r_sipush (pc := 65) (x := 166) dX7_step_65 rfl ?_
    refine r_icmp_lt (pc := 68) (tgt := 84) dX7_step_68 rfl (fun c2 => ?_) (fun c2 => ?_)
    · have K := K.1 c2
      refine r_mask (pc := 84) [true, true, true, false, false, false, false, false, false] rfl ?_
      exact K
    · have K := K.2 c2
      refine r_iload_n (pc := 71) dX7_step_71 rfl ?_
      refine r_sipush (pc := 72) (x := 170) dX7_step_72 rfl ?_
      refine r_icmp_gt (pc := 75) (tgt := 84) dX7_step_75 rfl (fun c3 => ?_) (fun c3 => ?_)
      · have K := K.1 c3
        refine r_mask (pc := 84) [true, true, true, false, false, false, false, false, false] rfl ?_
        exact K
      · have K := K.2 c3
        refine r_aload_n (pc := 78) dX7_step_78 rfl ?_
        refine r_iload_n (pc := 79) dX7_step_79 rfl ?_
        obtain ⟨hk6, K⟩ := K
        refine r_callV_V (pc := 80) (Y := mX7_digested) (vs := [_]) (st := []) hk6 rfl kc7 q1519 q1521 qs39 dX7_step_80 rfl cd_X7_digested rfl rfl fp_X7_step_X7_digested K (fun h5 eh5 wh5 K => ?_) (fun x h1 _ _ e => Tw.out rfl e)
        exact r_vret (pc := 83) rfl dX7_step_83 K
  · have K := K.2 c1
    refine r_iload_n (pc := 51) dX7_step_51 rfl ?_
    refine r_sipush (pc := 52) (x := 165) dX7_step_52 rfl ?_
    refine r_icmp_gt (pc := 55) (tgt := 64) dX7_step_55 rfl (fun c7 => ?_) (fun c7 => ?_)
    · have K := K.1 c7
      refine r_iload_n (pc := 64) dX7_step_64 rfl ?_
      refine r_sipush (pc := 65) (x := 166) dX7_step_65 rfl ?_
      refine r_icmp_lt (pc := 68) (tgt := 84) dX7_step_68 rfl (fun c8 => ?_) (fun c8 => ?_)
      · have K := K.1 c8
        refine r_mask (pc := 84) [true, true, true, false, false, false, false, false, false] rfl ?_
        exact K
      · have K := K.2 c8
        refine r_iload_n (pc := 71) dX7_step_71 rfl ?_
        refine r_sipush (pc := 72) (x := 170) dX7_step_72 rfl ?_
        refine r_icmp_gt (pc := 75) (tgt := 84) dX7_step_75 rfl (fun c9 => ?_) (fun c9 => ?_)
        · have K := K.1 c9
          refine r_mask (pc := 84) [true, true, true, false, false, false, false, false, false] rfl ?_
          exact K
        · have K := K.2 c9
          refine r_aload_n (pc := 78) dX7_step_78 rfl ?_
          refine r_iload_n (pc := 79) dX7_step_79 rfl ?_
          obtain ⟨hk12, K⟩ := K
          refine r_callV_V (pc := 80) (Y := mX7_digested) (vs := [_]) (st := []) hk12 rfl kc7 q1519 q1521 qs39 dX7_step_80 rfl cd_X7_digested rfl rfl fp_X7_step_X7_digested K (fun h11 eh11 wh11 K => ?_) (fun x h1 _ _ e => Tw.out rfl e)
          exact r_vret (pc := 83) rfl dX7_step_83 K
    · have K := K.2 c7
      refine r_aload_n (pc := 58) dX7_step_58 rfl ?_
      refine r_iload_n (pc := 59) dX7_step_59 rfl ?_
      obtain ⟨hk15, K⟩ := K
      refine r_callV_V (pc := 60) (Y := mX7_numbers) (vs := [_]) (st := []) hk15 rfl kc7 q1510 q1512 qs38 dX7_step_60 rfl cd_X7_numbers rfl rfl fp_X7_step_X7_numbers K (fun h14 eh14 wh14 K => ?_) (fun x h1 _ _ e => Tw.out rfl e)
      exact r_vret (pc := 63) rfl dX7_step_63 K
set_option maxHeartbeats 4000000 in
theorem sX7_step_84 {G : Gx} {d t : Nat} {h0 : AH} {Φ : Out → AH → Prop} (h : AH) (v0 : Nat) (v1 : Int32) (v2 : Nat) (K : ((v1 = 97 → Φ (.inl none) h) ∧ (¬ v1 = 97 → ((v1 = 176 → Φ (.inl none) h) ∧ (¬ v1 = 176 → ((v1 < 178 → Aw G mX7_step (d + 1) t h0 Φ 112 [vR v0, vI v1, vR v2, vU, vU, vU, vU, vU, vU] [] h) ∧ (¬ v1 < 178 → ((185 < v1 → Aw G mX7_step (d + 1) t h0 Φ 112 [vR v0, vI v1, vR v2, vU, vU, vU, vU, vU, vU] [] h) ∧ (¬ 185 < v1 → Φ (.inl none) h))))))))) : Aw G mX7_step (d + 1) t h0 Φ 84 [vR v0, vI v1, vR v2, vU, vU, vU, vU, vU, vU] [] h := by
  refine r_iload_n (pc := 84) dX7_step_84 rfl ?_
  refine r_bipush (pc := 85) (x := 97) dX7_step_85 rfl ?_
  refine r_icmp_eq (pc := 87) (tgt := 111) dX7_step_87 rfl (fun c1 => ?_) (fun c1 => ?_)
  · have K := K.1 c1
    exact r_vret (pc := 111) rfl dX7_step_111 K
  · have K := K.2 c1
    refine r_iload_n (pc := 90) dX7_step_90 rfl ?_
    refine r_sipush (pc := 91) (x := 176) dX7_step_91 rfl ?_
    refine r_icmp_eq (pc := 94) (tgt := 111) dX7_step_94 rfl (fun c2 => ?_) (fun c2 => ?_)
    · have K := K.1 c2
      exact r_vret (pc := 111) rfl dX7_step_111 K
    · have K := K.2 c2
      refine r_iload_n (pc := 97) dX7_step_97 rfl ?_
      refine r_sipush (pc := 98) (x := 178) dX7_step_98 rfl ?_
      refine r_icmp_lt (pc := 101) (tgt := 112) dX7_step_101 rfl (fun c3 => ?_) (fun c3 => ?_)
      · have K := K.1 c3
        refine r_mask (pc := 112) [true, true, true, false, false, false, false, false, false] rfl ?_
        exact K
      · have K := K.2 c3
        refine r_iload_n (pc := 104) dX7_step_104 rfl ?_
        refine r_sipush (pc := 105) (x := 185) dX7_step_105 rfl ?_
        refine r_icmp_gt (pc := 108) (tgt := 112) dX7_step_108 rfl (fun c4 => ?_) (fun c4 => ?_)
        · have K := K.1 c4
          refine r_mask (pc := 112) [true, true, true, false, false, false, false, false, false] rfl ?_
          exact K
        · have K := K.2 c4
          exact r_vret (pc := 111) rfl dX7_step_111 K
set_option maxHeartbeats 4000000 in
theorem sX7_step_112 {G : Gx} {d t : Nat} {h0 : AH} {Φ : Out → AH → Prop} (h : AH) (v0 : Nat) (v1 : Int32) (v2 : Nat) (K : ((v1 = 105 → h.kd v0 = 7 ∧ Cw G mX7_verify d 0 [vR v0] h (kV (fun h3 => Φ (.inl none) h3) (fun x h => Φ (.inr x) h))) ∧ (v1 = 107 → h.kd v0 = 7 ∧ (((h.i 7004 v0) ≤ 0 → Cw G mX7_need d 0 [vR v0, vI 0] h (kV (fun h9 => Cw G mX7_top d 0 [vR v0, vI 0] h9 (kR (fun x10 h11 => ∀ r14 : Nat, r14 = (h11.r 7002 v0) → Cw G mX7_at d 0 [vR r14, vI (h11.i 7005 v0)] h11 (kR (fun x15 h16 => h16.kd x10 = 22 ∧ ∀ r18 : Nat, r18 = (h16.r 22000 x10) → h16.kd x15 = 22 ∧ Cw G mX22_set d 0 [vR x15, vR r18, vI 0, vI (h16.i 22001 x10)] h16 (kR (fun x19 h20 => ∀ h27 : AH, h27 = h20.pi 7005 v0 ((h11.i 7005 v0) + 1) → Cw G mX7_drop d 0 [vR v0, vI 1] h27 (kV (fun h29 => Φ (.inl none) h29) (fun x h => Φ (.inr x) h))) (fun x h => Φ (.inr x) h))) (fun x h => Φ (.inr x) h))) (fun x h => Φ (.inr x) h))) (fun x h => Φ (.inr x) h))) ∧ (¬ (h.i 7004 v0) ≤ 0 → Cw G mX7_need d 0 [vR v0, vI 1] h (kV (fun h32 => Cw G mX7_top d 0 [vR v0, vI 0] h32 (kR (fun x33 h34 => ∀ r37 : Nat, r37 = (h34.r 7002 v0) → Cw G mX7_at d 0 [vR r37, vI (h34.i 7005 v0)] h34 (kR (fun x38 h39 => h39.kd x33 = 22 ∧ ∀ r41 : Nat, r41 = (h39.r 22000 x33) → h39.kd x38 = 22 ∧ Cw G mX22_set d 0 [vR x38, vR r41, vI 0, vI (h39.i 22001 x33)] h39 (kR (fun x42 h43 => ∀ h50 : AH, h50 = h43.pi 7005 v0 ((h34.i 7005 v0) + 1) → Cw G mX7_drop d 0 [vR v0, vI 1] h50 (kV (fun h52 => Φ (.inl none) h52) (fun x h => Φ (.inr x) h))) (fun x h => Φ (.inr x) h))) (fun x h => Φ (.inr x) h))) (fun x h => Φ (.inr x) h))) (fun x h => Φ (.inr x) h))))) ∧ (v1 = 108 → h.kd v0 = 7 ∧ (((h.i 7005 v0) ≤ 0 → Cw G mX7_need d 0 [vR v0, vI 0] h (kV (fun h58 => ∀ h62 : AH, h62 = h58.pi 7005 v0 ((h.i 7005 v0) - 1) → Cw G mX7_push d 0 [vR v0] h62 (kR (fun x63 h64 => ∀ r67 : Nat, r67 = (h64.r 7002 v0) → h64.kd r67 = 104 ∧ vp_in (h64.i 7005 v0) (h64.ar r67).length ∧ ∀ r70 : Nat, r70 = ((h64.ar r67).getD ((h64.i 7005 v0).toNatClampNeg) 0) → h64.kd r70 = 22 ∧ ∀ r72 : Nat, r72 = (h64.r 22000 r70) → vp_in (h64.i 7005 v0) (h64.ar r67).length ∧ ∀ r74 : Nat, r74 = ((h64.ar r67).getD ((h64.i 7005 v0).toNatClampNeg) 0) → h64.kd r74 = 22 ∧ h64.kd x63 = 22 ∧ Cw G mX22_set d 0 [vR x63, vR r72, vI 0, vI (h64.i 22001 r74)] h64 (kR (fun x76 h77 => Φ (.inl none) h77) (fun x h => Φ (.inr x) h))) (fun x h => Φ (.inr x) h))) (fun x h => Φ (.inr x) h))) ∧ (¬ (h.i 7005 v0) ≤ 0 → Cw G mX7_need d 0 [vR v0, vI 1] h (kV (fun h80 => ∀ h84 : AH, h84 = h80.pi 7005 v0 ((h.i 7005 v0) - 1) → Cw G mX7_push d 0 [vR v0] h84 (kR (fun x85 h86 => ∀ r89 : Nat, r89 = (h86.r 7002 v0) → h86.kd r89 = 104 ∧ vp_in (h86.i 7005 v0) (h86.ar r89).length ∧ ∀ r92 : Nat, r92 = ((h86.ar r89).getD ((h86.i 7005 v0).toNatClampNeg) 0) → h86.kd r92 = 22 ∧ ∀ r94 : Nat, r94 = (h86.r 22000 r92) → vp_in (h86.i 7005 v0) (h86.ar r89).length ∧ ∀ r96 : Nat, r96 = ((h86.ar r89).getD ((h86.i 7005 v0).toNatClampNeg) 0) → h86.kd r96 = 22 ∧ h86.kd x85 = 22 ∧ Cw G mX22_set d 0 [vR x85, vR r94, vI 0, vI (h86.i 22001 r96)] h86 (kR (fun x98 h99 => Φ (.inl none) h99) (fun x h => Φ (.inr x) h))) (fun x h => Φ (.inr x) h))) (fun x h => Φ (.inr x) h))))) ∧ (v1 = 109 → h.kd v0 = 7 ∧ Cw G mX7_drop d 0 [vR v0, vI 2] h (kV (fun h103 => Φ (.inl none) h103) (fun x h => Φ (.inr x) h))) ∧ (v1 = 110 → h.kd v0 = 7 ∧ (((h.i 7004 v0) < (v1 - 108) → Cw G mX7_need d 0 [vR v0, vI 0] h (kV (fun h109 => Aw G mX7_step (d + 1) t h0 Φ 580 [vR v0, vU, vU, vU, vI (v1 - 108), vI 0, vU, vU, vU] [] h109) (fun x h => Φ (.inr x) h))) ∧ (¬ (h.i 7004 v0) < (v1 - 108) → Cw G mX7_need d 0 [vR v0, vI 1] h (kV (fun h111 => Aw G mX7_step (d + 1) t h0 Φ 580 [vR v0, vU, vU, vU, vI (v1 - 108), vI 0, vU, vU, vU] [] h111) (fun x h => Φ (.inr x) h))))) ∧ (v1 = 111 → h.kd v0 = 7 ∧ (((h.i 7004 v0) < (v1 - 108) → Cw G mX7_need d 0 [vR v0, vI 0] h (kV (fun h116 => Aw G mX7_step (d + 1) t h0 Φ 580 [vR v0, vU, vU, vU, vI (v1 - 108), vI 0, vU, vU, vU] [] h116) (fun x h => Φ (.inr x) h))) ∧ (¬ (h.i 7004 v0) < (v1 - 108) → Cw G mX7_need d 0 [vR v0, vI 1] h (kV (fun h118 => Aw G mX7_step (d + 1) t h0 Φ 580 [vR v0, vU, vU, vU, vI (v1 - 108), vI 0, vU, vU, vU] [] h118) (fun x h => Φ (.inr x) h))))) ∧ (v1 = 112 → h.kd v0 = 7 ∧ (((h.i 7004 v0) < 4 → Cw G mX7_need d 0 [vR v0, vI 0] h (kV (fun h123 => Cw G mX7_copy d 0 [vR v0, vI 3] h123 (kV (fun h125 => Cw G mX7_copy d 0 [vR v0, vI 3] h125 (kV (fun h128 => Φ (.inl none) h128) (fun x h => Φ (.inr x) h))) (fun x h => Φ (.inr x) h))) (fun x h => Φ (.inr x) h))) ∧ (¬ (h.i 7004 v0) < 4 → Cw G mX7_need d 0 [vR v0, vI 1] h (kV (fun h131 => Cw G mX7_copy d 0 [vR v0, vI 3] h131 (kV (fun h133 => Cw G mX7_copy d 0 [vR v0, vI 3] h133 (kV (fun h136 => Φ (.inl none) h136) (fun x h => Φ (.inr x) h))) (fun x h => Φ (.inr x) h))) (fun x h => Φ (.inr x) h))))) ∧ (v1 = 113 → h.kd v0 = 7 ∧ (((h.i 7004 v0) < 6 → Cw G mX7_need d 0 [vR v0, vI 0] h (kV (fun h142 => Cw G mX7_roll d 0 [vR v0, vI 5] h142 (kV (fun h144 => Cw G mX7_roll d 0 [vR v0, vI 5] h144 (kV (fun h147 => Φ (.inl none) h147) (fun x h => Φ (.inr x) h))) (fun x h => Φ (.inr x) h))) (fun x h => Φ (.inr x) h))) ∧ (¬ (h.i 7004 v0) < 6 → Cw G mX7_need d 0 [vR v0, vI 1] h (kV (fun h150 => Cw G mX7_roll d 0 [vR v0, vI 5] h150 (kV (fun h152 => Cw G mX7_roll d 0 [vR v0, vI 5] h152 (kV (fun h155 => Φ (.inl none) h155) (fun x h => Φ (.inr x) h))) (fun x h => Φ (.inr x) h))) (fun x h => Φ (.inr x) h))))) ∧ (v1 = 114 → h.kd v0 = 7 ∧ (((h.i 7004 v0) < 4 → Cw G mX7_need d 0 [vR v0, vI 0] h (kV (fun h161 => Cw G mX7_roll d 0 [vR v0, vI 3] h161 (kV (fun h163 => Cw G mX7_roll d 0 [vR v0, vI 3] h163 (kV (fun h166 => Φ (.inl none) h166) (fun x h => Φ (.inr x) h))) (fun x h => Φ (.inr x) h))) (fun x h => Φ (.inr x) h))) ∧ (¬ (h.i 7004 v0) < 4 → Cw G mX7_need d 0 [vR v0, vI 1] h (kV (fun h169 => Cw G mX7_roll d 0 [vR v0, vI 3] h169 (kV (fun h171 => Cw G mX7_roll d 0 [vR v0, vI 3] h171 (kV (fun h174 => Φ (.inl none) h174) (fun x h => Φ (.inr x) h))) (fun x h => Φ (.inr x) h))) (fun x h => Φ (.inr x) h))))) ∧ (v1 = 115 → h.kd v0 = 7 ∧ Cw G mX7_top d 0 [vR v0, vI 0] h (kR (fun x177 h178 => h178.kd x177 = 22 ∧ Cw G mX22_isTrue d 0 [vR x177] h178 (kI (fun x180 h181 => ((x180 = 0 → Φ (.inl none) h181) ∧ (¬ x180 = 0 → Cw G mX7_copy d 0 [vR v0, vI 0] h181 (kV (fun h185 => Φ (.inl none) h185) (fun x h => Φ (.inr x) h))))) (fun x h => Φ (.inr x) h))) (fun x h => Φ (.inr x) h))) ∧ (v1 = 116 → h.kd v0 = 7 ∧ Cw G mX7_push d 0 [vR v0] h (kR (fun x189 h190 => h190.kd x189 = 22 ∧ Cw G mX22_be d 0 [vR x189, vJ ((h190.i 7004 v0).toInt64 - 1)] h190 (kV (fun h194 => Φ (.inl none) h194) (fun x h => Φ (.inr x) h))) (fun x h => Φ (.inr x) h))) ∧ (v1 = 117 → h.kd v0 = 7 ∧ Cw G mX7_drop d 0 [vR v0, vI 1] h (kV (fun h198 => Φ (.inl none) h198) (fun x h => Φ (.inr x) h))) ∧ (v1 = 118 → h.kd v0 = 7 ∧ Cw G mX7_copy d 0 [vR v0, vI 0] h (kV (fun h202 => Φ (.inl none) h202) (fun x h => Φ (.inr x) h))) ∧ (v1 = 119 → h.kd v0 = 7 ∧ (((h.i 7004 v0) < 2 → Cw G mX7_need d 0 [vR v0, vI 0] h (kV (fun h208 => Cw G mX7_roll d 0 [vR v0, vI 1] h208 (kV (fun h210 => Cw G mX7_drop d 0 [vR v0, vI 1] h210 (kV (fun h213 => Φ (.inl none) h213) (fun x h => Φ (.inr x) h))) (fun x h => Φ (.inr x) h))) (fun x h => Φ (.inr x) h))) ∧ (¬ (h.i 7004 v0) < 2 → Cw G mX7_need d 0 [vR v0, vI 1] h (kV (fun h216 => Cw G mX7_roll d 0 [vR v0, vI 1] h216 (kV (fun h218 => Cw G mX7_drop d 0 [vR v0, vI 1] h218 (kV (fun h221 => Φ (.inl none) h221) (fun x h => Φ (.inr x) h))) (fun x h => Φ (.inr x) h))) (fun x h => Φ (.inr x) h))))) ∧ (v1 = 120 → h.kd v0 = 7 ∧ Cw G mX7_copy d 0 [vR v0, vI 1] h (kV (fun h225 => Φ (.inl none) h225) (fun x h => Φ (.inr x) h))) ∧ (v1 = 121 → h.kd v0 = 7 ∧ Cw G mX7_top d 0 [vR v0, vI 0] h (kR (fun x228 h229 => h229.kd x228 = 22 ∧ Cw G mX22_number d 0 [vR x228, vI 4] h229 (kJ (fun x231 h232 => Cw G mX7_drop d 0 [vR v0, vI 1] h232 (kV (fun h235 => ((x231 < 0 → Cw G mX7_need d 0 [vR v0, vI 0] h235 (kV (fun h240 => ((¬ v1 = 121 → Cw G mX7_roll d 0 [vR v0, vI x231.toInt32] h240 (kV (fun h244 => Φ (.inl none) h244) (fun x h => Φ (.inr x) h))) ∧ (v1 = 121 → Cw G mX7_copy d 0 [vR v0, vI x231.toInt32] h240 (kV (fun h247 => Φ (.inl none) h247) (fun x h => Φ (.inr x) h))))) (fun x h => Φ (.inr x) h))) ∧ (¬ x231 < 0 → (((h235.i 7004 v0).toInt64 ≤ x231 → Cw G mX7_need d 0 [vR v0, vI 0] h235 (kV (fun h252 => ((¬ v1 = 121 → Cw G mX7_roll d 0 [vR v0, vI x231.toInt32] h252 (kV (fun h255 => Φ (.inl none) h255) (fun x h => Φ (.inr x) h))) ∧ (v1 = 121 → Cw G mX7_copy d 0 [vR v0, vI x231.toInt32] h252 (kV (fun h258 => Φ (.inl none) h258) (fun x h => Φ (.inr x) h))))) (fun x h => Φ (.inr x) h))) ∧ (¬ (h235.i 7004 v0).toInt64 ≤ x231 → Cw G mX7_need d 0 [vR v0, vI 1] h235 (kV (fun h261 => ((¬ v1 = 121 → Cw G mX7_roll d 0 [vR v0, vI x231.toInt32] h261 (kV (fun h264 => Φ (.inl none) h264) (fun x h => Φ (.inr x) h))) ∧ (v1 = 121 → Cw G mX7_copy d 0 [vR v0, vI x231.toInt32] h261 (kV (fun h267 => Φ (.inl none) h267) (fun x h => Φ (.inr x) h))))) (fun x h => Φ (.inr x) h))))))) (fun x h => Φ (.inr x) h))) (fun x h => Φ (.inr x) h))) (fun x h => Φ (.inr x) h))) ∧ (v1 = 122 → h.kd v0 = 7 ∧ Cw G mX7_top d 0 [vR v0, vI 0] h (kR (fun x270 h271 => h271.kd x270 = 22 ∧ Cw G mX22_number d 0 [vR x270, vI 4] h271 (kJ (fun x273 h274 => Cw G mX7_drop d 0 [vR v0, vI 1] h274 (kV (fun h277 => ((x273 < 0 → Cw G mX7_need d 0 [vR v0, vI 0] h277 (kV (fun h282 => ((¬ v1 = 121 → Cw G mX7_roll d 0 [vR v0, vI x273.toInt32] h282 (kV (fun h286 => Φ (.inl none) h286) (fun x h => Φ (.inr x) h))) ∧ (v1 = 121 → Cw G mX7_copy d 0 [vR v0, vI x273.toInt32] h282 (kV (fun h289 => Φ (.inl none) h289) (fun x h => Φ (.inr x) h))))) (fun x h => Φ (.inr x) h))) ∧ (¬ x273 < 0 → (((h277.i 7004 v0).toInt64 ≤ x273 → Cw G mX7_need d 0 [vR v0, vI 0] h277 (kV (fun h294 => ((¬ v1 = 121 → Cw G mX7_roll d 0 [vR v0, vI x273.toInt32] h294 (kV (fun h297 => Φ (.inl none) h297) (fun x h => Φ (.inr x) h))) ∧ (v1 = 121 → Cw G mX7_copy d 0 [vR v0, vI x273.toInt32] h294 (kV (fun h300 => Φ (.inl none) h300) (fun x h => Φ (.inr x) h))))) (fun x h => Φ (.inr x) h))) ∧ (¬ (h277.i 7004 v0).toInt64 ≤ x273 → Cw G mX7_need d 0 [vR v0, vI 1] h277 (kV (fun h303 => ((¬ v1 = 121 → Cw G mX7_roll d 0 [vR v0, vI x273.toInt32] h303 (kV (fun h306 => Φ (.inl none) h306) (fun x h => Φ (.inr x) h))) ∧ (v1 = 121 → Cw G mX7_copy d 0 [vR v0, vI x273.toInt32] h303 (kV (fun h309 => Φ (.inl none) h309) (fun x h => Φ (.inr x) h))))) (fun x h => Φ (.inr x) h))))))) (fun x h => Φ (.inr x) h))) (fun x h => Φ (.inr x) h))) (fun x h => Φ (.inr x) h))) ∧ (v1 = 123 → h.kd v0 = 7 ∧ Cw G mX7_roll d 0 [vR v0, vI 2] h (kV (fun h313 => Φ (.inl none) h313) (fun x h => Φ (.inr x) h))) ∧ (v1 = 124 → h.kd v0 = 7 ∧ Cw G mX7_roll d 0 [vR v0, vI 1] h (kV (fun h317 => Φ (.inl none) h317) (fun x h => Φ (.inr x) h))) ∧ (v1 = 125 → h.kd v0 = 7 ∧ (((h.i 7004 v0) < 2 → Cw G mX7_need d 0 [vR v0, vI 0] h (kV (fun h323 => Cw G mX7_roll d 0 [vR v0, vI 1] h323 (kV (fun h325 => Cw G mX7_copy d 0 [vR v0, vI 1] h325 (kV (fun h328 => Φ (.inl none) h328) (fun x h => Φ (.inr x) h))) (fun x h => Φ (.inr x) h))) (fun x h => Φ (.inr x) h))) ∧ (¬ (h.i 7004 v0) < 2 → Cw G mX7_need d 0 [vR v0, vI 1] h (kV (fun h331 => Cw G mX7_roll d 0 [vR v0, vI 1] h331 (kV (fun h333 => Cw G mX7_copy d 0 [vR v0, vI 1] h333 (kV (fun h336 => Φ (.inl none) h336) (fun x h => Φ (.inr x) h))) (fun x h => Φ (.inr x) h))) (fun x h => Φ (.inr x) h))))) ∧ (v1 = 130 → h.kd v0 = 7 ∧ Cw G mX7_top d 0 [vR v0, vI 0] h (kR (fun x339 h340 => h340.kd x339 = 22 ∧ Cw G mX7_push d 0 [vR v0] h340 (kR (fun x343 h344 => h344.kd x343 = 22 ∧ Cw G mX22_be d 0 [vR x343, vJ ((h340.i 22001 x339).toInt64)] h344 (kV (fun h347 => Φ (.inl none) h347) (fun x h => Φ (.inr x) h))) (fun x h => Φ (.inr x) h))) (fun x h => Φ (.inr x) h))) ∧ (v1 = 135 → h.kd v0 = 7 ∧ Cw G mX7_top d 0 [vR v0, vI 0] h (kR (fun x350 h351 => Cw G mX7_top d 0 [vR v0, vI 1] h351 (kR (fun x353 h354 => h354.kd x350 = 22 ∧ Cw G mX22_same d 0 [vR x350, vR x353] h354 (kI (fun x356 h357 => Cw G mX7_drop d 0 [vR v0, vI 2] h357 (kV (fun h360 => Cw G mX7_truth d 0 [vR v0, vI x356] h360 (kV (fun h364 => ((¬ v1 = 136 → Φ (.inl none) h364) ∧ (v1 = 136 → Cw G mX7_verify d 0 [vR v0] h364 (kV (fun h368 => Φ (.inl none) h368) (fun x h => Φ (.inr x) h))))) (fun x h => Φ (.inr x) h))) (fun x h => Φ (.inr x) h))) (fun x h => Φ (.inr x) h))) (fun x h => Φ (.inr x) h))) (fun x h => Φ (.inr x) h))) ∧ (v1 = 136 → h.kd v0 = 7 ∧ Cw G mX7_top d 0 [vR v0, vI 0] h (kR (fun x371 h372 => Cw G mX7_top d 0 [vR v0, vI 1] h372 (kR (fun x374 h375 => h375.kd x371 = 22 ∧ Cw G mX22_same d 0 [vR x371, vR x374] h375 (kI (fun x377 h378 => Cw G mX7_drop d 0 [vR v0, vI 2] h378 (kV (fun h381 => Cw G mX7_truth d 0 [vR v0, vI x377] h381 (kV (fun h385 => ((¬ v1 = 136 → Φ (.inl none) h385) ∧ (v1 = 136 → Cw G mX7_verify d 0 [vR v0] h385 (kV (fun h389 => Φ (.inl none) h389) (fun x h => Φ (.inr x) h))))) (fun x h => Φ (.inr x) h))) (fun x h => Φ (.inr x) h))) (fun x h => Φ (.inr x) h))) (fun x h => Φ (.inr x) h))) (fun x h => Φ (.inr x) h))) ∧ (v1 = 177 → h.kd v0 = 7 ∧ Cw G mX7_later d 0 [vR v0, vR v2] h (kV (fun h393 => Φ (.inl none) h393) (fun x h => Φ (.inr x) h))) ∧ (¬ v1 = 105 ∧ ¬ v1 = 107 ∧ ¬ v1 = 108 ∧ ¬ v1 = 109 ∧ ¬ v1 = 110 ∧ ¬ v1 = 111 ∧ ¬ v1 = 112 ∧ ¬ v1 = 113 ∧ ¬ v1 = 114 ∧ ¬ v1 = 115 ∧ ¬ v1 = 116 ∧ ¬ v1 = 117 ∧ ¬ v1 = 118 ∧ ¬ v1 = 119 ∧ ¬ v1 = 120 ∧ ¬ v1 = 121 ∧ ¬ v1 = 122 ∧ ¬ v1 = 123 ∧ ¬ v1 = 124 ∧ ¬ v1 = 125 ∧ ¬ v1 = 130 ∧ ¬ v1 = 135 ∧ ¬ v1 = 136 ∧ ¬ v1 = 177 → ∀ q395 : Nat, q395 = h.z → WF G h → ∀ h396 : AH, h396 = h.new 17 6 [] [] [] → 5 ≤ d ∧ ∀ h399 : AH, h399 = exH G 17 q395 h396 → Φ (.inr q395) h399))) : Aw G mX7_step (d + 1) t h0 Φ 112 [vR v0, vI v1, vR v2, vU, vU, vU, vU, vU, vU] [] h := by
  refine r_iload_n (pc := 112) dX7_step_112 rfl ?_
  have K402 := K
  by_cases c1 : v1 = 105
  · have K := K402.1 c1
    refine r_tableIn (pc := 113) (tgt := 420) dX7_step_113 (by rw [c1]; decide) (by rw [c1]; decide) (by rw [c1]; rfl) rfl ?_
    refine r_aload_n (pc := 420) dX7_step_420 rfl ?_
    obtain ⟨hk4, K⟩ := K
    refine r_callV_V (pc := 421) (Y := mX7_verify) (vs := []) (st := []) hk4 rfl kc7 q1488 q1490 qs35 dX7_step_421 rfl cd_X7_verify rfl rfl fp_X7_step_X7_verify K (fun h3 eh3 wh3 K => ?_) (fun x h1 _ _ e => Tw.out rfl e)
    exact r_vret (pc := 424) rfl dX7_step_424 K
  · by_cases c5 : v1 = 107
    · have K := K402.2.1 c5
      refine r_tableIn (pc := 113) (tgt := 425) dX7_step_113 (by rw [c5]; decide) (by rw [c5]; decide) (by rw [c5]; rfl) rfl ?_
      refine r_aload_n (pc := 425) dX7_step_425 rfl ?_
      refine r_aload_n (pc := 426) dX7_step_426 rfl ?_
      obtain ⟨hk6, K⟩ := K
      refine r_geti' (pc := 427) (T := TX7) 7 4 rfl hk6 (Or.inl q502) dX7_step_427 kc7 g7004 ?_
      refine r_if_le (pc := 430) (tgt := 437) dX7_step_430 rfl (fun c7 => ?_) (fun c7 => ?_)
      · have K := K.1 c7
        refine r_iconst (pc := 437) (x := 0) dX7_step_437 rfl ?_
        refine r_callV_V (pc := 438) (Y := mX7_need) (vs := [_]) (st := []) hk6 rfl kc7 q1272 q1274 qs14 dX7_step_438 rfl cd_X7_need rfl rfl fp_X7_step_X7_need K (fun h9 eh9 wh9 K => ?_) (fun x h1 _ _ e => Tw.out rfl e)
        refine r_aload_n (pc := 441) dX7_step_441 rfl ?_
        refine r_iconst (pc := 442) (x := 0) dX7_step_442 rfl ?_
        have hk12 := kd_ext eh9 hk6 (nz rfl)
        refine r_callV_R (pc := 443) (Y := mX7_top) (vs := [_]) (st := []) hk12 rfl kc7 q1311 q1313 qs17 dX7_step_443 rfl cd_X7_top rfl rfl fp_X7_step_X7_top K (fun x10 h11 eh11 wh11 K => ?_) (fun x h1 _ _ e => Tw.out rfl e)
        refine r_astore_n (pc := 446) (lv' := [_, _, _, _, _, _, _, _, _]) dX7_step_446 (by decide) rfl ?_
        refine r_aload_n (pc := 447) dX7_step_447 rfl ?_
        have hk13 := kd_ext eh11 hk12 (nz rfl)
        have K := K _ rfl
        refine r_getr' (pc := 448) (T := TX7) 7 2 rfl hk13 (Or.inl q500) dX7_step_448 kc7 g7002 ?_
        refine r_aload_n (pc := 451) dX7_step_451 rfl ?_
        refine r_geti' (pc := 452) (T := TX7) 7 5 rfl hk13 (Or.inl q503) dX7_step_452 kc7 g7005 ?_
        refine r_callS_R (pc := 455) (Y := mX7_at) (vs := [_, _]) (st := []) q1284 q1285 q161 dX7_step_455 rfl cd_X7_at rfl rfl fp_X7_step_X7_at K (fun x15 h16 eh16 wh16 K => ?_) (fun x h1 _ _ e => Tw.out rfl e)
        refine r_aload_n (pc := 458) dX7_step_458 rfl ?_
        obtain ⟨hk17, K⟩ := K
        have K := K _ rfl
        refine r_getr' (pc := 459) (T := TX22) 22 0 rfl hk17 (Or.inr (Or.inl ⟨_, q1293⟩)) dX7_step_459 kc22 g22000 ?_
        refine r_iconst (pc := 462) (x := 0) dX7_step_462 rfl ?_
        refine r_aload_n (pc := 463) dX7_step_463 rfl ?_
        refine r_geti' (pc := 464) (T := TX22) 22 1 rfl hk17 (Or.inr (Or.inl ⟨_, q1296⟩)) dX7_step_464 kc22 g22001 ?_
        obtain ⟨hk21, K⟩ := K
        refine r_callV_R (pc := 467) (Y := mX22_set) (vs := [_, _, _]) (st := []) hk21 rfl kc22 q1303 q1304 q1305 dX7_step_467 rfl cd_X22_set rfl rfl fp_X7_step_X22_set K (fun x19 h20 eh20 wh20 K => ?_) (fun x h1 _ _ e => Tw.out rfl e)
        refine r_pop (pc := 470) rfl dX7_step_470 ?_
        refine r_aload_n (pc := 471) dX7_step_471 rfl ?_
        refine r_dup (pc := 472) rfl dX7_step_472 ?_
        have hk22 := kd_ext eh16 hk13 (nz rfl)
        have hk23 := kd_ext eh20 hk22 (nz rfl)
        have hv24 := fi_self (key := 7005) hk13
        have hv25 := (fi_ext (key := 7005) eh16 hk13 (nz rfl) (ne0 wh16 hk22 (nz rfl)) (nm rfl)).trans hv24
        have hv26 := (fi_ext (key := 7005) eh20 hk22 (nz rfl) (ne0 wh20 hk23 (nz rfl)) (nm rfl)).trans hv25
        refine r_geti' (pc := 473) (T := TX7) 7 5 hv26 hk23 (Or.inl q503) dX7_step_473 kc7 g7005 ?_
        refine r_iconst (pc := 476) (x := 1) dX7_step_476 rfl ?_
        refine r_iadd (pc := 477) dX7_step_477 ?_
        refine r_puti (pc := 478) (T := TX7) (key := 7005) 7 5 hk23 (Or.inl q503) dX7_step_478 kc7 rfl (Or.inl rfl) (Or.inl (em rfl)) ?_
        refine r_nameH (fun h27 eh27 => ?_)
        have K := K h27 eh27
        refine r_aload_n (pc := 481) dX7_step_481 rfl ?_
        refine r_iconst (pc := 482) (x := 1) dX7_step_482 rfl ?_
        have hk30 := kd_pi eh27 hk23
        refine r_callV_V (pc := 483) (Y := mX7_drop) (vs := [_]) (st := []) hk30 rfl kc7 q1319 q1321 qs18 dX7_step_483 rfl cd_X7_drop rfl rfl fp_X7_step_X7_drop K (fun h29 eh29 wh29 K => ?_) (fun x h1 _ _ e => Tw.out rfl e)
        exact r_vret (pc := 486) rfl dX7_step_486 K
      · have K := K.2 c7
        refine r_iconst (pc := 433) (x := 1) dX7_step_433 rfl ?_
        refine r_goto (pc := 434) (tgt := 438) dX7_step_434 rfl ?_
        refine r_callV_V (pc := 438) (Y := mX7_need) (vs := [_]) (st := []) hk6 rfl kc7 q1272 q1274 qs14 dX7_step_438 rfl cd_X7_need rfl rfl fp_X7_step_X7_need K (fun h32 eh32 wh32 K => ?_) (fun x h1 _ _ e => Tw.out rfl e)
        refine r_aload_n (pc := 441) dX7_step_441 rfl ?_
        refine r_iconst (pc := 442) (x := 0) dX7_step_442 rfl ?_
        have hk35 := kd_ext eh32 hk6 (nz rfl)
        refine r_callV_R (pc := 443) (Y := mX7_top) (vs := [_]) (st := []) hk35 rfl kc7 q1311 q1313 qs17 dX7_step_443 rfl cd_X7_top rfl rfl fp_X7_step_X7_top K (fun x33 h34 eh34 wh34 K => ?_) (fun x h1 _ _ e => Tw.out rfl e)
        refine r_astore_n (pc := 446) (lv' := [_, _, _, _, _, _, _, _, _]) dX7_step_446 (by decide) rfl ?_
        refine r_aload_n (pc := 447) dX7_step_447 rfl ?_
        have hk36 := kd_ext eh34 hk35 (nz rfl)
        have K := K _ rfl
        refine r_getr' (pc := 448) (T := TX7) 7 2 rfl hk36 (Or.inl q500) dX7_step_448 kc7 g7002 ?_
        refine r_aload_n (pc := 451) dX7_step_451 rfl ?_
        refine r_geti' (pc := 452) (T := TX7) 7 5 rfl hk36 (Or.inl q503) dX7_step_452 kc7 g7005 ?_
        refine r_callS_R (pc := 455) (Y := mX7_at) (vs := [_, _]) (st := []) q1284 q1285 q161 dX7_step_455 rfl cd_X7_at rfl rfl fp_X7_step_X7_at K (fun x38 h39 eh39 wh39 K => ?_) (fun x h1 _ _ e => Tw.out rfl e)
        refine r_aload_n (pc := 458) dX7_step_458 rfl ?_
        obtain ⟨hk40, K⟩ := K
        have K := K _ rfl
        refine r_getr' (pc := 459) (T := TX22) 22 0 rfl hk40 (Or.inr (Or.inl ⟨_, q1293⟩)) dX7_step_459 kc22 g22000 ?_
        refine r_iconst (pc := 462) (x := 0) dX7_step_462 rfl ?_
        refine r_aload_n (pc := 463) dX7_step_463 rfl ?_
        refine r_geti' (pc := 464) (T := TX22) 22 1 rfl hk40 (Or.inr (Or.inl ⟨_, q1296⟩)) dX7_step_464 kc22 g22001 ?_
        obtain ⟨hk44, K⟩ := K
        refine r_callV_R (pc := 467) (Y := mX22_set) (vs := [_, _, _]) (st := []) hk44 rfl kc22 q1303 q1304 q1305 dX7_step_467 rfl cd_X22_set rfl rfl fp_X7_step_X22_set K (fun x42 h43 eh43 wh43 K => ?_) (fun x h1 _ _ e => Tw.out rfl e)
        refine r_pop (pc := 470) rfl dX7_step_470 ?_
        refine r_aload_n (pc := 471) dX7_step_471 rfl ?_
        refine r_dup (pc := 472) rfl dX7_step_472 ?_
        have hk45 := kd_ext eh39 hk36 (nz rfl)
        have hk46 := kd_ext eh43 hk45 (nz rfl)
        have hv47 := fi_self (key := 7005) hk36
        have hv48 := (fi_ext (key := 7005) eh39 hk36 (nz rfl) (ne0 wh39 hk45 (nz rfl)) (nm rfl)).trans hv47
        have hv49 := (fi_ext (key := 7005) eh43 hk45 (nz rfl) (ne0 wh43 hk46 (nz rfl)) (nm rfl)).trans hv48
        refine r_geti' (pc := 473) (T := TX7) 7 5 hv49 hk46 (Or.inl q503) dX7_step_473 kc7 g7005 ?_
        refine r_iconst (pc := 476) (x := 1) dX7_step_476 rfl ?_
        refine r_iadd (pc := 477) dX7_step_477 ?_
        refine r_puti (pc := 478) (T := TX7) (key := 7005) 7 5 hk46 (Or.inl q503) dX7_step_478 kc7 rfl (Or.inl rfl) (Or.inl (em rfl)) ?_
        refine r_nameH (fun h50 eh50 => ?_)
        have K := K h50 eh50
        refine r_aload_n (pc := 481) dX7_step_481 rfl ?_
        refine r_iconst (pc := 482) (x := 1) dX7_step_482 rfl ?_
        have hk53 := kd_pi eh50 hk46
        refine r_callV_V (pc := 483) (Y := mX7_drop) (vs := [_]) (st := []) hk53 rfl kc7 q1319 q1321 qs18 dX7_step_483 rfl cd_X7_drop rfl rfl fp_X7_step_X7_drop K (fun h52 eh52 wh52 K => ?_) (fun x h1 _ _ e => Tw.out rfl e)
        exact r_vret (pc := 486) rfl dX7_step_486 K
    · by_cases c54 : v1 = 108
      · have K := K402.2.2.1 c54
        refine r_tableIn (pc := 113) (tgt := 487) dX7_step_113 (by rw [c54]; decide) (by rw [c54]; decide) (by rw [c54]; rfl) rfl ?_
        refine r_aload_n (pc := 487) dX7_step_487 rfl ?_
        refine r_aload_n (pc := 488) dX7_step_488 rfl ?_
        obtain ⟨hk55, K⟩ := K
        refine r_geti' (pc := 489) (T := TX7) 7 5 rfl hk55 (Or.inl q503) dX7_step_489 kc7 g7005 ?_
        refine r_if_le (pc := 492) (tgt := 499) dX7_step_492 rfl (fun c56 => ?_) (fun c56 => ?_)
        · have K := K.1 c56
          refine r_iconst (pc := 499) (x := 0) dX7_step_499 rfl ?_
          refine r_callV_V (pc := 500) (Y := mX7_need) (vs := [_]) (st := []) hk55 rfl kc7 q1272 q1274 qs14 dX7_step_500 rfl cd_X7_need rfl rfl fp_X7_step_X7_need K (fun h58 eh58 wh58 K => ?_) (fun x h1 _ _ e => Tw.out rfl e)
          refine r_aload_n (pc := 503) dX7_step_503 rfl ?_
          refine r_dup (pc := 504) rfl dX7_step_504 ?_
          have hk59 := kd_ext eh58 hk55 (nz rfl)
          have hv60 := fi_self (key := 7005) hk55
          have hv61 := (fi_ext (key := 7005) eh58 hk55 (nz rfl) (ne0 wh58 hk59 (nz rfl)) (nm rfl)).trans hv60
          refine r_geti' (pc := 505) (T := TX7) 7 5 hv61 hk59 (Or.inl q503) dX7_step_505 kc7 g7005 ?_
          refine r_iconst (pc := 508) (x := 1) dX7_step_508 rfl ?_
          refine r_isub (pc := 509) dX7_step_509 ?_
          refine r_puti (pc := 510) (T := TX7) (key := 7005) 7 5 hk59 (Or.inl q503) dX7_step_510 kc7 rfl (Or.inl rfl) (Or.inl (em rfl)) ?_
          refine r_nameH (fun h62 eh62 => ?_)
          have K := K h62 eh62
          refine r_aload_n (pc := 513) dX7_step_513 rfl ?_
          have hk65 := kd_pi eh62 hk59
          refine r_callV_R (pc := 514) (Y := mX7_push) (vs := []) (st := []) hk65 rfl kc7 q1280 q1282 qs15 dX7_step_514 rfl cd_X7_push rfl rfl fp_X7_step_X7_push K (fun x63 h64 eh64 wh64 K => ?_) (fun x h1 _ _ e => Tw.out rfl e)
          refine r_aload_n (pc := 517) dX7_step_517 rfl ?_
          have hk66 := kd_ext eh64 hk65 (nz rfl)
          have K := K _ rfl
          refine r_getr' (pc := 518) (T := TX7) 7 2 rfl hk66 (Or.inl q500) dX7_step_518 kc7 g7002 ?_
          refine r_aload_n (pc := 521) dX7_step_521 rfl ?_
          refine r_geti' (pc := 522) (T := TX7) 7 5 rfl hk66 (Or.inl q503) dX7_step_522 kc7 g7005 ?_
          obtain ⟨hk68, K⟩ := K
          obtain ⟨hi69, K⟩ := K
          have K := K _ rfl
          refine r_aaload (pc := 525) (le_of_eq_r hk68 (by decide)) hi69 dX7_step_525 ?_
          obtain ⟨hk71, K⟩ := K
          have K := K _ rfl
          refine r_getr' (pc := 526) (T := TX22) 22 0 rfl hk71 (Or.inr (Or.inl ⟨_, q1293⟩)) dX7_step_526 kc22 g22000 ?_
          refine r_iconst (pc := 529) (x := 0) dX7_step_529 rfl ?_
          refine r_aload_n (pc := 530) dX7_step_530 rfl ?_
          refine r_getr' (pc := 531) (T := TX7) 7 2 rfl hk66 (Or.inl q500) dX7_step_531 kc7 g7002 ?_
          refine r_aload_n (pc := 534) dX7_step_534 rfl ?_
          refine r_geti' (pc := 535) (T := TX7) 7 5 rfl hk66 (Or.inl q503) dX7_step_535 kc7 g7005 ?_
          obtain ⟨hi73, K⟩ := K
          have K := K _ rfl
          refine r_aaload (pc := 538) (le_of_eq_r hk68 (by decide)) hi73 dX7_step_538 ?_
          obtain ⟨hk75, K⟩ := K
          refine r_geti' (pc := 539) (T := TX22) 22 1 rfl hk75 (Or.inr (Or.inl ⟨_, q1296⟩)) dX7_step_539 kc22 g22001 ?_
          obtain ⟨hk78, K⟩ := K
          refine r_callV_R (pc := 542) (Y := mX22_set) (vs := [_, _, _]) (st := []) hk78 rfl kc22 q1303 q1304 q1305 dX7_step_542 rfl cd_X22_set rfl rfl fp_X7_step_X22_set K (fun x76 h77 eh77 wh77 K => ?_) (fun x h1 _ _ e => Tw.out rfl e)
          refine r_pop (pc := 545) rfl dX7_step_545 ?_
          exact r_vret (pc := 546) rfl dX7_step_546 K
        · have K := K.2 c56
          refine r_iconst (pc := 495) (x := 1) dX7_step_495 rfl ?_
          refine r_goto (pc := 496) (tgt := 500) dX7_step_496 rfl ?_
          refine r_callV_V (pc := 500) (Y := mX7_need) (vs := [_]) (st := []) hk55 rfl kc7 q1272 q1274 qs14 dX7_step_500 rfl cd_X7_need rfl rfl fp_X7_step_X7_need K (fun h80 eh80 wh80 K => ?_) (fun x h1 _ _ e => Tw.out rfl e)
          refine r_aload_n (pc := 503) dX7_step_503 rfl ?_
          refine r_dup (pc := 504) rfl dX7_step_504 ?_
          have hk81 := kd_ext eh80 hk55 (nz rfl)
          have hv82 := fi_self (key := 7005) hk55
          have hv83 := (fi_ext (key := 7005) eh80 hk55 (nz rfl) (ne0 wh80 hk81 (nz rfl)) (nm rfl)).trans hv82
          refine r_geti' (pc := 505) (T := TX7) 7 5 hv83 hk81 (Or.inl q503) dX7_step_505 kc7 g7005 ?_
          refine r_iconst (pc := 508) (x := 1) dX7_step_508 rfl ?_
          refine r_isub (pc := 509) dX7_step_509 ?_
          refine r_puti (pc := 510) (T := TX7) (key := 7005) 7 5 hk81 (Or.inl q503) dX7_step_510 kc7 rfl (Or.inl rfl) (Or.inl (em rfl)) ?_
          refine r_nameH (fun h84 eh84 => ?_)
          have K := K h84 eh84
          refine r_aload_n (pc := 513) dX7_step_513 rfl ?_
          have hk87 := kd_pi eh84 hk81
          refine r_callV_R (pc := 514) (Y := mX7_push) (vs := []) (st := []) hk87 rfl kc7 q1280 q1282 qs15 dX7_step_514 rfl cd_X7_push rfl rfl fp_X7_step_X7_push K (fun x85 h86 eh86 wh86 K => ?_) (fun x h1 _ _ e => Tw.out rfl e)
          refine r_aload_n (pc := 517) dX7_step_517 rfl ?_
          have hk88 := kd_ext eh86 hk87 (nz rfl)
          have K := K _ rfl
          refine r_getr' (pc := 518) (T := TX7) 7 2 rfl hk88 (Or.inl q500) dX7_step_518 kc7 g7002 ?_
          refine r_aload_n (pc := 521) dX7_step_521 rfl ?_
          refine r_geti' (pc := 522) (T := TX7) 7 5 rfl hk88 (Or.inl q503) dX7_step_522 kc7 g7005 ?_
          obtain ⟨hk90, K⟩ := K
          obtain ⟨hi91, K⟩ := K
          have K := K _ rfl
          refine r_aaload (pc := 525) (le_of_eq_r hk90 (by decide)) hi91 dX7_step_525 ?_
          obtain ⟨hk93, K⟩ := K
          have K := K _ rfl
          refine r_getr' (pc := 526) (T := TX22) 22 0 rfl hk93 (Or.inr (Or.inl ⟨_, q1293⟩)) dX7_step_526 kc22 g22000 ?_
          refine r_iconst (pc := 529) (x := 0) dX7_step_529 rfl ?_
          refine r_aload_n (pc := 530) dX7_step_530 rfl ?_
          refine r_getr' (pc := 531) (T := TX7) 7 2 rfl hk88 (Or.inl q500) dX7_step_531 kc7 g7002 ?_
          refine r_aload_n (pc := 534) dX7_step_534 rfl ?_
          refine r_geti' (pc := 535) (T := TX7) 7 5 rfl hk88 (Or.inl q503) dX7_step_535 kc7 g7005 ?_
          obtain ⟨hi95, K⟩ := K
          have K := K _ rfl
          refine r_aaload (pc := 538) (le_of_eq_r hk90 (by decide)) hi95 dX7_step_538 ?_
          obtain ⟨hk97, K⟩ := K
          refine r_geti' (pc := 539) (T := TX22) 22 1 rfl hk97 (Or.inr (Or.inl ⟨_, q1296⟩)) dX7_step_539 kc22 g22001 ?_
          obtain ⟨hk100, K⟩ := K
          refine r_callV_R (pc := 542) (Y := mX22_set) (vs := [_, _, _]) (st := []) hk100 rfl kc22 q1303 q1304 q1305 dX7_step_542 rfl cd_X22_set rfl rfl fp_X7_step_X22_set K (fun x98 h99 eh99 wh99 K => ?_) (fun x h1 _ _ e => Tw.out rfl e)
          refine r_pop (pc := 545) rfl dX7_step_545 ?_
          exact r_vret (pc := 546) rfl dX7_step_546 K
      · by_cases c101 : v1 = 109
        · have K := K402.2.2.2.1 c101
          refine r_tableIn (pc := 113) (tgt := 547) dX7_step_113 (by rw [c101]; decide) (by rw [c101]; decide) (by rw [c101]; rfl) rfl ?_
          refine r_aload_n (pc := 547) dX7_step_547 rfl ?_
          refine r_iconst (pc := 548) (x := 2) dX7_step_548 rfl ?_
          obtain ⟨hk104, K⟩ := K
          refine r_callV_V (pc := 549) (Y := mX7_drop) (vs := [_]) (st := []) hk104 rfl kc7 q1319 q1321 qs18 dX7_step_549 rfl cd_X7_drop rfl rfl fp_X7_step_X7_drop K (fun h103 eh103 wh103 K => ?_) (fun x h1 _ _ e => Tw.out rfl e)
          exact r_vret (pc := 552) rfl dX7_step_552 K
        · by_cases c105 : v1 = 110
          · have K := K402.2.2.2.2.1 c105
            refine r_tableIn (pc := 113) (tgt := 553) dX7_step_113 (by rw [c105]; decide) (by rw [c105]; decide) (by rw [c105]; rfl) rfl ?_
            refine r_iload_n (pc := 553) dX7_step_553 rfl ?_
            refine r_bipush (pc := 554) (x := 108) dX7_step_554 rfl ?_
            refine r_isub (pc := 556) dX7_step_556 ?_
            refine r_istore (pc := 557) (lv' := [_, _, _, _, _, _, _, _, _]) dX7_step_557 (by decide) rfl ?_
            refine r_aload_n (pc := 559) dX7_step_559 rfl ?_
            refine r_aload_n (pc := 560) dX7_step_560 rfl ?_
            obtain ⟨hk106, K⟩ := K
            refine r_geti' (pc := 561) (T := TX7) 7 4 rfl hk106 (Or.inl q502) dX7_step_561 kc7 g7004 ?_
            refine r_iload (pc := 564) dX7_step_564 rfl ?_
            refine r_icmp_lt (pc := 566) (tgt := 573) dX7_step_566 rfl (fun c107 => ?_) (fun c107 => ?_)
            · have K := K.1 c107
              refine r_iconst (pc := 573) (x := 0) dX7_step_573 rfl ?_
              refine r_callV_V (pc := 574) (Y := mX7_need) (vs := [_]) (st := []) hk106 rfl kc7 q1272 q1274 qs14 dX7_step_574 rfl cd_X7_need rfl rfl fp_X7_step_X7_need K (fun h109 eh109 wh109 K => ?_) (fun x h1 _ _ e => Tw.out rfl e)
              refine r_iconst (pc := 577) (x := 0) dX7_step_577 rfl ?_
              refine r_istore (pc := 578) (lv' := [_, _, _, _, _, _, _, _, _]) dX7_step_578 (by decide) rfl ?_
              refine r_mask (pc := 580) [true, false, false, false, true, true, false, false, false] rfl ?_
              exact K
            · have K := K.2 c107
              refine r_iconst (pc := 569) (x := 1) dX7_step_569 rfl ?_
              refine r_goto (pc := 570) (tgt := 574) dX7_step_570 rfl ?_
              refine r_callV_V (pc := 574) (Y := mX7_need) (vs := [_]) (st := []) hk106 rfl kc7 q1272 q1274 qs14 dX7_step_574 rfl cd_X7_need rfl rfl fp_X7_step_X7_need K (fun h111 eh111 wh111 K => ?_) (fun x h1 _ _ e => Tw.out rfl e)
              refine r_iconst (pc := 577) (x := 0) dX7_step_577 rfl ?_
              refine r_istore (pc := 578) (lv' := [_, _, _, _, _, _, _, _, _]) dX7_step_578 (by decide) rfl ?_
              refine r_mask (pc := 580) [true, false, false, false, true, true, false, false, false] rfl ?_
              exact K
          · by_cases c112 : v1 = 111
            · have K := K402.2.2.2.2.2.1 c112
              refine r_tableIn (pc := 113) (tgt := 553) dX7_step_113 (by rw [c112]; decide) (by rw [c112]; decide) (by rw [c112]; rfl) rfl ?_
              refine r_iload_n (pc := 553) dX7_step_553 rfl ?_
              refine r_bipush (pc := 554) (x := 108) dX7_step_554 rfl ?_
              refine r_isub (pc := 556) dX7_step_556 ?_
              refine r_istore (pc := 557) (lv' := [_, _, _, _, _, _, _, _, _]) dX7_step_557 (by decide) rfl ?_
              refine r_aload_n (pc := 559) dX7_step_559 rfl ?_
              refine r_aload_n (pc := 560) dX7_step_560 rfl ?_
              obtain ⟨hk113, K⟩ := K
              refine r_geti' (pc := 561) (T := TX7) 7 4 rfl hk113 (Or.inl q502) dX7_step_561 kc7 g7004 ?_
              refine r_iload (pc := 564) dX7_step_564 rfl ?_
              refine r_icmp_lt (pc := 566) (tgt := 573) dX7_step_566 rfl (fun c114 => ?_) (fun c114 => ?_)
              · have K := K.1 c114
                refine r_iconst (pc := 573) (x := 0) dX7_step_573 rfl ?_
                refine r_callV_V (pc := 574) (Y := mX7_need) (vs := [_]) (st := []) hk113 rfl kc7 q1272 q1274 qs14 dX7_step_574 rfl cd_X7_need rfl rfl fp_X7_step_X7_need K (fun h116 eh116 wh116 K => ?_) (fun x h1 _ _ e => Tw.out rfl e)
                refine r_iconst (pc := 577) (x := 0) dX7_step_577 rfl ?_
                refine r_istore (pc := 578) (lv' := [_, _, _, _, _, _, _, _, _]) dX7_step_578 (by decide) rfl ?_
                refine r_mask (pc := 580) [true, false, false, false, true, true, false, false, false] rfl ?_
                exact K
              · have K := K.2 c114
                refine r_iconst (pc := 569) (x := 1) dX7_step_569 rfl ?_
                refine r_goto (pc := 570) (tgt := 574) dX7_step_570 rfl ?_
                refine r_callV_V (pc := 574) (Y := mX7_need) (vs := [_]) (st := []) hk113 rfl kc7 q1272 q1274 qs14 dX7_step_574 rfl cd_X7_need rfl rfl fp_X7_step_X7_need K (fun h118 eh118 wh118 K => ?_) (fun x h1 _ _ e => Tw.out rfl e)
                refine r_iconst (pc := 577) (x := 0) dX7_step_577 rfl ?_
                refine r_istore (pc := 578) (lv' := [_, _, _, _, _, _, _, _, _]) dX7_step_578 (by decide) rfl ?_
                refine r_mask (pc := 580) [true, false, false, false, true, true, false, false, false] rfl ?_
                exact K
            · by_cases c119 : v1 = 112
              · have K := K402.2.2.2.2.2.2.1 c119
                refine r_tableIn (pc := 113) (tgt := 602) dX7_step_113 (by rw [c119]; decide) (by rw [c119]; decide) (by rw [c119]; rfl) rfl ?_
                refine r_aload_n (pc := 602) dX7_step_602 rfl ?_
                refine r_aload_n (pc := 603) dX7_step_603 rfl ?_
                obtain ⟨hk120, K⟩ := K
                refine r_geti' (pc := 604) (T := TX7) 7 4 rfl hk120 (Or.inl q502) dX7_step_604 kc7 g7004 ?_
                refine r_iconst (pc := 607) (x := 4) dX7_step_607 rfl ?_
                refine r_icmp_lt (pc := 608) (tgt := 615) dX7_step_608 rfl (fun c121 => ?_) (fun c121 => ?_)
                · have K := K.1 c121
                  refine r_iconst (pc := 615) (x := 0) dX7_step_615 rfl ?_
                  refine r_callV_V (pc := 616) (Y := mX7_need) (vs := [_]) (st := []) hk120 rfl kc7 q1272 q1274 qs14 dX7_step_616 rfl cd_X7_need rfl rfl fp_X7_step_X7_need K (fun h123 eh123 wh123 K => ?_) (fun x h1 _ _ e => Tw.out rfl e)
                  refine r_aload_n (pc := 619) dX7_step_619 rfl ?_
                  refine r_iconst (pc := 620) (x := 3) dX7_step_620 rfl ?_
                  have hk126 := kd_ext eh123 hk120 (nz rfl)
                  refine r_callV_V (pc := 621) (Y := mX7_copy) (vs := [_]) (st := []) hk126 rfl kc7 q1539 q1541 qs40 dX7_step_621 rfl cd_X7_copy rfl rfl fp_X7_step_X7_copy K (fun h125 eh125 wh125 K => ?_) (fun x h1 _ _ e => Tw.out rfl e)
                  refine r_aload_n (pc := 624) dX7_step_624 rfl ?_
                  refine r_iconst (pc := 625) (x := 3) dX7_step_625 rfl ?_
                  have hk129 := kd_ext eh125 hk126 (nz rfl)
                  refine r_callV_V (pc := 626) (Y := mX7_copy) (vs := [_]) (st := []) hk129 rfl kc7 q1539 q1541 qs40 dX7_step_626 rfl cd_X7_copy rfl rfl fp_X7_step_X7_copy K (fun h128 eh128 wh128 K => ?_) (fun x h1 _ _ e => Tw.out rfl e)
                  exact r_vret (pc := 629) rfl dX7_step_629 K
                · have K := K.2 c121
                  refine r_iconst (pc := 611) (x := 1) dX7_step_611 rfl ?_
                  refine r_goto (pc := 612) (tgt := 616) dX7_step_612 rfl ?_
                  refine r_callV_V (pc := 616) (Y := mX7_need) (vs := [_]) (st := []) hk120 rfl kc7 q1272 q1274 qs14 dX7_step_616 rfl cd_X7_need rfl rfl fp_X7_step_X7_need K (fun h131 eh131 wh131 K => ?_) (fun x h1 _ _ e => Tw.out rfl e)
                  refine r_aload_n (pc := 619) dX7_step_619 rfl ?_
                  refine r_iconst (pc := 620) (x := 3) dX7_step_620 rfl ?_
                  have hk134 := kd_ext eh131 hk120 (nz rfl)
                  refine r_callV_V (pc := 621) (Y := mX7_copy) (vs := [_]) (st := []) hk134 rfl kc7 q1539 q1541 qs40 dX7_step_621 rfl cd_X7_copy rfl rfl fp_X7_step_X7_copy K (fun h133 eh133 wh133 K => ?_) (fun x h1 _ _ e => Tw.out rfl e)
                  refine r_aload_n (pc := 624) dX7_step_624 rfl ?_
                  refine r_iconst (pc := 625) (x := 3) dX7_step_625 rfl ?_
                  have hk137 := kd_ext eh133 hk134 (nz rfl)
                  refine r_callV_V (pc := 626) (Y := mX7_copy) (vs := [_]) (st := []) hk137 rfl kc7 q1539 q1541 qs40 dX7_step_626 rfl cd_X7_copy rfl rfl fp_X7_step_X7_copy K (fun h136 eh136 wh136 K => ?_) (fun x h1 _ _ e => Tw.out rfl e)
                  exact r_vret (pc := 629) rfl dX7_step_629 K
              · by_cases c138 : v1 = 113
                · have K := K402.2.2.2.2.2.2.2.1 c138
                  refine r_tableIn (pc := 113) (tgt := 630) dX7_step_113 (by rw [c138]; decide) (by rw [c138]; decide) (by rw [c138]; rfl) rfl ?_
                  refine r_aload_n (pc := 630) dX7_step_630 rfl ?_
                  refine r_aload_n (pc := 631) dX7_step_631 rfl ?_
                  obtain ⟨hk139, K⟩ := K
                  refine r_geti' (pc := 632) (T := TX7) 7 4 rfl hk139 (Or.inl q502) dX7_step_632 kc7 g7004 ?_
                  refine r_bipush (pc := 635) (x := 6) dX7_step_635 rfl ?_
                  refine r_icmp_lt (pc := 637) (tgt := 644) dX7_step_637 rfl (fun c140 => ?_) (fun c140 => ?_)
                  · have K := K.1 c140
                    refine r_iconst (pc := 644) (x := 0) dX7_step_644 rfl ?_
                    refine r_callV_V (pc := 645) (Y := mX7_need) (vs := [_]) (st := []) hk139 rfl kc7 q1272 q1274 qs14 dX7_step_645 rfl cd_X7_need rfl rfl fp_X7_step_X7_need K (fun h142 eh142 wh142 K => ?_) (fun x h1 _ _ e => Tw.out rfl e)
                    refine r_aload_n (pc := 648) dX7_step_648 rfl ?_
                    refine r_iconst (pc := 649) (x := 5) dX7_step_649 rfl ?_
                    have hk145 := kd_ext eh142 hk139 (nz rfl)
                    refine r_callV_V (pc := 650) (Y := mX7_roll) (vs := [_]) (st := []) hk145 rfl kc7 q1543 q1545 qs41 dX7_step_650 rfl cd_X7_roll rfl rfl fp_X7_step_X7_roll K (fun h144 eh144 wh144 K => ?_) (fun x h1 _ _ e => Tw.out rfl e)
                    refine r_aload_n (pc := 653) dX7_step_653 rfl ?_
                    refine r_iconst (pc := 654) (x := 5) dX7_step_654 rfl ?_
                    have hk148 := kd_ext eh144 hk145 (nz rfl)
                    refine r_callV_V (pc := 655) (Y := mX7_roll) (vs := [_]) (st := []) hk148 rfl kc7 q1543 q1545 qs41 dX7_step_655 rfl cd_X7_roll rfl rfl fp_X7_step_X7_roll K (fun h147 eh147 wh147 K => ?_) (fun x h1 _ _ e => Tw.out rfl e)
                    exact r_vret (pc := 658) rfl dX7_step_658 K
                  · have K := K.2 c140
                    refine r_iconst (pc := 640) (x := 1) dX7_step_640 rfl ?_
                    refine r_goto (pc := 641) (tgt := 645) dX7_step_641 rfl ?_
                    refine r_callV_V (pc := 645) (Y := mX7_need) (vs := [_]) (st := []) hk139 rfl kc7 q1272 q1274 qs14 dX7_step_645 rfl cd_X7_need rfl rfl fp_X7_step_X7_need K (fun h150 eh150 wh150 K => ?_) (fun x h1 _ _ e => Tw.out rfl e)
                    refine r_aload_n (pc := 648) dX7_step_648 rfl ?_
                    refine r_iconst (pc := 649) (x := 5) dX7_step_649 rfl ?_
                    have hk153 := kd_ext eh150 hk139 (nz rfl)
                    refine r_callV_V (pc := 650) (Y := mX7_roll) (vs := [_]) (st := []) hk153 rfl kc7 q1543 q1545 qs41 dX7_step_650 rfl cd_X7_roll rfl rfl fp_X7_step_X7_roll K (fun h152 eh152 wh152 K => ?_) (fun x h1 _ _ e => Tw.out rfl e)
                    refine r_aload_n (pc := 653) dX7_step_653 rfl ?_
                    refine r_iconst (pc := 654) (x := 5) dX7_step_654 rfl ?_
                    have hk156 := kd_ext eh152 hk153 (nz rfl)
                    refine r_callV_V (pc := 655) (Y := mX7_roll) (vs := [_]) (st := []) hk156 rfl kc7 q1543 q1545 qs41 dX7_step_655 rfl cd_X7_roll rfl rfl fp_X7_step_X7_roll K (fun h155 eh155 wh155 K => ?_) (fun x h1 _ _ e => Tw.out rfl e)
                    exact r_vret (pc := 658) rfl dX7_step_658 K
                · by_cases c157 : v1 = 114
                  · have K := K402.2.2.2.2.2.2.2.2.1 c157
                    refine r_tableIn (pc := 113) (tgt := 659) dX7_step_113 (by rw [c157]; decide) (by rw [c157]; decide) (by rw [c157]; rfl) rfl ?_
                    refine r_aload_n (pc := 659) dX7_step_659 rfl ?_
                    refine r_aload_n (pc := 660) dX7_step_660 rfl ?_
                    obtain ⟨hk158, K⟩ := K
                    refine r_geti' (pc := 661) (T := TX7) 7 4 rfl hk158 (Or.inl q502) dX7_step_661 kc7 g7004 ?_
                    refine r_iconst (pc := 664) (x := 4) dX7_step_664 rfl ?_
                    refine r_icmp_lt (pc := 665) (tgt := 672) dX7_step_665 rfl (fun c159 => ?_) (fun c159 => ?_)
                    · have K := K.1 c159
                      refine r_iconst (pc := 672) (x := 0) dX7_step_672 rfl ?_
                      refine r_callV_V (pc := 673) (Y := mX7_need) (vs := [_]) (st := []) hk158 rfl kc7 q1272 q1274 qs14 dX7_step_673 rfl cd_X7_need rfl rfl fp_X7_step_X7_need K (fun h161 eh161 wh161 K => ?_) (fun x h1 _ _ e => Tw.out rfl e)
                      refine r_aload_n (pc := 676) dX7_step_676 rfl ?_
                      refine r_iconst (pc := 677) (x := 3) dX7_step_677 rfl ?_
                      have hk164 := kd_ext eh161 hk158 (nz rfl)
                      refine r_callV_V (pc := 678) (Y := mX7_roll) (vs := [_]) (st := []) hk164 rfl kc7 q1543 q1545 qs41 dX7_step_678 rfl cd_X7_roll rfl rfl fp_X7_step_X7_roll K (fun h163 eh163 wh163 K => ?_) (fun x h1 _ _ e => Tw.out rfl e)
                      refine r_aload_n (pc := 681) dX7_step_681 rfl ?_
                      refine r_iconst (pc := 682) (x := 3) dX7_step_682 rfl ?_
                      have hk167 := kd_ext eh163 hk164 (nz rfl)
                      refine r_callV_V (pc := 683) (Y := mX7_roll) (vs := [_]) (st := []) hk167 rfl kc7 q1543 q1545 qs41 dX7_step_683 rfl cd_X7_roll rfl rfl fp_X7_step_X7_roll K (fun h166 eh166 wh166 K => ?_) (fun x h1 _ _ e => Tw.out rfl e)
                      exact r_vret (pc := 686) rfl dX7_step_686 K
                    · have K := K.2 c159
                      refine r_iconst (pc := 668) (x := 1) dX7_step_668 rfl ?_
                      refine r_goto (pc := 669) (tgt := 673) dX7_step_669 rfl ?_
                      refine r_callV_V (pc := 673) (Y := mX7_need) (vs := [_]) (st := []) hk158 rfl kc7 q1272 q1274 qs14 dX7_step_673 rfl cd_X7_need rfl rfl fp_X7_step_X7_need K (fun h169 eh169 wh169 K => ?_) (fun x h1 _ _ e => Tw.out rfl e)
                      refine r_aload_n (pc := 676) dX7_step_676 rfl ?_
                      refine r_iconst (pc := 677) (x := 3) dX7_step_677 rfl ?_
                      have hk172 := kd_ext eh169 hk158 (nz rfl)
                      refine r_callV_V (pc := 678) (Y := mX7_roll) (vs := [_]) (st := []) hk172 rfl kc7 q1543 q1545 qs41 dX7_step_678 rfl cd_X7_roll rfl rfl fp_X7_step_X7_roll K (fun h171 eh171 wh171 K => ?_) (fun x h1 _ _ e => Tw.out rfl e)
                      refine r_aload_n (pc := 681) dX7_step_681 rfl ?_
                      refine r_iconst (pc := 682) (x := 3) dX7_step_682 rfl ?_
                      have hk175 := kd_ext eh171 hk172 (nz rfl)
                      refine r_callV_V (pc := 683) (Y := mX7_roll) (vs := [_]) (st := []) hk175 rfl kc7 q1543 q1545 qs41 dX7_step_683 rfl cd_X7_roll rfl rfl fp_X7_step_X7_roll K (fun h174 eh174 wh174 K => ?_) (fun x h1 _ _ e => Tw.out rfl e)
                      exact r_vret (pc := 686) rfl dX7_step_686 K
                  · by_cases c176 : v1 = 115
                    · have K := K402.2.2.2.2.2.2.2.2.2.1 c176
                      refine r_tableIn (pc := 113) (tgt := 687) dX7_step_113 (by rw [c176]; decide) (by rw [c176]; decide) (by rw [c176]; rfl) rfl ?_
                      refine r_aload_n (pc := 687) dX7_step_687 rfl ?_
                      refine r_iconst (pc := 688) (x := 0) dX7_step_688 rfl ?_
                      obtain ⟨hk179, K⟩ := K
                      refine r_callV_R (pc := 689) (Y := mX7_top) (vs := [_]) (st := []) hk179 rfl kc7 q1311 q1313 qs17 dX7_step_689 rfl cd_X7_top rfl rfl fp_X7_step_X7_top K (fun x177 h178 eh178 wh178 K => ?_) (fun x h1 _ _ e => Tw.out rfl e)
                      obtain ⟨hk182, K⟩ := K
                      refine r_callV_I (pc := 692) (Y := mX22_isTrue) (vs := []) (st := []) hk182 rfl kc22 q1315 q1316 q1317 dX7_step_692 rfl cd_X22_isTrue rfl rfl fp_X7_step_X22_isTrue K (fun x180 h181 eh181 wh181 K => ?_) (fun x h1 _ _ e => Tw.out rfl e)
                      refine r_if_eq (pc := 695) (tgt := 703) dX7_step_695 rfl (fun c183 => ?_) (fun c183 => ?_)
                      · have K := K.1 c183
                        exact r_vret (pc := 703) rfl dX7_step_703 K
                      · have K := K.2 c183
                        refine r_aload_n (pc := 698) dX7_step_698 rfl ?_
                        refine r_iconst (pc := 699) (x := 0) dX7_step_699 rfl ?_
                        have hk186 := kd_ext eh178 hk179 (nz rfl)
                        have hk187 := kd_ext eh181 hk186 (nz rfl)
                        refine r_callV_V (pc := 700) (Y := mX7_copy) (vs := [_]) (st := []) hk187 rfl kc7 q1539 q1541 qs40 dX7_step_700 rfl cd_X7_copy rfl rfl fp_X7_step_X7_copy K (fun h185 eh185 wh185 K => ?_) (fun x h1 _ _ e => Tw.out rfl e)
                        exact r_vret (pc := 703) rfl dX7_step_703 K
                    · by_cases c188 : v1 = 116
                      · have K := K402.2.2.2.2.2.2.2.2.2.2.1 c188
                        refine r_tableIn (pc := 113) (tgt := 704) dX7_step_113 (by rw [c188]; decide) (by rw [c188]; decide) (by rw [c188]; rfl) rfl ?_
                        refine r_aload_n (pc := 704) dX7_step_704 rfl ?_
                        obtain ⟨hk191, K⟩ := K
                        refine r_callV_R (pc := 705) (Y := mX7_push) (vs := []) (st := []) hk191 rfl kc7 q1280 q1282 qs15 dX7_step_705 rfl cd_X7_push rfl rfl fp_X7_step_X7_push K (fun x189 h190 eh190 wh190 K => ?_) (fun x h1 _ _ e => Tw.out rfl e)
                        refine r_aload_n (pc := 708) dX7_step_708 rfl ?_
                        have hk192 := kd_ext eh190 hk191 (nz rfl)
                        refine r_geti' (pc := 709) (T := TX7) 7 4 rfl hk192 (Or.inl q502) dX7_step_709 kc7 g7004 ?_
                        refine r_i2l (pc := 712) dX7_step_712 ?_
                        refine r_lconst (pc := 713) (a := 1) dX7_step_713 rfl ?_
                        refine r_lsub (pc := 714) dX7_step_714 ?_
                        obtain ⟨hk195, K⟩ := K
                        refine r_callV_V (pc := 715) (Y := mX22_be) (vs := [_]) (st := []) hk195 rfl kc22 q1484 q1485 q1486 dX7_step_715 rfl cd_X22_be rfl rfl fp_X7_step_X22_be K (fun h194 eh194 wh194 K => ?_) (fun x h1 _ _ e => Tw.out rfl e)
                        exact r_vret (pc := 718) rfl dX7_step_718 K
                      · by_cases c196 : v1 = 117
                        · have K := K402.2.2.2.2.2.2.2.2.2.2.2.1 c196
                          refine r_tableIn (pc := 113) (tgt := 719) dX7_step_113 (by rw [c196]; decide) (by rw [c196]; decide) (by rw [c196]; rfl) rfl ?_
                          refine r_aload_n (pc := 719) dX7_step_719 rfl ?_
                          refine r_iconst (pc := 720) (x := 1) dX7_step_720 rfl ?_
                          obtain ⟨hk199, K⟩ := K
                          refine r_callV_V (pc := 721) (Y := mX7_drop) (vs := [_]) (st := []) hk199 rfl kc7 q1319 q1321 qs18 dX7_step_721 rfl cd_X7_drop rfl rfl fp_X7_step_X7_drop K (fun h198 eh198 wh198 K => ?_) (fun x h1 _ _ e => Tw.out rfl e)
                          exact r_vret (pc := 724) rfl dX7_step_724 K
                        · by_cases c200 : v1 = 118
                          · have K := K402.2.2.2.2.2.2.2.2.2.2.2.2.1 c200
                            refine r_tableIn (pc := 113) (tgt := 725) dX7_step_113 (by rw [c200]; decide) (by rw [c200]; decide) (by rw [c200]; rfl) rfl ?_
                            refine r_aload_n (pc := 725) dX7_step_725 rfl ?_
                            refine r_iconst (pc := 726) (x := 0) dX7_step_726 rfl ?_
                            obtain ⟨hk203, K⟩ := K
                            refine r_callV_V (pc := 727) (Y := mX7_copy) (vs := [_]) (st := []) hk203 rfl kc7 q1539 q1541 qs40 dX7_step_727 rfl cd_X7_copy rfl rfl fp_X7_step_X7_copy K (fun h202 eh202 wh202 K => ?_) (fun x h1 _ _ e => Tw.out rfl e)
                            exact r_vret (pc := 730) rfl dX7_step_730 K
                          · by_cases c204 : v1 = 119
                            · have K := K402.2.2.2.2.2.2.2.2.2.2.2.2.2.1 c204
                              refine r_tableIn (pc := 113) (tgt := 731) dX7_step_113 (by rw [c204]; decide) (by rw [c204]; decide) (by rw [c204]; rfl) rfl ?_
                              refine r_aload_n (pc := 731) dX7_step_731 rfl ?_
                              refine r_aload_n (pc := 732) dX7_step_732 rfl ?_
                              obtain ⟨hk205, K⟩ := K
                              refine r_geti' (pc := 733) (T := TX7) 7 4 rfl hk205 (Or.inl q502) dX7_step_733 kc7 g7004 ?_
                              refine r_iconst (pc := 736) (x := 2) dX7_step_736 rfl ?_
                              refine r_icmp_lt (pc := 737) (tgt := 744) dX7_step_737 rfl (fun c206 => ?_) (fun c206 => ?_)
                              · have K := K.1 c206
                                refine r_iconst (pc := 744) (x := 0) dX7_step_744 rfl ?_
                                refine r_callV_V (pc := 745) (Y := mX7_need) (vs := [_]) (st := []) hk205 rfl kc7 q1272 q1274 qs14 dX7_step_745 rfl cd_X7_need rfl rfl fp_X7_step_X7_need K (fun h208 eh208 wh208 K => ?_) (fun x h1 _ _ e => Tw.out rfl e)
                                refine r_aload_n (pc := 748) dX7_step_748 rfl ?_
                                refine r_iconst (pc := 749) (x := 1) dX7_step_749 rfl ?_
                                have hk211 := kd_ext eh208 hk205 (nz rfl)
                                refine r_callV_V (pc := 750) (Y := mX7_roll) (vs := [_]) (st := []) hk211 rfl kc7 q1543 q1545 qs41 dX7_step_750 rfl cd_X7_roll rfl rfl fp_X7_step_X7_roll K (fun h210 eh210 wh210 K => ?_) (fun x h1 _ _ e => Tw.out rfl e)
                                refine r_aload_n (pc := 753) dX7_step_753 rfl ?_
                                refine r_iconst (pc := 754) (x := 1) dX7_step_754 rfl ?_
                                have hk214 := kd_ext eh210 hk211 (nz rfl)
                                refine r_callV_V (pc := 755) (Y := mX7_drop) (vs := [_]) (st := []) hk214 rfl kc7 q1319 q1321 qs18 dX7_step_755 rfl cd_X7_drop rfl rfl fp_X7_step_X7_drop K (fun h213 eh213 wh213 K => ?_) (fun x h1 _ _ e => Tw.out rfl e)
                                exact r_vret (pc := 758) rfl dX7_step_758 K
                              · have K := K.2 c206
                                refine r_iconst (pc := 740) (x := 1) dX7_step_740 rfl ?_
                                refine r_goto (pc := 741) (tgt := 745) dX7_step_741 rfl ?_
                                refine r_callV_V (pc := 745) (Y := mX7_need) (vs := [_]) (st := []) hk205 rfl kc7 q1272 q1274 qs14 dX7_step_745 rfl cd_X7_need rfl rfl fp_X7_step_X7_need K (fun h216 eh216 wh216 K => ?_) (fun x h1 _ _ e => Tw.out rfl e)
                                refine r_aload_n (pc := 748) dX7_step_748 rfl ?_
                                refine r_iconst (pc := 749) (x := 1) dX7_step_749 rfl ?_
                                have hk219 := kd_ext eh216 hk205 (nz rfl)
                                refine r_callV_V (pc := 750) (Y := mX7_roll) (vs := [_]) (st := []) hk219 rfl kc7 q1543 q1545 qs41 dX7_step_750 rfl cd_X7_roll rfl rfl fp_X7_step_X7_roll K (fun h218 eh218 wh218 K => ?_) (fun x h1 _ _ e => Tw.out rfl e)
                                refine r_aload_n (pc := 753) dX7_step_753 rfl ?_
                                refine r_iconst (pc := 754) (x := 1) dX7_step_754 rfl ?_
                                have hk222 := kd_ext eh218 hk219 (nz rfl)
                                refine r_callV_V (pc := 755) (Y := mX7_drop) (vs := [_]) (st := []) hk222 rfl kc7 q1319 q1321 qs18 dX7_step_755 rfl cd_X7_drop rfl rfl fp_X7_step_X7_drop K (fun h221 eh221 wh221 K => ?_) (fun x h1 _ _ e => Tw.out rfl e)
                                exact r_vret (pc := 758) rfl dX7_step_758 K
                            · by_cases c223 : v1 = 120
                              · have K := K402.2.2.2.2.2.2.2.2.2.2.2.2.2.2.1 c223
                                refine r_tableIn (pc := 113) (tgt := 759) dX7_step_113 (by rw [c223]; decide) (by rw [c223]; decide) (by rw [c223]; rfl) rfl ?_
                                refine r_aload_n (pc := 759) dX7_step_759 rfl ?_
                                refine r_iconst (pc := 760) (x := 1) dX7_step_760 rfl ?_
                                obtain ⟨hk226, K⟩ := K
                                refine r_callV_V (pc := 761) (Y := mX7_copy) (vs := [_]) (st := []) hk226 rfl kc7 q1539 q1541 qs40 dX7_step_761 rfl cd_X7_copy rfl rfl fp_X7_step_X7_copy K (fun h225 eh225 wh225 K => ?_) (fun x h1 _ _ e => Tw.out rfl e)
                                exact r_vret (pc := 764) rfl dX7_step_764 K
                              · by_cases c227 : v1 = 121
                                · have K := K402.2.2.2.2.2.2.2.2.2.2.2.2.2.2.2.1 c227
                                  refine r_tableIn (pc := 113) (tgt := 765) dX7_step_113 (by rw [c227]; decide) (by rw [c227]; decide) (by rw [c227]; rfl) rfl ?_
                                  refine r_aload_n (pc := 765) dX7_step_765 rfl ?_
                                  refine r_iconst (pc := 766) (x := 0) dX7_step_766 rfl ?_
                                  obtain ⟨hk230, K⟩ := K
                                  refine r_callV_R (pc := 767) (Y := mX7_top) (vs := [_]) (st := []) hk230 rfl kc7 q1311 q1313 qs17 dX7_step_767 rfl cd_X7_top rfl rfl fp_X7_step_X7_top K (fun x228 h229 eh229 wh229 K => ?_) (fun x h1 _ _ e => Tw.out rfl e)
                                  refine r_iconst (pc := 770) (x := 4) dX7_step_770 rfl ?_
                                  obtain ⟨hk233, K⟩ := K
                                  refine r_callV_J (pc := 771) (Y := mX22_number) (vs := [_]) (st := []) hk233 rfl kc22 q1496 q1497 q1498 dX7_step_771 rfl cd_X22_number rfl rfl fp_X7_step_X22_number K (fun x231 h232 eh232 wh232 K => ?_) (fun x h1 _ _ e => Tw.out rfl e)
                                  refine r_lstore (pc := 774) (lv' := [_, _, _, _, _, _, _, _, _]) dX7_step_774 (by decide) rfl ?_
                                  refine r_aload_n (pc := 776) dX7_step_776 rfl ?_
                                  refine r_iconst (pc := 777) (x := 1) dX7_step_777 rfl ?_
                                  have hk236 := kd_ext eh229 hk230 (nz rfl)
                                  have hk237 := kd_ext eh232 hk236 (nz rfl)
                                  refine r_callV_V (pc := 778) (Y := mX7_drop) (vs := [_]) (st := []) hk237 rfl kc7 q1319 q1321 qs18 dX7_step_778 rfl cd_X7_drop rfl rfl fp_X7_step_X7_drop K (fun h235 eh235 wh235 K => ?_) (fun x h1 _ _ e => Tw.out rfl e)
                                  refine r_aload_n (pc := 781) dX7_step_781 rfl ?_
                                  refine r_lload (pc := 782) dX7_step_782 rfl ?_
                                  refine r_lconst (pc := 784) (a := 0) dX7_step_784 rfl ?_
                                  refine r_lcmp_lt (pc := 785) (tgt := 804) dX7_step_785 dX7_step_786 rfl (fun c238 => ?_) (fun c238 => ?_)
                                  · have K := K.1 c238
                                    refine r_iconst (pc := 804) (x := 0) dX7_step_804 rfl ?_
                                    have hk241 := kd_ext eh235 hk237 (nz rfl)
                                    refine r_callV_V (pc := 805) (Y := mX7_need) (vs := [_]) (st := []) hk241 rfl kc7 q1272 q1274 qs14 dX7_step_805 rfl cd_X7_need rfl rfl fp_X7_step_X7_need K (fun h240 eh240 wh240 K => ?_) (fun x h1 _ _ e => Tw.out rfl e)
                                    refine r_iload_n (pc := 808) dX7_step_808 rfl ?_
                                    refine r_bipush (pc := 809) (x := 121) dX7_step_809 rfl ?_
                                    refine r_icmp_ne (pc := 811) (tgt := 824) dX7_step_811 rfl (fun c242 => ?_) (fun c242 => ?_)
                                    · have K := K.1 c242
                                      refine r_aload_n (pc := 824) dX7_step_824 rfl ?_
                                      refine r_lload (pc := 825) dX7_step_825 rfl ?_
                                      refine r_l2i (pc := 827) dX7_step_827 ?_
                                      have hk245 := kd_ext eh240 hk241 (nz rfl)
                                      refine r_callV_V (pc := 828) (Y := mX7_roll) (vs := [_]) (st := []) hk245 rfl kc7 q1543 q1545 qs41 dX7_step_828 rfl cd_X7_roll rfl rfl fp_X7_step_X7_roll K (fun h244 eh244 wh244 K => ?_) (fun x h1 _ _ e => Tw.out rfl e)
                                      exact r_vret (pc := 831) rfl dX7_step_831 K
                                    · have K := K.2 c242
                                      refine r_aload_n (pc := 814) dX7_step_814 rfl ?_
                                      refine r_lload (pc := 815) dX7_step_815 rfl ?_
                                      refine r_l2i (pc := 817) dX7_step_817 ?_
                                      have hk248 := kd_ext eh240 hk241 (nz rfl)
                                      refine r_callV_V (pc := 818) (Y := mX7_copy) (vs := [_]) (st := []) hk248 rfl kc7 q1539 q1541 qs40 dX7_step_818 rfl cd_X7_copy rfl rfl fp_X7_step_X7_copy K (fun h247 eh247 wh247 K => ?_) (fun x h1 _ _ e => Tw.out rfl e)
                                      refine r_goto (pc := 821) (tgt := 831) dX7_step_821 rfl ?_
                                      exact r_vret (pc := 831) rfl dX7_step_831 K
                                  · have K := K.2 c238
                                    refine r_lload (pc := 789) dX7_step_789 rfl ?_
                                    refine r_aload_n (pc := 791) dX7_step_791 rfl ?_
                                    have hk249 := kd_ext eh235 hk237 (nz rfl)
                                    refine r_geti' (pc := 792) (T := TX7) 7 4 rfl hk249 (Or.inl q502) dX7_step_792 kc7 g7004 ?_
                                    refine r_i2l (pc := 795) dX7_step_795 ?_
                                    refine r_lcmp_ge (pc := 796) (tgt := 804) dX7_step_796 dX7_step_797 rfl (fun c250 => ?_) (fun c250 => ?_)
                                    · have K := K.1 c250
                                      refine r_iconst (pc := 804) (x := 0) dX7_step_804 rfl ?_
                                      refine r_callV_V (pc := 805) (Y := mX7_need) (vs := [_]) (st := []) hk249 rfl kc7 q1272 q1274 qs14 dX7_step_805 rfl cd_X7_need rfl rfl fp_X7_step_X7_need K (fun h252 eh252 wh252 K => ?_) (fun x h1 _ _ e => Tw.out rfl e)
                                      refine r_iload_n (pc := 808) dX7_step_808 rfl ?_
                                      refine r_bipush (pc := 809) (x := 121) dX7_step_809 rfl ?_
                                      refine r_icmp_ne (pc := 811) (tgt := 824) dX7_step_811 rfl (fun c253 => ?_) (fun c253 => ?_)
                                      · have K := K.1 c253
                                        refine r_aload_n (pc := 824) dX7_step_824 rfl ?_
                                        refine r_lload (pc := 825) dX7_step_825 rfl ?_
                                        refine r_l2i (pc := 827) dX7_step_827 ?_
                                        have hk256 := kd_ext eh252 hk249 (nz rfl)
                                        refine r_callV_V (pc := 828) (Y := mX7_roll) (vs := [_]) (st := []) hk256 rfl kc7 q1543 q1545 qs41 dX7_step_828 rfl cd_X7_roll rfl rfl fp_X7_step_X7_roll K (fun h255 eh255 wh255 K => ?_) (fun x h1 _ _ e => Tw.out rfl e)
                                        exact r_vret (pc := 831) rfl dX7_step_831 K
                                      · have K := K.2 c253
                                        refine r_aload_n (pc := 814) dX7_step_814 rfl ?_
                                        refine r_lload (pc := 815) dX7_step_815 rfl ?_
                                        refine r_l2i (pc := 817) dX7_step_817 ?_
                                        have hk259 := kd_ext eh252 hk249 (nz rfl)
                                        refine r_callV_V (pc := 818) (Y := mX7_copy) (vs := [_]) (st := []) hk259 rfl kc7 q1539 q1541 qs40 dX7_step_818 rfl cd_X7_copy rfl rfl fp_X7_step_X7_copy K (fun h258 eh258 wh258 K => ?_) (fun x h1 _ _ e => Tw.out rfl e)
                                        refine r_goto (pc := 821) (tgt := 831) dX7_step_821 rfl ?_
                                        exact r_vret (pc := 831) rfl dX7_step_831 K
                                    · have K := K.2 c250
                                      refine r_iconst (pc := 800) (x := 1) dX7_step_800 rfl ?_
                                      refine r_goto (pc := 801) (tgt := 805) dX7_step_801 rfl ?_
                                      refine r_callV_V (pc := 805) (Y := mX7_need) (vs := [_]) (st := []) hk249 rfl kc7 q1272 q1274 qs14 dX7_step_805 rfl cd_X7_need rfl rfl fp_X7_step_X7_need K (fun h261 eh261 wh261 K => ?_) (fun x h1 _ _ e => Tw.out rfl e)
                                      refine r_iload_n (pc := 808) dX7_step_808 rfl ?_
                                      refine r_bipush (pc := 809) (x := 121) dX7_step_809 rfl ?_
                                      refine r_icmp_ne (pc := 811) (tgt := 824) dX7_step_811 rfl (fun c262 => ?_) (fun c262 => ?_)
                                      · have K := K.1 c262
                                        refine r_aload_n (pc := 824) dX7_step_824 rfl ?_
                                        refine r_lload (pc := 825) dX7_step_825 rfl ?_
                                        refine r_l2i (pc := 827) dX7_step_827 ?_
                                        have hk265 := kd_ext eh261 hk249 (nz rfl)
                                        refine r_callV_V (pc := 828) (Y := mX7_roll) (vs := [_]) (st := []) hk265 rfl kc7 q1543 q1545 qs41 dX7_step_828 rfl cd_X7_roll rfl rfl fp_X7_step_X7_roll K (fun h264 eh264 wh264 K => ?_) (fun x h1 _ _ e => Tw.out rfl e)
                                        exact r_vret (pc := 831) rfl dX7_step_831 K
                                      · have K := K.2 c262
                                        refine r_aload_n (pc := 814) dX7_step_814 rfl ?_
                                        refine r_lload (pc := 815) dX7_step_815 rfl ?_
                                        refine r_l2i (pc := 817) dX7_step_817 ?_
                                        have hk268 := kd_ext eh261 hk249 (nz rfl)
                                        refine r_callV_V (pc := 818) (Y := mX7_copy) (vs := [_]) (st := []) hk268 rfl kc7 q1539 q1541 qs40 dX7_step_818 rfl cd_X7_copy rfl rfl fp_X7_step_X7_copy K (fun h267 eh267 wh267 K => ?_) (fun x h1 _ _ e => Tw.out rfl e)
                                        refine r_goto (pc := 821) (tgt := 831) dX7_step_821 rfl ?_
                                        exact r_vret (pc := 831) rfl dX7_step_831 K
                                · by_cases c269 : v1 = 122
                                  · have K := K402.2.2.2.2.2.2.2.2.2.2.2.2.2.2.2.2.1 c269
                                    refine r_tableIn (pc := 113) (tgt := 765) dX7_step_113 (by rw [c269]; decide) (by rw [c269]; decide) (by rw [c269]; rfl) rfl ?_
                                    refine r_aload_n (pc := 765) dX7_step_765 rfl ?_
                                    refine r_iconst (pc := 766) (x := 0) dX7_step_766 rfl ?_
                                    obtain ⟨hk272, K⟩ := K
                                    refine r_callV_R (pc := 767) (Y := mX7_top) (vs := [_]) (st := []) hk272 rfl kc7 q1311 q1313 qs17 dX7_step_767 rfl cd_X7_top rfl rfl fp_X7_step_X7_top K (fun x270 h271 eh271 wh271 K => ?_) (fun x h1 _ _ e => Tw.out rfl e)
                                    refine r_iconst (pc := 770) (x := 4) dX7_step_770 rfl ?_
                                    obtain ⟨hk275, K⟩ := K
                                    refine r_callV_J (pc := 771) (Y := mX22_number) (vs := [_]) (st := []) hk275 rfl kc22 q1496 q1497 q1498 dX7_step_771 rfl cd_X22_number rfl rfl fp_X7_step_X22_number K (fun x273 h274 eh274 wh274 K => ?_) (fun x h1 _ _ e => Tw.out rfl e)
                                    refine r_lstore (pc := 774) (lv' := [_, _, _, _, _, _, _, _, _]) dX7_step_774 (by decide) rfl ?_
                                    refine r_aload_n (pc := 776) dX7_step_776 rfl ?_
                                    refine r_iconst (pc := 777) (x := 1) dX7_step_777 rfl ?_
                                    have hk278 := kd_ext eh271 hk272 (nz rfl)
                                    have hk279 := kd_ext eh274 hk278 (nz rfl)
                                    refine r_callV_V (pc := 778) (Y := mX7_drop) (vs := [_]) (st := []) hk279 rfl kc7 q1319 q1321 qs18 dX7_step_778 rfl cd_X7_drop rfl rfl fp_X7_step_X7_drop K (fun h277 eh277 wh277 K => ?_) (fun x h1 _ _ e => Tw.out rfl e)
                                    refine r_aload_n (pc := 781) dX7_step_781 rfl ?_
                                    refine r_lload (pc := 782) dX7_step_782 rfl ?_
                                    refine r_lconst (pc := 784) (a := 0) dX7_step_784 rfl ?_
                                    refine r_lcmp_lt (pc := 785) (tgt := 804) dX7_step_785 dX7_step_786 rfl (fun c280 => ?_) (fun c280 => ?_)
                                    · have K := K.1 c280
                                      refine r_iconst (pc := 804) (x := 0) dX7_step_804 rfl ?_
                                      have hk283 := kd_ext eh277 hk279 (nz rfl)
                                      refine r_callV_V (pc := 805) (Y := mX7_need) (vs := [_]) (st := []) hk283 rfl kc7 q1272 q1274 qs14 dX7_step_805 rfl cd_X7_need rfl rfl fp_X7_step_X7_need K (fun h282 eh282 wh282 K => ?_) (fun x h1 _ _ e => Tw.out rfl e)
                                      refine r_iload_n (pc := 808) dX7_step_808 rfl ?_
                                      refine r_bipush (pc := 809) (x := 121) dX7_step_809 rfl ?_
                                      refine r_icmp_ne (pc := 811) (tgt := 824) dX7_step_811 rfl (fun c284 => ?_) (fun c284 => ?_)
                                      · have K := K.1 c284
                                        refine r_aload_n (pc := 824) dX7_step_824 rfl ?_
                                        refine r_lload (pc := 825) dX7_step_825 rfl ?_
                                        refine r_l2i (pc := 827) dX7_step_827 ?_
                                        have hk287 := kd_ext eh282 hk283 (nz rfl)
                                        refine r_callV_V (pc := 828) (Y := mX7_roll) (vs := [_]) (st := []) hk287 rfl kc7 q1543 q1545 qs41 dX7_step_828 rfl cd_X7_roll rfl rfl fp_X7_step_X7_roll K (fun h286 eh286 wh286 K => ?_) (fun x h1 _ _ e => Tw.out rfl e)
                                        exact r_vret (pc := 831) rfl dX7_step_831 K
                                      · have K := K.2 c284
                                        refine r_aload_n (pc := 814) dX7_step_814 rfl ?_
                                        refine r_lload (pc := 815) dX7_step_815 rfl ?_
                                        refine r_l2i (pc := 817) dX7_step_817 ?_
                                        have hk290 := kd_ext eh282 hk283 (nz rfl)
                                        refine r_callV_V (pc := 818) (Y := mX7_copy) (vs := [_]) (st := []) hk290 rfl kc7 q1539 q1541 qs40 dX7_step_818 rfl cd_X7_copy rfl rfl fp_X7_step_X7_copy K (fun h289 eh289 wh289 K => ?_) (fun x h1 _ _ e => Tw.out rfl e)
                                        refine r_goto (pc := 821) (tgt := 831) dX7_step_821 rfl ?_
                                        exact r_vret (pc := 831) rfl dX7_step_831 K
                                    · have K := K.2 c280
                                      refine r_lload (pc := 789) dX7_step_789 rfl ?_
                                      refine r_aload_n (pc := 791) dX7_step_791 rfl ?_
                                      have hk291 := kd_ext eh277 hk279 (nz rfl)
                                      refine r_geti' (pc := 792) (T := TX7) 7 4 rfl hk291 (Or.inl q502) dX7_step_792 kc7 g7004 ?_
                                      refine r_i2l (pc := 795) dX7_step_795 ?_
                                      refine r_lcmp_ge (pc := 796) (tgt := 804) dX7_step_796 dX7_step_797 rfl (fun c292 => ?_) (fun c292 => ?_)
                                      · have K := K.1 c292
                                        refine r_iconst (pc := 804) (x := 0) dX7_step_804 rfl ?_
                                        refine r_callV_V (pc := 805) (Y := mX7_need) (vs := [_]) (st := []) hk291 rfl kc7 q1272 q1274 qs14 dX7_step_805 rfl cd_X7_need rfl rfl fp_X7_step_X7_need K (fun h294 eh294 wh294 K => ?_) (fun x h1 _ _ e => Tw.out rfl e)
                                        refine r_iload_n (pc := 808) dX7_step_808 rfl ?_
                                        refine r_bipush (pc := 809) (x := 121) dX7_step_809 rfl ?_
                                        refine r_icmp_ne (pc := 811) (tgt := 824) dX7_step_811 rfl (fun c295 => ?_) (fun c295 => ?_)
                                        · have K := K.1 c295
                                          refine r_aload_n (pc := 824) dX7_step_824 rfl ?_
                                          refine r_lload (pc := 825) dX7_step_825 rfl ?_
                                          refine r_l2i (pc := 827) dX7_step_827 ?_
                                          have hk298 := kd_ext eh294 hk291 (nz rfl)
                                          refine r_callV_V (pc := 828) (Y := mX7_roll) (vs := [_]) (st := []) hk298 rfl kc7 q1543 q1545 qs41 dX7_step_828 rfl cd_X7_roll rfl rfl fp_X7_step_X7_roll K (fun h297 eh297 wh297 K => ?_) (fun x h1 _ _ e => Tw.out rfl e)
                                          exact r_vret (pc := 831) rfl dX7_step_831 K
                                        · have K := K.2 c295
                                          refine r_aload_n (pc := 814) dX7_step_814 rfl ?_
                                          refine r_lload (pc := 815) dX7_step_815 rfl ?_
                                          refine r_l2i (pc := 817) dX7_step_817 ?_
                                          have hk301 := kd_ext eh294 hk291 (nz rfl)
                                          refine r_callV_V (pc := 818) (Y := mX7_copy) (vs := [_]) (st := []) hk301 rfl kc7 q1539 q1541 qs40 dX7_step_818 rfl cd_X7_copy rfl rfl fp_X7_step_X7_copy K (fun h300 eh300 wh300 K => ?_) (fun x h1 _ _ e => Tw.out rfl e)
                                          refine r_goto (pc := 821) (tgt := 831) dX7_step_821 rfl ?_
                                          exact r_vret (pc := 831) rfl dX7_step_831 K
                                      · have K := K.2 c292
                                        refine r_iconst (pc := 800) (x := 1) dX7_step_800 rfl ?_
                                        refine r_goto (pc := 801) (tgt := 805) dX7_step_801 rfl ?_
                                        refine r_callV_V (pc := 805) (Y := mX7_need) (vs := [_]) (st := []) hk291 rfl kc7 q1272 q1274 qs14 dX7_step_805 rfl cd_X7_need rfl rfl fp_X7_step_X7_need K (fun h303 eh303 wh303 K => ?_) (fun x h1 _ _ e => Tw.out rfl e)
                                        refine r_iload_n (pc := 808) dX7_step_808 rfl ?_
                                        refine r_bipush (pc := 809) (x := 121) dX7_step_809 rfl ?_
                                        refine r_icmp_ne (pc := 811) (tgt := 824) dX7_step_811 rfl (fun c304 => ?_) (fun c304 => ?_)
                                        · have K := K.1 c304
                                          refine r_aload_n (pc := 824) dX7_step_824 rfl ?_
                                          refine r_lload (pc := 825) dX7_step_825 rfl ?_
                                          refine r_l2i (pc := 827) dX7_step_827 ?_
                                          have hk307 := kd_ext eh303 hk291 (nz rfl)
                                          refine r_callV_V (pc := 828) (Y := mX7_roll) (vs := [_]) (st := []) hk307 rfl kc7 q1543 q1545 qs41 dX7_step_828 rfl cd_X7_roll rfl rfl fp_X7_step_X7_roll K (fun h306 eh306 wh306 K => ?_) (fun x h1 _ _ e => Tw.out rfl e)
                                          exact r_vret (pc := 831) rfl dX7_step_831 K
                                        · have K := K.2 c304
                                          refine r_aload_n (pc := 814) dX7_step_814 rfl ?_
                                          refine r_lload (pc := 815) dX7_step_815 rfl ?_
                                          refine r_l2i (pc := 817) dX7_step_817 ?_
                                          have hk310 := kd_ext eh303 hk291 (nz rfl)
                                          refine r_callV_V (pc := 818) (Y := mX7_copy) (vs := [_]) (st := []) hk310 rfl kc7 q1539 q1541 qs40 dX7_step_818 rfl cd_X7_copy rfl rfl fp_X7_step_X7_copy K (fun h309 eh309 wh309 K => ?_) (fun x h1 _ _ e => Tw.out rfl e)
                                          refine r_goto (pc := 821) (tgt := 831) dX7_step_821 rfl ?_
                                          exact r_vret (pc := 831) rfl dX7_step_831 K
                                  · by_cases c311 : v1 = 123
                                    · have K := K402.2.2.2.2.2.2.2.2.2.2.2.2.2.2.2.2.2.1 c311
                                      refine r_tableIn (pc := 113) (tgt := 832) dX7_step_113 (by rw [c311]; decide) (by rw [c311]; decide) (by rw [c311]; rfl) rfl ?_
                                      refine r_aload_n (pc := 832) dX7_step_832 rfl ?_
                                      refine r_iconst (pc := 833) (x := 2) dX7_step_833 rfl ?_
                                      obtain ⟨hk314, K⟩ := K
                                      refine r_callV_V (pc := 834) (Y := mX7_roll) (vs := [_]) (st := []) hk314 rfl kc7 q1543 q1545 qs41 dX7_step_834 rfl cd_X7_roll rfl rfl fp_X7_step_X7_roll K (fun h313 eh313 wh313 K => ?_) (fun x h1 _ _ e => Tw.out rfl e)
                                      exact r_vret (pc := 837) rfl dX7_step_837 K
                                    · by_cases c315 : v1 = 124
                                      · have K := K402.2.2.2.2.2.2.2.2.2.2.2.2.2.2.2.2.2.2.1 c315
                                        refine r_tableIn (pc := 113) (tgt := 838) dX7_step_113 (by rw [c315]; decide) (by rw [c315]; decide) (by rw [c315]; rfl) rfl ?_
                                        refine r_aload_n (pc := 838) dX7_step_838 rfl ?_
                                        refine r_iconst (pc := 839) (x := 1) dX7_step_839 rfl ?_
                                        obtain ⟨hk318, K⟩ := K
                                        refine r_callV_V (pc := 840) (Y := mX7_roll) (vs := [_]) (st := []) hk318 rfl kc7 q1543 q1545 qs41 dX7_step_840 rfl cd_X7_roll rfl rfl fp_X7_step_X7_roll K (fun h317 eh317 wh317 K => ?_) (fun x h1 _ _ e => Tw.out rfl e)
                                        exact r_vret (pc := 843) rfl dX7_step_843 K
                                      · by_cases c319 : v1 = 125
                                        · have K := K402.2.2.2.2.2.2.2.2.2.2.2.2.2.2.2.2.2.2.2.1 c319
                                          refine r_tableIn (pc := 113) (tgt := 844) dX7_step_113 (by rw [c319]; decide) (by rw [c319]; decide) (by rw [c319]; rfl) rfl ?_
                                          refine r_aload_n (pc := 844) dX7_step_844 rfl ?_
                                          refine r_aload_n (pc := 845) dX7_step_845 rfl ?_
                                          obtain ⟨hk320, K⟩ := K
                                          refine r_geti' (pc := 846) (T := TX7) 7 4 rfl hk320 (Or.inl q502) dX7_step_846 kc7 g7004 ?_
                                          refine r_iconst (pc := 849) (x := 2) dX7_step_849 rfl ?_
                                          refine r_icmp_lt (pc := 850) (tgt := 857) dX7_step_850 rfl (fun c321 => ?_) (fun c321 => ?_)
                                          · have K := K.1 c321
                                            refine r_iconst (pc := 857) (x := 0) dX7_step_857 rfl ?_
                                            refine r_callV_V (pc := 858) (Y := mX7_need) (vs := [_]) (st := []) hk320 rfl kc7 q1272 q1274 qs14 dX7_step_858 rfl cd_X7_need rfl rfl fp_X7_step_X7_need K (fun h323 eh323 wh323 K => ?_) (fun x h1 _ _ e => Tw.out rfl e)
                                            refine r_aload_n (pc := 861) dX7_step_861 rfl ?_
                                            refine r_iconst (pc := 862) (x := 1) dX7_step_862 rfl ?_
                                            have hk326 := kd_ext eh323 hk320 (nz rfl)
                                            refine r_callV_V (pc := 863) (Y := mX7_roll) (vs := [_]) (st := []) hk326 rfl kc7 q1543 q1545 qs41 dX7_step_863 rfl cd_X7_roll rfl rfl fp_X7_step_X7_roll K (fun h325 eh325 wh325 K => ?_) (fun x h1 _ _ e => Tw.out rfl e)
                                            refine r_aload_n (pc := 866) dX7_step_866 rfl ?_
                                            refine r_iconst (pc := 867) (x := 1) dX7_step_867 rfl ?_
                                            have hk329 := kd_ext eh325 hk326 (nz rfl)
                                            refine r_callV_V (pc := 868) (Y := mX7_copy) (vs := [_]) (st := []) hk329 rfl kc7 q1539 q1541 qs40 dX7_step_868 rfl cd_X7_copy rfl rfl fp_X7_step_X7_copy K (fun h328 eh328 wh328 K => ?_) (fun x h1 _ _ e => Tw.out rfl e)
                                            exact r_vret (pc := 871) rfl dX7_step_871 K
                                          · have K := K.2 c321
                                            refine r_iconst (pc := 853) (x := 1) dX7_step_853 rfl ?_
                                            refine r_goto (pc := 854) (tgt := 858) dX7_step_854 rfl ?_
                                            refine r_callV_V (pc := 858) (Y := mX7_need) (vs := [_]) (st := []) hk320 rfl kc7 q1272 q1274 qs14 dX7_step_858 rfl cd_X7_need rfl rfl fp_X7_step_X7_need K (fun h331 eh331 wh331 K => ?_) (fun x h1 _ _ e => Tw.out rfl e)
                                            refine r_aload_n (pc := 861) dX7_step_861 rfl ?_
                                            refine r_iconst (pc := 862) (x := 1) dX7_step_862 rfl ?_
                                            have hk334 := kd_ext eh331 hk320 (nz rfl)
                                            refine r_callV_V (pc := 863) (Y := mX7_roll) (vs := [_]) (st := []) hk334 rfl kc7 q1543 q1545 qs41 dX7_step_863 rfl cd_X7_roll rfl rfl fp_X7_step_X7_roll K (fun h333 eh333 wh333 K => ?_) (fun x h1 _ _ e => Tw.out rfl e)
                                            refine r_aload_n (pc := 866) dX7_step_866 rfl ?_
                                            refine r_iconst (pc := 867) (x := 1) dX7_step_867 rfl ?_
                                            have hk337 := kd_ext eh333 hk334 (nz rfl)
                                            refine r_callV_V (pc := 868) (Y := mX7_copy) (vs := [_]) (st := []) hk337 rfl kc7 q1539 q1541 qs40 dX7_step_868 rfl cd_X7_copy rfl rfl fp_X7_step_X7_copy K (fun h336 eh336 wh336 K => ?_) (fun x h1 _ _ e => Tw.out rfl e)
                                            exact r_vret (pc := 871) rfl dX7_step_871 K
                                        · by_cases c338 : v1 = 130
                                          · have K := K402.2.2.2.2.2.2.2.2.2.2.2.2.2.2.2.2.2.2.2.2.1 c338
                                            refine r_tableIn (pc := 113) (tgt := 872) dX7_step_113 (by rw [c338]; decide) (by rw [c338]; decide) (by rw [c338]; rfl) rfl ?_
                                            refine r_aload_n (pc := 872) dX7_step_872 rfl ?_
                                            refine r_iconst (pc := 873) (x := 0) dX7_step_873 rfl ?_
                                            obtain ⟨hk341, K⟩ := K
                                            refine r_callV_R (pc := 874) (Y := mX7_top) (vs := [_]) (st := []) hk341 rfl kc7 q1311 q1313 qs17 dX7_step_874 rfl cd_X7_top rfl rfl fp_X7_step_X7_top K (fun x339 h340 eh340 wh340 K => ?_) (fun x h1 _ _ e => Tw.out rfl e)
                                            obtain ⟨hk342, K⟩ := K
                                            refine r_geti' (pc := 877) (T := TX22) 22 1 rfl hk342 (Or.inr (Or.inl ⟨_, q1296⟩)) dX7_step_877 kc22 g22001 ?_
                                            refine r_istore (pc := 880) (lv' := [_, _, _, _, _, _, _, _, _]) dX7_step_880 (by decide) rfl ?_
                                            refine r_aload_n (pc := 882) dX7_step_882 rfl ?_
                                            have hk345 := kd_ext eh340 hk341 (nz rfl)
                                            refine r_callV_R (pc := 883) (Y := mX7_push) (vs := []) (st := []) hk345 rfl kc7 q1280 q1282 qs15 dX7_step_883 rfl cd_X7_push rfl rfl fp_X7_step_X7_push K (fun x343 h344 eh344 wh344 K => ?_) (fun x h1 _ _ e => Tw.out rfl e)
                                            refine r_iload (pc := 886) dX7_step_886 rfl ?_
                                            refine r_i2l (pc := 888) dX7_step_888 ?_
                                            obtain ⟨hk348, K⟩ := K
                                            refine r_callV_V (pc := 889) (Y := mX22_be) (vs := [_]) (st := []) hk348 rfl kc22 q1484 q1485 q1486 dX7_step_889 rfl cd_X22_be rfl rfl fp_X7_step_X22_be K (fun h347 eh347 wh347 K => ?_) (fun x h1 _ _ e => Tw.out rfl e)
                                            exact r_vret (pc := 892) rfl dX7_step_892 K
                                          · by_cases c349 : v1 = 135
                                            · have K := K402.2.2.2.2.2.2.2.2.2.2.2.2.2.2.2.2.2.2.2.2.2.1 c349
                                              refine r_tableIn (pc := 113) (tgt := 893) dX7_step_113 (by rw [c349]; decide) (by rw [c349]; decide) (by rw [c349]; rfl) rfl ?_
                                              refine r_aload_n (pc := 893) dX7_step_893 rfl ?_
                                              refine r_iconst (pc := 894) (x := 0) dX7_step_894 rfl ?_
                                              obtain ⟨hk352, K⟩ := K
                                              refine r_callV_R (pc := 895) (Y := mX7_top) (vs := [_]) (st := []) hk352 rfl kc7 q1311 q1313 qs17 dX7_step_895 rfl cd_X7_top rfl rfl fp_X7_step_X7_top K (fun x350 h351 eh351 wh351 K => ?_) (fun x h1 _ _ e => Tw.out rfl e)
                                              refine r_aload_n (pc := 898) dX7_step_898 rfl ?_
                                              refine r_iconst (pc := 899) (x := 1) dX7_step_899 rfl ?_
                                              have hk355 := kd_ext eh351 hk352 (nz rfl)
                                              refine r_callV_R (pc := 900) (Y := mX7_top) (vs := [_]) (st := [_]) hk355 rfl kc7 q1311 q1313 qs17 dX7_step_900 rfl cd_X7_top rfl rfl fp_X7_step_X7_top K (fun x353 h354 eh354 wh354 K => ?_) (fun x h1 _ _ e => Tw.out rfl e)
                                              obtain ⟨hk358, K⟩ := K
                                              refine r_callV_I (pc := 903) (Y := mX22_same) (vs := [_]) (st := []) hk358 rfl kc22 q1547 q1548 q1549 dX7_step_903 rfl cd_X22_same rfl rfl fp_X7_step_X22_same K (fun x356 h357 eh357 wh357 K => ?_) (fun x h1 _ _ e => Tw.out rfl e)
                                              refine r_istore (pc := 906) (lv' := [_, _, _, _, _, _, _, _, _]) dX7_step_906 (by decide) rfl ?_
                                              refine r_aload_n (pc := 908) dX7_step_908 rfl ?_
                                              refine r_iconst (pc := 909) (x := 2) dX7_step_909 rfl ?_
                                              have hk361 := kd_ext eh354 hk355 (nz rfl)
                                              have hk362 := kd_ext eh357 hk361 (nz rfl)
                                              refine r_callV_V (pc := 910) (Y := mX7_drop) (vs := [_]) (st := []) hk362 rfl kc7 q1319 q1321 qs18 dX7_step_910 rfl cd_X7_drop rfl rfl fp_X7_step_X7_drop K (fun h360 eh360 wh360 K => ?_) (fun x h1 _ _ e => Tw.out rfl e)
                                              refine r_aload_n (pc := 913) dX7_step_913 rfl ?_
                                              refine r_iload (pc := 914) dX7_step_914 rfl ?_
                                              have hk365 := kd_ext eh360 hk362 (nz rfl)
                                              refine r_callV_V (pc := 916) (Y := mX7_truth) (vs := [_]) (st := []) hk365 rfl kc7 q1480 q1482 qs34 dX7_step_916 rfl cd_X7_truth rfl rfl fp_X7_step_X7_truth K (fun h364 eh364 wh364 K => ?_) (fun x h1 _ _ e => Tw.out rfl e)
                                              refine r_iload_n (pc := 919) dX7_step_919 rfl ?_
                                              refine r_sipush (pc := 920) (x := 136) dX7_step_920 rfl ?_
                                              refine r_icmp_ne (pc := 923) (tgt := 930) dX7_step_923 rfl (fun c366 => ?_) (fun c366 => ?_)
                                              · have K := K.1 c366
                                                exact r_vret (pc := 930) rfl dX7_step_930 K
                                              · have K := K.2 c366
                                                refine r_aload_n (pc := 926) dX7_step_926 rfl ?_
                                                have hk369 := kd_ext eh364 hk365 (nz rfl)
                                                refine r_callV_V (pc := 927) (Y := mX7_verify) (vs := []) (st := []) hk369 rfl kc7 q1488 q1490 qs35 dX7_step_927 rfl cd_X7_verify rfl rfl fp_X7_step_X7_verify K (fun h368 eh368 wh368 K => ?_) (fun x h1 _ _ e => Tw.out rfl e)
                                                exact r_vret (pc := 930) rfl dX7_step_930 K
                                            · by_cases c370 : v1 = 136
                                              · have K := K402.2.2.2.2.2.2.2.2.2.2.2.2.2.2.2.2.2.2.2.2.2.2.1 c370
                                                refine r_tableIn (pc := 113) (tgt := 893) dX7_step_113 (by rw [c370]; decide) (by rw [c370]; decide) (by rw [c370]; rfl) rfl ?_
                                                refine r_aload_n (pc := 893) dX7_step_893 rfl ?_
                                                refine r_iconst (pc := 894) (x := 0) dX7_step_894 rfl ?_
                                                obtain ⟨hk373, K⟩ := K
                                                refine r_callV_R (pc := 895) (Y := mX7_top) (vs := [_]) (st := []) hk373 rfl kc7 q1311 q1313 qs17 dX7_step_895 rfl cd_X7_top rfl rfl fp_X7_step_X7_top K (fun x371 h372 eh372 wh372 K => ?_) (fun x h1 _ _ e => Tw.out rfl e)
                                                refine r_aload_n (pc := 898) dX7_step_898 rfl ?_
                                                refine r_iconst (pc := 899) (x := 1) dX7_step_899 rfl ?_
                                                have hk376 := kd_ext eh372 hk373 (nz rfl)
                                                refine r_callV_R (pc := 900) (Y := mX7_top) (vs := [_]) (st := [_]) hk376 rfl kc7 q1311 q1313 qs17 dX7_step_900 rfl cd_X7_top rfl rfl fp_X7_step_X7_top K (fun x374 h375 eh375 wh375 K => ?_) (fun x h1 _ _ e => Tw.out rfl e)
                                                obtain ⟨hk379, K⟩ := K
                                                refine r_callV_I (pc := 903) (Y := mX22_same) (vs := [_]) (st := []) hk379 rfl kc22 q1547 q1548 q1549 dX7_step_903 rfl cd_X22_same rfl rfl fp_X7_step_X22_same K (fun x377 h378 eh378 wh378 K => ?_) (fun x h1 _ _ e => Tw.out rfl e)
                                                refine r_istore (pc := 906) (lv' := [_, _, _, _, _, _, _, _, _]) dX7_step_906 (by decide) rfl ?_
                                                refine r_aload_n (pc := 908) dX7_step_908 rfl ?_
                                                refine r_iconst (pc := 909) (x := 2) dX7_step_909 rfl ?_
                                                have hk382 := kd_ext eh375 hk376 (nz rfl)
                                                have hk383 := kd_ext eh378 hk382 (nz rfl)
                                                refine r_callV_V (pc := 910) (Y := mX7_drop) (vs := [_]) (st := []) hk383 rfl kc7 q1319 q1321 qs18 dX7_step_910 rfl cd_X7_drop rfl rfl fp_X7_step_X7_drop K (fun h381 eh381 wh381 K => ?_) (fun x h1 _ _ e => Tw.out rfl e)
                                                refine r_aload_n (pc := 913) dX7_step_913 rfl ?_
                                                refine r_iload (pc := 914) dX7_step_914 rfl ?_
                                                have hk386 := kd_ext eh381 hk383 (nz rfl)
                                                refine r_callV_V (pc := 916) (Y := mX7_truth) (vs := [_]) (st := []) hk386 rfl kc7 q1480 q1482 qs34 dX7_step_916 rfl cd_X7_truth rfl rfl fp_X7_step_X7_truth K (fun h385 eh385 wh385 K => ?_) (fun x h1 _ _ e => Tw.out rfl e)
                                                refine r_iload_n (pc := 919) dX7_step_919 rfl ?_
                                                refine r_sipush (pc := 920) (x := 136) dX7_step_920 rfl ?_
                                                refine r_icmp_ne (pc := 923) (tgt := 930) dX7_step_923 rfl (fun c387 => ?_) (fun c387 => ?_)
                                                · have K := K.1 c387
                                                  exact r_vret (pc := 930) rfl dX7_step_930 K
                                                · have K := K.2 c387
                                                  refine r_aload_n (pc := 926) dX7_step_926 rfl ?_
                                                  have hk390 := kd_ext eh385 hk386 (nz rfl)
                                                  refine r_callV_V (pc := 927) (Y := mX7_verify) (vs := []) (st := []) hk390 rfl kc7 q1488 q1490 qs35 dX7_step_927 rfl cd_X7_verify rfl rfl fp_X7_step_X7_verify K (fun h389 eh389 wh389 K => ?_) (fun x h1 _ _ e => Tw.out rfl e)
                                                  exact r_vret (pc := 930) rfl dX7_step_930 K
                                              · by_cases c391 : v1 = 177
                                                · have K := K402.2.2.2.2.2.2.2.2.2.2.2.2.2.2.2.2.2.2.2.2.2.2.2.1 c391
                                                  refine r_tableIn (pc := 113) (tgt := 931) dX7_step_113 (by rw [c391]; decide) (by rw [c391]; decide) (by rw [c391]; rfl) rfl ?_
                                                  refine r_aload_n (pc := 931) dX7_step_931 rfl ?_
                                                  refine r_aload_n (pc := 932) dX7_step_932 rfl ?_
                                                  obtain ⟨hk394, K⟩ := K
                                                  refine r_callV_V (pc := 933) (Y := mX7_later) (vs := [_]) (st := []) hk394 rfl kc7 q1551 q1553 qs42 dX7_step_933 rfl cd_X7_later rfl rfl fp_X7_step_X7_later K (fun h393 eh393 wh393 K => ?_) (fun x h1 _ _ e => Tw.out rfl e)
                                                  exact r_vret (pc := 936) rfl dX7_step_936 K
                                                · have K := K402.2.2.2.2.2.2.2.2.2.2.2.2.2.2.2.2.2.2.2.2.2.2.2.2 ⟨c1, c5, c54, c101, c105, c112, c119, c138, c157, c176, c188, c196, c200, c204, c223, c227, c269, c311, c315, c319, c338, c349, c370, c391⟩
                                                  refine r_tableD (pc := 113) (tgt := 937) dX7_step_113 (by decide) ?_ rfl ?_
                                                  · intro i hi hq
                                                    match i, hi with
                                                    | 0, _ => exact c1
                                                    | 1, _ => exact absurd rfl hq
                                                    | 2, _ => exact c5
                                                    | 3, _ => exact c54
                                                    | 4, _ => exact c101
                                                    | 5, _ => exact c105
                                                    | 6, _ => exact c112
                                                    | 7, _ => exact c119
                                                    | 8, _ => exact c138
                                                    | 9, _ => exact c157
                                                    | 10, _ => exact c176
                                                    | 11, _ => exact c188
                                                    | 12, _ => exact c196
                                                    | 13, _ => exact c200
                                                    | 14, _ => exact c204
                                                    | 15, _ => exact c223
                                                    | 16, _ => exact c227
                                                    | 17, _ => exact c269
                                                    | 18, _ => exact c311
                                                    | 19, _ => exact c315
                                                    | 20, _ => exact c319
                                                    | 21, _ => exact absurd rfl hq
                                                    | 22, _ => exact absurd rfl hq
                                                    | 23, _ => exact absurd rfl hq
                                                    | 24, _ => exact absurd rfl hq
                                                    | 25, _ => exact c338
                                                    | 26, _ => exact absurd rfl hq
                                                    | 27, _ => exact absurd rfl hq
                                                    | 28, _ => exact absurd rfl hq
                                                    | 29, _ => exact absurd rfl hq
                                                    | 30, _ => exact c349
                                                    | 31, _ => exact c370
                                                    | 32, _ => exact absurd rfl hq
                                                    | 33, _ => exact absurd rfl hq
                                                    | 34, _ => exact absurd rfl hq
                                                    | 35, _ => exact absurd rfl hq
                                                    | 36, _ => exact absurd rfl hq
                                                    | 37, _ => exact absurd rfl hq
                                                    | 38, _ => exact absurd rfl hq
                                                    | 39, _ => exact absurd rfl hq
                                                    | 40, _ => exact absurd rfl hq
                                                    | 41, _ => exact absurd rfl hq
                                                    | 42, _ => exact absurd rfl hq
                                                    | 43, _ => exact absurd rfl hq
                                                    | 44, _ => exact absurd rfl hq
                                                    | 45, _ => exact absurd rfl hq
                                                    | 46, _ => exact absurd rfl hq
                                                    | 47, _ => exact absurd rfl hq
                                                    | 48, _ => exact absurd rfl hq
                                                    | 49, _ => exact absurd rfl hq
                                                    | 50, _ => exact absurd rfl hq
                                                    | 51, _ => exact absurd rfl hq
                                                    | 52, _ => exact absurd rfl hq
                                                    | 53, _ => exact absurd rfl hq
                                                    | 54, _ => exact absurd rfl hq
                                                    | 55, _ => exact absurd rfl hq
                                                    | 56, _ => exact absurd rfl hq
                                                    | 57, _ => exact absurd rfl hq
                                                    | 58, _ => exact absurd rfl hq
                                                    | 59, _ => exact absurd rfl hq
                                                    | 60, _ => exact absurd rfl hq
                                                    | 61, _ => exact absurd rfl hq
                                                    | 62, _ => exact absurd rfl hq
                                                    | 63, _ => exact absurd rfl hq
                                                    | 64, _ => exact absurd rfl hq
                                                    | 65, _ => exact absurd rfl hq
                                                    | 66, _ => exact absurd rfl hq
                                                    | 67, _ => exact absurd rfl hq
                                                    | 68, _ => exact absurd rfl hq
                                                    | 69, _ => exact absurd rfl hq
                                                    | 70, _ => exact absurd rfl hq
                                                    | 71, _ => exact absurd rfl hq
                                                    | 72, _ => exact c391
                                                    | i + 73, hi => exact absurd hi (Nat.not_lt.mpr (Nat.le_add_left 73 i))
                                                  · refine r_new (pc := 937) 17 kc17 rfl q1264 q1037 q182 dX7_step_937 (fun q395 eq395 zq395 wq395 => ?_)
                                                    refine r_nameH (fun h396 eh396 => ?_)
                                                    have K := K q395 eq395 wq395 h396 eh396
                                                    have hk397 := kd_newSE eh396 eq395
                                                    refine r_dup (pc := 940) rfl dX7_step_940 ?_
                                                    obtain ⟨hd398, K⟩ := K
                                                    refine r_exInit (pc := 941) 17 _ hd398 hk397 (fr_newS eh396 eq395) (Or.inr zq395) kc17 rfl ex_17 (Or.inr ⟨_, q1276⟩) dX7_step_941 rfl ?_
                                                    refine r_nameH (fun h399 eh399 => ?_)
                                                    have K := K h399 eh399
                                                    have hk400 := kd_exH eh399 hk397
                                                    exact r_athrow (pc := 944) (nzk hk400 rfl) dX7_step_944 (Tw.out rfl K)
set_option maxHeartbeats 4000000 in
theorem sX7_step_580 {G : Gx} {d t : Nat} {h0 : AH} {Φ : Out → AH → Prop} (h : AH) (v0 : Nat) (v4 : Int32) (v5 : Int32) (K : ((v4 ≤ v5 → Φ (.inl none) h) ∧ (¬ v4 ≤ v5 → h.kd v0 = 7 ∧ Cw G mX7_copy d 0 [vR v0, vI (v4 - 1)] h (kV (fun h3 => Aw G mX7_step (d + 1) t h0 Φ 580 [vR v0, vU, vU, vU, vI v4, vI (v5 + 1), vU, vU, vU] [] h3) (fun x h => Φ (.inr x) h))))) : Aw G mX7_step (d + 1) t h0 Φ 580 [vR v0, vU, vU, vU, vI v4, vI v5, vU, vU, vU] [] h := by
  refine r_iload (pc := 580) dX7_step_580 rfl ?_
  refine r_iload (pc := 582) dX7_step_582 rfl ?_
  refine r_icmp_ge (pc := 584) (tgt := 601) dX7_step_584 rfl (fun c1 => ?_) (fun c1 => ?_)
  · have K := K.1 c1
    exact r_vret (pc := 601) rfl dX7_step_601 K
  · have K := K.2 c1
    refine r_aload_n (pc := 587) dX7_step_587 rfl ?_
    refine r_iload (pc := 588) dX7_step_588 rfl ?_
    refine r_iconst (pc := 590) (x := 1) dX7_step_590 rfl ?_
    refine r_isub (pc := 591) dX7_step_591 ?_
    obtain ⟨hk4, K⟩ := K
    refine r_callV_V (pc := 592) (Y := mX7_copy) (vs := [_]) (st := []) hk4 rfl kc7 q1539 q1541 qs40 dX7_step_592 rfl cd_X7_copy rfl rfl fp_X7_step_X7_copy K (fun h3 eh3 wh3 K => ?_) (fun x h1 _ _ e => Tw.out rfl e)
    refine r_iinc (pc := 595) (lv' := [_, _, _, _, _, _, _, _, _]) dX7_step_595 rfl rfl (by decide) rfl ?_
    refine r_goto (pc := 598) (tgt := 580) dX7_step_598 rfl ?_
    refine r_mask (pc := 580) [true, false, false, false, true, true, false, false, false] rfl ?_
    exact K
theorem dX7_run_0 : decode cX7_run 0 = .ok (.iload_n 2, 1) := by decide +kernel
theorem dX7_run_1 : decode cX7_run 1 = .ok (.iload_n 3, 1) := by decide +kernel
theorem dX7_run_2 : decode cX7_run 2 = .ok (.iadd, 1) := by decide +kernel
theorem dX7_run_3 : decode cX7_run 3 = .ok (.istore 5, 2) := by decide +kernel
theorem dX7_run_5 : decode cX7_run 5 = .ok (.iload_n 2, 1) := by decide +kernel
theorem dX7_run_6 : decode cX7_run 6 = .ok (.istore 6, 2) := by decide +kernel
theorem dX7_run_8 : decode cX7_run 8 = .ok (.iconst 0, 1) := by decide +kernel
theorem dX7_run_9 : decode cX7_run 9 = .ok (.istore 7, 2) := by decide +kernel
theorem dX7_run_11 : decode cX7_run 11 = .ok (.aload_n 0, 1) := by decide +kernel
theorem dX7_run_12 : decode cX7_run 12 = .ok (.iconst 0, 1) := by decide +kernel
theorem dX7_run_13 : decode cX7_run 13 = .ok (.putfield 103, 3) := by decide +kernel
theorem dX7_run_16 : decode cX7_run 16 = .ok (.aload_n 0, 1) := by decide +kernel
theorem dX7_run_17 : decode cX7_run 17 = .ok (.iconst 0, 1) := by decide +kernel
theorem dX7_run_18 : decode cX7_run 18 = .ok (.putfield 49, 3) := by decide +kernel
theorem dX7_run_21 : decode cX7_run 21 = .ok (.iload_n 2, 1) := by decide +kernel
theorem dX7_run_22 : decode cX7_run 22 = .ok (.istore 8, 2) := by decide +kernel
theorem dX7_run_24 : decode cX7_run 24 = .ok (.iload 8, 2) := by decide +kernel
theorem dX7_run_26 : decode cX7_run 26 = .ok (.iload 5, 2) := by decide +kernel
theorem dX7_run_28 : decode cX7_run 28 = .ok (.if_icmp .ge 394, 3) := by decide +kernel
theorem dX7_run_31 : decode cX7_run 31 = .ok (.aload_n 1, 1) := by decide +kernel
theorem dX7_run_32 : decode cX7_run 32 = .ok (.iload 8, 2) := by decide +kernel
theorem dX7_run_34 : decode cX7_run 34 = .ok (.baload, 1) := by decide +kernel
theorem dX7_run_35 : decode cX7_run 35 = .ok (.sipush 255, 3) := by decide +kernel
theorem dX7_run_38 : decode cX7_run 38 = .ok (.iand, 1) := by decide +kernel
theorem dX7_run_39 : decode cX7_run 39 = .ok (.istore 9, 2) := by decide +kernel
theorem dX7_run_41 : decode cX7_run 41 = .ok (.aload_n 1, 1) := by decide +kernel
theorem dX7_run_42 : decode cX7_run 42 = .ok (.iload 8, 2) := by decide +kernel
theorem dX7_run_44 : decode cX7_run 44 = .ok (.iload 5, 2) := by decide +kernel
theorem dX7_run_46 : decode cX7_run 46 = .ok (.invokestatic 99, 3) := by decide +kernel
theorem dX7_run_49 : decode cX7_run 49 = .ok (.istore 10, 2) := by decide +kernel
theorem dX7_run_51 : decode cX7_run 51 = .ok (.aload_n 0, 1) := by decide +kernel
theorem dX7_run_52 : decode cX7_run 52 = .ok (.iload 10, 2) := by decide +kernel
theorem dX7_run_54 : decode cX7_run 54 = .ok (.ifCond .le 7, 3) := by decide +kernel
theorem dX7_run_57 : decode cX7_run 57 = .ok (.iconst 1, 1) := by decide +kernel
theorem dX7_run_58 : decode cX7_run 58 = .ok (.goto 4, 3) := by decide +kernel
theorem dX7_run_61 : decode cX7_run 61 = .ok (.iconst 0, 1) := by decide +kernel
theorem dX7_run_62 : decode cX7_run 62 = .ok (.invokevirtual 91, 3) := by decide +kernel
theorem dX7_run_65 : decode cX7_run 65 = .ok (.iload 9, 2) := by decide +kernel
theorem dX7_run_67 : decode cX7_run 67 = .ok (.bipush 76, 2) := by decide +kernel
theorem dX7_run_69 : decode cX7_run 69 = .ok (.if_icmp .ge 7, 3) := by decide +kernel
theorem dX7_run_72 : decode cX7_run 72 = .ok (.iconst 1, 1) := by decide +kernel
theorem dX7_run_73 : decode cX7_run 73 = .ok (.goto 37, 3) := by decide +kernel
theorem dX7_run_76 : decode cX7_run 76 = .ok (.iload 9, 2) := by decide +kernel
theorem dX7_run_78 : decode cX7_run 78 = .ok (.bipush 76, 2) := by decide +kernel
theorem dX7_run_80 : decode cX7_run 80 = .ok (.if_icmp .ne 7, 3) := by decide +kernel
theorem dX7_run_83 : decode cX7_run 83 = .ok (.iconst 2, 1) := by decide +kernel
theorem dX7_run_84 : decode cX7_run 84 = .ok (.goto 26, 3) := by decide +kernel
theorem dX7_run_87 : decode cX7_run 87 = .ok (.iload 9, 2) := by decide +kernel
theorem dX7_run_89 : decode cX7_run 89 = .ok (.bipush 77, 2) := by decide +kernel
theorem dX7_run_91 : decode cX7_run 91 = .ok (.if_icmp .ne 7, 3) := by decide +kernel
theorem dX7_run_94 : decode cX7_run 94 = .ok (.iconst 3, 1) := by decide +kernel
theorem dX7_run_95 : decode cX7_run 95 = .ok (.goto 15, 3) := by decide +kernel
theorem dX7_run_98 : decode cX7_run 98 = .ok (.iload 9, 2) := by decide +kernel
theorem dX7_run_100 : decode cX7_run 100 = .ok (.bipush 78, 2) := by decide +kernel
theorem dX7_run_102 : decode cX7_run 102 = .ok (.if_icmp .ne 7, 3) := by decide +kernel
theorem dX7_run_105 : decode cX7_run 105 = .ok (.iconst 5, 1) := by decide +kernel
theorem dX7_run_106 : decode cX7_run 106 = .ok (.goto 4, 3) := by decide +kernel
theorem dX7_run_109 : decode cX7_run 109 = .ok (.iconst 1, 1) := by decide +kernel
theorem dX7_run_110 : decode cX7_run 110 = .ok (.istore 11, 2) := by decide +kernel
theorem dX7_run_112 : decode cX7_run 112 = .ok (.aload_n 0, 1) := by decide +kernel
theorem dX7_run_113 : decode cX7_run 113 = .ok (.iload 9, 2) := by decide +kernel
theorem dX7_run_115 : decode cX7_run 115 = .ok (.bipush 78, 2) := by decide +kernel
theorem dX7_run_117 : decode cX7_run 117 = .ok (.if_icmp .gt 14, 3) := by decide +kernel
theorem dX7_run_120 : decode cX7_run 120 = .ok (.iload 10, 2) := by decide +kernel
theorem dX7_run_122 : decode cX7_run 122 = .ok (.iload 11, 2) := by decide +kernel
theorem dX7_run_124 : decode cX7_run 124 = .ok (.isub, 1) := by decide +kernel
theorem dX7_run_125 : decode cX7_run 125 = .ok (.sipush 520, 3) := by decide +kernel
theorem dX7_run_128 : decode cX7_run 128 = .ok (.if_icmp .gt 7, 3) := by decide +kernel
theorem dX7_run_131 : decode cX7_run 131 = .ok (.iconst 1, 1) := by decide +kernel
theorem dX7_run_132 : decode cX7_run 132 = .ok (.goto 4, 3) := by decide +kernel
theorem dX7_run_135 : decode cX7_run 135 = .ok (.iconst 0, 1) := by decide +kernel
theorem dX7_run_136 : decode cX7_run 136 = .ok (.invokevirtual 91, 3) := by decide +kernel
theorem dX7_run_139 : decode cX7_run 139 = .ok (.iload 9, 2) := by decide +kernel
theorem dX7_run_141 : decode cX7_run 141 = .ok (.bipush 96, 2) := by decide +kernel
theorem dX7_run_143 : decode cX7_run 143 = .ok (.if_icmp .le 6, 3) := by decide +kernel
theorem dX7_run_146 : decode cX7_run 146 = .ok (.iinc 7 1, 3) := by decide +kernel
theorem dX7_run_149 : decode cX7_run 149 = .ok (.aload_n 0, 1) := by decide +kernel
theorem dX7_run_150 : decode cX7_run 150 = .ok (.iload 7, 2) := by decide +kernel
theorem dX7_run_152 : decode cX7_run 152 = .ok (.sipush 201, 3) := by decide +kernel
theorem dX7_run_155 : decode cX7_run 155 = .ok (.if_icmp .gt 15, 3) := by decide +kernel
theorem dX7_run_158 : decode cX7_run 158 = .ok (.iload 9, 2) := by decide +kernel
theorem dX7_run_160 : decode cX7_run 160 = .ok (.invokestatic 106, 3) := by decide +kernel
theorem dX7_run_163 : decode cX7_run 163 = .ok (.ifCond .ne 7, 3) := by decide +kernel
theorem dX7_run_166 : decode cX7_run 166 = .ok (.iconst 1, 1) := by decide +kernel
theorem dX7_run_167 : decode cX7_run 167 = .ok (.goto 4, 3) := by decide +kernel
theorem dX7_run_170 : decode cX7_run 170 = .ok (.iconst 0, 1) := by decide +kernel
theorem dX7_run_171 : decode cX7_run 171 = .ok (.invokevirtual 91, 3) := by decide +kernel
theorem dX7_run_174 : decode cX7_run 174 = .ok (.iconst 1, 1) := by decide +kernel
theorem dX7_run_175 : decode cX7_run 175 = .ok (.istore 12, 2) := by decide +kernel
theorem dX7_run_177 : decode cX7_run 177 = .ok (.iconst 0, 1) := by decide +kernel
theorem dX7_run_178 : decode cX7_run 178 = .ok (.istore 13, 2) := by decide +kernel
theorem dX7_run_180 : decode cX7_run 180 = .ok (.iload 13, 2) := by decide +kernel
theorem dX7_run_182 : decode cX7_run 182 = .ok (.aload_n 0, 1) := by decide +kernel
theorem dX7_run_183 : decode cX7_run 183 = .ok (.getfield 103, 3) := by decide +kernel
theorem dX7_run_186 : decode cX7_run 186 = .ok (.if_icmp .ge 31, 3) := by decide +kernel
theorem dX7_run_189 : decode cX7_run 189 = .ok (.iload 12, 2) := by decide +kernel
theorem dX7_run_191 : decode cX7_run 191 = .ok (.ifCond .eq 17, 3) := by decide +kernel
theorem dX7_run_194 : decode cX7_run 194 = .ok (.aload_n 0, 1) := by decide +kernel
theorem dX7_run_195 : decode cX7_run 195 = .ok (.getfield 23, 3) := by decide +kernel
theorem dX7_run_198 : decode cX7_run 198 = .ok (.iload 13, 2) := by decide +kernel
theorem dX7_run_200 : decode cX7_run 200 = .ok (.baload, 1) := by decide +kernel
theorem dX7_run_201 : decode cX7_run 201 = .ok (.ifCond .eq 7, 3) := by decide +kernel
theorem dX7_run_204 : decode cX7_run 204 = .ok (.iconst 1, 1) := by decide +kernel
theorem dX7_run_205 : decode cX7_run 205 = .ok (.goto 4, 3) := by decide +kernel
theorem dX7_run_208 : decode cX7_run 208 = .ok (.iconst 0, 1) := by decide +kernel
theorem dX7_run_209 : decode cX7_run 209 = .ok (.istore 12, 2) := by decide +kernel
theorem dX7_run_211 : decode cX7_run 211 = .ok (.iinc 13 1, 3) := by decide +kernel
theorem dX7_run_214 : decode cX7_run 214 = .ok (.goto (-34), 3) := by decide +kernel
theorem dX7_run_217 : decode cX7_run 217 = .ok (.iload 9, 2) := by decide +kernel
theorem dX7_run_219 : decode cX7_run 219 = .ok (.bipush 78, 2) := by decide +kernel
theorem dX7_run_221 : decode cX7_run 221 = .ok (.if_icmp .gt 30, 3) := by decide +kernel
theorem dX7_run_224 : decode cX7_run 224 = .ok (.iload 12, 2) := by decide +kernel
theorem dX7_run_226 : decode cX7_run 226 = .ok (.ifCond .eq 162, 3) := by decide +kernel
theorem dX7_run_229 : decode cX7_run 229 = .ok (.aload_n 0, 1) := by decide +kernel
theorem dX7_run_230 : decode cX7_run 230 = .ok (.invokevirtual 62, 3) := by decide +kernel
theorem dX7_run_233 : decode cX7_run 233 = .ok (.aload_n 1, 1) := by decide +kernel
theorem dX7_run_234 : decode cX7_run 234 = .ok (.iload 8, 2) := by decide +kernel
theorem dX7_run_236 : decode cX7_run 236 = .ok (.iload 11, 2) := by decide +kernel
theorem dX7_run_238 : decode cX7_run 238 = .ok (.iadd, 1) := by decide +kernel
theorem dX7_run_239 : decode cX7_run 239 = .ok (.iload 10, 2) := by decide +kernel
theorem dX7_run_241 : decode cX7_run 241 = .ok (.iload 11, 2) := by decide +kernel
theorem dX7_run_243 : decode cX7_run 243 = .ok (.isub, 1) := by decide +kernel
theorem dX7_run_244 : decode cX7_run 244 = .ok (.invokevirtual 72, 3) := by decide +kernel
theorem dX7_run_247 : decode cX7_run 247 = .ok (.pop, 1) := by decide +kernel
theorem dX7_run_248 : decode cX7_run 248 = .ok (.goto 140, 3) := by decide +kernel
theorem dX7_run_251 : decode cX7_run 251 = .ok (.iload 9, 2) := by decide +kernel
theorem dX7_run_253 : decode cX7_run 253 = .ok (.bipush 99, 2) := by decide +kernel
theorem dX7_run_255 : decode cX7_run 255 = .ok (.if_icmp .lt 35, 3) := by decide +kernel
theorem dX7_run_258 : decode cX7_run 258 = .ok (.iload 9, 2) := by decide +kernel
theorem dX7_run_260 : decode cX7_run 260 = .ok (.bipush 104, 2) := by decide +kernel
theorem dX7_run_262 : decode cX7_run 262 = .ok (.if_icmp .gt 28, 3) := by decide +kernel
theorem dX7_run_265 : decode cX7_run 265 = .ok (.iload 9, 2) := by decide +kernel
theorem dX7_run_267 : decode cX7_run 267 = .ok (.bipush 101, 2) := by decide +kernel
theorem dX7_run_269 : decode cX7_run 269 = .ok (.if_icmp .eq 21, 3) := by decide +kernel
theorem dX7_run_272 : decode cX7_run 272 = .ok (.iload 9, 2) := by decide +kernel
theorem dX7_run_274 : decode cX7_run 274 = .ok (.bipush 102, 2) := by decide +kernel
theorem dX7_run_276 : decode cX7_run 276 = .ok (.if_icmp .eq 14, 3) := by decide +kernel
theorem dX7_run_279 : decode cX7_run 279 = .ok (.aload_n 0, 1) := by decide +kernel
theorem dX7_run_280 : decode cX7_run 280 = .ok (.iload 9, 2) := by decide +kernel
theorem dX7_run_282 : decode cX7_run 282 = .ok (.iload 12, 2) := by decide +kernel
theorem dX7_run_284 : decode cX7_run 284 = .ok (.invokevirtual 110, 3) := by decide +kernel
theorem dX7_run_287 : decode cX7_run 287 = .ok (.goto 101, 3) := by decide +kernel
theorem dX7_run_290 : decode cX7_run 290 = .ok (.iload 12, 2) := by decide +kernel
theorem dX7_run_292 : decode cX7_run 292 = .ok (.ifCond .eq 96, 3) := by decide +kernel
theorem dX7_run_295 : decode cX7_run 295 = .ok (.iload 9, 2) := by decide +kernel
theorem dX7_run_297 : decode cX7_run 297 = .ok (.sipush 171, 3) := by decide +kernel
theorem dX7_run_300 : decode cX7_run 300 = .ok (.if_icmp .ne 12, 3) := by decide +kernel
theorem dX7_run_303 : decode cX7_run 303 = .ok (.iload 8, 2) := by decide +kernel
theorem dX7_run_305 : decode cX7_run 305 = .ok (.iconst 1, 1) := by decide +kernel
theorem dX7_run_306 : decode cX7_run 306 = .ok (.iadd, 1) := by decide +kernel
theorem dX7_run_307 : decode cX7_run 307 = .ok (.istore 6, 2) := by decide +kernel
theorem dX7_run_309 : decode cX7_run 309 = .ok (.goto 79, 3) := by decide +kernel
theorem dX7_run_312 : decode cX7_run 312 = .ok (.iload 9, 2) := by decide +kernel
theorem dX7_run_314 : decode cX7_run 314 = .ok (.sipush 172, 3) := by decide +kernel
theorem dX7_run_317 : decode cX7_run 317 = .ok (.if_icmp .lt 27, 3) := by decide +kernel
theorem dX7_run_320 : decode cX7_run 320 = .ok (.iload 9, 2) := by decide +kernel
theorem dX7_run_322 : decode cX7_run 322 = .ok (.sipush 173, 3) := by decide +kernel
theorem dX7_run_325 : decode cX7_run 325 = .ok (.if_icmp .gt 19, 3) := by decide +kernel
theorem dX7_run_328 : decode cX7_run 328 = .ok (.aload_n 0, 1) := by decide +kernel
theorem dX7_run_329 : decode cX7_run 329 = .ok (.iload 9, 2) := by decide +kernel
theorem dX7_run_331 : decode cX7_run 331 = .ok (.aload 4, 2) := by decide +kernel
theorem dX7_run_333 : decode cX7_run 333 = .ok (.aload_n 1, 1) := by decide +kernel
theorem dX7_run_334 : decode cX7_run 334 = .ok (.iload 6, 2) := by decide +kernel
theorem dX7_run_336 : decode cX7_run 336 = .ok (.iload 5, 2) := by decide +kernel
theorem dX7_run_338 : decode cX7_run 338 = .ok (.invokevirtual 114, 3) := by decide +kernel
theorem dX7_run_341 : decode cX7_run 341 = .ok (.goto 47, 3) := by decide +kernel
theorem dX7_run_344 : decode cX7_run 344 = .ok (.iload 9, 2) := by decide +kernel
theorem dX7_run_346 : decode cX7_run 346 = .ok (.sipush 174, 3) := by decide +kernel
theorem dX7_run_349 : decode cX7_run 349 = .ok (.if_icmp .lt 31, 3) := by decide +kernel
theorem dX7_run_352 : decode cX7_run 352 = .ok (.iload 9, 2) := by decide +kernel
theorem dX7_run_354 : decode cX7_run 354 = .ok (.sipush 175, 3) := by decide +kernel
theorem dX7_run_357 : decode cX7_run 357 = .ok (.if_icmp .gt 23, 3) := by decide +kernel
theorem dX7_run_360 : decode cX7_run 360 = .ok (.aload_n 0, 1) := by decide +kernel
theorem dX7_run_361 : decode cX7_run 361 = .ok (.iload 9, 2) := by decide +kernel
theorem dX7_run_363 : decode cX7_run 363 = .ok (.aload 4, 2) := by decide +kernel
theorem dX7_run_365 : decode cX7_run 365 = .ok (.aload_n 1, 1) := by decide +kernel
theorem dX7_run_366 : decode cX7_run 366 = .ok (.iload 6, 2) := by decide +kernel
theorem dX7_run_368 : decode cX7_run 368 = .ok (.iload 5, 2) := by decide +kernel
theorem dX7_run_370 : decode cX7_run 370 = .ok (.iload 7, 2) := by decide +kernel
theorem dX7_run_372 : decode cX7_run 372 = .ok (.invokevirtual 118, 3) := by decide +kernel
theorem dX7_run_375 : decode cX7_run 375 = .ok (.istore 7, 2) := by decide +kernel
theorem dX7_run_377 : decode cX7_run 377 = .ok (.goto 11, 3) := by decide +kernel
theorem dX7_run_380 : decode cX7_run 380 = .ok (.aload_n 0, 1) := by decide +kernel
theorem dX7_run_381 : decode cX7_run 381 = .ok (.iload 9, 2) := by decide +kernel
theorem dX7_run_383 : decode cX7_run 383 = .ok (.aload 4, 2) := by decide +kernel
theorem dX7_run_385 : decode cX7_run 385 = .ok (.invokevirtual 122, 3) := by decide +kernel
theorem dX7_run_388 : decode cX7_run 388 = .ok (.aload_n 0, 1) := by decide +kernel
theorem dX7_run_389 : decode cX7_run 389 = .ok (.aload_n 0, 1) := by decide +kernel
theorem dX7_run_390 : decode cX7_run 390 = .ok (.getfield 45, 3) := by decide +kernel
theorem dX7_run_393 : decode cX7_run 393 = .ok (.aload_n 0, 1) := by decide +kernel
theorem dX7_run_394 : decode cX7_run 394 = .ok (.getfield 49, 3) := by decide +kernel
theorem dX7_run_397 : decode cX7_run 397 = .ok (.iadd, 1) := by decide +kernel
theorem dX7_run_398 : decode cX7_run 398 = .ok (.sipush 1000, 3) := by decide +kernel
theorem dX7_run_401 : decode cX7_run 401 = .ok (.if_icmp .gt 7, 3) := by decide +kernel
theorem dX7_run_404 : decode cX7_run 404 = .ok (.iconst 1, 1) := by decide +kernel
theorem dX7_run_405 : decode cX7_run 405 = .ok (.goto 4, 3) := by decide +kernel
theorem dX7_run_408 : decode cX7_run 408 = .ok (.iconst 0, 1) := by decide +kernel
theorem dX7_run_409 : decode cX7_run 409 = .ok (.invokevirtual 91, 3) := by decide +kernel
theorem dX7_run_412 : decode cX7_run 412 = .ok (.iload 8, 2) := by decide +kernel
theorem dX7_run_414 : decode cX7_run 414 = .ok (.iload 10, 2) := by decide +kernel
theorem dX7_run_416 : decode cX7_run 416 = .ok (.iadd, 1) := by decide +kernel
theorem dX7_run_417 : decode cX7_run 417 = .ok (.istore 8, 2) := by decide +kernel
theorem dX7_run_419 : decode cX7_run 419 = .ok (.goto (-395), 3) := by decide +kernel
theorem dX7_run_422 : decode cX7_run 422 = .ok (.aload_n 0, 1) := by decide +kernel
theorem dX7_run_423 : decode cX7_run 423 = .ok (.aload_n 0, 1) := by decide +kernel
theorem dX7_run_424 : decode cX7_run 424 = .ok (.getfield 103, 3) := by decide +kernel
theorem dX7_run_427 : decode cX7_run 427 = .ok (.ifCond .ne 7, 3) := by decide +kernel
theorem dX7_run_430 : decode cX7_run 430 = .ok (.iconst 1, 1) := by decide +kernel
theorem dX7_run_431 : decode cX7_run 431 = .ok (.goto 4, 3) := by decide +kernel
theorem dX7_run_434 : decode cX7_run 434 = .ok (.iconst 0, 1) := by decide +kernel
theorem dX7_run_435 : decode cX7_run 435 = .ok (.invokevirtual 91, 3) := by decide +kernel
theorem dX7_run_438 : decode cX7_run 438 = .ok (.return_, 1) := by decide +kernel
/-! CoinJudge$Machine.run([BIILCoinJudge$Signed;)V -/
set_option maxHeartbeats 4000000 in
theorem sX7_run_0 {G : Gx} {d t : Nat} {h0 : AH} {Φ : Out → AH → Prop} (h : AH) (v0 : Nat) (v1 : Nat) (v2 : Int32) (v3 : Int32) (v4 : Nat) (K : h.kd v0 = 7 ∧ ∀ h2 : AH, h2 = h.pi 7008 v0 0 → ∀ h4 : AH, h4 = h2.pi 7005 v0 0 → Aw G mX7_run (d + 1) t h0 Φ 24 [vR v0, vR v1, vU, vU, vR v4, vI (v2 + v3), vI v2, vI 0, vI v2, vU, vU, vU, vU, vU] [] h4) : Aw G mX7_run (d + 1) t h0 Φ 0 [vR v0, vR v1, vI v2, vI v3, vR v4, vU, vU, vU, vU, vU, vU, vU, vU, vU] [] h := by
  refine r_iload_n (pc := 0) dX7_run_0 rfl ?_
  refine r_iload_n (pc := 1) dX7_run_1 rfl ?_
  refine r_iadd (pc := 2) dX7_run_2 ?_
  refine r_istore (pc := 3) (lv' := [_, _, _, _, _, _, _, _, _, _, _, _, _, _]) dX7_run_3 (by decide) rfl ?_
  refine r_iload_n (pc := 5) dX7_run_5 rfl ?_
  refine r_istore (pc := 6) (lv' := [_, _, _, _, _, _, _, _, _, _, _, _, _, _]) dX7_run_6 (by decide) rfl ?_
  refine r_iconst (pc := 8) (x := 0) dX7_run_8 rfl ?_
  refine r_istore (pc := 9) (lv' := [_, _, _, _, _, _, _, _, _, _, _, _, _, _]) dX7_run_9 (by decide) rfl ?_
  refine r_aload_n (pc := 11) dX7_run_11 rfl ?_
  refine r_iconst (pc := 12) (x := 0) dX7_run_12 rfl ?_
  obtain ⟨hk1, K⟩ := K
  refine r_puti (pc := 13) (T := TX7) (key := 7008) 7 8 hk1 (Or.inl q506) dX7_run_13 kc7 rfl (Or.inl rfl) (Or.inl (em rfl)) ?_
  refine r_nameH (fun h2 eh2 => ?_)
  have K := K h2 eh2
  refine r_aload_n (pc := 16) dX7_run_16 rfl ?_
  refine r_iconst (pc := 17) (x := 0) dX7_run_17 rfl ?_
  have hk3 := kd_pi eh2 hk1
  refine r_puti (pc := 18) (T := TX7) (key := 7005) 7 5 hk3 (Or.inl q503) dX7_run_18 kc7 rfl (Or.inl rfl) (Or.inl (em rfl)) ?_
  refine r_nameH (fun h4 eh4 => ?_)
  have K := K h4 eh4
  refine r_iload_n (pc := 21) dX7_run_21 rfl ?_
  refine r_istore (pc := 22) (lv' := [_, _, _, _, _, _, _, _, _, _, _, _, _, _]) dX7_run_22 (by decide) rfl ?_
  refine r_mask (pc := 24) [true, true, false, false, true, true, true, true, true, false, false, false, false, false] rfl ?_
  exact K
theorem eX7_run {G : Gx} {d : Nat} {Φ : Out → AH → Prop} (h : AH) (v0 : Nat) (v1 : Nat) (v2 : Int32) (v3 : Int32) (v4 : Nat) (K : WF G h → Aw G mX7_run (d + 1) 0 h Φ 0 [vR v0, vR v1, vI v2, vI v3, vR v4, vU, vU, vU, vU, vU, vU, vU, vU, vU] [] h) : Cw G mX7_run (d + 1) 0 [vR v0, vR v1, vI v2, vI v3, vR v4] h Φ := Cw.of rfl K
set_option maxHeartbeats 4000000 in
theorem sX7_run_24 {G : Gx} {d t : Nat} {h0 : AH} {Φ : Out → AH → Prop} (h : AH) (v0 : Nat) (v1 : Nat) (v4 : Nat) (v5 : Int32) (v6 : Int32) (v7 : Int32) (v8 : Int32) (K : ((v5 ≤ v8 → h.kd v0 = 7 ∧ ((¬ (h.i 7008 v0) = 0 → Cw G mX7_need d 0 [vR v0, vI 0] h (kV (fun h5 => Φ (.inl none) h5) (fun x h => Φ (.inr x) h))) ∧ ((h.i 7008 v0) = 0 → Cw G mX7_need d 0 [vR v0, vI 1] h (kV (fun h7 => Φ (.inl none) h7) (fun x h => Φ (.inr x) h))))) ∧ (¬ v5 ≤ v8 → h.kd v1 = 101 ∧ vp_in v8 (h.ai v1).length ∧ ∀ u10 : Int32, u10 = (((h.ai v1).getD (v8.toNatClampNeg) 0) &&& 255) → Cw G mX7_length d 0 [vR v1, vI v8, vI v5] h (kI (fun x11 h12 => ((x11 ≤ 0 → h12.kd v0 = 7 ∧ Cw G mX7_need d 0 [vR v0, vI 0] h12 (kV (fun h15 => ((76 ≤ u10 → ((¬ u10 = 76 → ((¬ u10 = 77 → ((¬ u10 = 78 → ((78 < u10 → Cw G mX7_need d 0 [vR v0, vI 1] h15 (kV (fun h23 => ((u10 ≤ 96 → Aw G mX7_run (d + 1) t h0 Φ 149 [vR v0, vR v1, vU, vU, vR v4, vI v5, vI v6, vI v7, vI v8, vI u10, vI x11, vI 1, vU, vU] [] h23) ∧ (¬ u10 ≤ 96 → Aw G mX7_run (d + 1) t h0 Φ 149 [vR v0, vR v1, vU, vU, vR v4, vI v5, vI v6, vI (v7 + 1), vI v8, vI u10, vI x11, vI 1, vU, vU] [] h23))) (fun x h => Φ (.inr x) h))) ∧ (¬ 78 < u10 → ((520 < (x11 - 1) → Cw G mX7_need d 0 [vR v0, vI 0] h15 (kV (fun h28 => ((u10 ≤ 96 → Aw G mX7_run (d + 1) t h0 Φ 149 [vR v0, vR v1, vU, vU, vR v4, vI v5, vI v6, vI v7, vI v8, vI u10, vI x11, vI 1, vU, vU] [] h28) ∧ (¬ u10 ≤ 96 → Aw G mX7_run (d + 1) t h0 Φ 149 [vR v0, vR v1, vU, vU, vR v4, vI v5, vI v6, vI (v7 + 1), vI v8, vI u10, vI x11, vI 1, vU, vU] [] h28))) (fun x h => Φ (.inr x) h))) ∧ (¬ 520 < (x11 - 1) → Cw G mX7_need d 0 [vR v0, vI 1] h15 (kV (fun h32 => ((u10 ≤ 96 → Aw G mX7_run (d + 1) t h0 Φ 149 [vR v0, vR v1, vU, vU, vR v4, vI v5, vI v6, vI v7, vI v8, vI u10, vI x11, vI 1, vU, vU] [] h32) ∧ (¬ u10 ≤ 96 → Aw G mX7_run (d + 1) t h0 Φ 149 [vR v0, vR v1, vU, vU, vR v4, vI v5, vI v6, vI (v7 + 1), vI v8, vI u10, vI x11, vI 1, vU, vU] [] h32))) (fun x h => Φ (.inr x) h))))))) ∧ (u10 = 78 → ((78 < u10 → Cw G mX7_need d 0 [vR v0, vI 1] h15 (kV (fun h37 => ((u10 ≤ 96 → Aw G mX7_run (d + 1) t h0 Φ 149 [vR v0, vR v1, vU, vU, vR v4, vI v5, vI v6, vI v7, vI v8, vI u10, vI x11, vI 5, vU, vU] [] h37) ∧ (¬ u10 ≤ 96 → Aw G mX7_run (d + 1) t h0 Φ 149 [vR v0, vR v1, vU, vU, vR v4, vI v5, vI v6, vI (v7 + 1), vI v8, vI u10, vI x11, vI 5, vU, vU] [] h37))) (fun x h => Φ (.inr x) h))) ∧ (¬ 78 < u10 → ((520 < (x11 - 5) → Cw G mX7_need d 0 [vR v0, vI 0] h15 (kV (fun h42 => ((u10 ≤ 96 → Aw G mX7_run (d + 1) t h0 Φ 149 [vR v0, vR v1, vU, vU, vR v4, vI v5, vI v6, vI v7, vI v8, vI u10, vI x11, vI 5, vU, vU] [] h42) ∧ (¬ u10 ≤ 96 → Aw G mX7_run (d + 1) t h0 Φ 149 [vR v0, vR v1, vU, vU, vR v4, vI v5, vI v6, vI (v7 + 1), vI v8, vI u10, vI x11, vI 5, vU, vU] [] h42))) (fun x h => Φ (.inr x) h))) ∧ (¬ 520 < (x11 - 5) → Cw G mX7_need d 0 [vR v0, vI 1] h15 (kV (fun h46 => ((u10 ≤ 96 → Aw G mX7_run (d + 1) t h0 Φ 149 [vR v0, vR v1, vU, vU, vR v4, vI v5, vI v6, vI v7, vI v8, vI u10, vI x11, vI 5, vU, vU] [] h46) ∧ (¬ u10 ≤ 96 → Aw G mX7_run (d + 1) t h0 Φ 149 [vR v0, vR v1, vU, vU, vR v4, vI v5, vI v6, vI (v7 + 1), vI v8, vI u10, vI x11, vI 5, vU, vU] [] h46))) (fun x h => Φ (.inr x) h))))))))) ∧ (u10 = 77 → ((78 < u10 → Cw G mX7_need d 0 [vR v0, vI 1] h15 (kV (fun h51 => ((u10 ≤ 96 → Aw G mX7_run (d + 1) t h0 Φ 149 [vR v0, vR v1, vU, vU, vR v4, vI v5, vI v6, vI v7, vI v8, vI u10, vI x11, vI 3, vU, vU] [] h51) ∧ (¬ u10 ≤ 96 → Aw G mX7_run (d + 1) t h0 Φ 149 [vR v0, vR v1, vU, vU, vR v4, vI v5, vI v6, vI (v7 + 1), vI v8, vI u10, vI x11, vI 3, vU, vU] [] h51))) (fun x h => Φ (.inr x) h))) ∧ (¬ 78 < u10 → ((520 < (x11 - 3) → Cw G mX7_need d 0 [vR v0, vI 0] h15 (kV (fun h56 => ((u10 ≤ 96 → Aw G mX7_run (d + 1) t h0 Φ 149 [vR v0, vR v1, vU, vU, vR v4, vI v5, vI v6, vI v7, vI v8, vI u10, vI x11, vI 3, vU, vU] [] h56) ∧ (¬ u10 ≤ 96 → Aw G mX7_run (d + 1) t h0 Φ 149 [vR v0, vR v1, vU, vU, vR v4, vI v5, vI v6, vI (v7 + 1), vI v8, vI u10, vI x11, vI 3, vU, vU] [] h56))) (fun x h => Φ (.inr x) h))) ∧ (¬ 520 < (x11 - 3) → Cw G mX7_need d 0 [vR v0, vI 1] h15 (kV (fun h60 => ((u10 ≤ 96 → Aw G mX7_run (d + 1) t h0 Φ 149 [vR v0, vR v1, vU, vU, vR v4, vI v5, vI v6, vI v7, vI v8, vI u10, vI x11, vI 3, vU, vU] [] h60) ∧ (¬ u10 ≤ 96 → Aw G mX7_run (d + 1) t h0 Φ 149 [vR v0, vR v1, vU, vU, vR v4, vI v5, vI v6, vI (v7 + 1), vI v8, vI u10, vI x11, vI 3, vU, vU] [] h60))) (fun x h => Φ (.inr x) h))))))))) ∧ (u10 = 76 → ((78 < u10 → Cw G mX7_need d 0 [vR v0, vI 1] h15 (kV (fun h65 => ((u10 ≤ 96 → Aw G mX7_run (d + 1) t h0 Φ 149 [vR v0, vR v1, vU, vU, vR v4, vI v5, vI v6, vI v7, vI v8, vI u10, vI x11, vI 2, vU, vU] [] h65) ∧ (¬ u10 ≤ 96 → Aw G mX7_run (d + 1) t h0 Φ 149 [vR v0, vR v1, vU, vU, vR v4, vI v5, vI v6, vI (v7 + 1), vI v8, vI u10, vI x11, vI 2, vU, vU] [] h65))) (fun x h => Φ (.inr x) h))) ∧ (¬ 78 < u10 → ((520 < (x11 - 2) → Cw G mX7_need d 0 [vR v0, vI 0] h15 (kV (fun h70 => ((u10 ≤ 96 → Aw G mX7_run (d + 1) t h0 Φ 149 [vR v0, vR v1, vU, vU, vR v4, vI v5, vI v6, vI v7, vI v8, vI u10, vI x11, vI 2, vU, vU] [] h70) ∧ (¬ u10 ≤ 96 → Aw G mX7_run (d + 1) t h0 Φ 149 [vR v0, vR v1, vU, vU, vR v4, vI v5, vI v6, vI (v7 + 1), vI v8, vI u10, vI x11, vI 2, vU, vU] [] h70))) (fun x h => Φ (.inr x) h))) ∧ (¬ 520 < (x11 - 2) → Cw G mX7_need d 0 [vR v0, vI 1] h15 (kV (fun h74 => ((u10 ≤ 96 → Aw G mX7_run (d + 1) t h0 Φ 149 [vR v0, vR v1, vU, vU, vR v4, vI v5, vI v6, vI v7, vI v8, vI u10, vI x11, vI 2, vU, vU] [] h74) ∧ (¬ u10 ≤ 96 → Aw G mX7_run (d + 1) t h0 Φ 149 [vR v0, vR v1, vU, vU, vR v4, vI v5, vI v6, vI (v7 + 1), vI v8, vI u10, vI x11, vI 2, vU, vU] [] h74))) (fun x h => Φ (.inr x) h))))))))) ∧ (¬ 76 ≤ u10 → ((78 < u10 → Cw G mX7_need d 0 [vR v0, vI 1] h15 (kV (fun h79 => ((u10 ≤ 96 → Aw G mX7_run (d + 1) t h0 Φ 149 [vR v0, vR v1, vU, vU, vR v4, vI v5, vI v6, vI v7, vI v8, vI u10, vI x11, vI 1, vU, vU] [] h79) ∧ (¬ u10 ≤ 96 → Aw G mX7_run (d + 1) t h0 Φ 149 [vR v0, vR v1, vU, vU, vR v4, vI v5, vI v6, vI (v7 + 1), vI v8, vI u10, vI x11, vI 1, vU, vU] [] h79))) (fun x h => Φ (.inr x) h))) ∧ (¬ 78 < u10 → ((520 < (x11 - 1) → Cw G mX7_need d 0 [vR v0, vI 0] h15 (kV (fun h84 => ((u10 ≤ 96 → Aw G mX7_run (d + 1) t h0 Φ 149 [vR v0, vR v1, vU, vU, vR v4, vI v5, vI v6, vI v7, vI v8, vI u10, vI x11, vI 1, vU, vU] [] h84) ∧ (¬ u10 ≤ 96 → Aw G mX7_run (d + 1) t h0 Φ 149 [vR v0, vR v1, vU, vU, vR v4, vI v5, vI v6, vI (v7 + 1), vI v8, vI u10, vI x11, vI 1, vU, vU] [] h84))) (fun x h => Φ (.inr x) h))) ∧ (¬ 520 < (x11 - 1) → Cw G mX7_need d 0 [vR v0, vI 1] h15 (kV (fun h88 => ((u10 ≤ 96 → Aw G mX7_run (d + 1) t h0 Φ 149 [vR v0, vR v1, vU, vU, vR v4, vI v5, vI v6, vI v7, vI v8, vI u10, vI x11, vI 1, vU, vU] [] h88) ∧ (¬ u10 ≤ 96 → Aw G mX7_run (d + 1) t h0 Φ 149 [vR v0, vR v1, vU, vU, vR v4, vI v5, vI v6, vI (v7 + 1), vI v8, vI u10, vI x11, vI 1, vU, vU] [] h88))) (fun x h => Φ (.inr x) h))))))))) (fun x h => Φ (.inr x) h))) ∧ (¬ x11 ≤ 0 → h12.kd v0 = 7 ∧ Cw G mX7_need d 0 [vR v0, vI 1] h12 (kV (fun h92 => ((76 ≤ u10 → ((¬ u10 = 76 → ((¬ u10 = 77 → ((¬ u10 = 78 → ((78 < u10 → Cw G mX7_need d 0 [vR v0, vI 1] h92 (kV (fun h100 => ((u10 ≤ 96 → Aw G mX7_run (d + 1) t h0 Φ 149 [vR v0, vR v1, vU, vU, vR v4, vI v5, vI v6, vI v7, vI v8, vI u10, vI x11, vI 1, vU, vU] [] h100) ∧ (¬ u10 ≤ 96 → Aw G mX7_run (d + 1) t h0 Φ 149 [vR v0, vR v1, vU, vU, vR v4, vI v5, vI v6, vI (v7 + 1), vI v8, vI u10, vI x11, vI 1, vU, vU] [] h100))) (fun x h => Φ (.inr x) h))) ∧ (¬ 78 < u10 → ((520 < (x11 - 1) → Cw G mX7_need d 0 [vR v0, vI 0] h92 (kV (fun h105 => ((u10 ≤ 96 → Aw G mX7_run (d + 1) t h0 Φ 149 [vR v0, vR v1, vU, vU, vR v4, vI v5, vI v6, vI v7, vI v8, vI u10, vI x11, vI 1, vU, vU] [] h105) ∧ (¬ u10 ≤ 96 → Aw G mX7_run (d + 1) t h0 Φ 149 [vR v0, vR v1, vU, vU, vR v4, vI v5, vI v6, vI (v7 + 1), vI v8, vI u10, vI x11, vI 1, vU, vU] [] h105))) (fun x h => Φ (.inr x) h))) ∧ (¬ 520 < (x11 - 1) → Cw G mX7_need d 0 [vR v0, vI 1] h92 (kV (fun h109 => ((u10 ≤ 96 → Aw G mX7_run (d + 1) t h0 Φ 149 [vR v0, vR v1, vU, vU, vR v4, vI v5, vI v6, vI v7, vI v8, vI u10, vI x11, vI 1, vU, vU] [] h109) ∧ (¬ u10 ≤ 96 → Aw G mX7_run (d + 1) t h0 Φ 149 [vR v0, vR v1, vU, vU, vR v4, vI v5, vI v6, vI (v7 + 1), vI v8, vI u10, vI x11, vI 1, vU, vU] [] h109))) (fun x h => Φ (.inr x) h))))))) ∧ (u10 = 78 → ((78 < u10 → Cw G mX7_need d 0 [vR v0, vI 1] h92 (kV (fun h114 => ((u10 ≤ 96 → Aw G mX7_run (d + 1) t h0 Φ 149 [vR v0, vR v1, vU, vU, vR v4, vI v5, vI v6, vI v7, vI v8, vI u10, vI x11, vI 5, vU, vU] [] h114) ∧ (¬ u10 ≤ 96 → Aw G mX7_run (d + 1) t h0 Φ 149 [vR v0, vR v1, vU, vU, vR v4, vI v5, vI v6, vI (v7 + 1), vI v8, vI u10, vI x11, vI 5, vU, vU] [] h114))) (fun x h => Φ (.inr x) h))) ∧ (¬ 78 < u10 → ((520 < (x11 - 5) → Cw G mX7_need d 0 [vR v0, vI 0] h92 (kV (fun h119 => ((u10 ≤ 96 → Aw G mX7_run (d + 1) t h0 Φ 149 [vR v0, vR v1, vU, vU, vR v4, vI v5, vI v6, vI v7, vI v8, vI u10, vI x11, vI 5, vU, vU] [] h119) ∧ (¬ u10 ≤ 96 → Aw G mX7_run (d + 1) t h0 Φ 149 [vR v0, vR v1, vU, vU, vR v4, vI v5, vI v6, vI (v7 + 1), vI v8, vI u10, vI x11, vI 5, vU, vU] [] h119))) (fun x h => Φ (.inr x) h))) ∧ (¬ 520 < (x11 - 5) → Cw G mX7_need d 0 [vR v0, vI 1] h92 (kV (fun h123 => ((u10 ≤ 96 → Aw G mX7_run (d + 1) t h0 Φ 149 [vR v0, vR v1, vU, vU, vR v4, vI v5, vI v6, vI v7, vI v8, vI u10, vI x11, vI 5, vU, vU] [] h123) ∧ (¬ u10 ≤ 96 → Aw G mX7_run (d + 1) t h0 Φ 149 [vR v0, vR v1, vU, vU, vR v4, vI v5, vI v6, vI (v7 + 1), vI v8, vI u10, vI x11, vI 5, vU, vU] [] h123))) (fun x h => Φ (.inr x) h))))))))) ∧ (u10 = 77 → ((78 < u10 → Cw G mX7_need d 0 [vR v0, vI 1] h92 (kV (fun h128 => ((u10 ≤ 96 → Aw G mX7_run (d + 1) t h0 Φ 149 [vR v0, vR v1, vU, vU, vR v4, vI v5, vI v6, vI v7, vI v8, vI u10, vI x11, vI 3, vU, vU] [] h128) ∧ (¬ u10 ≤ 96 → Aw G mX7_run (d + 1) t h0 Φ 149 [vR v0, vR v1, vU, vU, vR v4, vI v5, vI v6, vI (v7 + 1), vI v8, vI u10, vI x11, vI 3, vU, vU] [] h128))) (fun x h => Φ (.inr x) h))) ∧ (¬ 78 < u10 → ((520 < (x11 - 3) → Cw G mX7_need d 0 [vR v0, vI 0] h92 (kV (fun h133 => ((u10 ≤ 96 → Aw G mX7_run (d + 1) t h0 Φ 149 [vR v0, vR v1, vU, vU, vR v4, vI v5, vI v6, vI v7, vI v8, vI u10, vI x11, vI 3, vU, vU] [] h133) ∧ (¬ u10 ≤ 96 → Aw G mX7_run (d + 1) t h0 Φ 149 [vR v0, vR v1, vU, vU, vR v4, vI v5, vI v6, vI (v7 + 1), vI v8, vI u10, vI x11, vI 3, vU, vU] [] h133))) (fun x h => Φ (.inr x) h))) ∧ (¬ 520 < (x11 - 3) → Cw G mX7_need d 0 [vR v0, vI 1] h92 (kV (fun h137 => ((u10 ≤ 96 → Aw G mX7_run (d + 1) t h0 Φ 149 [vR v0, vR v1, vU, vU, vR v4, vI v5, vI v6, vI v7, vI v8, vI u10, vI x11, vI 3, vU, vU] [] h137) ∧ (¬ u10 ≤ 96 → Aw G mX7_run (d + 1) t h0 Φ 149 [vR v0, vR v1, vU, vU, vR v4, vI v5, vI v6, vI (v7 + 1), vI v8, vI u10, vI x11, vI 3, vU, vU] [] h137))) (fun x h => Φ (.inr x) h))))))))) ∧ (u10 = 76 → ((78 < u10 → Cw G mX7_need d 0 [vR v0, vI 1] h92 (kV (fun h142 => ((u10 ≤ 96 → Aw G mX7_run (d + 1) t h0 Φ 149 [vR v0, vR v1, vU, vU, vR v4, vI v5, vI v6, vI v7, vI v8, vI u10, vI x11, vI 2, vU, vU] [] h142) ∧ (¬ u10 ≤ 96 → Aw G mX7_run (d + 1) t h0 Φ 149 [vR v0, vR v1, vU, vU, vR v4, vI v5, vI v6, vI (v7 + 1), vI v8, vI u10, vI x11, vI 2, vU, vU] [] h142))) (fun x h => Φ (.inr x) h))) ∧ (¬ 78 < u10 → ((520 < (x11 - 2) → Cw G mX7_need d 0 [vR v0, vI 0] h92 (kV (fun h147 => ((u10 ≤ 96 → Aw G mX7_run (d + 1) t h0 Φ 149 [vR v0, vR v1, vU, vU, vR v4, vI v5, vI v6, vI v7, vI v8, vI u10, vI x11, vI 2, vU, vU] [] h147) ∧ (¬ u10 ≤ 96 → Aw G mX7_run (d + 1) t h0 Φ 149 [vR v0, vR v1, vU, vU, vR v4, vI v5, vI v6, vI (v7 + 1), vI v8, vI u10, vI x11, vI 2, vU, vU] [] h147))) (fun x h => Φ (.inr x) h))) ∧ (¬ 520 < (x11 - 2) → Cw G mX7_need d 0 [vR v0, vI 1] h92 (kV (fun h151 => ((u10 ≤ 96 → Aw G mX7_run (d + 1) t h0 Φ 149 [vR v0, vR v1, vU, vU, vR v4, vI v5, vI v6, vI v7, vI v8, vI u10, vI x11, vI 2, vU, vU] [] h151) ∧ (¬ u10 ≤ 96 → Aw G mX7_run (d + 1) t h0 Φ 149 [vR v0, vR v1, vU, vU, vR v4, vI v5, vI v6, vI (v7 + 1), vI v8, vI u10, vI x11, vI 2, vU, vU] [] h151))) (fun x h => Φ (.inr x) h))))))))) ∧ (¬ 76 ≤ u10 → ((78 < u10 → Cw G mX7_need d 0 [vR v0, vI 1] h92 (kV (fun h156 => ((u10 ≤ 96 → Aw G mX7_run (d + 1) t h0 Φ 149 [vR v0, vR v1, vU, vU, vR v4, vI v5, vI v6, vI v7, vI v8, vI u10, vI x11, vI 1, vU, vU] [] h156) ∧ (¬ u10 ≤ 96 → Aw G mX7_run (d + 1) t h0 Φ 149 [vR v0, vR v1, vU, vU, vR v4, vI v5, vI v6, vI (v7 + 1), vI v8, vI u10, vI x11, vI 1, vU, vU] [] h156))) (fun x h => Φ (.inr x) h))) ∧ (¬ 78 < u10 → ((520 < (x11 - 1) → Cw G mX7_need d 0 [vR v0, vI 0] h92 (kV (fun h161 => ((u10 ≤ 96 → Aw G mX7_run (d + 1) t h0 Φ 149 [vR v0, vR v1, vU, vU, vR v4, vI v5, vI v6, vI v7, vI v8, vI u10, vI x11, vI 1, vU, vU] [] h161) ∧ (¬ u10 ≤ 96 → Aw G mX7_run (d + 1) t h0 Φ 149 [vR v0, vR v1, vU, vU, vR v4, vI v5, vI v6, vI (v7 + 1), vI v8, vI u10, vI x11, vI 1, vU, vU] [] h161))) (fun x h => Φ (.inr x) h))) ∧ (¬ 520 < (x11 - 1) → Cw G mX7_need d 0 [vR v0, vI 1] h92 (kV (fun h165 => ((u10 ≤ 96 → Aw G mX7_run (d + 1) t h0 Φ 149 [vR v0, vR v1, vU, vU, vR v4, vI v5, vI v6, vI v7, vI v8, vI u10, vI x11, vI 1, vU, vU] [] h165) ∧ (¬ u10 ≤ 96 → Aw G mX7_run (d + 1) t h0 Φ 149 [vR v0, vR v1, vU, vU, vR v4, vI v5, vI v6, vI (v7 + 1), vI v8, vI u10, vI x11, vI 1, vU, vU] [] h165))) (fun x h => Φ (.inr x) h))))))))) (fun x h => Φ (.inr x) h))))) (fun x h => Φ (.inr x) h))))) : Aw G mX7_run (d + 1) t h0 Φ 24 [vR v0, vR v1, vU, vU, vR v4, vI v5, vI v6, vI v7, vI v8, vU, vU, vU, vU, vU] [] h := by
  refine r_iload (pc := 24) dX7_run_24 rfl ?_
  refine r_iload (pc := 26) dX7_run_26 rfl ?_
  refine r_icmp_ge (pc := 28) (tgt := 422) dX7_run_28 rfl (fun c1 => ?_) (fun c1 => ?_)
  · have K := K.1 c1
    refine r_aload_n (pc := 422) dX7_run_422 rfl ?_
    refine r_aload_n (pc := 423) dX7_run_423 rfl ?_
    obtain ⟨hk2, K⟩ := K
    refine r_geti' (pc := 424) (T := TX7) 7 8 rfl hk2 (Or.inl q506) dX7_run_424 kc7 g7008 ?_
    refine r_if_ne (pc := 427) (tgt := 434) dX7_run_427 rfl (fun c3 => ?_) (fun c3 => ?_)
    · have K := K.1 c3
      refine r_iconst (pc := 434) (x := 0) dX7_run_434 rfl ?_
      refine r_callV_V (pc := 435) (Y := mX7_need) (vs := [_]) (st := []) hk2 rfl kc7 q1272 q1274 qs14 dX7_run_435 rfl cd_X7_need rfl rfl fp_X7_run_X7_need K (fun h5 eh5 wh5 K => ?_) (fun x h1 _ _ e => Tw.out rfl e)
      exact r_vret (pc := 438) rfl dX7_run_438 K
    · have K := K.2 c3
      refine r_iconst (pc := 430) (x := 1) dX7_run_430 rfl ?_
      refine r_goto (pc := 431) (tgt := 435) dX7_run_431 rfl ?_
      refine r_callV_V (pc := 435) (Y := mX7_need) (vs := [_]) (st := []) hk2 rfl kc7 q1272 q1274 qs14 dX7_run_435 rfl cd_X7_need rfl rfl fp_X7_run_X7_need K (fun h7 eh7 wh7 K => ?_) (fun x h1 _ _ e => Tw.out rfl e)
      exact r_vret (pc := 438) rfl dX7_run_438 K
  · have K := K.2 c1
    refine r_aload_n (pc := 31) dX7_run_31 rfl ?_
    refine r_iload (pc := 32) dX7_run_32 rfl ?_
    obtain ⟨hk8, K⟩ := K
    obtain ⟨hi9, K⟩ := K
    refine r_baload (pc := 34) hk8 hi9 dX7_run_34 ?_
    refine r_sipush (pc := 35) (x := 255) dX7_run_35 rfl ?_
    refine r_iand (pc := 38) dX7_run_38 ?_
    have K := K _ rfl
    refine r_istore (pc := 39) (lv' := [_, _, _, _, _, _, _, _, _, _, _, _, _, _]) dX7_run_39 (by decide) rfl ?_
    refine r_aload_n (pc := 41) dX7_run_41 rfl ?_
    refine r_iload (pc := 42) dX7_run_42 rfl ?_
    refine r_iload (pc := 44) dX7_run_44 rfl ?_
    refine r_callS_I (pc := 46) (Y := mX7_length) (vs := [_, _, _]) (st := []) q1269 q1270 q161 dX7_run_46 rfl cd_X7_length rfl rfl fp_X7_run_X7_length K (fun x11 h12 eh12 wh12 K => ?_) (fun x h1 _ _ e => Tw.out rfl e)
    refine r_istore (pc := 49) (lv' := [_, _, _, _, _, _, _, _, _, _, _, _, _, _]) dX7_run_49 (by decide) rfl ?_
    refine r_aload_n (pc := 51) dX7_run_51 rfl ?_
    refine r_iload (pc := 52) dX7_run_52 rfl ?_
    refine r_if_le (pc := 54) (tgt := 61) dX7_run_54 rfl (fun c13 => ?_) (fun c13 => ?_)
    · have K := K.1 c13
      refine r_iconst (pc := 61) (x := 0) dX7_run_61 rfl ?_
      obtain ⟨hk16, K⟩ := K
      refine r_callV_V (pc := 62) (Y := mX7_need) (vs := [_]) (st := []) hk16 rfl kc7 q1272 q1274 qs14 dX7_run_62 rfl cd_X7_need rfl rfl fp_X7_run_X7_need K (fun h15 eh15 wh15 K => ?_) (fun x h1 _ _ e => Tw.out rfl e)
      refine r_iload (pc := 65) dX7_run_65 rfl ?_
      refine r_bipush (pc := 67) (x := 76) dX7_run_67 rfl ?_
      refine r_icmp_ge (pc := 69) (tgt := 76) dX7_run_69 rfl (fun c17 => ?_) (fun c17 => ?_)
      · have K := K.1 c17
        refine r_iload (pc := 76) dX7_run_76 rfl ?_
        refine r_bipush (pc := 78) (x := 76) dX7_run_78 rfl ?_
        refine r_icmp_ne (pc := 80) (tgt := 87) dX7_run_80 rfl (fun c18 => ?_) (fun c18 => ?_)
        · have K := K.1 c18
          refine r_iload (pc := 87) dX7_run_87 rfl ?_
          refine r_bipush (pc := 89) (x := 77) dX7_run_89 rfl ?_
          refine r_icmp_ne (pc := 91) (tgt := 98) dX7_run_91 rfl (fun c19 => ?_) (fun c19 => ?_)
          · have K := K.1 c19
            refine r_iload (pc := 98) dX7_run_98 rfl ?_
            refine r_bipush (pc := 100) (x := 78) dX7_run_100 rfl ?_
            refine r_icmp_ne (pc := 102) (tgt := 109) dX7_run_102 rfl (fun c20 => ?_) (fun c20 => ?_)
            · have K := K.1 c20
              refine r_iconst (pc := 109) (x := 1) dX7_run_109 rfl ?_
              refine r_istore (pc := 110) (lv' := [_, _, _, _, _, _, _, _, _, _, _, _, _, _]) dX7_run_110 (by decide) rfl ?_
              refine r_aload_n (pc := 112) dX7_run_112 rfl ?_
              refine r_iload (pc := 113) dX7_run_113 rfl ?_
              refine r_bipush (pc := 115) (x := 78) dX7_run_115 rfl ?_
              refine r_icmp_gt (pc := 117) (tgt := 131) dX7_run_117 rfl (fun c21 => ?_) (fun c21 => ?_)
              · have K := K.1 c21
                refine r_iconst (pc := 131) (x := 1) dX7_run_131 rfl ?_
                refine r_goto (pc := 132) (tgt := 136) dX7_run_132 rfl ?_
                have hk24 := kd_ext eh15 hk16 (nz rfl)
                refine r_callV_V (pc := 136) (Y := mX7_need) (vs := [_]) (st := []) hk24 rfl kc7 q1272 q1274 qs14 dX7_run_136 rfl cd_X7_need rfl rfl fp_X7_run_X7_need K (fun h23 eh23 wh23 K => ?_) (fun x h1 _ _ e => Tw.out rfl e)
                refine r_iload (pc := 139) dX7_run_139 rfl ?_
                refine r_bipush (pc := 141) (x := 96) dX7_run_141 rfl ?_
                refine r_icmp_le (pc := 143) (tgt := 149) dX7_run_143 rfl (fun c25 => ?_) (fun c25 => ?_)
                · have K := K.1 c25
                  refine r_mask (pc := 149) [true, true, false, false, true, true, true, true, true, true, true, true, false, false] rfl ?_
                  exact K
                · have K := K.2 c25
                  refine r_iinc (pc := 146) (lv' := [_, _, _, _, _, _, _, _, _, _, _, _, _, _]) dX7_run_146 rfl rfl (by decide) rfl ?_
                  refine r_mask (pc := 149) [true, true, false, false, true, true, true, true, true, true, true, true, false, false] rfl ?_
                  exact K
              · have K := K.2 c21
                refine r_iload (pc := 120) dX7_run_120 rfl ?_
                refine r_iload (pc := 122) dX7_run_122 rfl ?_
                refine r_isub (pc := 124) dX7_run_124 ?_
                refine r_sipush (pc := 125) (x := 520) dX7_run_125 rfl ?_
                refine r_icmp_gt (pc := 128) (tgt := 135) dX7_run_128 rfl (fun c26 => ?_) (fun c26 => ?_)
                · have K := K.1 c26
                  refine r_iconst (pc := 135) (x := 0) dX7_run_135 rfl ?_
                  have hk29 := kd_ext eh15 hk16 (nz rfl)
                  refine r_callV_V (pc := 136) (Y := mX7_need) (vs := [_]) (st := []) hk29 rfl kc7 q1272 q1274 qs14 dX7_run_136 rfl cd_X7_need rfl rfl fp_X7_run_X7_need K (fun h28 eh28 wh28 K => ?_) (fun x h1 _ _ e => Tw.out rfl e)
                  refine r_iload (pc := 139) dX7_run_139 rfl ?_
                  refine r_bipush (pc := 141) (x := 96) dX7_run_141 rfl ?_
                  refine r_icmp_le (pc := 143) (tgt := 149) dX7_run_143 rfl (fun c30 => ?_) (fun c30 => ?_)
                  · have K := K.1 c30
                    refine r_mask (pc := 149) [true, true, false, false, true, true, true, true, true, true, true, true, false, false] rfl ?_
                    exact K
                  · have K := K.2 c30
                    refine r_iinc (pc := 146) (lv' := [_, _, _, _, _, _, _, _, _, _, _, _, _, _]) dX7_run_146 rfl rfl (by decide) rfl ?_
                    refine r_mask (pc := 149) [true, true, false, false, true, true, true, true, true, true, true, true, false, false] rfl ?_
                    exact K
                · have K := K.2 c26
                  refine r_iconst (pc := 131) (x := 1) dX7_run_131 rfl ?_
                  refine r_goto (pc := 132) (tgt := 136) dX7_run_132 rfl ?_
                  have hk33 := kd_ext eh15 hk16 (nz rfl)
                  refine r_callV_V (pc := 136) (Y := mX7_need) (vs := [_]) (st := []) hk33 rfl kc7 q1272 q1274 qs14 dX7_run_136 rfl cd_X7_need rfl rfl fp_X7_run_X7_need K (fun h32 eh32 wh32 K => ?_) (fun x h1 _ _ e => Tw.out rfl e)
                  refine r_iload (pc := 139) dX7_run_139 rfl ?_
                  refine r_bipush (pc := 141) (x := 96) dX7_run_141 rfl ?_
                  refine r_icmp_le (pc := 143) (tgt := 149) dX7_run_143 rfl (fun c34 => ?_) (fun c34 => ?_)
                  · have K := K.1 c34
                    refine r_mask (pc := 149) [true, true, false, false, true, true, true, true, true, true, true, true, false, false] rfl ?_
                    exact K
                  · have K := K.2 c34
                    refine r_iinc (pc := 146) (lv' := [_, _, _, _, _, _, _, _, _, _, _, _, _, _]) dX7_run_146 rfl rfl (by decide) rfl ?_
                    refine r_mask (pc := 149) [true, true, false, false, true, true, true, true, true, true, true, true, false, false] rfl ?_
                    exact K
            · have K := K.2 c20
              refine r_iconst (pc := 105) (x := 5) dX7_run_105 rfl ?_
              refine r_goto (pc := 106) (tgt := 110) dX7_run_106 rfl ?_
              refine r_istore (pc := 110) (lv' := [_, _, _, _, _, _, _, _, _, _, _, _, _, _]) dX7_run_110 (by decide) rfl ?_
              refine r_aload_n (pc := 112) dX7_run_112 rfl ?_
              refine r_iload (pc := 113) dX7_run_113 rfl ?_
              refine r_bipush (pc := 115) (x := 78) dX7_run_115 rfl ?_
              refine r_icmp_gt (pc := 117) (tgt := 131) dX7_run_117 rfl (fun c35 => ?_) (fun c35 => ?_)
              · have K := K.1 c35
                refine r_iconst (pc := 131) (x := 1) dX7_run_131 rfl ?_
                refine r_goto (pc := 132) (tgt := 136) dX7_run_132 rfl ?_
                have hk38 := kd_ext eh15 hk16 (nz rfl)
                refine r_callV_V (pc := 136) (Y := mX7_need) (vs := [_]) (st := []) hk38 rfl kc7 q1272 q1274 qs14 dX7_run_136 rfl cd_X7_need rfl rfl fp_X7_run_X7_need K (fun h37 eh37 wh37 K => ?_) (fun x h1 _ _ e => Tw.out rfl e)
                refine r_iload (pc := 139) dX7_run_139 rfl ?_
                refine r_bipush (pc := 141) (x := 96) dX7_run_141 rfl ?_
                refine r_icmp_le (pc := 143) (tgt := 149) dX7_run_143 rfl (fun c39 => ?_) (fun c39 => ?_)
                · have K := K.1 c39
                  refine r_mask (pc := 149) [true, true, false, false, true, true, true, true, true, true, true, true, false, false] rfl ?_
                  exact K
                · have K := K.2 c39
                  refine r_iinc (pc := 146) (lv' := [_, _, _, _, _, _, _, _, _, _, _, _, _, _]) dX7_run_146 rfl rfl (by decide) rfl ?_
                  refine r_mask (pc := 149) [true, true, false, false, true, true, true, true, true, true, true, true, false, false] rfl ?_
                  exact K
              · have K := K.2 c35
                refine r_iload (pc := 120) dX7_run_120 rfl ?_
                refine r_iload (pc := 122) dX7_run_122 rfl ?_
                refine r_isub (pc := 124) dX7_run_124 ?_
                refine r_sipush (pc := 125) (x := 520) dX7_run_125 rfl ?_
                refine r_icmp_gt (pc := 128) (tgt := 135) dX7_run_128 rfl (fun c40 => ?_) (fun c40 => ?_)
                · have K := K.1 c40
                  refine r_iconst (pc := 135) (x := 0) dX7_run_135 rfl ?_
                  have hk43 := kd_ext eh15 hk16 (nz rfl)
                  refine r_callV_V (pc := 136) (Y := mX7_need) (vs := [_]) (st := []) hk43 rfl kc7 q1272 q1274 qs14 dX7_run_136 rfl cd_X7_need rfl rfl fp_X7_run_X7_need K (fun h42 eh42 wh42 K => ?_) (fun x h1 _ _ e => Tw.out rfl e)
                  refine r_iload (pc := 139) dX7_run_139 rfl ?_
                  refine r_bipush (pc := 141) (x := 96) dX7_run_141 rfl ?_
                  refine r_icmp_le (pc := 143) (tgt := 149) dX7_run_143 rfl (fun c44 => ?_) (fun c44 => ?_)
                  · have K := K.1 c44
                    refine r_mask (pc := 149) [true, true, false, false, true, true, true, true, true, true, true, true, false, false] rfl ?_
                    exact K
                  · have K := K.2 c44
                    refine r_iinc (pc := 146) (lv' := [_, _, _, _, _, _, _, _, _, _, _, _, _, _]) dX7_run_146 rfl rfl (by decide) rfl ?_
                    refine r_mask (pc := 149) [true, true, false, false, true, true, true, true, true, true, true, true, false, false] rfl ?_
                    exact K
                · have K := K.2 c40
                  refine r_iconst (pc := 131) (x := 1) dX7_run_131 rfl ?_
                  refine r_goto (pc := 132) (tgt := 136) dX7_run_132 rfl ?_
                  have hk47 := kd_ext eh15 hk16 (nz rfl)
                  refine r_callV_V (pc := 136) (Y := mX7_need) (vs := [_]) (st := []) hk47 rfl kc7 q1272 q1274 qs14 dX7_run_136 rfl cd_X7_need rfl rfl fp_X7_run_X7_need K (fun h46 eh46 wh46 K => ?_) (fun x h1 _ _ e => Tw.out rfl e)
                  refine r_iload (pc := 139) dX7_run_139 rfl ?_
                  refine r_bipush (pc := 141) (x := 96) dX7_run_141 rfl ?_
                  refine r_icmp_le (pc := 143) (tgt := 149) dX7_run_143 rfl (fun c48 => ?_) (fun c48 => ?_)
                  · have K := K.1 c48
                    refine r_mask (pc := 149) [true, true, false, false, true, true, true, true, true, true, true, true, false, false] rfl ?_
                    exact K
                  · have K := K.2 c48
                    refine r_iinc (pc := 146) (lv' := [_, _, _, _, _, _, _, _, _, _, _, _, _, _]) dX7_run_146 rfl rfl (by decide) rfl ?_
                    refine r_mask (pc := 149) [true, true, false, false, true, true, true, true, true, true, true, true, false, false] rfl ?_
                    exact K
          · have K := K.2 c19
            refine r_iconst (pc := 94) (x := 3) dX7_run_94 rfl ?_
            refine r_goto (pc := 95) (tgt := 110) dX7_run_95 rfl ?_
            refine r_istore (pc := 110) (lv' := [_, _, _, _, _, _, _, _, _, _, _, _, _, _]) dX7_run_110 (by decide) rfl ?_
            refine r_aload_n (pc := 112) dX7_run_112 rfl ?_
            refine r_iload (pc := 113) dX7_run_113 rfl ?_
            refine r_bipush (pc := 115) (x := 78) dX7_run_115 rfl ?_
            refine r_icmp_gt (pc := 117) (tgt := 131) dX7_run_117 rfl (fun c49 => ?_) (fun c49 => ?_)
            · have K := K.1 c49
              refine r_iconst (pc := 131) (x := 1) dX7_run_131 rfl ?_
              refine r_goto (pc := 132) (tgt := 136) dX7_run_132 rfl ?_
              have hk52 := kd_ext eh15 hk16 (nz rfl)
              refine r_callV_V (pc := 136) (Y := mX7_need) (vs := [_]) (st := []) hk52 rfl kc7 q1272 q1274 qs14 dX7_run_136 rfl cd_X7_need rfl rfl fp_X7_run_X7_need K (fun h51 eh51 wh51 K => ?_) (fun x h1 _ _ e => Tw.out rfl e)
              refine r_iload (pc := 139) dX7_run_139 rfl ?_
              refine r_bipush (pc := 141) (x := 96) dX7_run_141 rfl ?_
              refine r_icmp_le (pc := 143) (tgt := 149) dX7_run_143 rfl (fun c53 => ?_) (fun c53 => ?_)
              · have K := K.1 c53
                refine r_mask (pc := 149) [true, true, false, false, true, true, true, true, true, true, true, true, false, false] rfl ?_
                exact K
              · have K := K.2 c53
                refine r_iinc (pc := 146) (lv' := [_, _, _, _, _, _, _, _, _, _, _, _, _, _]) dX7_run_146 rfl rfl (by decide) rfl ?_
                refine r_mask (pc := 149) [true, true, false, false, true, true, true, true, true, true, true, true, false, false] rfl ?_
                exact K
            · have K := K.2 c49
              refine r_iload (pc := 120) dX7_run_120 rfl ?_
              refine r_iload (pc := 122) dX7_run_122 rfl ?_
              refine r_isub (pc := 124) dX7_run_124 ?_
              refine r_sipush (pc := 125) (x := 520) dX7_run_125 rfl ?_
              refine r_icmp_gt (pc := 128) (tgt := 135) dX7_run_128 rfl (fun c54 => ?_) (fun c54 => ?_)
              · have K := K.1 c54
                refine r_iconst (pc := 135) (x := 0) dX7_run_135 rfl ?_
                have hk57 := kd_ext eh15 hk16 (nz rfl)
                refine r_callV_V (pc := 136) (Y := mX7_need) (vs := [_]) (st := []) hk57 rfl kc7 q1272 q1274 qs14 dX7_run_136 rfl cd_X7_need rfl rfl fp_X7_run_X7_need K (fun h56 eh56 wh56 K => ?_) (fun x h1 _ _ e => Tw.out rfl e)
                refine r_iload (pc := 139) dX7_run_139 rfl ?_
                refine r_bipush (pc := 141) (x := 96) dX7_run_141 rfl ?_
                refine r_icmp_le (pc := 143) (tgt := 149) dX7_run_143 rfl (fun c58 => ?_) (fun c58 => ?_)
                · have K := K.1 c58
                  refine r_mask (pc := 149) [true, true, false, false, true, true, true, true, true, true, true, true, false, false] rfl ?_
                  exact K
                · have K := K.2 c58
                  refine r_iinc (pc := 146) (lv' := [_, _, _, _, _, _, _, _, _, _, _, _, _, _]) dX7_run_146 rfl rfl (by decide) rfl ?_
                  refine r_mask (pc := 149) [true, true, false, false, true, true, true, true, true, true, true, true, false, false] rfl ?_
                  exact K
              · have K := K.2 c54
                refine r_iconst (pc := 131) (x := 1) dX7_run_131 rfl ?_
                refine r_goto (pc := 132) (tgt := 136) dX7_run_132 rfl ?_
                have hk61 := kd_ext eh15 hk16 (nz rfl)
                refine r_callV_V (pc := 136) (Y := mX7_need) (vs := [_]) (st := []) hk61 rfl kc7 q1272 q1274 qs14 dX7_run_136 rfl cd_X7_need rfl rfl fp_X7_run_X7_need K (fun h60 eh60 wh60 K => ?_) (fun x h1 _ _ e => Tw.out rfl e)
                refine r_iload (pc := 139) dX7_run_139 rfl ?_
                refine r_bipush (pc := 141) (x := 96) dX7_run_141 rfl ?_
                refine r_icmp_le (pc := 143) (tgt := 149) dX7_run_143 rfl (fun c62 => ?_) (fun c62 => ?_)
                · have K := K.1 c62
                  refine r_mask (pc := 149) [true, true, false, false, true, true, true, true, true, true, true, true, false, false] rfl ?_
                  exact K
                · have K := K.2 c62
                  refine r_iinc (pc := 146) (lv' := [_, _, _, _, _, _, _, _, _, _, _, _, _, _]) dX7_run_146 rfl rfl (by decide) rfl ?_
                  refine r_mask (pc := 149) [true, true, false, false, true, true, true, true, true, true, true, true, false, false] rfl ?_
                  exact K
        · have K := K.2 c18
          refine r_iconst (pc := 83) (x := 2) dX7_run_83 rfl ?_
          refine r_goto (pc := 84) (tgt := 110) dX7_run_84 rfl ?_
          refine r_istore (pc := 110) (lv' := [_, _, _, _, _, _, _, _, _, _, _, _, _, _]) dX7_run_110 (by decide) rfl ?_
          refine r_aload_n (pc := 112) dX7_run_112 rfl ?_
          refine r_iload (pc := 113) dX7_run_113 rfl ?_
          refine r_bipush (pc := 115) (x := 78) dX7_run_115 rfl ?_
          refine r_icmp_gt (pc := 117) (tgt := 131) dX7_run_117 rfl (fun c63 => ?_) (fun c63 => ?_)
          · have K := K.1 c63
            refine r_iconst (pc := 131) (x := 1) dX7_run_131 rfl ?_
            refine r_goto (pc := 132) (tgt := 136) dX7_run_132 rfl ?_
            have hk66 := kd_ext eh15 hk16 (nz rfl)
            refine r_callV_V (pc := 136) (Y := mX7_need) (vs := [_]) (st := []) hk66 rfl kc7 q1272 q1274 qs14 dX7_run_136 rfl cd_X7_need rfl rfl fp_X7_run_X7_need K (fun h65 eh65 wh65 K => ?_) (fun x h1 _ _ e => Tw.out rfl e)
            refine r_iload (pc := 139) dX7_run_139 rfl ?_
            refine r_bipush (pc := 141) (x := 96) dX7_run_141 rfl ?_
            refine r_icmp_le (pc := 143) (tgt := 149) dX7_run_143 rfl (fun c67 => ?_) (fun c67 => ?_)
            · have K := K.1 c67
              refine r_mask (pc := 149) [true, true, false, false, true, true, true, true, true, true, true, true, false, false] rfl ?_
              exact K
            · have K := K.2 c67
              refine r_iinc (pc := 146) (lv' := [_, _, _, _, _, _, _, _, _, _, _, _, _, _]) dX7_run_146 rfl rfl (by decide) rfl ?_
              refine r_mask (pc := 149) [true, true, false, false, true, true, true, true, true, true, true, true, false, false] rfl ?_
              exact K
          · have K := K.2 c63
            refine r_iload (pc := 120) dX7_run_120 rfl ?_
            refine r_iload (pc := 122) dX7_run_122 rfl ?_
            refine r_isub (pc := 124) dX7_run_124 ?_
            refine r_sipush (pc := 125) (x := 520) dX7_run_125 rfl ?_
            refine r_icmp_gt (pc := 128) (tgt := 135) dX7_run_128 rfl (fun c68 => ?_) (fun c68 => ?_)
            · have K := K.1 c68
              refine r_iconst (pc := 135) (x := 0) dX7_run_135 rfl ?_
              have hk71 := kd_ext eh15 hk16 (nz rfl)
              refine r_callV_V (pc := 136) (Y := mX7_need) (vs := [_]) (st := []) hk71 rfl kc7 q1272 q1274 qs14 dX7_run_136 rfl cd_X7_need rfl rfl fp_X7_run_X7_need K (fun h70 eh70 wh70 K => ?_) (fun x h1 _ _ e => Tw.out rfl e)
              refine r_iload (pc := 139) dX7_run_139 rfl ?_
              refine r_bipush (pc := 141) (x := 96) dX7_run_141 rfl ?_
              refine r_icmp_le (pc := 143) (tgt := 149) dX7_run_143 rfl (fun c72 => ?_) (fun c72 => ?_)
              · have K := K.1 c72
                refine r_mask (pc := 149) [true, true, false, false, true, true, true, true, true, true, true, true, false, false] rfl ?_
                exact K
              · have K := K.2 c72
                refine r_iinc (pc := 146) (lv' := [_, _, _, _, _, _, _, _, _, _, _, _, _, _]) dX7_run_146 rfl rfl (by decide) rfl ?_
                refine r_mask (pc := 149) [true, true, false, false, true, true, true, true, true, true, true, true, false, false] rfl ?_
                exact K
            · have K := K.2 c68
              refine r_iconst (pc := 131) (x := 1) dX7_run_131 rfl ?_
              refine r_goto (pc := 132) (tgt := 136) dX7_run_132 rfl ?_
              have hk75 := kd_ext eh15 hk16 (nz rfl)
              refine r_callV_V (pc := 136) (Y := mX7_need) (vs := [_]) (st := []) hk75 rfl kc7 q1272 q1274 qs14 dX7_run_136 rfl cd_X7_need rfl rfl fp_X7_run_X7_need K (fun h74 eh74 wh74 K => ?_) (fun x h1 _ _ e => Tw.out rfl e)
              refine r_iload (pc := 139) dX7_run_139 rfl ?_
              refine r_bipush (pc := 141) (x := 96) dX7_run_141 rfl ?_
              refine r_icmp_le (pc := 143) (tgt := 149) dX7_run_143 rfl (fun c76 => ?_) (fun c76 => ?_)
              · have K := K.1 c76
                refine r_mask (pc := 149) [true, true, false, false, true, true, true, true, true, true, true, true, false, false] rfl ?_
                exact K
              · have K := K.2 c76
                refine r_iinc (pc := 146) (lv' := [_, _, _, _, _, _, _, _, _, _, _, _, _, _]) dX7_run_146 rfl rfl (by decide) rfl ?_
                refine r_mask (pc := 149) [true, true, false, false, true, true, true, true, true, true, true, true, false, false] rfl ?_
                exact K
      · have K := K.2 c17
        refine r_iconst (pc := 72) (x := 1) dX7_run_72 rfl ?_
        refine r_goto (pc := 73) (tgt := 110) dX7_run_73 rfl ?_
        refine r_istore (pc := 110) (lv' := [_, _, _, _, _, _, _, _, _, _, _, _, _, _]) dX7_run_110 (by decide) rfl ?_
        refine r_aload_n (pc := 112) dX7_run_112 rfl ?_
        refine r_iload (pc := 113) dX7_run_113 rfl ?_
        refine r_bipush (pc := 115) (x := 78) dX7_run_115 rfl ?_
        refine r_icmp_gt (pc := 117) (tgt := 131) dX7_run_117 rfl (fun c77 => ?_) (fun c77 => ?_)
        · have K := K.1 c77
          refine r_iconst (pc := 131) (x := 1) dX7_run_131 rfl ?_
          refine r_goto (pc := 132) (tgt := 136) dX7_run_132 rfl ?_
          have hk80 := kd_ext eh15 hk16 (nz rfl)
          refine r_callV_V (pc := 136) (Y := mX7_need) (vs := [_]) (st := []) hk80 rfl kc7 q1272 q1274 qs14 dX7_run_136 rfl cd_X7_need rfl rfl fp_X7_run_X7_need K (fun h79 eh79 wh79 K => ?_) (fun x h1 _ _ e => Tw.out rfl e)
          refine r_iload (pc := 139) dX7_run_139 rfl ?_
          refine r_bipush (pc := 141) (x := 96) dX7_run_141 rfl ?_
          refine r_icmp_le (pc := 143) (tgt := 149) dX7_run_143 rfl (fun c81 => ?_) (fun c81 => ?_)
          · have K := K.1 c81
            refine r_mask (pc := 149) [true, true, false, false, true, true, true, true, true, true, true, true, false, false] rfl ?_
            exact K
          · have K := K.2 c81
            refine r_iinc (pc := 146) (lv' := [_, _, _, _, _, _, _, _, _, _, _, _, _, _]) dX7_run_146 rfl rfl (by decide) rfl ?_
            refine r_mask (pc := 149) [true, true, false, false, true, true, true, true, true, true, true, true, false, false] rfl ?_
            exact K
        · have K := K.2 c77
          refine r_iload (pc := 120) dX7_run_120 rfl ?_
          refine r_iload (pc := 122) dX7_run_122 rfl ?_
          refine r_isub (pc := 124) dX7_run_124 ?_
          refine r_sipush (pc := 125) (x := 520) dX7_run_125 rfl ?_
          refine r_icmp_gt (pc := 128) (tgt := 135) dX7_run_128 rfl (fun c82 => ?_) (fun c82 => ?_)
          · have K := K.1 c82
            refine r_iconst (pc := 135) (x := 0) dX7_run_135 rfl ?_
            have hk85 := kd_ext eh15 hk16 (nz rfl)
            refine r_callV_V (pc := 136) (Y := mX7_need) (vs := [_]) (st := []) hk85 rfl kc7 q1272 q1274 qs14 dX7_run_136 rfl cd_X7_need rfl rfl fp_X7_run_X7_need K (fun h84 eh84 wh84 K => ?_) (fun x h1 _ _ e => Tw.out rfl e)
            refine r_iload (pc := 139) dX7_run_139 rfl ?_
            refine r_bipush (pc := 141) (x := 96) dX7_run_141 rfl ?_
            refine r_icmp_le (pc := 143) (tgt := 149) dX7_run_143 rfl (fun c86 => ?_) (fun c86 => ?_)
            · have K := K.1 c86
              refine r_mask (pc := 149) [true, true, false, false, true, true, true, true, true, true, true, true, false, false] rfl ?_
              exact K
            · have K := K.2 c86
              refine r_iinc (pc := 146) (lv' := [_, _, _, _, _, _, _, _, _, _, _, _, _, _]) dX7_run_146 rfl rfl (by decide) rfl ?_
              refine r_mask (pc := 149) [true, true, false, false, true, true, true, true, true, true, true, true, false, false] rfl ?_
              exact K
          · have K := K.2 c82
            refine r_iconst (pc := 131) (x := 1) dX7_run_131 rfl ?_
            refine r_goto (pc := 132) (tgt := 136) dX7_run_132 rfl ?_
            have hk89 := kd_ext eh15 hk16 (nz rfl)
            refine r_callV_V (pc := 136) (Y := mX7_need) (vs := [_]) (st := []) hk89 rfl kc7 q1272 q1274 qs14 dX7_run_136 rfl cd_X7_need rfl rfl fp_X7_run_X7_need K (fun h88 eh88 wh88 K => ?_) (fun x h1 _ _ e => Tw.out rfl e)
            refine r_iload (pc := 139) dX7_run_139 rfl ?_
            refine r_bipush (pc := 141) (x := 96) dX7_run_141 rfl ?_
            refine r_icmp_le (pc := 143) (tgt := 149) dX7_run_143 rfl (fun c90 => ?_) (fun c90 => ?_)
            · have K := K.1 c90
              refine r_mask (pc := 149) [true, true, false, false, true, true, true, true, true, true, true, true, false, false] rfl ?_
              exact K
            · have K := K.2 c90
              refine r_iinc (pc := 146) (lv' := [_, _, _, _, _, _, _, _, _, _, _, _, _, _]) dX7_run_146 rfl rfl (by decide) rfl ?_
              refine r_mask (pc := 149) [true, true, false, false, true, true, true, true, true, true, true, true, false, false] rfl ?_
              exact K
    · have K := K.2 c13
      refine r_iconst (pc := 57) (x := 1) dX7_run_57 rfl ?_
      refine r_goto (pc := 58) (tgt := 62) dX7_run_58 rfl ?_
      obtain ⟨hk93, K⟩ := K
      refine r_callV_V (pc := 62) (Y := mX7_need) (vs := [_]) (st := []) hk93 rfl kc7 q1272 q1274 qs14 dX7_run_62 rfl cd_X7_need rfl rfl fp_X7_run_X7_need K (fun h92 eh92 wh92 K => ?_) (fun x h1 _ _ e => Tw.out rfl e)
      refine r_iload (pc := 65) dX7_run_65 rfl ?_
      refine r_bipush (pc := 67) (x := 76) dX7_run_67 rfl ?_
      refine r_icmp_ge (pc := 69) (tgt := 76) dX7_run_69 rfl (fun c94 => ?_) (fun c94 => ?_)
      · have K := K.1 c94
        refine r_iload (pc := 76) dX7_run_76 rfl ?_
        refine r_bipush (pc := 78) (x := 76) dX7_run_78 rfl ?_
        refine r_icmp_ne (pc := 80) (tgt := 87) dX7_run_80 rfl (fun c95 => ?_) (fun c95 => ?_)
        · have K := K.1 c95
          refine r_iload (pc := 87) dX7_run_87 rfl ?_
          refine r_bipush (pc := 89) (x := 77) dX7_run_89 rfl ?_
          refine r_icmp_ne (pc := 91) (tgt := 98) dX7_run_91 rfl (fun c96 => ?_) (fun c96 => ?_)
          · have K := K.1 c96
            refine r_iload (pc := 98) dX7_run_98 rfl ?_
            refine r_bipush (pc := 100) (x := 78) dX7_run_100 rfl ?_
            refine r_icmp_ne (pc := 102) (tgt := 109) dX7_run_102 rfl (fun c97 => ?_) (fun c97 => ?_)
            · have K := K.1 c97
              refine r_iconst (pc := 109) (x := 1) dX7_run_109 rfl ?_
              refine r_istore (pc := 110) (lv' := [_, _, _, _, _, _, _, _, _, _, _, _, _, _]) dX7_run_110 (by decide) rfl ?_
              refine r_aload_n (pc := 112) dX7_run_112 rfl ?_
              refine r_iload (pc := 113) dX7_run_113 rfl ?_
              refine r_bipush (pc := 115) (x := 78) dX7_run_115 rfl ?_
              refine r_icmp_gt (pc := 117) (tgt := 131) dX7_run_117 rfl (fun c98 => ?_) (fun c98 => ?_)
              · have K := K.1 c98
                refine r_iconst (pc := 131) (x := 1) dX7_run_131 rfl ?_
                refine r_goto (pc := 132) (tgt := 136) dX7_run_132 rfl ?_
                have hk101 := kd_ext eh92 hk93 (nz rfl)
                refine r_callV_V (pc := 136) (Y := mX7_need) (vs := [_]) (st := []) hk101 rfl kc7 q1272 q1274 qs14 dX7_run_136 rfl cd_X7_need rfl rfl fp_X7_run_X7_need K (fun h100 eh100 wh100 K => ?_) (fun x h1 _ _ e => Tw.out rfl e)
                refine r_iload (pc := 139) dX7_run_139 rfl ?_
                refine r_bipush (pc := 141) (x := 96) dX7_run_141 rfl ?_
                refine r_icmp_le (pc := 143) (tgt := 149) dX7_run_143 rfl (fun c102 => ?_) (fun c102 => ?_)
                · have K := K.1 c102
                  refine r_mask (pc := 149) [true, true, false, false, true, true, true, true, true, true, true, true, false, false] rfl ?_
                  exact K
                · have K := K.2 c102
                  refine r_iinc (pc := 146) (lv' := [_, _, _, _, _, _, _, _, _, _, _, _, _, _]) dX7_run_146 rfl rfl (by decide) rfl ?_
                  refine r_mask (pc := 149) [true, true, false, false, true, true, true, true, true, true, true, true, false, false] rfl ?_
                  exact K
              · have K := K.2 c98
                refine r_iload (pc := 120) dX7_run_120 rfl ?_
                refine r_iload (pc := 122) dX7_run_122 rfl ?_
                refine r_isub (pc := 124) dX7_run_124 ?_
                refine r_sipush (pc := 125) (x := 520) dX7_run_125 rfl ?_
                refine r_icmp_gt (pc := 128) (tgt := 135) dX7_run_128 rfl (fun c103 => ?_) (fun c103 => ?_)
                · have K := K.1 c103
                  refine r_iconst (pc := 135) (x := 0) dX7_run_135 rfl ?_
                  have hk106 := kd_ext eh92 hk93 (nz rfl)
                  refine r_callV_V (pc := 136) (Y := mX7_need) (vs := [_]) (st := []) hk106 rfl kc7 q1272 q1274 qs14 dX7_run_136 rfl cd_X7_need rfl rfl fp_X7_run_X7_need K (fun h105 eh105 wh105 K => ?_) (fun x h1 _ _ e => Tw.out rfl e)
                  refine r_iload (pc := 139) dX7_run_139 rfl ?_
                  refine r_bipush (pc := 141) (x := 96) dX7_run_141 rfl ?_
                  refine r_icmp_le (pc := 143) (tgt := 149) dX7_run_143 rfl (fun c107 => ?_) (fun c107 => ?_)
                  · have K := K.1 c107
                    refine r_mask (pc := 149) [true, true, false, false, true, true, true, true, true, true, true, true, false, false] rfl ?_
                    exact K
                  · have K := K.2 c107
                    refine r_iinc (pc := 146) (lv' := [_, _, _, _, _, _, _, _, _, _, _, _, _, _]) dX7_run_146 rfl rfl (by decide) rfl ?_
                    refine r_mask (pc := 149) [true, true, false, false, true, true, true, true, true, true, true, true, false, false] rfl ?_
                    exact K
                · have K := K.2 c103
                  refine r_iconst (pc := 131) (x := 1) dX7_run_131 rfl ?_
                  refine r_goto (pc := 132) (tgt := 136) dX7_run_132 rfl ?_
                  have hk110 := kd_ext eh92 hk93 (nz rfl)
                  refine r_callV_V (pc := 136) (Y := mX7_need) (vs := [_]) (st := []) hk110 rfl kc7 q1272 q1274 qs14 dX7_run_136 rfl cd_X7_need rfl rfl fp_X7_run_X7_need K (fun h109 eh109 wh109 K => ?_) (fun x h1 _ _ e => Tw.out rfl e)
                  refine r_iload (pc := 139) dX7_run_139 rfl ?_
                  refine r_bipush (pc := 141) (x := 96) dX7_run_141 rfl ?_
                  refine r_icmp_le (pc := 143) (tgt := 149) dX7_run_143 rfl (fun c111 => ?_) (fun c111 => ?_)
                  · have K := K.1 c111
                    refine r_mask (pc := 149) [true, true, false, false, true, true, true, true, true, true, true, true, false, false] rfl ?_
                    exact K
                  · have K := K.2 c111
                    refine r_iinc (pc := 146) (lv' := [_, _, _, _, _, _, _, _, _, _, _, _, _, _]) dX7_run_146 rfl rfl (by decide) rfl ?_
                    refine r_mask (pc := 149) [true, true, false, false, true, true, true, true, true, true, true, true, false, false] rfl ?_
                    exact K
            · have K := K.2 c97
              refine r_iconst (pc := 105) (x := 5) dX7_run_105 rfl ?_
              refine r_goto (pc := 106) (tgt := 110) dX7_run_106 rfl ?_
              refine r_istore (pc := 110) (lv' := [_, _, _, _, _, _, _, _, _, _, _, _, _, _]) dX7_run_110 (by decide) rfl ?_
              refine r_aload_n (pc := 112) dX7_run_112 rfl ?_
              refine r_iload (pc := 113) dX7_run_113 rfl ?_
              refine r_bipush (pc := 115) (x := 78) dX7_run_115 rfl ?_
              refine r_icmp_gt (pc := 117) (tgt := 131) dX7_run_117 rfl (fun c112 => ?_) (fun c112 => ?_)
              · have K := K.1 c112
                refine r_iconst (pc := 131) (x := 1) dX7_run_131 rfl ?_
                refine r_goto (pc := 132) (tgt := 136) dX7_run_132 rfl ?_
                have hk115 := kd_ext eh92 hk93 (nz rfl)
                refine r_callV_V (pc := 136) (Y := mX7_need) (vs := [_]) (st := []) hk115 rfl kc7 q1272 q1274 qs14 dX7_run_136 rfl cd_X7_need rfl rfl fp_X7_run_X7_need K (fun h114 eh114 wh114 K => ?_) (fun x h1 _ _ e => Tw.out rfl e)
                refine r_iload (pc := 139) dX7_run_139 rfl ?_
                refine r_bipush (pc := 141) (x := 96) dX7_run_141 rfl ?_
                refine r_icmp_le (pc := 143) (tgt := 149) dX7_run_143 rfl (fun c116 => ?_) (fun c116 => ?_)
                · have K := K.1 c116
                  refine r_mask (pc := 149) [true, true, false, false, true, true, true, true, true, true, true, true, false, false] rfl ?_
                  exact K
                · have K := K.2 c116
                  refine r_iinc (pc := 146) (lv' := [_, _, _, _, _, _, _, _, _, _, _, _, _, _]) dX7_run_146 rfl rfl (by decide) rfl ?_
                  refine r_mask (pc := 149) [true, true, false, false, true, true, true, true, true, true, true, true, false, false] rfl ?_
                  exact K
              · have K := K.2 c112
                refine r_iload (pc := 120) dX7_run_120 rfl ?_
                refine r_iload (pc := 122) dX7_run_122 rfl ?_
                refine r_isub (pc := 124) dX7_run_124 ?_
                refine r_sipush (pc := 125) (x := 520) dX7_run_125 rfl ?_
                refine r_icmp_gt (pc := 128) (tgt := 135) dX7_run_128 rfl (fun c117 => ?_) (fun c117 => ?_)
                · have K := K.1 c117
                  refine r_iconst (pc := 135) (x := 0) dX7_run_135 rfl ?_
                  have hk120 := kd_ext eh92 hk93 (nz rfl)
                  refine r_callV_V (pc := 136) (Y := mX7_need) (vs := [_]) (st := []) hk120 rfl kc7 q1272 q1274 qs14 dX7_run_136 rfl cd_X7_need rfl rfl fp_X7_run_X7_need K (fun h119 eh119 wh119 K => ?_) (fun x h1 _ _ e => Tw.out rfl e)
                  refine r_iload (pc := 139) dX7_run_139 rfl ?_
                  refine r_bipush (pc := 141) (x := 96) dX7_run_141 rfl ?_
                  refine r_icmp_le (pc := 143) (tgt := 149) dX7_run_143 rfl (fun c121 => ?_) (fun c121 => ?_)
                  · have K := K.1 c121
                    refine r_mask (pc := 149) [true, true, false, false, true, true, true, true, true, true, true, true, false, false] rfl ?_
                    exact K
                  · have K := K.2 c121
                    refine r_iinc (pc := 146) (lv' := [_, _, _, _, _, _, _, _, _, _, _, _, _, _]) dX7_run_146 rfl rfl (by decide) rfl ?_
                    refine r_mask (pc := 149) [true, true, false, false, true, true, true, true, true, true, true, true, false, false] rfl ?_
                    exact K
                · have K := K.2 c117
                  refine r_iconst (pc := 131) (x := 1) dX7_run_131 rfl ?_
                  refine r_goto (pc := 132) (tgt := 136) dX7_run_132 rfl ?_
                  have hk124 := kd_ext eh92 hk93 (nz rfl)
                  refine r_callV_V (pc := 136) (Y := mX7_need) (vs := [_]) (st := []) hk124 rfl kc7 q1272 q1274 qs14 dX7_run_136 rfl cd_X7_need rfl rfl fp_X7_run_X7_need K (fun h123 eh123 wh123 K => ?_) (fun x h1 _ _ e => Tw.out rfl e)
                  refine r_iload (pc := 139) dX7_run_139 rfl ?_
                  refine r_bipush (pc := 141) (x := 96) dX7_run_141 rfl ?_
                  refine r_icmp_le (pc := 143) (tgt := 149) dX7_run_143 rfl (fun c125 => ?_) (fun c125 => ?_)
                  · have K := K.1 c125
                    refine r_mask (pc := 149) [true, true, false, false, true, true, true, true, true, true, true, true, false, false] rfl ?_
                    exact K
                  · have K := K.2 c125
                    refine r_iinc (pc := 146) (lv' := [_, _, _, _, _, _, _, _, _, _, _, _, _, _]) dX7_run_146 rfl rfl (by decide) rfl ?_
                    refine r_mask (pc := 149) [true, true, false, false, true, true, true, true, true, true, true, true, false, false] rfl ?_
                    exact K
          · have K := K.2 c96
            refine r_iconst (pc := 94) (x := 3) dX7_run_94 rfl ?_
            refine r_goto (pc := 95) (tgt := 110) dX7_run_95 rfl ?_
            refine r_istore (pc := 110) (lv' := [_, _, _, _, _, _, _, _, _, _, _, _, _, _]) dX7_run_110 (by decide) rfl ?_
            refine r_aload_n (pc := 112) dX7_run_112 rfl ?_
            refine r_iload (pc := 113) dX7_run_113 rfl ?_
            refine r_bipush (pc := 115) (x := 78) dX7_run_115 rfl ?_
            refine r_icmp_gt (pc := 117) (tgt := 131) dX7_run_117 rfl (fun c126 => ?_) (fun c126 => ?_)
            · have K := K.1 c126
              refine r_iconst (pc := 131) (x := 1) dX7_run_131 rfl ?_
              refine r_goto (pc := 132) (tgt := 136) dX7_run_132 rfl ?_
              have hk129 := kd_ext eh92 hk93 (nz rfl)
              refine r_callV_V (pc := 136) (Y := mX7_need) (vs := [_]) (st := []) hk129 rfl kc7 q1272 q1274 qs14 dX7_run_136 rfl cd_X7_need rfl rfl fp_X7_run_X7_need K (fun h128 eh128 wh128 K => ?_) (fun x h1 _ _ e => Tw.out rfl e)
              refine r_iload (pc := 139) dX7_run_139 rfl ?_
              refine r_bipush (pc := 141) (x := 96) dX7_run_141 rfl ?_
              refine r_icmp_le (pc := 143) (tgt := 149) dX7_run_143 rfl (fun c130 => ?_) (fun c130 => ?_)
              · have K := K.1 c130
                refine r_mask (pc := 149) [true, true, false, false, true, true, true, true, true, true, true, true, false, false] rfl ?_
                exact K
              · have K := K.2 c130
                refine r_iinc (pc := 146) (lv' := [_, _, _, _, _, _, _, _, _, _, _, _, _, _]) dX7_run_146 rfl rfl (by decide) rfl ?_
                refine r_mask (pc := 149) [true, true, false, false, true, true, true, true, true, true, true, true, false, false] rfl ?_
                exact K
            · have K := K.2 c126
              refine r_iload (pc := 120) dX7_run_120 rfl ?_
              refine r_iload (pc := 122) dX7_run_122 rfl ?_
              refine r_isub (pc := 124) dX7_run_124 ?_
              refine r_sipush (pc := 125) (x := 520) dX7_run_125 rfl ?_
              refine r_icmp_gt (pc := 128) (tgt := 135) dX7_run_128 rfl (fun c131 => ?_) (fun c131 => ?_)
              · have K := K.1 c131
                refine r_iconst (pc := 135) (x := 0) dX7_run_135 rfl ?_
                have hk134 := kd_ext eh92 hk93 (nz rfl)
                refine r_callV_V (pc := 136) (Y := mX7_need) (vs := [_]) (st := []) hk134 rfl kc7 q1272 q1274 qs14 dX7_run_136 rfl cd_X7_need rfl rfl fp_X7_run_X7_need K (fun h133 eh133 wh133 K => ?_) (fun x h1 _ _ e => Tw.out rfl e)
                refine r_iload (pc := 139) dX7_run_139 rfl ?_
                refine r_bipush (pc := 141) (x := 96) dX7_run_141 rfl ?_
                refine r_icmp_le (pc := 143) (tgt := 149) dX7_run_143 rfl (fun c135 => ?_) (fun c135 => ?_)
                · have K := K.1 c135
                  refine r_mask (pc := 149) [true, true, false, false, true, true, true, true, true, true, true, true, false, false] rfl ?_
                  exact K
                · have K := K.2 c135
                  refine r_iinc (pc := 146) (lv' := [_, _, _, _, _, _, _, _, _, _, _, _, _, _]) dX7_run_146 rfl rfl (by decide) rfl ?_
                  refine r_mask (pc := 149) [true, true, false, false, true, true, true, true, true, true, true, true, false, false] rfl ?_
                  exact K
              · have K := K.2 c131
                refine r_iconst (pc := 131) (x := 1) dX7_run_131 rfl ?_
                refine r_goto (pc := 132) (tgt := 136) dX7_run_132 rfl ?_
                have hk138 := kd_ext eh92 hk93 (nz rfl)
                refine r_callV_V (pc := 136) (Y := mX7_need) (vs := [_]) (st := []) hk138 rfl kc7 q1272 q1274 qs14 dX7_run_136 rfl cd_X7_need rfl rfl fp_X7_run_X7_need K (fun h137 eh137 wh137 K => ?_) (fun x h1 _ _ e => Tw.out rfl e)
                refine r_iload (pc := 139) dX7_run_139 rfl ?_
                refine r_bipush (pc := 141) (x := 96) dX7_run_141 rfl ?_
                refine r_icmp_le (pc := 143) (tgt := 149) dX7_run_143 rfl (fun c139 => ?_) (fun c139 => ?_)
                · have K := K.1 c139
                  refine r_mask (pc := 149) [true, true, false, false, true, true, true, true, true, true, true, true, false, false] rfl ?_
                  exact K
                · have K := K.2 c139
                  refine r_iinc (pc := 146) (lv' := [_, _, _, _, _, _, _, _, _, _, _, _, _, _]) dX7_run_146 rfl rfl (by decide) rfl ?_
                  refine r_mask (pc := 149) [true, true, false, false, true, true, true, true, true, true, true, true, false, false] rfl ?_
                  exact K
        · have K := K.2 c95
          refine r_iconst (pc := 83) (x := 2) dX7_run_83 rfl ?_
          refine r_goto (pc := 84) (tgt := 110) dX7_run_84 rfl ?_
          refine r_istore (pc := 110) (lv' := [_, _, _, _, _, _, _, _, _, _, _, _, _, _]) dX7_run_110 (by decide) rfl ?_
          refine r_aload_n (pc := 112) dX7_run_112 rfl ?_
          refine r_iload (pc := 113) dX7_run_113 rfl ?_
          refine r_bipush (pc := 115) (x := 78) dX7_run_115 rfl ?_
          refine r_icmp_gt (pc := 117) (tgt := 131) dX7_run_117 rfl (fun c140 => ?_) (fun c140 => ?_)
          · have K := K.1 c140
            refine r_iconst (pc := 131) (x := 1) dX7_run_131 rfl ?_
            refine r_goto (pc := 132) (tgt := 136) dX7_run_132 rfl ?_
            have hk143 := kd_ext eh92 hk93 (nz rfl)
            refine r_callV_V (pc := 136) (Y := mX7_need) (vs := [_]) (st := []) hk143 rfl kc7 q1272 q1274 qs14 dX7_run_136 rfl cd_X7_need rfl rfl fp_X7_run_X7_need K (fun h142 eh142 wh142 K => ?_) (fun x h1 _ _ e => Tw.out rfl e)
            refine r_iload (pc := 139) dX7_run_139 rfl ?_
            refine r_bipush (pc := 141) (x := 96) dX7_run_141 rfl ?_
            refine r_icmp_le (pc := 143) (tgt := 149) dX7_run_143 rfl (fun c144 => ?_) (fun c144 => ?_)
            · have K := K.1 c144
              refine r_mask (pc := 149) [true, true, false, false, true, true, true, true, true, true, true, true, false, false] rfl ?_
              exact K
            · have K := K.2 c144
              refine r_iinc (pc := 146) (lv' := [_, _, _, _, _, _, _, _, _, _, _, _, _, _]) dX7_run_146 rfl rfl (by decide) rfl ?_
              refine r_mask (pc := 149) [true, true, false, false, true, true, true, true, true, true, true, true, false, false] rfl ?_
              exact K
          · have K := K.2 c140
            refine r_iload (pc := 120) dX7_run_120 rfl ?_
            refine r_iload (pc := 122) dX7_run_122 rfl ?_
            refine r_isub (pc := 124) dX7_run_124 ?_
            refine r_sipush (pc := 125) (x := 520) dX7_run_125 rfl ?_
            refine r_icmp_gt (pc := 128) (tgt := 135) dX7_run_128 rfl (fun c145 => ?_) (fun c145 => ?_)
            · have K := K.1 c145
              refine r_iconst (pc := 135) (x := 0) dX7_run_135 rfl ?_
              have hk148 := kd_ext eh92 hk93 (nz rfl)
              refine r_callV_V (pc := 136) (Y := mX7_need) (vs := [_]) (st := []) hk148 rfl kc7 q1272 q1274 qs14 dX7_run_136 rfl cd_X7_need rfl rfl fp_X7_run_X7_need K (fun h147 eh147 wh147 K => ?_) (fun x h1 _ _ e => Tw.out rfl e)
              refine r_iload (pc := 139) dX7_run_139 rfl ?_
              refine r_bipush (pc := 141) (x := 96) dX7_run_141 rfl ?_
              refine r_icmp_le (pc := 143) (tgt := 149) dX7_run_143 rfl (fun c149 => ?_) (fun c149 => ?_)
              · have K := K.1 c149
                refine r_mask (pc := 149) [true, true, false, false, true, true, true, true, true, true, true, true, false, false] rfl ?_
                exact K
              · have K := K.2 c149
                refine r_iinc (pc := 146) (lv' := [_, _, _, _, _, _, _, _, _, _, _, _, _, _]) dX7_run_146 rfl rfl (by decide) rfl ?_
                refine r_mask (pc := 149) [true, true, false, false, true, true, true, true, true, true, true, true, false, false] rfl ?_
                exact K
            · have K := K.2 c145
              refine r_iconst (pc := 131) (x := 1) dX7_run_131 rfl ?_
              refine r_goto (pc := 132) (tgt := 136) dX7_run_132 rfl ?_
              have hk152 := kd_ext eh92 hk93 (nz rfl)
              refine r_callV_V (pc := 136) (Y := mX7_need) (vs := [_]) (st := []) hk152 rfl kc7 q1272 q1274 qs14 dX7_run_136 rfl cd_X7_need rfl rfl fp_X7_run_X7_need K (fun h151 eh151 wh151 K => ?_) (fun x h1 _ _ e => Tw.out rfl e)
              refine r_iload (pc := 139) dX7_run_139 rfl ?_
              refine r_bipush (pc := 141) (x := 96) dX7_run_141 rfl ?_
              refine r_icmp_le (pc := 143) (tgt := 149) dX7_run_143 rfl (fun c153 => ?_) (fun c153 => ?_)
              · have K := K.1 c153
                refine r_mask (pc := 149) [true, true, false, false, true, true, true, true, true, true, true, true, false, false] rfl ?_
                exact K
              · have K := K.2 c153
                refine r_iinc (pc := 146) (lv' := [_, _, _, _, _, _, _, _, _, _, _, _, _, _]) dX7_run_146 rfl rfl (by decide) rfl ?_
                refine r_mask (pc := 149) [true, true, false, false, true, true, true, true, true, true, true, true, false, false] rfl ?_
                exact K
      · have K := K.2 c94
        refine r_iconst (pc := 72) (x := 1) dX7_run_72 rfl ?_
        refine r_goto (pc := 73) (tgt := 110) dX7_run_73 rfl ?_
        refine r_istore (pc := 110) (lv' := [_, _, _, _, _, _, _, _, _, _, _, _, _, _]) dX7_run_110 (by decide) rfl ?_
        refine r_aload_n (pc := 112) dX7_run_112 rfl ?_
        refine r_iload (pc := 113) dX7_run_113 rfl ?_
        refine r_bipush (pc := 115) (x := 78) dX7_run_115 rfl ?_
        refine r_icmp_gt (pc := 117) (tgt := 131) dX7_run_117 rfl (fun c154 => ?_) (fun c154 => ?_)
        · have K := K.1 c154
          refine r_iconst (pc := 131) (x := 1) dX7_run_131 rfl ?_
          refine r_goto (pc := 132) (tgt := 136) dX7_run_132 rfl ?_
          have hk157 := kd_ext eh92 hk93 (nz rfl)
          refine r_callV_V (pc := 136) (Y := mX7_need) (vs := [_]) (st := []) hk157 rfl kc7 q1272 q1274 qs14 dX7_run_136 rfl cd_X7_need rfl rfl fp_X7_run_X7_need K (fun h156 eh156 wh156 K => ?_) (fun x h1 _ _ e => Tw.out rfl e)
          refine r_iload (pc := 139) dX7_run_139 rfl ?_
          refine r_bipush (pc := 141) (x := 96) dX7_run_141 rfl ?_
          refine r_icmp_le (pc := 143) (tgt := 149) dX7_run_143 rfl (fun c158 => ?_) (fun c158 => ?_)
          · have K := K.1 c158
            refine r_mask (pc := 149) [true, true, false, false, true, true, true, true, true, true, true, true, false, false] rfl ?_
            exact K
          · have K := K.2 c158
            refine r_iinc (pc := 146) (lv' := [_, _, _, _, _, _, _, _, _, _, _, _, _, _]) dX7_run_146 rfl rfl (by decide) rfl ?_
            refine r_mask (pc := 149) [true, true, false, false, true, true, true, true, true, true, true, true, false, false] rfl ?_
            exact K
        · have K := K.2 c154
          refine r_iload (pc := 120) dX7_run_120 rfl ?_
          refine r_iload (pc := 122) dX7_run_122 rfl ?_
          refine r_isub (pc := 124) dX7_run_124 ?_
          refine r_sipush (pc := 125) (x := 520) dX7_run_125 rfl ?_
          refine r_icmp_gt (pc := 128) (tgt := 135) dX7_run_128 rfl (fun c159 => ?_) (fun c159 => ?_)
          · have K := K.1 c159
            refine r_iconst (pc := 135) (x := 0) dX7_run_135 rfl ?_
            have hk162 := kd_ext eh92 hk93 (nz rfl)
            refine r_callV_V (pc := 136) (Y := mX7_need) (vs := [_]) (st := []) hk162 rfl kc7 q1272 q1274 qs14 dX7_run_136 rfl cd_X7_need rfl rfl fp_X7_run_X7_need K (fun h161 eh161 wh161 K => ?_) (fun x h1 _ _ e => Tw.out rfl e)
            refine r_iload (pc := 139) dX7_run_139 rfl ?_
            refine r_bipush (pc := 141) (x := 96) dX7_run_141 rfl ?_
            refine r_icmp_le (pc := 143) (tgt := 149) dX7_run_143 rfl (fun c163 => ?_) (fun c163 => ?_)
            · have K := K.1 c163
              refine r_mask (pc := 149) [true, true, false, false, true, true, true, true, true, true, true, true, false, false] rfl ?_
              exact K
            · have K := K.2 c163
              refine r_iinc (pc := 146) (lv' := [_, _, _, _, _, _, _, _, _, _, _, _, _, _]) dX7_run_146 rfl rfl (by decide) rfl ?_
              refine r_mask (pc := 149) [true, true, false, false, true, true, true, true, true, true, true, true, false, false] rfl ?_
              exact K
          · have K := K.2 c159
            refine r_iconst (pc := 131) (x := 1) dX7_run_131 rfl ?_
            refine r_goto (pc := 132) (tgt := 136) dX7_run_132 rfl ?_
            have hk166 := kd_ext eh92 hk93 (nz rfl)
            refine r_callV_V (pc := 136) (Y := mX7_need) (vs := [_]) (st := []) hk166 rfl kc7 q1272 q1274 qs14 dX7_run_136 rfl cd_X7_need rfl rfl fp_X7_run_X7_need K (fun h165 eh165 wh165 K => ?_) (fun x h1 _ _ e => Tw.out rfl e)
            refine r_iload (pc := 139) dX7_run_139 rfl ?_
            refine r_bipush (pc := 141) (x := 96) dX7_run_141 rfl ?_
            refine r_icmp_le (pc := 143) (tgt := 149) dX7_run_143 rfl (fun c167 => ?_) (fun c167 => ?_)
            · have K := K.1 c167
              refine r_mask (pc := 149) [true, true, false, false, true, true, true, true, true, true, true, true, false, false] rfl ?_
              exact K
            · have K := K.2 c167
              refine r_iinc (pc := 146) (lv' := [_, _, _, _, _, _, _, _, _, _, _, _, _, _]) dX7_run_146 rfl rfl (by decide) rfl ?_
              refine r_mask (pc := 149) [true, true, false, false, true, true, true, true, true, true, true, true, false, false] rfl ?_
              exact K
set_option maxHeartbeats 4000000 in
theorem sX7_run_149 {G : Gx} {d t : Nat} {h0 : AH} {Φ : Out → AH → Prop} (h : AH) (v0 : Nat) (v1 : Nat) (v4 : Nat) (v5 : Int32) (v6 : Int32) (v7 : Int32) (v8 : Int32) (v9 : Int32) (v10 : Int32) (v11 : Int32) (K : ((201 < v7 → h.kd v0 = 7 ∧ Cw G mX7_need d 0 [vR v0, vI 0] h (kV (fun h3 => Aw G mX7_run (d + 1) t h0 Φ 180 [vR v0, vR v1, vU, vU, vR v4, vI v5, vI v6, vI v7, vI v8, vI v9, vI v10, vI v11, vI 1, vI 0] [] h3) (fun x h => Φ (.inr x) h))) ∧ (¬ 201 < v7 → Cw G mX7_never d 0 [vI v9] h (kI (fun x5 h6 => ((¬ x5 = 0 → h6.kd v0 = 7 ∧ Cw G mX7_need d 0 [vR v0, vI 0] h6 (kV (fun h9 => Aw G mX7_run (d + 1) t h0 Φ 180 [vR v0, vR v1, vU, vU, vR v4, vI v5, vI v6, vI v7, vI v8, vI v9, vI v10, vI v11, vI 1, vI 0] [] h9) (fun x h => Φ (.inr x) h))) ∧ (x5 = 0 → h6.kd v0 = 7 ∧ Cw G mX7_need d 0 [vR v0, vI 1] h6 (kV (fun h12 => Aw G mX7_run (d + 1) t h0 Φ 180 [vR v0, vR v1, vU, vU, vR v4, vI v5, vI v6, vI v7, vI v8, vI v9, vI v10, vI v11, vI 1, vI 0] [] h12) (fun x h => Φ (.inr x) h))))) (fun x h => Φ (.inr x) h))))) : Aw G mX7_run (d + 1) t h0 Φ 149 [vR v0, vR v1, vU, vU, vR v4, vI v5, vI v6, vI v7, vI v8, vI v9, vI v10, vI v11, vU, vU] [] h := by
  refine r_aload_n (pc := 149) dX7_run_149 rfl ?_
  refine r_iload (pc := 150) dX7_run_150 rfl ?_
  refine r_sipush (pc := 152) (x := 201) dX7_run_152 rfl ?_
  refine r_icmp_gt (pc := 155) (tgt := 170) dX7_run_155 rfl (fun c1 => ?_) (fun c1 => ?_)
  · have K := K.1 c1
    refine r_iconst (pc := 170) (x := 0) dX7_run_170 rfl ?_
    obtain ⟨hk4, K⟩ := K
    refine r_callV_V (pc := 171) (Y := mX7_need) (vs := [_]) (st := []) hk4 rfl kc7 q1272 q1274 qs14 dX7_run_171 rfl cd_X7_need rfl rfl fp_X7_run_X7_need K (fun h3 eh3 wh3 K => ?_) (fun x h1 _ _ e => Tw.out rfl e)
    refine r_iconst (pc := 174) (x := 1) dX7_run_174 rfl ?_
    refine r_istore (pc := 175) (lv' := [_, _, _, _, _, _, _, _, _, _, _, _, _, _]) dX7_run_175 (by decide) rfl ?_
    refine r_iconst (pc := 177) (x := 0) dX7_run_177 rfl ?_
    refine r_istore (pc := 178) (lv' := [_, _, _, _, _, _, _, _, _, _, _, _, _, _]) dX7_run_178 (by decide) rfl ?_
    refine r_mask (pc := 180) [true, true, false, false, true, true, true, true, true, true, true, true, true, true] rfl ?_
    exact K
  · have K := K.2 c1
    refine r_iload (pc := 158) dX7_run_158 rfl ?_
    refine r_callS_I (pc := 160) (Y := mX7_never) (vs := [_]) (st := [_]) q1277 q1278 q161 dX7_run_160 rfl cd_X7_never rfl rfl fp_X7_run_X7_never K (fun x5 h6 eh6 wh6 K => ?_) (fun x h1 _ _ e => Tw.out rfl e)
    refine r_if_ne (pc := 163) (tgt := 170) dX7_run_163 rfl (fun c7 => ?_) (fun c7 => ?_)
    · have K := K.1 c7
      refine r_iconst (pc := 170) (x := 0) dX7_run_170 rfl ?_
      obtain ⟨hk10, K⟩ := K
      refine r_callV_V (pc := 171) (Y := mX7_need) (vs := [_]) (st := []) hk10 rfl kc7 q1272 q1274 qs14 dX7_run_171 rfl cd_X7_need rfl rfl fp_X7_run_X7_need K (fun h9 eh9 wh9 K => ?_) (fun x h1 _ _ e => Tw.out rfl e)
      refine r_iconst (pc := 174) (x := 1) dX7_run_174 rfl ?_
      refine r_istore (pc := 175) (lv' := [_, _, _, _, _, _, _, _, _, _, _, _, _, _]) dX7_run_175 (by decide) rfl ?_
      refine r_iconst (pc := 177) (x := 0) dX7_run_177 rfl ?_
      refine r_istore (pc := 178) (lv' := [_, _, _, _, _, _, _, _, _, _, _, _, _, _]) dX7_run_178 (by decide) rfl ?_
      refine r_mask (pc := 180) [true, true, false, false, true, true, true, true, true, true, true, true, true, true] rfl ?_
      exact K
    · have K := K.2 c7
      refine r_iconst (pc := 166) (x := 1) dX7_run_166 rfl ?_
      refine r_goto (pc := 167) (tgt := 171) dX7_run_167 rfl ?_
      obtain ⟨hk13, K⟩ := K
      refine r_callV_V (pc := 171) (Y := mX7_need) (vs := [_]) (st := []) hk13 rfl kc7 q1272 q1274 qs14 dX7_run_171 rfl cd_X7_need rfl rfl fp_X7_run_X7_need K (fun h12 eh12 wh12 K => ?_) (fun x h1 _ _ e => Tw.out rfl e)
      refine r_iconst (pc := 174) (x := 1) dX7_run_174 rfl ?_
      refine r_istore (pc := 175) (lv' := [_, _, _, _, _, _, _, _, _, _, _, _, _, _]) dX7_run_175 (by decide) rfl ?_
      refine r_iconst (pc := 177) (x := 0) dX7_run_177 rfl ?_
      refine r_istore (pc := 178) (lv' := [_, _, _, _, _, _, _, _, _, _, _, _, _, _]) dX7_run_178 (by decide) rfl ?_
      refine r_mask (pc := 180) [true, true, false, false, true, true, true, true, true, true, true, true, true, true] rfl ?_
      exact K
set_option maxHeartbeats 4000000 in
theorem sX7_run_180 {G : Gx} {d t : Nat} {h0 : AH} {Φ : Out → AH → Prop} (h : AH) (v0 : Nat) (v1 : Nat) (v4 : Nat) (v5 : Int32) (v6 : Int32) (v7 : Int32) (v8 : Int32) (v9 : Int32) (v10 : Int32) (v11 : Int32) (v12 : Int32) (v13 : Int32) (K : h.kd v0 = 7 ∧ (((h.i 7008 v0) ≤ v13 → ((78 < v9 → ((v9 < 99 → Aw G mX7_run (d + 1) t h0 Φ 290 [vR v0, vR v1, vU, vU, vR v4, vI v5, vI v6, vI v7, vI v8, vI v9, vI v10, vU, vI v12, vU] [] h) ∧ (¬ v9 < 99 → ((104 < v9 → Aw G mX7_run (d + 1) t h0 Φ 290 [vR v0, vR v1, vU, vU, vR v4, vI v5, vI v6, vI v7, vI v8, vI v9, vI v10, vU, vI v12, vU] [] h) ∧ (¬ 104 < v9 → ((v9 = 101 → Aw G mX7_run (d + 1) t h0 Φ 290 [vR v0, vR v1, vU, vU, vR v4, vI v5, vI v6, vI v7, vI v8, vI v9, vI v10, vU, vI v12, vU] [] h) ∧ (¬ v9 = 101 → ((v9 = 102 → Aw G mX7_run (d + 1) t h0 Φ 290 [vR v0, vR v1, vU, vU, vR v4, vI v5, vI v6, vI v7, vI v8, vI v9, vI v10, vU, vI v12, vU] [] h) ∧ (¬ v9 = 102 → Cw G mX7_branch d 0 [vR v0, vI v9, vI v12] h (kV (fun h9 => Aw G mX7_run (d + 1) t h0 Φ 388 [vR v0, vR v1, vU, vU, vR v4, vI v5, vI v6, vI v7, vI v8, vU, vI v10, vU, vU, vU] [] h9) (fun x h => Φ (.inr x) h))))))))))) ∧ (¬ 78 < v9 → ((v12 = 0 → Aw G mX7_run (d + 1) t h0 Φ 388 [vR v0, vR v1, vU, vU, vR v4, vI v5, vI v6, vI v7, vI v8, vU, vI v10, vU, vU, vU] [] h) ∧ (¬ v12 = 0 → Cw G mX7_push d 0 [vR v0] h (kR (fun x11 h12 => h12.kd x11 = 22 ∧ Cw G mX22_set d 0 [vR x11, vR v1, vI (v8 + v11), vI (v10 - v11)] h12 (kR (fun x13 h14 => Aw G mX7_run (d + 1) t h0 Φ 388 [vR v0, vR v1, vU, vU, vR v4, vI v5, vI v6, vI v7, vI v8, vU, vI v10, vU, vU, vU] [] h14) (fun x h => Φ (.inr x) h))) (fun x h => Φ (.inr x) h))))))) ∧ (¬ (h.i 7008 v0) ≤ v13 → ((v12 = 0 → Aw G mX7_run (d + 1) t h0 Φ 180 [vR v0, vR v1, vU, vU, vR v4, vI v5, vI v6, vI v7, vI v8, vI v9, vI v10, vI v11, vI 0, vI (v13 + 1)] [] h) ∧ (¬ v12 = 0 → ∀ r17 : Nat, r17 = (h.r 7007 v0) → h.kd r17 = 102 ∧ vp_in v13 (h.ai r17).length ∧ ((((h.ai r17).getD (v13.toNatClampNeg) 0) = 0 → Aw G mX7_run (d + 1) t h0 Φ 180 [vR v0, vR v1, vU, vU, vR v4, vI v5, vI v6, vI v7, vI v8, vI v9, vI v10, vI v11, vI 0, vI (v13 + 1)] [] h) ∧ (¬ ((h.ai r17).getD (v13.toNatClampNeg) 0) = 0 → Aw G mX7_run (d + 1) t h0 Φ 180 [vR v0, vR v1, vU, vU, vR v4, vI v5, vI v6, vI v7, vI v8, vI v9, vI v10, vI v11, vI 1, vI (v13 + 1)] [] h))))))) : Aw G mX7_run (d + 1) t h0 Φ 180 [vR v0, vR v1, vU, vU, vR v4, vI v5, vI v6, vI v7, vI v8, vI v9, vI v10, vI v11, vI v12, vI v13] [] h := by
  refine r_iload (pc := 180) dX7_run_180 rfl ?_
  refine r_aload_n (pc := 182) dX7_run_182 rfl ?_
  obtain ⟨hk1, K⟩ := K
  refine r_geti' (pc := 183) (T := TX7) 7 8 rfl hk1 (Or.inl q506) dX7_run_183 kc7 g7008 ?_
  refine r_icmp_ge (pc := 186) (tgt := 217) dX7_run_186 rfl (fun c2 => ?_) (fun c2 => ?_)
  · have K := K.1 c2
    refine r_iload (pc := 217) dX7_run_217 rfl ?_
    refine r_bipush (pc := 219) (x := 78) dX7_run_219 rfl ?_
    refine r_icmp_gt (pc := 221) (tgt := 251) dX7_run_221 rfl (fun c3 => ?_) (fun c3 => ?_)
    · have K := K.1 c3
      refine r_iload (pc := 251) dX7_run_251 rfl ?_
      refine r_bipush (pc := 253) (x := 99) dX7_run_253 rfl ?_
      refine r_icmp_lt (pc := 255) (tgt := 290) dX7_run_255 rfl (fun c4 => ?_) (fun c4 => ?_)
      · have K := K.1 c4
        refine r_mask (pc := 290) [true, true, false, false, true, true, true, true, true, true, true, false, true, false] rfl ?_
        exact K
      · have K := K.2 c4
        refine r_iload (pc := 258) dX7_run_258 rfl ?_
        refine r_bipush (pc := 260) (x := 104) dX7_run_260 rfl ?_
        refine r_icmp_gt (pc := 262) (tgt := 290) dX7_run_262 rfl (fun c5 => ?_) (fun c5 => ?_)
        · have K := K.1 c5
          refine r_mask (pc := 290) [true, true, false, false, true, true, true, true, true, true, true, false, true, false] rfl ?_
          exact K
        · have K := K.2 c5
          refine r_iload (pc := 265) dX7_run_265 rfl ?_
          refine r_bipush (pc := 267) (x := 101) dX7_run_267 rfl ?_
          refine r_icmp_eq (pc := 269) (tgt := 290) dX7_run_269 rfl (fun c6 => ?_) (fun c6 => ?_)
          · have K := K.1 c6
            refine r_mask (pc := 290) [true, true, false, false, true, true, true, true, true, true, true, false, true, false] rfl ?_
            exact K
          · have K := K.2 c6
            refine r_iload (pc := 272) dX7_run_272 rfl ?_
            refine r_bipush (pc := 274) (x := 102) dX7_run_274 rfl ?_
            refine r_icmp_eq (pc := 276) (tgt := 290) dX7_run_276 rfl (fun c7 => ?_) (fun c7 => ?_)
            · have K := K.1 c7
              refine r_mask (pc := 290) [true, true, false, false, true, true, true, true, true, true, true, false, true, false] rfl ?_
              exact K
            · have K := K.2 c7
              refine r_aload_n (pc := 279) dX7_run_279 rfl ?_
              refine r_iload (pc := 280) dX7_run_280 rfl ?_
              refine r_iload (pc := 282) dX7_run_282 rfl ?_
              refine r_callV_V (pc := 284) (Y := mX7_branch) (vs := [_, _]) (st := []) hk1 rfl kc7 q1307 q1309 qs16 dX7_run_284 rfl cd_X7_branch rfl rfl fp_X7_run_X7_branch K (fun h9 eh9 wh9 K => ?_) (fun x h1 _ _ e => Tw.out rfl e)
              refine r_goto (pc := 287) (tgt := 388) dX7_run_287 rfl ?_
              refine r_mask (pc := 388) [true, true, false, false, true, true, true, true, true, false, true, false, false, false] rfl ?_
              exact K
    · have K := K.2 c3
      refine r_iload (pc := 224) dX7_run_224 rfl ?_
      refine r_if_eq (pc := 226) (tgt := 388) dX7_run_226 rfl (fun c10 => ?_) (fun c10 => ?_)
      · have K := K.1 c10
        refine r_mask (pc := 388) [true, true, false, false, true, true, true, true, true, false, true, false, false, false] rfl ?_
        exact K
      · have K := K.2 c10
        refine r_aload_n (pc := 229) dX7_run_229 rfl ?_
        refine r_callV_R (pc := 230) (Y := mX7_push) (vs := []) (st := []) hk1 rfl kc7 q1280 q1282 qs15 dX7_run_230 rfl cd_X7_push rfl rfl fp_X7_run_X7_push K (fun x11 h12 eh12 wh12 K => ?_) (fun x h1 _ _ e => Tw.out rfl e)
        refine r_aload_n (pc := 233) dX7_run_233 rfl ?_
        refine r_iload (pc := 234) dX7_run_234 rfl ?_
        refine r_iload (pc := 236) dX7_run_236 rfl ?_
        refine r_iadd (pc := 238) dX7_run_238 ?_
        refine r_iload (pc := 239) dX7_run_239 rfl ?_
        refine r_iload (pc := 241) dX7_run_241 rfl ?_
        refine r_isub (pc := 243) dX7_run_243 ?_
        obtain ⟨hk15, K⟩ := K
        refine r_callV_R (pc := 244) (Y := mX22_set) (vs := [_, _, _]) (st := []) hk15 rfl kc22 q1303 q1304 q1305 dX7_run_244 rfl cd_X22_set rfl rfl fp_X7_run_X22_set K (fun x13 h14 eh14 wh14 K => ?_) (fun x h1 _ _ e => Tw.out rfl e)
        refine r_pop (pc := 247) rfl dX7_run_247 ?_
        refine r_goto (pc := 248) (tgt := 388) dX7_run_248 rfl ?_
        refine r_mask (pc := 388) [true, true, false, false, true, true, true, true, true, false, true, false, false, false] rfl ?_
        exact K
  · have K := K.2 c2
    refine r_iload (pc := 189) dX7_run_189 rfl ?_
    refine r_if_eq (pc := 191) (tgt := 208) dX7_run_191 rfl (fun c16 => ?_) (fun c16 => ?_)
    · have K := K.1 c16
      refine r_iconst (pc := 208) (x := 0) dX7_run_208 rfl ?_
      refine r_istore (pc := 209) (lv' := [_, _, _, _, _, _, _, _, _, _, _, _, _, _]) dX7_run_209 (by decide) rfl ?_
      refine r_iinc (pc := 211) (lv' := [_, _, _, _, _, _, _, _, _, _, _, _, _, _]) dX7_run_211 rfl rfl (by decide) rfl ?_
      refine r_goto (pc := 214) (tgt := 180) dX7_run_214 rfl ?_
      refine r_mask (pc := 180) [true, true, false, false, true, true, true, true, true, true, true, true, true, true] rfl ?_
      exact K
    · have K := K.2 c16
      refine r_aload_n (pc := 194) dX7_run_194 rfl ?_
      have K := K _ rfl
      refine r_getr' (pc := 195) (T := TX7) 7 7 rfl hk1 (Or.inl q505) dX7_run_195 kc7 g7007 ?_
      refine r_iload (pc := 198) dX7_run_198 rfl ?_
      obtain ⟨hk18, K⟩ := K
      obtain ⟨hi19, K⟩ := K
      refine r_zaload (pc := 200) hk18 hi19 dX7_run_200 ?_
      refine r_if_eq (pc := 201) (tgt := 208) dX7_run_201 rfl (fun c20 => ?_) (fun c20 => ?_)
      · have K := K.1 c20
        refine r_iconst (pc := 208) (x := 0) dX7_run_208 rfl ?_
        refine r_istore (pc := 209) (lv' := [_, _, _, _, _, _, _, _, _, _, _, _, _, _]) dX7_run_209 (by decide) rfl ?_
        refine r_iinc (pc := 211) (lv' := [_, _, _, _, _, _, _, _, _, _, _, _, _, _]) dX7_run_211 rfl rfl (by decide) rfl ?_
        refine r_goto (pc := 214) (tgt := 180) dX7_run_214 rfl ?_
        refine r_mask (pc := 180) [true, true, false, false, true, true, true, true, true, true, true, true, true, true] rfl ?_
        exact K
      · have K := K.2 c20
        refine r_iconst (pc := 204) (x := 1) dX7_run_204 rfl ?_
        refine r_goto (pc := 205) (tgt := 209) dX7_run_205 rfl ?_
        refine r_istore (pc := 209) (lv' := [_, _, _, _, _, _, _, _, _, _, _, _, _, _]) dX7_run_209 (by decide) rfl ?_
        refine r_iinc (pc := 211) (lv' := [_, _, _, _, _, _, _, _, _, _, _, _, _, _]) dX7_run_211 rfl rfl (by decide) rfl ?_
        refine r_goto (pc := 214) (tgt := 180) dX7_run_214 rfl ?_
        refine r_mask (pc := 180) [true, true, false, false, true, true, true, true, true, true, true, true, true, true] rfl ?_
        exact K
set_option maxHeartbeats 4000000 in
theorem sX7_run_290 {G : Gx} {d t : Nat} {h0 : AH} {Φ : Out → AH → Prop} (h : AH) (v0 : Nat) (v1 : Nat) (v4 : Nat) (v5 : Int32) (v6 : Int32) (v7 : Int32) (v8 : Int32) (v9 : Int32) (v10 : Int32) (v12 : Int32) (K : ((v12 = 0 → Aw G mX7_run (d + 1) t h0 Φ 388 [vR v0, vR v1, vU, vU, vR v4, vI v5, vI v6, vI v7, vI v8, vU, vI v10, vU, vU, vU] [] h) ∧ (¬ v12 = 0 → ((¬ v9 = 171 → ((v9 < 172 → Aw G mX7_run (d + 1) t h0 Φ 344 [vR v0, vR v1, vU, vU, vR v4, vI v5, vI v6, vI v7, vI v8, vI v9, vI v10, vU, vU, vU] [] h) ∧ (¬ v9 < 172 → ((173 < v9 → Aw G mX7_run (d + 1) t h0 Φ 344 [vR v0, vR v1, vU, vU, vR v4, vI v5, vI v6, vI v7, vI v8, vI v9, vI v10, vU, vU, vU] [] h) ∧ (¬ 173 < v9 → h.kd v0 = 7 ∧ Cw G mX7_single d 0 [vR v0, vI v9, vR v4, vR v1, vI v6, vI v5] h (kV (fun h6 => Aw G mX7_run (d + 1) t h0 Φ 388 [vR v0, vR v1, vU, vU, vR v4, vI v5, vI v6, vI v7, vI v8, vU, vI v10, vU, vU, vU] [] h6) (fun x h => Φ (.inr x) h))))))) ∧ (v9 = 171 → Aw G mX7_run (d + 1) t h0 Φ 388 [vR v0, vR v1, vU, vU, vR v4, vI v5, vI (v8 + 1), vI v7, vI v8, vU, vI v10, vU, vU, vU] [] h))))) : Aw G mX7_run (d + 1) t h0 Φ 290 [vR v0, vR v1, vU, vU, vR v4, vI v5, vI v6, vI v7, vI v8, vI v9, vI v10, vU, vI v12, vU] [] h := by
  refine r_iload (pc := 290) dX7_run_290 rfl ?_
  refine r_if_eq (pc := 292) (tgt := 388) dX7_run_292 rfl (fun c1 => ?_) (fun c1 => ?_)
  · have K := K.1 c1
    refine r_mask (pc := 388) [true, true, false, false, true, true, true, true, true, false, true, false, false, false] rfl ?_
    exact K
  · have K := K.2 c1
    refine r_iload (pc := 295) dX7_run_295 rfl ?_
    refine r_sipush (pc := 297) (x := 171) dX7_run_297 rfl ?_
    refine r_icmp_ne (pc := 300) (tgt := 312) dX7_run_300 rfl (fun c2 => ?_) (fun c2 => ?_)
    · have K := K.1 c2
      refine r_iload (pc := 312) dX7_run_312 rfl ?_
      refine r_sipush (pc := 314) (x := 172) dX7_run_314 rfl ?_
      refine r_icmp_lt (pc := 317) (tgt := 344) dX7_run_317 rfl (fun c3 => ?_) (fun c3 => ?_)
      · have K := K.1 c3
        refine r_mask (pc := 344) [true, true, false, false, true, true, true, true, true, true, true, false, false, false] rfl ?_
        exact K
      · have K := K.2 c3
        refine r_iload (pc := 320) dX7_run_320 rfl ?_
        refine r_sipush (pc := 322) (x := 173) dX7_run_322 rfl ?_
        refine r_icmp_gt (pc := 325) (tgt := 344) dX7_run_325 rfl (fun c4 => ?_) (fun c4 => ?_)
        · have K := K.1 c4
          refine r_mask (pc := 344) [true, true, false, false, true, true, true, true, true, true, true, false, false, false] rfl ?_
          exact K
        · have K := K.2 c4
          refine r_aload_n (pc := 328) dX7_run_328 rfl ?_
          refine r_iload (pc := 329) dX7_run_329 rfl ?_
          refine r_aload (pc := 331) dX7_run_331 rfl ?_
          refine r_aload_n (pc := 333) dX7_run_333 rfl ?_
          refine r_iload (pc := 334) dX7_run_334 rfl ?_
          refine r_iload (pc := 336) dX7_run_336 rfl ?_
          obtain ⟨hk7, K⟩ := K
          refine r_callV_V (pc := 338) (Y := mX7_single) (vs := [_, _, _, _, _]) (st := []) hk7 rfl kc7 q1323 q1325 qs19 dX7_run_338 rfl cd_X7_single rfl rfl fp_X7_run_X7_single K (fun h6 eh6 wh6 K => ?_) (fun x h1 _ _ e => Tw.out rfl e)
          refine r_goto (pc := 341) (tgt := 388) dX7_run_341 rfl ?_
          refine r_mask (pc := 388) [true, true, false, false, true, true, true, true, true, false, true, false, false, false] rfl ?_
          exact K
    · have K := K.2 c2
      refine r_iload (pc := 303) dX7_run_303 rfl ?_
      refine r_iconst (pc := 305) (x := 1) dX7_run_305 rfl ?_
      refine r_iadd (pc := 306) dX7_run_306 ?_
      refine r_istore (pc := 307) (lv' := [_, _, _, _, _, _, _, _, _, _, _, _, _, _]) dX7_run_307 (by decide) rfl ?_
      refine r_goto (pc := 309) (tgt := 388) dX7_run_309 rfl ?_
      refine r_mask (pc := 388) [true, true, false, false, true, true, true, true, true, false, true, false, false, false] rfl ?_
      exact K
set_option maxHeartbeats 4000000 in
theorem sX7_run_344 {G : Gx} {d t : Nat} {h0 : AH} {Φ : Out → AH → Prop} (h : AH) (v0 : Nat) (v1 : Nat) (v4 : Nat) (v5 : Int32) (v6 : Int32) (v7 : Int32) (v8 : Int32) (v9 : Int32) (v10 : Int32) (K : ((v9 < 174 → h.kd v0 = 7 ∧ Cw G mX7_step d 0 [vR v0, vI v9, vR v4] h (kV (fun h3 => Aw G mX7_run (d + 1) t h0 Φ 388 [vR v0, vR v1, vU, vU, vR v4, vI v5, vI v6, vI v7, vI v8, vU, vI v10, vU, vU, vU] [] h3) (fun x h => Φ (.inr x) h))) ∧ (¬ v9 < 174 → ((175 < v9 → h.kd v0 = 7 ∧ Cw G mX7_step d 0 [vR v0, vI v9, vR v4] h (kV (fun h7 => Aw G mX7_run (d + 1) t h0 Φ 388 [vR v0, vR v1, vU, vU, vR v4, vI v5, vI v6, vI v7, vI v8, vU, vI v10, vU, vU, vU] [] h7) (fun x h => Φ (.inr x) h))) ∧ (¬ 175 < v9 → h.kd v0 = 7 ∧ Cw G mX7_several d 0 [vR v0, vI v9, vR v4, vR v1, vI v6, vI v5, vI v7] h (kI (fun x9 h10 => Aw G mX7_run (d + 1) t h0 Φ 388 [vR v0, vR v1, vU, vU, vR v4, vI v5, vI v6, vI x9, vI v8, vU, vI v10, vU, vU, vU] [] h10) (fun x h => Φ (.inr x) h))))))) : Aw G mX7_run (d + 1) t h0 Φ 344 [vR v0, vR v1, vU, vU, vR v4, vI v5, vI v6, vI v7, vI v8, vI v9, vI v10, vU, vU, vU] [] h := by
  refine r_iload (pc := 344) dX7_run_344 rfl ?_
  refine r_sipush (pc := 346) (x := 174) dX7_run_346 rfl ?_
  refine r_icmp_lt (pc := 349) (tgt := 380) dX7_run_349 rfl (fun c1 => ?_) (fun c1 => ?_)
  · have K := K.1 c1
    refine r_aload_n (pc := 380) dX7_run_380 rfl ?_
    refine r_iload (pc := 381) dX7_run_381 rfl ?_
    refine r_aload (pc := 383) dX7_run_383 rfl ?_
    obtain ⟨hk4, K⟩ := K
    refine r_callV_V (pc := 385) (Y := mX7_step) (vs := [_, _]) (st := []) hk4 rfl kc7 q1504 q1506 qs37 dX7_run_385 rfl cd_X7_step rfl rfl fp_X7_run_X7_step K (fun h3 eh3 wh3 K => ?_) (fun x h1 _ _ e => Tw.out rfl e)
    refine r_mask (pc := 388) [true, true, false, false, true, true, true, true, true, false, true, false, false, false] rfl ?_
    exact K
  · have K := K.2 c1
    refine r_iload (pc := 352) dX7_run_352 rfl ?_
    refine r_sipush (pc := 354) (x := 175) dX7_run_354 rfl ?_
    refine r_icmp_gt (pc := 357) (tgt := 380) dX7_run_357 rfl (fun c5 => ?_) (fun c5 => ?_)
    · have K := K.1 c5
      refine r_aload_n (pc := 380) dX7_run_380 rfl ?_
      refine r_iload (pc := 381) dX7_run_381 rfl ?_
      refine r_aload (pc := 383) dX7_run_383 rfl ?_
      obtain ⟨hk8, K⟩ := K
      refine r_callV_V (pc := 385) (Y := mX7_step) (vs := [_, _]) (st := []) hk8 rfl kc7 q1504 q1506 qs37 dX7_run_385 rfl cd_X7_step rfl rfl fp_X7_run_X7_step K (fun h7 eh7 wh7 K => ?_) (fun x h1 _ _ e => Tw.out rfl e)
      refine r_mask (pc := 388) [true, true, false, false, true, true, true, true, true, false, true, false, false, false] rfl ?_
      exact K
    · have K := K.2 c5
      refine r_aload_n (pc := 360) dX7_run_360 rfl ?_
      refine r_iload (pc := 361) dX7_run_361 rfl ?_
      refine r_aload (pc := 363) dX7_run_363 rfl ?_
      refine r_aload_n (pc := 365) dX7_run_365 rfl ?_
      refine r_iload (pc := 366) dX7_run_366 rfl ?_
      refine r_iload (pc := 368) dX7_run_368 rfl ?_
      refine r_iload (pc := 370) dX7_run_370 rfl ?_
      obtain ⟨hk11, K⟩ := K
      refine r_callV_I (pc := 372) (Y := mX7_several) (vs := [_, _, _, _, _, _]) (st := []) hk11 rfl kc7 q1492 q1494 qs36 dX7_run_372 rfl cd_X7_several rfl rfl fp_X7_run_X7_several K (fun x9 h10 eh10 wh10 K => ?_) (fun x h1 _ _ e => Tw.out rfl e)
      refine r_istore (pc := 375) (lv' := [_, _, _, _, _, _, _, _, _, _, _, _, _, _]) dX7_run_375 (by decide) rfl ?_
      refine r_goto (pc := 377) (tgt := 388) dX7_run_377 rfl ?_
      refine r_mask (pc := 388) [true, true, false, false, true, true, true, true, true, false, true, false, false, false] rfl ?_
      exact K
set_option maxHeartbeats 4000000 in
theorem sX7_run_388 {G : Gx} {d t : Nat} {h0 : AH} {Φ : Out → AH → Prop} (h : AH) (v0 : Nat) (v1 : Nat) (v4 : Nat) (v5 : Int32) (v6 : Int32) (v7 : Int32) (v8 : Int32) (v10 : Int32) (K : h.kd v0 = 7 ∧ ((1000 < ((h.i 7004 v0) + (h.i 7005 v0)) → Cw G mX7_need d 0 [vR v0, vI 0] h (kV (fun h4 => Aw G mX7_run (d + 1) t h0 Φ 24 [vR v0, vR v1, vU, vU, vR v4, vI v5, vI v6, vI v7, vI (v8 + v10), vU, vU, vU, vU, vU] [] h4) (fun x h => Φ (.inr x) h))) ∧ (¬ 1000 < ((h.i 7004 v0) + (h.i 7005 v0)) → Cw G mX7_need d 0 [vR v0, vI 1] h (kV (fun h6 => Aw G mX7_run (d + 1) t h0 Φ 24 [vR v0, vR v1, vU, vU, vR v4, vI v5, vI v6, vI v7, vI (v8 + v10), vU, vU, vU, vU, vU] [] h6) (fun x h => Φ (.inr x) h))))) : Aw G mX7_run (d + 1) t h0 Φ 388 [vR v0, vR v1, vU, vU, vR v4, vI v5, vI v6, vI v7, vI v8, vU, vI v10, vU, vU, vU] [] h := by
  refine r_aload_n (pc := 388) dX7_run_388 rfl ?_
  refine r_aload_n (pc := 389) dX7_run_389 rfl ?_
  obtain ⟨hk1, K⟩ := K
  refine r_geti' (pc := 390) (T := TX7) 7 4 rfl hk1 (Or.inl q502) dX7_run_390 kc7 g7004 ?_
  refine r_aload_n (pc := 393) dX7_run_393 rfl ?_
  refine r_geti' (pc := 394) (T := TX7) 7 5 rfl hk1 (Or.inl q503) dX7_run_394 kc7 g7005 ?_
  refine r_iadd (pc := 397) dX7_run_397 ?_
  refine r_sipush (pc := 398) (x := 1000) dX7_run_398 rfl ?_
  refine r_icmp_gt (pc := 401) (tgt := 408) dX7_run_401 rfl (fun c2 => ?_) (fun c2 => ?_)
  · have K := K.1 c2
    refine r_iconst (pc := 408) (x := 0) dX7_run_408 rfl ?_
    refine r_callV_V (pc := 409) (Y := mX7_need) (vs := [_]) (st := []) hk1 rfl kc7 q1272 q1274 qs14 dX7_run_409 rfl cd_X7_need rfl rfl fp_X7_run_X7_need K (fun h4 eh4 wh4 K => ?_) (fun x h1 _ _ e => Tw.out rfl e)
    refine r_iload (pc := 412) dX7_run_412 rfl ?_
    refine r_iload (pc := 414) dX7_run_414 rfl ?_
    refine r_iadd (pc := 416) dX7_run_416 ?_
    refine r_istore (pc := 417) (lv' := [_, _, _, _, _, _, _, _, _, _, _, _, _, _]) dX7_run_417 (by decide) rfl ?_
    refine r_goto (pc := 419) (tgt := 24) dX7_run_419 rfl ?_
    refine r_mask (pc := 24) [true, true, false, false, true, true, true, true, true, false, false, false, false, false] rfl ?_
    exact K
  · have K := K.2 c2
    refine r_iconst (pc := 404) (x := 1) dX7_run_404 rfl ?_
    refine r_goto (pc := 405) (tgt := 409) dX7_run_405 rfl ?_
    refine r_callV_V (pc := 409) (Y := mX7_need) (vs := [_]) (st := []) hk1 rfl kc7 q1272 q1274 qs14 dX7_run_409 rfl cd_X7_need rfl rfl fp_X7_run_X7_need K (fun h6 eh6 wh6 K => ?_) (fun x h1 _ _ e => Tw.out rfl e)
    refine r_iload (pc := 412) dX7_run_412 rfl ?_
    refine r_iload (pc := 414) dX7_run_414 rfl ?_
    refine r_iadd (pc := 416) dX7_run_416 ?_
    refine r_istore (pc := 417) (lv' := [_, _, _, _, _, _, _, _, _, _, _, _, _, _]) dX7_run_417 (by decide) rfl ?_
    refine r_goto (pc := 419) (tgt := 24) dX7_run_419 rfl ?_
    refine r_mask (pc := 24) [true, true, false, false, true, true, true, true, true, false, false, false, false, false] rfl ?_
    exact K
theorem dX7_unlocks_0 : decode cX7_unlocks 0 = .ok (.aload_n 0, 1) := by decide +kernel
theorem dX7_unlocks_1 : decode cX7_unlocks 1 = .ok (.iconst 0, 1) := by decide +kernel
theorem dX7_unlocks_2 : decode cX7_unlocks 2 = .ok (.putfield 45, 3) := by decide +kernel
theorem dX7_unlocks_5 : decode cX7_unlocks 5 = .ok (.aload_n 0, 1) := by decide +kernel
theorem dX7_unlocks_6 : decode cX7_unlocks 6 = .ok (.aload_n 1, 1) := by decide +kernel
theorem dX7_unlocks_7 : decode cX7_unlocks 7 = .ok (.iload_n 2, 1) := by decide +kernel
theorem dX7_unlocks_8 : decode cX7_unlocks 8 = .ok (.iload_n 3, 1) := by decide +kernel
theorem dX7_unlocks_9 : decode cX7_unlocks 9 = .ok (.aload 7, 2) := by decide +kernel
theorem dX7_unlocks_11 : decode cX7_unlocks 11 = .ok (.invokevirtual 76, 3) := by decide +kernel
theorem dX7_unlocks_14 : decode cX7_unlocks 14 = .ok (.aload_n 0, 1) := by decide +kernel
theorem dX7_unlocks_15 : decode cX7_unlocks 15 = .ok (.aload_n 0, 1) := by decide +kernel
theorem dX7_unlocks_16 : decode cX7_unlocks 16 = .ok (.getfield 45, 3) := by decide +kernel
theorem dX7_unlocks_19 : decode cX7_unlocks 19 = .ok (.putfield 80, 3) := by decide +kernel
theorem dX7_unlocks_22 : decode cX7_unlocks 22 = .ok (.iconst 0, 1) := by decide +kernel
theorem dX7_unlocks_23 : decode cX7_unlocks 23 = .ok (.istore 8, 2) := by decide +kernel
theorem dX7_unlocks_25 : decode cX7_unlocks 25 = .ok (.iload 8, 2) := by decide +kernel
theorem dX7_unlocks_27 : decode cX7_unlocks 27 = .ok (.aload_n 0, 1) := by decide +kernel
theorem dX7_unlocks_28 : decode cX7_unlocks 28 = .ok (.getfield 45, 3) := by decide +kernel
theorem dX7_unlocks_31 : decode cX7_unlocks 31 = .ok (.if_icmp .ge 43, 3) := by decide +kernel
theorem dX7_unlocks_34 : decode cX7_unlocks 34 = .ok (.aload_n 0, 1) := by decide +kernel
theorem dX7_unlocks_35 : decode cX7_unlocks 35 = .ok (.getfield 20, 3) := by decide +kernel
theorem dX7_unlocks_38 : decode cX7_unlocks 38 = .ok (.iload 8, 2) := by decide +kernel
theorem dX7_unlocks_40 : decode cX7_unlocks 40 = .ok (.invokestatic 55, 3) := by decide +kernel
theorem dX7_unlocks_43 : decode cX7_unlocks 43 = .ok (.aload_n 0, 1) := by decide +kernel
theorem dX7_unlocks_44 : decode cX7_unlocks 44 = .ok (.getfield 13, 3) := by decide +kernel
theorem dX7_unlocks_47 : decode cX7_unlocks 47 = .ok (.iload 8, 2) := by decide +kernel
theorem dX7_unlocks_49 : decode cX7_unlocks 49 = .ok (.aaload, 1) := by decide +kernel
theorem dX7_unlocks_50 : decode cX7_unlocks 50 = .ok (.getfield 66, 3) := by decide +kernel
theorem dX7_unlocks_53 : decode cX7_unlocks 53 = .ok (.iconst 0, 1) := by decide +kernel
theorem dX7_unlocks_54 : decode cX7_unlocks 54 = .ok (.aload_n 0, 1) := by decide +kernel
theorem dX7_unlocks_55 : decode cX7_unlocks 55 = .ok (.getfield 13, 3) := by decide +kernel
theorem dX7_unlocks_58 : decode cX7_unlocks 58 = .ok (.iload 8, 2) := by decide +kernel
theorem dX7_unlocks_60 : decode cX7_unlocks 60 = .ok (.aaload, 1) := by decide +kernel
theorem dX7_unlocks_61 : decode cX7_unlocks 61 = .ok (.getfield 69, 3) := by decide +kernel
theorem dX7_unlocks_64 : decode cX7_unlocks 64 = .ok (.invokevirtual 72, 3) := by decide +kernel
theorem dX7_unlocks_67 : decode cX7_unlocks 67 = .ok (.pop, 1) := by decide +kernel
theorem dX7_unlocks_68 : decode cX7_unlocks 68 = .ok (.iinc 8 1, 3) := by decide +kernel
theorem dX7_unlocks_71 : decode cX7_unlocks 71 = .ok (.goto (-46), 3) := by decide +kernel
theorem dX7_unlocks_74 : decode cX7_unlocks 74 = .ok (.aload_n 0, 1) := by decide +kernel
theorem dX7_unlocks_75 : decode cX7_unlocks 75 = .ok (.aload 4, 2) := by decide +kernel
theorem dX7_unlocks_77 : decode cX7_unlocks 77 = .ok (.iload 5, 2) := by decide +kernel
theorem dX7_unlocks_79 : decode cX7_unlocks 79 = .ok (.iload 6, 2) := by decide +kernel
theorem dX7_unlocks_81 : decode cX7_unlocks 81 = .ok (.aload 7, 2) := by decide +kernel
theorem dX7_unlocks_83 : decode cX7_unlocks 83 = .ok (.invokevirtual 76, 3) := by decide +kernel
theorem dX7_unlocks_86 : decode cX7_unlocks 86 = .ok (.aload_n 0, 1) := by decide +kernel
theorem dX7_unlocks_87 : decode cX7_unlocks 87 = .ok (.getfield 45, 3) := by decide +kernel
theorem dX7_unlocks_90 : decode cX7_unlocks 90 = .ok (.ifCond .eq 14, 3) := by decide +kernel
theorem dX7_unlocks_93 : decode cX7_unlocks 93 = .ok (.aload_n 0, 1) := by decide +kernel
theorem dX7_unlocks_94 : decode cX7_unlocks 94 = .ok (.iconst 0, 1) := by decide +kernel
theorem dX7_unlocks_95 : decode cX7_unlocks 95 = .ok (.invokevirtual 59, 3) := by decide +kernel
theorem dX7_unlocks_98 : decode cX7_unlocks 98 = .ok (.invokevirtual 83, 3) := by decide +kernel
theorem dX7_unlocks_101 : decode cX7_unlocks 101 = .ok (.ifCond .ne 5, 3) := by decide +kernel
theorem dX7_unlocks_104 : decode cX7_unlocks 104 = .ok (.iconst 0, 1) := by decide +kernel
theorem dX7_unlocks_105 : decode cX7_unlocks 105 = .ok (.ireturn, 1) := by decide +kernel
theorem dX7_unlocks_106 : decode cX7_unlocks 106 = .ok (.iload 6, 2) := by decide +kernel
theorem dX7_unlocks_108 : decode cX7_unlocks 108 = .ok (.bipush 23, 2) := by decide +kernel
theorem dX7_unlocks_110 : decode cX7_unlocks 110 = .ok (.if_icmp .ne 52, 3) := by decide +kernel
theorem dX7_unlocks_113 : decode cX7_unlocks 113 = .ok (.aload 4, 2) := by decide +kernel
theorem dX7_unlocks_115 : decode cX7_unlocks 115 = .ok (.iload 5, 2) := by decide +kernel
theorem dX7_unlocks_117 : decode cX7_unlocks 117 = .ok (.baload, 1) := by decide +kernel
theorem dX7_unlocks_118 : decode cX7_unlocks 118 = .ok (.sipush 255, 3) := by decide +kernel
theorem dX7_unlocks_121 : decode cX7_unlocks 121 = .ok (.iand, 1) := by decide +kernel
theorem dX7_unlocks_122 : decode cX7_unlocks 122 = .ok (.sipush 169, 3) := by decide +kernel
theorem dX7_unlocks_125 : decode cX7_unlocks 125 = .ok (.if_icmp .ne 37, 3) := by decide +kernel
theorem dX7_unlocks_128 : decode cX7_unlocks 128 = .ok (.aload 4, 2) := by decide +kernel
theorem dX7_unlocks_130 : decode cX7_unlocks 130 = .ok (.iload 5, 2) := by decide +kernel
theorem dX7_unlocks_132 : decode cX7_unlocks 132 = .ok (.iconst 1, 1) := by decide +kernel
theorem dX7_unlocks_133 : decode cX7_unlocks 133 = .ok (.iadd, 1) := by decide +kernel
theorem dX7_unlocks_134 : decode cX7_unlocks 134 = .ok (.baload, 1) := by decide +kernel
theorem dX7_unlocks_135 : decode cX7_unlocks 135 = .ok (.bipush 20, 2) := by decide +kernel
theorem dX7_unlocks_137 : decode cX7_unlocks 137 = .ok (.if_icmp .ne 25, 3) := by decide +kernel
theorem dX7_unlocks_140 : decode cX7_unlocks 140 = .ok (.aload 4, 2) := by decide +kernel
theorem dX7_unlocks_142 : decode cX7_unlocks 142 = .ok (.iload 5, 2) := by decide +kernel
theorem dX7_unlocks_144 : decode cX7_unlocks 144 = .ok (.bipush 22, 2) := by decide +kernel
theorem dX7_unlocks_146 : decode cX7_unlocks 146 = .ok (.iadd, 1) := by decide +kernel
theorem dX7_unlocks_147 : decode cX7_unlocks 147 = .ok (.baload, 1) := by decide +kernel
theorem dX7_unlocks_148 : decode cX7_unlocks 148 = .ok (.sipush 255, 3) := by decide +kernel
theorem dX7_unlocks_151 : decode cX7_unlocks 151 = .ok (.iand, 1) := by decide +kernel
theorem dX7_unlocks_152 : decode cX7_unlocks 152 = .ok (.sipush 135, 3) := by decide +kernel
theorem dX7_unlocks_155 : decode cX7_unlocks 155 = .ok (.if_icmp .ne 7, 3) := by decide +kernel
theorem dX7_unlocks_158 : decode cX7_unlocks 158 = .ok (.iconst 1, 1) := by decide +kernel
theorem dX7_unlocks_159 : decode cX7_unlocks 159 = .ok (.goto 4, 3) := by decide +kernel
theorem dX7_unlocks_162 : decode cX7_unlocks 162 = .ok (.iconst 0, 1) := by decide +kernel
theorem dX7_unlocks_163 : decode cX7_unlocks 163 = .ok (.istore 8, 2) := by decide +kernel
theorem dX7_unlocks_165 : decode cX7_unlocks 165 = .ok (.iload 8, 2) := by decide +kernel
theorem dX7_unlocks_167 : decode cX7_unlocks 167 = .ok (.ifCond .ne 5, 3) := by decide +kernel
theorem dX7_unlocks_170 : decode cX7_unlocks 170 = .ok (.iconst 1, 1) := by decide +kernel
theorem dX7_unlocks_171 : decode cX7_unlocks 171 = .ok (.ireturn, 1) := by decide +kernel
theorem dX7_unlocks_172 : decode cX7_unlocks 172 = .ok (.aload_n 0, 1) := by decide +kernel
theorem dX7_unlocks_173 : decode cX7_unlocks 173 = .ok (.aload_n 1, 1) := by decide +kernel
theorem dX7_unlocks_174 : decode cX7_unlocks 174 = .ok (.iload_n 2, 1) := by decide +kernel
theorem dX7_unlocks_175 : decode cX7_unlocks 175 = .ok (.iload_n 3, 1) := by decide +kernel
theorem dX7_unlocks_176 : decode cX7_unlocks 176 = .ok (.invokestatic 87, 3) := by decide +kernel
theorem dX7_unlocks_179 : decode cX7_unlocks 179 = .ok (.ifCond .eq 14, 3) := by decide +kernel
theorem dX7_unlocks_182 : decode cX7_unlocks 182 = .ok (.aload_n 0, 1) := by decide +kernel
theorem dX7_unlocks_183 : decode cX7_unlocks 183 = .ok (.getfield 80, 3) := by decide +kernel
theorem dX7_unlocks_186 : decode cX7_unlocks 186 = .ok (.ifCond .le 7, 3) := by decide +kernel
theorem dX7_unlocks_189 : decode cX7_unlocks 189 = .ok (.iconst 1, 1) := by decide +kernel
theorem dX7_unlocks_190 : decode cX7_unlocks 190 = .ok (.goto 4, 3) := by decide +kernel
theorem dX7_unlocks_193 : decode cX7_unlocks 193 = .ok (.iconst 0, 1) := by decide +kernel
theorem dX7_unlocks_194 : decode cX7_unlocks 194 = .ok (.invokevirtual 91, 3) := by decide +kernel
theorem dX7_unlocks_197 : decode cX7_unlocks 197 = .ok (.aload_n 0, 1) := by decide +kernel
theorem dX7_unlocks_198 : decode cX7_unlocks 198 = .ok (.aload_n 0, 1) := by decide +kernel
theorem dX7_unlocks_199 : decode cX7_unlocks 199 = .ok (.getfield 80, 3) := by decide +kernel
theorem dX7_unlocks_202 : decode cX7_unlocks 202 = .ok (.putfield 45, 3) := by decide +kernel
theorem dX7_unlocks_205 : decode cX7_unlocks 205 = .ok (.iconst 0, 1) := by decide +kernel
theorem dX7_unlocks_206 : decode cX7_unlocks 206 = .ok (.istore 9, 2) := by decide +kernel
theorem dX7_unlocks_208 : decode cX7_unlocks 208 = .ok (.iload 9, 2) := by decide +kernel
theorem dX7_unlocks_210 : decode cX7_unlocks 210 = .ok (.aload_n 0, 1) := by decide +kernel
theorem dX7_unlocks_211 : decode cX7_unlocks 211 = .ok (.getfield 45, 3) := by decide +kernel
theorem dX7_unlocks_214 : decode cX7_unlocks 214 = .ok (.if_icmp .ge 41, 3) := by decide +kernel
theorem dX7_unlocks_217 : decode cX7_unlocks 217 = .ok (.aload_n 0, 1) := by decide +kernel
theorem dX7_unlocks_218 : decode cX7_unlocks 218 = .ok (.getfield 13, 3) := by decide +kernel
theorem dX7_unlocks_221 : decode cX7_unlocks 221 = .ok (.iload 9, 2) := by decide +kernel
theorem dX7_unlocks_223 : decode cX7_unlocks 223 = .ok (.aaload, 1) := by decide +kernel
theorem dX7_unlocks_224 : decode cX7_unlocks 224 = .ok (.aload_n 0, 1) := by decide +kernel
theorem dX7_unlocks_225 : decode cX7_unlocks 225 = .ok (.getfield 20, 3) := by decide +kernel
theorem dX7_unlocks_228 : decode cX7_unlocks 228 = .ok (.iload 9, 2) := by decide +kernel
theorem dX7_unlocks_230 : decode cX7_unlocks 230 = .ok (.aaload, 1) := by decide +kernel
theorem dX7_unlocks_231 : decode cX7_unlocks 231 = .ok (.getfield 66, 3) := by decide +kernel
theorem dX7_unlocks_234 : decode cX7_unlocks 234 = .ok (.iconst 0, 1) := by decide +kernel
theorem dX7_unlocks_235 : decode cX7_unlocks 235 = .ok (.aload_n 0, 1) := by decide +kernel
theorem dX7_unlocks_236 : decode cX7_unlocks 236 = .ok (.getfield 20, 3) := by decide +kernel
theorem dX7_unlocks_239 : decode cX7_unlocks 239 = .ok (.iload 9, 2) := by decide +kernel
theorem dX7_unlocks_241 : decode cX7_unlocks 241 = .ok (.aaload, 1) := by decide +kernel
theorem dX7_unlocks_242 : decode cX7_unlocks 242 = .ok (.getfield 69, 3) := by decide +kernel
theorem dX7_unlocks_245 : decode cX7_unlocks 245 = .ok (.invokevirtual 72, 3) := by decide +kernel
theorem dX7_unlocks_248 : decode cX7_unlocks 248 = .ok (.pop, 1) := by decide +kernel
theorem dX7_unlocks_249 : decode cX7_unlocks 249 = .ok (.iinc 9 1, 3) := by decide +kernel
theorem dX7_unlocks_252 : decode cX7_unlocks 252 = .ok (.goto (-44), 3) := by decide +kernel
theorem dX7_unlocks_255 : decode cX7_unlocks 255 = .ok (.aload_n 0, 1) := by decide +kernel
theorem dX7_unlocks_256 : decode cX7_unlocks 256 = .ok (.iconst 0, 1) := by decide +kernel
theorem dX7_unlocks_257 : decode cX7_unlocks 257 = .ok (.invokevirtual 59, 3) := by decide +kernel
theorem dX7_unlocks_260 : decode cX7_unlocks 260 = .ok (.astore 9, 2) := by decide +kernel
theorem dX7_unlocks_262 : decode cX7_unlocks 262 = .ok (.aload 9, 2) := by decide +kernel
theorem dX7_unlocks_264 : decode cX7_unlocks 264 = .ok (.getfield 69, 3) := by decide +kernel
theorem dX7_unlocks_267 : decode cX7_unlocks 267 = .ok (.istore 10, 2) := by decide +kernel
theorem dX7_unlocks_269 : decode cX7_unlocks 269 = .ok (.iconst 0, 1) := by decide +kernel
theorem dX7_unlocks_270 : decode cX7_unlocks 270 = .ok (.istore 11, 2) := by decide +kernel
theorem dX7_unlocks_272 : decode cX7_unlocks 272 = .ok (.iload 11, 2) := by decide +kernel
theorem dX7_unlocks_274 : decode cX7_unlocks 274 = .ok (.iload 10, 2) := by decide +kernel
theorem dX7_unlocks_276 : decode cX7_unlocks 276 = .ok (.if_icmp .ge 24, 3) := by decide +kernel
theorem dX7_unlocks_279 : decode cX7_unlocks 279 = .ok (.aload_n 0, 1) := by decide +kernel
theorem dX7_unlocks_280 : decode cX7_unlocks 280 = .ok (.getfield 37, 3) := by decide +kernel
theorem dX7_unlocks_283 : decode cX7_unlocks 283 = .ok (.iload 11, 2) := by decide +kernel
theorem dX7_unlocks_285 : decode cX7_unlocks 285 = .ok (.aload 9, 2) := by decide +kernel
theorem dX7_unlocks_287 : decode cX7_unlocks 287 = .ok (.getfield 66, 3) := by decide +kernel
theorem dX7_unlocks_290 : decode cX7_unlocks 290 = .ok (.iload 11, 2) := by decide +kernel
theorem dX7_unlocks_292 : decode cX7_unlocks 292 = .ok (.baload, 1) := by decide +kernel
theorem dX7_unlocks_293 : decode cX7_unlocks 293 = .ok (.bastore, 1) := by decide +kernel
theorem dX7_unlocks_294 : decode cX7_unlocks 294 = .ok (.iinc 11 1, 3) := by decide +kernel
theorem dX7_unlocks_297 : decode cX7_unlocks 297 = .ok (.goto (-25), 3) := by decide +kernel
theorem dX7_unlocks_300 : decode cX7_unlocks 300 = .ok (.aload_n 0, 1) := by decide +kernel
theorem dX7_unlocks_301 : decode cX7_unlocks 301 = .ok (.iconst 1, 1) := by decide +kernel
theorem dX7_unlocks_302 : decode cX7_unlocks 302 = .ok (.invokevirtual 95, 3) := by decide +kernel
theorem dX7_unlocks_305 : decode cX7_unlocks 305 = .ok (.aload_n 0, 1) := by decide +kernel
theorem dX7_unlocks_306 : decode cX7_unlocks 306 = .ok (.aload_n 0, 1) := by decide +kernel
theorem dX7_unlocks_307 : decode cX7_unlocks 307 = .ok (.getfield 37, 3) := by decide +kernel
theorem dX7_unlocks_310 : decode cX7_unlocks 310 = .ok (.iconst 0, 1) := by decide +kernel
theorem dX7_unlocks_311 : decode cX7_unlocks 311 = .ok (.iload 10, 2) := by decide +kernel
theorem dX7_unlocks_313 : decode cX7_unlocks 313 = .ok (.aload 7, 2) := by decide +kernel
theorem dX7_unlocks_315 : decode cX7_unlocks 315 = .ok (.invokevirtual 76, 3) := by decide +kernel
theorem dX7_unlocks_318 : decode cX7_unlocks 318 = .ok (.aload_n 0, 1) := by decide +kernel
theorem dX7_unlocks_319 : decode cX7_unlocks 319 = .ok (.getfield 45, 3) := by decide +kernel
theorem dX7_unlocks_322 : decode cX7_unlocks 322 = .ok (.ifCond .le 18, 3) := by decide +kernel
theorem dX7_unlocks_325 : decode cX7_unlocks 325 = .ok (.aload_n 0, 1) := by decide +kernel
theorem dX7_unlocks_326 : decode cX7_unlocks 326 = .ok (.iconst 0, 1) := by decide +kernel
theorem dX7_unlocks_327 : decode cX7_unlocks 327 = .ok (.invokevirtual 59, 3) := by decide +kernel
theorem dX7_unlocks_330 : decode cX7_unlocks 330 = .ok (.invokevirtual 83, 3) := by decide +kernel
theorem dX7_unlocks_333 : decode cX7_unlocks 333 = .ok (.ifCond .eq 7, 3) := by decide +kernel
theorem dX7_unlocks_336 : decode cX7_unlocks 336 = .ok (.iconst 1, 1) := by decide +kernel
theorem dX7_unlocks_337 : decode cX7_unlocks 337 = .ok (.goto 4, 3) := by decide +kernel
theorem dX7_unlocks_340 : decode cX7_unlocks 340 = .ok (.iconst 0, 1) := by decide +kernel
theorem dX7_unlocks_341 : decode cX7_unlocks 341 = .ok (.ireturn, 1) := by decide +kernel
theorem dX7_unlocks_342 : decode cX7_unlocks 342 = .ok (.astore 8, 2) := by decide +kernel
theorem dX7_unlocks_344 : decode cX7_unlocks 344 = .ok (.iconst 0, 1) := by decide +kernel
theorem dX7_unlocks_345 : decode cX7_unlocks 345 = .ok (.ireturn, 1) := by decide +kernel
/-! CoinJudge$Machine.unlocks([BII[BIILCoinJudge$Signed;)Z -/
set_option maxHeartbeats 4000000 in
theorem sX7_unlocks_0 {G : Gx} {d t : Nat} {h0 : AH} {Φ : Out → AH → Prop} (h : AH) (v0 : Nat) (v1 : Nat) (v2 : Int32) (v3 : Int32) (v4 : Nat) (v5 : Int32) (v6 : Int32) (v7 : Nat) (K : h.kd v0 = 7 ∧ ∀ h2 : AH, h2 = h.pi 7004 v0 0 → Cw G mX7_run d 0 [vR v0, vR v1, vI v2, vI v3, vR v7] h2 (kV (fun h4 => ∀ h7 : AH, h7 = h4.pi 7006 v0 (h4.i 7004 v0) → Aw G mX7_unlocks (d + 1) t h0 Φ 25 [vR v0, vR v1, vI v2, vI v3, vR v4, vI v5, vI v6, vR v7, vI 0, vU, vU, vU] [] h7) (fun x h => Tw G mX7_unlocks (d + 1) t h0 Φ 11 [vR v0, vR v1, vI v2, vI v3, vR v4, vI v5, vI v6, vR v7, vU, vU, vU, vU] [] x h))) : Aw G mX7_unlocks (d + 1) t h0 Φ 0 [vR v0, vR v1, vI v2, vI v3, vR v4, vI v5, vI v6, vR v7, vU, vU, vU, vU] [] h := by
  refine r_aload_n (pc := 0) dX7_unlocks_0 rfl ?_
  refine r_iconst (pc := 1) (x := 0) dX7_unlocks_1 rfl ?_
  obtain ⟨hk1, K⟩ := K
  refine r_puti (pc := 2) (T := TX7) (key := 7004) 7 4 hk1 (Or.inl q502) dX7_unlocks_2 kc7 rfl (Or.inl rfl) (Or.inl (em rfl)) ?_
  refine r_nameH (fun h2 eh2 => ?_)
  have K := K h2 eh2
  refine r_aload_n (pc := 5) dX7_unlocks_5 rfl ?_
  refine r_aload_n (pc := 6) dX7_unlocks_6 rfl ?_
  refine r_iload_n (pc := 7) dX7_unlocks_7 rfl ?_
  refine r_iload_n (pc := 8) dX7_unlocks_8 rfl ?_
  refine r_aload (pc := 9) dX7_unlocks_9 rfl ?_
  have hk5 := kd_pi eh2 hk1
  refine r_callV_V (pc := 11) (Y := mX7_run) (vs := [_, _, _, _]) (st := []) hk5 rfl kc7 q1265 q1267 qs13 dX7_unlocks_11 rfl cd_X7_run rfl rfl fp_X7_unlocks_X7_run K (fun h4 eh4 wh4 K => ?_) (fun x h1 _ _ e => e)
  refine r_aload_n (pc := 14) dX7_unlocks_14 rfl ?_
  refine r_aload_n (pc := 15) dX7_unlocks_15 rfl ?_
  have hk6 := kd_ext eh4 hk5 (nz rfl)
  refine r_geti' (pc := 16) (T := TX7) 7 4 rfl hk6 (Or.inl q502) dX7_unlocks_16 kc7 g7004 ?_
  refine r_puti (pc := 19) (T := TX7) (key := 7006) 7 6 hk6 (Or.inl q504) dX7_unlocks_19 kc7 rfl (Or.inl rfl) (Or.inl (em rfl)) ?_
  refine r_nameH (fun h7 eh7 => ?_)
  have K := K h7 eh7
  refine r_iconst (pc := 22) (x := 0) dX7_unlocks_22 rfl ?_
  refine r_istore (pc := 23) (lv' := [_, _, _, _, _, _, _, _, _, _, _, _]) dX7_unlocks_23 (by decide) rfl ?_
  refine r_mask (pc := 25) [true, true, true, true, true, true, true, true, true, false, false, false] rfl ?_
  exact K
theorem eX7_unlocks {G : Gx} {d : Nat} {Φ : Out → AH → Prop} (h : AH) (v0 : Nat) (v1 : Nat) (v2 : Int32) (v3 : Int32) (v4 : Nat) (v5 : Int32) (v6 : Int32) (v7 : Nat) (K : WF G h → Aw G mX7_unlocks (d + 1) 0 h Φ 0 [vR v0, vR v1, vI v2, vI v3, vR v4, vI v5, vI v6, vR v7, vU, vU, vU, vU] [] h) : Cw G mX7_unlocks (d + 1) 0 [vR v0, vR v1, vI v2, vI v3, vR v4, vI v5, vI v6, vR v7] h Φ := Cw.of rfl K
set_option maxHeartbeats 4000000 in
theorem sX7_unlocks_25 {G : Gx} {d t : Nat} {h0 : AH} {Φ : Out → AH → Prop} (h : AH) (v0 : Nat) (v1 : Nat) (v2 : Int32) (v3 : Int32) (v4 : Nat) (v5 : Int32) (v6 : Int32) (v7 : Nat) (v8 : Int32) (K : h.kd v0 = 7 ∧ (((h.i 7004 v0) ≤ v8 → Cw G mX7_run d 0 [vR v0, vR v4, vI v5, vI v6, vR v7] h (kV (fun h4 => (((h4.i 7004 v0) = 0 → Φ (.inl (some (vI 0))) h4) ∧ (¬ (h4.i 7004 v0) = 0 → Cw G mX7_top d 0 [vR v0, vI 0] h4 (kR (fun x7 h8 => h8.kd x7 = 22 ∧ Cw G mX22_isTrue d 0 [vR x7] h8 (kI (fun x9 h10 => ((¬ x9 = 0 → ((¬ v6 = 23 → Aw G mX7_unlocks (d + 1) t h0 Φ 162 [vR v0, vR v1, vI v2, vI v3, vU, vU, vU, vR v7, vU, vU, vU, vU] [] h10) ∧ (v6 = 23 → h10.kd v4 = 101 ∧ vp_in v5 (h10.ai v4).length ∧ ((¬ (((h10.ai v4).getD (v5.toNatClampNeg) 0) &&& 255) = 169 → Aw G mX7_unlocks (d + 1) t h0 Φ 162 [vR v0, vR v1, vI v2, vI v3, vU, vU, vU, vR v7, vU, vU, vU, vU] [] h10) ∧ ((((h10.ai v4).getD (v5.toNatClampNeg) 0) &&& 255) = 169 → vp_in (v5 + 1) (h10.ai v4).length ∧ ((¬ ((h10.ai v4).getD ((v5 + 1).toNatClampNeg) 0) = 20 → Aw G mX7_unlocks (d + 1) t h0 Φ 162 [vR v0, vR v1, vI v2, vI v3, vU, vU, vU, vR v7, vU, vU, vU, vU] [] h10) ∧ (((h10.ai v4).getD ((v5 + 1).toNatClampNeg) 0) = 20 → vp_in (v5 + 22) (h10.ai v4).length ∧ ((¬ (((h10.ai v4).getD ((v5 + 22).toNatClampNeg) 0) &&& 255) = 135 → Aw G mX7_unlocks (d + 1) t h0 Φ 162 [vR v0, vR v1, vI v2, vI v3, vU, vU, vU, vR v7, vU, vU, vU, vU] [] h10) ∧ ((((h10.ai v4).getD ((v5 + 22).toNatClampNeg) 0) &&& 255) = 135 → ((¬ (1 : Int32) = 0 → Cw G mX7_pushes d 0 [vR v1, vI v2, vI v3] h10 (kI (fun x22 h23 => ((x22 = 0 → Cw G mX7_need d 0 [vR v0, vI 0] h23 (kV (fun h26 => ∀ h31 : AH, h31 = h26.pi 7004 v0 (h26.i 7006 v0) → Aw G mX7_unlocks (d + 1) t h0 Φ 208 [vR v0, vU, vU, vU, vU, vU, vU, vR v7, vU, vI 0, vU, vU] [] h31) (fun x h => Tw G mX7_unlocks (d + 1) t h0 Φ 194 [vR v0, vR v1, vI v2, vI v3, vR v4, vI v5, vI v6, vR v7, vI 1, vU, vU, vU] [] x h))) ∧ (¬ x22 = 0 → (((h23.i 7006 v0) ≤ 0 → Cw G mX7_need d 0 [vR v0, vI 0] h23 (kV (fun h37 => ∀ h41 : AH, h41 = h37.pi 7004 v0 (h23.i 7006 v0) → Aw G mX7_unlocks (d + 1) t h0 Φ 208 [vR v0, vU, vU, vU, vU, vU, vU, vR v7, vU, vI 0, vU, vU] [] h41) (fun x h => Tw G mX7_unlocks (d + 1) t h0 Φ 194 [vR v0, vR v1, vI v2, vI v3, vR v4, vI v5, vI v6, vR v7, vI 1, vU, vU, vU] [] x h))) ∧ (¬ (h23.i 7006 v0) ≤ 0 → Cw G mX7_need d 0 [vR v0, vI 1] h23 (kV (fun h43 => ∀ h47 : AH, h47 = h43.pi 7004 v0 (h23.i 7006 v0) → Aw G mX7_unlocks (d + 1) t h0 Φ 208 [vR v0, vU, vU, vU, vU, vU, vU, vR v7, vU, vI 0, vU, vU] [] h47) (fun x h => Tw G mX7_unlocks (d + 1) t h0 Φ 194 [vR v0, vR v1, vI v2, vI v3, vR v4, vI v5, vI v6, vR v7, vI 1, vU, vU, vU] [] x h))))))) (fun x h => Tw G mX7_unlocks (d + 1) t h0 Φ 176 [vR v0, vR v1, vI v2, vI v3, vR v4, vI v5, vI v6, vR v7, vI 1, vU, vU, vU] [vR v0] x h))) ∧ ((1 : Int32) = 0 → Φ (.inl (some (vI 1))) h10))))))))))) ∧ (x9 = 0 → Φ (.inl (some (vI 0))) h10))) (fun x h => Tw G mX7_unlocks (d + 1) t h0 Φ 98 [vR v0, vR v1, vI v2, vI v3, vR v4, vI v5, vI v6, vR v7, vI v8, vU, vU, vU] [] x h))) (fun x h => Tw G mX7_unlocks (d + 1) t h0 Φ 95 [vR v0, vR v1, vI v2, vI v3, vR v4, vI v5, vI v6, vR v7, vI v8, vU, vU, vU] [] x h))))) (fun x h => Tw G mX7_unlocks (d + 1) t h0 Φ 83 [vR v0, vR v1, vI v2, vI v3, vR v4, vI v5, vI v6, vR v7, vI v8, vU, vU, vU] [] x h))) ∧ (¬ (h.i 7004 v0) ≤ v8 → ∀ r48 : Nat, r48 = (h.r 7003 v0) → Cw G mX7_at d 0 [vR r48, vI v8] h (kR (fun x49 h50 => ∀ r52 : Nat, r52 = (h50.r 7001 v0) → h50.kd r52 = 104 ∧ vp_in v8 (h50.ar r52).length ∧ ∀ r55 : Nat, r55 = ((h50.ar r52).getD (v8.toNatClampNeg) 0) → h50.kd r55 = 22 ∧ ∀ r57 : Nat, r57 = (h50.r 22000 r55) → vp_in v8 (h50.ar r52).length ∧ ∀ r59 : Nat, r59 = ((h50.ar r52).getD (v8.toNatClampNeg) 0) → h50.kd r59 = 22 ∧ h50.kd x49 = 22 ∧ Cw G mX22_set d 0 [vR x49, vR r57, vI 0, vI (h50.i 22001 r59)] h50 (kR (fun x61 h62 => Aw G mX7_unlocks (d + 1) t h0 Φ 25 [vR v0, vR v1, vI v2, vI v3, vR v4, vI v5, vI v6, vR v7, vI (v8 + 1), vU, vU, vU] [] h62) (fun x h => Tw G mX7_unlocks (d + 1) t h0 Φ 64 [vR v0, vR v1, vI v2, vI v3, vR v4, vI v5, vI v6, vR v7, vI v8, vU, vU, vU] [] x h))) (fun x h => Tw G mX7_unlocks (d + 1) t h0 Φ 40 [vR v0, vR v1, vI v2, vI v3, vR v4, vI v5, vI v6, vR v7, vI v8, vU, vU, vU] [] x h))))) : Aw G mX7_unlocks (d + 1) t h0 Φ 25 [vR v0, vR v1, vI v2, vI v3, vR v4, vI v5, vI v6, vR v7, vI v8, vU, vU, vU] [] h := by
  refine r_iload (pc := 25) dX7_unlocks_25 rfl ?_
  refine r_aload_n (pc := 27) dX7_unlocks_27 rfl ?_
  obtain ⟨hk1, K⟩ := K
  refine r_geti' (pc := 28) (T := TX7) 7 4 rfl hk1 (Or.inl q502) dX7_unlocks_28 kc7 g7004 ?_
  refine r_icmp_ge (pc := 31) (tgt := 74) dX7_unlocks_31 rfl (fun c2 => ?_) (fun c2 => ?_)
  · have K := K.1 c2
    refine r_aload_n (pc := 74) dX7_unlocks_74 rfl ?_
    refine r_aload (pc := 75) dX7_unlocks_75 rfl ?_
    refine r_iload (pc := 77) dX7_unlocks_77 rfl ?_
    refine r_iload (pc := 79) dX7_unlocks_79 rfl ?_
    refine r_aload (pc := 81) dX7_unlocks_81 rfl ?_
    refine r_callV_V (pc := 83) (Y := mX7_run) (vs := [_, _, _, _]) (st := []) hk1 rfl kc7 q1265 q1267 qs13 dX7_unlocks_83 rfl cd_X7_run rfl rfl fp_X7_unlocks_X7_run K (fun h4 eh4 wh4 K => ?_) (fun x h1 _ _ e => e)
    refine r_aload_n (pc := 86) dX7_unlocks_86 rfl ?_
    have hk5 := kd_ext eh4 hk1 (nz rfl)
    refine r_geti' (pc := 87) (T := TX7) 7 4 rfl hk5 (Or.inl q502) dX7_unlocks_87 kc7 g7004 ?_
    refine r_if_eq (pc := 90) (tgt := 104) dX7_unlocks_90 rfl (fun c6 => ?_) (fun c6 => ?_)
    · have K := K.1 c6
      refine r_iconst (pc := 104) (x := 0) dX7_unlocks_104 rfl ?_
      exact r_iret (pc := 105) rfl rfl dX7_unlocks_105 K
    · have K := K.2 c6
      refine r_aload_n (pc := 93) dX7_unlocks_93 rfl ?_
      refine r_iconst (pc := 94) (x := 0) dX7_unlocks_94 rfl ?_
      refine r_callV_R (pc := 95) (Y := mX7_top) (vs := [_]) (st := []) hk5 rfl kc7 q1311 q1313 qs17 dX7_unlocks_95 rfl cd_X7_top rfl rfl fp_X7_unlocks_X7_top K (fun x7 h8 eh8 wh8 K => ?_) (fun x h1 _ _ e => e)
      obtain ⟨hk11, K⟩ := K
      refine r_callV_I (pc := 98) (Y := mX22_isTrue) (vs := []) (st := []) hk11 rfl kc22 q1315 q1316 q1317 dX7_unlocks_98 rfl cd_X22_isTrue rfl rfl fp_X7_unlocks_X22_isTrue K (fun x9 h10 eh10 wh10 K => ?_) (fun x h1 _ _ e => e)
      refine r_if_ne (pc := 101) (tgt := 106) dX7_unlocks_101 rfl (fun c12 => ?_) (fun c12 => ?_)
      · have K := K.1 c12
        refine r_iload (pc := 106) dX7_unlocks_106 rfl ?_
        refine r_bipush (pc := 108) (x := 23) dX7_unlocks_108 rfl ?_
        refine r_icmp_ne (pc := 110) (tgt := 162) dX7_unlocks_110 rfl (fun c13 => ?_) (fun c13 => ?_)
        · have K := K.1 c13
          refine r_mask (pc := 162) [true, true, true, true, false, false, false, true, false, false, false, false] rfl ?_
          exact K
        · have K := K.2 c13
          refine r_aload (pc := 113) dX7_unlocks_113 rfl ?_
          refine r_iload (pc := 115) dX7_unlocks_115 rfl ?_
          obtain ⟨hk14, K⟩ := K
          obtain ⟨hi15, K⟩ := K
          refine r_baload (pc := 117) hk14 hi15 dX7_unlocks_117 ?_
          refine r_sipush (pc := 118) (x := 255) dX7_unlocks_118 rfl ?_
          refine r_iand (pc := 121) dX7_unlocks_121 ?_
          refine r_sipush (pc := 122) (x := 169) dX7_unlocks_122 rfl ?_
          refine r_icmp_ne (pc := 125) (tgt := 162) dX7_unlocks_125 rfl (fun c16 => ?_) (fun c16 => ?_)
          · have K := K.1 c16
            refine r_mask (pc := 162) [true, true, true, true, false, false, false, true, false, false, false, false] rfl ?_
            exact K
          · have K := K.2 c16
            refine r_aload (pc := 128) dX7_unlocks_128 rfl ?_
            refine r_iload (pc := 130) dX7_unlocks_130 rfl ?_
            refine r_iconst (pc := 132) (x := 1) dX7_unlocks_132 rfl ?_
            refine r_iadd (pc := 133) dX7_unlocks_133 ?_
            obtain ⟨hi17, K⟩ := K
            refine r_baload (pc := 134) hk14 hi17 dX7_unlocks_134 ?_
            refine r_bipush (pc := 135) (x := 20) dX7_unlocks_135 rfl ?_
            refine r_icmp_ne (pc := 137) (tgt := 162) dX7_unlocks_137 rfl (fun c18 => ?_) (fun c18 => ?_)
            · have K := K.1 c18
              refine r_mask (pc := 162) [true, true, true, true, false, false, false, true, false, false, false, false] rfl ?_
              exact K
            · have K := K.2 c18
              refine r_aload (pc := 140) dX7_unlocks_140 rfl ?_
              refine r_iload (pc := 142) dX7_unlocks_142 rfl ?_
              refine r_bipush (pc := 144) (x := 22) dX7_unlocks_144 rfl ?_
              refine r_iadd (pc := 146) dX7_unlocks_146 ?_
              obtain ⟨hi19, K⟩ := K
              refine r_baload (pc := 147) hk14 hi19 dX7_unlocks_147 ?_
              refine r_sipush (pc := 148) (x := 255) dX7_unlocks_148 rfl ?_
              refine r_iand (pc := 151) dX7_unlocks_151 ?_
              refine r_sipush (pc := 152) (x := 135) dX7_unlocks_152 rfl ?_
              refine r_icmp_ne (pc := 155) (tgt := 162) dX7_unlocks_155 rfl (fun c20 => ?_) (fun c20 => ?_)
              · have K := K.1 c20
                refine r_mask (pc := 162) [true, true, true, true, false, false, false, true, false, false, false, false] rfl ?_
                exact K
              · have K := K.2 c20
                refine r_iconst (pc := 158) (x := 1) dX7_unlocks_158 rfl ?_
                refine r_goto (pc := 159) (tgt := 163) dX7_unlocks_159 rfl ?_
                refine r_istore (pc := 163) (lv' := [_, _, _, _, _, _, _, _, _, _, _, _]) dX7_unlocks_163 (by decide) rfl ?_
                refine r_iload (pc := 165) dX7_unlocks_165 rfl ?_
                refine r_if_ne (pc := 167) (tgt := 172) dX7_unlocks_167 rfl (fun c21 => ?_) (fun c21 => ?_)
                · have K := K.1 c21
                  refine r_aload_n (pc := 172) dX7_unlocks_172 rfl ?_
                  refine r_aload_n (pc := 173) dX7_unlocks_173 rfl ?_
                  refine r_iload_n (pc := 174) dX7_unlocks_174 rfl ?_
                  refine r_iload_n (pc := 175) dX7_unlocks_175 rfl ?_
                  refine r_callS_I (pc := 176) (Y := mX7_pushes) (vs := [_, _, _]) (st := [_]) q1575 q1576 q161 dX7_unlocks_176 rfl cd_X7_pushes rfl rfl fp_X7_unlocks_X7_pushes K (fun x22 h23 eh23 wh23 K => ?_) (fun x h1 _ _ e => e)
                  refine r_if_eq (pc := 179) (tgt := 193) dX7_unlocks_179 rfl (fun c24 => ?_) (fun c24 => ?_)
                  · have K := K.1 c24
                    refine r_iconst (pc := 193) (x := 0) dX7_unlocks_193 rfl ?_
                    have hk27 := kd_ext eh8 hk5 (nz rfl)
                    have hk28 := kd_ext eh10 hk27 (nz rfl)
                    have hk29 := kd_ext eh23 hk28 (nz rfl)
                    refine r_callV_V (pc := 194) (Y := mX7_need) (vs := [_]) (st := []) hk29 rfl kc7 q1272 q1274 qs14 dX7_unlocks_194 rfl cd_X7_need rfl rfl fp_X7_unlocks_X7_need K (fun h26 eh26 wh26 K => ?_) (fun x h1 _ _ e => e)
                    refine r_aload_n (pc := 197) dX7_unlocks_197 rfl ?_
                    refine r_aload_n (pc := 198) dX7_unlocks_198 rfl ?_
                    have hk30 := kd_ext eh26 hk29 (nz rfl)
                    refine r_geti' (pc := 199) (T := TX7) 7 6 rfl hk30 (Or.inl q504) dX7_unlocks_199 kc7 g7006 ?_
                    refine r_puti (pc := 202) (T := TX7) (key := 7004) 7 4 hk30 (Or.inl q502) dX7_unlocks_202 kc7 rfl (Or.inl rfl) (Or.inl (em rfl)) ?_
                    refine r_nameH (fun h31 eh31 => ?_)
                    have K := K h31 eh31
                    refine r_iconst (pc := 205) (x := 0) dX7_unlocks_205 rfl ?_
                    refine r_istore (pc := 206) (lv' := [_, _, _, _, _, _, _, _, _, _, _, _]) dX7_unlocks_206 (by decide) rfl ?_
                    refine r_mask (pc := 208) [true, false, false, false, false, false, false, true, false, true, false, false] rfl ?_
                    exact K
                  · have K := K.2 c24
                    refine r_aload_n (pc := 182) dX7_unlocks_182 rfl ?_
                    have hk32 := kd_ext eh8 hk5 (nz rfl)
                    have hk33 := kd_ext eh10 hk32 (nz rfl)
                    have hk34 := kd_ext eh23 hk33 (nz rfl)
                    refine r_geti' (pc := 183) (T := TX7) 7 6 rfl hk34 (Or.inl q504) dX7_unlocks_183 kc7 g7006 ?_
                    refine r_if_le (pc := 186) (tgt := 193) dX7_unlocks_186 rfl (fun c35 => ?_) (fun c35 => ?_)
                    · have K := K.1 c35
                      refine r_iconst (pc := 193) (x := 0) dX7_unlocks_193 rfl ?_
                      refine r_callV_V (pc := 194) (Y := mX7_need) (vs := [_]) (st := []) hk34 rfl kc7 q1272 q1274 qs14 dX7_unlocks_194 rfl cd_X7_need rfl rfl fp_X7_unlocks_X7_need K (fun h37 eh37 wh37 K => ?_) (fun x h1 _ _ e => e)
                      refine r_aload_n (pc := 197) dX7_unlocks_197 rfl ?_
                      refine r_aload_n (pc := 198) dX7_unlocks_198 rfl ?_
                      have hk38 := kd_ext eh37 hk34 (nz rfl)
                      have hv39 := fi_self (key := 7006) hk34
                      have hv40 := (fi_ext (key := 7006) eh37 hk34 (nz rfl) (ne0 wh37 hk38 (nz rfl)) (nm rfl)).trans hv39
                      refine r_geti' (pc := 199) (T := TX7) 7 6 hv40 hk38 (Or.inl q504) dX7_unlocks_199 kc7 g7006 ?_
                      refine r_puti (pc := 202) (T := TX7) (key := 7004) 7 4 hk38 (Or.inl q502) dX7_unlocks_202 kc7 rfl (Or.inl rfl) (Or.inl (em rfl)) ?_
                      refine r_nameH (fun h41 eh41 => ?_)
                      have K := K h41 eh41
                      refine r_iconst (pc := 205) (x := 0) dX7_unlocks_205 rfl ?_
                      refine r_istore (pc := 206) (lv' := [_, _, _, _, _, _, _, _, _, _, _, _]) dX7_unlocks_206 (by decide) rfl ?_
                      refine r_mask (pc := 208) [true, false, false, false, false, false, false, true, false, true, false, false] rfl ?_
                      exact K
                    · have K := K.2 c35
                      refine r_iconst (pc := 189) (x := 1) dX7_unlocks_189 rfl ?_
                      refine r_goto (pc := 190) (tgt := 194) dX7_unlocks_190 rfl ?_
                      refine r_callV_V (pc := 194) (Y := mX7_need) (vs := [_]) (st := []) hk34 rfl kc7 q1272 q1274 qs14 dX7_unlocks_194 rfl cd_X7_need rfl rfl fp_X7_unlocks_X7_need K (fun h43 eh43 wh43 K => ?_) (fun x h1 _ _ e => e)
                      refine r_aload_n (pc := 197) dX7_unlocks_197 rfl ?_
                      refine r_aload_n (pc := 198) dX7_unlocks_198 rfl ?_
                      have hk44 := kd_ext eh43 hk34 (nz rfl)
                      have hv45 := fi_self (key := 7006) hk34
                      have hv46 := (fi_ext (key := 7006) eh43 hk34 (nz rfl) (ne0 wh43 hk44 (nz rfl)) (nm rfl)).trans hv45
                      refine r_geti' (pc := 199) (T := TX7) 7 6 hv46 hk44 (Or.inl q504) dX7_unlocks_199 kc7 g7006 ?_
                      refine r_puti (pc := 202) (T := TX7) (key := 7004) 7 4 hk44 (Or.inl q502) dX7_unlocks_202 kc7 rfl (Or.inl rfl) (Or.inl (em rfl)) ?_
                      refine r_nameH (fun h47 eh47 => ?_)
                      have K := K h47 eh47
                      refine r_iconst (pc := 205) (x := 0) dX7_unlocks_205 rfl ?_
                      refine r_istore (pc := 206) (lv' := [_, _, _, _, _, _, _, _, _, _, _, _]) dX7_unlocks_206 (by decide) rfl ?_
                      refine r_mask (pc := 208) [true, false, false, false, false, false, false, true, false, true, false, false] rfl ?_
                      exact K
                · have K := K.2 c21
                  refine r_iconst (pc := 170) (x := 1) dX7_unlocks_170 rfl ?_
                  exact r_iret (pc := 171) rfl rfl dX7_unlocks_171 K
      · have K := K.2 c12
        refine r_iconst (pc := 104) (x := 0) dX7_unlocks_104 rfl ?_
        exact r_iret (pc := 105) rfl rfl dX7_unlocks_105 K
  · have K := K.2 c2
    refine r_aload_n (pc := 34) dX7_unlocks_34 rfl ?_
    have K := K _ rfl
    refine r_getr' (pc := 35) (T := TX7) 7 3 rfl hk1 (Or.inl q501) dX7_unlocks_35 kc7 g7003 ?_
    refine r_iload (pc := 38) dX7_unlocks_38 rfl ?_
    refine r_callS_R (pc := 40) (Y := mX7_at) (vs := [_, _]) (st := []) q1284 q1285 q161 dX7_unlocks_40 rfl cd_X7_at rfl rfl fp_X7_unlocks_X7_at K (fun x49 h50 eh50 wh50 K => ?_) (fun x h1 _ _ e => e)
    refine r_aload_n (pc := 43) dX7_unlocks_43 rfl ?_
    have hk51 := kd_ext eh50 hk1 (nz rfl)
    have K := K _ rfl
    refine r_getr' (pc := 44) (T := TX7) 7 1 rfl hk51 (Or.inl q499) dX7_unlocks_44 kc7 g7001 ?_
    refine r_iload (pc := 47) dX7_unlocks_47 rfl ?_
    obtain ⟨hk53, K⟩ := K
    obtain ⟨hi54, K⟩ := K
    have K := K _ rfl
    refine r_aaload (pc := 49) (le_of_eq_r hk53 (by decide)) hi54 dX7_unlocks_49 ?_
    obtain ⟨hk56, K⟩ := K
    have K := K _ rfl
    refine r_getr' (pc := 50) (T := TX22) 22 0 rfl hk56 (Or.inr (Or.inl ⟨_, q1293⟩)) dX7_unlocks_50 kc22 g22000 ?_
    refine r_iconst (pc := 53) (x := 0) dX7_unlocks_53 rfl ?_
    refine r_aload_n (pc := 54) dX7_unlocks_54 rfl ?_
    refine r_getr' (pc := 55) (T := TX7) 7 1 rfl hk51 (Or.inl q499) dX7_unlocks_55 kc7 g7001 ?_
    refine r_iload (pc := 58) dX7_unlocks_58 rfl ?_
    obtain ⟨hi58, K⟩ := K
    have K := K _ rfl
    refine r_aaload (pc := 60) (le_of_eq_r hk53 (by decide)) hi58 dX7_unlocks_60 ?_
    obtain ⟨hk60, K⟩ := K
    refine r_geti' (pc := 61) (T := TX22) 22 1 rfl hk60 (Or.inr (Or.inl ⟨_, q1296⟩)) dX7_unlocks_61 kc22 g22001 ?_
    obtain ⟨hk63, K⟩ := K
    refine r_callV_R (pc := 64) (Y := mX22_set) (vs := [_, _, _]) (st := []) hk63 rfl kc22 q1303 q1304 q1305 dX7_unlocks_64 rfl cd_X22_set rfl rfl fp_X7_unlocks_X22_set K (fun x61 h62 eh62 wh62 K => ?_) (fun x h1 _ _ e => e)
    refine r_pop (pc := 67) rfl dX7_unlocks_67 ?_
    refine r_iinc (pc := 68) (lv' := [_, _, _, _, _, _, _, _, _, _, _, _]) dX7_unlocks_68 rfl rfl (by decide) rfl ?_
    refine r_goto (pc := 71) (tgt := 25) dX7_unlocks_71 rfl ?_
    refine r_mask (pc := 25) [true, true, true, true, true, true, true, true, true, false, false, false] rfl ?_
    exact K
set_option maxHeartbeats 4000000 in
theorem sX7_unlocks_162 {G : Gx} {d t : Nat} {h0 : AH} {Φ : Out → AH → Prop} (h : AH) (v0 : Nat) (v1 : Nat) (v2 : Int32) (v3 : Int32) (v7 : Nat) (K : ((¬ (0 : Int32) = 0 → Cw G mX7_pushes d 0 [vR v1, vI v2, vI v3] h (kI (fun x2 h3 => ((x2 = 0 → h3.kd v0 = 7 ∧ Cw G mX7_need d 0 [vR v0, vI 0] h3 (kV (fun h6 => ∀ h9 : AH, h9 = h6.pi 7004 v0 (h6.i 7006 v0) → Aw G mX7_unlocks (d + 1) t h0 Φ 208 [vR v0, vU, vU, vU, vU, vU, vU, vR v7, vU, vI 0, vU, vU] [] h9) (fun x h => Tw G mX7_unlocks (d + 1) t h0 Φ 194 [vR v0, vR v1, vI v2, vI v3, vU, vU, vU, vR v7, vI 0, vU, vU, vU] [] x h))) ∧ (¬ x2 = 0 → h3.kd v0 = 7 ∧ (((h3.i 7006 v0) ≤ 0 → Cw G mX7_need d 0 [vR v0, vI 0] h3 (kV (fun h13 => ∀ h17 : AH, h17 = h13.pi 7004 v0 (h3.i 7006 v0) → Aw G mX7_unlocks (d + 1) t h0 Φ 208 [vR v0, vU, vU, vU, vU, vU, vU, vR v7, vU, vI 0, vU, vU] [] h17) (fun x h => Tw G mX7_unlocks (d + 1) t h0 Φ 194 [vR v0, vR v1, vI v2, vI v3, vU, vU, vU, vR v7, vI 0, vU, vU, vU] [] x h))) ∧ (¬ (h3.i 7006 v0) ≤ 0 → Cw G mX7_need d 0 [vR v0, vI 1] h3 (kV (fun h19 => ∀ h23 : AH, h23 = h19.pi 7004 v0 (h3.i 7006 v0) → Aw G mX7_unlocks (d + 1) t h0 Φ 208 [vR v0, vU, vU, vU, vU, vU, vU, vR v7, vU, vI 0, vU, vU] [] h23) (fun x h => Tw G mX7_unlocks (d + 1) t h0 Φ 194 [vR v0, vR v1, vI v2, vI v3, vU, vU, vU, vR v7, vI 0, vU, vU, vU] [] x h))))))) (fun x h => Tw G mX7_unlocks (d + 1) t h0 Φ 176 [vR v0, vR v1, vI v2, vI v3, vU, vU, vU, vR v7, vI 0, vU, vU, vU] [vR v0] x h))) ∧ ((0 : Int32) = 0 → Φ (.inl (some (vI 1))) h))) : Aw G mX7_unlocks (d + 1) t h0 Φ 162 [vR v0, vR v1, vI v2, vI v3, vU, vU, vU, vR v7, vU, vU, vU, vU] [] h := by
  refine r_iconst (pc := 162) (x := 0) dX7_unlocks_162 rfl ?_
  refine r_istore (pc := 163) (lv' := [_, _, _, _, _, _, _, _, _, _, _, _]) dX7_unlocks_163 (by decide) rfl ?_
  refine r_iload (pc := 165) dX7_unlocks_165 rfl ?_
  refine r_if_ne (pc := 167) (tgt := 172) dX7_unlocks_167 rfl (fun c1 => ?_) (fun c1 => ?_)
  · have K := K.1 c1
    refine r_aload_n (pc := 172) dX7_unlocks_172 rfl ?_
    refine r_aload_n (pc := 173) dX7_unlocks_173 rfl ?_
    refine r_iload_n (pc := 174) dX7_unlocks_174 rfl ?_
    refine r_iload_n (pc := 175) dX7_unlocks_175 rfl ?_
    refine r_callS_I (pc := 176) (Y := mX7_pushes) (vs := [_, _, _]) (st := [_]) q1575 q1576 q161 dX7_unlocks_176 rfl cd_X7_pushes rfl rfl fp_X7_unlocks_X7_pushes K (fun x2 h3 eh3 wh3 K => ?_) (fun x h1 _ _ e => e)
    refine r_if_eq (pc := 179) (tgt := 193) dX7_unlocks_179 rfl (fun c4 => ?_) (fun c4 => ?_)
    · have K := K.1 c4
      refine r_iconst (pc := 193) (x := 0) dX7_unlocks_193 rfl ?_
      obtain ⟨hk7, K⟩ := K
      refine r_callV_V (pc := 194) (Y := mX7_need) (vs := [_]) (st := []) hk7 rfl kc7 q1272 q1274 qs14 dX7_unlocks_194 rfl cd_X7_need rfl rfl fp_X7_unlocks_X7_need K (fun h6 eh6 wh6 K => ?_) (fun x h1 _ _ e => e)
      refine r_aload_n (pc := 197) dX7_unlocks_197 rfl ?_
      refine r_aload_n (pc := 198) dX7_unlocks_198 rfl ?_
      have hk8 := kd_ext eh6 hk7 (nz rfl)
      refine r_geti' (pc := 199) (T := TX7) 7 6 rfl hk8 (Or.inl q504) dX7_unlocks_199 kc7 g7006 ?_
      refine r_puti (pc := 202) (T := TX7) (key := 7004) 7 4 hk8 (Or.inl q502) dX7_unlocks_202 kc7 rfl (Or.inl rfl) (Or.inl (em rfl)) ?_
      refine r_nameH (fun h9 eh9 => ?_)
      have K := K h9 eh9
      refine r_iconst (pc := 205) (x := 0) dX7_unlocks_205 rfl ?_
      refine r_istore (pc := 206) (lv' := [_, _, _, _, _, _, _, _, _, _, _, _]) dX7_unlocks_206 (by decide) rfl ?_
      refine r_mask (pc := 208) [true, false, false, false, false, false, false, true, false, true, false, false] rfl ?_
      exact K
    · have K := K.2 c4
      refine r_aload_n (pc := 182) dX7_unlocks_182 rfl ?_
      obtain ⟨hk10, K⟩ := K
      refine r_geti' (pc := 183) (T := TX7) 7 6 rfl hk10 (Or.inl q504) dX7_unlocks_183 kc7 g7006 ?_
      refine r_if_le (pc := 186) (tgt := 193) dX7_unlocks_186 rfl (fun c11 => ?_) (fun c11 => ?_)
      · have K := K.1 c11
        refine r_iconst (pc := 193) (x := 0) dX7_unlocks_193 rfl ?_
        refine r_callV_V (pc := 194) (Y := mX7_need) (vs := [_]) (st := []) hk10 rfl kc7 q1272 q1274 qs14 dX7_unlocks_194 rfl cd_X7_need rfl rfl fp_X7_unlocks_X7_need K (fun h13 eh13 wh13 K => ?_) (fun x h1 _ _ e => e)
        refine r_aload_n (pc := 197) dX7_unlocks_197 rfl ?_
        refine r_aload_n (pc := 198) dX7_unlocks_198 rfl ?_
        have hk14 := kd_ext eh13 hk10 (nz rfl)
        have hv15 := fi_self (key := 7006) hk10
        have hv16 := (fi_ext (key := 7006) eh13 hk10 (nz rfl) (ne0 wh13 hk14 (nz rfl)) (nm rfl)).trans hv15
        refine r_geti' (pc := 199) (T := TX7) 7 6 hv16 hk14 (Or.inl q504) dX7_unlocks_199 kc7 g7006 ?_
        refine r_puti (pc := 202) (T := TX7) (key := 7004) 7 4 hk14 (Or.inl q502) dX7_unlocks_202 kc7 rfl (Or.inl rfl) (Or.inl (em rfl)) ?_
        refine r_nameH (fun h17 eh17 => ?_)
        have K := K h17 eh17
        refine r_iconst (pc := 205) (x := 0) dX7_unlocks_205 rfl ?_
        refine r_istore (pc := 206) (lv' := [_, _, _, _, _, _, _, _, _, _, _, _]) dX7_unlocks_206 (by decide) rfl ?_
        refine r_mask (pc := 208) [true, false, false, false, false, false, false, true, false, true, false, false] rfl ?_
        exact K
      · have K := K.2 c11
        refine r_iconst (pc := 189) (x := 1) dX7_unlocks_189 rfl ?_
        refine r_goto (pc := 190) (tgt := 194) dX7_unlocks_190 rfl ?_
        refine r_callV_V (pc := 194) (Y := mX7_need) (vs := [_]) (st := []) hk10 rfl kc7 q1272 q1274 qs14 dX7_unlocks_194 rfl cd_X7_need rfl rfl fp_X7_unlocks_X7_need K (fun h19 eh19 wh19 K => ?_) (fun x h1 _ _ e => e)
        refine r_aload_n (pc := 197) dX7_unlocks_197 rfl ?_
        refine r_aload_n (pc := 198) dX7_unlocks_198 rfl ?_
        have hk20 := kd_ext eh19 hk10 (nz rfl)
        have hv21 := fi_self (key := 7006) hk10
        have hv22 := (fi_ext (key := 7006) eh19 hk10 (nz rfl) (ne0 wh19 hk20 (nz rfl)) (nm rfl)).trans hv21
        refine r_geti' (pc := 199) (T := TX7) 7 6 hv22 hk20 (Or.inl q504) dX7_unlocks_199 kc7 g7006 ?_
        refine r_puti (pc := 202) (T := TX7) (key := 7004) 7 4 hk20 (Or.inl q502) dX7_unlocks_202 kc7 rfl (Or.inl rfl) (Or.inl (em rfl)) ?_
        refine r_nameH (fun h23 eh23 => ?_)
        have K := K h23 eh23
        refine r_iconst (pc := 205) (x := 0) dX7_unlocks_205 rfl ?_
        refine r_istore (pc := 206) (lv' := [_, _, _, _, _, _, _, _, _, _, _, _]) dX7_unlocks_206 (by decide) rfl ?_
        refine r_mask (pc := 208) [true, false, false, false, false, false, false, true, false, true, false, false] rfl ?_
        exact K
  · have K := K.2 c1
    refine r_iconst (pc := 170) (x := 1) dX7_unlocks_170 rfl ?_
    exact r_iret (pc := 171) rfl rfl dX7_unlocks_171 K
set_option maxHeartbeats 4000000 in
theorem sX7_unlocks_208 {G : Gx} {d t : Nat} {h0 : AH} {Φ : Out → AH → Prop} (h : AH) (v0 : Nat) (v7 : Nat) (v9 : Int32) (K : h.kd v0 = 7 ∧ (((h.i 7004 v0) ≤ v9 → Cw G mX7_top d 0 [vR v0, vI 0] h (kR (fun x3 h4 => h4.kd x3 = 22 ∧ Aw G mX7_unlocks (d + 1) t h0 Φ 272 [vR v0, vU, vU, vU, vU, vU, vU, vR v7, vU, vR x3, vI (h4.i 22001 x3), vI 0] [] h4) (fun x h => Tw G mX7_unlocks (d + 1) t h0 Φ 257 [vR v0, vU, vU, vU, vU, vU, vU, vR v7, vU, vI v9, vU, vU] [] x h))) ∧ (¬ (h.i 7004 v0) ≤ v9 → ∀ r6 : Nat, r6 = (h.r 7001 v0) → h.kd r6 = 104 ∧ vp_in v9 (h.ar r6).length ∧ ∀ r9 : Nat, r9 = ((h.ar r6).getD (v9.toNatClampNeg) 0) → ∀ r10 : Nat, r10 = (h.r 7003 v0) → h.kd r10 = 104 ∧ vp_in v9 (h.ar r10).length ∧ ∀ r13 : Nat, r13 = ((h.ar r10).getD (v9.toNatClampNeg) 0) → h.kd r13 = 22 ∧ ∀ r15 : Nat, r15 = (h.r 22000 r13) → vp_in v9 (h.ar r10).length ∧ ∀ r17 : Nat, r17 = ((h.ar r10).getD (v9.toNatClampNeg) 0) → h.kd r17 = 22 ∧ h.kd r9 = 22 ∧ Cw G mX22_set d 0 [vR r9, vR r15, vI 0, vI (h.i 22001 r17)] h (kR (fun x19 h20 => Aw G mX7_unlocks (d + 1) t h0 Φ 208 [vR v0, vU, vU, vU, vU, vU, vU, vR v7, vU, vI (v9 + 1), vU, vU] [] h20) (fun x h => Tw G mX7_unlocks (d + 1) t h0 Φ 245 [vR v0, vU, vU, vU, vU, vU, vU, vR v7, vU, vI v9, vU, vU] [] x h))))) : Aw G mX7_unlocks (d + 1) t h0 Φ 208 [vR v0, vU, vU, vU, vU, vU, vU, vR v7, vU, vI v9, vU, vU] [] h := by
  refine r_iload (pc := 208) dX7_unlocks_208 rfl ?_
  refine r_aload_n (pc := 210) dX7_unlocks_210 rfl ?_
  obtain ⟨hk1, K⟩ := K
  refine r_geti' (pc := 211) (T := TX7) 7 4 rfl hk1 (Or.inl q502) dX7_unlocks_211 kc7 g7004 ?_
  refine r_icmp_ge (pc := 214) (tgt := 255) dX7_unlocks_214 rfl (fun c2 => ?_) (fun c2 => ?_)
  · have K := K.1 c2
    refine r_aload_n (pc := 255) dX7_unlocks_255 rfl ?_
    refine r_iconst (pc := 256) (x := 0) dX7_unlocks_256 rfl ?_
    refine r_callV_R (pc := 257) (Y := mX7_top) (vs := [_]) (st := []) hk1 rfl kc7 q1311 q1313 qs17 dX7_unlocks_257 rfl cd_X7_top rfl rfl fp_X7_unlocks_X7_top K (fun x3 h4 eh4 wh4 K => ?_) (fun x h1 _ _ e => e)
    refine r_astore (pc := 260) (lv' := [_, _, _, _, _, _, _, _, _, _, _, _]) dX7_unlocks_260 (by decide) rfl ?_
    refine r_aload (pc := 262) dX7_unlocks_262 rfl ?_
    obtain ⟨hk5, K⟩ := K
    refine r_geti' (pc := 264) (T := TX22) 22 1 rfl hk5 (Or.inr (Or.inl ⟨_, q1296⟩)) dX7_unlocks_264 kc22 g22001 ?_
    refine r_istore (pc := 267) (lv' := [_, _, _, _, _, _, _, _, _, _, _, _]) dX7_unlocks_267 (by decide) rfl ?_
    refine r_iconst (pc := 269) (x := 0) dX7_unlocks_269 rfl ?_
    refine r_istore (pc := 270) (lv' := [_, _, _, _, _, _, _, _, _, _, _, _]) dX7_unlocks_270 (by decide) rfl ?_
    refine r_mask (pc := 272) [true, false, false, false, false, false, false, true, false, true, true, true] rfl ?_
    exact K
  · have K := K.2 c2
    refine r_aload_n (pc := 217) dX7_unlocks_217 rfl ?_
    have K := K _ rfl
    refine r_getr' (pc := 218) (T := TX7) 7 1 rfl hk1 (Or.inl q499) dX7_unlocks_218 kc7 g7001 ?_
    refine r_iload (pc := 221) dX7_unlocks_221 rfl ?_
    obtain ⟨hk7, K⟩ := K
    obtain ⟨hi8, K⟩ := K
    have K := K _ rfl
    refine r_aaload (pc := 223) (le_of_eq_r hk7 (by decide)) hi8 dX7_unlocks_223 ?_
    refine r_aload_n (pc := 224) dX7_unlocks_224 rfl ?_
    have K := K _ rfl
    refine r_getr' (pc := 225) (T := TX7) 7 3 rfl hk1 (Or.inl q501) dX7_unlocks_225 kc7 g7003 ?_
    refine r_iload (pc := 228) dX7_unlocks_228 rfl ?_
    obtain ⟨hk11, K⟩ := K
    obtain ⟨hi12, K⟩ := K
    have K := K _ rfl
    refine r_aaload (pc := 230) (le_of_eq_r hk11 (by decide)) hi12 dX7_unlocks_230 ?_
    obtain ⟨hk14, K⟩ := K
    have K := K _ rfl
    refine r_getr' (pc := 231) (T := TX22) 22 0 rfl hk14 (Or.inr (Or.inl ⟨_, q1293⟩)) dX7_unlocks_231 kc22 g22000 ?_
    refine r_iconst (pc := 234) (x := 0) dX7_unlocks_234 rfl ?_
    refine r_aload_n (pc := 235) dX7_unlocks_235 rfl ?_
    refine r_getr' (pc := 236) (T := TX7) 7 3 rfl hk1 (Or.inl q501) dX7_unlocks_236 kc7 g7003 ?_
    refine r_iload (pc := 239) dX7_unlocks_239 rfl ?_
    obtain ⟨hi16, K⟩ := K
    have K := K _ rfl
    refine r_aaload (pc := 241) (le_of_eq_r hk11 (by decide)) hi16 dX7_unlocks_241 ?_
    obtain ⟨hk18, K⟩ := K
    refine r_geti' (pc := 242) (T := TX22) 22 1 rfl hk18 (Or.inr (Or.inl ⟨_, q1296⟩)) dX7_unlocks_242 kc22 g22001 ?_
    obtain ⟨hk21, K⟩ := K
    refine r_callV_R (pc := 245) (Y := mX22_set) (vs := [_, _, _]) (st := []) hk21 rfl kc22 q1303 q1304 q1305 dX7_unlocks_245 rfl cd_X22_set rfl rfl fp_X7_unlocks_X22_set K (fun x19 h20 eh20 wh20 K => ?_) (fun x h1 _ _ e => e)
    refine r_pop (pc := 248) rfl dX7_unlocks_248 ?_
    refine r_iinc (pc := 249) (lv' := [_, _, _, _, _, _, _, _, _, _, _, _]) dX7_unlocks_249 rfl rfl (by decide) rfl ?_
    refine r_goto (pc := 252) (tgt := 208) dX7_unlocks_252 rfl ?_
    refine r_mask (pc := 208) [true, false, false, false, false, false, false, true, false, true, false, false] rfl ?_
    exact K
set_option maxHeartbeats 4000000 in
theorem sX7_unlocks_272 {G : Gx} {d t : Nat} {h0 : AH} {Φ : Out → AH → Prop} (h : AH) (v0 : Nat) (v7 : Nat) (v9 : Nat) (v10 : Int32) (v11 : Int32) (K : ((v10 ≤ v11 → h.kd v0 = 7 ∧ Cw G mX7_drop d 0 [vR v0, vI 1] h (kV (fun h3 => ∀ r6 : Nat, r6 = (h3.r 7012 v0) → Cw G mX7_run d 0 [vR v0, vR r6, vI 0, vI v10, vR v7] h3 (kV (fun h8 => (((h8.i 7004 v0) ≤ 0 → Φ (.inl (some (vI 0))) h8) ∧ (¬ (h8.i 7004 v0) ≤ 0 → Cw G mX7_top d 0 [vR v0, vI 0] h8 (kR (fun x11 h12 => h12.kd x11 = 22 ∧ Cw G mX22_isTrue d 0 [vR x11] h12 (kI (fun x13 h14 => ((x13 = 0 → Φ (.inl (some (vI 0))) h14) ∧ (¬ x13 = 0 → Φ (.inl (some (vI 1))) h14))) (fun x h => Tw G mX7_unlocks (d + 1) t h0 Φ 330 [vR v0, vU, vU, vU, vU, vU, vU, vR v7, vU, vR v9, vI v10, vI v11] [] x h))) (fun x h => Tw G mX7_unlocks (d + 1) t h0 Φ 327 [vR v0, vU, vU, vU, vU, vU, vU, vR v7, vU, vR v9, vI v10, vI v11] [] x h))))) (fun x h => Tw G mX7_unlocks (d + 1) t h0 Φ 315 [vR v0, vU, vU, vU, vU, vU, vU, vR v7, vU, vR v9, vI v10, vI v11] [] x h))) (fun x h => Tw G mX7_unlocks (d + 1) t h0 Φ 302 [vR v0, vU, vU, vU, vU, vU, vU, vR v7, vU, vR v9, vI v10, vI v11] [] x h))) ∧ (¬ v10 ≤ v11 → h.kd v0 = 7 ∧ ∀ r18 : Nat, r18 = (h.r 7012 v0) → h.kd v9 = 22 ∧ ∀ r20 : Nat, r20 = (h.r 22000 v9) → h.kd r20 = 101 ∧ vp_in v11 (h.ai r20).length ∧ h.kd r18 = 101 ∧ vp_in v11 (h.ai r18).length ∧ ∀ h25 : AH, h25 = h.wi r18 ((h.ai r18).set (v11.toNatClampNeg) (i2b ((h.ai r20).getD (v11.toNatClampNeg) 0))) → Aw G mX7_unlocks (d + 1) t h0 Φ 272 [vR v0, vU, vU, vU, vU, vU, vU, vR v7, vU, vR v9, vI v10, vI (v11 + 1)] [] h25))) : Aw G mX7_unlocks (d + 1) t h0 Φ 272 [vR v0, vU, vU, vU, vU, vU, vU, vR v7, vU, vR v9, vI v10, vI v11] [] h := by
  refine r_iload (pc := 272) dX7_unlocks_272 rfl ?_
  refine r_iload (pc := 274) dX7_unlocks_274 rfl ?_
  refine r_icmp_ge (pc := 276) (tgt := 300) dX7_unlocks_276 rfl (fun c1 => ?_) (fun c1 => ?_)
  · have K := K.1 c1
    refine r_aload_n (pc := 300) dX7_unlocks_300 rfl ?_
    refine r_iconst (pc := 301) (x := 1) dX7_unlocks_301 rfl ?_
    obtain ⟨hk4, K⟩ := K
    refine r_callV_V (pc := 302) (Y := mX7_drop) (vs := [_]) (st := []) hk4 rfl kc7 q1319 q1321 qs18 dX7_unlocks_302 rfl cd_X7_drop rfl rfl fp_X7_unlocks_X7_drop K (fun h3 eh3 wh3 K => ?_) (fun x h1 _ _ e => e)
    refine r_aload_n (pc := 305) dX7_unlocks_305 rfl ?_
    refine r_aload_n (pc := 306) dX7_unlocks_306 rfl ?_
    have hk5 := kd_ext eh3 hk4 (nz rfl)
    have K := K _ rfl
    refine r_getr' (pc := 307) (T := TX7) 7 12 rfl hk5 (Or.inl q510) dX7_unlocks_307 kc7 g7012 ?_
    refine r_iconst (pc := 310) (x := 0) dX7_unlocks_310 rfl ?_
    refine r_iload (pc := 311) dX7_unlocks_311 rfl ?_
    refine r_aload (pc := 313) dX7_unlocks_313 rfl ?_
    refine r_callV_V (pc := 315) (Y := mX7_run) (vs := [_, _, _, _]) (st := []) hk5 rfl kc7 q1265 q1267 qs13 dX7_unlocks_315 rfl cd_X7_run rfl rfl fp_X7_unlocks_X7_run K (fun h8 eh8 wh8 K => ?_) (fun x h1 _ _ e => e)
    refine r_aload_n (pc := 318) dX7_unlocks_318 rfl ?_
    have hk9 := kd_ext eh8 hk5 (nz rfl)
    refine r_geti' (pc := 319) (T := TX7) 7 4 rfl hk9 (Or.inl q502) dX7_unlocks_319 kc7 g7004 ?_
    refine r_if_le (pc := 322) (tgt := 340) dX7_unlocks_322 rfl (fun c10 => ?_) (fun c10 => ?_)
    · have K := K.1 c10
      refine r_iconst (pc := 340) (x := 0) dX7_unlocks_340 rfl ?_
      exact r_iret (pc := 341) rfl rfl dX7_unlocks_341 K
    · have K := K.2 c10
      refine r_aload_n (pc := 325) dX7_unlocks_325 rfl ?_
      refine r_iconst (pc := 326) (x := 0) dX7_unlocks_326 rfl ?_
      refine r_callV_R (pc := 327) (Y := mX7_top) (vs := [_]) (st := []) hk9 rfl kc7 q1311 q1313 qs17 dX7_unlocks_327 rfl cd_X7_top rfl rfl fp_X7_unlocks_X7_top K (fun x11 h12 eh12 wh12 K => ?_) (fun x h1 _ _ e => e)
      obtain ⟨hk15, K⟩ := K
      refine r_callV_I (pc := 330) (Y := mX22_isTrue) (vs := []) (st := []) hk15 rfl kc22 q1315 q1316 q1317 dX7_unlocks_330 rfl cd_X22_isTrue rfl rfl fp_X7_unlocks_X22_isTrue K (fun x13 h14 eh14 wh14 K => ?_) (fun x h1 _ _ e => e)
      refine r_if_eq (pc := 333) (tgt := 340) dX7_unlocks_333 rfl (fun c16 => ?_) (fun c16 => ?_)
      · have K := K.1 c16
        refine r_iconst (pc := 340) (x := 0) dX7_unlocks_340 rfl ?_
        exact r_iret (pc := 341) rfl rfl dX7_unlocks_341 K
      · have K := K.2 c16
        refine r_iconst (pc := 336) (x := 1) dX7_unlocks_336 rfl ?_
        refine r_goto (pc := 337) (tgt := 341) dX7_unlocks_337 rfl ?_
        exact r_iret (pc := 341) rfl rfl dX7_unlocks_341 K
  · have K := K.2 c1
    refine r_aload_n (pc := 279) dX7_unlocks_279 rfl ?_
    obtain ⟨hk17, K⟩ := K
    have K := K _ rfl
    refine r_getr' (pc := 280) (T := TX7) 7 12 rfl hk17 (Or.inl q510) dX7_unlocks_280 kc7 g7012 ?_
    refine r_iload (pc := 283) dX7_unlocks_283 rfl ?_
    refine r_aload (pc := 285) dX7_unlocks_285 rfl ?_
    obtain ⟨hk19, K⟩ := K
    have K := K _ rfl
    refine r_getr' (pc := 287) (T := TX22) 22 0 rfl hk19 (Or.inr (Or.inl ⟨_, q1293⟩)) dX7_unlocks_287 kc22 g22000 ?_
    refine r_iload (pc := 290) dX7_unlocks_290 rfl ?_
    obtain ⟨hk21, K⟩ := K
    obtain ⟨hi22, K⟩ := K
    refine r_baload (pc := 292) hk21 hi22 dX7_unlocks_292 ?_
    obtain ⟨hk23, K⟩ := K
    obtain ⟨hi24, K⟩ := K
    refine r_jbast (pc := 293) hk23 hi24 (Or.inl (em rfl)) dX7_unlocks_293 ?_
    refine r_nameH (fun h25 eh25 => ?_)
    have K := K h25 eh25
    refine r_iinc (pc := 294) (lv' := [_, _, _, _, _, _, _, _, _, _, _, _]) dX7_unlocks_294 rfl rfl (by decide) rfl ?_
    refine r_goto (pc := 297) (tgt := 272) dX7_unlocks_297 rfl ?_
    refine r_mask (pc := 272) [true, false, false, false, false, false, false, true, false, true, true, true] rfl ?_
    exact K
set_option maxHeartbeats 4000000 in
theorem sX7_unlocks_342 {G : Gx} {d t : Nat} {h0 : AH} {Φ : Out → AH → Prop} (h : AH) (s0 : Nat) (K : Φ (.inl (some (vI 0))) h) : Aw G mX7_unlocks (d + 1) t h0 Φ 342 [vU, vU, vU, vU, vU, vU, vU, vU, vU, vU, vU, vU] [vR s0] h := by
  refine r_astore (pc := 342) (lv' := [_, _, _, _, _, _, _, _, _, _, _, _]) dX7_unlocks_342 (by decide) rfl ?_
  refine r_iconst (pc := 344) (x := 0) dX7_unlocks_344 rfl ?_
  exact r_iret (pc := 345) rfl rfl dX7_unlocks_345 K
theorem dX7_init_0 : decode cX7_init 0 = .ok (.aload_n 0, 1) := by decide +kernel
theorem dX7_init_1 : decode cX7_init 1 = .ok (.invokespecial 3, 3) := by decide +kernel
theorem dX7_init_4 : decode cX7_init 4 = .ok (.aload_n 0, 1) := by decide +kernel
theorem dX7_init_5 : decode cX7_init 5 = .ok (.sipush 1004, 3) := by decide +kernel
theorem dX7_init_8 : decode cX7_init 8 = .ok (.anewarray 11, 3) := by decide +kernel
theorem dX7_init_11 : decode cX7_init 11 = .ok (.putfield 13, 3) := by decide +kernel
theorem dX7_init_14 : decode cX7_init 14 = .ok (.aload_n 0, 1) := by decide +kernel
theorem dX7_init_15 : decode cX7_init 15 = .ok (.sipush 1004, 3) := by decide +kernel
theorem dX7_init_18 : decode cX7_init 18 = .ok (.anewarray 11, 3) := by decide +kernel
theorem dX7_init_21 : decode cX7_init 21 = .ok (.putfield 17, 3) := by decide +kernel
theorem dX7_init_24 : decode cX7_init 24 = .ok (.aload_n 0, 1) := by decide +kernel
theorem dX7_init_25 : decode cX7_init 25 = .ok (.sipush 1004, 3) := by decide +kernel
theorem dX7_init_28 : decode cX7_init 28 = .ok (.anewarray 11, 3) := by decide +kernel
theorem dX7_init_31 : decode cX7_init 31 = .ok (.putfield 20, 3) := by decide +kernel
theorem dX7_init_34 : decode cX7_init 34 = .ok (.aload_n 0, 1) := by decide +kernel
theorem dX7_init_35 : decode cX7_init 35 = .ok (.sipush 202, 3) := by decide +kernel
theorem dX7_init_38 : decode cX7_init 38 = .ok (.newarray .boolean, 2) := by decide +kernel
theorem dX7_init_40 : decode cX7_init 40 = .ok (.putfield 23, 3) := by decide +kernel
theorem dX7_init_43 : decode cX7_init 43 = .ok (.aload_n 0, 1) := by decide +kernel
theorem dX7_init_44 : decode cX7_init 44 = .ok (.sipush 1600, 3) := by decide +kernel
theorem dX7_init_47 : decode cX7_init 47 = .ok (.newarray .byte, 2) := by decide +kernel
theorem dX7_init_49 : decode cX7_init 49 = .ok (.putfield 27, 3) := by decide +kernel
theorem dX7_init_52 : decode cX7_init 52 = .ok (.aload_n 0, 1) := by decide +kernel
theorem dX7_init_53 : decode cX7_init 53 = .ok (.sipush 1600, 3) := by decide +kernel
theorem dX7_init_56 : decode cX7_init 56 = .ok (.newarray .byte, 2) := by decide +kernel
theorem dX7_init_58 : decode cX7_init 58 = .ok (.putfield 31, 3) := by decide +kernel
theorem dX7_init_61 : decode cX7_init 61 = .ok (.aload_n 0, 1) := by decide +kernel
theorem dX7_init_62 : decode cX7_init 62 = .ok (.bipush 32, 2) := by decide +kernel
theorem dX7_init_64 : decode cX7_init 64 = .ok (.newarray .byte, 2) := by decide +kernel
theorem dX7_init_66 : decode cX7_init 66 = .ok (.putfield 34, 3) := by decide +kernel
theorem dX7_init_69 : decode cX7_init 69 = .ok (.aload_n 0, 1) := by decide +kernel
theorem dX7_init_70 : decode cX7_init 70 = .ok (.sipush 520, 3) := by decide +kernel
theorem dX7_init_73 : decode cX7_init 73 = .ok (.newarray .byte, 2) := by decide +kernel
theorem dX7_init_75 : decode cX7_init 75 = .ok (.putfield 37, 3) := by decide +kernel
theorem dX7_init_78 : decode cX7_init 78 = .ok (.aload_n 0, 1) := by decide +kernel
theorem dX7_init_79 : decode cX7_init 79 = .ok (.aload_n 1, 1) := by decide +kernel
theorem dX7_init_80 : decode cX7_init 80 = .ok (.putfield 40, 3) := by decide +kernel
theorem dX7_init_83 : decode cX7_init 83 = .ok (.return_, 1) := by decide +kernel
/-! CoinJudge$Machine.<init>(LCoinJudge$Digests;)V -/
set_option maxHeartbeats 4000000 in
theorem sX7_init_0 {G : Gx} {d t : Nat} {h0 : AH} {Φ : Out → AH → Prop} (h : AH) (v0 : Nat) (v1 : Nat) (K : h.kd v0 = 7 ∧ ∀ q2 : Nat, q2 = h.z → WF G h → ∀ h3 : AH, h3 = h.new 104 1004 [] [] (List.replicate 1004 0) → ∀ h6 : AH, h6 = h3.pr 7001 v0 q2 → ∀ q7 : Nat, q7 = h6.z → WF G h6 → ∀ h8 : AH, h8 = h6.new 104 1004 [] [] (List.replicate 1004 0) → ∀ h12 : AH, h12 = h8.pr 7002 v0 q7 → ∀ q13 : Nat, q13 = h12.z → WF G h12 → ∀ h14 : AH, h14 = h12.new 104 1004 [] [] (List.replicate 1004 0) → ∀ h18 : AH, h18 = h14.pr 7003 v0 q13 → ∀ q19 : Nat, q19 = h18.z → WF G h18 → ∀ h20 : AH, h20 = h18.new 102 202 (List.replicate 202 0) [] [] → ∀ h24 : AH, h24 = h20.pr 7007 v0 q19 → ∀ q25 : Nat, q25 = h24.z → WF G h24 → ∀ h26 : AH, h26 = h24.new 101 1600 (List.replicate 1600 0) [] [] → ∀ h30 : AH, h30 = h26.pr 7009 v0 q25 → ∀ q31 : Nat, q31 = h30.z → WF G h30 → ∀ h32 : AH, h32 = h30.new 101 1600 (List.replicate 1600 0) [] [] → ∀ h36 : AH, h36 = h32.pr 7010 v0 q31 → ∀ q37 : Nat, q37 = h36.z → WF G h36 → ∀ h38 : AH, h38 = h36.new 101 32 (List.replicate 32 0) [] [] → ∀ h42 : AH, h42 = h38.pr 7011 v0 q37 → ∀ q43 : Nat, q43 = h42.z → WF G h42 → ∀ h44 : AH, h44 = h42.new 101 520 (List.replicate 520 0) [] [] → ∀ h48 : AH, h48 = h44.pr 7012 v0 q43 → ∀ h50 : AH, h50 = h48.pr 7000 v0 v1 → Φ (.inl none) h50) : Aw G mX7_init (d + 1) v0 h0 Φ 0 [vR v0, vR v1] [] h := by
  refine r_aload_n (pc := 0) dX7_init_0 rfl ?_
  obtain ⟨hk1, K⟩ := K
  refine r_objInit (pc := 1) (nzk hk1 rfl) q495 q207 q208 dX7_init_1 (by decide) ?_
  refine r_aload_n (pc := 4) dX7_init_4 rfl ?_
  refine r_sipush (pc := 5) (x := 1004) dX7_init_5 rfl ?_
  refine r_newaR (pc := 8) 104 (N := 1004) rfl q496 (by decide) rfl (by decide) dX7_init_8 (fun q2 eq2 zq2 wq2 => ?_)
  refine r_nameH (fun h3 eh3 => ?_)
  have K := K q2 eq2 wq2 h3 eh3
  have hk4 := kd_newSE eh3 eq2
  have hk5 := kd_newE eh3 wq2 hk1 (nz rfl)
  refine r_putr (pc := 11) (T := TX7) (key := 7001) 7 1 (ty := (.array (.object "CoinJudge$Element"))) hk5 (Or.inl q499) dX7_init_11 kc7 rfl rfl (Or.inr q499) (Or.inr (Or.inl rfl)) ?_
  refine r_nameH (fun h6 eh6 => ?_)
  have K := K h6 eh6
  refine r_aload_n (pc := 14) dX7_init_14 rfl ?_
  refine r_sipush (pc := 15) (x := 1004) dX7_init_15 rfl ?_
  refine r_newaR (pc := 18) 104 (N := 1004) rfl q496 (by decide) rfl (by decide) dX7_init_18 (fun q7 eq7 zq7 wq7 => ?_)
  refine r_nameH (fun h8 eh8 => ?_)
  have K := K q7 eq7 wq7 h8 eh8
  have hk9 := kd_newSE eh8 eq7
  have hk10 := kd_pr eh6 hk5
  have hk11 := kd_newE eh8 wq7 hk10 (nz rfl)
  refine r_putr (pc := 21) (T := TX7) (key := 7002) 7 2 (ty := (.array (.object "CoinJudge$Element"))) hk11 (Or.inl q500) dX7_init_21 kc7 rfl rfl (Or.inr q500) (Or.inr (Or.inl rfl)) ?_
  refine r_nameH (fun h12 eh12 => ?_)
  have K := K h12 eh12
  refine r_aload_n (pc := 24) dX7_init_24 rfl ?_
  refine r_sipush (pc := 25) (x := 1004) dX7_init_25 rfl ?_
  refine r_newaR (pc := 28) 104 (N := 1004) rfl q496 (by decide) rfl (by decide) dX7_init_28 (fun q13 eq13 zq13 wq13 => ?_)
  refine r_nameH (fun h14 eh14 => ?_)
  have K := K q13 eq13 wq13 h14 eh14
  have hk15 := kd_newSE eh14 eq13
  have hk16 := kd_pr eh12 hk11
  have hk17 := kd_newE eh14 wq13 hk16 (nz rfl)
  refine r_putr (pc := 31) (T := TX7) (key := 7003) 7 3 (ty := (.array (.object "CoinJudge$Element"))) hk17 (Or.inl q501) dX7_init_31 kc7 rfl rfl (Or.inr q501) (Or.inr (Or.inl rfl)) ?_
  refine r_nameH (fun h18 eh18 => ?_)
  have K := K h18 eh18
  refine r_aload_n (pc := 34) dX7_init_34 rfl ?_
  refine r_sipush (pc := 35) (x := 202) dX7_init_35 rfl ?_
  refine r_newaI (pc := 38) 102 (N := 202) rfl rfl (by decide) q538 (by decide) rfl (by decide) dX7_init_38 (fun q19 eq19 zq19 wq19 => ?_)
  refine r_nameH (fun h20 eh20 => ?_)
  have K := K q19 eq19 wq19 h20 eh20
  have hk21 := kd_newSE eh20 eq19
  have hk22 := kd_pr eh18 hk17
  have hk23 := kd_newE eh20 wq19 hk22 (nz rfl)
  refine r_putr (pc := 40) (T := TX7) (key := 7007) 7 7 (ty := (.array .boolean)) hk23 (Or.inl q505) dX7_init_40 kc7 rfl rfl (Or.inr q505) (Or.inr (Or.inl rfl)) ?_
  refine r_nameH (fun h24 eh24 => ?_)
  have K := K h24 eh24
  refine r_aload_n (pc := 43) dX7_init_43 rfl ?_
  refine r_sipush (pc := 44) (x := 1600) dX7_init_44 rfl ?_
  refine r_newaI (pc := 47) 101 (N := 1600) rfl rfl (by decide) q284 (by decide) rfl (by decide) dX7_init_47 (fun q25 eq25 zq25 wq25 => ?_)
  refine r_nameH (fun h26 eh26 => ?_)
  have K := K q25 eq25 wq25 h26 eh26
  have hk27 := kd_newSE eh26 eq25
  have hk28 := kd_pr eh24 hk23
  have hk29 := kd_newE eh26 wq25 hk28 (nz rfl)
  refine r_putr (pc := 49) (T := TX7) (key := 7009) 7 9 (ty := (.array .byte)) hk29 (Or.inl q507) dX7_init_49 kc7 rfl rfl (Or.inr q507) (Or.inr (Or.inl rfl)) ?_
  refine r_nameH (fun h30 eh30 => ?_)
  have K := K h30 eh30
  refine r_aload_n (pc := 52) dX7_init_52 rfl ?_
  refine r_sipush (pc := 53) (x := 1600) dX7_init_53 rfl ?_
  refine r_newaI (pc := 56) 101 (N := 1600) rfl rfl (by decide) q284 (by decide) rfl (by decide) dX7_init_56 (fun q31 eq31 zq31 wq31 => ?_)
  refine r_nameH (fun h32 eh32 => ?_)
  have K := K q31 eq31 wq31 h32 eh32
  have hk33 := kd_newSE eh32 eq31
  have hk34 := kd_pr eh30 hk29
  have hk35 := kd_newE eh32 wq31 hk34 (nz rfl)
  refine r_putr (pc := 58) (T := TX7) (key := 7010) 7 10 (ty := (.array .byte)) hk35 (Or.inl q508) dX7_init_58 kc7 rfl rfl (Or.inr q508) (Or.inr (Or.inl rfl)) ?_
  refine r_nameH (fun h36 eh36 => ?_)
  have K := K h36 eh36
  refine r_aload_n (pc := 61) dX7_init_61 rfl ?_
  refine r_bipush (pc := 62) (x := 32) dX7_init_62 rfl ?_
  refine r_newaI (pc := 64) 101 (N := 32) rfl rfl (by decide) q284 (by decide) rfl (by decide) dX7_init_64 (fun q37 eq37 zq37 wq37 => ?_)
  refine r_nameH (fun h38 eh38 => ?_)
  have K := K q37 eq37 wq37 h38 eh38
  have hk39 := kd_newSE eh38 eq37
  have hk40 := kd_pr eh36 hk35
  have hk41 := kd_newE eh38 wq37 hk40 (nz rfl)
  refine r_putr (pc := 66) (T := TX7) (key := 7011) 7 11 (ty := (.array .byte)) hk41 (Or.inl q509) dX7_init_66 kc7 rfl rfl (Or.inr q509) (Or.inr (Or.inl rfl)) ?_
  refine r_nameH (fun h42 eh42 => ?_)
  have K := K h42 eh42
  refine r_aload_n (pc := 69) dX7_init_69 rfl ?_
  refine r_sipush (pc := 70) (x := 520) dX7_init_70 rfl ?_
  refine r_newaI (pc := 73) 101 (N := 520) rfl rfl (by decide) q284 (by decide) rfl (by decide) dX7_init_73 (fun q43 eq43 zq43 wq43 => ?_)
  refine r_nameH (fun h44 eh44 => ?_)
  have K := K q43 eq43 wq43 h44 eh44
  have hk45 := kd_newSE eh44 eq43
  have hk46 := kd_pr eh42 hk41
  have hk47 := kd_newE eh44 wq43 hk46 (nz rfl)
  refine r_putr (pc := 75) (T := TX7) (key := 7012) 7 12 (ty := (.array .byte)) hk47 (Or.inl q510) dX7_init_75 kc7 rfl rfl (Or.inr q510) (Or.inr (Or.inl rfl)) ?_
  refine r_nameH (fun h48 eh48 => ?_)
  have K := K h48 eh48
  refine r_aload_n (pc := 78) dX7_init_78 rfl ?_
  refine r_aload_n (pc := 79) dX7_init_79 rfl ?_
  have hk49 := kd_pr eh48 hk47
  refine r_putr (pc := 80) (T := TX7) (key := 7000) 7 0 (ty := (.object "CoinJudge$Digests")) hk49 (Or.inl q498) dX7_init_80 kc7 rfl rfl (Or.inr q498) (Or.inr (Or.inl rfl)) ?_
  refine r_nameH (fun h50 eh50 => ?_)
  have K := K h50 eh50
  exact r_vret (pc := 83) rfl dX7_init_83 K
theorem eX7_init {G : Gx} {d : Nat} {Φ : Out → AH → Prop} (h : AH) (v0 : Nat) (v1 : Nat) (K : WF G h → Aw G mX7_init (d + 1) v0 h Φ 0 [vR v0, vR v1] [] h) : Cw G mX7_init (d + 1) v0 [vR v0, vR v1] h Φ := Cw.of rfl K

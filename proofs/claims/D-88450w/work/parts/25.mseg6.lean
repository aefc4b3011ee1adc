/-! ===== the reference's methods as segments, 6 ===== -/
set_option maxRecDepth 100000
theorem dX1_staysWith_0 : decode cX1_staysWith 0 = .ok (.aload_n 0, 1) := by decide +kernel
theorem dX1_staysWith_1 : decode cX1_staysWith 1 = .ok (.getfield 98, 3) := by decide +kernel
theorem dX1_staysWith_4 : decode cX1_staysWith 4 = .ok (.iload 4, 2) := by decide +kernel
theorem dX1_staysWith_6 : decode cX1_staysWith 6 = .ok (.iaload, 1) := by decide +kernel
theorem dX1_staysWith_7 : decode cX1_staysWith 7 = .ok (.aload_n 0, 1) := by decide +kernel
theorem dX1_staysWith_8 : decode cX1_staysWith 8 = .ok (.getfield 98, 3) := by decide +kernel
theorem dX1_staysWith_11 : decode cX1_staysWith 11 = .ok (.iload 5, 2) := by decide +kernel
theorem dX1_staysWith_13 : decode cX1_staysWith 13 = .ok (.iaload, 1) := by decide +kernel
theorem dX1_staysWith_14 : decode cX1_staysWith 14 = .ok (.if_icmp .ne 7, 3) := by decide +kernel
theorem dX1_staysWith_17 : decode cX1_staysWith 17 = .ok (.iconst 1, 1) := by decide +kernel
theorem dX1_staysWith_18 : decode cX1_staysWith 18 = .ok (.goto 4, 3) := by decide +kernel
theorem dX1_staysWith_21 : decode cX1_staysWith 21 = .ok (.iconst 0, 1) := by decide +kernel
theorem dX1_staysWith_22 : decode cX1_staysWith 22 = .ok (.istore 6, 2) := by decide +kernel
theorem dX1_staysWith_24 : decode cX1_staysWith 24 = .ok (.iconst 0, 1) := by decide +kernel
theorem dX1_staysWith_25 : decode cX1_staysWith 25 = .ok (.istore 7, 2) := by decide +kernel
theorem dX1_staysWith_27 : decode cX1_staysWith 27 = .ok (.iload 7, 2) := by decide +kernel
theorem dX1_staysWith_29 : decode cX1_staysWith 29 = .ok (.aload_n 0, 1) := by decide +kernel
theorem dX1_staysWith_30 : decode cX1_staysWith 30 = .ok (.getfield 130, 3) := by decide +kernel
theorem dX1_staysWith_33 : decode cX1_staysWith 33 = .ok (.if_icmp .ge 74, 3) := by decide +kernel
theorem dX1_staysWith_36 : decode cX1_staysWith 36 = .ok (.iload 6, 2) := by decide +kernel
theorem dX1_staysWith_38 : decode cX1_staysWith 38 = .ok (.ifCond .eq 69, 3) := by decide +kernel
theorem dX1_staysWith_41 : decode cX1_staysWith 41 = .ok (.iload_n 3, 1) := by decide +kernel
theorem dX1_staysWith_42 : decode cX1_staysWith 42 = .ok (.ifCond .ne 65, 3) := by decide +kernel
theorem dX1_staysWith_45 : decode cX1_staysWith 45 = .ok (.aload_n 0, 1) := by decide +kernel
theorem dX1_staysWith_46 : decode cX1_staysWith 46 = .ok (.aload_n 0, 1) := by decide +kernel
theorem dX1_staysWith_47 : decode cX1_staysWith 47 = .ok (.getfield 104, 3) := by decide +kernel
theorem dX1_staysWith_50 : decode cX1_staysWith 50 = .ok (.iload 4, 2) := by decide +kernel
theorem dX1_staysWith_52 : decode cX1_staysWith 52 = .ok (.iaload, 1) := by decide +kernel
theorem dX1_staysWith_53 : decode cX1_staysWith 53 = .ok (.ifCond .ne 7, 3) := by decide +kernel
theorem dX1_staysWith_56 : decode cX1_staysWith 56 = .ok (.iload_n 1, 1) := by decide +kernel
theorem dX1_staysWith_57 : decode cX1_staysWith 57 = .ok (.goto 4, 3) := by decide +kernel
theorem dX1_staysWith_60 : decode cX1_staysWith 60 = .ok (.iload_n 2, 1) := by decide +kernel
theorem dX1_staysWith_61 : decode cX1_staysWith 61 = .ok (.iload 4, 2) := by decide +kernel
theorem dX1_staysWith_63 : decode cX1_staysWith 63 = .ok (.iload 7, 2) := by decide +kernel
theorem dX1_staysWith_65 : decode cX1_staysWith 65 = .ok (.invokevirtual 386, 3) := by decide +kernel
theorem dX1_staysWith_68 : decode cX1_staysWith 68 = .ok (.aload_n 0, 1) := by decide +kernel
theorem dX1_staysWith_69 : decode cX1_staysWith 69 = .ok (.aload_n 0, 1) := by decide +kernel
theorem dX1_staysWith_70 : decode cX1_staysWith 70 = .ok (.getfield 104, 3) := by decide +kernel
theorem dX1_staysWith_73 : decode cX1_staysWith 73 = .ok (.iload 5, 2) := by decide +kernel
theorem dX1_staysWith_75 : decode cX1_staysWith 75 = .ok (.iaload, 1) := by decide +kernel
theorem dX1_staysWith_76 : decode cX1_staysWith 76 = .ok (.ifCond .ne 7, 3) := by decide +kernel
theorem dX1_staysWith_79 : decode cX1_staysWith 79 = .ok (.iload_n 1, 1) := by decide +kernel
theorem dX1_staysWith_80 : decode cX1_staysWith 80 = .ok (.goto 4, 3) := by decide +kernel
theorem dX1_staysWith_83 : decode cX1_staysWith 83 = .ok (.iload_n 2, 1) := by decide +kernel
theorem dX1_staysWith_84 : decode cX1_staysWith 84 = .ok (.iload 5, 2) := by decide +kernel
theorem dX1_staysWith_86 : decode cX1_staysWith 86 = .ok (.iload 7, 2) := by decide +kernel
theorem dX1_staysWith_88 : decode cX1_staysWith 88 = .ok (.invokevirtual 386, 3) := by decide +kernel
theorem dX1_staysWith_91 : decode cX1_staysWith 91 = .ok (.if_icmp .ne 7, 3) := by decide +kernel
theorem dX1_staysWith_94 : decode cX1_staysWith 94 = .ok (.iconst 1, 1) := by decide +kernel
theorem dX1_staysWith_95 : decode cX1_staysWith 95 = .ok (.goto 4, 3) := by decide +kernel
theorem dX1_staysWith_98 : decode cX1_staysWith 98 = .ok (.iconst 0, 1) := by decide +kernel
theorem dX1_staysWith_99 : decode cX1_staysWith 99 = .ok (.istore 6, 2) := by decide +kernel
theorem dX1_staysWith_101 : decode cX1_staysWith 101 = .ok (.iinc 7 1, 3) := by decide +kernel
theorem dX1_staysWith_104 : decode cX1_staysWith 104 = .ok (.goto (-77), 3) := by decide +kernel
theorem dX1_staysWith_107 : decode cX1_staysWith 107 = .ok (.iload 6, 2) := by decide +kernel
theorem dX1_staysWith_109 : decode cX1_staysWith 109 = .ok (.ifCond .eq 83, 3) := by decide +kernel
theorem dX1_staysWith_112 : decode cX1_staysWith 112 = .ok (.iload_n 3, 1) := by decide +kernel
theorem dX1_staysWith_113 : decode cX1_staysWith 113 = .ok (.ifCond .eq 75, 3) := by decide +kernel
theorem dX1_staysWith_116 : decode cX1_staysWith 116 = .ok (.aload_n 0, 1) := by decide +kernel
theorem dX1_staysWith_117 : decode cX1_staysWith 117 = .ok (.getfield 113, 3) := by decide +kernel
theorem dX1_staysWith_120 : decode cX1_staysWith 120 = .ok (.iload 4, 2) := by decide +kernel
theorem dX1_staysWith_122 : decode cX1_staysWith 122 = .ok (.laload, 1) := by decide +kernel
theorem dX1_staysWith_123 : decode cX1_staysWith 123 = .ok (.aload_n 0, 1) := by decide +kernel
theorem dX1_staysWith_124 : decode cX1_staysWith 124 = .ok (.getfield 113, 3) := by decide +kernel
theorem dX1_staysWith_127 : decode cX1_staysWith 127 = .ok (.iload 5, 2) := by decide +kernel
theorem dX1_staysWith_129 : decode cX1_staysWith 129 = .ok (.laload, 1) := by decide +kernel
theorem dX1_staysWith_130 : decode cX1_staysWith 130 = .ok (.lcmp, 1) := by decide +kernel
theorem dX1_staysWith_131 : decode cX1_staysWith 131 = .ok (.ifCond .ne 61, 3) := by decide +kernel
theorem dX1_staysWith_134 : decode cX1_staysWith 134 = .ok (.aload_n 0, 1) := by decide +kernel
theorem dX1_staysWith_135 : decode cX1_staysWith 135 = .ok (.getfield 117, 3) := by decide +kernel
theorem dX1_staysWith_138 : decode cX1_staysWith 138 = .ok (.iload 4, 2) := by decide +kernel
theorem dX1_staysWith_140 : decode cX1_staysWith 140 = .ok (.laload, 1) := by decide +kernel
theorem dX1_staysWith_141 : decode cX1_staysWith 141 = .ok (.aload_n 0, 1) := by decide +kernel
theorem dX1_staysWith_142 : decode cX1_staysWith 142 = .ok (.getfield 117, 3) := by decide +kernel
theorem dX1_staysWith_145 : decode cX1_staysWith 145 = .ok (.iload 5, 2) := by decide +kernel
theorem dX1_staysWith_147 : decode cX1_staysWith 147 = .ok (.laload, 1) := by decide +kernel
theorem dX1_staysWith_148 : decode cX1_staysWith 148 = .ok (.lcmp, 1) := by decide +kernel
theorem dX1_staysWith_149 : decode cX1_staysWith 149 = .ok (.ifCond .ne 43, 3) := by decide +kernel
theorem dX1_staysWith_152 : decode cX1_staysWith 152 = .ok (.aload_n 0, 1) := by decide +kernel
theorem dX1_staysWith_153 : decode cX1_staysWith 153 = .ok (.getfield 120, 3) := by decide +kernel
theorem dX1_staysWith_156 : decode cX1_staysWith 156 = .ok (.iload 4, 2) := by decide +kernel
theorem dX1_staysWith_158 : decode cX1_staysWith 158 = .ok (.laload, 1) := by decide +kernel
theorem dX1_staysWith_159 : decode cX1_staysWith 159 = .ok (.aload_n 0, 1) := by decide +kernel
theorem dX1_staysWith_160 : decode cX1_staysWith 160 = .ok (.getfield 120, 3) := by decide +kernel
theorem dX1_staysWith_163 : decode cX1_staysWith 163 = .ok (.iload 5, 2) := by decide +kernel
theorem dX1_staysWith_165 : decode cX1_staysWith 165 = .ok (.laload, 1) := by decide +kernel
theorem dX1_staysWith_166 : decode cX1_staysWith 166 = .ok (.lcmp, 1) := by decide +kernel
theorem dX1_staysWith_167 : decode cX1_staysWith 167 = .ok (.ifCond .ne 25, 3) := by decide +kernel
theorem dX1_staysWith_170 : decode cX1_staysWith 170 = .ok (.aload_n 0, 1) := by decide +kernel
theorem dX1_staysWith_171 : decode cX1_staysWith 171 = .ok (.getfield 123, 3) := by decide +kernel
theorem dX1_staysWith_174 : decode cX1_staysWith 174 = .ok (.iload 4, 2) := by decide +kernel
theorem dX1_staysWith_176 : decode cX1_staysWith 176 = .ok (.laload, 1) := by decide +kernel
theorem dX1_staysWith_177 : decode cX1_staysWith 177 = .ok (.aload_n 0, 1) := by decide +kernel
theorem dX1_staysWith_178 : decode cX1_staysWith 178 = .ok (.getfield 123, 3) := by decide +kernel
theorem dX1_staysWith_181 : decode cX1_staysWith 181 = .ok (.iload 5, 2) := by decide +kernel
theorem dX1_staysWith_183 : decode cX1_staysWith 183 = .ok (.laload, 1) := by decide +kernel
theorem dX1_staysWith_184 : decode cX1_staysWith 184 = .ok (.lcmp, 1) := by decide +kernel
theorem dX1_staysWith_185 : decode cX1_staysWith 185 = .ok (.ifCond .ne 7, 3) := by decide +kernel
theorem dX1_staysWith_188 : decode cX1_staysWith 188 = .ok (.iconst 1, 1) := by decide +kernel
theorem dX1_staysWith_189 : decode cX1_staysWith 189 = .ok (.goto 4, 3) := by decide +kernel
theorem dX1_staysWith_192 : decode cX1_staysWith 192 = .ok (.iconst 0, 1) := by decide +kernel
theorem dX1_staysWith_193 : decode cX1_staysWith 193 = .ok (.ireturn, 1) := by decide +kernel
noncomputable def C_X1_staysWith_L27 (l : Launch) (δ : Dl) : Seg (l, δ, yX1_staysWith, 2, (some .boolean), cX1_staysWith, 8) 27 107 :=
  seq (p := 27) (q := 29) (r := 107) (p_iload 7 dX1_staysWith_27) (seq (p := 29) (q := 30) (r := 107) (p_aload_n 0 dX1_staysWith_29) (seq (p := 30) (q := 33) (r := 107) (p_get [(1, 51)] (alL1 fl_X1_130_1) dX1_staysWith_30) (seq (p := 33) (q := 36) (r := 107) (p_icmp_ge 107 dX1_staysWith_33 (by decide)) (seq (p := 36) (q := 38) (r := 107) (p_iload 6 dX1_staysWith_36) (seq (p := 38) (q := 41) (r := 107) (p_if_eq 107 dX1_staysWith_38 (by decide)) (seq (p := 41) (q := 42) (r := 107) (p_iload_n 3 dX1_staysWith_41) (seq (p := 42) (q := 45) (r := 107) (p_if_ne 107 dX1_staysWith_42 (by decide)) (seq (p := 45) (q := 46) (r := 107) (p_aload_n 0 dX1_staysWith_45) (seq (p := 46) (q := 47) (r := 107) (p_aload_n 0 dX1_staysWith_46) (seq (p := 47) (q := 50) (r := 107) (p_get [(1, 57)] (alL1 fl_X1_104_1) dX1_staysWith_47) (seq (p := 50) (q := 52) (r := 107) (p_iload 4 dX1_staysWith_50) (seq (p := 52) (q := 53) (r := 107) (p_iald dX1_staysWith_52) (seq (p := 53) (q := 61) (r := 107) (blk (seq (p := 53) (q := 60) (r := 61) (blk (seq (p := 53) (q := 56) (r := 60) (p_if_ne 60 dX1_staysWith_53 (by decide)) (seq (p := 56) (q := 57) (r := 60) (p_iload_n 1 dX1_staysWith_56) (seq (p := 57) (q := 60) (r := 60) (p_goto 61 dX1_staysWith_57 (by decide)) done)))) (seq (p := 60) (q := 61) (r := 61) (p_iload_n 2 dX1_staysWith_60) done))) (seq (p := 61) (q := 63) (r := 107) (p_iload 4 dX1_staysWith_61) (seq (p := 63) (q := 65) (r := 107) (p_iload 7 dX1_staysWith_63) (seq (p := 65) (q := 68) (r := 107) (p_callV 1 cv_X1_386 hcR1 (M_X1_tiedOf l δ) (Nat.le_of_ble_eq_true rfl) dX1_staysWith_65) (seq (p := 68) (q := 69) (r := 107) (p_aload_n 0 dX1_staysWith_68) (seq (p := 69) (q := 70) (r := 107) (p_aload_n 0 dX1_staysWith_69) (seq (p := 70) (q := 73) (r := 107) (p_get [(1, 57)] (alL1 fl_X1_104_1) dX1_staysWith_70) (seq (p := 73) (q := 75) (r := 107) (p_iload 5 dX1_staysWith_73) (seq (p := 75) (q := 76) (r := 107) (p_iald dX1_staysWith_75) (seq (p := 76) (q := 84) (r := 107) (blk (seq (p := 76) (q := 83) (r := 84) (blk (seq (p := 76) (q := 79) (r := 83) (p_if_ne 83 dX1_staysWith_76 (by decide)) (seq (p := 79) (q := 80) (r := 83) (p_iload_n 1 dX1_staysWith_79) (seq (p := 80) (q := 83) (r := 83) (p_goto 84 dX1_staysWith_80 (by decide)) done)))) (seq (p := 83) (q := 84) (r := 84) (p_iload_n 2 dX1_staysWith_83) done))) (seq (p := 84) (q := 86) (r := 107) (p_iload 5 dX1_staysWith_84) (seq (p := 86) (q := 88) (r := 107) (p_iload 7 dX1_staysWith_86) (seq (p := 88) (q := 91) (r := 107) (p_callV 1 cv_X1_386 hcR1 (M_X1_tiedOf l δ) (Nat.le_of_ble_eq_true rfl) dX1_staysWith_88) (seq (p := 91) (q := 99) (r := 107) (blk (seq (p := 91) (q := 98) (r := 99) (blk (seq (p := 91) (q := 94) (r := 98) (p_icmp_ne 98 dX1_staysWith_91 (by decide)) (seq (p := 94) (q := 95) (r := 98) (p_iconst 1 dX1_staysWith_94) (seq (p := 95) (q := 98) (r := 98) (p_goto 99 dX1_staysWith_95 (by decide)) done)))) (seq (p := 98) (q := 99) (r := 99) (p_iconst 0 dX1_staysWith_98) done))) (seq (p := 99) (q := 101) (r := 107) (p_istore 6 dX1_staysWith_99 (Nat.le_of_ble_eq_true rfl)) (seq (p := 101) (q := 104) (r := 107) (p_iinc 7 1 dX1_staysWith_101 (Nat.le_of_ble_eq_true rfl)) (seq (p := 104) (q := 104) (r := 107) (er [true, true, true, true, true, true, true, true]) (seq (p := 104) (q := 107) (r := 107) (p_goto 27 dX1_staysWith_104 (by decide)) done))))))))))))))))))))))))))))))
noncomputable def B_X1_staysWith_L27 (l : Launch) (δ : Dl) : Seg (l, δ, yX1_staysWith, 2, (some .boolean), cX1_staysWith, 8) 27 107 := C_X1_staysWith_L27 l δ
theorem L_X1_staysWith_27 {l : Launch} {δ : Dl} {st : Stk} {L : Lc} {s : St} : (B_X1_staysWith_L27 l δ).1 st L s = (C_X1_staysWith_L27 l δ).1 st L s := nrfl rfl
noncomputable def B_X1_staysWith (l : Launch) (δ : Dl) : Seg (l, δ, yX1_staysWith, 2, (some .boolean), cX1_staysWith, 8) 0 194 :=
  seq (p := 0) (q := 1) (r := 194) (p_aload_n 0 dX1_staysWith_0) (seq (p := 1) (q := 4) (r := 194) (p_get [(1, 55)] (alL1 fl_X1_98_1) dX1_staysWith_1) (seq (p := 4) (q := 6) (r := 194) (p_iload 4 dX1_staysWith_4) (seq (p := 6) (q := 7) (r := 194) (p_iald dX1_staysWith_6) (seq (p := 7) (q := 8) (r := 194) (p_aload_n 0 dX1_staysWith_7) (seq (p := 8) (q := 11) (r := 194) (p_get [(1, 55)] (alL1 fl_X1_98_1) dX1_staysWith_8) (seq (p := 11) (q := 13) (r := 194) (p_iload 5 dX1_staysWith_11) (seq (p := 13) (q := 14) (r := 194) (p_iald dX1_staysWith_13) (seq (p := 14) (q := 22) (r := 194) (blk (seq (p := 14) (q := 21) (r := 22) (blk (seq (p := 14) (q := 17) (r := 21) (p_icmp_ne 21 dX1_staysWith_14 (by decide)) (seq (p := 17) (q := 18) (r := 21) (p_iconst 1 dX1_staysWith_17) (seq (p := 18) (q := 21) (r := 21) (p_goto 22 dX1_staysWith_18 (by decide)) done)))) (seq (p := 21) (q := 22) (r := 22) (p_iconst 0 dX1_staysWith_21) done))) (seq (p := 22) (q := 24) (r := 194) (p_istore 6 dX1_staysWith_22 (Nat.le_of_ble_eq_true rfl)) (seq (p := 24) (q := 25) (r := 194) (p_iconst 0 dX1_staysWith_24) (seq (p := 25) (q := 27) (r := 194) (p_istore 7 dX1_staysWith_25 (Nat.le_of_ble_eq_true rfl)) (seq (p := 27) (q := 107) (r := 194) (blk (seq (p := 27) (q := 27) (r := 107) (er [true, true, true, true, true, true, true, true]) (seq (p := 27) (q := 107) (r := 107) (lp (B_X1_staysWith_L27 l δ)) done))) (seq (p := 107) (q := 109) (r := 194) (p_iload 6 dX1_staysWith_107) (seq (p := 109) (q := 193) (r := 194) (blk (seq (p := 109) (q := 192) (r := 193) (blk (seq (p := 109) (q := 112) (r := 192) (p_if_eq 192 dX1_staysWith_109 (by decide)) (seq (p := 112) (q := 113) (r := 192) (p_iload_n 3 dX1_staysWith_112) (seq (p := 113) (q := 188) (r := 192) (blk (seq (p := 113) (q := 116) (r := 188) (p_if_eq 188 dX1_staysWith_113 (by decide)) (seq (p := 116) (q := 117) (r := 188) (p_aload_n 0 dX1_staysWith_116) (seq (p := 117) (q := 120) (r := 188) (p_get [(1, 60)] (alL1 fl_X1_113_1) dX1_staysWith_117) (seq (p := 120) (q := 122) (r := 188) (p_iload 4 dX1_staysWith_120) (seq (p := 122) (q := 123) (r := 188) (p_lald dX1_staysWith_122) (seq (p := 123) (q := 124) (r := 188) (p_aload_n 0 dX1_staysWith_123) (seq (p := 124) (q := 127) (r := 188) (p_get [(1, 60)] (alL1 fl_X1_113_1) dX1_staysWith_124) (seq (p := 127) (q := 129) (r := 188) (p_iload 5 dX1_staysWith_127) (seq (p := 129) (q := 130) (r := 188) (p_lald dX1_staysWith_129) (seq (p := 130) (q := 131) (r := 188) (p_lcmp dX1_staysWith_130) (seq (p := 131) (q := 134) (r := 188) (p_if_ne 192 dX1_staysWith_131 (by decide)) (seq (p := 134) (q := 135) (r := 188) (p_aload_n 0 dX1_staysWith_134) (seq (p := 135) (q := 138) (r := 188) (p_get [(1, 61)] (alL1 fl_X1_117_1) dX1_staysWith_135) (seq (p := 138) (q := 140) (r := 188) (p_iload 4 dX1_staysWith_138) (seq (p := 140) (q := 141) (r := 188) (p_lald dX1_staysWith_140) (seq (p := 141) (q := 142) (r := 188) (p_aload_n 0 dX1_staysWith_141) (seq (p := 142) (q := 145) (r := 188) (p_get [(1, 61)] (alL1 fl_X1_117_1) dX1_staysWith_142) (seq (p := 145) (q := 147) (r := 188) (p_iload 5 dX1_staysWith_145) (seq (p := 147) (q := 148) (r := 188) (p_lald dX1_staysWith_147) (seq (p := 148) (q := 149) (r := 188) (p_lcmp dX1_staysWith_148) (seq (p := 149) (q := 152) (r := 188) (p_if_ne 192 dX1_staysWith_149 (by decide)) (seq (p := 152) (q := 153) (r := 188) (p_aload_n 0 dX1_staysWith_152) (seq (p := 153) (q := 156) (r := 188) (p_get [(1, 62)] (alL1 fl_X1_120_1) dX1_staysWith_153) (seq (p := 156) (q := 158) (r := 188) (p_iload 4 dX1_staysWith_156) (seq (p := 158) (q := 159) (r := 188) (p_lald dX1_staysWith_158) (seq (p := 159) (q := 160) (r := 188) (p_aload_n 0 dX1_staysWith_159) (seq (p := 160) (q := 163) (r := 188) (p_get [(1, 62)] (alL1 fl_X1_120_1) dX1_staysWith_160) (seq (p := 163) (q := 165) (r := 188) (p_iload 5 dX1_staysWith_163) (seq (p := 165) (q := 166) (r := 188) (p_lald dX1_staysWith_165) (seq (p := 166) (q := 167) (r := 188) (p_lcmp dX1_staysWith_166) (seq (p := 167) (q := 170) (r := 188) (p_if_ne 192 dX1_staysWith_167 (by decide)) (seq (p := 170) (q := 171) (r := 188) (p_aload_n 0 dX1_staysWith_170) (seq (p := 171) (q := 174) (r := 188) (p_get [(1, 63)] (alL1 fl_X1_123_1) dX1_staysWith_171) (seq (p := 174) (q := 176) (r := 188) (p_iload 4 dX1_staysWith_174) (seq (p := 176) (q := 177) (r := 188) (p_lald dX1_staysWith_176) (seq (p := 177) (q := 178) (r := 188) (p_aload_n 0 dX1_staysWith_177) (seq (p := 178) (q := 181) (r := 188) (p_get [(1, 63)] (alL1 fl_X1_123_1) dX1_staysWith_178) (seq (p := 181) (q := 183) (r := 188) (p_iload 5 dX1_staysWith_181) (seq (p := 183) (q := 184) (r := 188) (p_lald dX1_staysWith_183) (seq (p := 184) (q := 185) (r := 188) (p_lcmp dX1_staysWith_184) (seq (p := 185) (q := 188) (r := 188) (p_if_ne 192 dX1_staysWith_185 (by decide)) done)))))))))))))))))))))))))))))))))))))))))) (seq (p := 188) (q := 189) (r := 192) (p_iconst 1 dX1_staysWith_188) (seq (p := 189) (q := 192) (r := 192) (p_goto 193 dX1_staysWith_189 (by decide)) done)))))) (seq (p := 192) (q := 193) (r := 193) (p_iconst 0 dX1_staysWith_192) done))) (seq (p := 193) (q := 194) (r := 194) (p_zreturn dX1_staysWith_193 rfl) done)))))))))))))))
noncomputable def M_X1_staysWith (l : Launch) (δ : Dl) : Mth l δ yX1_staysWith cX1_staysWith 8 (some .boolean) 2 := mk (B_X1_staysWith l δ) (by decide)
theorem N_X1_staysWith {l : Launch} {δ : Dl} {o : Nat} {a1 : Int} {a2 : Int} {a3 : Int} {a4 : Int} {a5 : Int} {s : St} : (M_X1_staysWith l δ).1 [.inr (.inr (some o)), .inl a1, .inl a2, .inl a3, .inl a4, .inl a5] s = bres ((B_X1_staysWith l δ).1 [] [some (.inr (.inr (some o))), some (.inl a1), some (.inl a2), some (.inl a3), some (.inl a4), some (.inl a5), none, none] s) := (mk_eq (hy := by decide) rfl).trans (nrfl rfl)
theorem dX1_step_0 : decode cX1_step 0 = .ok (.iconst 0, 1) := by decide +kernel
theorem dX1_step_1 : decode cX1_step 1 = .ok (.istore 5, 2) := by decide +kernel
theorem dX1_step_3 : decode cX1_step 3 = .ok (.iconst 0, 1) := by decide +kernel
theorem dX1_step_4 : decode cX1_step 4 = .ok (.istore 6, 2) := by decide +kernel
theorem dX1_step_6 : decode cX1_step 6 = .ok (.iload 6, 2) := by decide +kernel
theorem dX1_step_8 : decode cX1_step 8 = .ok (.aload_n 0, 1) := by decide +kernel
theorem dX1_step_9 : decode cX1_step 9 = .ok (.getfield 383, 3) := by decide +kernel
theorem dX1_step_12 : decode cX1_step 12 = .ok (.if_icmp .ge 25, 3) := by decide +kernel
theorem dX1_step_15 : decode cX1_step 15 = .ok (.iload 4, 2) := by decide +kernel
theorem dX1_step_17 : decode cX1_step 17 = .ok (.ifCond .ne 20, 3) := by decide +kernel
theorem dX1_step_20 : decode cX1_step 20 = .ok (.iload_n 3, 1) := by decide +kernel
theorem dX1_step_21 : decode cX1_step 21 = .ok (.iconst 1, 1) := by decide +kernel
theorem dX1_step_22 : decode cX1_step 22 = .ok (.if_icmp .ne 15, 3) := by decide +kernel
theorem dX1_step_25 : decode cX1_step 25 = .ok (.aload_n 0, 1) := by decide +kernel
theorem dX1_step_26 : decode cX1_step 26 = .ok (.iload 6, 2) := by decide +kernel
theorem dX1_step_28 : decode cX1_step 28 = .ok (.invokevirtual 389, 3) := by decide +kernel
theorem dX1_step_31 : decode cX1_step 31 = .ok (.iinc 6 1, 3) := by decide +kernel
theorem dX1_step_34 : decode cX1_step 34 = .ok (.goto (-28), 3) := by decide +kernel
theorem dX1_step_37 : decode cX1_step 37 = .ok (.iconst 0, 1) := by decide +kernel
theorem dX1_step_38 : decode cX1_step 38 = .ok (.istore 6, 2) := by decide +kernel
theorem dX1_step_40 : decode cX1_step 40 = .ok (.iload 6, 2) := by decide +kernel
theorem dX1_step_42 : decode cX1_step 42 = .ok (.aload_n 0, 1) := by decide +kernel
theorem dX1_step_43 : decode cX1_step 43 = .ok (.getfield 383, 3) := by decide +kernel
theorem dX1_step_46 : decode cX1_step 46 = .ok (.if_icmp .ge 116, 3) := by decide +kernel
theorem dX1_step_49 : decode cX1_step 49 = .ok (.iconst (-1), 1) := by decide +kernel
theorem dX1_step_50 : decode cX1_step 50 = .ok (.istore 7, 2) := by decide +kernel
theorem dX1_step_52 : decode cX1_step 52 = .ok (.iconst 0, 1) := by decide +kernel
theorem dX1_step_53 : decode cX1_step 53 = .ok (.istore 8, 2) := by decide +kernel
theorem dX1_step_55 : decode cX1_step 55 = .ok (.iload 8, 2) := by decide +kernel
theorem dX1_step_57 : decode cX1_step 57 = .ok (.iload 5, 2) := by decide +kernel
theorem dX1_step_59 : decode cX1_step 59 = .ok (.if_icmp .ge 67, 3) := by decide +kernel
theorem dX1_step_62 : decode cX1_step 62 = .ok (.iload 7, 2) := by decide +kernel
theorem dX1_step_64 : decode cX1_step 64 = .ok (.ifCond .ge 62, 3) := by decide +kernel
theorem dX1_step_67 : decode cX1_step 67 = .ok (.iload 4, 2) := by decide +kernel
theorem dX1_step_69 : decode cX1_step 69 = .ok (.ifCond .eq 24, 3) := by decide +kernel
theorem dX1_step_72 : decode cX1_step 72 = .ok (.aload_n 0, 1) := by decide +kernel
theorem dX1_step_73 : decode cX1_step 73 = .ok (.iload_n 1, 1) := by decide +kernel
theorem dX1_step_74 : decode cX1_step 74 = .ok (.iload_n 2, 1) := by decide +kernel
theorem dX1_step_75 : decode cX1_step 75 = .ok (.aload_n 0, 1) := by decide +kernel
theorem dX1_step_76 : decode cX1_step 76 = .ok (.getfield 95, 3) := by decide +kernel
theorem dX1_step_79 : decode cX1_step 79 = .ok (.iload 8, 2) := by decide +kernel
theorem dX1_step_81 : decode cX1_step 81 = .ok (.iaload, 1) := by decide +kernel
theorem dX1_step_82 : decode cX1_step 82 = .ok (.iload 6, 2) := by decide +kernel
theorem dX1_step_84 : decode cX1_step 84 = .ok (.invokevirtual 392, 3) := by decide +kernel
theorem dX1_step_87 : decode cX1_step 87 = .ok (.ifCond .eq 30, 3) := by decide +kernel
theorem dX1_step_90 : decode cX1_step 90 = .ok (.goto 22, 3) := by decide +kernel
theorem dX1_step_93 : decode cX1_step 93 = .ok (.aload_n 0, 1) := by decide +kernel
theorem dX1_step_94 : decode cX1_step 94 = .ok (.iload_n 1, 1) := by decide +kernel
theorem dX1_step_95 : decode cX1_step 95 = .ok (.iload_n 2, 1) := by decide +kernel
theorem dX1_step_96 : decode cX1_step 96 = .ok (.iload_n 3, 1) := by decide +kernel
theorem dX1_step_97 : decode cX1_step 97 = .ok (.aload_n 0, 1) := by decide +kernel
theorem dX1_step_98 : decode cX1_step 98 = .ok (.getfield 95, 3) := by decide +kernel
theorem dX1_step_101 : decode cX1_step 101 = .ok (.iload 8, 2) := by decide +kernel
theorem dX1_step_103 : decode cX1_step 103 = .ok (.iaload, 1) := by decide +kernel
theorem dX1_step_104 : decode cX1_step 104 = .ok (.iload 6, 2) := by decide +kernel
theorem dX1_step_106 : decode cX1_step 106 = .ok (.invokevirtual 396, 3) := by decide +kernel
theorem dX1_step_109 : decode cX1_step 109 = .ok (.ifCond .eq 8, 3) := by decide +kernel
theorem dX1_step_112 : decode cX1_step 112 = .ok (.iload 8, 2) := by decide +kernel
theorem dX1_step_114 : decode cX1_step 114 = .ok (.goto 4, 3) := by decide +kernel
theorem dX1_step_117 : decode cX1_step 117 = .ok (.iconst (-1), 1) := by decide +kernel
theorem dX1_step_118 : decode cX1_step 118 = .ok (.istore 7, 2) := by decide +kernel
theorem dX1_step_120 : decode cX1_step 120 = .ok (.iinc 8 1, 3) := by decide +kernel
theorem dX1_step_123 : decode cX1_step 123 = .ok (.goto (-68), 3) := by decide +kernel
theorem dX1_step_126 : decode cX1_step 126 = .ok (.iload 7, 2) := by decide +kernel
theorem dX1_step_128 : decode cX1_step 128 = .ok (.ifCond .ge 19, 3) := by decide +kernel
theorem dX1_step_131 : decode cX1_step 131 = .ok (.iload 5, 2) := by decide +kernel
theorem dX1_step_133 : decode cX1_step 133 = .ok (.istore 7, 2) := by decide +kernel
theorem dX1_step_135 : decode cX1_step 135 = .ok (.aload_n 0, 1) := by decide +kernel
theorem dX1_step_136 : decode cX1_step 136 = .ok (.getfield 95, 3) := by decide +kernel
theorem dX1_step_139 : decode cX1_step 139 = .ok (.iload 5, 2) := by decide +kernel
theorem dX1_step_141 : decode cX1_step 141 = .ok (.iload 6, 2) := by decide +kernel
theorem dX1_step_143 : decode cX1_step 143 = .ok (.iastore, 1) := by decide +kernel
theorem dX1_step_144 : decode cX1_step 144 = .ok (.iinc 5 1, 3) := by decide +kernel
theorem dX1_step_147 : decode cX1_step 147 = .ok (.aload_n 0, 1) := by decide +kernel
theorem dX1_step_148 : decode cX1_step 148 = .ok (.getfield 101, 3) := by decide +kernel
theorem dX1_step_151 : decode cX1_step 151 = .ok (.iload 6, 2) := by decide +kernel
theorem dX1_step_153 : decode cX1_step 153 = .ok (.iload 7, 2) := by decide +kernel
theorem dX1_step_155 : decode cX1_step 155 = .ok (.iastore, 1) := by decide +kernel
theorem dX1_step_156 : decode cX1_step 156 = .ok (.iinc 6 1, 3) := by decide +kernel
theorem dX1_step_159 : decode cX1_step 159 = .ok (.goto (-119), 3) := by decide +kernel
theorem dX1_step_162 : decode cX1_step 162 = .ok (.iconst 0, 1) := by decide +kernel
theorem dX1_step_163 : decode cX1_step 163 = .ok (.istore 6, 2) := by decide +kernel
theorem dX1_step_165 : decode cX1_step 165 = .ok (.iload 6, 2) := by decide +kernel
theorem dX1_step_167 : decode cX1_step 167 = .ok (.aload_n 0, 1) := by decide +kernel
theorem dX1_step_168 : decode cX1_step 168 = .ok (.getfield 383, 3) := by decide +kernel
theorem dX1_step_171 : decode cX1_step 171 = .ok (.if_icmp .ge 23, 3) := by decide +kernel
theorem dX1_step_174 : decode cX1_step 174 = .ok (.aload_n 0, 1) := by decide +kernel
theorem dX1_step_175 : decode cX1_step 175 = .ok (.getfield 98, 3) := by decide +kernel
theorem dX1_step_178 : decode cX1_step 178 = .ok (.iload 6, 2) := by decide +kernel
theorem dX1_step_180 : decode cX1_step 180 = .ok (.aload_n 0, 1) := by decide +kernel
theorem dX1_step_181 : decode cX1_step 181 = .ok (.getfield 101, 3) := by decide +kernel
theorem dX1_step_184 : decode cX1_step 184 = .ok (.iload 6, 2) := by decide +kernel
theorem dX1_step_186 : decode cX1_step 186 = .ok (.iaload, 1) := by decide +kernel
theorem dX1_step_187 : decode cX1_step 187 = .ok (.iastore, 1) := by decide +kernel
theorem dX1_step_188 : decode cX1_step 188 = .ok (.iinc 6 1, 3) := by decide +kernel
theorem dX1_step_191 : decode cX1_step 191 = .ok (.goto (-26), 3) := by decide +kernel
theorem dX1_step_194 : decode cX1_step 194 = .ok (.iload 5, 2) := by decide +kernel
theorem dX1_step_196 : decode cX1_step 196 = .ok (.ireturn, 1) := by decide +kernel
noncomputable def C_X1_step_L6 (l : Launch) (δ : Dl) : Seg (l, δ, yX1_step, 4, (some .int), cX1_step, 9) 6 37 :=
  seq (p := 6) (q := 8) (r := 37) (p_iload 6 dX1_step_6) (seq (p := 8) (q := 9) (r := 37) (p_aload_n 0 dX1_step_8) (seq (p := 9) (q := 12) (r := 37) (p_get [(1, 52)] (alL1 fl_X1_383_1) dX1_step_9) (seq (p := 12) (q := 15) (r := 37) (p_icmp_ge 37 dX1_step_12 (by decide)) (seq (p := 15) (q := 17) (r := 37) (p_iload 4 dX1_step_15) (seq (p := 17) (q := 20) (r := 37) (p_if_ne 37 dX1_step_17 (by decide)) (seq (p := 20) (q := 21) (r := 37) (p_iload_n 3 dX1_step_20) (seq (p := 21) (q := 22) (r := 37) (p_iconst 1 dX1_step_21) (seq (p := 22) (q := 25) (r := 37) (p_icmp_ne 37 dX1_step_22 (by decide)) (seq (p := 25) (q := 26) (r := 37) (p_aload_n 0 dX1_step_25) (seq (p := 26) (q := 28) (r := 37) (p_iload 6 dX1_step_26) (seq (p := 28) (q := 31) (r := 37) (p_callV 1 cv_X1_389 hcR1 (M_X1_gather l δ) (Nat.le_of_ble_eq_true rfl) dX1_step_28) (seq (p := 31) (q := 34) (r := 37) (p_iinc 6 1 dX1_step_31 (Nat.le_of_ble_eq_true rfl)) (seq (p := 34) (q := 34) (r := 37) (er [true, true, true, true, true, true, true, false, false]) (seq (p := 34) (q := 37) (r := 37) (p_goto 6 dX1_step_34 (by decide)) done))))))))))))))
noncomputable def B_X1_step_L6 (l : Launch) (δ : Dl) : Seg (l, δ, yX1_step, 4, (some .int), cX1_step, 9) 6 37 := C_X1_step_L6 l δ
theorem L_X1_step_6 {l : Launch} {δ : Dl} {st : Stk} {L : Lc} {s : St} : (B_X1_step_L6 l δ).1 st L s = (C_X1_step_L6 l δ).1 st L s := nrfl rfl
noncomputable def C_X1_step_L55 (l : Launch) (δ : Dl) : Seg (l, δ, yX1_step, 4, (some .int), cX1_step, 9) 55 126 :=
  seq (p := 55) (q := 57) (r := 126) (p_iload 8 dX1_step_55) (seq (p := 57) (q := 59) (r := 126) (p_iload 5 dX1_step_57) (seq (p := 59) (q := 62) (r := 126) (p_icmp_ge 126 dX1_step_59 (by decide)) (seq (p := 62) (q := 64) (r := 126) (p_iload 7 dX1_step_62) (seq (p := 64) (q := 67) (r := 126) (p_if_ge 126 dX1_step_64 (by decide)) (seq (p := 67) (q := 69) (r := 126) (p_iload 4 dX1_step_67) (seq (p := 69) (q := 118) (r := 126) (blk (seq (p := 69) (q := 117) (r := 118) (blk (seq (p := 69) (q := 112) (r := 117) (blk (seq (p := 69) (q := 93) (r := 112) (blk (seq (p := 69) (q := 72) (r := 93) (p_if_eq 93 dX1_step_69 (by decide)) (seq (p := 72) (q := 73) (r := 93) (p_aload_n 0 dX1_step_72) (seq (p := 73) (q := 74) (r := 93) (p_iload_n 1 dX1_step_73) (seq (p := 74) (q := 75) (r := 93) (p_iload_n 2 dX1_step_74) (seq (p := 75) (q := 76) (r := 93) (p_aload_n 0 dX1_step_75) (seq (p := 76) (q := 79) (r := 93) (p_get [(1, 50)] (alL1 fl_X1_95_1) dX1_step_76) (seq (p := 79) (q := 81) (r := 93) (p_iload 8 dX1_step_79) (seq (p := 81) (q := 82) (r := 93) (p_iald dX1_step_81) (seq (p := 82) (q := 84) (r := 93) (p_iload 6 dX1_step_82) (seq (p := 84) (q := 87) (r := 93) (p_callV 1 cv_X1_392 hcR1 (M_X1_startsAlike l δ) (Nat.le_of_ble_eq_true rfl) dX1_step_84) (seq (p := 87) (q := 90) (r := 93) (p_if_eq 117 dX1_step_87 (by decide)) (seq (p := 90) (q := 93) (r := 93) (p_goto 112 dX1_step_90 (by decide)) done))))))))))))) (seq (p := 93) (q := 94) (r := 112) (p_aload_n 0 dX1_step_93) (seq (p := 94) (q := 95) (r := 112) (p_iload_n 1 dX1_step_94) (seq (p := 95) (q := 96) (r := 112) (p_iload_n 2 dX1_step_95) (seq (p := 96) (q := 97) (r := 112) (p_iload_n 3 dX1_step_96) (seq (p := 97) (q := 98) (r := 112) (p_aload_n 0 dX1_step_97) (seq (p := 98) (q := 101) (r := 112) (p_get [(1, 50)] (alL1 fl_X1_95_1) dX1_step_98) (seq (p := 101) (q := 103) (r := 112) (p_iload 8 dX1_step_101) (seq (p := 103) (q := 104) (r := 112) (p_iald dX1_step_103) (seq (p := 104) (q := 106) (r := 112) (p_iload 6 dX1_step_104) (seq (p := 106) (q := 109) (r := 112) (p_callV 1 cv_X1_396 hcR1 (M_X1_staysWith l δ) (Nat.le_of_ble_eq_true rfl) dX1_step_106) (seq (p := 109) (q := 112) (r := 112) (p_if_eq 117 dX1_step_109 (by decide)) done))))))))))))) (seq (p := 112) (q := 114) (r := 117) (p_iload 8 dX1_step_112) (seq (p := 114) (q := 117) (r := 117) (p_goto 118 dX1_step_114 (by decide)) done)))) (seq (p := 117) (q := 118) (r := 118) (p_iconst (-1) dX1_step_117) done))) (seq (p := 118) (q := 120) (r := 126) (p_istore 7 dX1_step_118 (Nat.le_of_ble_eq_true rfl)) (seq (p := 120) (q := 123) (r := 126) (p_iinc 8 1 dX1_step_120 (Nat.le_of_ble_eq_true rfl)) (seq (p := 123) (q := 123) (r := 126) (er [true, true, true, true, true, true, true, true, true]) (seq (p := 123) (q := 126) (r := 126) (p_goto 55 dX1_step_123 (by decide)) done))))))))))
noncomputable def B_X1_step_L55 (l : Launch) (δ : Dl) : Seg (l, δ, yX1_step, 4, (some .int), cX1_step, 9) 55 126 := C_X1_step_L55 l δ
theorem L_X1_step_55 {l : Launch} {δ : Dl} {st : Stk} {L : Lc} {s : St} : (B_X1_step_L55 l δ).1 st L s = (C_X1_step_L55 l δ).1 st L s := nrfl rfl
noncomputable def C_X1_step_L40 (l : Launch) (δ : Dl) : Seg (l, δ, yX1_step, 4, (some .int), cX1_step, 9) 40 162 :=
  seq (p := 40) (q := 42) (r := 162) (p_iload 6 dX1_step_40) (seq (p := 42) (q := 43) (r := 162) (p_aload_n 0 dX1_step_42) (seq (p := 43) (q := 46) (r := 162) (p_get [(1, 52)] (alL1 fl_X1_383_1) dX1_step_43) (seq (p := 46) (q := 49) (r := 162) (p_icmp_ge 162 dX1_step_46 (by decide)) (seq (p := 49) (q := 50) (r := 162) (p_iconst (-1) dX1_step_49) (seq (p := 50) (q := 52) (r := 162) (p_istore 7 dX1_step_50 (Nat.le_of_ble_eq_true rfl)) (seq (p := 52) (q := 53) (r := 162) (p_iconst 0 dX1_step_52) (seq (p := 53) (q := 55) (r := 162) (p_istore 8 dX1_step_53 (Nat.le_of_ble_eq_true rfl)) (seq (p := 55) (q := 126) (r := 162) (blk (seq (p := 55) (q := 55) (r := 126) (er [true, true, true, true, true, true, true, true, true]) (seq (p := 55) (q := 126) (r := 126) (lp (B_X1_step_L55 l δ)) done))) (seq (p := 126) (q := 128) (r := 162) (p_iload 7 dX1_step_126) (seq (p := 128) (q := 147) (r := 162) (blk (seq (p := 128) (q := 131) (r := 147) (p_if_ge 147 dX1_step_128 (by decide)) (seq (p := 131) (q := 133) (r := 147) (p_iload 5 dX1_step_131) (seq (p := 133) (q := 135) (r := 147) (p_istore 7 dX1_step_133 (Nat.le_of_ble_eq_true rfl)) (seq (p := 135) (q := 136) (r := 147) (p_aload_n 0 dX1_step_135) (seq (p := 136) (q := 139) (r := 147) (p_get [(1, 50)] (alL1 fl_X1_95_1) dX1_step_136) (seq (p := 139) (q := 141) (r := 147) (p_iload 5 dX1_step_139) (seq (p := 141) (q := 143) (r := 147) (p_iload 6 dX1_step_141) (seq (p := 143) (q := 144) (r := 147) (p_iast dX1_step_143) (seq (p := 144) (q := 147) (r := 147) (p_iinc 5 1 dX1_step_144 (Nat.le_of_ble_eq_true rfl)) done)))))))))) (seq (p := 147) (q := 148) (r := 162) (p_aload_n 0 dX1_step_147) (seq (p := 148) (q := 151) (r := 162) (p_get [(1, 56)] (alL1 fl_X1_101_1) dX1_step_148) (seq (p := 151) (q := 153) (r := 162) (p_iload 6 dX1_step_151) (seq (p := 153) (q := 155) (r := 162) (p_iload 7 dX1_step_153) (seq (p := 155) (q := 156) (r := 162) (p_iast dX1_step_155) (seq (p := 156) (q := 159) (r := 162) (p_iinc 6 1 dX1_step_156 (Nat.le_of_ble_eq_true rfl)) (seq (p := 159) (q := 159) (r := 162) (er [true, true, true, true, true, true, true, false, false]) (seq (p := 159) (q := 162) (r := 162) (p_goto 40 dX1_step_159 (by decide)) done))))))))))))))))))
noncomputable def B_X1_step_L40 (l : Launch) (δ : Dl) : Seg (l, δ, yX1_step, 4, (some .int), cX1_step, 9) 40 162 := C_X1_step_L40 l δ
theorem L_X1_step_40 {l : Launch} {δ : Dl} {st : Stk} {L : Lc} {s : St} : (B_X1_step_L40 l δ).1 st L s = (C_X1_step_L40 l δ).1 st L s := nrfl rfl
noncomputable def C_X1_step_L165 (l : Launch) (δ : Dl) : Seg (l, δ, yX1_step, 4, (some .int), cX1_step, 9) 165 194 :=
  seq (p := 165) (q := 167) (r := 194) (p_iload 6 dX1_step_165) (seq (p := 167) (q := 168) (r := 194) (p_aload_n 0 dX1_step_167) (seq (p := 168) (q := 171) (r := 194) (p_get [(1, 52)] (alL1 fl_X1_383_1) dX1_step_168) (seq (p := 171) (q := 174) (r := 194) (p_icmp_ge 194 dX1_step_171 (by decide)) (seq (p := 174) (q := 175) (r := 194) (p_aload_n 0 dX1_step_174) (seq (p := 175) (q := 178) (r := 194) (p_get [(1, 55)] (alL1 fl_X1_98_1) dX1_step_175) (seq (p := 178) (q := 180) (r := 194) (p_iload 6 dX1_step_178) (seq (p := 180) (q := 181) (r := 194) (p_aload_n 0 dX1_step_180) (seq (p := 181) (q := 184) (r := 194) (p_get [(1, 56)] (alL1 fl_X1_101_1) dX1_step_181) (seq (p := 184) (q := 186) (r := 194) (p_iload 6 dX1_step_184) (seq (p := 186) (q := 187) (r := 194) (p_iald dX1_step_186) (seq (p := 187) (q := 188) (r := 194) (p_iast dX1_step_187) (seq (p := 188) (q := 191) (r := 194) (p_iinc 6 1 dX1_step_188 (Nat.le_of_ble_eq_true rfl)) (seq (p := 191) (q := 191) (r := 194) (er [true, false, false, false, false, true, true, false, false]) (seq (p := 191) (q := 194) (r := 194) (p_goto 165 dX1_step_191 (by decide)) done))))))))))))))
noncomputable def B_X1_step_L165 (l : Launch) (δ : Dl) : Seg (l, δ, yX1_step, 4, (some .int), cX1_step, 9) 165 194 := C_X1_step_L165 l δ
theorem L_X1_step_165 {l : Launch} {δ : Dl} {st : Stk} {L : Lc} {s : St} : (B_X1_step_L165 l δ).1 st L s = (C_X1_step_L165 l δ).1 st L s := nrfl rfl
noncomputable def B_X1_step (l : Launch) (δ : Dl) : Seg (l, δ, yX1_step, 4, (some .int), cX1_step, 9) 0 197 :=
  seq (p := 0) (q := 1) (r := 197) (p_iconst 0 dX1_step_0) (seq (p := 1) (q := 3) (r := 197) (p_istore 5 dX1_step_1 (Nat.le_of_ble_eq_true rfl)) (seq (p := 3) (q := 4) (r := 197) (p_iconst 0 dX1_step_3) (seq (p := 4) (q := 6) (r := 197) (p_istore 6 dX1_step_4 (Nat.le_of_ble_eq_true rfl)) (seq (p := 6) (q := 37) (r := 197) (blk (seq (p := 6) (q := 6) (r := 37) (er [true, true, true, true, true, true, true, false, false]) (seq (p := 6) (q := 37) (r := 37) (lp (B_X1_step_L6 l δ)) done))) (seq (p := 37) (q := 38) (r := 197) (p_iconst 0 dX1_step_37) (seq (p := 38) (q := 40) (r := 197) (p_istore 6 dX1_step_38 (Nat.le_of_ble_eq_true rfl)) (seq (p := 40) (q := 162) (r := 197) (blk (seq (p := 40) (q := 40) (r := 162) (er [true, true, true, true, true, true, true, false, false]) (seq (p := 40) (q := 162) (r := 162) (lp (B_X1_step_L40 l δ)) done))) (seq (p := 162) (q := 163) (r := 197) (p_iconst 0 dX1_step_162) (seq (p := 163) (q := 165) (r := 197) (p_istore 6 dX1_step_163 (Nat.le_of_ble_eq_true rfl)) (seq (p := 165) (q := 194) (r := 197) (blk (seq (p := 165) (q := 165) (r := 194) (er [true, false, false, false, false, true, true, false, false]) (seq (p := 165) (q := 194) (r := 194) (lp (B_X1_step_L165 l δ)) done))) (seq (p := 194) (q := 196) (r := 197) (p_iload 5 dX1_step_194) (seq (p := 196) (q := 197) (r := 197) (p_ireturn dX1_step_196 rfl) done))))))))))))
noncomputable def M_X1_step (l : Launch) (δ : Dl) : Mth l δ yX1_step cX1_step 9 (some .int) 4 := mk (B_X1_step l δ) (by decide)
theorem N_X1_step {l : Launch} {δ : Dl} {o : Nat} {a1 : Int} {a2 : Int} {a3 : Int} {a4 : Int} {s : St} : (M_X1_step l δ).1 [.inr (.inr (some o)), .inl a1, .inl a2, .inl a3, .inl a4] s = bres ((B_X1_step l δ).1 [] [some (.inr (.inr (some o))), some (.inl a1), some (.inl a2), some (.inl a3), some (.inl a4), none, none, none, none] s) := (mk_eq (hy := by decide) rfl).trans (nrfl rfl)
theorem dX1_colour_0 : decode cX1_colour 0 = .ok (.aload_n 0, 1) := by decide +kernel
theorem dX1_colour_1 : decode cX1_colour 1 = .ok (.iload_n 1, 1) := by decide +kernel
theorem dX1_colour_2 : decode cX1_colour 2 = .ok (.invokevirtual 141, 3) := by decide +kernel
theorem dX1_colour_5 : decode cX1_colour 5 = .ok (.ifCond .ne 11, 3) := by decide +kernel
theorem dX1_colour_8 : decode cX1_colour 8 = .ok (.aload_n 0, 1) := by decide +kernel
theorem dX1_colour_9 : decode cX1_colour 9 = .ok (.iload_n 2, 1) := by decide +kernel
theorem dX1_colour_10 : decode cX1_colour 10 = .ok (.invokevirtual 141, 3) := by decide +kernel
theorem dX1_colour_13 : decode cX1_colour 13 = .ok (.ifCond .eq 5, 3) := by decide +kernel
theorem dX1_colour_16 : decode cX1_colour 16 = .ok (.iconst (-1), 1) := by decide +kernel
theorem dX1_colour_17 : decode cX1_colour 17 = .ok (.ireturn, 1) := by decide +kernel
theorem dX1_colour_18 : decode cX1_colour 18 = .ok (.iload_n 3, 1) := by decide +kernel
theorem dX1_colour_19 : decode cX1_colour 19 = .ok (.iconst 0, 1) := by decide +kernel
theorem dX1_colour_20 : decode cX1_colour 20 = .ok (.iconst 1, 1) := by decide +kernel
theorem dX1_colour_21 : decode cX1_colour 21 = .ok (.invokestatic 133, 3) := by decide +kernel
theorem dX1_colour_24 : decode cX1_colour 24 = .ok (.ifCond .ne 6, 3) := by decide +kernel
theorem dX1_colour_27 : decode cX1_colour 27 = .ok (.bipush (-2), 2) := by decide +kernel
theorem dX1_colour_29 : decode cX1_colour 29 = .ok (.ireturn, 1) := by decide +kernel
theorem dX1_colour_30 : decode cX1_colour 30 = .ok (.aload_n 0, 1) := by decide +kernel
theorem dX1_colour_31 : decode cX1_colour 31 = .ok (.iload_n 1, 1) := by decide +kernel
theorem dX1_colour_32 : decode cX1_colour 32 = .ok (.iload_n 2, 1) := by decide +kernel
theorem dX1_colour_33 : decode cX1_colour 33 = .ok (.iload_n 3, 1) := by decide +kernel
theorem dX1_colour_34 : decode cX1_colour 34 = .ok (.invokevirtual 400, 3) := by decide +kernel
theorem dX1_colour_37 : decode cX1_colour 37 = .ok (.aload_n 0, 1) := by decide +kernel
theorem dX1_colour_38 : decode cX1_colour 38 = .ok (.aload_n 0, 1) := by decide +kernel
theorem dX1_colour_39 : decode cX1_colour 39 = .ok (.iload_n 1, 1) := by decide +kernel
theorem dX1_colour_40 : decode cX1_colour 40 = .ok (.iload_n 2, 1) := by decide +kernel
theorem dX1_colour_41 : decode cX1_colour 41 = .ok (.iload_n 3, 1) := by decide +kernel
theorem dX1_colour_42 : decode cX1_colour 42 = .ok (.iconst 1, 1) := by decide +kernel
theorem dX1_colour_43 : decode cX1_colour 43 = .ok (.invokevirtual 403, 3) := by decide +kernel
theorem dX1_colour_46 : decode cX1_colour 46 = .ok (.putfield 130, 3) := by decide +kernel
theorem dX1_colour_49 : decode cX1_colour 49 = .ok (.aload_n 0, 1) := by decide +kernel
theorem dX1_colour_50 : decode cX1_colour 50 = .ok (.iconst 0, 1) := by decide +kernel
theorem dX1_colour_51 : decode cX1_colour 51 = .ok (.putfield 407, 3) := by decide +kernel
theorem dX1_colour_54 : decode cX1_colour 54 = .ok (.iconst 1, 1) := by decide +kernel
theorem dX1_colour_55 : decode cX1_colour 55 = .ok (.istore 4, 2) := by decide +kernel
theorem dX1_colour_57 : decode cX1_colour 57 = .ok (.iload 4, 2) := by decide +kernel
theorem dX1_colour_59 : decode cX1_colour 59 = .ok (.ifCond .eq 59, 3) := by decide +kernel
theorem dX1_colour_62 : decode cX1_colour 62 = .ok (.aload_n 0, 1) := by decide +kernel
theorem dX1_colour_63 : decode cX1_colour 63 = .ok (.getfield 130, 3) := by decide +kernel
theorem dX1_colour_66 : decode cX1_colour 66 = .ok (.istore 5, 2) := by decide +kernel
theorem dX1_colour_68 : decode cX1_colour 68 = .ok (.aload_n 0, 1) := by decide +kernel
theorem dX1_colour_69 : decode cX1_colour 69 = .ok (.aload_n 0, 1) := by decide +kernel
theorem dX1_colour_70 : decode cX1_colour 70 = .ok (.iload_n 1, 1) := by decide +kernel
theorem dX1_colour_71 : decode cX1_colour 71 = .ok (.iload_n 2, 1) := by decide +kernel
theorem dX1_colour_72 : decode cX1_colour 72 = .ok (.iload_n 3, 1) := by decide +kernel
theorem dX1_colour_73 : decode cX1_colour 73 = .ok (.iconst 0, 1) := by decide +kernel
theorem dX1_colour_74 : decode cX1_colour 74 = .ok (.invokevirtual 403, 3) := by decide +kernel
theorem dX1_colour_77 : decode cX1_colour 77 = .ok (.putfield 130, 3) := by decide +kernel
theorem dX1_colour_80 : decode cX1_colour 80 = .ok (.aload_n 0, 1) := by decide +kernel
theorem dX1_colour_81 : decode cX1_colour 81 = .ok (.getfield 130, 3) := by decide +kernel
theorem dX1_colour_84 : decode cX1_colour 84 = .ok (.iload 5, 2) := by decide +kernel
theorem dX1_colour_86 : decode cX1_colour 86 = .ok (.if_icmp .le 7, 3) := by decide +kernel
theorem dX1_colour_89 : decode cX1_colour 89 = .ok (.iconst 1, 1) := by decide +kernel
theorem dX1_colour_90 : decode cX1_colour 90 = .ok (.goto 4, 3) := by decide +kernel
theorem dX1_colour_93 : decode cX1_colour 93 = .ok (.iconst 0, 1) := by decide +kernel
theorem dX1_colour_94 : decode cX1_colour 94 = .ok (.istore 4, 2) := by decide +kernel
theorem dX1_colour_96 : decode cX1_colour 96 = .ok (.aload_n 0, 1) := by decide +kernel
theorem dX1_colour_97 : decode cX1_colour 97 = .ok (.dup, 1) := by decide +kernel
theorem dX1_colour_98 : decode cX1_colour 98 = .ok (.getfield 407, 3) := by decide +kernel
theorem dX1_colour_101 : decode cX1_colour 101 = .ok (.iload 4, 2) := by decide +kernel
theorem dX1_colour_103 : decode cX1_colour 103 = .ok (.ifCond .eq 7, 3) := by decide +kernel
theorem dX1_colour_106 : decode cX1_colour 106 = .ok (.iconst 1, 1) := by decide +kernel
theorem dX1_colour_107 : decode cX1_colour 107 = .ok (.goto 4, 3) := by decide +kernel
theorem dX1_colour_110 : decode cX1_colour 110 = .ok (.iconst 0, 1) := by decide +kernel
theorem dX1_colour_111 : decode cX1_colour 111 = .ok (.iadd, 1) := by decide +kernel
theorem dX1_colour_112 : decode cX1_colour 112 = .ok (.putfield 407, 3) := by decide +kernel
theorem dX1_colour_115 : decode cX1_colour 115 = .ok (.goto (-58), 3) := by decide +kernel
theorem dX1_colour_118 : decode cX1_colour 118 = .ok (.aload_n 0, 1) := by decide +kernel
theorem dX1_colour_119 : decode cX1_colour 119 = .ok (.aload_n 0, 1) := by decide +kernel
theorem dX1_colour_120 : decode cX1_colour 120 = .ok (.invokevirtual 410, 3) := by decide +kernel
theorem dX1_colour_123 : decode cX1_colour 123 = .ok (.putfield 413, 3) := by decide +kernel
theorem dX1_colour_126 : decode cX1_colour 126 = .ok (.aload_n 0, 1) := by decide +kernel
theorem dX1_colour_127 : decode cX1_colour 127 = .ok (.getfield 130, 3) := by decide +kernel
theorem dX1_colour_130 : decode cX1_colour 130 = .ok (.ireturn, 1) := by decide +kernel
noncomputable def C_X1_colour_L57 (l : Launch) (δ : Dl) : Seg (l, δ, yX1_colour, 5, (some .int), cX1_colour, 6) 57 118 :=
  seq (p := 57) (q := 59) (r := 118) (p_iload 4 dX1_colour_57) (seq (p := 59) (q := 62) (r := 118) (p_if_eq 118 dX1_colour_59 (by decide)) (seq (p := 62) (q := 63) (r := 118) (p_aload_n 0 dX1_colour_62) (seq (p := 63) (q := 66) (r := 118) (p_get [(1, 51)] (alL1 fl_X1_130_1) dX1_colour_63) (seq (p := 66) (q := 68) (r := 118) (p_istore 5 dX1_colour_66 (Nat.le_of_ble_eq_true rfl)) (seq (p := 68) (q := 69) (r := 118) (p_aload_n 0 dX1_colour_68) (seq (p := 69) (q := 70) (r := 118) (p_aload_n 0 dX1_colour_69) (seq (p := 70) (q := 71) (r := 118) (p_iload_n 1 dX1_colour_70) (seq (p := 71) (q := 72) (r := 118) (p_iload_n 2 dX1_colour_71) (seq (p := 72) (q := 73) (r := 118) (p_iload_n 3 dX1_colour_72) (seq (p := 73) (q := 74) (r := 118) (p_iconst 0 dX1_colour_73) (seq (p := 74) (q := 77) (r := 118) (p_callV 1 cv_X1_403 hcR1 (M_X1_step l δ) (Nat.le_of_ble_eq_true rfl) dX1_colour_74) (seq (p := 77) (q := 80) (r := 118) (p_put [(1, 51)] .int (alP1 fp_X1_130_1) dX1_colour_77) (seq (p := 80) (q := 81) (r := 118) (p_aload_n 0 dX1_colour_80) (seq (p := 81) (q := 84) (r := 118) (p_get [(1, 51)] (alL1 fl_X1_130_1) dX1_colour_81) (seq (p := 84) (q := 86) (r := 118) (p_iload 5 dX1_colour_84) (seq (p := 86) (q := 94) (r := 118) (blk (seq (p := 86) (q := 93) (r := 94) (blk (seq (p := 86) (q := 89) (r := 93) (p_icmp_le 93 dX1_colour_86 (by decide)) (seq (p := 89) (q := 90) (r := 93) (p_iconst 1 dX1_colour_89) (seq (p := 90) (q := 93) (r := 93) (p_goto 94 dX1_colour_90 (by decide)) done)))) (seq (p := 93) (q := 94) (r := 94) (p_iconst 0 dX1_colour_93) done))) (seq (p := 94) (q := 96) (r := 118) (p_istore 4 dX1_colour_94 (Nat.le_of_ble_eq_true rfl)) (seq (p := 96) (q := 97) (r := 118) (p_aload_n 0 dX1_colour_96) (seq (p := 97) (q := 98) (r := 118) (p_dup dX1_colour_97) (seq (p := 98) (q := 101) (r := 118) (p_get [(1, 53)] (alL1 fl_X1_407_1) dX1_colour_98) (seq (p := 101) (q := 103) (r := 118) (p_iload 4 dX1_colour_101) (seq (p := 103) (q := 111) (r := 118) (blk (seq (p := 103) (q := 110) (r := 111) (blk (seq (p := 103) (q := 106) (r := 110) (p_if_eq 110 dX1_colour_103 (by decide)) (seq (p := 106) (q := 107) (r := 110) (p_iconst 1 dX1_colour_106) (seq (p := 107) (q := 110) (r := 110) (p_goto 111 dX1_colour_107 (by decide)) done)))) (seq (p := 110) (q := 111) (r := 111) (p_iconst 0 dX1_colour_110) done))) (seq (p := 111) (q := 112) (r := 118) (p_iadd dX1_colour_111) (seq (p := 112) (q := 115) (r := 118) (p_put [(1, 53)] .int (alP1 fp_X1_407_1) dX1_colour_112) (seq (p := 115) (q := 115) (r := 118) (er [true, true, true, true, true, false]) (seq (p := 115) (q := 118) (r := 118) (p_goto 57 dX1_colour_115 (by decide)) done))))))))))))))))))))))))))
noncomputable def B_X1_colour_L57 (l : Launch) (δ : Dl) : Seg (l, δ, yX1_colour, 5, (some .int), cX1_colour, 6) 57 118 := C_X1_colour_L57 l δ
theorem L_X1_colour_57 {l : Launch} {δ : Dl} {st : Stk} {L : Lc} {s : St} : (B_X1_colour_L57 l δ).1 st L s = (C_X1_colour_L57 l δ).1 st L s := nrfl rfl
noncomputable def B_X1_colour (l : Launch) (δ : Dl) : Seg (l, δ, yX1_colour, 5, (some .int), cX1_colour, 6) 0 131 :=
  seq (p := 0) (q := 1) (r := 131) (p_aload_n 0 dX1_colour_0) (seq (p := 1) (q := 2) (r := 131) (p_iload_n 1 dX1_colour_1) (seq (p := 2) (q := 5) (r := 131) (p_callV 1 cv_X1_141 hcR1 (M_X1_noWorld l δ) (Nat.le_of_ble_eq_true rfl) dX1_colour_2) (seq (p := 5) (q := 18) (r := 131) (blk (seq (p := 5) (q := 16) (r := 18) (blk (seq (p := 5) (q := 8) (r := 16) (p_if_ne 16 dX1_colour_5 (by decide)) (seq (p := 8) (q := 9) (r := 16) (p_aload_n 0 dX1_colour_8) (seq (p := 9) (q := 10) (r := 16) (p_iload_n 2 dX1_colour_9) (seq (p := 10) (q := 13) (r := 16) (p_callV 1 cv_X1_141 hcR1 (M_X1_noWorld l δ) (Nat.le_of_ble_eq_true rfl) dX1_colour_10) (seq (p := 13) (q := 16) (r := 16) (p_if_eq 18 dX1_colour_13 (by decide)) done)))))) (seq (p := 16) (q := 17) (r := 18) (p_iconst (-1) dX1_colour_16) (seq (p := 17) (q := 18) (r := 18) (p_ireturn dX1_colour_17 rfl) done)))) (seq (p := 18) (q := 19) (r := 131) (p_iload_n 3 dX1_colour_18) (seq (p := 19) (q := 20) (r := 131) (p_iconst 0 dX1_colour_19) (seq (p := 20) (q := 21) (r := 131) (p_iconst 1 dX1_colour_20) (seq (p := 21) (q := 24) (r := 131) (p_callS cs_X1_133 (M_X1_in l δ) (Nat.le_of_ble_eq_true rfl) dX1_colour_21) (seq (p := 24) (q := 30) (r := 131) (blk (seq (p := 24) (q := 27) (r := 30) (p_if_ne 30 dX1_colour_24 (by decide)) (seq (p := 27) (q := 29) (r := 30) (p_bipush (-2) dX1_colour_27 (by decide)) (seq (p := 29) (q := 30) (r := 30) (p_ireturn dX1_colour_29 rfl) done)))) (seq (p := 30) (q := 31) (r := 131) (p_aload_n 0 dX1_colour_30) (seq (p := 31) (q := 32) (r := 131) (p_iload_n 1 dX1_colour_31) (seq (p := 32) (q := 33) (r := 131) (p_iload_n 2 dX1_colour_32) (seq (p := 33) (q := 34) (r := 131) (p_iload_n 3 dX1_colour_33) (seq (p := 34) (q := 37) (r := 131) (p_callV 1 cv_X1_400 hcR1 (M_X1_layThings l δ) (Nat.le_of_ble_eq_true rfl) dX1_colour_34) (seq (p := 37) (q := 38) (r := 131) (p_aload_n 0 dX1_colour_37) (seq (p := 38) (q := 39) (r := 131) (p_aload_n 0 dX1_colour_38) (seq (p := 39) (q := 40) (r := 131) (p_iload_n 1 dX1_colour_39) (seq (p := 40) (q := 41) (r := 131) (p_iload_n 2 dX1_colour_40) (seq (p := 41) (q := 42) (r := 131) (p_iload_n 3 dX1_colour_41) (seq (p := 42) (q := 43) (r := 131) (p_iconst 1 dX1_colour_42) (seq (p := 43) (q := 46) (r := 131) (p_callV 1 cv_X1_403 hcR1 (M_X1_step l δ) (Nat.le_of_ble_eq_true rfl) dX1_colour_43) (seq (p := 46) (q := 49) (r := 131) (p_put [(1, 51)] .int (alP1 fp_X1_130_1) dX1_colour_46) (seq (p := 49) (q := 50) (r := 131) (p_aload_n 0 dX1_colour_49) (seq (p := 50) (q := 51) (r := 131) (p_iconst 0 dX1_colour_50) (seq (p := 51) (q := 54) (r := 131) (p_put [(1, 53)] .int (alP1 fp_X1_407_1) dX1_colour_51) (seq (p := 54) (q := 55) (r := 131) (p_iconst 1 dX1_colour_54) (seq (p := 55) (q := 57) (r := 131) (p_istore 4 dX1_colour_55 (Nat.le_of_ble_eq_true rfl)) (seq (p := 57) (q := 118) (r := 131) (blk (seq (p := 57) (q := 57) (r := 118) (er [true, true, true, true, true, false]) (seq (p := 57) (q := 118) (r := 118) (lp (B_X1_colour_L57 l δ)) done))) (seq (p := 118) (q := 119) (r := 131) (p_aload_n 0 dX1_colour_118) (seq (p := 119) (q := 120) (r := 131) (p_aload_n 0 dX1_colour_119) (seq (p := 120) (q := 123) (r := 131) (p_callV 1 cv_X1_410 hcR1 (M_X1_areBalanced l δ) (Nat.le_of_ble_eq_true rfl) dX1_colour_120) (seq (p := 123) (q := 126) (r := 131) (p_put [(1, 54)] .boolean (alP1 fp_X1_413_1) dX1_colour_123) (seq (p := 126) (q := 127) (r := 131) (p_aload_n 0 dX1_colour_126) (seq (p := 127) (q := 130) (r := 131) (p_get [(1, 51)] (alL1 fl_X1_130_1) dX1_colour_127) (seq (p := 130) (q := 131) (r := 131) (p_ireturn dX1_colour_130 rfl) done))))))))))))))))))))))))))))))))))
noncomputable def M_X1_colour (l : Launch) (δ : Dl) : Mth l δ yX1_colour cX1_colour 6 (some .int) 5 := mk (B_X1_colour l δ) (by decide)
theorem N_X1_colour {l : Launch} {δ : Dl} {o : Nat} {a1 : Int} {a2 : Int} {a3 : Int} {s : St} : (M_X1_colour l δ).1 [.inr (.inr (some o)), .inl a1, .inl a2, .inl a3] s = bres ((B_X1_colour l δ).1 [] [some (.inr (.inr (some o))), some (.inl a1), some (.inl a2), some (.inl a3), none, none] s) := (mk_eq (hy := by decide) rfl).trans (nrfl rfl)
theorem dX1_coloured_0 : decode cX1_coloured 0 = .ok (.aload_n 0, 1) := by decide +kernel
theorem dX1_coloured_1 : decode cX1_coloured 1 = .ok (.getfield 130, 3) := by decide +kernel
theorem dX1_coloured_4 : decode cX1_coloured 4 = .ok (.ifCond .lt 26, 3) := by decide +kernel
theorem dX1_coloured_7 : decode cX1_coloured 7 = .ok (.iload_n 1, 1) := by decide +kernel
theorem dX1_coloured_8 : decode cX1_coloured 8 = .ok (.iconst 0, 1) := by decide +kernel
theorem dX1_coloured_9 : decode cX1_coloured 9 = .ok (.aload_n 0, 1) := by decide +kernel
theorem dX1_coloured_10 : decode cX1_coloured 10 = .ok (.getfield 383, 3) := by decide +kernel
theorem dX1_coloured_13 : decode cX1_coloured 13 = .ok (.iconst 1, 1) := by decide +kernel
theorem dX1_coloured_14 : decode cX1_coloured 14 = .ok (.isub, 1) := by decide +kernel
theorem dX1_coloured_15 : decode cX1_coloured 15 = .ok (.invokestatic 133, 3) := by decide +kernel
theorem dX1_coloured_18 : decode cX1_coloured 18 = .ok (.ifCond .eq 12, 3) := by decide +kernel
theorem dX1_coloured_21 : decode cX1_coloured 21 = .ok (.aload_n 0, 1) := by decide +kernel
theorem dX1_coloured_22 : decode cX1_coloured 22 = .ok (.getfield 98, 3) := by decide +kernel
theorem dX1_coloured_25 : decode cX1_coloured 25 = .ok (.iload_n 1, 1) := by decide +kernel
theorem dX1_coloured_26 : decode cX1_coloured 26 = .ok (.iaload, 1) := by decide +kernel
theorem dX1_coloured_27 : decode cX1_coloured 27 = .ok (.goto 4, 3) := by decide +kernel
theorem dX1_coloured_30 : decode cX1_coloured 30 = .ok (.iconst (-1), 1) := by decide +kernel
theorem dX1_coloured_31 : decode cX1_coloured 31 = .ok (.ireturn, 1) := by decide +kernel
noncomputable def B_X1_coloured (l : Launch) (δ : Dl) : Seg (l, δ, yX1_coloured, 1, (some .int), cX1_coloured, 2) 0 32 :=
  seq (p := 0) (q := 1) (r := 32) (p_aload_n 0 dX1_coloured_0) (seq (p := 1) (q := 4) (r := 32) (p_get [(1, 51)] (alL1 fl_X1_130_1) dX1_coloured_1) (seq (p := 4) (q := 31) (r := 32) (blk (seq (p := 4) (q := 30) (r := 31) (blk (seq (p := 4) (q := 7) (r := 30) (p_if_lt 30 dX1_coloured_4 (by decide)) (seq (p := 7) (q := 8) (r := 30) (p_iload_n 1 dX1_coloured_7) (seq (p := 8) (q := 9) (r := 30) (p_iconst 0 dX1_coloured_8) (seq (p := 9) (q := 10) (r := 30) (p_aload_n 0 dX1_coloured_9) (seq (p := 10) (q := 13) (r := 30) (p_get [(1, 52)] (alL1 fl_X1_383_1) dX1_coloured_10) (seq (p := 13) (q := 14) (r := 30) (p_iconst 1 dX1_coloured_13) (seq (p := 14) (q := 15) (r := 30) (p_isub dX1_coloured_14) (seq (p := 15) (q := 18) (r := 30) (p_callS cs_X1_133 (M_X1_in l δ) (Nat.le_of_ble_eq_true rfl) dX1_coloured_15) (seq (p := 18) (q := 21) (r := 30) (p_if_eq 30 dX1_coloured_18 (by decide)) (seq (p := 21) (q := 22) (r := 30) (p_aload_n 0 dX1_coloured_21) (seq (p := 22) (q := 25) (r := 30) (p_get [(1, 55)] (alL1 fl_X1_98_1) dX1_coloured_22) (seq (p := 25) (q := 26) (r := 30) (p_iload_n 1 dX1_coloured_25) (seq (p := 26) (q := 27) (r := 30) (p_iald dX1_coloured_26) (seq (p := 27) (q := 30) (r := 30) (p_goto 31 dX1_coloured_27 (by decide)) done))))))))))))))) (seq (p := 30) (q := 31) (r := 31) (p_iconst (-1) dX1_coloured_30) done))) (seq (p := 31) (q := 32) (r := 32) (p_ireturn dX1_coloured_31 rfl) done)))
noncomputable def M_X1_coloured (l : Launch) (δ : Dl) : Mth l δ yX1_coloured cX1_coloured 2 (some .int) 1 := mk (B_X1_coloured l δ) (by decide)
theorem N_X1_coloured {l : Launch} {δ : Dl} {o : Nat} {a1 : Int} {s : St} : (M_X1_coloured l δ).1 [.inr (.inr (some o)), .inl a1] s = bres ((B_X1_coloured l δ).1 [] [some (.inr (.inr (some o))), some (.inl a1)] s) := (mk_eq (hy := by decide) rfl).trans (nrfl rfl)
theorem dX1_still_0 : decode cX1_still 0 = .ok (.iload_n 1, 1) := by decide +kernel
theorem dX1_still_1 : decode cX1_still 1 = .ok (.iconst 0, 1) := by decide +kernel
theorem dX1_still_2 : decode cX1_still 2 = .ok (.iconst 1, 1) := by decide +kernel
theorem dX1_still_3 : decode cX1_still 3 = .ok (.invokestatic 133, 3) := by decide +kernel
theorem dX1_still_6 : decode cX1_still 6 = .ok (.ifCond .ne 6, 3) := by decide +kernel
theorem dX1_still_9 : decode cX1_still 9 = .ok (.bipush (-2), 2) := by decide +kernel
theorem dX1_still_11 : decode cX1_still 11 = .ok (.ireturn, 1) := by decide +kernel
theorem dX1_still_12 : decode cX1_still 12 = .ok (.aload_n 0, 1) := by decide +kernel
theorem dX1_still_13 : decode cX1_still 13 = .ok (.getfield 130, 3) := by decide +kernel
theorem dX1_still_16 : decode cX1_still 16 = .ok (.ifCond .ge 8, 3) := by decide +kernel
theorem dX1_still_19 : decode cX1_still 19 = .ok (.bipush (-3), 2) := by decide +kernel
theorem dX1_still_21 : decode cX1_still 21 = .ok (.goto 26, 3) := by decide +kernel
theorem dX1_still_24 : decode cX1_still 24 = .ok (.iload_n 1, 1) := by decide +kernel
theorem dX1_still_25 : decode cX1_still 25 = .ok (.ifCond .ne 10, 3) := by decide +kernel
theorem dX1_still_28 : decode cX1_still 28 = .ok (.aload_n 0, 1) := by decide +kernel
theorem dX1_still_29 : decode cX1_still 29 = .ok (.getfield 407, 3) := by decide +kernel
theorem dX1_still_32 : decode cX1_still 32 = .ok (.goto 15, 3) := by decide +kernel
theorem dX1_still_35 : decode cX1_still 35 = .ok (.aload_n 0, 1) := by decide +kernel
theorem dX1_still_36 : decode cX1_still 36 = .ok (.getfield 413, 3) := by decide +kernel
theorem dX1_still_39 : decode cX1_still 39 = .ok (.ifCond .eq 7, 3) := by decide +kernel
theorem dX1_still_42 : decode cX1_still 42 = .ok (.iconst 1, 1) := by decide +kernel
theorem dX1_still_43 : decode cX1_still 43 = .ok (.goto 4, 3) := by decide +kernel
theorem dX1_still_46 : decode cX1_still 46 = .ok (.iconst 0, 1) := by decide +kernel
theorem dX1_still_47 : decode cX1_still 47 = .ok (.ireturn, 1) := by decide +kernel
noncomputable def B_X1_still (l : Launch) (δ : Dl) : Seg (l, δ, yX1_still, 1, (some .int), cX1_still, 2) 0 48 :=
  seq (p := 0) (q := 1) (r := 48) (p_iload_n 1 dX1_still_0) (seq (p := 1) (q := 2) (r := 48) (p_iconst 0 dX1_still_1) (seq (p := 2) (q := 3) (r := 48) (p_iconst 1 dX1_still_2) (seq (p := 3) (q := 6) (r := 48) (p_callS cs_X1_133 (M_X1_in l δ) (Nat.le_of_ble_eq_true rfl) dX1_still_3) (seq (p := 6) (q := 12) (r := 48) (blk (seq (p := 6) (q := 9) (r := 12) (p_if_ne 12 dX1_still_6 (by decide)) (seq (p := 9) (q := 11) (r := 12) (p_bipush (-2) dX1_still_9 (by decide)) (seq (p := 11) (q := 12) (r := 12) (p_ireturn dX1_still_11 rfl) done)))) (seq (p := 12) (q := 13) (r := 48) (p_aload_n 0 dX1_still_12) (seq (p := 13) (q := 16) (r := 48) (p_get [(1, 51)] (alL1 fl_X1_130_1) dX1_still_13) (seq (p := 16) (q := 47) (r := 48) (blk (seq (p := 16) (q := 24) (r := 47) (blk (seq (p := 16) (q := 19) (r := 24) (p_if_ge 24 dX1_still_16 (by decide)) (seq (p := 19) (q := 21) (r := 24) (p_bipush (-3) dX1_still_19 (by decide)) (seq (p := 21) (q := 24) (r := 24) (p_goto 47 dX1_still_21 (by decide)) done)))) (seq (p := 24) (q := 25) (r := 47) (p_iload_n 1 dX1_still_24) (seq (p := 25) (q := 35) (r := 47) (blk (seq (p := 25) (q := 28) (r := 35) (p_if_ne 35 dX1_still_25 (by decide)) (seq (p := 28) (q := 29) (r := 35) (p_aload_n 0 dX1_still_28) (seq (p := 29) (q := 32) (r := 35) (p_get [(1, 53)] (alL1 fl_X1_407_1) dX1_still_29) (seq (p := 32) (q := 35) (r := 35) (p_goto 47 dX1_still_32 (by decide)) done))))) (seq (p := 35) (q := 36) (r := 47) (p_aload_n 0 dX1_still_35) (seq (p := 36) (q := 39) (r := 47) (p_get [(1, 54)] (alL1 fl_X1_413_1) dX1_still_36) (seq (p := 39) (q := 46) (r := 47) (blk (seq (p := 39) (q := 42) (r := 46) (p_if_eq 46 dX1_still_39 (by decide)) (seq (p := 42) (q := 43) (r := 46) (p_iconst 1 dX1_still_42) (seq (p := 43) (q := 46) (r := 46) (p_goto 47 dX1_still_43 (by decide)) done)))) (seq (p := 46) (q := 47) (r := 47) (p_iconst 0 dX1_still_46) done)))))))) (seq (p := 47) (q := 48) (r := 48) (p_ireturn dX1_still_47 rfl) done))))))))
noncomputable def M_X1_still (l : Launch) (δ : Dl) : Mth l δ yX1_still cX1_still 2 (some .int) 1 := mk (B_X1_still l δ) (by decide)
theorem N_X1_still {l : Launch} {δ : Dl} {o : Nat} {a1 : Int} {s : St} : (M_X1_still l δ).1 [.inr (.inr (some o)), .inl a1] s = bres ((B_X1_still l δ).1 [] [some (.inr (.inr (some o))), some (.inl a1)] s) := (mk_eq (hy := by decide) rfl).trans (nrfl rfl)
theorem dX1_told_0 : decode cX1_told 0 = .ok (.iload_n 1, 1) := by decide +kernel
theorem dX1_told_1 : decode cX1_told 1 = .ok (.tableswitch 101 0 4 #[35, 70, 75, 80, 85], 35) := by decide +kernel
theorem dX1_told_36 : decode cX1_told 36 = .ok (.iconst 0, 1) := by decide +kernel
theorem dX1_told_37 : decode cX1_told 37 = .ok (.istore_n 2, 1) := by decide +kernel
theorem dX1_told_38 : decode cX1_told 38 = .ok (.iconst 0, 1) := by decide +kernel
theorem dX1_told_39 : decode cX1_told 39 = .ok (.istore_n 3, 1) := by decide +kernel
theorem dX1_told_40 : decode cX1_told 40 = .ok (.iload_n 3, 1) := by decide +kernel
theorem dX1_told_41 : decode cX1_told 41 = .ok (.bipush 6, 2) := by decide +kernel
theorem dX1_told_43 : decode cX1_told 43 = .ok (.if_icmp .ge 26, 3) := by decide +kernel
theorem dX1_told_46 : decode cX1_told 46 = .ok (.iload_n 2, 1) := by decide +kernel
theorem dX1_told_47 : decode cX1_told 47 = .ok (.aload_n 0, 1) := by decide +kernel
theorem dX1_told_48 : decode cX1_told 48 = .ok (.getfield 7, 3) := by decide +kernel
theorem dX1_told_51 : decode cX1_told 51 = .ok (.iload_n 3, 1) := by decide +kernel
theorem dX1_told_52 : decode cX1_told 52 = .ok (.iaload, 1) := by decide +kernel
theorem dX1_told_53 : decode cX1_told 53 = .ok (.ifCond .le 7, 3) := by decide +kernel
theorem dX1_told_56 : decode cX1_told 56 = .ok (.iconst 1, 1) := by decide +kernel
theorem dX1_told_57 : decode cX1_told 57 = .ok (.goto 4, 3) := by decide +kernel
theorem dX1_told_60 : decode cX1_told 60 = .ok (.iconst 0, 1) := by decide +kernel
theorem dX1_told_61 : decode cX1_told 61 = .ok (.iadd, 1) := by decide +kernel
theorem dX1_told_62 : decode cX1_told 62 = .ok (.istore_n 2, 1) := by decide +kernel
theorem dX1_told_63 : decode cX1_told 63 = .ok (.iinc 3 1, 3) := by decide +kernel
theorem dX1_told_66 : decode cX1_told 66 = .ok (.goto (-26), 3) := by decide +kernel
theorem dX1_told_69 : decode cX1_told 69 = .ok (.iload_n 2, 1) := by decide +kernel
theorem dX1_told_70 : decode cX1_told 70 = .ok (.ireturn, 1) := by decide +kernel
theorem dX1_told_71 : decode cX1_told 71 = .ok (.aload_n 0, 1) := by decide +kernel
theorem dX1_told_72 : decode cX1_told 72 = .ok (.getfield 290, 3) := by decide +kernel
theorem dX1_told_75 : decode cX1_told 75 = .ok (.ireturn, 1) := by decide +kernel
theorem dX1_told_76 : decode cX1_told 76 = .ok (.aload_n 0, 1) := by decide +kernel
theorem dX1_told_77 : decode cX1_told 77 = .ok (.getfield 231, 3) := by decide +kernel
theorem dX1_told_80 : decode cX1_told 80 = .ok (.ireturn, 1) := by decide +kernel
theorem dX1_told_81 : decode cX1_told 81 = .ok (.aload_n 0, 1) := by decide +kernel
theorem dX1_told_82 : decode cX1_told 82 = .ok (.getfield 380, 3) := by decide +kernel
theorem dX1_told_85 : decode cX1_told 85 = .ok (.ireturn, 1) := by decide +kernel
theorem dX1_told_86 : decode cX1_told 86 = .ok (.aload_n 0, 1) := by decide +kernel
theorem dX1_told_87 : decode cX1_told 87 = .ok (.getfield 130, 3) := by decide +kernel
theorem dX1_told_90 : decode cX1_told 90 = .ok (.ifCond .ge 7, 3) := by decide +kernel
theorem dX1_told_93 : decode cX1_told 93 = .ok (.iconst 0, 1) := by decide +kernel
theorem dX1_told_94 : decode cX1_told 94 = .ok (.goto 7, 3) := by decide +kernel
theorem dX1_told_97 : decode cX1_told 97 = .ok (.aload_n 0, 1) := by decide +kernel
theorem dX1_told_98 : decode cX1_told 98 = .ok (.getfield 383, 3) := by decide +kernel
theorem dX1_told_101 : decode cX1_told 101 = .ok (.ireturn, 1) := by decide +kernel
theorem dX1_told_102 : decode cX1_told 102 = .ok (.bipush (-2), 2) := by decide +kernel
theorem dX1_told_104 : decode cX1_told 104 = .ok (.ireturn, 1) := by decide +kernel
noncomputable def C_X1_told_L40 (l : Launch) (δ : Dl) : Seg (l, δ, yX1_told, 0, (some .int), cX1_told, 4) 40 69 :=
  seq (p := 40) (q := 41) (r := 69) (p_iload_n 3 dX1_told_40) (seq (p := 41) (q := 43) (r := 69) (p_bipush 6 dX1_told_41 (by decide)) (seq (p := 43) (q := 46) (r := 69) (p_icmp_ge 69 dX1_told_43 (by decide)) (seq (p := 46) (q := 47) (r := 69) (p_iload_n 2 dX1_told_46) (seq (p := 47) (q := 48) (r := 69) (p_aload_n 0 dX1_told_47) (seq (p := 48) (q := 51) (r := 69) (p_get [(1, 0)] (alL1 fl_X1_7_1) dX1_told_48) (seq (p := 51) (q := 52) (r := 69) (p_iload_n 3 dX1_told_51) (seq (p := 52) (q := 53) (r := 69) (p_iald dX1_told_52) (seq (p := 53) (q := 61) (r := 69) (blk (seq (p := 53) (q := 60) (r := 61) (blk (seq (p := 53) (q := 56) (r := 60) (p_if_le 60 dX1_told_53 (by decide)) (seq (p := 56) (q := 57) (r := 60) (p_iconst 1 dX1_told_56) (seq (p := 57) (q := 60) (r := 60) (p_goto 61 dX1_told_57 (by decide)) done)))) (seq (p := 60) (q := 61) (r := 61) (p_iconst 0 dX1_told_60) done))) (seq (p := 61) (q := 62) (r := 69) (p_iadd dX1_told_61) (seq (p := 62) (q := 63) (r := 69) (p_istore_n 2 dX1_told_62 (Nat.le_of_ble_eq_true rfl)) (seq (p := 63) (q := 66) (r := 69) (p_iinc 3 1 dX1_told_63 (Nat.le_of_ble_eq_true rfl)) (seq (p := 66) (q := 66) (r := 69) (er [true, false, true, true]) (seq (p := 66) (q := 69) (r := 69) (p_goto 40 dX1_told_66 (by decide)) done)))))))))))))
noncomputable def B_X1_told_L40 (l : Launch) (δ : Dl) : Seg (l, δ, yX1_told, 0, (some .int), cX1_told, 4) 40 69 := C_X1_told_L40 l δ
theorem L_X1_told_40 {l : Launch} {δ : Dl} {st : Stk} {L : Lc} {s : St} : (B_X1_told_L40 l δ).1 st L s = (C_X1_told_L40 l δ).1 st L s := nrfl rfl
noncomputable def B_X1_told (l : Launch) (δ : Dl) : Seg (l, δ, yX1_told, 0, (some .int), cX1_told, 4) 0 105 :=
  seq (p := 0) (q := 1) (r := 105) (p_iload_n 1 dX1_told_0) (seq (p := 1) (q := 102) (r := 105) (blk (seq (p := 1) (q := 86) (r := 102) (blk (seq (p := 1) (q := 81) (r := 86) (blk (seq (p := 1) (q := 76) (r := 81) (blk (seq (p := 1) (q := 71) (r := 76) (blk (seq (p := 1) (q := 36) (r := 71) (blk (seq (p := 1) (q := 36) (r := 36) (p_table (len := 35) dX1_told_1 (by decide)) done)) (seq (p := 36) (q := 37) (r := 71) (p_iconst 0 dX1_told_36) (seq (p := 37) (q := 38) (r := 71) (p_istore_n 2 dX1_told_37 (Nat.le_of_ble_eq_true rfl)) (seq (p := 38) (q := 39) (r := 71) (p_iconst 0 dX1_told_38) (seq (p := 39) (q := 40) (r := 71) (p_istore_n 3 dX1_told_39 (Nat.le_of_ble_eq_true rfl)) (seq (p := 40) (q := 69) (r := 71) (blk (seq (p := 40) (q := 40) (r := 69) (er [true, false, true, true]) (seq (p := 40) (q := 69) (r := 69) (lp (B_X1_told_L40 l δ)) done))) (seq (p := 69) (q := 70) (r := 71) (p_iload_n 2 dX1_told_69) (seq (p := 70) (q := 71) (r := 71) (p_ireturn dX1_told_70 rfl) done))))))))) (seq (p := 71) (q := 72) (r := 76) (p_aload_n 0 dX1_told_71) (seq (p := 72) (q := 75) (r := 76) (p_get [(1, 17)] (alL1 fl_X1_290_1) dX1_told_72) (seq (p := 75) (q := 76) (r := 76) (p_ireturn dX1_told_75 rfl) done))))) (seq (p := 76) (q := 77) (r := 81) (p_aload_n 0 dX1_told_76) (seq (p := 77) (q := 80) (r := 81) (p_get [(1, 28)] (alL1 fl_X1_231_1) dX1_told_77) (seq (p := 80) (q := 81) (r := 81) (p_ireturn dX1_told_80 rfl) done))))) (seq (p := 81) (q := 82) (r := 86) (p_aload_n 0 dX1_told_81) (seq (p := 82) (q := 85) (r := 86) (p_get [(1, 48)] (alL1 fl_X1_380_1) dX1_told_82) (seq (p := 85) (q := 86) (r := 86) (p_ireturn dX1_told_85 rfl) done))))) (seq (p := 86) (q := 87) (r := 102) (p_aload_n 0 dX1_told_86) (seq (p := 87) (q := 90) (r := 102) (p_get [(1, 51)] (alL1 fl_X1_130_1) dX1_told_87) (seq (p := 90) (q := 101) (r := 102) (blk (seq (p := 90) (q := 97) (r := 101) (blk (seq (p := 90) (q := 93) (r := 97) (p_if_ge 97 dX1_told_90 (by decide)) (seq (p := 93) (q := 94) (r := 97) (p_iconst 0 dX1_told_93) (seq (p := 94) (q := 97) (r := 97) (p_goto 101 dX1_told_94 (by decide)) done)))) (seq (p := 97) (q := 98) (r := 101) (p_aload_n 0 dX1_told_97) (seq (p := 98) (q := 101) (r := 101) (p_get [(1, 52)] (alL1 fl_X1_383_1) dX1_told_98) done)))) (seq (p := 101) (q := 102) (r := 102) (p_ireturn dX1_told_101 rfl) done)))))) (seq (p := 102) (q := 104) (r := 105) (p_bipush (-2) dX1_told_102 (by decide)) (seq (p := 104) (q := 105) (r := 105) (p_ireturn dX1_told_104 rfl) done)))
noncomputable def M_X1_told (l : Launch) (δ : Dl) : Mth l δ yX1_told cX1_told 4 (some .int) 0 := mk (B_X1_told l δ) (by decide)
theorem N_X1_told {l : Launch} {δ : Dl} {o : Nat} {a1 : Int} {s : St} : (M_X1_told l δ).1 [.inr (.inr (some o)), .inl a1] s = bres ((B_X1_told l δ).1 [] [some (.inr (.inr (some o))), some (.inl a1), none, none] s) := (mk_eq (hy := by decide) rfl).trans (nrfl rfl)

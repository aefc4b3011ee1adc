/-! ===== the reference's methods as segments, 4 ===== -/
set_option maxRecDepth 100000
theorem dX1_written_0 : decode cX1_written 0 = .ok (.aload_n 0, 1) := by decide +kernel
theorem dX1_written_1 : decode cX1_written 1 = .ok (.iload_n 1, 1) := by decide +kernel
theorem dX1_written_2 : decode cX1_written 2 = .ok (.invokevirtual 317, 3) := by decide +kernel
theorem dX1_written_5 : decode cX1_written 5 = .ok (.ifCond .eq 5, 3) := by decide +kernel
theorem dX1_written_8 : decode cX1_written 8 = .ok (.iconst (-1), 1) := by decide +kernel
theorem dX1_written_9 : decode cX1_written 9 = .ok (.ireturn, 1) := by decide +kernel
theorem dX1_written_10 : decode cX1_written 10 = .ok (.aload_n 0, 1) := by decide +kernel
theorem dX1_written_11 : decode cX1_written 11 = .ok (.iload_n 1, 1) := by decide +kernel
theorem dX1_written_12 : decode cX1_written 12 = .ok (.invokevirtual 320, 3) := by decide +kernel
theorem dX1_written_15 : decode cX1_written 15 = .ok (.iload_n 2, 1) := by decide +kernel
theorem dX1_written_16 : decode cX1_written 16 = .ok (.iconst 0, 1) := by decide +kernel
theorem dX1_written_17 : decode cX1_written 17 = .ok (.aload_n 0, 1) := by decide +kernel
theorem dX1_written_18 : decode cX1_written 18 = .ok (.getfield 302, 3) := by decide +kernel
theorem dX1_written_21 : decode cX1_written 21 = .ok (.iconst 1, 1) := by decide +kernel
theorem dX1_written_22 : decode cX1_written 22 = .ok (.isub, 1) := by decide +kernel
theorem dX1_written_23 : decode cX1_written 23 = .ok (.invokestatic 133, 3) := by decide +kernel
theorem dX1_written_26 : decode cX1_written 26 = .ok (.ifCond .eq 12, 3) := by decide +kernel
theorem dX1_written_29 : decode cX1_written 29 = .ok (.aload_n 0, 1) := by decide +kernel
theorem dX1_written_30 : decode cX1_written 30 = .ok (.getfield 86, 3) := by decide +kernel
theorem dX1_written_33 : decode cX1_written 33 = .ok (.iload_n 2, 1) := by decide +kernel
theorem dX1_written_34 : decode cX1_written 34 = .ok (.baload, 1) := by decide +kernel
theorem dX1_written_35 : decode cX1_written 35 = .ok (.goto 4, 3) := by decide +kernel
theorem dX1_written_38 : decode cX1_written 38 = .ok (.iconst (-1), 1) := by decide +kernel
theorem dX1_written_39 : decode cX1_written 39 = .ok (.ireturn, 1) := by decide +kernel
noncomputable def B_X1_written (l : Launch) (δ : Dl) : Seg (l, δ, yX1_written, 3, (some .int), cX1_written, 3) 0 40 :=
  seq (p := 0) (q := 1) (r := 40) (p_aload_n 0 dX1_written_0) (seq (p := 1) (q := 2) (r := 40) (p_iload_n 1 dX1_written_1) (seq (p := 2) (q := 5) (r := 40) (p_callV 1 cv_X1_317 hcR1 (M_X1_noSentence l δ) (Nat.le_of_ble_eq_true rfl) dX1_written_2) (seq (p := 5) (q := 10) (r := 40) (blk (seq (p := 5) (q := 8) (r := 10) (p_if_eq 10 dX1_written_5 (by decide)) (seq (p := 8) (q := 9) (r := 10) (p_iconst (-1) dX1_written_8) (seq (p := 9) (q := 10) (r := 10) (p_ireturn dX1_written_9 rfl) done)))) (seq (p := 10) (q := 11) (r := 40) (p_aload_n 0 dX1_written_10) (seq (p := 11) (q := 12) (r := 40) (p_iload_n 1 dX1_written_11) (seq (p := 12) (q := 15) (r := 40) (p_callV 1 cv_X1_320 hcR1 (M_X1_writeAll l δ) (Nat.le_of_ble_eq_true rfl) dX1_written_12) (seq (p := 15) (q := 16) (r := 40) (p_iload_n 2 dX1_written_15) (seq (p := 16) (q := 17) (r := 40) (p_iconst 0 dX1_written_16) (seq (p := 17) (q := 18) (r := 40) (p_aload_n 0 dX1_written_17) (seq (p := 18) (q := 21) (r := 40) (p_get [(1, 42)] (alL1 fl_X1_302_1) dX1_written_18) (seq (p := 21) (q := 22) (r := 40) (p_iconst 1 dX1_written_21) (seq (p := 22) (q := 23) (r := 40) (p_isub dX1_written_22) (seq (p := 23) (q := 26) (r := 40) (p_callS cs_X1_133 (M_X1_in l δ) (Nat.le_of_ble_eq_true rfl) dX1_written_23) (seq (p := 26) (q := 39) (r := 40) (blk (seq (p := 26) (q := 38) (r := 39) (blk (seq (p := 26) (q := 29) (r := 38) (p_if_eq 38 dX1_written_26 (by decide)) (seq (p := 29) (q := 30) (r := 38) (p_aload_n 0 dX1_written_29) (seq (p := 30) (q := 33) (r := 38) (p_get [(1, 43)] (alL1 fl_X1_86_1) dX1_written_30) (seq (p := 33) (q := 34) (r := 38) (p_iload_n 2 dX1_written_33) (seq (p := 34) (q := 35) (r := 38) (p_bald dX1_written_34) (seq (p := 35) (q := 38) (r := 38) (p_goto 39 dX1_written_35 (by decide)) done))))))) (seq (p := 38) (q := 39) (r := 39) (p_iconst (-1) dX1_written_38) done))) (seq (p := 39) (q := 40) (r := 40) (p_ireturn dX1_written_39 rfl) done)))))))))))))))
noncomputable def M_X1_written (l : Launch) (δ : Dl) : Mth l δ yX1_written cX1_written 3 (some .int) 3 := mk (B_X1_written l δ) (by decide)
theorem N_X1_written {l : Launch} {δ : Dl} {o : Nat} {a1 : Int} {a2 : Int} {s : St} : (M_X1_written l δ).1 [.inr (.inr (some o)), .inl a1, .inl a2] s = bres ((B_X1_written l δ).1 [] [some (.inr (.inr (some o))), some (.inl a1), some (.inl a2)] s) := (mk_eq (hy := by decide) rfl).trans (nrfl rfl)
theorem dX1_same_0 : decode cX1_same 0 = .ok (.aload_n 0, 1) := by decide +kernel
theorem dX1_same_1 : decode cX1_same 1 = .ok (.iload_n 1, 1) := by decide +kernel
theorem dX1_same_2 : decode cX1_same 2 = .ok (.invokevirtual 317, 3) := by decide +kernel
theorem dX1_same_5 : decode cX1_same 5 = .ok (.ifCond .ne 11, 3) := by decide +kernel
theorem dX1_same_8 : decode cX1_same 8 = .ok (.aload_n 0, 1) := by decide +kernel
theorem dX1_same_9 : decode cX1_same 9 = .ok (.iload_n 2, 1) := by decide +kernel
theorem dX1_same_10 : decode cX1_same 10 = .ok (.invokevirtual 317, 3) := by decide +kernel
theorem dX1_same_13 : decode cX1_same 13 = .ok (.ifCond .eq 5, 3) := by decide +kernel
theorem dX1_same_16 : decode cX1_same 16 = .ok (.iconst (-1), 1) := by decide +kernel
theorem dX1_same_17 : decode cX1_same 17 = .ok (.ireturn, 1) := by decide +kernel
theorem dX1_same_18 : decode cX1_same 18 = .ok (.aload_n 0, 1) := by decide +kernel
theorem dX1_same_19 : decode cX1_same 19 = .ok (.getfield 37, 3) := by decide +kernel
theorem dX1_same_22 : decode cX1_same 22 = .ok (.iload_n 1, 1) := by decide +kernel
theorem dX1_same_23 : decode cX1_same 23 = .ok (.iaload, 1) := by decide +kernel
theorem dX1_same_24 : decode cX1_same 24 = .ok (.aload_n 0, 1) := by decide +kernel
theorem dX1_same_25 : decode cX1_same 25 = .ok (.getfield 37, 3) := by decide +kernel
theorem dX1_same_28 : decode cX1_same 28 = .ok (.iload_n 2, 1) := by decide +kernel
theorem dX1_same_29 : decode cX1_same 29 = .ok (.iaload, 1) := by decide +kernel
theorem dX1_same_30 : decode cX1_same 30 = .ok (.if_icmp .ne 7, 3) := by decide +kernel
theorem dX1_same_33 : decode cX1_same 33 = .ok (.iconst 1, 1) := by decide +kernel
theorem dX1_same_34 : decode cX1_same 34 = .ok (.goto 4, 3) := by decide +kernel
theorem dX1_same_37 : decode cX1_same 37 = .ok (.iconst 0, 1) := by decide +kernel
theorem dX1_same_38 : decode cX1_same 38 = .ok (.istore_n 3, 1) := by decide +kernel
theorem dX1_same_39 : decode cX1_same 39 = .ok (.iconst 0, 1) := by decide +kernel
theorem dX1_same_40 : decode cX1_same 40 = .ok (.istore 4, 2) := by decide +kernel
theorem dX1_same_42 : decode cX1_same 42 = .ok (.iload 4, 2) := by decide +kernel
theorem dX1_same_44 : decode cX1_same 44 = .ok (.aload_n 0, 1) := by decide +kernel
theorem dX1_same_45 : decode cX1_same 45 = .ok (.getfield 37, 3) := by decide +kernel
theorem dX1_same_48 : decode cX1_same 48 = .ok (.iload_n 1, 1) := by decide +kernel
theorem dX1_same_49 : decode cX1_same 49 = .ok (.iaload, 1) := by decide +kernel
theorem dX1_same_50 : decode cX1_same 50 = .ok (.if_icmp .ge 90, 3) := by decide +kernel
theorem dX1_same_53 : decode cX1_same 53 = .ok (.iload_n 3, 1) := by decide +kernel
theorem dX1_same_54 : decode cX1_same 54 = .ok (.ifCond .eq 86, 3) := by decide +kernel
theorem dX1_same_57 : decode cX1_same 57 = .ok (.sipush 600, 3) := by decide +kernel
theorem dX1_same_60 : decode cX1_same 60 = .ok (.iload_n 1, 1) := by decide +kernel
theorem dX1_same_61 : decode cX1_same 61 = .ok (.imul, 1) := by decide +kernel
theorem dX1_same_62 : decode cX1_same 62 = .ok (.iload 4, 2) := by decide +kernel
theorem dX1_same_64 : decode cX1_same 64 = .ok (.iadd, 1) := by decide +kernel
theorem dX1_same_65 : decode cX1_same 65 = .ok (.istore 5, 2) := by decide +kernel
theorem dX1_same_67 : decode cX1_same 67 = .ok (.sipush 600, 3) := by decide +kernel
theorem dX1_same_70 : decode cX1_same 70 = .ok (.iload_n 2, 1) := by decide +kernel
theorem dX1_same_71 : decode cX1_same 71 = .ok (.imul, 1) := by decide +kernel
theorem dX1_same_72 : decode cX1_same 72 = .ok (.iload 4, 2) := by decide +kernel
theorem dX1_same_74 : decode cX1_same 74 = .ok (.iadd, 1) := by decide +kernel
theorem dX1_same_75 : decode cX1_same 75 = .ok (.istore 6, 2) := by decide +kernel
theorem dX1_same_77 : decode cX1_same 77 = .ok (.aload_n 0, 1) := by decide +kernel
theorem dX1_same_78 : decode cX1_same 78 = .ok (.getfield 40, 3) := by decide +kernel
theorem dX1_same_81 : decode cX1_same 81 = .ok (.iload 5, 2) := by decide +kernel
theorem dX1_same_83 : decode cX1_same 83 = .ok (.baload, 1) := by decide +kernel
theorem dX1_same_84 : decode cX1_same 84 = .ok (.aload_n 0, 1) := by decide +kernel
theorem dX1_same_85 : decode cX1_same 85 = .ok (.getfield 40, 3) := by decide +kernel
theorem dX1_same_88 : decode cX1_same 88 = .ok (.iload 6, 2) := by decide +kernel
theorem dX1_same_90 : decode cX1_same 90 = .ok (.baload, 1) := by decide +kernel
theorem dX1_same_91 : decode cX1_same 91 = .ok (.if_icmp .ne 41, 3) := by decide +kernel
theorem dX1_same_94 : decode cX1_same 94 = .ok (.aload_n 0, 1) := by decide +kernel
theorem dX1_same_95 : decode cX1_same 95 = .ok (.getfield 44, 3) := by decide +kernel
theorem dX1_same_98 : decode cX1_same 98 = .ok (.iload 5, 2) := by decide +kernel
theorem dX1_same_100 : decode cX1_same 100 = .ok (.iaload, 1) := by decide +kernel
theorem dX1_same_101 : decode cX1_same 101 = .ok (.aload_n 0, 1) := by decide +kernel
theorem dX1_same_102 : decode cX1_same 102 = .ok (.getfield 44, 3) := by decide +kernel
theorem dX1_same_105 : decode cX1_same 105 = .ok (.iload 6, 2) := by decide +kernel
theorem dX1_same_107 : decode cX1_same 107 = .ok (.iaload, 1) := by decide +kernel
theorem dX1_same_108 : decode cX1_same 108 = .ok (.if_icmp .ne 24, 3) := by decide +kernel
theorem dX1_same_111 : decode cX1_same 111 = .ok (.aload_n 0, 1) := by decide +kernel
theorem dX1_same_112 : decode cX1_same 112 = .ok (.getfield 47, 3) := by decide +kernel
theorem dX1_same_115 : decode cX1_same 115 = .ok (.iload 5, 2) := by decide +kernel
theorem dX1_same_117 : decode cX1_same 117 = .ok (.baload, 1) := by decide +kernel
theorem dX1_same_118 : decode cX1_same 118 = .ok (.aload_n 0, 1) := by decide +kernel
theorem dX1_same_119 : decode cX1_same 119 = .ok (.getfield 47, 3) := by decide +kernel
theorem dX1_same_122 : decode cX1_same 122 = .ok (.iload 6, 2) := by decide +kernel
theorem dX1_same_124 : decode cX1_same 124 = .ok (.baload, 1) := by decide +kernel
theorem dX1_same_125 : decode cX1_same 125 = .ok (.if_icmp .ne 7, 3) := by decide +kernel
theorem dX1_same_128 : decode cX1_same 128 = .ok (.iconst 1, 1) := by decide +kernel
theorem dX1_same_129 : decode cX1_same 129 = .ok (.goto 4, 3) := by decide +kernel
theorem dX1_same_132 : decode cX1_same 132 = .ok (.iconst 0, 1) := by decide +kernel
theorem dX1_same_133 : decode cX1_same 133 = .ok (.istore_n 3, 1) := by decide +kernel
theorem dX1_same_134 : decode cX1_same 134 = .ok (.iinc 4 1, 3) := by decide +kernel
theorem dX1_same_137 : decode cX1_same 137 = .ok (.goto (-95), 3) := by decide +kernel
theorem dX1_same_140 : decode cX1_same 140 = .ok (.iload_n 3, 1) := by decide +kernel
theorem dX1_same_141 : decode cX1_same 141 = .ok (.ifCond .eq 7, 3) := by decide +kernel
theorem dX1_same_144 : decode cX1_same 144 = .ok (.iconst 1, 1) := by decide +kernel
theorem dX1_same_145 : decode cX1_same 145 = .ok (.goto 4, 3) := by decide +kernel
theorem dX1_same_148 : decode cX1_same 148 = .ok (.iconst 0, 1) := by decide +kernel
theorem dX1_same_149 : decode cX1_same 149 = .ok (.ireturn, 1) := by decide +kernel
noncomputable def C_X1_same_L42 (l : Launch) (δ : Dl) : Seg (l, δ, yX1_same, 2, (some .int), cX1_same, 7) 42 140 :=
  seq (p := 42) (q := 44) (r := 140) (p_iload 4 dX1_same_42) (seq (p := 44) (q := 45) (r := 140) (p_aload_n 0 dX1_same_44) (seq (p := 45) (q := 48) (r := 140) (p_get [(1, 18)] (alL1 fl_X1_37_1) dX1_same_45) (seq (p := 48) (q := 49) (r := 140) (p_iload_n 1 dX1_same_48) (seq (p := 49) (q := 50) (r := 140) (p_iald dX1_same_49) (seq (p := 50) (q := 53) (r := 140) (p_icmp_ge 140 dX1_same_50 (by decide)) (seq (p := 53) (q := 54) (r := 140) (p_iload_n 3 dX1_same_53) (seq (p := 54) (q := 57) (r := 140) (p_if_eq 140 dX1_same_54 (by decide)) (seq (p := 57) (q := 60) (r := 140) (p_sipush 600 dX1_same_57 (by decide)) (seq (p := 60) (q := 61) (r := 140) (p_iload_n 1 dX1_same_60) (seq (p := 61) (q := 62) (r := 140) (p_imul dX1_same_61) (seq (p := 62) (q := 64) (r := 140) (p_iload 4 dX1_same_62) (seq (p := 64) (q := 65) (r := 140) (p_iadd dX1_same_64) (seq (p := 65) (q := 67) (r := 140) (p_istore 5 dX1_same_65 (Nat.le_of_ble_eq_true rfl)) (seq (p := 67) (q := 70) (r := 140) (p_sipush 600 dX1_same_67 (by decide)) (seq (p := 70) (q := 71) (r := 140) (p_iload_n 2 dX1_same_70) (seq (p := 71) (q := 72) (r := 140) (p_imul dX1_same_71) (seq (p := 72) (q := 74) (r := 140) (p_iload 4 dX1_same_72) (seq (p := 74) (q := 75) (r := 140) (p_iadd dX1_same_74) (seq (p := 75) (q := 77) (r := 140) (p_istore 6 dX1_same_75 (Nat.le_of_ble_eq_true rfl)) (seq (p := 77) (q := 78) (r := 140) (p_aload_n 0 dX1_same_77) (seq (p := 78) (q := 81) (r := 140) (p_get [(1, 19)] (alL1 fl_X1_40_1) dX1_same_78) (seq (p := 81) (q := 83) (r := 140) (p_iload 5 dX1_same_81) (seq (p := 83) (q := 84) (r := 140) (p_bald dX1_same_83) (seq (p := 84) (q := 85) (r := 140) (p_aload_n 0 dX1_same_84) (seq (p := 85) (q := 88) (r := 140) (p_get [(1, 19)] (alL1 fl_X1_40_1) dX1_same_85) (seq (p := 88) (q := 90) (r := 140) (p_iload 6 dX1_same_88) (seq (p := 90) (q := 91) (r := 140) (p_bald dX1_same_90) (seq (p := 91) (q := 133) (r := 140) (blk (seq (p := 91) (q := 132) (r := 133) (blk (seq (p := 91) (q := 94) (r := 132) (p_icmp_ne 132 dX1_same_91 (by decide)) (seq (p := 94) (q := 95) (r := 132) (p_aload_n 0 dX1_same_94) (seq (p := 95) (q := 98) (r := 132) (p_get [(1, 20)] (alL1 fl_X1_44_1) dX1_same_95) (seq (p := 98) (q := 100) (r := 132) (p_iload 5 dX1_same_98) (seq (p := 100) (q := 101) (r := 132) (p_iald dX1_same_100) (seq (p := 101) (q := 102) (r := 132) (p_aload_n 0 dX1_same_101) (seq (p := 102) (q := 105) (r := 132) (p_get [(1, 20)] (alL1 fl_X1_44_1) dX1_same_102) (seq (p := 105) (q := 107) (r := 132) (p_iload 6 dX1_same_105) (seq (p := 107) (q := 108) (r := 132) (p_iald dX1_same_107) (seq (p := 108) (q := 111) (r := 132) (p_icmp_ne 132 dX1_same_108 (by decide)) (seq (p := 111) (q := 112) (r := 132) (p_aload_n 0 dX1_same_111) (seq (p := 112) (q := 115) (r := 132) (p_get [(1, 21)] (alL1 fl_X1_47_1) dX1_same_112) (seq (p := 115) (q := 117) (r := 132) (p_iload 5 dX1_same_115) (seq (p := 117) (q := 118) (r := 132) (p_bald dX1_same_117) (seq (p := 118) (q := 119) (r := 132) (p_aload_n 0 dX1_same_118) (seq (p := 119) (q := 122) (r := 132) (p_get [(1, 21)] (alL1 fl_X1_47_1) dX1_same_119) (seq (p := 122) (q := 124) (r := 132) (p_iload 6 dX1_same_122) (seq (p := 124) (q := 125) (r := 132) (p_bald dX1_same_124) (seq (p := 125) (q := 128) (r := 132) (p_icmp_ne 132 dX1_same_125 (by decide)) (seq (p := 128) (q := 129) (r := 132) (p_iconst 1 dX1_same_128) (seq (p := 129) (q := 132) (r := 132) (p_goto 133 dX1_same_129 (by decide)) done)))))))))))))))))))))) (seq (p := 132) (q := 133) (r := 133) (p_iconst 0 dX1_same_132) done))) (seq (p := 133) (q := 134) (r := 140) (p_istore_n 3 dX1_same_133 (Nat.le_of_ble_eq_true rfl)) (seq (p := 134) (q := 137) (r := 140) (p_iinc 4 1 dX1_same_134 (Nat.le_of_ble_eq_true rfl)) (seq (p := 137) (q := 137) (r := 140) (er [true, true, true, true, true, false, false]) (seq (p := 137) (q := 140) (r := 140) (p_goto 42 dX1_same_137 (by decide)) done))))))))))))))))))))))))))))))))
noncomputable def B_X1_same_L42 (l : Launch) (δ : Dl) : Seg (l, δ, yX1_same, 2, (some .int), cX1_same, 7) 42 140 := C_X1_same_L42 l δ
theorem L_X1_same_42 {l : Launch} {δ : Dl} {st : Stk} {L : Lc} {s : St} : (B_X1_same_L42 l δ).1 st L s = (C_X1_same_L42 l δ).1 st L s := nrfl rfl
noncomputable def B_X1_same (l : Launch) (δ : Dl) : Seg (l, δ, yX1_same, 2, (some .int), cX1_same, 7) 0 150 :=
  seq (p := 0) (q := 1) (r := 150) (p_aload_n 0 dX1_same_0) (seq (p := 1) (q := 2) (r := 150) (p_iload_n 1 dX1_same_1) (seq (p := 2) (q := 5) (r := 150) (p_callV 1 cv_X1_317 hcR1 (M_X1_noSentence l δ) (Nat.le_of_ble_eq_true rfl) dX1_same_2) (seq (p := 5) (q := 18) (r := 150) (blk (seq (p := 5) (q := 16) (r := 18) (blk (seq (p := 5) (q := 8) (r := 16) (p_if_ne 16 dX1_same_5 (by decide)) (seq (p := 8) (q := 9) (r := 16) (p_aload_n 0 dX1_same_8) (seq (p := 9) (q := 10) (r := 16) (p_iload_n 2 dX1_same_9) (seq (p := 10) (q := 13) (r := 16) (p_callV 1 cv_X1_317 hcR1 (M_X1_noSentence l δ) (Nat.le_of_ble_eq_true rfl) dX1_same_10) (seq (p := 13) (q := 16) (r := 16) (p_if_eq 18 dX1_same_13 (by decide)) done)))))) (seq (p := 16) (q := 17) (r := 18) (p_iconst (-1) dX1_same_16) (seq (p := 17) (q := 18) (r := 18) (p_ireturn dX1_same_17 rfl) done)))) (seq (p := 18) (q := 19) (r := 150) (p_aload_n 0 dX1_same_18) (seq (p := 19) (q := 22) (r := 150) (p_get [(1, 18)] (alL1 fl_X1_37_1) dX1_same_19) (seq (p := 22) (q := 23) (r := 150) (p_iload_n 1 dX1_same_22) (seq (p := 23) (q := 24) (r := 150) (p_iald dX1_same_23) (seq (p := 24) (q := 25) (r := 150) (p_aload_n 0 dX1_same_24) (seq (p := 25) (q := 28) (r := 150) (p_get [(1, 18)] (alL1 fl_X1_37_1) dX1_same_25) (seq (p := 28) (q := 29) (r := 150) (p_iload_n 2 dX1_same_28) (seq (p := 29) (q := 30) (r := 150) (p_iald dX1_same_29) (seq (p := 30) (q := 38) (r := 150) (blk (seq (p := 30) (q := 37) (r := 38) (blk (seq (p := 30) (q := 33) (r := 37) (p_icmp_ne 37 dX1_same_30 (by decide)) (seq (p := 33) (q := 34) (r := 37) (p_iconst 1 dX1_same_33) (seq (p := 34) (q := 37) (r := 37) (p_goto 38 dX1_same_34 (by decide)) done)))) (seq (p := 37) (q := 38) (r := 38) (p_iconst 0 dX1_same_37) done))) (seq (p := 38) (q := 39) (r := 150) (p_istore_n 3 dX1_same_38 (Nat.le_of_ble_eq_true rfl)) (seq (p := 39) (q := 40) (r := 150) (p_iconst 0 dX1_same_39) (seq (p := 40) (q := 42) (r := 150) (p_istore 4 dX1_same_40 (Nat.le_of_ble_eq_true rfl)) (seq (p := 42) (q := 140) (r := 150) (blk (seq (p := 42) (q := 42) (r := 140) (er [true, true, true, true, true, false, false]) (seq (p := 42) (q := 140) (r := 140) (lp (B_X1_same_L42 l δ)) done))) (seq (p := 140) (q := 141) (r := 150) (p_iload_n 3 dX1_same_140) (seq (p := 141) (q := 149) (r := 150) (blk (seq (p := 141) (q := 148) (r := 149) (blk (seq (p := 141) (q := 144) (r := 148) (p_if_eq 148 dX1_same_141 (by decide)) (seq (p := 144) (q := 145) (r := 148) (p_iconst 1 dX1_same_144) (seq (p := 145) (q := 148) (r := 148) (p_goto 149 dX1_same_145 (by decide)) done)))) (seq (p := 148) (q := 149) (r := 149) (p_iconst 0 dX1_same_148) done))) (seq (p := 149) (q := 150) (r := 150) (p_ireturn dX1_same_149 rfl) done)))))))))))))))))))
noncomputable def M_X1_same (l : Launch) (δ : Dl) : Mth l δ yX1_same cX1_same 7 (some .int) 2 := mk (B_X1_same l δ) (by decide)
theorem N_X1_same {l : Launch} {δ : Dl} {o : Nat} {a1 : Int} {a2 : Int} {s : St} : (M_X1_same l δ).1 [.inr (.inr (some o)), .inl a1, .inl a2] s = bres ((B_X1_same l δ).1 [] [some (.inr (.inr (some o))), some (.inl a1), some (.inl a2), none, none, none, none] s) := (mk_eq (hy := by decide) rfl).trans (nrfl rfl)
theorem dX1_isAtom_0 : decode cX1_isAtom 0 = .ok (.aload_n 0, 1) := by decide +kernel
theorem dX1_isAtom_1 : decode cX1_isAtom 1 = .ok (.getfield 40, 3) := by decide +kernel
theorem dX1_isAtom_4 : decode cX1_isAtom 4 = .ok (.iload_n 2, 1) := by decide +kernel
theorem dX1_isAtom_5 : decode cX1_isAtom 5 = .ok (.baload, 1) := by decide +kernel
theorem dX1_isAtom_6 : decode cX1_isAtom 6 = .ok (.bipush 10, 2) := by decide +kernel
theorem dX1_isAtom_8 : decode cX1_isAtom 8 = .ok (.if_icmp .ge 17, 3) := by decide +kernel
theorem dX1_isAtom_11 : decode cX1_isAtom 11 = .ok (.aload_n 0, 1) := by decide +kernel
theorem dX1_isAtom_12 : decode cX1_isAtom 12 = .ok (.getfield 89, 3) := by decide +kernel
theorem dX1_isAtom_15 : decode cX1_isAtom 15 = .ok (.aload_n 0, 1) := by decide +kernel
theorem dX1_isAtom_16 : decode cX1_isAtom 16 = .ok (.getfield 44, 3) := by decide +kernel
theorem dX1_isAtom_19 : decode cX1_isAtom 19 = .ok (.iload_n 2, 1) := by decide +kernel
theorem dX1_isAtom_20 : decode cX1_isAtom 20 = .ok (.iaload, 1) := by decide +kernel
theorem dX1_isAtom_21 : decode cX1_isAtom 21 = .ok (.iaload, 1) := by decide +kernel
theorem dX1_isAtom_22 : decode cX1_isAtom 22 = .ok (.goto 4, 3) := by decide +kernel
theorem dX1_isAtom_25 : decode cX1_isAtom 25 = .ok (.iconst 0, 1) := by decide +kernel
theorem dX1_isAtom_26 : decode cX1_isAtom 26 = .ok (.istore_n 3, 1) := by decide +kernel
theorem dX1_isAtom_27 : decode cX1_isAtom 27 = .ok (.aload_n 0, 1) := by decide +kernel
theorem dX1_isAtom_28 : decode cX1_isAtom 28 = .ok (.getfield 40, 3) := by decide +kernel
theorem dX1_isAtom_31 : decode cX1_isAtom 31 = .ok (.iload_n 2, 1) := by decide +kernel
theorem dX1_isAtom_32 : decode cX1_isAtom 32 = .ok (.baload, 1) := by decide +kernel
theorem dX1_isAtom_33 : decode cX1_isAtom 33 = .ok (.tableswitch 116 6 9 #[31, 54, 77, 95], 31) := by decide +kernel
theorem dX1_isAtom_64 : decode cX1_isAtom 64 = .ok (.aload_n 0, 1) := by decide +kernel
theorem dX1_isAtom_65 : decode cX1_isAtom 65 = .ok (.getfield 13, 3) := by decide +kernel
theorem dX1_isAtom_68 : decode cX1_isAtom 68 = .ok (.bipush 6, 2) := by decide +kernel
theorem dX1_isAtom_70 : decode cX1_isAtom 70 = .ok (.iload_n 1, 1) := by decide +kernel
theorem dX1_isAtom_71 : decode cX1_isAtom 71 = .ok (.imul, 1) := by decide +kernel
theorem dX1_isAtom_72 : decode cX1_isAtom 72 = .ok (.iload_n 3, 1) := by decide +kernel
theorem dX1_isAtom_73 : decode cX1_isAtom 73 = .ok (.iadd, 1) := by decide +kernel
theorem dX1_isAtom_74 : decode cX1_isAtom 74 = .ok (.iaload, 1) := by decide +kernel
theorem dX1_isAtom_75 : decode cX1_isAtom 75 = .ok (.iconst 1, 1) := by decide +kernel
theorem dX1_isAtom_76 : decode cX1_isAtom 76 = .ok (.iand, 1) := by decide +kernel
theorem dX1_isAtom_77 : decode cX1_isAtom 77 = .ok (.iconst 1, 1) := by decide +kernel
theorem dX1_isAtom_78 : decode cX1_isAtom 78 = .ok (.if_icmp .ne 7, 3) := by decide +kernel
theorem dX1_isAtom_81 : decode cX1_isAtom 81 = .ok (.iconst 1, 1) := by decide +kernel
theorem dX1_isAtom_82 : decode cX1_isAtom 82 = .ok (.goto 4, 3) := by decide +kernel
theorem dX1_isAtom_85 : decode cX1_isAtom 85 = .ok (.iconst 0, 1) := by decide +kernel
theorem dX1_isAtom_86 : decode cX1_isAtom 86 = .ok (.ireturn, 1) := by decide +kernel
theorem dX1_isAtom_87 : decode cX1_isAtom 87 = .ok (.aload_n 0, 1) := by decide +kernel
theorem dX1_isAtom_88 : decode cX1_isAtom 88 = .ok (.getfield 13, 3) := by decide +kernel
theorem dX1_isAtom_91 : decode cX1_isAtom 91 = .ok (.bipush 6, 2) := by decide +kernel
theorem dX1_isAtom_93 : decode cX1_isAtom 93 = .ok (.iload_n 1, 1) := by decide +kernel
theorem dX1_isAtom_94 : decode cX1_isAtom 94 = .ok (.imul, 1) := by decide +kernel
theorem dX1_isAtom_95 : decode cX1_isAtom 95 = .ok (.iload_n 3, 1) := by decide +kernel
theorem dX1_isAtom_96 : decode cX1_isAtom 96 = .ok (.iadd, 1) := by decide +kernel
theorem dX1_isAtom_97 : decode cX1_isAtom 97 = .ok (.iaload, 1) := by decide +kernel
theorem dX1_isAtom_98 : decode cX1_isAtom 98 = .ok (.iconst 2, 1) := by decide +kernel
theorem dX1_isAtom_99 : decode cX1_isAtom 99 = .ok (.iand, 1) := by decide +kernel
theorem dX1_isAtom_100 : decode cX1_isAtom 100 = .ok (.iconst 2, 1) := by decide +kernel
theorem dX1_isAtom_101 : decode cX1_isAtom 101 = .ok (.if_icmp .ne 7, 3) := by decide +kernel
theorem dX1_isAtom_104 : decode cX1_isAtom 104 = .ok (.iconst 1, 1) := by decide +kernel
theorem dX1_isAtom_105 : decode cX1_isAtom 105 = .ok (.goto 4, 3) := by decide +kernel
theorem dX1_isAtom_108 : decode cX1_isAtom 108 = .ok (.iconst 0, 1) := by decide +kernel
theorem dX1_isAtom_109 : decode cX1_isAtom 109 = .ok (.ireturn, 1) := by decide +kernel
theorem dX1_isAtom_110 : decode cX1_isAtom 110 = .ok (.aload_n 0, 1) := by decide +kernel
theorem dX1_isAtom_111 : decode cX1_isAtom 111 = .ok (.iload_n 1, 1) := by decide +kernel
theorem dX1_isAtom_112 : decode cX1_isAtom 112 = .ok (.iload_n 3, 1) := by decide +kernel
theorem dX1_isAtom_113 : decode cX1_isAtom 113 = .ok (.aload_n 0, 1) := by decide +kernel
theorem dX1_isAtom_114 : decode cX1_isAtom 114 = .ok (.getfield 89, 3) := by decide +kernel
theorem dX1_isAtom_117 : decode cX1_isAtom 117 = .ok (.aload_n 0, 1) := by decide +kernel
theorem dX1_isAtom_118 : decode cX1_isAtom 118 = .ok (.getfield 47, 3) := by decide +kernel
theorem dX1_isAtom_121 : decode cX1_isAtom 121 = .ok (.iload_n 2, 1) := by decide +kernel
theorem dX1_isAtom_122 : decode cX1_isAtom 122 = .ok (.baload, 1) := by decide +kernel
theorem dX1_isAtom_123 : decode cX1_isAtom 123 = .ok (.iaload, 1) := by decide +kernel
theorem dX1_isAtom_124 : decode cX1_isAtom 124 = .ok (.invokevirtual 152, 3) := by decide +kernel
theorem dX1_isAtom_127 : decode cX1_isAtom 127 = .ok (.ireturn, 1) := by decide +kernel
theorem dX1_isAtom_128 : decode cX1_isAtom 128 = .ok (.iload_n 3, 1) := by decide +kernel
theorem dX1_isAtom_129 : decode cX1_isAtom 129 = .ok (.aload_n 0, 1) := by decide +kernel
theorem dX1_isAtom_130 : decode cX1_isAtom 130 = .ok (.getfield 89, 3) := by decide +kernel
theorem dX1_isAtom_133 : decode cX1_isAtom 133 = .ok (.aload_n 0, 1) := by decide +kernel
theorem dX1_isAtom_134 : decode cX1_isAtom 134 = .ok (.getfield 47, 3) := by decide +kernel
theorem dX1_isAtom_137 : decode cX1_isAtom 137 = .ok (.iload_n 2, 1) := by decide +kernel
theorem dX1_isAtom_138 : decode cX1_isAtom 138 = .ok (.baload, 1) := by decide +kernel
theorem dX1_isAtom_139 : decode cX1_isAtom 139 = .ok (.iaload, 1) := by decide +kernel
theorem dX1_isAtom_140 : decode cX1_isAtom 140 = .ok (.if_icmp .ne 7, 3) := by decide +kernel
theorem dX1_isAtom_143 : decode cX1_isAtom 143 = .ok (.iconst 1, 1) := by decide +kernel
theorem dX1_isAtom_144 : decode cX1_isAtom 144 = .ok (.goto 4, 3) := by decide +kernel
theorem dX1_isAtom_147 : decode cX1_isAtom 147 = .ok (.iconst 0, 1) := by decide +kernel
theorem dX1_isAtom_148 : decode cX1_isAtom 148 = .ok (.ireturn, 1) := by decide +kernel
theorem dX1_isAtom_149 : decode cX1_isAtom 149 = .ok (.aload_n 0, 1) := by decide +kernel
theorem dX1_isAtom_150 : decode cX1_isAtom 150 = .ok (.getfield 40, 3) := by decide +kernel
theorem dX1_isAtom_153 : decode cX1_isAtom 153 = .ok (.iload_n 2, 1) := by decide +kernel
theorem dX1_isAtom_154 : decode cX1_isAtom 154 = .ok (.baload, 1) := by decide +kernel
theorem dX1_isAtom_155 : decode cX1_isAtom 155 = .ok (.bipush 10, 2) := by decide +kernel
theorem dX1_isAtom_157 : decode cX1_isAtom 157 = .ok (.if_icmp .ne 7, 3) := by decide +kernel
theorem dX1_isAtom_160 : decode cX1_isAtom 160 = .ok (.iconst 1, 1) := by decide +kernel
theorem dX1_isAtom_161 : decode cX1_isAtom 161 = .ok (.goto 4, 3) := by decide +kernel
theorem dX1_isAtom_164 : decode cX1_isAtom 164 = .ok (.iconst 0, 1) := by decide +kernel
theorem dX1_isAtom_165 : decode cX1_isAtom 165 = .ok (.ireturn, 1) := by decide +kernel
noncomputable def B_X1_isAtom (l : Launch) (δ : Dl) : Seg (l, δ, yX1_isAtom, 1, (some .boolean), cX1_isAtom, 4) 0 166 :=
  seq (p := 0) (q := 1) (r := 166) (p_aload_n 0 dX1_isAtom_0) (seq (p := 1) (q := 4) (r := 166) (p_get [(1, 19)] (alL1 fl_X1_40_1) dX1_isAtom_1) (seq (p := 4) (q := 5) (r := 166) (p_iload_n 2 dX1_isAtom_4) (seq (p := 5) (q := 6) (r := 166) (p_bald dX1_isAtom_5) (seq (p := 6) (q := 8) (r := 166) (p_bipush 10 dX1_isAtom_6 (by decide)) (seq (p := 8) (q := 26) (r := 166) (blk (seq (p := 8) (q := 25) (r := 26) (blk (seq (p := 8) (q := 11) (r := 25) (p_icmp_ge 25 dX1_isAtom_8 (by decide)) (seq (p := 11) (q := 12) (r := 25) (p_aload_n 0 dX1_isAtom_11) (seq (p := 12) (q := 15) (r := 25) (p_get [(1, 46)] (alL1 fl_X1_89_1) dX1_isAtom_12) (seq (p := 15) (q := 16) (r := 25) (p_aload_n 0 dX1_isAtom_15) (seq (p := 16) (q := 19) (r := 25) (p_get [(1, 20)] (alL1 fl_X1_44_1) dX1_isAtom_16) (seq (p := 19) (q := 20) (r := 25) (p_iload_n 2 dX1_isAtom_19) (seq (p := 20) (q := 21) (r := 25) (p_iald dX1_isAtom_20) (seq (p := 21) (q := 22) (r := 25) (p_iald dX1_isAtom_21) (seq (p := 22) (q := 25) (r := 25) (p_goto 26 dX1_isAtom_22 (by decide)) done)))))))))) (seq (p := 25) (q := 26) (r := 26) (p_iconst 0 dX1_isAtom_25) done))) (seq (p := 26) (q := 27) (r := 166) (p_istore_n 3 dX1_isAtom_26 (Nat.le_of_ble_eq_true rfl)) (seq (p := 27) (q := 28) (r := 166) (p_aload_n 0 dX1_isAtom_27) (seq (p := 28) (q := 31) (r := 166) (p_get [(1, 19)] (alL1 fl_X1_40_1) dX1_isAtom_28) (seq (p := 31) (q := 32) (r := 166) (p_iload_n 2 dX1_isAtom_31) (seq (p := 32) (q := 33) (r := 166) (p_bald dX1_isAtom_32) (seq (p := 33) (q := 149) (r := 166) (blk (seq (p := 33) (q := 128) (r := 149) (blk (seq (p := 33) (q := 110) (r := 128) (blk (seq (p := 33) (q := 87) (r := 110) (blk (seq (p := 33) (q := 64) (r := 87) (blk (seq (p := 33) (q := 64) (r := 64) (p_table (len := 31) dX1_isAtom_33 (by decide)) done)) (seq (p := 64) (q := 65) (r := 87) (p_aload_n 0 dX1_isAtom_64) (seq (p := 65) (q := 68) (r := 87) (p_get [(1, 1)] (alL1 fl_X1_13_1) dX1_isAtom_65) (seq (p := 68) (q := 70) (r := 87) (p_bipush 6 dX1_isAtom_68 (by decide)) (seq (p := 70) (q := 71) (r := 87) (p_iload_n 1 dX1_isAtom_70) (seq (p := 71) (q := 72) (r := 87) (p_imul dX1_isAtom_71) (seq (p := 72) (q := 73) (r := 87) (p_iload_n 3 dX1_isAtom_72) (seq (p := 73) (q := 74) (r := 87) (p_iadd dX1_isAtom_73) (seq (p := 74) (q := 75) (r := 87) (p_iald dX1_isAtom_74) (seq (p := 75) (q := 76) (r := 87) (p_iconst 1 dX1_isAtom_75) (seq (p := 76) (q := 77) (r := 87) (p_iand dX1_isAtom_76) (seq (p := 77) (q := 78) (r := 87) (p_iconst 1 dX1_isAtom_77) (seq (p := 78) (q := 86) (r := 87) (blk (seq (p := 78) (q := 85) (r := 86) (blk (seq (p := 78) (q := 81) (r := 85) (p_icmp_ne 85 dX1_isAtom_78 (by decide)) (seq (p := 81) (q := 82) (r := 85) (p_iconst 1 dX1_isAtom_81) (seq (p := 82) (q := 85) (r := 85) (p_goto 86 dX1_isAtom_82 (by decide)) done)))) (seq (p := 85) (q := 86) (r := 86) (p_iconst 0 dX1_isAtom_85) done))) (seq (p := 86) (q := 87) (r := 87) (p_zreturn dX1_isAtom_86 rfl) done))))))))))))))) (seq (p := 87) (q := 88) (r := 110) (p_aload_n 0 dX1_isAtom_87) (seq (p := 88) (q := 91) (r := 110) (p_get [(1, 1)] (alL1 fl_X1_13_1) dX1_isAtom_88) (seq (p := 91) (q := 93) (r := 110) (p_bipush 6 dX1_isAtom_91 (by decide)) (seq (p := 93) (q := 94) (r := 110) (p_iload_n 1 dX1_isAtom_93) (seq (p := 94) (q := 95) (r := 110) (p_imul dX1_isAtom_94) (seq (p := 95) (q := 96) (r := 110) (p_iload_n 3 dX1_isAtom_95) (seq (p := 96) (q := 97) (r := 110) (p_iadd dX1_isAtom_96) (seq (p := 97) (q := 98) (r := 110) (p_iald dX1_isAtom_97) (seq (p := 98) (q := 99) (r := 110) (p_iconst 2 dX1_isAtom_98) (seq (p := 99) (q := 100) (r := 110) (p_iand dX1_isAtom_99) (seq (p := 100) (q := 101) (r := 110) (p_iconst 2 dX1_isAtom_100) (seq (p := 101) (q := 109) (r := 110) (blk (seq (p := 101) (q := 108) (r := 109) (blk (seq (p := 101) (q := 104) (r := 108) (p_icmp_ne 108 dX1_isAtom_101 (by decide)) (seq (p := 104) (q := 105) (r := 108) (p_iconst 1 dX1_isAtom_104) (seq (p := 105) (q := 108) (r := 108) (p_goto 109 dX1_isAtom_105 (by decide)) done)))) (seq (p := 108) (q := 109) (r := 109) (p_iconst 0 dX1_isAtom_108) done))) (seq (p := 109) (q := 110) (r := 110) (p_zreturn dX1_isAtom_109 rfl) done))))))))))))))) (seq (p := 110) (q := 111) (r := 128) (p_aload_n 0 dX1_isAtom_110) (seq (p := 111) (q := 112) (r := 128) (p_iload_n 1 dX1_isAtom_111) (seq (p := 112) (q := 113) (r := 128) (p_iload_n 3 dX1_isAtom_112) (seq (p := 113) (q := 114) (r := 128) (p_aload_n 0 dX1_isAtom_113) (seq (p := 114) (q := 117) (r := 128) (p_get [(1, 46)] (alL1 fl_X1_89_1) dX1_isAtom_114) (seq (p := 117) (q := 118) (r := 128) (p_aload_n 0 dX1_isAtom_117) (seq (p := 118) (q := 121) (r := 128) (p_get [(1, 21)] (alL1 fl_X1_47_1) dX1_isAtom_118) (seq (p := 121) (q := 122) (r := 128) (p_iload_n 2 dX1_isAtom_121) (seq (p := 122) (q := 123) (r := 128) (p_bald dX1_isAtom_122) (seq (p := 123) (q := 124) (r := 128) (p_iald dX1_isAtom_123) (seq (p := 124) (q := 127) (r := 128) (p_callV 1 cv_X1_152 hcR1 (M_X1_isTied l δ) (Nat.le_of_ble_eq_true rfl) dX1_isAtom_124) (seq (p := 127) (q := 128) (r := 128) (p_zreturn dX1_isAtom_127 rfl) done)))))))))))))) (seq (p := 128) (q := 129) (r := 149) (p_iload_n 3 dX1_isAtom_128) (seq (p := 129) (q := 130) (r := 149) (p_aload_n 0 dX1_isAtom_129) (seq (p := 130) (q := 133) (r := 149) (p_get [(1, 46)] (alL1 fl_X1_89_1) dX1_isAtom_130) (seq (p := 133) (q := 134) (r := 149) (p_aload_n 0 dX1_isAtom_133) (seq (p := 134) (q := 137) (r := 149) (p_get [(1, 21)] (alL1 fl_X1_47_1) dX1_isAtom_134) (seq (p := 137) (q := 138) (r := 149) (p_iload_n 2 dX1_isAtom_137) (seq (p := 138) (q := 139) (r := 149) (p_bald dX1_isAtom_138) (seq (p := 139) (q := 140) (r := 149) (p_iald dX1_isAtom_139) (seq (p := 140) (q := 148) (r := 149) (blk (seq (p := 140) (q := 147) (r := 148) (blk (seq (p := 140) (q := 143) (r := 147) (p_icmp_ne 147 dX1_isAtom_140 (by decide)) (seq (p := 143) (q := 144) (r := 147) (p_iconst 1 dX1_isAtom_143) (seq (p := 144) (q := 147) (r := 147) (p_goto 148 dX1_isAtom_144 (by decide)) done)))) (seq (p := 147) (q := 148) (r := 148) (p_iconst 0 dX1_isAtom_147) done))) (seq (p := 148) (q := 149) (r := 149) (p_zreturn dX1_isAtom_148 rfl) done)))))))))))) (seq (p := 149) (q := 150) (r := 166) (p_aload_n 0 dX1_isAtom_149) (seq (p := 150) (q := 153) (r := 166) (p_get [(1, 19)] (alL1 fl_X1_40_1) dX1_isAtom_150) (seq (p := 153) (q := 154) (r := 166) (p_iload_n 2 dX1_isAtom_153) (seq (p := 154) (q := 155) (r := 166) (p_bald dX1_isAtom_154) (seq (p := 155) (q := 157) (r := 166) (p_bipush 10 dX1_isAtom_155 (by decide)) (seq (p := 157) (q := 165) (r := 166) (blk (seq (p := 157) (q := 164) (r := 165) (blk (seq (p := 157) (q := 160) (r := 164) (p_icmp_ne 164 dX1_isAtom_157 (by decide)) (seq (p := 160) (q := 161) (r := 164) (p_iconst 1 dX1_isAtom_160) (seq (p := 161) (q := 164) (r := 164) (p_goto 165 dX1_isAtom_161 (by decide)) done)))) (seq (p := 164) (q := 165) (r := 165) (p_iconst 0 dX1_isAtom_164) done))) (seq (p := 165) (q := 166) (r := 166) (p_zreturn dX1_isAtom_165 rfl) done))))))))))))))))))
noncomputable def M_X1_isAtom (l : Launch) (δ : Dl) : Mth l δ yX1_isAtom cX1_isAtom 4 (some .boolean) 1 := mk (B_X1_isAtom l δ) (by decide)
theorem N_X1_isAtom {l : Launch} {δ : Dl} {o : Nat} {a1 : Int} {a2 : Int} {s : St} : (M_X1_isAtom l δ).1 [.inr (.inr (some o)), .inl a1, .inl a2] s = bres ((B_X1_isAtom l δ).1 [] [some (.inr (.inr (some o))), some (.inl a1), some (.inl a2), none] s) := (mk_eq (hy := by decide) rfl).trans (nrfl rfl)
theorem dX1_nextAsked_0 : decode cX1_nextAsked 0 = .ok (.sipush 600, 3) := by decide +kernel
theorem dX1_nextAsked_3 : decode cX1_nextAsked 3 = .ok (.iload_n 1, 1) := by decide +kernel
theorem dX1_nextAsked_4 : decode cX1_nextAsked 4 = .ok (.imul, 1) := by decide +kernel
theorem dX1_nextAsked_5 : decode cX1_nextAsked 5 = .ok (.istore 4, 2) := by decide +kernel
theorem dX1_nextAsked_7 : decode cX1_nextAsked 7 = .ok (.iload_n 3, 1) := by decide +kernel
theorem dX1_nextAsked_8 : decode cX1_nextAsked 8 = .ok (.istore 5, 2) := by decide +kernel
theorem dX1_nextAsked_10 : decode cX1_nextAsked 10 = .ok (.aload_n 0, 1) := by decide +kernel
theorem dX1_nextAsked_11 : decode cX1_nextAsked 11 = .ok (.getfield 308, 3) := by decide +kernel
theorem dX1_nextAsked_14 : decode cX1_nextAsked 14 = .ok (.ifCond .le 249, 3) := by decide +kernel
theorem dX1_nextAsked_17 : decode cX1_nextAsked 17 = .ok (.aload_n 0, 1) := by decide +kernel
theorem dX1_nextAsked_18 : decode cX1_nextAsked 18 = .ok (.getfield 77, 3) := by decide +kernel
theorem dX1_nextAsked_21 : decode cX1_nextAsked 21 = .ok (.aload_n 0, 1) := by decide +kernel
theorem dX1_nextAsked_22 : decode cX1_nextAsked 22 = .ok (.getfield 308, 3) := by decide +kernel
theorem dX1_nextAsked_25 : decode cX1_nextAsked 25 = .ok (.iconst 1, 1) := by decide +kernel
theorem dX1_nextAsked_26 : decode cX1_nextAsked 26 = .ok (.isub, 1) := by decide +kernel
theorem dX1_nextAsked_27 : decode cX1_nextAsked 27 = .ok (.iaload, 1) := by decide +kernel
theorem dX1_nextAsked_28 : decode cX1_nextAsked 28 = .ok (.istore 6, 2) := by decide +kernel
theorem dX1_nextAsked_30 : decode cX1_nextAsked 30 = .ok (.iload 4, 2) := by decide +kernel
theorem dX1_nextAsked_32 : decode cX1_nextAsked 32 = .ok (.iload 6, 2) := by decide +kernel
theorem dX1_nextAsked_34 : decode cX1_nextAsked 34 = .ok (.iadd, 1) := by decide +kernel
theorem dX1_nextAsked_35 : decode cX1_nextAsked 35 = .ok (.istore 7, 2) := by decide +kernel
theorem dX1_nextAsked_37 : decode cX1_nextAsked 37 = .ok (.aload_n 0, 1) := by decide +kernel
theorem dX1_nextAsked_38 : decode cX1_nextAsked 38 = .ok (.getfield 40, 3) := by decide +kernel
theorem dX1_nextAsked_41 : decode cX1_nextAsked 41 = .ok (.iload 7, 2) := by decide +kernel
theorem dX1_nextAsked_43 : decode cX1_nextAsked 43 = .ok (.baload, 1) := by decide +kernel
theorem dX1_nextAsked_44 : decode cX1_nextAsked 44 = .ok (.iconst 1, 1) := by decide +kernel
theorem dX1_nextAsked_45 : decode cX1_nextAsked 45 = .ok (.if_icmp .ne 18, 3) := by decide +kernel
theorem dX1_nextAsked_48 : decode cX1_nextAsked 48 = .ok (.iload 5, 2) := by decide +kernel
theorem dX1_nextAsked_50 : decode cX1_nextAsked 50 = .ok (.ifCond .ne 7, 3) := by decide +kernel
theorem dX1_nextAsked_53 : decode cX1_nextAsked 53 = .ok (.iconst 1, 1) := by decide +kernel
theorem dX1_nextAsked_54 : decode cX1_nextAsked 54 = .ok (.goto 4, 3) := by decide +kernel
theorem dX1_nextAsked_57 : decode cX1_nextAsked 57 = .ok (.iconst 0, 1) := by decide +kernel
theorem dX1_nextAsked_58 : decode cX1_nextAsked 58 = .ok (.istore 5, 2) := by decide +kernel
theorem dX1_nextAsked_60 : decode cX1_nextAsked 60 = .ok (.goto 190, 3) := by decide +kernel
theorem dX1_nextAsked_63 : decode cX1_nextAsked 63 = .ok (.aload_n 0, 1) := by decide +kernel
theorem dX1_nextAsked_64 : decode cX1_nextAsked 64 = .ok (.getfield 40, 3) := by decide +kernel
theorem dX1_nextAsked_67 : decode cX1_nextAsked 67 = .ok (.iload 7, 2) := by decide +kernel
theorem dX1_nextAsked_69 : decode cX1_nextAsked 69 = .ok (.baload, 1) := by decide +kernel
theorem dX1_nextAsked_70 : decode cX1_nextAsked 70 = .ok (.iconst 4, 1) := by decide +kernel
theorem dX1_nextAsked_71 : decode cX1_nextAsked 71 = .ok (.if_icmp .eq 14, 3) := by decide +kernel
theorem dX1_nextAsked_74 : decode cX1_nextAsked 74 = .ok (.aload_n 0, 1) := by decide +kernel
theorem dX1_nextAsked_75 : decode cX1_nextAsked 75 = .ok (.getfield 40, 3) := by decide +kernel
theorem dX1_nextAsked_78 : decode cX1_nextAsked 78 = .ok (.iload 7, 2) := by decide +kernel
theorem dX1_nextAsked_80 : decode cX1_nextAsked 80 = .ok (.baload, 1) := by decide +kernel
theorem dX1_nextAsked_81 : decode cX1_nextAsked 81 = .ok (.iconst 5, 1) := by decide +kernel
theorem dX1_nextAsked_82 : decode cX1_nextAsked 82 = .ok (.if_icmp .ne 82, 3) := by decide +kernel
theorem dX1_nextAsked_85 : decode cX1_nextAsked 85 = .ok (.iload 5, 2) := by decide +kernel
theorem dX1_nextAsked_87 : decode cX1_nextAsked 87 = .ok (.aload_n 0, 1) := by decide +kernel
theorem dX1_nextAsked_88 : decode cX1_nextAsked 88 = .ok (.getfield 40, 3) := by decide +kernel
theorem dX1_nextAsked_91 : decode cX1_nextAsked 91 = .ok (.iload 7, 2) := by decide +kernel
theorem dX1_nextAsked_93 : decode cX1_nextAsked 93 = .ok (.baload, 1) := by decide +kernel
theorem dX1_nextAsked_94 : decode cX1_nextAsked 94 = .ok (.iconst 4, 1) := by decide +kernel
theorem dX1_nextAsked_95 : decode cX1_nextAsked 95 = .ok (.if_icmp .ne 7, 3) := by decide +kernel
theorem dX1_nextAsked_98 : decode cX1_nextAsked 98 = .ok (.iconst 1, 1) := by decide +kernel
theorem dX1_nextAsked_99 : decode cX1_nextAsked 99 = .ok (.goto 4, 3) := by decide +kernel
theorem dX1_nextAsked_102 : decode cX1_nextAsked 102 = .ok (.iconst 0, 1) := by decide +kernel
theorem dX1_nextAsked_103 : decode cX1_nextAsked 103 = .ok (.if_icmp .ne 147, 3) := by decide +kernel
theorem dX1_nextAsked_106 : decode cX1_nextAsked 106 = .ok (.aload_n 0, 1) := by decide +kernel
theorem dX1_nextAsked_107 : decode cX1_nextAsked 107 = .ok (.getfield 83, 3) := by decide +kernel
theorem dX1_nextAsked_110 : decode cX1_nextAsked 110 = .ok (.aload_n 0, 1) := by decide +kernel
theorem dX1_nextAsked_111 : decode cX1_nextAsked 111 = .ok (.getfield 308, 3) := by decide +kernel
theorem dX1_nextAsked_114 : decode cX1_nextAsked 114 = .ok (.iconst 1, 1) := by decide +kernel
theorem dX1_nextAsked_115 : decode cX1_nextAsked 115 = .ok (.isub, 1) := by decide +kernel
theorem dX1_nextAsked_116 : decode cX1_nextAsked 116 = .ok (.iaload, 1) := by decide +kernel
theorem dX1_nextAsked_117 : decode cX1_nextAsked 117 = .ok (.aload_n 0, 1) := by decide +kernel
theorem dX1_nextAsked_118 : decode cX1_nextAsked 118 = .ok (.getfield 50, 3) := by decide +kernel
theorem dX1_nextAsked_121 : decode cX1_nextAsked 121 = .ok (.iload 7, 2) := by decide +kernel
theorem dX1_nextAsked_123 : decode cX1_nextAsked 123 = .ok (.iaload, 1) := by decide +kernel
theorem dX1_nextAsked_124 : decode cX1_nextAsked 124 = .ok (.if_icmp .ge 126, 3) := by decide +kernel
theorem dX1_nextAsked_127 : decode cX1_nextAsked 127 = .ok (.aload_n 0, 1) := by decide +kernel
theorem dX1_nextAsked_128 : decode cX1_nextAsked 128 = .ok (.getfield 83, 3) := by decide +kernel
theorem dX1_nextAsked_131 : decode cX1_nextAsked 131 = .ok (.aload_n 0, 1) := by decide +kernel
theorem dX1_nextAsked_132 : decode cX1_nextAsked 132 = .ok (.getfield 308, 3) := by decide +kernel
theorem dX1_nextAsked_135 : decode cX1_nextAsked 135 = .ok (.iconst 1, 1) := by decide +kernel
theorem dX1_nextAsked_136 : decode cX1_nextAsked 136 = .ok (.isub, 1) := by decide +kernel
theorem dX1_nextAsked_137 : decode cX1_nextAsked 137 = .ok (.iaload, 1) := by decide +kernel
theorem dX1_nextAsked_138 : decode cX1_nextAsked 138 = .ok (.istore 8, 2) := by decide +kernel
theorem dX1_nextAsked_140 : decode cX1_nextAsked 140 = .ok (.aload_n 0, 1) := by decide +kernel
theorem dX1_nextAsked_141 : decode cX1_nextAsked 141 = .ok (.getfield 83, 3) := by decide +kernel
theorem dX1_nextAsked_144 : decode cX1_nextAsked 144 = .ok (.aload_n 0, 1) := by decide +kernel
theorem dX1_nextAsked_145 : decode cX1_nextAsked 145 = .ok (.getfield 308, 3) := by decide +kernel
theorem dX1_nextAsked_148 : decode cX1_nextAsked 148 = .ok (.iconst 1, 1) := by decide +kernel
theorem dX1_nextAsked_149 : decode cX1_nextAsked 149 = .ok (.isub, 1) := by decide +kernel
theorem dX1_nextAsked_150 : decode cX1_nextAsked 150 = .ok (.aload_n 0, 1) := by decide +kernel
theorem dX1_nextAsked_151 : decode cX1_nextAsked 151 = .ok (.getfield 50, 3) := by decide +kernel
theorem dX1_nextAsked_154 : decode cX1_nextAsked 154 = .ok (.iload 4, 2) := by decide +kernel
theorem dX1_nextAsked_156 : decode cX1_nextAsked 156 = .ok (.iload 8, 2) := by decide +kernel
theorem dX1_nextAsked_158 : decode cX1_nextAsked 158 = .ok (.iadd, 1) := by decide +kernel
theorem dX1_nextAsked_159 : decode cX1_nextAsked 159 = .ok (.iaload, 1) := by decide +kernel
theorem dX1_nextAsked_160 : decode cX1_nextAsked 160 = .ok (.iastore, 1) := by decide +kernel
theorem dX1_nextAsked_161 : decode cX1_nextAsked 161 = .ok (.iload 8, 2) := by decide +kernel
theorem dX1_nextAsked_163 : decode cX1_nextAsked 163 = .ok (.ireturn, 1) := by decide +kernel
theorem dX1_nextAsked_164 : decode cX1_nextAsked 164 = .ok (.iload 5, 2) := by decide +kernel
theorem dX1_nextAsked_166 : decode cX1_nextAsked 166 = .ok (.aload_n 0, 1) := by decide +kernel
theorem dX1_nextAsked_167 : decode cX1_nextAsked 167 = .ok (.getfield 40, 3) := by decide +kernel
theorem dX1_nextAsked_170 : decode cX1_nextAsked 170 = .ok (.iload 7, 2) := by decide +kernel
theorem dX1_nextAsked_172 : decode cX1_nextAsked 172 = .ok (.baload, 1) := by decide +kernel
theorem dX1_nextAsked_173 : decode cX1_nextAsked 173 = .ok (.iconst 2, 1) := by decide +kernel
theorem dX1_nextAsked_174 : decode cX1_nextAsked 174 = .ok (.if_icmp .ne 7, 3) := by decide +kernel
theorem dX1_nextAsked_177 : decode cX1_nextAsked 177 = .ok (.iconst 1, 1) := by decide +kernel
theorem dX1_nextAsked_178 : decode cX1_nextAsked 178 = .ok (.goto 4, 3) := by decide +kernel
theorem dX1_nextAsked_181 : decode cX1_nextAsked 181 = .ok (.iconst 0, 1) := by decide +kernel
theorem dX1_nextAsked_182 : decode cX1_nextAsked 182 = .ok (.if_icmp .ne 68, 3) := by decide +kernel
theorem dX1_nextAsked_185 : decode cX1_nextAsked 185 = .ok (.aload_n 0, 1) := by decide +kernel
theorem dX1_nextAsked_186 : decode cX1_nextAsked 186 = .ok (.getfield 80, 3) := by decide +kernel
theorem dX1_nextAsked_189 : decode cX1_nextAsked 189 = .ok (.aload_n 0, 1) := by decide +kernel
theorem dX1_nextAsked_190 : decode cX1_nextAsked 190 = .ok (.getfield 308, 3) := by decide +kernel
theorem dX1_nextAsked_193 : decode cX1_nextAsked 193 = .ok (.iconst 1, 1) := by decide +kernel
theorem dX1_nextAsked_194 : decode cX1_nextAsked 194 = .ok (.isub, 1) := by decide +kernel
theorem dX1_nextAsked_195 : decode cX1_nextAsked 195 = .ok (.iaload, 1) := by decide +kernel
theorem dX1_nextAsked_196 : decode cX1_nextAsked 196 = .ok (.iconst 1, 1) := by decide +kernel
theorem dX1_nextAsked_197 : decode cX1_nextAsked 197 = .ok (.iadd, 1) := by decide +kernel
theorem dX1_nextAsked_198 : decode cX1_nextAsked 198 = .ok (.aload_n 0, 1) := by decide +kernel
theorem dX1_nextAsked_199 : decode cX1_nextAsked 199 = .ok (.getfield 7, 3) := by decide +kernel
theorem dX1_nextAsked_202 : decode cX1_nextAsked 202 = .ok (.iload_n 2, 1) := by decide +kernel
theorem dX1_nextAsked_203 : decode cX1_nextAsked 203 = .ok (.iaload, 1) := by decide +kernel
theorem dX1_nextAsked_204 : decode cX1_nextAsked 204 = .ok (.if_icmp .ge 46, 3) := by decide +kernel
theorem dX1_nextAsked_207 : decode cX1_nextAsked 207 = .ok (.aload_n 0, 1) := by decide +kernel
theorem dX1_nextAsked_208 : decode cX1_nextAsked 208 = .ok (.getfield 80, 3) := by decide +kernel
theorem dX1_nextAsked_211 : decode cX1_nextAsked 211 = .ok (.aload_n 0, 1) := by decide +kernel
theorem dX1_nextAsked_212 : decode cX1_nextAsked 212 = .ok (.getfield 308, 3) := by decide +kernel
theorem dX1_nextAsked_215 : decode cX1_nextAsked 215 = .ok (.iconst 1, 1) := by decide +kernel
theorem dX1_nextAsked_216 : decode cX1_nextAsked 216 = .ok (.isub, 1) := by decide +kernel
theorem dX1_nextAsked_217 : decode cX1_nextAsked 217 = .ok (.dup2, 1) := by decide +kernel
theorem dX1_nextAsked_218 : decode cX1_nextAsked 218 = .ok (.iaload, 1) := by decide +kernel
theorem dX1_nextAsked_219 : decode cX1_nextAsked 219 = .ok (.iconst 1, 1) := by decide +kernel
theorem dX1_nextAsked_220 : decode cX1_nextAsked 220 = .ok (.iadd, 1) := by decide +kernel
theorem dX1_nextAsked_221 : decode cX1_nextAsked 221 = .ok (.iastore, 1) := by decide +kernel
theorem dX1_nextAsked_222 : decode cX1_nextAsked 222 = .ok (.aload_n 0, 1) := by decide +kernel
theorem dX1_nextAsked_223 : decode cX1_nextAsked 223 = .ok (.getfield 89, 3) := by decide +kernel
theorem dX1_nextAsked_226 : decode cX1_nextAsked 226 = .ok (.aload_n 0, 1) := by decide +kernel
theorem dX1_nextAsked_227 : decode cX1_nextAsked 227 = .ok (.getfield 44, 3) := by decide +kernel
theorem dX1_nextAsked_230 : decode cX1_nextAsked 230 = .ok (.iload 7, 2) := by decide +kernel
theorem dX1_nextAsked_232 : decode cX1_nextAsked 232 = .ok (.iaload, 1) := by decide +kernel
theorem dX1_nextAsked_233 : decode cX1_nextAsked 233 = .ok (.aload_n 0, 1) := by decide +kernel
theorem dX1_nextAsked_234 : decode cX1_nextAsked 234 = .ok (.getfield 80, 3) := by decide +kernel
theorem dX1_nextAsked_237 : decode cX1_nextAsked 237 = .ok (.aload_n 0, 1) := by decide +kernel
theorem dX1_nextAsked_238 : decode cX1_nextAsked 238 = .ok (.getfield 308, 3) := by decide +kernel
theorem dX1_nextAsked_241 : decode cX1_nextAsked 241 = .ok (.iconst 1, 1) := by decide +kernel
theorem dX1_nextAsked_242 : decode cX1_nextAsked 242 = .ok (.isub, 1) := by decide +kernel
theorem dX1_nextAsked_243 : decode cX1_nextAsked 243 = .ok (.iaload, 1) := by decide +kernel
theorem dX1_nextAsked_244 : decode cX1_nextAsked 244 = .ok (.iastore, 1) := by decide +kernel
theorem dX1_nextAsked_245 : decode cX1_nextAsked 245 = .ok (.iload 6, 2) := by decide +kernel
theorem dX1_nextAsked_247 : decode cX1_nextAsked 247 = .ok (.iconst 1, 1) := by decide +kernel
theorem dX1_nextAsked_248 : decode cX1_nextAsked 248 = .ok (.iadd, 1) := by decide +kernel
theorem dX1_nextAsked_249 : decode cX1_nextAsked 249 = .ok (.ireturn, 1) := by decide +kernel
theorem dX1_nextAsked_250 : decode cX1_nextAsked 250 = .ok (.aload_n 0, 1) := by decide +kernel
theorem dX1_nextAsked_251 : decode cX1_nextAsked 251 = .ok (.dup, 1) := by decide +kernel
theorem dX1_nextAsked_252 : decode cX1_nextAsked 252 = .ok (.getfield 308, 3) := by decide +kernel
theorem dX1_nextAsked_255 : decode cX1_nextAsked 255 = .ok (.iconst 1, 1) := by decide +kernel
theorem dX1_nextAsked_256 : decode cX1_nextAsked 256 = .ok (.isub, 1) := by decide +kernel
theorem dX1_nextAsked_257 : decode cX1_nextAsked 257 = .ok (.putfield 308, 3) := by decide +kernel
theorem dX1_nextAsked_260 : decode cX1_nextAsked 260 = .ok (.goto (-250), 3) := by decide +kernel
theorem dX1_nextAsked_263 : decode cX1_nextAsked 263 = .ok (.aload_n 0, 1) := by decide +kernel
theorem dX1_nextAsked_264 : decode cX1_nextAsked 264 = .ok (.iload 5, 2) := by decide +kernel
theorem dX1_nextAsked_266 : decode cX1_nextAsked 266 = .ok (.putfield 326, 3) := by decide +kernel
theorem dX1_nextAsked_269 : decode cX1_nextAsked 269 = .ok (.iconst (-1), 1) := by decide +kernel
theorem dX1_nextAsked_270 : decode cX1_nextAsked 270 = .ok (.ireturn, 1) := by decide +kernel
noncomputable def C_X1_nextAsked_L10 (l : Launch) (δ : Dl) : Seg (l, δ, yX1_nextAsked, 0, (some .int), cX1_nextAsked, 9) 10 263 :=
  seq (p := 10) (q := 11) (r := 263) (p_aload_n 0 dX1_nextAsked_10) (seq (p := 11) (q := 14) (r := 263) (p_get [(1, 38)] (alL1 fl_X1_308_1) dX1_nextAsked_11) (seq (p := 14) (q := 17) (r := 263) (p_if_le 263 dX1_nextAsked_14 (by decide)) (seq (p := 17) (q := 18) (r := 263) (p_aload_n 0 dX1_nextAsked_17) (seq (p := 18) (q := 21) (r := 263) (p_get [(1, 39)] (alL1 fl_X1_77_1) dX1_nextAsked_18) (seq (p := 21) (q := 22) (r := 263) (p_aload_n 0 dX1_nextAsked_21) (seq (p := 22) (q := 25) (r := 263) (p_get [(1, 38)] (alL1 fl_X1_308_1) dX1_nextAsked_22) (seq (p := 25) (q := 26) (r := 263) (p_iconst 1 dX1_nextAsked_25) (seq (p := 26) (q := 27) (r := 263) (p_isub dX1_nextAsked_26) (seq (p := 27) (q := 28) (r := 263) (p_iald dX1_nextAsked_27) (seq (p := 28) (q := 30) (r := 263) (p_istore 6 dX1_nextAsked_28 (Nat.le_of_ble_eq_true rfl)) (seq (p := 30) (q := 32) (r := 263) (p_iload 4 dX1_nextAsked_30) (seq (p := 32) (q := 34) (r := 263) (p_iload 6 dX1_nextAsked_32) (seq (p := 34) (q := 35) (r := 263) (p_iadd dX1_nextAsked_34) (seq (p := 35) (q := 37) (r := 263) (p_istore 7 dX1_nextAsked_35 (Nat.le_of_ble_eq_true rfl)) (seq (p := 37) (q := 38) (r := 263) (p_aload_n 0 dX1_nextAsked_37) (seq (p := 38) (q := 41) (r := 263) (p_get [(1, 19)] (alL1 fl_X1_40_1) dX1_nextAsked_38) (seq (p := 41) (q := 43) (r := 263) (p_iload 7 dX1_nextAsked_41) (seq (p := 43) (q := 44) (r := 263) (p_bald dX1_nextAsked_43) (seq (p := 44) (q := 45) (r := 263) (p_iconst 1 dX1_nextAsked_44) (seq (p := 45) (q := 250) (r := 263) (blk (seq (p := 45) (q := 63) (r := 250) (blk (seq (p := 45) (q := 48) (r := 63) (p_icmp_ne 63 dX1_nextAsked_45 (by decide)) (seq (p := 48) (q := 50) (r := 63) (p_iload 5 dX1_nextAsked_48) (seq (p := 50) (q := 58) (r := 63) (blk (seq (p := 50) (q := 57) (r := 58) (blk (seq (p := 50) (q := 53) (r := 57) (p_if_ne 57 dX1_nextAsked_50 (by decide)) (seq (p := 53) (q := 54) (r := 57) (p_iconst 1 dX1_nextAsked_53) (seq (p := 54) (q := 57) (r := 57) (p_goto 58 dX1_nextAsked_54 (by decide)) done)))) (seq (p := 57) (q := 58) (r := 58) (p_iconst 0 dX1_nextAsked_57) done))) (seq (p := 58) (q := 60) (r := 63) (p_istore 5 dX1_nextAsked_58 (Nat.le_of_ble_eq_true rfl)) (seq (p := 60) (q := 63) (r := 63) (p_goto 250 dX1_nextAsked_60 (by decide)) done)))))) (seq (p := 63) (q := 64) (r := 250) (p_aload_n 0 dX1_nextAsked_63) (seq (p := 64) (q := 67) (r := 250) (p_get [(1, 19)] (alL1 fl_X1_40_1) dX1_nextAsked_64) (seq (p := 67) (q := 69) (r := 250) (p_iload 7 dX1_nextAsked_67) (seq (p := 69) (q := 70) (r := 250) (p_bald dX1_nextAsked_69) (seq (p := 70) (q := 71) (r := 250) (p_iconst 4 dX1_nextAsked_70) (seq (p := 71) (q := 164) (r := 250) (blk (seq (p := 71) (q := 85) (r := 164) (blk (seq (p := 71) (q := 74) (r := 85) (p_icmp_eq 85 dX1_nextAsked_71 (by decide)) (seq (p := 74) (q := 75) (r := 85) (p_aload_n 0 dX1_nextAsked_74) (seq (p := 75) (q := 78) (r := 85) (p_get [(1, 19)] (alL1 fl_X1_40_1) dX1_nextAsked_75) (seq (p := 78) (q := 80) (r := 85) (p_iload 7 dX1_nextAsked_78) (seq (p := 80) (q := 81) (r := 85) (p_bald dX1_nextAsked_80) (seq (p := 81) (q := 82) (r := 85) (p_iconst 5 dX1_nextAsked_81) (seq (p := 82) (q := 85) (r := 85) (p_icmp_ne 164 dX1_nextAsked_82 (by decide)) done)))))))) (seq (p := 85) (q := 87) (r := 164) (p_iload 5 dX1_nextAsked_85) (seq (p := 87) (q := 88) (r := 164) (p_aload_n 0 dX1_nextAsked_87) (seq (p := 88) (q := 91) (r := 164) (p_get [(1, 19)] (alL1 fl_X1_40_1) dX1_nextAsked_88) (seq (p := 91) (q := 93) (r := 164) (p_iload 7 dX1_nextAsked_91) (seq (p := 93) (q := 94) (r := 164) (p_bald dX1_nextAsked_93) (seq (p := 94) (q := 95) (r := 164) (p_iconst 4 dX1_nextAsked_94) (seq (p := 95) (q := 103) (r := 164) (blk (seq (p := 95) (q := 102) (r := 103) (blk (seq (p := 95) (q := 98) (r := 102) (p_icmp_ne 102 dX1_nextAsked_95 (by decide)) (seq (p := 98) (q := 99) (r := 102) (p_iconst 1 dX1_nextAsked_98) (seq (p := 99) (q := 102) (r := 102) (p_goto 103 dX1_nextAsked_99 (by decide)) done)))) (seq (p := 102) (q := 103) (r := 103) (p_iconst 0 dX1_nextAsked_102) done))) (seq (p := 103) (q := 106) (r := 164) (p_icmp_ne 250 dX1_nextAsked_103 (by decide)) (seq (p := 106) (q := 107) (r := 164) (p_aload_n 0 dX1_nextAsked_106) (seq (p := 107) (q := 110) (r := 164) (p_get [(1, 41)] (alL1 fl_X1_83_1) dX1_nextAsked_107) (seq (p := 110) (q := 111) (r := 164) (p_aload_n 0 dX1_nextAsked_110) (seq (p := 111) (q := 114) (r := 164) (p_get [(1, 38)] (alL1 fl_X1_308_1) dX1_nextAsked_111) (seq (p := 114) (q := 115) (r := 164) (p_iconst 1 dX1_nextAsked_114) (seq (p := 115) (q := 116) (r := 164) (p_isub dX1_nextAsked_115) (seq (p := 116) (q := 117) (r := 164) (p_iald dX1_nextAsked_116) (seq (p := 117) (q := 118) (r := 164) (p_aload_n 0 dX1_nextAsked_117) (seq (p := 118) (q := 121) (r := 164) (p_get [(1, 22)] (alL1 fl_X1_50_1) dX1_nextAsked_118) (seq (p := 121) (q := 123) (r := 164) (p_iload 7 dX1_nextAsked_121) (seq (p := 123) (q := 124) (r := 164) (p_iald dX1_nextAsked_123) (seq (p := 124) (q := 127) (r := 164) (p_icmp_ge 250 dX1_nextAsked_124 (by decide)) (seq (p := 127) (q := 128) (r := 164) (p_aload_n 0 dX1_nextAsked_127) (seq (p := 128) (q := 131) (r := 164) (p_get [(1, 41)] (alL1 fl_X1_83_1) dX1_nextAsked_128) (seq (p := 131) (q := 132) (r := 164) (p_aload_n 0 dX1_nextAsked_131) (seq (p := 132) (q := 135) (r := 164) (p_get [(1, 38)] (alL1 fl_X1_308_1) dX1_nextAsked_132) (seq (p := 135) (q := 136) (r := 164) (p_iconst 1 dX1_nextAsked_135) (seq (p := 136) (q := 137) (r := 164) (p_isub dX1_nextAsked_136) (seq (p := 137) (q := 138) (r := 164) (p_iald dX1_nextAsked_137) (seq (p := 138) (q := 140) (r := 164) (p_istore 8 dX1_nextAsked_138 (Nat.le_of_ble_eq_true rfl)) (seq (p := 140) (q := 141) (r := 164) (p_aload_n 0 dX1_nextAsked_140) (seq (p := 141) (q := 144) (r := 164) (p_get [(1, 41)] (alL1 fl_X1_83_1) dX1_nextAsked_141) (seq (p := 144) (q := 145) (r := 164) (p_aload_n 0 dX1_nextAsked_144) (seq (p := 145) (q := 148) (r := 164) (p_get [(1, 38)] (alL1 fl_X1_308_1) dX1_nextAsked_145) (seq (p := 148) (q := 149) (r := 164) (p_iconst 1 dX1_nextAsked_148) (seq (p := 149) (q := 150) (r := 164) (p_isub dX1_nextAsked_149) (seq (p := 150) (q := 151) (r := 164) (p_aload_n 0 dX1_nextAsked_150) (seq (p := 151) (q := 154) (r := 164) (p_get [(1, 22)] (alL1 fl_X1_50_1) dX1_nextAsked_151) (seq (p := 154) (q := 156) (r := 164) (p_iload 4 dX1_nextAsked_154) (seq (p := 156) (q := 158) (r := 164) (p_iload 8 dX1_nextAsked_156) (seq (p := 158) (q := 159) (r := 164) (p_iadd dX1_nextAsked_158) (seq (p := 159) (q := 160) (r := 164) (p_iald dX1_nextAsked_159) (seq (p := 160) (q := 161) (r := 164) (p_iast dX1_nextAsked_160) (seq (p := 161) (q := 163) (r := 164) (p_iload 8 dX1_nextAsked_161) (seq (p := 163) (q := 164) (r := 164) (p_ireturn dX1_nextAsked_163 rfl) done))))))))))))))))))))))))))))))))))))))))))))) (seq (p := 164) (q := 166) (r := 250) (p_iload 5 dX1_nextAsked_164) (seq (p := 166) (q := 167) (r := 250) (p_aload_n 0 dX1_nextAsked_166) (seq (p := 167) (q := 170) (r := 250) (p_get [(1, 19)] (alL1 fl_X1_40_1) dX1_nextAsked_167) (seq (p := 170) (q := 172) (r := 250) (p_iload 7 dX1_nextAsked_170) (seq (p := 172) (q := 173) (r := 250) (p_bald dX1_nextAsked_172) (seq (p := 173) (q := 174) (r := 250) (p_iconst 2 dX1_nextAsked_173) (seq (p := 174) (q := 182) (r := 250) (blk (seq (p := 174) (q := 181) (r := 182) (blk (seq (p := 174) (q := 177) (r := 181) (p_icmp_ne 181 dX1_nextAsked_174 (by decide)) (seq (p := 177) (q := 178) (r := 181) (p_iconst 1 dX1_nextAsked_177) (seq (p := 178) (q := 181) (r := 181) (p_goto 182 dX1_nextAsked_178 (by decide)) done)))) (seq (p := 181) (q := 182) (r := 182) (p_iconst 0 dX1_nextAsked_181) done))) (seq (p := 182) (q := 185) (r := 250) (p_icmp_ne 250 dX1_nextAsked_182 (by decide)) (seq (p := 185) (q := 186) (r := 250) (p_aload_n 0 dX1_nextAsked_185) (seq (p := 186) (q := 189) (r := 250) (p_get [(1, 40)] (alL1 fl_X1_80_1) dX1_nextAsked_186) (seq (p := 189) (q := 190) (r := 250) (p_aload_n 0 dX1_nextAsked_189) (seq (p := 190) (q := 193) (r := 250) (p_get [(1, 38)] (alL1 fl_X1_308_1) dX1_nextAsked_190) (seq (p := 193) (q := 194) (r := 250) (p_iconst 1 dX1_nextAsked_193) (seq (p := 194) (q := 195) (r := 250) (p_isub dX1_nextAsked_194) (seq (p := 195) (q := 196) (r := 250) (p_iald dX1_nextAsked_195) (seq (p := 196) (q := 197) (r := 250) (p_iconst 1 dX1_nextAsked_196) (seq (p := 197) (q := 198) (r := 250) (p_iadd dX1_nextAsked_197) (seq (p := 198) (q := 199) (r := 250) (p_aload_n 0 dX1_nextAsked_198) (seq (p := 199) (q := 202) (r := 250) (p_get [(1, 0)] (alL1 fl_X1_7_1) dX1_nextAsked_199) (seq (p := 202) (q := 203) (r := 250) (p_iload_n 2 dX1_nextAsked_202) (seq (p := 203) (q := 204) (r := 250) (p_iald dX1_nextAsked_203) (seq (p := 204) (q := 207) (r := 250) (p_icmp_ge 250 dX1_nextAsked_204 (by decide)) (seq (p := 207) (q := 208) (r := 250) (p_aload_n 0 dX1_nextAsked_207) (seq (p := 208) (q := 211) (r := 250) (p_get [(1, 40)] (alL1 fl_X1_80_1) dX1_nextAsked_208) (seq (p := 211) (q := 212) (r := 250) (p_aload_n 0 dX1_nextAsked_211) (seq (p := 212) (q := 215) (r := 250) (p_get [(1, 38)] (alL1 fl_X1_308_1) dX1_nextAsked_212) (seq (p := 215) (q := 216) (r := 250) (p_iconst 1 dX1_nextAsked_215) (seq (p := 216) (q := 217) (r := 250) (p_isub dX1_nextAsked_216) (seq (p := 217) (q := 218) (r := 250) (p_dup2 dX1_nextAsked_217) (seq (p := 218) (q := 219) (r := 250) (p_iald dX1_nextAsked_218) (seq (p := 219) (q := 220) (r := 250) (p_iconst 1 dX1_nextAsked_219) (seq (p := 220) (q := 221) (r := 250) (p_iadd dX1_nextAsked_220) (seq (p := 221) (q := 222) (r := 250) (p_iast dX1_nextAsked_221) (seq (p := 222) (q := 223) (r := 250) (p_aload_n 0 dX1_nextAsked_222) (seq (p := 223) (q := 226) (r := 250) (p_get [(1, 46)] (alL1 fl_X1_89_1) dX1_nextAsked_223) (seq (p := 226) (q := 227) (r := 250) (p_aload_n 0 dX1_nextAsked_226) (seq (p := 227) (q := 230) (r := 250) (p_get [(1, 20)] (alL1 fl_X1_44_1) dX1_nextAsked_227) (seq (p := 230) (q := 232) (r := 250) (p_iload 7 dX1_nextAsked_230) (seq (p := 232) (q := 233) (r := 250) (p_iald dX1_nextAsked_232) (seq (p := 233) (q := 234) (r := 250) (p_aload_n 0 dX1_nextAsked_233) (seq (p := 234) (q := 237) (r := 250) (p_get [(1, 40)] (alL1 fl_X1_80_1) dX1_nextAsked_234) (seq (p := 237) (q := 238) (r := 250) (p_aload_n 0 dX1_nextAsked_237) (seq (p := 238) (q := 241) (r := 250) (p_get [(1, 38)] (alL1 fl_X1_308_1) dX1_nextAsked_238) (seq (p := 241) (q := 242) (r := 250) (p_iconst 1 dX1_nextAsked_241) (seq (p := 242) (q := 243) (r := 250) (p_isub dX1_nextAsked_242) (seq (p := 243) (q := 244) (r := 250) (p_iald dX1_nextAsked_243) (seq (p := 244) (q := 245) (r := 250) (p_iast dX1_nextAsked_244) (seq (p := 245) (q := 247) (r := 250) (p_iload 6 dX1_nextAsked_245) (seq (p := 247) (q := 248) (r := 250) (p_iconst 1 dX1_nextAsked_247) (seq (p := 248) (q := 249) (r := 250) (p_iadd dX1_nextAsked_248) (seq (p := 249) (q := 250) (r := 250) (p_ireturn dX1_nextAsked_249 rfl) done))))))))))))))))))))))))))))))))))))))))))))))))))))))))))) (seq (p := 250) (q := 251) (r := 263) (p_aload_n 0 dX1_nextAsked_250) (seq (p := 251) (q := 252) (r := 263) (p_dup dX1_nextAsked_251) (seq (p := 252) (q := 255) (r := 263) (p_get [(1, 38)] (alL1 fl_X1_308_1) dX1_nextAsked_252) (seq (p := 255) (q := 256) (r := 263) (p_iconst 1 dX1_nextAsked_255) (seq (p := 256) (q := 257) (r := 263) (p_isub dX1_nextAsked_256) (seq (p := 257) (q := 260) (r := 263) (p_put [(1, 38)] .int (alP1 fp_X1_308_1) dX1_nextAsked_257) (seq (p := 260) (q := 260) (r := 263) (er [true, false, true, false, true, true, false, false, false]) (seq (p := 260) (q := 263) (r := 263) (p_goto 10 dX1_nextAsked_260 (by decide)) done))))))))))))))))))))))))))))
noncomputable def B_X1_nextAsked_L10 (l : Launch) (δ : Dl) : Seg (l, δ, yX1_nextAsked, 0, (some .int), cX1_nextAsked, 9) 10 263 := C_X1_nextAsked_L10 l δ
theorem L_X1_nextAsked_10 {l : Launch} {δ : Dl} {st : Stk} {L : Lc} {s : St} : (B_X1_nextAsked_L10 l δ).1 st L s = (C_X1_nextAsked_L10 l δ).1 st L s := nrfl rfl
noncomputable def B_X1_nextAsked (l : Launch) (δ : Dl) : Seg (l, δ, yX1_nextAsked, 0, (some .int), cX1_nextAsked, 9) 0 271 :=
  seq (p := 0) (q := 3) (r := 271) (p_sipush 600 dX1_nextAsked_0 (by decide)) (seq (p := 3) (q := 4) (r := 271) (p_iload_n 1 dX1_nextAsked_3) (seq (p := 4) (q := 5) (r := 271) (p_imul dX1_nextAsked_4) (seq (p := 5) (q := 7) (r := 271) (p_istore 4 dX1_nextAsked_5 (Nat.le_of_ble_eq_true rfl)) (seq (p := 7) (q := 8) (r := 271) (p_iload_n 3 dX1_nextAsked_7) (seq (p := 8) (q := 10) (r := 271) (p_istore 5 dX1_nextAsked_8 (Nat.le_of_ble_eq_true rfl)) (seq (p := 10) (q := 263) (r := 271) (blk (seq (p := 10) (q := 10) (r := 263) (er [true, false, true, false, true, true, false, false, false]) (seq (p := 10) (q := 263) (r := 263) (lp (B_X1_nextAsked_L10 l δ)) done))) (seq (p := 263) (q := 264) (r := 271) (p_aload_n 0 dX1_nextAsked_263) (seq (p := 264) (q := 266) (r := 271) (p_iload 5 dX1_nextAsked_264) (seq (p := 266) (q := 269) (r := 271) (p_put [(1, 47)] .boolean (alP1 fp_X1_326_1) dX1_nextAsked_266) (seq (p := 269) (q := 270) (r := 271) (p_iconst (-1) dX1_nextAsked_269) (seq (p := 270) (q := 271) (r := 271) (p_ireturn dX1_nextAsked_270 rfl) done)))))))))))
noncomputable def M_X1_nextAsked (l : Launch) (δ : Dl) : Mth l δ yX1_nextAsked cX1_nextAsked 9 (some .int) 0 := mk (B_X1_nextAsked l δ) (by decide)
theorem N_X1_nextAsked {l : Launch} {δ : Dl} {o : Nat} {a1 : Int} {a2 : Int} {a3 : Int} {s : St} : (M_X1_nextAsked l δ).1 [.inr (.inr (some o)), .inl a1, .inl a2, .inl a3] s = bres ((B_X1_nextAsked l δ).1 [] [some (.inr (.inr (some o))), some (.inl a1), some (.inl a2), some (.inl a3), none, none, none, none, none] s) := (mk_eq (hy := by decide) rfl).trans (nrfl rfl)
theorem dX1_holds_0 : decode cX1_holds 0 = .ok (.aload_n 0, 1) := by decide +kernel
theorem dX1_holds_1 : decode cX1_holds 1 = .ok (.iload_n 1, 1) := by decide +kernel
theorem dX1_holds_2 : decode cX1_holds 2 = .ok (.invokevirtual 317, 3) := by decide +kernel
theorem dX1_holds_5 : decode cX1_holds 5 = .ok (.ifCond .ne 11, 3) := by decide +kernel
theorem dX1_holds_8 : decode cX1_holds 8 = .ok (.aload_n 0, 1) := by decide +kernel
theorem dX1_holds_9 : decode cX1_holds 9 = .ok (.iload_n 2, 1) := by decide +kernel
theorem dX1_holds_10 : decode cX1_holds 10 = .ok (.invokevirtual 141, 3) := by decide +kernel
theorem dX1_holds_13 : decode cX1_holds 13 = .ok (.ifCond .eq 5, 3) := by decide +kernel
theorem dX1_holds_16 : decode cX1_holds 16 = .ok (.iconst (-1), 1) := by decide +kernel
theorem dX1_holds_17 : decode cX1_holds 17 = .ok (.ireturn, 1) := by decide +kernel
theorem dX1_holds_18 : decode cX1_holds 18 = .ok (.sipush 600, 3) := by decide +kernel
theorem dX1_holds_21 : decode cX1_holds 21 = .ok (.iload_n 1, 1) := by decide +kernel
theorem dX1_holds_22 : decode cX1_holds 22 = .ok (.imul, 1) := by decide +kernel
theorem dX1_holds_23 : decode cX1_holds 23 = .ok (.istore_n 3, 1) := by decide +kernel
theorem dX1_holds_24 : decode cX1_holds 24 = .ok (.aload_n 0, 1) := by decide +kernel
theorem dX1_holds_25 : decode cX1_holds 25 = .ok (.iconst 0, 1) := by decide +kernel
theorem dX1_holds_26 : decode cX1_holds 26 = .ok (.putfield 330, 3) := by decide +kernel
theorem dX1_holds_29 : decode cX1_holds 29 = .ok (.aload_n 0, 1) := by decide +kernel
theorem dX1_holds_30 : decode cX1_holds 30 = .ok (.iconst 0, 1) := by decide +kernel
theorem dX1_holds_31 : decode cX1_holds 31 = .ok (.putfield 308, 3) := by decide +kernel
theorem dX1_holds_34 : decode cX1_holds 34 = .ok (.iconst 0, 1) := by decide +kernel
theorem dX1_holds_35 : decode cX1_holds 35 = .ok (.istore 4, 2) := by decide +kernel
theorem dX1_holds_37 : decode cX1_holds 37 = .ok (.iload 4, 2) := by decide +kernel
theorem dX1_holds_39 : decode cX1_holds 39 = .ok (.ifCond .lt 154, 3) := by decide +kernel
theorem dX1_holds_42 : decode cX1_holds 42 = .ok (.aload_n 0, 1) := by decide +kernel
theorem dX1_holds_43 : decode cX1_holds 43 = .ok (.dup, 1) := by decide +kernel
theorem dX1_holds_44 : decode cX1_holds 44 = .ok (.getfield 330, 3) := by decide +kernel
theorem dX1_holds_47 : decode cX1_holds 47 = .ok (.iconst 1, 1) := by decide +kernel
theorem dX1_holds_48 : decode cX1_holds 48 = .ok (.iadd, 1) := by decide +kernel
theorem dX1_holds_49 : decode cX1_holds 49 = .ok (.putfield 330, 3) := by decide +kernel
theorem dX1_holds_52 : decode cX1_holds 52 = .ok (.aload_n 0, 1) := by decide +kernel
theorem dX1_holds_53 : decode cX1_holds 53 = .ok (.getfield 330, 3) := by decide +kernel
theorem dX1_holds_56 : decode cX1_holds 56 = .ok (.ldc_w 333, 3) := by decide +kernel
theorem dX1_holds_59 : decode cX1_holds 59 = .ok (.if_icmp .le 6, 3) := by decide +kernel
theorem dX1_holds_62 : decode cX1_holds 62 = .ok (.bipush (-6), 2) := by decide +kernel
theorem dX1_holds_64 : decode cX1_holds 64 = .ok (.ireturn, 1) := by decide +kernel
theorem dX1_holds_65 : decode cX1_holds 65 = .ok (.iload_n 3, 1) := by decide +kernel
theorem dX1_holds_66 : decode cX1_holds 66 = .ok (.iload 4, 2) := by decide +kernel
theorem dX1_holds_68 : decode cX1_holds 68 = .ok (.iadd, 1) := by decide +kernel
theorem dX1_holds_69 : decode cX1_holds 69 = .ok (.istore 5, 2) := by decide +kernel
theorem dX1_holds_71 : decode cX1_holds 71 = .ok (.aload_n 0, 1) := by decide +kernel
theorem dX1_holds_72 : decode cX1_holds 72 = .ok (.getfield 40, 3) := by decide +kernel
theorem dX1_holds_75 : decode cX1_holds 75 = .ok (.iload 5, 2) := by decide +kernel
theorem dX1_holds_77 : decode cX1_holds 77 = .ok (.baload, 1) := by decide +kernel
theorem dX1_holds_78 : decode cX1_holds 78 = .ok (.bipush 6, 2) := by decide +kernel
theorem dX1_holds_80 : decode cX1_holds 80 = .ok (.if_icmp .lt 21, 3) := by decide +kernel
theorem dX1_holds_83 : decode cX1_holds 83 = .ok (.aload_n 0, 1) := by decide +kernel
theorem dX1_holds_84 : decode cX1_holds 84 = .ok (.iload_n 1, 1) := by decide +kernel
theorem dX1_holds_85 : decode cX1_holds 85 = .ok (.iload_n 2, 1) := by decide +kernel
theorem dX1_holds_86 : decode cX1_holds 86 = .ok (.aload_n 0, 1) := by decide +kernel
theorem dX1_holds_87 : decode cX1_holds 87 = .ok (.iload_n 2, 1) := by decide +kernel
theorem dX1_holds_88 : decode cX1_holds 88 = .ok (.iload 5, 2) := by decide +kernel
theorem dX1_holds_90 : decode cX1_holds 90 = .ok (.invokevirtual 334, 3) := by decide +kernel
theorem dX1_holds_93 : decode cX1_holds 93 = .ok (.invokevirtual 337, 3) := by decide +kernel
theorem dX1_holds_96 : decode cX1_holds 96 = .ok (.istore 4, 2) := by decide +kernel
theorem dX1_holds_98 : decode cX1_holds 98 = .ok (.goto 92, 3) := by decide +kernel
theorem dX1_holds_101 : decode cX1_holds 101 = .ok (.aload_n 0, 1) := by decide +kernel
theorem dX1_holds_102 : decode cX1_holds 102 = .ok (.getfield 77, 3) := by decide +kernel
theorem dX1_holds_105 : decode cX1_holds 105 = .ok (.aload_n 0, 1) := by decide +kernel
theorem dX1_holds_106 : decode cX1_holds 106 = .ok (.getfield 308, 3) := by decide +kernel
theorem dX1_holds_109 : decode cX1_holds 109 = .ok (.iload 4, 2) := by decide +kernel
theorem dX1_holds_111 : decode cX1_holds 111 = .ok (.iastore, 1) := by decide +kernel
theorem dX1_holds_112 : decode cX1_holds 112 = .ok (.aload_n 0, 1) := by decide +kernel
theorem dX1_holds_113 : decode cX1_holds 113 = .ok (.getfield 80, 3) := by decide +kernel
theorem dX1_holds_116 : decode cX1_holds 116 = .ok (.aload_n 0, 1) := by decide +kernel
theorem dX1_holds_117 : decode cX1_holds 117 = .ok (.getfield 308, 3) := by decide +kernel
theorem dX1_holds_120 : decode cX1_holds 120 = .ok (.iconst 0, 1) := by decide +kernel
theorem dX1_holds_121 : decode cX1_holds 121 = .ok (.iastore, 1) := by decide +kernel
theorem dX1_holds_122 : decode cX1_holds 122 = .ok (.aload_n 0, 1) := by decide +kernel
theorem dX1_holds_123 : decode cX1_holds 123 = .ok (.getfield 83, 3) := by decide +kernel
theorem dX1_holds_126 : decode cX1_holds 126 = .ok (.aload_n 0, 1) := by decide +kernel
theorem dX1_holds_127 : decode cX1_holds 127 = .ok (.getfield 308, 3) := by decide +kernel
theorem dX1_holds_130 : decode cX1_holds 130 = .ok (.aload_n 0, 1) := by decide +kernel
theorem dX1_holds_131 : decode cX1_holds 131 = .ok (.getfield 50, 3) := by decide +kernel
theorem dX1_holds_134 : decode cX1_holds 134 = .ok (.iload_n 3, 1) := by decide +kernel
theorem dX1_holds_135 : decode cX1_holds 135 = .ok (.iload 4, 2) := by decide +kernel
theorem dX1_holds_137 : decode cX1_holds 137 = .ok (.iadd, 1) := by decide +kernel
theorem dX1_holds_138 : decode cX1_holds 138 = .ok (.iconst 1, 1) := by decide +kernel
theorem dX1_holds_139 : decode cX1_holds 139 = .ok (.iadd, 1) := by decide +kernel
theorem dX1_holds_140 : decode cX1_holds 140 = .ok (.iaload, 1) := by decide +kernel
theorem dX1_holds_141 : decode cX1_holds 141 = .ok (.iastore, 1) := by decide +kernel
theorem dX1_holds_142 : decode cX1_holds 142 = .ok (.aload_n 0, 1) := by decide +kernel
theorem dX1_holds_143 : decode cX1_holds 143 = .ok (.dup, 1) := by decide +kernel
theorem dX1_holds_144 : decode cX1_holds 144 = .ok (.getfield 308, 3) := by decide +kernel
theorem dX1_holds_147 : decode cX1_holds 147 = .ok (.iconst 1, 1) := by decide +kernel
theorem dX1_holds_148 : decode cX1_holds 148 = .ok (.iadd, 1) := by decide +kernel
theorem dX1_holds_149 : decode cX1_holds 149 = .ok (.putfield 308, 3) := by decide +kernel
theorem dX1_holds_152 : decode cX1_holds 152 = .ok (.aload_n 0, 1) := by decide +kernel
theorem dX1_holds_153 : decode cX1_holds 153 = .ok (.getfield 40, 3) := by decide +kernel
theorem dX1_holds_156 : decode cX1_holds 156 = .ok (.iload 5, 2) := by decide +kernel
theorem dX1_holds_158 : decode cX1_holds 158 = .ok (.baload, 1) := by decide +kernel
theorem dX1_holds_159 : decode cX1_holds 159 = .ok (.iconst 2, 1) := by decide +kernel
theorem dX1_holds_160 : decode cX1_holds 160 = .ok (.if_icmp .eq 14, 3) := by decide +kernel
theorem dX1_holds_163 : decode cX1_holds 163 = .ok (.aload_n 0, 1) := by decide +kernel
theorem dX1_holds_164 : decode cX1_holds 164 = .ok (.getfield 40, 3) := by decide +kernel
theorem dX1_holds_167 : decode cX1_holds 167 = .ok (.iload 5, 2) := by decide +kernel
theorem dX1_holds_169 : decode cX1_holds 169 = .ok (.baload, 1) := by decide +kernel
theorem dX1_holds_170 : decode cX1_holds 170 = .ok (.iconst 3, 1) := by decide +kernel
theorem dX1_holds_171 : decode cX1_holds 171 = .ok (.if_icmp .ne 16, 3) := by decide +kernel
theorem dX1_holds_174 : decode cX1_holds 174 = .ok (.aload_n 0, 1) := by decide +kernel
theorem dX1_holds_175 : decode cX1_holds 175 = .ok (.getfield 89, 3) := by decide +kernel
theorem dX1_holds_178 : decode cX1_holds 178 = .ok (.aload_n 0, 1) := by decide +kernel
theorem dX1_holds_179 : decode cX1_holds 179 = .ok (.getfield 44, 3) := by decide +kernel
theorem dX1_holds_182 : decode cX1_holds 182 = .ok (.iload 5, 2) := by decide +kernel
theorem dX1_holds_184 : decode cX1_holds 184 = .ok (.iaload, 1) := by decide +kernel
theorem dX1_holds_185 : decode cX1_holds 185 = .ok (.iconst 0, 1) := by decide +kernel
theorem dX1_holds_186 : decode cX1_holds 186 = .ok (.iastore, 1) := by decide +kernel
theorem dX1_holds_187 : decode cX1_holds 187 = .ok (.iinc 4 1, 3) := by decide +kernel
theorem dX1_holds_190 : decode cX1_holds 190 = .ok (.goto (-153), 3) := by decide +kernel
theorem dX1_holds_193 : decode cX1_holds 193 = .ok (.aload_n 0, 1) := by decide +kernel
theorem dX1_holds_194 : decode cX1_holds 194 = .ok (.aload_n 0, 1) := by decide +kernel
theorem dX1_holds_195 : decode cX1_holds 195 = .ok (.getfield 330, 3) := by decide +kernel
theorem dX1_holds_198 : decode cX1_holds 198 = .ok (.putfield 341, 3) := by decide +kernel
theorem dX1_holds_201 : decode cX1_holds 201 = .ok (.aload_n 0, 1) := by decide +kernel
theorem dX1_holds_202 : decode cX1_holds 202 = .ok (.getfield 326, 3) := by decide +kernel
theorem dX1_holds_205 : decode cX1_holds 205 = .ok (.ifCond .eq 7, 3) := by decide +kernel
theorem dX1_holds_208 : decode cX1_holds 208 = .ok (.iconst 1, 1) := by decide +kernel
theorem dX1_holds_209 : decode cX1_holds 209 = .ok (.goto 4, 3) := by decide +kernel
theorem dX1_holds_212 : decode cX1_holds 212 = .ok (.iconst 0, 1) := by decide +kernel
theorem dX1_holds_213 : decode cX1_holds 213 = .ok (.ireturn, 1) := by decide +kernel
noncomputable def C_X1_holds_L37 (l : Launch) (δ : Dl) : Seg (l, δ, yX1_holds, 3, (some .int), cX1_holds, 6) 37 193 :=
  seq (p := 37) (q := 39) (r := 193) (p_iload 4 dX1_holds_37) (seq (p := 39) (q := 42) (r := 193) (p_if_lt 193 dX1_holds_39 (by decide)) (seq (p := 42) (q := 43) (r := 193) (p_aload_n 0 dX1_holds_42) (seq (p := 43) (q := 44) (r := 193) (p_dup dX1_holds_43) (seq (p := 44) (q := 47) (r := 193) (p_get [(1, 45)] (alL1 fl_X1_330_1) dX1_holds_44) (seq (p := 47) (q := 48) (r := 193) (p_iconst 1 dX1_holds_47) (seq (p := 48) (q := 49) (r := 193) (p_iadd dX1_holds_48) (seq (p := 49) (q := 52) (r := 193) (p_put [(1, 45)] .int (alP1 fp_X1_330_1) dX1_holds_49) (seq (p := 52) (q := 53) (r := 193) (p_aload_n 0 dX1_holds_52) (seq (p := 53) (q := 56) (r := 193) (p_get [(1, 45)] (alL1 fl_X1_330_1) dX1_holds_53) (seq (p := 56) (q := 59) (r := 193) (p_ldcW 100000 (okc q1612) (by decide) dX1_holds_56) (seq (p := 59) (q := 65) (r := 193) (blk (seq (p := 59) (q := 62) (r := 65) (p_icmp_le 65 dX1_holds_59 (by decide)) (seq (p := 62) (q := 64) (r := 65) (p_bipush (-6) dX1_holds_62 (by decide)) (seq (p := 64) (q := 65) (r := 65) (p_ireturn dX1_holds_64 rfl) done)))) (seq (p := 65) (q := 66) (r := 193) (p_iload_n 3 dX1_holds_65) (seq (p := 66) (q := 68) (r := 193) (p_iload 4 dX1_holds_66) (seq (p := 68) (q := 69) (r := 193) (p_iadd dX1_holds_68) (seq (p := 69) (q := 71) (r := 193) (p_istore 5 dX1_holds_69 (Nat.le_of_ble_eq_true rfl)) (seq (p := 71) (q := 72) (r := 193) (p_aload_n 0 dX1_holds_71) (seq (p := 72) (q := 75) (r := 193) (p_get [(1, 19)] (alL1 fl_X1_40_1) dX1_holds_72) (seq (p := 75) (q := 77) (r := 193) (p_iload 5 dX1_holds_75) (seq (p := 77) (q := 78) (r := 193) (p_bald dX1_holds_77) (seq (p := 78) (q := 80) (r := 193) (p_bipush 6 dX1_holds_78 (by decide)) (seq (p := 80) (q := 190) (r := 193) (blk (seq (p := 80) (q := 101) (r := 190) (blk (seq (p := 80) (q := 83) (r := 101) (p_icmp_lt 101 dX1_holds_80 (by decide)) (seq (p := 83) (q := 84) (r := 101) (p_aload_n 0 dX1_holds_83) (seq (p := 84) (q := 85) (r := 101) (p_iload_n 1 dX1_holds_84) (seq (p := 85) (q := 86) (r := 101) (p_iload_n 2 dX1_holds_85) (seq (p := 86) (q := 87) (r := 101) (p_aload_n 0 dX1_holds_86) (seq (p := 87) (q := 88) (r := 101) (p_iload_n 2 dX1_holds_87) (seq (p := 88) (q := 90) (r := 101) (p_iload 5 dX1_holds_88) (seq (p := 90) (q := 93) (r := 101) (p_callV 1 cv_X1_334 hcR1 (M_X1_isAtom l δ) (Nat.le_of_ble_eq_true rfl) dX1_holds_90) (seq (p := 93) (q := 96) (r := 101) (p_callV 1 cv_X1_337 hcR1 (M_X1_nextAsked l δ) (Nat.le_of_ble_eq_true rfl) dX1_holds_93) (seq (p := 96) (q := 98) (r := 101) (p_istore 4 dX1_holds_96 (Nat.le_of_ble_eq_true rfl)) (seq (p := 98) (q := 101) (r := 101) (p_goto 190 dX1_holds_98 (by decide)) done)))))))))))) (seq (p := 101) (q := 102) (r := 190) (p_aload_n 0 dX1_holds_101) (seq (p := 102) (q := 105) (r := 190) (p_get [(1, 39)] (alL1 fl_X1_77_1) dX1_holds_102) (seq (p := 105) (q := 106) (r := 190) (p_aload_n 0 dX1_holds_105) (seq (p := 106) (q := 109) (r := 190) (p_get [(1, 38)] (alL1 fl_X1_308_1) dX1_holds_106) (seq (p := 109) (q := 111) (r := 190) (p_iload 4 dX1_holds_109) (seq (p := 111) (q := 112) (r := 190) (p_iast dX1_holds_111) (seq (p := 112) (q := 113) (r := 190) (p_aload_n 0 dX1_holds_112) (seq (p := 113) (q := 116) (r := 190) (p_get [(1, 40)] (alL1 fl_X1_80_1) dX1_holds_113) (seq (p := 116) (q := 117) (r := 190) (p_aload_n 0 dX1_holds_116) (seq (p := 117) (q := 120) (r := 190) (p_get [(1, 38)] (alL1 fl_X1_308_1) dX1_holds_117) (seq (p := 120) (q := 121) (r := 190) (p_iconst 0 dX1_holds_120) (seq (p := 121) (q := 122) (r := 190) (p_iast dX1_holds_121) (seq (p := 122) (q := 123) (r := 190) (p_aload_n 0 dX1_holds_122) (seq (p := 123) (q := 126) (r := 190) (p_get [(1, 41)] (alL1 fl_X1_83_1) dX1_holds_123) (seq (p := 126) (q := 127) (r := 190) (p_aload_n 0 dX1_holds_126) (seq (p := 127) (q := 130) (r := 190) (p_get [(1, 38)] (alL1 fl_X1_308_1) dX1_holds_127) (seq (p := 130) (q := 131) (r := 190) (p_aload_n 0 dX1_holds_130) (seq (p := 131) (q := 134) (r := 190) (p_get [(1, 22)] (alL1 fl_X1_50_1) dX1_holds_131) (seq (p := 134) (q := 135) (r := 190) (p_iload_n 3 dX1_holds_134) (seq (p := 135) (q := 137) (r := 190) (p_iload 4 dX1_holds_135) (seq (p := 137) (q := 138) (r := 190) (p_iadd dX1_holds_137) (seq (p := 138) (q := 139) (r := 190) (p_iconst 1 dX1_holds_138) (seq (p := 139) (q := 140) (r := 190) (p_iadd dX1_holds_139) (seq (p := 140) (q := 141) (r := 190) (p_iald dX1_holds_140) (seq (p := 141) (q := 142) (r := 190) (p_iast dX1_holds_141) (seq (p := 142) (q := 143) (r := 190) (p_aload_n 0 dX1_holds_142) (seq (p := 143) (q := 144) (r := 190) (p_dup dX1_holds_143) (seq (p := 144) (q := 147) (r := 190) (p_get [(1, 38)] (alL1 fl_X1_308_1) dX1_holds_144) (seq (p := 147) (q := 148) (r := 190) (p_iconst 1 dX1_holds_147) (seq (p := 148) (q := 149) (r := 190) (p_iadd dX1_holds_148) (seq (p := 149) (q := 152) (r := 190) (p_put [(1, 38)] .int (alP1 fp_X1_308_1) dX1_holds_149) (seq (p := 152) (q := 153) (r := 190) (p_aload_n 0 dX1_holds_152) (seq (p := 153) (q := 156) (r := 190) (p_get [(1, 19)] (alL1 fl_X1_40_1) dX1_holds_153) (seq (p := 156) (q := 158) (r := 190) (p_iload 5 dX1_holds_156) (seq (p := 158) (q := 159) (r := 190) (p_bald dX1_holds_158) (seq (p := 159) (q := 160) (r := 190) (p_iconst 2 dX1_holds_159) (seq (p := 160) (q := 187) (r := 190) (blk (seq (p := 160) (q := 174) (r := 187) (blk (seq (p := 160) (q := 163) (r := 174) (p_icmp_eq 174 dX1_holds_160 (by decide)) (seq (p := 163) (q := 164) (r := 174) (p_aload_n 0 dX1_holds_163) (seq (p := 164) (q := 167) (r := 174) (p_get [(1, 19)] (alL1 fl_X1_40_1) dX1_holds_164) (seq (p := 167) (q := 169) (r := 174) (p_iload 5 dX1_holds_167) (seq (p := 169) (q := 170) (r := 174) (p_bald dX1_holds_169) (seq (p := 170) (q := 171) (r := 174) (p_iconst 3 dX1_holds_170) (seq (p := 171) (q := 174) (r := 174) (p_icmp_ne 187 dX1_holds_171 (by decide)) done)))))))) (seq (p := 174) (q := 175) (r := 187) (p_aload_n 0 dX1_holds_174) (seq (p := 175) (q := 178) (r := 187) (p_get [(1, 46)] (alL1 fl_X1_89_1) dX1_holds_175) (seq (p := 178) (q := 179) (r := 187) (p_aload_n 0 dX1_holds_178) (seq (p := 179) (q := 182) (r := 187) (p_get [(1, 20)] (alL1 fl_X1_44_1) dX1_holds_179) (seq (p := 182) (q := 184) (r := 187) (p_iload 5 dX1_holds_182) (seq (p := 184) (q := 185) (r := 187) (p_iald dX1_holds_184) (seq (p := 185) (q := 186) (r := 187) (p_iconst 0 dX1_holds_185) (seq (p := 186) (q := 187) (r := 187) (p_iast dX1_holds_186) done)))))))))) (seq (p := 187) (q := 190) (r := 190) (p_iinc 4 1 dX1_holds_187 (Nat.le_of_ble_eq_true rfl)) done)))))))))))))))))))))))))))))))))))))))) (seq (p := 190) (q := 190) (r := 193) (er [true, true, true, true, true, false]) (seq (p := 190) (q := 193) (r := 193) (p_goto 37 dX1_holds_190 (by decide)) done)))))))))))))))))))))))
noncomputable def B_X1_holds_L37 (l : Launch) (δ : Dl) : Seg (l, δ, yX1_holds, 3, (some .int), cX1_holds, 6) 37 193 := C_X1_holds_L37 l δ
theorem L_X1_holds_37 {l : Launch} {δ : Dl} {st : Stk} {L : Lc} {s : St} : (B_X1_holds_L37 l δ).1 st L s = (C_X1_holds_L37 l δ).1 st L s := nrfl rfl
noncomputable def B_X1_holds (l : Launch) (δ : Dl) : Seg (l, δ, yX1_holds, 3, (some .int), cX1_holds, 6) 0 214 :=
  seq (p := 0) (q := 1) (r := 214) (p_aload_n 0 dX1_holds_0) (seq (p := 1) (q := 2) (r := 214) (p_iload_n 1 dX1_holds_1) (seq (p := 2) (q := 5) (r := 214) (p_callV 1 cv_X1_317 hcR1 (M_X1_noSentence l δ) (Nat.le_of_ble_eq_true rfl) dX1_holds_2) (seq (p := 5) (q := 18) (r := 214) (blk (seq (p := 5) (q := 16) (r := 18) (blk (seq (p := 5) (q := 8) (r := 16) (p_if_ne 16 dX1_holds_5 (by decide)) (seq (p := 8) (q := 9) (r := 16) (p_aload_n 0 dX1_holds_8) (seq (p := 9) (q := 10) (r := 16) (p_iload_n 2 dX1_holds_9) (seq (p := 10) (q := 13) (r := 16) (p_callV 1 cv_X1_141 hcR1 (M_X1_noWorld l δ) (Nat.le_of_ble_eq_true rfl) dX1_holds_10) (seq (p := 13) (q := 16) (r := 16) (p_if_eq 18 dX1_holds_13 (by decide)) done)))))) (seq (p := 16) (q := 17) (r := 18) (p_iconst (-1) dX1_holds_16) (seq (p := 17) (q := 18) (r := 18) (p_ireturn dX1_holds_17 rfl) done)))) (seq (p := 18) (q := 21) (r := 214) (p_sipush 600 dX1_holds_18 (by decide)) (seq (p := 21) (q := 22) (r := 214) (p_iload_n 1 dX1_holds_21) (seq (p := 22) (q := 23) (r := 214) (p_imul dX1_holds_22) (seq (p := 23) (q := 24) (r := 214) (p_istore_n 3 dX1_holds_23 (Nat.le_of_ble_eq_true rfl)) (seq (p := 24) (q := 25) (r := 214) (p_aload_n 0 dX1_holds_24) (seq (p := 25) (q := 26) (r := 214) (p_iconst 0 dX1_holds_25) (seq (p := 26) (q := 29) (r := 214) (p_put [(1, 45)] .int (alP1 fp_X1_330_1) dX1_holds_26) (seq (p := 29) (q := 30) (r := 214) (p_aload_n 0 dX1_holds_29) (seq (p := 30) (q := 31) (r := 214) (p_iconst 0 dX1_holds_30) (seq (p := 31) (q := 34) (r := 214) (p_put [(1, 38)] .int (alP1 fp_X1_308_1) dX1_holds_31) (seq (p := 34) (q := 35) (r := 214) (p_iconst 0 dX1_holds_34) (seq (p := 35) (q := 37) (r := 214) (p_istore 4 dX1_holds_35 (Nat.le_of_ble_eq_true rfl)) (seq (p := 37) (q := 193) (r := 214) (blk (seq (p := 37) (q := 37) (r := 193) (er [true, true, true, true, true, false]) (seq (p := 37) (q := 193) (r := 193) (lp (B_X1_holds_L37 l δ)) done))) (seq (p := 193) (q := 194) (r := 214) (p_aload_n 0 dX1_holds_193) (seq (p := 194) (q := 195) (r := 214) (p_aload_n 0 dX1_holds_194) (seq (p := 195) (q := 198) (r := 214) (p_get [(1, 45)] (alL1 fl_X1_330_1) dX1_holds_195) (seq (p := 198) (q := 201) (r := 214) (p_put [(1, 44)] .int (alP1 fp_X1_341_1) dX1_holds_198) (seq (p := 201) (q := 202) (r := 214) (p_aload_n 0 dX1_holds_201) (seq (p := 202) (q := 205) (r := 214) (p_get [(1, 47)] (alL1 fl_X1_326_1) dX1_holds_202) (seq (p := 205) (q := 213) (r := 214) (blk (seq (p := 205) (q := 212) (r := 213) (blk (seq (p := 205) (q := 208) (r := 212) (p_if_eq 212 dX1_holds_205 (by decide)) (seq (p := 208) (q := 209) (r := 212) (p_iconst 1 dX1_holds_208) (seq (p := 209) (q := 212) (r := 212) (p_goto 213 dX1_holds_209 (by decide)) done)))) (seq (p := 212) (q := 213) (r := 213) (p_iconst 0 dX1_holds_212) done))) (seq (p := 213) (q := 214) (r := 214) (p_ireturn dX1_holds_213 rfl) done))))))))))))))))))))))))
noncomputable def M_X1_holds (l : Launch) (δ : Dl) : Mth l δ yX1_holds cX1_holds 6 (some .int) 3 := mk (B_X1_holds l δ) (by decide)
theorem N_X1_holds {l : Launch} {δ : Dl} {o : Nat} {a1 : Int} {a2 : Int} {s : St} : (M_X1_holds l δ).1 [.inr (.inr (some o)), .inl a1, .inl a2] s = bres ((B_X1_holds l δ).1 [] [some (.inr (.inr (some o))), some (.inl a1), some (.inl a2), none, none, none] s) := (mk_eq (hy := by decide) rfl).trans (nrfl rfl)
theorem dX1_asked_0 : decode cX1_asked 0 = .ok (.aload_n 0, 1) := by decide +kernel
theorem dX1_asked_1 : decode cX1_asked 1 = .ok (.getfield 341, 3) := by decide +kernel
theorem dX1_asked_4 : decode cX1_asked 4 = .ok (.ireturn, 1) := by decide +kernel
noncomputable def B_X1_asked (l : Launch) (δ : Dl) : Seg (l, δ, yX1_asked, 0, (some .int), cX1_asked, 1) 0 5 :=
  seq (p := 0) (q := 1) (r := 5) (p_aload_n 0 dX1_asked_0) (seq (p := 1) (q := 4) (r := 5) (p_get [(1, 44)] (alL1 fl_X1_341_1) dX1_asked_1) (seq (p := 4) (q := 5) (r := 5) (p_ireturn dX1_asked_4 rfl) done))
noncomputable def M_X1_asked (l : Launch) (δ : Dl) : Mth l δ yX1_asked cX1_asked 1 (some .int) 0 := mk (B_X1_asked l δ) (by decide)
theorem N_X1_asked {l : Launch} {δ : Dl} {o : Nat} {s : St} : (M_X1_asked l δ).1 [.inr (.inr (some o))] s = bres ((B_X1_asked l δ).1 [] [some (.inr (.inr (some o)))] s) := (mk_eq (hy := by decide) rfl).trans (nrfl rfl)
theorem dX1_swapRows_0 : decode cX1_swapRows 0 = .ok (.aload_n 0, 1) := by decide +kernel
theorem dX1_swapRows_1 : decode cX1_swapRows 1 = .ok (.getfield 163, 3) := by decide +kernel
theorem dX1_swapRows_4 : decode cX1_swapRows 4 = .ok (.istore_n 1, 1) := by decide +kernel
theorem dX1_swapRows_5 : decode cX1_swapRows 5 = .ok (.aload_n 0, 1) := by decide +kernel
theorem dX1_swapRows_6 : decode cX1_swapRows 6 = .ok (.aload_n 0, 1) := by decide +kernel
theorem dX1_swapRows_7 : decode cX1_swapRows 7 = .ok (.getfield 166, 3) := by decide +kernel
theorem dX1_swapRows_10 : decode cX1_swapRows 10 = .ok (.putfield 163, 3) := by decide +kernel
theorem dX1_swapRows_13 : decode cX1_swapRows 13 = .ok (.aload_n 0, 1) := by decide +kernel
theorem dX1_swapRows_14 : decode cX1_swapRows 14 = .ok (.iload_n 1, 1) := by decide +kernel
theorem dX1_swapRows_15 : decode cX1_swapRows 15 = .ok (.putfield 166, 3) := by decide +kernel
theorem dX1_swapRows_18 : decode cX1_swapRows 18 = .ok (.iconst 0, 1) := by decide +kernel
theorem dX1_swapRows_19 : decode cX1_swapRows 19 = .ok (.istore_n 2, 1) := by decide +kernel
theorem dX1_swapRows_20 : decode cX1_swapRows 20 = .ok (.iload_n 2, 1) := by decide +kernel
theorem dX1_swapRows_21 : decode cX1_swapRows 21 = .ok (.aload_n 0, 1) := by decide +kernel
theorem dX1_swapRows_22 : decode cX1_swapRows 22 = .ok (.getfield 169, 3) := by decide +kernel
theorem dX1_swapRows_25 : decode cX1_swapRows 25 = .ok (.if_icmp .ge 35, 3) := by decide +kernel
theorem dX1_swapRows_28 : decode cX1_swapRows 28 = .ok (.aload_n 0, 1) := by decide +kernel
theorem dX1_swapRows_29 : decode cX1_swapRows 29 = .ok (.getfield 25, 3) := by decide +kernel
theorem dX1_swapRows_32 : decode cX1_swapRows 32 = .ok (.iload_n 2, 1) := by decide +kernel
theorem dX1_swapRows_33 : decode cX1_swapRows 33 = .ok (.iaload, 1) := by decide +kernel
theorem dX1_swapRows_34 : decode cX1_swapRows 34 = .ok (.istore_n 3, 1) := by decide +kernel
theorem dX1_swapRows_35 : decode cX1_swapRows 35 = .ok (.aload_n 0, 1) := by decide +kernel
theorem dX1_swapRows_36 : decode cX1_swapRows 36 = .ok (.getfield 25, 3) := by decide +kernel
theorem dX1_swapRows_39 : decode cX1_swapRows 39 = .ok (.iload_n 2, 1) := by decide +kernel
theorem dX1_swapRows_40 : decode cX1_swapRows 40 = .ok (.aload_n 0, 1) := by decide +kernel
theorem dX1_swapRows_41 : decode cX1_swapRows 41 = .ok (.getfield 28, 3) := by decide +kernel
theorem dX1_swapRows_44 : decode cX1_swapRows 44 = .ok (.iload_n 2, 1) := by decide +kernel
theorem dX1_swapRows_45 : decode cX1_swapRows 45 = .ok (.iaload, 1) := by decide +kernel
theorem dX1_swapRows_46 : decode cX1_swapRows 46 = .ok (.iastore, 1) := by decide +kernel
theorem dX1_swapRows_47 : decode cX1_swapRows 47 = .ok (.aload_n 0, 1) := by decide +kernel
theorem dX1_swapRows_48 : decode cX1_swapRows 48 = .ok (.getfield 28, 3) := by decide +kernel
theorem dX1_swapRows_51 : decode cX1_swapRows 51 = .ok (.iload_n 2, 1) := by decide +kernel
theorem dX1_swapRows_52 : decode cX1_swapRows 52 = .ok (.iload_n 3, 1) := by decide +kernel
theorem dX1_swapRows_53 : decode cX1_swapRows 53 = .ok (.iastore, 1) := by decide +kernel
theorem dX1_swapRows_54 : decode cX1_swapRows 54 = .ok (.iinc 2 1, 3) := by decide +kernel
theorem dX1_swapRows_57 : decode cX1_swapRows 57 = .ok (.goto (-37), 3) := by decide +kernel
theorem dX1_swapRows_60 : decode cX1_swapRows 60 = .ok (.return_, 1) := by decide +kernel
noncomputable def C_X1_swapRows_L20 (l : Launch) (δ : Dl) : Seg (l, δ, yX1_swapRows, 0, none, cX1_swapRows, 4) 20 60 :=
  seq (p := 20) (q := 21) (r := 60) (p_iload_n 2 dX1_swapRows_20) (seq (p := 21) (q := 22) (r := 60) (p_aload_n 0 dX1_swapRows_21) (seq (p := 22) (q := 25) (r := 60) (p_get [(1, 7)] (alL1 fl_X1_169_1) dX1_swapRows_22) (seq (p := 25) (q := 28) (r := 60) (p_icmp_ge 60 dX1_swapRows_25 (by decide)) (seq (p := 28) (q := 29) (r := 60) (p_aload_n 0 dX1_swapRows_28) (seq (p := 29) (q := 32) (r := 60) (p_get [(1, 8)] (alL1 fl_X1_25_1) dX1_swapRows_29) (seq (p := 32) (q := 33) (r := 60) (p_iload_n 2 dX1_swapRows_32) (seq (p := 33) (q := 34) (r := 60) (p_iald dX1_swapRows_33) (seq (p := 34) (q := 35) (r := 60) (p_istore_n 3 dX1_swapRows_34 (Nat.le_of_ble_eq_true rfl)) (seq (p := 35) (q := 36) (r := 60) (p_aload_n 0 dX1_swapRows_35) (seq (p := 36) (q := 39) (r := 60) (p_get [(1, 8)] (alL1 fl_X1_25_1) dX1_swapRows_36) (seq (p := 39) (q := 40) (r := 60) (p_iload_n 2 dX1_swapRows_39) (seq (p := 40) (q := 41) (r := 60) (p_aload_n 0 dX1_swapRows_40) (seq (p := 41) (q := 44) (r := 60) (p_get [(1, 9)] (alL1 fl_X1_28_1) dX1_swapRows_41) (seq (p := 44) (q := 45) (r := 60) (p_iload_n 2 dX1_swapRows_44) (seq (p := 45) (q := 46) (r := 60) (p_iald dX1_swapRows_45) (seq (p := 46) (q := 47) (r := 60) (p_iast dX1_swapRows_46) (seq (p := 47) (q := 48) (r := 60) (p_aload_n 0 dX1_swapRows_47) (seq (p := 48) (q := 51) (r := 60) (p_get [(1, 9)] (alL1 fl_X1_28_1) dX1_swapRows_48) (seq (p := 51) (q := 52) (r := 60) (p_iload_n 2 dX1_swapRows_51) (seq (p := 52) (q := 53) (r := 60) (p_iload_n 3 dX1_swapRows_52) (seq (p := 53) (q := 54) (r := 60) (p_iast dX1_swapRows_53) (seq (p := 54) (q := 57) (r := 60) (p_iinc 2 1 dX1_swapRows_54 (Nat.le_of_ble_eq_true rfl)) (seq (p := 57) (q := 57) (r := 60) (er [true, false, true, false]) (seq (p := 57) (q := 60) (r := 60) (p_goto 20 dX1_swapRows_57 (by decide)) done))))))))))))))))))))))))
noncomputable def B_X1_swapRows_L20 (l : Launch) (δ : Dl) : Seg (l, δ, yX1_swapRows, 0, none, cX1_swapRows, 4) 20 60 := C_X1_swapRows_L20 l δ
theorem L_X1_swapRows_20 {l : Launch} {δ : Dl} {st : Stk} {L : Lc} {s : St} : (B_X1_swapRows_L20 l δ).1 st L s = (C_X1_swapRows_L20 l δ).1 st L s := nrfl rfl
noncomputable def B_X1_swapRows (l : Launch) (δ : Dl) : Seg (l, δ, yX1_swapRows, 0, none, cX1_swapRows, 4) 0 61 :=
  seq (p := 0) (q := 1) (r := 61) (p_aload_n 0 dX1_swapRows_0) (seq (p := 1) (q := 4) (r := 61) (p_get [(1, 5)] (alL1 fl_X1_163_1) dX1_swapRows_1) (seq (p := 4) (q := 5) (r := 61) (p_istore_n 1 dX1_swapRows_4 (Nat.le_of_ble_eq_true rfl)) (seq (p := 5) (q := 6) (r := 61) (p_aload_n 0 dX1_swapRows_5) (seq (p := 6) (q := 7) (r := 61) (p_aload_n 0 dX1_swapRows_6) (seq (p := 7) (q := 10) (r := 61) (p_get [(1, 6)] (alL1 fl_X1_166_1) dX1_swapRows_7) (seq (p := 10) (q := 13) (r := 61) (p_put [(1, 5)] .int (alP1 fp_X1_163_1) dX1_swapRows_10) (seq (p := 13) (q := 14) (r := 61) (p_aload_n 0 dX1_swapRows_13) (seq (p := 14) (q := 15) (r := 61) (p_iload_n 1 dX1_swapRows_14) (seq (p := 15) (q := 18) (r := 61) (p_put [(1, 6)] .int (alP1 fp_X1_166_1) dX1_swapRows_15) (seq (p := 18) (q := 19) (r := 61) (p_iconst 0 dX1_swapRows_18) (seq (p := 19) (q := 20) (r := 61) (p_istore_n 2 dX1_swapRows_19 (Nat.le_of_ble_eq_true rfl)) (seq (p := 20) (q := 60) (r := 61) (blk (seq (p := 20) (q := 20) (r := 60) (er [true, false, true, false]) (seq (p := 20) (q := 60) (r := 60) (lp (B_X1_swapRows_L20 l δ)) done))) (seq (p := 60) (q := 61) (r := 61) (p_return dX1_swapRows_60 rfl) done)))))))))))))
noncomputable def M_X1_swapRows (l : Launch) (δ : Dl) : Mth l δ yX1_swapRows cX1_swapRows 4 none 0 := mk (B_X1_swapRows l δ) (by decide)
theorem N_X1_swapRows {l : Launch} {δ : Dl} {o : Nat} {s : St} : (M_X1_swapRows l δ).1 [.inr (.inr (some o))] s = bres ((B_X1_swapRows l δ).1 [] [some (.inr (.inr (some o))), none, none, none] s) := (mk_eq (hy := by decide) rfl).trans (nrfl rfl)
theorem dX1_beginPick_0 : decode cX1_beginPick 0 = .ok (.iload_n 1, 1) := by decide +kernel
theorem dX1_beginPick_1 : decode cX1_beginPick 1 = .ok (.bipush 10, 2) := by decide +kernel
theorem dX1_beginPick_3 : decode cX1_beginPick 3 = .ok (.if_icmp .lt 14, 3) := by decide +kernel
theorem dX1_beginPick_6 : decode cX1_beginPick 6 = .ok (.aload_n 0, 1) := by decide +kernel
theorem dX1_beginPick_7 : decode cX1_beginPick 7 = .ok (.iconst 1, 1) := by decide +kernel
theorem dX1_beginPick_8 : decode cX1_beginPick 8 = .ok (.iconst 0, 1) := by decide +kernel
theorem dX1_beginPick_9 : decode cX1_beginPick 9 = .ok (.iconst 0, 1) := by decide +kernel
theorem dX1_beginPick_10 : decode cX1_beginPick 10 = .ok (.invokevirtual 262, 3) := by decide +kernel
theorem dX1_beginPick_13 : decode cX1_beginPick 13 = .ok (.aload_n 0, 1) := by decide +kernel
theorem dX1_beginPick_14 : decode cX1_beginPick 14 = .ok (.invokevirtual 350, 3) := by decide +kernel
theorem dX1_beginPick_17 : decode cX1_beginPick 17 = .ok (.aload_n 0, 1) := by decide +kernel
theorem dX1_beginPick_18 : decode cX1_beginPick 18 = .ok (.iconst 3, 1) := by decide +kernel
theorem dX1_beginPick_19 : decode cX1_beginPick 19 = .ok (.aload_n 0, 1) := by decide +kernel
theorem dX1_beginPick_20 : decode cX1_beginPick 20 = .ok (.getfield 169, 3) := by decide +kernel
theorem dX1_beginPick_23 : decode cX1_beginPick 23 = .ok (.iconst 0, 1) := by decide +kernel
theorem dX1_beginPick_24 : decode cX1_beginPick 24 = .ok (.invokevirtual 262, 3) := by decide +kernel
theorem dX1_beginPick_27 : decode cX1_beginPick 27 = .ok (.aload_n 0, 1) := by decide +kernel
theorem dX1_beginPick_28 : decode cX1_beginPick 28 = .ok (.iconst 4, 1) := by decide +kernel
theorem dX1_beginPick_29 : decode cX1_beginPick 29 = .ok (.iconst 0, 1) := by decide +kernel
theorem dX1_beginPick_30 : decode cX1_beginPick 30 = .ok (.iconst 0, 1) := by decide +kernel
theorem dX1_beginPick_31 : decode cX1_beginPick 31 = .ok (.invokevirtual 262, 3) := by decide +kernel
theorem dX1_beginPick_34 : decode cX1_beginPick 34 = .ok (.aload_n 0, 1) := by decide +kernel
theorem dX1_beginPick_35 : decode cX1_beginPick 35 = .ok (.getfield 234, 3) := by decide +kernel
theorem dX1_beginPick_38 : decode cX1_beginPick 38 = .ok (.iconst 1, 1) := by decide +kernel
theorem dX1_beginPick_39 : decode cX1_beginPick 39 = .ok (.isub, 1) := by decide +kernel
theorem dX1_beginPick_40 : decode cX1_beginPick 40 = .ok (.ireturn, 1) := by decide +kernel
noncomputable def B_X1_beginPick (l : Launch) (δ : Dl) : Seg (l, δ, yX1_beginPick, 1, (some .int), cX1_beginPick, 2) 0 41 :=
  seq (p := 0) (q := 1) (r := 41) (p_iload_n 1 dX1_beginPick_0) (seq (p := 1) (q := 3) (r := 41) (p_bipush 10 dX1_beginPick_1 (by decide)) (seq (p := 3) (q := 17) (r := 41) (blk (seq (p := 3) (q := 6) (r := 17) (p_icmp_lt 17 dX1_beginPick_3 (by decide)) (seq (p := 6) (q := 7) (r := 17) (p_aload_n 0 dX1_beginPick_6) (seq (p := 7) (q := 8) (r := 17) (p_iconst 1 dX1_beginPick_7) (seq (p := 8) (q := 9) (r := 17) (p_iconst 0 dX1_beginPick_8) (seq (p := 9) (q := 10) (r := 17) (p_iconst 0 dX1_beginPick_9) (seq (p := 10) (q := 13) (r := 17) (p_callV 1 cv_X1_262 hcR1 (M_X1_emit l δ) (Nat.le_of_ble_eq_true rfl) dX1_beginPick_10) (seq (p := 13) (q := 14) (r := 17) (p_aload_n 0 dX1_beginPick_13) (seq (p := 14) (q := 17) (r := 17) (p_callV 1 cv_X1_350 hcR1 (M_X1_swapRows l δ) (Nat.le_of_ble_eq_true rfl) dX1_beginPick_14) done))))))))) (seq (p := 17) (q := 18) (r := 41) (p_aload_n 0 dX1_beginPick_17) (seq (p := 18) (q := 19) (r := 41) (p_iconst 3 dX1_beginPick_18) (seq (p := 19) (q := 20) (r := 41) (p_aload_n 0 dX1_beginPick_19) (seq (p := 20) (q := 23) (r := 41) (p_get [(1, 7)] (alL1 fl_X1_169_1) dX1_beginPick_20) (seq (p := 23) (q := 24) (r := 41) (p_iconst 0 dX1_beginPick_23) (seq (p := 24) (q := 27) (r := 41) (p_callV 1 cv_X1_262 hcR1 (M_X1_emit l δ) (Nat.le_of_ble_eq_true rfl) dX1_beginPick_24) (seq (p := 27) (q := 28) (r := 41) (p_aload_n 0 dX1_beginPick_27) (seq (p := 28) (q := 29) (r := 41) (p_iconst 4 dX1_beginPick_28) (seq (p := 29) (q := 30) (r := 41) (p_iconst 0 dX1_beginPick_29) (seq (p := 30) (q := 31) (r := 41) (p_iconst 0 dX1_beginPick_30) (seq (p := 31) (q := 34) (r := 41) (p_callV 1 cv_X1_262 hcR1 (M_X1_emit l δ) (Nat.le_of_ble_eq_true rfl) dX1_beginPick_31) (seq (p := 34) (q := 35) (r := 41) (p_aload_n 0 dX1_beginPick_34) (seq (p := 35) (q := 38) (r := 41) (p_get [(1, 23)] (alL1 fl_X1_234_1) dX1_beginPick_35) (seq (p := 38) (q := 39) (r := 41) (p_iconst 1 dX1_beginPick_38) (seq (p := 39) (q := 40) (r := 41) (p_isub dX1_beginPick_39) (seq (p := 40) (q := 41) (r := 41) (p_ireturn dX1_beginPick_40 rfl) done))))))))))))))))))
noncomputable def M_X1_beginPick (l : Launch) (δ : Dl) : Mth l δ yX1_beginPick cX1_beginPick 2 (some .int) 1 := mk (B_X1_beginPick l δ) (by decide)
theorem N_X1_beginPick {l : Launch} {δ : Dl} {o : Nat} {a1 : Int} {s : St} : (M_X1_beginPick l δ).1 [.inr (.inr (some o)), .inl a1] s = bres ((B_X1_beginPick l δ).1 [] [some (.inr (.inr (some o))), some (.inl a1)] s) := (mk_eq (hy := by decide) rfl).trans (nrfl rfl)
theorem dX1_closeParts_0 : decode cX1_closeParts 0 = .ok (.aload_n 0, 1) := by decide +kernel
theorem dX1_closeParts_1 : decode cX1_closeParts 1 = .ok (.getfield 56, 3) := by decide +kernel
theorem dX1_closeParts_4 : decode cX1_closeParts 4 = .ok (.iload_n 1, 1) := by decide +kernel
theorem dX1_closeParts_5 : decode cX1_closeParts 5 = .ok (.iload_n 2, 1) := by decide +kernel
theorem dX1_closeParts_6 : decode cX1_closeParts 6 = .ok (.iastore, 1) := by decide +kernel
theorem dX1_closeParts_7 : decode cX1_closeParts 7 = .ok (.iload_n 2, 1) := by decide +kernel
theorem dX1_closeParts_8 : decode cX1_closeParts 8 = .ok (.iconst 1, 1) := by decide +kernel
theorem dX1_closeParts_9 : decode cX1_closeParts 9 = .ok (.if_icmp .ne 73, 3) := by decide +kernel
theorem dX1_closeParts_12 : decode cX1_closeParts 12 = .ok (.iload_n 1, 1) := by decide +kernel
theorem dX1_closeParts_13 : decode cX1_closeParts 13 = .ok (.istore_n 3, 1) := by decide +kernel
theorem dX1_closeParts_14 : decode cX1_closeParts 14 = .ok (.iload_n 3, 1) := by decide +kernel
theorem dX1_closeParts_15 : decode cX1_closeParts 15 = .ok (.iconst 1, 1) := by decide +kernel
theorem dX1_closeParts_16 : decode cX1_closeParts 16 = .ok (.iadd, 1) := by decide +kernel
theorem dX1_closeParts_17 : decode cX1_closeParts 17 = .ok (.aload_n 0, 1) := by decide +kernel
theorem dX1_closeParts_18 : decode cX1_closeParts 18 = .ok (.getfield 234, 3) := by decide +kernel
theorem dX1_closeParts_21 : decode cX1_closeParts 21 = .ok (.if_icmp .ge 51, 3) := by decide +kernel
theorem dX1_closeParts_24 : decode cX1_closeParts 24 = .ok (.aload_n 0, 1) := by decide +kernel
theorem dX1_closeParts_25 : decode cX1_closeParts 25 = .ok (.getfield 53, 3) := by decide +kernel
theorem dX1_closeParts_28 : decode cX1_closeParts 28 = .ok (.iload_n 3, 1) := by decide +kernel
theorem dX1_closeParts_29 : decode cX1_closeParts 29 = .ok (.aload_n 0, 1) := by decide +kernel
theorem dX1_closeParts_30 : decode cX1_closeParts 30 = .ok (.getfield 53, 3) := by decide +kernel
theorem dX1_closeParts_33 : decode cX1_closeParts 33 = .ok (.iload_n 3, 1) := by decide +kernel
theorem dX1_closeParts_34 : decode cX1_closeParts 34 = .ok (.iconst 1, 1) := by decide +kernel
theorem dX1_closeParts_35 : decode cX1_closeParts 35 = .ok (.iadd, 1) := by decide +kernel
theorem dX1_closeParts_36 : decode cX1_closeParts 36 = .ok (.baload, 1) := by decide +kernel
theorem dX1_closeParts_37 : decode cX1_closeParts 37 = .ok (.bastore, 1) := by decide +kernel
theorem dX1_closeParts_38 : decode cX1_closeParts 38 = .ok (.aload_n 0, 1) := by decide +kernel
theorem dX1_closeParts_39 : decode cX1_closeParts 39 = .ok (.getfield 56, 3) := by decide +kernel
theorem dX1_closeParts_42 : decode cX1_closeParts 42 = .ok (.iload_n 3, 1) := by decide +kernel
theorem dX1_closeParts_43 : decode cX1_closeParts 43 = .ok (.aload_n 0, 1) := by decide +kernel
theorem dX1_closeParts_44 : decode cX1_closeParts 44 = .ok (.getfield 56, 3) := by decide +kernel
theorem dX1_closeParts_47 : decode cX1_closeParts 47 = .ok (.iload_n 3, 1) := by decide +kernel
theorem dX1_closeParts_48 : decode cX1_closeParts 48 = .ok (.iconst 1, 1) := by decide +kernel
theorem dX1_closeParts_49 : decode cX1_closeParts 49 = .ok (.iadd, 1) := by decide +kernel
theorem dX1_closeParts_50 : decode cX1_closeParts 50 = .ok (.iaload, 1) := by decide +kernel
theorem dX1_closeParts_51 : decode cX1_closeParts 51 = .ok (.iastore, 1) := by decide +kernel
theorem dX1_closeParts_52 : decode cX1_closeParts 52 = .ok (.aload_n 0, 1) := by decide +kernel
theorem dX1_closeParts_53 : decode cX1_closeParts 53 = .ok (.getfield 59, 3) := by decide +kernel
theorem dX1_closeParts_56 : decode cX1_closeParts 56 = .ok (.iload_n 3, 1) := by decide +kernel
theorem dX1_closeParts_57 : decode cX1_closeParts 57 = .ok (.aload_n 0, 1) := by decide +kernel
theorem dX1_closeParts_58 : decode cX1_closeParts 58 = .ok (.getfield 59, 3) := by decide +kernel
theorem dX1_closeParts_61 : decode cX1_closeParts 61 = .ok (.iload_n 3, 1) := by decide +kernel
theorem dX1_closeParts_62 : decode cX1_closeParts 62 = .ok (.iconst 1, 1) := by decide +kernel
theorem dX1_closeParts_63 : decode cX1_closeParts 63 = .ok (.iadd, 1) := by decide +kernel
theorem dX1_closeParts_64 : decode cX1_closeParts 64 = .ok (.baload, 1) := by decide +kernel
theorem dX1_closeParts_65 : decode cX1_closeParts 65 = .ok (.bastore, 1) := by decide +kernel
theorem dX1_closeParts_66 : decode cX1_closeParts 66 = .ok (.iinc 3 1, 3) := by decide +kernel
theorem dX1_closeParts_69 : decode cX1_closeParts 69 = .ok (.goto (-55), 3) := by decide +kernel
theorem dX1_closeParts_72 : decode cX1_closeParts 72 = .ok (.aload_n 0, 1) := by decide +kernel
theorem dX1_closeParts_73 : decode cX1_closeParts 73 = .ok (.dup, 1) := by decide +kernel
theorem dX1_closeParts_74 : decode cX1_closeParts 74 = .ok (.getfield 234, 3) := by decide +kernel
theorem dX1_closeParts_77 : decode cX1_closeParts 77 = .ok (.iconst 1, 1) := by decide +kernel
theorem dX1_closeParts_78 : decode cX1_closeParts 78 = .ok (.isub, 1) := by decide +kernel
theorem dX1_closeParts_79 : decode cX1_closeParts 79 = .ok (.putfield 234, 3) := by decide +kernel
theorem dX1_closeParts_82 : decode cX1_closeParts 82 = .ok (.return_, 1) := by decide +kernel
noncomputable def C_X1_closeParts_L14 (l : Launch) (δ : Dl) : Seg (l, δ, yX1_closeParts, 0, none, cX1_closeParts, 4) 14 72 :=
  seq (p := 14) (q := 15) (r := 72) (p_iload_n 3 dX1_closeParts_14) (seq (p := 15) (q := 16) (r := 72) (p_iconst 1 dX1_closeParts_15) (seq (p := 16) (q := 17) (r := 72) (p_iadd dX1_closeParts_16) (seq (p := 17) (q := 18) (r := 72) (p_aload_n 0 dX1_closeParts_17) (seq (p := 18) (q := 21) (r := 72) (p_get [(1, 23)] (alL1 fl_X1_234_1) dX1_closeParts_18) (seq (p := 21) (q := 24) (r := 72) (p_icmp_ge 72 dX1_closeParts_21 (by decide)) (seq (p := 24) (q := 25) (r := 72) (p_aload_n 0 dX1_closeParts_24) (seq (p := 25) (q := 28) (r := 72) (p_get [(1, 24)] (alL1 fl_X1_53_1) dX1_closeParts_25) (seq (p := 28) (q := 29) (r := 72) (p_iload_n 3 dX1_closeParts_28) (seq (p := 29) (q := 30) (r := 72) (p_aload_n 0 dX1_closeParts_29) (seq (p := 30) (q := 33) (r := 72) (p_get [(1, 24)] (alL1 fl_X1_53_1) dX1_closeParts_30) (seq (p := 33) (q := 34) (r := 72) (p_iload_n 3 dX1_closeParts_33) (seq (p := 34) (q := 35) (r := 72) (p_iconst 1 dX1_closeParts_34) (seq (p := 35) (q := 36) (r := 72) (p_iadd dX1_closeParts_35) (seq (p := 36) (q := 37) (r := 72) (p_bald dX1_closeParts_36) (seq (p := 37) (q := 38) (r := 72) (p_bast dX1_closeParts_37) (seq (p := 38) (q := 39) (r := 72) (p_aload_n 0 dX1_closeParts_38) (seq (p := 39) (q := 42) (r := 72) (p_get [(1, 25)] (alL1 fl_X1_56_1) dX1_closeParts_39) (seq (p := 42) (q := 43) (r := 72) (p_iload_n 3 dX1_closeParts_42) (seq (p := 43) (q := 44) (r := 72) (p_aload_n 0 dX1_closeParts_43) (seq (p := 44) (q := 47) (r := 72) (p_get [(1, 25)] (alL1 fl_X1_56_1) dX1_closeParts_44) (seq (p := 47) (q := 48) (r := 72) (p_iload_n 3 dX1_closeParts_47) (seq (p := 48) (q := 49) (r := 72) (p_iconst 1 dX1_closeParts_48) (seq (p := 49) (q := 50) (r := 72) (p_iadd dX1_closeParts_49) (seq (p := 50) (q := 51) (r := 72) (p_iald dX1_closeParts_50) (seq (p := 51) (q := 52) (r := 72) (p_iast dX1_closeParts_51) (seq (p := 52) (q := 53) (r := 72) (p_aload_n 0 dX1_closeParts_52) (seq (p := 53) (q := 56) (r := 72) (p_get [(1, 26)] (alL1 fl_X1_59_1) dX1_closeParts_53) (seq (p := 56) (q := 57) (r := 72) (p_iload_n 3 dX1_closeParts_56) (seq (p := 57) (q := 58) (r := 72) (p_aload_n 0 dX1_closeParts_57) (seq (p := 58) (q := 61) (r := 72) (p_get [(1, 26)] (alL1 fl_X1_59_1) dX1_closeParts_58) (seq (p := 61) (q := 62) (r := 72) (p_iload_n 3 dX1_closeParts_61) (seq (p := 62) (q := 63) (r := 72) (p_iconst 1 dX1_closeParts_62) (seq (p := 63) (q := 64) (r := 72) (p_iadd dX1_closeParts_63) (seq (p := 64) (q := 65) (r := 72) (p_bald dX1_closeParts_64) (seq (p := 65) (q := 66) (r := 72) (p_bast dX1_closeParts_65) (seq (p := 66) (q := 69) (r := 72) (p_iinc 3 1 dX1_closeParts_66 (Nat.le_of_ble_eq_true rfl)) (seq (p := 69) (q := 69) (r := 72) (er [true, false, false, true]) (seq (p := 69) (q := 72) (r := 72) (p_goto 14 dX1_closeParts_69 (by decide)) done))))))))))))))))))))))))))))))))))))))
noncomputable def B_X1_closeParts_L14 (l : Launch) (δ : Dl) : Seg (l, δ, yX1_closeParts, 0, none, cX1_closeParts, 4) 14 72 := C_X1_closeParts_L14 l δ
theorem L_X1_closeParts_14 {l : Launch} {δ : Dl} {st : Stk} {L : Lc} {s : St} : (B_X1_closeParts_L14 l δ).1 st L s = (C_X1_closeParts_L14 l δ).1 st L s := nrfl rfl
noncomputable def B_X1_closeParts (l : Launch) (δ : Dl) : Seg (l, δ, yX1_closeParts, 0, none, cX1_closeParts, 4) 0 83 :=
  seq (p := 0) (q := 1) (r := 83) (p_aload_n 0 dX1_closeParts_0) (seq (p := 1) (q := 4) (r := 83) (p_get [(1, 25)] (alL1 fl_X1_56_1) dX1_closeParts_1) (seq (p := 4) (q := 5) (r := 83) (p_iload_n 1 dX1_closeParts_4) (seq (p := 5) (q := 6) (r := 83) (p_iload_n 2 dX1_closeParts_5) (seq (p := 6) (q := 7) (r := 83) (p_iast dX1_closeParts_6) (seq (p := 7) (q := 8) (r := 83) (p_iload_n 2 dX1_closeParts_7) (seq (p := 8) (q := 9) (r := 83) (p_iconst 1 dX1_closeParts_8) (seq (p := 9) (q := 82) (r := 83) (blk (seq (p := 9) (q := 12) (r := 82) (p_icmp_ne 82 dX1_closeParts_9 (by decide)) (seq (p := 12) (q := 13) (r := 82) (p_iload_n 1 dX1_closeParts_12) (seq (p := 13) (q := 14) (r := 82) (p_istore_n 3 dX1_closeParts_13 (Nat.le_of_ble_eq_true rfl)) (seq (p := 14) (q := 72) (r := 82) (blk (seq (p := 14) (q := 14) (r := 72) (er [true, false, false, true]) (seq (p := 14) (q := 72) (r := 72) (lp (B_X1_closeParts_L14 l δ)) done))) (seq (p := 72) (q := 73) (r := 82) (p_aload_n 0 dX1_closeParts_72) (seq (p := 73) (q := 74) (r := 82) (p_dup dX1_closeParts_73) (seq (p := 74) (q := 77) (r := 82) (p_get [(1, 23)] (alL1 fl_X1_234_1) dX1_closeParts_74) (seq (p := 77) (q := 78) (r := 82) (p_iconst 1 dX1_closeParts_77) (seq (p := 78) (q := 79) (r := 82) (p_isub dX1_closeParts_78) (seq (p := 79) (q := 82) (r := 82) (p_put [(1, 23)] .int (alP1 fp_X1_234_1) dX1_closeParts_79) done))))))))))) (seq (p := 82) (q := 83) (r := 83) (p_return dX1_closeParts_82 rfl) done))))))))
noncomputable def M_X1_closeParts (l : Launch) (δ : Dl) : Mth l δ yX1_closeParts cX1_closeParts 4 none 0 := mk (B_X1_closeParts l δ) (by decide)
theorem N_X1_closeParts {l : Launch} {δ : Dl} {o : Nat} {a1 : Int} {a2 : Int} {s : St} : (M_X1_closeParts l δ).1 [.inr (.inr (some o)), .inl a1, .inl a2] s = bres ((B_X1_closeParts l δ).1 [] [some (.inr (.inr (some o))), some (.inl a1), some (.inl a2), none] s) := (mk_eq (hy := by decide) rfl).trans (nrfl rfl)
theorem dX1_endPick_0 : decode cX1_endPick 0 = .ok (.iload_n 1, 1) := by decide +kernel
theorem dX1_endPick_1 : decode cX1_endPick 1 = .ok (.bipush 10, 2) := by decide +kernel
theorem dX1_endPick_3 : decode cX1_endPick 3 = .ok (.if_icmp .lt 7, 3) := by decide +kernel
theorem dX1_endPick_6 : decode cX1_endPick 6 = .ok (.aload_n 0, 1) := by decide +kernel
theorem dX1_endPick_7 : decode cX1_endPick 7 = .ok (.invokevirtual 350, 3) := by decide +kernel
theorem dX1_endPick_10 : decode cX1_endPick 10 = .ok (.return_, 1) := by decide +kernel
noncomputable def B_X1_endPick (l : Launch) (δ : Dl) : Seg (l, δ, yX1_endPick, 1, none, cX1_endPick, 2) 0 11 :=
  seq (p := 0) (q := 1) (r := 11) (p_iload_n 1 dX1_endPick_0) (seq (p := 1) (q := 3) (r := 11) (p_bipush 10 dX1_endPick_1 (by decide)) (seq (p := 3) (q := 10) (r := 11) (blk (seq (p := 3) (q := 6) (r := 10) (p_icmp_lt 10 dX1_endPick_3 (by decide)) (seq (p := 6) (q := 7) (r := 10) (p_aload_n 0 dX1_endPick_6) (seq (p := 7) (q := 10) (r := 10) (p_callV 1 cv_X1_350 hcR1 (M_X1_swapRows l δ) (Nat.le_of_ble_eq_true rfl) dX1_endPick_7) done)))) (seq (p := 10) (q := 11) (r := 11) (p_return dX1_endPick_10 rfl) done)))
noncomputable def M_X1_endPick (l : Launch) (δ : Dl) : Mth l δ yX1_endPick cX1_endPick 2 none 1 := mk (B_X1_endPick l δ) (by decide)
theorem N_X1_endPick {l : Launch} {δ : Dl} {o : Nat} {a1 : Int} {s : St} : (M_X1_endPick l δ).1 [.inr (.inr (some o)), .inl a1] s = bres ((B_X1_endPick l δ).1 [] [some (.inr (.inr (some o))), some (.inl a1)] s) := (mk_eq (hy := by decide) rfl).trans (nrfl rfl)
theorem dX1_stops_0 : decode cX1_stops 0 = .ok (.iconst 1, 1) := by decide +kernel
theorem dX1_stops_1 : decode cX1_stops 1 = .ok (.istore_n 2, 1) := by decide +kernel
theorem dX1_stops_2 : decode cX1_stops 2 = .ok (.iload_n 1, 1) := by decide +kernel
theorem dX1_stops_3 : decode cX1_stops 3 = .ok (.istore_n 3, 1) := by decide +kernel
theorem dX1_stops_4 : decode cX1_stops 4 = .ok (.iload_n 2, 1) := by decide +kernel
theorem dX1_stops_5 : decode cX1_stops 5 = .ok (.ifCond .le 54, 3) := by decide +kernel
theorem dX1_stops_8 : decode cX1_stops 8 = .ok (.aload_n 0, 1) := by decide +kernel
theorem dX1_stops_9 : decode cX1_stops 9 = .ok (.getfield 53, 3) := by decide +kernel
theorem dX1_stops_12 : decode cX1_stops 12 = .ok (.iload_n 3, 1) := by decide +kernel
theorem dX1_stops_13 : decode cX1_stops 13 = .ok (.baload, 1) := by decide +kernel
theorem dX1_stops_14 : decode cX1_stops 14 = .ok (.istore 4, 2) := by decide +kernel
theorem dX1_stops_16 : decode cX1_stops 16 = .ok (.iload_n 2, 1) := by decide +kernel
theorem dX1_stops_17 : decode cX1_stops 17 = .ok (.iload 4, 2) := by decide +kernel
theorem dX1_stops_19 : decode cX1_stops 19 = .ok (.iconst 4, 1) := by decide +kernel
theorem dX1_stops_20 : decode cX1_stops 20 = .ok (.if_icmp .eq 9, 3) := by decide +kernel
theorem dX1_stops_23 : decode cX1_stops 23 = .ok (.iload 4, 2) := by decide +kernel
theorem dX1_stops_25 : decode cX1_stops 25 = .ok (.iconst 5, 1) := by decide +kernel
theorem dX1_stops_26 : decode cX1_stops 26 = .ok (.if_icmp .ne 12, 3) := by decide +kernel
theorem dX1_stops_29 : decode cX1_stops 29 = .ok (.aload_n 0, 1) := by decide +kernel
theorem dX1_stops_30 : decode cX1_stops 30 = .ok (.getfield 56, 3) := by decide +kernel
theorem dX1_stops_33 : decode cX1_stops 33 = .ok (.iload_n 3, 1) := by decide +kernel
theorem dX1_stops_34 : decode cX1_stops 34 = .ok (.iaload, 1) := by decide +kernel
theorem dX1_stops_35 : decode cX1_stops 35 = .ok (.goto 14, 3) := by decide +kernel
theorem dX1_stops_38 : decode cX1_stops 38 = .ok (.iload 4, 2) := by decide +kernel
theorem dX1_stops_40 : decode cX1_stops 40 = .ok (.iconst 3, 1) := by decide +kernel
theorem dX1_stops_41 : decode cX1_stops 41 = .ok (.if_icmp .gt 7, 3) := by decide +kernel
theorem dX1_stops_44 : decode cX1_stops 44 = .ok (.iconst 1, 1) := by decide +kernel
theorem dX1_stops_45 : decode cX1_stops 45 = .ok (.goto 4, 3) := by decide +kernel
theorem dX1_stops_48 : decode cX1_stops 48 = .ok (.iconst 0, 1) := by decide +kernel
theorem dX1_stops_49 : decode cX1_stops 49 = .ok (.iconst 1, 1) := by decide +kernel
theorem dX1_stops_50 : decode cX1_stops 50 = .ok (.isub, 1) := by decide +kernel
theorem dX1_stops_51 : decode cX1_stops 51 = .ok (.iadd, 1) := by decide +kernel
theorem dX1_stops_52 : decode cX1_stops 52 = .ok (.istore_n 2, 1) := by decide +kernel
theorem dX1_stops_53 : decode cX1_stops 53 = .ok (.iinc 3 1, 3) := by decide +kernel
theorem dX1_stops_56 : decode cX1_stops 56 = .ok (.goto (-52), 3) := by decide +kernel
theorem dX1_stops_59 : decode cX1_stops 59 = .ok (.iload_n 3, 1) := by decide +kernel
theorem dX1_stops_60 : decode cX1_stops 60 = .ok (.ireturn, 1) := by decide +kernel
noncomputable def C_X1_stops_L4 (l : Launch) (δ : Dl) : Seg (l, δ, yX1_stops, 0, (some .int), cX1_stops, 5) 4 59 :=
  seq (p := 4) (q := 5) (r := 59) (p_iload_n 2 dX1_stops_4) (seq (p := 5) (q := 8) (r := 59) (p_if_le 59 dX1_stops_5 (by decide)) (seq (p := 8) (q := 9) (r := 59) (p_aload_n 0 dX1_stops_8) (seq (p := 9) (q := 12) (r := 59) (p_get [(1, 24)] (alL1 fl_X1_53_1) dX1_stops_9) (seq (p := 12) (q := 13) (r := 59) (p_iload_n 3 dX1_stops_12) (seq (p := 13) (q := 14) (r := 59) (p_bald dX1_stops_13) (seq (p := 14) (q := 16) (r := 59) (p_istore 4 dX1_stops_14 (Nat.le_of_ble_eq_true rfl)) (seq (p := 16) (q := 17) (r := 59) (p_iload_n 2 dX1_stops_16) (seq (p := 17) (q := 19) (r := 59) (p_iload 4 dX1_stops_17) (seq (p := 19) (q := 20) (r := 59) (p_iconst 4 dX1_stops_19) (seq (p := 20) (q := 49) (r := 59) (blk (seq (p := 20) (q := 38) (r := 49) (blk (seq (p := 20) (q := 29) (r := 38) (blk (seq (p := 20) (q := 23) (r := 29) (p_icmp_eq 29 dX1_stops_20 (by decide)) (seq (p := 23) (q := 25) (r := 29) (p_iload 4 dX1_stops_23) (seq (p := 25) (q := 26) (r := 29) (p_iconst 5 dX1_stops_25) (seq (p := 26) (q := 29) (r := 29) (p_icmp_ne 38 dX1_stops_26 (by decide)) done))))) (seq (p := 29) (q := 30) (r := 38) (p_aload_n 0 dX1_stops_29) (seq (p := 30) (q := 33) (r := 38) (p_get [(1, 25)] (alL1 fl_X1_56_1) dX1_stops_30) (seq (p := 33) (q := 34) (r := 38) (p_iload_n 3 dX1_stops_33) (seq (p := 34) (q := 35) (r := 38) (p_iald dX1_stops_34) (seq (p := 35) (q := 38) (r := 38) (p_goto 49 dX1_stops_35 (by decide)) done))))))) (seq (p := 38) (q := 40) (r := 49) (p_iload 4 dX1_stops_38) (seq (p := 40) (q := 41) (r := 49) (p_iconst 3 dX1_stops_40) (seq (p := 41) (q := 48) (r := 49) (blk (seq (p := 41) (q := 44) (r := 48) (p_icmp_gt 48 dX1_stops_41 (by decide)) (seq (p := 44) (q := 45) (r := 48) (p_iconst 1 dX1_stops_44) (seq (p := 45) (q := 48) (r := 48) (p_goto 49 dX1_stops_45 (by decide)) done)))) (seq (p := 48) (q := 49) (r := 49) (p_iconst 0 dX1_stops_48) done)))))) (seq (p := 49) (q := 50) (r := 59) (p_iconst 1 dX1_stops_49) (seq (p := 50) (q := 51) (r := 59) (p_isub dX1_stops_50) (seq (p := 51) (q := 52) (r := 59) (p_iadd dX1_stops_51) (seq (p := 52) (q := 53) (r := 59) (p_istore_n 2 dX1_stops_52 (Nat.le_of_ble_eq_true rfl)) (seq (p := 53) (q := 56) (r := 59) (p_iinc 3 1 dX1_stops_53 (Nat.le_of_ble_eq_true rfl)) (seq (p := 56) (q := 56) (r := 59) (er [true, false, true, true, false]) (seq (p := 56) (q := 59) (r := 59) (p_goto 4 dX1_stops_56 (by decide)) done)))))))))))))))))
noncomputable def B_X1_stops_L4 (l : Launch) (δ : Dl) : Seg (l, δ, yX1_stops, 0, (some .int), cX1_stops, 5) 4 59 := C_X1_stops_L4 l δ
theorem L_X1_stops_4 {l : Launch} {δ : Dl} {st : Stk} {L : Lc} {s : St} : (B_X1_stops_L4 l δ).1 st L s = (C_X1_stops_L4 l δ).1 st L s := nrfl rfl
noncomputable def B_X1_stops (l : Launch) (δ : Dl) : Seg (l, δ, yX1_stops, 0, (some .int), cX1_stops, 5) 0 61 :=
  seq (p := 0) (q := 1) (r := 61) (p_iconst 1 dX1_stops_0) (seq (p := 1) (q := 2) (r := 61) (p_istore_n 2 dX1_stops_1 (Nat.le_of_ble_eq_true rfl)) (seq (p := 2) (q := 3) (r := 61) (p_iload_n 1 dX1_stops_2) (seq (p := 3) (q := 4) (r := 61) (p_istore_n 3 dX1_stops_3 (Nat.le_of_ble_eq_true rfl)) (seq (p := 4) (q := 59) (r := 61) (blk (seq (p := 4) (q := 4) (r := 59) (er [true, false, true, true, false]) (seq (p := 4) (q := 59) (r := 59) (lp (B_X1_stops_L4 l δ)) done))) (seq (p := 59) (q := 60) (r := 61) (p_iload_n 3 dX1_stops_59) (seq (p := 60) (q := 61) (r := 61) (p_ireturn dX1_stops_60 rfl) done))))))
noncomputable def M_X1_stops (l : Launch) (δ : Dl) : Mth l δ yX1_stops cX1_stops 5 (some .int) 0 := mk (B_X1_stops l δ) (by decide)
theorem N_X1_stops {l : Launch} {δ : Dl} {o : Nat} {a1 : Int} {s : St} : (M_X1_stops l δ).1 [.inr (.inr (some o)), .inl a1] s = bres ((B_X1_stops l δ).1 [] [some (.inr (.inr (some o))), some (.inl a1), none, none, none] s) := (mk_eq (hy := by decide) rfl).trans (nrfl rfl)
theorem dX1_keepUnlike_0 : decode cX1_keepUnlike 0 = .ok (.iload_n 1, 1) := by decide +kernel
theorem dX1_keepUnlike_1 : decode cX1_keepUnlike 1 = .ok (.istore 4, 2) := by decide +kernel
theorem dX1_keepUnlike_3 : decode cX1_keepUnlike 3 = .ok (.iconst 0, 1) := by decide +kernel
theorem dX1_keepUnlike_4 : decode cX1_keepUnlike 4 = .ok (.istore 5, 2) := by decide +kernel
theorem dX1_keepUnlike_6 : decode cX1_keepUnlike 6 = .ok (.iload 5, 2) := by decide +kernel
theorem dX1_keepUnlike_8 : decode cX1_keepUnlike 8 = .ok (.iload_n 3, 1) := by decide +kernel
theorem dX1_keepUnlike_9 : decode cX1_keepUnlike 9 = .ok (.if_icmp .ge 152, 3) := by decide +kernel
theorem dX1_keepUnlike_12 : decode cX1_keepUnlike 12 = .ok (.aload_n 0, 1) := by decide +kernel
theorem dX1_keepUnlike_13 : decode cX1_keepUnlike 13 = .ok (.iload 4, 2) := by decide +kernel
theorem dX1_keepUnlike_15 : decode cX1_keepUnlike 15 = .ok (.invokevirtual 347, 3) := by decide +kernel
theorem dX1_keepUnlike_18 : decode cX1_keepUnlike 18 = .ok (.istore 6, 2) := by decide +kernel
theorem dX1_keepUnlike_20 : decode cX1_keepUnlike 20 = .ok (.iload 6, 2) := by decide +kernel
theorem dX1_keepUnlike_22 : decode cX1_keepUnlike 22 = .ok (.iload 4, 2) := by decide +kernel
theorem dX1_keepUnlike_24 : decode cX1_keepUnlike 24 = .ok (.isub, 1) := by decide +kernel
theorem dX1_keepUnlike_25 : decode cX1_keepUnlike 25 = .ok (.aload_n 0, 1) := by decide +kernel
theorem dX1_keepUnlike_26 : decode cX1_keepUnlike 26 = .ok (.getfield 234, 3) := by decide +kernel
theorem dX1_keepUnlike_29 : decode cX1_keepUnlike 29 = .ok (.iload_n 2, 1) := by decide +kernel
theorem dX1_keepUnlike_30 : decode cX1_keepUnlike 30 = .ok (.isub, 1) := by decide +kernel
theorem dX1_keepUnlike_31 : decode cX1_keepUnlike 31 = .ok (.if_icmp .ne 7, 3) := by decide +kernel
theorem dX1_keepUnlike_34 : decode cX1_keepUnlike 34 = .ok (.iconst 1, 1) := by decide +kernel
theorem dX1_keepUnlike_35 : decode cX1_keepUnlike 35 = .ok (.goto 4, 3) := by decide +kernel
theorem dX1_keepUnlike_38 : decode cX1_keepUnlike 38 = .ok (.iconst 0, 1) := by decide +kernel
theorem dX1_keepUnlike_39 : decode cX1_keepUnlike 39 = .ok (.istore 7, 2) := by decide +kernel
theorem dX1_keepUnlike_41 : decode cX1_keepUnlike 41 = .ok (.iconst 0, 1) := by decide +kernel
theorem dX1_keepUnlike_42 : decode cX1_keepUnlike 42 = .ok (.istore 8, 2) := by decide +kernel
theorem dX1_keepUnlike_44 : decode cX1_keepUnlike 44 = .ok (.iload 8, 2) := by decide +kernel
theorem dX1_keepUnlike_46 : decode cX1_keepUnlike 46 = .ok (.aload_n 0, 1) := by decide +kernel
theorem dX1_keepUnlike_47 : decode cX1_keepUnlike 47 = .ok (.getfield 234, 3) := by decide +kernel
theorem dX1_keepUnlike_50 : decode cX1_keepUnlike 50 = .ok (.iload_n 2, 1) := by decide +kernel
theorem dX1_keepUnlike_51 : decode cX1_keepUnlike 51 = .ok (.isub, 1) := by decide +kernel
theorem dX1_keepUnlike_52 : decode cX1_keepUnlike 52 = .ok (.if_icmp .ge 87, 3) := by decide +kernel
theorem dX1_keepUnlike_55 : decode cX1_keepUnlike 55 = .ok (.iload 7, 2) := by decide +kernel
theorem dX1_keepUnlike_57 : decode cX1_keepUnlike 57 = .ok (.ifCond .eq 82, 3) := by decide +kernel
theorem dX1_keepUnlike_60 : decode cX1_keepUnlike 60 = .ok (.aload_n 0, 1) := by decide +kernel
theorem dX1_keepUnlike_61 : decode cX1_keepUnlike 61 = .ok (.getfield 53, 3) := by decide +kernel
theorem dX1_keepUnlike_64 : decode cX1_keepUnlike 64 = .ok (.iload 4, 2) := by decide +kernel
theorem dX1_keepUnlike_66 : decode cX1_keepUnlike 66 = .ok (.iload 8, 2) := by decide +kernel
theorem dX1_keepUnlike_68 : decode cX1_keepUnlike 68 = .ok (.iadd, 1) := by decide +kernel
theorem dX1_keepUnlike_69 : decode cX1_keepUnlike 69 = .ok (.baload, 1) := by decide +kernel
theorem dX1_keepUnlike_70 : decode cX1_keepUnlike 70 = .ok (.aload_n 0, 1) := by decide +kernel
theorem dX1_keepUnlike_71 : decode cX1_keepUnlike 71 = .ok (.getfield 53, 3) := by decide +kernel
theorem dX1_keepUnlike_74 : decode cX1_keepUnlike 74 = .ok (.iload_n 2, 1) := by decide +kernel
theorem dX1_keepUnlike_75 : decode cX1_keepUnlike 75 = .ok (.iload 8, 2) := by decide +kernel
theorem dX1_keepUnlike_77 : decode cX1_keepUnlike 77 = .ok (.iadd, 1) := by decide +kernel
theorem dX1_keepUnlike_78 : decode cX1_keepUnlike 78 = .ok (.baload, 1) := by decide +kernel
theorem dX1_keepUnlike_79 : decode cX1_keepUnlike 79 = .ok (.if_icmp .ne 51, 3) := by decide +kernel
theorem dX1_keepUnlike_82 : decode cX1_keepUnlike 82 = .ok (.aload_n 0, 1) := by decide +kernel
theorem dX1_keepUnlike_83 : decode cX1_keepUnlike 83 = .ok (.getfield 56, 3) := by decide +kernel
theorem dX1_keepUnlike_86 : decode cX1_keepUnlike 86 = .ok (.iload 4, 2) := by decide +kernel
theorem dX1_keepUnlike_88 : decode cX1_keepUnlike 88 = .ok (.iload 8, 2) := by decide +kernel
theorem dX1_keepUnlike_90 : decode cX1_keepUnlike 90 = .ok (.iadd, 1) := by decide +kernel
theorem dX1_keepUnlike_91 : decode cX1_keepUnlike 91 = .ok (.iaload, 1) := by decide +kernel
theorem dX1_keepUnlike_92 : decode cX1_keepUnlike 92 = .ok (.aload_n 0, 1) := by decide +kernel
theorem dX1_keepUnlike_93 : decode cX1_keepUnlike 93 = .ok (.getfield 56, 3) := by decide +kernel
theorem dX1_keepUnlike_96 : decode cX1_keepUnlike 96 = .ok (.iload_n 2, 1) := by decide +kernel
theorem dX1_keepUnlike_97 : decode cX1_keepUnlike 97 = .ok (.iload 8, 2) := by decide +kernel
theorem dX1_keepUnlike_99 : decode cX1_keepUnlike 99 = .ok (.iadd, 1) := by decide +kernel
theorem dX1_keepUnlike_100 : decode cX1_keepUnlike 100 = .ok (.iaload, 1) := by decide +kernel
theorem dX1_keepUnlike_101 : decode cX1_keepUnlike 101 = .ok (.if_icmp .ne 29, 3) := by decide +kernel
theorem dX1_keepUnlike_104 : decode cX1_keepUnlike 104 = .ok (.aload_n 0, 1) := by decide +kernel
theorem dX1_keepUnlike_105 : decode cX1_keepUnlike 105 = .ok (.getfield 59, 3) := by decide +kernel
theorem dX1_keepUnlike_108 : decode cX1_keepUnlike 108 = .ok (.iload 4, 2) := by decide +kernel
theorem dX1_keepUnlike_110 : decode cX1_keepUnlike 110 = .ok (.iload 8, 2) := by decide +kernel
theorem dX1_keepUnlike_112 : decode cX1_keepUnlike 112 = .ok (.iadd, 1) := by decide +kernel
theorem dX1_keepUnlike_113 : decode cX1_keepUnlike 113 = .ok (.baload, 1) := by decide +kernel
theorem dX1_keepUnlike_114 : decode cX1_keepUnlike 114 = .ok (.aload_n 0, 1) := by decide +kernel
theorem dX1_keepUnlike_115 : decode cX1_keepUnlike 115 = .ok (.getfield 59, 3) := by decide +kernel
theorem dX1_keepUnlike_118 : decode cX1_keepUnlike 118 = .ok (.iload_n 2, 1) := by decide +kernel
theorem dX1_keepUnlike_119 : decode cX1_keepUnlike 119 = .ok (.iload 8, 2) := by decide +kernel
theorem dX1_keepUnlike_121 : decode cX1_keepUnlike 121 = .ok (.iadd, 1) := by decide +kernel
theorem dX1_keepUnlike_122 : decode cX1_keepUnlike 122 = .ok (.baload, 1) := by decide +kernel
theorem dX1_keepUnlike_123 : decode cX1_keepUnlike 123 = .ok (.if_icmp .ne 7, 3) := by decide +kernel
theorem dX1_keepUnlike_126 : decode cX1_keepUnlike 126 = .ok (.iconst 1, 1) := by decide +kernel
theorem dX1_keepUnlike_127 : decode cX1_keepUnlike 127 = .ok (.goto 4, 3) := by decide +kernel
theorem dX1_keepUnlike_130 : decode cX1_keepUnlike 130 = .ok (.iconst 0, 1) := by decide +kernel
theorem dX1_keepUnlike_131 : decode cX1_keepUnlike 131 = .ok (.istore 7, 2) := by decide +kernel
theorem dX1_keepUnlike_133 : decode cX1_keepUnlike 133 = .ok (.iinc 8 1, 3) := by decide +kernel
theorem dX1_keepUnlike_136 : decode cX1_keepUnlike 136 = .ok (.goto (-92), 3) := by decide +kernel
theorem dX1_keepUnlike_139 : decode cX1_keepUnlike 139 = .ok (.iload 7, 2) := by decide +kernel
theorem dX1_keepUnlike_141 : decode cX1_keepUnlike 141 = .ok (.ifCond .eq 10, 3) := by decide +kernel
theorem dX1_keepUnlike_144 : decode cX1_keepUnlike 144 = .ok (.aload_n 0, 1) := by decide +kernel
theorem dX1_keepUnlike_145 : decode cX1_keepUnlike 145 = .ok (.iload_n 2, 1) := by decide +kernel
theorem dX1_keepUnlike_146 : decode cX1_keepUnlike 146 = .ok (.putfield 234, 3) := by decide +kernel
theorem dX1_keepUnlike_149 : decode cX1_keepUnlike 149 = .ok (.iload_n 3, 1) := by decide +kernel
theorem dX1_keepUnlike_150 : decode cX1_keepUnlike 150 = .ok (.ireturn, 1) := by decide +kernel
theorem dX1_keepUnlike_151 : decode cX1_keepUnlike 151 = .ok (.iload 6, 2) := by decide +kernel
theorem dX1_keepUnlike_153 : decode cX1_keepUnlike 153 = .ok (.istore 4, 2) := by decide +kernel
theorem dX1_keepUnlike_155 : decode cX1_keepUnlike 155 = .ok (.iinc 5 1, 3) := by decide +kernel
theorem dX1_keepUnlike_158 : decode cX1_keepUnlike 158 = .ok (.goto (-152), 3) := by decide +kernel
theorem dX1_keepUnlike_161 : decode cX1_keepUnlike 161 = .ok (.iload_n 3, 1) := by decide +kernel
theorem dX1_keepUnlike_162 : decode cX1_keepUnlike 162 = .ok (.iconst 1, 1) := by decide +kernel
theorem dX1_keepUnlike_163 : decode cX1_keepUnlike 163 = .ok (.iadd, 1) := by decide +kernel
theorem dX1_keepUnlike_164 : decode cX1_keepUnlike 164 = .ok (.ireturn, 1) := by decide +kernel
noncomputable def C_X1_keepUnlike_L44 (l : Launch) (δ : Dl) : Seg (l, δ, yX1_keepUnlike, 1, (some .int), cX1_keepUnlike, 9) 44 139 :=
  seq (p := 44) (q := 46) (r := 139) (p_iload 8 dX1_keepUnlike_44) (seq (p := 46) (q := 47) (r := 139) (p_aload_n 0 dX1_keepUnlike_46) (seq (p := 47) (q := 50) (r := 139) (p_get [(1, 23)] (alL1 fl_X1_234_1) dX1_keepUnlike_47) (seq (p := 50) (q := 51) (r := 139) (p_iload_n 2 dX1_keepUnlike_50) (seq (p := 51) (q := 52) (r := 139) (p_isub dX1_keepUnlike_51) (seq (p := 52) (q := 55) (r := 139) (p_icmp_ge 139 dX1_keepUnlike_52 (by decide)) (seq (p := 55) (q := 57) (r := 139) (p_iload 7 dX1_keepUnlike_55) (seq (p := 57) (q := 60) (r := 139) (p_if_eq 139 dX1_keepUnlike_57 (by decide)) (seq (p := 60) (q := 61) (r := 139) (p_aload_n 0 dX1_keepUnlike_60) (seq (p := 61) (q := 64) (r := 139) (p_get [(1, 24)] (alL1 fl_X1_53_1) dX1_keepUnlike_61) (seq (p := 64) (q := 66) (r := 139) (p_iload 4 dX1_keepUnlike_64) (seq (p := 66) (q := 68) (r := 139) (p_iload 8 dX1_keepUnlike_66) (seq (p := 68) (q := 69) (r := 139) (p_iadd dX1_keepUnlike_68) (seq (p := 69) (q := 70) (r := 139) (p_bald dX1_keepUnlike_69) (seq (p := 70) (q := 71) (r := 139) (p_aload_n 0 dX1_keepUnlike_70) (seq (p := 71) (q := 74) (r := 139) (p_get [(1, 24)] (alL1 fl_X1_53_1) dX1_keepUnlike_71) (seq (p := 74) (q := 75) (r := 139) (p_iload_n 2 dX1_keepUnlike_74) (seq (p := 75) (q := 77) (r := 139) (p_iload 8 dX1_keepUnlike_75) (seq (p := 77) (q := 78) (r := 139) (p_iadd dX1_keepUnlike_77) (seq (p := 78) (q := 79) (r := 139) (p_bald dX1_keepUnlike_78) (seq (p := 79) (q := 131) (r := 139) (blk (seq (p := 79) (q := 130) (r := 131) (blk (seq (p := 79) (q := 82) (r := 130) (p_icmp_ne 130 dX1_keepUnlike_79 (by decide)) (seq (p := 82) (q := 83) (r := 130) (p_aload_n 0 dX1_keepUnlike_82) (seq (p := 83) (q := 86) (r := 130) (p_get [(1, 25)] (alL1 fl_X1_56_1) dX1_keepUnlike_83) (seq (p := 86) (q := 88) (r := 130) (p_iload 4 dX1_keepUnlike_86) (seq (p := 88) (q := 90) (r := 130) (p_iload 8 dX1_keepUnlike_88) (seq (p := 90) (q := 91) (r := 130) (p_iadd dX1_keepUnlike_90) (seq (p := 91) (q := 92) (r := 130) (p_iald dX1_keepUnlike_91) (seq (p := 92) (q := 93) (r := 130) (p_aload_n 0 dX1_keepUnlike_92) (seq (p := 93) (q := 96) (r := 130) (p_get [(1, 25)] (alL1 fl_X1_56_1) dX1_keepUnlike_93) (seq (p := 96) (q := 97) (r := 130) (p_iload_n 2 dX1_keepUnlike_96) (seq (p := 97) (q := 99) (r := 130) (p_iload 8 dX1_keepUnlike_97) (seq (p := 99) (q := 100) (r := 130) (p_iadd dX1_keepUnlike_99) (seq (p := 100) (q := 101) (r := 130) (p_iald dX1_keepUnlike_100) (seq (p := 101) (q := 104) (r := 130) (p_icmp_ne 130 dX1_keepUnlike_101 (by decide)) (seq (p := 104) (q := 105) (r := 130) (p_aload_n 0 dX1_keepUnlike_104) (seq (p := 105) (q := 108) (r := 130) (p_get [(1, 26)] (alL1 fl_X1_59_1) dX1_keepUnlike_105) (seq (p := 108) (q := 110) (r := 130) (p_iload 4 dX1_keepUnlike_108) (seq (p := 110) (q := 112) (r := 130) (p_iload 8 dX1_keepUnlike_110) (seq (p := 112) (q := 113) (r := 130) (p_iadd dX1_keepUnlike_112) (seq (p := 113) (q := 114) (r := 130) (p_bald dX1_keepUnlike_113) (seq (p := 114) (q := 115) (r := 130) (p_aload_n 0 dX1_keepUnlike_114) (seq (p := 115) (q := 118) (r := 130) (p_get [(1, 26)] (alL1 fl_X1_59_1) dX1_keepUnlike_115) (seq (p := 118) (q := 119) (r := 130) (p_iload_n 2 dX1_keepUnlike_118) (seq (p := 119) (q := 121) (r := 130) (p_iload 8 dX1_keepUnlike_119) (seq (p := 121) (q := 122) (r := 130) (p_iadd dX1_keepUnlike_121) (seq (p := 122) (q := 123) (r := 130) (p_bald dX1_keepUnlike_122) (seq (p := 123) (q := 126) (r := 130) (p_icmp_ne 130 dX1_keepUnlike_123 (by decide)) (seq (p := 126) (q := 127) (r := 130) (p_iconst 1 dX1_keepUnlike_126) (seq (p := 127) (q := 130) (r := 130) (p_goto 131 dX1_keepUnlike_127 (by decide)) done)))))))))))))))))))))))))))))) (seq (p := 130) (q := 131) (r := 131) (p_iconst 0 dX1_keepUnlike_130) done))) (seq (p := 131) (q := 133) (r := 139) (p_istore 7 dX1_keepUnlike_131 (Nat.le_of_ble_eq_true rfl)) (seq (p := 133) (q := 136) (r := 139) (p_iinc 8 1 dX1_keepUnlike_133 (Nat.le_of_ble_eq_true rfl)) (seq (p := 136) (q := 136) (r := 139) (er [true, false, true, true, true, true, true, true, true]) (seq (p := 136) (q := 139) (r := 139) (p_goto 44 dX1_keepUnlike_136 (by decide)) done))))))))))))))))))))))))
noncomputable def B_X1_keepUnlike_L44 (l : Launch) (δ : Dl) : Seg (l, δ, yX1_keepUnlike, 1, (some .int), cX1_keepUnlike, 9) 44 139 := C_X1_keepUnlike_L44 l δ
theorem L_X1_keepUnlike_44 {l : Launch} {δ : Dl} {st : Stk} {L : Lc} {s : St} : (B_X1_keepUnlike_L44 l δ).1 st L s = (C_X1_keepUnlike_L44 l δ).1 st L s := nrfl rfl
noncomputable def C_X1_keepUnlike_L6 (l : Launch) (δ : Dl) : Seg (l, δ, yX1_keepUnlike, 1, (some .int), cX1_keepUnlike, 9) 6 161 :=
  seq (p := 6) (q := 8) (r := 161) (p_iload 5 dX1_keepUnlike_6) (seq (p := 8) (q := 9) (r := 161) (p_iload_n 3 dX1_keepUnlike_8) (seq (p := 9) (q := 12) (r := 161) (p_icmp_ge 161 dX1_keepUnlike_9 (by decide)) (seq (p := 12) (q := 13) (r := 161) (p_aload_n 0 dX1_keepUnlike_12) (seq (p := 13) (q := 15) (r := 161) (p_iload 4 dX1_keepUnlike_13) (seq (p := 15) (q := 18) (r := 161) (p_callV 1 cv_X1_347 hcR1 (M_X1_stops l δ) (Nat.le_of_ble_eq_true rfl) dX1_keepUnlike_15) (seq (p := 18) (q := 20) (r := 161) (p_istore 6 dX1_keepUnlike_18 (Nat.le_of_ble_eq_true rfl)) (seq (p := 20) (q := 22) (r := 161) (p_iload 6 dX1_keepUnlike_20) (seq (p := 22) (q := 24) (r := 161) (p_iload 4 dX1_keepUnlike_22) (seq (p := 24) (q := 25) (r := 161) (p_isub dX1_keepUnlike_24) (seq (p := 25) (q := 26) (r := 161) (p_aload_n 0 dX1_keepUnlike_25) (seq (p := 26) (q := 29) (r := 161) (p_get [(1, 23)] (alL1 fl_X1_234_1) dX1_keepUnlike_26) (seq (p := 29) (q := 30) (r := 161) (p_iload_n 2 dX1_keepUnlike_29) (seq (p := 30) (q := 31) (r := 161) (p_isub dX1_keepUnlike_30) (seq (p := 31) (q := 39) (r := 161) (blk (seq (p := 31) (q := 38) (r := 39) (blk (seq (p := 31) (q := 34) (r := 38) (p_icmp_ne 38 dX1_keepUnlike_31 (by decide)) (seq (p := 34) (q := 35) (r := 38) (p_iconst 1 dX1_keepUnlike_34) (seq (p := 35) (q := 38) (r := 38) (p_goto 39 dX1_keepUnlike_35 (by decide)) done)))) (seq (p := 38) (q := 39) (r := 39) (p_iconst 0 dX1_keepUnlike_38) done))) (seq (p := 39) (q := 41) (r := 161) (p_istore 7 dX1_keepUnlike_39 (Nat.le_of_ble_eq_true rfl)) (seq (p := 41) (q := 42) (r := 161) (p_iconst 0 dX1_keepUnlike_41) (seq (p := 42) (q := 44) (r := 161) (p_istore 8 dX1_keepUnlike_42 (Nat.le_of_ble_eq_true rfl)) (seq (p := 44) (q := 139) (r := 161) (blk (seq (p := 44) (q := 44) (r := 139) (er [true, false, true, true, true, true, true, true, true]) (seq (p := 44) (q := 139) (r := 139) (lp (B_X1_keepUnlike_L44 l δ)) done))) (seq (p := 139) (q := 141) (r := 161) (p_iload 7 dX1_keepUnlike_139) (seq (p := 141) (q := 151) (r := 161) (blk (seq (p := 141) (q := 144) (r := 151) (p_if_eq 151 dX1_keepUnlike_141 (by decide)) (seq (p := 144) (q := 145) (r := 151) (p_aload_n 0 dX1_keepUnlike_144) (seq (p := 145) (q := 146) (r := 151) (p_iload_n 2 dX1_keepUnlike_145) (seq (p := 146) (q := 149) (r := 151) (p_put [(1, 23)] .int (alP1 fp_X1_234_1) dX1_keepUnlike_146) (seq (p := 149) (q := 150) (r := 151) (p_iload_n 3 dX1_keepUnlike_149) (seq (p := 150) (q := 151) (r := 151) (p_ireturn dX1_keepUnlike_150 rfl) done))))))) (seq (p := 151) (q := 153) (r := 161) (p_iload 6 dX1_keepUnlike_151) (seq (p := 153) (q := 155) (r := 161) (p_istore 4 dX1_keepUnlike_153 (Nat.le_of_ble_eq_true rfl)) (seq (p := 155) (q := 158) (r := 161) (p_iinc 5 1 dX1_keepUnlike_155 (Nat.le_of_ble_eq_true rfl)) (seq (p := 158) (q := 158) (r := 161) (er [true, false, true, true, true, true, false, false, false]) (seq (p := 158) (q := 161) (r := 161) (p_goto 6 dX1_keepUnlike_158 (by decide)) done)))))))))))))))))))))))))
noncomputable def B_X1_keepUnlike_L6 (l : Launch) (δ : Dl) : Seg (l, δ, yX1_keepUnlike, 1, (some .int), cX1_keepUnlike, 9) 6 161 := C_X1_keepUnlike_L6 l δ
theorem L_X1_keepUnlike_6 {l : Launch} {δ : Dl} {st : Stk} {L : Lc} {s : St} : (B_X1_keepUnlike_L6 l δ).1 st L s = (C_X1_keepUnlike_L6 l δ).1 st L s := nrfl rfl
noncomputable def B_X1_keepUnlike (l : Launch) (δ : Dl) : Seg (l, δ, yX1_keepUnlike, 1, (some .int), cX1_keepUnlike, 9) 0 165 :=
  seq (p := 0) (q := 1) (r := 165) (p_iload_n 1 dX1_keepUnlike_0) (seq (p := 1) (q := 3) (r := 165) (p_istore 4 dX1_keepUnlike_1 (Nat.le_of_ble_eq_true rfl)) (seq (p := 3) (q := 4) (r := 165) (p_iconst 0 dX1_keepUnlike_3) (seq (p := 4) (q := 6) (r := 165) (p_istore 5 dX1_keepUnlike_4 (Nat.le_of_ble_eq_true rfl)) (seq (p := 6) (q := 161) (r := 165) (blk (seq (p := 6) (q := 6) (r := 161) (er [true, false, true, true, true, true, false, false, false]) (seq (p := 6) (q := 161) (r := 161) (lp (B_X1_keepUnlike_L6 l δ)) done))) (seq (p := 161) (q := 162) (r := 165) (p_iload_n 3 dX1_keepUnlike_161) (seq (p := 162) (q := 163) (r := 165) (p_iconst 1 dX1_keepUnlike_162) (seq (p := 163) (q := 164) (r := 165) (p_iadd dX1_keepUnlike_163) (seq (p := 164) (q := 165) (r := 165) (p_ireturn dX1_keepUnlike_164 rfl) done))))))))
noncomputable def M_X1_keepUnlike (l : Launch) (δ : Dl) : Mth l δ yX1_keepUnlike cX1_keepUnlike 9 (some .int) 1 := mk (B_X1_keepUnlike l δ) (by decide)
theorem N_X1_keepUnlike {l : Launch} {δ : Dl} {o : Nat} {a1 : Int} {a2 : Int} {a3 : Int} {s : St} : (M_X1_keepUnlike l δ).1 [.inr (.inr (some o)), .inl a1, .inl a2, .inl a3] s = bres ((B_X1_keepUnlike l δ).1 [] [some (.inr (.inr (some o))), some (.inl a1), some (.inl a2), some (.inl a3), none, none, none, none, none] s) := (mk_eq (hy := by decide) rfl).trans (nrfl rfl)
theorem dX1_parts_0 : decode cX1_parts 0 = .ok (.iload_n 1, 1) := by decide +kernel
theorem dX1_parts_1 : decode cX1_parts 1 = .ok (.bipush 9, 2) := by decide +kernel
theorem dX1_parts_3 : decode cX1_parts 3 = .ok (.if_icmp .ne 26, 3) := by decide +kernel
theorem dX1_parts_6 : decode cX1_parts 6 = .ok (.aload_n 0, 1) := by decide +kernel
theorem dX1_parts_7 : decode cX1_parts 7 = .ok (.getfield 25, 3) := by decide +kernel
theorem dX1_parts_10 : decode cX1_parts 10 = .ok (.iload_n 2, 1) := by decide +kernel
theorem dX1_parts_11 : decode cX1_parts 11 = .ok (.iaload, 1) := by decide +kernel
theorem dX1_parts_12 : decode cX1_parts 12 = .ok (.aload_n 0, 1) := by decide +kernel
theorem dX1_parts_13 : decode cX1_parts 13 = .ok (.getfield 25, 3) := by decide +kernel
theorem dX1_parts_16 : decode cX1_parts 16 = .ok (.iload_n 3, 1) := by decide +kernel
theorem dX1_parts_17 : decode cX1_parts 17 = .ok (.iaload, 1) := by decide +kernel
theorem dX1_parts_18 : decode cX1_parts 18 = .ok (.if_icmp .ne 7, 3) := by decide +kernel
theorem dX1_parts_21 : decode cX1_parts 21 = .ok (.iconst 1, 1) := by decide +kernel
theorem dX1_parts_22 : decode cX1_parts 22 = .ok (.goto 71, 3) := by decide +kernel
theorem dX1_parts_25 : decode cX1_parts 25 = .ok (.iconst 0, 1) := by decide +kernel
theorem dX1_parts_26 : decode cX1_parts 26 = .ok (.goto 67, 3) := by decide +kernel
theorem dX1_parts_29 : decode cX1_parts 29 = .ok (.iload_n 1, 1) := by decide +kernel
theorem dX1_parts_30 : decode cX1_parts 30 = .ok (.bipush 8, 2) := by decide +kernel
theorem dX1_parts_32 : decode cX1_parts 32 = .ok (.if_icmp .ne 26, 3) := by decide +kernel
theorem dX1_parts_35 : decode cX1_parts 35 = .ok (.aload_n 0, 1) := by decide +kernel
theorem dX1_parts_36 : decode cX1_parts 36 = .ok (.aload_n 0, 1) := by decide +kernel
theorem dX1_parts_37 : decode cX1_parts 37 = .ok (.getfield 163, 3) := by decide +kernel
theorem dX1_parts_40 : decode cX1_parts 40 = .ok (.aload_n 0, 1) := by decide +kernel
theorem dX1_parts_41 : decode cX1_parts 41 = .ok (.getfield 25, 3) := by decide +kernel
theorem dX1_parts_44 : decode cX1_parts 44 = .ok (.iload_n 2, 1) := by decide +kernel
theorem dX1_parts_45 : decode cX1_parts 45 = .ok (.iaload, 1) := by decide +kernel
theorem dX1_parts_46 : decode cX1_parts 46 = .ok (.aload_n 0, 1) := by decide +kernel
theorem dX1_parts_47 : decode cX1_parts 47 = .ok (.getfield 25, 3) := by decide +kernel
theorem dX1_parts_50 : decode cX1_parts 50 = .ok (.iload_n 3, 1) := by decide +kernel
theorem dX1_parts_51 : decode cX1_parts 51 = .ok (.iaload, 1) := by decide +kernel
theorem dX1_parts_52 : decode cX1_parts 52 = .ok (.invokevirtual 152, 3) := by decide +kernel
theorem dX1_parts_55 : decode cX1_parts 55 = .ok (.goto 38, 3) := by decide +kernel
theorem dX1_parts_58 : decode cX1_parts 58 = .ok (.aload_n 0, 1) := by decide +kernel
theorem dX1_parts_59 : decode cX1_parts 59 = .ok (.getfield 13, 3) := by decide +kernel
theorem dX1_parts_62 : decode cX1_parts 62 = .ok (.bipush 6, 2) := by decide +kernel
theorem dX1_parts_64 : decode cX1_parts 64 = .ok (.aload_n 0, 1) := by decide +kernel
theorem dX1_parts_65 : decode cX1_parts 65 = .ok (.getfield 163, 3) := by decide +kernel
theorem dX1_parts_68 : decode cX1_parts 68 = .ok (.imul, 1) := by decide +kernel
theorem dX1_parts_69 : decode cX1_parts 69 = .ok (.aload_n 0, 1) := by decide +kernel
theorem dX1_parts_70 : decode cX1_parts 70 = .ok (.getfield 25, 3) := by decide +kernel
theorem dX1_parts_73 : decode cX1_parts 73 = .ok (.iload_n 2, 1) := by decide +kernel
theorem dX1_parts_74 : decode cX1_parts 74 = .ok (.iaload, 1) := by decide +kernel
theorem dX1_parts_75 : decode cX1_parts 75 = .ok (.iadd, 1) := by decide +kernel
theorem dX1_parts_76 : decode cX1_parts 76 = .ok (.iaload, 1) := by decide +kernel
theorem dX1_parts_77 : decode cX1_parts 77 = .ok (.iload_n 1, 1) := by decide +kernel
theorem dX1_parts_78 : decode cX1_parts 78 = .ok (.bipush 6, 2) := by decide +kernel
theorem dX1_parts_80 : decode cX1_parts 80 = .ok (.isub, 1) := by decide +kernel
theorem dX1_parts_81 : decode cX1_parts 81 = .ok (.ishr, 1) := by decide +kernel
theorem dX1_parts_82 : decode cX1_parts 82 = .ok (.iconst 1, 1) := by decide +kernel
theorem dX1_parts_83 : decode cX1_parts 83 = .ok (.iand, 1) := by decide +kernel
theorem dX1_parts_84 : decode cX1_parts 84 = .ok (.iconst 1, 1) := by decide +kernel
theorem dX1_parts_85 : decode cX1_parts 85 = .ok (.if_icmp .ne 7, 3) := by decide +kernel
theorem dX1_parts_88 : decode cX1_parts 88 = .ok (.iconst 1, 1) := by decide +kernel
theorem dX1_parts_89 : decode cX1_parts 89 = .ok (.goto 4, 3) := by decide +kernel
theorem dX1_parts_92 : decode cX1_parts 92 = .ok (.iconst 0, 1) := by decide +kernel
theorem dX1_parts_93 : decode cX1_parts 93 = .ok (.istore 4, 2) := by decide +kernel
theorem dX1_parts_95 : decode cX1_parts 95 = .ok (.iload_n 1, 1) := by decide +kernel
theorem dX1_parts_96 : decode cX1_parts 96 = .ok (.bipush 9, 2) := by decide +kernel
theorem dX1_parts_98 : decode cX1_parts 98 = .ok (.if_icmp .ne 26, 3) := by decide +kernel
theorem dX1_parts_101 : decode cX1_parts 101 = .ok (.aload_n 0, 1) := by decide +kernel
theorem dX1_parts_102 : decode cX1_parts 102 = .ok (.getfield 28, 3) := by decide +kernel
theorem dX1_parts_105 : decode cX1_parts 105 = .ok (.iload_n 2, 1) := by decide +kernel
theorem dX1_parts_106 : decode cX1_parts 106 = .ok (.iaload, 1) := by decide +kernel
theorem dX1_parts_107 : decode cX1_parts 107 = .ok (.aload_n 0, 1) := by decide +kernel
theorem dX1_parts_108 : decode cX1_parts 108 = .ok (.getfield 28, 3) := by decide +kernel
theorem dX1_parts_111 : decode cX1_parts 111 = .ok (.iload_n 3, 1) := by decide +kernel
theorem dX1_parts_112 : decode cX1_parts 112 = .ok (.iaload, 1) := by decide +kernel
theorem dX1_parts_113 : decode cX1_parts 113 = .ok (.if_icmp .ne 7, 3) := by decide +kernel
theorem dX1_parts_116 : decode cX1_parts 116 = .ok (.iconst 1, 1) := by decide +kernel
theorem dX1_parts_117 : decode cX1_parts 117 = .ok (.goto 71, 3) := by decide +kernel
theorem dX1_parts_120 : decode cX1_parts 120 = .ok (.iconst 0, 1) := by decide +kernel
theorem dX1_parts_121 : decode cX1_parts 121 = .ok (.goto 67, 3) := by decide +kernel
theorem dX1_parts_124 : decode cX1_parts 124 = .ok (.iload_n 1, 1) := by decide +kernel
theorem dX1_parts_125 : decode cX1_parts 125 = .ok (.bipush 8, 2) := by decide +kernel
theorem dX1_parts_127 : decode cX1_parts 127 = .ok (.if_icmp .ne 26, 3) := by decide +kernel
theorem dX1_parts_130 : decode cX1_parts 130 = .ok (.aload_n 0, 1) := by decide +kernel
theorem dX1_parts_131 : decode cX1_parts 131 = .ok (.aload_n 0, 1) := by decide +kernel
theorem dX1_parts_132 : decode cX1_parts 132 = .ok (.getfield 166, 3) := by decide +kernel
theorem dX1_parts_135 : decode cX1_parts 135 = .ok (.aload_n 0, 1) := by decide +kernel
theorem dX1_parts_136 : decode cX1_parts 136 = .ok (.getfield 28, 3) := by decide +kernel
theorem dX1_parts_139 : decode cX1_parts 139 = .ok (.iload_n 2, 1) := by decide +kernel
theorem dX1_parts_140 : decode cX1_parts 140 = .ok (.iaload, 1) := by decide +kernel
theorem dX1_parts_141 : decode cX1_parts 141 = .ok (.aload_n 0, 1) := by decide +kernel
theorem dX1_parts_142 : decode cX1_parts 142 = .ok (.getfield 28, 3) := by decide +kernel
theorem dX1_parts_145 : decode cX1_parts 145 = .ok (.iload_n 3, 1) := by decide +kernel
theorem dX1_parts_146 : decode cX1_parts 146 = .ok (.iaload, 1) := by decide +kernel
theorem dX1_parts_147 : decode cX1_parts 147 = .ok (.invokevirtual 152, 3) := by decide +kernel
theorem dX1_parts_150 : decode cX1_parts 150 = .ok (.goto 38, 3) := by decide +kernel
theorem dX1_parts_153 : decode cX1_parts 153 = .ok (.aload_n 0, 1) := by decide +kernel
theorem dX1_parts_154 : decode cX1_parts 154 = .ok (.getfield 13, 3) := by decide +kernel
theorem dX1_parts_157 : decode cX1_parts 157 = .ok (.bipush 6, 2) := by decide +kernel
theorem dX1_parts_159 : decode cX1_parts 159 = .ok (.aload_n 0, 1) := by decide +kernel
theorem dX1_parts_160 : decode cX1_parts 160 = .ok (.getfield 166, 3) := by decide +kernel
theorem dX1_parts_163 : decode cX1_parts 163 = .ok (.imul, 1) := by decide +kernel
theorem dX1_parts_164 : decode cX1_parts 164 = .ok (.aload_n 0, 1) := by decide +kernel
theorem dX1_parts_165 : decode cX1_parts 165 = .ok (.getfield 28, 3) := by decide +kernel
theorem dX1_parts_168 : decode cX1_parts 168 = .ok (.iload_n 2, 1) := by decide +kernel
theorem dX1_parts_169 : decode cX1_parts 169 = .ok (.iaload, 1) := by decide +kernel
theorem dX1_parts_170 : decode cX1_parts 170 = .ok (.iadd, 1) := by decide +kernel
theorem dX1_parts_171 : decode cX1_parts 171 = .ok (.iaload, 1) := by decide +kernel
theorem dX1_parts_172 : decode cX1_parts 172 = .ok (.iload_n 1, 1) := by decide +kernel
theorem dX1_parts_173 : decode cX1_parts 173 = .ok (.bipush 6, 2) := by decide +kernel
theorem dX1_parts_175 : decode cX1_parts 175 = .ok (.isub, 1) := by decide +kernel
theorem dX1_parts_176 : decode cX1_parts 176 = .ok (.ishr, 1) := by decide +kernel
theorem dX1_parts_177 : decode cX1_parts 177 = .ok (.iconst 1, 1) := by decide +kernel
theorem dX1_parts_178 : decode cX1_parts 178 = .ok (.iand, 1) := by decide +kernel
theorem dX1_parts_179 : decode cX1_parts 179 = .ok (.iconst 1, 1) := by decide +kernel
theorem dX1_parts_180 : decode cX1_parts 180 = .ok (.if_icmp .ne 7, 3) := by decide +kernel
theorem dX1_parts_183 : decode cX1_parts 183 = .ok (.iconst 1, 1) := by decide +kernel
theorem dX1_parts_184 : decode cX1_parts 184 = .ok (.goto 4, 3) := by decide +kernel
theorem dX1_parts_187 : decode cX1_parts 187 = .ok (.iconst 0, 1) := by decide +kernel
theorem dX1_parts_188 : decode cX1_parts 188 = .ok (.istore 5, 2) := by decide +kernel
theorem dX1_parts_190 : decode cX1_parts 190 = .ok (.iload 4, 2) := by decide +kernel
theorem dX1_parts_192 : decode cX1_parts 192 = .ok (.iload 5, 2) := by decide +kernel
theorem dX1_parts_194 : decode cX1_parts 194 = .ok (.if_icmp .ne 5, 3) := by decide +kernel
theorem dX1_parts_197 : decode cX1_parts 197 = .ok (.iconst 0, 1) := by decide +kernel
theorem dX1_parts_198 : decode cX1_parts 198 = .ok (.ireturn, 1) := by decide +kernel
theorem dX1_parts_199 : decode cX1_parts 199 = .ok (.iload 4, 2) := by decide +kernel
theorem dX1_parts_201 : decode cX1_parts 201 = .ok (.ifCond .ne 10, 3) := by decide +kernel
theorem dX1_parts_204 : decode cX1_parts 204 = .ok (.aload_n 0, 1) := by decide +kernel
theorem dX1_parts_205 : decode cX1_parts 205 = .ok (.iconst 1, 1) := by decide +kernel
theorem dX1_parts_206 : decode cX1_parts 206 = .ok (.iconst 0, 1) := by decide +kernel
theorem dX1_parts_207 : decode cX1_parts 207 = .ok (.iconst 0, 1) := by decide +kernel
theorem dX1_parts_208 : decode cX1_parts 208 = .ok (.invokevirtual 262, 3) := by decide +kernel
theorem dX1_parts_211 : decode cX1_parts 211 = .ok (.aload_n 0, 1) := by decide +kernel
theorem dX1_parts_212 : decode cX1_parts 212 = .ok (.iload_n 1, 1) := by decide +kernel
theorem dX1_parts_213 : decode cX1_parts 213 = .ok (.iload_n 2, 1) := by decide +kernel
theorem dX1_parts_214 : decode cX1_parts 214 = .ok (.iload_n 1, 1) := by decide +kernel
theorem dX1_parts_215 : decode cX1_parts 215 = .ok (.bipush 9, 2) := by decide +kernel
theorem dX1_parts_217 : decode cX1_parts 217 = .ok (.if_icmp .eq 9, 3) := by decide +kernel
theorem dX1_parts_220 : decode cX1_parts 220 = .ok (.iload_n 1, 1) := by decide +kernel
theorem dX1_parts_221 : decode cX1_parts 221 = .ok (.bipush 8, 2) := by decide +kernel
theorem dX1_parts_223 : decode cX1_parts 223 = .ok (.if_icmp .ne 7, 3) := by decide +kernel
theorem dX1_parts_226 : decode cX1_parts 226 = .ok (.iload_n 3, 1) := by decide +kernel
theorem dX1_parts_227 : decode cX1_parts 227 = .ok (.goto 4, 3) := by decide +kernel
theorem dX1_parts_230 : decode cX1_parts 230 = .ok (.iconst 0, 1) := by decide +kernel
theorem dX1_parts_231 : decode cX1_parts 231 = .ok (.invokevirtual 262, 3) := by decide +kernel
theorem dX1_parts_234 : decode cX1_parts 234 = .ok (.iconst 1, 1) := by decide +kernel
theorem dX1_parts_235 : decode cX1_parts 235 = .ok (.ireturn, 1) := by decide +kernel
noncomputable def B_X1_parts (l : Launch) (δ : Dl) : Seg (l, δ, yX1_parts, 1, (some .boolean), cX1_parts, 6) 0 236 :=
  seq (p := 0) (q := 1) (r := 236) (p_iload_n 1 dX1_parts_0) (seq (p := 1) (q := 3) (r := 236) (p_bipush 9 dX1_parts_1 (by decide)) (seq (p := 3) (q := 93) (r := 236) (blk (seq (p := 3) (q := 29) (r := 93) (blk (seq (p := 3) (q := 6) (r := 29) (p_icmp_ne 29 dX1_parts_3 (by decide)) (seq (p := 6) (q := 7) (r := 29) (p_aload_n 0 dX1_parts_6) (seq (p := 7) (q := 10) (r := 29) (p_get [(1, 8)] (alL1 fl_X1_25_1) dX1_parts_7) (seq (p := 10) (q := 11) (r := 29) (p_iload_n 2 dX1_parts_10) (seq (p := 11) (q := 12) (r := 29) (p_iald dX1_parts_11) (seq (p := 12) (q := 13) (r := 29) (p_aload_n 0 dX1_parts_12) (seq (p := 13) (q := 16) (r := 29) (p_get [(1, 8)] (alL1 fl_X1_25_1) dX1_parts_13) (seq (p := 16) (q := 17) (r := 29) (p_iload_n 3 dX1_parts_16) (seq (p := 17) (q := 18) (r := 29) (p_iald dX1_parts_17) (seq (p := 18) (q := 25) (r := 29) (blk (seq (p := 18) (q := 21) (r := 25) (p_icmp_ne 25 dX1_parts_18 (by decide)) (seq (p := 21) (q := 22) (r := 25) (p_iconst 1 dX1_parts_21) (seq (p := 22) (q := 25) (r := 25) (p_goto 93 dX1_parts_22 (by decide)) done)))) (seq (p := 25) (q := 26) (r := 29) (p_iconst 0 dX1_parts_25) (seq (p := 26) (q := 29) (r := 29) (p_goto 93 dX1_parts_26 (by decide)) done))))))))))))) (seq (p := 29) (q := 30) (r := 93) (p_iload_n 1 dX1_parts_29) (seq (p := 30) (q := 32) (r := 93) (p_bipush 8 dX1_parts_30 (by decide)) (seq (p := 32) (q := 58) (r := 93) (blk (seq (p := 32) (q := 35) (r := 58) (p_icmp_ne 58 dX1_parts_32 (by decide)) (seq (p := 35) (q := 36) (r := 58) (p_aload_n 0 dX1_parts_35) (seq (p := 36) (q := 37) (r := 58) (p_aload_n 0 dX1_parts_36) (seq (p := 37) (q := 40) (r := 58) (p_get [(1, 5)] (alL1 fl_X1_163_1) dX1_parts_37) (seq (p := 40) (q := 41) (r := 58) (p_aload_n 0 dX1_parts_40) (seq (p := 41) (q := 44) (r := 58) (p_get [(1, 8)] (alL1 fl_X1_25_1) dX1_parts_41) (seq (p := 44) (q := 45) (r := 58) (p_iload_n 2 dX1_parts_44) (seq (p := 45) (q := 46) (r := 58) (p_iald dX1_parts_45) (seq (p := 46) (q := 47) (r := 58) (p_aload_n 0 dX1_parts_46) (seq (p := 47) (q := 50) (r := 58) (p_get [(1, 8)] (alL1 fl_X1_25_1) dX1_parts_47) (seq (p := 50) (q := 51) (r := 58) (p_iload_n 3 dX1_parts_50) (seq (p := 51) (q := 52) (r := 58) (p_iald dX1_parts_51) (seq (p := 52) (q := 55) (r := 58) (p_callV 1 cv_X1_152 hcR1 (M_X1_isTied l δ) (Nat.le_of_ble_eq_true rfl) dX1_parts_52) (seq (p := 55) (q := 58) (r := 58) (p_goto 93 dX1_parts_55 (by decide)) done))))))))))))))) (seq (p := 58) (q := 59) (r := 93) (p_aload_n 0 dX1_parts_58) (seq (p := 59) (q := 62) (r := 93) (p_get [(1, 1)] (alL1 fl_X1_13_1) dX1_parts_59) (seq (p := 62) (q := 64) (r := 93) (p_bipush 6 dX1_parts_62 (by decide)) (seq (p := 64) (q := 65) (r := 93) (p_aload_n 0 dX1_parts_64) (seq (p := 65) (q := 68) (r := 93) (p_get [(1, 5)] (alL1 fl_X1_163_1) dX1_parts_65) (seq (p := 68) (q := 69) (r := 93) (p_imul dX1_parts_68) (seq (p := 69) (q := 70) (r := 93) (p_aload_n 0 dX1_parts_69) (seq (p := 70) (q := 73) (r := 93) (p_get [(1, 8)] (alL1 fl_X1_25_1) dX1_parts_70) (seq (p := 73) (q := 74) (r := 93) (p_iload_n 2 dX1_parts_73) (seq (p := 74) (q := 75) (r := 93) (p_iald dX1_parts_74) (seq (p := 75) (q := 76) (r := 93) (p_iadd dX1_parts_75) (seq (p := 76) (q := 77) (r := 93) (p_iald dX1_parts_76) (seq (p := 77) (q := 78) (r := 93) (p_iload_n 1 dX1_parts_77) (seq (p := 78) (q := 80) (r := 93) (p_bipush 6 dX1_parts_78 (by decide)) (seq (p := 80) (q := 81) (r := 93) (p_isub dX1_parts_80) (seq (p := 81) (q := 82) (r := 93) (p_ishr dX1_parts_81) (seq (p := 82) (q := 83) (r := 93) (p_iconst 1 dX1_parts_82) (seq (p := 83) (q := 84) (r := 93) (p_iand dX1_parts_83) (seq (p := 84) (q := 85) (r := 93) (p_iconst 1 dX1_parts_84) (seq (p := 85) (q := 92) (r := 93) (blk (seq (p := 85) (q := 88) (r := 92) (p_icmp_ne 92 dX1_parts_85 (by decide)) (seq (p := 88) (q := 89) (r := 92) (p_iconst 1 dX1_parts_88) (seq (p := 89) (q := 92) (r := 92) (p_goto 93 dX1_parts_89 (by decide)) done)))) (seq (p := 92) (q := 93) (r := 93) (p_iconst 0 dX1_parts_92) done)))))))))))))))))))))))))) (seq (p := 93) (q := 95) (r := 236) (p_istore 4 dX1_parts_93 (Nat.le_of_ble_eq_true rfl)) (seq (p := 95) (q := 96) (r := 236) (p_iload_n 1 dX1_parts_95) (seq (p := 96) (q := 98) (r := 236) (p_bipush 9 dX1_parts_96 (by decide)) (seq (p := 98) (q := 188) (r := 236) (blk (seq (p := 98) (q := 124) (r := 188) (blk (seq (p := 98) (q := 101) (r := 124) (p_icmp_ne 124 dX1_parts_98 (by decide)) (seq (p := 101) (q := 102) (r := 124) (p_aload_n 0 dX1_parts_101) (seq (p := 102) (q := 105) (r := 124) (p_get [(1, 9)] (alL1 fl_X1_28_1) dX1_parts_102) (seq (p := 105) (q := 106) (r := 124) (p_iload_n 2 dX1_parts_105) (seq (p := 106) (q := 107) (r := 124) (p_iald dX1_parts_106) (seq (p := 107) (q := 108) (r := 124) (p_aload_n 0 dX1_parts_107) (seq (p := 108) (q := 111) (r := 124) (p_get [(1, 9)] (alL1 fl_X1_28_1) dX1_parts_108) (seq (p := 111) (q := 112) (r := 124) (p_iload_n 3 dX1_parts_111) (seq (p := 112) (q := 113) (r := 124) (p_iald dX1_parts_112) (seq (p := 113) (q := 120) (r := 124) (blk (seq (p := 113) (q := 116) (r := 120) (p_icmp_ne 120 dX1_parts_113 (by decide)) (seq (p := 116) (q := 117) (r := 120) (p_iconst 1 dX1_parts_116) (seq (p := 117) (q := 120) (r := 120) (p_goto 188 dX1_parts_117 (by decide)) done)))) (seq (p := 120) (q := 121) (r := 124) (p_iconst 0 dX1_parts_120) (seq (p := 121) (q := 124) (r := 124) (p_goto 188 dX1_parts_121 (by decide)) done))))))))))))) (seq (p := 124) (q := 125) (r := 188) (p_iload_n 1 dX1_parts_124) (seq (p := 125) (q := 127) (r := 188) (p_bipush 8 dX1_parts_125 (by decide)) (seq (p := 127) (q := 153) (r := 188) (blk (seq (p := 127) (q := 130) (r := 153) (p_icmp_ne 153 dX1_parts_127 (by decide)) (seq (p := 130) (q := 131) (r := 153) (p_aload_n 0 dX1_parts_130) (seq (p := 131) (q := 132) (r := 153) (p_aload_n 0 dX1_parts_131) (seq (p := 132) (q := 135) (r := 153) (p_get [(1, 6)] (alL1 fl_X1_166_1) dX1_parts_132) (seq (p := 135) (q := 136) (r := 153) (p_aload_n 0 dX1_parts_135) (seq (p := 136) (q := 139) (r := 153) (p_get [(1, 9)] (alL1 fl_X1_28_1) dX1_parts_136) (seq (p := 139) (q := 140) (r := 153) (p_iload_n 2 dX1_parts_139) (seq (p := 140) (q := 141) (r := 153) (p_iald dX1_parts_140) (seq (p := 141) (q := 142) (r := 153) (p_aload_n 0 dX1_parts_141) (seq (p := 142) (q := 145) (r := 153) (p_get [(1, 9)] (alL1 fl_X1_28_1) dX1_parts_142) (seq (p := 145) (q := 146) (r := 153) (p_iload_n 3 dX1_parts_145) (seq (p := 146) (q := 147) (r := 153) (p_iald dX1_parts_146) (seq (p := 147) (q := 150) (r := 153) (p_callV 1 cv_X1_152 hcR1 (M_X1_isTied l δ) (Nat.le_of_ble_eq_true rfl) dX1_parts_147) (seq (p := 150) (q := 153) (r := 153) (p_goto 188 dX1_parts_150 (by decide)) done))))))))))))))) (seq (p := 153) (q := 154) (r := 188) (p_aload_n 0 dX1_parts_153) (seq (p := 154) (q := 157) (r := 188) (p_get [(1, 1)] (alL1 fl_X1_13_1) dX1_parts_154) (seq (p := 157) (q := 159) (r := 188) (p_bipush 6 dX1_parts_157 (by decide)) (seq (p := 159) (q := 160) (r := 188) (p_aload_n 0 dX1_parts_159) (seq (p := 160) (q := 163) (r := 188) (p_get [(1, 6)] (alL1 fl_X1_166_1) dX1_parts_160) (seq (p := 163) (q := 164) (r := 188) (p_imul dX1_parts_163) (seq (p := 164) (q := 165) (r := 188) (p_aload_n 0 dX1_parts_164) (seq (p := 165) (q := 168) (r := 188) (p_get [(1, 9)] (alL1 fl_X1_28_1) dX1_parts_165) (seq (p := 168) (q := 169) (r := 188) (p_iload_n 2 dX1_parts_168) (seq (p := 169) (q := 170) (r := 188) (p_iald dX1_parts_169) (seq (p := 170) (q := 171) (r := 188) (p_iadd dX1_parts_170) (seq (p := 171) (q := 172) (r := 188) (p_iald dX1_parts_171) (seq (p := 172) (q := 173) (r := 188) (p_iload_n 1 dX1_parts_172) (seq (p := 173) (q := 175) (r := 188) (p_bipush 6 dX1_parts_173 (by decide)) (seq (p := 175) (q := 176) (r := 188) (p_isub dX1_parts_175) (seq (p := 176) (q := 177) (r := 188) (p_ishr dX1_parts_176) (seq (p := 177) (q := 178) (r := 188) (p_iconst 1 dX1_parts_177) (seq (p := 178) (q := 179) (r := 188) (p_iand dX1_parts_178) (seq (p := 179) (q := 180) (r := 188) (p_iconst 1 dX1_parts_179) (seq (p := 180) (q := 187) (r := 188) (blk (seq (p := 180) (q := 183) (r := 187) (p_icmp_ne 187 dX1_parts_180 (by decide)) (seq (p := 183) (q := 184) (r := 187) (p_iconst 1 dX1_parts_183) (seq (p := 184) (q := 187) (r := 187) (p_goto 188 dX1_parts_184 (by decide)) done)))) (seq (p := 187) (q := 188) (r := 188) (p_iconst 0 dX1_parts_187) done)))))))))))))))))))))))))) (seq (p := 188) (q := 190) (r := 236) (p_istore 5 dX1_parts_188 (Nat.le_of_ble_eq_true rfl)) (seq (p := 190) (q := 192) (r := 236) (p_iload 4 dX1_parts_190) (seq (p := 192) (q := 194) (r := 236) (p_iload 5 dX1_parts_192) (seq (p := 194) (q := 199) (r := 236) (blk (seq (p := 194) (q := 197) (r := 199) (p_icmp_ne 199 dX1_parts_194 (by decide)) (seq (p := 197) (q := 198) (r := 199) (p_iconst 0 dX1_parts_197) (seq (p := 198) (q := 199) (r := 199) (p_zreturn dX1_parts_198 rfl) done)))) (seq (p := 199) (q := 201) (r := 236) (p_iload 4 dX1_parts_199) (seq (p := 201) (q := 211) (r := 236) (blk (seq (p := 201) (q := 204) (r := 211) (p_if_ne 211 dX1_parts_201 (by decide)) (seq (p := 204) (q := 205) (r := 211) (p_aload_n 0 dX1_parts_204) (seq (p := 205) (q := 206) (r := 211) (p_iconst 1 dX1_parts_205) (seq (p := 206) (q := 207) (r := 211) (p_iconst 0 dX1_parts_206) (seq (p := 207) (q := 208) (r := 211) (p_iconst 0 dX1_parts_207) (seq (p := 208) (q := 211) (r := 211) (p_callV 1 cv_X1_262 hcR1 (M_X1_emit l δ) (Nat.le_of_ble_eq_true rfl) dX1_parts_208) done))))))) (seq (p := 211) (q := 212) (r := 236) (p_aload_n 0 dX1_parts_211) (seq (p := 212) (q := 213) (r := 236) (p_iload_n 1 dX1_parts_212) (seq (p := 213) (q := 214) (r := 236) (p_iload_n 2 dX1_parts_213) (seq (p := 214) (q := 215) (r := 236) (p_iload_n 1 dX1_parts_214) (seq (p := 215) (q := 217) (r := 236) (p_bipush 9 dX1_parts_215 (by decide)) (seq (p := 217) (q := 231) (r := 236) (blk (seq (p := 217) (q := 230) (r := 231) (blk (seq (p := 217) (q := 226) (r := 230) (blk (seq (p := 217) (q := 220) (r := 226) (p_icmp_eq 226 dX1_parts_217 (by decide)) (seq (p := 220) (q := 221) (r := 226) (p_iload_n 1 dX1_parts_220) (seq (p := 221) (q := 223) (r := 226) (p_bipush 8 dX1_parts_221 (by decide)) (seq (p := 223) (q := 226) (r := 226) (p_icmp_ne 230 dX1_parts_223 (by decide)) done))))) (seq (p := 226) (q := 227) (r := 230) (p_iload_n 3 dX1_parts_226) (seq (p := 227) (q := 230) (r := 230) (p_goto 231 dX1_parts_227 (by decide)) done)))) (seq (p := 230) (q := 231) (r := 231) (p_iconst 0 dX1_parts_230) done))) (seq (p := 231) (q := 234) (r := 236) (p_callV 1 cv_X1_262 hcR1 (M_X1_emit l δ) (Nat.le_of_ble_eq_true rfl) dX1_parts_231) (seq (p := 234) (q := 235) (r := 236) (p_iconst 1 dX1_parts_234) (seq (p := 235) (q := 236) (r := 236) (p_zreturn dX1_parts_235 rfl) done)))))))))))))))))))))
noncomputable def M_X1_parts (l : Launch) (δ : Dl) : Mth l δ yX1_parts cX1_parts 6 (some .boolean) 1 := mk (B_X1_parts l δ) (by decide)
theorem N_X1_parts {l : Launch} {δ : Dl} {o : Nat} {a1 : Int} {a2 : Int} {a3 : Int} {s : St} : (M_X1_parts l δ).1 [.inr (.inr (some o)), .inl a1, .inl a2, .inl a3] s = bres ((B_X1_parts l δ).1 [] [some (.inr (.inr (some o))), some (.inl a1), some (.inl a2), some (.inl a3), none, none] s) := (mk_eq (hy := by decide) rfl).trans (nrfl rfl)

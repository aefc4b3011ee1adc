/-! ===== the reference's methods as segments, 2 ===== -/
set_option maxRecDepth 100000
theorem dX1_keeps2_0 : decode cX1_keeps2 0 = .ok (.aload_n 0, 1) := by decide +kernel
theorem dX1_keeps2_1 : decode cX1_keeps2 1 = .ok (.invokevirtual 178, 3) := by decide +kernel
theorem dX1_keeps2_4 : decode cX1_keeps2 4 = .ok (.istore_n 1, 1) := by decide +kernel
theorem dX1_keeps2_5 : decode cX1_keeps2 5 = .ok (.iconst 0, 1) := by decide +kernel
theorem dX1_keeps2_6 : decode cX1_keeps2 6 = .ok (.istore_n 2, 1) := by decide +kernel
theorem dX1_keeps2_7 : decode cX1_keeps2 7 = .ok (.iload_n 2, 1) := by decide +kernel
theorem dX1_keeps2_8 : decode cX1_keeps2 8 = .ok (.iconst 2, 1) := by decide +kernel
theorem dX1_keeps2_9 : decode cX1_keeps2 9 = .ok (.if_icmp .ge 101, 3) := by decide +kernel
theorem dX1_keeps2_12 : decode cX1_keeps2 12 = .ok (.iconst 0, 1) := by decide +kernel
theorem dX1_keeps2_13 : decode cX1_keeps2 13 = .ok (.istore_n 3, 1) := by decide +kernel
theorem dX1_keeps2_14 : decode cX1_keeps2 14 = .ok (.iload_n 3, 1) := by decide +kernel
theorem dX1_keeps2_15 : decode cX1_keeps2 15 = .ok (.aload_n 0, 1) := by decide +kernel
theorem dX1_keeps2_16 : decode cX1_keeps2 16 = .ok (.iload_n 2, 1) := by decide +kernel
theorem dX1_keeps2_17 : decode cX1_keeps2 17 = .ok (.invokevirtual 182, 3) := by decide +kernel
theorem dX1_keeps2_20 : decode cX1_keeps2 20 = .ok (.if_icmp .ge 84, 3) := by decide +kernel
theorem dX1_keeps2_23 : decode cX1_keeps2 23 = .ok (.iload_n 1, 1) := by decide +kernel
theorem dX1_keeps2_24 : decode cX1_keeps2 24 = .ok (.ifCond .eq 80, 3) := by decide +kernel
theorem dX1_keeps2_27 : decode cX1_keeps2 27 = .ok (.iconst 0, 1) := by decide +kernel
theorem dX1_keeps2_28 : decode cX1_keeps2 28 = .ok (.istore_n 1, 1) := by decide +kernel
theorem dX1_keeps2_29 : decode cX1_keeps2 29 = .ok (.iconst 0, 1) := by decide +kernel
theorem dX1_keeps2_30 : decode cX1_keeps2 30 = .ok (.istore 4, 2) := by decide +kernel
theorem dX1_keeps2_32 : decode cX1_keeps2 32 = .ok (.iload 4, 2) := by decide +kernel
theorem dX1_keeps2_34 : decode cX1_keeps2 34 = .ok (.aload_n 0, 1) := by decide +kernel
theorem dX1_keeps2_35 : decode cX1_keeps2 35 = .ok (.iconst 1, 1) := by decide +kernel
theorem dX1_keeps2_36 : decode cX1_keeps2 36 = .ok (.iload_n 2, 1) := by decide +kernel
theorem dX1_keeps2_37 : decode cX1_keeps2 37 = .ok (.isub, 1) := by decide +kernel
theorem dX1_keeps2_38 : decode cX1_keeps2 38 = .ok (.invokevirtual 182, 3) := by decide +kernel
theorem dX1_keeps2_41 : decode cX1_keeps2 41 = .ok (.if_icmp .ge 57, 3) := by decide +kernel
theorem dX1_keeps2_44 : decode cX1_keeps2 44 = .ok (.iload_n 1, 1) := by decide +kernel
theorem dX1_keeps2_45 : decode cX1_keeps2 45 = .ok (.ifCond .ne 53, 3) := by decide +kernel
theorem dX1_keeps2_48 : decode cX1_keeps2 48 = .ok (.aload_n 0, 1) := by decide +kernel
theorem dX1_keeps2_49 : decode cX1_keeps2 49 = .ok (.iload_n 2, 1) := by decide +kernel
theorem dX1_keeps2_50 : decode cX1_keeps2 50 = .ok (.iload_n 3, 1) := by decide +kernel
theorem dX1_keeps2_51 : decode cX1_keeps2 51 = .ok (.iload 4, 2) := by decide +kernel
theorem dX1_keeps2_53 : decode cX1_keeps2 53 = .ok (.invokevirtual 185, 3) := by decide +kernel
theorem dX1_keeps2_56 : decode cX1_keeps2 56 = .ok (.aload_n 0, 1) := by decide +kernel
theorem dX1_keeps2_57 : decode cX1_keeps2 57 = .ok (.aload_n 0, 1) := by decide +kernel
theorem dX1_keeps2_58 : decode cX1_keeps2 58 = .ok (.getfield 169, 3) := by decide +kernel
theorem dX1_keeps2_61 : decode cX1_keeps2 61 = .ok (.iconst 1, 1) := by decide +kernel
theorem dX1_keeps2_62 : decode cX1_keeps2 62 = .ok (.isub, 1) := by decide +kernel
theorem dX1_keeps2_63 : decode cX1_keeps2 63 = .ok (.invokevirtual 172, 3) := by decide +kernel
theorem dX1_keeps2_66 : decode cX1_keeps2 66 = .ok (.ifCond .eq 14, 3) := by decide +kernel
theorem dX1_keeps2_69 : decode cX1_keeps2 69 = .ok (.aload_n 0, 1) := by decide +kernel
theorem dX1_keeps2_70 : decode cX1_keeps2 70 = .ok (.invokevirtual 189, 3) := by decide +kernel
theorem dX1_keeps2_73 : decode cX1_keeps2 73 = .ok (.ifCond .eq 7, 3) := by decide +kernel
theorem dX1_keeps2_76 : decode cX1_keeps2 76 = .ok (.iconst 1, 1) := by decide +kernel
theorem dX1_keeps2_77 : decode cX1_keeps2 77 = .ok (.goto 4, 3) := by decide +kernel
theorem dX1_keeps2_80 : decode cX1_keeps2 80 = .ok (.iconst 0, 1) := by decide +kernel
theorem dX1_keeps2_81 : decode cX1_keeps2 81 = .ok (.istore_n 1, 1) := by decide +kernel
theorem dX1_keeps2_82 : decode cX1_keeps2 82 = .ok (.aload_n 0, 1) := by decide +kernel
theorem dX1_keeps2_83 : decode cX1_keeps2 83 = .ok (.dup, 1) := by decide +kernel
theorem dX1_keeps2_84 : decode cX1_keeps2 84 = .ok (.getfield 169, 3) := by decide +kernel
theorem dX1_keeps2_87 : decode cX1_keeps2 87 = .ok (.iconst 1, 1) := by decide +kernel
theorem dX1_keeps2_88 : decode cX1_keeps2 88 = .ok (.isub, 1) := by decide +kernel
theorem dX1_keeps2_89 : decode cX1_keeps2 89 = .ok (.putfield 169, 3) := by decide +kernel
theorem dX1_keeps2_92 : decode cX1_keeps2 92 = .ok (.iinc 4 1, 3) := by decide +kernel
theorem dX1_keeps2_95 : decode cX1_keeps2 95 = .ok (.goto (-63), 3) := by decide +kernel
theorem dX1_keeps2_98 : decode cX1_keeps2 98 = .ok (.iinc 3 1, 3) := by decide +kernel
theorem dX1_keeps2_101 : decode cX1_keeps2 101 = .ok (.goto (-87), 3) := by decide +kernel
theorem dX1_keeps2_104 : decode cX1_keeps2 104 = .ok (.iinc 2 1, 3) := by decide +kernel
theorem dX1_keeps2_107 : decode cX1_keeps2 107 = .ok (.goto (-100), 3) := by decide +kernel
theorem dX1_keeps2_110 : decode cX1_keeps2 110 = .ok (.iload_n 1, 1) := by decide +kernel
theorem dX1_keeps2_111 : decode cX1_keeps2 111 = .ok (.ireturn, 1) := by decide +kernel
noncomputable def C_X1_keeps2_L32 (l : Launch) (δ : Dl) : Seg (l, δ, yX1_keeps2, 4, (some .boolean), cX1_keeps2, 5) 32 98 :=
  seq (p := 32) (q := 34) (r := 98) (p_iload 4 dX1_keeps2_32) (seq (p := 34) (q := 35) (r := 98) (p_aload_n 0 dX1_keeps2_34) (seq (p := 35) (q := 36) (r := 98) (p_iconst 1 dX1_keeps2_35) (seq (p := 36) (q := 37) (r := 98) (p_iload_n 2 dX1_keeps2_36) (seq (p := 37) (q := 38) (r := 98) (p_isub dX1_keeps2_37) (seq (p := 38) (q := 41) (r := 98) (p_callV 1 cv_X1_182 hcR1 (M_X1_manyOf l δ) (Nat.le_of_ble_eq_true rfl) dX1_keeps2_38) (seq (p := 41) (q := 44) (r := 98) (p_icmp_ge 98 dX1_keeps2_41 (by decide)) (seq (p := 44) (q := 45) (r := 98) (p_iload_n 1 dX1_keeps2_44) (seq (p := 45) (q := 48) (r := 98) (p_if_ne 98 dX1_keeps2_45 (by decide)) (seq (p := 48) (q := 49) (r := 98) (p_aload_n 0 dX1_keeps2_48) (seq (p := 49) (q := 50) (r := 98) (p_iload_n 2 dX1_keeps2_49) (seq (p := 50) (q := 51) (r := 98) (p_iload_n 3 dX1_keeps2_50) (seq (p := 51) (q := 53) (r := 98) (p_iload 4 dX1_keeps2_51) (seq (p := 53) (q := 56) (r := 98) (p_callV 1 cv_X1_185 hcR1 (M_X1_addPick l δ) (Nat.le_of_ble_eq_true rfl) dX1_keeps2_53) (seq (p := 56) (q := 57) (r := 98) (p_aload_n 0 dX1_keeps2_56) (seq (p := 57) (q := 58) (r := 98) (p_aload_n 0 dX1_keeps2_57) (seq (p := 58) (q := 61) (r := 98) (p_get [(1, 7)] (alL1 fl_X1_169_1) dX1_keeps2_58) (seq (p := 61) (q := 62) (r := 98) (p_iconst 1 dX1_keeps2_61) (seq (p := 62) (q := 63) (r := 98) (p_isub dX1_keeps2_62) (seq (p := 63) (q := 66) (r := 98) (p_callV 1 cv_X1_172 hcR1 (M_X1_isPlaceAlike l δ) (Nat.le_of_ble_eq_true rfl) dX1_keeps2_63) (seq (p := 66) (q := 81) (r := 98) (blk (seq (p := 66) (q := 80) (r := 81) (blk (seq (p := 66) (q := 69) (r := 80) (p_if_eq 80 dX1_keeps2_66 (by decide)) (seq (p := 69) (q := 70) (r := 80) (p_aload_n 0 dX1_keeps2_69) (seq (p := 70) (q := 73) (r := 80) (p_callV 1 cv_X1_189 hcR1 (M_X1_keeps1 l δ) (Nat.le_of_ble_eq_true rfl) dX1_keeps2_70) (seq (p := 73) (q := 76) (r := 80) (p_if_eq 80 dX1_keeps2_73 (by decide)) (seq (p := 76) (q := 77) (r := 80) (p_iconst 1 dX1_keeps2_76) (seq (p := 77) (q := 80) (r := 80) (p_goto 81 dX1_keeps2_77 (by decide)) done))))))) (seq (p := 80) (q := 81) (r := 81) (p_iconst 0 dX1_keeps2_80) done))) (seq (p := 81) (q := 82) (r := 98) (p_istore_n 1 dX1_keeps2_81 (Nat.le_of_ble_eq_true rfl)) (seq (p := 82) (q := 83) (r := 98) (p_aload_n 0 dX1_keeps2_82) (seq (p := 83) (q := 84) (r := 98) (p_dup dX1_keeps2_83) (seq (p := 84) (q := 87) (r := 98) (p_get [(1, 7)] (alL1 fl_X1_169_1) dX1_keeps2_84) (seq (p := 87) (q := 88) (r := 98) (p_iconst 1 dX1_keeps2_87) (seq (p := 88) (q := 89) (r := 98) (p_isub dX1_keeps2_88) (seq (p := 89) (q := 92) (r := 98) (p_put [(1, 7)] .int (alP1 fp_X1_169_1) dX1_keeps2_89) (seq (p := 92) (q := 95) (r := 98) (p_iinc 4 1 dX1_keeps2_92 (Nat.le_of_ble_eq_true rfl)) (seq (p := 95) (q := 95) (r := 98) (er [true, true, true, true, true]) (seq (p := 95) (q := 98) (r := 98) (p_goto 32 dX1_keeps2_95 (by decide)) done))))))))))))))))))))))))))))))
noncomputable def B_X1_keeps2_L32 (l : Launch) (δ : Dl) : Seg (l, δ, yX1_keeps2, 4, (some .boolean), cX1_keeps2, 5) 32 98 := C_X1_keeps2_L32 l δ
theorem L_X1_keeps2_32 {l : Launch} {δ : Dl} {st : Stk} {L : Lc} {s : St} : (B_X1_keeps2_L32 l δ).1 st L s = (C_X1_keeps2_L32 l δ).1 st L s := nrfl rfl
noncomputable def C_X1_keeps2_L14 (l : Launch) (δ : Dl) : Seg (l, δ, yX1_keeps2, 4, (some .boolean), cX1_keeps2, 5) 14 104 :=
  seq (p := 14) (q := 15) (r := 104) (p_iload_n 3 dX1_keeps2_14) (seq (p := 15) (q := 16) (r := 104) (p_aload_n 0 dX1_keeps2_15) (seq (p := 16) (q := 17) (r := 104) (p_iload_n 2 dX1_keeps2_16) (seq (p := 17) (q := 20) (r := 104) (p_callV 1 cv_X1_182 hcR1 (M_X1_manyOf l δ) (Nat.le_of_ble_eq_true rfl) dX1_keeps2_17) (seq (p := 20) (q := 23) (r := 104) (p_icmp_ge 104 dX1_keeps2_20 (by decide)) (seq (p := 23) (q := 24) (r := 104) (p_iload_n 1 dX1_keeps2_23) (seq (p := 24) (q := 27) (r := 104) (p_if_eq 104 dX1_keeps2_24 (by decide)) (seq (p := 27) (q := 28) (r := 104) (p_iconst 0 dX1_keeps2_27) (seq (p := 28) (q := 29) (r := 104) (p_istore_n 1 dX1_keeps2_28 (Nat.le_of_ble_eq_true rfl)) (seq (p := 29) (q := 30) (r := 104) (p_iconst 0 dX1_keeps2_29) (seq (p := 30) (q := 32) (r := 104) (p_istore 4 dX1_keeps2_30 (Nat.le_of_ble_eq_true rfl)) (seq (p := 32) (q := 98) (r := 104) (blk (seq (p := 32) (q := 32) (r := 98) (er [true, true, true, true, true]) (seq (p := 32) (q := 98) (r := 98) (lp (B_X1_keeps2_L32 l δ)) done))) (seq (p := 98) (q := 101) (r := 104) (p_iinc 3 1 dX1_keeps2_98 (Nat.le_of_ble_eq_true rfl)) (seq (p := 101) (q := 101) (r := 104) (er [true, true, true, true, false]) (seq (p := 101) (q := 104) (r := 104) (p_goto 14 dX1_keeps2_101 (by decide)) done))))))))))))))
noncomputable def B_X1_keeps2_L14 (l : Launch) (δ : Dl) : Seg (l, δ, yX1_keeps2, 4, (some .boolean), cX1_keeps2, 5) 14 104 := C_X1_keeps2_L14 l δ
theorem L_X1_keeps2_14 {l : Launch} {δ : Dl} {st : Stk} {L : Lc} {s : St} : (B_X1_keeps2_L14 l δ).1 st L s = (C_X1_keeps2_L14 l δ).1 st L s := nrfl rfl
noncomputable def C_X1_keeps2_L7 (l : Launch) (δ : Dl) : Seg (l, δ, yX1_keeps2, 4, (some .boolean), cX1_keeps2, 5) 7 110 :=
  seq (p := 7) (q := 8) (r := 110) (p_iload_n 2 dX1_keeps2_7) (seq (p := 8) (q := 9) (r := 110) (p_iconst 2 dX1_keeps2_8) (seq (p := 9) (q := 12) (r := 110) (p_icmp_ge 110 dX1_keeps2_9 (by decide)) (seq (p := 12) (q := 13) (r := 110) (p_iconst 0 dX1_keeps2_12) (seq (p := 13) (q := 14) (r := 110) (p_istore_n 3 dX1_keeps2_13 (Nat.le_of_ble_eq_true rfl)) (seq (p := 14) (q := 104) (r := 110) (blk (seq (p := 14) (q := 14) (r := 104) (er [true, true, true, true, false]) (seq (p := 14) (q := 104) (r := 104) (lp (B_X1_keeps2_L14 l δ)) done))) (seq (p := 104) (q := 107) (r := 110) (p_iinc 2 1 dX1_keeps2_104 (Nat.le_of_ble_eq_true rfl)) (seq (p := 107) (q := 107) (r := 110) (er [true, true, true, false, false]) (seq (p := 107) (q := 110) (r := 110) (p_goto 7 dX1_keeps2_107 (by decide)) done))))))))
noncomputable def B_X1_keeps2_L7 (l : Launch) (δ : Dl) : Seg (l, δ, yX1_keeps2, 4, (some .boolean), cX1_keeps2, 5) 7 110 := C_X1_keeps2_L7 l δ
theorem L_X1_keeps2_7 {l : Launch} {δ : Dl} {st : Stk} {L : Lc} {s : St} : (B_X1_keeps2_L7 l δ).1 st L s = (C_X1_keeps2_L7 l δ).1 st L s := nrfl rfl
noncomputable def B_X1_keeps2 (l : Launch) (δ : Dl) : Seg (l, δ, yX1_keeps2, 4, (some .boolean), cX1_keeps2, 5) 0 112 :=
  seq (p := 0) (q := 1) (r := 112) (p_aload_n 0 dX1_keeps2_0) (seq (p := 1) (q := 4) (r := 112) (p_callV 1 cv_X1_178 hcR1 (M_X1_areAlike l δ) (Nat.le_of_ble_eq_true rfl) dX1_keeps2_1) (seq (p := 4) (q := 5) (r := 112) (p_istore_n 1 dX1_keeps2_4 (Nat.le_of_ble_eq_true rfl)) (seq (p := 5) (q := 6) (r := 112) (p_iconst 0 dX1_keeps2_5) (seq (p := 6) (q := 7) (r := 112) (p_istore_n 2 dX1_keeps2_6 (Nat.le_of_ble_eq_true rfl)) (seq (p := 7) (q := 110) (r := 112) (blk (seq (p := 7) (q := 7) (r := 110) (er [true, true, true, false, false]) (seq (p := 7) (q := 110) (r := 110) (lp (B_X1_keeps2_L7 l δ)) done))) (seq (p := 110) (q := 111) (r := 112) (p_iload_n 1 dX1_keeps2_110) (seq (p := 111) (q := 112) (r := 112) (p_zreturn dX1_keeps2_111 rfl) done)))))))
noncomputable def M_X1_keeps2 (l : Launch) (δ : Dl) : Mth l δ yX1_keeps2 cX1_keeps2 5 (some .boolean) 4 := mk (B_X1_keeps2 l δ) (by decide)
theorem N_X1_keeps2 {l : Launch} {δ : Dl} {o : Nat} {s : St} : (M_X1_keeps2 l δ).1 [.inr (.inr (some o))] s = bres ((B_X1_keeps2 l δ).1 [] [some (.inr (.inr (some o))), none, none, none, none] s) := (mk_eq (hy := by decide) rfl).trans (nrfl rfl)
theorem dX1_keeps3_0 : decode cX1_keeps3 0 = .ok (.aload_n 0, 1) := by decide +kernel
theorem dX1_keeps3_1 : decode cX1_keeps3 1 = .ok (.invokevirtual 178, 3) := by decide +kernel
theorem dX1_keeps3_4 : decode cX1_keeps3 4 = .ok (.istore_n 1, 1) := by decide +kernel
theorem dX1_keeps3_5 : decode cX1_keeps3 5 = .ok (.iconst 0, 1) := by decide +kernel
theorem dX1_keeps3_6 : decode cX1_keeps3 6 = .ok (.istore_n 2, 1) := by decide +kernel
theorem dX1_keeps3_7 : decode cX1_keeps3 7 = .ok (.iload_n 2, 1) := by decide +kernel
theorem dX1_keeps3_8 : decode cX1_keeps3 8 = .ok (.iconst 2, 1) := by decide +kernel
theorem dX1_keeps3_9 : decode cX1_keeps3 9 = .ok (.if_icmp .ge 101, 3) := by decide +kernel
theorem dX1_keeps3_12 : decode cX1_keeps3 12 = .ok (.iconst 0, 1) := by decide +kernel
theorem dX1_keeps3_13 : decode cX1_keeps3 13 = .ok (.istore_n 3, 1) := by decide +kernel
theorem dX1_keeps3_14 : decode cX1_keeps3 14 = .ok (.iload_n 3, 1) := by decide +kernel
theorem dX1_keeps3_15 : decode cX1_keeps3 15 = .ok (.aload_n 0, 1) := by decide +kernel
theorem dX1_keeps3_16 : decode cX1_keeps3 16 = .ok (.iload_n 2, 1) := by decide +kernel
theorem dX1_keeps3_17 : decode cX1_keeps3 17 = .ok (.invokevirtual 182, 3) := by decide +kernel
theorem dX1_keeps3_20 : decode cX1_keeps3 20 = .ok (.if_icmp .ge 84, 3) := by decide +kernel
theorem dX1_keeps3_23 : decode cX1_keeps3 23 = .ok (.iload_n 1, 1) := by decide +kernel
theorem dX1_keeps3_24 : decode cX1_keeps3 24 = .ok (.ifCond .eq 80, 3) := by decide +kernel
theorem dX1_keeps3_27 : decode cX1_keeps3 27 = .ok (.iconst 0, 1) := by decide +kernel
theorem dX1_keeps3_28 : decode cX1_keeps3 28 = .ok (.istore_n 1, 1) := by decide +kernel
theorem dX1_keeps3_29 : decode cX1_keeps3 29 = .ok (.iconst 0, 1) := by decide +kernel
theorem dX1_keeps3_30 : decode cX1_keeps3 30 = .ok (.istore 4, 2) := by decide +kernel
theorem dX1_keeps3_32 : decode cX1_keeps3 32 = .ok (.iload 4, 2) := by decide +kernel
theorem dX1_keeps3_34 : decode cX1_keeps3 34 = .ok (.aload_n 0, 1) := by decide +kernel
theorem dX1_keeps3_35 : decode cX1_keeps3 35 = .ok (.iconst 1, 1) := by decide +kernel
theorem dX1_keeps3_36 : decode cX1_keeps3 36 = .ok (.iload_n 2, 1) := by decide +kernel
theorem dX1_keeps3_37 : decode cX1_keeps3 37 = .ok (.isub, 1) := by decide +kernel
theorem dX1_keeps3_38 : decode cX1_keeps3 38 = .ok (.invokevirtual 182, 3) := by decide +kernel
theorem dX1_keeps3_41 : decode cX1_keeps3 41 = .ok (.if_icmp .ge 57, 3) := by decide +kernel
theorem dX1_keeps3_44 : decode cX1_keeps3 44 = .ok (.iload_n 1, 1) := by decide +kernel
theorem dX1_keeps3_45 : decode cX1_keeps3 45 = .ok (.ifCond .ne 53, 3) := by decide +kernel
theorem dX1_keeps3_48 : decode cX1_keeps3 48 = .ok (.aload_n 0, 1) := by decide +kernel
theorem dX1_keeps3_49 : decode cX1_keeps3 49 = .ok (.iload_n 2, 1) := by decide +kernel
theorem dX1_keeps3_50 : decode cX1_keeps3 50 = .ok (.iload_n 3, 1) := by decide +kernel
theorem dX1_keeps3_51 : decode cX1_keeps3 51 = .ok (.iload 4, 2) := by decide +kernel
theorem dX1_keeps3_53 : decode cX1_keeps3 53 = .ok (.invokevirtual 185, 3) := by decide +kernel
theorem dX1_keeps3_56 : decode cX1_keeps3 56 = .ok (.aload_n 0, 1) := by decide +kernel
theorem dX1_keeps3_57 : decode cX1_keeps3 57 = .ok (.aload_n 0, 1) := by decide +kernel
theorem dX1_keeps3_58 : decode cX1_keeps3 58 = .ok (.getfield 169, 3) := by decide +kernel
theorem dX1_keeps3_61 : decode cX1_keeps3 61 = .ok (.iconst 1, 1) := by decide +kernel
theorem dX1_keeps3_62 : decode cX1_keeps3 62 = .ok (.isub, 1) := by decide +kernel
theorem dX1_keeps3_63 : decode cX1_keeps3 63 = .ok (.invokevirtual 172, 3) := by decide +kernel
theorem dX1_keeps3_66 : decode cX1_keeps3 66 = .ok (.ifCond .eq 14, 3) := by decide +kernel
theorem dX1_keeps3_69 : decode cX1_keeps3 69 = .ok (.aload_n 0, 1) := by decide +kernel
theorem dX1_keeps3_70 : decode cX1_keeps3 70 = .ok (.invokevirtual 192, 3) := by decide +kernel
theorem dX1_keeps3_73 : decode cX1_keeps3 73 = .ok (.ifCond .eq 7, 3) := by decide +kernel
theorem dX1_keeps3_76 : decode cX1_keeps3 76 = .ok (.iconst 1, 1) := by decide +kernel
theorem dX1_keeps3_77 : decode cX1_keeps3 77 = .ok (.goto 4, 3) := by decide +kernel
theorem dX1_keeps3_80 : decode cX1_keeps3 80 = .ok (.iconst 0, 1) := by decide +kernel
theorem dX1_keeps3_81 : decode cX1_keeps3 81 = .ok (.istore_n 1, 1) := by decide +kernel
theorem dX1_keeps3_82 : decode cX1_keeps3 82 = .ok (.aload_n 0, 1) := by decide +kernel
theorem dX1_keeps3_83 : decode cX1_keeps3 83 = .ok (.dup, 1) := by decide +kernel
theorem dX1_keeps3_84 : decode cX1_keeps3 84 = .ok (.getfield 169, 3) := by decide +kernel
theorem dX1_keeps3_87 : decode cX1_keeps3 87 = .ok (.iconst 1, 1) := by decide +kernel
theorem dX1_keeps3_88 : decode cX1_keeps3 88 = .ok (.isub, 1) := by decide +kernel
theorem dX1_keeps3_89 : decode cX1_keeps3 89 = .ok (.putfield 169, 3) := by decide +kernel
theorem dX1_keeps3_92 : decode cX1_keeps3 92 = .ok (.iinc 4 1, 3) := by decide +kernel
theorem dX1_keeps3_95 : decode cX1_keeps3 95 = .ok (.goto (-63), 3) := by decide +kernel
theorem dX1_keeps3_98 : decode cX1_keeps3 98 = .ok (.iinc 3 1, 3) := by decide +kernel
theorem dX1_keeps3_101 : decode cX1_keeps3 101 = .ok (.goto (-87), 3) := by decide +kernel
theorem dX1_keeps3_104 : decode cX1_keeps3 104 = .ok (.iinc 2 1, 3) := by decide +kernel
theorem dX1_keeps3_107 : decode cX1_keeps3 107 = .ok (.goto (-100), 3) := by decide +kernel
theorem dX1_keeps3_110 : decode cX1_keeps3 110 = .ok (.iload_n 1, 1) := by decide +kernel
theorem dX1_keeps3_111 : decode cX1_keeps3 111 = .ok (.ireturn, 1) := by decide +kernel
noncomputable def C_X1_keeps3_L32 (l : Launch) (δ : Dl) : Seg (l, δ, yX1_keeps3, 5, (some .boolean), cX1_keeps3, 5) 32 98 :=
  seq (p := 32) (q := 34) (r := 98) (p_iload 4 dX1_keeps3_32) (seq (p := 34) (q := 35) (r := 98) (p_aload_n 0 dX1_keeps3_34) (seq (p := 35) (q := 36) (r := 98) (p_iconst 1 dX1_keeps3_35) (seq (p := 36) (q := 37) (r := 98) (p_iload_n 2 dX1_keeps3_36) (seq (p := 37) (q := 38) (r := 98) (p_isub dX1_keeps3_37) (seq (p := 38) (q := 41) (r := 98) (p_callV 1 cv_X1_182 hcR1 (M_X1_manyOf l δ) (Nat.le_of_ble_eq_true rfl) dX1_keeps3_38) (seq (p := 41) (q := 44) (r := 98) (p_icmp_ge 98 dX1_keeps3_41 (by decide)) (seq (p := 44) (q := 45) (r := 98) (p_iload_n 1 dX1_keeps3_44) (seq (p := 45) (q := 48) (r := 98) (p_if_ne 98 dX1_keeps3_45 (by decide)) (seq (p := 48) (q := 49) (r := 98) (p_aload_n 0 dX1_keeps3_48) (seq (p := 49) (q := 50) (r := 98) (p_iload_n 2 dX1_keeps3_49) (seq (p := 50) (q := 51) (r := 98) (p_iload_n 3 dX1_keeps3_50) (seq (p := 51) (q := 53) (r := 98) (p_iload 4 dX1_keeps3_51) (seq (p := 53) (q := 56) (r := 98) (p_callV 1 cv_X1_185 hcR1 (M_X1_addPick l δ) (Nat.le_of_ble_eq_true rfl) dX1_keeps3_53) (seq (p := 56) (q := 57) (r := 98) (p_aload_n 0 dX1_keeps3_56) (seq (p := 57) (q := 58) (r := 98) (p_aload_n 0 dX1_keeps3_57) (seq (p := 58) (q := 61) (r := 98) (p_get [(1, 7)] (alL1 fl_X1_169_1) dX1_keeps3_58) (seq (p := 61) (q := 62) (r := 98) (p_iconst 1 dX1_keeps3_61) (seq (p := 62) (q := 63) (r := 98) (p_isub dX1_keeps3_62) (seq (p := 63) (q := 66) (r := 98) (p_callV 1 cv_X1_172 hcR1 (M_X1_isPlaceAlike l δ) (Nat.le_of_ble_eq_true rfl) dX1_keeps3_63) (seq (p := 66) (q := 81) (r := 98) (blk (seq (p := 66) (q := 80) (r := 81) (blk (seq (p := 66) (q := 69) (r := 80) (p_if_eq 80 dX1_keeps3_66 (by decide)) (seq (p := 69) (q := 70) (r := 80) (p_aload_n 0 dX1_keeps3_69) (seq (p := 70) (q := 73) (r := 80) (p_callV 1 cv_X1_192 hcR1 (M_X1_keeps2 l δ) (Nat.le_of_ble_eq_true rfl) dX1_keeps3_70) (seq (p := 73) (q := 76) (r := 80) (p_if_eq 80 dX1_keeps3_73 (by decide)) (seq (p := 76) (q := 77) (r := 80) (p_iconst 1 dX1_keeps3_76) (seq (p := 77) (q := 80) (r := 80) (p_goto 81 dX1_keeps3_77 (by decide)) done))))))) (seq (p := 80) (q := 81) (r := 81) (p_iconst 0 dX1_keeps3_80) done))) (seq (p := 81) (q := 82) (r := 98) (p_istore_n 1 dX1_keeps3_81 (Nat.le_of_ble_eq_true rfl)) (seq (p := 82) (q := 83) (r := 98) (p_aload_n 0 dX1_keeps3_82) (seq (p := 83) (q := 84) (r := 98) (p_dup dX1_keeps3_83) (seq (p := 84) (q := 87) (r := 98) (p_get [(1, 7)] (alL1 fl_X1_169_1) dX1_keeps3_84) (seq (p := 87) (q := 88) (r := 98) (p_iconst 1 dX1_keeps3_87) (seq (p := 88) (q := 89) (r := 98) (p_isub dX1_keeps3_88) (seq (p := 89) (q := 92) (r := 98) (p_put [(1, 7)] .int (alP1 fp_X1_169_1) dX1_keeps3_89) (seq (p := 92) (q := 95) (r := 98) (p_iinc 4 1 dX1_keeps3_92 (Nat.le_of_ble_eq_true rfl)) (seq (p := 95) (q := 95) (r := 98) (er [true, true, true, true, true]) (seq (p := 95) (q := 98) (r := 98) (p_goto 32 dX1_keeps3_95 (by decide)) done))))))))))))))))))))))))))))))
noncomputable def B_X1_keeps3_L32 (l : Launch) (δ : Dl) : Seg (l, δ, yX1_keeps3, 5, (some .boolean), cX1_keeps3, 5) 32 98 := C_X1_keeps3_L32 l δ
theorem L_X1_keeps3_32 {l : Launch} {δ : Dl} {st : Stk} {L : Lc} {s : St} : (B_X1_keeps3_L32 l δ).1 st L s = (C_X1_keeps3_L32 l δ).1 st L s := nrfl rfl
noncomputable def C_X1_keeps3_L14 (l : Launch) (δ : Dl) : Seg (l, δ, yX1_keeps3, 5, (some .boolean), cX1_keeps3, 5) 14 104 :=
  seq (p := 14) (q := 15) (r := 104) (p_iload_n 3 dX1_keeps3_14) (seq (p := 15) (q := 16) (r := 104) (p_aload_n 0 dX1_keeps3_15) (seq (p := 16) (q := 17) (r := 104) (p_iload_n 2 dX1_keeps3_16) (seq (p := 17) (q := 20) (r := 104) (p_callV 1 cv_X1_182 hcR1 (M_X1_manyOf l δ) (Nat.le_of_ble_eq_true rfl) dX1_keeps3_17) (seq (p := 20) (q := 23) (r := 104) (p_icmp_ge 104 dX1_keeps3_20 (by decide)) (seq (p := 23) (q := 24) (r := 104) (p_iload_n 1 dX1_keeps3_23) (seq (p := 24) (q := 27) (r := 104) (p_if_eq 104 dX1_keeps3_24 (by decide)) (seq (p := 27) (q := 28) (r := 104) (p_iconst 0 dX1_keeps3_27) (seq (p := 28) (q := 29) (r := 104) (p_istore_n 1 dX1_keeps3_28 (Nat.le_of_ble_eq_true rfl)) (seq (p := 29) (q := 30) (r := 104) (p_iconst 0 dX1_keeps3_29) (seq (p := 30) (q := 32) (r := 104) (p_istore 4 dX1_keeps3_30 (Nat.le_of_ble_eq_true rfl)) (seq (p := 32) (q := 98) (r := 104) (blk (seq (p := 32) (q := 32) (r := 98) (er [true, true, true, true, true]) (seq (p := 32) (q := 98) (r := 98) (lp (B_X1_keeps3_L32 l δ)) done))) (seq (p := 98) (q := 101) (r := 104) (p_iinc 3 1 dX1_keeps3_98 (Nat.le_of_ble_eq_true rfl)) (seq (p := 101) (q := 101) (r := 104) (er [true, true, true, true, false]) (seq (p := 101) (q := 104) (r := 104) (p_goto 14 dX1_keeps3_101 (by decide)) done))))))))))))))
noncomputable def B_X1_keeps3_L14 (l : Launch) (δ : Dl) : Seg (l, δ, yX1_keeps3, 5, (some .boolean), cX1_keeps3, 5) 14 104 := C_X1_keeps3_L14 l δ
theorem L_X1_keeps3_14 {l : Launch} {δ : Dl} {st : Stk} {L : Lc} {s : St} : (B_X1_keeps3_L14 l δ).1 st L s = (C_X1_keeps3_L14 l δ).1 st L s := nrfl rfl
noncomputable def C_X1_keeps3_L7 (l : Launch) (δ : Dl) : Seg (l, δ, yX1_keeps3, 5, (some .boolean), cX1_keeps3, 5) 7 110 :=
  seq (p := 7) (q := 8) (r := 110) (p_iload_n 2 dX1_keeps3_7) (seq (p := 8) (q := 9) (r := 110) (p_iconst 2 dX1_keeps3_8) (seq (p := 9) (q := 12) (r := 110) (p_icmp_ge 110 dX1_keeps3_9 (by decide)) (seq (p := 12) (q := 13) (r := 110) (p_iconst 0 dX1_keeps3_12) (seq (p := 13) (q := 14) (r := 110) (p_istore_n 3 dX1_keeps3_13 (Nat.le_of_ble_eq_true rfl)) (seq (p := 14) (q := 104) (r := 110) (blk (seq (p := 14) (q := 14) (r := 104) (er [true, true, true, true, false]) (seq (p := 14) (q := 104) (r := 104) (lp (B_X1_keeps3_L14 l δ)) done))) (seq (p := 104) (q := 107) (r := 110) (p_iinc 2 1 dX1_keeps3_104 (Nat.le_of_ble_eq_true rfl)) (seq (p := 107) (q := 107) (r := 110) (er [true, true, true, false, false]) (seq (p := 107) (q := 110) (r := 110) (p_goto 7 dX1_keeps3_107 (by decide)) done))))))))
noncomputable def B_X1_keeps3_L7 (l : Launch) (δ : Dl) : Seg (l, δ, yX1_keeps3, 5, (some .boolean), cX1_keeps3, 5) 7 110 := C_X1_keeps3_L7 l δ
theorem L_X1_keeps3_7 {l : Launch} {δ : Dl} {st : Stk} {L : Lc} {s : St} : (B_X1_keeps3_L7 l δ).1 st L s = (C_X1_keeps3_L7 l δ).1 st L s := nrfl rfl
noncomputable def B_X1_keeps3 (l : Launch) (δ : Dl) : Seg (l, δ, yX1_keeps3, 5, (some .boolean), cX1_keeps3, 5) 0 112 :=
  seq (p := 0) (q := 1) (r := 112) (p_aload_n 0 dX1_keeps3_0) (seq (p := 1) (q := 4) (r := 112) (p_callV 1 cv_X1_178 hcR1 (M_X1_areAlike l δ) (Nat.le_of_ble_eq_true rfl) dX1_keeps3_1) (seq (p := 4) (q := 5) (r := 112) (p_istore_n 1 dX1_keeps3_4 (Nat.le_of_ble_eq_true rfl)) (seq (p := 5) (q := 6) (r := 112) (p_iconst 0 dX1_keeps3_5) (seq (p := 6) (q := 7) (r := 112) (p_istore_n 2 dX1_keeps3_6 (Nat.le_of_ble_eq_true rfl)) (seq (p := 7) (q := 110) (r := 112) (blk (seq (p := 7) (q := 7) (r := 110) (er [true, true, true, false, false]) (seq (p := 7) (q := 110) (r := 110) (lp (B_X1_keeps3_L7 l δ)) done))) (seq (p := 110) (q := 111) (r := 112) (p_iload_n 1 dX1_keeps3_110) (seq (p := 111) (q := 112) (r := 112) (p_zreturn dX1_keeps3_111 rfl) done)))))))
noncomputable def M_X1_keeps3 (l : Launch) (δ : Dl) : Mth l δ yX1_keeps3 cX1_keeps3 5 (some .boolean) 5 := mk (B_X1_keeps3 l δ) (by decide)
theorem N_X1_keeps3 {l : Launch} {δ : Dl} {o : Nat} {s : St} : (M_X1_keeps3 l δ).1 [.inr (.inr (some o))] s = bres ((B_X1_keeps3 l δ).1 [] [some (.inr (.inr (some o))), none, none, none, none] s) := (mk_eq (hy := by decide) rfl).trans (nrfl rfl)
theorem dX1_keeps_0 : decode cX1_keeps 0 = .ok (.iload_n 1, 1) := by decide +kernel
theorem dX1_keeps_1 : decode cX1_keeps 1 = .ok (.ifCond .ne 10, 3) := by decide +kernel
theorem dX1_keeps_4 : decode cX1_keeps 4 = .ok (.aload_n 0, 1) := by decide +kernel
theorem dX1_keeps_5 : decode cX1_keeps 5 = .ok (.invokevirtual 178, 3) := by decide +kernel
theorem dX1_keeps_8 : decode cX1_keeps 8 = .ok (.goto 31, 3) := by decide +kernel
theorem dX1_keeps_11 : decode cX1_keeps 11 = .ok (.iload_n 1, 1) := by decide +kernel
theorem dX1_keeps_12 : decode cX1_keeps 12 = .ok (.iconst 1, 1) := by decide +kernel
theorem dX1_keeps_13 : decode cX1_keeps 13 = .ok (.if_icmp .ne 10, 3) := by decide +kernel
theorem dX1_keeps_16 : decode cX1_keeps 16 = .ok (.aload_n 0, 1) := by decide +kernel
theorem dX1_keeps_17 : decode cX1_keeps 17 = .ok (.invokevirtual 189, 3) := by decide +kernel
theorem dX1_keeps_20 : decode cX1_keeps 20 = .ok (.goto 19, 3) := by decide +kernel
theorem dX1_keeps_23 : decode cX1_keeps 23 = .ok (.iload_n 1, 1) := by decide +kernel
theorem dX1_keeps_24 : decode cX1_keeps 24 = .ok (.iconst 2, 1) := by decide +kernel
theorem dX1_keeps_25 : decode cX1_keeps 25 = .ok (.if_icmp .ne 10, 3) := by decide +kernel
theorem dX1_keeps_28 : decode cX1_keeps 28 = .ok (.aload_n 0, 1) := by decide +kernel
theorem dX1_keeps_29 : decode cX1_keeps 29 = .ok (.invokevirtual 192, 3) := by decide +kernel
theorem dX1_keeps_32 : decode cX1_keeps 32 = .ok (.goto 7, 3) := by decide +kernel
theorem dX1_keeps_35 : decode cX1_keeps 35 = .ok (.aload_n 0, 1) := by decide +kernel
theorem dX1_keeps_36 : decode cX1_keeps 36 = .ok (.invokevirtual 195, 3) := by decide +kernel
theorem dX1_keeps_39 : decode cX1_keeps 39 = .ok (.ireturn, 1) := by decide +kernel
noncomputable def B_X1_keeps (l : Launch) (δ : Dl) : Seg (l, δ, yX1_keeps, 6, (some .boolean), cX1_keeps, 2) 0 40 :=
  seq (p := 0) (q := 1) (r := 40) (p_iload_n 1 dX1_keeps_0) (seq (p := 1) (q := 39) (r := 40) (blk (seq (p := 1) (q := 11) (r := 39) (blk (seq (p := 1) (q := 4) (r := 11) (p_if_ne 11 dX1_keeps_1 (by decide)) (seq (p := 4) (q := 5) (r := 11) (p_aload_n 0 dX1_keeps_4) (seq (p := 5) (q := 8) (r := 11) (p_callV 1 cv_X1_178 hcR1 (M_X1_areAlike l δ) (Nat.le_of_ble_eq_true rfl) dX1_keeps_5) (seq (p := 8) (q := 11) (r := 11) (p_goto 39 dX1_keeps_8 (by decide)) done))))) (seq (p := 11) (q := 12) (r := 39) (p_iload_n 1 dX1_keeps_11) (seq (p := 12) (q := 13) (r := 39) (p_iconst 1 dX1_keeps_12) (seq (p := 13) (q := 23) (r := 39) (blk (seq (p := 13) (q := 16) (r := 23) (p_icmp_ne 23 dX1_keeps_13 (by decide)) (seq (p := 16) (q := 17) (r := 23) (p_aload_n 0 dX1_keeps_16) (seq (p := 17) (q := 20) (r := 23) (p_callV 1 cv_X1_189 hcR1 (M_X1_keeps1 l δ) (Nat.le_of_ble_eq_true rfl) dX1_keeps_17) (seq (p := 20) (q := 23) (r := 23) (p_goto 39 dX1_keeps_20 (by decide)) done))))) (seq (p := 23) (q := 24) (r := 39) (p_iload_n 1 dX1_keeps_23) (seq (p := 24) (q := 25) (r := 39) (p_iconst 2 dX1_keeps_24) (seq (p := 25) (q := 35) (r := 39) (blk (seq (p := 25) (q := 28) (r := 35) (p_icmp_ne 35 dX1_keeps_25 (by decide)) (seq (p := 28) (q := 29) (r := 35) (p_aload_n 0 dX1_keeps_28) (seq (p := 29) (q := 32) (r := 35) (p_callV 1 cv_X1_192 hcR1 (M_X1_keeps2 l δ) (Nat.le_of_ble_eq_true rfl) dX1_keeps_29) (seq (p := 32) (q := 35) (r := 35) (p_goto 39 dX1_keeps_32 (by decide)) done))))) (seq (p := 35) (q := 36) (r := 39) (p_aload_n 0 dX1_keeps_35) (seq (p := 36) (q := 39) (r := 39) (p_callV 1 cv_X1_195 hcR1 (M_X1_keeps3 l δ) (Nat.le_of_ble_eq_true rfl) dX1_keeps_36) done)))))))))) (seq (p := 39) (q := 40) (r := 40) (p_zreturn dX1_keeps_39 rfl) done))
noncomputable def M_X1_keeps (l : Launch) (δ : Dl) : Mth l δ yX1_keeps cX1_keeps 2 (some .boolean) 6 := mk (B_X1_keeps l δ) (by decide)
theorem N_X1_keeps {l : Launch} {δ : Dl} {o : Nat} {a1 : Int} {s : St} : (M_X1_keeps l δ).1 [.inr (.inr (some o)), .inl a1] s = bres ((B_X1_keeps l δ).1 [] [some (.inr (.inr (some o))), some (.inl a1)] s) := (mk_eq (hy := by decide) rfl).trans (nrfl rfl)
theorem dX1_game_0 : decode cX1_game 0 = .ok (.aload_n 0, 1) := by decide +kernel
theorem dX1_game_1 : decode cX1_game 1 = .ok (.iload_n 1, 1) := by decide +kernel
theorem dX1_game_2 : decode cX1_game 2 = .ok (.invokevirtual 141, 3) := by decide +kernel
theorem dX1_game_5 : decode cX1_game 5 = .ok (.ifCond .ne 11, 3) := by decide +kernel
theorem dX1_game_8 : decode cX1_game 8 = .ok (.aload_n 0, 1) := by decide +kernel
theorem dX1_game_9 : decode cX1_game 9 = .ok (.iload_n 2, 1) := by decide +kernel
theorem dX1_game_10 : decode cX1_game 10 = .ok (.invokevirtual 141, 3) := by decide +kernel
theorem dX1_game_13 : decode cX1_game 13 = .ok (.ifCond .eq 5, 3) := by decide +kernel
theorem dX1_game_16 : decode cX1_game 16 = .ok (.iconst (-1), 1) := by decide +kernel
theorem dX1_game_17 : decode cX1_game 17 = .ok (.ireturn, 1) := by decide +kernel
theorem dX1_game_18 : decode cX1_game 18 = .ok (.iload_n 3, 1) := by decide +kernel
theorem dX1_game_19 : decode cX1_game 19 = .ok (.iconst 0, 1) := by decide +kernel
theorem dX1_game_20 : decode cX1_game 20 = .ok (.iconst 3, 1) := by decide +kernel
theorem dX1_game_21 : decode cX1_game 21 = .ok (.invokestatic 133, 3) := by decide +kernel
theorem dX1_game_24 : decode cX1_game 24 = .ok (.ifCond .ne 6, 3) := by decide +kernel
theorem dX1_game_27 : decode cX1_game 27 = .ok (.bipush (-2), 2) := by decide +kernel
theorem dX1_game_29 : decode cX1_game 29 = .ok (.ireturn, 1) := by decide +kernel
theorem dX1_game_30 : decode cX1_game 30 = .ok (.aload_n 0, 1) := by decide +kernel
theorem dX1_game_31 : decode cX1_game 31 = .ok (.iload_n 1, 1) := by decide +kernel
theorem dX1_game_32 : decode cX1_game 32 = .ok (.iload_n 2, 1) := by decide +kernel
theorem dX1_game_33 : decode cX1_game 33 = .ok (.invokevirtual 198, 3) := by decide +kernel
theorem dX1_game_36 : decode cX1_game 36 = .ok (.aload_n 0, 1) := by decide +kernel
theorem dX1_game_37 : decode cX1_game 37 = .ok (.iload_n 3, 1) := by decide +kernel
theorem dX1_game_38 : decode cX1_game 38 = .ok (.invokevirtual 201, 3) := by decide +kernel
theorem dX1_game_41 : decode cX1_game 41 = .ok (.ifCond .eq 7, 3) := by decide +kernel
theorem dX1_game_44 : decode cX1_game 44 = .ok (.iconst 1, 1) := by decide +kernel
theorem dX1_game_45 : decode cX1_game 45 = .ok (.goto 4, 3) := by decide +kernel
theorem dX1_game_48 : decode cX1_game 48 = .ok (.iconst 0, 1) := by decide +kernel
theorem dX1_game_49 : decode cX1_game 49 = .ok (.ireturn, 1) := by decide +kernel
noncomputable def B_X1_game (l : Launch) (δ : Dl) : Seg (l, δ, yX1_game, 7, (some .int), cX1_game, 4) 0 50 :=
  seq (p := 0) (q := 1) (r := 50) (p_aload_n 0 dX1_game_0) (seq (p := 1) (q := 2) (r := 50) (p_iload_n 1 dX1_game_1) (seq (p := 2) (q := 5) (r := 50) (p_callV 1 cv_X1_141 hcR1 (M_X1_noWorld l δ) (Nat.le_of_ble_eq_true rfl) dX1_game_2) (seq (p := 5) (q := 18) (r := 50) (blk (seq (p := 5) (q := 16) (r := 18) (blk (seq (p := 5) (q := 8) (r := 16) (p_if_ne 16 dX1_game_5 (by decide)) (seq (p := 8) (q := 9) (r := 16) (p_aload_n 0 dX1_game_8) (seq (p := 9) (q := 10) (r := 16) (p_iload_n 2 dX1_game_9) (seq (p := 10) (q := 13) (r := 16) (p_callV 1 cv_X1_141 hcR1 (M_X1_noWorld l δ) (Nat.le_of_ble_eq_true rfl) dX1_game_10) (seq (p := 13) (q := 16) (r := 16) (p_if_eq 18 dX1_game_13 (by decide)) done)))))) (seq (p := 16) (q := 17) (r := 18) (p_iconst (-1) dX1_game_16) (seq (p := 17) (q := 18) (r := 18) (p_ireturn dX1_game_17 rfl) done)))) (seq (p := 18) (q := 19) (r := 50) (p_iload_n 3 dX1_game_18) (seq (p := 19) (q := 20) (r := 50) (p_iconst 0 dX1_game_19) (seq (p := 20) (q := 21) (r := 50) (p_iconst 3 dX1_game_20) (seq (p := 21) (q := 24) (r := 50) (p_callS cs_X1_133 (M_X1_in l δ) (Nat.le_of_ble_eq_true rfl) dX1_game_21) (seq (p := 24) (q := 30) (r := 50) (blk (seq (p := 24) (q := 27) (r := 30) (p_if_ne 30 dX1_game_24 (by decide)) (seq (p := 27) (q := 29) (r := 30) (p_bipush (-2) dX1_game_27 (by decide)) (seq (p := 29) (q := 30) (r := 30) (p_ireturn dX1_game_29 rfl) done)))) (seq (p := 30) (q := 31) (r := 50) (p_aload_n 0 dX1_game_30) (seq (p := 31) (q := 32) (r := 50) (p_iload_n 1 dX1_game_31) (seq (p := 32) (q := 33) (r := 50) (p_iload_n 2 dX1_game_32) (seq (p := 33) (q := 36) (r := 50) (p_callV 1 cv_X1_198 hcR1 (M_X1_begin l δ) (Nat.le_of_ble_eq_true rfl) dX1_game_33) (seq (p := 36) (q := 37) (r := 50) (p_aload_n 0 dX1_game_36) (seq (p := 37) (q := 38) (r := 50) (p_iload_n 3 dX1_game_37) (seq (p := 38) (q := 41) (r := 50) (p_callV 1 cv_X1_201 hcR1 (M_X1_keeps l δ) (Nat.le_of_ble_eq_true rfl) dX1_game_38) (seq (p := 41) (q := 49) (r := 50) (blk (seq (p := 41) (q := 48) (r := 49) (blk (seq (p := 41) (q := 44) (r := 48) (p_if_eq 48 dX1_game_41 (by decide)) (seq (p := 44) (q := 45) (r := 48) (p_iconst 1 dX1_game_44) (seq (p := 45) (q := 48) (r := 48) (p_goto 49 dX1_game_45 (by decide)) done)))) (seq (p := 48) (q := 49) (r := 49) (p_iconst 0 dX1_game_48) done))) (seq (p := 49) (q := 50) (r := 50) (p_ireturn dX1_game_49 rfl) done)))))))))))))))))
noncomputable def M_X1_game (l : Launch) (δ : Dl) : Mth l δ yX1_game cX1_game 4 (some .int) 7 := mk (B_X1_game l δ) (by decide)
theorem N_X1_game {l : Launch} {δ : Dl} {o : Nat} {a1 : Int} {a2 : Int} {a3 : Int} {s : St} : (M_X1_game l δ).1 [.inr (.inr (some o)), .inl a1, .inl a2, .inl a3] s = bres ((B_X1_game l δ).1 [] [some (.inr (.inr (some o))), some (.inl a1), some (.inl a2), some (.inl a3)] s) := (mk_eq (hy := by decide) rfl).trans (nrfl rfl)
theorem dX1_least_0 : decode cX1_least 0 = .ok (.iconst 0, 1) := by decide +kernel
theorem dX1_least_1 : decode cX1_least 1 = .ok (.istore_n 2, 1) := by decide +kernel
theorem dX1_least_2 : decode cX1_least 2 = .ok (.iload_n 2, 1) := by decide +kernel
theorem dX1_least_3 : decode cX1_least 3 = .ok (.iload_n 1, 1) := by decide +kernel
theorem dX1_least_4 : decode cX1_least 4 = .ok (.if_icmp .gt 19, 3) := by decide +kernel
theorem dX1_least_7 : decode cX1_least 7 = .ok (.aload_n 0, 1) := by decide +kernel
theorem dX1_least_8 : decode cX1_least 8 = .ok (.iload_n 2, 1) := by decide +kernel
theorem dX1_least_9 : decode cX1_least 9 = .ok (.invokevirtual 201, 3) := by decide +kernel
theorem dX1_least_12 : decode cX1_least 12 = .ok (.ifCond .ne 5, 3) := by decide +kernel
theorem dX1_least_15 : decode cX1_least 15 = .ok (.iload_n 2, 1) := by decide +kernel
theorem dX1_least_16 : decode cX1_least 16 = .ok (.ireturn, 1) := by decide +kernel
theorem dX1_least_17 : decode cX1_least 17 = .ok (.iinc 2 1, 3) := by decide +kernel
theorem dX1_least_20 : decode cX1_least 20 = .ok (.goto (-18), 3) := by decide +kernel
theorem dX1_least_23 : decode cX1_least 23 = .ok (.iconst (-1), 1) := by decide +kernel
theorem dX1_least_24 : decode cX1_least 24 = .ok (.ireturn, 1) := by decide +kernel
noncomputable def C_X1_least_L2 (l : Launch) (δ : Dl) : Seg (l, δ, yX1_least, 7, (some .int), cX1_least, 3) 2 23 :=
  seq (p := 2) (q := 3) (r := 23) (p_iload_n 2 dX1_least_2) (seq (p := 3) (q := 4) (r := 23) (p_iload_n 1 dX1_least_3) (seq (p := 4) (q := 7) (r := 23) (p_icmp_gt 23 dX1_least_4 (by decide)) (seq (p := 7) (q := 8) (r := 23) (p_aload_n 0 dX1_least_7) (seq (p := 8) (q := 9) (r := 23) (p_iload_n 2 dX1_least_8) (seq (p := 9) (q := 12) (r := 23) (p_callV 1 cv_X1_201 hcR1 (M_X1_keeps l δ) (Nat.le_of_ble_eq_true rfl) dX1_least_9) (seq (p := 12) (q := 17) (r := 23) (blk (seq (p := 12) (q := 15) (r := 17) (p_if_ne 17 dX1_least_12 (by decide)) (seq (p := 15) (q := 16) (r := 17) (p_iload_n 2 dX1_least_15) (seq (p := 16) (q := 17) (r := 17) (p_ireturn dX1_least_16 rfl) done)))) (seq (p := 17) (q := 20) (r := 23) (p_iinc 2 1 dX1_least_17 (Nat.le_of_ble_eq_true rfl)) (seq (p := 20) (q := 20) (r := 23) (er [true, true, true]) (seq (p := 20) (q := 23) (r := 23) (p_goto 2 dX1_least_20 (by decide)) done)))))))))
noncomputable def B_X1_least_L2 (l : Launch) (δ : Dl) : Seg (l, δ, yX1_least, 7, (some .int), cX1_least, 3) 2 23 := C_X1_least_L2 l δ
theorem L_X1_least_2 {l : Launch} {δ : Dl} {st : Stk} {L : Lc} {s : St} : (B_X1_least_L2 l δ).1 st L s = (C_X1_least_L2 l δ).1 st L s := nrfl rfl
noncomputable def B_X1_least (l : Launch) (δ : Dl) : Seg (l, δ, yX1_least, 7, (some .int), cX1_least, 3) 0 25 :=
  seq (p := 0) (q := 1) (r := 25) (p_iconst 0 dX1_least_0) (seq (p := 1) (q := 2) (r := 25) (p_istore_n 2 dX1_least_1 (Nat.le_of_ble_eq_true rfl)) (seq (p := 2) (q := 23) (r := 25) (blk (seq (p := 2) (q := 2) (r := 23) (er [true, true, true]) (seq (p := 2) (q := 23) (r := 23) (lp (B_X1_least_L2 l δ)) done))) (seq (p := 23) (q := 24) (r := 25) (p_iconst (-1) dX1_least_23) (seq (p := 24) (q := 25) (r := 25) (p_ireturn dX1_least_24 rfl) done))))
noncomputable def M_X1_least (l : Launch) (δ : Dl) : Mth l δ yX1_least cX1_least 3 (some .int) 7 := mk (B_X1_least l δ) (by decide)
theorem N_X1_least {l : Launch} {δ : Dl} {o : Nat} {a1 : Int} {s : St} : (M_X1_least l δ).1 [.inr (.inr (some o)), .inl a1] s = bres ((B_X1_least l δ).1 [] [some (.inr (.inr (some o))), some (.inl a1), none] s) := (mk_eq (hy := by decide) rfl).trans (nrfl rfl)
theorem dX1_rank_0 : decode cX1_rank 0 = .ok (.aload_n 0, 1) := by decide +kernel
theorem dX1_rank_1 : decode cX1_rank 1 = .ok (.iload_n 1, 1) := by decide +kernel
theorem dX1_rank_2 : decode cX1_rank 2 = .ok (.invokevirtual 141, 3) := by decide +kernel
theorem dX1_rank_5 : decode cX1_rank 5 = .ok (.ifCond .ne 11, 3) := by decide +kernel
theorem dX1_rank_8 : decode cX1_rank 8 = .ok (.aload_n 0, 1) := by decide +kernel
theorem dX1_rank_9 : decode cX1_rank 9 = .ok (.iload_n 2, 1) := by decide +kernel
theorem dX1_rank_10 : decode cX1_rank 10 = .ok (.invokevirtual 141, 3) := by decide +kernel
theorem dX1_rank_13 : decode cX1_rank 13 = .ok (.ifCond .eq 5, 3) := by decide +kernel
theorem dX1_rank_16 : decode cX1_rank 16 = .ok (.iconst (-1), 1) := by decide +kernel
theorem dX1_rank_17 : decode cX1_rank 17 = .ok (.ireturn, 1) := by decide +kernel
theorem dX1_rank_18 : decode cX1_rank 18 = .ok (.aload_n 0, 1) := by decide +kernel
theorem dX1_rank_19 : decode cX1_rank 19 = .ok (.iload_n 1, 1) := by decide +kernel
theorem dX1_rank_20 : decode cX1_rank 20 = .ok (.iload_n 2, 1) := by decide +kernel
theorem dX1_rank_21 : decode cX1_rank 21 = .ok (.invokevirtual 198, 3) := by decide +kernel
theorem dX1_rank_24 : decode cX1_rank 24 = .ok (.aload_n 0, 1) := by decide +kernel
theorem dX1_rank_25 : decode cX1_rank 25 = .ok (.iconst 3, 1) := by decide +kernel
theorem dX1_rank_26 : decode cX1_rank 26 = .ok (.invokevirtual 204, 3) := by decide +kernel
theorem dX1_rank_29 : decode cX1_rank 29 = .ok (.istore_n 3, 1) := by decide +kernel
theorem dX1_rank_30 : decode cX1_rank 30 = .ok (.iload_n 3, 1) := by decide +kernel
theorem dX1_rank_31 : decode cX1_rank 31 = .ok (.ifCond .ge 8, 3) := by decide +kernel
theorem dX1_rank_34 : decode cX1_rank 34 = .ok (.bipush (-9), 2) := by decide +kernel
theorem dX1_rank_36 : decode cX1_rank 36 = .ok (.goto 4, 3) := by decide +kernel
theorem dX1_rank_39 : decode cX1_rank 39 = .ok (.iload_n 3, 1) := by decide +kernel
theorem dX1_rank_40 : decode cX1_rank 40 = .ok (.ireturn, 1) := by decide +kernel
noncomputable def B_X1_rank (l : Launch) (δ : Dl) : Seg (l, δ, yX1_rank, 8, (some .int), cX1_rank, 4) 0 41 :=
  seq (p := 0) (q := 1) (r := 41) (p_aload_n 0 dX1_rank_0) (seq (p := 1) (q := 2) (r := 41) (p_iload_n 1 dX1_rank_1) (seq (p := 2) (q := 5) (r := 41) (p_callV 1 cv_X1_141 hcR1 (M_X1_noWorld l δ) (Nat.le_of_ble_eq_true rfl) dX1_rank_2) (seq (p := 5) (q := 18) (r := 41) (blk (seq (p := 5) (q := 16) (r := 18) (blk (seq (p := 5) (q := 8) (r := 16) (p_if_ne 16 dX1_rank_5 (by decide)) (seq (p := 8) (q := 9) (r := 16) (p_aload_n 0 dX1_rank_8) (seq (p := 9) (q := 10) (r := 16) (p_iload_n 2 dX1_rank_9) (seq (p := 10) (q := 13) (r := 16) (p_callV 1 cv_X1_141 hcR1 (M_X1_noWorld l δ) (Nat.le_of_ble_eq_true rfl) dX1_rank_10) (seq (p := 13) (q := 16) (r := 16) (p_if_eq 18 dX1_rank_13 (by decide)) done)))))) (seq (p := 16) (q := 17) (r := 18) (p_iconst (-1) dX1_rank_16) (seq (p := 17) (q := 18) (r := 18) (p_ireturn dX1_rank_17 rfl) done)))) (seq (p := 18) (q := 19) (r := 41) (p_aload_n 0 dX1_rank_18) (seq (p := 19) (q := 20) (r := 41) (p_iload_n 1 dX1_rank_19) (seq (p := 20) (q := 21) (r := 41) (p_iload_n 2 dX1_rank_20) (seq (p := 21) (q := 24) (r := 41) (p_callV 1 cv_X1_198 hcR1 (M_X1_begin l δ) (Nat.le_of_ble_eq_true rfl) dX1_rank_21) (seq (p := 24) (q := 25) (r := 41) (p_aload_n 0 dX1_rank_24) (seq (p := 25) (q := 26) (r := 41) (p_iconst 3 dX1_rank_25) (seq (p := 26) (q := 29) (r := 41) (p_callV 1 cv_X1_204 hcR1 (M_X1_least l δ) (Nat.le_of_ble_eq_true rfl) dX1_rank_26) (seq (p := 29) (q := 30) (r := 41) (p_istore_n 3 dX1_rank_29 (Nat.le_of_ble_eq_true rfl)) (seq (p := 30) (q := 31) (r := 41) (p_iload_n 3 dX1_rank_30) (seq (p := 31) (q := 40) (r := 41) (blk (seq (p := 31) (q := 39) (r := 40) (blk (seq (p := 31) (q := 34) (r := 39) (p_if_ge 39 dX1_rank_31 (by decide)) (seq (p := 34) (q := 36) (r := 39) (p_bipush (-9) dX1_rank_34 (by decide)) (seq (p := 36) (q := 39) (r := 39) (p_goto 40 dX1_rank_36 (by decide)) done)))) (seq (p := 39) (q := 40) (r := 40) (p_iload_n 3 dX1_rank_39) done))) (seq (p := 40) (q := 41) (r := 41) (p_ireturn dX1_rank_40 rfl) done))))))))))))))
noncomputable def M_X1_rank (l : Launch) (δ : Dl) : Mth l δ yX1_rank cX1_rank 4 (some .int) 8 := mk (B_X1_rank l δ) (by decide)
theorem N_X1_rank {l : Launch} {δ : Dl} {o : Nat} {a1 : Int} {a2 : Int} {s : St} : (M_X1_rank l δ).1 [.inr (.inr (some o)), .inl a1, .inl a2] s = bres ((B_X1_rank l δ).1 [] [some (.inr (.inr (some o))), some (.inl a1), some (.inl a2), none] s) := (mk_eq (hy := by decide) rfl).trans (nrfl rfl)
theorem dX1_copyWorld_0 : decode cX1_copyWorld 0 = .ok (.iconst 0, 1) := by decide +kernel
theorem dX1_copyWorld_1 : decode cX1_copyWorld 1 = .ok (.istore_n 3, 1) := by decide +kernel
theorem dX1_copyWorld_2 : decode cX1_copyWorld 2 = .ok (.iload_n 3, 1) := by decide +kernel
theorem dX1_copyWorld_3 : decode cX1_copyWorld 3 = .ok (.bipush 6, 2) := by decide +kernel
theorem dX1_copyWorld_5 : decode cX1_copyWorld 5 = .ok (.if_icmp .ge 43, 3) := by decide +kernel
theorem dX1_copyWorld_8 : decode cX1_copyWorld 8 = .ok (.aload_n 0, 1) := by decide +kernel
theorem dX1_copyWorld_9 : decode cX1_copyWorld 9 = .ok (.getfield 19, 3) := by decide +kernel
theorem dX1_copyWorld_12 : decode cX1_copyWorld 12 = .ok (.iload_n 3, 1) := by decide +kernel
theorem dX1_copyWorld_13 : decode cX1_copyWorld 13 = .ok (.aload_n 0, 1) := by decide +kernel
theorem dX1_copyWorld_14 : decode cX1_copyWorld 14 = .ok (.getfield 13, 3) := by decide +kernel
theorem dX1_copyWorld_17 : decode cX1_copyWorld 17 = .ok (.bipush 6, 2) := by decide +kernel
theorem dX1_copyWorld_19 : decode cX1_copyWorld 19 = .ok (.iload_n 1, 1) := by decide +kernel
theorem dX1_copyWorld_20 : decode cX1_copyWorld 20 = .ok (.imul, 1) := by decide +kernel
theorem dX1_copyWorld_21 : decode cX1_copyWorld 21 = .ok (.iload_n 3, 1) := by decide +kernel
theorem dX1_copyWorld_22 : decode cX1_copyWorld 22 = .ok (.iadd, 1) := by decide +kernel
theorem dX1_copyWorld_23 : decode cX1_copyWorld 23 = .ok (.iaload, 1) := by decide +kernel
theorem dX1_copyWorld_24 : decode cX1_copyWorld 24 = .ok (.iastore, 1) := by decide +kernel
theorem dX1_copyWorld_25 : decode cX1_copyWorld 25 = .ok (.aload_n 0, 1) := by decide +kernel
theorem dX1_copyWorld_26 : decode cX1_copyWorld 26 = .ok (.getfield 22, 3) := by decide +kernel
theorem dX1_copyWorld_29 : decode cX1_copyWorld 29 = .ok (.iload_n 3, 1) := by decide +kernel
theorem dX1_copyWorld_30 : decode cX1_copyWorld 30 = .ok (.aload_n 0, 1) := by decide +kernel
theorem dX1_copyWorld_31 : decode cX1_copyWorld 31 = .ok (.getfield 16, 3) := by decide +kernel
theorem dX1_copyWorld_34 : decode cX1_copyWorld 34 = .ok (.bipush 6, 2) := by decide +kernel
theorem dX1_copyWorld_36 : decode cX1_copyWorld 36 = .ok (.iload_n 1, 1) := by decide +kernel
theorem dX1_copyWorld_37 : decode cX1_copyWorld 37 = .ok (.imul, 1) := by decide +kernel
theorem dX1_copyWorld_38 : decode cX1_copyWorld 38 = .ok (.iload_n 3, 1) := by decide +kernel
theorem dX1_copyWorld_39 : decode cX1_copyWorld 39 = .ok (.iadd, 1) := by decide +kernel
theorem dX1_copyWorld_40 : decode cX1_copyWorld 40 = .ok (.iaload, 1) := by decide +kernel
theorem dX1_copyWorld_41 : decode cX1_copyWorld 41 = .ok (.iastore, 1) := by decide +kernel
theorem dX1_copyWorld_42 : decode cX1_copyWorld 42 = .ok (.iinc 3 1, 3) := by decide +kernel
theorem dX1_copyWorld_45 : decode cX1_copyWorld 45 = .ok (.goto (-43), 3) := by decide +kernel
theorem dX1_copyWorld_48 : decode cX1_copyWorld 48 = .ok (.aload_n 0, 1) := by decide +kernel
theorem dX1_copyWorld_49 : decode cX1_copyWorld 49 = .ok (.iload_n 2, 1) := by decide +kernel
theorem dX1_copyWorld_50 : decode cX1_copyWorld 50 = .ok (.aload_n 0, 1) := by decide +kernel
theorem dX1_copyWorld_51 : decode cX1_copyWorld 51 = .ok (.getfield 7, 3) := by decide +kernel
theorem dX1_copyWorld_54 : decode cX1_copyWorld 54 = .ok (.iload_n 1, 1) := by decide +kernel
theorem dX1_copyWorld_55 : decode cX1_copyWorld 55 = .ok (.iaload, 1) := by decide +kernel
theorem dX1_copyWorld_56 : decode cX1_copyWorld 56 = .ok (.invokevirtual 155, 3) := by decide +kernel
theorem dX1_copyWorld_59 : decode cX1_copyWorld 59 = .ok (.return_, 1) := by decide +kernel
noncomputable def C_X1_copyWorld_L2 (l : Launch) (δ : Dl) : Seg (l, δ, yX1_copyWorld, 1, none, cX1_copyWorld, 4) 2 48 :=
  seq (p := 2) (q := 3) (r := 48) (p_iload_n 3 dX1_copyWorld_2) (seq (p := 3) (q := 5) (r := 48) (p_bipush 6 dX1_copyWorld_3 (by decide)) (seq (p := 5) (q := 8) (r := 48) (p_icmp_ge 48 dX1_copyWorld_5 (by decide)) (seq (p := 8) (q := 9) (r := 48) (p_aload_n 0 dX1_copyWorld_8) (seq (p := 9) (q := 12) (r := 48) (p_get [(1, 3)] (alL1 fl_X1_19_1) dX1_copyWorld_9) (seq (p := 12) (q := 13) (r := 48) (p_iload_n 3 dX1_copyWorld_12) (seq (p := 13) (q := 14) (r := 48) (p_aload_n 0 dX1_copyWorld_13) (seq (p := 14) (q := 17) (r := 48) (p_get [(1, 1)] (alL1 fl_X1_13_1) dX1_copyWorld_14) (seq (p := 17) (q := 19) (r := 48) (p_bipush 6 dX1_copyWorld_17 (by decide)) (seq (p := 19) (q := 20) (r := 48) (p_iload_n 1 dX1_copyWorld_19) (seq (p := 20) (q := 21) (r := 48) (p_imul dX1_copyWorld_20) (seq (p := 21) (q := 22) (r := 48) (p_iload_n 3 dX1_copyWorld_21) (seq (p := 22) (q := 23) (r := 48) (p_iadd dX1_copyWorld_22) (seq (p := 23) (q := 24) (r := 48) (p_iald dX1_copyWorld_23) (seq (p := 24) (q := 25) (r := 48) (p_iast dX1_copyWorld_24) (seq (p := 25) (q := 26) (r := 48) (p_aload_n 0 dX1_copyWorld_25) (seq (p := 26) (q := 29) (r := 48) (p_get [(1, 4)] (alL1 fl_X1_22_1) dX1_copyWorld_26) (seq (p := 29) (q := 30) (r := 48) (p_iload_n 3 dX1_copyWorld_29) (seq (p := 30) (q := 31) (r := 48) (p_aload_n 0 dX1_copyWorld_30) (seq (p := 31) (q := 34) (r := 48) (p_get [(1, 2)] (alL1 fl_X1_16_1) dX1_copyWorld_31) (seq (p := 34) (q := 36) (r := 48) (p_bipush 6 dX1_copyWorld_34 (by decide)) (seq (p := 36) (q := 37) (r := 48) (p_iload_n 1 dX1_copyWorld_36) (seq (p := 37) (q := 38) (r := 48) (p_imul dX1_copyWorld_37) (seq (p := 38) (q := 39) (r := 48) (p_iload_n 3 dX1_copyWorld_38) (seq (p := 39) (q := 40) (r := 48) (p_iadd dX1_copyWorld_39) (seq (p := 40) (q := 41) (r := 48) (p_iald dX1_copyWorld_40) (seq (p := 41) (q := 42) (r := 48) (p_iast dX1_copyWorld_41) (seq (p := 42) (q := 45) (r := 48) (p_iinc 3 1 dX1_copyWorld_42 (Nat.le_of_ble_eq_true rfl)) (seq (p := 45) (q := 45) (r := 48) (er [true, true, true, true]) (seq (p := 45) (q := 48) (r := 48) (p_goto 2 dX1_copyWorld_45 (by decide)) done)))))))))))))))))))))))))))))
noncomputable def B_X1_copyWorld_L2 (l : Launch) (δ : Dl) : Seg (l, δ, yX1_copyWorld, 1, none, cX1_copyWorld, 4) 2 48 := C_X1_copyWorld_L2 l δ
theorem L_X1_copyWorld_2 {l : Launch} {δ : Dl} {st : Stk} {L : Lc} {s : St} : (B_X1_copyWorld_L2 l δ).1 st L s = (C_X1_copyWorld_L2 l δ).1 st L s := nrfl rfl
noncomputable def B_X1_copyWorld (l : Launch) (δ : Dl) : Seg (l, δ, yX1_copyWorld, 1, none, cX1_copyWorld, 4) 0 60 :=
  seq (p := 0) (q := 1) (r := 60) (p_iconst 0 dX1_copyWorld_0) (seq (p := 1) (q := 2) (r := 60) (p_istore_n 3 dX1_copyWorld_1 (Nat.le_of_ble_eq_true rfl)) (seq (p := 2) (q := 48) (r := 60) (blk (seq (p := 2) (q := 2) (r := 48) (er [true, true, true, true]) (seq (p := 2) (q := 48) (r := 48) (lp (B_X1_copyWorld_L2 l δ)) done))) (seq (p := 48) (q := 49) (r := 60) (p_aload_n 0 dX1_copyWorld_48) (seq (p := 49) (q := 50) (r := 60) (p_iload_n 2 dX1_copyWorld_49) (seq (p := 50) (q := 51) (r := 60) (p_aload_n 0 dX1_copyWorld_50) (seq (p := 51) (q := 54) (r := 60) (p_get [(1, 0)] (alL1 fl_X1_7_1) dX1_copyWorld_51) (seq (p := 54) (q := 55) (r := 60) (p_iload_n 1 dX1_copyWorld_54) (seq (p := 55) (q := 56) (r := 60) (p_iald dX1_copyWorld_55) (seq (p := 56) (q := 59) (r := 60) (p_callV 1 cv_X1_155 hcR1 (M_X1_lay l δ) (Nat.le_of_ble_eq_true rfl) dX1_copyWorld_56) (seq (p := 59) (q := 60) (r := 60) (p_return dX1_copyWorld_59 rfl) done))))))))))
noncomputable def M_X1_copyWorld (l : Launch) (δ : Dl) : Mth l δ yX1_copyWorld cX1_copyWorld 4 none 1 := mk (B_X1_copyWorld l δ) (by decide)
theorem N_X1_copyWorld {l : Launch} {δ : Dl} {o : Nat} {a1 : Int} {a2 : Int} {s : St} : (M_X1_copyWorld l δ).1 [.inr (.inr (some o)), .inl a1, .inl a2] s = bres ((B_X1_copyWorld l δ).1 [] [some (.inr (.inr (some o))), some (.inl a1), some (.inl a2), none] s) := (mk_eq (hy := by decide) rfl).trans (nrfl rfl)
theorem dX1_layPlay_0 : decode cX1_layPlay 0 = .ok (.aload_n 0, 1) := by decide +kernel
theorem dX1_layPlay_1 : decode cX1_layPlay 1 = .ok (.bipush 6, 2) := by decide +kernel
theorem dX1_layPlay_3 : decode cX1_layPlay 3 = .ok (.bipush 7, 2) := by decide +kernel
theorem dX1_layPlay_5 : decode cX1_layPlay 5 = .ok (.invokevirtual 198, 3) := by decide +kernel
theorem dX1_layPlay_8 : decode cX1_layPlay 8 = .ok (.iconst 0, 1) := by decide +kernel
theorem dX1_layPlay_9 : decode cX1_layPlay 9 = .ok (.istore_n 1, 1) := by decide +kernel
theorem dX1_layPlay_10 : decode cX1_layPlay 10 = .ok (.iload_n 1, 1) := by decide +kernel
theorem dX1_layPlay_11 : decode cX1_layPlay 11 = .ok (.aload_n 0, 1) := by decide +kernel
theorem dX1_layPlay_12 : decode cX1_layPlay 12 = .ok (.getfield 207, 3) := by decide +kernel
theorem dX1_layPlay_15 : decode cX1_layPlay 15 = .ok (.if_icmp .ge 25, 3) := by decide +kernel
theorem dX1_layPlay_18 : decode cX1_layPlay 18 = .ok (.aload_n 0, 1) := by decide +kernel
theorem dX1_layPlay_19 : decode cX1_layPlay 19 = .ok (.aload_n 0, 1) := by decide +kernel
theorem dX1_layPlay_20 : decode cX1_layPlay 20 = .ok (.getfield 31, 3) := by decide +kernel
theorem dX1_layPlay_23 : decode cX1_layPlay 23 = .ok (.iload_n 1, 1) := by decide +kernel
theorem dX1_layPlay_24 : decode cX1_layPlay 24 = .ok (.iaload, 1) := by decide +kernel
theorem dX1_layPlay_25 : decode cX1_layPlay 25 = .ok (.aload_n 0, 1) := by decide +kernel
theorem dX1_layPlay_26 : decode cX1_layPlay 26 = .ok (.getfield 34, 3) := by decide +kernel
theorem dX1_layPlay_29 : decode cX1_layPlay 29 = .ok (.iload_n 1, 1) := by decide +kernel
theorem dX1_layPlay_30 : decode cX1_layPlay 30 = .ok (.iaload, 1) := by decide +kernel
theorem dX1_layPlay_31 : decode cX1_layPlay 31 = .ok (.invokevirtual 175, 3) := by decide +kernel
theorem dX1_layPlay_34 : decode cX1_layPlay 34 = .ok (.iinc 1 1, 3) := by decide +kernel
theorem dX1_layPlay_37 : decode cX1_layPlay 37 = .ok (.goto (-27), 3) := by decide +kernel
theorem dX1_layPlay_40 : decode cX1_layPlay 40 = .ok (.return_, 1) := by decide +kernel
noncomputable def C_X1_layPlay_L10 (l : Launch) (δ : Dl) : Seg (l, δ, yX1_layPlay, 1, none, cX1_layPlay, 2) 10 40 :=
  seq (p := 10) (q := 11) (r := 40) (p_iload_n 1 dX1_layPlay_10) (seq (p := 11) (q := 12) (r := 40) (p_aload_n 0 dX1_layPlay_11) (seq (p := 12) (q := 15) (r := 40) (p_get [(1, 12)] (alL1 fl_X1_207_1) dX1_layPlay_12) (seq (p := 15) (q := 18) (r := 40) (p_icmp_ge 40 dX1_layPlay_15 (by decide)) (seq (p := 18) (q := 19) (r := 40) (p_aload_n 0 dX1_layPlay_18) (seq (p := 19) (q := 20) (r := 40) (p_aload_n 0 dX1_layPlay_19) (seq (p := 20) (q := 23) (r := 40) (p_get [(1, 13)] (alL1 fl_X1_31_1) dX1_layPlay_20) (seq (p := 23) (q := 24) (r := 40) (p_iload_n 1 dX1_layPlay_23) (seq (p := 24) (q := 25) (r := 40) (p_iald dX1_layPlay_24) (seq (p := 25) (q := 26) (r := 40) (p_aload_n 0 dX1_layPlay_25) (seq (p := 26) (q := 29) (r := 40) (p_get [(1, 14)] (alL1 fl_X1_34_1) dX1_layPlay_26) (seq (p := 29) (q := 30) (r := 40) (p_iload_n 1 dX1_layPlay_29) (seq (p := 30) (q := 31) (r := 40) (p_iald dX1_layPlay_30) (seq (p := 31) (q := 34) (r := 40) (p_callV 1 cv_X1_175 hcR1 (M_X1_add l δ) (Nat.le_of_ble_eq_true rfl) dX1_layPlay_31) (seq (p := 34) (q := 37) (r := 40) (p_iinc 1 1 dX1_layPlay_34 (Nat.le_of_ble_eq_true rfl)) (seq (p := 37) (q := 37) (r := 40) (er [true, true]) (seq (p := 37) (q := 40) (r := 40) (p_goto 10 dX1_layPlay_37 (by decide)) done))))))))))))))))
noncomputable def B_X1_layPlay_L10 (l : Launch) (δ : Dl) : Seg (l, δ, yX1_layPlay, 1, none, cX1_layPlay, 2) 10 40 := C_X1_layPlay_L10 l δ
theorem L_X1_layPlay_10 {l : Launch} {δ : Dl} {st : Stk} {L : Lc} {s : St} : (B_X1_layPlay_L10 l δ).1 st L s = (C_X1_layPlay_L10 l δ).1 st L s := nrfl rfl
noncomputable def B_X1_layPlay (l : Launch) (δ : Dl) : Seg (l, δ, yX1_layPlay, 1, none, cX1_layPlay, 2) 0 41 :=
  seq (p := 0) (q := 1) (r := 41) (p_aload_n 0 dX1_layPlay_0) (seq (p := 1) (q := 3) (r := 41) (p_bipush 6 dX1_layPlay_1 (by decide)) (seq (p := 3) (q := 5) (r := 41) (p_bipush 7 dX1_layPlay_3 (by decide)) (seq (p := 5) (q := 8) (r := 41) (p_callV 1 cv_X1_198 hcR1 (M_X1_begin l δ) (Nat.le_of_ble_eq_true rfl) dX1_layPlay_5) (seq (p := 8) (q := 9) (r := 41) (p_iconst 0 dX1_layPlay_8) (seq (p := 9) (q := 10) (r := 41) (p_istore_n 1 dX1_layPlay_9 (Nat.le_of_ble_eq_true rfl)) (seq (p := 10) (q := 40) (r := 41) (blk (seq (p := 10) (q := 10) (r := 40) (er [true, true]) (seq (p := 10) (q := 40) (r := 40) (lp (B_X1_layPlay_L10 l δ)) done))) (seq (p := 40) (q := 41) (r := 41) (p_return dX1_layPlay_40 rfl) done)))))))
noncomputable def M_X1_layPlay (l : Launch) (δ : Dl) : Mth l δ yX1_layPlay cX1_layPlay 2 none 1 := mk (B_X1_layPlay l δ) (by decide)
theorem N_X1_layPlay {l : Launch} {δ : Dl} {o : Nat} {s : St} : (M_X1_layPlay l δ).1 [.inr (.inr (some o))] s = bres ((B_X1_layPlay l δ).1 [] [some (.inr (.inr (some o))), none] s) := (mk_eq (hy := by decide) rfl).trans (nrfl rfl)
theorem dX1_judge_0 : decode cX1_judge 0 = .ok (.aload_n 0, 1) := by decide +kernel
theorem dX1_judge_1 : decode cX1_judge 1 = .ok (.invokevirtual 210, 3) := by decide +kernel
theorem dX1_judge_4 : decode cX1_judge 4 = .ok (.aload_n 0, 1) := by decide +kernel
theorem dX1_judge_5 : decode cX1_judge 5 = .ok (.aload_n 0, 1) := by decide +kernel
theorem dX1_judge_6 : decode cX1_judge 6 = .ok (.invokevirtual 178, 3) := by decide +kernel
theorem dX1_judge_9 : decode cX1_judge 9 = .ok (.ifCond .ne 7, 3) := by decide +kernel
theorem dX1_judge_12 : decode cX1_judge 12 = .ok (.iconst 4, 1) := by decide +kernel
theorem dX1_judge_13 : decode cX1_judge 13 = .ok (.goto 15, 3) := by decide +kernel
theorem dX1_judge_16 : decode cX1_judge 16 = .ok (.aload_n 0, 1) := by decide +kernel
theorem dX1_judge_17 : decode cX1_judge 17 = .ok (.getfield 213, 3) := by decide +kernel
theorem dX1_judge_20 : decode cX1_judge 20 = .ok (.ifCond .ne 7, 3) := by decide +kernel
theorem dX1_judge_23 : decode cX1_judge 23 = .ok (.iconst 3, 1) := by decide +kernel
theorem dX1_judge_24 : decode cX1_judge 24 = .ok (.goto 4, 3) := by decide +kernel
theorem dX1_judge_27 : decode cX1_judge 27 = .ok (.iconst 1, 1) := by decide +kernel
theorem dX1_judge_28 : decode cX1_judge 28 = .ok (.putfield 126, 3) := by decide +kernel
theorem dX1_judge_31 : decode cX1_judge 31 = .ok (.return_, 1) := by decide +kernel
noncomputable def B_X1_judge (l : Launch) (δ : Dl) : Seg (l, δ, yX1_judge, 3, none, cX1_judge, 1) 0 32 :=
  seq (p := 0) (q := 1) (r := 32) (p_aload_n 0 dX1_judge_0) (seq (p := 1) (q := 4) (r := 32) (p_callV 1 cv_X1_210 hcR1 (M_X1_layPlay l δ) (Nat.le_of_ble_eq_true rfl) dX1_judge_1) (seq (p := 4) (q := 5) (r := 32) (p_aload_n 0 dX1_judge_4) (seq (p := 5) (q := 6) (r := 32) (p_aload_n 0 dX1_judge_5) (seq (p := 6) (q := 9) (r := 32) (p_callV 1 cv_X1_178 hcR1 (M_X1_areAlike l δ) (Nat.le_of_ble_eq_true rfl) dX1_judge_6) (seq (p := 9) (q := 28) (r := 32) (blk (seq (p := 9) (q := 16) (r := 28) (blk (seq (p := 9) (q := 12) (r := 16) (p_if_ne 16 dX1_judge_9 (by decide)) (seq (p := 12) (q := 13) (r := 16) (p_iconst 4 dX1_judge_12) (seq (p := 13) (q := 16) (r := 16) (p_goto 28 dX1_judge_13 (by decide)) done)))) (seq (p := 16) (q := 17) (r := 28) (p_aload_n 0 dX1_judge_16) (seq (p := 17) (q := 20) (r := 28) (p_get [(1, 11)] (alL1 fl_X1_213_1) dX1_judge_17) (seq (p := 20) (q := 27) (r := 28) (blk (seq (p := 20) (q := 23) (r := 27) (p_if_ne 27 dX1_judge_20 (by decide)) (seq (p := 23) (q := 24) (r := 27) (p_iconst 3 dX1_judge_23) (seq (p := 24) (q := 27) (r := 27) (p_goto 28 dX1_judge_24 (by decide)) done)))) (seq (p := 27) (q := 28) (r := 28) (p_iconst 1 dX1_judge_27) done)))))) (seq (p := 28) (q := 31) (r := 32) (p_put [(1, 10)] .int (alP1 fp_X1_126_1) dX1_judge_28) (seq (p := 31) (q := 32) (r := 32) (p_return dX1_judge_31 rfl) done)))))))
noncomputable def M_X1_judge (l : Launch) (δ : Dl) : Mth l δ yX1_judge cX1_judge 1 none 3 := mk (B_X1_judge l δ) (by decide)
theorem N_X1_judge {l : Launch} {δ : Dl} {o : Nat} {s : St} : (M_X1_judge l δ).1 [.inr (.inr (some o))] s = bres ((B_X1_judge l δ).1 [] [some (.inr (.inr (some o)))] s) := (mk_eq (hy := by decide) rfl).trans (nrfl rfl)
theorem dX1_play_0 : decode cX1_play 0 = .ok (.aload_n 0, 1) := by decide +kernel
theorem dX1_play_1 : decode cX1_play 1 = .ok (.iload_n 1, 1) := by decide +kernel
theorem dX1_play_2 : decode cX1_play 2 = .ok (.invokevirtual 141, 3) := by decide +kernel
theorem dX1_play_5 : decode cX1_play 5 = .ok (.ifCond .ne 11, 3) := by decide +kernel
theorem dX1_play_8 : decode cX1_play 8 = .ok (.aload_n 0, 1) := by decide +kernel
theorem dX1_play_9 : decode cX1_play 9 = .ok (.iload_n 2, 1) := by decide +kernel
theorem dX1_play_10 : decode cX1_play 10 = .ok (.invokevirtual 141, 3) := by decide +kernel
theorem dX1_play_13 : decode cX1_play 13 = .ok (.ifCond .eq 5, 3) := by decide +kernel
theorem dX1_play_16 : decode cX1_play 16 = .ok (.iconst (-1), 1) := by decide +kernel
theorem dX1_play_17 : decode cX1_play 17 = .ok (.ireturn, 1) := by decide +kernel
theorem dX1_play_18 : decode cX1_play 18 = .ok (.iload_n 3, 1) := by decide +kernel
theorem dX1_play_19 : decode cX1_play 19 = .ok (.iconst 0, 1) := by decide +kernel
theorem dX1_play_20 : decode cX1_play 20 = .ok (.iconst 3, 1) := by decide +kernel
theorem dX1_play_21 : decode cX1_play 21 = .ok (.invokestatic 133, 3) := by decide +kernel
theorem dX1_play_24 : decode cX1_play 24 = .ok (.ifCond .ne 6, 3) := by decide +kernel
theorem dX1_play_27 : decode cX1_play 27 = .ok (.bipush (-2), 2) := by decide +kernel
theorem dX1_play_29 : decode cX1_play 29 = .ok (.ireturn, 1) := by decide +kernel
theorem dX1_play_30 : decode cX1_play 30 = .ok (.aload_n 0, 1) := by decide +kernel
theorem dX1_play_31 : decode cX1_play 31 = .ok (.iload_n 1, 1) := by decide +kernel
theorem dX1_play_32 : decode cX1_play 32 = .ok (.bipush 6, 2) := by decide +kernel
theorem dX1_play_34 : decode cX1_play 34 = .ok (.invokevirtual 216, 3) := by decide +kernel
theorem dX1_play_37 : decode cX1_play 37 = .ok (.aload_n 0, 1) := by decide +kernel
theorem dX1_play_38 : decode cX1_play 38 = .ok (.iload_n 2, 1) := by decide +kernel
theorem dX1_play_39 : decode cX1_play 39 = .ok (.bipush 7, 2) := by decide +kernel
theorem dX1_play_41 : decode cX1_play 41 = .ok (.invokevirtual 216, 3) := by decide +kernel
theorem dX1_play_44 : decode cX1_play 44 = .ok (.aload_n 0, 1) := by decide +kernel
theorem dX1_play_45 : decode cX1_play 45 = .ok (.iload_n 3, 1) := by decide +kernel
theorem dX1_play_46 : decode cX1_play 46 = .ok (.putfield 213, 3) := by decide +kernel
theorem dX1_play_49 : decode cX1_play 49 = .ok (.aload_n 0, 1) := by decide +kernel
theorem dX1_play_50 : decode cX1_play 50 = .ok (.iconst 0, 1) := by decide +kernel
theorem dX1_play_51 : decode cX1_play 51 = .ok (.putfield 207, 3) := by decide +kernel
theorem dX1_play_54 : decode cX1_play 54 = .ok (.aload_n 0, 1) := by decide +kernel
theorem dX1_play_55 : decode cX1_play 55 = .ok (.invokevirtual 219, 3) := by decide +kernel
theorem dX1_play_58 : decode cX1_play 58 = .ok (.iconst 1, 1) := by decide +kernel
theorem dX1_play_59 : decode cX1_play 59 = .ok (.ireturn, 1) := by decide +kernel
noncomputable def B_X1_play (l : Launch) (δ : Dl) : Seg (l, δ, yX1_play, 4, (some .int), cX1_play, 4) 0 60 :=
  seq (p := 0) (q := 1) (r := 60) (p_aload_n 0 dX1_play_0) (seq (p := 1) (q := 2) (r := 60) (p_iload_n 1 dX1_play_1) (seq (p := 2) (q := 5) (r := 60) (p_callV 1 cv_X1_141 hcR1 (M_X1_noWorld l δ) (Nat.le_of_ble_eq_true rfl) dX1_play_2) (seq (p := 5) (q := 18) (r := 60) (blk (seq (p := 5) (q := 16) (r := 18) (blk (seq (p := 5) (q := 8) (r := 16) (p_if_ne 16 dX1_play_5 (by decide)) (seq (p := 8) (q := 9) (r := 16) (p_aload_n 0 dX1_play_8) (seq (p := 9) (q := 10) (r := 16) (p_iload_n 2 dX1_play_9) (seq (p := 10) (q := 13) (r := 16) (p_callV 1 cv_X1_141 hcR1 (M_X1_noWorld l δ) (Nat.le_of_ble_eq_true rfl) dX1_play_10) (seq (p := 13) (q := 16) (r := 16) (p_if_eq 18 dX1_play_13 (by decide)) done)))))) (seq (p := 16) (q := 17) (r := 18) (p_iconst (-1) dX1_play_16) (seq (p := 17) (q := 18) (r := 18) (p_ireturn dX1_play_17 rfl) done)))) (seq (p := 18) (q := 19) (r := 60) (p_iload_n 3 dX1_play_18) (seq (p := 19) (q := 20) (r := 60) (p_iconst 0 dX1_play_19) (seq (p := 20) (q := 21) (r := 60) (p_iconst 3 dX1_play_20) (seq (p := 21) (q := 24) (r := 60) (p_callS cs_X1_133 (M_X1_in l δ) (Nat.le_of_ble_eq_true rfl) dX1_play_21) (seq (p := 24) (q := 30) (r := 60) (blk (seq (p := 24) (q := 27) (r := 30) (p_if_ne 30 dX1_play_24 (by decide)) (seq (p := 27) (q := 29) (r := 30) (p_bipush (-2) dX1_play_27 (by decide)) (seq (p := 29) (q := 30) (r := 30) (p_ireturn dX1_play_29 rfl) done)))) (seq (p := 30) (q := 31) (r := 60) (p_aload_n 0 dX1_play_30) (seq (p := 31) (q := 32) (r := 60) (p_iload_n 1 dX1_play_31) (seq (p := 32) (q := 34) (r := 60) (p_bipush 6 dX1_play_32 (by decide)) (seq (p := 34) (q := 37) (r := 60) (p_callV 1 cv_X1_216 hcR1 (M_X1_copyWorld l δ) (Nat.le_of_ble_eq_true rfl) dX1_play_34) (seq (p := 37) (q := 38) (r := 60) (p_aload_n 0 dX1_play_37) (seq (p := 38) (q := 39) (r := 60) (p_iload_n 2 dX1_play_38) (seq (p := 39) (q := 41) (r := 60) (p_bipush 7 dX1_play_39 (by decide)) (seq (p := 41) (q := 44) (r := 60) (p_callV 1 cv_X1_216 hcR1 (M_X1_copyWorld l δ) (Nat.le_of_ble_eq_true rfl) dX1_play_41) (seq (p := 44) (q := 45) (r := 60) (p_aload_n 0 dX1_play_44) (seq (p := 45) (q := 46) (r := 60) (p_iload_n 3 dX1_play_45) (seq (p := 46) (q := 49) (r := 60) (p_put [(1, 11)] .int (alP1 fp_X1_213_1) dX1_play_46) (seq (p := 49) (q := 50) (r := 60) (p_aload_n 0 dX1_play_49) (seq (p := 50) (q := 51) (r := 60) (p_iconst 0 dX1_play_50) (seq (p := 51) (q := 54) (r := 60) (p_put [(1, 12)] .int (alP1 fp_X1_207_1) dX1_play_51) (seq (p := 54) (q := 55) (r := 60) (p_aload_n 0 dX1_play_54) (seq (p := 55) (q := 58) (r := 60) (p_callV 1 cv_X1_219 hcR1 (M_X1_judge l δ) (Nat.le_of_ble_eq_true rfl) dX1_play_55) (seq (p := 58) (q := 59) (r := 60) (p_iconst 1 dX1_play_58) (seq (p := 59) (q := 60) (r := 60) (p_ireturn dX1_play_59 rfl) done))))))))))))))))))))))))))
noncomputable def M_X1_play (l : Launch) (δ : Dl) : Mth l δ yX1_play cX1_play 4 (some .int) 4 := mk (B_X1_play l δ) (by decide)
theorem N_X1_play {l : Launch} {δ : Dl} {o : Nat} {a1 : Int} {a2 : Int} {a3 : Int} {s : St} : (M_X1_play l δ).1 [.inr (.inr (some o)), .inl a1, .inl a2, .inl a3] s = bres ((B_X1_play l δ).1 [] [some (.inr (.inr (some o))), some (.inl a1), some (.inl a2), some (.inl a3)] s) := (mk_eq (hy := by decide) rfl).trans (nrfl rfl)
theorem dX1_pick_0 : decode cX1_pick 0 = .ok (.aload_n 0, 1) := by decide +kernel
theorem dX1_pick_1 : decode cX1_pick 1 = .ok (.getfield 126, 3) := by decide +kernel
theorem dX1_pick_4 : decode cX1_pick 4 = .ok (.iconst 1, 1) := by decide +kernel
theorem dX1_pick_5 : decode cX1_pick 5 = .ok (.if_icmp .eq 6, 3) := by decide +kernel
theorem dX1_pick_8 : decode cX1_pick 8 = .ok (.bipush (-3), 2) := by decide +kernel
theorem dX1_pick_10 : decode cX1_pick 10 = .ok (.ireturn, 1) := by decide +kernel
theorem dX1_pick_11 : decode cX1_pick 11 = .ok (.iload_n 1, 1) := by decide +kernel
theorem dX1_pick_12 : decode cX1_pick 12 = .ok (.iconst 0, 1) := by decide +kernel
theorem dX1_pick_13 : decode cX1_pick 13 = .ok (.iconst 1, 1) := by decide +kernel
theorem dX1_pick_14 : decode cX1_pick 14 = .ok (.invokestatic 133, 3) := by decide +kernel
theorem dX1_pick_17 : decode cX1_pick 17 = .ok (.ifCond .eq 22, 3) := by decide +kernel
theorem dX1_pick_20 : decode cX1_pick 20 = .ok (.iload_n 2, 1) := by decide +kernel
theorem dX1_pick_21 : decode cX1_pick 21 = .ok (.iconst 0, 1) := by decide +kernel
theorem dX1_pick_22 : decode cX1_pick 22 = .ok (.aload_n 0, 1) := by decide +kernel
theorem dX1_pick_23 : decode cX1_pick 23 = .ok (.getfield 7, 3) := by decide +kernel
theorem dX1_pick_26 : decode cX1_pick 26 = .ok (.bipush 6, 2) := by decide +kernel
theorem dX1_pick_28 : decode cX1_pick 28 = .ok (.iload_n 1, 1) := by decide +kernel
theorem dX1_pick_29 : decode cX1_pick 29 = .ok (.iadd, 1) := by decide +kernel
theorem dX1_pick_30 : decode cX1_pick 30 = .ok (.iaload, 1) := by decide +kernel
theorem dX1_pick_31 : decode cX1_pick 31 = .ok (.iconst 1, 1) := by decide +kernel
theorem dX1_pick_32 : decode cX1_pick 32 = .ok (.isub, 1) := by decide +kernel
theorem dX1_pick_33 : decode cX1_pick 33 = .ok (.invokestatic 133, 3) := by decide +kernel
theorem dX1_pick_36 : decode cX1_pick 36 = .ok (.ifCond .ne 6, 3) := by decide +kernel
theorem dX1_pick_39 : decode cX1_pick 39 = .ok (.bipush (-2), 2) := by decide +kernel
theorem dX1_pick_41 : decode cX1_pick 41 = .ok (.ireturn, 1) := by decide +kernel
theorem dX1_pick_42 : decode cX1_pick 42 = .ok (.aload_n 0, 1) := by decide +kernel
theorem dX1_pick_43 : decode cX1_pick 43 = .ok (.iload_n 1, 1) := by decide +kernel
theorem dX1_pick_44 : decode cX1_pick 44 = .ok (.putfield 222, 3) := by decide +kernel
theorem dX1_pick_47 : decode cX1_pick 47 = .ok (.aload_n 0, 1) := by decide +kernel
theorem dX1_pick_48 : decode cX1_pick 48 = .ok (.iload_n 2, 1) := by decide +kernel
theorem dX1_pick_49 : decode cX1_pick 49 = .ok (.putfield 225, 3) := by decide +kernel
theorem dX1_pick_52 : decode cX1_pick 52 = .ok (.aload_n 0, 1) := by decide +kernel
theorem dX1_pick_53 : decode cX1_pick 53 = .ok (.iconst 2, 1) := by decide +kernel
theorem dX1_pick_54 : decode cX1_pick 54 = .ok (.putfield 126, 3) := by decide +kernel
theorem dX1_pick_57 : decode cX1_pick 57 = .ok (.iconst 1, 1) := by decide +kernel
theorem dX1_pick_58 : decode cX1_pick 58 = .ok (.ireturn, 1) := by decide +kernel
noncomputable def B_X1_pick (l : Launch) (δ : Dl) : Seg (l, δ, yX1_pick, 1, (some .int), cX1_pick, 3) 0 59 :=
  seq (p := 0) (q := 1) (r := 59) (p_aload_n 0 dX1_pick_0) (seq (p := 1) (q := 4) (r := 59) (p_get [(1, 10)] (alL1 fl_X1_126_1) dX1_pick_1) (seq (p := 4) (q := 5) (r := 59) (p_iconst 1 dX1_pick_4) (seq (p := 5) (q := 11) (r := 59) (blk (seq (p := 5) (q := 8) (r := 11) (p_icmp_eq 11 dX1_pick_5 (by decide)) (seq (p := 8) (q := 10) (r := 11) (p_bipush (-3) dX1_pick_8 (by decide)) (seq (p := 10) (q := 11) (r := 11) (p_ireturn dX1_pick_10 rfl) done)))) (seq (p := 11) (q := 12) (r := 59) (p_iload_n 1 dX1_pick_11) (seq (p := 12) (q := 13) (r := 59) (p_iconst 0 dX1_pick_12) (seq (p := 13) (q := 14) (r := 59) (p_iconst 1 dX1_pick_13) (seq (p := 14) (q := 17) (r := 59) (p_callS cs_X1_133 (M_X1_in l δ) (Nat.le_of_ble_eq_true rfl) dX1_pick_14) (seq (p := 17) (q := 42) (r := 59) (blk (seq (p := 17) (q := 39) (r := 42) (blk (seq (p := 17) (q := 20) (r := 39) (p_if_eq 39 dX1_pick_17 (by decide)) (seq (p := 20) (q := 21) (r := 39) (p_iload_n 2 dX1_pick_20) (seq (p := 21) (q := 22) (r := 39) (p_iconst 0 dX1_pick_21) (seq (p := 22) (q := 23) (r := 39) (p_aload_n 0 dX1_pick_22) (seq (p := 23) (q := 26) (r := 39) (p_get [(1, 0)] (alL1 fl_X1_7_1) dX1_pick_23) (seq (p := 26) (q := 28) (r := 39) (p_bipush 6 dX1_pick_26 (by decide)) (seq (p := 28) (q := 29) (r := 39) (p_iload_n 1 dX1_pick_28) (seq (p := 29) (q := 30) (r := 39) (p_iadd dX1_pick_29) (seq (p := 30) (q := 31) (r := 39) (p_iald dX1_pick_30) (seq (p := 31) (q := 32) (r := 39) (p_iconst 1 dX1_pick_31) (seq (p := 32) (q := 33) (r := 39) (p_isub dX1_pick_32) (seq (p := 33) (q := 36) (r := 39) (p_callS cs_X1_133 (M_X1_in l δ) (Nat.le_of_ble_eq_true rfl) dX1_pick_33) (seq (p := 36) (q := 39) (r := 39) (p_if_ne 42 dX1_pick_36 (by decide)) done)))))))))))))) (seq (p := 39) (q := 41) (r := 42) (p_bipush (-2) dX1_pick_39 (by decide)) (seq (p := 41) (q := 42) (r := 42) (p_ireturn dX1_pick_41 rfl) done)))) (seq (p := 42) (q := 43) (r := 59) (p_aload_n 0 dX1_pick_42) (seq (p := 43) (q := 44) (r := 59) (p_iload_n 1 dX1_pick_43) (seq (p := 44) (q := 47) (r := 59) (p_put [(1, 15)] .int (alP1 fp_X1_222_1) dX1_pick_44) (seq (p := 47) (q := 48) (r := 59) (p_aload_n 0 dX1_pick_47) (seq (p := 48) (q := 49) (r := 59) (p_iload_n 2 dX1_pick_48) (seq (p := 49) (q := 52) (r := 59) (p_put [(1, 16)] .int (alP1 fp_X1_225_1) dX1_pick_49) (seq (p := 52) (q := 53) (r := 59) (p_aload_n 0 dX1_pick_52) (seq (p := 53) (q := 54) (r := 59) (p_iconst 2 dX1_pick_53) (seq (p := 54) (q := 57) (r := 59) (p_put [(1, 10)] .int (alP1 fp_X1_126_1) dX1_pick_54) (seq (p := 57) (q := 58) (r := 59) (p_iconst 1 dX1_pick_57) (seq (p := 58) (q := 59) (r := 59) (p_ireturn dX1_pick_58 rfl) done)))))))))))))))))))
noncomputable def M_X1_pick (l : Launch) (δ : Dl) : Mth l δ yX1_pick cX1_pick 3 (some .int) 1 := mk (B_X1_pick l δ) (by decide)
theorem N_X1_pick {l : Launch} {δ : Dl} {o : Nat} {a1 : Int} {a2 : Int} {s : St} : (M_X1_pick l δ).1 [.inr (.inr (some o)), .inl a1, .inl a2] s = bres ((B_X1_pick l δ).1 [] [some (.inr (.inr (some o))), some (.inl a1), some (.inl a2)] s) := (mk_eq (hy := by decide) rfl).trans (nrfl rfl)
theorem dX1_answer_0 : decode cX1_answer 0 = .ok (.aload_n 0, 1) := by decide +kernel
theorem dX1_answer_1 : decode cX1_answer 1 = .ok (.getfield 126, 3) := by decide +kernel
theorem dX1_answer_4 : decode cX1_answer 4 = .ok (.iconst 2, 1) := by decide +kernel
theorem dX1_answer_5 : decode cX1_answer 5 = .ok (.if_icmp .eq 6, 3) := by decide +kernel
theorem dX1_answer_8 : decode cX1_answer 8 = .ok (.bipush (-3), 2) := by decide +kernel
theorem dX1_answer_10 : decode cX1_answer 10 = .ok (.ireturn, 1) := by decide +kernel
theorem dX1_answer_11 : decode cX1_answer 11 = .ok (.iload_n 1, 1) := by decide +kernel
theorem dX1_answer_12 : decode cX1_answer 12 = .ok (.iconst 0, 1) := by decide +kernel
theorem dX1_answer_13 : decode cX1_answer 13 = .ok (.aload_n 0, 1) := by decide +kernel
theorem dX1_answer_14 : decode cX1_answer 14 = .ok (.getfield 7, 3) := by decide +kernel
theorem dX1_answer_17 : decode cX1_answer 17 = .ok (.bipush 7, 2) := by decide +kernel
theorem dX1_answer_19 : decode cX1_answer 19 = .ok (.aload_n 0, 1) := by decide +kernel
theorem dX1_answer_20 : decode cX1_answer 20 = .ok (.getfield 222, 3) := by decide +kernel
theorem dX1_answer_23 : decode cX1_answer 23 = .ok (.isub, 1) := by decide +kernel
theorem dX1_answer_24 : decode cX1_answer 24 = .ok (.iaload, 1) := by decide +kernel
theorem dX1_answer_25 : decode cX1_answer 25 = .ok (.iconst 1, 1) := by decide +kernel
theorem dX1_answer_26 : decode cX1_answer 26 = .ok (.isub, 1) := by decide +kernel
theorem dX1_answer_27 : decode cX1_answer 27 = .ok (.invokestatic 133, 3) := by decide +kernel
theorem dX1_answer_30 : decode cX1_answer 30 = .ok (.ifCond .ne 6, 3) := by decide +kernel
theorem dX1_answer_33 : decode cX1_answer 33 = .ok (.bipush (-2), 2) := by decide +kernel
theorem dX1_answer_35 : decode cX1_answer 35 = .ok (.ireturn, 1) := by decide +kernel
theorem dX1_answer_36 : decode cX1_answer 36 = .ok (.aload_n 0, 1) := by decide +kernel
theorem dX1_answer_37 : decode cX1_answer 37 = .ok (.getfield 31, 3) := by decide +kernel
theorem dX1_answer_40 : decode cX1_answer 40 = .ok (.aload_n 0, 1) := by decide +kernel
theorem dX1_answer_41 : decode cX1_answer 41 = .ok (.getfield 207, 3) := by decide +kernel
theorem dX1_answer_44 : decode cX1_answer 44 = .ok (.aload_n 0, 1) := by decide +kernel
theorem dX1_answer_45 : decode cX1_answer 45 = .ok (.getfield 222, 3) := by decide +kernel
theorem dX1_answer_48 : decode cX1_answer 48 = .ok (.ifCond .ne 10, 3) := by decide +kernel
theorem dX1_answer_51 : decode cX1_answer 51 = .ok (.aload_n 0, 1) := by decide +kernel
theorem dX1_answer_52 : decode cX1_answer 52 = .ok (.getfield 225, 3) := by decide +kernel
theorem dX1_answer_55 : decode cX1_answer 55 = .ok (.goto 4, 3) := by decide +kernel
theorem dX1_answer_58 : decode cX1_answer 58 = .ok (.iload_n 1, 1) := by decide +kernel
theorem dX1_answer_59 : decode cX1_answer 59 = .ok (.iastore, 1) := by decide +kernel
theorem dX1_answer_60 : decode cX1_answer 60 = .ok (.aload_n 0, 1) := by decide +kernel
theorem dX1_answer_61 : decode cX1_answer 61 = .ok (.getfield 34, 3) := by decide +kernel
theorem dX1_answer_64 : decode cX1_answer 64 = .ok (.aload_n 0, 1) := by decide +kernel
theorem dX1_answer_65 : decode cX1_answer 65 = .ok (.getfield 207, 3) := by decide +kernel
theorem dX1_answer_68 : decode cX1_answer 68 = .ok (.aload_n 0, 1) := by decide +kernel
theorem dX1_answer_69 : decode cX1_answer 69 = .ok (.getfield 222, 3) := by decide +kernel
theorem dX1_answer_72 : decode cX1_answer 72 = .ok (.ifCond .ne 7, 3) := by decide +kernel
theorem dX1_answer_75 : decode cX1_answer 75 = .ok (.iload_n 1, 1) := by decide +kernel
theorem dX1_answer_76 : decode cX1_answer 76 = .ok (.goto 7, 3) := by decide +kernel
theorem dX1_answer_79 : decode cX1_answer 79 = .ok (.aload_n 0, 1) := by decide +kernel
theorem dX1_answer_80 : decode cX1_answer 80 = .ok (.getfield 225, 3) := by decide +kernel
theorem dX1_answer_83 : decode cX1_answer 83 = .ok (.iastore, 1) := by decide +kernel
theorem dX1_answer_84 : decode cX1_answer 84 = .ok (.aload_n 0, 1) := by decide +kernel
theorem dX1_answer_85 : decode cX1_answer 85 = .ok (.dup, 1) := by decide +kernel
theorem dX1_answer_86 : decode cX1_answer 86 = .ok (.getfield 207, 3) := by decide +kernel
theorem dX1_answer_89 : decode cX1_answer 89 = .ok (.iconst 1, 1) := by decide +kernel
theorem dX1_answer_90 : decode cX1_answer 90 = .ok (.iadd, 1) := by decide +kernel
theorem dX1_answer_91 : decode cX1_answer 91 = .ok (.putfield 207, 3) := by decide +kernel
theorem dX1_answer_94 : decode cX1_answer 94 = .ok (.aload_n 0, 1) := by decide +kernel
theorem dX1_answer_95 : decode cX1_answer 95 = .ok (.dup, 1) := by decide +kernel
theorem dX1_answer_96 : decode cX1_answer 96 = .ok (.getfield 213, 3) := by decide +kernel
theorem dX1_answer_99 : decode cX1_answer 99 = .ok (.iconst 1, 1) := by decide +kernel
theorem dX1_answer_100 : decode cX1_answer 100 = .ok (.isub, 1) := by decide +kernel
theorem dX1_answer_101 : decode cX1_answer 101 = .ok (.putfield 213, 3) := by decide +kernel
theorem dX1_answer_104 : decode cX1_answer 104 = .ok (.aload_n 0, 1) := by decide +kernel
theorem dX1_answer_105 : decode cX1_answer 105 = .ok (.invokevirtual 219, 3) := by decide +kernel
theorem dX1_answer_108 : decode cX1_answer 108 = .ok (.iconst 1, 1) := by decide +kernel
theorem dX1_answer_109 : decode cX1_answer 109 = .ok (.ireturn, 1) := by decide +kernel
noncomputable def B_X1_answer (l : Launch) (δ : Dl) : Seg (l, δ, yX1_answer, 4, (some .int), cX1_answer, 2) 0 110 :=
  seq (p := 0) (q := 1) (r := 110) (p_aload_n 0 dX1_answer_0) (seq (p := 1) (q := 4) (r := 110) (p_get [(1, 10)] (alL1 fl_X1_126_1) dX1_answer_1) (seq (p := 4) (q := 5) (r := 110) (p_iconst 2 dX1_answer_4) (seq (p := 5) (q := 11) (r := 110) (blk (seq (p := 5) (q := 8) (r := 11) (p_icmp_eq 11 dX1_answer_5 (by decide)) (seq (p := 8) (q := 10) (r := 11) (p_bipush (-3) dX1_answer_8 (by decide)) (seq (p := 10) (q := 11) (r := 11) (p_ireturn dX1_answer_10 rfl) done)))) (seq (p := 11) (q := 12) (r := 110) (p_iload_n 1 dX1_answer_11) (seq (p := 12) (q := 13) (r := 110) (p_iconst 0 dX1_answer_12) (seq (p := 13) (q := 14) (r := 110) (p_aload_n 0 dX1_answer_13) (seq (p := 14) (q := 17) (r := 110) (p_get [(1, 0)] (alL1 fl_X1_7_1) dX1_answer_14) (seq (p := 17) (q := 19) (r := 110) (p_bipush 7 dX1_answer_17 (by decide)) (seq (p := 19) (q := 20) (r := 110) (p_aload_n 0 dX1_answer_19) (seq (p := 20) (q := 23) (r := 110) (p_get [(1, 15)] (alL1 fl_X1_222_1) dX1_answer_20) (seq (p := 23) (q := 24) (r := 110) (p_isub dX1_answer_23) (seq (p := 24) (q := 25) (r := 110) (p_iald dX1_answer_24) (seq (p := 25) (q := 26) (r := 110) (p_iconst 1 dX1_answer_25) (seq (p := 26) (q := 27) (r := 110) (p_isub dX1_answer_26) (seq (p := 27) (q := 30) (r := 110) (p_callS cs_X1_133 (M_X1_in l δ) (Nat.le_of_ble_eq_true rfl) dX1_answer_27) (seq (p := 30) (q := 36) (r := 110) (blk (seq (p := 30) (q := 33) (r := 36) (p_if_ne 36 dX1_answer_30 (by decide)) (seq (p := 33) (q := 35) (r := 36) (p_bipush (-2) dX1_answer_33 (by decide)) (seq (p := 35) (q := 36) (r := 36) (p_ireturn dX1_answer_35 rfl) done)))) (seq (p := 36) (q := 37) (r := 110) (p_aload_n 0 dX1_answer_36) (seq (p := 37) (q := 40) (r := 110) (p_get [(1, 13)] (alL1 fl_X1_31_1) dX1_answer_37) (seq (p := 40) (q := 41) (r := 110) (p_aload_n 0 dX1_answer_40) (seq (p := 41) (q := 44) (r := 110) (p_get [(1, 12)] (alL1 fl_X1_207_1) dX1_answer_41) (seq (p := 44) (q := 45) (r := 110) (p_aload_n 0 dX1_answer_44) (seq (p := 45) (q := 48) (r := 110) (p_get [(1, 15)] (alL1 fl_X1_222_1) dX1_answer_45) (seq (p := 48) (q := 59) (r := 110) (blk (seq (p := 48) (q := 58) (r := 59) (blk (seq (p := 48) (q := 51) (r := 58) (p_if_ne 58 dX1_answer_48 (by decide)) (seq (p := 51) (q := 52) (r := 58) (p_aload_n 0 dX1_answer_51) (seq (p := 52) (q := 55) (r := 58) (p_get [(1, 16)] (alL1 fl_X1_225_1) dX1_answer_52) (seq (p := 55) (q := 58) (r := 58) (p_goto 59 dX1_answer_55 (by decide)) done))))) (seq (p := 58) (q := 59) (r := 59) (p_iload_n 1 dX1_answer_58) done))) (seq (p := 59) (q := 60) (r := 110) (p_iast dX1_answer_59) (seq (p := 60) (q := 61) (r := 110) (p_aload_n 0 dX1_answer_60) (seq (p := 61) (q := 64) (r := 110) (p_get [(1, 14)] (alL1 fl_X1_34_1) dX1_answer_61) (seq (p := 64) (q := 65) (r := 110) (p_aload_n 0 dX1_answer_64) (seq (p := 65) (q := 68) (r := 110) (p_get [(1, 12)] (alL1 fl_X1_207_1) dX1_answer_65) (seq (p := 68) (q := 69) (r := 110) (p_aload_n 0 dX1_answer_68) (seq (p := 69) (q := 72) (r := 110) (p_get [(1, 15)] (alL1 fl_X1_222_1) dX1_answer_69) (seq (p := 72) (q := 83) (r := 110) (blk (seq (p := 72) (q := 79) (r := 83) (blk (seq (p := 72) (q := 75) (r := 79) (p_if_ne 79 dX1_answer_72 (by decide)) (seq (p := 75) (q := 76) (r := 79) (p_iload_n 1 dX1_answer_75) (seq (p := 76) (q := 79) (r := 79) (p_goto 83 dX1_answer_76 (by decide)) done)))) (seq (p := 79) (q := 80) (r := 83) (p_aload_n 0 dX1_answer_79) (seq (p := 80) (q := 83) (r := 83) (p_get [(1, 16)] (alL1 fl_X1_225_1) dX1_answer_80) done)))) (seq (p := 83) (q := 84) (r := 110) (p_iast dX1_answer_83) (seq (p := 84) (q := 85) (r := 110) (p_aload_n 0 dX1_answer_84) (seq (p := 85) (q := 86) (r := 110) (p_dup dX1_answer_85) (seq (p := 86) (q := 89) (r := 110) (p_get [(1, 12)] (alL1 fl_X1_207_1) dX1_answer_86) (seq (p := 89) (q := 90) (r := 110) (p_iconst 1 dX1_answer_89) (seq (p := 90) (q := 91) (r := 110) (p_iadd dX1_answer_90) (seq (p := 91) (q := 94) (r := 110) (p_put [(1, 12)] .int (alP1 fp_X1_207_1) dX1_answer_91) (seq (p := 94) (q := 95) (r := 110) (p_aload_n 0 dX1_answer_94) (seq (p := 95) (q := 96) (r := 110) (p_dup dX1_answer_95) (seq (p := 96) (q := 99) (r := 110) (p_get [(1, 11)] (alL1 fl_X1_213_1) dX1_answer_96) (seq (p := 99) (q := 100) (r := 110) (p_iconst 1 dX1_answer_99) (seq (p := 100) (q := 101) (r := 110) (p_isub dX1_answer_100) (seq (p := 101) (q := 104) (r := 110) (p_put [(1, 11)] .int (alP1 fp_X1_213_1) dX1_answer_101) (seq (p := 104) (q := 105) (r := 110) (p_aload_n 0 dX1_answer_104) (seq (p := 105) (q := 108) (r := 110) (p_callV 1 cv_X1_219 hcR1 (M_X1_judge l δ) (Nat.le_of_ble_eq_true rfl) dX1_answer_105) (seq (p := 108) (q := 109) (r := 110) (p_iconst 1 dX1_answer_108) (seq (p := 109) (q := 110) (r := 110) (p_ireturn dX1_answer_109 rfl) done))))))))))))))))))))))))))))))))))))))))))))))))
noncomputable def M_X1_answer (l : Launch) (δ : Dl) : Mth l δ yX1_answer cX1_answer 2 (some .int) 4 := mk (B_X1_answer l δ) (by decide)
theorem N_X1_answer {l : Launch} {δ : Dl} {o : Nat} {a1 : Int} {s : St} : (M_X1_answer l δ).1 [.inr (.inr (some o)), .inl a1] s = bres ((B_X1_answer l δ).1 [] [some (.inr (.inr (some o))), some (.inl a1)] s) := (mk_eq (hy := by decide) rfl).trans (nrfl rfl)
theorem dX1_answerTo_0 : decode cX1_answerTo 0 = .ok (.iconst 0, 1) := by decide +kernel
theorem dX1_answerTo_1 : decode cX1_answerTo 1 = .ok (.istore 4, 2) := by decide +kernel
theorem dX1_answerTo_3 : decode cX1_answerTo 3 = .ok (.iload 4, 2) := by decide +kernel
theorem dX1_answerTo_5 : decode cX1_answerTo 5 = .ok (.aload_n 0, 1) := by decide +kernel
theorem dX1_answerTo_6 : decode cX1_answerTo 6 = .ok (.iconst 1, 1) := by decide +kernel
theorem dX1_answerTo_7 : decode cX1_answerTo 7 = .ok (.iload_n 1, 1) := by decide +kernel
theorem dX1_answerTo_8 : decode cX1_answerTo 8 = .ok (.isub, 1) := by decide +kernel
theorem dX1_answerTo_9 : decode cX1_answerTo 9 = .ok (.invokevirtual 182, 3) := by decide +kernel
theorem dX1_answerTo_12 : decode cX1_answerTo 12 = .ok (.if_icmp .ge 42, 3) := by decide +kernel
theorem dX1_answerTo_15 : decode cX1_answerTo 15 = .ok (.aload_n 0, 1) := by decide +kernel
theorem dX1_answerTo_16 : decode cX1_answerTo 16 = .ok (.iload_n 1, 1) := by decide +kernel
theorem dX1_answerTo_17 : decode cX1_answerTo 17 = .ok (.iload_n 2, 1) := by decide +kernel
theorem dX1_answerTo_18 : decode cX1_answerTo 18 = .ok (.iload 4, 2) := by decide +kernel
theorem dX1_answerTo_20 : decode cX1_answerTo 20 = .ok (.invokevirtual 185, 3) := by decide +kernel
theorem dX1_answerTo_23 : decode cX1_answerTo 23 = .ok (.aload_n 0, 1) := by decide +kernel
theorem dX1_answerTo_24 : decode cX1_answerTo 24 = .ok (.iload_n 3, 1) := by decide +kernel
theorem dX1_answerTo_25 : decode cX1_answerTo 25 = .ok (.invokevirtual 201, 3) := by decide +kernel
theorem dX1_answerTo_28 : decode cX1_answerTo 28 = .ok (.istore 5, 2) := by decide +kernel
theorem dX1_answerTo_30 : decode cX1_answerTo 30 = .ok (.aload_n 0, 1) := by decide +kernel
theorem dX1_answerTo_31 : decode cX1_answerTo 31 = .ok (.dup, 1) := by decide +kernel
theorem dX1_answerTo_32 : decode cX1_answerTo 32 = .ok (.getfield 169, 3) := by decide +kernel
theorem dX1_answerTo_35 : decode cX1_answerTo 35 = .ok (.iconst 1, 1) := by decide +kernel
theorem dX1_answerTo_36 : decode cX1_answerTo 36 = .ok (.isub, 1) := by decide +kernel
theorem dX1_answerTo_37 : decode cX1_answerTo 37 = .ok (.putfield 169, 3) := by decide +kernel
theorem dX1_answerTo_40 : decode cX1_answerTo 40 = .ok (.iload 5, 2) := by decide +kernel
theorem dX1_answerTo_42 : decode cX1_answerTo 42 = .ok (.ifCond .eq 6, 3) := by decide +kernel
theorem dX1_answerTo_45 : decode cX1_answerTo 45 = .ok (.iload 4, 2) := by decide +kernel
theorem dX1_answerTo_47 : decode cX1_answerTo 47 = .ok (.ireturn, 1) := by decide +kernel
theorem dX1_answerTo_48 : decode cX1_answerTo 48 = .ok (.iinc 4 1, 3) := by decide +kernel
theorem dX1_answerTo_51 : decode cX1_answerTo 51 = .ok (.goto (-48), 3) := by decide +kernel
theorem dX1_answerTo_54 : decode cX1_answerTo 54 = .ok (.iconst (-1), 1) := by decide +kernel
theorem dX1_answerTo_55 : decode cX1_answerTo 55 = .ok (.ireturn, 1) := by decide +kernel
noncomputable def C_X1_answerTo_L3 (l : Launch) (δ : Dl) : Seg (l, δ, yX1_answerTo, 7, (some .int), cX1_answerTo, 6) 3 54 :=
  seq (p := 3) (q := 5) (r := 54) (p_iload 4 dX1_answerTo_3) (seq (p := 5) (q := 6) (r := 54) (p_aload_n 0 dX1_answerTo_5) (seq (p := 6) (q := 7) (r := 54) (p_iconst 1 dX1_answerTo_6) (seq (p := 7) (q := 8) (r := 54) (p_iload_n 1 dX1_answerTo_7) (seq (p := 8) (q := 9) (r := 54) (p_isub dX1_answerTo_8) (seq (p := 9) (q := 12) (r := 54) (p_callV 1 cv_X1_182 hcR1 (M_X1_manyOf l δ) (Nat.le_of_ble_eq_true rfl) dX1_answerTo_9) (seq (p := 12) (q := 15) (r := 54) (p_icmp_ge 54 dX1_answerTo_12 (by decide)) (seq (p := 15) (q := 16) (r := 54) (p_aload_n 0 dX1_answerTo_15) (seq (p := 16) (q := 17) (r := 54) (p_iload_n 1 dX1_answerTo_16) (seq (p := 17) (q := 18) (r := 54) (p_iload_n 2 dX1_answerTo_17) (seq (p := 18) (q := 20) (r := 54) (p_iload 4 dX1_answerTo_18) (seq (p := 20) (q := 23) (r := 54) (p_callV 1 cv_X1_185 hcR1 (M_X1_addPick l δ) (Nat.le_of_ble_eq_true rfl) dX1_answerTo_20) (seq (p := 23) (q := 24) (r := 54) (p_aload_n 0 dX1_answerTo_23) (seq (p := 24) (q := 25) (r := 54) (p_iload_n 3 dX1_answerTo_24) (seq (p := 25) (q := 28) (r := 54) (p_callV 1 cv_X1_201 hcR1 (M_X1_keeps l δ) (Nat.le_of_ble_eq_true rfl) dX1_answerTo_25) (seq (p := 28) (q := 30) (r := 54) (p_istore 5 dX1_answerTo_28 (Nat.le_of_ble_eq_true rfl)) (seq (p := 30) (q := 31) (r := 54) (p_aload_n 0 dX1_answerTo_30) (seq (p := 31) (q := 32) (r := 54) (p_dup dX1_answerTo_31) (seq (p := 32) (q := 35) (r := 54) (p_get [(1, 7)] (alL1 fl_X1_169_1) dX1_answerTo_32) (seq (p := 35) (q := 36) (r := 54) (p_iconst 1 dX1_answerTo_35) (seq (p := 36) (q := 37) (r := 54) (p_isub dX1_answerTo_36) (seq (p := 37) (q := 40) (r := 54) (p_put [(1, 7)] .int (alP1 fp_X1_169_1) dX1_answerTo_37) (seq (p := 40) (q := 42) (r := 54) (p_iload 5 dX1_answerTo_40) (seq (p := 42) (q := 48) (r := 54) (blk (seq (p := 42) (q := 45) (r := 48) (p_if_eq 48 dX1_answerTo_42 (by decide)) (seq (p := 45) (q := 47) (r := 48) (p_iload 4 dX1_answerTo_45) (seq (p := 47) (q := 48) (r := 48) (p_ireturn dX1_answerTo_47 rfl) done)))) (seq (p := 48) (q := 51) (r := 54) (p_iinc 4 1 dX1_answerTo_48 (Nat.le_of_ble_eq_true rfl)) (seq (p := 51) (q := 51) (r := 54) (er [true, true, true, true, true, false]) (seq (p := 51) (q := 54) (r := 54) (p_goto 3 dX1_answerTo_51 (by decide)) done))))))))))))))))))))))))))
noncomputable def B_X1_answerTo_L3 (l : Launch) (δ : Dl) : Seg (l, δ, yX1_answerTo, 7, (some .int), cX1_answerTo, 6) 3 54 := C_X1_answerTo_L3 l δ
theorem L_X1_answerTo_3 {l : Launch} {δ : Dl} {st : Stk} {L : Lc} {s : St} : (B_X1_answerTo_L3 l δ).1 st L s = (C_X1_answerTo_L3 l δ).1 st L s := nrfl rfl
noncomputable def B_X1_answerTo (l : Launch) (δ : Dl) : Seg (l, δ, yX1_answerTo, 7, (some .int), cX1_answerTo, 6) 0 56 :=
  seq (p := 0) (q := 1) (r := 56) (p_iconst 0 dX1_answerTo_0) (seq (p := 1) (q := 3) (r := 56) (p_istore 4 dX1_answerTo_1 (Nat.le_of_ble_eq_true rfl)) (seq (p := 3) (q := 54) (r := 56) (blk (seq (p := 3) (q := 3) (r := 54) (er [true, true, true, true, true, false]) (seq (p := 3) (q := 54) (r := 54) (lp (B_X1_answerTo_L3 l δ)) done))) (seq (p := 54) (q := 55) (r := 56) (p_iconst (-1) dX1_answerTo_54) (seq (p := 55) (q := 56) (r := 56) (p_ireturn dX1_answerTo_55 rfl) done))))
noncomputable def M_X1_answerTo (l : Launch) (δ : Dl) : Mth l δ yX1_answerTo cX1_answerTo 6 (some .int) 7 := mk (B_X1_answerTo l δ) (by decide)
theorem N_X1_answerTo {l : Launch} {δ : Dl} {o : Nat} {a1 : Int} {a2 : Int} {a3 : Int} {s : St} : (M_X1_answerTo l δ).1 [.inr (.inr (some o)), .inl a1, .inl a2, .inl a3] s = bres ((B_X1_answerTo l δ).1 [] [some (.inr (.inr (some o))), some (.inl a1), some (.inl a2), some (.inl a3), none, none] s) := (mk_eq (hy := by decide) rfl).trans (nrfl rfl)
theorem dX1_best_0 : decode cX1_best 0 = .ok (.aload_n 0, 1) := by decide +kernel
theorem dX1_best_1 : decode cX1_best 1 = .ok (.getfield 126, 3) := by decide +kernel
theorem dX1_best_4 : decode cX1_best 4 = .ok (.iconst 1, 1) := by decide +kernel
theorem dX1_best_5 : decode cX1_best 5 = .ok (.if_icmp .eq 14, 3) := by decide +kernel
theorem dX1_best_8 : decode cX1_best 8 = .ok (.aload_n 0, 1) := by decide +kernel
theorem dX1_best_9 : decode cX1_best 9 = .ok (.getfield 126, 3) := by decide +kernel
theorem dX1_best_12 : decode cX1_best 12 = .ok (.iconst 2, 1) := by decide +kernel
theorem dX1_best_13 : decode cX1_best 13 = .ok (.if_icmp .eq 6, 3) := by decide +kernel
theorem dX1_best_16 : decode cX1_best 16 = .ok (.bipush (-3), 2) := by decide +kernel
theorem dX1_best_18 : decode cX1_best 18 = .ok (.ireturn, 1) := by decide +kernel
theorem dX1_best_19 : decode cX1_best 19 = .ok (.aload_n 0, 1) := by decide +kernel
theorem dX1_best_20 : decode cX1_best 20 = .ok (.invokevirtual 210, 3) := by decide +kernel
theorem dX1_best_23 : decode cX1_best 23 = .ok (.aload_n 0, 1) := by decide +kernel
theorem dX1_best_24 : decode cX1_best 24 = .ok (.getfield 126, 3) := by decide +kernel
theorem dX1_best_27 : decode cX1_best 27 = .ok (.iconst 2, 1) := by decide +kernel
theorem dX1_best_28 : decode cX1_best 28 = .ok (.if_icmp .ne 33, 3) := by decide +kernel
theorem dX1_best_31 : decode cX1_best 31 = .ok (.aload_n 0, 1) := by decide +kernel
theorem dX1_best_32 : decode cX1_best 32 = .ok (.aload_n 0, 1) := by decide +kernel
theorem dX1_best_33 : decode cX1_best 33 = .ok (.getfield 222, 3) := by decide +kernel
theorem dX1_best_36 : decode cX1_best 36 = .ok (.aload_n 0, 1) := by decide +kernel
theorem dX1_best_37 : decode cX1_best 37 = .ok (.getfield 225, 3) := by decide +kernel
theorem dX1_best_40 : decode cX1_best 40 = .ok (.aload_n 0, 1) := by decide +kernel
theorem dX1_best_41 : decode cX1_best 41 = .ok (.getfield 213, 3) := by decide +kernel
theorem dX1_best_44 : decode cX1_best 44 = .ok (.iconst 1, 1) := by decide +kernel
theorem dX1_best_45 : decode cX1_best 45 = .ok (.isub, 1) := by decide +kernel
theorem dX1_best_46 : decode cX1_best 46 = .ok (.invokevirtual 228, 3) := by decide +kernel
theorem dX1_best_49 : decode cX1_best 49 = .ok (.istore_n 1, 1) := by decide +kernel
theorem dX1_best_50 : decode cX1_best 50 = .ok (.iload_n 1, 1) := by decide +kernel
theorem dX1_best_51 : decode cX1_best 51 = .ok (.ifCond .ge 8, 3) := by decide +kernel
theorem dX1_best_54 : decode cX1_best 54 = .ok (.bipush (-9), 2) := by decide +kernel
theorem dX1_best_56 : decode cX1_best 56 = .ok (.goto 4, 3) := by decide +kernel
theorem dX1_best_59 : decode cX1_best 59 = .ok (.iload_n 1, 1) := by decide +kernel
theorem dX1_best_60 : decode cX1_best 60 = .ok (.ireturn, 1) := by decide +kernel
theorem dX1_best_61 : decode cX1_best 61 = .ok (.iconst 0, 1) := by decide +kernel
theorem dX1_best_62 : decode cX1_best 62 = .ok (.istore_n 1, 1) := by decide +kernel
theorem dX1_best_63 : decode cX1_best 63 = .ok (.iload_n 1, 1) := by decide +kernel
theorem dX1_best_64 : decode cX1_best 64 = .ok (.iconst 2, 1) := by decide +kernel
theorem dX1_best_65 : decode cX1_best 65 = .ok (.if_icmp .ge 48, 3) := by decide +kernel
theorem dX1_best_68 : decode cX1_best 68 = .ok (.iconst 0, 1) := by decide +kernel
theorem dX1_best_69 : decode cX1_best 69 = .ok (.istore_n 2, 1) := by decide +kernel
theorem dX1_best_70 : decode cX1_best 70 = .ok (.iload_n 2, 1) := by decide +kernel
theorem dX1_best_71 : decode cX1_best 71 = .ok (.aload_n 0, 1) := by decide +kernel
theorem dX1_best_72 : decode cX1_best 72 = .ok (.iload_n 1, 1) := by decide +kernel
theorem dX1_best_73 : decode cX1_best 73 = .ok (.invokevirtual 182, 3) := by decide +kernel
theorem dX1_best_76 : decode cX1_best 76 = .ok (.if_icmp .ge 31, 3) := by decide +kernel
theorem dX1_best_79 : decode cX1_best 79 = .ok (.aload_n 0, 1) := by decide +kernel
theorem dX1_best_80 : decode cX1_best 80 = .ok (.iload_n 1, 1) := by decide +kernel
theorem dX1_best_81 : decode cX1_best 81 = .ok (.iload_n 2, 1) := by decide +kernel
theorem dX1_best_82 : decode cX1_best 82 = .ok (.aload_n 0, 1) := by decide +kernel
theorem dX1_best_83 : decode cX1_best 83 = .ok (.getfield 213, 3) := by decide +kernel
theorem dX1_best_86 : decode cX1_best 86 = .ok (.iconst 1, 1) := by decide +kernel
theorem dX1_best_87 : decode cX1_best 87 = .ok (.isub, 1) := by decide +kernel
theorem dX1_best_88 : decode cX1_best 88 = .ok (.invokevirtual 228, 3) := by decide +kernel
theorem dX1_best_91 : decode cX1_best 91 = .ok (.ifCond .ge 10, 3) := by decide +kernel
theorem dX1_best_94 : decode cX1_best 94 = .ok (.bipush 10, 2) := by decide +kernel
theorem dX1_best_96 : decode cX1_best 96 = .ok (.iload_n 1, 1) := by decide +kernel
theorem dX1_best_97 : decode cX1_best 97 = .ok (.imul, 1) := by decide +kernel
theorem dX1_best_98 : decode cX1_best 98 = .ok (.iload_n 2, 1) := by decide +kernel
theorem dX1_best_99 : decode cX1_best 99 = .ok (.iadd, 1) := by decide +kernel
theorem dX1_best_100 : decode cX1_best 100 = .ok (.ireturn, 1) := by decide +kernel
theorem dX1_best_101 : decode cX1_best 101 = .ok (.iinc 2 1, 3) := by decide +kernel
theorem dX1_best_104 : decode cX1_best 104 = .ok (.goto (-34), 3) := by decide +kernel
theorem dX1_best_107 : decode cX1_best 107 = .ok (.iinc 1 1, 3) := by decide +kernel
theorem dX1_best_110 : decode cX1_best 110 = .ok (.goto (-47), 3) := by decide +kernel
theorem dX1_best_113 : decode cX1_best 113 = .ok (.bipush (-9), 2) := by decide +kernel
theorem dX1_best_115 : decode cX1_best 115 = .ok (.ireturn, 1) := by decide +kernel
noncomputable def C_X1_best_L70 (l : Launch) (δ : Dl) : Seg (l, δ, yX1_best, 8, (some .int), cX1_best, 3) 70 107 :=
  seq (p := 70) (q := 71) (r := 107) (p_iload_n 2 dX1_best_70) (seq (p := 71) (q := 72) (r := 107) (p_aload_n 0 dX1_best_71) (seq (p := 72) (q := 73) (r := 107) (p_iload_n 1 dX1_best_72) (seq (p := 73) (q := 76) (r := 107) (p_callV 1 cv_X1_182 hcR1 (M_X1_manyOf l δ) (Nat.le_of_ble_eq_true rfl) dX1_best_73) (seq (p := 76) (q := 79) (r := 107) (p_icmp_ge 107 dX1_best_76 (by decide)) (seq (p := 79) (q := 80) (r := 107) (p_aload_n 0 dX1_best_79) (seq (p := 80) (q := 81) (r := 107) (p_iload_n 1 dX1_best_80) (seq (p := 81) (q := 82) (r := 107) (p_iload_n 2 dX1_best_81) (seq (p := 82) (q := 83) (r := 107) (p_aload_n 0 dX1_best_82) (seq (p := 83) (q := 86) (r := 107) (p_get [(1, 11)] (alL1 fl_X1_213_1) dX1_best_83) (seq (p := 86) (q := 87) (r := 107) (p_iconst 1 dX1_best_86) (seq (p := 87) (q := 88) (r := 107) (p_isub dX1_best_87) (seq (p := 88) (q := 91) (r := 107) (p_callV 1 cv_X1_228 hcR1 (M_X1_answerTo l δ) (Nat.le_of_ble_eq_true rfl) dX1_best_88) (seq (p := 91) (q := 101) (r := 107) (blk (seq (p := 91) (q := 94) (r := 101) (p_if_ge 101 dX1_best_91 (by decide)) (seq (p := 94) (q := 96) (r := 101) (p_bipush 10 dX1_best_94 (by decide)) (seq (p := 96) (q := 97) (r := 101) (p_iload_n 1 dX1_best_96) (seq (p := 97) (q := 98) (r := 101) (p_imul dX1_best_97) (seq (p := 98) (q := 99) (r := 101) (p_iload_n 2 dX1_best_98) (seq (p := 99) (q := 100) (r := 101) (p_iadd dX1_best_99) (seq (p := 100) (q := 101) (r := 101) (p_ireturn dX1_best_100 rfl) done)))))))) (seq (p := 101) (q := 104) (r := 107) (p_iinc 2 1 dX1_best_101 (Nat.le_of_ble_eq_true rfl)) (seq (p := 104) (q := 104) (r := 107) (er [true, true, true]) (seq (p := 104) (q := 107) (r := 107) (p_goto 70 dX1_best_104 (by decide)) done))))))))))))))))
noncomputable def B_X1_best_L70 (l : Launch) (δ : Dl) : Seg (l, δ, yX1_best, 8, (some .int), cX1_best, 3) 70 107 := C_X1_best_L70 l δ
theorem L_X1_best_70 {l : Launch} {δ : Dl} {st : Stk} {L : Lc} {s : St} : (B_X1_best_L70 l δ).1 st L s = (C_X1_best_L70 l δ).1 st L s := nrfl rfl
noncomputable def C_X1_best_L63 (l : Launch) (δ : Dl) : Seg (l, δ, yX1_best, 8, (some .int), cX1_best, 3) 63 113 :=
  seq (p := 63) (q := 64) (r := 113) (p_iload_n 1 dX1_best_63) (seq (p := 64) (q := 65) (r := 113) (p_iconst 2 dX1_best_64) (seq (p := 65) (q := 68) (r := 113) (p_icmp_ge 113 dX1_best_65 (by decide)) (seq (p := 68) (q := 69) (r := 113) (p_iconst 0 dX1_best_68) (seq (p := 69) (q := 70) (r := 113) (p_istore_n 2 dX1_best_69 (Nat.le_of_ble_eq_true rfl)) (seq (p := 70) (q := 107) (r := 113) (blk (seq (p := 70) (q := 70) (r := 107) (er [true, true, true]) (seq (p := 70) (q := 107) (r := 107) (lp (B_X1_best_L70 l δ)) done))) (seq (p := 107) (q := 110) (r := 113) (p_iinc 1 1 dX1_best_107 (Nat.le_of_ble_eq_true rfl)) (seq (p := 110) (q := 110) (r := 113) (er [true, true, false]) (seq (p := 110) (q := 113) (r := 113) (p_goto 63 dX1_best_110 (by decide)) done))))))))
noncomputable def B_X1_best_L63 (l : Launch) (δ : Dl) : Seg (l, δ, yX1_best, 8, (some .int), cX1_best, 3) 63 113 := C_X1_best_L63 l δ
theorem L_X1_best_63 {l : Launch} {δ : Dl} {st : Stk} {L : Lc} {s : St} : (B_X1_best_L63 l δ).1 st L s = (C_X1_best_L63 l δ).1 st L s := nrfl rfl
noncomputable def B_X1_best (l : Launch) (δ : Dl) : Seg (l, δ, yX1_best, 8, (some .int), cX1_best, 3) 0 116 :=
  seq (p := 0) (q := 1) (r := 116) (p_aload_n 0 dX1_best_0) (seq (p := 1) (q := 4) (r := 116) (p_get [(1, 10)] (alL1 fl_X1_126_1) dX1_best_1) (seq (p := 4) (q := 5) (r := 116) (p_iconst 1 dX1_best_4) (seq (p := 5) (q := 19) (r := 116) (blk (seq (p := 5) (q := 8) (r := 19) (p_icmp_eq 19 dX1_best_5 (by decide)) (seq (p := 8) (q := 9) (r := 19) (p_aload_n 0 dX1_best_8) (seq (p := 9) (q := 12) (r := 19) (p_get [(1, 10)] (alL1 fl_X1_126_1) dX1_best_9) (seq (p := 12) (q := 13) (r := 19) (p_iconst 2 dX1_best_12) (seq (p := 13) (q := 16) (r := 19) (p_icmp_eq 19 dX1_best_13 (by decide)) (seq (p := 16) (q := 18) (r := 19) (p_bipush (-3) dX1_best_16 (by decide)) (seq (p := 18) (q := 19) (r := 19) (p_ireturn dX1_best_18 rfl) done)))))))) (seq (p := 19) (q := 20) (r := 116) (p_aload_n 0 dX1_best_19) (seq (p := 20) (q := 23) (r := 116) (p_callV 1 cv_X1_210 hcR1 (M_X1_layPlay l δ) (Nat.le_of_ble_eq_true rfl) dX1_best_20) (seq (p := 23) (q := 24) (r := 116) (p_aload_n 0 dX1_best_23) (seq (p := 24) (q := 27) (r := 116) (p_get [(1, 10)] (alL1 fl_X1_126_1) dX1_best_24) (seq (p := 27) (q := 28) (r := 116) (p_iconst 2 dX1_best_27) (seq (p := 28) (q := 61) (r := 116) (blk (seq (p := 28) (q := 31) (r := 61) (p_icmp_ne 61 dX1_best_28 (by decide)) (seq (p := 31) (q := 32) (r := 61) (p_aload_n 0 dX1_best_31) (seq (p := 32) (q := 33) (r := 61) (p_aload_n 0 dX1_best_32) (seq (p := 33) (q := 36) (r := 61) (p_get [(1, 15)] (alL1 fl_X1_222_1) dX1_best_33) (seq (p := 36) (q := 37) (r := 61) (p_aload_n 0 dX1_best_36) (seq (p := 37) (q := 40) (r := 61) (p_get [(1, 16)] (alL1 fl_X1_225_1) dX1_best_37) (seq (p := 40) (q := 41) (r := 61) (p_aload_n 0 dX1_best_40) (seq (p := 41) (q := 44) (r := 61) (p_get [(1, 11)] (alL1 fl_X1_213_1) dX1_best_41) (seq (p := 44) (q := 45) (r := 61) (p_iconst 1 dX1_best_44) (seq (p := 45) (q := 46) (r := 61) (p_isub dX1_best_45) (seq (p := 46) (q := 49) (r := 61) (p_callV 1 cv_X1_228 hcR1 (M_X1_answerTo l δ) (Nat.le_of_ble_eq_true rfl) dX1_best_46) (seq (p := 49) (q := 50) (r := 61) (p_istore_n 1 dX1_best_49 (Nat.le_of_ble_eq_true rfl)) (seq (p := 50) (q := 51) (r := 61) (p_iload_n 1 dX1_best_50) (seq (p := 51) (q := 60) (r := 61) (blk (seq (p := 51) (q := 59) (r := 60) (blk (seq (p := 51) (q := 54) (r := 59) (p_if_ge 59 dX1_best_51 (by decide)) (seq (p := 54) (q := 56) (r := 59) (p_bipush (-9) dX1_best_54 (by decide)) (seq (p := 56) (q := 59) (r := 59) (p_goto 60 dX1_best_56 (by decide)) done)))) (seq (p := 59) (q := 60) (r := 60) (p_iload_n 1 dX1_best_59) done))) (seq (p := 60) (q := 61) (r := 61) (p_ireturn dX1_best_60 rfl) done)))))))))))))))) (seq (p := 61) (q := 62) (r := 116) (p_iconst 0 dX1_best_61) (seq (p := 62) (q := 63) (r := 116) (p_istore_n 1 dX1_best_62 (Nat.le_of_ble_eq_true rfl)) (seq (p := 63) (q := 113) (r := 116) (blk (seq (p := 63) (q := 63) (r := 113) (er [true, true, false]) (seq (p := 63) (q := 113) (r := 113) (lp (B_X1_best_L63 l δ)) done))) (seq (p := 113) (q := 115) (r := 116) (p_bipush (-9) dX1_best_113 (by decide)) (seq (p := 115) (q := 116) (r := 116) (p_ireturn dX1_best_115 rfl) done))))))))))))))
noncomputable def M_X1_best (l : Launch) (δ : Dl) : Mth l δ yX1_best cX1_best 3 (some .int) 8 := mk (B_X1_best l δ) (by decide)
theorem N_X1_best {l : Launch} {δ : Dl} {o : Nat} {s : St} : (M_X1_best l δ).1 [.inr (.inr (some o))] s = bres ((B_X1_best l δ).1 [] [some (.inr (.inr (some o))), none, none] s) := (mk_eq (hy := by decide) rfl).trans (nrfl rfl)
theorem dX1_state_0 : decode cX1_state 0 = .ok (.aload_n 0, 1) := by decide +kernel
theorem dX1_state_1 : decode cX1_state 1 = .ok (.getfield 126, 3) := by decide +kernel
theorem dX1_state_4 : decode cX1_state 4 = .ok (.ireturn, 1) := by decide +kernel
noncomputable def B_X1_state (l : Launch) (δ : Dl) : Seg (l, δ, yX1_state, 0, (some .int), cX1_state, 1) 0 5 :=
  seq (p := 0) (q := 1) (r := 5) (p_aload_n 0 dX1_state_0) (seq (p := 1) (q := 4) (r := 5) (p_get [(1, 10)] (alL1 fl_X1_126_1) dX1_state_1) (seq (p := 4) (q := 5) (r := 5) (p_ireturn dX1_state_4 rfl) done))
noncomputable def M_X1_state (l : Launch) (δ : Dl) : Mth l δ yX1_state cX1_state 1 (some .int) 0 := mk (B_X1_state l δ) (by decide)
theorem N_X1_state {l : Launch} {δ : Dl} {o : Nat} {s : St} : (M_X1_state l δ).1 [.inr (.inr (some o))] s = bres ((B_X1_state l δ).1 [] [some (.inr (.inr (some o)))] s) := (mk_eq (hy := by decide) rfl).trans (nrfl rfl)
theorem dX1_left_0 : decode cX1_left 0 = .ok (.aload_n 0, 1) := by decide +kernel
theorem dX1_left_1 : decode cX1_left 1 = .ok (.getfield 126, 3) := by decide +kernel
theorem dX1_left_4 : decode cX1_left 4 = .ok (.ifCond .ne 8, 3) := by decide +kernel
theorem dX1_left_7 : decode cX1_left 7 = .ok (.bipush (-3), 2) := by decide +kernel
theorem dX1_left_9 : decode cX1_left 9 = .ok (.goto 7, 3) := by decide +kernel
theorem dX1_left_12 : decode cX1_left 12 = .ok (.aload_n 0, 1) := by decide +kernel
theorem dX1_left_13 : decode cX1_left 13 = .ok (.getfield 213, 3) := by decide +kernel
theorem dX1_left_16 : decode cX1_left 16 = .ok (.ireturn, 1) := by decide +kernel
noncomputable def B_X1_left (l : Launch) (δ : Dl) : Seg (l, δ, yX1_left, 0, (some .int), cX1_left, 1) 0 17 :=
  seq (p := 0) (q := 1) (r := 17) (p_aload_n 0 dX1_left_0) (seq (p := 1) (q := 4) (r := 17) (p_get [(1, 10)] (alL1 fl_X1_126_1) dX1_left_1) (seq (p := 4) (q := 16) (r := 17) (blk (seq (p := 4) (q := 12) (r := 16) (blk (seq (p := 4) (q := 7) (r := 12) (p_if_ne 12 dX1_left_4 (by decide)) (seq (p := 7) (q := 9) (r := 12) (p_bipush (-3) dX1_left_7 (by decide)) (seq (p := 9) (q := 12) (r := 12) (p_goto 16 dX1_left_9 (by decide)) done)))) (seq (p := 12) (q := 13) (r := 16) (p_aload_n 0 dX1_left_12) (seq (p := 13) (q := 16) (r := 16) (p_get [(1, 11)] (alL1 fl_X1_213_1) dX1_left_13) done)))) (seq (p := 16) (q := 17) (r := 17) (p_ireturn dX1_left_16 rfl) done)))
noncomputable def M_X1_left (l : Launch) (δ : Dl) : Mth l δ yX1_left cX1_left 1 (some .int) 0 := mk (B_X1_left l δ) (by decide)
theorem N_X1_left {l : Launch} {δ : Dl} {o : Nat} {s : St} : (M_X1_left l δ).1 [.inr (.inr (some o))] s = bres ((B_X1_left l δ).1 [] [some (.inr (.inr (some o)))] s) := (mk_eq (hy := by decide) rfl).trans (nrfl rfl)
theorem dX1_feed_0 : decode cX1_feed 0 = .ok (.aload_n 0, 1) := by decide +kernel
theorem dX1_feed_1 : decode cX1_feed 1 = .ok (.getfield 231, 3) := by decide +kernel
theorem dX1_feed_4 : decode cX1_feed 4 = .ok (.bipush 20, 2) := by decide +kernel
theorem dX1_feed_6 : decode cX1_feed 6 = .ok (.iadd, 1) := by decide +kernel
theorem dX1_feed_7 : decode cX1_feed 7 = .ok (.sipush 800, 3) := by decide +kernel
theorem dX1_feed_10 : decode cX1_feed 10 = .ok (.if_icmp .le 6, 3) := by decide +kernel
theorem dX1_feed_13 : decode cX1_feed 13 = .ok (.bipush (-4), 2) := by decide +kernel
theorem dX1_feed_15 : decode cX1_feed 15 = .ok (.ireturn, 1) := by decide +kernel
theorem dX1_feed_16 : decode cX1_feed 16 = .ok (.bipush 24, 2) := by decide +kernel
theorem dX1_feed_18 : decode cX1_feed 18 = .ok (.istore 6, 2) := by decide +kernel
theorem dX1_feed_20 : decode cX1_feed 20 = .ok (.iload 6, 2) := by decide +kernel
theorem dX1_feed_22 : decode cX1_feed 22 = .ok (.ifCond .lt 96, 3) := by decide +kernel
theorem dX1_feed_25 : decode cX1_feed 25 = .ok (.aload_n 0, 1) := by decide +kernel
theorem dX1_feed_26 : decode cX1_feed 26 = .ok (.getfield 231, 3) := by decide +kernel
theorem dX1_feed_29 : decode cX1_feed 29 = .ok (.iconst 3, 1) := by decide +kernel
theorem dX1_feed_30 : decode cX1_feed 30 = .ok (.iadd, 1) := by decide +kernel
theorem dX1_feed_31 : decode cX1_feed 31 = .ok (.iload 6, 2) := by decide +kernel
theorem dX1_feed_33 : decode cX1_feed 33 = .ok (.bipush 8, 2) := by decide +kernel
theorem dX1_feed_35 : decode cX1_feed 35 = .ok (.idiv, 1) := by decide +kernel
theorem dX1_feed_36 : decode cX1_feed 36 = .ok (.isub, 1) := by decide +kernel
theorem dX1_feed_37 : decode cX1_feed 37 = .ok (.istore 7, 2) := by decide +kernel
theorem dX1_feed_39 : decode cX1_feed 39 = .ok (.aload_n 0, 1) := by decide +kernel
theorem dX1_feed_40 : decode cX1_feed 40 = .ok (.getfield 62, 3) := by decide +kernel
theorem dX1_feed_43 : decode cX1_feed 43 = .ok (.iload 7, 2) := by decide +kernel
theorem dX1_feed_45 : decode cX1_feed 45 = .ok (.iload_n 1, 1) := by decide +kernel
theorem dX1_feed_46 : decode cX1_feed 46 = .ok (.iload 6, 2) := by decide +kernel
theorem dX1_feed_48 : decode cX1_feed 48 = .ok (.ishr, 1) := by decide +kernel
theorem dX1_feed_49 : decode cX1_feed 49 = .ok (.i2b, 1) := by decide +kernel
theorem dX1_feed_50 : decode cX1_feed 50 = .ok (.bastore, 1) := by decide +kernel
theorem dX1_feed_51 : decode cX1_feed 51 = .ok (.aload_n 0, 1) := by decide +kernel
theorem dX1_feed_52 : decode cX1_feed 52 = .ok (.getfield 62, 3) := by decide +kernel
theorem dX1_feed_55 : decode cX1_feed 55 = .ok (.iload 7, 2) := by decide +kernel
theorem dX1_feed_57 : decode cX1_feed 57 = .ok (.iconst 4, 1) := by decide +kernel
theorem dX1_feed_58 : decode cX1_feed 58 = .ok (.iadd, 1) := by decide +kernel
theorem dX1_feed_59 : decode cX1_feed 59 = .ok (.iload_n 2, 1) := by decide +kernel
theorem dX1_feed_60 : decode cX1_feed 60 = .ok (.iload 6, 2) := by decide +kernel
theorem dX1_feed_62 : decode cX1_feed 62 = .ok (.ishr, 1) := by decide +kernel
theorem dX1_feed_63 : decode cX1_feed 63 = .ok (.i2b, 1) := by decide +kernel
theorem dX1_feed_64 : decode cX1_feed 64 = .ok (.bastore, 1) := by decide +kernel
theorem dX1_feed_65 : decode cX1_feed 65 = .ok (.aload_n 0, 1) := by decide +kernel
theorem dX1_feed_66 : decode cX1_feed 66 = .ok (.getfield 62, 3) := by decide +kernel
theorem dX1_feed_69 : decode cX1_feed 69 = .ok (.iload 7, 2) := by decide +kernel
theorem dX1_feed_71 : decode cX1_feed 71 = .ok (.bipush 8, 2) := by decide +kernel
theorem dX1_feed_73 : decode cX1_feed 73 = .ok (.iadd, 1) := by decide +kernel
theorem dX1_feed_74 : decode cX1_feed 74 = .ok (.iload_n 3, 1) := by decide +kernel
theorem dX1_feed_75 : decode cX1_feed 75 = .ok (.iload 6, 2) := by decide +kernel
theorem dX1_feed_77 : decode cX1_feed 77 = .ok (.ishr, 1) := by decide +kernel
theorem dX1_feed_78 : decode cX1_feed 78 = .ok (.i2b, 1) := by decide +kernel
theorem dX1_feed_79 : decode cX1_feed 79 = .ok (.bastore, 1) := by decide +kernel
theorem dX1_feed_80 : decode cX1_feed 80 = .ok (.aload_n 0, 1) := by decide +kernel
theorem dX1_feed_81 : decode cX1_feed 81 = .ok (.getfield 62, 3) := by decide +kernel
theorem dX1_feed_84 : decode cX1_feed 84 = .ok (.iload 7, 2) := by decide +kernel
theorem dX1_feed_86 : decode cX1_feed 86 = .ok (.bipush 12, 2) := by decide +kernel
theorem dX1_feed_88 : decode cX1_feed 88 = .ok (.iadd, 1) := by decide +kernel
theorem dX1_feed_89 : decode cX1_feed 89 = .ok (.iload 4, 2) := by decide +kernel
theorem dX1_feed_91 : decode cX1_feed 91 = .ok (.iload 6, 2) := by decide +kernel
theorem dX1_feed_93 : decode cX1_feed 93 = .ok (.ishr, 1) := by decide +kernel
theorem dX1_feed_94 : decode cX1_feed 94 = .ok (.i2b, 1) := by decide +kernel
theorem dX1_feed_95 : decode cX1_feed 95 = .ok (.bastore, 1) := by decide +kernel
theorem dX1_feed_96 : decode cX1_feed 96 = .ok (.aload_n 0, 1) := by decide +kernel
theorem dX1_feed_97 : decode cX1_feed 97 = .ok (.getfield 62, 3) := by decide +kernel
theorem dX1_feed_100 : decode cX1_feed 100 = .ok (.iload 7, 2) := by decide +kernel
theorem dX1_feed_102 : decode cX1_feed 102 = .ok (.bipush 16, 2) := by decide +kernel
theorem dX1_feed_104 : decode cX1_feed 104 = .ok (.iadd, 1) := by decide +kernel
theorem dX1_feed_105 : decode cX1_feed 105 = .ok (.iload 5, 2) := by decide +kernel
theorem dX1_feed_107 : decode cX1_feed 107 = .ok (.iload 6, 2) := by decide +kernel
theorem dX1_feed_109 : decode cX1_feed 109 = .ok (.ishr, 1) := by decide +kernel
theorem dX1_feed_110 : decode cX1_feed 110 = .ok (.i2b, 1) := by decide +kernel
theorem dX1_feed_111 : decode cX1_feed 111 = .ok (.bastore, 1) := by decide +kernel
theorem dX1_feed_112 : decode cX1_feed 112 = .ok (.iinc 6 (-8), 3) := by decide +kernel
theorem dX1_feed_115 : decode cX1_feed 115 = .ok (.goto (-95), 3) := by decide +kernel
theorem dX1_feed_118 : decode cX1_feed 118 = .ok (.aload_n 0, 1) := by decide +kernel
theorem dX1_feed_119 : decode cX1_feed 119 = .ok (.dup, 1) := by decide +kernel
theorem dX1_feed_120 : decode cX1_feed 120 = .ok (.getfield 231, 3) := by decide +kernel
theorem dX1_feed_123 : decode cX1_feed 123 = .ok (.bipush 20, 2) := by decide +kernel
theorem dX1_feed_125 : decode cX1_feed 125 = .ok (.iadd, 1) := by decide +kernel
theorem dX1_feed_126 : decode cX1_feed 126 = .ok (.putfield 231, 3) := by decide +kernel
theorem dX1_feed_129 : decode cX1_feed 129 = .ok (.aload_n 0, 1) := by decide +kernel
theorem dX1_feed_130 : decode cX1_feed 130 = .ok (.getfield 231, 3) := by decide +kernel
theorem dX1_feed_133 : decode cX1_feed 133 = .ok (.ireturn, 1) := by decide +kernel
noncomputable def C_X1_feed_L20 (l : Launch) (δ : Dl) : Seg (l, δ, yX1_feed, 0, (some .int), cX1_feed, 8) 20 118 :=
  seq (p := 20) (q := 22) (r := 118) (p_iload 6 dX1_feed_20) (seq (p := 22) (q := 25) (r := 118) (p_if_lt 118 dX1_feed_22 (by decide)) (seq (p := 25) (q := 26) (r := 118) (p_aload_n 0 dX1_feed_25) (seq (p := 26) (q := 29) (r := 118) (p_get [(1, 28)] (alL1 fl_X1_231_1) dX1_feed_26) (seq (p := 29) (q := 30) (r := 118) (p_iconst 3 dX1_feed_29) (seq (p := 30) (q := 31) (r := 118) (p_iadd dX1_feed_30) (seq (p := 31) (q := 33) (r := 118) (p_iload 6 dX1_feed_31) (seq (p := 33) (q := 35) (r := 118) (p_bipush 8 dX1_feed_33 (by decide)) (seq (p := 35) (q := 36) (r := 118) (p_idiv dX1_feed_35) (seq (p := 36) (q := 37) (r := 118) (p_isub dX1_feed_36) (seq (p := 37) (q := 39) (r := 118) (p_istore 7 dX1_feed_37 (Nat.le_of_ble_eq_true rfl)) (seq (p := 39) (q := 40) (r := 118) (p_aload_n 0 dX1_feed_39) (seq (p := 40) (q := 43) (r := 118) (p_get [(1, 27)] (alL1 fl_X1_62_1) dX1_feed_40) (seq (p := 43) (q := 45) (r := 118) (p_iload 7 dX1_feed_43) (seq (p := 45) (q := 46) (r := 118) (p_iload_n 1 dX1_feed_45) (seq (p := 46) (q := 48) (r := 118) (p_iload 6 dX1_feed_46) (seq (p := 48) (q := 49) (r := 118) (p_ishr dX1_feed_48) (seq (p := 49) (q := 50) (r := 118) (p_i2b dX1_feed_49) (seq (p := 50) (q := 51) (r := 118) (p_bast dX1_feed_50) (seq (p := 51) (q := 52) (r := 118) (p_aload_n 0 dX1_feed_51) (seq (p := 52) (q := 55) (r := 118) (p_get [(1, 27)] (alL1 fl_X1_62_1) dX1_feed_52) (seq (p := 55) (q := 57) (r := 118) (p_iload 7 dX1_feed_55) (seq (p := 57) (q := 58) (r := 118) (p_iconst 4 dX1_feed_57) (seq (p := 58) (q := 59) (r := 118) (p_iadd dX1_feed_58) (seq (p := 59) (q := 60) (r := 118) (p_iload_n 2 dX1_feed_59) (seq (p := 60) (q := 62) (r := 118) (p_iload 6 dX1_feed_60) (seq (p := 62) (q := 63) (r := 118) (p_ishr dX1_feed_62) (seq (p := 63) (q := 64) (r := 118) (p_i2b dX1_feed_63) (seq (p := 64) (q := 65) (r := 118) (p_bast dX1_feed_64) (seq (p := 65) (q := 66) (r := 118) (p_aload_n 0 dX1_feed_65) (seq (p := 66) (q := 69) (r := 118) (p_get [(1, 27)] (alL1 fl_X1_62_1) dX1_feed_66) (seq (p := 69) (q := 71) (r := 118) (p_iload 7 dX1_feed_69) (seq (p := 71) (q := 73) (r := 118) (p_bipush 8 dX1_feed_71 (by decide)) (seq (p := 73) (q := 74) (r := 118) (p_iadd dX1_feed_73) (seq (p := 74) (q := 75) (r := 118) (p_iload_n 3 dX1_feed_74) (seq (p := 75) (q := 77) (r := 118) (p_iload 6 dX1_feed_75) (seq (p := 77) (q := 78) (r := 118) (p_ishr dX1_feed_77) (seq (p := 78) (q := 79) (r := 118) (p_i2b dX1_feed_78) (seq (p := 79) (q := 80) (r := 118) (p_bast dX1_feed_79) (seq (p := 80) (q := 81) (r := 118) (p_aload_n 0 dX1_feed_80) (seq (p := 81) (q := 84) (r := 118) (p_get [(1, 27)] (alL1 fl_X1_62_1) dX1_feed_81) (seq (p := 84) (q := 86) (r := 118) (p_iload 7 dX1_feed_84) (seq (p := 86) (q := 88) (r := 118) (p_bipush 12 dX1_feed_86 (by decide)) (seq (p := 88) (q := 89) (r := 118) (p_iadd dX1_feed_88) (seq (p := 89) (q := 91) (r := 118) (p_iload 4 dX1_feed_89) (seq (p := 91) (q := 93) (r := 118) (p_iload 6 dX1_feed_91) (seq (p := 93) (q := 94) (r := 118) (p_ishr dX1_feed_93) (seq (p := 94) (q := 95) (r := 118) (p_i2b dX1_feed_94) (seq (p := 95) (q := 96) (r := 118) (p_bast dX1_feed_95) (seq (p := 96) (q := 97) (r := 118) (p_aload_n 0 dX1_feed_96) (seq (p := 97) (q := 100) (r := 118) (p_get [(1, 27)] (alL1 fl_X1_62_1) dX1_feed_97) (seq (p := 100) (q := 102) (r := 118) (p_iload 7 dX1_feed_100) (seq (p := 102) (q := 104) (r := 118) (p_bipush 16 dX1_feed_102 (by decide)) (seq (p := 104) (q := 105) (r := 118) (p_iadd dX1_feed_104) (seq (p := 105) (q := 107) (r := 118) (p_iload 5 dX1_feed_105) (seq (p := 107) (q := 109) (r := 118) (p_iload 6 dX1_feed_107) (seq (p := 109) (q := 110) (r := 118) (p_ishr dX1_feed_109) (seq (p := 110) (q := 111) (r := 118) (p_i2b dX1_feed_110) (seq (p := 111) (q := 112) (r := 118) (p_bast dX1_feed_111) (seq (p := 112) (q := 115) (r := 118) (p_iinc 6 (-8) dX1_feed_112 (Nat.le_of_ble_eq_true rfl)) (seq (p := 115) (q := 115) (r := 118) (er [true, true, true, true, true, true, true, false]) (seq (p := 115) (q := 118) (r := 118) (p_goto 20 dX1_feed_115 (by decide)) done)))))))))))))))))))))))))))))))))))))))))))))))))))))))))))))
noncomputable def B_X1_feed_L20 (l : Launch) (δ : Dl) : Seg (l, δ, yX1_feed, 0, (some .int), cX1_feed, 8) 20 118 := C_X1_feed_L20 l δ
theorem L_X1_feed_20 {l : Launch} {δ : Dl} {st : Stk} {L : Lc} {s : St} : (B_X1_feed_L20 l δ).1 st L s = (C_X1_feed_L20 l δ).1 st L s := nrfl rfl
noncomputable def B_X1_feed (l : Launch) (δ : Dl) : Seg (l, δ, yX1_feed, 0, (some .int), cX1_feed, 8) 0 134 :=
  seq (p := 0) (q := 1) (r := 134) (p_aload_n 0 dX1_feed_0) (seq (p := 1) (q := 4) (r := 134) (p_get [(1, 28)] (alL1 fl_X1_231_1) dX1_feed_1) (seq (p := 4) (q := 6) (r := 134) (p_bipush 20 dX1_feed_4 (by decide)) (seq (p := 6) (q := 7) (r := 134) (p_iadd dX1_feed_6) (seq (p := 7) (q := 10) (r := 134) (p_sipush 800 dX1_feed_7 (by decide)) (seq (p := 10) (q := 16) (r := 134) (blk (seq (p := 10) (q := 13) (r := 16) (p_icmp_le 16 dX1_feed_10 (by decide)) (seq (p := 13) (q := 15) (r := 16) (p_bipush (-4) dX1_feed_13 (by decide)) (seq (p := 15) (q := 16) (r := 16) (p_ireturn dX1_feed_15 rfl) done)))) (seq (p := 16) (q := 18) (r := 134) (p_bipush 24 dX1_feed_16 (by decide)) (seq (p := 18) (q := 20) (r := 134) (p_istore 6 dX1_feed_18 (Nat.le_of_ble_eq_true rfl)) (seq (p := 20) (q := 118) (r := 134) (blk (seq (p := 20) (q := 20) (r := 118) (er [true, true, true, true, true, true, true, false]) (seq (p := 20) (q := 118) (r := 118) (lp (B_X1_feed_L20 l δ)) done))) (seq (p := 118) (q := 119) (r := 134) (p_aload_n 0 dX1_feed_118) (seq (p := 119) (q := 120) (r := 134) (p_dup dX1_feed_119) (seq (p := 120) (q := 123) (r := 134) (p_get [(1, 28)] (alL1 fl_X1_231_1) dX1_feed_120) (seq (p := 123) (q := 125) (r := 134) (p_bipush 20 dX1_feed_123 (by decide)) (seq (p := 125) (q := 126) (r := 134) (p_iadd dX1_feed_125) (seq (p := 126) (q := 129) (r := 134) (p_put [(1, 28)] .int (alP1 fp_X1_231_1) dX1_feed_126) (seq (p := 129) (q := 130) (r := 134) (p_aload_n 0 dX1_feed_129) (seq (p := 130) (q := 133) (r := 134) (p_get [(1, 28)] (alL1 fl_X1_231_1) dX1_feed_130) (seq (p := 133) (q := 134) (r := 134) (p_ireturn dX1_feed_133 rfl) done)))))))))))))))))
noncomputable def M_X1_feed (l : Launch) (δ : Dl) : Mth l δ yX1_feed cX1_feed 8 (some .int) 0 := mk (B_X1_feed l δ) (by decide)
theorem N_X1_feed {l : Launch} {δ : Dl} {o : Nat} {a1 : Int} {a2 : Int} {a3 : Int} {a4 : Int} {a5 : Int} {s : St} : (M_X1_feed l δ).1 [.inr (.inr (some o)), .inl a1, .inl a2, .inl a3, .inl a4, .inl a5] s = bres ((B_X1_feed l δ).1 [] [some (.inr (.inr (some o))), some (.inl a1), some (.inl a2), some (.inl a3), some (.inl a4), some (.inl a5), none, none] s) := (mk_eq (hy := by decide) rfl).trans (nrfl rfl)
theorem dX1_trim_0 : decode cX1_trim 0 = .ok (.iload_n 1, 1) := by decide +kernel
theorem dX1_trim_1 : decode cX1_trim 1 = .ok (.iconst 0, 1) := by decide +kernel
theorem dX1_trim_2 : decode cX1_trim 2 = .ok (.aload_n 0, 1) := by decide +kernel
theorem dX1_trim_3 : decode cX1_trim 3 = .ok (.getfield 231, 3) := by decide +kernel
theorem dX1_trim_6 : decode cX1_trim 6 = .ok (.invokestatic 133, 3) := by decide +kernel
theorem dX1_trim_9 : decode cX1_trim 9 = .ok (.ifCond .ne 6, 3) := by decide +kernel
theorem dX1_trim_12 : decode cX1_trim 12 = .ok (.bipush (-2), 2) := by decide +kernel
theorem dX1_trim_14 : decode cX1_trim 14 = .ok (.ireturn, 1) := by decide +kernel
theorem dX1_trim_15 : decode cX1_trim 15 = .ok (.aload_n 0, 1) := by decide +kernel
theorem dX1_trim_16 : decode cX1_trim 16 = .ok (.iload_n 1, 1) := by decide +kernel
theorem dX1_trim_17 : decode cX1_trim 17 = .ok (.putfield 231, 3) := by decide +kernel
theorem dX1_trim_20 : decode cX1_trim 20 = .ok (.iload_n 1, 1) := by decide +kernel
theorem dX1_trim_21 : decode cX1_trim 21 = .ok (.ireturn, 1) := by decide +kernel
noncomputable def B_X1_trim (l : Launch) (δ : Dl) : Seg (l, δ, yX1_trim, 1, (some .int), cX1_trim, 2) 0 22 :=
  seq (p := 0) (q := 1) (r := 22) (p_iload_n 1 dX1_trim_0) (seq (p := 1) (q := 2) (r := 22) (p_iconst 0 dX1_trim_1) (seq (p := 2) (q := 3) (r := 22) (p_aload_n 0 dX1_trim_2) (seq (p := 3) (q := 6) (r := 22) (p_get [(1, 28)] (alL1 fl_X1_231_1) dX1_trim_3) (seq (p := 6) (q := 9) (r := 22) (p_callS cs_X1_133 (M_X1_in l δ) (Nat.le_of_ble_eq_true rfl) dX1_trim_6) (seq (p := 9) (q := 15) (r := 22) (blk (seq (p := 9) (q := 12) (r := 15) (p_if_ne 15 dX1_trim_9 (by decide)) (seq (p := 12) (q := 14) (r := 15) (p_bipush (-2) dX1_trim_12 (by decide)) (seq (p := 14) (q := 15) (r := 15) (p_ireturn dX1_trim_14 rfl) done)))) (seq (p := 15) (q := 16) (r := 22) (p_aload_n 0 dX1_trim_15) (seq (p := 16) (q := 17) (r := 22) (p_iload_n 1 dX1_trim_16) (seq (p := 17) (q := 20) (r := 22) (p_put [(1, 28)] .int (alP1 fp_X1_231_1) dX1_trim_17) (seq (p := 20) (q := 21) (r := 22) (p_iload_n 1 dX1_trim_20) (seq (p := 21) (q := 22) (r := 22) (p_ireturn dX1_trim_21 rfl) done))))))))))
noncomputable def M_X1_trim (l : Launch) (δ : Dl) : Mth l δ yX1_trim cX1_trim 2 (some .int) 1 := mk (B_X1_trim l δ) (by decide)
theorem N_X1_trim {l : Launch} {δ : Dl} {o : Nat} {a1 : Int} {s : St} : (M_X1_trim l δ).1 [.inr (.inr (some o)), .inl a1] s = bres ((B_X1_trim l δ).1 [] [some (.inr (.inr (some o))), some (.inl a1)] s) := (mk_eq (hy := by decide) rfl).trans (nrfl rfl)
theorem dX1_findEnds_0 : decode cX1_findEnds 0 = .ok (.aload_n 0, 1) := by decide +kernel
theorem dX1_findEnds_1 : decode cX1_findEnds 1 = .ok (.getfield 37, 3) := by decide +kernel
theorem dX1_findEnds_4 : decode cX1_findEnds 4 = .ok (.iload_n 1, 1) := by decide +kernel
theorem dX1_findEnds_5 : decode cX1_findEnds 5 = .ok (.sipush 600, 3) := by decide +kernel
theorem dX1_findEnds_8 : decode cX1_findEnds 8 = .ok (.idiv, 1) := by decide +kernel
theorem dX1_findEnds_9 : decode cX1_findEnds 9 = .ok (.iaload, 1) := by decide +kernel
theorem dX1_findEnds_10 : decode cX1_findEnds 10 = .ok (.iconst 1, 1) := by decide +kernel
theorem dX1_findEnds_11 : decode cX1_findEnds 11 = .ok (.isub, 1) := by decide +kernel
theorem dX1_findEnds_12 : decode cX1_findEnds 12 = .ok (.istore_n 2, 1) := by decide +kernel
theorem dX1_findEnds_13 : decode cX1_findEnds 13 = .ok (.iload_n 2, 1) := by decide +kernel
theorem dX1_findEnds_14 : decode cX1_findEnds 14 = .ok (.ifCond .lt 99, 3) := by decide +kernel
theorem dX1_findEnds_17 : decode cX1_findEnds 17 = .ok (.iload_n 1, 1) := by decide +kernel
theorem dX1_findEnds_18 : decode cX1_findEnds 18 = .ok (.iload_n 2, 1) := by decide +kernel
theorem dX1_findEnds_19 : decode cX1_findEnds 19 = .ok (.iadd, 1) := by decide +kernel
theorem dX1_findEnds_20 : decode cX1_findEnds 20 = .ok (.istore_n 3, 1) := by decide +kernel
theorem dX1_findEnds_21 : decode cX1_findEnds 21 = .ok (.aload_n 0, 1) := by decide +kernel
theorem dX1_findEnds_22 : decode cX1_findEnds 22 = .ok (.getfield 40, 3) := by decide +kernel
theorem dX1_findEnds_25 : decode cX1_findEnds 25 = .ok (.iload_n 3, 1) := by decide +kernel
theorem dX1_findEnds_26 : decode cX1_findEnds 26 = .ok (.baload, 1) := by decide +kernel
theorem dX1_findEnds_27 : decode cX1_findEnds 27 = .ok (.iconst 4, 1) := by decide +kernel
theorem dX1_findEnds_28 : decode cX1_findEnds 28 = .ok (.if_icmp .eq 13, 3) := by decide +kernel
theorem dX1_findEnds_31 : decode cX1_findEnds 31 = .ok (.aload_n 0, 1) := by decide +kernel
theorem dX1_findEnds_32 : decode cX1_findEnds 32 = .ok (.getfield 40, 3) := by decide +kernel
theorem dX1_findEnds_35 : decode cX1_findEnds 35 = .ok (.iload_n 3, 1) := by decide +kernel
theorem dX1_findEnds_36 : decode cX1_findEnds 36 = .ok (.baload, 1) := by decide +kernel
theorem dX1_findEnds_37 : decode cX1_findEnds 37 = .ok (.iconst 5, 1) := by decide +kernel
theorem dX1_findEnds_38 : decode cX1_findEnds 38 = .ok (.if_icmp .ne 12, 3) := by decide +kernel
theorem dX1_findEnds_41 : decode cX1_findEnds 41 = .ok (.aload_n 0, 1) := by decide +kernel
theorem dX1_findEnds_42 : decode cX1_findEnds 42 = .ok (.getfield 44, 3) := by decide +kernel
theorem dX1_findEnds_45 : decode cX1_findEnds 45 = .ok (.iload_n 3, 1) := by decide +kernel
theorem dX1_findEnds_46 : decode cX1_findEnds 46 = .ok (.iaload, 1) := by decide +kernel
theorem dX1_findEnds_47 : decode cX1_findEnds 47 = .ok (.goto 18, 3) := by decide +kernel
theorem dX1_findEnds_50 : decode cX1_findEnds 50 = .ok (.aload_n 0, 1) := by decide +kernel
theorem dX1_findEnds_51 : decode cX1_findEnds 51 = .ok (.getfield 40, 3) := by decide +kernel
theorem dX1_findEnds_54 : decode cX1_findEnds 54 = .ok (.iload_n 3, 1) := by decide +kernel
theorem dX1_findEnds_55 : decode cX1_findEnds 55 = .ok (.baload, 1) := by decide +kernel
theorem dX1_findEnds_56 : decode cX1_findEnds 56 = .ok (.iconst 3, 1) := by decide +kernel
theorem dX1_findEnds_57 : decode cX1_findEnds 57 = .ok (.if_icmp .gt 7, 3) := by decide +kernel
theorem dX1_findEnds_60 : decode cX1_findEnds 60 = .ok (.iconst 1, 1) := by decide +kernel
theorem dX1_findEnds_61 : decode cX1_findEnds 61 = .ok (.goto 4, 3) := by decide +kernel
theorem dX1_findEnds_64 : decode cX1_findEnds 64 = .ok (.iconst 0, 1) := by decide +kernel
theorem dX1_findEnds_65 : decode cX1_findEnds 65 = .ok (.istore 4, 2) := by decide +kernel
theorem dX1_findEnds_67 : decode cX1_findEnds 67 = .ok (.iload_n 2, 1) := by decide +kernel
theorem dX1_findEnds_68 : decode cX1_findEnds 68 = .ok (.iconst 1, 1) := by decide +kernel
theorem dX1_findEnds_69 : decode cX1_findEnds 69 = .ok (.iadd, 1) := by decide +kernel
theorem dX1_findEnds_70 : decode cX1_findEnds 70 = .ok (.istore 5, 2) := by decide +kernel
theorem dX1_findEnds_72 : decode cX1_findEnds 72 = .ok (.iconst 0, 1) := by decide +kernel
theorem dX1_findEnds_73 : decode cX1_findEnds 73 = .ok (.istore 6, 2) := by decide +kernel
theorem dX1_findEnds_75 : decode cX1_findEnds 75 = .ok (.iload 6, 2) := by decide +kernel
theorem dX1_findEnds_77 : decode cX1_findEnds 77 = .ok (.iload 4, 2) := by decide +kernel
theorem dX1_findEnds_79 : decode cX1_findEnds 79 = .ok (.if_icmp .ge 20, 3) := by decide +kernel
theorem dX1_findEnds_82 : decode cX1_findEnds 82 = .ok (.aload_n 0, 1) := by decide +kernel
theorem dX1_findEnds_83 : decode cX1_findEnds 83 = .ok (.getfield 50, 3) := by decide +kernel
theorem dX1_findEnds_86 : decode cX1_findEnds 86 = .ok (.iload_n 1, 1) := by decide +kernel
theorem dX1_findEnds_87 : decode cX1_findEnds 87 = .ok (.iload 5, 2) := by decide +kernel
theorem dX1_findEnds_89 : decode cX1_findEnds 89 = .ok (.iadd, 1) := by decide +kernel
theorem dX1_findEnds_90 : decode cX1_findEnds 90 = .ok (.iaload, 1) := by decide +kernel
theorem dX1_findEnds_91 : decode cX1_findEnds 91 = .ok (.istore 5, 2) := by decide +kernel
theorem dX1_findEnds_93 : decode cX1_findEnds 93 = .ok (.iinc 6 1, 3) := by decide +kernel
theorem dX1_findEnds_96 : decode cX1_findEnds 96 = .ok (.goto (-21), 3) := by decide +kernel
theorem dX1_findEnds_99 : decode cX1_findEnds 99 = .ok (.aload_n 0, 1) := by decide +kernel
theorem dX1_findEnds_100 : decode cX1_findEnds 100 = .ok (.getfield 50, 3) := by decide +kernel
theorem dX1_findEnds_103 : decode cX1_findEnds 103 = .ok (.iload_n 3, 1) := by decide +kernel
theorem dX1_findEnds_104 : decode cX1_findEnds 104 = .ok (.iload 5, 2) := by decide +kernel
theorem dX1_findEnds_106 : decode cX1_findEnds 106 = .ok (.iastore, 1) := by decide +kernel
theorem dX1_findEnds_107 : decode cX1_findEnds 107 = .ok (.iinc 2 (-1), 3) := by decide +kernel
theorem dX1_findEnds_110 : decode cX1_findEnds 110 = .ok (.goto (-97), 3) := by decide +kernel
theorem dX1_findEnds_113 : decode cX1_findEnds 113 = .ok (.return_, 1) := by decide +kernel
noncomputable def C_X1_findEnds_L75 (l : Launch) (δ : Dl) : Seg (l, δ, yX1_findEnds, 0, none, cX1_findEnds, 7) 75 99 :=
  seq (p := 75) (q := 77) (r := 99) (p_iload 6 dX1_findEnds_75) (seq (p := 77) (q := 79) (r := 99) (p_iload 4 dX1_findEnds_77) (seq (p := 79) (q := 82) (r := 99) (p_icmp_ge 99 dX1_findEnds_79 (by decide)) (seq (p := 82) (q := 83) (r := 99) (p_aload_n 0 dX1_findEnds_82) (seq (p := 83) (q := 86) (r := 99) (p_get [(1, 22)] (alL1 fl_X1_50_1) dX1_findEnds_83) (seq (p := 86) (q := 87) (r := 99) (p_iload_n 1 dX1_findEnds_86) (seq (p := 87) (q := 89) (r := 99) (p_iload 5 dX1_findEnds_87) (seq (p := 89) (q := 90) (r := 99) (p_iadd dX1_findEnds_89) (seq (p := 90) (q := 91) (r := 99) (p_iald dX1_findEnds_90) (seq (p := 91) (q := 93) (r := 99) (p_istore 5 dX1_findEnds_91 (Nat.le_of_ble_eq_true rfl)) (seq (p := 93) (q := 96) (r := 99) (p_iinc 6 1 dX1_findEnds_93 (Nat.le_of_ble_eq_true rfl)) (seq (p := 96) (q := 96) (r := 99) (er [true, true, true, true, true, true, true]) (seq (p := 96) (q := 99) (r := 99) (p_goto 75 dX1_findEnds_96 (by decide)) done))))))))))))
noncomputable def B_X1_findEnds_L75 (l : Launch) (δ : Dl) : Seg (l, δ, yX1_findEnds, 0, none, cX1_findEnds, 7) 75 99 := C_X1_findEnds_L75 l δ
theorem L_X1_findEnds_75 {l : Launch} {δ : Dl} {st : Stk} {L : Lc} {s : St} : (B_X1_findEnds_L75 l δ).1 st L s = (C_X1_findEnds_L75 l δ).1 st L s := nrfl rfl
noncomputable def C_X1_findEnds_L13 (l : Launch) (δ : Dl) : Seg (l, δ, yX1_findEnds, 0, none, cX1_findEnds, 7) 13 113 :=
  seq (p := 13) (q := 14) (r := 113) (p_iload_n 2 dX1_findEnds_13) (seq (p := 14) (q := 17) (r := 113) (p_if_lt 113 dX1_findEnds_14 (by decide)) (seq (p := 17) (q := 18) (r := 113) (p_iload_n 1 dX1_findEnds_17) (seq (p := 18) (q := 19) (r := 113) (p_iload_n 2 dX1_findEnds_18) (seq (p := 19) (q := 20) (r := 113) (p_iadd dX1_findEnds_19) (seq (p := 20) (q := 21) (r := 113) (p_istore_n 3 dX1_findEnds_20 (Nat.le_of_ble_eq_true rfl)) (seq (p := 21) (q := 22) (r := 113) (p_aload_n 0 dX1_findEnds_21) (seq (p := 22) (q := 25) (r := 113) (p_get [(1, 19)] (alL1 fl_X1_40_1) dX1_findEnds_22) (seq (p := 25) (q := 26) (r := 113) (p_iload_n 3 dX1_findEnds_25) (seq (p := 26) (q := 27) (r := 113) (p_bald dX1_findEnds_26) (seq (p := 27) (q := 28) (r := 113) (p_iconst 4 dX1_findEnds_27) (seq (p := 28) (q := 65) (r := 113) (blk (seq (p := 28) (q := 50) (r := 65) (blk (seq (p := 28) (q := 41) (r := 50) (blk (seq (p := 28) (q := 31) (r := 41) (p_icmp_eq 41 dX1_findEnds_28 (by decide)) (seq (p := 31) (q := 32) (r := 41) (p_aload_n 0 dX1_findEnds_31) (seq (p := 32) (q := 35) (r := 41) (p_get [(1, 19)] (alL1 fl_X1_40_1) dX1_findEnds_32) (seq (p := 35) (q := 36) (r := 41) (p_iload_n 3 dX1_findEnds_35) (seq (p := 36) (q := 37) (r := 41) (p_bald dX1_findEnds_36) (seq (p := 37) (q := 38) (r := 41) (p_iconst 5 dX1_findEnds_37) (seq (p := 38) (q := 41) (r := 41) (p_icmp_ne 50 dX1_findEnds_38 (by decide)) done)))))))) (seq (p := 41) (q := 42) (r := 50) (p_aload_n 0 dX1_findEnds_41) (seq (p := 42) (q := 45) (r := 50) (p_get [(1, 20)] (alL1 fl_X1_44_1) dX1_findEnds_42) (seq (p := 45) (q := 46) (r := 50) (p_iload_n 3 dX1_findEnds_45) (seq (p := 46) (q := 47) (r := 50) (p_iald dX1_findEnds_46) (seq (p := 47) (q := 50) (r := 50) (p_goto 65 dX1_findEnds_47 (by decide)) done))))))) (seq (p := 50) (q := 51) (r := 65) (p_aload_n 0 dX1_findEnds_50) (seq (p := 51) (q := 54) (r := 65) (p_get [(1, 19)] (alL1 fl_X1_40_1) dX1_findEnds_51) (seq (p := 54) (q := 55) (r := 65) (p_iload_n 3 dX1_findEnds_54) (seq (p := 55) (q := 56) (r := 65) (p_bald dX1_findEnds_55) (seq (p := 56) (q := 57) (r := 65) (p_iconst 3 dX1_findEnds_56) (seq (p := 57) (q := 64) (r := 65) (blk (seq (p := 57) (q := 60) (r := 64) (p_icmp_gt 64 dX1_findEnds_57 (by decide)) (seq (p := 60) (q := 61) (r := 64) (p_iconst 1 dX1_findEnds_60) (seq (p := 61) (q := 64) (r := 64) (p_goto 65 dX1_findEnds_61 (by decide)) done)))) (seq (p := 64) (q := 65) (r := 65) (p_iconst 0 dX1_findEnds_64) done))))))))) (seq (p := 65) (q := 67) (r := 113) (p_istore 4 dX1_findEnds_65 (Nat.le_of_ble_eq_true rfl)) (seq (p := 67) (q := 68) (r := 113) (p_iload_n 2 dX1_findEnds_67) (seq (p := 68) (q := 69) (r := 113) (p_iconst 1 dX1_findEnds_68) (seq (p := 69) (q := 70) (r := 113) (p_iadd dX1_findEnds_69) (seq (p := 70) (q := 72) (r := 113) (p_istore 5 dX1_findEnds_70 (Nat.le_of_ble_eq_true rfl)) (seq (p := 72) (q := 73) (r := 113) (p_iconst 0 dX1_findEnds_72) (seq (p := 73) (q := 75) (r := 113) (p_istore 6 dX1_findEnds_73 (Nat.le_of_ble_eq_true rfl)) (seq (p := 75) (q := 99) (r := 113) (blk (seq (p := 75) (q := 75) (r := 99) (er [true, true, true, true, true, true, true]) (seq (p := 75) (q := 99) (r := 99) (lp (B_X1_findEnds_L75 l δ)) done))) (seq (p := 99) (q := 100) (r := 113) (p_aload_n 0 dX1_findEnds_99) (seq (p := 100) (q := 103) (r := 113) (p_get [(1, 22)] (alL1 fl_X1_50_1) dX1_findEnds_100) (seq (p := 103) (q := 104) (r := 113) (p_iload_n 3 dX1_findEnds_103) (seq (p := 104) (q := 106) (r := 113) (p_iload 5 dX1_findEnds_104) (seq (p := 106) (q := 107) (r := 113) (p_iast dX1_findEnds_106) (seq (p := 107) (q := 110) (r := 113) (p_iinc 2 (-1) dX1_findEnds_107 (Nat.le_of_ble_eq_true rfl)) (seq (p := 110) (q := 110) (r := 113) (er [true, true, true, false, false, false, false]) (seq (p := 110) (q := 113) (r := 113) (p_goto 13 dX1_findEnds_110 (by decide)) done)))))))))))))))))))))))))))
noncomputable def B_X1_findEnds_L13 (l : Launch) (δ : Dl) : Seg (l, δ, yX1_findEnds, 0, none, cX1_findEnds, 7) 13 113 := C_X1_findEnds_L13 l δ
theorem L_X1_findEnds_13 {l : Launch} {δ : Dl} {st : Stk} {L : Lc} {s : St} : (B_X1_findEnds_L13 l δ).1 st L s = (C_X1_findEnds_L13 l δ).1 st L s := nrfl rfl
noncomputable def B_X1_findEnds (l : Launch) (δ : Dl) : Seg (l, δ, yX1_findEnds, 0, none, cX1_findEnds, 7) 0 114 :=
  seq (p := 0) (q := 1) (r := 114) (p_aload_n 0 dX1_findEnds_0) (seq (p := 1) (q := 4) (r := 114) (p_get [(1, 18)] (alL1 fl_X1_37_1) dX1_findEnds_1) (seq (p := 4) (q := 5) (r := 114) (p_iload_n 1 dX1_findEnds_4) (seq (p := 5) (q := 8) (r := 114) (p_sipush 600 dX1_findEnds_5 (by decide)) (seq (p := 8) (q := 9) (r := 114) (p_idiv dX1_findEnds_8) (seq (p := 9) (q := 10) (r := 114) (p_iald dX1_findEnds_9) (seq (p := 10) (q := 11) (r := 114) (p_iconst 1 dX1_findEnds_10) (seq (p := 11) (q := 12) (r := 114) (p_isub dX1_findEnds_11) (seq (p := 12) (q := 13) (r := 114) (p_istore_n 2 dX1_findEnds_12 (Nat.le_of_ble_eq_true rfl)) (seq (p := 13) (q := 113) (r := 114) (blk (seq (p := 13) (q := 13) (r := 113) (er [true, true, true, false, false, false, false]) (seq (p := 13) (q := 113) (r := 113) (lp (B_X1_findEnds_L13 l δ)) done))) (seq (p := 113) (q := 114) (r := 114) (p_return dX1_findEnds_113 rfl) done))))))))))
noncomputable def M_X1_findEnds (l : Launch) (δ : Dl) : Mth l δ yX1_findEnds cX1_findEnds 7 none 0 := mk (B_X1_findEnds l δ) (by decide)
theorem N_X1_findEnds {l : Launch} {δ : Dl} {o : Nat} {a1 : Int} {s : St} : (M_X1_findEnds l δ).1 [.inr (.inr (some o)), .inl a1] s = bres ((B_X1_findEnds l δ).1 [] [some (.inr (.inr (some o))), some (.inl a1), none, none, none, none, none] s) := (mk_eq (hy := by decide) rfl).trans (nrfl rfl)
theorem dX1_keep_0 : decode cX1_keep 0 = .ok (.sipush 600, 3) := by decide +kernel
theorem dX1_keep_3 : decode cX1_keep 3 = .ok (.aload_n 0, 1) := by decide +kernel
theorem dX1_keep_4 : decode cX1_keep 4 = .ok (.getfield 290, 3) := by decide +kernel
theorem dX1_keep_7 : decode cX1_keep 7 = .ok (.imul, 1) := by decide +kernel
theorem dX1_keep_8 : decode cX1_keep 8 = .ok (.istore_n 1, 1) := by decide +kernel
theorem dX1_keep_9 : decode cX1_keep 9 = .ok (.aload_n 0, 1) := by decide +kernel
theorem dX1_keep_10 : decode cX1_keep 10 = .ok (.getfield 37, 3) := by decide +kernel
theorem dX1_keep_13 : decode cX1_keep 13 = .ok (.aload_n 0, 1) := by decide +kernel
theorem dX1_keep_14 : decode cX1_keep 14 = .ok (.getfield 290, 3) := by decide +kernel
theorem dX1_keep_17 : decode cX1_keep 17 = .ok (.aload_n 0, 1) := by decide +kernel
theorem dX1_keep_18 : decode cX1_keep 18 = .ok (.getfield 234, 3) := by decide +kernel
theorem dX1_keep_21 : decode cX1_keep 21 = .ok (.iastore, 1) := by decide +kernel
theorem dX1_keep_22 : decode cX1_keep 22 = .ok (.iconst 0, 1) := by decide +kernel
theorem dX1_keep_23 : decode cX1_keep 23 = .ok (.istore_n 2, 1) := by decide +kernel
theorem dX1_keep_24 : decode cX1_keep 24 = .ok (.iload_n 2, 1) := by decide +kernel
theorem dX1_keep_25 : decode cX1_keep 25 = .ok (.aload_n 0, 1) := by decide +kernel
theorem dX1_keep_26 : decode cX1_keep 26 = .ok (.getfield 234, 3) := by decide +kernel
theorem dX1_keep_29 : decode cX1_keep 29 = .ok (.if_icmp .ge 51, 3) := by decide +kernel
theorem dX1_keep_32 : decode cX1_keep 32 = .ok (.aload_n 0, 1) := by decide +kernel
theorem dX1_keep_33 : decode cX1_keep 33 = .ok (.getfield 40, 3) := by decide +kernel
theorem dX1_keep_36 : decode cX1_keep 36 = .ok (.iload_n 1, 1) := by decide +kernel
theorem dX1_keep_37 : decode cX1_keep 37 = .ok (.iload_n 2, 1) := by decide +kernel
theorem dX1_keep_38 : decode cX1_keep 38 = .ok (.iadd, 1) := by decide +kernel
theorem dX1_keep_39 : decode cX1_keep 39 = .ok (.aload_n 0, 1) := by decide +kernel
theorem dX1_keep_40 : decode cX1_keep 40 = .ok (.getfield 53, 3) := by decide +kernel
theorem dX1_keep_43 : decode cX1_keep 43 = .ok (.iload_n 2, 1) := by decide +kernel
theorem dX1_keep_44 : decode cX1_keep 44 = .ok (.baload, 1) := by decide +kernel
theorem dX1_keep_45 : decode cX1_keep 45 = .ok (.bastore, 1) := by decide +kernel
theorem dX1_keep_46 : decode cX1_keep 46 = .ok (.aload_n 0, 1) := by decide +kernel
theorem dX1_keep_47 : decode cX1_keep 47 = .ok (.getfield 44, 3) := by decide +kernel
theorem dX1_keep_50 : decode cX1_keep 50 = .ok (.iload_n 1, 1) := by decide +kernel
theorem dX1_keep_51 : decode cX1_keep 51 = .ok (.iload_n 2, 1) := by decide +kernel
theorem dX1_keep_52 : decode cX1_keep 52 = .ok (.iadd, 1) := by decide +kernel
theorem dX1_keep_53 : decode cX1_keep 53 = .ok (.aload_n 0, 1) := by decide +kernel
theorem dX1_keep_54 : decode cX1_keep 54 = .ok (.getfield 56, 3) := by decide +kernel
theorem dX1_keep_57 : decode cX1_keep 57 = .ok (.iload_n 2, 1) := by decide +kernel
theorem dX1_keep_58 : decode cX1_keep 58 = .ok (.iaload, 1) := by decide +kernel
theorem dX1_keep_59 : decode cX1_keep 59 = .ok (.iastore, 1) := by decide +kernel
theorem dX1_keep_60 : decode cX1_keep 60 = .ok (.aload_n 0, 1) := by decide +kernel
theorem dX1_keep_61 : decode cX1_keep 61 = .ok (.getfield 47, 3) := by decide +kernel
theorem dX1_keep_64 : decode cX1_keep 64 = .ok (.iload_n 1, 1) := by decide +kernel
theorem dX1_keep_65 : decode cX1_keep 65 = .ok (.iload_n 2, 1) := by decide +kernel
theorem dX1_keep_66 : decode cX1_keep 66 = .ok (.iadd, 1) := by decide +kernel
theorem dX1_keep_67 : decode cX1_keep 67 = .ok (.aload_n 0, 1) := by decide +kernel
theorem dX1_keep_68 : decode cX1_keep 68 = .ok (.getfield 59, 3) := by decide +kernel
theorem dX1_keep_71 : decode cX1_keep 71 = .ok (.iload_n 2, 1) := by decide +kernel
theorem dX1_keep_72 : decode cX1_keep 72 = .ok (.baload, 1) := by decide +kernel
theorem dX1_keep_73 : decode cX1_keep 73 = .ok (.bastore, 1) := by decide +kernel
theorem dX1_keep_74 : decode cX1_keep 74 = .ok (.iinc 2 1, 3) := by decide +kernel
theorem dX1_keep_77 : decode cX1_keep 77 = .ok (.goto (-53), 3) := by decide +kernel
theorem dX1_keep_80 : decode cX1_keep 80 = .ok (.aload_n 0, 1) := by decide +kernel
theorem dX1_keep_81 : decode cX1_keep 81 = .ok (.iload_n 1, 1) := by decide +kernel
theorem dX1_keep_82 : decode cX1_keep 82 = .ok (.invokevirtual 293, 3) := by decide +kernel
theorem dX1_keep_85 : decode cX1_keep 85 = .ok (.aload_n 0, 1) := by decide +kernel
theorem dX1_keep_86 : decode cX1_keep 86 = .ok (.dup, 1) := by decide +kernel
theorem dX1_keep_87 : decode cX1_keep 87 = .ok (.getfield 290, 3) := by decide +kernel
theorem dX1_keep_90 : decode cX1_keep 90 = .ok (.iconst 1, 1) := by decide +kernel
theorem dX1_keep_91 : decode cX1_keep 91 = .ok (.iadd, 1) := by decide +kernel
theorem dX1_keep_92 : decode cX1_keep 92 = .ok (.putfield 290, 3) := by decide +kernel
theorem dX1_keep_95 : decode cX1_keep 95 = .ok (.aload_n 0, 1) := by decide +kernel
theorem dX1_keep_96 : decode cX1_keep 96 = .ok (.getfield 290, 3) := by decide +kernel
theorem dX1_keep_99 : decode cX1_keep 99 = .ok (.iconst 1, 1) := by decide +kernel
theorem dX1_keep_100 : decode cX1_keep 100 = .ok (.isub, 1) := by decide +kernel
theorem dX1_keep_101 : decode cX1_keep 101 = .ok (.ireturn, 1) := by decide +kernel
noncomputable def C_X1_keep_L24 (l : Launch) (δ : Dl) : Seg (l, δ, yX1_keep, 1, (some .int), cX1_keep, 3) 24 80 :=
  seq (p := 24) (q := 25) (r := 80) (p_iload_n 2 dX1_keep_24) (seq (p := 25) (q := 26) (r := 80) (p_aload_n 0 dX1_keep_25) (seq (p := 26) (q := 29) (r := 80) (p_get [(1, 23)] (alL1 fl_X1_234_1) dX1_keep_26) (seq (p := 29) (q := 32) (r := 80) (p_icmp_ge 80 dX1_keep_29 (by decide)) (seq (p := 32) (q := 33) (r := 80) (p_aload_n 0 dX1_keep_32) (seq (p := 33) (q := 36) (r := 80) (p_get [(1, 19)] (alL1 fl_X1_40_1) dX1_keep_33) (seq (p := 36) (q := 37) (r := 80) (p_iload_n 1 dX1_keep_36) (seq (p := 37) (q := 38) (r := 80) (p_iload_n 2 dX1_keep_37) (seq (p := 38) (q := 39) (r := 80) (p_iadd dX1_keep_38) (seq (p := 39) (q := 40) (r := 80) (p_aload_n 0 dX1_keep_39) (seq (p := 40) (q := 43) (r := 80) (p_get [(1, 24)] (alL1 fl_X1_53_1) dX1_keep_40) (seq (p := 43) (q := 44) (r := 80) (p_iload_n 2 dX1_keep_43) (seq (p := 44) (q := 45) (r := 80) (p_bald dX1_keep_44) (seq (p := 45) (q := 46) (r := 80) (p_bast dX1_keep_45) (seq (p := 46) (q := 47) (r := 80) (p_aload_n 0 dX1_keep_46) (seq (p := 47) (q := 50) (r := 80) (p_get [(1, 20)] (alL1 fl_X1_44_1) dX1_keep_47) (seq (p := 50) (q := 51) (r := 80) (p_iload_n 1 dX1_keep_50) (seq (p := 51) (q := 52) (r := 80) (p_iload_n 2 dX1_keep_51) (seq (p := 52) (q := 53) (r := 80) (p_iadd dX1_keep_52) (seq (p := 53) (q := 54) (r := 80) (p_aload_n 0 dX1_keep_53) (seq (p := 54) (q := 57) (r := 80) (p_get [(1, 25)] (alL1 fl_X1_56_1) dX1_keep_54) (seq (p := 57) (q := 58) (r := 80) (p_iload_n 2 dX1_keep_57) (seq (p := 58) (q := 59) (r := 80) (p_iald dX1_keep_58) (seq (p := 59) (q := 60) (r := 80) (p_iast dX1_keep_59) (seq (p := 60) (q := 61) (r := 80) (p_aload_n 0 dX1_keep_60) (seq (p := 61) (q := 64) (r := 80) (p_get [(1, 21)] (alL1 fl_X1_47_1) dX1_keep_61) (seq (p := 64) (q := 65) (r := 80) (p_iload_n 1 dX1_keep_64) (seq (p := 65) (q := 66) (r := 80) (p_iload_n 2 dX1_keep_65) (seq (p := 66) (q := 67) (r := 80) (p_iadd dX1_keep_66) (seq (p := 67) (q := 68) (r := 80) (p_aload_n 0 dX1_keep_67) (seq (p := 68) (q := 71) (r := 80) (p_get [(1, 26)] (alL1 fl_X1_59_1) dX1_keep_68) (seq (p := 71) (q := 72) (r := 80) (p_iload_n 2 dX1_keep_71) (seq (p := 72) (q := 73) (r := 80) (p_bald dX1_keep_72) (seq (p := 73) (q := 74) (r := 80) (p_bast dX1_keep_73) (seq (p := 74) (q := 77) (r := 80) (p_iinc 2 1 dX1_keep_74 (Nat.le_of_ble_eq_true rfl)) (seq (p := 77) (q := 77) (r := 80) (er [true, true, true]) (seq (p := 77) (q := 80) (r := 80) (p_goto 24 dX1_keep_77 (by decide)) done))))))))))))))))))))))))))))))))))))
noncomputable def B_X1_keep_L24 (l : Launch) (δ : Dl) : Seg (l, δ, yX1_keep, 1, (some .int), cX1_keep, 3) 24 80 := C_X1_keep_L24 l δ
theorem L_X1_keep_24 {l : Launch} {δ : Dl} {st : Stk} {L : Lc} {s : St} : (B_X1_keep_L24 l δ).1 st L s = (C_X1_keep_L24 l δ).1 st L s := nrfl rfl
noncomputable def B_X1_keep (l : Launch) (δ : Dl) : Seg (l, δ, yX1_keep, 1, (some .int), cX1_keep, 3) 0 102 :=
  seq (p := 0) (q := 3) (r := 102) (p_sipush 600 dX1_keep_0 (by decide)) (seq (p := 3) (q := 4) (r := 102) (p_aload_n 0 dX1_keep_3) (seq (p := 4) (q := 7) (r := 102) (p_get [(1, 17)] (alL1 fl_X1_290_1) dX1_keep_4) (seq (p := 7) (q := 8) (r := 102) (p_imul dX1_keep_7) (seq (p := 8) (q := 9) (r := 102) (p_istore_n 1 dX1_keep_8 (Nat.le_of_ble_eq_true rfl)) (seq (p := 9) (q := 10) (r := 102) (p_aload_n 0 dX1_keep_9) (seq (p := 10) (q := 13) (r := 102) (p_get [(1, 18)] (alL1 fl_X1_37_1) dX1_keep_10) (seq (p := 13) (q := 14) (r := 102) (p_aload_n 0 dX1_keep_13) (seq (p := 14) (q := 17) (r := 102) (p_get [(1, 17)] (alL1 fl_X1_290_1) dX1_keep_14) (seq (p := 17) (q := 18) (r := 102) (p_aload_n 0 dX1_keep_17) (seq (p := 18) (q := 21) (r := 102) (p_get [(1, 23)] (alL1 fl_X1_234_1) dX1_keep_18) (seq (p := 21) (q := 22) (r := 102) (p_iast dX1_keep_21) (seq (p := 22) (q := 23) (r := 102) (p_iconst 0 dX1_keep_22) (seq (p := 23) (q := 24) (r := 102) (p_istore_n 2 dX1_keep_23 (Nat.le_of_ble_eq_true rfl)) (seq (p := 24) (q := 80) (r := 102) (blk (seq (p := 24) (q := 24) (r := 80) (er [true, true, true]) (seq (p := 24) (q := 80) (r := 80) (lp (B_X1_keep_L24 l δ)) done))) (seq (p := 80) (q := 81) (r := 102) (p_aload_n 0 dX1_keep_80) (seq (p := 81) (q := 82) (r := 102) (p_iload_n 1 dX1_keep_81) (seq (p := 82) (q := 85) (r := 102) (p_callV 1 cv_X1_293 hcR1 (M_X1_findEnds l δ) (Nat.le_of_ble_eq_true rfl) dX1_keep_82) (seq (p := 85) (q := 86) (r := 102) (p_aload_n 0 dX1_keep_85) (seq (p := 86) (q := 87) (r := 102) (p_dup dX1_keep_86) (seq (p := 87) (q := 90) (r := 102) (p_get [(1, 17)] (alL1 fl_X1_290_1) dX1_keep_87) (seq (p := 90) (q := 91) (r := 102) (p_iconst 1 dX1_keep_90) (seq (p := 91) (q := 92) (r := 102) (p_iadd dX1_keep_91) (seq (p := 92) (q := 95) (r := 102) (p_put [(1, 17)] .int (alP1 fp_X1_290_1) dX1_keep_92) (seq (p := 95) (q := 96) (r := 102) (p_aload_n 0 dX1_keep_95) (seq (p := 96) (q := 99) (r := 102) (p_get [(1, 17)] (alL1 fl_X1_290_1) dX1_keep_96) (seq (p := 99) (q := 100) (r := 102) (p_iconst 1 dX1_keep_99) (seq (p := 100) (q := 101) (r := 102) (p_isub dX1_keep_100) (seq (p := 101) (q := 102) (r := 102) (p_ireturn dX1_keep_101 rfl) done))))))))))))))))))))))))))))
noncomputable def M_X1_keep (l : Launch) (δ : Dl) : Mth l δ yX1_keep cX1_keep 3 (some .int) 1 := mk (B_X1_keep l δ) (by decide)
theorem N_X1_keep {l : Launch} {δ : Dl} {o : Nat} {s : St} : (M_X1_keep l δ).1 [.inr (.inr (some o))] s = bres ((B_X1_keep l δ).1 [] [some (.inr (.inr (some o))), none, none] s) := (mk_eq (hy := by decide) rfl).trans (nrfl rfl)
theorem dX1_emit_0 : decode cX1_emit 0 = .ok (.aload_n 0, 1) := by decide +kernel
theorem dX1_emit_1 : decode cX1_emit 1 = .ok (.getfield 53, 3) := by decide +kernel
theorem dX1_emit_4 : decode cX1_emit 4 = .ok (.aload_n 0, 1) := by decide +kernel
theorem dX1_emit_5 : decode cX1_emit 5 = .ok (.getfield 234, 3) := by decide +kernel
theorem dX1_emit_8 : decode cX1_emit 8 = .ok (.iload_n 1, 1) := by decide +kernel
theorem dX1_emit_9 : decode cX1_emit 9 = .ok (.i2b, 1) := by decide +kernel
theorem dX1_emit_10 : decode cX1_emit 10 = .ok (.bastore, 1) := by decide +kernel
theorem dX1_emit_11 : decode cX1_emit 11 = .ok (.aload_n 0, 1) := by decide +kernel
theorem dX1_emit_12 : decode cX1_emit 12 = .ok (.getfield 56, 3) := by decide +kernel
theorem dX1_emit_15 : decode cX1_emit 15 = .ok (.aload_n 0, 1) := by decide +kernel
theorem dX1_emit_16 : decode cX1_emit 16 = .ok (.getfield 234, 3) := by decide +kernel
theorem dX1_emit_19 : decode cX1_emit 19 = .ok (.iload_n 2, 1) := by decide +kernel
theorem dX1_emit_20 : decode cX1_emit 20 = .ok (.iastore, 1) := by decide +kernel
theorem dX1_emit_21 : decode cX1_emit 21 = .ok (.aload_n 0, 1) := by decide +kernel
theorem dX1_emit_22 : decode cX1_emit 22 = .ok (.getfield 59, 3) := by decide +kernel
theorem dX1_emit_25 : decode cX1_emit 25 = .ok (.aload_n 0, 1) := by decide +kernel
theorem dX1_emit_26 : decode cX1_emit 26 = .ok (.getfield 234, 3) := by decide +kernel
theorem dX1_emit_29 : decode cX1_emit 29 = .ok (.iload_n 3, 1) := by decide +kernel
theorem dX1_emit_30 : decode cX1_emit 30 = .ok (.i2b, 1) := by decide +kernel
theorem dX1_emit_31 : decode cX1_emit 31 = .ok (.bastore, 1) := by decide +kernel
theorem dX1_emit_32 : decode cX1_emit 32 = .ok (.aload_n 0, 1) := by decide +kernel
theorem dX1_emit_33 : decode cX1_emit 33 = .ok (.dup, 1) := by decide +kernel
theorem dX1_emit_34 : decode cX1_emit 34 = .ok (.getfield 234, 3) := by decide +kernel
theorem dX1_emit_37 : decode cX1_emit 37 = .ok (.iconst 1, 1) := by decide +kernel
theorem dX1_emit_38 : decode cX1_emit 38 = .ok (.iadd, 1) := by decide +kernel
theorem dX1_emit_39 : decode cX1_emit 39 = .ok (.putfield 234, 3) := by decide +kernel
theorem dX1_emit_42 : decode cX1_emit 42 = .ok (.return_, 1) := by decide +kernel
noncomputable def B_X1_emit (l : Launch) (δ : Dl) : Seg (l, δ, yX1_emit, 0, none, cX1_emit, 4) 0 43 :=
  seq (p := 0) (q := 1) (r := 43) (p_aload_n 0 dX1_emit_0) (seq (p := 1) (q := 4) (r := 43) (p_get [(1, 24)] (alL1 fl_X1_53_1) dX1_emit_1) (seq (p := 4) (q := 5) (r := 43) (p_aload_n 0 dX1_emit_4) (seq (p := 5) (q := 8) (r := 43) (p_get [(1, 23)] (alL1 fl_X1_234_1) dX1_emit_5) (seq (p := 8) (q := 9) (r := 43) (p_iload_n 1 dX1_emit_8) (seq (p := 9) (q := 10) (r := 43) (p_i2b dX1_emit_9) (seq (p := 10) (q := 11) (r := 43) (p_bast dX1_emit_10) (seq (p := 11) (q := 12) (r := 43) (p_aload_n 0 dX1_emit_11) (seq (p := 12) (q := 15) (r := 43) (p_get [(1, 25)] (alL1 fl_X1_56_1) dX1_emit_12) (seq (p := 15) (q := 16) (r := 43) (p_aload_n 0 dX1_emit_15) (seq (p := 16) (q := 19) (r := 43) (p_get [(1, 23)] (alL1 fl_X1_234_1) dX1_emit_16) (seq (p := 19) (q := 20) (r := 43) (p_iload_n 2 dX1_emit_19) (seq (p := 20) (q := 21) (r := 43) (p_iast dX1_emit_20) (seq (p := 21) (q := 22) (r := 43) (p_aload_n 0 dX1_emit_21) (seq (p := 22) (q := 25) (r := 43) (p_get [(1, 26)] (alL1 fl_X1_59_1) dX1_emit_22) (seq (p := 25) (q := 26) (r := 43) (p_aload_n 0 dX1_emit_25) (seq (p := 26) (q := 29) (r := 43) (p_get [(1, 23)] (alL1 fl_X1_234_1) dX1_emit_26) (seq (p := 29) (q := 30) (r := 43) (p_iload_n 3 dX1_emit_29) (seq (p := 30) (q := 31) (r := 43) (p_i2b dX1_emit_30) (seq (p := 31) (q := 32) (r := 43) (p_bast dX1_emit_31) (seq (p := 32) (q := 33) (r := 43) (p_aload_n 0 dX1_emit_32) (seq (p := 33) (q := 34) (r := 43) (p_dup dX1_emit_33) (seq (p := 34) (q := 37) (r := 43) (p_get [(1, 23)] (alL1 fl_X1_234_1) dX1_emit_34) (seq (p := 37) (q := 38) (r := 43) (p_iconst 1 dX1_emit_37) (seq (p := 38) (q := 39) (r := 43) (p_iadd dX1_emit_38) (seq (p := 39) (q := 42) (r := 43) (p_put [(1, 23)] .int (alP1 fp_X1_234_1) dX1_emit_39) (seq (p := 42) (q := 43) (r := 43) (p_return dX1_emit_42 rfl) done))))))))))))))))))))))))))
noncomputable def M_X1_emit (l : Launch) (δ : Dl) : Mth l δ yX1_emit cX1_emit 4 none 0 := mk (B_X1_emit l δ) (by decide)
theorem N_X1_emit {l : Launch} {δ : Dl} {o : Nat} {a1 : Int} {a2 : Int} {a3 : Int} {s : St} : (M_X1_emit l δ).1 [.inr (.inr (some o)), .inl a1, .inl a2, .inl a3] s = bres ((B_X1_emit l δ).1 [] [some (.inr (.inr (some o))), some (.inl a1), some (.inl a2), some (.inl a3)] s) := (mk_eq (hy := by decide) rfl).trans (nrfl rfl)
theorem dX1_partDone_0 : decode cX1_partDone 0 = .ok (.aload_n 0, 1) := by decide +kernel
theorem dX1_partDone_1 : decode cX1_partDone 1 = .ok (.getfield 65, 3) := by decide +kernel
theorem dX1_partDone_4 : decode cX1_partDone 4 = .ok (.aload_n 0, 1) := by decide +kernel
theorem dX1_partDone_5 : decode cX1_partDone 5 = .ok (.getfield 240, 3) := by decide +kernel
theorem dX1_partDone_8 : decode cX1_partDone 8 = .ok (.iconst 1, 1) := by decide +kernel
theorem dX1_partDone_9 : decode cX1_partDone 9 = .ok (.isub, 1) := by decide +kernel
theorem dX1_partDone_10 : decode cX1_partDone 10 = .ok (.iaload, 1) := by decide +kernel
theorem dX1_partDone_11 : decode cX1_partDone 11 = .ok (.ifCond .eq 53, 3) := by decide +kernel
theorem dX1_partDone_14 : decode cX1_partDone 14 = .ok (.aload_n 0, 1) := by decide +kernel
theorem dX1_partDone_15 : decode cX1_partDone 15 = .ok (.dup, 1) := by decide +kernel
theorem dX1_partDone_16 : decode cX1_partDone 16 = .ok (.getfield 240, 3) := by decide +kernel
theorem dX1_partDone_19 : decode cX1_partDone 19 = .ok (.iconst 1, 1) := by decide +kernel
theorem dX1_partDone_20 : decode cX1_partDone 20 = .ok (.isub, 1) := by decide +kernel
theorem dX1_partDone_21 : decode cX1_partDone 21 = .ok (.putfield 240, 3) := by decide +kernel
theorem dX1_partDone_24 : decode cX1_partDone 24 = .ok (.aload_n 0, 1) := by decide +kernel
theorem dX1_partDone_25 : decode cX1_partDone 25 = .ok (.dup, 1) := by decide +kernel
theorem dX1_partDone_26 : decode cX1_partDone 26 = .ok (.getfield 243, 3) := by decide +kernel
theorem dX1_partDone_29 : decode cX1_partDone 29 = .ok (.iconst 1, 1) := by decide +kernel
theorem dX1_partDone_30 : decode cX1_partDone 30 = .ok (.isub, 1) := by decide +kernel
theorem dX1_partDone_31 : decode cX1_partDone 31 = .ok (.putfield 243, 3) := by decide +kernel
theorem dX1_partDone_34 : decode cX1_partDone 34 = .ok (.aload_n 0, 1) := by decide +kernel
theorem dX1_partDone_35 : decode cX1_partDone 35 = .ok (.dup, 1) := by decide +kernel
theorem dX1_partDone_36 : decode cX1_partDone 36 = .ok (.getfield 253, 3) := by decide +kernel
theorem dX1_partDone_39 : decode cX1_partDone 39 = .ok (.aload_n 0, 1) := by decide +kernel
theorem dX1_partDone_40 : decode cX1_partDone 40 = .ok (.getfield 65, 3) := by decide +kernel
theorem dX1_partDone_43 : decode cX1_partDone 43 = .ok (.aload_n 0, 1) := by decide +kernel
theorem dX1_partDone_44 : decode cX1_partDone 44 = .ok (.getfield 240, 3) := by decide +kernel
theorem dX1_partDone_47 : decode cX1_partDone 47 = .ok (.iaload, 1) := by decide +kernel
theorem dX1_partDone_48 : decode cX1_partDone 48 = .ok (.iconst 1, 1) := by decide +kernel
theorem dX1_partDone_49 : decode cX1_partDone 49 = .ok (.if_icmp .ne 7, 3) := by decide +kernel
theorem dX1_partDone_52 : decode cX1_partDone 52 = .ok (.iconst 0, 1) := by decide +kernel
theorem dX1_partDone_53 : decode cX1_partDone 53 = .ok (.goto 4, 3) := by decide +kernel
theorem dX1_partDone_56 : decode cX1_partDone 56 = .ok (.iconst 1, 1) := by decide +kernel
theorem dX1_partDone_57 : decode cX1_partDone 57 = .ok (.isub, 1) := by decide +kernel
theorem dX1_partDone_58 : decode cX1_partDone 58 = .ok (.putfield 253, 3) := by decide +kernel
theorem dX1_partDone_61 : decode cX1_partDone 61 = .ok (.goto (-61), 3) := by decide +kernel
theorem dX1_partDone_64 : decode cX1_partDone 64 = .ok (.aload_n 0, 1) := by decide +kernel
theorem dX1_partDone_65 : decode cX1_partDone 65 = .ok (.getfield 71, 3) := by decide +kernel
theorem dX1_partDone_68 : decode cX1_partDone 68 = .ok (.aload_n 0, 1) := by decide +kernel
theorem dX1_partDone_69 : decode cX1_partDone 69 = .ok (.getfield 240, 3) := by decide +kernel
theorem dX1_partDone_72 : decode cX1_partDone 72 = .ok (.iconst 1, 1) := by decide +kernel
theorem dX1_partDone_73 : decode cX1_partDone 73 = .ok (.isub, 1) := by decide +kernel
theorem dX1_partDone_74 : decode cX1_partDone 74 = .ok (.iaload, 1) := by decide +kernel
theorem dX1_partDone_75 : decode cX1_partDone 75 = .ok (.ifCond .eq 23, 3) := by decide +kernel
theorem dX1_partDone_78 : decode cX1_partDone 78 = .ok (.aload_n 0, 1) := by decide +kernel
theorem dX1_partDone_79 : decode cX1_partDone 79 = .ok (.getfield 56, 3) := by decide +kernel
theorem dX1_partDone_82 : decode cX1_partDone 82 = .ok (.aload_n 0, 1) := by decide +kernel
theorem dX1_partDone_83 : decode cX1_partDone 83 = .ok (.getfield 68, 3) := by decide +kernel
theorem dX1_partDone_86 : decode cX1_partDone 86 = .ok (.aload_n 0, 1) := by decide +kernel
theorem dX1_partDone_87 : decode cX1_partDone 87 = .ok (.getfield 240, 3) := by decide +kernel
theorem dX1_partDone_90 : decode cX1_partDone 90 = .ok (.iconst 1, 1) := by decide +kernel
theorem dX1_partDone_91 : decode cX1_partDone 91 = .ok (.isub, 1) := by decide +kernel
theorem dX1_partDone_92 : decode cX1_partDone 92 = .ok (.iaload, 1) := by decide +kernel
theorem dX1_partDone_93 : decode cX1_partDone 93 = .ok (.dup2, 1) := by decide +kernel
theorem dX1_partDone_94 : decode cX1_partDone 94 = .ok (.iaload, 1) := by decide +kernel
theorem dX1_partDone_95 : decode cX1_partDone 95 = .ok (.iconst 1, 1) := by decide +kernel
theorem dX1_partDone_96 : decode cX1_partDone 96 = .ok (.iadd, 1) := by decide +kernel
theorem dX1_partDone_97 : decode cX1_partDone 97 = .ok (.iastore, 1) := by decide +kernel
theorem dX1_partDone_98 : decode cX1_partDone 98 = .ok (.return_, 1) := by decide +kernel
noncomputable def C_X1_partDone_L0 (l : Launch) (δ : Dl) : Seg (l, δ, yX1_partDone, 0, none, cX1_partDone, 1) 0 64 :=
  seq (p := 0) (q := 1) (r := 64) (p_aload_n 0 dX1_partDone_0) (seq (p := 1) (q := 4) (r := 64) (p_get [(1, 30)] (alL1 fl_X1_65_1) dX1_partDone_1) (seq (p := 4) (q := 5) (r := 64) (p_aload_n 0 dX1_partDone_4) (seq (p := 5) (q := 8) (r := 64) (p_get [(1, 29)] (alL1 fl_X1_240_1) dX1_partDone_5) (seq (p := 8) (q := 9) (r := 64) (p_iconst 1 dX1_partDone_8) (seq (p := 9) (q := 10) (r := 64) (p_isub dX1_partDone_9) (seq (p := 10) (q := 11) (r := 64) (p_iald dX1_partDone_10) (seq (p := 11) (q := 14) (r := 64) (p_if_eq 64 dX1_partDone_11 (by decide)) (seq (p := 14) (q := 15) (r := 64) (p_aload_n 0 dX1_partDone_14) (seq (p := 15) (q := 16) (r := 64) (p_dup dX1_partDone_15) (seq (p := 16) (q := 19) (r := 64) (p_get [(1, 29)] (alL1 fl_X1_240_1) dX1_partDone_16) (seq (p := 19) (q := 20) (r := 64) (p_iconst 1 dX1_partDone_19) (seq (p := 20) (q := 21) (r := 64) (p_isub dX1_partDone_20) (seq (p := 21) (q := 24) (r := 64) (p_put [(1, 29)] .int (alP1 fp_X1_240_1) dX1_partDone_21) (seq (p := 24) (q := 25) (r := 64) (p_aload_n 0 dX1_partDone_24) (seq (p := 25) (q := 26) (r := 64) (p_dup dX1_partDone_25) (seq (p := 26) (q := 29) (r := 64) (p_get [(1, 33)] (alL1 fl_X1_243_1) dX1_partDone_26) (seq (p := 29) (q := 30) (r := 64) (p_iconst 1 dX1_partDone_29) (seq (p := 30) (q := 31) (r := 64) (p_isub dX1_partDone_30) (seq (p := 31) (q := 34) (r := 64) (p_put [(1, 33)] .int (alP1 fp_X1_243_1) dX1_partDone_31) (seq (p := 34) (q := 35) (r := 64) (p_aload_n 0 dX1_partDone_34) (seq (p := 35) (q := 36) (r := 64) (p_dup dX1_partDone_35) (seq (p := 36) (q := 39) (r := 64) (p_get [(1, 34)] (alL1 fl_X1_253_1) dX1_partDone_36) (seq (p := 39) (q := 40) (r := 64) (p_aload_n 0 dX1_partDone_39) (seq (p := 40) (q := 43) (r := 64) (p_get [(1, 30)] (alL1 fl_X1_65_1) dX1_partDone_40) (seq (p := 43) (q := 44) (r := 64) (p_aload_n 0 dX1_partDone_43) (seq (p := 44) (q := 47) (r := 64) (p_get [(1, 29)] (alL1 fl_X1_240_1) dX1_partDone_44) (seq (p := 47) (q := 48) (r := 64) (p_iald dX1_partDone_47) (seq (p := 48) (q := 49) (r := 64) (p_iconst 1 dX1_partDone_48) (seq (p := 49) (q := 57) (r := 64) (blk (seq (p := 49) (q := 56) (r := 57) (blk (seq (p := 49) (q := 52) (r := 56) (p_icmp_ne 56 dX1_partDone_49 (by decide)) (seq (p := 52) (q := 53) (r := 56) (p_iconst 0 dX1_partDone_52) (seq (p := 53) (q := 56) (r := 56) (p_goto 57 dX1_partDone_53 (by decide)) done)))) (seq (p := 56) (q := 57) (r := 57) (p_iconst 1 dX1_partDone_56) done))) (seq (p := 57) (q := 58) (r := 64) (p_isub dX1_partDone_57) (seq (p := 58) (q := 61) (r := 64) (p_put [(1, 34)] .int (alP1 fp_X1_253_1) dX1_partDone_58) (seq (p := 61) (q := 61) (r := 64) (er [true]) (seq (p := 61) (q := 64) (r := 64) (p_goto 0 dX1_partDone_61 (by decide)) done)))))))))))))))))))))))))))))))))
noncomputable def B_X1_partDone_L0 (l : Launch) (δ : Dl) : Seg (l, δ, yX1_partDone, 0, none, cX1_partDone, 1) 0 64 := C_X1_partDone_L0 l δ
theorem L_X1_partDone_0 {l : Launch} {δ : Dl} {st : Stk} {L : Lc} {s : St} : (B_X1_partDone_L0 l δ).1 st L s = (C_X1_partDone_L0 l δ).1 st L s := nrfl rfl
noncomputable def B_X1_partDone (l : Launch) (δ : Dl) : Seg (l, δ, yX1_partDone, 0, none, cX1_partDone, 1) 0 99 :=
  seq (p := 0) (q := 64) (r := 99) (blk (seq (p := 0) (q := 0) (r := 64) (er [true]) (seq (p := 0) (q := 64) (r := 64) (lp (B_X1_partDone_L0 l δ)) done))) (seq (p := 64) (q := 65) (r := 99) (p_aload_n 0 dX1_partDone_64) (seq (p := 65) (q := 68) (r := 99) (p_get [(1, 32)] (alL1 fl_X1_71_1) dX1_partDone_65) (seq (p := 68) (q := 69) (r := 99) (p_aload_n 0 dX1_partDone_68) (seq (p := 69) (q := 72) (r := 99) (p_get [(1, 29)] (alL1 fl_X1_240_1) dX1_partDone_69) (seq (p := 72) (q := 73) (r := 99) (p_iconst 1 dX1_partDone_72) (seq (p := 73) (q := 74) (r := 99) (p_isub dX1_partDone_73) (seq (p := 74) (q := 75) (r := 99) (p_iald dX1_partDone_74) (seq (p := 75) (q := 98) (r := 99) (blk (seq (p := 75) (q := 78) (r := 98) (p_if_eq 98 dX1_partDone_75 (by decide)) (seq (p := 78) (q := 79) (r := 98) (p_aload_n 0 dX1_partDone_78) (seq (p := 79) (q := 82) (r := 98) (p_get [(1, 25)] (alL1 fl_X1_56_1) dX1_partDone_79) (seq (p := 82) (q := 83) (r := 98) (p_aload_n 0 dX1_partDone_82) (seq (p := 83) (q := 86) (r := 98) (p_get [(1, 31)] (alL1 fl_X1_68_1) dX1_partDone_83) (seq (p := 86) (q := 87) (r := 98) (p_aload_n 0 dX1_partDone_86) (seq (p := 87) (q := 90) (r := 98) (p_get [(1, 29)] (alL1 fl_X1_240_1) dX1_partDone_87) (seq (p := 90) (q := 91) (r := 98) (p_iconst 1 dX1_partDone_90) (seq (p := 91) (q := 92) (r := 98) (p_isub dX1_partDone_91) (seq (p := 92) (q := 93) (r := 98) (p_iald dX1_partDone_92) (seq (p := 93) (q := 94) (r := 98) (p_dup2 dX1_partDone_93) (seq (p := 94) (q := 95) (r := 98) (p_iald dX1_partDone_94) (seq (p := 95) (q := 96) (r := 98) (p_iconst 1 dX1_partDone_95) (seq (p := 96) (q := 97) (r := 98) (p_iadd dX1_partDone_96) (seq (p := 97) (q := 98) (r := 98) (p_iast dX1_partDone_97) done)))))))))))))))) (seq (p := 98) (q := 99) (r := 99) (p_return dX1_partDone_98 rfl) done)))))))))
noncomputable def M_X1_partDone (l : Launch) (δ : Dl) : Mth l δ yX1_partDone cX1_partDone 1 none 0 := mk (B_X1_partDone l δ) (by decide)
theorem N_X1_partDone {l : Launch} {δ : Dl} {o : Nat} {s : St} : (M_X1_partDone l δ).1 [.inr (.inr (some o))] s = bres ((B_X1_partDone l δ).1 [] [some (.inr (.inr (some o)))] s) := (mk_eq (hy := by decide) rfl).trans (nrfl rfl)
theorem dX1_here_0 : decode cX1_here 0 = .ok (.aload_n 0, 1) := by decide +kernel
theorem dX1_here_1 : decode cX1_here 1 = .ok (.getfield 237, 3) := by decide +kernel
theorem dX1_here_4 : decode cX1_here 4 = .ok (.aload_n 0, 1) := by decide +kernel
theorem dX1_here_5 : decode cX1_here 5 = .ok (.getfield 231, 3) := by decide +kernel
theorem dX1_here_8 : decode cX1_here 8 = .ok (.if_icmp .ge 15, 3) := by decide +kernel
theorem dX1_here_11 : decode cX1_here 11 = .ok (.aload_n 0, 1) := by decide +kernel
theorem dX1_here_12 : decode cX1_here 12 = .ok (.getfield 62, 3) := by decide +kernel
theorem dX1_here_15 : decode cX1_here 15 = .ok (.aload_n 0, 1) := by decide +kernel
theorem dX1_here_16 : decode cX1_here 16 = .ok (.getfield 237, 3) := by decide +kernel
theorem dX1_here_19 : decode cX1_here 19 = .ok (.baload, 1) := by decide +kernel
theorem dX1_here_20 : decode cX1_here 20 = .ok (.goto 4, 3) := by decide +kernel
theorem dX1_here_23 : decode cX1_here 23 = .ok (.iconst (-1), 1) := by decide +kernel
theorem dX1_here_24 : decode cX1_here 24 = .ok (.ireturn, 1) := by decide +kernel
noncomputable def B_X1_here (l : Launch) (δ : Dl) : Seg (l, δ, yX1_here, 0, (some .int), cX1_here, 1) 0 25 :=
  seq (p := 0) (q := 1) (r := 25) (p_aload_n 0 dX1_here_0) (seq (p := 1) (q := 4) (r := 25) (p_get [(1, 36)] (alL1 fl_X1_237_1) dX1_here_1) (seq (p := 4) (q := 5) (r := 25) (p_aload_n 0 dX1_here_4) (seq (p := 5) (q := 8) (r := 25) (p_get [(1, 28)] (alL1 fl_X1_231_1) dX1_here_5) (seq (p := 8) (q := 24) (r := 25) (blk (seq (p := 8) (q := 23) (r := 24) (blk (seq (p := 8) (q := 11) (r := 23) (p_icmp_ge 23 dX1_here_8 (by decide)) (seq (p := 11) (q := 12) (r := 23) (p_aload_n 0 dX1_here_11) (seq (p := 12) (q := 15) (r := 23) (p_get [(1, 27)] (alL1 fl_X1_62_1) dX1_here_12) (seq (p := 15) (q := 16) (r := 23) (p_aload_n 0 dX1_here_15) (seq (p := 16) (q := 19) (r := 23) (p_get [(1, 36)] (alL1 fl_X1_237_1) dX1_here_16) (seq (p := 19) (q := 20) (r := 23) (p_bald dX1_here_19) (seq (p := 20) (q := 23) (r := 23) (p_goto 24 dX1_here_20 (by decide)) done)))))))) (seq (p := 23) (q := 24) (r := 24) (p_iconst (-1) dX1_here_23) done))) (seq (p := 24) (q := 25) (r := 25) (p_ireturn dX1_here_24 rfl) done)))))
noncomputable def M_X1_here (l : Launch) (δ : Dl) : Mth l δ yX1_here cX1_here 1 (some .int) 0 := mk (B_X1_here l δ) (by decide)
theorem N_X1_here {l : Launch} {δ : Dl} {o : Nat} {s : St} : (M_X1_here l δ).1 [.inr (.inr (some o))] s = bres ((B_X1_here l δ).1 [] [some (.inr (.inr (some o)))] s) := (mk_eq (hy := by decide) rfl).trans (nrfl rfl)
theorem dX1_skip_0 : decode cX1_skip 0 = .ok (.aload_n 0, 1) := by decide +kernel
theorem dX1_skip_1 : decode cX1_skip 1 = .ok (.getfield 237, 3) := by decide +kernel
theorem dX1_skip_4 : decode cX1_skip 4 = .ok (.aload_n 0, 1) := by decide +kernel
theorem dX1_skip_5 : decode cX1_skip 5 = .ok (.getfield 231, 3) := by decide +kernel
theorem dX1_skip_8 : decode cX1_skip 8 = .ok (.if_icmp .ge 44, 3) := by decide +kernel
theorem dX1_skip_11 : decode cX1_skip 11 = .ok (.aload_n 0, 1) := by decide +kernel
theorem dX1_skip_12 : decode cX1_skip 12 = .ok (.getfield 62, 3) := by decide +kernel
theorem dX1_skip_15 : decode cX1_skip 15 = .ok (.aload_n 0, 1) := by decide +kernel
theorem dX1_skip_16 : decode cX1_skip 16 = .ok (.getfield 237, 3) := by decide +kernel
theorem dX1_skip_19 : decode cX1_skip 19 = .ok (.baload, 1) := by decide +kernel
theorem dX1_skip_20 : decode cX1_skip 20 = .ok (.bipush 32, 2) := by decide +kernel
theorem dX1_skip_22 : decode cX1_skip 22 = .ok (.if_icmp .eq 17, 3) := by decide +kernel
theorem dX1_skip_25 : decode cX1_skip 25 = .ok (.aload_n 0, 1) := by decide +kernel
theorem dX1_skip_26 : decode cX1_skip 26 = .ok (.getfield 62, 3) := by decide +kernel
theorem dX1_skip_29 : decode cX1_skip 29 = .ok (.aload_n 0, 1) := by decide +kernel
theorem dX1_skip_30 : decode cX1_skip 30 = .ok (.getfield 237, 3) := by decide +kernel
theorem dX1_skip_33 : decode cX1_skip 33 = .ok (.baload, 1) := by decide +kernel
theorem dX1_skip_34 : decode cX1_skip 34 = .ok (.bipush 10, 2) := by decide +kernel
theorem dX1_skip_36 : decode cX1_skip 36 = .ok (.if_icmp .ne 16, 3) := by decide +kernel
theorem dX1_skip_39 : decode cX1_skip 39 = .ok (.aload_n 0, 1) := by decide +kernel
theorem dX1_skip_40 : decode cX1_skip 40 = .ok (.dup, 1) := by decide +kernel
theorem dX1_skip_41 : decode cX1_skip 41 = .ok (.getfield 237, 3) := by decide +kernel
theorem dX1_skip_44 : decode cX1_skip 44 = .ok (.iconst 1, 1) := by decide +kernel
theorem dX1_skip_45 : decode cX1_skip 45 = .ok (.iadd, 1) := by decide +kernel
theorem dX1_skip_46 : decode cX1_skip 46 = .ok (.putfield 237, 3) := by decide +kernel
theorem dX1_skip_49 : decode cX1_skip 49 = .ok (.goto (-49), 3) := by decide +kernel
theorem dX1_skip_52 : decode cX1_skip 52 = .ok (.return_, 1) := by decide +kernel
noncomputable def C_X1_skip_L0 (l : Launch) (δ : Dl) : Seg (l, δ, yX1_skip, 0, none, cX1_skip, 1) 0 52 :=
  seq (p := 0) (q := 1) (r := 52) (p_aload_n 0 dX1_skip_0) (seq (p := 1) (q := 4) (r := 52) (p_get [(1, 36)] (alL1 fl_X1_237_1) dX1_skip_1) (seq (p := 4) (q := 5) (r := 52) (p_aload_n 0 dX1_skip_4) (seq (p := 5) (q := 8) (r := 52) (p_get [(1, 28)] (alL1 fl_X1_231_1) dX1_skip_5) (seq (p := 8) (q := 11) (r := 52) (p_icmp_ge 52 dX1_skip_8 (by decide)) (seq (p := 11) (q := 12) (r := 52) (p_aload_n 0 dX1_skip_11) (seq (p := 12) (q := 15) (r := 52) (p_get [(1, 27)] (alL1 fl_X1_62_1) dX1_skip_12) (seq (p := 15) (q := 16) (r := 52) (p_aload_n 0 dX1_skip_15) (seq (p := 16) (q := 19) (r := 52) (p_get [(1, 36)] (alL1 fl_X1_237_1) dX1_skip_16) (seq (p := 19) (q := 20) (r := 52) (p_bald dX1_skip_19) (seq (p := 20) (q := 22) (r := 52) (p_bipush 32 dX1_skip_20 (by decide)) (seq (p := 22) (q := 39) (r := 52) (blk (seq (p := 22) (q := 25) (r := 39) (p_icmp_eq 39 dX1_skip_22 (by decide)) (seq (p := 25) (q := 26) (r := 39) (p_aload_n 0 dX1_skip_25) (seq (p := 26) (q := 29) (r := 39) (p_get [(1, 27)] (alL1 fl_X1_62_1) dX1_skip_26) (seq (p := 29) (q := 30) (r := 39) (p_aload_n 0 dX1_skip_29) (seq (p := 30) (q := 33) (r := 39) (p_get [(1, 36)] (alL1 fl_X1_237_1) dX1_skip_30) (seq (p := 33) (q := 34) (r := 39) (p_bald dX1_skip_33) (seq (p := 34) (q := 36) (r := 39) (p_bipush 10 dX1_skip_34 (by decide)) (seq (p := 36) (q := 39) (r := 39) (p_icmp_ne 52 dX1_skip_36 (by decide)) done))))))))) (seq (p := 39) (q := 40) (r := 52) (p_aload_n 0 dX1_skip_39) (seq (p := 40) (q := 41) (r := 52) (p_dup dX1_skip_40) (seq (p := 41) (q := 44) (r := 52) (p_get [(1, 36)] (alL1 fl_X1_237_1) dX1_skip_41) (seq (p := 44) (q := 45) (r := 52) (p_iconst 1 dX1_skip_44) (seq (p := 45) (q := 46) (r := 52) (p_iadd dX1_skip_45) (seq (p := 46) (q := 49) (r := 52) (p_put [(1, 36)] .int (alP1 fp_X1_237_1) dX1_skip_46) (seq (p := 49) (q := 49) (r := 52) (er [true]) (seq (p := 49) (q := 52) (r := 52) (p_goto 0 dX1_skip_49 (by decide)) done)))))))))))))))))))
noncomputable def B_X1_skip_L0 (l : Launch) (δ : Dl) : Seg (l, δ, yX1_skip, 0, none, cX1_skip, 1) 0 52 := C_X1_skip_L0 l δ
theorem L_X1_skip_0 {l : Launch} {δ : Dl} {st : Stk} {L : Lc} {s : St} : (B_X1_skip_L0 l δ).1 st L s = (C_X1_skip_L0 l δ).1 st L s := nrfl rfl
noncomputable def B_X1_skip (l : Launch) (δ : Dl) : Seg (l, δ, yX1_skip, 0, none, cX1_skip, 1) 0 53 :=
  seq (p := 0) (q := 52) (r := 53) (blk (seq (p := 0) (q := 0) (r := 52) (er [true]) (seq (p := 0) (q := 52) (r := 52) (lp (B_X1_skip_L0 l δ)) done))) (seq (p := 52) (q := 53) (r := 53) (p_return dX1_skip_52 rfl) done)
noncomputable def M_X1_skip (l : Launch) (δ : Dl) : Mth l δ yX1_skip cX1_skip 1 none 0 := mk (B_X1_skip l δ) (by decide)
theorem N_X1_skip {l : Launch} {δ : Dl} {o : Nat} {s : St} : (M_X1_skip l δ).1 [.inr (.inr (some o))] s = bres ((B_X1_skip l δ).1 [] [some (.inr (.inr (some o)))] s) := (mk_eq (hy := by decide) rfl).trans (nrfl rfl)

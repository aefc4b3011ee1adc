/-! ===== the reference's methods as segments, 5 ===== -/
set_option maxRecDepth 100000
theorem dX1_partAtom_0 : decode cX1_partAtom 0 = .ok (.iconst 0, 1) := by decide +kernel
theorem dX1_partAtom_1 : decode cX1_partAtom 1 = .ok (.istore_n 1, 1) := by decide +kernel
theorem dX1_partAtom_2 : decode cX1_partAtom 2 = .ok (.iload_n 1, 1) := by decide +kernel
theorem dX1_partAtom_3 : decode cX1_partAtom 3 = .ok (.aload_n 0, 1) := by decide +kernel
theorem dX1_partAtom_4 : decode cX1_partAtom 4 = .ok (.getfield 169, 3) := by decide +kernel
theorem dX1_partAtom_7 : decode cX1_partAtom 7 = .ok (.if_icmp .ge 98, 3) := by decide +kernel
theorem dX1_partAtom_10 : decode cX1_partAtom 10 = .ok (.iconst 0, 1) := by decide +kernel
theorem dX1_partAtom_11 : decode cX1_partAtom 11 = .ok (.istore_n 2, 1) := by decide +kernel
theorem dX1_partAtom_12 : decode cX1_partAtom 12 = .ok (.iload_n 2, 1) := by decide +kernel
theorem dX1_partAtom_13 : decode cX1_partAtom 13 = .ok (.iload_n 1, 1) := by decide +kernel
theorem dX1_partAtom_14 : decode cX1_partAtom 14 = .ok (.if_icmp .ge 21, 3) := by decide +kernel
theorem dX1_partAtom_17 : decode cX1_partAtom 17 = .ok (.aload_n 0, 1) := by decide +kernel
theorem dX1_partAtom_18 : decode cX1_partAtom 18 = .ok (.bipush 9, 2) := by decide +kernel
theorem dX1_partAtom_20 : decode cX1_partAtom 20 = .ok (.iload_n 2, 1) := by decide +kernel
theorem dX1_partAtom_21 : decode cX1_partAtom 21 = .ok (.iload_n 1, 1) := by decide +kernel
theorem dX1_partAtom_22 : decode cX1_partAtom 22 = .ok (.invokevirtual 344, 3) := by decide +kernel
theorem dX1_partAtom_25 : decode cX1_partAtom 25 = .ok (.ifCond .eq 4, 3) := by decide +kernel
theorem dX1_partAtom_28 : decode cX1_partAtom 28 = .ok (.return_, 1) := by decide +kernel
theorem dX1_partAtom_29 : decode cX1_partAtom 29 = .ok (.iinc 2 1, 3) := by decide +kernel
theorem dX1_partAtom_32 : decode cX1_partAtom 32 = .ok (.goto (-20), 3) := by decide +kernel
theorem dX1_partAtom_35 : decode cX1_partAtom 35 = .ok (.aload_n 0, 1) := by decide +kernel
theorem dX1_partAtom_36 : decode cX1_partAtom 36 = .ok (.bipush 6, 2) := by decide +kernel
theorem dX1_partAtom_38 : decode cX1_partAtom 38 = .ok (.iload_n 1, 1) := by decide +kernel
theorem dX1_partAtom_39 : decode cX1_partAtom 39 = .ok (.iload_n 1, 1) := by decide +kernel
theorem dX1_partAtom_40 : decode cX1_partAtom 40 = .ok (.invokevirtual 344, 3) := by decide +kernel
theorem dX1_partAtom_43 : decode cX1_partAtom 43 = .ok (.ifCond .ne 14, 3) := by decide +kernel
theorem dX1_partAtom_46 : decode cX1_partAtom 46 = .ok (.aload_n 0, 1) := by decide +kernel
theorem dX1_partAtom_47 : decode cX1_partAtom 47 = .ok (.bipush 7, 2) := by decide +kernel
theorem dX1_partAtom_49 : decode cX1_partAtom 49 = .ok (.iload_n 1, 1) := by decide +kernel
theorem dX1_partAtom_50 : decode cX1_partAtom 50 = .ok (.iload_n 1, 1) := by decide +kernel
theorem dX1_partAtom_51 : decode cX1_partAtom 51 = .ok (.invokevirtual 344, 3) := by decide +kernel
theorem dX1_partAtom_54 : decode cX1_partAtom 54 = .ok (.ifCond .eq 4, 3) := by decide +kernel
theorem dX1_partAtom_57 : decode cX1_partAtom 57 = .ok (.return_, 1) := by decide +kernel
theorem dX1_partAtom_58 : decode cX1_partAtom 58 = .ok (.iconst 0, 1) := by decide +kernel
theorem dX1_partAtom_59 : decode cX1_partAtom 59 = .ok (.istore_n 2, 1) := by decide +kernel
theorem dX1_partAtom_60 : decode cX1_partAtom 60 = .ok (.iload_n 2, 1) := by decide +kernel
theorem dX1_partAtom_61 : decode cX1_partAtom 61 = .ok (.iload_n 1, 1) := by decide +kernel
theorem dX1_partAtom_62 : decode cX1_partAtom 62 = .ok (.if_icmp .gt 37, 3) := by decide +kernel
theorem dX1_partAtom_65 : decode cX1_partAtom 65 = .ok (.aload_n 0, 1) := by decide +kernel
theorem dX1_partAtom_66 : decode cX1_partAtom 66 = .ok (.bipush 8, 2) := by decide +kernel
theorem dX1_partAtom_68 : decode cX1_partAtom 68 = .ok (.iload_n 2, 1) := by decide +kernel
theorem dX1_partAtom_69 : decode cX1_partAtom 69 = .ok (.iload_n 1, 1) := by decide +kernel
theorem dX1_partAtom_70 : decode cX1_partAtom 70 = .ok (.invokevirtual 344, 3) := by decide +kernel
theorem dX1_partAtom_73 : decode cX1_partAtom 73 = .ok (.ifCond .ne 19, 3) := by decide +kernel
theorem dX1_partAtom_76 : decode cX1_partAtom 76 = .ok (.iload_n 2, 1) := by decide +kernel
theorem dX1_partAtom_77 : decode cX1_partAtom 77 = .ok (.iload_n 1, 1) := by decide +kernel
theorem dX1_partAtom_78 : decode cX1_partAtom 78 = .ok (.if_icmp .ge 15, 3) := by decide +kernel
theorem dX1_partAtom_81 : decode cX1_partAtom 81 = .ok (.aload_n 0, 1) := by decide +kernel
theorem dX1_partAtom_82 : decode cX1_partAtom 82 = .ok (.bipush 8, 2) := by decide +kernel
theorem dX1_partAtom_84 : decode cX1_partAtom 84 = .ok (.iload_n 1, 1) := by decide +kernel
theorem dX1_partAtom_85 : decode cX1_partAtom 85 = .ok (.iload_n 2, 1) := by decide +kernel
theorem dX1_partAtom_86 : decode cX1_partAtom 86 = .ok (.invokevirtual 344, 3) := by decide +kernel
theorem dX1_partAtom_89 : decode cX1_partAtom 89 = .ok (.ifCond .eq 4, 3) := by decide +kernel
theorem dX1_partAtom_92 : decode cX1_partAtom 92 = .ok (.return_, 1) := by decide +kernel
theorem dX1_partAtom_93 : decode cX1_partAtom 93 = .ok (.iinc 2 1, 3) := by decide +kernel
theorem dX1_partAtom_96 : decode cX1_partAtom 96 = .ok (.goto (-36), 3) := by decide +kernel
theorem dX1_partAtom_99 : decode cX1_partAtom 99 = .ok (.iinc 1 1, 3) := by decide +kernel
theorem dX1_partAtom_102 : decode cX1_partAtom 102 = .ok (.goto (-100), 3) := by decide +kernel
theorem dX1_partAtom_105 : decode cX1_partAtom 105 = .ok (.return_, 1) := by decide +kernel
noncomputable def C_X1_partAtom_L12 (l : Launch) (δ : Dl) : Seg (l, δ, yX1_partAtom, 2, none, cX1_partAtom, 3) 12 35 :=
  seq (p := 12) (q := 13) (r := 35) (p_iload_n 2 dX1_partAtom_12) (seq (p := 13) (q := 14) (r := 35) (p_iload_n 1 dX1_partAtom_13) (seq (p := 14) (q := 17) (r := 35) (p_icmp_ge 35 dX1_partAtom_14 (by decide)) (seq (p := 17) (q := 18) (r := 35) (p_aload_n 0 dX1_partAtom_17) (seq (p := 18) (q := 20) (r := 35) (p_bipush 9 dX1_partAtom_18 (by decide)) (seq (p := 20) (q := 21) (r := 35) (p_iload_n 2 dX1_partAtom_20) (seq (p := 21) (q := 22) (r := 35) (p_iload_n 1 dX1_partAtom_21) (seq (p := 22) (q := 25) (r := 35) (p_callV 1 cv_X1_344 hcR1 (M_X1_parts l δ) (Nat.le_of_ble_eq_true rfl) dX1_partAtom_22) (seq (p := 25) (q := 29) (r := 35) (blk (seq (p := 25) (q := 28) (r := 29) (p_if_eq 29 dX1_partAtom_25 (by decide)) (seq (p := 28) (q := 29) (r := 29) (p_return dX1_partAtom_28 rfl) done))) (seq (p := 29) (q := 32) (r := 35) (p_iinc 2 1 dX1_partAtom_29 (Nat.le_of_ble_eq_true rfl)) (seq (p := 32) (q := 32) (r := 35) (er [true, true, true]) (seq (p := 32) (q := 35) (r := 35) (p_goto 12 dX1_partAtom_32 (by decide)) done)))))))))))
noncomputable def B_X1_partAtom_L12 (l : Launch) (δ : Dl) : Seg (l, δ, yX1_partAtom, 2, none, cX1_partAtom, 3) 12 35 := C_X1_partAtom_L12 l δ
theorem L_X1_partAtom_12 {l : Launch} {δ : Dl} {st : Stk} {L : Lc} {s : St} : (B_X1_partAtom_L12 l δ).1 st L s = (C_X1_partAtom_L12 l δ).1 st L s := nrfl rfl
noncomputable def C_X1_partAtom_L60 (l : Launch) (δ : Dl) : Seg (l, δ, yX1_partAtom, 2, none, cX1_partAtom, 3) 60 99 :=
  seq (p := 60) (q := 61) (r := 99) (p_iload_n 2 dX1_partAtom_60) (seq (p := 61) (q := 62) (r := 99) (p_iload_n 1 dX1_partAtom_61) (seq (p := 62) (q := 65) (r := 99) (p_icmp_gt 99 dX1_partAtom_62 (by decide)) (seq (p := 65) (q := 66) (r := 99) (p_aload_n 0 dX1_partAtom_65) (seq (p := 66) (q := 68) (r := 99) (p_bipush 8 dX1_partAtom_66 (by decide)) (seq (p := 68) (q := 69) (r := 99) (p_iload_n 2 dX1_partAtom_68) (seq (p := 69) (q := 70) (r := 99) (p_iload_n 1 dX1_partAtom_69) (seq (p := 70) (q := 73) (r := 99) (p_callV 1 cv_X1_344 hcR1 (M_X1_parts l δ) (Nat.le_of_ble_eq_true rfl) dX1_partAtom_70) (seq (p := 73) (q := 93) (r := 99) (blk (seq (p := 73) (q := 92) (r := 93) (blk (seq (p := 73) (q := 76) (r := 92) (p_if_ne 92 dX1_partAtom_73 (by decide)) (seq (p := 76) (q := 77) (r := 92) (p_iload_n 2 dX1_partAtom_76) (seq (p := 77) (q := 78) (r := 92) (p_iload_n 1 dX1_partAtom_77) (seq (p := 78) (q := 81) (r := 92) (p_icmp_ge 93 dX1_partAtom_78 (by decide)) (seq (p := 81) (q := 82) (r := 92) (p_aload_n 0 dX1_partAtom_81) (seq (p := 82) (q := 84) (r := 92) (p_bipush 8 dX1_partAtom_82 (by decide)) (seq (p := 84) (q := 85) (r := 92) (p_iload_n 1 dX1_partAtom_84) (seq (p := 85) (q := 86) (r := 92) (p_iload_n 2 dX1_partAtom_85) (seq (p := 86) (q := 89) (r := 92) (p_callV 1 cv_X1_344 hcR1 (M_X1_parts l δ) (Nat.le_of_ble_eq_true rfl) dX1_partAtom_86) (seq (p := 89) (q := 92) (r := 92) (p_if_eq 93 dX1_partAtom_89 (by decide)) done))))))))))) (seq (p := 92) (q := 93) (r := 93) (p_return dX1_partAtom_92 rfl) done))) (seq (p := 93) (q := 96) (r := 99) (p_iinc 2 1 dX1_partAtom_93 (Nat.le_of_ble_eq_true rfl)) (seq (p := 96) (q := 96) (r := 99) (er [true, true, true]) (seq (p := 96) (q := 99) (r := 99) (p_goto 60 dX1_partAtom_96 (by decide)) done)))))))))))
noncomputable def B_X1_partAtom_L60 (l : Launch) (δ : Dl) : Seg (l, δ, yX1_partAtom, 2, none, cX1_partAtom, 3) 60 99 := C_X1_partAtom_L60 l δ
theorem L_X1_partAtom_60 {l : Launch} {δ : Dl} {st : Stk} {L : Lc} {s : St} : (B_X1_partAtom_L60 l δ).1 st L s = (C_X1_partAtom_L60 l δ).1 st L s := nrfl rfl
noncomputable def C_X1_partAtom_L2 (l : Launch) (δ : Dl) : Seg (l, δ, yX1_partAtom, 2, none, cX1_partAtom, 3) 2 105 :=
  seq (p := 2) (q := 3) (r := 105) (p_iload_n 1 dX1_partAtom_2) (seq (p := 3) (q := 4) (r := 105) (p_aload_n 0 dX1_partAtom_3) (seq (p := 4) (q := 7) (r := 105) (p_get [(1, 7)] (alL1 fl_X1_169_1) dX1_partAtom_4) (seq (p := 7) (q := 10) (r := 105) (p_icmp_ge 105 dX1_partAtom_7 (by decide)) (seq (p := 10) (q := 11) (r := 105) (p_iconst 0 dX1_partAtom_10) (seq (p := 11) (q := 12) (r := 105) (p_istore_n 2 dX1_partAtom_11 (Nat.le_of_ble_eq_true rfl)) (seq (p := 12) (q := 35) (r := 105) (blk (seq (p := 12) (q := 12) (r := 35) (er [true, true, true]) (seq (p := 12) (q := 35) (r := 35) (lp (B_X1_partAtom_L12 l δ)) done))) (seq (p := 35) (q := 36) (r := 105) (p_aload_n 0 dX1_partAtom_35) (seq (p := 36) (q := 38) (r := 105) (p_bipush 6 dX1_partAtom_36 (by decide)) (seq (p := 38) (q := 39) (r := 105) (p_iload_n 1 dX1_partAtom_38) (seq (p := 39) (q := 40) (r := 105) (p_iload_n 1 dX1_partAtom_39) (seq (p := 40) (q := 43) (r := 105) (p_callV 1 cv_X1_344 hcR1 (M_X1_parts l δ) (Nat.le_of_ble_eq_true rfl) dX1_partAtom_40) (seq (p := 43) (q := 58) (r := 105) (blk (seq (p := 43) (q := 57) (r := 58) (blk (seq (p := 43) (q := 46) (r := 57) (p_if_ne 57 dX1_partAtom_43 (by decide)) (seq (p := 46) (q := 47) (r := 57) (p_aload_n 0 dX1_partAtom_46) (seq (p := 47) (q := 49) (r := 57) (p_bipush 7 dX1_partAtom_47 (by decide)) (seq (p := 49) (q := 50) (r := 57) (p_iload_n 1 dX1_partAtom_49) (seq (p := 50) (q := 51) (r := 57) (p_iload_n 1 dX1_partAtom_50) (seq (p := 51) (q := 54) (r := 57) (p_callV 1 cv_X1_344 hcR1 (M_X1_parts l δ) (Nat.le_of_ble_eq_true rfl) dX1_partAtom_51) (seq (p := 54) (q := 57) (r := 57) (p_if_eq 58 dX1_partAtom_54 (by decide)) done)))))))) (seq (p := 57) (q := 58) (r := 58) (p_return dX1_partAtom_57 rfl) done))) (seq (p := 58) (q := 59) (r := 105) (p_iconst 0 dX1_partAtom_58) (seq (p := 59) (q := 60) (r := 105) (p_istore_n 2 dX1_partAtom_59 (Nat.le_of_ble_eq_true rfl)) (seq (p := 60) (q := 99) (r := 105) (blk (seq (p := 60) (q := 60) (r := 99) (er [true, true, true]) (seq (p := 60) (q := 99) (r := 99) (lp (B_X1_partAtom_L60 l δ)) done))) (seq (p := 99) (q := 102) (r := 105) (p_iinc 1 1 dX1_partAtom_99 (Nat.le_of_ble_eq_true rfl)) (seq (p := 102) (q := 102) (r := 105) (er [true, true, false]) (seq (p := 102) (q := 105) (r := 105) (p_goto 2 dX1_partAtom_102 (by decide)) done))))))))))))))))))
noncomputable def B_X1_partAtom_L2 (l : Launch) (δ : Dl) : Seg (l, δ, yX1_partAtom, 2, none, cX1_partAtom, 3) 2 105 := C_X1_partAtom_L2 l δ
theorem L_X1_partAtom_2 {l : Launch} {δ : Dl} {st : Stk} {L : Lc} {s : St} : (B_X1_partAtom_L2 l δ).1 st L s = (C_X1_partAtom_L2 l δ).1 st L s := nrfl rfl
noncomputable def B_X1_partAtom (l : Launch) (δ : Dl) : Seg (l, δ, yX1_partAtom, 2, none, cX1_partAtom, 3) 0 106 :=
  seq (p := 0) (q := 1) (r := 106) (p_iconst 0 dX1_partAtom_0) (seq (p := 1) (q := 2) (r := 106) (p_istore_n 1 dX1_partAtom_1 (Nat.le_of_ble_eq_true rfl)) (seq (p := 2) (q := 105) (r := 106) (blk (seq (p := 2) (q := 2) (r := 105) (er [true, true, false]) (seq (p := 2) (q := 105) (r := 105) (lp (B_X1_partAtom_L2 l δ)) done))) (seq (p := 105) (q := 106) (r := 106) (p_return dX1_partAtom_105 rfl) done)))
noncomputable def M_X1_partAtom (l : Launch) (δ : Dl) : Mth l δ yX1_partAtom cX1_partAtom 3 none 2 := mk (B_X1_partAtom l δ) (by decide)
theorem N_X1_partAtom {l : Launch} {δ : Dl} {o : Nat} {s : St} : (M_X1_partAtom l δ).1 [.inr (.inr (some o))] s = bres ((B_X1_partAtom l δ).1 [] [some (.inr (.inr (some o))), none, none] s) := (mk_eq (hy := by decide) rfl).trans (nrfl rfl)
theorem dX1_winning_0 : decode cX1_winning 0 = .ok (.iconst 0, 1) := by decide +kernel
theorem dX1_winning_1 : decode cX1_winning 1 = .ok (.istore_n 2, 1) := by decide +kernel
theorem dX1_winning_2 : decode cX1_winning 2 = .ok (.iload_n 2, 1) := by decide +kernel
theorem dX1_winning_3 : decode cX1_winning 3 = .ok (.iconst 2, 1) := by decide +kernel
theorem dX1_winning_4 : decode cX1_winning 4 = .ok (.if_icmp .ge 45, 3) := by decide +kernel
theorem dX1_winning_7 : decode cX1_winning 7 = .ok (.iconst 0, 1) := by decide +kernel
theorem dX1_winning_8 : decode cX1_winning 8 = .ok (.istore_n 3, 1) := by decide +kernel
theorem dX1_winning_9 : decode cX1_winning 9 = .ok (.iload_n 3, 1) := by decide +kernel
theorem dX1_winning_10 : decode cX1_winning 10 = .ok (.aload_n 0, 1) := by decide +kernel
theorem dX1_winning_11 : decode cX1_winning 11 = .ok (.iload_n 2, 1) := by decide +kernel
theorem dX1_winning_12 : decode cX1_winning 12 = .ok (.invokevirtual 182, 3) := by decide +kernel
theorem dX1_winning_15 : decode cX1_winning 15 = .ok (.if_icmp .ge 28, 3) := by decide +kernel
theorem dX1_winning_18 : decode cX1_winning 18 = .ok (.aload_n 0, 1) := by decide +kernel
theorem dX1_winning_19 : decode cX1_winning 19 = .ok (.iload_n 2, 1) := by decide +kernel
theorem dX1_winning_20 : decode cX1_winning 20 = .ok (.iload_n 3, 1) := by decide +kernel
theorem dX1_winning_21 : decode cX1_winning 21 = .ok (.iload_n 1, 1) := by decide +kernel
theorem dX1_winning_22 : decode cX1_winning 22 = .ok (.iconst 1, 1) := by decide +kernel
theorem dX1_winning_23 : decode cX1_winning 23 = .ok (.isub, 1) := by decide +kernel
theorem dX1_winning_24 : decode cX1_winning 24 = .ok (.invokevirtual 228, 3) := by decide +kernel
theorem dX1_winning_27 : decode cX1_winning 27 = .ok (.ifCond .ge 10, 3) := by decide +kernel
theorem dX1_winning_30 : decode cX1_winning 30 = .ok (.bipush 10, 2) := by decide +kernel
theorem dX1_winning_32 : decode cX1_winning 32 = .ok (.iload_n 2, 1) := by decide +kernel
theorem dX1_winning_33 : decode cX1_winning 33 = .ok (.imul, 1) := by decide +kernel
theorem dX1_winning_34 : decode cX1_winning 34 = .ok (.iload_n 3, 1) := by decide +kernel
theorem dX1_winning_35 : decode cX1_winning 35 = .ok (.iadd, 1) := by decide +kernel
theorem dX1_winning_36 : decode cX1_winning 36 = .ok (.ireturn, 1) := by decide +kernel
theorem dX1_winning_37 : decode cX1_winning 37 = .ok (.iinc 3 1, 3) := by decide +kernel
theorem dX1_winning_40 : decode cX1_winning 40 = .ok (.goto (-31), 3) := by decide +kernel
theorem dX1_winning_43 : decode cX1_winning 43 = .ok (.iinc 2 1, 3) := by decide +kernel
theorem dX1_winning_46 : decode cX1_winning 46 = .ok (.goto (-44), 3) := by decide +kernel
theorem dX1_winning_49 : decode cX1_winning 49 = .ok (.iconst (-1), 1) := by decide +kernel
theorem dX1_winning_50 : decode cX1_winning 50 = .ok (.ireturn, 1) := by decide +kernel
noncomputable def C_X1_winning_L9 (l : Launch) (δ : Dl) : Seg (l, δ, yX1_winning, 8, (some .int), cX1_winning, 4) 9 43 :=
  seq (p := 9) (q := 10) (r := 43) (p_iload_n 3 dX1_winning_9) (seq (p := 10) (q := 11) (r := 43) (p_aload_n 0 dX1_winning_10) (seq (p := 11) (q := 12) (r := 43) (p_iload_n 2 dX1_winning_11) (seq (p := 12) (q := 15) (r := 43) (p_callV 1 cv_X1_182 hcR1 (M_X1_manyOf l δ) (Nat.le_of_ble_eq_true rfl) dX1_winning_12) (seq (p := 15) (q := 18) (r := 43) (p_icmp_ge 43 dX1_winning_15 (by decide)) (seq (p := 18) (q := 19) (r := 43) (p_aload_n 0 dX1_winning_18) (seq (p := 19) (q := 20) (r := 43) (p_iload_n 2 dX1_winning_19) (seq (p := 20) (q := 21) (r := 43) (p_iload_n 3 dX1_winning_20) (seq (p := 21) (q := 22) (r := 43) (p_iload_n 1 dX1_winning_21) (seq (p := 22) (q := 23) (r := 43) (p_iconst 1 dX1_winning_22) (seq (p := 23) (q := 24) (r := 43) (p_isub dX1_winning_23) (seq (p := 24) (q := 27) (r := 43) (p_callV 1 cv_X1_228 hcR1 (M_X1_answerTo l δ) (Nat.le_of_ble_eq_true rfl) dX1_winning_24) (seq (p := 27) (q := 37) (r := 43) (blk (seq (p := 27) (q := 30) (r := 37) (p_if_ge 37 dX1_winning_27 (by decide)) (seq (p := 30) (q := 32) (r := 37) (p_bipush 10 dX1_winning_30 (by decide)) (seq (p := 32) (q := 33) (r := 37) (p_iload_n 2 dX1_winning_32) (seq (p := 33) (q := 34) (r := 37) (p_imul dX1_winning_33) (seq (p := 34) (q := 35) (r := 37) (p_iload_n 3 dX1_winning_34) (seq (p := 35) (q := 36) (r := 37) (p_iadd dX1_winning_35) (seq (p := 36) (q := 37) (r := 37) (p_ireturn dX1_winning_36 rfl) done)))))))) (seq (p := 37) (q := 40) (r := 43) (p_iinc 3 1 dX1_winning_37 (Nat.le_of_ble_eq_true rfl)) (seq (p := 40) (q := 40) (r := 43) (er [true, true, true, true]) (seq (p := 40) (q := 43) (r := 43) (p_goto 9 dX1_winning_40 (by decide)) done)))))))))))))))
noncomputable def B_X1_winning_L9 (l : Launch) (δ : Dl) : Seg (l, δ, yX1_winning, 8, (some .int), cX1_winning, 4) 9 43 := C_X1_winning_L9 l δ
theorem L_X1_winning_9 {l : Launch} {δ : Dl} {st : Stk} {L : Lc} {s : St} : (B_X1_winning_L9 l δ).1 st L s = (C_X1_winning_L9 l δ).1 st L s := nrfl rfl
noncomputable def C_X1_winning_L2 (l : Launch) (δ : Dl) : Seg (l, δ, yX1_winning, 8, (some .int), cX1_winning, 4) 2 49 :=
  seq (p := 2) (q := 3) (r := 49) (p_iload_n 2 dX1_winning_2) (seq (p := 3) (q := 4) (r := 49) (p_iconst 2 dX1_winning_3) (seq (p := 4) (q := 7) (r := 49) (p_icmp_ge 49 dX1_winning_4 (by decide)) (seq (p := 7) (q := 8) (r := 49) (p_iconst 0 dX1_winning_7) (seq (p := 8) (q := 9) (r := 49) (p_istore_n 3 dX1_winning_8 (Nat.le_of_ble_eq_true rfl)) (seq (p := 9) (q := 43) (r := 49) (blk (seq (p := 9) (q := 9) (r := 43) (er [true, true, true, true]) (seq (p := 9) (q := 43) (r := 43) (lp (B_X1_winning_L9 l δ)) done))) (seq (p := 43) (q := 46) (r := 49) (p_iinc 2 1 dX1_winning_43 (Nat.le_of_ble_eq_true rfl)) (seq (p := 46) (q := 46) (r := 49) (er [true, true, true, false]) (seq (p := 46) (q := 49) (r := 49) (p_goto 2 dX1_winning_46 (by decide)) done))))))))
noncomputable def B_X1_winning_L2 (l : Launch) (δ : Dl) : Seg (l, δ, yX1_winning, 8, (some .int), cX1_winning, 4) 2 49 := C_X1_winning_L2 l δ
theorem L_X1_winning_2 {l : Launch} {δ : Dl} {st : Stk} {L : Lc} {s : St} : (B_X1_winning_L2 l δ).1 st L s = (C_X1_winning_L2 l δ).1 st L s := nrfl rfl
noncomputable def B_X1_winning (l : Launch) (δ : Dl) : Seg (l, δ, yX1_winning, 8, (some .int), cX1_winning, 4) 0 51 :=
  seq (p := 0) (q := 1) (r := 51) (p_iconst 0 dX1_winning_0) (seq (p := 1) (q := 2) (r := 51) (p_istore_n 2 dX1_winning_1 (Nat.le_of_ble_eq_true rfl)) (seq (p := 2) (q := 49) (r := 51) (blk (seq (p := 2) (q := 2) (r := 49) (er [true, true, true, false]) (seq (p := 2) (q := 49) (r := 49) (lp (B_X1_winning_L2 l δ)) done))) (seq (p := 49) (q := 50) (r := 51) (p_iconst (-1) dX1_winning_49) (seq (p := 50) (q := 51) (r := 51) (p_ireturn dX1_winning_50 rfl) done))))
noncomputable def M_X1_winning (l : Launch) (δ : Dl) : Mth l δ yX1_winning cX1_winning 4 (some .int) 8 := mk (B_X1_winning l δ) (by decide)
theorem N_X1_winning {l : Launch} {δ : Dl} {o : Nat} {a1 : Int} {s : St} : (M_X1_winning l δ).1 [.inr (.inr (some o)), .inl a1] s = bres ((B_X1_winning l δ).1 [] [some (.inr (.inr (some o))), some (.inl a1), none, none] s) := (mk_eq (hy := by decide) rfl).trans (nrfl rfl)
theorem dX1_part1_0 : decode cX1_part1 0 = .ok (.aload_n 0, 1) := by decide +kernel
theorem dX1_part1_1 : decode cX1_part1 1 = .ok (.invokevirtual 178, 3) := by decide +kernel
theorem dX1_part1_4 : decode cX1_part1 4 = .ok (.ifCond .ne 8, 3) := by decide +kernel
theorem dX1_part1_7 : decode cX1_part1 7 = .ok (.aload_n 0, 1) := by decide +kernel
theorem dX1_part1_8 : decode cX1_part1 8 = .ok (.invokevirtual 353, 3) := by decide +kernel
theorem dX1_part1_11 : decode cX1_part1 11 = .ok (.return_, 1) := by decide +kernel
theorem dX1_part1_12 : decode cX1_part1 12 = .ok (.aload_n 0, 1) := by decide +kernel
theorem dX1_part1_13 : decode cX1_part1 13 = .ok (.iconst 1, 1) := by decide +kernel
theorem dX1_part1_14 : decode cX1_part1 14 = .ok (.invokevirtual 356, 3) := by decide +kernel
theorem dX1_part1_17 : decode cX1_part1 17 = .ok (.istore_n 1, 1) := by decide +kernel
theorem dX1_part1_18 : decode cX1_part1 18 = .ok (.aload_n 0, 1) := by decide +kernel
theorem dX1_part1_19 : decode cX1_part1 19 = .ok (.iload_n 1, 1) := by decide +kernel
theorem dX1_part1_20 : decode cX1_part1 20 = .ok (.invokevirtual 359, 3) := by decide +kernel
theorem dX1_part1_23 : decode cX1_part1 23 = .ok (.istore_n 2, 1) := by decide +kernel
theorem dX1_part1_24 : decode cX1_part1 24 = .ok (.iconst 0, 1) := by decide +kernel
theorem dX1_part1_25 : decode cX1_part1 25 = .ok (.istore_n 3, 1) := by decide +kernel
theorem dX1_part1_26 : decode cX1_part1 26 = .ok (.iconst 0, 1) := by decide +kernel
theorem dX1_part1_27 : decode cX1_part1 27 = .ok (.istore 4, 2) := by decide +kernel
theorem dX1_part1_29 : decode cX1_part1 29 = .ok (.iload 4, 2) := by decide +kernel
theorem dX1_part1_31 : decode cX1_part1 31 = .ok (.aload_n 0, 1) := by decide +kernel
theorem dX1_part1_32 : decode cX1_part1 32 = .ok (.getfield 7, 3) := by decide +kernel
theorem dX1_part1_35 : decode cX1_part1 35 = .ok (.aload_n 0, 1) := by decide +kernel
theorem dX1_part1_36 : decode cX1_part1 36 = .ok (.getfield 166, 3) := by decide +kernel
theorem dX1_part1_39 : decode cX1_part1 39 = .ok (.iaload, 1) := by decide +kernel
theorem dX1_part1_40 : decode cX1_part1 40 = .ok (.if_icmp .ge 50, 3) := by decide +kernel
theorem dX1_part1_43 : decode cX1_part1 43 = .ok (.aload_n 0, 1) := by decide +kernel
theorem dX1_part1_44 : decode cX1_part1 44 = .ok (.getfield 234, 3) := by decide +kernel
theorem dX1_part1_47 : decode cX1_part1 47 = .ok (.istore 5, 2) := by decide +kernel
theorem dX1_part1_49 : decode cX1_part1 49 = .ok (.aload_n 0, 1) := by decide +kernel
theorem dX1_part1_50 : decode cX1_part1 50 = .ok (.iload_n 1, 1) := by decide +kernel
theorem dX1_part1_51 : decode cX1_part1 51 = .ok (.bipush 10, 2) := by decide +kernel
theorem dX1_part1_53 : decode cX1_part1 53 = .ok (.irem, 1) := by decide +kernel
theorem dX1_part1_54 : decode cX1_part1 54 = .ok (.iload 4, 2) := by decide +kernel
theorem dX1_part1_56 : decode cX1_part1 56 = .ok (.invokevirtual 175, 3) := by decide +kernel
theorem dX1_part1_59 : decode cX1_part1 59 = .ok (.aload_n 0, 1) := by decide +kernel
theorem dX1_part1_60 : decode cX1_part1 60 = .ok (.invokevirtual 353, 3) := by decide +kernel
theorem dX1_part1_63 : decode cX1_part1 63 = .ok (.aload_n 0, 1) := by decide +kernel
theorem dX1_part1_64 : decode cX1_part1 64 = .ok (.dup, 1) := by decide +kernel
theorem dX1_part1_65 : decode cX1_part1 65 = .ok (.getfield 169, 3) := by decide +kernel
theorem dX1_part1_68 : decode cX1_part1 68 = .ok (.iconst 1, 1) := by decide +kernel
theorem dX1_part1_69 : decode cX1_part1 69 = .ok (.isub, 1) := by decide +kernel
theorem dX1_part1_70 : decode cX1_part1 70 = .ok (.putfield 169, 3) := by decide +kernel
theorem dX1_part1_73 : decode cX1_part1 73 = .ok (.aload_n 0, 1) := by decide +kernel
theorem dX1_part1_74 : decode cX1_part1 74 = .ok (.iload_n 2, 1) := by decide +kernel
theorem dX1_part1_75 : decode cX1_part1 75 = .ok (.iconst 1, 1) := by decide +kernel
theorem dX1_part1_76 : decode cX1_part1 76 = .ok (.iadd, 1) := by decide +kernel
theorem dX1_part1_77 : decode cX1_part1 77 = .ok (.iload 5, 2) := by decide +kernel
theorem dX1_part1_79 : decode cX1_part1 79 = .ok (.iload_n 3, 1) := by decide +kernel
theorem dX1_part1_80 : decode cX1_part1 80 = .ok (.invokevirtual 362, 3) := by decide +kernel
theorem dX1_part1_83 : decode cX1_part1 83 = .ok (.istore_n 3, 1) := by decide +kernel
theorem dX1_part1_84 : decode cX1_part1 84 = .ok (.iinc 4 1, 3) := by decide +kernel
theorem dX1_part1_87 : decode cX1_part1 87 = .ok (.goto (-58), 3) := by decide +kernel
theorem dX1_part1_90 : decode cX1_part1 90 = .ok (.aload_n 0, 1) := by decide +kernel
theorem dX1_part1_91 : decode cX1_part1 91 = .ok (.iload_n 2, 1) := by decide +kernel
theorem dX1_part1_92 : decode cX1_part1 92 = .ok (.iload_n 3, 1) := by decide +kernel
theorem dX1_part1_93 : decode cX1_part1 93 = .ok (.invokevirtual 365, 3) := by decide +kernel
theorem dX1_part1_96 : decode cX1_part1 96 = .ok (.aload_n 0, 1) := by decide +kernel
theorem dX1_part1_97 : decode cX1_part1 97 = .ok (.iload_n 1, 1) := by decide +kernel
theorem dX1_part1_98 : decode cX1_part1 98 = .ok (.invokevirtual 368, 3) := by decide +kernel
theorem dX1_part1_101 : decode cX1_part1 101 = .ok (.return_, 1) := by decide +kernel
noncomputable def C_X1_part1_L29 (l : Launch) (δ : Dl) : Seg (l, δ, yX1_part1, 9, none, cX1_part1, 6) 29 90 :=
  seq (p := 29) (q := 31) (r := 90) (p_iload 4 dX1_part1_29) (seq (p := 31) (q := 32) (r := 90) (p_aload_n 0 dX1_part1_31) (seq (p := 32) (q := 35) (r := 90) (p_get [(1, 0)] (alL1 fl_X1_7_1) dX1_part1_32) (seq (p := 35) (q := 36) (r := 90) (p_aload_n 0 dX1_part1_35) (seq (p := 36) (q := 39) (r := 90) (p_get [(1, 6)] (alL1 fl_X1_166_1) dX1_part1_36) (seq (p := 39) (q := 40) (r := 90) (p_iald dX1_part1_39) (seq (p := 40) (q := 43) (r := 90) (p_icmp_ge 90 dX1_part1_40 (by decide)) (seq (p := 43) (q := 44) (r := 90) (p_aload_n 0 dX1_part1_43) (seq (p := 44) (q := 47) (r := 90) (p_get [(1, 23)] (alL1 fl_X1_234_1) dX1_part1_44) (seq (p := 47) (q := 49) (r := 90) (p_istore 5 dX1_part1_47 (Nat.le_of_ble_eq_true rfl)) (seq (p := 49) (q := 50) (r := 90) (p_aload_n 0 dX1_part1_49) (seq (p := 50) (q := 51) (r := 90) (p_iload_n 1 dX1_part1_50) (seq (p := 51) (q := 53) (r := 90) (p_bipush 10 dX1_part1_51 (by decide)) (seq (p := 53) (q := 54) (r := 90) (p_irem dX1_part1_53) (seq (p := 54) (q := 56) (r := 90) (p_iload 4 dX1_part1_54) (seq (p := 56) (q := 59) (r := 90) (p_callV 1 cv_X1_175 hcR1 (M_X1_add l δ) (Nat.le_of_ble_eq_true rfl) dX1_part1_56) (seq (p := 59) (q := 60) (r := 90) (p_aload_n 0 dX1_part1_59) (seq (p := 60) (q := 63) (r := 90) (p_callV 1 cv_X1_353 hcR1 (M_X1_partAtom l δ) (Nat.le_of_ble_eq_true rfl) dX1_part1_60) (seq (p := 63) (q := 64) (r := 90) (p_aload_n 0 dX1_part1_63) (seq (p := 64) (q := 65) (r := 90) (p_dup dX1_part1_64) (seq (p := 65) (q := 68) (r := 90) (p_get [(1, 7)] (alL1 fl_X1_169_1) dX1_part1_65) (seq (p := 68) (q := 69) (r := 90) (p_iconst 1 dX1_part1_68) (seq (p := 69) (q := 70) (r := 90) (p_isub dX1_part1_69) (seq (p := 70) (q := 73) (r := 90) (p_put [(1, 7)] .int (alP1 fp_X1_169_1) dX1_part1_70) (seq (p := 73) (q := 74) (r := 90) (p_aload_n 0 dX1_part1_73) (seq (p := 74) (q := 75) (r := 90) (p_iload_n 2 dX1_part1_74) (seq (p := 75) (q := 76) (r := 90) (p_iconst 1 dX1_part1_75) (seq (p := 76) (q := 77) (r := 90) (p_iadd dX1_part1_76) (seq (p := 77) (q := 79) (r := 90) (p_iload 5 dX1_part1_77) (seq (p := 79) (q := 80) (r := 90) (p_iload_n 3 dX1_part1_79) (seq (p := 80) (q := 83) (r := 90) (p_callV 1 cv_X1_362 hcR1 (M_X1_keepUnlike l δ) (Nat.le_of_ble_eq_true rfl) dX1_part1_80) (seq (p := 83) (q := 84) (r := 90) (p_istore_n 3 dX1_part1_83 (Nat.le_of_ble_eq_true rfl)) (seq (p := 84) (q := 87) (r := 90) (p_iinc 4 1 dX1_part1_84 (Nat.le_of_ble_eq_true rfl)) (seq (p := 87) (q := 87) (r := 90) (er [true, true, true, true, true, false]) (seq (p := 87) (q := 90) (r := 90) (p_goto 29 dX1_part1_87 (by decide)) done))))))))))))))))))))))))))))))))))
noncomputable def B_X1_part1_L29 (l : Launch) (δ : Dl) : Seg (l, δ, yX1_part1, 9, none, cX1_part1, 6) 29 90 := C_X1_part1_L29 l δ
theorem L_X1_part1_29 {l : Launch} {δ : Dl} {st : Stk} {L : Lc} {s : St} : (B_X1_part1_L29 l δ).1 st L s = (C_X1_part1_L29 l δ).1 st L s := nrfl rfl
noncomputable def B_X1_part1 (l : Launch) (δ : Dl) : Seg (l, δ, yX1_part1, 9, none, cX1_part1, 6) 0 102 :=
  seq (p := 0) (q := 1) (r := 102) (p_aload_n 0 dX1_part1_0) (seq (p := 1) (q := 4) (r := 102) (p_callV 1 cv_X1_178 hcR1 (M_X1_areAlike l δ) (Nat.le_of_ble_eq_true rfl) dX1_part1_1) (seq (p := 4) (q := 12) (r := 102) (blk (seq (p := 4) (q := 7) (r := 12) (p_if_ne 12 dX1_part1_4 (by decide)) (seq (p := 7) (q := 8) (r := 12) (p_aload_n 0 dX1_part1_7) (seq (p := 8) (q := 11) (r := 12) (p_callV 1 cv_X1_353 hcR1 (M_X1_partAtom l δ) (Nat.le_of_ble_eq_true rfl) dX1_part1_8) (seq (p := 11) (q := 12) (r := 12) (p_return dX1_part1_11 rfl) done))))) (seq (p := 12) (q := 13) (r := 102) (p_aload_n 0 dX1_part1_12) (seq (p := 13) (q := 14) (r := 102) (p_iconst 1 dX1_part1_13) (seq (p := 14) (q := 17) (r := 102) (p_callV 1 cv_X1_356 hcR1 (M_X1_winning l δ) (Nat.le_of_ble_eq_true rfl) dX1_part1_14) (seq (p := 17) (q := 18) (r := 102) (p_istore_n 1 dX1_part1_17 (Nat.le_of_ble_eq_true rfl)) (seq (p := 18) (q := 19) (r := 102) (p_aload_n 0 dX1_part1_18) (seq (p := 19) (q := 20) (r := 102) (p_iload_n 1 dX1_part1_19) (seq (p := 20) (q := 23) (r := 102) (p_callV 1 cv_X1_359 hcR1 (M_X1_beginPick l δ) (Nat.le_of_ble_eq_true rfl) dX1_part1_20) (seq (p := 23) (q := 24) (r := 102) (p_istore_n 2 dX1_part1_23 (Nat.le_of_ble_eq_true rfl)) (seq (p := 24) (q := 25) (r := 102) (p_iconst 0 dX1_part1_24) (seq (p := 25) (q := 26) (r := 102) (p_istore_n 3 dX1_part1_25 (Nat.le_of_ble_eq_true rfl)) (seq (p := 26) (q := 27) (r := 102) (p_iconst 0 dX1_part1_26) (seq (p := 27) (q := 29) (r := 102) (p_istore 4 dX1_part1_27 (Nat.le_of_ble_eq_true rfl)) (seq (p := 29) (q := 90) (r := 102) (blk (seq (p := 29) (q := 29) (r := 90) (er [true, true, true, true, true, false]) (seq (p := 29) (q := 90) (r := 90) (lp (B_X1_part1_L29 l δ)) done))) (seq (p := 90) (q := 91) (r := 102) (p_aload_n 0 dX1_part1_90) (seq (p := 91) (q := 92) (r := 102) (p_iload_n 2 dX1_part1_91) (seq (p := 92) (q := 93) (r := 102) (p_iload_n 3 dX1_part1_92) (seq (p := 93) (q := 96) (r := 102) (p_callV 1 cv_X1_365 hcR1 (M_X1_closeParts l δ) (Nat.le_of_ble_eq_true rfl) dX1_part1_93) (seq (p := 96) (q := 97) (r := 102) (p_aload_n 0 dX1_part1_96) (seq (p := 97) (q := 98) (r := 102) (p_iload_n 1 dX1_part1_97) (seq (p := 98) (q := 101) (r := 102) (p_callV 1 cv_X1_368 hcR1 (M_X1_endPick l δ) (Nat.le_of_ble_eq_true rfl) dX1_part1_98) (seq (p := 101) (q := 102) (r := 102) (p_return dX1_part1_101 rfl) done)))))))))))))))))))))))
noncomputable def M_X1_part1 (l : Launch) (δ : Dl) : Mth l δ yX1_part1 cX1_part1 6 none 9 := mk (B_X1_part1 l δ) (by decide)
theorem N_X1_part1 {l : Launch} {δ : Dl} {o : Nat} {s : St} : (M_X1_part1 l δ).1 [.inr (.inr (some o))] s = bres ((B_X1_part1 l δ).1 [] [some (.inr (.inr (some o))), none, none, none, none, none] s) := (mk_eq (hy := by decide) rfl).trans (nrfl rfl)
theorem dX1_part2_0 : decode cX1_part2 0 = .ok (.aload_n 0, 1) := by decide +kernel
theorem dX1_part2_1 : decode cX1_part2 1 = .ok (.iconst 2, 1) := by decide +kernel
theorem dX1_part2_2 : decode cX1_part2 2 = .ok (.invokevirtual 204, 3) := by decide +kernel
theorem dX1_part2_5 : decode cX1_part2 5 = .ok (.istore_n 1, 1) := by decide +kernel
theorem dX1_part2_6 : decode cX1_part2 6 = .ok (.iload_n 1, 1) := by decide +kernel
theorem dX1_part2_7 : decode cX1_part2 7 = .ok (.iconst 2, 1) := by decide +kernel
theorem dX1_part2_8 : decode cX1_part2 8 = .ok (.if_icmp .ge 8, 3) := by decide +kernel
theorem dX1_part2_11 : decode cX1_part2 11 = .ok (.aload_n 0, 1) := by decide +kernel
theorem dX1_part2_12 : decode cX1_part2 12 = .ok (.invokevirtual 371, 3) := by decide +kernel
theorem dX1_part2_15 : decode cX1_part2 15 = .ok (.return_, 1) := by decide +kernel
theorem dX1_part2_16 : decode cX1_part2 16 = .ok (.aload_n 0, 1) := by decide +kernel
theorem dX1_part2_17 : decode cX1_part2 17 = .ok (.iconst 2, 1) := by decide +kernel
theorem dX1_part2_18 : decode cX1_part2 18 = .ok (.invokevirtual 356, 3) := by decide +kernel
theorem dX1_part2_21 : decode cX1_part2 21 = .ok (.istore_n 2, 1) := by decide +kernel
theorem dX1_part2_22 : decode cX1_part2 22 = .ok (.aload_n 0, 1) := by decide +kernel
theorem dX1_part2_23 : decode cX1_part2 23 = .ok (.iload_n 2, 1) := by decide +kernel
theorem dX1_part2_24 : decode cX1_part2 24 = .ok (.invokevirtual 359, 3) := by decide +kernel
theorem dX1_part2_27 : decode cX1_part2 27 = .ok (.istore_n 3, 1) := by decide +kernel
theorem dX1_part2_28 : decode cX1_part2 28 = .ok (.iconst 0, 1) := by decide +kernel
theorem dX1_part2_29 : decode cX1_part2 29 = .ok (.istore 4, 2) := by decide +kernel
theorem dX1_part2_31 : decode cX1_part2 31 = .ok (.iconst 0, 1) := by decide +kernel
theorem dX1_part2_32 : decode cX1_part2 32 = .ok (.istore 5, 2) := by decide +kernel
theorem dX1_part2_34 : decode cX1_part2 34 = .ok (.iload 5, 2) := by decide +kernel
theorem dX1_part2_36 : decode cX1_part2 36 = .ok (.aload_n 0, 1) := by decide +kernel
theorem dX1_part2_37 : decode cX1_part2 37 = .ok (.getfield 7, 3) := by decide +kernel
theorem dX1_part2_40 : decode cX1_part2 40 = .ok (.aload_n 0, 1) := by decide +kernel
theorem dX1_part2_41 : decode cX1_part2 41 = .ok (.getfield 166, 3) := by decide +kernel
theorem dX1_part2_44 : decode cX1_part2 44 = .ok (.iaload, 1) := by decide +kernel
theorem dX1_part2_45 : decode cX1_part2 45 = .ok (.if_icmp .ge 52, 3) := by decide +kernel
theorem dX1_part2_48 : decode cX1_part2 48 = .ok (.aload_n 0, 1) := by decide +kernel
theorem dX1_part2_49 : decode cX1_part2 49 = .ok (.getfield 234, 3) := by decide +kernel
theorem dX1_part2_52 : decode cX1_part2 52 = .ok (.istore 6, 2) := by decide +kernel
theorem dX1_part2_54 : decode cX1_part2 54 = .ok (.aload_n 0, 1) := by decide +kernel
theorem dX1_part2_55 : decode cX1_part2 55 = .ok (.iload_n 2, 1) := by decide +kernel
theorem dX1_part2_56 : decode cX1_part2 56 = .ok (.bipush 10, 2) := by decide +kernel
theorem dX1_part2_58 : decode cX1_part2 58 = .ok (.irem, 1) := by decide +kernel
theorem dX1_part2_59 : decode cX1_part2 59 = .ok (.iload 5, 2) := by decide +kernel
theorem dX1_part2_61 : decode cX1_part2 61 = .ok (.invokevirtual 175, 3) := by decide +kernel
theorem dX1_part2_64 : decode cX1_part2 64 = .ok (.aload_n 0, 1) := by decide +kernel
theorem dX1_part2_65 : decode cX1_part2 65 = .ok (.invokevirtual 371, 3) := by decide +kernel
theorem dX1_part2_68 : decode cX1_part2 68 = .ok (.aload_n 0, 1) := by decide +kernel
theorem dX1_part2_69 : decode cX1_part2 69 = .ok (.dup, 1) := by decide +kernel
theorem dX1_part2_70 : decode cX1_part2 70 = .ok (.getfield 169, 3) := by decide +kernel
theorem dX1_part2_73 : decode cX1_part2 73 = .ok (.iconst 1, 1) := by decide +kernel
theorem dX1_part2_74 : decode cX1_part2 74 = .ok (.isub, 1) := by decide +kernel
theorem dX1_part2_75 : decode cX1_part2 75 = .ok (.putfield 169, 3) := by decide +kernel
theorem dX1_part2_78 : decode cX1_part2 78 = .ok (.aload_n 0, 1) := by decide +kernel
theorem dX1_part2_79 : decode cX1_part2 79 = .ok (.iload_n 3, 1) := by decide +kernel
theorem dX1_part2_80 : decode cX1_part2 80 = .ok (.iconst 1, 1) := by decide +kernel
theorem dX1_part2_81 : decode cX1_part2 81 = .ok (.iadd, 1) := by decide +kernel
theorem dX1_part2_82 : decode cX1_part2 82 = .ok (.iload 6, 2) := by decide +kernel
theorem dX1_part2_84 : decode cX1_part2 84 = .ok (.iload 4, 2) := by decide +kernel
theorem dX1_part2_86 : decode cX1_part2 86 = .ok (.invokevirtual 362, 3) := by decide +kernel
theorem dX1_part2_89 : decode cX1_part2 89 = .ok (.istore 4, 2) := by decide +kernel
theorem dX1_part2_91 : decode cX1_part2 91 = .ok (.iinc 5 1, 3) := by decide +kernel
theorem dX1_part2_94 : decode cX1_part2 94 = .ok (.goto (-60), 3) := by decide +kernel
theorem dX1_part2_97 : decode cX1_part2 97 = .ok (.aload_n 0, 1) := by decide +kernel
theorem dX1_part2_98 : decode cX1_part2 98 = .ok (.iload_n 3, 1) := by decide +kernel
theorem dX1_part2_99 : decode cX1_part2 99 = .ok (.iload 4, 2) := by decide +kernel
theorem dX1_part2_101 : decode cX1_part2 101 = .ok (.invokevirtual 365, 3) := by decide +kernel
theorem dX1_part2_104 : decode cX1_part2 104 = .ok (.aload_n 0, 1) := by decide +kernel
theorem dX1_part2_105 : decode cX1_part2 105 = .ok (.iload_n 2, 1) := by decide +kernel
theorem dX1_part2_106 : decode cX1_part2 106 = .ok (.invokevirtual 368, 3) := by decide +kernel
theorem dX1_part2_109 : decode cX1_part2 109 = .ok (.return_, 1) := by decide +kernel
noncomputable def C_X1_part2_L34 (l : Launch) (δ : Dl) : Seg (l, δ, yX1_part2, 10, none, cX1_part2, 7) 34 97 :=
  seq (p := 34) (q := 36) (r := 97) (p_iload 5 dX1_part2_34) (seq (p := 36) (q := 37) (r := 97) (p_aload_n 0 dX1_part2_36) (seq (p := 37) (q := 40) (r := 97) (p_get [(1, 0)] (alL1 fl_X1_7_1) dX1_part2_37) (seq (p := 40) (q := 41) (r := 97) (p_aload_n 0 dX1_part2_40) (seq (p := 41) (q := 44) (r := 97) (p_get [(1, 6)] (alL1 fl_X1_166_1) dX1_part2_41) (seq (p := 44) (q := 45) (r := 97) (p_iald dX1_part2_44) (seq (p := 45) (q := 48) (r := 97) (p_icmp_ge 97 dX1_part2_45 (by decide)) (seq (p := 48) (q := 49) (r := 97) (p_aload_n 0 dX1_part2_48) (seq (p := 49) (q := 52) (r := 97) (p_get [(1, 23)] (alL1 fl_X1_234_1) dX1_part2_49) (seq (p := 52) (q := 54) (r := 97) (p_istore 6 dX1_part2_52 (Nat.le_of_ble_eq_true rfl)) (seq (p := 54) (q := 55) (r := 97) (p_aload_n 0 dX1_part2_54) (seq (p := 55) (q := 56) (r := 97) (p_iload_n 2 dX1_part2_55) (seq (p := 56) (q := 58) (r := 97) (p_bipush 10 dX1_part2_56 (by decide)) (seq (p := 58) (q := 59) (r := 97) (p_irem dX1_part2_58) (seq (p := 59) (q := 61) (r := 97) (p_iload 5 dX1_part2_59) (seq (p := 61) (q := 64) (r := 97) (p_callV 1 cv_X1_175 hcR1 (M_X1_add l δ) (Nat.le_of_ble_eq_true rfl) dX1_part2_61) (seq (p := 64) (q := 65) (r := 97) (p_aload_n 0 dX1_part2_64) (seq (p := 65) (q := 68) (r := 97) (p_callV 1 cv_X1_371 hcR1 (M_X1_part1 l δ) (Nat.le_of_ble_eq_true rfl) dX1_part2_65) (seq (p := 68) (q := 69) (r := 97) (p_aload_n 0 dX1_part2_68) (seq (p := 69) (q := 70) (r := 97) (p_dup dX1_part2_69) (seq (p := 70) (q := 73) (r := 97) (p_get [(1, 7)] (alL1 fl_X1_169_1) dX1_part2_70) (seq (p := 73) (q := 74) (r := 97) (p_iconst 1 dX1_part2_73) (seq (p := 74) (q := 75) (r := 97) (p_isub dX1_part2_74) (seq (p := 75) (q := 78) (r := 97) (p_put [(1, 7)] .int (alP1 fp_X1_169_1) dX1_part2_75) (seq (p := 78) (q := 79) (r := 97) (p_aload_n 0 dX1_part2_78) (seq (p := 79) (q := 80) (r := 97) (p_iload_n 3 dX1_part2_79) (seq (p := 80) (q := 81) (r := 97) (p_iconst 1 dX1_part2_80) (seq (p := 81) (q := 82) (r := 97) (p_iadd dX1_part2_81) (seq (p := 82) (q := 84) (r := 97) (p_iload 6 dX1_part2_82) (seq (p := 84) (q := 86) (r := 97) (p_iload 4 dX1_part2_84) (seq (p := 86) (q := 89) (r := 97) (p_callV 1 cv_X1_362 hcR1 (M_X1_keepUnlike l δ) (Nat.le_of_ble_eq_true rfl) dX1_part2_86) (seq (p := 89) (q := 91) (r := 97) (p_istore 4 dX1_part2_89 (Nat.le_of_ble_eq_true rfl)) (seq (p := 91) (q := 94) (r := 97) (p_iinc 5 1 dX1_part2_91 (Nat.le_of_ble_eq_true rfl)) (seq (p := 94) (q := 94) (r := 97) (er [true, false, true, true, true, true, false]) (seq (p := 94) (q := 97) (r := 97) (p_goto 34 dX1_part2_94 (by decide)) done))))))))))))))))))))))))))))))))))
noncomputable def B_X1_part2_L34 (l : Launch) (δ : Dl) : Seg (l, δ, yX1_part2, 10, none, cX1_part2, 7) 34 97 := C_X1_part2_L34 l δ
theorem L_X1_part2_34 {l : Launch} {δ : Dl} {st : Stk} {L : Lc} {s : St} : (B_X1_part2_L34 l δ).1 st L s = (C_X1_part2_L34 l δ).1 st L s := nrfl rfl
noncomputable def B_X1_part2 (l : Launch) (δ : Dl) : Seg (l, δ, yX1_part2, 10, none, cX1_part2, 7) 0 110 :=
  seq (p := 0) (q := 1) (r := 110) (p_aload_n 0 dX1_part2_0) (seq (p := 1) (q := 2) (r := 110) (p_iconst 2 dX1_part2_1) (seq (p := 2) (q := 5) (r := 110) (p_callV 1 cv_X1_204 hcR1 (M_X1_least l δ) (Nat.le_of_ble_eq_true rfl) dX1_part2_2) (seq (p := 5) (q := 6) (r := 110) (p_istore_n 1 dX1_part2_5 (Nat.le_of_ble_eq_true rfl)) (seq (p := 6) (q := 7) (r := 110) (p_iload_n 1 dX1_part2_6) (seq (p := 7) (q := 8) (r := 110) (p_iconst 2 dX1_part2_7) (seq (p := 8) (q := 16) (r := 110) (blk (seq (p := 8) (q := 11) (r := 16) (p_icmp_ge 16 dX1_part2_8 (by decide)) (seq (p := 11) (q := 12) (r := 16) (p_aload_n 0 dX1_part2_11) (seq (p := 12) (q := 15) (r := 16) (p_callV 1 cv_X1_371 hcR1 (M_X1_part1 l δ) (Nat.le_of_ble_eq_true rfl) dX1_part2_12) (seq (p := 15) (q := 16) (r := 16) (p_return dX1_part2_15 rfl) done))))) (seq (p := 16) (q := 17) (r := 110) (p_aload_n 0 dX1_part2_16) (seq (p := 17) (q := 18) (r := 110) (p_iconst 2 dX1_part2_17) (seq (p := 18) (q := 21) (r := 110) (p_callV 1 cv_X1_356 hcR1 (M_X1_winning l δ) (Nat.le_of_ble_eq_true rfl) dX1_part2_18) (seq (p := 21) (q := 22) (r := 110) (p_istore_n 2 dX1_part2_21 (Nat.le_of_ble_eq_true rfl)) (seq (p := 22) (q := 23) (r := 110) (p_aload_n 0 dX1_part2_22) (seq (p := 23) (q := 24) (r := 110) (p_iload_n 2 dX1_part2_23) (seq (p := 24) (q := 27) (r := 110) (p_callV 1 cv_X1_359 hcR1 (M_X1_beginPick l δ) (Nat.le_of_ble_eq_true rfl) dX1_part2_24) (seq (p := 27) (q := 28) (r := 110) (p_istore_n 3 dX1_part2_27 (Nat.le_of_ble_eq_true rfl)) (seq (p := 28) (q := 29) (r := 110) (p_iconst 0 dX1_part2_28) (seq (p := 29) (q := 31) (r := 110) (p_istore 4 dX1_part2_29 (Nat.le_of_ble_eq_true rfl)) (seq (p := 31) (q := 32) (r := 110) (p_iconst 0 dX1_part2_31) (seq (p := 32) (q := 34) (r := 110) (p_istore 5 dX1_part2_32 (Nat.le_of_ble_eq_true rfl)) (seq (p := 34) (q := 97) (r := 110) (blk (seq (p := 34) (q := 34) (r := 97) (er [true, false, true, true, true, true, false]) (seq (p := 34) (q := 97) (r := 97) (lp (B_X1_part2_L34 l δ)) done))) (seq (p := 97) (q := 98) (r := 110) (p_aload_n 0 dX1_part2_97) (seq (p := 98) (q := 99) (r := 110) (p_iload_n 3 dX1_part2_98) (seq (p := 99) (q := 101) (r := 110) (p_iload 4 dX1_part2_99) (seq (p := 101) (q := 104) (r := 110) (p_callV 1 cv_X1_365 hcR1 (M_X1_closeParts l δ) (Nat.le_of_ble_eq_true rfl) dX1_part2_101) (seq (p := 104) (q := 105) (r := 110) (p_aload_n 0 dX1_part2_104) (seq (p := 105) (q := 106) (r := 110) (p_iload_n 2 dX1_part2_105) (seq (p := 106) (q := 109) (r := 110) (p_callV 1 cv_X1_368 hcR1 (M_X1_endPick l δ) (Nat.le_of_ble_eq_true rfl) dX1_part2_106) (seq (p := 109) (q := 110) (r := 110) (p_return dX1_part2_109 rfl) done)))))))))))))))))))))))))))
noncomputable def M_X1_part2 (l : Launch) (δ : Dl) : Mth l δ yX1_part2 cX1_part2 7 none 10 := mk (B_X1_part2 l δ) (by decide)
theorem N_X1_part2 {l : Launch} {δ : Dl} {o : Nat} {s : St} : (M_X1_part2 l δ).1 [.inr (.inr (some o))] s = bres ((B_X1_part2 l δ).1 [] [some (.inr (.inr (some o))), none, none, none, none, none, none] s) := (mk_eq (hy := by decide) rfl).trans (nrfl rfl)
theorem dX1_part3_0 : decode cX1_part3 0 = .ok (.aload_n 0, 1) := by decide +kernel
theorem dX1_part3_1 : decode cX1_part3 1 = .ok (.iconst 3, 1) := by decide +kernel
theorem dX1_part3_2 : decode cX1_part3 2 = .ok (.invokevirtual 204, 3) := by decide +kernel
theorem dX1_part3_5 : decode cX1_part3 5 = .ok (.istore_n 1, 1) := by decide +kernel
theorem dX1_part3_6 : decode cX1_part3 6 = .ok (.iload_n 1, 1) := by decide +kernel
theorem dX1_part3_7 : decode cX1_part3 7 = .ok (.iconst 3, 1) := by decide +kernel
theorem dX1_part3_8 : decode cX1_part3 8 = .ok (.if_icmp .ge 8, 3) := by decide +kernel
theorem dX1_part3_11 : decode cX1_part3 11 = .ok (.aload_n 0, 1) := by decide +kernel
theorem dX1_part3_12 : decode cX1_part3 12 = .ok (.invokevirtual 374, 3) := by decide +kernel
theorem dX1_part3_15 : decode cX1_part3 15 = .ok (.return_, 1) := by decide +kernel
theorem dX1_part3_16 : decode cX1_part3 16 = .ok (.aload_n 0, 1) := by decide +kernel
theorem dX1_part3_17 : decode cX1_part3 17 = .ok (.iconst 3, 1) := by decide +kernel
theorem dX1_part3_18 : decode cX1_part3 18 = .ok (.invokevirtual 356, 3) := by decide +kernel
theorem dX1_part3_21 : decode cX1_part3 21 = .ok (.istore_n 2, 1) := by decide +kernel
theorem dX1_part3_22 : decode cX1_part3 22 = .ok (.aload_n 0, 1) := by decide +kernel
theorem dX1_part3_23 : decode cX1_part3 23 = .ok (.iload_n 2, 1) := by decide +kernel
theorem dX1_part3_24 : decode cX1_part3 24 = .ok (.invokevirtual 359, 3) := by decide +kernel
theorem dX1_part3_27 : decode cX1_part3 27 = .ok (.istore_n 3, 1) := by decide +kernel
theorem dX1_part3_28 : decode cX1_part3 28 = .ok (.iconst 0, 1) := by decide +kernel
theorem dX1_part3_29 : decode cX1_part3 29 = .ok (.istore 4, 2) := by decide +kernel
theorem dX1_part3_31 : decode cX1_part3 31 = .ok (.iconst 0, 1) := by decide +kernel
theorem dX1_part3_32 : decode cX1_part3 32 = .ok (.istore 5, 2) := by decide +kernel
theorem dX1_part3_34 : decode cX1_part3 34 = .ok (.iload 5, 2) := by decide +kernel
theorem dX1_part3_36 : decode cX1_part3 36 = .ok (.aload_n 0, 1) := by decide +kernel
theorem dX1_part3_37 : decode cX1_part3 37 = .ok (.getfield 7, 3) := by decide +kernel
theorem dX1_part3_40 : decode cX1_part3 40 = .ok (.aload_n 0, 1) := by decide +kernel
theorem dX1_part3_41 : decode cX1_part3 41 = .ok (.getfield 166, 3) := by decide +kernel
theorem dX1_part3_44 : decode cX1_part3 44 = .ok (.iaload, 1) := by decide +kernel
theorem dX1_part3_45 : decode cX1_part3 45 = .ok (.if_icmp .ge 52, 3) := by decide +kernel
theorem dX1_part3_48 : decode cX1_part3 48 = .ok (.aload_n 0, 1) := by decide +kernel
theorem dX1_part3_49 : decode cX1_part3 49 = .ok (.getfield 234, 3) := by decide +kernel
theorem dX1_part3_52 : decode cX1_part3 52 = .ok (.istore 6, 2) := by decide +kernel
theorem dX1_part3_54 : decode cX1_part3 54 = .ok (.aload_n 0, 1) := by decide +kernel
theorem dX1_part3_55 : decode cX1_part3 55 = .ok (.iload_n 2, 1) := by decide +kernel
theorem dX1_part3_56 : decode cX1_part3 56 = .ok (.bipush 10, 2) := by decide +kernel
theorem dX1_part3_58 : decode cX1_part3 58 = .ok (.irem, 1) := by decide +kernel
theorem dX1_part3_59 : decode cX1_part3 59 = .ok (.iload 5, 2) := by decide +kernel
theorem dX1_part3_61 : decode cX1_part3 61 = .ok (.invokevirtual 175, 3) := by decide +kernel
theorem dX1_part3_64 : decode cX1_part3 64 = .ok (.aload_n 0, 1) := by decide +kernel
theorem dX1_part3_65 : decode cX1_part3 65 = .ok (.invokevirtual 374, 3) := by decide +kernel
theorem dX1_part3_68 : decode cX1_part3 68 = .ok (.aload_n 0, 1) := by decide +kernel
theorem dX1_part3_69 : decode cX1_part3 69 = .ok (.dup, 1) := by decide +kernel
theorem dX1_part3_70 : decode cX1_part3 70 = .ok (.getfield 169, 3) := by decide +kernel
theorem dX1_part3_73 : decode cX1_part3 73 = .ok (.iconst 1, 1) := by decide +kernel
theorem dX1_part3_74 : decode cX1_part3 74 = .ok (.isub, 1) := by decide +kernel
theorem dX1_part3_75 : decode cX1_part3 75 = .ok (.putfield 169, 3) := by decide +kernel
theorem dX1_part3_78 : decode cX1_part3 78 = .ok (.aload_n 0, 1) := by decide +kernel
theorem dX1_part3_79 : decode cX1_part3 79 = .ok (.iload_n 3, 1) := by decide +kernel
theorem dX1_part3_80 : decode cX1_part3 80 = .ok (.iconst 1, 1) := by decide +kernel
theorem dX1_part3_81 : decode cX1_part3 81 = .ok (.iadd, 1) := by decide +kernel
theorem dX1_part3_82 : decode cX1_part3 82 = .ok (.iload 6, 2) := by decide +kernel
theorem dX1_part3_84 : decode cX1_part3 84 = .ok (.iload 4, 2) := by decide +kernel
theorem dX1_part3_86 : decode cX1_part3 86 = .ok (.invokevirtual 362, 3) := by decide +kernel
theorem dX1_part3_89 : decode cX1_part3 89 = .ok (.istore 4, 2) := by decide +kernel
theorem dX1_part3_91 : decode cX1_part3 91 = .ok (.iinc 5 1, 3) := by decide +kernel
theorem dX1_part3_94 : decode cX1_part3 94 = .ok (.goto (-60), 3) := by decide +kernel
theorem dX1_part3_97 : decode cX1_part3 97 = .ok (.aload_n 0, 1) := by decide +kernel
theorem dX1_part3_98 : decode cX1_part3 98 = .ok (.iload_n 3, 1) := by decide +kernel
theorem dX1_part3_99 : decode cX1_part3 99 = .ok (.iload 4, 2) := by decide +kernel
theorem dX1_part3_101 : decode cX1_part3 101 = .ok (.invokevirtual 365, 3) := by decide +kernel
theorem dX1_part3_104 : decode cX1_part3 104 = .ok (.aload_n 0, 1) := by decide +kernel
theorem dX1_part3_105 : decode cX1_part3 105 = .ok (.iload_n 2, 1) := by decide +kernel
theorem dX1_part3_106 : decode cX1_part3 106 = .ok (.invokevirtual 368, 3) := by decide +kernel
theorem dX1_part3_109 : decode cX1_part3 109 = .ok (.return_, 1) := by decide +kernel
noncomputable def C_X1_part3_L34 (l : Launch) (δ : Dl) : Seg (l, δ, yX1_part3, 11, none, cX1_part3, 7) 34 97 :=
  seq (p := 34) (q := 36) (r := 97) (p_iload 5 dX1_part3_34) (seq (p := 36) (q := 37) (r := 97) (p_aload_n 0 dX1_part3_36) (seq (p := 37) (q := 40) (r := 97) (p_get [(1, 0)] (alL1 fl_X1_7_1) dX1_part3_37) (seq (p := 40) (q := 41) (r := 97) (p_aload_n 0 dX1_part3_40) (seq (p := 41) (q := 44) (r := 97) (p_get [(1, 6)] (alL1 fl_X1_166_1) dX1_part3_41) (seq (p := 44) (q := 45) (r := 97) (p_iald dX1_part3_44) (seq (p := 45) (q := 48) (r := 97) (p_icmp_ge 97 dX1_part3_45 (by decide)) (seq (p := 48) (q := 49) (r := 97) (p_aload_n 0 dX1_part3_48) (seq (p := 49) (q := 52) (r := 97) (p_get [(1, 23)] (alL1 fl_X1_234_1) dX1_part3_49) (seq (p := 52) (q := 54) (r := 97) (p_istore 6 dX1_part3_52 (Nat.le_of_ble_eq_true rfl)) (seq (p := 54) (q := 55) (r := 97) (p_aload_n 0 dX1_part3_54) (seq (p := 55) (q := 56) (r := 97) (p_iload_n 2 dX1_part3_55) (seq (p := 56) (q := 58) (r := 97) (p_bipush 10 dX1_part3_56 (by decide)) (seq (p := 58) (q := 59) (r := 97) (p_irem dX1_part3_58) (seq (p := 59) (q := 61) (r := 97) (p_iload 5 dX1_part3_59) (seq (p := 61) (q := 64) (r := 97) (p_callV 1 cv_X1_175 hcR1 (M_X1_add l δ) (Nat.le_of_ble_eq_true rfl) dX1_part3_61) (seq (p := 64) (q := 65) (r := 97) (p_aload_n 0 dX1_part3_64) (seq (p := 65) (q := 68) (r := 97) (p_callV 1 cv_X1_374 hcR1 (M_X1_part2 l δ) (Nat.le_of_ble_eq_true rfl) dX1_part3_65) (seq (p := 68) (q := 69) (r := 97) (p_aload_n 0 dX1_part3_68) (seq (p := 69) (q := 70) (r := 97) (p_dup dX1_part3_69) (seq (p := 70) (q := 73) (r := 97) (p_get [(1, 7)] (alL1 fl_X1_169_1) dX1_part3_70) (seq (p := 73) (q := 74) (r := 97) (p_iconst 1 dX1_part3_73) (seq (p := 74) (q := 75) (r := 97) (p_isub dX1_part3_74) (seq (p := 75) (q := 78) (r := 97) (p_put [(1, 7)] .int (alP1 fp_X1_169_1) dX1_part3_75) (seq (p := 78) (q := 79) (r := 97) (p_aload_n 0 dX1_part3_78) (seq (p := 79) (q := 80) (r := 97) (p_iload_n 3 dX1_part3_79) (seq (p := 80) (q := 81) (r := 97) (p_iconst 1 dX1_part3_80) (seq (p := 81) (q := 82) (r := 97) (p_iadd dX1_part3_81) (seq (p := 82) (q := 84) (r := 97) (p_iload 6 dX1_part3_82) (seq (p := 84) (q := 86) (r := 97) (p_iload 4 dX1_part3_84) (seq (p := 86) (q := 89) (r := 97) (p_callV 1 cv_X1_362 hcR1 (M_X1_keepUnlike l δ) (Nat.le_of_ble_eq_true rfl) dX1_part3_86) (seq (p := 89) (q := 91) (r := 97) (p_istore 4 dX1_part3_89 (Nat.le_of_ble_eq_true rfl)) (seq (p := 91) (q := 94) (r := 97) (p_iinc 5 1 dX1_part3_91 (Nat.le_of_ble_eq_true rfl)) (seq (p := 94) (q := 94) (r := 97) (er [true, false, true, true, true, true, false]) (seq (p := 94) (q := 97) (r := 97) (p_goto 34 dX1_part3_94 (by decide)) done))))))))))))))))))))))))))))))))))
noncomputable def B_X1_part3_L34 (l : Launch) (δ : Dl) : Seg (l, δ, yX1_part3, 11, none, cX1_part3, 7) 34 97 := C_X1_part3_L34 l δ
theorem L_X1_part3_34 {l : Launch} {δ : Dl} {st : Stk} {L : Lc} {s : St} : (B_X1_part3_L34 l δ).1 st L s = (C_X1_part3_L34 l δ).1 st L s := nrfl rfl
noncomputable def B_X1_part3 (l : Launch) (δ : Dl) : Seg (l, δ, yX1_part3, 11, none, cX1_part3, 7) 0 110 :=
  seq (p := 0) (q := 1) (r := 110) (p_aload_n 0 dX1_part3_0) (seq (p := 1) (q := 2) (r := 110) (p_iconst 3 dX1_part3_1) (seq (p := 2) (q := 5) (r := 110) (p_callV 1 cv_X1_204 hcR1 (M_X1_least l δ) (Nat.le_of_ble_eq_true rfl) dX1_part3_2) (seq (p := 5) (q := 6) (r := 110) (p_istore_n 1 dX1_part3_5 (Nat.le_of_ble_eq_true rfl)) (seq (p := 6) (q := 7) (r := 110) (p_iload_n 1 dX1_part3_6) (seq (p := 7) (q := 8) (r := 110) (p_iconst 3 dX1_part3_7) (seq (p := 8) (q := 16) (r := 110) (blk (seq (p := 8) (q := 11) (r := 16) (p_icmp_ge 16 dX1_part3_8 (by decide)) (seq (p := 11) (q := 12) (r := 16) (p_aload_n 0 dX1_part3_11) (seq (p := 12) (q := 15) (r := 16) (p_callV 1 cv_X1_374 hcR1 (M_X1_part2 l δ) (Nat.le_of_ble_eq_true rfl) dX1_part3_12) (seq (p := 15) (q := 16) (r := 16) (p_return dX1_part3_15 rfl) done))))) (seq (p := 16) (q := 17) (r := 110) (p_aload_n 0 dX1_part3_16) (seq (p := 17) (q := 18) (r := 110) (p_iconst 3 dX1_part3_17) (seq (p := 18) (q := 21) (r := 110) (p_callV 1 cv_X1_356 hcR1 (M_X1_winning l δ) (Nat.le_of_ble_eq_true rfl) dX1_part3_18) (seq (p := 21) (q := 22) (r := 110) (p_istore_n 2 dX1_part3_21 (Nat.le_of_ble_eq_true rfl)) (seq (p := 22) (q := 23) (r := 110) (p_aload_n 0 dX1_part3_22) (seq (p := 23) (q := 24) (r := 110) (p_iload_n 2 dX1_part3_23) (seq (p := 24) (q := 27) (r := 110) (p_callV 1 cv_X1_359 hcR1 (M_X1_beginPick l δ) (Nat.le_of_ble_eq_true rfl) dX1_part3_24) (seq (p := 27) (q := 28) (r := 110) (p_istore_n 3 dX1_part3_27 (Nat.le_of_ble_eq_true rfl)) (seq (p := 28) (q := 29) (r := 110) (p_iconst 0 dX1_part3_28) (seq (p := 29) (q := 31) (r := 110) (p_istore 4 dX1_part3_29 (Nat.le_of_ble_eq_true rfl)) (seq (p := 31) (q := 32) (r := 110) (p_iconst 0 dX1_part3_31) (seq (p := 32) (q := 34) (r := 110) (p_istore 5 dX1_part3_32 (Nat.le_of_ble_eq_true rfl)) (seq (p := 34) (q := 97) (r := 110) (blk (seq (p := 34) (q := 34) (r := 97) (er [true, false, true, true, true, true, false]) (seq (p := 34) (q := 97) (r := 97) (lp (B_X1_part3_L34 l δ)) done))) (seq (p := 97) (q := 98) (r := 110) (p_aload_n 0 dX1_part3_97) (seq (p := 98) (q := 99) (r := 110) (p_iload_n 3 dX1_part3_98) (seq (p := 99) (q := 101) (r := 110) (p_iload 4 dX1_part3_99) (seq (p := 101) (q := 104) (r := 110) (p_callV 1 cv_X1_365 hcR1 (M_X1_closeParts l δ) (Nat.le_of_ble_eq_true rfl) dX1_part3_101) (seq (p := 104) (q := 105) (r := 110) (p_aload_n 0 dX1_part3_104) (seq (p := 105) (q := 106) (r := 110) (p_iload_n 2 dX1_part3_105) (seq (p := 106) (q := 109) (r := 110) (p_callV 1 cv_X1_368 hcR1 (M_X1_endPick l δ) (Nat.le_of_ble_eq_true rfl) dX1_part3_106) (seq (p := 109) (q := 110) (r := 110) (p_return dX1_part3_109 rfl) done)))))))))))))))))))))))))))
noncomputable def M_X1_part3 (l : Launch) (δ : Dl) : Mth l δ yX1_part3 cX1_part3 7 none 11 := mk (B_X1_part3 l δ) (by decide)
theorem N_X1_part3 {l : Launch} {δ : Dl} {o : Nat} {s : St} : (M_X1_part3 l δ).1 [.inr (.inr (some o))] s = bres ((B_X1_part3 l δ).1 [] [some (.inr (.inr (some o))), none, none, none, none, none, none] s) := (mk_eq (hy := by decide) rfl).trans (nrfl rfl)
theorem dX1_part_0 : decode cX1_part 0 = .ok (.aload_n 0, 1) := by decide +kernel
theorem dX1_part_1 : decode cX1_part 1 = .ok (.iload_n 1, 1) := by decide +kernel
theorem dX1_part_2 : decode cX1_part 2 = .ok (.invokevirtual 141, 3) := by decide +kernel
theorem dX1_part_5 : decode cX1_part 5 = .ok (.ifCond .ne 11, 3) := by decide +kernel
theorem dX1_part_8 : decode cX1_part 8 = .ok (.aload_n 0, 1) := by decide +kernel
theorem dX1_part_9 : decode cX1_part 9 = .ok (.iload_n 2, 1) := by decide +kernel
theorem dX1_part_10 : decode cX1_part 10 = .ok (.invokevirtual 141, 3) := by decide +kernel
theorem dX1_part_13 : decode cX1_part 13 = .ok (.ifCond .eq 5, 3) := by decide +kernel
theorem dX1_part_16 : decode cX1_part 16 = .ok (.iconst (-1), 1) := by decide +kernel
theorem dX1_part_17 : decode cX1_part 17 = .ok (.ireturn, 1) := by decide +kernel
theorem dX1_part_18 : decode cX1_part 18 = .ok (.aload_n 0, 1) := by decide +kernel
theorem dX1_part_19 : decode cX1_part 19 = .ok (.iload_n 1, 1) := by decide +kernel
theorem dX1_part_20 : decode cX1_part 20 = .ok (.iload_n 2, 1) := by decide +kernel
theorem dX1_part_21 : decode cX1_part 21 = .ok (.invokevirtual 198, 3) := by decide +kernel
theorem dX1_part_24 : decode cX1_part 24 = .ok (.aload_n 0, 1) := by decide +kernel
theorem dX1_part_25 : decode cX1_part 25 = .ok (.iconst 3, 1) := by decide +kernel
theorem dX1_part_26 : decode cX1_part 26 = .ok (.invokevirtual 204, 3) := by decide +kernel
theorem dX1_part_29 : decode cX1_part 29 = .ok (.ifCond .ge 6, 3) := by decide +kernel
theorem dX1_part_32 : decode cX1_part 32 = .ok (.bipush (-9), 2) := by decide +kernel
theorem dX1_part_34 : decode cX1_part 34 = .ok (.ireturn, 1) := by decide +kernel
theorem dX1_part_35 : decode cX1_part 35 = .ok (.aload_n 0, 1) := by decide +kernel
theorem dX1_part_36 : decode cX1_part 36 = .ok (.getfield 290, 3) := by decide +kernel
theorem dX1_part_39 : decode cX1_part 39 = .ok (.bipush 20, 2) := by decide +kernel
theorem dX1_part_41 : decode cX1_part 41 = .ok (.if_icmp .ne 6, 3) := by decide +kernel
theorem dX1_part_44 : decode cX1_part 44 = .ok (.bipush (-4), 2) := by decide +kernel
theorem dX1_part_46 : decode cX1_part 46 = .ok (.ireturn, 1) := by decide +kernel
theorem dX1_part_47 : decode cX1_part 47 = .ok (.aload_n 0, 1) := by decide +kernel
theorem dX1_part_48 : decode cX1_part 48 = .ok (.iconst 0, 1) := by decide +kernel
theorem dX1_part_49 : decode cX1_part 49 = .ok (.putfield 234, 3) := by decide +kernel
theorem dX1_part_52 : decode cX1_part 52 = .ok (.aload_n 0, 1) := by decide +kernel
theorem dX1_part_53 : decode cX1_part 53 = .ok (.invokevirtual 377, 3) := by decide +kernel
theorem dX1_part_56 : decode cX1_part 56 = .ok (.aload_n 0, 1) := by decide +kernel
theorem dX1_part_57 : decode cX1_part 57 = .ok (.invokevirtual 299, 3) := by decide +kernel
theorem dX1_part_60 : decode cX1_part 60 = .ok (.ireturn, 1) := by decide +kernel
noncomputable def B_X1_part (l : Launch) (δ : Dl) : Seg (l, δ, yX1_part, 12, (some .int), cX1_part, 3) 0 61 :=
  seq (p := 0) (q := 1) (r := 61) (p_aload_n 0 dX1_part_0) (seq (p := 1) (q := 2) (r := 61) (p_iload_n 1 dX1_part_1) (seq (p := 2) (q := 5) (r := 61) (p_callV 1 cv_X1_141 hcR1 (M_X1_noWorld l δ) (Nat.le_of_ble_eq_true rfl) dX1_part_2) (seq (p := 5) (q := 18) (r := 61) (blk (seq (p := 5) (q := 16) (r := 18) (blk (seq (p := 5) (q := 8) (r := 16) (p_if_ne 16 dX1_part_5 (by decide)) (seq (p := 8) (q := 9) (r := 16) (p_aload_n 0 dX1_part_8) (seq (p := 9) (q := 10) (r := 16) (p_iload_n 2 dX1_part_9) (seq (p := 10) (q := 13) (r := 16) (p_callV 1 cv_X1_141 hcR1 (M_X1_noWorld l δ) (Nat.le_of_ble_eq_true rfl) dX1_part_10) (seq (p := 13) (q := 16) (r := 16) (p_if_eq 18 dX1_part_13 (by decide)) done)))))) (seq (p := 16) (q := 17) (r := 18) (p_iconst (-1) dX1_part_16) (seq (p := 17) (q := 18) (r := 18) (p_ireturn dX1_part_17 rfl) done)))) (seq (p := 18) (q := 19) (r := 61) (p_aload_n 0 dX1_part_18) (seq (p := 19) (q := 20) (r := 61) (p_iload_n 1 dX1_part_19) (seq (p := 20) (q := 21) (r := 61) (p_iload_n 2 dX1_part_20) (seq (p := 21) (q := 24) (r := 61) (p_callV 1 cv_X1_198 hcR1 (M_X1_begin l δ) (Nat.le_of_ble_eq_true rfl) dX1_part_21) (seq (p := 24) (q := 25) (r := 61) (p_aload_n 0 dX1_part_24) (seq (p := 25) (q := 26) (r := 61) (p_iconst 3 dX1_part_25) (seq (p := 26) (q := 29) (r := 61) (p_callV 1 cv_X1_204 hcR1 (M_X1_least l δ) (Nat.le_of_ble_eq_true rfl) dX1_part_26) (seq (p := 29) (q := 35) (r := 61) (blk (seq (p := 29) (q := 32) (r := 35) (p_if_ge 35 dX1_part_29 (by decide)) (seq (p := 32) (q := 34) (r := 35) (p_bipush (-9) dX1_part_32 (by decide)) (seq (p := 34) (q := 35) (r := 35) (p_ireturn dX1_part_34 rfl) done)))) (seq (p := 35) (q := 36) (r := 61) (p_aload_n 0 dX1_part_35) (seq (p := 36) (q := 39) (r := 61) (p_get [(1, 17)] (alL1 fl_X1_290_1) dX1_part_36) (seq (p := 39) (q := 41) (r := 61) (p_bipush 20 dX1_part_39 (by decide)) (seq (p := 41) (q := 47) (r := 61) (blk (seq (p := 41) (q := 44) (r := 47) (p_icmp_ne 47 dX1_part_41 (by decide)) (seq (p := 44) (q := 46) (r := 47) (p_bipush (-4) dX1_part_44 (by decide)) (seq (p := 46) (q := 47) (r := 47) (p_ireturn dX1_part_46 rfl) done)))) (seq (p := 47) (q := 48) (r := 61) (p_aload_n 0 dX1_part_47) (seq (p := 48) (q := 49) (r := 61) (p_iconst 0 dX1_part_48) (seq (p := 49) (q := 52) (r := 61) (p_put [(1, 23)] .int (alP1 fp_X1_234_1) dX1_part_49) (seq (p := 52) (q := 53) (r := 61) (p_aload_n 0 dX1_part_52) (seq (p := 53) (q := 56) (r := 61) (p_callV 1 cv_X1_377 hcR1 (M_X1_part3 l δ) (Nat.le_of_ble_eq_true rfl) dX1_part_53) (seq (p := 56) (q := 57) (r := 61) (p_aload_n 0 dX1_part_56) (seq (p := 57) (q := 60) (r := 61) (p_callV 1 cv_X1_299 hcR1 (M_X1_keep l δ) (Nat.le_of_ble_eq_true rfl) dX1_part_57) (seq (p := 60) (q := 61) (r := 61) (p_ireturn dX1_part_60 rfl) done)))))))))))))))))))))))
noncomputable def M_X1_part (l : Launch) (δ : Dl) : Mth l δ yX1_part cX1_part 3 (some .int) 12 := mk (B_X1_part l δ) (by decide)
theorem N_X1_part {l : Launch} {δ : Dl} {o : Nat} {a1 : Int} {a2 : Int} {s : St} : (M_X1_part l δ).1 [.inr (.inr (some o)), .inl a1, .inl a2] s = bres ((B_X1_part l δ).1 [] [some (.inr (.inr (some o))), some (.inl a1), some (.inl a2)] s) := (mk_eq (hy := by decide) rfl).trans (nrfl rfl)
theorem dX1_kinds_0 : decode cX1_kinds 0 = .ok (.aload_n 0, 1) := by decide +kernel
theorem dX1_kinds_1 : decode cX1_kinds 1 = .ok (.iload_n 1, 1) := by decide +kernel
theorem dX1_kinds_2 : decode cX1_kinds 2 = .ok (.invokevirtual 141, 3) := by decide +kernel
theorem dX1_kinds_5 : decode cX1_kinds 5 = .ok (.ifCond .ne 11, 3) := by decide +kernel
theorem dX1_kinds_8 : decode cX1_kinds 8 = .ok (.aload_n 0, 1) := by decide +kernel
theorem dX1_kinds_9 : decode cX1_kinds 9 = .ok (.iload_n 2, 1) := by decide +kernel
theorem dX1_kinds_10 : decode cX1_kinds 10 = .ok (.invokevirtual 141, 3) := by decide +kernel
theorem dX1_kinds_13 : decode cX1_kinds 13 = .ok (.ifCond .eq 5, 3) := by decide +kernel
theorem dX1_kinds_16 : decode cX1_kinds 16 = .ok (.iconst (-1), 1) := by decide +kernel
theorem dX1_kinds_17 : decode cX1_kinds 17 = .ok (.ireturn, 1) := by decide +kernel
theorem dX1_kinds_18 : decode cX1_kinds 18 = .ok (.iload_n 3, 1) := by decide +kernel
theorem dX1_kinds_19 : decode cX1_kinds 19 = .ok (.iconst 0, 1) := by decide +kernel
theorem dX1_kinds_20 : decode cX1_kinds 20 = .ok (.iconst 2, 1) := by decide +kernel
theorem dX1_kinds_21 : decode cX1_kinds 21 = .ok (.invokestatic 133, 3) := by decide +kernel
theorem dX1_kinds_24 : decode cX1_kinds 24 = .ok (.ifCond .ne 6, 3) := by decide +kernel
theorem dX1_kinds_27 : decode cX1_kinds 27 = .ok (.bipush (-2), 2) := by decide +kernel
theorem dX1_kinds_29 : decode cX1_kinds 29 = .ok (.ireturn, 1) := by decide +kernel
theorem dX1_kinds_30 : decode cX1_kinds 30 = .ok (.aload_n 0, 1) := by decide +kernel
theorem dX1_kinds_31 : decode cX1_kinds 31 = .ok (.aload_n 0, 1) := by decide +kernel
theorem dX1_kinds_32 : decode cX1_kinds 32 = .ok (.getfield 7, 3) := by decide +kernel
theorem dX1_kinds_35 : decode cX1_kinds 35 = .ok (.iload_n 1, 1) := by decide +kernel
theorem dX1_kinds_36 : decode cX1_kinds 36 = .ok (.iaload, 1) := by decide +kernel
theorem dX1_kinds_37 : decode cX1_kinds 37 = .ok (.aload_n 0, 1) := by decide +kernel
theorem dX1_kinds_38 : decode cX1_kinds 38 = .ok (.getfield 7, 3) := by decide +kernel
theorem dX1_kinds_41 : decode cX1_kinds 41 = .ok (.iload_n 2, 1) := by decide +kernel
theorem dX1_kinds_42 : decode cX1_kinds 42 = .ok (.iaload, 1) := by decide +kernel
theorem dX1_kinds_43 : decode cX1_kinds 43 = .ok (.iadd, 1) := by decide +kernel
theorem dX1_kinds_44 : decode cX1_kinds 44 = .ok (.putfield 380, 3) := by decide +kernel
theorem dX1_kinds_47 : decode cX1_kinds 47 = .ok (.iconst 0, 1) := by decide +kernel
theorem dX1_kinds_48 : decode cX1_kinds 48 = .ok (.istore 4, 2) := by decide +kernel
theorem dX1_kinds_50 : decode cX1_kinds 50 = .ok (.iconst 0, 1) := by decide +kernel
theorem dX1_kinds_51 : decode cX1_kinds 51 = .ok (.istore 5, 2) := by decide +kernel
theorem dX1_kinds_53 : decode cX1_kinds 53 = .ok (.iload 5, 2) := by decide +kernel
theorem dX1_kinds_55 : decode cX1_kinds 55 = .ok (.aload_n 0, 1) := by decide +kernel
theorem dX1_kinds_56 : decode cX1_kinds 56 = .ok (.getfield 380, 3) := by decide +kernel
theorem dX1_kinds_59 : decode cX1_kinds 59 = .ok (.if_icmp .ge 178, 3) := by decide +kernel
theorem dX1_kinds_62 : decode cX1_kinds 62 = .ok (.iconst (-1), 1) := by decide +kernel
theorem dX1_kinds_63 : decode cX1_kinds 63 = .ok (.istore 6, 2) := by decide +kernel
theorem dX1_kinds_65 : decode cX1_kinds 65 = .ok (.iconst 0, 1) := by decide +kernel
theorem dX1_kinds_66 : decode cX1_kinds 66 = .ok (.istore 7, 2) := by decide +kernel
theorem dX1_kinds_68 : decode cX1_kinds 68 = .ok (.iload 7, 2) := by decide +kernel
theorem dX1_kinds_70 : decode cX1_kinds 70 = .ok (.iload 4, 2) := by decide +kernel
theorem dX1_kinds_72 : decode cX1_kinds 72 = .ok (.if_icmp .ge 129, 3) := by decide +kernel
theorem dX1_kinds_75 : decode cX1_kinds 75 = .ok (.iload 6, 2) := by decide +kernel
theorem dX1_kinds_77 : decode cX1_kinds 77 = .ok (.ifCond .ge 124, 3) := by decide +kernel
theorem dX1_kinds_80 : decode cX1_kinds 80 = .ok (.aload_n 0, 1) := by decide +kernel
theorem dX1_kinds_81 : decode cX1_kinds 81 = .ok (.getfield 95, 3) := by decide +kernel
theorem dX1_kinds_84 : decode cX1_kinds 84 = .ok (.iload 7, 2) := by decide +kernel
theorem dX1_kinds_86 : decode cX1_kinds 86 = .ok (.iaload, 1) := by decide +kernel
theorem dX1_kinds_87 : decode cX1_kinds 87 = .ok (.istore 8, 2) := by decide +kernel
theorem dX1_kinds_89 : decode cX1_kinds 89 = .ok (.aload_n 0, 1) := by decide +kernel
theorem dX1_kinds_90 : decode cX1_kinds 90 = .ok (.iload 8, 2) := by decide +kernel
theorem dX1_kinds_92 : decode cX1_kinds 92 = .ok (.aload_n 0, 1) := by decide +kernel
theorem dX1_kinds_93 : decode cX1_kinds 93 = .ok (.getfield 7, 3) := by decide +kernel
theorem dX1_kinds_96 : decode cX1_kinds 96 = .ok (.iload_n 1, 1) := by decide +kernel
theorem dX1_kinds_97 : decode cX1_kinds 97 = .ok (.iaload, 1) := by decide +kernel
theorem dX1_kinds_98 : decode cX1_kinds 98 = .ok (.if_icmp .ge 7, 3) := by decide +kernel
theorem dX1_kinds_101 : decode cX1_kinds 101 = .ok (.iload_n 1, 1) := by decide +kernel
theorem dX1_kinds_102 : decode cX1_kinds 102 = .ok (.goto 4, 3) := by decide +kernel
theorem dX1_kinds_105 : decode cX1_kinds 105 = .ok (.iload_n 2, 1) := by decide +kernel
theorem dX1_kinds_106 : decode cX1_kinds 106 = .ok (.iload 5, 2) := by decide +kernel
theorem dX1_kinds_108 : decode cX1_kinds 108 = .ok (.aload_n 0, 1) := by decide +kernel
theorem dX1_kinds_109 : decode cX1_kinds 109 = .ok (.getfield 7, 3) := by decide +kernel
theorem dX1_kinds_112 : decode cX1_kinds 112 = .ok (.iload_n 1, 1) := by decide +kernel
theorem dX1_kinds_113 : decode cX1_kinds 113 = .ok (.iaload, 1) := by decide +kernel
theorem dX1_kinds_114 : decode cX1_kinds 114 = .ok (.if_icmp .ge 7, 3) := by decide +kernel
theorem dX1_kinds_117 : decode cX1_kinds 117 = .ok (.iload_n 1, 1) := by decide +kernel
theorem dX1_kinds_118 : decode cX1_kinds 118 = .ok (.goto 4, 3) := by decide +kernel
theorem dX1_kinds_121 : decode cX1_kinds 121 = .ok (.iload_n 2, 1) := by decide +kernel
theorem dX1_kinds_122 : decode cX1_kinds 122 = .ok (.invokevirtual 198, 3) := by decide +kernel
theorem dX1_kinds_125 : decode cX1_kinds 125 = .ok (.aload_n 0, 1) := by decide +kernel
theorem dX1_kinds_126 : decode cX1_kinds 126 = .ok (.iload 8, 2) := by decide +kernel
theorem dX1_kinds_128 : decode cX1_kinds 128 = .ok (.aload_n 0, 1) := by decide +kernel
theorem dX1_kinds_129 : decode cX1_kinds 129 = .ok (.getfield 7, 3) := by decide +kernel
theorem dX1_kinds_132 : decode cX1_kinds 132 = .ok (.iload_n 1, 1) := by decide +kernel
theorem dX1_kinds_133 : decode cX1_kinds 133 = .ok (.iaload, 1) := by decide +kernel
theorem dX1_kinds_134 : decode cX1_kinds 134 = .ok (.if_icmp .ge 8, 3) := by decide +kernel
theorem dX1_kinds_137 : decode cX1_kinds 137 = .ok (.iload 8, 2) := by decide +kernel
theorem dX1_kinds_139 : decode cX1_kinds 139 = .ok (.goto 12, 3) := by decide +kernel
theorem dX1_kinds_142 : decode cX1_kinds 142 = .ok (.iload 8, 2) := by decide +kernel
theorem dX1_kinds_144 : decode cX1_kinds 144 = .ok (.aload_n 0, 1) := by decide +kernel
theorem dX1_kinds_145 : decode cX1_kinds 145 = .ok (.getfield 7, 3) := by decide +kernel
theorem dX1_kinds_148 : decode cX1_kinds 148 = .ok (.iload_n 1, 1) := by decide +kernel
theorem dX1_kinds_149 : decode cX1_kinds 149 = .ok (.iaload, 1) := by decide +kernel
theorem dX1_kinds_150 : decode cX1_kinds 150 = .ok (.isub, 1) := by decide +kernel
theorem dX1_kinds_151 : decode cX1_kinds 151 = .ok (.iload 5, 2) := by decide +kernel
theorem dX1_kinds_153 : decode cX1_kinds 153 = .ok (.aload_n 0, 1) := by decide +kernel
theorem dX1_kinds_154 : decode cX1_kinds 154 = .ok (.getfield 7, 3) := by decide +kernel
theorem dX1_kinds_157 : decode cX1_kinds 157 = .ok (.iload_n 1, 1) := by decide +kernel
theorem dX1_kinds_158 : decode cX1_kinds 158 = .ok (.iaload, 1) := by decide +kernel
theorem dX1_kinds_159 : decode cX1_kinds 159 = .ok (.if_icmp .ge 8, 3) := by decide +kernel
theorem dX1_kinds_162 : decode cX1_kinds 162 = .ok (.iload 5, 2) := by decide +kernel
theorem dX1_kinds_164 : decode cX1_kinds 164 = .ok (.goto 12, 3) := by decide +kernel
theorem dX1_kinds_167 : decode cX1_kinds 167 = .ok (.iload 5, 2) := by decide +kernel
theorem dX1_kinds_169 : decode cX1_kinds 169 = .ok (.aload_n 0, 1) := by decide +kernel
theorem dX1_kinds_170 : decode cX1_kinds 170 = .ok (.getfield 7, 3) := by decide +kernel
theorem dX1_kinds_173 : decode cX1_kinds 173 = .ok (.iload_n 1, 1) := by decide +kernel
theorem dX1_kinds_174 : decode cX1_kinds 174 = .ok (.iaload, 1) := by decide +kernel
theorem dX1_kinds_175 : decode cX1_kinds 175 = .ok (.isub, 1) := by decide +kernel
theorem dX1_kinds_176 : decode cX1_kinds 176 = .ok (.invokevirtual 175, 3) := by decide +kernel
theorem dX1_kinds_179 : decode cX1_kinds 179 = .ok (.aload_n 0, 1) := by decide +kernel
theorem dX1_kinds_180 : decode cX1_kinds 180 = .ok (.iload_n 3, 1) := by decide +kernel
theorem dX1_kinds_181 : decode cX1_kinds 181 = .ok (.invokevirtual 201, 3) := by decide +kernel
theorem dX1_kinds_184 : decode cX1_kinds 184 = .ok (.ifCond .eq 8, 3) := by decide +kernel
theorem dX1_kinds_187 : decode cX1_kinds 187 = .ok (.iload 7, 2) := by decide +kernel
theorem dX1_kinds_189 : decode cX1_kinds 189 = .ok (.goto 4, 3) := by decide +kernel
theorem dX1_kinds_192 : decode cX1_kinds 192 = .ok (.iconst (-1), 1) := by decide +kernel
theorem dX1_kinds_193 : decode cX1_kinds 193 = .ok (.istore 6, 2) := by decide +kernel
theorem dX1_kinds_195 : decode cX1_kinds 195 = .ok (.iinc 7 1, 3) := by decide +kernel
theorem dX1_kinds_198 : decode cX1_kinds 198 = .ok (.goto (-130), 3) := by decide +kernel
theorem dX1_kinds_201 : decode cX1_kinds 201 = .ok (.iload 6, 2) := by decide +kernel
theorem dX1_kinds_203 : decode cX1_kinds 203 = .ok (.ifCond .ge 19, 3) := by decide +kernel
theorem dX1_kinds_206 : decode cX1_kinds 206 = .ok (.iload 4, 2) := by decide +kernel
theorem dX1_kinds_208 : decode cX1_kinds 208 = .ok (.istore 6, 2) := by decide +kernel
theorem dX1_kinds_210 : decode cX1_kinds 210 = .ok (.aload_n 0, 1) := by decide +kernel
theorem dX1_kinds_211 : decode cX1_kinds 211 = .ok (.getfield 95, 3) := by decide +kernel
theorem dX1_kinds_214 : decode cX1_kinds 214 = .ok (.iload 4, 2) := by decide +kernel
theorem dX1_kinds_216 : decode cX1_kinds 216 = .ok (.iload 5, 2) := by decide +kernel
theorem dX1_kinds_218 : decode cX1_kinds 218 = .ok (.iastore, 1) := by decide +kernel
theorem dX1_kinds_219 : decode cX1_kinds 219 = .ok (.iinc 4 1, 3) := by decide +kernel
theorem dX1_kinds_222 : decode cX1_kinds 222 = .ok (.aload_n 0, 1) := by decide +kernel
theorem dX1_kinds_223 : decode cX1_kinds 223 = .ok (.getfield 92, 3) := by decide +kernel
theorem dX1_kinds_226 : decode cX1_kinds 226 = .ok (.iload 5, 2) := by decide +kernel
theorem dX1_kinds_228 : decode cX1_kinds 228 = .ok (.iload 6, 2) := by decide +kernel
theorem dX1_kinds_230 : decode cX1_kinds 230 = .ok (.iastore, 1) := by decide +kernel
theorem dX1_kinds_231 : decode cX1_kinds 231 = .ok (.iinc 5 1, 3) := by decide +kernel
theorem dX1_kinds_234 : decode cX1_kinds 234 = .ok (.goto (-181), 3) := by decide +kernel
theorem dX1_kinds_237 : decode cX1_kinds 237 = .ok (.iload 4, 2) := by decide +kernel
theorem dX1_kinds_239 : decode cX1_kinds 239 = .ok (.ireturn, 1) := by decide +kernel
noncomputable def C_X1_kinds_L68 (l : Launch) (δ : Dl) : Seg (l, δ, yX1_kinds, 7, (some .int), cX1_kinds, 9) 68 201 :=
  seq (p := 68) (q := 70) (r := 201) (p_iload 7 dX1_kinds_68) (seq (p := 70) (q := 72) (r := 201) (p_iload 4 dX1_kinds_70) (seq (p := 72) (q := 75) (r := 201) (p_icmp_ge 201 dX1_kinds_72 (by decide)) (seq (p := 75) (q := 77) (r := 201) (p_iload 6 dX1_kinds_75) (seq (p := 77) (q := 80) (r := 201) (p_if_ge 201 dX1_kinds_77 (by decide)) (seq (p := 80) (q := 81) (r := 201) (p_aload_n 0 dX1_kinds_80) (seq (p := 81) (q := 84) (r := 201) (p_get [(1, 50)] (alL1 fl_X1_95_1) dX1_kinds_81) (seq (p := 84) (q := 86) (r := 201) (p_iload 7 dX1_kinds_84) (seq (p := 86) (q := 87) (r := 201) (p_iald dX1_kinds_86) (seq (p := 87) (q := 89) (r := 201) (p_istore 8 dX1_kinds_87 (Nat.le_of_ble_eq_true rfl)) (seq (p := 89) (q := 90) (r := 201) (p_aload_n 0 dX1_kinds_89) (seq (p := 90) (q := 92) (r := 201) (p_iload 8 dX1_kinds_90) (seq (p := 92) (q := 93) (r := 201) (p_aload_n 0 dX1_kinds_92) (seq (p := 93) (q := 96) (r := 201) (p_get [(1, 0)] (alL1 fl_X1_7_1) dX1_kinds_93) (seq (p := 96) (q := 97) (r := 201) (p_iload_n 1 dX1_kinds_96) (seq (p := 97) (q := 98) (r := 201) (p_iald dX1_kinds_97) (seq (p := 98) (q := 106) (r := 201) (blk (seq (p := 98) (q := 105) (r := 106) (blk (seq (p := 98) (q := 101) (r := 105) (p_icmp_ge 105 dX1_kinds_98 (by decide)) (seq (p := 101) (q := 102) (r := 105) (p_iload_n 1 dX1_kinds_101) (seq (p := 102) (q := 105) (r := 105) (p_goto 106 dX1_kinds_102 (by decide)) done)))) (seq (p := 105) (q := 106) (r := 106) (p_iload_n 2 dX1_kinds_105) done))) (seq (p := 106) (q := 108) (r := 201) (p_iload 5 dX1_kinds_106) (seq (p := 108) (q := 109) (r := 201) (p_aload_n 0 dX1_kinds_108) (seq (p := 109) (q := 112) (r := 201) (p_get [(1, 0)] (alL1 fl_X1_7_1) dX1_kinds_109) (seq (p := 112) (q := 113) (r := 201) (p_iload_n 1 dX1_kinds_112) (seq (p := 113) (q := 114) (r := 201) (p_iald dX1_kinds_113) (seq (p := 114) (q := 122) (r := 201) (blk (seq (p := 114) (q := 121) (r := 122) (blk (seq (p := 114) (q := 117) (r := 121) (p_icmp_ge 121 dX1_kinds_114 (by decide)) (seq (p := 117) (q := 118) (r := 121) (p_iload_n 1 dX1_kinds_117) (seq (p := 118) (q := 121) (r := 121) (p_goto 122 dX1_kinds_118 (by decide)) done)))) (seq (p := 121) (q := 122) (r := 122) (p_iload_n 2 dX1_kinds_121) done))) (seq (p := 122) (q := 125) (r := 201) (p_callV 1 cv_X1_198 hcR1 (M_X1_begin l δ) (Nat.le_of_ble_eq_true rfl) dX1_kinds_122) (seq (p := 125) (q := 126) (r := 201) (p_aload_n 0 dX1_kinds_125) (seq (p := 126) (q := 128) (r := 201) (p_iload 8 dX1_kinds_126) (seq (p := 128) (q := 129) (r := 201) (p_aload_n 0 dX1_kinds_128) (seq (p := 129) (q := 132) (r := 201) (p_get [(1, 0)] (alL1 fl_X1_7_1) dX1_kinds_129) (seq (p := 132) (q := 133) (r := 201) (p_iload_n 1 dX1_kinds_132) (seq (p := 133) (q := 134) (r := 201) (p_iald dX1_kinds_133) (seq (p := 134) (q := 151) (r := 201) (blk (seq (p := 134) (q := 142) (r := 151) (blk (seq (p := 134) (q := 137) (r := 142) (p_icmp_ge 142 dX1_kinds_134 (by decide)) (seq (p := 137) (q := 139) (r := 142) (p_iload 8 dX1_kinds_137) (seq (p := 139) (q := 142) (r := 142) (p_goto 151 dX1_kinds_139 (by decide)) done)))) (seq (p := 142) (q := 144) (r := 151) (p_iload 8 dX1_kinds_142) (seq (p := 144) (q := 145) (r := 151) (p_aload_n 0 dX1_kinds_144) (seq (p := 145) (q := 148) (r := 151) (p_get [(1, 0)] (alL1 fl_X1_7_1) dX1_kinds_145) (seq (p := 148) (q := 149) (r := 151) (p_iload_n 1 dX1_kinds_148) (seq (p := 149) (q := 150) (r := 151) (p_iald dX1_kinds_149) (seq (p := 150) (q := 151) (r := 151) (p_isub dX1_kinds_150) done)))))))) (seq (p := 151) (q := 153) (r := 201) (p_iload 5 dX1_kinds_151) (seq (p := 153) (q := 154) (r := 201) (p_aload_n 0 dX1_kinds_153) (seq (p := 154) (q := 157) (r := 201) (p_get [(1, 0)] (alL1 fl_X1_7_1) dX1_kinds_154) (seq (p := 157) (q := 158) (r := 201) (p_iload_n 1 dX1_kinds_157) (seq (p := 158) (q := 159) (r := 201) (p_iald dX1_kinds_158) (seq (p := 159) (q := 176) (r := 201) (blk (seq (p := 159) (q := 167) (r := 176) (blk (seq (p := 159) (q := 162) (r := 167) (p_icmp_ge 167 dX1_kinds_159 (by decide)) (seq (p := 162) (q := 164) (r := 167) (p_iload 5 dX1_kinds_162) (seq (p := 164) (q := 167) (r := 167) (p_goto 176 dX1_kinds_164 (by decide)) done)))) (seq (p := 167) (q := 169) (r := 176) (p_iload 5 dX1_kinds_167) (seq (p := 169) (q := 170) (r := 176) (p_aload_n 0 dX1_kinds_169) (seq (p := 170) (q := 173) (r := 176) (p_get [(1, 0)] (alL1 fl_X1_7_1) dX1_kinds_170) (seq (p := 173) (q := 174) (r := 176) (p_iload_n 1 dX1_kinds_173) (seq (p := 174) (q := 175) (r := 176) (p_iald dX1_kinds_174) (seq (p := 175) (q := 176) (r := 176) (p_isub dX1_kinds_175) done)))))))) (seq (p := 176) (q := 179) (r := 201) (p_callV 1 cv_X1_175 hcR1 (M_X1_add l δ) (Nat.le_of_ble_eq_true rfl) dX1_kinds_176) (seq (p := 179) (q := 180) (r := 201) (p_aload_n 0 dX1_kinds_179) (seq (p := 180) (q := 181) (r := 201) (p_iload_n 3 dX1_kinds_180) (seq (p := 181) (q := 184) (r := 201) (p_callV 1 cv_X1_201 hcR1 (M_X1_keeps l δ) (Nat.le_of_ble_eq_true rfl) dX1_kinds_181) (seq (p := 184) (q := 193) (r := 201) (blk (seq (p := 184) (q := 192) (r := 193) (blk (seq (p := 184) (q := 187) (r := 192) (p_if_eq 192 dX1_kinds_184 (by decide)) (seq (p := 187) (q := 189) (r := 192) (p_iload 7 dX1_kinds_187) (seq (p := 189) (q := 192) (r := 192) (p_goto 193 dX1_kinds_189 (by decide)) done)))) (seq (p := 192) (q := 193) (r := 193) (p_iconst (-1) dX1_kinds_192) done))) (seq (p := 193) (q := 195) (r := 201) (p_istore 6 dX1_kinds_193 (Nat.le_of_ble_eq_true rfl)) (seq (p := 195) (q := 198) (r := 201) (p_iinc 7 1 dX1_kinds_195 (Nat.le_of_ble_eq_true rfl)) (seq (p := 198) (q := 198) (r := 201) (er [true, true, true, true, true, true, true, true, false]) (seq (p := 198) (q := 201) (r := 201) (p_goto 68 dX1_kinds_198 (by decide)) done)))))))))))))))))))))))))))))))))))))))))))))
noncomputable def B_X1_kinds_L68 (l : Launch) (δ : Dl) : Seg (l, δ, yX1_kinds, 7, (some .int), cX1_kinds, 9) 68 201 := C_X1_kinds_L68 l δ
theorem L_X1_kinds_68 {l : Launch} {δ : Dl} {st : Stk} {L : Lc} {s : St} : (B_X1_kinds_L68 l δ).1 st L s = (C_X1_kinds_L68 l δ).1 st L s := nrfl rfl
noncomputable def C_X1_kinds_L53 (l : Launch) (δ : Dl) : Seg (l, δ, yX1_kinds, 7, (some .int), cX1_kinds, 9) 53 237 :=
  seq (p := 53) (q := 55) (r := 237) (p_iload 5 dX1_kinds_53) (seq (p := 55) (q := 56) (r := 237) (p_aload_n 0 dX1_kinds_55) (seq (p := 56) (q := 59) (r := 237) (p_get [(1, 48)] (alL1 fl_X1_380_1) dX1_kinds_56) (seq (p := 59) (q := 62) (r := 237) (p_icmp_ge 237 dX1_kinds_59 (by decide)) (seq (p := 62) (q := 63) (r := 237) (p_iconst (-1) dX1_kinds_62) (seq (p := 63) (q := 65) (r := 237) (p_istore 6 dX1_kinds_63 (Nat.le_of_ble_eq_true rfl)) (seq (p := 65) (q := 66) (r := 237) (p_iconst 0 dX1_kinds_65) (seq (p := 66) (q := 68) (r := 237) (p_istore 7 dX1_kinds_66 (Nat.le_of_ble_eq_true rfl)) (seq (p := 68) (q := 201) (r := 237) (blk (seq (p := 68) (q := 68) (r := 201) (er [true, true, true, true, true, true, true, true, false]) (seq (p := 68) (q := 201) (r := 201) (lp (B_X1_kinds_L68 l δ)) done))) (seq (p := 201) (q := 203) (r := 237) (p_iload 6 dX1_kinds_201) (seq (p := 203) (q := 222) (r := 237) (blk (seq (p := 203) (q := 206) (r := 222) (p_if_ge 222 dX1_kinds_203 (by decide)) (seq (p := 206) (q := 208) (r := 222) (p_iload 4 dX1_kinds_206) (seq (p := 208) (q := 210) (r := 222) (p_istore 6 dX1_kinds_208 (Nat.le_of_ble_eq_true rfl)) (seq (p := 210) (q := 211) (r := 222) (p_aload_n 0 dX1_kinds_210) (seq (p := 211) (q := 214) (r := 222) (p_get [(1, 50)] (alL1 fl_X1_95_1) dX1_kinds_211) (seq (p := 214) (q := 216) (r := 222) (p_iload 4 dX1_kinds_214) (seq (p := 216) (q := 218) (r := 222) (p_iload 5 dX1_kinds_216) (seq (p := 218) (q := 219) (r := 222) (p_iast dX1_kinds_218) (seq (p := 219) (q := 222) (r := 222) (p_iinc 4 1 dX1_kinds_219 (Nat.le_of_ble_eq_true rfl)) done)))))))))) (seq (p := 222) (q := 223) (r := 237) (p_aload_n 0 dX1_kinds_222) (seq (p := 223) (q := 226) (r := 237) (p_get [(1, 49)] (alL1 fl_X1_92_1) dX1_kinds_223) (seq (p := 226) (q := 228) (r := 237) (p_iload 5 dX1_kinds_226) (seq (p := 228) (q := 230) (r := 237) (p_iload 6 dX1_kinds_228) (seq (p := 230) (q := 231) (r := 237) (p_iast dX1_kinds_230) (seq (p := 231) (q := 234) (r := 237) (p_iinc 5 1 dX1_kinds_231 (Nat.le_of_ble_eq_true rfl)) (seq (p := 234) (q := 234) (r := 237) (er [true, true, true, true, true, true, false, false, false]) (seq (p := 234) (q := 237) (r := 237) (p_goto 53 dX1_kinds_234 (by decide)) done))))))))))))))))))
noncomputable def B_X1_kinds_L53 (l : Launch) (δ : Dl) : Seg (l, δ, yX1_kinds, 7, (some .int), cX1_kinds, 9) 53 237 := C_X1_kinds_L53 l δ
theorem L_X1_kinds_53 {l : Launch} {δ : Dl} {st : Stk} {L : Lc} {s : St} : (B_X1_kinds_L53 l δ).1 st L s = (C_X1_kinds_L53 l δ).1 st L s := nrfl rfl
noncomputable def B_X1_kinds (l : Launch) (δ : Dl) : Seg (l, δ, yX1_kinds, 7, (some .int), cX1_kinds, 9) 0 240 :=
  seq (p := 0) (q := 1) (r := 240) (p_aload_n 0 dX1_kinds_0) (seq (p := 1) (q := 2) (r := 240) (p_iload_n 1 dX1_kinds_1) (seq (p := 2) (q := 5) (r := 240) (p_callV 1 cv_X1_141 hcR1 (M_X1_noWorld l δ) (Nat.le_of_ble_eq_true rfl) dX1_kinds_2) (seq (p := 5) (q := 18) (r := 240) (blk (seq (p := 5) (q := 16) (r := 18) (blk (seq (p := 5) (q := 8) (r := 16) (p_if_ne 16 dX1_kinds_5 (by decide)) (seq (p := 8) (q := 9) (r := 16) (p_aload_n 0 dX1_kinds_8) (seq (p := 9) (q := 10) (r := 16) (p_iload_n 2 dX1_kinds_9) (seq (p := 10) (q := 13) (r := 16) (p_callV 1 cv_X1_141 hcR1 (M_X1_noWorld l δ) (Nat.le_of_ble_eq_true rfl) dX1_kinds_10) (seq (p := 13) (q := 16) (r := 16) (p_if_eq 18 dX1_kinds_13 (by decide)) done)))))) (seq (p := 16) (q := 17) (r := 18) (p_iconst (-1) dX1_kinds_16) (seq (p := 17) (q := 18) (r := 18) (p_ireturn dX1_kinds_17 rfl) done)))) (seq (p := 18) (q := 19) (r := 240) (p_iload_n 3 dX1_kinds_18) (seq (p := 19) (q := 20) (r := 240) (p_iconst 0 dX1_kinds_19) (seq (p := 20) (q := 21) (r := 240) (p_iconst 2 dX1_kinds_20) (seq (p := 21) (q := 24) (r := 240) (p_callS cs_X1_133 (M_X1_in l δ) (Nat.le_of_ble_eq_true rfl) dX1_kinds_21) (seq (p := 24) (q := 30) (r := 240) (blk (seq (p := 24) (q := 27) (r := 30) (p_if_ne 30 dX1_kinds_24 (by decide)) (seq (p := 27) (q := 29) (r := 30) (p_bipush (-2) dX1_kinds_27 (by decide)) (seq (p := 29) (q := 30) (r := 30) (p_ireturn dX1_kinds_29 rfl) done)))) (seq (p := 30) (q := 31) (r := 240) (p_aload_n 0 dX1_kinds_30) (seq (p := 31) (q := 32) (r := 240) (p_aload_n 0 dX1_kinds_31) (seq (p := 32) (q := 35) (r := 240) (p_get [(1, 0)] (alL1 fl_X1_7_1) dX1_kinds_32) (seq (p := 35) (q := 36) (r := 240) (p_iload_n 1 dX1_kinds_35) (seq (p := 36) (q := 37) (r := 240) (p_iald dX1_kinds_36) (seq (p := 37) (q := 38) (r := 240) (p_aload_n 0 dX1_kinds_37) (seq (p := 38) (q := 41) (r := 240) (p_get [(1, 0)] (alL1 fl_X1_7_1) dX1_kinds_38) (seq (p := 41) (q := 42) (r := 240) (p_iload_n 2 dX1_kinds_41) (seq (p := 42) (q := 43) (r := 240) (p_iald dX1_kinds_42) (seq (p := 43) (q := 44) (r := 240) (p_iadd dX1_kinds_43) (seq (p := 44) (q := 47) (r := 240) (p_put [(1, 48)] .int (alP1 fp_X1_380_1) dX1_kinds_44) (seq (p := 47) (q := 48) (r := 240) (p_iconst 0 dX1_kinds_47) (seq (p := 48) (q := 50) (r := 240) (p_istore 4 dX1_kinds_48 (Nat.le_of_ble_eq_true rfl)) (seq (p := 50) (q := 51) (r := 240) (p_iconst 0 dX1_kinds_50) (seq (p := 51) (q := 53) (r := 240) (p_istore 5 dX1_kinds_51 (Nat.le_of_ble_eq_true rfl)) (seq (p := 53) (q := 237) (r := 240) (blk (seq (p := 53) (q := 53) (r := 237) (er [true, true, true, true, true, true, false, false, false]) (seq (p := 53) (q := 237) (r := 237) (lp (B_X1_kinds_L53 l δ)) done))) (seq (p := 237) (q := 239) (r := 240) (p_iload 4 dX1_kinds_237) (seq (p := 239) (q := 240) (r := 240) (p_ireturn dX1_kinds_239 rfl) done))))))))))))))))))))))))))
noncomputable def M_X1_kinds (l : Launch) (δ : Dl) : Mth l δ yX1_kinds cX1_kinds 9 (some .int) 7 := mk (B_X1_kinds l δ) (by decide)
theorem N_X1_kinds {l : Launch} {δ : Dl} {o : Nat} {a1 : Int} {a2 : Int} {a3 : Int} {s : St} : (M_X1_kinds l δ).1 [.inr (.inr (some o)), .inl a1, .inl a2, .inl a3] s = bres ((B_X1_kinds l δ).1 [] [some (.inr (.inr (some o))), some (.inl a1), some (.inl a2), some (.inl a3), none, none, none, none, none] s) := (mk_eq (hy := by decide) rfl).trans (nrfl rfl)
theorem dX1_kind_0 : decode cX1_kind 0 = .ok (.iload_n 1, 1) := by decide +kernel
theorem dX1_kind_1 : decode cX1_kind 1 = .ok (.iconst 0, 1) := by decide +kernel
theorem dX1_kind_2 : decode cX1_kind 2 = .ok (.aload_n 0, 1) := by decide +kernel
theorem dX1_kind_3 : decode cX1_kind 3 = .ok (.getfield 380, 3) := by decide +kernel
theorem dX1_kind_6 : decode cX1_kind 6 = .ok (.iconst 1, 1) := by decide +kernel
theorem dX1_kind_7 : decode cX1_kind 7 = .ok (.isub, 1) := by decide +kernel
theorem dX1_kind_8 : decode cX1_kind 8 = .ok (.invokestatic 133, 3) := by decide +kernel
theorem dX1_kind_11 : decode cX1_kind 11 = .ok (.ifCond .eq 12, 3) := by decide +kernel
theorem dX1_kind_14 : decode cX1_kind 14 = .ok (.aload_n 0, 1) := by decide +kernel
theorem dX1_kind_15 : decode cX1_kind 15 = .ok (.getfield 92, 3) := by decide +kernel
theorem dX1_kind_18 : decode cX1_kind 18 = .ok (.iload_n 1, 1) := by decide +kernel
theorem dX1_kind_19 : decode cX1_kind 19 = .ok (.iaload, 1) := by decide +kernel
theorem dX1_kind_20 : decode cX1_kind 20 = .ok (.goto 4, 3) := by decide +kernel
theorem dX1_kind_23 : decode cX1_kind 23 = .ok (.iconst (-1), 1) := by decide +kernel
theorem dX1_kind_24 : decode cX1_kind 24 = .ok (.ireturn, 1) := by decide +kernel
noncomputable def B_X1_kind (l : Launch) (δ : Dl) : Seg (l, δ, yX1_kind, 1, (some .int), cX1_kind, 2) 0 25 :=
  seq (p := 0) (q := 1) (r := 25) (p_iload_n 1 dX1_kind_0) (seq (p := 1) (q := 2) (r := 25) (p_iconst 0 dX1_kind_1) (seq (p := 2) (q := 3) (r := 25) (p_aload_n 0 dX1_kind_2) (seq (p := 3) (q := 6) (r := 25) (p_get [(1, 48)] (alL1 fl_X1_380_1) dX1_kind_3) (seq (p := 6) (q := 7) (r := 25) (p_iconst 1 dX1_kind_6) (seq (p := 7) (q := 8) (r := 25) (p_isub dX1_kind_7) (seq (p := 8) (q := 11) (r := 25) (p_callS cs_X1_133 (M_X1_in l δ) (Nat.le_of_ble_eq_true rfl) dX1_kind_8) (seq (p := 11) (q := 24) (r := 25) (blk (seq (p := 11) (q := 23) (r := 24) (blk (seq (p := 11) (q := 14) (r := 23) (p_if_eq 23 dX1_kind_11 (by decide)) (seq (p := 14) (q := 15) (r := 23) (p_aload_n 0 dX1_kind_14) (seq (p := 15) (q := 18) (r := 23) (p_get [(1, 49)] (alL1 fl_X1_92_1) dX1_kind_15) (seq (p := 18) (q := 19) (r := 23) (p_iload_n 1 dX1_kind_18) (seq (p := 19) (q := 20) (r := 23) (p_iald dX1_kind_19) (seq (p := 20) (q := 23) (r := 23) (p_goto 24 dX1_kind_20 (by decide)) done))))))) (seq (p := 23) (q := 24) (r := 24) (p_iconst (-1) dX1_kind_23) done))) (seq (p := 24) (q := 25) (r := 25) (p_ireturn dX1_kind_24 rfl) done))))))))
noncomputable def M_X1_kind (l : Launch) (δ : Dl) : Mth l δ yX1_kind cX1_kind 2 (some .int) 1 := mk (B_X1_kind l δ) (by decide)
theorem N_X1_kind {l : Launch} {δ : Dl} {o : Nat} {a1 : Int} {s : St} : (M_X1_kind l δ).1 [.inr (.inr (some o)), .inl a1] s = bres ((B_X1_kind l δ).1 [] [some (.inr (.inr (some o))), some (.inl a1)] s) := (mk_eq (hy := by decide) rfl).trans (nrfl rfl)
theorem dX1_areBalanced_0 : decode cX1_areBalanced 0 = .ok (.iconst 1, 1) := by decide +kernel
theorem dX1_areBalanced_1 : decode cX1_areBalanced 1 = .ok (.istore_n 1, 1) := by decide +kernel
theorem dX1_areBalanced_2 : decode cX1_areBalanced 2 = .ok (.iconst 0, 1) := by decide +kernel
theorem dX1_areBalanced_3 : decode cX1_areBalanced 3 = .ok (.istore_n 2, 1) := by decide +kernel
theorem dX1_areBalanced_4 : decode cX1_areBalanced 4 = .ok (.iload_n 2, 1) := by decide +kernel
theorem dX1_areBalanced_5 : decode cX1_areBalanced 5 = .ok (.aload_n 0, 1) := by decide +kernel
theorem dX1_areBalanced_6 : decode cX1_areBalanced 6 = .ok (.getfield 130, 3) := by decide +kernel
theorem dX1_areBalanced_9 : decode cX1_areBalanced 9 = .ok (.if_icmp .ge 76, 3) := by decide +kernel
theorem dX1_areBalanced_12 : decode cX1_areBalanced 12 = .ok (.iconst 0, 1) := by decide +kernel
theorem dX1_areBalanced_13 : decode cX1_areBalanced 13 = .ok (.istore_n 3, 1) := by decide +kernel
theorem dX1_areBalanced_14 : decode cX1_areBalanced 14 = .ok (.iconst 0, 1) := by decide +kernel
theorem dX1_areBalanced_15 : decode cX1_areBalanced 15 = .ok (.istore 4, 2) := by decide +kernel
theorem dX1_areBalanced_17 : decode cX1_areBalanced 17 = .ok (.iload 4, 2) := by decide +kernel
theorem dX1_areBalanced_19 : decode cX1_areBalanced 19 = .ok (.aload_n 0, 1) := by decide +kernel
theorem dX1_areBalanced_20 : decode cX1_areBalanced 20 = .ok (.getfield 383, 3) := by decide +kernel
theorem dX1_areBalanced_23 : decode cX1_areBalanced 23 = .ok (.if_icmp .ge 42, 3) := by decide +kernel
theorem dX1_areBalanced_26 : decode cX1_areBalanced 26 = .ok (.iload_n 3, 1) := by decide +kernel
theorem dX1_areBalanced_27 : decode cX1_areBalanced 27 = .ok (.aload_n 0, 1) := by decide +kernel
theorem dX1_areBalanced_28 : decode cX1_areBalanced 28 = .ok (.getfield 98, 3) := by decide +kernel
theorem dX1_areBalanced_31 : decode cX1_areBalanced 31 = .ok (.iload 4, 2) := by decide +kernel
theorem dX1_areBalanced_33 : decode cX1_areBalanced 33 = .ok (.iaload, 1) := by decide +kernel
theorem dX1_areBalanced_34 : decode cX1_areBalanced 34 = .ok (.iload_n 2, 1) := by decide +kernel
theorem dX1_areBalanced_35 : decode cX1_areBalanced 35 = .ok (.if_icmp .eq 7, 3) := by decide +kernel
theorem dX1_areBalanced_38 : decode cX1_areBalanced 38 = .ok (.iconst 0, 1) := by decide +kernel
theorem dX1_areBalanced_39 : decode cX1_areBalanced 39 = .ok (.goto 18, 3) := by decide +kernel
theorem dX1_areBalanced_42 : decode cX1_areBalanced 42 = .ok (.aload_n 0, 1) := by decide +kernel
theorem dX1_areBalanced_43 : decode cX1_areBalanced 43 = .ok (.getfield 104, 3) := by decide +kernel
theorem dX1_areBalanced_46 : decode cX1_areBalanced 46 = .ok (.iload 4, 2) := by decide +kernel
theorem dX1_areBalanced_48 : decode cX1_areBalanced 48 = .ok (.iaload, 1) := by decide +kernel
theorem dX1_areBalanced_49 : decode cX1_areBalanced 49 = .ok (.ifCond .ne 7, 3) := by decide +kernel
theorem dX1_areBalanced_52 : decode cX1_areBalanced 52 = .ok (.iconst 1, 1) := by decide +kernel
theorem dX1_areBalanced_53 : decode cX1_areBalanced 53 = .ok (.goto 4, 3) := by decide +kernel
theorem dX1_areBalanced_56 : decode cX1_areBalanced 56 = .ok (.iconst (-1), 1) := by decide +kernel
theorem dX1_areBalanced_57 : decode cX1_areBalanced 57 = .ok (.iadd, 1) := by decide +kernel
theorem dX1_areBalanced_58 : decode cX1_areBalanced 58 = .ok (.istore_n 3, 1) := by decide +kernel
theorem dX1_areBalanced_59 : decode cX1_areBalanced 59 = .ok (.iinc 4 1, 3) := by decide +kernel
theorem dX1_areBalanced_62 : decode cX1_areBalanced 62 = .ok (.goto (-45), 3) := by decide +kernel
theorem dX1_areBalanced_65 : decode cX1_areBalanced 65 = .ok (.iload_n 1, 1) := by decide +kernel
theorem dX1_areBalanced_66 : decode cX1_areBalanced 66 = .ok (.ifCond .eq 11, 3) := by decide +kernel
theorem dX1_areBalanced_69 : decode cX1_areBalanced 69 = .ok (.iload_n 3, 1) := by decide +kernel
theorem dX1_areBalanced_70 : decode cX1_areBalanced 70 = .ok (.ifCond .ne 7, 3) := by decide +kernel
theorem dX1_areBalanced_73 : decode cX1_areBalanced 73 = .ok (.iconst 1, 1) := by decide +kernel
theorem dX1_areBalanced_74 : decode cX1_areBalanced 74 = .ok (.goto 4, 3) := by decide +kernel
theorem dX1_areBalanced_77 : decode cX1_areBalanced 77 = .ok (.iconst 0, 1) := by decide +kernel
theorem dX1_areBalanced_78 : decode cX1_areBalanced 78 = .ok (.istore_n 1, 1) := by decide +kernel
theorem dX1_areBalanced_79 : decode cX1_areBalanced 79 = .ok (.iinc 2 1, 3) := by decide +kernel
theorem dX1_areBalanced_82 : decode cX1_areBalanced 82 = .ok (.goto (-78), 3) := by decide +kernel
theorem dX1_areBalanced_85 : decode cX1_areBalanced 85 = .ok (.iload_n 1, 1) := by decide +kernel
theorem dX1_areBalanced_86 : decode cX1_areBalanced 86 = .ok (.ireturn, 1) := by decide +kernel
noncomputable def C_X1_areBalanced_L17 (l : Launch) (δ : Dl) : Seg (l, δ, yX1_areBalanced, 0, (some .boolean), cX1_areBalanced, 5) 17 65 :=
  seq (p := 17) (q := 19) (r := 65) (p_iload 4 dX1_areBalanced_17) (seq (p := 19) (q := 20) (r := 65) (p_aload_n 0 dX1_areBalanced_19) (seq (p := 20) (q := 23) (r := 65) (p_get [(1, 52)] (alL1 fl_X1_383_1) dX1_areBalanced_20) (seq (p := 23) (q := 26) (r := 65) (p_icmp_ge 65 dX1_areBalanced_23 (by decide)) (seq (p := 26) (q := 27) (r := 65) (p_iload_n 3 dX1_areBalanced_26) (seq (p := 27) (q := 28) (r := 65) (p_aload_n 0 dX1_areBalanced_27) (seq (p := 28) (q := 31) (r := 65) (p_get [(1, 55)] (alL1 fl_X1_98_1) dX1_areBalanced_28) (seq (p := 31) (q := 33) (r := 65) (p_iload 4 dX1_areBalanced_31) (seq (p := 33) (q := 34) (r := 65) (p_iald dX1_areBalanced_33) (seq (p := 34) (q := 35) (r := 65) (p_iload_n 2 dX1_areBalanced_34) (seq (p := 35) (q := 57) (r := 65) (blk (seq (p := 35) (q := 42) (r := 57) (blk (seq (p := 35) (q := 38) (r := 42) (p_icmp_eq 42 dX1_areBalanced_35 (by decide)) (seq (p := 38) (q := 39) (r := 42) (p_iconst 0 dX1_areBalanced_38) (seq (p := 39) (q := 42) (r := 42) (p_goto 57 dX1_areBalanced_39 (by decide)) done)))) (seq (p := 42) (q := 43) (r := 57) (p_aload_n 0 dX1_areBalanced_42) (seq (p := 43) (q := 46) (r := 57) (p_get [(1, 57)] (alL1 fl_X1_104_1) dX1_areBalanced_43) (seq (p := 46) (q := 48) (r := 57) (p_iload 4 dX1_areBalanced_46) (seq (p := 48) (q := 49) (r := 57) (p_iald dX1_areBalanced_48) (seq (p := 49) (q := 56) (r := 57) (blk (seq (p := 49) (q := 52) (r := 56) (p_if_ne 56 dX1_areBalanced_49 (by decide)) (seq (p := 52) (q := 53) (r := 56) (p_iconst 1 dX1_areBalanced_52) (seq (p := 53) (q := 56) (r := 56) (p_goto 57 dX1_areBalanced_53 (by decide)) done)))) (seq (p := 56) (q := 57) (r := 57) (p_iconst (-1) dX1_areBalanced_56) done)))))))) (seq (p := 57) (q := 58) (r := 65) (p_iadd dX1_areBalanced_57) (seq (p := 58) (q := 59) (r := 65) (p_istore_n 3 dX1_areBalanced_58 (Nat.le_of_ble_eq_true rfl)) (seq (p := 59) (q := 62) (r := 65) (p_iinc 4 1 dX1_areBalanced_59 (Nat.le_of_ble_eq_true rfl)) (seq (p := 62) (q := 62) (r := 65) (er [true, true, true, true, true]) (seq (p := 62) (q := 65) (r := 65) (p_goto 17 dX1_areBalanced_62 (by decide)) done)))))))))))))))
noncomputable def B_X1_areBalanced_L17 (l : Launch) (δ : Dl) : Seg (l, δ, yX1_areBalanced, 0, (some .boolean), cX1_areBalanced, 5) 17 65 := C_X1_areBalanced_L17 l δ
theorem L_X1_areBalanced_17 {l : Launch} {δ : Dl} {st : Stk} {L : Lc} {s : St} : (B_X1_areBalanced_L17 l δ).1 st L s = (C_X1_areBalanced_L17 l δ).1 st L s := nrfl rfl
noncomputable def C_X1_areBalanced_L4 (l : Launch) (δ : Dl) : Seg (l, δ, yX1_areBalanced, 0, (some .boolean), cX1_areBalanced, 5) 4 85 :=
  seq (p := 4) (q := 5) (r := 85) (p_iload_n 2 dX1_areBalanced_4) (seq (p := 5) (q := 6) (r := 85) (p_aload_n 0 dX1_areBalanced_5) (seq (p := 6) (q := 9) (r := 85) (p_get [(1, 51)] (alL1 fl_X1_130_1) dX1_areBalanced_6) (seq (p := 9) (q := 12) (r := 85) (p_icmp_ge 85 dX1_areBalanced_9 (by decide)) (seq (p := 12) (q := 13) (r := 85) (p_iconst 0 dX1_areBalanced_12) (seq (p := 13) (q := 14) (r := 85) (p_istore_n 3 dX1_areBalanced_13 (Nat.le_of_ble_eq_true rfl)) (seq (p := 14) (q := 15) (r := 85) (p_iconst 0 dX1_areBalanced_14) (seq (p := 15) (q := 17) (r := 85) (p_istore 4 dX1_areBalanced_15 (Nat.le_of_ble_eq_true rfl)) (seq (p := 17) (q := 65) (r := 85) (blk (seq (p := 17) (q := 17) (r := 65) (er [true, true, true, true, true]) (seq (p := 17) (q := 65) (r := 65) (lp (B_X1_areBalanced_L17 l δ)) done))) (seq (p := 65) (q := 66) (r := 85) (p_iload_n 1 dX1_areBalanced_65) (seq (p := 66) (q := 78) (r := 85) (blk (seq (p := 66) (q := 77) (r := 78) (blk (seq (p := 66) (q := 69) (r := 77) (p_if_eq 77 dX1_areBalanced_66 (by decide)) (seq (p := 69) (q := 70) (r := 77) (p_iload_n 3 dX1_areBalanced_69) (seq (p := 70) (q := 73) (r := 77) (p_if_ne 77 dX1_areBalanced_70 (by decide)) (seq (p := 73) (q := 74) (r := 77) (p_iconst 1 dX1_areBalanced_73) (seq (p := 74) (q := 77) (r := 77) (p_goto 78 dX1_areBalanced_74 (by decide)) done)))))) (seq (p := 77) (q := 78) (r := 78) (p_iconst 0 dX1_areBalanced_77) done))) (seq (p := 78) (q := 79) (r := 85) (p_istore_n 1 dX1_areBalanced_78 (Nat.le_of_ble_eq_true rfl)) (seq (p := 79) (q := 82) (r := 85) (p_iinc 2 1 dX1_areBalanced_79 (Nat.le_of_ble_eq_true rfl)) (seq (p := 82) (q := 82) (r := 85) (er [true, true, true, false, false]) (seq (p := 82) (q := 85) (r := 85) (p_goto 4 dX1_areBalanced_82 (by decide)) done))))))))))))))
noncomputable def B_X1_areBalanced_L4 (l : Launch) (δ : Dl) : Seg (l, δ, yX1_areBalanced, 0, (some .boolean), cX1_areBalanced, 5) 4 85 := C_X1_areBalanced_L4 l δ
theorem L_X1_areBalanced_4 {l : Launch} {δ : Dl} {st : Stk} {L : Lc} {s : St} : (B_X1_areBalanced_L4 l δ).1 st L s = (C_X1_areBalanced_L4 l δ).1 st L s := nrfl rfl
noncomputable def B_X1_areBalanced (l : Launch) (δ : Dl) : Seg (l, δ, yX1_areBalanced, 0, (some .boolean), cX1_areBalanced, 5) 0 87 :=
  seq (p := 0) (q := 1) (r := 87) (p_iconst 1 dX1_areBalanced_0) (seq (p := 1) (q := 2) (r := 87) (p_istore_n 1 dX1_areBalanced_1 (Nat.le_of_ble_eq_true rfl)) (seq (p := 2) (q := 3) (r := 87) (p_iconst 0 dX1_areBalanced_2) (seq (p := 3) (q := 4) (r := 87) (p_istore_n 2 dX1_areBalanced_3 (Nat.le_of_ble_eq_true rfl)) (seq (p := 4) (q := 85) (r := 87) (blk (seq (p := 4) (q := 4) (r := 85) (er [true, true, true, false, false]) (seq (p := 4) (q := 85) (r := 85) (lp (B_X1_areBalanced_L4 l δ)) done))) (seq (p := 85) (q := 86) (r := 87) (p_iload_n 1 dX1_areBalanced_85) (seq (p := 86) (q := 87) (r := 87) (p_zreturn dX1_areBalanced_86 rfl) done))))))
noncomputable def M_X1_areBalanced (l : Launch) (δ : Dl) : Mth l δ yX1_areBalanced cX1_areBalanced 5 (some .boolean) 0 := mk (B_X1_areBalanced l δ) (by decide)
theorem N_X1_areBalanced {l : Launch} {δ : Dl} {o : Nat} {s : St} : (M_X1_areBalanced l δ).1 [.inr (.inr (some o))] s = bres ((B_X1_areBalanced l δ).1 [] [some (.inr (.inr (some o))), none, none, none, none] s) := (mk_eq (hy := by decide) rfl).trans (nrfl rfl)
theorem dX1_layThings_0 : decode cX1_layThings 0 = .ok (.aload_n 0, 1) := by decide +kernel
theorem dX1_layThings_1 : decode cX1_layThings 1 = .ok (.iconst 0, 1) := by decide +kernel
theorem dX1_layThings_2 : decode cX1_layThings 2 = .ok (.putfield 383, 3) := by decide +kernel
theorem dX1_layThings_5 : decode cX1_layThings 5 = .ok (.iconst 0, 1) := by decide +kernel
theorem dX1_layThings_6 : decode cX1_layThings 6 = .ok (.istore 4, 2) := by decide +kernel
theorem dX1_layThings_8 : decode cX1_layThings 8 = .ok (.iload 4, 2) := by decide +kernel
theorem dX1_layThings_10 : decode cX1_layThings 10 = .ok (.iconst 2, 1) := by decide +kernel
theorem dX1_layThings_11 : decode cX1_layThings 11 = .ok (.if_icmp .ge 123, 3) := by decide +kernel
theorem dX1_layThings_14 : decode cX1_layThings 14 = .ok (.iload 4, 2) := by decide +kernel
theorem dX1_layThings_16 : decode cX1_layThings 16 = .ok (.ifCond .ne 7, 3) := by decide +kernel
theorem dX1_layThings_19 : decode cX1_layThings 19 = .ok (.iload_n 1, 1) := by decide +kernel
theorem dX1_layThings_20 : decode cX1_layThings 20 = .ok (.goto 4, 3) := by decide +kernel
theorem dX1_layThings_23 : decode cX1_layThings 23 = .ok (.iload_n 2, 1) := by decide +kernel
theorem dX1_layThings_24 : decode cX1_layThings 24 = .ok (.istore 5, 2) := by decide +kernel
theorem dX1_layThings_26 : decode cX1_layThings 26 = .ok (.iconst 0, 1) := by decide +kernel
theorem dX1_layThings_27 : decode cX1_layThings 27 = .ok (.istore 6, 2) := by decide +kernel
theorem dX1_layThings_29 : decode cX1_layThings 29 = .ok (.iload 6, 2) := by decide +kernel
theorem dX1_layThings_31 : decode cX1_layThings 31 = .ok (.aload_n 0, 1) := by decide +kernel
theorem dX1_layThings_32 : decode cX1_layThings 32 = .ok (.getfield 7, 3) := by decide +kernel
theorem dX1_layThings_35 : decode cX1_layThings 35 = .ok (.iload 5, 2) := by decide +kernel
theorem dX1_layThings_37 : decode cX1_layThings 37 = .ok (.iaload, 1) := by decide +kernel
theorem dX1_layThings_38 : decode cX1_layThings 38 = .ok (.if_icmp .ge 90, 3) := by decide +kernel
theorem dX1_layThings_41 : decode cX1_layThings 41 = .ok (.iconst 0, 1) := by decide +kernel
theorem dX1_layThings_42 : decode cX1_layThings 42 = .ok (.istore 7, 2) := by decide +kernel
theorem dX1_layThings_44 : decode cX1_layThings 44 = .ok (.iload 7, 2) := by decide +kernel
theorem dX1_layThings_46 : decode cX1_layThings 46 = .ok (.iload_n 3, 1) := by decide +kernel
theorem dX1_layThings_47 : decode cX1_layThings 47 = .ok (.ifCond .ne 7, 3) := by decide +kernel
theorem dX1_layThings_50 : decode cX1_layThings 50 = .ok (.iconst 1, 1) := by decide +kernel
theorem dX1_layThings_51 : decode cX1_layThings 51 = .ok (.goto 10, 3) := by decide +kernel
theorem dX1_layThings_54 : decode cX1_layThings 54 = .ok (.aload_n 0, 1) := by decide +kernel
theorem dX1_layThings_55 : decode cX1_layThings 55 = .ok (.getfield 7, 3) := by decide +kernel
theorem dX1_layThings_58 : decode cX1_layThings 58 = .ok (.iload 5, 2) := by decide +kernel
theorem dX1_layThings_60 : decode cX1_layThings 60 = .ok (.iaload, 1) := by decide +kernel
theorem dX1_layThings_61 : decode cX1_layThings 61 = .ok (.if_icmp .ge 61, 3) := by decide +kernel
theorem dX1_layThings_64 : decode cX1_layThings 64 = .ok (.aload_n 0, 1) := by decide +kernel
theorem dX1_layThings_65 : decode cX1_layThings 65 = .ok (.getfield 104, 3) := by decide +kernel
theorem dX1_layThings_68 : decode cX1_layThings 68 = .ok (.aload_n 0, 1) := by decide +kernel
theorem dX1_layThings_69 : decode cX1_layThings 69 = .ok (.getfield 383, 3) := by decide +kernel
theorem dX1_layThings_72 : decode cX1_layThings 72 = .ok (.iload 4, 2) := by decide +kernel
theorem dX1_layThings_74 : decode cX1_layThings 74 = .ok (.iastore, 1) := by decide +kernel
theorem dX1_layThings_75 : decode cX1_layThings 75 = .ok (.aload_n 0, 1) := by decide +kernel
theorem dX1_layThings_76 : decode cX1_layThings 76 = .ok (.getfield 107, 3) := by decide +kernel
theorem dX1_layThings_79 : decode cX1_layThings 79 = .ok (.aload_n 0, 1) := by decide +kernel
theorem dX1_layThings_80 : decode cX1_layThings 80 = .ok (.getfield 383, 3) := by decide +kernel
theorem dX1_layThings_83 : decode cX1_layThings 83 = .ok (.iload 6, 2) := by decide +kernel
theorem dX1_layThings_85 : decode cX1_layThings 85 = .ok (.iastore, 1) := by decide +kernel
theorem dX1_layThings_86 : decode cX1_layThings 86 = .ok (.aload_n 0, 1) := by decide +kernel
theorem dX1_layThings_87 : decode cX1_layThings 87 = .ok (.getfield 110, 3) := by decide +kernel
theorem dX1_layThings_90 : decode cX1_layThings 90 = .ok (.aload_n 0, 1) := by decide +kernel
theorem dX1_layThings_91 : decode cX1_layThings 91 = .ok (.getfield 383, 3) := by decide +kernel
theorem dX1_layThings_94 : decode cX1_layThings 94 = .ok (.iload_n 3, 1) := by decide +kernel
theorem dX1_layThings_95 : decode cX1_layThings 95 = .ok (.ifCond .ne 8, 3) := by decide +kernel
theorem dX1_layThings_98 : decode cX1_layThings 98 = .ok (.iload 6, 2) := by decide +kernel
theorem dX1_layThings_100 : decode cX1_layThings 100 = .ok (.goto 5, 3) := by decide +kernel
theorem dX1_layThings_103 : decode cX1_layThings 103 = .ok (.iload 7, 2) := by decide +kernel
theorem dX1_layThings_105 : decode cX1_layThings 105 = .ok (.iastore, 1) := by decide +kernel
theorem dX1_layThings_106 : decode cX1_layThings 106 = .ok (.aload_n 0, 1) := by decide +kernel
theorem dX1_layThings_107 : decode cX1_layThings 107 = .ok (.dup, 1) := by decide +kernel
theorem dX1_layThings_108 : decode cX1_layThings 108 = .ok (.getfield 383, 3) := by decide +kernel
theorem dX1_layThings_111 : decode cX1_layThings 111 = .ok (.iconst 1, 1) := by decide +kernel
theorem dX1_layThings_112 : decode cX1_layThings 112 = .ok (.iadd, 1) := by decide +kernel
theorem dX1_layThings_113 : decode cX1_layThings 113 = .ok (.putfield 383, 3) := by decide +kernel
theorem dX1_layThings_116 : decode cX1_layThings 116 = .ok (.iinc 7 1, 3) := by decide +kernel
theorem dX1_layThings_119 : decode cX1_layThings 119 = .ok (.goto (-75), 3) := by decide +kernel
theorem dX1_layThings_122 : decode cX1_layThings 122 = .ok (.iinc 6 1, 3) := by decide +kernel
theorem dX1_layThings_125 : decode cX1_layThings 125 = .ok (.goto (-96), 3) := by decide +kernel
theorem dX1_layThings_128 : decode cX1_layThings 128 = .ok (.iinc 4 1, 3) := by decide +kernel
theorem dX1_layThings_131 : decode cX1_layThings 131 = .ok (.goto (-123), 3) := by decide +kernel
theorem dX1_layThings_134 : decode cX1_layThings 134 = .ok (.return_, 1) := by decide +kernel
noncomputable def C_X1_layThings_L44 (l : Launch) (δ : Dl) : Seg (l, δ, yX1_layThings, 0, none, cX1_layThings, 8) 44 122 :=
  seq (p := 44) (q := 46) (r := 122) (p_iload 7 dX1_layThings_44) (seq (p := 46) (q := 47) (r := 122) (p_iload_n 3 dX1_layThings_46) (seq (p := 47) (q := 61) (r := 122) (blk (seq (p := 47) (q := 54) (r := 61) (blk (seq (p := 47) (q := 50) (r := 54) (p_if_ne 54 dX1_layThings_47 (by decide)) (seq (p := 50) (q := 51) (r := 54) (p_iconst 1 dX1_layThings_50) (seq (p := 51) (q := 54) (r := 54) (p_goto 61 dX1_layThings_51 (by decide)) done)))) (seq (p := 54) (q := 55) (r := 61) (p_aload_n 0 dX1_layThings_54) (seq (p := 55) (q := 58) (r := 61) (p_get [(1, 0)] (alL1 fl_X1_7_1) dX1_layThings_55) (seq (p := 58) (q := 60) (r := 61) (p_iload 5 dX1_layThings_58) (seq (p := 60) (q := 61) (r := 61) (p_iald dX1_layThings_60) done)))))) (seq (p := 61) (q := 64) (r := 122) (p_icmp_ge 122 dX1_layThings_61 (by decide)) (seq (p := 64) (q := 65) (r := 122) (p_aload_n 0 dX1_layThings_64) (seq (p := 65) (q := 68) (r := 122) (p_get [(1, 57)] (alL1 fl_X1_104_1) dX1_layThings_65) (seq (p := 68) (q := 69) (r := 122) (p_aload_n 0 dX1_layThings_68) (seq (p := 69) (q := 72) (r := 122) (p_get [(1, 52)] (alL1 fl_X1_383_1) dX1_layThings_69) (seq (p := 72) (q := 74) (r := 122) (p_iload 4 dX1_layThings_72) (seq (p := 74) (q := 75) (r := 122) (p_iast dX1_layThings_74) (seq (p := 75) (q := 76) (r := 122) (p_aload_n 0 dX1_layThings_75) (seq (p := 76) (q := 79) (r := 122) (p_get [(1, 58)] (alL1 fl_X1_107_1) dX1_layThings_76) (seq (p := 79) (q := 80) (r := 122) (p_aload_n 0 dX1_layThings_79) (seq (p := 80) (q := 83) (r := 122) (p_get [(1, 52)] (alL1 fl_X1_383_1) dX1_layThings_80) (seq (p := 83) (q := 85) (r := 122) (p_iload 6 dX1_layThings_83) (seq (p := 85) (q := 86) (r := 122) (p_iast dX1_layThings_85) (seq (p := 86) (q := 87) (r := 122) (p_aload_n 0 dX1_layThings_86) (seq (p := 87) (q := 90) (r := 122) (p_get [(1, 59)] (alL1 fl_X1_110_1) dX1_layThings_87) (seq (p := 90) (q := 91) (r := 122) (p_aload_n 0 dX1_layThings_90) (seq (p := 91) (q := 94) (r := 122) (p_get [(1, 52)] (alL1 fl_X1_383_1) dX1_layThings_91) (seq (p := 94) (q := 95) (r := 122) (p_iload_n 3 dX1_layThings_94) (seq (p := 95) (q := 105) (r := 122) (blk (seq (p := 95) (q := 103) (r := 105) (blk (seq (p := 95) (q := 98) (r := 103) (p_if_ne 103 dX1_layThings_95 (by decide)) (seq (p := 98) (q := 100) (r := 103) (p_iload 6 dX1_layThings_98) (seq (p := 100) (q := 103) (r := 103) (p_goto 105 dX1_layThings_100 (by decide)) done)))) (seq (p := 103) (q := 105) (r := 105) (p_iload 7 dX1_layThings_103) done))) (seq (p := 105) (q := 106) (r := 122) (p_iast dX1_layThings_105) (seq (p := 106) (q := 107) (r := 122) (p_aload_n 0 dX1_layThings_106) (seq (p := 107) (q := 108) (r := 122) (p_dup dX1_layThings_107) (seq (p := 108) (q := 111) (r := 122) (p_get [(1, 52)] (alL1 fl_X1_383_1) dX1_layThings_108) (seq (p := 111) (q := 112) (r := 122) (p_iconst 1 dX1_layThings_111) (seq (p := 112) (q := 113) (r := 122) (p_iadd dX1_layThings_112) (seq (p := 113) (q := 116) (r := 122) (p_put [(1, 52)] .int (alP1 fp_X1_383_1) dX1_layThings_113) (seq (p := 116) (q := 119) (r := 122) (p_iinc 7 1 dX1_layThings_116 (Nat.le_of_ble_eq_true rfl)) (seq (p := 119) (q := 119) (r := 122) (er [true, true, true, true, true, true, true, true]) (seq (p := 119) (q := 122) (r := 122) (p_goto 44 dX1_layThings_119 (by decide)) done)))))))))))))))))))))))))))))))
noncomputable def B_X1_layThings_L44 (l : Launch) (δ : Dl) : Seg (l, δ, yX1_layThings, 0, none, cX1_layThings, 8) 44 122 := C_X1_layThings_L44 l δ
theorem L_X1_layThings_44 {l : Launch} {δ : Dl} {st : Stk} {L : Lc} {s : St} : (B_X1_layThings_L44 l δ).1 st L s = (C_X1_layThings_L44 l δ).1 st L s := nrfl rfl
noncomputable def C_X1_layThings_L29 (l : Launch) (δ : Dl) : Seg (l, δ, yX1_layThings, 0, none, cX1_layThings, 8) 29 128 :=
  seq (p := 29) (q := 31) (r := 128) (p_iload 6 dX1_layThings_29) (seq (p := 31) (q := 32) (r := 128) (p_aload_n 0 dX1_layThings_31) (seq (p := 32) (q := 35) (r := 128) (p_get [(1, 0)] (alL1 fl_X1_7_1) dX1_layThings_32) (seq (p := 35) (q := 37) (r := 128) (p_iload 5 dX1_layThings_35) (seq (p := 37) (q := 38) (r := 128) (p_iald dX1_layThings_37) (seq (p := 38) (q := 41) (r := 128) (p_icmp_ge 128 dX1_layThings_38 (by decide)) (seq (p := 41) (q := 42) (r := 128) (p_iconst 0 dX1_layThings_41) (seq (p := 42) (q := 44) (r := 128) (p_istore 7 dX1_layThings_42 (Nat.le_of_ble_eq_true rfl)) (seq (p := 44) (q := 122) (r := 128) (blk (seq (p := 44) (q := 44) (r := 122) (er [true, true, true, true, true, true, true, true]) (seq (p := 44) (q := 122) (r := 122) (lp (B_X1_layThings_L44 l δ)) done))) (seq (p := 122) (q := 125) (r := 128) (p_iinc 6 1 dX1_layThings_122 (Nat.le_of_ble_eq_true rfl)) (seq (p := 125) (q := 125) (r := 128) (er [true, true, true, true, true, true, true, false]) (seq (p := 125) (q := 128) (r := 128) (p_goto 29 dX1_layThings_125 (by decide)) done)))))))))))
noncomputable def B_X1_layThings_L29 (l : Launch) (δ : Dl) : Seg (l, δ, yX1_layThings, 0, none, cX1_layThings, 8) 29 128 := C_X1_layThings_L29 l δ
theorem L_X1_layThings_29 {l : Launch} {δ : Dl} {st : Stk} {L : Lc} {s : St} : (B_X1_layThings_L29 l δ).1 st L s = (C_X1_layThings_L29 l δ).1 st L s := nrfl rfl
noncomputable def C_X1_layThings_L8 (l : Launch) (δ : Dl) : Seg (l, δ, yX1_layThings, 0, none, cX1_layThings, 8) 8 134 :=
  seq (p := 8) (q := 10) (r := 134) (p_iload 4 dX1_layThings_8) (seq (p := 10) (q := 11) (r := 134) (p_iconst 2 dX1_layThings_10) (seq (p := 11) (q := 14) (r := 134) (p_icmp_ge 134 dX1_layThings_11 (by decide)) (seq (p := 14) (q := 16) (r := 134) (p_iload 4 dX1_layThings_14) (seq (p := 16) (q := 24) (r := 134) (blk (seq (p := 16) (q := 23) (r := 24) (blk (seq (p := 16) (q := 19) (r := 23) (p_if_ne 23 dX1_layThings_16 (by decide)) (seq (p := 19) (q := 20) (r := 23) (p_iload_n 1 dX1_layThings_19) (seq (p := 20) (q := 23) (r := 23) (p_goto 24 dX1_layThings_20 (by decide)) done)))) (seq (p := 23) (q := 24) (r := 24) (p_iload_n 2 dX1_layThings_23) done))) (seq (p := 24) (q := 26) (r := 134) (p_istore 5 dX1_layThings_24 (Nat.le_of_ble_eq_true rfl)) (seq (p := 26) (q := 27) (r := 134) (p_iconst 0 dX1_layThings_26) (seq (p := 27) (q := 29) (r := 134) (p_istore 6 dX1_layThings_27 (Nat.le_of_ble_eq_true rfl)) (seq (p := 29) (q := 128) (r := 134) (blk (seq (p := 29) (q := 29) (r := 128) (er [true, true, true, true, true, true, true, false]) (seq (p := 29) (q := 128) (r := 128) (lp (B_X1_layThings_L29 l δ)) done))) (seq (p := 128) (q := 131) (r := 134) (p_iinc 4 1 dX1_layThings_128 (Nat.le_of_ble_eq_true rfl)) (seq (p := 131) (q := 131) (r := 134) (er [true, true, true, true, true, false, false, false]) (seq (p := 131) (q := 134) (r := 134) (p_goto 8 dX1_layThings_131 (by decide)) done)))))))))))
noncomputable def B_X1_layThings_L8 (l : Launch) (δ : Dl) : Seg (l, δ, yX1_layThings, 0, none, cX1_layThings, 8) 8 134 := C_X1_layThings_L8 l δ
theorem L_X1_layThings_8 {l : Launch} {δ : Dl} {st : Stk} {L : Lc} {s : St} : (B_X1_layThings_L8 l δ).1 st L s = (C_X1_layThings_L8 l δ).1 st L s := nrfl rfl
noncomputable def B_X1_layThings (l : Launch) (δ : Dl) : Seg (l, δ, yX1_layThings, 0, none, cX1_layThings, 8) 0 135 :=
  seq (p := 0) (q := 1) (r := 135) (p_aload_n 0 dX1_layThings_0) (seq (p := 1) (q := 2) (r := 135) (p_iconst 0 dX1_layThings_1) (seq (p := 2) (q := 5) (r := 135) (p_put [(1, 52)] .int (alP1 fp_X1_383_1) dX1_layThings_2) (seq (p := 5) (q := 6) (r := 135) (p_iconst 0 dX1_layThings_5) (seq (p := 6) (q := 8) (r := 135) (p_istore 4 dX1_layThings_6 (Nat.le_of_ble_eq_true rfl)) (seq (p := 8) (q := 134) (r := 135) (blk (seq (p := 8) (q := 8) (r := 134) (er [true, true, true, true, true, false, false, false]) (seq (p := 8) (q := 134) (r := 134) (lp (B_X1_layThings_L8 l δ)) done))) (seq (p := 134) (q := 135) (r := 135) (p_return dX1_layThings_134 rfl) done))))))
noncomputable def M_X1_layThings (l : Launch) (δ : Dl) : Mth l δ yX1_layThings cX1_layThings 8 none 0 := mk (B_X1_layThings l δ) (by decide)
theorem N_X1_layThings {l : Launch} {δ : Dl} {o : Nat} {a1 : Int} {a2 : Int} {a3 : Int} {s : St} : (M_X1_layThings l δ).1 [.inr (.inr (some o)), .inl a1, .inl a2, .inl a3] s = bres ((B_X1_layThings l δ).1 [] [some (.inr (.inr (some o))), some (.inl a1), some (.inl a2), some (.inl a3), none, none, none, none] s) := (mk_eq (hy := by decide) rfl).trans (nrfl rfl)
theorem dX1_gather_0 : decode cX1_gather 0 = .ok (.aload_n 0, 1) := by decide +kernel
theorem dX1_gather_1 : decode cX1_gather 1 = .ok (.getfield 113, 3) := by decide +kernel
theorem dX1_gather_4 : decode cX1_gather 4 = .ok (.iload_n 1, 1) := by decide +kernel
theorem dX1_gather_5 : decode cX1_gather 5 = .ok (.lconst 0, 1) := by decide +kernel
theorem dX1_gather_6 : decode cX1_gather 6 = .ok (.lastore, 1) := by decide +kernel
theorem dX1_gather_7 : decode cX1_gather 7 = .ok (.aload_n 0, 1) := by decide +kernel
theorem dX1_gather_8 : decode cX1_gather 8 = .ok (.getfield 117, 3) := by decide +kernel
theorem dX1_gather_11 : decode cX1_gather 11 = .ok (.iload_n 1, 1) := by decide +kernel
theorem dX1_gather_12 : decode cX1_gather 12 = .ok (.lconst 0, 1) := by decide +kernel
theorem dX1_gather_13 : decode cX1_gather 13 = .ok (.lastore, 1) := by decide +kernel
theorem dX1_gather_14 : decode cX1_gather 14 = .ok (.aload_n 0, 1) := by decide +kernel
theorem dX1_gather_15 : decode cX1_gather 15 = .ok (.getfield 120, 3) := by decide +kernel
theorem dX1_gather_18 : decode cX1_gather 18 = .ok (.iload_n 1, 1) := by decide +kernel
theorem dX1_gather_19 : decode cX1_gather 19 = .ok (.lconst 0, 1) := by decide +kernel
theorem dX1_gather_20 : decode cX1_gather 20 = .ok (.lastore, 1) := by decide +kernel
theorem dX1_gather_21 : decode cX1_gather 21 = .ok (.aload_n 0, 1) := by decide +kernel
theorem dX1_gather_22 : decode cX1_gather 22 = .ok (.getfield 123, 3) := by decide +kernel
theorem dX1_gather_25 : decode cX1_gather 25 = .ok (.iload_n 1, 1) := by decide +kernel
theorem dX1_gather_26 : decode cX1_gather 26 = .ok (.lconst 0, 1) := by decide +kernel
theorem dX1_gather_27 : decode cX1_gather 27 = .ok (.lastore, 1) := by decide +kernel
theorem dX1_gather_28 : decode cX1_gather 28 = .ok (.iconst 0, 1) := by decide +kernel
theorem dX1_gather_29 : decode cX1_gather 29 = .ok (.istore_n 2, 1) := by decide +kernel
theorem dX1_gather_30 : decode cX1_gather 30 = .ok (.iload_n 2, 1) := by decide +kernel
theorem dX1_gather_31 : decode cX1_gather 31 = .ok (.aload_n 0, 1) := by decide +kernel
theorem dX1_gather_32 : decode cX1_gather 32 = .ok (.getfield 383, 3) := by decide +kernel
theorem dX1_gather_35 : decode cX1_gather 35 = .ok (.if_icmp .ge 194, 3) := by decide +kernel
theorem dX1_gather_38 : decode cX1_gather 38 = .ok (.aload_n 0, 1) := by decide +kernel
theorem dX1_gather_39 : decode cX1_gather 39 = .ok (.getfield 104, 3) := by decide +kernel
theorem dX1_gather_42 : decode cX1_gather 42 = .ok (.iload_n 2, 1) := by decide +kernel
theorem dX1_gather_43 : decode cX1_gather 43 = .ok (.iaload, 1) := by decide +kernel
theorem dX1_gather_44 : decode cX1_gather 44 = .ok (.aload_n 0, 1) := by decide +kernel
theorem dX1_gather_45 : decode cX1_gather 45 = .ok (.getfield 104, 3) := by decide +kernel
theorem dX1_gather_48 : decode cX1_gather 48 = .ok (.iload_n 1, 1) := by decide +kernel
theorem dX1_gather_49 : decode cX1_gather 49 = .ok (.iaload, 1) := by decide +kernel
theorem dX1_gather_50 : decode cX1_gather 50 = .ok (.if_icmp .ne 173, 3) := by decide +kernel
theorem dX1_gather_53 : decode cX1_gather 53 = .ok (.aload_n 0, 1) := by decide +kernel
theorem dX1_gather_54 : decode cX1_gather 54 = .ok (.getfield 98, 3) := by decide +kernel
theorem dX1_gather_57 : decode cX1_gather 57 = .ok (.iload_n 2, 1) := by decide +kernel
theorem dX1_gather_58 : decode cX1_gather 58 = .ok (.iaload, 1) := by decide +kernel
theorem dX1_gather_59 : decode cX1_gather 59 = .ok (.bipush 36, 2) := by decide +kernel
theorem dX1_gather_61 : decode cX1_gather 61 = .ok (.if_icmp .ge 14, 3) := by decide +kernel
theorem dX1_gather_64 : decode cX1_gather 64 = .ok (.lconst 1, 1) := by decide +kernel
theorem dX1_gather_65 : decode cX1_gather 65 = .ok (.aload_n 0, 1) := by decide +kernel
theorem dX1_gather_66 : decode cX1_gather 66 = .ok (.getfield 98, 3) := by decide +kernel
theorem dX1_gather_69 : decode cX1_gather 69 = .ok (.iload_n 2, 1) := by decide +kernel
theorem dX1_gather_70 : decode cX1_gather 70 = .ok (.iaload, 1) := by decide +kernel
theorem dX1_gather_71 : decode cX1_gather 71 = .ok (.lshl, 1) := by decide +kernel
theorem dX1_gather_72 : decode cX1_gather 72 = .ok (.goto 4, 3) := by decide +kernel
theorem dX1_gather_75 : decode cX1_gather 75 = .ok (.lconst 0, 1) := by decide +kernel
theorem dX1_gather_76 : decode cX1_gather 76 = .ok (.lstore_n 3, 1) := by decide +kernel
theorem dX1_gather_77 : decode cX1_gather 77 = .ok (.aload_n 0, 1) := by decide +kernel
theorem dX1_gather_78 : decode cX1_gather 78 = .ok (.getfield 98, 3) := by decide +kernel
theorem dX1_gather_81 : decode cX1_gather 81 = .ok (.iload_n 2, 1) := by decide +kernel
theorem dX1_gather_82 : decode cX1_gather 82 = .ok (.iaload, 1) := by decide +kernel
theorem dX1_gather_83 : decode cX1_gather 83 = .ok (.bipush 36, 2) := by decide +kernel
theorem dX1_gather_85 : decode cX1_gather 85 = .ok (.if_icmp .ge 7, 3) := by decide +kernel
theorem dX1_gather_88 : decode cX1_gather 88 = .ok (.lconst 0, 1) := by decide +kernel
theorem dX1_gather_89 : decode cX1_gather 89 = .ok (.goto 14, 3) := by decide +kernel
theorem dX1_gather_92 : decode cX1_gather 92 = .ok (.lconst 1, 1) := by decide +kernel
theorem dX1_gather_93 : decode cX1_gather 93 = .ok (.aload_n 0, 1) := by decide +kernel
theorem dX1_gather_94 : decode cX1_gather 94 = .ok (.getfield 98, 3) := by decide +kernel
theorem dX1_gather_97 : decode cX1_gather 97 = .ok (.iload_n 2, 1) := by decide +kernel
theorem dX1_gather_98 : decode cX1_gather 98 = .ok (.iaload, 1) := by decide +kernel
theorem dX1_gather_99 : decode cX1_gather 99 = .ok (.bipush 36, 2) := by decide +kernel
theorem dX1_gather_101 : decode cX1_gather 101 = .ok (.isub, 1) := by decide +kernel
theorem dX1_gather_102 : decode cX1_gather 102 = .ok (.lshl, 1) := by decide +kernel
theorem dX1_gather_103 : decode cX1_gather 103 = .ok (.lstore 5, 2) := by decide +kernel
theorem dX1_gather_105 : decode cX1_gather 105 = .ok (.aload_n 0, 1) := by decide +kernel
theorem dX1_gather_106 : decode cX1_gather 106 = .ok (.getfield 113, 3) := by decide +kernel
theorem dX1_gather_109 : decode cX1_gather 109 = .ok (.iload_n 1, 1) := by decide +kernel
theorem dX1_gather_110 : decode cX1_gather 110 = .ok (.dup2, 1) := by decide +kernel
theorem dX1_gather_111 : decode cX1_gather 111 = .ok (.laload, 1) := by decide +kernel
theorem dX1_gather_112 : decode cX1_gather 112 = .ok (.aload_n 0, 1) := by decide +kernel
theorem dX1_gather_113 : decode cX1_gather 113 = .ok (.getfield 110, 3) := by decide +kernel
theorem dX1_gather_116 : decode cX1_gather 116 = .ok (.iload_n 2, 1) := by decide +kernel
theorem dX1_gather_117 : decode cX1_gather 117 = .ok (.iaload, 1) := by decide +kernel
theorem dX1_gather_118 : decode cX1_gather 118 = .ok (.aload_n 0, 1) := by decide +kernel
theorem dX1_gather_119 : decode cX1_gather 119 = .ok (.getfield 110, 3) := by decide +kernel
theorem dX1_gather_122 : decode cX1_gather 122 = .ok (.iload_n 1, 1) := by decide +kernel
theorem dX1_gather_123 : decode cX1_gather 123 = .ok (.iaload, 1) := by decide +kernel
theorem dX1_gather_124 : decode cX1_gather 124 = .ok (.if_icmp .ne 7, 3) := by decide +kernel
theorem dX1_gather_127 : decode cX1_gather 127 = .ok (.lload_n 3, 1) := by decide +kernel
theorem dX1_gather_128 : decode cX1_gather 128 = .ok (.goto 4, 3) := by decide +kernel
theorem dX1_gather_131 : decode cX1_gather 131 = .ok (.lconst 0, 1) := by decide +kernel
theorem dX1_gather_132 : decode cX1_gather 132 = .ok (.lor, 1) := by decide +kernel
theorem dX1_gather_133 : decode cX1_gather 133 = .ok (.lastore, 1) := by decide +kernel
theorem dX1_gather_134 : decode cX1_gather 134 = .ok (.aload_n 0, 1) := by decide +kernel
theorem dX1_gather_135 : decode cX1_gather 135 = .ok (.getfield 117, 3) := by decide +kernel
theorem dX1_gather_138 : decode cX1_gather 138 = .ok (.iload_n 1, 1) := by decide +kernel
theorem dX1_gather_139 : decode cX1_gather 139 = .ok (.dup2, 1) := by decide +kernel
theorem dX1_gather_140 : decode cX1_gather 140 = .ok (.laload, 1) := by decide +kernel
theorem dX1_gather_141 : decode cX1_gather 141 = .ok (.aload_n 0, 1) := by decide +kernel
theorem dX1_gather_142 : decode cX1_gather 142 = .ok (.getfield 110, 3) := by decide +kernel
theorem dX1_gather_145 : decode cX1_gather 145 = .ok (.iload_n 2, 1) := by decide +kernel
theorem dX1_gather_146 : decode cX1_gather 146 = .ok (.iaload, 1) := by decide +kernel
theorem dX1_gather_147 : decode cX1_gather 147 = .ok (.aload_n 0, 1) := by decide +kernel
theorem dX1_gather_148 : decode cX1_gather 148 = .ok (.getfield 110, 3) := by decide +kernel
theorem dX1_gather_151 : decode cX1_gather 151 = .ok (.iload_n 1, 1) := by decide +kernel
theorem dX1_gather_152 : decode cX1_gather 152 = .ok (.iaload, 1) := by decide +kernel
theorem dX1_gather_153 : decode cX1_gather 153 = .ok (.if_icmp .ne 8, 3) := by decide +kernel
theorem dX1_gather_156 : decode cX1_gather 156 = .ok (.lload 5, 2) := by decide +kernel
theorem dX1_gather_158 : decode cX1_gather 158 = .ok (.goto 4, 3) := by decide +kernel
theorem dX1_gather_161 : decode cX1_gather 161 = .ok (.lconst 0, 1) := by decide +kernel
theorem dX1_gather_162 : decode cX1_gather 162 = .ok (.lor, 1) := by decide +kernel
theorem dX1_gather_163 : decode cX1_gather 163 = .ok (.lastore, 1) := by decide +kernel
theorem dX1_gather_164 : decode cX1_gather 164 = .ok (.aload_n 0, 1) := by decide +kernel
theorem dX1_gather_165 : decode cX1_gather 165 = .ok (.getfield 120, 3) := by decide +kernel
theorem dX1_gather_168 : decode cX1_gather 168 = .ok (.iload_n 1, 1) := by decide +kernel
theorem dX1_gather_169 : decode cX1_gather 169 = .ok (.dup2, 1) := by decide +kernel
theorem dX1_gather_170 : decode cX1_gather 170 = .ok (.laload, 1) := by decide +kernel
theorem dX1_gather_171 : decode cX1_gather 171 = .ok (.aload_n 0, 1) := by decide +kernel
theorem dX1_gather_172 : decode cX1_gather 172 = .ok (.getfield 107, 3) := by decide +kernel
theorem dX1_gather_175 : decode cX1_gather 175 = .ok (.iload_n 2, 1) := by decide +kernel
theorem dX1_gather_176 : decode cX1_gather 176 = .ok (.iaload, 1) := by decide +kernel
theorem dX1_gather_177 : decode cX1_gather 177 = .ok (.aload_n 0, 1) := by decide +kernel
theorem dX1_gather_178 : decode cX1_gather 178 = .ok (.getfield 107, 3) := by decide +kernel
theorem dX1_gather_181 : decode cX1_gather 181 = .ok (.iload_n 1, 1) := by decide +kernel
theorem dX1_gather_182 : decode cX1_gather 182 = .ok (.iaload, 1) := by decide +kernel
theorem dX1_gather_183 : decode cX1_gather 183 = .ok (.if_icmp .ne 7, 3) := by decide +kernel
theorem dX1_gather_186 : decode cX1_gather 186 = .ok (.lload_n 3, 1) := by decide +kernel
theorem dX1_gather_187 : decode cX1_gather 187 = .ok (.goto 4, 3) := by decide +kernel
theorem dX1_gather_190 : decode cX1_gather 190 = .ok (.lconst 0, 1) := by decide +kernel
theorem dX1_gather_191 : decode cX1_gather 191 = .ok (.lor, 1) := by decide +kernel
theorem dX1_gather_192 : decode cX1_gather 192 = .ok (.lastore, 1) := by decide +kernel
theorem dX1_gather_193 : decode cX1_gather 193 = .ok (.aload_n 0, 1) := by decide +kernel
theorem dX1_gather_194 : decode cX1_gather 194 = .ok (.getfield 123, 3) := by decide +kernel
theorem dX1_gather_197 : decode cX1_gather 197 = .ok (.iload_n 1, 1) := by decide +kernel
theorem dX1_gather_198 : decode cX1_gather 198 = .ok (.dup2, 1) := by decide +kernel
theorem dX1_gather_199 : decode cX1_gather 199 = .ok (.laload, 1) := by decide +kernel
theorem dX1_gather_200 : decode cX1_gather 200 = .ok (.aload_n 0, 1) := by decide +kernel
theorem dX1_gather_201 : decode cX1_gather 201 = .ok (.getfield 107, 3) := by decide +kernel
theorem dX1_gather_204 : decode cX1_gather 204 = .ok (.iload_n 2, 1) := by decide +kernel
theorem dX1_gather_205 : decode cX1_gather 205 = .ok (.iaload, 1) := by decide +kernel
theorem dX1_gather_206 : decode cX1_gather 206 = .ok (.aload_n 0, 1) := by decide +kernel
theorem dX1_gather_207 : decode cX1_gather 207 = .ok (.getfield 107, 3) := by decide +kernel
theorem dX1_gather_210 : decode cX1_gather 210 = .ok (.iload_n 1, 1) := by decide +kernel
theorem dX1_gather_211 : decode cX1_gather 211 = .ok (.iaload, 1) := by decide +kernel
theorem dX1_gather_212 : decode cX1_gather 212 = .ok (.if_icmp .ne 8, 3) := by decide +kernel
theorem dX1_gather_215 : decode cX1_gather 215 = .ok (.lload 5, 2) := by decide +kernel
theorem dX1_gather_217 : decode cX1_gather 217 = .ok (.goto 4, 3) := by decide +kernel
theorem dX1_gather_220 : decode cX1_gather 220 = .ok (.lconst 0, 1) := by decide +kernel
theorem dX1_gather_221 : decode cX1_gather 221 = .ok (.lor, 1) := by decide +kernel
theorem dX1_gather_222 : decode cX1_gather 222 = .ok (.lastore, 1) := by decide +kernel
theorem dX1_gather_223 : decode cX1_gather 223 = .ok (.iinc 2 1, 3) := by decide +kernel
theorem dX1_gather_226 : decode cX1_gather 226 = .ok (.goto (-196), 3) := by decide +kernel
theorem dX1_gather_229 : decode cX1_gather 229 = .ok (.return_, 1) := by decide +kernel
noncomputable def C_X1_gather_L30 (l : Launch) (δ : Dl) : Seg (l, δ, yX1_gather, 0, none, cX1_gather, 7) 30 229 :=
  seq (p := 30) (q := 31) (r := 229) (p_iload_n 2 dX1_gather_30) (seq (p := 31) (q := 32) (r := 229) (p_aload_n 0 dX1_gather_31) (seq (p := 32) (q := 35) (r := 229) (p_get [(1, 52)] (alL1 fl_X1_383_1) dX1_gather_32) (seq (p := 35) (q := 38) (r := 229) (p_icmp_ge 229 dX1_gather_35 (by decide)) (seq (p := 38) (q := 39) (r := 229) (p_aload_n 0 dX1_gather_38) (seq (p := 39) (q := 42) (r := 229) (p_get [(1, 57)] (alL1 fl_X1_104_1) dX1_gather_39) (seq (p := 42) (q := 43) (r := 229) (p_iload_n 2 dX1_gather_42) (seq (p := 43) (q := 44) (r := 229) (p_iald dX1_gather_43) (seq (p := 44) (q := 45) (r := 229) (p_aload_n 0 dX1_gather_44) (seq (p := 45) (q := 48) (r := 229) (p_get [(1, 57)] (alL1 fl_X1_104_1) dX1_gather_45) (seq (p := 48) (q := 49) (r := 229) (p_iload_n 1 dX1_gather_48) (seq (p := 49) (q := 50) (r := 229) (p_iald dX1_gather_49) (seq (p := 50) (q := 223) (r := 229) (blk (seq (p := 50) (q := 53) (r := 223) (p_icmp_ne 223 dX1_gather_50 (by decide)) (seq (p := 53) (q := 54) (r := 223) (p_aload_n 0 dX1_gather_53) (seq (p := 54) (q := 57) (r := 223) (p_get [(1, 55)] (alL1 fl_X1_98_1) dX1_gather_54) (seq (p := 57) (q := 58) (r := 223) (p_iload_n 2 dX1_gather_57) (seq (p := 58) (q := 59) (r := 223) (p_iald dX1_gather_58) (seq (p := 59) (q := 61) (r := 223) (p_bipush 36 dX1_gather_59 (by decide)) (seq (p := 61) (q := 76) (r := 223) (blk (seq (p := 61) (q := 75) (r := 76) (blk (seq (p := 61) (q := 64) (r := 75) (p_icmp_ge 75 dX1_gather_61 (by decide)) (seq (p := 64) (q := 65) (r := 75) (p_lconst1 dX1_gather_64) (seq (p := 65) (q := 66) (r := 75) (p_aload_n 0 dX1_gather_65) (seq (p := 66) (q := 69) (r := 75) (p_get [(1, 55)] (alL1 fl_X1_98_1) dX1_gather_66) (seq (p := 69) (q := 70) (r := 75) (p_iload_n 2 dX1_gather_69) (seq (p := 70) (q := 71) (r := 75) (p_iald dX1_gather_70) (seq (p := 71) (q := 72) (r := 75) (p_lshl dX1_gather_71) (seq (p := 72) (q := 75) (r := 75) (p_goto 76 dX1_gather_72 (by decide)) done))))))))) (seq (p := 75) (q := 76) (r := 76) (p_lconst0 dX1_gather_75) done))) (seq (p := 76) (q := 77) (r := 223) (p_lstore_n 3 dX1_gather_76 (Nat.le_of_ble_eq_true rfl)) (seq (p := 77) (q := 78) (r := 223) (p_aload_n 0 dX1_gather_77) (seq (p := 78) (q := 81) (r := 223) (p_get [(1, 55)] (alL1 fl_X1_98_1) dX1_gather_78) (seq (p := 81) (q := 82) (r := 223) (p_iload_n 2 dX1_gather_81) (seq (p := 82) (q := 83) (r := 223) (p_iald dX1_gather_82) (seq (p := 83) (q := 85) (r := 223) (p_bipush 36 dX1_gather_83 (by decide)) (seq (p := 85) (q := 103) (r := 223) (blk (seq (p := 85) (q := 92) (r := 103) (blk (seq (p := 85) (q := 88) (r := 92) (p_icmp_ge 92 dX1_gather_85 (by decide)) (seq (p := 88) (q := 89) (r := 92) (p_lconst0 dX1_gather_88) (seq (p := 89) (q := 92) (r := 92) (p_goto 103 dX1_gather_89 (by decide)) done)))) (seq (p := 92) (q := 93) (r := 103) (p_lconst1 dX1_gather_92) (seq (p := 93) (q := 94) (r := 103) (p_aload_n 0 dX1_gather_93) (seq (p := 94) (q := 97) (r := 103) (p_get [(1, 55)] (alL1 fl_X1_98_1) dX1_gather_94) (seq (p := 97) (q := 98) (r := 103) (p_iload_n 2 dX1_gather_97) (seq (p := 98) (q := 99) (r := 103) (p_iald dX1_gather_98) (seq (p := 99) (q := 101) (r := 103) (p_bipush 36 dX1_gather_99 (by decide)) (seq (p := 101) (q := 102) (r := 103) (p_isub dX1_gather_101) (seq (p := 102) (q := 103) (r := 103) (p_lshl dX1_gather_102) done)))))))))) (seq (p := 103) (q := 105) (r := 223) (p_lstore 5 dX1_gather_103 (Nat.le_of_ble_eq_true rfl)) (seq (p := 105) (q := 106) (r := 223) (p_aload_n 0 dX1_gather_105) (seq (p := 106) (q := 109) (r := 223) (p_get [(1, 60)] (alL1 fl_X1_113_1) dX1_gather_106) (seq (p := 109) (q := 110) (r := 223) (p_iload_n 1 dX1_gather_109) (seq (p := 110) (q := 111) (r := 223) (p_dup2 dX1_gather_110) (seq (p := 111) (q := 112) (r := 223) (p_lald dX1_gather_111) (seq (p := 112) (q := 113) (r := 223) (p_aload_n 0 dX1_gather_112) (seq (p := 113) (q := 116) (r := 223) (p_get [(1, 59)] (alL1 fl_X1_110_1) dX1_gather_113) (seq (p := 116) (q := 117) (r := 223) (p_iload_n 2 dX1_gather_116) (seq (p := 117) (q := 118) (r := 223) (p_iald dX1_gather_117) (seq (p := 118) (q := 119) (r := 223) (p_aload_n 0 dX1_gather_118) (seq (p := 119) (q := 122) (r := 223) (p_get [(1, 59)] (alL1 fl_X1_110_1) dX1_gather_119) (seq (p := 122) (q := 123) (r := 223) (p_iload_n 1 dX1_gather_122) (seq (p := 123) (q := 124) (r := 223) (p_iald dX1_gather_123) (seq (p := 124) (q := 132) (r := 223) (blk (seq (p := 124) (q := 131) (r := 132) (blk (seq (p := 124) (q := 127) (r := 131) (p_icmp_ne 131 dX1_gather_124 (by decide)) (seq (p := 127) (q := 128) (r := 131) (p_lload_n 3 dX1_gather_127) (seq (p := 128) (q := 131) (r := 131) (p_goto 132 dX1_gather_128 (by decide)) done)))) (seq (p := 131) (q := 132) (r := 132) (p_lconst0 dX1_gather_131) done))) (seq (p := 132) (q := 133) (r := 223) (p_lor dX1_gather_132) (seq (p := 133) (q := 134) (r := 223) (p_last dX1_gather_133) (seq (p := 134) (q := 135) (r := 223) (p_aload_n 0 dX1_gather_134) (seq (p := 135) (q := 138) (r := 223) (p_get [(1, 61)] (alL1 fl_X1_117_1) dX1_gather_135) (seq (p := 138) (q := 139) (r := 223) (p_iload_n 1 dX1_gather_138) (seq (p := 139) (q := 140) (r := 223) (p_dup2 dX1_gather_139) (seq (p := 140) (q := 141) (r := 223) (p_lald dX1_gather_140) (seq (p := 141) (q := 142) (r := 223) (p_aload_n 0 dX1_gather_141) (seq (p := 142) (q := 145) (r := 223) (p_get [(1, 59)] (alL1 fl_X1_110_1) dX1_gather_142) (seq (p := 145) (q := 146) (r := 223) (p_iload_n 2 dX1_gather_145) (seq (p := 146) (q := 147) (r := 223) (p_iald dX1_gather_146) (seq (p := 147) (q := 148) (r := 223) (p_aload_n 0 dX1_gather_147) (seq (p := 148) (q := 151) (r := 223) (p_get [(1, 59)] (alL1 fl_X1_110_1) dX1_gather_148) (seq (p := 151) (q := 152) (r := 223) (p_iload_n 1 dX1_gather_151) (seq (p := 152) (q := 153) (r := 223) (p_iald dX1_gather_152) (seq (p := 153) (q := 162) (r := 223) (blk (seq (p := 153) (q := 161) (r := 162) (blk (seq (p := 153) (q := 156) (r := 161) (p_icmp_ne 161 dX1_gather_153 (by decide)) (seq (p := 156) (q := 158) (r := 161) (p_lload 5 dX1_gather_156) (seq (p := 158) (q := 161) (r := 161) (p_goto 162 dX1_gather_158 (by decide)) done)))) (seq (p := 161) (q := 162) (r := 162) (p_lconst0 dX1_gather_161) done))) (seq (p := 162) (q := 163) (r := 223) (p_lor dX1_gather_162) (seq (p := 163) (q := 164) (r := 223) (p_last dX1_gather_163) (seq (p := 164) (q := 165) (r := 223) (p_aload_n 0 dX1_gather_164) (seq (p := 165) (q := 168) (r := 223) (p_get [(1, 62)] (alL1 fl_X1_120_1) dX1_gather_165) (seq (p := 168) (q := 169) (r := 223) (p_iload_n 1 dX1_gather_168) (seq (p := 169) (q := 170) (r := 223) (p_dup2 dX1_gather_169) (seq (p := 170) (q := 171) (r := 223) (p_lald dX1_gather_170) (seq (p := 171) (q := 172) (r := 223) (p_aload_n 0 dX1_gather_171) (seq (p := 172) (q := 175) (r := 223) (p_get [(1, 58)] (alL1 fl_X1_107_1) dX1_gather_172) (seq (p := 175) (q := 176) (r := 223) (p_iload_n 2 dX1_gather_175) (seq (p := 176) (q := 177) (r := 223) (p_iald dX1_gather_176) (seq (p := 177) (q := 178) (r := 223) (p_aload_n 0 dX1_gather_177) (seq (p := 178) (q := 181) (r := 223) (p_get [(1, 58)] (alL1 fl_X1_107_1) dX1_gather_178) (seq (p := 181) (q := 182) (r := 223) (p_iload_n 1 dX1_gather_181) (seq (p := 182) (q := 183) (r := 223) (p_iald dX1_gather_182) (seq (p := 183) (q := 191) (r := 223) (blk (seq (p := 183) (q := 190) (r := 191) (blk (seq (p := 183) (q := 186) (r := 190) (p_icmp_ne 190 dX1_gather_183 (by decide)) (seq (p := 186) (q := 187) (r := 190) (p_lload_n 3 dX1_gather_186) (seq (p := 187) (q := 190) (r := 190) (p_goto 191 dX1_gather_187 (by decide)) done)))) (seq (p := 190) (q := 191) (r := 191) (p_lconst0 dX1_gather_190) done))) (seq (p := 191) (q := 192) (r := 223) (p_lor dX1_gather_191) (seq (p := 192) (q := 193) (r := 223) (p_last dX1_gather_192) (seq (p := 193) (q := 194) (r := 223) (p_aload_n 0 dX1_gather_193) (seq (p := 194) (q := 197) (r := 223) (p_get [(1, 63)] (alL1 fl_X1_123_1) dX1_gather_194) (seq (p := 197) (q := 198) (r := 223) (p_iload_n 1 dX1_gather_197) (seq (p := 198) (q := 199) (r := 223) (p_dup2 dX1_gather_198) (seq (p := 199) (q := 200) (r := 223) (p_lald dX1_gather_199) (seq (p := 200) (q := 201) (r := 223) (p_aload_n 0 dX1_gather_200) (seq (p := 201) (q := 204) (r := 223) (p_get [(1, 58)] (alL1 fl_X1_107_1) dX1_gather_201) (seq (p := 204) (q := 205) (r := 223) (p_iload_n 2 dX1_gather_204) (seq (p := 205) (q := 206) (r := 223) (p_iald dX1_gather_205) (seq (p := 206) (q := 207) (r := 223) (p_aload_n 0 dX1_gather_206) (seq (p := 207) (q := 210) (r := 223) (p_get [(1, 58)] (alL1 fl_X1_107_1) dX1_gather_207) (seq (p := 210) (q := 211) (r := 223) (p_iload_n 1 dX1_gather_210) (seq (p := 211) (q := 212) (r := 223) (p_iald dX1_gather_211) (seq (p := 212) (q := 221) (r := 223) (blk (seq (p := 212) (q := 220) (r := 221) (blk (seq (p := 212) (q := 215) (r := 220) (p_icmp_ne 220 dX1_gather_212 (by decide)) (seq (p := 215) (q := 217) (r := 220) (p_lload 5 dX1_gather_215) (seq (p := 217) (q := 220) (r := 220) (p_goto 221 dX1_gather_217 (by decide)) done)))) (seq (p := 220) (q := 221) (r := 221) (p_lconst0 dX1_gather_220) done))) (seq (p := 221) (q := 222) (r := 223) (p_lor dX1_gather_221) (seq (p := 222) (q := 223) (r := 223) (p_last dX1_gather_222) done)))))))))))))))))))))))))))))))))))))))))))))))))))))))))))))))))))))))))))))))) (seq (p := 223) (q := 226) (r := 229) (p_iinc 2 1 dX1_gather_223 (Nat.le_of_ble_eq_true rfl)) (seq (p := 226) (q := 226) (r := 229) (er [true, true, true, false, false, false, false]) (seq (p := 226) (q := 229) (r := 229) (p_goto 30 dX1_gather_226 (by decide)) done)))))))))))))))
noncomputable def B_X1_gather_L30 (l : Launch) (δ : Dl) : Seg (l, δ, yX1_gather, 0, none, cX1_gather, 7) 30 229 := C_X1_gather_L30 l δ
theorem L_X1_gather_30 {l : Launch} {δ : Dl} {st : Stk} {L : Lc} {s : St} : (B_X1_gather_L30 l δ).1 st L s = (C_X1_gather_L30 l δ).1 st L s := nrfl rfl
noncomputable def B_X1_gather (l : Launch) (δ : Dl) : Seg (l, δ, yX1_gather, 0, none, cX1_gather, 7) 0 230 :=
  seq (p := 0) (q := 1) (r := 230) (p_aload_n 0 dX1_gather_0) (seq (p := 1) (q := 4) (r := 230) (p_get [(1, 60)] (alL1 fl_X1_113_1) dX1_gather_1) (seq (p := 4) (q := 5) (r := 230) (p_iload_n 1 dX1_gather_4) (seq (p := 5) (q := 6) (r := 230) (p_lconst0 dX1_gather_5) (seq (p := 6) (q := 7) (r := 230) (p_last dX1_gather_6) (seq (p := 7) (q := 8) (r := 230) (p_aload_n 0 dX1_gather_7) (seq (p := 8) (q := 11) (r := 230) (p_get [(1, 61)] (alL1 fl_X1_117_1) dX1_gather_8) (seq (p := 11) (q := 12) (r := 230) (p_iload_n 1 dX1_gather_11) (seq (p := 12) (q := 13) (r := 230) (p_lconst0 dX1_gather_12) (seq (p := 13) (q := 14) (r := 230) (p_last dX1_gather_13) (seq (p := 14) (q := 15) (r := 230) (p_aload_n 0 dX1_gather_14) (seq (p := 15) (q := 18) (r := 230) (p_get [(1, 62)] (alL1 fl_X1_120_1) dX1_gather_15) (seq (p := 18) (q := 19) (r := 230) (p_iload_n 1 dX1_gather_18) (seq (p := 19) (q := 20) (r := 230) (p_lconst0 dX1_gather_19) (seq (p := 20) (q := 21) (r := 230) (p_last dX1_gather_20) (seq (p := 21) (q := 22) (r := 230) (p_aload_n 0 dX1_gather_21) (seq (p := 22) (q := 25) (r := 230) (p_get [(1, 63)] (alL1 fl_X1_123_1) dX1_gather_22) (seq (p := 25) (q := 26) (r := 230) (p_iload_n 1 dX1_gather_25) (seq (p := 26) (q := 27) (r := 230) (p_lconst0 dX1_gather_26) (seq (p := 27) (q := 28) (r := 230) (p_last dX1_gather_27) (seq (p := 28) (q := 29) (r := 230) (p_iconst 0 dX1_gather_28) (seq (p := 29) (q := 30) (r := 230) (p_istore_n 2 dX1_gather_29 (Nat.le_of_ble_eq_true rfl)) (seq (p := 30) (q := 229) (r := 230) (blk (seq (p := 30) (q := 30) (r := 229) (er [true, true, true, false, false, false, false]) (seq (p := 30) (q := 229) (r := 229) (lp (B_X1_gather_L30 l δ)) done))) (seq (p := 229) (q := 230) (r := 230) (p_return dX1_gather_229 rfl) done)))))))))))))))))))))))
noncomputable def M_X1_gather (l : Launch) (δ : Dl) : Mth l δ yX1_gather cX1_gather 7 none 0 := mk (B_X1_gather l δ) (by decide)
theorem N_X1_gather {l : Launch} {δ : Dl} {o : Nat} {a1 : Int} {s : St} : (M_X1_gather l δ).1 [.inr (.inr (some o)), .inl a1] s = bres ((B_X1_gather l δ).1 [] [some (.inr (.inr (some o))), some (.inl a1), none, none, none, none, none] s) := (mk_eq (hy := by decide) rfl).trans (nrfl rfl)
theorem dX1_startsAlike_0 : decode cX1_startsAlike 0 = .ok (.aload_n 0, 1) := by decide +kernel
theorem dX1_startsAlike_1 : decode cX1_startsAlike 1 = .ok (.aload_n 0, 1) := by decide +kernel
theorem dX1_startsAlike_2 : decode cX1_startsAlike 2 = .ok (.getfield 104, 3) := by decide +kernel
theorem dX1_startsAlike_5 : decode cX1_startsAlike 5 = .ok (.iload_n 3, 1) := by decide +kernel
theorem dX1_startsAlike_6 : decode cX1_startsAlike 6 = .ok (.iaload, 1) := by decide +kernel
theorem dX1_startsAlike_7 : decode cX1_startsAlike 7 = .ok (.ifCond .ne 7, 3) := by decide +kernel
theorem dX1_startsAlike_10 : decode cX1_startsAlike 10 = .ok (.iload_n 1, 1) := by decide +kernel
theorem dX1_startsAlike_11 : decode cX1_startsAlike 11 = .ok (.goto 4, 3) := by decide +kernel
theorem dX1_startsAlike_14 : decode cX1_startsAlike 14 = .ok (.iload_n 2, 1) := by decide +kernel
theorem dX1_startsAlike_15 : decode cX1_startsAlike 15 = .ok (.aload_n 0, 1) := by decide +kernel
theorem dX1_startsAlike_16 : decode cX1_startsAlike 16 = .ok (.getfield 104, 3) := by decide +kernel
theorem dX1_startsAlike_19 : decode cX1_startsAlike 19 = .ok (.iload 4, 2) := by decide +kernel
theorem dX1_startsAlike_21 : decode cX1_startsAlike 21 = .ok (.iaload, 1) := by decide +kernel
theorem dX1_startsAlike_22 : decode cX1_startsAlike 22 = .ok (.ifCond .ne 7, 3) := by decide +kernel
theorem dX1_startsAlike_25 : decode cX1_startsAlike 25 = .ok (.iload_n 1, 1) := by decide +kernel
theorem dX1_startsAlike_26 : decode cX1_startsAlike 26 = .ok (.goto 4, 3) := by decide +kernel
theorem dX1_startsAlike_29 : decode cX1_startsAlike 29 = .ok (.iload_n 2, 1) := by decide +kernel
theorem dX1_startsAlike_30 : decode cX1_startsAlike 30 = .ok (.invokevirtual 198, 3) := by decide +kernel
theorem dX1_startsAlike_33 : decode cX1_startsAlike 33 = .ok (.aload_n 0, 1) := by decide +kernel
theorem dX1_startsAlike_34 : decode cX1_startsAlike 34 = .ok (.aload_n 0, 1) := by decide +kernel
theorem dX1_startsAlike_35 : decode cX1_startsAlike 35 = .ok (.getfield 107, 3) := by decide +kernel
theorem dX1_startsAlike_38 : decode cX1_startsAlike 38 = .ok (.iload_n 3, 1) := by decide +kernel
theorem dX1_startsAlike_39 : decode cX1_startsAlike 39 = .ok (.iaload, 1) := by decide +kernel
theorem dX1_startsAlike_40 : decode cX1_startsAlike 40 = .ok (.aload_n 0, 1) := by decide +kernel
theorem dX1_startsAlike_41 : decode cX1_startsAlike 41 = .ok (.getfield 107, 3) := by decide +kernel
theorem dX1_startsAlike_44 : decode cX1_startsAlike 44 = .ok (.iload 4, 2) := by decide +kernel
theorem dX1_startsAlike_46 : decode cX1_startsAlike 46 = .ok (.iaload, 1) := by decide +kernel
theorem dX1_startsAlike_47 : decode cX1_startsAlike 47 = .ok (.invokevirtual 175, 3) := by decide +kernel
theorem dX1_startsAlike_50 : decode cX1_startsAlike 50 = .ok (.aload_n 0, 1) := by decide +kernel
theorem dX1_startsAlike_51 : decode cX1_startsAlike 51 = .ok (.aload_n 0, 1) := by decide +kernel
theorem dX1_startsAlike_52 : decode cX1_startsAlike 52 = .ok (.getfield 110, 3) := by decide +kernel
theorem dX1_startsAlike_55 : decode cX1_startsAlike 55 = .ok (.iload_n 3, 1) := by decide +kernel
theorem dX1_startsAlike_56 : decode cX1_startsAlike 56 = .ok (.iaload, 1) := by decide +kernel
theorem dX1_startsAlike_57 : decode cX1_startsAlike 57 = .ok (.aload_n 0, 1) := by decide +kernel
theorem dX1_startsAlike_58 : decode cX1_startsAlike 58 = .ok (.getfield 110, 3) := by decide +kernel
theorem dX1_startsAlike_61 : decode cX1_startsAlike 61 = .ok (.iload 4, 2) := by decide +kernel
theorem dX1_startsAlike_63 : decode cX1_startsAlike 63 = .ok (.iaload, 1) := by decide +kernel
theorem dX1_startsAlike_64 : decode cX1_startsAlike 64 = .ok (.invokevirtual 175, 3) := by decide +kernel
theorem dX1_startsAlike_67 : decode cX1_startsAlike 67 = .ok (.aload_n 0, 1) := by decide +kernel
theorem dX1_startsAlike_68 : decode cX1_startsAlike 68 = .ok (.invokevirtual 178, 3) := by decide +kernel
theorem dX1_startsAlike_71 : decode cX1_startsAlike 71 = .ok (.ireturn, 1) := by decide +kernel
noncomputable def B_X1_startsAlike (l : Launch) (δ : Dl) : Seg (l, δ, yX1_startsAlike, 3, (some .boolean), cX1_startsAlike, 5) 0 72 :=
  seq (p := 0) (q := 1) (r := 72) (p_aload_n 0 dX1_startsAlike_0) (seq (p := 1) (q := 2) (r := 72) (p_aload_n 0 dX1_startsAlike_1) (seq (p := 2) (q := 5) (r := 72) (p_get [(1, 57)] (alL1 fl_X1_104_1) dX1_startsAlike_2) (seq (p := 5) (q := 6) (r := 72) (p_iload_n 3 dX1_startsAlike_5) (seq (p := 6) (q := 7) (r := 72) (p_iald dX1_startsAlike_6) (seq (p := 7) (q := 15) (r := 72) (blk (seq (p := 7) (q := 14) (r := 15) (blk (seq (p := 7) (q := 10) (r := 14) (p_if_ne 14 dX1_startsAlike_7 (by decide)) (seq (p := 10) (q := 11) (r := 14) (p_iload_n 1 dX1_startsAlike_10) (seq (p := 11) (q := 14) (r := 14) (p_goto 15 dX1_startsAlike_11 (by decide)) done)))) (seq (p := 14) (q := 15) (r := 15) (p_iload_n 2 dX1_startsAlike_14) done))) (seq (p := 15) (q := 16) (r := 72) (p_aload_n 0 dX1_startsAlike_15) (seq (p := 16) (q := 19) (r := 72) (p_get [(1, 57)] (alL1 fl_X1_104_1) dX1_startsAlike_16) (seq (p := 19) (q := 21) (r := 72) (p_iload 4 dX1_startsAlike_19) (seq (p := 21) (q := 22) (r := 72) (p_iald dX1_startsAlike_21) (seq (p := 22) (q := 30) (r := 72) (blk (seq (p := 22) (q := 29) (r := 30) (blk (seq (p := 22) (q := 25) (r := 29) (p_if_ne 29 dX1_startsAlike_22 (by decide)) (seq (p := 25) (q := 26) (r := 29) (p_iload_n 1 dX1_startsAlike_25) (seq (p := 26) (q := 29) (r := 29) (p_goto 30 dX1_startsAlike_26 (by decide)) done)))) (seq (p := 29) (q := 30) (r := 30) (p_iload_n 2 dX1_startsAlike_29) done))) (seq (p := 30) (q := 33) (r := 72) (p_callV 1 cv_X1_198 hcR1 (M_X1_begin l δ) (Nat.le_of_ble_eq_true rfl) dX1_startsAlike_30) (seq (p := 33) (q := 34) (r := 72) (p_aload_n 0 dX1_startsAlike_33) (seq (p := 34) (q := 35) (r := 72) (p_aload_n 0 dX1_startsAlike_34) (seq (p := 35) (q := 38) (r := 72) (p_get [(1, 58)] (alL1 fl_X1_107_1) dX1_startsAlike_35) (seq (p := 38) (q := 39) (r := 72) (p_iload_n 3 dX1_startsAlike_38) (seq (p := 39) (q := 40) (r := 72) (p_iald dX1_startsAlike_39) (seq (p := 40) (q := 41) (r := 72) (p_aload_n 0 dX1_startsAlike_40) (seq (p := 41) (q := 44) (r := 72) (p_get [(1, 58)] (alL1 fl_X1_107_1) dX1_startsAlike_41) (seq (p := 44) (q := 46) (r := 72) (p_iload 4 dX1_startsAlike_44) (seq (p := 46) (q := 47) (r := 72) (p_iald dX1_startsAlike_46) (seq (p := 47) (q := 50) (r := 72) (p_callV 1 cv_X1_175 hcR1 (M_X1_add l δ) (Nat.le_of_ble_eq_true rfl) dX1_startsAlike_47) (seq (p := 50) (q := 51) (r := 72) (p_aload_n 0 dX1_startsAlike_50) (seq (p := 51) (q := 52) (r := 72) (p_aload_n 0 dX1_startsAlike_51) (seq (p := 52) (q := 55) (r := 72) (p_get [(1, 59)] (alL1 fl_X1_110_1) dX1_startsAlike_52) (seq (p := 55) (q := 56) (r := 72) (p_iload_n 3 dX1_startsAlike_55) (seq (p := 56) (q := 57) (r := 72) (p_iald dX1_startsAlike_56) (seq (p := 57) (q := 58) (r := 72) (p_aload_n 0 dX1_startsAlike_57) (seq (p := 58) (q := 61) (r := 72) (p_get [(1, 59)] (alL1 fl_X1_110_1) dX1_startsAlike_58) (seq (p := 61) (q := 63) (r := 72) (p_iload 4 dX1_startsAlike_61) (seq (p := 63) (q := 64) (r := 72) (p_iald dX1_startsAlike_63) (seq (p := 64) (q := 67) (r := 72) (p_callV 1 cv_X1_175 hcR1 (M_X1_add l δ) (Nat.le_of_ble_eq_true rfl) dX1_startsAlike_64) (seq (p := 67) (q := 68) (r := 72) (p_aload_n 0 dX1_startsAlike_67) (seq (p := 68) (q := 71) (r := 72) (p_callV 1 cv_X1_178 hcR1 (M_X1_areAlike l δ) (Nat.le_of_ble_eq_true rfl) dX1_startsAlike_68) (seq (p := 71) (q := 72) (r := 72) (p_zreturn dX1_startsAlike_71 rfl) done))))))))))))))))))))))))))))))))))
noncomputable def M_X1_startsAlike (l : Launch) (δ : Dl) : Mth l δ yX1_startsAlike cX1_startsAlike 5 (some .boolean) 3 := mk (B_X1_startsAlike l δ) (by decide)
theorem N_X1_startsAlike {l : Launch} {δ : Dl} {o : Nat} {a1 : Int} {a2 : Int} {a3 : Int} {a4 : Int} {s : St} : (M_X1_startsAlike l δ).1 [.inr (.inr (some o)), .inl a1, .inl a2, .inl a3, .inl a4] s = bres ((B_X1_startsAlike l δ).1 [] [some (.inr (.inr (some o))), some (.inl a1), some (.inl a2), some (.inl a3), some (.inl a4)] s) := (mk_eq (hy := by decide) rfl).trans (nrfl rfl)
theorem dX1_tiedOf_0 : decode cX1_tiedOf 0 = .ok (.iconst 0, 1) := by decide +kernel
theorem dX1_tiedOf_1 : decode cX1_tiedOf 1 = .ok (.istore 4, 2) := by decide +kernel
theorem dX1_tiedOf_3 : decode cX1_tiedOf 3 = .ok (.iconst 0, 1) := by decide +kernel
theorem dX1_tiedOf_4 : decode cX1_tiedOf 4 = .ok (.istore 5, 2) := by decide +kernel
theorem dX1_tiedOf_6 : decode cX1_tiedOf 6 = .ok (.iload 5, 2) := by decide +kernel
theorem dX1_tiedOf_8 : decode cX1_tiedOf 8 = .ok (.aload_n 0, 1) := by decide +kernel
theorem dX1_tiedOf_9 : decode cX1_tiedOf 9 = .ok (.getfield 383, 3) := by decide +kernel
theorem dX1_tiedOf_12 : decode cX1_tiedOf 12 = .ok (.if_icmp .ge 95, 3) := by decide +kernel
theorem dX1_tiedOf_15 : decode cX1_tiedOf 15 = .ok (.aload_n 0, 1) := by decide +kernel
theorem dX1_tiedOf_16 : decode cX1_tiedOf 16 = .ok (.getfield 104, 3) := by decide +kernel
theorem dX1_tiedOf_19 : decode cX1_tiedOf 19 = .ok (.iload 5, 2) := by decide +kernel
theorem dX1_tiedOf_21 : decode cX1_tiedOf 21 = .ok (.iaload, 1) := by decide +kernel
theorem dX1_tiedOf_22 : decode cX1_tiedOf 22 = .ok (.aload_n 0, 1) := by decide +kernel
theorem dX1_tiedOf_23 : decode cX1_tiedOf 23 = .ok (.getfield 104, 3) := by decide +kernel
theorem dX1_tiedOf_26 : decode cX1_tiedOf 26 = .ok (.iload_n 2, 1) := by decide +kernel
theorem dX1_tiedOf_27 : decode cX1_tiedOf 27 = .ok (.iaload, 1) := by decide +kernel
theorem dX1_tiedOf_28 : decode cX1_tiedOf 28 = .ok (.if_icmp .ne 73, 3) := by decide +kernel
theorem dX1_tiedOf_31 : decode cX1_tiedOf 31 = .ok (.aload_n 0, 1) := by decide +kernel
theorem dX1_tiedOf_32 : decode cX1_tiedOf 32 = .ok (.getfield 98, 3) := by decide +kernel
theorem dX1_tiedOf_35 : decode cX1_tiedOf 35 = .ok (.iload 5, 2) := by decide +kernel
theorem dX1_tiedOf_37 : decode cX1_tiedOf 37 = .ok (.iaload, 1) := by decide +kernel
theorem dX1_tiedOf_38 : decode cX1_tiedOf 38 = .ok (.iload_n 3, 1) := by decide +kernel
theorem dX1_tiedOf_39 : decode cX1_tiedOf 39 = .ok (.if_icmp .ne 62, 3) := by decide +kernel
theorem dX1_tiedOf_42 : decode cX1_tiedOf 42 = .ok (.iload 4, 2) := by decide +kernel
theorem dX1_tiedOf_44 : decode cX1_tiedOf 44 = .ok (.aload_n 0, 1) := by decide +kernel
theorem dX1_tiedOf_45 : decode cX1_tiedOf 45 = .ok (.iload_n 1, 1) := by decide +kernel
theorem dX1_tiedOf_46 : decode cX1_tiedOf 46 = .ok (.aload_n 0, 1) := by decide +kernel
theorem dX1_tiedOf_47 : decode cX1_tiedOf 47 = .ok (.getfield 107, 3) := by decide +kernel
theorem dX1_tiedOf_50 : decode cX1_tiedOf 50 = .ok (.iload_n 2, 1) := by decide +kernel
theorem dX1_tiedOf_51 : decode cX1_tiedOf 51 = .ok (.iaload, 1) := by decide +kernel
theorem dX1_tiedOf_52 : decode cX1_tiedOf 52 = .ok (.aload_n 0, 1) := by decide +kernel
theorem dX1_tiedOf_53 : decode cX1_tiedOf 53 = .ok (.getfield 107, 3) := by decide +kernel
theorem dX1_tiedOf_56 : decode cX1_tiedOf 56 = .ok (.iload 5, 2) := by decide +kernel
theorem dX1_tiedOf_58 : decode cX1_tiedOf 58 = .ok (.iaload, 1) := by decide +kernel
theorem dX1_tiedOf_59 : decode cX1_tiedOf 59 = .ok (.invokevirtual 152, 3) := by decide +kernel
theorem dX1_tiedOf_62 : decode cX1_tiedOf 62 = .ok (.ifCond .eq 8, 3) := by decide +kernel
theorem dX1_tiedOf_65 : decode cX1_tiedOf 65 = .ok (.bipush 16, 2) := by decide +kernel
theorem dX1_tiedOf_67 : decode cX1_tiedOf 67 = .ok (.goto 4, 3) := by decide +kernel
theorem dX1_tiedOf_70 : decode cX1_tiedOf 70 = .ok (.iconst 0, 1) := by decide +kernel
theorem dX1_tiedOf_71 : decode cX1_tiedOf 71 = .ok (.aload_n 0, 1) := by decide +kernel
theorem dX1_tiedOf_72 : decode cX1_tiedOf 72 = .ok (.iload_n 1, 1) := by decide +kernel
theorem dX1_tiedOf_73 : decode cX1_tiedOf 73 = .ok (.aload_n 0, 1) := by decide +kernel
theorem dX1_tiedOf_74 : decode cX1_tiedOf 74 = .ok (.getfield 107, 3) := by decide +kernel
theorem dX1_tiedOf_77 : decode cX1_tiedOf 77 = .ok (.iload 5, 2) := by decide +kernel
theorem dX1_tiedOf_79 : decode cX1_tiedOf 79 = .ok (.iaload, 1) := by decide +kernel
theorem dX1_tiedOf_80 : decode cX1_tiedOf 80 = .ok (.aload_n 0, 1) := by decide +kernel
theorem dX1_tiedOf_81 : decode cX1_tiedOf 81 = .ok (.getfield 107, 3) := by decide +kernel
theorem dX1_tiedOf_84 : decode cX1_tiedOf 84 = .ok (.iload_n 2, 1) := by decide +kernel
theorem dX1_tiedOf_85 : decode cX1_tiedOf 85 = .ok (.iaload, 1) := by decide +kernel
theorem dX1_tiedOf_86 : decode cX1_tiedOf 86 = .ok (.invokevirtual 152, 3) := by decide +kernel
theorem dX1_tiedOf_89 : decode cX1_tiedOf 89 = .ok (.ifCond .eq 7, 3) := by decide +kernel
theorem dX1_tiedOf_92 : decode cX1_tiedOf 92 = .ok (.iconst 1, 1) := by decide +kernel
theorem dX1_tiedOf_93 : decode cX1_tiedOf 93 = .ok (.goto 4, 3) := by decide +kernel
theorem dX1_tiedOf_96 : decode cX1_tiedOf 96 = .ok (.iconst 0, 1) := by decide +kernel
theorem dX1_tiedOf_97 : decode cX1_tiedOf 97 = .ok (.iadd, 1) := by decide +kernel
theorem dX1_tiedOf_98 : decode cX1_tiedOf 98 = .ok (.iadd, 1) := by decide +kernel
theorem dX1_tiedOf_99 : decode cX1_tiedOf 99 = .ok (.istore 4, 2) := by decide +kernel
theorem dX1_tiedOf_101 : decode cX1_tiedOf 101 = .ok (.iinc 5 1, 3) := by decide +kernel
theorem dX1_tiedOf_104 : decode cX1_tiedOf 104 = .ok (.goto (-98), 3) := by decide +kernel
theorem dX1_tiedOf_107 : decode cX1_tiedOf 107 = .ok (.iload 4, 2) := by decide +kernel
theorem dX1_tiedOf_109 : decode cX1_tiedOf 109 = .ok (.ireturn, 1) := by decide +kernel
noncomputable def C_X1_tiedOf_L6 (l : Launch) (δ : Dl) : Seg (l, δ, yX1_tiedOf, 1, (some .int), cX1_tiedOf, 6) 6 107 :=
  seq (p := 6) (q := 8) (r := 107) (p_iload 5 dX1_tiedOf_6) (seq (p := 8) (q := 9) (r := 107) (p_aload_n 0 dX1_tiedOf_8) (seq (p := 9) (q := 12) (r := 107) (p_get [(1, 52)] (alL1 fl_X1_383_1) dX1_tiedOf_9) (seq (p := 12) (q := 15) (r := 107) (p_icmp_ge 107 dX1_tiedOf_12 (by decide)) (seq (p := 15) (q := 16) (r := 107) (p_aload_n 0 dX1_tiedOf_15) (seq (p := 16) (q := 19) (r := 107) (p_get [(1, 57)] (alL1 fl_X1_104_1) dX1_tiedOf_16) (seq (p := 19) (q := 21) (r := 107) (p_iload 5 dX1_tiedOf_19) (seq (p := 21) (q := 22) (r := 107) (p_iald dX1_tiedOf_21) (seq (p := 22) (q := 23) (r := 107) (p_aload_n 0 dX1_tiedOf_22) (seq (p := 23) (q := 26) (r := 107) (p_get [(1, 57)] (alL1 fl_X1_104_1) dX1_tiedOf_23) (seq (p := 26) (q := 27) (r := 107) (p_iload_n 2 dX1_tiedOf_26) (seq (p := 27) (q := 28) (r := 107) (p_iald dX1_tiedOf_27) (seq (p := 28) (q := 101) (r := 107) (blk (seq (p := 28) (q := 31) (r := 101) (p_icmp_ne 101 dX1_tiedOf_28 (by decide)) (seq (p := 31) (q := 32) (r := 101) (p_aload_n 0 dX1_tiedOf_31) (seq (p := 32) (q := 35) (r := 101) (p_get [(1, 55)] (alL1 fl_X1_98_1) dX1_tiedOf_32) (seq (p := 35) (q := 37) (r := 101) (p_iload 5 dX1_tiedOf_35) (seq (p := 37) (q := 38) (r := 101) (p_iald dX1_tiedOf_37) (seq (p := 38) (q := 39) (r := 101) (p_iload_n 3 dX1_tiedOf_38) (seq (p := 39) (q := 42) (r := 101) (p_icmp_ne 101 dX1_tiedOf_39 (by decide)) (seq (p := 42) (q := 44) (r := 101) (p_iload 4 dX1_tiedOf_42) (seq (p := 44) (q := 45) (r := 101) (p_aload_n 0 dX1_tiedOf_44) (seq (p := 45) (q := 46) (r := 101) (p_iload_n 1 dX1_tiedOf_45) (seq (p := 46) (q := 47) (r := 101) (p_aload_n 0 dX1_tiedOf_46) (seq (p := 47) (q := 50) (r := 101) (p_get [(1, 58)] (alL1 fl_X1_107_1) dX1_tiedOf_47) (seq (p := 50) (q := 51) (r := 101) (p_iload_n 2 dX1_tiedOf_50) (seq (p := 51) (q := 52) (r := 101) (p_iald dX1_tiedOf_51) (seq (p := 52) (q := 53) (r := 101) (p_aload_n 0 dX1_tiedOf_52) (seq (p := 53) (q := 56) (r := 101) (p_get [(1, 58)] (alL1 fl_X1_107_1) dX1_tiedOf_53) (seq (p := 56) (q := 58) (r := 101) (p_iload 5 dX1_tiedOf_56) (seq (p := 58) (q := 59) (r := 101) (p_iald dX1_tiedOf_58) (seq (p := 59) (q := 62) (r := 101) (p_callV 1 cv_X1_152 hcR1 (M_X1_isTied l δ) (Nat.le_of_ble_eq_true rfl) dX1_tiedOf_59) (seq (p := 62) (q := 71) (r := 101) (blk (seq (p := 62) (q := 70) (r := 71) (blk (seq (p := 62) (q := 65) (r := 70) (p_if_eq 70 dX1_tiedOf_62 (by decide)) (seq (p := 65) (q := 67) (r := 70) (p_bipush 16 dX1_tiedOf_65 (by decide)) (seq (p := 67) (q := 70) (r := 70) (p_goto 71 dX1_tiedOf_67 (by decide)) done)))) (seq (p := 70) (q := 71) (r := 71) (p_iconst 0 dX1_tiedOf_70) done))) (seq (p := 71) (q := 72) (r := 101) (p_aload_n 0 dX1_tiedOf_71) (seq (p := 72) (q := 73) (r := 101) (p_iload_n 1 dX1_tiedOf_72) (seq (p := 73) (q := 74) (r := 101) (p_aload_n 0 dX1_tiedOf_73) (seq (p := 74) (q := 77) (r := 101) (p_get [(1, 58)] (alL1 fl_X1_107_1) dX1_tiedOf_74) (seq (p := 77) (q := 79) (r := 101) (p_iload 5 dX1_tiedOf_77) (seq (p := 79) (q := 80) (r := 101) (p_iald dX1_tiedOf_79) (seq (p := 80) (q := 81) (r := 101) (p_aload_n 0 dX1_tiedOf_80) (seq (p := 81) (q := 84) (r := 101) (p_get [(1, 58)] (alL1 fl_X1_107_1) dX1_tiedOf_81) (seq (p := 84) (q := 85) (r := 101) (p_iload_n 2 dX1_tiedOf_84) (seq (p := 85) (q := 86) (r := 101) (p_iald dX1_tiedOf_85) (seq (p := 86) (q := 89) (r := 101) (p_callV 1 cv_X1_152 hcR1 (M_X1_isTied l δ) (Nat.le_of_ble_eq_true rfl) dX1_tiedOf_86) (seq (p := 89) (q := 97) (r := 101) (blk (seq (p := 89) (q := 96) (r := 97) (blk (seq (p := 89) (q := 92) (r := 96) (p_if_eq 96 dX1_tiedOf_89 (by decide)) (seq (p := 92) (q := 93) (r := 96) (p_iconst 1 dX1_tiedOf_92) (seq (p := 93) (q := 96) (r := 96) (p_goto 97 dX1_tiedOf_93 (by decide)) done)))) (seq (p := 96) (q := 97) (r := 97) (p_iconst 0 dX1_tiedOf_96) done))) (seq (p := 97) (q := 98) (r := 101) (p_iadd dX1_tiedOf_97) (seq (p := 98) (q := 99) (r := 101) (p_iadd dX1_tiedOf_98) (seq (p := 99) (q := 101) (r := 101) (p_istore 4 dX1_tiedOf_99 (Nat.le_of_ble_eq_true rfl)) done)))))))))))))))))))))))))))))))))))) (seq (p := 101) (q := 104) (r := 107) (p_iinc 5 1 dX1_tiedOf_101 (Nat.le_of_ble_eq_true rfl)) (seq (p := 104) (q := 104) (r := 107) (er [true, true, true, true, true, true]) (seq (p := 104) (q := 107) (r := 107) (p_goto 6 dX1_tiedOf_104 (by decide)) done)))))))))))))))
noncomputable def B_X1_tiedOf_L6 (l : Launch) (δ : Dl) : Seg (l, δ, yX1_tiedOf, 1, (some .int), cX1_tiedOf, 6) 6 107 := C_X1_tiedOf_L6 l δ
theorem L_X1_tiedOf_6 {l : Launch} {δ : Dl} {st : Stk} {L : Lc} {s : St} : (B_X1_tiedOf_L6 l δ).1 st L s = (C_X1_tiedOf_L6 l δ).1 st L s := nrfl rfl
noncomputable def B_X1_tiedOf (l : Launch) (δ : Dl) : Seg (l, δ, yX1_tiedOf, 1, (some .int), cX1_tiedOf, 6) 0 110 :=
  seq (p := 0) (q := 1) (r := 110) (p_iconst 0 dX1_tiedOf_0) (seq (p := 1) (q := 3) (r := 110) (p_istore 4 dX1_tiedOf_1 (Nat.le_of_ble_eq_true rfl)) (seq (p := 3) (q := 4) (r := 110) (p_iconst 0 dX1_tiedOf_3) (seq (p := 4) (q := 6) (r := 110) (p_istore 5 dX1_tiedOf_4 (Nat.le_of_ble_eq_true rfl)) (seq (p := 6) (q := 107) (r := 110) (blk (seq (p := 6) (q := 6) (r := 107) (er [true, true, true, true, true, true]) (seq (p := 6) (q := 107) (r := 107) (lp (B_X1_tiedOf_L6 l δ)) done))) (seq (p := 107) (q := 109) (r := 110) (p_iload 4 dX1_tiedOf_107) (seq (p := 109) (q := 110) (r := 110) (p_ireturn dX1_tiedOf_109 rfl) done))))))
noncomputable def M_X1_tiedOf (l : Launch) (δ : Dl) : Mth l δ yX1_tiedOf cX1_tiedOf 6 (some .int) 1 := mk (B_X1_tiedOf l δ) (by decide)
theorem N_X1_tiedOf {l : Launch} {δ : Dl} {o : Nat} {a1 : Int} {a2 : Int} {a3 : Int} {s : St} : (M_X1_tiedOf l δ).1 [.inr (.inr (some o)), .inl a1, .inl a2, .inl a3] s = bres ((B_X1_tiedOf l δ).1 [] [some (.inr (.inr (some o))), some (.inl a1), some (.inl a2), some (.inl a3), none, none] s) := (mk_eq (hy := by decide) rfl).trans (nrfl rfl)

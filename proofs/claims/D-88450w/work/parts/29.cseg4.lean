/-! ===== the component's methods as segments, 4 ===== -/
set_option maxRecDepth 100000
theorem dX0_turn_0 : decode cX0_turn 0 = .ok (.aload_n 0, 1) := by decide +kernel
theorem dX0_turn_1 : decode cX0_turn 1 = .ok (.iload_n 1, 1) := by decide +kernel
theorem dX0_turn_2 : decode cX0_turn 2 = .ok (.iload_n 2, 1) := by decide +kernel
theorem dX0_turn_3 : decode cX0_turn 3 = .ok (.invokevirtual 51, 3) := by decide +kernel
theorem dX0_turn_6 : decode cX0_turn 6 = .ok (.ifCond .eq 20, 3) := by decide +kernel
theorem dX0_turn_9 : decode cX0_turn 9 = .ok (.aload_n 0, 1) := by decide +kernel
theorem dX0_turn_10 : decode cX0_turn 10 = .ok (.iload_n 1, 1) := by decide +kernel
theorem dX0_turn_11 : decode cX0_turn 11 = .ok (.iload_n 3, 1) := by decide +kernel
theorem dX0_turn_12 : decode cX0_turn 12 = .ok (.invokevirtual 51, 3) := by decide +kernel
theorem dX0_turn_15 : decode cX0_turn 15 = .ok (.ifCond .eq 11, 3) := by decide +kernel
theorem dX0_turn_18 : decode cX0_turn 18 = .ok (.iload 4, 2) := by decide +kernel
theorem dX0_turn_20 : decode cX0_turn 20 = .ok (.invokestatic 36, 3) := by decide +kernel
theorem dX0_turn_23 : decode cX0_turn 23 = .ok (.ifCond .ne 5, 3) := by decide +kernel
theorem dX0_turn_26 : decode cX0_turn 26 = .ok (.iconst (-1), 1) := by decide +kernel
theorem dX0_turn_27 : decode cX0_turn 27 = .ok (.ireturn, 1) := by decide +kernel
theorem dX0_turn_28 : decode cX0_turn 28 = .ok (.bipush 6, 2) := by decide +kernel
theorem dX0_turn_30 : decode cX0_turn 30 = .ok (.newarray .int, 2) := by decide +kernel
theorem dX0_turn_32 : decode cX0_turn 32 = .ok (.astore 5, 2) := by decide +kernel
theorem dX0_turn_34 : decode cX0_turn 34 = .ok (.iconst 0, 1) := by decide +kernel
theorem dX0_turn_35 : decode cX0_turn 35 = .ok (.istore 6, 2) := by decide +kernel
theorem dX0_turn_37 : decode cX0_turn 37 = .ok (.iload 6, 2) := by decide +kernel
theorem dX0_turn_39 : decode cX0_turn 39 = .ok (.bipush 6, 2) := by decide +kernel
theorem dX0_turn_41 : decode cX0_turn 41 = .ok (.if_icmp .ge 36, 3) := by decide +kernel
theorem dX0_turn_44 : decode cX0_turn 44 = .ok (.aload 5, 2) := by decide +kernel
theorem dX0_turn_46 : decode cX0_turn 46 = .ok (.iload 6, 2) := by decide +kernel
theorem dX0_turn_48 : decode cX0_turn 48 = .ok (.iload 6, 2) := by decide +kernel
theorem dX0_turn_50 : decode cX0_turn 50 = .ok (.iload_n 2, 1) := by decide +kernel
theorem dX0_turn_51 : decode cX0_turn 51 = .ok (.if_icmp .ne 7, 3) := by decide +kernel
theorem dX0_turn_54 : decode cX0_turn 54 = .ok (.iload_n 3, 1) := by decide +kernel
theorem dX0_turn_55 : decode cX0_turn 55 = .ok (.goto 15, 3) := by decide +kernel
theorem dX0_turn_58 : decode cX0_turn 58 = .ok (.iload 6, 2) := by decide +kernel
theorem dX0_turn_60 : decode cX0_turn 60 = .ok (.iload_n 3, 1) := by decide +kernel
theorem dX0_turn_61 : decode cX0_turn 61 = .ok (.if_icmp .ne 7, 3) := by decide +kernel
theorem dX0_turn_64 : decode cX0_turn 64 = .ok (.iload_n 2, 1) := by decide +kernel
theorem dX0_turn_65 : decode cX0_turn 65 = .ok (.goto 5, 3) := by decide +kernel
theorem dX0_turn_68 : decode cX0_turn 68 = .ok (.iload 6, 2) := by decide +kernel
theorem dX0_turn_70 : decode cX0_turn 70 = .ok (.iastore, 1) := by decide +kernel
theorem dX0_turn_71 : decode cX0_turn 71 = .ok (.iinc 6 1, 3) := by decide +kernel
theorem dX0_turn_74 : decode cX0_turn 74 = .ok (.goto (-37), 3) := by decide +kernel
theorem dX0_turn_77 : decode cX0_turn 77 = .ok (.new 9, 3) := by decide +kernel
theorem dX0_turn_80 : decode cX0_turn 80 = .ok (.dup, 1) := by decide +kernel
theorem dX0_turn_81 : decode cX0_turn 81 = .ok (.aload_n 0, 1) := by decide +kernel
theorem dX0_turn_82 : decode cX0_turn 82 = .ok (.getfield 11, 3) := by decide +kernel
theorem dX0_turn_85 : decode cX0_turn 85 = .ok (.iload_n 1, 1) := by decide +kernel
theorem dX0_turn_86 : decode cX0_turn 86 = .ok (.aaload, 1) := by decide +kernel
theorem dX0_turn_87 : decode cX0_turn 87 = .ok (.getfield 64, 3) := by decide +kernel
theorem dX0_turn_90 : decode cX0_turn 90 = .ok (.invokespecial 48, 3) := by decide +kernel
theorem dX0_turn_93 : decode cX0_turn 93 = .ok (.astore 6, 2) := by decide +kernel
theorem dX0_turn_95 : decode cX0_turn 95 = .ok (.aload 6, 2) := by decide +kernel
theorem dX0_turn_97 : decode cX0_turn 97 = .ok (.aload_n 0, 1) := by decide +kernel
theorem dX0_turn_98 : decode cX0_turn 98 = .ok (.getfield 11, 3) := by decide +kernel
theorem dX0_turn_101 : decode cX0_turn 101 = .ok (.iload_n 1, 1) := by decide +kernel
theorem dX0_turn_102 : decode cX0_turn 102 = .ok (.aaload, 1) := by decide +kernel
theorem dX0_turn_103 : decode cX0_turn 103 = .ok (.aload 5, 2) := by decide +kernel
theorem dX0_turn_105 : decode cX0_turn 105 = .ok (.invokevirtual 68, 3) := by decide +kernel
theorem dX0_turn_108 : decode cX0_turn 108 = .ok (.aload_n 0, 1) := by decide +kernel
theorem dX0_turn_109 : decode cX0_turn 109 = .ok (.getfield 11, 3) := by decide +kernel
theorem dX0_turn_112 : decode cX0_turn 112 = .ok (.iload 4, 2) := by decide +kernel
theorem dX0_turn_114 : decode cX0_turn 114 = .ok (.aload 6, 2) := by decide +kernel
theorem dX0_turn_116 : decode cX0_turn 116 = .ok (.aastore, 1) := by decide +kernel
theorem dX0_turn_117 : decode cX0_turn 117 = .ok (.iconst 1, 1) := by decide +kernel
theorem dX0_turn_118 : decode cX0_turn 118 = .ok (.ireturn, 1) := by decide +kernel
noncomputable def C_X0_turn_L37 (l : Launch) (δ : Dl) : Seg (l, δ, yX0_turn, 4, (some .int), cX0_turn, 7) 37 77 :=
  seq (p := 37) (q := 39) (r := 77) (p_iload 6 dX0_turn_37) (seq (p := 39) (q := 41) (r := 77) (p_bipush 6 dX0_turn_39 (by decide)) (seq (p := 41) (q := 44) (r := 77) (p_icmp_ge 77 dX0_turn_41 (by decide)) (seq (p := 44) (q := 46) (r := 77) (p_aload 5 dX0_turn_44) (seq (p := 46) (q := 48) (r := 77) (p_iload 6 dX0_turn_46) (seq (p := 48) (q := 50) (r := 77) (p_iload 6 dX0_turn_48) (seq (p := 50) (q := 51) (r := 77) (p_iload_n 2 dX0_turn_50) (seq (p := 51) (q := 70) (r := 77) (blk (seq (p := 51) (q := 58) (r := 70) (blk (seq (p := 51) (q := 54) (r := 58) (p_icmp_ne 58 dX0_turn_51 (by decide)) (seq (p := 54) (q := 55) (r := 58) (p_iload_n 3 dX0_turn_54) (seq (p := 55) (q := 58) (r := 58) (p_goto 70 dX0_turn_55 (by decide)) done)))) (seq (p := 58) (q := 60) (r := 70) (p_iload 6 dX0_turn_58) (seq (p := 60) (q := 61) (r := 70) (p_iload_n 3 dX0_turn_60) (seq (p := 61) (q := 68) (r := 70) (blk (seq (p := 61) (q := 64) (r := 68) (p_icmp_ne 68 dX0_turn_61 (by decide)) (seq (p := 64) (q := 65) (r := 68) (p_iload_n 2 dX0_turn_64) (seq (p := 65) (q := 68) (r := 68) (p_goto 70 dX0_turn_65 (by decide)) done)))) (seq (p := 68) (q := 70) (r := 70) (p_iload 6 dX0_turn_68) done)))))) (seq (p := 70) (q := 71) (r := 77) (p_iast dX0_turn_70) (seq (p := 71) (q := 74) (r := 77) (p_iinc 6 1 dX0_turn_71 (Nat.le_of_ble_eq_true rfl)) (seq (p := 74) (q := 74) (r := 77) (er [true, true, true, true, true, true, true]) (seq (p := 74) (q := 77) (r := 77) (p_goto 37 dX0_turn_74 (by decide)) done)))))))))))
noncomputable def B_X0_turn_L37 (l : Launch) (δ : Dl) : Seg (l, δ, yX0_turn, 4, (some .int), cX0_turn, 7) 37 77 := C_X0_turn_L37 l δ
theorem L_X0_turn_37 {l : Launch} {δ : Dl} {st : Stk} {L : Lc} {s : St} : (B_X0_turn_L37 l δ).1 st L s = (C_X0_turn_L37 l δ).1 st L s := nrfl rfl
noncomputable def B_X0_turn (l : Launch) (δ : Dl) : Seg (l, δ, yX0_turn, 4, (some .int), cX0_turn, 7) 0 119 :=
  seq (p := 0) (q := 1) (r := 119) (p_aload_n 0 dX0_turn_0) (seq (p := 1) (q := 2) (r := 119) (p_iload_n 1 dX0_turn_1) (seq (p := 2) (q := 3) (r := 119) (p_iload_n 2 dX0_turn_2) (seq (p := 3) (q := 6) (r := 119) (p_callG 3 _ (ok_V 0 cv_X0_51 rfl (M_X0_isThing l δ) (Nat.le_of_ble_eq_true rfl) dX0_turn_3) (Nat.le_of_ble_eq_true rfl)) (seq (p := 6) (q := 28) (r := 119) (blk (seq (p := 6) (q := 26) (r := 28) (blk (seq (p := 6) (q := 9) (r := 26) (p_if_eq 26 dX0_turn_6 (by decide)) (seq (p := 9) (q := 10) (r := 26) (p_aload_n 0 dX0_turn_9) (seq (p := 10) (q := 11) (r := 26) (p_iload_n 1 dX0_turn_10) (seq (p := 11) (q := 12) (r := 26) (p_iload_n 3 dX0_turn_11) (seq (p := 12) (q := 15) (r := 26) (p_callG 3 _ (ok_V 0 cv_X0_51 rfl (M_X0_isThing l δ) (Nat.le_of_ble_eq_true rfl) dX0_turn_12) (Nat.le_of_ble_eq_true rfl)) (seq (p := 15) (q := 18) (r := 26) (p_if_eq 26 dX0_turn_15 (by decide)) (seq (p := 18) (q := 20) (r := 26) (p_iload 4 dX0_turn_18) (seq (p := 20) (q := 23) (r := 26) (p_callG 1 _ (ok_S cs_X0_36 (M_X0_isPlace l δ) (Nat.le_of_ble_eq_true rfl) dX0_turn_20) (Nat.le_of_ble_eq_true rfl)) (seq (p := 23) (q := 26) (r := 26) (p_if_ne 28 dX0_turn_23 (by decide)) done)))))))))) (seq (p := 26) (q := 27) (r := 28) (p_iconst (-1) dX0_turn_26) (seq (p := 27) (q := 28) (r := 28) (p_ireturn dX0_turn_27 rfl) done)))) (seq (p := 28) (q := 30) (r := 119) (p_bipush 6 dX0_turn_28 (by decide)) (seq (p := 30) (q := 32) (r := 119) (p_newa 0 (Nat.le_of_ble_eq_true rfl) dX0_turn_30) (seq (p := 32) (q := 34) (r := 119) (p_astore 5 dX0_turn_32 (Nat.le_of_ble_eq_true rfl)) (seq (p := 34) (q := 35) (r := 119) (p_iconst 0 dX0_turn_34) (seq (p := 35) (q := 37) (r := 119) (p_istore 6 dX0_turn_35 (Nat.le_of_ble_eq_true rfl)) (seq (p := 37) (q := 77) (r := 119) (blk (seq (p := 37) (q := 37) (r := 77) (er [true, true, true, true, true, true, true]) (seq (p := 37) (q := 77) (r := 77) (lp (B_X0_turn_L37 l δ)) done))) (seq (p := 77) (q := 80) (r := 119) (p_new 2 ck2 tyX2 tyX2_ok f0_2 f0_2_ok (okc q124) (okc q206) (okc q92) dX0_turn_77) (seq (p := 80) (q := 81) (r := 119) (p_dup dX0_turn_80) (seq (p := 81) (q := 82) (r := 119) (p_aload_n 0 dX0_turn_81) (seq (p := 82) (q := 85) (r := 119) (p_get [(0, 0)] (alL1 fl_X0_11_0) dX0_turn_82) (seq (p := 85) (q := 86) (r := 119) (p_iload_n 1 dX0_turn_85) (seq (p := 86) (q := 87) (r := 119) (p_aald dX0_turn_86) (seq (p := 87) (q := 90) (r := 119) (p_get [(2, 0)] (alL1 fl_X0_64_2) dX0_turn_87) (seq (p := 90) (q := 93) (r := 119) (p_callG 2 _ (ok_I ci_X0_48 (M_X2_init l δ) (Nat.le_of_ble_eq_true rfl) dX0_turn_90) (Nat.le_of_ble_eq_true rfl)) (seq (p := 93) (q := 95) (r := 119) (p_astore 6 dX0_turn_93 (Nat.le_of_ble_eq_true rfl)) (seq (p := 95) (q := 97) (r := 119) (p_aload 6 dX0_turn_95) (seq (p := 97) (q := 98) (r := 119) (p_aload_n 0 dX0_turn_97) (seq (p := 98) (q := 101) (r := 119) (p_get [(0, 0)] (alL1 fl_X0_11_0) dX0_turn_98) (seq (p := 101) (q := 102) (r := 119) (p_iload_n 1 dX0_turn_101) (seq (p := 102) (q := 103) (r := 119) (p_aald dX0_turn_102) (seq (p := 103) (q := 105) (r := 119) (p_aload 5 dX0_turn_103) (seq (p := 105) (q := 108) (r := 119) (p_callG 3 _ (ok_V 2 cv_X0_68 rfl (M_X2_take l δ) (Nat.le_of_ble_eq_true rfl) dX0_turn_105) (Nat.le_of_ble_eq_true rfl)) (seq (p := 108) (q := 109) (r := 119) (p_aload_n 0 dX0_turn_108) (seq (p := 109) (q := 112) (r := 119) (p_get [(0, 0)] (alL1 fl_X0_11_0) dX0_turn_109) (seq (p := 112) (q := 114) (r := 119) (p_iload 4 dX0_turn_112) (seq (p := 114) (q := 116) (r := 119) (p_aload 6 dX0_turn_114) (seq (p := 116) (q := 117) (r := 119) (p_aast dX0_turn_116) (seq (p := 117) (q := 118) (r := 119) (p_iconst 1 dX0_turn_117) (seq (p := 118) (q := 119) (r := 119) (p_ireturn dX0_turn_118 rfl) done)))))))))))))))))))))))))))))))))
noncomputable def M_X0_turn (l : Launch) (δ : Dl) : Mth l δ yX0_turn cX0_turn 7 (some .int) 4 := mk (B_X0_turn l δ) (by decide)
theorem N_X0_turn {l : Launch} {δ : Dl} {o : Nat} {a1 : Int} {a2 : Int} {a3 : Int} {a4 : Int} {s : St} : (M_X0_turn l δ).1 [.inr (.inr (some o)), .inl a1, .inl a2, .inl a3, .inl a4] s = bres ((B_X0_turn l δ).1 [] [some (.inr (.inr (some o))), some (.inl a1), some (.inl a2), some (.inl a3), some (.inl a4), none, none] s) := (mk_eq (hy := by decide) rfl).trans (nrfl rfl)
theorem dX0_join_0 : decode cX0_join 0 = .ok (.aload_n 0, 1) := by decide +kernel
theorem dX0_join_1 : decode cX0_join 1 = .ok (.iload_n 1, 1) := by decide +kernel
theorem dX0_join_2 : decode cX0_join 2 = .ok (.invokevirtual 40, 3) := by decide +kernel
theorem dX0_join_5 : decode cX0_join 5 = .ok (.ifCond .eq 18, 3) := by decide +kernel
theorem dX0_join_8 : decode cX0_join 8 = .ok (.aload_n 0, 1) := by decide +kernel
theorem dX0_join_9 : decode cX0_join 9 = .ok (.iload_n 2, 1) := by decide +kernel
theorem dX0_join_10 : decode cX0_join 10 = .ok (.invokevirtual 40, 3) := by decide +kernel
theorem dX0_join_13 : decode cX0_join 13 = .ok (.ifCond .eq 10, 3) := by decide +kernel
theorem dX0_join_16 : decode cX0_join 16 = .ok (.iload_n 3, 1) := by decide +kernel
theorem dX0_join_17 : decode cX0_join 17 = .ok (.invokestatic 36, 3) := by decide +kernel
theorem dX0_join_20 : decode cX0_join 20 = .ok (.ifCond .ne 5, 3) := by decide +kernel
theorem dX0_join_23 : decode cX0_join 23 = .ok (.iconst (-1), 1) := by decide +kernel
theorem dX0_join_24 : decode cX0_join 24 = .ok (.ireturn, 1) := by decide +kernel
theorem dX0_join_25 : decode cX0_join 25 = .ok (.aload_n 0, 1) := by decide +kernel
theorem dX0_join_26 : decode cX0_join 26 = .ok (.getfield 11, 3) := by decide +kernel
theorem dX0_join_29 : decode cX0_join 29 = .ok (.iload_n 1, 1) := by decide +kernel
theorem dX0_join_30 : decode cX0_join 30 = .ok (.aaload, 1) := by decide +kernel
theorem dX0_join_31 : decode cX0_join 31 = .ok (.getfield 64, 3) := by decide +kernel
theorem dX0_join_34 : decode cX0_join 34 = .ok (.istore 4, 2) := by decide +kernel
theorem dX0_join_36 : decode cX0_join 36 = .ok (.iload 4, 2) := by decide +kernel
theorem dX0_join_38 : decode cX0_join 38 = .ok (.aload_n 0, 1) := by decide +kernel
theorem dX0_join_39 : decode cX0_join 39 = .ok (.getfield 11, 3) := by decide +kernel
theorem dX0_join_42 : decode cX0_join 42 = .ok (.iload_n 2, 1) := by decide +kernel
theorem dX0_join_43 : decode cX0_join 43 = .ok (.aaload, 1) := by decide +kernel
theorem dX0_join_44 : decode cX0_join 44 = .ok (.getfield 64, 3) := by decide +kernel
theorem dX0_join_47 : decode cX0_join 47 = .ok (.iadd, 1) := by decide +kernel
theorem dX0_join_48 : decode cX0_join 48 = .ok (.istore 5, 2) := by decide +kernel
theorem dX0_join_50 : decode cX0_join 50 = .ok (.iload 5, 2) := by decide +kernel
theorem dX0_join_52 : decode cX0_join 52 = .ok (.bipush 6, 2) := by decide +kernel
theorem dX0_join_54 : decode cX0_join 54 = .ok (.if_icmp .le 6, 3) := by decide +kernel
theorem dX0_join_57 : decode cX0_join 57 = .ok (.bipush (-2), 2) := by decide +kernel
theorem dX0_join_59 : decode cX0_join 59 = .ok (.ireturn, 1) := by decide +kernel
theorem dX0_join_60 : decode cX0_join 60 = .ok (.new 9, 3) := by decide +kernel
theorem dX0_join_63 : decode cX0_join 63 = .ok (.dup, 1) := by decide +kernel
theorem dX0_join_64 : decode cX0_join 64 = .ok (.iload 5, 2) := by decide +kernel
theorem dX0_join_66 : decode cX0_join 66 = .ok (.invokespecial 48, 3) := by decide +kernel
theorem dX0_join_69 : decode cX0_join 69 = .ok (.astore 6, 2) := by decide +kernel
theorem dX0_join_71 : decode cX0_join 71 = .ok (.bipush 6, 2) := by decide +kernel
theorem dX0_join_73 : decode cX0_join 73 = .ok (.newarray .int, 2) := by decide +kernel
theorem dX0_join_75 : decode cX0_join 75 = .ok (.astore 7, 2) := by decide +kernel
theorem dX0_join_77 : decode cX0_join 77 = .ok (.iconst 0, 1) := by decide +kernel
theorem dX0_join_78 : decode cX0_join 78 = .ok (.istore 8, 2) := by decide +kernel
theorem dX0_join_80 : decode cX0_join 80 = .ok (.iload 8, 2) := by decide +kernel
theorem dX0_join_82 : decode cX0_join 82 = .ok (.bipush 6, 2) := by decide +kernel
theorem dX0_join_84 : decode cX0_join 84 = .ok (.if_icmp .ge 16, 3) := by decide +kernel
theorem dX0_join_87 : decode cX0_join 87 = .ok (.aload 7, 2) := by decide +kernel
theorem dX0_join_89 : decode cX0_join 89 = .ok (.iload 8, 2) := by decide +kernel
theorem dX0_join_91 : decode cX0_join 91 = .ok (.iload 8, 2) := by decide +kernel
theorem dX0_join_93 : decode cX0_join 93 = .ok (.iastore, 1) := by decide +kernel
theorem dX0_join_94 : decode cX0_join 94 = .ok (.iinc 8 1, 3) := by decide +kernel
theorem dX0_join_97 : decode cX0_join 97 = .ok (.goto (-17), 3) := by decide +kernel
theorem dX0_join_100 : decode cX0_join 100 = .ok (.aload 6, 2) := by decide +kernel
theorem dX0_join_102 : decode cX0_join 102 = .ok (.aload_n 0, 1) := by decide +kernel
theorem dX0_join_103 : decode cX0_join 103 = .ok (.getfield 11, 3) := by decide +kernel
theorem dX0_join_106 : decode cX0_join 106 = .ok (.iload_n 1, 1) := by decide +kernel
theorem dX0_join_107 : decode cX0_join 107 = .ok (.aaload, 1) := by decide +kernel
theorem dX0_join_108 : decode cX0_join 108 = .ok (.aload 7, 2) := by decide +kernel
theorem dX0_join_110 : decode cX0_join 110 = .ok (.invokevirtual 68, 3) := by decide +kernel
theorem dX0_join_113 : decode cX0_join 113 = .ok (.iconst 0, 1) := by decide +kernel
theorem dX0_join_114 : decode cX0_join 114 = .ok (.istore 8, 2) := by decide +kernel
theorem dX0_join_116 : decode cX0_join 116 = .ok (.iload 8, 2) := by decide +kernel
theorem dX0_join_118 : decode cX0_join 118 = .ok (.bipush 6, 2) := by decide +kernel
theorem dX0_join_120 : decode cX0_join 120 = .ok (.if_icmp .ge 19, 3) := by decide +kernel
theorem dX0_join_123 : decode cX0_join 123 = .ok (.aload 7, 2) := by decide +kernel
theorem dX0_join_125 : decode cX0_join 125 = .ok (.iload 8, 2) := by decide +kernel
theorem dX0_join_127 : decode cX0_join 127 = .ok (.iload 4, 2) := by decide +kernel
theorem dX0_join_129 : decode cX0_join 129 = .ok (.iload 8, 2) := by decide +kernel
theorem dX0_join_131 : decode cX0_join 131 = .ok (.iadd, 1) := by decide +kernel
theorem dX0_join_132 : decode cX0_join 132 = .ok (.iastore, 1) := by decide +kernel
theorem dX0_join_133 : decode cX0_join 133 = .ok (.iinc 8 1, 3) := by decide +kernel
theorem dX0_join_136 : decode cX0_join 136 = .ok (.goto (-20), 3) := by decide +kernel
theorem dX0_join_139 : decode cX0_join 139 = .ok (.aload 6, 2) := by decide +kernel
theorem dX0_join_141 : decode cX0_join 141 = .ok (.aload_n 0, 1) := by decide +kernel
theorem dX0_join_142 : decode cX0_join 142 = .ok (.getfield 11, 3) := by decide +kernel
theorem dX0_join_145 : decode cX0_join 145 = .ok (.iload_n 2, 1) := by decide +kernel
theorem dX0_join_146 : decode cX0_join 146 = .ok (.aaload, 1) := by decide +kernel
theorem dX0_join_147 : decode cX0_join 147 = .ok (.aload 7, 2) := by decide +kernel
theorem dX0_join_149 : decode cX0_join 149 = .ok (.invokevirtual 68, 3) := by decide +kernel
theorem dX0_join_152 : decode cX0_join 152 = .ok (.aload_n 0, 1) := by decide +kernel
theorem dX0_join_153 : decode cX0_join 153 = .ok (.getfield 11, 3) := by decide +kernel
theorem dX0_join_156 : decode cX0_join 156 = .ok (.iload_n 3, 1) := by decide +kernel
theorem dX0_join_157 : decode cX0_join 157 = .ok (.aload 6, 2) := by decide +kernel
theorem dX0_join_159 : decode cX0_join 159 = .ok (.aastore, 1) := by decide +kernel
theorem dX0_join_160 : decode cX0_join 160 = .ok (.iload 5, 2) := by decide +kernel
theorem dX0_join_162 : decode cX0_join 162 = .ok (.ireturn, 1) := by decide +kernel
noncomputable def C_X0_join_L80 (l : Launch) (δ : Dl) : Seg (l, δ, yX0_join, 3, (some .int), cX0_join, 9) 80 100 :=
  seq (p := 80) (q := 82) (r := 100) (p_iload 8 dX0_join_80) (seq (p := 82) (q := 84) (r := 100) (p_bipush 6 dX0_join_82 (by decide)) (seq (p := 84) (q := 87) (r := 100) (p_icmp_ge 100 dX0_join_84 (by decide)) (seq (p := 87) (q := 89) (r := 100) (p_aload 7 dX0_join_87) (seq (p := 89) (q := 91) (r := 100) (p_iload 8 dX0_join_89) (seq (p := 91) (q := 93) (r := 100) (p_iload 8 dX0_join_91) (seq (p := 93) (q := 94) (r := 100) (p_iast dX0_join_93) (seq (p := 94) (q := 97) (r := 100) (p_iinc 8 1 dX0_join_94 (Nat.le_of_ble_eq_true rfl)) (seq (p := 97) (q := 97) (r := 100) (er [true, true, true, true, true, true, true, true, true]) (seq (p := 97) (q := 100) (r := 100) (p_goto 80 dX0_join_97 (by decide)) done)))))))))
noncomputable def B_X0_join_L80 (l : Launch) (δ : Dl) : Seg (l, δ, yX0_join, 3, (some .int), cX0_join, 9) 80 100 := C_X0_join_L80 l δ
theorem L_X0_join_80 {l : Launch} {δ : Dl} {st : Stk} {L : Lc} {s : St} : (B_X0_join_L80 l δ).1 st L s = (C_X0_join_L80 l δ).1 st L s := nrfl rfl
noncomputable def C_X0_join_L116 (l : Launch) (δ : Dl) : Seg (l, δ, yX0_join, 3, (some .int), cX0_join, 9) 116 139 :=
  seq (p := 116) (q := 118) (r := 139) (p_iload 8 dX0_join_116) (seq (p := 118) (q := 120) (r := 139) (p_bipush 6 dX0_join_118 (by decide)) (seq (p := 120) (q := 123) (r := 139) (p_icmp_ge 139 dX0_join_120 (by decide)) (seq (p := 123) (q := 125) (r := 139) (p_aload 7 dX0_join_123) (seq (p := 125) (q := 127) (r := 139) (p_iload 8 dX0_join_125) (seq (p := 127) (q := 129) (r := 139) (p_iload 4 dX0_join_127) (seq (p := 129) (q := 131) (r := 139) (p_iload 8 dX0_join_129) (seq (p := 131) (q := 132) (r := 139) (p_iadd dX0_join_131) (seq (p := 132) (q := 133) (r := 139) (p_iast dX0_join_132) (seq (p := 133) (q := 136) (r := 139) (p_iinc 8 1 dX0_join_133 (Nat.le_of_ble_eq_true rfl)) (seq (p := 136) (q := 136) (r := 139) (er [true, false, true, true, true, true, true, true, true]) (seq (p := 136) (q := 139) (r := 139) (p_goto 116 dX0_join_136 (by decide)) done)))))))))))
noncomputable def B_X0_join_L116 (l : Launch) (δ : Dl) : Seg (l, δ, yX0_join, 3, (some .int), cX0_join, 9) 116 139 := C_X0_join_L116 l δ
theorem L_X0_join_116 {l : Launch} {δ : Dl} {st : Stk} {L : Lc} {s : St} : (B_X0_join_L116 l δ).1 st L s = (C_X0_join_L116 l δ).1 st L s := nrfl rfl
noncomputable def B_X0_join (l : Launch) (δ : Dl) : Seg (l, δ, yX0_join, 3, (some .int), cX0_join, 9) 0 163 :=
  seq (p := 0) (q := 1) (r := 163) (p_aload_n 0 dX0_join_0) (seq (p := 1) (q := 2) (r := 163) (p_iload_n 1 dX0_join_1) (seq (p := 2) (q := 5) (r := 163) (p_callG 2 _ (ok_V 0 cv_X0_40 rfl (M_X0_isWorld l δ) (Nat.le_of_ble_eq_true rfl) dX0_join_2) (Nat.le_of_ble_eq_true rfl)) (seq (p := 5) (q := 25) (r := 163) (blk (seq (p := 5) (q := 23) (r := 25) (blk (seq (p := 5) (q := 8) (r := 23) (p_if_eq 23 dX0_join_5 (by decide)) (seq (p := 8) (q := 9) (r := 23) (p_aload_n 0 dX0_join_8) (seq (p := 9) (q := 10) (r := 23) (p_iload_n 2 dX0_join_9) (seq (p := 10) (q := 13) (r := 23) (p_callG 2 _ (ok_V 0 cv_X0_40 rfl (M_X0_isWorld l δ) (Nat.le_of_ble_eq_true rfl) dX0_join_10) (Nat.le_of_ble_eq_true rfl)) (seq (p := 13) (q := 16) (r := 23) (p_if_eq 23 dX0_join_13 (by decide)) (seq (p := 16) (q := 17) (r := 23) (p_iload_n 3 dX0_join_16) (seq (p := 17) (q := 20) (r := 23) (p_callG 1 _ (ok_S cs_X0_36 (M_X0_isPlace l δ) (Nat.le_of_ble_eq_true rfl) dX0_join_17) (Nat.le_of_ble_eq_true rfl)) (seq (p := 20) (q := 23) (r := 23) (p_if_ne 25 dX0_join_20 (by decide)) done))))))))) (seq (p := 23) (q := 24) (r := 25) (p_iconst (-1) dX0_join_23) (seq (p := 24) (q := 25) (r := 25) (p_ireturn dX0_join_24 rfl) done)))) (seq (p := 25) (q := 26) (r := 163) (p_aload_n 0 dX0_join_25) (seq (p := 26) (q := 29) (r := 163) (p_get [(0, 0)] (alL1 fl_X0_11_0) dX0_join_26) (seq (p := 29) (q := 30) (r := 163) (p_iload_n 1 dX0_join_29) (seq (p := 30) (q := 31) (r := 163) (p_aald dX0_join_30) (seq (p := 31) (q := 34) (r := 163) (p_get [(2, 0)] (alL1 fl_X0_64_2) dX0_join_31) (seq (p := 34) (q := 36) (r := 163) (p_istore 4 dX0_join_34 (Nat.le_of_ble_eq_true rfl)) (seq (p := 36) (q := 38) (r := 163) (p_iload 4 dX0_join_36) (seq (p := 38) (q := 39) (r := 163) (p_aload_n 0 dX0_join_38) (seq (p := 39) (q := 42) (r := 163) (p_get [(0, 0)] (alL1 fl_X0_11_0) dX0_join_39) (seq (p := 42) (q := 43) (r := 163) (p_iload_n 2 dX0_join_42) (seq (p := 43) (q := 44) (r := 163) (p_aald dX0_join_43) (seq (p := 44) (q := 47) (r := 163) (p_get [(2, 0)] (alL1 fl_X0_64_2) dX0_join_44) (seq (p := 47) (q := 48) (r := 163) (p_iadd dX0_join_47) (seq (p := 48) (q := 50) (r := 163) (p_istore 5 dX0_join_48 (Nat.le_of_ble_eq_true rfl)) (seq (p := 50) (q := 52) (r := 163) (p_iload 5 dX0_join_50) (seq (p := 52) (q := 54) (r := 163) (p_bipush 6 dX0_join_52 (by decide)) (seq (p := 54) (q := 60) (r := 163) (blk (seq (p := 54) (q := 57) (r := 60) (p_icmp_le 60 dX0_join_54 (by decide)) (seq (p := 57) (q := 59) (r := 60) (p_bipush (-2) dX0_join_57 (by decide)) (seq (p := 59) (q := 60) (r := 60) (p_ireturn dX0_join_59 rfl) done)))) (seq (p := 60) (q := 63) (r := 163) (p_new 2 ck2 tyX2 tyX2_ok f0_2 f0_2_ok (okc q124) (okc q206) (okc q92) dX0_join_60) (seq (p := 63) (q := 64) (r := 163) (p_dup dX0_join_63) (seq (p := 64) (q := 66) (r := 163) (p_iload 5 dX0_join_64) (seq (p := 66) (q := 69) (r := 163) (p_callG 2 _ (ok_I ci_X0_48 (M_X2_init l δ) (Nat.le_of_ble_eq_true rfl) dX0_join_66) (Nat.le_of_ble_eq_true rfl)) (seq (p := 69) (q := 71) (r := 163) (p_astore 6 dX0_join_69 (Nat.le_of_ble_eq_true rfl)) (seq (p := 71) (q := 73) (r := 163) (p_bipush 6 dX0_join_71 (by decide)) (seq (p := 73) (q := 75) (r := 163) (p_newa 0 (Nat.le_of_ble_eq_true rfl) dX0_join_73) (seq (p := 75) (q := 77) (r := 163) (p_astore 7 dX0_join_75 (Nat.le_of_ble_eq_true rfl)) (seq (p := 77) (q := 78) (r := 163) (p_iconst 0 dX0_join_77) (seq (p := 78) (q := 80) (r := 163) (p_istore 8 dX0_join_78 (Nat.le_of_ble_eq_true rfl)) (seq (p := 80) (q := 100) (r := 163) (blk (seq (p := 80) (q := 80) (r := 100) (er [true, true, true, true, true, true, true, true, true]) (seq (p := 80) (q := 100) (r := 100) (lp (B_X0_join_L80 l δ)) done))) (seq (p := 100) (q := 102) (r := 163) (p_aload 6 dX0_join_100) (seq (p := 102) (q := 103) (r := 163) (p_aload_n 0 dX0_join_102) (seq (p := 103) (q := 106) (r := 163) (p_get [(0, 0)] (alL1 fl_X0_11_0) dX0_join_103) (seq (p := 106) (q := 107) (r := 163) (p_iload_n 1 dX0_join_106) (seq (p := 107) (q := 108) (r := 163) (p_aald dX0_join_107) (seq (p := 108) (q := 110) (r := 163) (p_aload 7 dX0_join_108) (seq (p := 110) (q := 113) (r := 163) (p_callG 3 _ (ok_V 2 cv_X0_68 rfl (M_X2_take l δ) (Nat.le_of_ble_eq_true rfl) dX0_join_110) (Nat.le_of_ble_eq_true rfl)) (seq (p := 113) (q := 114) (r := 163) (p_iconst 0 dX0_join_113) (seq (p := 114) (q := 116) (r := 163) (p_istore 8 dX0_join_114 (Nat.le_of_ble_eq_true rfl)) (seq (p := 116) (q := 139) (r := 163) (blk (seq (p := 116) (q := 116) (r := 139) (er [true, false, true, true, true, true, true, true, true]) (seq (p := 116) (q := 139) (r := 139) (lp (B_X0_join_L116 l δ)) done))) (seq (p := 139) (q := 141) (r := 163) (p_aload 6 dX0_join_139) (seq (p := 141) (q := 142) (r := 163) (p_aload_n 0 dX0_join_141) (seq (p := 142) (q := 145) (r := 163) (p_get [(0, 0)] (alL1 fl_X0_11_0) dX0_join_142) (seq (p := 145) (q := 146) (r := 163) (p_iload_n 2 dX0_join_145) (seq (p := 146) (q := 147) (r := 163) (p_aald dX0_join_146) (seq (p := 147) (q := 149) (r := 163) (p_aload 7 dX0_join_147) (seq (p := 149) (q := 152) (r := 163) (p_callG 3 _ (ok_V 2 cv_X0_68 rfl (M_X2_take l δ) (Nat.le_of_ble_eq_true rfl) dX0_join_149) (Nat.le_of_ble_eq_true rfl)) (seq (p := 152) (q := 153) (r := 163) (p_aload_n 0 dX0_join_152) (seq (p := 153) (q := 156) (r := 163) (p_get [(0, 0)] (alL1 fl_X0_11_0) dX0_join_153) (seq (p := 156) (q := 157) (r := 163) (p_iload_n 3 dX0_join_156) (seq (p := 157) (q := 159) (r := 163) (p_aload 6 dX0_join_157) (seq (p := 159) (q := 160) (r := 163) (p_aast dX0_join_159) (seq (p := 160) (q := 162) (r := 163) (p_iload 5 dX0_join_160) (seq (p := 162) (q := 163) (r := 163) (p_ireturn dX0_join_162 rfl) done)))))))))))))))))))))))))))))))))))))))))))))))))))))))
noncomputable def M_X0_join (l : Launch) (δ : Dl) : Mth l δ yX0_join cX0_join 9 (some .int) 3 := mk (B_X0_join l δ) (by decide)
theorem N_X0_join {l : Launch} {δ : Dl} {o : Nat} {a1 : Int} {a2 : Int} {a3 : Int} {s : St} : (M_X0_join l δ).1 [.inr (.inr (some o)), .inl a1, .inl a2, .inl a3] s = bres ((B_X0_join l δ).1 [] [some (.inr (.inr (some o))), some (.inl a1), some (.inl a2), some (.inl a3), none, none, none, none, none] s) := (mk_eq (hy := by decide) rfl).trans (nrfl rfl)
theorem dX0_about_0 : decode cX0_about 0 = .ok (.aload_n 0, 1) := by decide +kernel
theorem dX0_about_1 : decode cX0_about 1 = .ok (.iload_n 1, 1) := by decide +kernel
theorem dX0_about_2 : decode cX0_about 2 = .ok (.invokevirtual 40, 3) := by decide +kernel
theorem dX0_about_5 : decode cX0_about 5 = .ok (.ifCond .ne 5, 3) := by decide +kernel
theorem dX0_about_8 : decode cX0_about 8 = .ok (.iconst (-1), 1) := by decide +kernel
theorem dX0_about_9 : decode cX0_about 9 = .ok (.ireturn, 1) := by decide +kernel
theorem dX0_about_10 : decode cX0_about 10 = .ok (.aload_n 0, 1) := by decide +kernel
theorem dX0_about_11 : decode cX0_about 11 = .ok (.getfield 11, 3) := by decide +kernel
theorem dX0_about_14 : decode cX0_about 14 = .ok (.iload_n 1, 1) := by decide +kernel
theorem dX0_about_15 : decode cX0_about 15 = .ok (.aaload, 1) := by decide +kernel
theorem dX0_about_16 : decode cX0_about 16 = .ok (.astore_n 3, 1) := by decide +kernel
theorem dX0_about_17 : decode cX0_about 17 = .ok (.iconst 0, 1) := by decide +kernel
theorem dX0_about_18 : decode cX0_about 18 = .ok (.istore 4, 2) := by decide +kernel
theorem dX0_about_20 : decode cX0_about 20 = .ok (.iload_n 2, 1) := by decide +kernel
theorem dX0_about_21 : decode cX0_about 21 = .ok (.tableswitch 117 0 3 #[31, 36, 36, 75], 31) := by decide +kernel
theorem dX0_about_52 : decode cX0_about 52 = .ok (.aload_n 3, 1) := by decide +kernel
theorem dX0_about_53 : decode cX0_about 53 = .ok (.getfield 64, 3) := by decide +kernel
theorem dX0_about_56 : decode cX0_about 56 = .ok (.ireturn, 1) := by decide +kernel
theorem dX0_about_57 : decode cX0_about 57 = .ok (.iconst 0, 1) := by decide +kernel
theorem dX0_about_58 : decode cX0_about 58 = .ok (.istore 5, 2) := by decide +kernel
theorem dX0_about_60 : decode cX0_about 60 = .ok (.iload 5, 2) := by decide +kernel
theorem dX0_about_62 : decode cX0_about 62 = .ok (.aload_n 3, 1) := by decide +kernel
theorem dX0_about_63 : decode cX0_about 63 = .ok (.getfield 64, 3) := by decide +kernel
theorem dX0_about_66 : decode cX0_about 66 = .ok (.if_icmp .ge 27, 3) := by decide +kernel
theorem dX0_about_69 : decode cX0_about 69 = .ok (.iload 4, 2) := by decide +kernel
theorem dX0_about_71 : decode cX0_about 71 = .ok (.aload_n 3, 1) := by decide +kernel
theorem dX0_about_72 : decode cX0_about 72 = .ok (.getfield 54, 3) := by decide +kernel
theorem dX0_about_75 : decode cX0_about 75 = .ok (.iload 5, 2) := by decide +kernel
theorem dX0_about_77 : decode cX0_about 77 = .ok (.iaload, 1) := by decide +kernel
theorem dX0_about_78 : decode cX0_about 78 = .ok (.iload_n 2, 1) := by decide +kernel
theorem dX0_about_79 : decode cX0_about 79 = .ok (.iconst 1, 1) := by decide +kernel
theorem dX0_about_80 : decode cX0_about 80 = .ok (.isub, 1) := by decide +kernel
theorem dX0_about_81 : decode cX0_about 81 = .ok (.ishr, 1) := by decide +kernel
theorem dX0_about_82 : decode cX0_about 82 = .ok (.iconst 1, 1) := by decide +kernel
theorem dX0_about_83 : decode cX0_about 83 = .ok (.iand, 1) := by decide +kernel
theorem dX0_about_84 : decode cX0_about 84 = .ok (.iadd, 1) := by decide +kernel
theorem dX0_about_85 : decode cX0_about 85 = .ok (.istore 4, 2) := by decide +kernel
theorem dX0_about_87 : decode cX0_about 87 = .ok (.iinc 5 1, 3) := by decide +kernel
theorem dX0_about_90 : decode cX0_about 90 = .ok (.goto (-30), 3) := by decide +kernel
theorem dX0_about_93 : decode cX0_about 93 = .ok (.iload 4, 2) := by decide +kernel
theorem dX0_about_95 : decode cX0_about 95 = .ok (.ireturn, 1) := by decide +kernel
theorem dX0_about_96 : decode cX0_about 96 = .ok (.iconst 0, 1) := by decide +kernel
theorem dX0_about_97 : decode cX0_about 97 = .ok (.istore 5, 2) := by decide +kernel
theorem dX0_about_99 : decode cX0_about 99 = .ok (.iload 5, 2) := by decide +kernel
theorem dX0_about_101 : decode cX0_about 101 = .ok (.aload_n 3, 1) := by decide +kernel
theorem dX0_about_102 : decode cX0_about 102 = .ok (.getfield 60, 3) := by decide +kernel
theorem dX0_about_105 : decode cX0_about 105 = .ok (.arraylength, 1) := by decide +kernel
theorem dX0_about_106 : decode cX0_about 106 = .ok (.if_icmp .ge 29, 3) := by decide +kernel
theorem dX0_about_109 : decode cX0_about 109 = .ok (.iload 4, 2) := by decide +kernel
theorem dX0_about_111 : decode cX0_about 111 = .ok (.aload_n 3, 1) := by decide +kernel
theorem dX0_about_112 : decode cX0_about 112 = .ok (.getfield 60, 3) := by decide +kernel
theorem dX0_about_115 : decode cX0_about 115 = .ok (.iload 5, 2) := by decide +kernel
theorem dX0_about_117 : decode cX0_about 117 = .ok (.baload, 1) := by decide +kernel
theorem dX0_about_118 : decode cX0_about 118 = .ok (.ifCond .eq 7, 3) := by decide +kernel
theorem dX0_about_121 : decode cX0_about 121 = .ok (.iconst 1, 1) := by decide +kernel
theorem dX0_about_122 : decode cX0_about 122 = .ok (.goto 4, 3) := by decide +kernel
theorem dX0_about_125 : decode cX0_about 125 = .ok (.iconst 0, 1) := by decide +kernel
theorem dX0_about_126 : decode cX0_about 126 = .ok (.iadd, 1) := by decide +kernel
theorem dX0_about_127 : decode cX0_about 127 = .ok (.istore 4, 2) := by decide +kernel
theorem dX0_about_129 : decode cX0_about 129 = .ok (.iinc 5 1, 3) := by decide +kernel
theorem dX0_about_132 : decode cX0_about 132 = .ok (.goto (-33), 3) := by decide +kernel
theorem dX0_about_135 : decode cX0_about 135 = .ok (.iload 4, 2) := by decide +kernel
theorem dX0_about_137 : decode cX0_about 137 = .ok (.ireturn, 1) := by decide +kernel
theorem dX0_about_138 : decode cX0_about 138 = .ok (.iload_n 2, 1) := by decide +kernel
theorem dX0_about_139 : decode cX0_about 139 = .ok (.i2l, 1) := by decide +kernel
theorem dX0_about_140 : decode cX0_about 140 = .ok (.ldc2_w 72, 3) := by decide +kernel
theorem dX0_about_143 : decode cX0_about 143 = .ok (.aload_n 3, 1) := by decide +kernel
theorem dX0_about_144 : decode cX0_about 144 = .ok (.getfield 64, 3) := by decide +kernel
theorem dX0_about_147 : decode cX0_about 147 = .ok (.i2l, 1) := by decide +kernel
theorem dX0_about_148 : decode cX0_about 148 = .ok (.ldc2_w 74, 3) := by decide +kernel
theorem dX0_about_151 : decode cX0_about 151 = .ok (.ladd, 1) := by decide +kernel
theorem dX0_about_152 : decode cX0_about 152 = .ok (.invokestatic 32, 3) := by decide +kernel
theorem dX0_about_155 : decode cX0_about 155 = .ok (.ifCond .eq 15, 3) := by decide +kernel
theorem dX0_about_158 : decode cX0_about 158 = .ok (.aload_n 3, 1) := by decide +kernel
theorem dX0_about_159 : decode cX0_about 159 = .ok (.getfield 54, 3) := by decide +kernel
theorem dX0_about_162 : decode cX0_about 162 = .ok (.iload_n 2, 1) := by decide +kernel
theorem dX0_about_163 : decode cX0_about 163 = .ok (.bipush 10, 2) := by decide +kernel
theorem dX0_about_165 : decode cX0_about 165 = .ok (.isub, 1) := by decide +kernel
theorem dX0_about_166 : decode cX0_about 166 = .ok (.iaload, 1) := by decide +kernel
theorem dX0_about_167 : decode cX0_about 167 = .ok (.goto 5, 3) := by decide +kernel
theorem dX0_about_170 : decode cX0_about 170 = .ok (.bipush (-2), 2) := by decide +kernel
theorem dX0_about_172 : decode cX0_about 172 = .ok (.ireturn, 1) := by decide +kernel
noncomputable def C_X0_about_L60 (l : Launch) (δ : Dl) : Seg (l, δ, yX0_about, 3, (some .int), cX0_about, 6) 60 93 :=
  seq (p := 60) (q := 62) (r := 93) (p_iload 5 dX0_about_60) (seq (p := 62) (q := 63) (r := 93) (p_aload_n 3 dX0_about_62) (seq (p := 63) (q := 66) (r := 93) (p_get [(2, 0)] (alL1 fl_X0_64_2) dX0_about_63) (seq (p := 66) (q := 69) (r := 93) (p_icmp_ge 93 dX0_about_66 (by decide)) (seq (p := 69) (q := 71) (r := 93) (p_iload 4 dX0_about_69) (seq (p := 71) (q := 72) (r := 93) (p_aload_n 3 dX0_about_71) (seq (p := 72) (q := 75) (r := 93) (p_get [(2, 1)] (alL1 fl_X0_54_2) dX0_about_72) (seq (p := 75) (q := 77) (r := 93) (p_iload 5 dX0_about_75) (seq (p := 77) (q := 78) (r := 93) (p_iald dX0_about_77) (seq (p := 78) (q := 79) (r := 93) (p_iload_n 2 dX0_about_78) (seq (p := 79) (q := 80) (r := 93) (p_iconst 1 dX0_about_79) (seq (p := 80) (q := 81) (r := 93) (p_isub dX0_about_80) (seq (p := 81) (q := 82) (r := 93) (p_ishr dX0_about_81) (seq (p := 82) (q := 83) (r := 93) (p_iconst 1 dX0_about_82) (seq (p := 83) (q := 84) (r := 93) (p_iand dX0_about_83) (seq (p := 84) (q := 85) (r := 93) (p_iadd dX0_about_84) (seq (p := 85) (q := 87) (r := 93) (p_istore 4 dX0_about_85 (Nat.le_of_ble_eq_true rfl)) (seq (p := 87) (q := 90) (r := 93) (p_iinc 5 1 dX0_about_87 (Nat.le_of_ble_eq_true rfl)) (seq (p := 90) (q := 90) (r := 93) (er [false, false, true, true, true, true]) (seq (p := 90) (q := 93) (r := 93) (p_goto 60 dX0_about_90 (by decide)) done)))))))))))))))))))
noncomputable def B_X0_about_L60 (l : Launch) (δ : Dl) : Seg (l, δ, yX0_about, 3, (some .int), cX0_about, 6) 60 93 := C_X0_about_L60 l δ
theorem L_X0_about_60 {l : Launch} {δ : Dl} {st : Stk} {L : Lc} {s : St} : (B_X0_about_L60 l δ).1 st L s = (C_X0_about_L60 l δ).1 st L s := nrfl rfl
noncomputable def C_X0_about_L99 (l : Launch) (δ : Dl) : Seg (l, δ, yX0_about, 3, (some .int), cX0_about, 6) 99 135 :=
  seq (p := 99) (q := 101) (r := 135) (p_iload 5 dX0_about_99) (seq (p := 101) (q := 102) (r := 135) (p_aload_n 3 dX0_about_101) (seq (p := 102) (q := 105) (r := 135) (p_get [(2, 2)] (alL1 fl_X0_60_2) dX0_about_102) (seq (p := 105) (q := 106) (r := 135) (p_alen dX0_about_105) (seq (p := 106) (q := 109) (r := 135) (p_icmp_ge 135 dX0_about_106 (by decide)) (seq (p := 109) (q := 111) (r := 135) (p_iload 4 dX0_about_109) (seq (p := 111) (q := 112) (r := 135) (p_aload_n 3 dX0_about_111) (seq (p := 112) (q := 115) (r := 135) (p_get [(2, 2)] (alL1 fl_X0_60_2) dX0_about_112) (seq (p := 115) (q := 117) (r := 135) (p_iload 5 dX0_about_115) (seq (p := 117) (q := 118) (r := 135) (p_bald dX0_about_117) (seq (p := 118) (q := 126) (r := 135) (blk (seq (p := 118) (q := 125) (r := 126) (blk (seq (p := 118) (q := 121) (r := 125) (p_if_eq 125 dX0_about_118 (by decide)) (seq (p := 121) (q := 122) (r := 125) (p_iconst 1 dX0_about_121) (seq (p := 122) (q := 125) (r := 125) (p_goto 126 dX0_about_122 (by decide)) done)))) (seq (p := 125) (q := 126) (r := 126) (p_iconst 0 dX0_about_125) done))) (seq (p := 126) (q := 127) (r := 135) (p_iadd dX0_about_126) (seq (p := 127) (q := 129) (r := 135) (p_istore 4 dX0_about_127 (Nat.le_of_ble_eq_true rfl)) (seq (p := 129) (q := 132) (r := 135) (p_iinc 5 1 dX0_about_129 (Nat.le_of_ble_eq_true rfl)) (seq (p := 132) (q := 132) (r := 135) (er [false, false, false, true, true, true]) (seq (p := 132) (q := 135) (r := 135) (p_goto 99 dX0_about_132 (by decide)) done)))))))))))))))
noncomputable def B_X0_about_L99 (l : Launch) (δ : Dl) : Seg (l, δ, yX0_about, 3, (some .int), cX0_about, 6) 99 135 := C_X0_about_L99 l δ
theorem L_X0_about_99 {l : Launch} {δ : Dl} {st : Stk} {L : Lc} {s : St} : (B_X0_about_L99 l δ).1 st L s = (C_X0_about_L99 l δ).1 st L s := nrfl rfl
noncomputable def B_X0_about (l : Launch) (δ : Dl) : Seg (l, δ, yX0_about, 3, (some .int), cX0_about, 6) 0 173 :=
  seq (p := 0) (q := 1) (r := 173) (p_aload_n 0 dX0_about_0) (seq (p := 1) (q := 2) (r := 173) (p_iload_n 1 dX0_about_1) (seq (p := 2) (q := 5) (r := 173) (p_callG 2 _ (ok_V 0 cv_X0_40 rfl (M_X0_isWorld l δ) (Nat.le_of_ble_eq_true rfl) dX0_about_2) (Nat.le_of_ble_eq_true rfl)) (seq (p := 5) (q := 10) (r := 173) (blk (seq (p := 5) (q := 8) (r := 10) (p_if_ne 10 dX0_about_5 (by decide)) (seq (p := 8) (q := 9) (r := 10) (p_iconst (-1) dX0_about_8) (seq (p := 9) (q := 10) (r := 10) (p_ireturn dX0_about_9 rfl) done)))) (seq (p := 10) (q := 11) (r := 173) (p_aload_n 0 dX0_about_10) (seq (p := 11) (q := 14) (r := 173) (p_get [(0, 0)] (alL1 fl_X0_11_0) dX0_about_11) (seq (p := 14) (q := 15) (r := 173) (p_iload_n 1 dX0_about_14) (seq (p := 15) (q := 16) (r := 173) (p_aald dX0_about_15) (seq (p := 16) (q := 17) (r := 173) (p_astore_n 3 dX0_about_16 (Nat.le_of_ble_eq_true rfl)) (seq (p := 17) (q := 18) (r := 173) (p_iconst 0 dX0_about_17) (seq (p := 18) (q := 20) (r := 173) (p_istore 4 dX0_about_18 (Nat.le_of_ble_eq_true rfl)) (seq (p := 20) (q := 21) (r := 173) (p_iload_n 2 dX0_about_20) (seq (p := 21) (q := 138) (r := 173) (blk (seq (p := 21) (q := 96) (r := 138) (blk (seq (p := 21) (q := 57) (r := 96) (blk (seq (p := 21) (q := 52) (r := 57) (blk (seq (p := 21) (q := 52) (r := 52) (p_table (len := 31) dX0_about_21 (by decide)) done)) (seq (p := 52) (q := 53) (r := 57) (p_aload_n 3 dX0_about_52) (seq (p := 53) (q := 56) (r := 57) (p_get [(2, 0)] (alL1 fl_X0_64_2) dX0_about_53) (seq (p := 56) (q := 57) (r := 57) (p_ireturn dX0_about_56 rfl) done))))) (seq (p := 57) (q := 58) (r := 96) (p_iconst 0 dX0_about_57) (seq (p := 58) (q := 60) (r := 96) (p_istore 5 dX0_about_58 (Nat.le_of_ble_eq_true rfl)) (seq (p := 60) (q := 93) (r := 96) (blk (seq (p := 60) (q := 60) (r := 93) (er [false, false, true, true, true, true]) (seq (p := 60) (q := 93) (r := 93) (lp (B_X0_about_L60 l δ)) done))) (seq (p := 93) (q := 95) (r := 96) (p_iload 4 dX0_about_93) (seq (p := 95) (q := 96) (r := 96) (p_ireturn dX0_about_95 rfl) done))))))) (seq (p := 96) (q := 97) (r := 138) (p_iconst 0 dX0_about_96) (seq (p := 97) (q := 99) (r := 138) (p_istore 5 dX0_about_97 (Nat.le_of_ble_eq_true rfl)) (seq (p := 99) (q := 135) (r := 138) (blk (seq (p := 99) (q := 99) (r := 135) (er [false, false, false, true, true, true]) (seq (p := 99) (q := 135) (r := 135) (lp (B_X0_about_L99 l δ)) done))) (seq (p := 135) (q := 137) (r := 138) (p_iload 4 dX0_about_135) (seq (p := 137) (q := 138) (r := 138) (p_ireturn dX0_about_137 rfl) done))))))) (seq (p := 138) (q := 139) (r := 173) (p_iload_n 2 dX0_about_138) (seq (p := 139) (q := 140) (r := 173) (p_i2l dX0_about_139) (seq (p := 140) (q := 143) (r := 173) (p_ldc2 10 (okc q274) (by decide) dX0_about_140) (seq (p := 143) (q := 144) (r := 173) (p_aload_n 3 dX0_about_143) (seq (p := 144) (q := 147) (r := 173) (p_get [(2, 0)] (alL1 fl_X0_64_2) dX0_about_144) (seq (p := 147) (q := 148) (r := 173) (p_i2l dX0_about_147) (seq (p := 148) (q := 151) (r := 173) (p_ldc2 9 (okc q275) (by decide) dX0_about_148) (seq (p := 151) (q := 152) (r := 173) (p_ladd dX0_about_151) (seq (p := 152) (q := 155) (r := 173) (p_callG 3 _ (ok_S cs_X0_32 (M_X0_isIn l δ) (Nat.le_of_ble_eq_true rfl) dX0_about_152) (Nat.le_of_ble_eq_true rfl)) (seq (p := 155) (q := 172) (r := 173) (blk (seq (p := 155) (q := 170) (r := 172) (blk (seq (p := 155) (q := 158) (r := 170) (p_if_eq 170 dX0_about_155 (by decide)) (seq (p := 158) (q := 159) (r := 170) (p_aload_n 3 dX0_about_158) (seq (p := 159) (q := 162) (r := 170) (p_get [(2, 1)] (alL1 fl_X0_54_2) dX0_about_159) (seq (p := 162) (q := 163) (r := 170) (p_iload_n 2 dX0_about_162) (seq (p := 163) (q := 165) (r := 170) (p_bipush 10 dX0_about_163 (by decide)) (seq (p := 165) (q := 166) (r := 170) (p_isub dX0_about_165) (seq (p := 166) (q := 167) (r := 170) (p_iald dX0_about_166) (seq (p := 167) (q := 170) (r := 170) (p_goto 172 dX0_about_167 (by decide)) done))))))))) (seq (p := 170) (q := 172) (r := 172) (p_bipush (-2) dX0_about_170 (by decide)) done))) (seq (p := 172) (q := 173) (r := 173) (p_ireturn dX0_about_172 rfl) done)))))))))))))))))))))))
noncomputable def M_X0_about (l : Launch) (δ : Dl) : Mth l δ yX0_about cX0_about 6 (some .int) 3 := mk (B_X0_about l δ) (by decide)
theorem N_X0_about {l : Launch} {δ : Dl} {o : Nat} {a1 : Int} {a2 : Int} {s : St} : (M_X0_about l δ).1 [.inr (.inr (some o)), .inl a1, .inl a2] s = bres ((B_X0_about l δ).1 [] [some (.inr (.inr (some o))), some (.inl a1), some (.inl a2), none, none, none] s) := (mk_eq (hy := by decide) rfl).trans (nrfl rfl)
theorem dX0_tied_0 : decode cX0_tied 0 = .ok (.aload_n 0, 1) := by decide +kernel
theorem dX0_tied_1 : decode cX0_tied 1 = .ok (.iload_n 1, 1) := by decide +kernel
theorem dX0_tied_2 : decode cX0_tied 2 = .ok (.iload_n 2, 1) := by decide +kernel
theorem dX0_tied_3 : decode cX0_tied 3 = .ok (.invokevirtual 51, 3) := by decide +kernel
theorem dX0_tied_6 : decode cX0_tied 6 = .ok (.ifCond .eq 12, 3) := by decide +kernel
theorem dX0_tied_9 : decode cX0_tied 9 = .ok (.aload_n 0, 1) := by decide +kernel
theorem dX0_tied_10 : decode cX0_tied 10 = .ok (.iload_n 1, 1) := by decide +kernel
theorem dX0_tied_11 : decode cX0_tied 11 = .ok (.iload_n 3, 1) := by decide +kernel
theorem dX0_tied_12 : decode cX0_tied 12 = .ok (.invokevirtual 51, 3) := by decide +kernel
theorem dX0_tied_15 : decode cX0_tied 15 = .ok (.ifCond .ne 5, 3) := by decide +kernel
theorem dX0_tied_18 : decode cX0_tied 18 = .ok (.iconst (-1), 1) := by decide +kernel
theorem dX0_tied_19 : decode cX0_tied 19 = .ok (.ireturn, 1) := by decide +kernel
theorem dX0_tied_20 : decode cX0_tied 20 = .ok (.aload_n 0, 1) := by decide +kernel
theorem dX0_tied_21 : decode cX0_tied 21 = .ok (.getfield 11, 3) := by decide +kernel
theorem dX0_tied_24 : decode cX0_tied 24 = .ok (.iload_n 1, 1) := by decide +kernel
theorem dX0_tied_25 : decode cX0_tied 25 = .ok (.aaload, 1) := by decide +kernel
theorem dX0_tied_26 : decode cX0_tied 26 = .ok (.iload_n 2, 1) := by decide +kernel
theorem dX0_tied_27 : decode cX0_tied 27 = .ok (.iload_n 3, 1) := by decide +kernel
theorem dX0_tied_28 : decode cX0_tied 28 = .ok (.invokevirtual 57, 3) := by decide +kernel
theorem dX0_tied_31 : decode cX0_tied 31 = .ok (.ifCond .eq 7, 3) := by decide +kernel
theorem dX0_tied_34 : decode cX0_tied 34 = .ok (.iconst 1, 1) := by decide +kernel
theorem dX0_tied_35 : decode cX0_tied 35 = .ok (.goto 4, 3) := by decide +kernel
theorem dX0_tied_38 : decode cX0_tied 38 = .ok (.iconst 0, 1) := by decide +kernel
theorem dX0_tied_39 : decode cX0_tied 39 = .ok (.ireturn, 1) := by decide +kernel
noncomputable def B_X0_tied (l : Launch) (δ : Dl) : Seg (l, δ, yX0_tied, 4, (some .int), cX0_tied, 4) 0 40 :=
  seq (p := 0) (q := 1) (r := 40) (p_aload_n 0 dX0_tied_0) (seq (p := 1) (q := 2) (r := 40) (p_iload_n 1 dX0_tied_1) (seq (p := 2) (q := 3) (r := 40) (p_iload_n 2 dX0_tied_2) (seq (p := 3) (q := 6) (r := 40) (p_callG 3 _ (ok_V 0 cv_X0_51 rfl (M_X0_isThing l δ) (Nat.le_of_ble_eq_true rfl) dX0_tied_3) (Nat.le_of_ble_eq_true rfl)) (seq (p := 6) (q := 20) (r := 40) (blk (seq (p := 6) (q := 18) (r := 20) (blk (seq (p := 6) (q := 9) (r := 18) (p_if_eq 18 dX0_tied_6 (by decide)) (seq (p := 9) (q := 10) (r := 18) (p_aload_n 0 dX0_tied_9) (seq (p := 10) (q := 11) (r := 18) (p_iload_n 1 dX0_tied_10) (seq (p := 11) (q := 12) (r := 18) (p_iload_n 3 dX0_tied_11) (seq (p := 12) (q := 15) (r := 18) (p_callG 3 _ (ok_V 0 cv_X0_51 rfl (M_X0_isThing l δ) (Nat.le_of_ble_eq_true rfl) dX0_tied_12) (Nat.le_of_ble_eq_true rfl)) (seq (p := 15) (q := 18) (r := 18) (p_if_ne 20 dX0_tied_15 (by decide)) done))))))) (seq (p := 18) (q := 19) (r := 20) (p_iconst (-1) dX0_tied_18) (seq (p := 19) (q := 20) (r := 20) (p_ireturn dX0_tied_19 rfl) done)))) (seq (p := 20) (q := 21) (r := 40) (p_aload_n 0 dX0_tied_20) (seq (p := 21) (q := 24) (r := 40) (p_get [(0, 0)] (alL1 fl_X0_11_0) dX0_tied_21) (seq (p := 24) (q := 25) (r := 40) (p_iload_n 1 dX0_tied_24) (seq (p := 25) (q := 26) (r := 40) (p_aald dX0_tied_25) (seq (p := 26) (q := 27) (r := 40) (p_iload_n 2 dX0_tied_26) (seq (p := 27) (q := 28) (r := 40) (p_iload_n 3 dX0_tied_27) (seq (p := 28) (q := 31) (r := 40) (p_callG 3 _ (ok_V 2 cv_X0_57 rfl (M_X2_isTied l δ) (Nat.le_of_ble_eq_true rfl) dX0_tied_28) (Nat.le_of_ble_eq_true rfl)) (seq (p := 31) (q := 39) (r := 40) (blk (seq (p := 31) (q := 38) (r := 39) (blk (seq (p := 31) (q := 34) (r := 38) (p_if_eq 38 dX0_tied_31 (by decide)) (seq (p := 34) (q := 35) (r := 38) (p_iconst 1 dX0_tied_34) (seq (p := 35) (q := 38) (r := 38) (p_goto 39 dX0_tied_35 (by decide)) done)))) (seq (p := 38) (q := 39) (r := 39) (p_iconst 0 dX0_tied_38) done))) (seq (p := 39) (q := 40) (r := 40) (p_ireturn dX0_tied_39 rfl) done)))))))))))))
noncomputable def M_X0_tied (l : Launch) (δ : Dl) : Mth l δ yX0_tied cX0_tied 4 (some .int) 4 := mk (B_X0_tied l δ) (by decide)
theorem N_X0_tied {l : Launch} {δ : Dl} {o : Nat} {a1 : Int} {a2 : Int} {a3 : Int} {s : St} : (M_X0_tied l δ).1 [.inr (.inr (some o)), .inl a1, .inl a2, .inl a3] s = bres ((B_X0_tied l δ).1 [] [some (.inr (.inr (some o))), some (.inl a1), some (.inl a2), some (.inl a3)] s) := (mk_eq (hy := by decide) rfl).trans (nrfl rfl)
theorem dX0_match_0 : decode cX0_match 0 = .ok (.new 76, 3) := by decide +kernel
theorem dX0_match_3 : decode cX0_match 3 = .ok (.dup, 1) := by decide +kernel
theorem dX0_match_4 : decode cX0_match 4 = .ok (.aload_n 0, 1) := by decide +kernel
theorem dX0_match_5 : decode cX0_match 5 = .ok (.getfield 11, 3) := by decide +kernel
theorem dX0_match_8 : decode cX0_match 8 = .ok (.iload_n 1, 1) := by decide +kernel
theorem dX0_match_9 : decode cX0_match 9 = .ok (.aaload, 1) := by decide +kernel
theorem dX0_match_10 : decode cX0_match 10 = .ok (.aload_n 0, 1) := by decide +kernel
theorem dX0_match_11 : decode cX0_match 11 = .ok (.getfield 11, 3) := by decide +kernel
theorem dX0_match_14 : decode cX0_match 14 = .ok (.iload_n 2, 1) := by decide +kernel
theorem dX0_match_15 : decode cX0_match 15 = .ok (.aaload, 1) := by decide +kernel
theorem dX0_match_16 : decode cX0_match 16 = .ok (.invokespecial 78, 3) := by decide +kernel
theorem dX0_match_19 : decode cX0_match 19 = .ok (.areturn, 1) := by decide +kernel
noncomputable def B_X0_match (l : Launch) (δ : Dl) : Seg (l, δ, yX0_match, 2, (some (.object "TwoWorlds$Match")), cX0_match, 3) 0 20 :=
  seq (p := 0) (q := 3) (r := 20) (p_new 3 ck3 tyX3 tyX3_ok f0_3 f0_3_ok (okc q289) (okc q290) (okc q93) dX0_match_0) (seq (p := 3) (q := 4) (r := 20) (p_dup dX0_match_3) (seq (p := 4) (q := 5) (r := 20) (p_aload_n 0 dX0_match_4) (seq (p := 5) (q := 8) (r := 20) (p_get [(0, 0)] (alL1 fl_X0_11_0) dX0_match_5) (seq (p := 8) (q := 9) (r := 20) (p_iload_n 1 dX0_match_8) (seq (p := 9) (q := 10) (r := 20) (p_aald dX0_match_9) (seq (p := 10) (q := 11) (r := 20) (p_aload_n 0 dX0_match_10) (seq (p := 11) (q := 14) (r := 20) (p_get [(0, 0)] (alL1 fl_X0_11_0) dX0_match_11) (seq (p := 14) (q := 15) (r := 20) (p_iload_n 2 dX0_match_14) (seq (p := 15) (q := 16) (r := 20) (p_aald dX0_match_15) (seq (p := 16) (q := 19) (r := 20) (p_callG 3 _ (ok_I ci_X0_78 (M_X3_init l δ) (Nat.le_of_ble_eq_true rfl) dX0_match_16) (Nat.le_of_ble_eq_true rfl)) (seq (p := 19) (q := 20) (r := 20) (p_areturn dX0_match_19 rfl (Or.inl ⟨_, rfl⟩)) done)))))))))))
noncomputable def M_X0_match (l : Launch) (δ : Dl) : Mth l δ yX0_match cX0_match 3 (some (.object "TwoWorlds$Match")) 2 := mk (B_X0_match l δ) (by decide)
theorem N_X0_match {l : Launch} {δ : Dl} {o : Nat} {a1 : Int} {a2 : Int} {s : St} : (M_X0_match l δ).1 [.inr (.inr (some o)), .inl a1, .inl a2] s = bres ((B_X0_match l δ).1 [] [some (.inr (.inr (some o))), some (.inl a1), some (.inl a2)] s) := (mk_eq (hy := by decide) rfl).trans (nrfl rfl)
theorem dX0_game_0 : decode cX0_game 0 = .ok (.aload_n 0, 1) := by decide +kernel
theorem dX0_game_1 : decode cX0_game 1 = .ok (.iload_n 1, 1) := by decide +kernel
theorem dX0_game_2 : decode cX0_game 2 = .ok (.invokevirtual 40, 3) := by decide +kernel
theorem dX0_game_5 : decode cX0_game 5 = .ok (.ifCond .eq 11, 3) := by decide +kernel
theorem dX0_game_8 : decode cX0_game 8 = .ok (.aload_n 0, 1) := by decide +kernel
theorem dX0_game_9 : decode cX0_game 9 = .ok (.iload_n 2, 1) := by decide +kernel
theorem dX0_game_10 : decode cX0_game 10 = .ok (.invokevirtual 40, 3) := by decide +kernel
theorem dX0_game_13 : decode cX0_game 13 = .ok (.ifCond .ne 5, 3) := by decide +kernel
theorem dX0_game_16 : decode cX0_game 16 = .ok (.iconst (-1), 1) := by decide +kernel
theorem dX0_game_17 : decode cX0_game 17 = .ok (.ireturn, 1) := by decide +kernel
theorem dX0_game_18 : decode cX0_game 18 = .ok (.iload_n 3, 1) := by decide +kernel
theorem dX0_game_19 : decode cX0_game 19 = .ok (.i2l, 1) := by decide +kernel
theorem dX0_game_20 : decode cX0_game 20 = .ok (.lconst 0, 1) := by decide +kernel
theorem dX0_game_21 : decode cX0_game 21 = .ok (.ldc2_w 81, 3) := by decide +kernel
theorem dX0_game_24 : decode cX0_game 24 = .ok (.invokestatic 32, 3) := by decide +kernel
theorem dX0_game_27 : decode cX0_game 27 = .ok (.ifCond .ne 6, 3) := by decide +kernel
theorem dX0_game_30 : decode cX0_game 30 = .ok (.bipush (-2), 2) := by decide +kernel
theorem dX0_game_32 : decode cX0_game 32 = .ok (.ireturn, 1) := by decide +kernel
theorem dX0_game_33 : decode cX0_game 33 = .ok (.aload_n 0, 1) := by decide +kernel
theorem dX0_game_34 : decode cX0_game 34 = .ok (.iload_n 1, 1) := by decide +kernel
theorem dX0_game_35 : decode cX0_game 35 = .ok (.iload_n 2, 1) := by decide +kernel
theorem dX0_game_36 : decode cX0_game 36 = .ok (.invokevirtual 83, 3) := by decide +kernel
theorem dX0_game_39 : decode cX0_game 39 = .ok (.iload_n 3, 1) := by decide +kernel
theorem dX0_game_40 : decode cX0_game 40 = .ok (.invokevirtual 87, 3) := by decide +kernel
theorem dX0_game_43 : decode cX0_game 43 = .ok (.ifCond .eq 7, 3) := by decide +kernel
theorem dX0_game_46 : decode cX0_game 46 = .ok (.iconst 1, 1) := by decide +kernel
theorem dX0_game_47 : decode cX0_game 47 = .ok (.goto 4, 3) := by decide +kernel
theorem dX0_game_50 : decode cX0_game 50 = .ok (.iconst 0, 1) := by decide +kernel
theorem dX0_game_51 : decode cX0_game 51 = .ok (.ireturn, 1) := by decide +kernel
noncomputable def B_X0_game (l : Launch) (δ : Dl) : Seg (l, δ, yX0_game, 16, (some .int), cX0_game, 4) 0 52 :=
  seq (p := 0) (q := 1) (r := 52) (p_aload_n 0 dX0_game_0) (seq (p := 1) (q := 2) (r := 52) (p_iload_n 1 dX0_game_1) (seq (p := 2) (q := 5) (r := 52) (p_callG 2 _ (ok_V 0 cv_X0_40 rfl (M_X0_isWorld l δ) (Nat.le_of_ble_eq_true rfl) dX0_game_2) (Nat.le_of_ble_eq_true rfl)) (seq (p := 5) (q := 18) (r := 52) (blk (seq (p := 5) (q := 16) (r := 18) (blk (seq (p := 5) (q := 8) (r := 16) (p_if_eq 16 dX0_game_5 (by decide)) (seq (p := 8) (q := 9) (r := 16) (p_aload_n 0 dX0_game_8) (seq (p := 9) (q := 10) (r := 16) (p_iload_n 2 dX0_game_9) (seq (p := 10) (q := 13) (r := 16) (p_callG 2 _ (ok_V 0 cv_X0_40 rfl (M_X0_isWorld l δ) (Nat.le_of_ble_eq_true rfl) dX0_game_10) (Nat.le_of_ble_eq_true rfl)) (seq (p := 13) (q := 16) (r := 16) (p_if_ne 18 dX0_game_13 (by decide)) done)))))) (seq (p := 16) (q := 17) (r := 18) (p_iconst (-1) dX0_game_16) (seq (p := 17) (q := 18) (r := 18) (p_ireturn dX0_game_17 rfl) done)))) (seq (p := 18) (q := 19) (r := 52) (p_iload_n 3 dX0_game_18) (seq (p := 19) (q := 20) (r := 52) (p_i2l dX0_game_19) (seq (p := 20) (q := 21) (r := 52) (p_lconst0 dX0_game_20) (seq (p := 21) (q := 24) (r := 52) (p_ldc2 3 (okc q284) (by decide) dX0_game_21) (seq (p := 24) (q := 27) (r := 52) (p_callG 3 _ (ok_S cs_X0_32 (M_X0_isIn l δ) (Nat.le_of_ble_eq_true rfl) dX0_game_24) (Nat.le_of_ble_eq_true rfl)) (seq (p := 27) (q := 33) (r := 52) (blk (seq (p := 27) (q := 30) (r := 33) (p_if_ne 33 dX0_game_27 (by decide)) (seq (p := 30) (q := 32) (r := 33) (p_bipush (-2) dX0_game_30 (by decide)) (seq (p := 32) (q := 33) (r := 33) (p_ireturn dX0_game_32 rfl) done)))) (seq (p := 33) (q := 34) (r := 52) (p_aload_n 0 dX0_game_33) (seq (p := 34) (q := 35) (r := 52) (p_iload_n 1 dX0_game_34) (seq (p := 35) (q := 36) (r := 52) (p_iload_n 2 dX0_game_35) (seq (p := 36) (q := 39) (r := 52) (p_callG 3 _ (ok_V 0 cv_X0_83 rfl (M_X0_match l δ) (Nat.le_of_ble_eq_true rfl) dX0_game_36) (Nat.le_of_ble_eq_true rfl)) (seq (p := 39) (q := 40) (r := 52) (p_iload_n 3 dX0_game_39) (seq (p := 40) (q := 43) (r := 52) (p_callG 2 _ (ok_V 3 cv_X0_87 rfl ((R_kept l δ 12).1) (Nat.le_of_ble_eq_true rfl) dX0_game_40) (Nat.le_of_ble_eq_true rfl)) (seq (p := 43) (q := 51) (r := 52) (blk (seq (p := 43) (q := 50) (r := 51) (blk (seq (p := 43) (q := 46) (r := 50) (p_if_eq 50 dX0_game_43 (by decide)) (seq (p := 46) (q := 47) (r := 50) (p_iconst 1 dX0_game_46) (seq (p := 47) (q := 50) (r := 50) (p_goto 51 dX0_game_47 (by decide)) done)))) (seq (p := 50) (q := 51) (r := 51) (p_iconst 0 dX0_game_50) done))) (seq (p := 51) (q := 52) (r := 52) (p_ireturn dX0_game_51 rfl) done)))))))))))))))))
noncomputable def M_X0_game (l : Launch) (δ : Dl) : Mth l δ yX0_game cX0_game 4 (some .int) 16 := mk (B_X0_game l δ) (by decide)
theorem N_X0_game {l : Launch} {δ : Dl} {o : Nat} {a1 : Int} {a2 : Int} {a3 : Int} {s : St} : (M_X0_game l δ).1 [.inr (.inr (some o)), .inl a1, .inl a2, .inl a3] s = bres ((B_X0_game l δ).1 [] [some (.inr (.inr (some o))), some (.inl a1), some (.inl a2), some (.inl a3)] s) := (mk_eq (hy := by decide) rfl).trans (nrfl rfl)
theorem dX0_rankOf_0 : decode cX0_rankOf 0 = .ok (.iconst 1, 1) := by decide +kernel
theorem dX0_rankOf_1 : decode cX0_rankOf 1 = .ok (.istore_n 1, 1) := by decide +kernel
theorem dX0_rankOf_2 : decode cX0_rankOf 2 = .ok (.iload_n 1, 1) := by decide +kernel
theorem dX0_rankOf_3 : decode cX0_rankOf 3 = .ok (.iconst 3, 1) := by decide +kernel
theorem dX0_rankOf_4 : decode cX0_rankOf 4 = .ok (.aload_n 0, 1) := by decide +kernel
theorem dX0_rankOf_5 : decode cX0_rankOf 5 = .ok (.getfield 90, 3) := by decide +kernel
theorem dX0_rankOf_8 : decode cX0_rankOf 8 = .ok (.isub, 1) := by decide +kernel
theorem dX0_rankOf_9 : decode cX0_rankOf 9 = .ok (.if_icmp .gt 19, 3) := by decide +kernel
theorem dX0_rankOf_12 : decode cX0_rankOf 12 = .ok (.aload_n 0, 1) := by decide +kernel
theorem dX0_rankOf_13 : decode cX0_rankOf 13 = .ok (.iload_n 1, 1) := by decide +kernel
theorem dX0_rankOf_14 : decode cX0_rankOf 14 = .ok (.invokevirtual 87, 3) := by decide +kernel
theorem dX0_rankOf_17 : decode cX0_rankOf 17 = .ok (.ifCond .ne 5, 3) := by decide +kernel
theorem dX0_rankOf_20 : decode cX0_rankOf 20 = .ok (.iload_n 1, 1) := by decide +kernel
theorem dX0_rankOf_21 : decode cX0_rankOf 21 = .ok (.ireturn, 1) := by decide +kernel
theorem dX0_rankOf_22 : decode cX0_rankOf 22 = .ok (.iinc 1 1, 3) := by decide +kernel
theorem dX0_rankOf_25 : decode cX0_rankOf 25 = .ok (.goto (-23), 3) := by decide +kernel
theorem dX0_rankOf_28 : decode cX0_rankOf 28 = .ok (.bipush (-9), 2) := by decide +kernel
theorem dX0_rankOf_30 : decode cX0_rankOf 30 = .ok (.ireturn, 1) := by decide +kernel
noncomputable def C_X0_rankOf_L2 (l : Launch) (δ : Dl) : Seg (l, δ, yX0_rankOf, 16, (some .int), cX0_rankOf, 2) 2 28 :=
  seq (p := 2) (q := 3) (r := 28) (p_iload_n 1 dX0_rankOf_2) (seq (p := 3) (q := 4) (r := 28) (p_iconst 3 dX0_rankOf_3) (seq (p := 4) (q := 5) (r := 28) (p_aload_n 0 dX0_rankOf_4) (seq (p := 5) (q := 8) (r := 28) (p_get [(3, 2)] (alL1 fl_X0_90_3) dX0_rankOf_5) (seq (p := 8) (q := 9) (r := 28) (p_isub dX0_rankOf_8) (seq (p := 9) (q := 12) (r := 28) (p_icmp_gt 28 dX0_rankOf_9 (by decide)) (seq (p := 12) (q := 13) (r := 28) (p_aload_n 0 dX0_rankOf_12) (seq (p := 13) (q := 14) (r := 28) (p_iload_n 1 dX0_rankOf_13) (seq (p := 14) (q := 17) (r := 28) (p_callG 2 _ (ok_V 3 cv_X0_87 rfl ((R_kept l δ 12).1) (Nat.le_of_ble_eq_true rfl) dX0_rankOf_14) (Nat.le_of_ble_eq_true rfl)) (seq (p := 17) (q := 22) (r := 28) (blk (seq (p := 17) (q := 20) (r := 22) (p_if_ne 22 dX0_rankOf_17 (by decide)) (seq (p := 20) (q := 21) (r := 22) (p_iload_n 1 dX0_rankOf_20) (seq (p := 21) (q := 22) (r := 22) (p_ireturn dX0_rankOf_21 rfl) done)))) (seq (p := 22) (q := 25) (r := 28) (p_iinc 1 1 dX0_rankOf_22 (Nat.le_of_ble_eq_true rfl)) (seq (p := 25) (q := 25) (r := 28) (er [true, true]) (seq (p := 25) (q := 28) (r := 28) (p_goto 2 dX0_rankOf_25 (by decide)) done))))))))))))
noncomputable def B_X0_rankOf_L2 (l : Launch) (δ : Dl) : Seg (l, δ, yX0_rankOf, 16, (some .int), cX0_rankOf, 2) 2 28 := C_X0_rankOf_L2 l δ
theorem L_X0_rankOf_2 {l : Launch} {δ : Dl} {st : Stk} {L : Lc} {s : St} : (B_X0_rankOf_L2 l δ).1 st L s = (C_X0_rankOf_L2 l δ).1 st L s := nrfl rfl
noncomputable def B_X0_rankOf (l : Launch) (δ : Dl) : Seg (l, δ, yX0_rankOf, 16, (some .int), cX0_rankOf, 2) 0 31 :=
  seq (p := 0) (q := 1) (r := 31) (p_iconst 1 dX0_rankOf_0) (seq (p := 1) (q := 2) (r := 31) (p_istore_n 1 dX0_rankOf_1 (Nat.le_of_ble_eq_true rfl)) (seq (p := 2) (q := 28) (r := 31) (blk (seq (p := 2) (q := 2) (r := 28) (er [true, true]) (seq (p := 2) (q := 28) (r := 28) (lp (B_X0_rankOf_L2 l δ)) done))) (seq (p := 28) (q := 30) (r := 31) (p_bipush (-9) dX0_rankOf_28 (by decide)) (seq (p := 30) (q := 31) (r := 31) (p_ireturn dX0_rankOf_30 rfl) done))))
noncomputable def M_X0_rankOf (l : Launch) (δ : Dl) : Mth l δ yX0_rankOf cX0_rankOf 2 (some .int) 16 := mk (B_X0_rankOf l δ) (by decide)
theorem N_X0_rankOf {l : Launch} {δ : Dl} {a1 : Option Nat} {s : St} : (M_X0_rankOf l δ).1 [.inr (.inr a1)] s = bres ((B_X0_rankOf l δ).1 [] [some (.inr (.inr a1)), none] s) := (mk_eq (hy := by decide) rfl).trans (nrfl rfl)
theorem dX0_rank_0 : decode cX0_rank 0 = .ok (.aload_n 0, 1) := by decide +kernel
theorem dX0_rank_1 : decode cX0_rank 1 = .ok (.iload_n 1, 1) := by decide +kernel
theorem dX0_rank_2 : decode cX0_rank 2 = .ok (.invokevirtual 40, 3) := by decide +kernel
theorem dX0_rank_5 : decode cX0_rank 5 = .ok (.ifCond .eq 23, 3) := by decide +kernel
theorem dX0_rank_8 : decode cX0_rank 8 = .ok (.aload_n 0, 1) := by decide +kernel
theorem dX0_rank_9 : decode cX0_rank 9 = .ok (.iload_n 2, 1) := by decide +kernel
theorem dX0_rank_10 : decode cX0_rank 10 = .ok (.invokevirtual 40, 3) := by decide +kernel
theorem dX0_rank_13 : decode cX0_rank 13 = .ok (.ifCond .eq 15, 3) := by decide +kernel
theorem dX0_rank_16 : decode cX0_rank 16 = .ok (.aload_n 0, 1) := by decide +kernel
theorem dX0_rank_17 : decode cX0_rank 17 = .ok (.iload_n 1, 1) := by decide +kernel
theorem dX0_rank_18 : decode cX0_rank 18 = .ok (.iload_n 2, 1) := by decide +kernel
theorem dX0_rank_19 : decode cX0_rank 19 = .ok (.invokevirtual 83, 3) := by decide +kernel
theorem dX0_rank_22 : decode cX0_rank 22 = .ok (.invokestatic 93, 3) := by decide +kernel
theorem dX0_rank_25 : decode cX0_rank 25 = .ok (.goto 4, 3) := by decide +kernel
theorem dX0_rank_28 : decode cX0_rank 28 = .ok (.iconst (-1), 1) := by decide +kernel
theorem dX0_rank_29 : decode cX0_rank 29 = .ok (.ireturn, 1) := by decide +kernel
noncomputable def B_X0_rank (l : Launch) (δ : Dl) : Seg (l, δ, yX0_rank, 17, (some .int), cX0_rank, 3) 0 30 :=
  seq (p := 0) (q := 1) (r := 30) (p_aload_n 0 dX0_rank_0) (seq (p := 1) (q := 2) (r := 30) (p_iload_n 1 dX0_rank_1) (seq (p := 2) (q := 5) (r := 30) (p_callG 2 _ (ok_V 0 cv_X0_40 rfl (M_X0_isWorld l δ) (Nat.le_of_ble_eq_true rfl) dX0_rank_2) (Nat.le_of_ble_eq_true rfl)) (seq (p := 5) (q := 29) (r := 30) (blk (seq (p := 5) (q := 28) (r := 29) (blk (seq (p := 5) (q := 8) (r := 28) (p_if_eq 28 dX0_rank_5 (by decide)) (seq (p := 8) (q := 9) (r := 28) (p_aload_n 0 dX0_rank_8) (seq (p := 9) (q := 10) (r := 28) (p_iload_n 2 dX0_rank_9) (seq (p := 10) (q := 13) (r := 28) (p_callG 2 _ (ok_V 0 cv_X0_40 rfl (M_X0_isWorld l δ) (Nat.le_of_ble_eq_true rfl) dX0_rank_10) (Nat.le_of_ble_eq_true rfl)) (seq (p := 13) (q := 16) (r := 28) (p_if_eq 28 dX0_rank_13 (by decide)) (seq (p := 16) (q := 17) (r := 28) (p_aload_n 0 dX0_rank_16) (seq (p := 17) (q := 18) (r := 28) (p_iload_n 1 dX0_rank_17) (seq (p := 18) (q := 19) (r := 28) (p_iload_n 2 dX0_rank_18) (seq (p := 19) (q := 22) (r := 28) (p_callG 3 _ (ok_V 0 cv_X0_83 rfl (M_X0_match l δ) (Nat.le_of_ble_eq_true rfl) dX0_rank_19) (Nat.le_of_ble_eq_true rfl)) (seq (p := 22) (q := 25) (r := 28) (p_callG 1 _ (ok_S cs_X0_93 (M_X0_rankOf l δ) (Nat.le_of_ble_eq_true rfl) dX0_rank_22) (Nat.le_of_ble_eq_true rfl)) (seq (p := 25) (q := 28) (r := 28) (p_goto 29 dX0_rank_25 (by decide)) done)))))))))))) (seq (p := 28) (q := 29) (r := 29) (p_iconst (-1) dX0_rank_28) done))) (seq (p := 29) (q := 30) (r := 30) (p_ireturn dX0_rank_29 rfl) done))))
noncomputable def M_X0_rank (l : Launch) (δ : Dl) : Mth l δ yX0_rank cX0_rank 3 (some .int) 17 := mk (B_X0_rank l δ) (by decide)
theorem N_X0_rank {l : Launch} {δ : Dl} {o : Nat} {a1 : Int} {a2 : Int} {s : St} : (M_X0_rank l δ).1 [.inr (.inr (some o)), .inl a1, .inl a2] s = bres ((B_X0_rank l δ).1 [] [some (.inr (.inr (some o))), some (.inl a1), some (.inl a2)] s) := (mk_eq (hy := by decide) rfl).trans (nrfl rfl)
theorem dX0_copyOf_0 : decode cX0_copyOf 0 = .ok (.bipush 6, 2) := by decide +kernel
theorem dX0_copyOf_2 : decode cX0_copyOf 2 = .ok (.newarray .int, 2) := by decide +kernel
theorem dX0_copyOf_4 : decode cX0_copyOf 4 = .ok (.astore_n 1, 1) := by decide +kernel
theorem dX0_copyOf_5 : decode cX0_copyOf 5 = .ok (.iconst 0, 1) := by decide +kernel
theorem dX0_copyOf_6 : decode cX0_copyOf 6 = .ok (.istore_n 2, 1) := by decide +kernel
theorem dX0_copyOf_7 : decode cX0_copyOf 7 = .ok (.iload_n 2, 1) := by decide +kernel
theorem dX0_copyOf_8 : decode cX0_copyOf 8 = .ok (.bipush 6, 2) := by decide +kernel
theorem dX0_copyOf_10 : decode cX0_copyOf 10 = .ok (.if_icmp .ge 13, 3) := by decide +kernel
theorem dX0_copyOf_13 : decode cX0_copyOf 13 = .ok (.aload_n 1, 1) := by decide +kernel
theorem dX0_copyOf_14 : decode cX0_copyOf 14 = .ok (.iload_n 2, 1) := by decide +kernel
theorem dX0_copyOf_15 : decode cX0_copyOf 15 = .ok (.iload_n 2, 1) := by decide +kernel
theorem dX0_copyOf_16 : decode cX0_copyOf 16 = .ok (.iastore, 1) := by decide +kernel
theorem dX0_copyOf_17 : decode cX0_copyOf 17 = .ok (.iinc 2 1, 3) := by decide +kernel
theorem dX0_copyOf_20 : decode cX0_copyOf 20 = .ok (.goto (-13), 3) := by decide +kernel
theorem dX0_copyOf_23 : decode cX0_copyOf 23 = .ok (.new 9, 3) := by decide +kernel
theorem dX0_copyOf_26 : decode cX0_copyOf 26 = .ok (.dup, 1) := by decide +kernel
theorem dX0_copyOf_27 : decode cX0_copyOf 27 = .ok (.aload_n 0, 1) := by decide +kernel
theorem dX0_copyOf_28 : decode cX0_copyOf 28 = .ok (.getfield 64, 3) := by decide +kernel
theorem dX0_copyOf_31 : decode cX0_copyOf 31 = .ok (.invokespecial 48, 3) := by decide +kernel
theorem dX0_copyOf_34 : decode cX0_copyOf 34 = .ok (.astore_n 2, 1) := by decide +kernel
theorem dX0_copyOf_35 : decode cX0_copyOf 35 = .ok (.aload_n 2, 1) := by decide +kernel
theorem dX0_copyOf_36 : decode cX0_copyOf 36 = .ok (.aload_n 0, 1) := by decide +kernel
theorem dX0_copyOf_37 : decode cX0_copyOf 37 = .ok (.aload_n 1, 1) := by decide +kernel
theorem dX0_copyOf_38 : decode cX0_copyOf 38 = .ok (.invokevirtual 68, 3) := by decide +kernel
theorem dX0_copyOf_41 : decode cX0_copyOf 41 = .ok (.aload_n 2, 1) := by decide +kernel
theorem dX0_copyOf_42 : decode cX0_copyOf 42 = .ok (.areturn, 1) := by decide +kernel
noncomputable def C_X0_copyOf_L7 (l : Launch) (δ : Dl) : Seg (l, δ, yX0_copyOf, 2, (some (.object "TwoWorlds$World")), cX0_copyOf, 3) 7 23 :=
  seq (p := 7) (q := 8) (r := 23) (p_iload_n 2 dX0_copyOf_7) (seq (p := 8) (q := 10) (r := 23) (p_bipush 6 dX0_copyOf_8 (by decide)) (seq (p := 10) (q := 13) (r := 23) (p_icmp_ge 23 dX0_copyOf_10 (by decide)) (seq (p := 13) (q := 14) (r := 23) (p_aload_n 1 dX0_copyOf_13) (seq (p := 14) (q := 15) (r := 23) (p_iload_n 2 dX0_copyOf_14) (seq (p := 15) (q := 16) (r := 23) (p_iload_n 2 dX0_copyOf_15) (seq (p := 16) (q := 17) (r := 23) (p_iast dX0_copyOf_16) (seq (p := 17) (q := 20) (r := 23) (p_iinc 2 1 dX0_copyOf_17 (Nat.le_of_ble_eq_true rfl)) (seq (p := 20) (q := 20) (r := 23) (er [true, true, true]) (seq (p := 20) (q := 23) (r := 23) (p_goto 7 dX0_copyOf_20 (by decide)) done)))))))))
noncomputable def B_X0_copyOf_L7 (l : Launch) (δ : Dl) : Seg (l, δ, yX0_copyOf, 2, (some (.object "TwoWorlds$World")), cX0_copyOf, 3) 7 23 := C_X0_copyOf_L7 l δ
theorem L_X0_copyOf_7 {l : Launch} {δ : Dl} {st : Stk} {L : Lc} {s : St} : (B_X0_copyOf_L7 l δ).1 st L s = (C_X0_copyOf_L7 l δ).1 st L s := nrfl rfl
noncomputable def B_X0_copyOf (l : Launch) (δ : Dl) : Seg (l, δ, yX0_copyOf, 2, (some (.object "TwoWorlds$World")), cX0_copyOf, 3) 0 43 :=
  seq (p := 0) (q := 2) (r := 43) (p_bipush 6 dX0_copyOf_0 (by decide)) (seq (p := 2) (q := 4) (r := 43) (p_newa 0 (Nat.le_of_ble_eq_true rfl) dX0_copyOf_2) (seq (p := 4) (q := 5) (r := 43) (p_astore_n 1 dX0_copyOf_4 (Nat.le_of_ble_eq_true rfl)) (seq (p := 5) (q := 6) (r := 43) (p_iconst 0 dX0_copyOf_5) (seq (p := 6) (q := 7) (r := 43) (p_istore_n 2 dX0_copyOf_6 (Nat.le_of_ble_eq_true rfl)) (seq (p := 7) (q := 23) (r := 43) (blk (seq (p := 7) (q := 7) (r := 23) (er [true, true, true]) (seq (p := 7) (q := 23) (r := 23) (lp (B_X0_copyOf_L7 l δ)) done))) (seq (p := 23) (q := 26) (r := 43) (p_new 2 ck2 tyX2 tyX2_ok f0_2 f0_2_ok (okc q124) (okc q206) (okc q92) dX0_copyOf_23) (seq (p := 26) (q := 27) (r := 43) (p_dup dX0_copyOf_26) (seq (p := 27) (q := 28) (r := 43) (p_aload_n 0 dX0_copyOf_27) (seq (p := 28) (q := 31) (r := 43) (p_get [(2, 0)] (alL1 fl_X0_64_2) dX0_copyOf_28) (seq (p := 31) (q := 34) (r := 43) (p_callG 2 _ (ok_I ci_X0_48 (M_X2_init l δ) (Nat.le_of_ble_eq_true rfl) dX0_copyOf_31) (Nat.le_of_ble_eq_true rfl)) (seq (p := 34) (q := 35) (r := 43) (p_astore_n 2 dX0_copyOf_34 (Nat.le_of_ble_eq_true rfl)) (seq (p := 35) (q := 36) (r := 43) (p_aload_n 2 dX0_copyOf_35) (seq (p := 36) (q := 37) (r := 43) (p_aload_n 0 dX0_copyOf_36) (seq (p := 37) (q := 38) (r := 43) (p_aload_n 1 dX0_copyOf_37) (seq (p := 38) (q := 41) (r := 43) (p_callG 3 _ (ok_V 2 cv_X0_68 rfl (M_X2_take l δ) (Nat.le_of_ble_eq_true rfl) dX0_copyOf_38) (Nat.le_of_ble_eq_true rfl)) (seq (p := 41) (q := 42) (r := 43) (p_aload_n 2 dX0_copyOf_41) (seq (p := 42) (q := 43) (r := 43) (p_areturn dX0_copyOf_42 rfl (Or.inl ⟨_, rfl⟩)) done)))))))))))))))))
noncomputable def M_X0_copyOf (l : Launch) (δ : Dl) : Mth l δ yX0_copyOf cX0_copyOf 3 (some (.object "TwoWorlds$World")) 2 := mk (B_X0_copyOf l δ) (by decide)
theorem N_X0_copyOf {l : Launch} {δ : Dl} {a1 : Option Nat} {s : St} : (M_X0_copyOf l δ).1 [.inr (.inr a1)] s = bres ((B_X0_copyOf l δ).1 [] [some (.inr (.inr a1)), none, none] s) := (mk_eq (hy := by decide) rfl).trans (nrfl rfl)
theorem dX0_play_0 : decode cX0_play 0 = .ok (.aload_n 0, 1) := by decide +kernel
theorem dX0_play_1 : decode cX0_play 1 = .ok (.iload_n 1, 1) := by decide +kernel
theorem dX0_play_2 : decode cX0_play 2 = .ok (.invokevirtual 40, 3) := by decide +kernel
theorem dX0_play_5 : decode cX0_play 5 = .ok (.ifCond .eq 11, 3) := by decide +kernel
theorem dX0_play_8 : decode cX0_play 8 = .ok (.aload_n 0, 1) := by decide +kernel
theorem dX0_play_9 : decode cX0_play 9 = .ok (.iload_n 2, 1) := by decide +kernel
theorem dX0_play_10 : decode cX0_play 10 = .ok (.invokevirtual 40, 3) := by decide +kernel
theorem dX0_play_13 : decode cX0_play 13 = .ok (.ifCond .ne 5, 3) := by decide +kernel
theorem dX0_play_16 : decode cX0_play 16 = .ok (.iconst (-1), 1) := by decide +kernel
theorem dX0_play_17 : decode cX0_play 17 = .ok (.ireturn, 1) := by decide +kernel
theorem dX0_play_18 : decode cX0_play 18 = .ok (.iload_n 3, 1) := by decide +kernel
theorem dX0_play_19 : decode cX0_play 19 = .ok (.i2l, 1) := by decide +kernel
theorem dX0_play_20 : decode cX0_play 20 = .ok (.lconst 0, 1) := by decide +kernel
theorem dX0_play_21 : decode cX0_play 21 = .ok (.ldc2_w 81, 3) := by decide +kernel
theorem dX0_play_24 : decode cX0_play 24 = .ok (.invokestatic 32, 3) := by decide +kernel
theorem dX0_play_27 : decode cX0_play 27 = .ok (.ifCond .ne 6, 3) := by decide +kernel
theorem dX0_play_30 : decode cX0_play 30 = .ok (.bipush (-2), 2) := by decide +kernel
theorem dX0_play_32 : decode cX0_play 32 = .ok (.ireturn, 1) := by decide +kernel
theorem dX0_play_33 : decode cX0_play 33 = .ok (.aload_n 0, 1) := by decide +kernel
theorem dX0_play_34 : decode cX0_play 34 = .ok (.new 76, 3) := by decide +kernel
theorem dX0_play_37 : decode cX0_play 37 = .ok (.dup, 1) := by decide +kernel
theorem dX0_play_38 : decode cX0_play 38 = .ok (.aload_n 0, 1) := by decide +kernel
theorem dX0_play_39 : decode cX0_play 39 = .ok (.getfield 11, 3) := by decide +kernel
theorem dX0_play_42 : decode cX0_play 42 = .ok (.iload_n 1, 1) := by decide +kernel
theorem dX0_play_43 : decode cX0_play 43 = .ok (.aaload, 1) := by decide +kernel
theorem dX0_play_44 : decode cX0_play 44 = .ok (.invokestatic 97, 3) := by decide +kernel
theorem dX0_play_47 : decode cX0_play 47 = .ok (.aload_n 0, 1) := by decide +kernel
theorem dX0_play_48 : decode cX0_play 48 = .ok (.getfield 11, 3) := by decide +kernel
theorem dX0_play_51 : decode cX0_play 51 = .ok (.iload_n 2, 1) := by decide +kernel
theorem dX0_play_52 : decode cX0_play 52 = .ok (.aaload, 1) := by decide +kernel
theorem dX0_play_53 : decode cX0_play 53 = .ok (.invokestatic 97, 3) := by decide +kernel
theorem dX0_play_56 : decode cX0_play 56 = .ok (.invokespecial 78, 3) := by decide +kernel
theorem dX0_play_59 : decode cX0_play 59 = .ok (.putfield 101, 3) := by decide +kernel
theorem dX0_play_62 : decode cX0_play 62 = .ok (.aload_n 0, 1) := by decide +kernel
theorem dX0_play_63 : decode cX0_play 63 = .ok (.iload_n 3, 1) := by decide +kernel
theorem dX0_play_64 : decode cX0_play 64 = .ok (.putfield 105, 3) := by decide +kernel
theorem dX0_play_67 : decode cX0_play 67 = .ok (.aload_n 0, 1) := by decide +kernel
theorem dX0_play_68 : decode cX0_play 68 = .ok (.iload_n 3, 1) := by decide +kernel
theorem dX0_play_69 : decode cX0_play 69 = .ok (.ifCond .ne 7, 3) := by decide +kernel
theorem dX0_play_72 : decode cX0_play 72 = .ok (.iconst 3, 1) := by decide +kernel
theorem dX0_play_73 : decode cX0_play 73 = .ok (.goto 4, 3) := by decide +kernel
theorem dX0_play_76 : decode cX0_play 76 = .ok (.iconst 1, 1) := by decide +kernel
theorem dX0_play_77 : decode cX0_play 77 = .ok (.putfield 108, 3) := by decide +kernel
theorem dX0_play_80 : decode cX0_play 80 = .ok (.iconst 1, 1) := by decide +kernel
theorem dX0_play_81 : decode cX0_play 81 = .ok (.ireturn, 1) := by decide +kernel
noncomputable def B_X0_play (l : Launch) (δ : Dl) : Seg (l, δ, yX0_play, 3, (some .int), cX0_play, 4) 0 82 :=
  seq (p := 0) (q := 1) (r := 82) (p_aload_n 0 dX0_play_0) (seq (p := 1) (q := 2) (r := 82) (p_iload_n 1 dX0_play_1) (seq (p := 2) (q := 5) (r := 82) (p_callG 2 _ (ok_V 0 cv_X0_40 rfl (M_X0_isWorld l δ) (Nat.le_of_ble_eq_true rfl) dX0_play_2) (Nat.le_of_ble_eq_true rfl)) (seq (p := 5) (q := 18) (r := 82) (blk (seq (p := 5) (q := 16) (r := 18) (blk (seq (p := 5) (q := 8) (r := 16) (p_if_eq 16 dX0_play_5 (by decide)) (seq (p := 8) (q := 9) (r := 16) (p_aload_n 0 dX0_play_8) (seq (p := 9) (q := 10) (r := 16) (p_iload_n 2 dX0_play_9) (seq (p := 10) (q := 13) (r := 16) (p_callG 2 _ (ok_V 0 cv_X0_40 rfl (M_X0_isWorld l δ) (Nat.le_of_ble_eq_true rfl) dX0_play_10) (Nat.le_of_ble_eq_true rfl)) (seq (p := 13) (q := 16) (r := 16) (p_if_ne 18 dX0_play_13 (by decide)) done)))))) (seq (p := 16) (q := 17) (r := 18) (p_iconst (-1) dX0_play_16) (seq (p := 17) (q := 18) (r := 18) (p_ireturn dX0_play_17 rfl) done)))) (seq (p := 18) (q := 19) (r := 82) (p_iload_n 3 dX0_play_18) (seq (p := 19) (q := 20) (r := 82) (p_i2l dX0_play_19) (seq (p := 20) (q := 21) (r := 82) (p_lconst0 dX0_play_20) (seq (p := 21) (q := 24) (r := 82) (p_ldc2 3 (okc q284) (by decide) dX0_play_21) (seq (p := 24) (q := 27) (r := 82) (p_callG 3 _ (ok_S cs_X0_32 (M_X0_isIn l δ) (Nat.le_of_ble_eq_true rfl) dX0_play_24) (Nat.le_of_ble_eq_true rfl)) (seq (p := 27) (q := 33) (r := 82) (blk (seq (p := 27) (q := 30) (r := 33) (p_if_ne 33 dX0_play_27 (by decide)) (seq (p := 30) (q := 32) (r := 33) (p_bipush (-2) dX0_play_30 (by decide)) (seq (p := 32) (q := 33) (r := 33) (p_ireturn dX0_play_32 rfl) done)))) (seq (p := 33) (q := 34) (r := 82) (p_aload_n 0 dX0_play_33) (seq (p := 34) (q := 37) (r := 82) (p_new 3 ck3 tyX3 tyX3_ok f0_3 f0_3_ok (okc q289) (okc q290) (okc q93) dX0_play_34) (seq (p := 37) (q := 38) (r := 82) (p_dup dX0_play_37) (seq (p := 38) (q := 39) (r := 82) (p_aload_n 0 dX0_play_38) (seq (p := 39) (q := 42) (r := 82) (p_get [(0, 0)] (alL1 fl_X0_11_0) dX0_play_39) (seq (p := 42) (q := 43) (r := 82) (p_iload_n 1 dX0_play_42) (seq (p := 43) (q := 44) (r := 82) (p_aald dX0_play_43) (seq (p := 44) (q := 47) (r := 82) (p_callG 1 _ (ok_S cs_X0_97 (M_X0_copyOf l δ) (Nat.le_of_ble_eq_true rfl) dX0_play_44) (Nat.le_of_ble_eq_true rfl)) (seq (p := 47) (q := 48) (r := 82) (p_aload_n 0 dX0_play_47) (seq (p := 48) (q := 51) (r := 82) (p_get [(0, 0)] (alL1 fl_X0_11_0) dX0_play_48) (seq (p := 51) (q := 52) (r := 82) (p_iload_n 2 dX0_play_51) (seq (p := 52) (q := 53) (r := 82) (p_aald dX0_play_52) (seq (p := 53) (q := 56) (r := 82) (p_callG 1 _ (ok_S cs_X0_97 (M_X0_copyOf l δ) (Nat.le_of_ble_eq_true rfl) dX0_play_53) (Nat.le_of_ble_eq_true rfl)) (seq (p := 56) (q := 59) (r := 82) (p_callG 3 _ (ok_I ci_X0_78 (M_X3_init l δ) (Nat.le_of_ble_eq_true rfl) dX0_play_56) (Nat.le_of_ble_eq_true rfl)) (seq (p := 59) (q := 62) (r := 82) (p_put [(0, 1)] (.object "TwoWorlds$Match") (alP1 fp_X0_101_0) dX0_play_59) (seq (p := 62) (q := 63) (r := 82) (p_aload_n 0 dX0_play_62) (seq (p := 63) (q := 64) (r := 82) (p_iload_n 3 dX0_play_63) (seq (p := 64) (q := 67) (r := 82) (p_put [(0, 2)] .int (alP1 fp_X0_105_0) dX0_play_64) (seq (p := 67) (q := 68) (r := 82) (p_aload_n 0 dX0_play_67) (seq (p := 68) (q := 69) (r := 82) (p_iload_n 3 dX0_play_68) (seq (p := 69) (q := 77) (r := 82) (blk (seq (p := 69) (q := 76) (r := 77) (blk (seq (p := 69) (q := 72) (r := 76) (p_if_ne 76 dX0_play_69 (by decide)) (seq (p := 72) (q := 73) (r := 76) (p_iconst 3 dX0_play_72) (seq (p := 73) (q := 76) (r := 76) (p_goto 77 dX0_play_73 (by decide)) done)))) (seq (p := 76) (q := 77) (r := 77) (p_iconst 1 dX0_play_76) done))) (seq (p := 77) (q := 80) (r := 82) (p_put [(0, 3)] .int (alP1 fp_X0_108_0) dX0_play_77) (seq (p := 80) (q := 81) (r := 82) (p_iconst 1 dX0_play_80) (seq (p := 81) (q := 82) (r := 82) (p_ireturn dX0_play_81 rfl) done)))))))))))))))))))))))))))))))))
noncomputable def M_X0_play (l : Launch) (δ : Dl) : Mth l δ yX0_play cX0_play 4 (some .int) 3 := mk (B_X0_play l δ) (by decide)
theorem N_X0_play {l : Launch} {δ : Dl} {o : Nat} {a1 : Int} {a2 : Int} {a3 : Int} {s : St} : (M_X0_play l δ).1 [.inr (.inr (some o)), .inl a1, .inl a2, .inl a3] s = bres ((B_X0_play l δ).1 [] [some (.inr (.inr (some o))), some (.inl a1), some (.inl a2), some (.inl a3)] s) := (mk_eq (hy := by decide) rfl).trans (nrfl rfl)
theorem dX0_pick_0 : decode cX0_pick 0 = .ok (.aload_n 0, 1) := by decide +kernel
theorem dX0_pick_1 : decode cX0_pick 1 = .ok (.getfield 108, 3) := by decide +kernel
theorem dX0_pick_4 : decode cX0_pick 4 = .ok (.iconst 1, 1) := by decide +kernel
theorem dX0_pick_5 : decode cX0_pick 5 = .ok (.if_icmp .eq 6, 3) := by decide +kernel
theorem dX0_pick_8 : decode cX0_pick 8 = .ok (.bipush (-3), 2) := by decide +kernel
theorem dX0_pick_10 : decode cX0_pick 10 = .ok (.ireturn, 1) := by decide +kernel
theorem dX0_pick_11 : decode cX0_pick 11 = .ok (.iload_n 1, 1) := by decide +kernel
theorem dX0_pick_12 : decode cX0_pick 12 = .ok (.i2l, 1) := by decide +kernel
theorem dX0_pick_13 : decode cX0_pick 13 = .ok (.lconst 0, 1) := by decide +kernel
theorem dX0_pick_14 : decode cX0_pick 14 = .ok (.lconst 1, 1) := by decide +kernel
theorem dX0_pick_15 : decode cX0_pick 15 = .ok (.invokestatic 32, 3) := by decide +kernel
theorem dX0_pick_18 : decode cX0_pick 18 = .ok (.ifCond .eq 19, 3) := by decide +kernel
theorem dX0_pick_21 : decode cX0_pick 21 = .ok (.aload_n 0, 1) := by decide +kernel
theorem dX0_pick_22 : decode cX0_pick 22 = .ok (.getfield 101, 3) := by decide +kernel
theorem dX0_pick_25 : decode cX0_pick 25 = .ok (.getfield 111, 3) := by decide +kernel
theorem dX0_pick_28 : decode cX0_pick 28 = .ok (.iload_n 1, 1) := by decide +kernel
theorem dX0_pick_29 : decode cX0_pick 29 = .ok (.aaload, 1) := by decide +kernel
theorem dX0_pick_30 : decode cX0_pick 30 = .ok (.iload_n 2, 1) := by decide +kernel
theorem dX0_pick_31 : decode cX0_pick 31 = .ok (.invokevirtual 43, 3) := by decide +kernel
theorem dX0_pick_34 : decode cX0_pick 34 = .ok (.ifCond .ne 6, 3) := by decide +kernel
theorem dX0_pick_37 : decode cX0_pick 37 = .ok (.bipush (-2), 2) := by decide +kernel
theorem dX0_pick_39 : decode cX0_pick 39 = .ok (.ireturn, 1) := by decide +kernel
theorem dX0_pick_40 : decode cX0_pick 40 = .ok (.aload_n 0, 1) := by decide +kernel
theorem dX0_pick_41 : decode cX0_pick 41 = .ok (.iload_n 1, 1) := by decide +kernel
theorem dX0_pick_42 : decode cX0_pick 42 = .ok (.putfield 114, 3) := by decide +kernel
theorem dX0_pick_45 : decode cX0_pick 45 = .ok (.aload_n 0, 1) := by decide +kernel
theorem dX0_pick_46 : decode cX0_pick 46 = .ok (.iload_n 2, 1) := by decide +kernel
theorem dX0_pick_47 : decode cX0_pick 47 = .ok (.putfield 117, 3) := by decide +kernel
theorem dX0_pick_50 : decode cX0_pick 50 = .ok (.aload_n 0, 1) := by decide +kernel
theorem dX0_pick_51 : decode cX0_pick 51 = .ok (.iconst 2, 1) := by decide +kernel
theorem dX0_pick_52 : decode cX0_pick 52 = .ok (.putfield 108, 3) := by decide +kernel
theorem dX0_pick_55 : decode cX0_pick 55 = .ok (.iconst 1, 1) := by decide +kernel
theorem dX0_pick_56 : decode cX0_pick 56 = .ok (.ireturn, 1) := by decide +kernel
noncomputable def B_X0_pick (l : Launch) (δ : Dl) : Seg (l, δ, yX0_pick, 2, (some .int), cX0_pick, 3) 0 57 :=
  seq (p := 0) (q := 1) (r := 57) (p_aload_n 0 dX0_pick_0) (seq (p := 1) (q := 4) (r := 57) (p_get [(0, 3)] (alL1 fl_X0_108_0) dX0_pick_1) (seq (p := 4) (q := 5) (r := 57) (p_iconst 1 dX0_pick_4) (seq (p := 5) (q := 11) (r := 57) (blk (seq (p := 5) (q := 8) (r := 11) (p_icmp_eq 11 dX0_pick_5 (by decide)) (seq (p := 8) (q := 10) (r := 11) (p_bipush (-3) dX0_pick_8 (by decide)) (seq (p := 10) (q := 11) (r := 11) (p_ireturn dX0_pick_10 rfl) done)))) (seq (p := 11) (q := 12) (r := 57) (p_iload_n 1 dX0_pick_11) (seq (p := 12) (q := 13) (r := 57) (p_i2l dX0_pick_12) (seq (p := 13) (q := 14) (r := 57) (p_lconst0 dX0_pick_13) (seq (p := 14) (q := 15) (r := 57) (p_lconst1 dX0_pick_14) (seq (p := 15) (q := 18) (r := 57) (p_callG 3 _ (ok_S cs_X0_32 (M_X0_isIn l δ) (Nat.le_of_ble_eq_true rfl) dX0_pick_15) (Nat.le_of_ble_eq_true rfl)) (seq (p := 18) (q := 40) (r := 57) (blk (seq (p := 18) (q := 37) (r := 40) (blk (seq (p := 18) (q := 21) (r := 37) (p_if_eq 37 dX0_pick_18 (by decide)) (seq (p := 21) (q := 22) (r := 37) (p_aload_n 0 dX0_pick_21) (seq (p := 22) (q := 25) (r := 37) (p_get [(0, 1)] (alL1 fl_X0_101_0) dX0_pick_22) (seq (p := 25) (q := 28) (r := 37) (p_get [(3, 0)] (alL1 fl_X0_111_3) dX0_pick_25) (seq (p := 28) (q := 29) (r := 37) (p_iload_n 1 dX0_pick_28) (seq (p := 29) (q := 30) (r := 37) (p_aald dX0_pick_29) (seq (p := 30) (q := 31) (r := 37) (p_iload_n 2 dX0_pick_30) (seq (p := 31) (q := 34) (r := 37) (p_callG 2 _ (ok_V 2 cv_X0_43 rfl (M_X2_isThing l δ) (Nat.le_of_ble_eq_true rfl) dX0_pick_31) (Nat.le_of_ble_eq_true rfl)) (seq (p := 34) (q := 37) (r := 37) (p_if_ne 40 dX0_pick_34 (by decide)) done)))))))))) (seq (p := 37) (q := 39) (r := 40) (p_bipush (-2) dX0_pick_37 (by decide)) (seq (p := 39) (q := 40) (r := 40) (p_ireturn dX0_pick_39 rfl) done)))) (seq (p := 40) (q := 41) (r := 57) (p_aload_n 0 dX0_pick_40) (seq (p := 41) (q := 42) (r := 57) (p_iload_n 1 dX0_pick_41) (seq (p := 42) (q := 45) (r := 57) (p_put [(0, 4)] .int (alP1 fp_X0_114_0) dX0_pick_42) (seq (p := 45) (q := 46) (r := 57) (p_aload_n 0 dX0_pick_45) (seq (p := 46) (q := 47) (r := 57) (p_iload_n 2 dX0_pick_46) (seq (p := 47) (q := 50) (r := 57) (p_put [(0, 5)] .int (alP1 fp_X0_117_0) dX0_pick_47) (seq (p := 50) (q := 51) (r := 57) (p_aload_n 0 dX0_pick_50) (seq (p := 51) (q := 52) (r := 57) (p_iconst 2 dX0_pick_51) (seq (p := 52) (q := 55) (r := 57) (p_put [(0, 3)] .int (alP1 fp_X0_108_0) dX0_pick_52) (seq (p := 55) (q := 56) (r := 57) (p_iconst 1 dX0_pick_55) (seq (p := 56) (q := 57) (r := 57) (p_ireturn dX0_pick_56 rfl) done))))))))))))))))))))
noncomputable def M_X0_pick (l : Launch) (δ : Dl) : Mth l δ yX0_pick cX0_pick 3 (some .int) 2 := mk (B_X0_pick l δ) (by decide)
theorem N_X0_pick {l : Launch} {δ : Dl} {o : Nat} {a1 : Int} {a2 : Int} {s : St} : (M_X0_pick l δ).1 [.inr (.inr (some o)), .inl a1, .inl a2] s = bres ((B_X0_pick l δ).1 [] [some (.inr (.inr (some o))), some (.inl a1), some (.inl a2)] s) := (mk_eq (hy := by decide) rfl).trans (nrfl rfl)
theorem dX0_answer_0 : decode cX0_answer 0 = .ok (.aload_n 0, 1) := by decide +kernel
theorem dX0_answer_1 : decode cX0_answer 1 = .ok (.getfield 108, 3) := by decide +kernel
theorem dX0_answer_4 : decode cX0_answer 4 = .ok (.iconst 2, 1) := by decide +kernel
theorem dX0_answer_5 : decode cX0_answer 5 = .ok (.if_icmp .eq 6, 3) := by decide +kernel
theorem dX0_answer_8 : decode cX0_answer 8 = .ok (.bipush (-3), 2) := by decide +kernel
theorem dX0_answer_10 : decode cX0_answer 10 = .ok (.ireturn, 1) := by decide +kernel
theorem dX0_answer_11 : decode cX0_answer 11 = .ok (.aload_n 0, 1) := by decide +kernel
theorem dX0_answer_12 : decode cX0_answer 12 = .ok (.getfield 101, 3) := by decide +kernel
theorem dX0_answer_15 : decode cX0_answer 15 = .ok (.getfield 111, 3) := by decide +kernel
theorem dX0_answer_18 : decode cX0_answer 18 = .ok (.iconst 1, 1) := by decide +kernel
theorem dX0_answer_19 : decode cX0_answer 19 = .ok (.aload_n 0, 1) := by decide +kernel
theorem dX0_answer_20 : decode cX0_answer 20 = .ok (.getfield 114, 3) := by decide +kernel
theorem dX0_answer_23 : decode cX0_answer 23 = .ok (.isub, 1) := by decide +kernel
theorem dX0_answer_24 : decode cX0_answer 24 = .ok (.aaload, 1) := by decide +kernel
theorem dX0_answer_25 : decode cX0_answer 25 = .ok (.iload_n 1, 1) := by decide +kernel
theorem dX0_answer_26 : decode cX0_answer 26 = .ok (.invokevirtual 43, 3) := by decide +kernel
theorem dX0_answer_29 : decode cX0_answer 29 = .ok (.ifCond .ne 6, 3) := by decide +kernel
theorem dX0_answer_32 : decode cX0_answer 32 = .ok (.bipush (-2), 2) := by decide +kernel
theorem dX0_answer_34 : decode cX0_answer 34 = .ok (.ireturn, 1) := by decide +kernel
theorem dX0_answer_35 : decode cX0_answer 35 = .ok (.aload_n 0, 1) := by decide +kernel
theorem dX0_answer_36 : decode cX0_answer 36 = .ok (.getfield 101, 3) := by decide +kernel
theorem dX0_answer_39 : decode cX0_answer 39 = .ok (.aload_n 0, 1) := by decide +kernel
theorem dX0_answer_40 : decode cX0_answer 40 = .ok (.getfield 114, 3) := by decide +kernel
theorem dX0_answer_43 : decode cX0_answer 43 = .ok (.aload_n 0, 1) := by decide +kernel
theorem dX0_answer_44 : decode cX0_answer 44 = .ok (.getfield 117, 3) := by decide +kernel
theorem dX0_answer_47 : decode cX0_answer 47 = .ok (.iload_n 1, 1) := by decide +kernel
theorem dX0_answer_48 : decode cX0_answer 48 = .ok (.invokevirtual 120, 3) := by decide +kernel
theorem dX0_answer_51 : decode cX0_answer 51 = .ok (.aload_n 0, 1) := by decide +kernel
theorem dX0_answer_52 : decode cX0_answer 52 = .ok (.dup, 1) := by decide +kernel
theorem dX0_answer_53 : decode cX0_answer 53 = .ok (.getfield 105, 3) := by decide +kernel
theorem dX0_answer_56 : decode cX0_answer 56 = .ok (.iconst 1, 1) := by decide +kernel
theorem dX0_answer_57 : decode cX0_answer 57 = .ok (.isub, 1) := by decide +kernel
theorem dX0_answer_58 : decode cX0_answer 58 = .ok (.putfield 105, 3) := by decide +kernel
theorem dX0_answer_61 : decode cX0_answer 61 = .ok (.aload_n 0, 1) := by decide +kernel
theorem dX0_answer_62 : decode cX0_answer 62 = .ok (.aload_n 0, 1) := by decide +kernel
theorem dX0_answer_63 : decode cX0_answer 63 = .ok (.getfield 101, 3) := by decide +kernel
theorem dX0_answer_66 : decode cX0_answer 66 = .ok (.invokevirtual 124, 3) := by decide +kernel
theorem dX0_answer_69 : decode cX0_answer 69 = .ok (.ifCond .ne 7, 3) := by decide +kernel
theorem dX0_answer_72 : decode cX0_answer 72 = .ok (.iconst 4, 1) := by decide +kernel
theorem dX0_answer_73 : decode cX0_answer 73 = .ok (.goto 15, 3) := by decide +kernel
theorem dX0_answer_76 : decode cX0_answer 76 = .ok (.aload_n 0, 1) := by decide +kernel
theorem dX0_answer_77 : decode cX0_answer 77 = .ok (.getfield 105, 3) := by decide +kernel
theorem dX0_answer_80 : decode cX0_answer 80 = .ok (.ifCond .ne 7, 3) := by decide +kernel
theorem dX0_answer_83 : decode cX0_answer 83 = .ok (.iconst 3, 1) := by decide +kernel
theorem dX0_answer_84 : decode cX0_answer 84 = .ok (.goto 4, 3) := by decide +kernel
theorem dX0_answer_87 : decode cX0_answer 87 = .ok (.iconst 1, 1) := by decide +kernel
theorem dX0_answer_88 : decode cX0_answer 88 = .ok (.putfield 108, 3) := by decide +kernel
theorem dX0_answer_91 : decode cX0_answer 91 = .ok (.iconst 1, 1) := by decide +kernel
theorem dX0_answer_92 : decode cX0_answer 92 = .ok (.ireturn, 1) := by decide +kernel
noncomputable def B_X0_answer (l : Launch) (δ : Dl) : Seg (l, δ, yX0_answer, 3, (some .int), cX0_answer, 2) 0 93 :=
  seq (p := 0) (q := 1) (r := 93) (p_aload_n 0 dX0_answer_0) (seq (p := 1) (q := 4) (r := 93) (p_get [(0, 3)] (alL1 fl_X0_108_0) dX0_answer_1) (seq (p := 4) (q := 5) (r := 93) (p_iconst 2 dX0_answer_4) (seq (p := 5) (q := 11) (r := 93) (blk (seq (p := 5) (q := 8) (r := 11) (p_icmp_eq 11 dX0_answer_5 (by decide)) (seq (p := 8) (q := 10) (r := 11) (p_bipush (-3) dX0_answer_8 (by decide)) (seq (p := 10) (q := 11) (r := 11) (p_ireturn dX0_answer_10 rfl) done)))) (seq (p := 11) (q := 12) (r := 93) (p_aload_n 0 dX0_answer_11) (seq (p := 12) (q := 15) (r := 93) (p_get [(0, 1)] (alL1 fl_X0_101_0) dX0_answer_12) (seq (p := 15) (q := 18) (r := 93) (p_get [(3, 0)] (alL1 fl_X0_111_3) dX0_answer_15) (seq (p := 18) (q := 19) (r := 93) (p_iconst 1 dX0_answer_18) (seq (p := 19) (q := 20) (r := 93) (p_aload_n 0 dX0_answer_19) (seq (p := 20) (q := 23) (r := 93) (p_get [(0, 4)] (alL1 fl_X0_114_0) dX0_answer_20) (seq (p := 23) (q := 24) (r := 93) (p_isub dX0_answer_23) (seq (p := 24) (q := 25) (r := 93) (p_aald dX0_answer_24) (seq (p := 25) (q := 26) (r := 93) (p_iload_n 1 dX0_answer_25) (seq (p := 26) (q := 29) (r := 93) (p_callG 2 _ (ok_V 2 cv_X0_43 rfl (M_X2_isThing l δ) (Nat.le_of_ble_eq_true rfl) dX0_answer_26) (Nat.le_of_ble_eq_true rfl)) (seq (p := 29) (q := 35) (r := 93) (blk (seq (p := 29) (q := 32) (r := 35) (p_if_ne 35 dX0_answer_29 (by decide)) (seq (p := 32) (q := 34) (r := 35) (p_bipush (-2) dX0_answer_32 (by decide)) (seq (p := 34) (q := 35) (r := 35) (p_ireturn dX0_answer_34 rfl) done)))) (seq (p := 35) (q := 36) (r := 93) (p_aload_n 0 dX0_answer_35) (seq (p := 36) (q := 39) (r := 93) (p_get [(0, 1)] (alL1 fl_X0_101_0) dX0_answer_36) (seq (p := 39) (q := 40) (r := 93) (p_aload_n 0 dX0_answer_39) (seq (p := 40) (q := 43) (r := 93) (p_get [(0, 4)] (alL1 fl_X0_114_0) dX0_answer_40) (seq (p := 43) (q := 44) (r := 93) (p_aload_n 0 dX0_answer_43) (seq (p := 44) (q := 47) (r := 93) (p_get [(0, 5)] (alL1 fl_X0_117_0) dX0_answer_44) (seq (p := 47) (q := 48) (r := 93) (p_iload_n 1 dX0_answer_47) (seq (p := 48) (q := 51) (r := 93) (p_callG 4 _ (ok_V 3 cv_X0_120 rfl (M_X3_push l δ) (Nat.le_of_ble_eq_true rfl) dX0_answer_48) (Nat.le_of_ble_eq_true rfl)) (seq (p := 51) (q := 52) (r := 93) (p_aload_n 0 dX0_answer_51) (seq (p := 52) (q := 53) (r := 93) (p_dup dX0_answer_52) (seq (p := 53) (q := 56) (r := 93) (p_get [(0, 2)] (alL1 fl_X0_105_0) dX0_answer_53) (seq (p := 56) (q := 57) (r := 93) (p_iconst 1 dX0_answer_56) (seq (p := 57) (q := 58) (r := 93) (p_isub dX0_answer_57) (seq (p := 58) (q := 61) (r := 93) (p_put [(0, 2)] .int (alP1 fp_X0_105_0) dX0_answer_58) (seq (p := 61) (q := 62) (r := 93) (p_aload_n 0 dX0_answer_61) (seq (p := 62) (q := 63) (r := 93) (p_aload_n 0 dX0_answer_62) (seq (p := 63) (q := 66) (r := 93) (p_get [(0, 1)] (alL1 fl_X0_101_0) dX0_answer_63) (seq (p := 66) (q := 69) (r := 93) (p_callG 1 _ (ok_V 3 cv_X0_124 rfl (M_X3_isLastAlike l δ) (Nat.le_of_ble_eq_true rfl) dX0_answer_66) (Nat.le_of_ble_eq_true rfl)) (seq (p := 69) (q := 88) (r := 93) (blk (seq (p := 69) (q := 76) (r := 88) (blk (seq (p := 69) (q := 72) (r := 76) (p_if_ne 76 dX0_answer_69 (by decide)) (seq (p := 72) (q := 73) (r := 76) (p_iconst 4 dX0_answer_72) (seq (p := 73) (q := 76) (r := 76) (p_goto 88 dX0_answer_73 (by decide)) done)))) (seq (p := 76) (q := 77) (r := 88) (p_aload_n 0 dX0_answer_76) (seq (p := 77) (q := 80) (r := 88) (p_get [(0, 2)] (alL1 fl_X0_105_0) dX0_answer_77) (seq (p := 80) (q := 87) (r := 88) (blk (seq (p := 80) (q := 83) (r := 87) (p_if_ne 87 dX0_answer_80 (by decide)) (seq (p := 83) (q := 84) (r := 87) (p_iconst 3 dX0_answer_83) (seq (p := 84) (q := 87) (r := 87) (p_goto 88 dX0_answer_84 (by decide)) done)))) (seq (p := 87) (q := 88) (r := 88) (p_iconst 1 dX0_answer_87) done)))))) (seq (p := 88) (q := 91) (r := 93) (p_put [(0, 3)] .int (alP1 fp_X0_108_0) dX0_answer_88) (seq (p := 91) (q := 92) (r := 93) (p_iconst 1 dX0_answer_91) (seq (p := 92) (q := 93) (r := 93) (p_ireturn dX0_answer_92 rfl) done))))))))))))))))))))))))))))))))))))
noncomputable def M_X0_answer (l : Launch) (δ : Dl) : Mth l δ yX0_answer cX0_answer 2 (some .int) 3 := mk (B_X0_answer l δ) (by decide)
theorem N_X0_answer {l : Launch} {δ : Dl} {o : Nat} {a1 : Int} {s : St} : (M_X0_answer l δ).1 [.inr (.inr (some o)), .inl a1] s = bres ((B_X0_answer l δ).1 [] [some (.inr (.inr (some o))), some (.inl a1)] s) := (mk_eq (hy := by decide) rfl).trans (nrfl rfl)
theorem dX0_best_0 : decode cX0_best 0 = .ok (.aload_n 0, 1) := by decide +kernel
theorem dX0_best_1 : decode cX0_best 1 = .ok (.getfield 108, 3) := by decide +kernel
theorem dX0_best_4 : decode cX0_best 4 = .ok (.iconst 1, 1) := by decide +kernel
theorem dX0_best_5 : decode cX0_best 5 = .ok (.if_icmp .ne 79, 3) := by decide +kernel
theorem dX0_best_8 : decode cX0_best 8 = .ok (.iconst 0, 1) := by decide +kernel
theorem dX0_best_9 : decode cX0_best 9 = .ok (.istore_n 1, 1) := by decide +kernel
theorem dX0_best_10 : decode cX0_best 10 = .ok (.iload_n 1, 1) := by decide +kernel
theorem dX0_best_11 : decode cX0_best 11 = .ok (.aload_n 0, 1) := by decide +kernel
theorem dX0_best_12 : decode cX0_best 12 = .ok (.getfield 101, 3) := by decide +kernel
theorem dX0_best_15 : decode cX0_best 15 = .ok (.getfield 111, 3) := by decide +kernel
theorem dX0_best_18 : decode cX0_best 18 = .ok (.iconst 0, 1) := by decide +kernel
theorem dX0_best_19 : decode cX0_best 19 = .ok (.aaload, 1) := by decide +kernel
theorem dX0_best_20 : decode cX0_best 20 = .ok (.getfield 64, 3) := by decide +kernel
theorem dX0_best_23 : decode cX0_best 23 = .ok (.aload_n 0, 1) := by decide +kernel
theorem dX0_best_24 : decode cX0_best 24 = .ok (.getfield 101, 3) := by decide +kernel
theorem dX0_best_27 : decode cX0_best 27 = .ok (.getfield 111, 3) := by decide +kernel
theorem dX0_best_30 : decode cX0_best 30 = .ok (.iconst 1, 1) := by decide +kernel
theorem dX0_best_31 : decode cX0_best 31 = .ok (.aaload, 1) := by decide +kernel
theorem dX0_best_32 : decode cX0_best 32 = .ok (.getfield 64, 3) := by decide +kernel
theorem dX0_best_35 : decode cX0_best 35 = .ok (.iadd, 1) := by decide +kernel
theorem dX0_best_36 : decode cX0_best 36 = .ok (.if_icmp .ge 45, 3) := by decide +kernel
theorem dX0_best_39 : decode cX0_best 39 = .ok (.aload_n 0, 1) := by decide +kernel
theorem dX0_best_40 : decode cX0_best 40 = .ok (.getfield 101, 3) := by decide +kernel
theorem dX0_best_43 : decode cX0_best 43 = .ok (.iload_n 1, 1) := by decide +kernel
theorem dX0_best_44 : decode cX0_best 44 = .ok (.aload_n 0, 1) := by decide +kernel
theorem dX0_best_45 : decode cX0_best 45 = .ok (.getfield 105, 3) := by decide +kernel
theorem dX0_best_48 : decode cX0_best 48 = .ok (.invokevirtual 128, 3) := by decide +kernel
theorem dX0_best_51 : decode cX0_best 51 = .ok (.ifCond .eq 24, 3) := by decide +kernel
theorem dX0_best_54 : decode cX0_best 54 = .ok (.bipush 10, 2) := by decide +kernel
theorem dX0_best_56 : decode cX0_best 56 = .ok (.aload_n 0, 1) := by decide +kernel
theorem dX0_best_57 : decode cX0_best 57 = .ok (.getfield 101, 3) := by decide +kernel
theorem dX0_best_60 : decode cX0_best 60 = .ok (.iload_n 1, 1) := by decide +kernel
theorem dX0_best_61 : decode cX0_best 61 = .ok (.invokevirtual 131, 3) := by decide +kernel
theorem dX0_best_64 : decode cX0_best 64 = .ok (.imul, 1) := by decide +kernel
theorem dX0_best_65 : decode cX0_best 65 = .ok (.aload_n 0, 1) := by decide +kernel
theorem dX0_best_66 : decode cX0_best 66 = .ok (.getfield 101, 3) := by decide +kernel
theorem dX0_best_69 : decode cX0_best 69 = .ok (.iload_n 1, 1) := by decide +kernel
theorem dX0_best_70 : decode cX0_best 70 = .ok (.invokevirtual 135, 3) := by decide +kernel
theorem dX0_best_73 : decode cX0_best 73 = .ok (.iadd, 1) := by decide +kernel
theorem dX0_best_74 : decode cX0_best 74 = .ok (.ireturn, 1) := by decide +kernel
theorem dX0_best_75 : decode cX0_best 75 = .ok (.iinc 1 1, 3) := by decide +kernel
theorem dX0_best_78 : decode cX0_best 78 = .ok (.goto (-68), 3) := by decide +kernel
theorem dX0_best_81 : decode cX0_best 81 = .ok (.bipush (-9), 2) := by decide +kernel
theorem dX0_best_83 : decode cX0_best 83 = .ok (.ireturn, 1) := by decide +kernel
theorem dX0_best_84 : decode cX0_best 84 = .ok (.aload_n 0, 1) := by decide +kernel
theorem dX0_best_85 : decode cX0_best 85 = .ok (.getfield 108, 3) := by decide +kernel
theorem dX0_best_88 : decode cX0_best 88 = .ok (.iconst 2, 1) := by decide +kernel
theorem dX0_best_89 : decode cX0_best 89 = .ok (.if_icmp .eq 6, 3) := by decide +kernel
theorem dX0_best_92 : decode cX0_best 92 = .ok (.bipush (-3), 2) := by decide +kernel
theorem dX0_best_94 : decode cX0_best 94 = .ok (.ireturn, 1) := by decide +kernel
theorem dX0_best_95 : decode cX0_best 95 = .ok (.iconst 0, 1) := by decide +kernel
theorem dX0_best_96 : decode cX0_best 96 = .ok (.istore_n 1, 1) := by decide +kernel
theorem dX0_best_97 : decode cX0_best 97 = .ok (.iload_n 1, 1) := by decide +kernel
theorem dX0_best_98 : decode cX0_best 98 = .ok (.aload_n 0, 1) := by decide +kernel
theorem dX0_best_99 : decode cX0_best 99 = .ok (.getfield 101, 3) := by decide +kernel
theorem dX0_best_102 : decode cX0_best 102 = .ok (.getfield 111, 3) := by decide +kernel
theorem dX0_best_105 : decode cX0_best 105 = .ok (.iconst 1, 1) := by decide +kernel
theorem dX0_best_106 : decode cX0_best 106 = .ok (.aload_n 0, 1) := by decide +kernel
theorem dX0_best_107 : decode cX0_best 107 = .ok (.getfield 114, 3) := by decide +kernel
theorem dX0_best_110 : decode cX0_best 110 = .ok (.isub, 1) := by decide +kernel
theorem dX0_best_111 : decode cX0_best 111 = .ok (.aaload, 1) := by decide +kernel
theorem dX0_best_112 : decode cX0_best 112 = .ok (.getfield 64, 3) := by decide +kernel
theorem dX0_best_115 : decode cX0_best 115 = .ok (.if_icmp .ge 34, 3) := by decide +kernel
theorem dX0_best_118 : decode cX0_best 118 = .ok (.aload_n 0, 1) := by decide +kernel
theorem dX0_best_119 : decode cX0_best 119 = .ok (.getfield 101, 3) := by decide +kernel
theorem dX0_best_122 : decode cX0_best 122 = .ok (.aload_n 0, 1) := by decide +kernel
theorem dX0_best_123 : decode cX0_best 123 = .ok (.getfield 114, 3) := by decide +kernel
theorem dX0_best_126 : decode cX0_best 126 = .ok (.aload_n 0, 1) := by decide +kernel
theorem dX0_best_127 : decode cX0_best 127 = .ok (.getfield 117, 3) := by decide +kernel
theorem dX0_best_130 : decode cX0_best 130 = .ok (.iload_n 1, 1) := by decide +kernel
theorem dX0_best_131 : decode cX0_best 131 = .ok (.aload_n 0, 1) := by decide +kernel
theorem dX0_best_132 : decode cX0_best 132 = .ok (.getfield 105, 3) := by decide +kernel
theorem dX0_best_135 : decode cX0_best 135 = .ok (.invokevirtual 138, 3) := by decide +kernel
theorem dX0_best_138 : decode cX0_best 138 = .ok (.ifCond .eq 5, 3) := by decide +kernel
theorem dX0_best_141 : decode cX0_best 141 = .ok (.iload_n 1, 1) := by decide +kernel
theorem dX0_best_142 : decode cX0_best 142 = .ok (.ireturn, 1) := by decide +kernel
theorem dX0_best_143 : decode cX0_best 143 = .ok (.iinc 1 1, 3) := by decide +kernel
theorem dX0_best_146 : decode cX0_best 146 = .ok (.goto (-49), 3) := by decide +kernel
theorem dX0_best_149 : decode cX0_best 149 = .ok (.bipush (-9), 2) := by decide +kernel
theorem dX0_best_151 : decode cX0_best 151 = .ok (.ireturn, 1) := by decide +kernel
noncomputable def C_X0_best_L10 (l : Launch) (δ : Dl) : Seg (l, δ, yX0_best, 16, (some .int), cX0_best, 2) 10 81 :=
  seq (p := 10) (q := 11) (r := 81) (p_iload_n 1 dX0_best_10) (seq (p := 11) (q := 12) (r := 81) (p_aload_n 0 dX0_best_11) (seq (p := 12) (q := 15) (r := 81) (p_get [(0, 1)] (alL1 fl_X0_101_0) dX0_best_12) (seq (p := 15) (q := 18) (r := 81) (p_get [(3, 0)] (alL1 fl_X0_111_3) dX0_best_15) (seq (p := 18) (q := 19) (r := 81) (p_iconst 0 dX0_best_18) (seq (p := 19) (q := 20) (r := 81) (p_aald dX0_best_19) (seq (p := 20) (q := 23) (r := 81) (p_get [(2, 0)] (alL1 fl_X0_64_2) dX0_best_20) (seq (p := 23) (q := 24) (r := 81) (p_aload_n 0 dX0_best_23) (seq (p := 24) (q := 27) (r := 81) (p_get [(0, 1)] (alL1 fl_X0_101_0) dX0_best_24) (seq (p := 27) (q := 30) (r := 81) (p_get [(3, 0)] (alL1 fl_X0_111_3) dX0_best_27) (seq (p := 30) (q := 31) (r := 81) (p_iconst 1 dX0_best_30) (seq (p := 31) (q := 32) (r := 81) (p_aald dX0_best_31) (seq (p := 32) (q := 35) (r := 81) (p_get [(2, 0)] (alL1 fl_X0_64_2) dX0_best_32) (seq (p := 35) (q := 36) (r := 81) (p_iadd dX0_best_35) (seq (p := 36) (q := 39) (r := 81) (p_icmp_ge 81 dX0_best_36 (by decide)) (seq (p := 39) (q := 40) (r := 81) (p_aload_n 0 dX0_best_39) (seq (p := 40) (q := 43) (r := 81) (p_get [(0, 1)] (alL1 fl_X0_101_0) dX0_best_40) (seq (p := 43) (q := 44) (r := 81) (p_iload_n 1 dX0_best_43) (seq (p := 44) (q := 45) (r := 81) (p_aload_n 0 dX0_best_44) (seq (p := 45) (q := 48) (r := 81) (p_get [(0, 2)] (alL1 fl_X0_105_0) dX0_best_45) (seq (p := 48) (q := 51) (r := 81) (p_callG 3 _ (ok_V 3 cv_X0_128 rfl ((R_kept l δ 12).2.1) (Nat.le_of_ble_eq_true rfl) dX0_best_48) (Nat.le_of_ble_eq_true rfl)) (seq (p := 51) (q := 75) (r := 81) (blk (seq (p := 51) (q := 54) (r := 75) (p_if_eq 75 dX0_best_51 (by decide)) (seq (p := 54) (q := 56) (r := 75) (p_bipush 10 dX0_best_54 (by decide)) (seq (p := 56) (q := 57) (r := 75) (p_aload_n 0 dX0_best_56) (seq (p := 57) (q := 60) (r := 75) (p_get [(0, 1)] (alL1 fl_X0_101_0) dX0_best_57) (seq (p := 60) (q := 61) (r := 75) (p_iload_n 1 dX0_best_60) (seq (p := 61) (q := 64) (r := 75) (p_callG 2 _ (ok_V 3 cv_X0_131 rfl (M_X3_sideOf l δ) (Nat.le_of_ble_eq_true rfl) dX0_best_61) (Nat.le_of_ble_eq_true rfl)) (seq (p := 64) (q := 65) (r := 75) (p_imul dX0_best_64) (seq (p := 65) (q := 66) (r := 75) (p_aload_n 0 dX0_best_65) (seq (p := 66) (q := 69) (r := 75) (p_get [(0, 1)] (alL1 fl_X0_101_0) dX0_best_66) (seq (p := 69) (q := 70) (r := 75) (p_iload_n 1 dX0_best_69) (seq (p := 70) (q := 73) (r := 75) (p_callG 2 _ (ok_V 3 cv_X0_135 rfl (M_X3_thingOf l δ) (Nat.le_of_ble_eq_true rfl) dX0_best_70) (Nat.le_of_ble_eq_true rfl)) (seq (p := 73) (q := 74) (r := 75) (p_iadd dX0_best_73) (seq (p := 74) (q := 75) (r := 75) (p_ireturn dX0_best_74 rfl) done)))))))))))))) (seq (p := 75) (q := 78) (r := 81) (p_iinc 1 1 dX0_best_75 (Nat.le_of_ble_eq_true rfl)) (seq (p := 78) (q := 78) (r := 81) (er [true, true]) (seq (p := 78) (q := 81) (r := 81) (p_goto 10 dX0_best_78 (by decide)) done))))))))))))))))))))))))
noncomputable def B_X0_best_L10 (l : Launch) (δ : Dl) : Seg (l, δ, yX0_best, 16, (some .int), cX0_best, 2) 10 81 := C_X0_best_L10 l δ
theorem L_X0_best_10 {l : Launch} {δ : Dl} {st : Stk} {L : Lc} {s : St} : (B_X0_best_L10 l δ).1 st L s = (C_X0_best_L10 l δ).1 st L s := nrfl rfl
noncomputable def C_X0_best_L97 (l : Launch) (δ : Dl) : Seg (l, δ, yX0_best, 16, (some .int), cX0_best, 2) 97 149 :=
  seq (p := 97) (q := 98) (r := 149) (p_iload_n 1 dX0_best_97) (seq (p := 98) (q := 99) (r := 149) (p_aload_n 0 dX0_best_98) (seq (p := 99) (q := 102) (r := 149) (p_get [(0, 1)] (alL1 fl_X0_101_0) dX0_best_99) (seq (p := 102) (q := 105) (r := 149) (p_get [(3, 0)] (alL1 fl_X0_111_3) dX0_best_102) (seq (p := 105) (q := 106) (r := 149) (p_iconst 1 dX0_best_105) (seq (p := 106) (q := 107) (r := 149) (p_aload_n 0 dX0_best_106) (seq (p := 107) (q := 110) (r := 149) (p_get [(0, 4)] (alL1 fl_X0_114_0) dX0_best_107) (seq (p := 110) (q := 111) (r := 149) (p_isub dX0_best_110) (seq (p := 111) (q := 112) (r := 149) (p_aald dX0_best_111) (seq (p := 112) (q := 115) (r := 149) (p_get [(2, 0)] (alL1 fl_X0_64_2) dX0_best_112) (seq (p := 115) (q := 118) (r := 149) (p_icmp_ge 149 dX0_best_115 (by decide)) (seq (p := 118) (q := 119) (r := 149) (p_aload_n 0 dX0_best_118) (seq (p := 119) (q := 122) (r := 149) (p_get [(0, 1)] (alL1 fl_X0_101_0) dX0_best_119) (seq (p := 122) (q := 123) (r := 149) (p_aload_n 0 dX0_best_122) (seq (p := 123) (q := 126) (r := 149) (p_get [(0, 4)] (alL1 fl_X0_114_0) dX0_best_123) (seq (p := 126) (q := 127) (r := 149) (p_aload_n 0 dX0_best_126) (seq (p := 127) (q := 130) (r := 149) (p_get [(0, 5)] (alL1 fl_X0_117_0) dX0_best_127) (seq (p := 130) (q := 131) (r := 149) (p_iload_n 1 dX0_best_130) (seq (p := 131) (q := 132) (r := 149) (p_aload_n 0 dX0_best_131) (seq (p := 132) (q := 135) (r := 149) (p_get [(0, 2)] (alL1 fl_X0_105_0) dX0_best_132) (seq (p := 135) (q := 138) (r := 149) (p_callG 5 _ (ok_V 3 cv_X0_138 rfl ((R_kept l δ 12).2.2) (Nat.le_of_ble_eq_true rfl) dX0_best_135) (Nat.le_of_ble_eq_true rfl)) (seq (p := 138) (q := 143) (r := 149) (blk (seq (p := 138) (q := 141) (r := 143) (p_if_eq 143 dX0_best_138 (by decide)) (seq (p := 141) (q := 142) (r := 143) (p_iload_n 1 dX0_best_141) (seq (p := 142) (q := 143) (r := 143) (p_ireturn dX0_best_142 rfl) done)))) (seq (p := 143) (q := 146) (r := 149) (p_iinc 1 1 dX0_best_143 (Nat.le_of_ble_eq_true rfl)) (seq (p := 146) (q := 146) (r := 149) (er [true, true]) (seq (p := 146) (q := 149) (r := 149) (p_goto 97 dX0_best_146 (by decide)) done))))))))))))))))))))))))
noncomputable def B_X0_best_L97 (l : Launch) (δ : Dl) : Seg (l, δ, yX0_best, 16, (some .int), cX0_best, 2) 97 149 := C_X0_best_L97 l δ
theorem L_X0_best_97 {l : Launch} {δ : Dl} {st : Stk} {L : Lc} {s : St} : (B_X0_best_L97 l δ).1 st L s = (C_X0_best_L97 l δ).1 st L s := nrfl rfl
noncomputable def B_X0_best (l : Launch) (δ : Dl) : Seg (l, δ, yX0_best, 16, (some .int), cX0_best, 2) 0 152 :=
  seq (p := 0) (q := 1) (r := 152) (p_aload_n 0 dX0_best_0) (seq (p := 1) (q := 4) (r := 152) (p_get [(0, 3)] (alL1 fl_X0_108_0) dX0_best_1) (seq (p := 4) (q := 5) (r := 152) (p_iconst 1 dX0_best_4) (seq (p := 5) (q := 84) (r := 152) (blk (seq (p := 5) (q := 8) (r := 84) (p_icmp_ne 84 dX0_best_5 (by decide)) (seq (p := 8) (q := 9) (r := 84) (p_iconst 0 dX0_best_8) (seq (p := 9) (q := 10) (r := 84) (p_istore_n 1 dX0_best_9 (Nat.le_of_ble_eq_true rfl)) (seq (p := 10) (q := 81) (r := 84) (blk (seq (p := 10) (q := 10) (r := 81) (er [true, true]) (seq (p := 10) (q := 81) (r := 81) (lp (B_X0_best_L10 l δ)) done))) (seq (p := 81) (q := 83) (r := 84) (p_bipush (-9) dX0_best_81 (by decide)) (seq (p := 83) (q := 84) (r := 84) (p_ireturn dX0_best_83 rfl) done))))))) (seq (p := 84) (q := 85) (r := 152) (p_aload_n 0 dX0_best_84) (seq (p := 85) (q := 88) (r := 152) (p_get [(0, 3)] (alL1 fl_X0_108_0) dX0_best_85) (seq (p := 88) (q := 89) (r := 152) (p_iconst 2 dX0_best_88) (seq (p := 89) (q := 95) (r := 152) (blk (seq (p := 89) (q := 92) (r := 95) (p_icmp_eq 95 dX0_best_89 (by decide)) (seq (p := 92) (q := 94) (r := 95) (p_bipush (-3) dX0_best_92 (by decide)) (seq (p := 94) (q := 95) (r := 95) (p_ireturn dX0_best_94 rfl) done)))) (seq (p := 95) (q := 96) (r := 152) (p_iconst 0 dX0_best_95) (seq (p := 96) (q := 97) (r := 152) (p_istore_n 1 dX0_best_96 (Nat.le_of_ble_eq_true rfl)) (seq (p := 97) (q := 149) (r := 152) (blk (seq (p := 97) (q := 97) (r := 149) (er [true, true]) (seq (p := 97) (q := 149) (r := 149) (lp (B_X0_best_L97 l δ)) done))) (seq (p := 149) (q := 151) (r := 152) (p_bipush (-9) dX0_best_149 (by decide)) (seq (p := 151) (q := 152) (r := 152) (p_ireturn dX0_best_151 rfl) done))))))))))))
noncomputable def M_X0_best (l : Launch) (δ : Dl) : Mth l δ yX0_best cX0_best 2 (some .int) 16 := mk (B_X0_best l δ) (by decide)
theorem N_X0_best {l : Launch} {δ : Dl} {o : Nat} {s : St} : (M_X0_best l δ).1 [.inr (.inr (some o))] s = bres ((B_X0_best l δ).1 [] [some (.inr (.inr (some o))), none] s) := (mk_eq (hy := by decide) rfl).trans (nrfl rfl)
theorem dX0_state_0 : decode cX0_state 0 = .ok (.aload_n 0, 1) := by decide +kernel
theorem dX0_state_1 : decode cX0_state 1 = .ok (.getfield 108, 3) := by decide +kernel
theorem dX0_state_4 : decode cX0_state 4 = .ok (.ireturn, 1) := by decide +kernel
noncomputable def B_X0_state (l : Launch) (δ : Dl) : Seg (l, δ, yX0_state, 0, (some .int), cX0_state, 1) 0 5 :=
  seq (p := 0) (q := 1) (r := 5) (p_aload_n 0 dX0_state_0) (seq (p := 1) (q := 4) (r := 5) (p_get [(0, 3)] (alL1 fl_X0_108_0) dX0_state_1) (seq (p := 4) (q := 5) (r := 5) (p_ireturn dX0_state_4 rfl) done))
noncomputable def M_X0_state (l : Launch) (δ : Dl) : Mth l δ yX0_state cX0_state 1 (some .int) 0 := mk (B_X0_state l δ) (by decide)
theorem N_X0_state {l : Launch} {δ : Dl} {o : Nat} {s : St} : (M_X0_state l δ).1 [.inr (.inr (some o))] s = bres ((B_X0_state l δ).1 [] [some (.inr (.inr (some o)))] s) := (mk_eq (hy := by decide) rfl).trans (nrfl rfl)
theorem dX0_left_0 : decode cX0_left 0 = .ok (.aload_n 0, 1) := by decide +kernel
theorem dX0_left_1 : decode cX0_left 1 = .ok (.getfield 101, 3) := by decide +kernel
theorem dX0_left_4 : decode cX0_left 4 = .ok (.ifnonnull 8, 3) := by decide +kernel
theorem dX0_left_7 : decode cX0_left 7 = .ok (.bipush (-3), 2) := by decide +kernel
theorem dX0_left_9 : decode cX0_left 9 = .ok (.goto 7, 3) := by decide +kernel
theorem dX0_left_12 : decode cX0_left 12 = .ok (.aload_n 0, 1) := by decide +kernel
theorem dX0_left_13 : decode cX0_left 13 = .ok (.getfield 105, 3) := by decide +kernel
theorem dX0_left_16 : decode cX0_left 16 = .ok (.ireturn, 1) := by decide +kernel
noncomputable def B_X0_left (l : Launch) (δ : Dl) : Seg (l, δ, yX0_left, 0, (some .int), cX0_left, 1) 0 17 :=
  seq (p := 0) (q := 1) (r := 17) (p_aload_n 0 dX0_left_0) (seq (p := 1) (q := 4) (r := 17) (p_get [(0, 1)] (alL1 fl_X0_101_0) dX0_left_1) (seq (p := 4) (q := 16) (r := 17) (blk (seq (p := 4) (q := 12) (r := 16) (blk (seq (p := 4) (q := 7) (r := 12) (p_ifnonnull 12 dX0_left_4 (by decide)) (seq (p := 7) (q := 9) (r := 12) (p_bipush (-3) dX0_left_7 (by decide)) (seq (p := 9) (q := 12) (r := 12) (p_goto 16 dX0_left_9 (by decide)) done)))) (seq (p := 12) (q := 13) (r := 16) (p_aload_n 0 dX0_left_12) (seq (p := 13) (q := 16) (r := 16) (p_get [(0, 2)] (alL1 fl_X0_105_0) dX0_left_13) done)))) (seq (p := 16) (q := 17) (r := 17) (p_ireturn dX0_left_16 rfl) done)))
noncomputable def M_X0_left (l : Launch) (δ : Dl) : Mth l δ yX0_left cX0_left 1 (some .int) 0 := mk (B_X0_left l δ) (by decide)
theorem N_X0_left {l : Launch} {δ : Dl} {o : Nat} {s : St} : (M_X0_left l δ).1 [.inr (.inr (some o))] s = bres ((B_X0_left l δ).1 [] [some (.inr (.inr (some o)))] s) := (mk_eq (hy := by decide) rfl).trans (nrfl rfl)
theorem dX0_feed_0 : decode cX0_feed 0 = .ok (.aload_n 0, 1) := by decide +kernel
theorem dX0_feed_1 : decode cX0_feed 1 = .ok (.getfield 178, 3) := by decide +kernel
theorem dX0_feed_4 : decode cX0_feed 4 = .ok (.bipush 20, 2) := by decide +kernel
theorem dX0_feed_6 : decode cX0_feed 6 = .ok (.iadd, 1) := by decide +kernel
theorem dX0_feed_7 : decode cX0_feed 7 = .ok (.sipush 800, 3) := by decide +kernel
theorem dX0_feed_10 : decode cX0_feed 10 = .ok (.if_icmp .le 6, 3) := by decide +kernel
theorem dX0_feed_13 : decode cX0_feed 13 = .ok (.bipush (-4), 2) := by decide +kernel
theorem dX0_feed_15 : decode cX0_feed 15 = .ok (.ireturn, 1) := by decide +kernel
theorem dX0_feed_16 : decode cX0_feed 16 = .ok (.iconst 0, 1) := by decide +kernel
theorem dX0_feed_17 : decode cX0_feed 17 = .ok (.istore 6, 2) := by decide +kernel
theorem dX0_feed_19 : decode cX0_feed 19 = .ok (.iload 6, 2) := by decide +kernel
theorem dX0_feed_21 : decode cX0_feed 21 = .ok (.bipush 20, 2) := by decide +kernel
theorem dX0_feed_23 : decode cX0_feed 23 = .ok (.if_icmp .ge 90, 3) := by decide +kernel
theorem dX0_feed_26 : decode cX0_feed 26 = .ok (.iload 6, 2) := by decide +kernel
theorem dX0_feed_28 : decode cX0_feed 28 = .ok (.iconst 4, 1) := by decide +kernel
theorem dX0_feed_29 : decode cX0_feed 29 = .ok (.if_icmp .ge 7, 3) := by decide +kernel
theorem dX0_feed_32 : decode cX0_feed 32 = .ok (.iload_n 1, 1) := by decide +kernel
theorem dX0_feed_33 : decode cX0_feed 33 = .ok (.goto 39, 3) := by decide +kernel
theorem dX0_feed_36 : decode cX0_feed 36 = .ok (.iload 6, 2) := by decide +kernel
theorem dX0_feed_38 : decode cX0_feed 38 = .ok (.bipush 8, 2) := by decide +kernel
theorem dX0_feed_40 : decode cX0_feed 40 = .ok (.if_icmp .ge 7, 3) := by decide +kernel
theorem dX0_feed_43 : decode cX0_feed 43 = .ok (.iload_n 2, 1) := by decide +kernel
theorem dX0_feed_44 : decode cX0_feed 44 = .ok (.goto 28, 3) := by decide +kernel
theorem dX0_feed_47 : decode cX0_feed 47 = .ok (.iload 6, 2) := by decide +kernel
theorem dX0_feed_49 : decode cX0_feed 49 = .ok (.bipush 12, 2) := by decide +kernel
theorem dX0_feed_51 : decode cX0_feed 51 = .ok (.if_icmp .ge 7, 3) := by decide +kernel
theorem dX0_feed_54 : decode cX0_feed 54 = .ok (.iload_n 3, 1) := by decide +kernel
theorem dX0_feed_55 : decode cX0_feed 55 = .ok (.goto 17, 3) := by decide +kernel
theorem dX0_feed_58 : decode cX0_feed 58 = .ok (.iload 6, 2) := by decide +kernel
theorem dX0_feed_60 : decode cX0_feed 60 = .ok (.bipush 16, 2) := by decide +kernel
theorem dX0_feed_62 : decode cX0_feed 62 = .ok (.if_icmp .ge 8, 3) := by decide +kernel
theorem dX0_feed_65 : decode cX0_feed 65 = .ok (.iload 4, 2) := by decide +kernel
theorem dX0_feed_67 : decode cX0_feed 67 = .ok (.goto 5, 3) := by decide +kernel
theorem dX0_feed_70 : decode cX0_feed 70 = .ok (.iload 5, 2) := by decide +kernel
theorem dX0_feed_72 : decode cX0_feed 72 = .ok (.istore 7, 2) := by decide +kernel
theorem dX0_feed_74 : decode cX0_feed 74 = .ok (.aload_n 0, 1) := by decide +kernel
theorem dX0_feed_75 : decode cX0_feed 75 = .ok (.getfield 15, 3) := by decide +kernel
theorem dX0_feed_78 : decode cX0_feed 78 = .ok (.aload_n 0, 1) := by decide +kernel
theorem dX0_feed_79 : decode cX0_feed 79 = .ok (.getfield 178, 3) := by decide +kernel
theorem dX0_feed_82 : decode cX0_feed 82 = .ok (.iload 7, 2) := by decide +kernel
theorem dX0_feed_84 : decode cX0_feed 84 = .ok (.bipush 24, 2) := by decide +kernel
theorem dX0_feed_86 : decode cX0_feed 86 = .ok (.bipush 8, 2) := by decide +kernel
theorem dX0_feed_88 : decode cX0_feed 88 = .ok (.iload 6, 2) := by decide +kernel
theorem dX0_feed_90 : decode cX0_feed 90 = .ok (.iconst 4, 1) := by decide +kernel
theorem dX0_feed_91 : decode cX0_feed 91 = .ok (.irem, 1) := by decide +kernel
theorem dX0_feed_92 : decode cX0_feed 92 = .ok (.imul, 1) := by decide +kernel
theorem dX0_feed_93 : decode cX0_feed 93 = .ok (.isub, 1) := by decide +kernel
theorem dX0_feed_94 : decode cX0_feed 94 = .ok (.ishr, 1) := by decide +kernel
theorem dX0_feed_95 : decode cX0_feed 95 = .ok (.i2b, 1) := by decide +kernel
theorem dX0_feed_96 : decode cX0_feed 96 = .ok (.bastore, 1) := by decide +kernel
theorem dX0_feed_97 : decode cX0_feed 97 = .ok (.aload_n 0, 1) := by decide +kernel
theorem dX0_feed_98 : decode cX0_feed 98 = .ok (.dup, 1) := by decide +kernel
theorem dX0_feed_99 : decode cX0_feed 99 = .ok (.getfield 178, 3) := by decide +kernel
theorem dX0_feed_102 : decode cX0_feed 102 = .ok (.iconst 1, 1) := by decide +kernel
theorem dX0_feed_103 : decode cX0_feed 103 = .ok (.iadd, 1) := by decide +kernel
theorem dX0_feed_104 : decode cX0_feed 104 = .ok (.putfield 178, 3) := by decide +kernel
theorem dX0_feed_107 : decode cX0_feed 107 = .ok (.iinc 6 1, 3) := by decide +kernel
theorem dX0_feed_110 : decode cX0_feed 110 = .ok (.goto (-91), 3) := by decide +kernel
theorem dX0_feed_113 : decode cX0_feed 113 = .ok (.aload_n 0, 1) := by decide +kernel
theorem dX0_feed_114 : decode cX0_feed 114 = .ok (.getfield 178, 3) := by decide +kernel
theorem dX0_feed_117 : decode cX0_feed 117 = .ok (.ireturn, 1) := by decide +kernel
noncomputable def C_X0_feed_L19 (l : Launch) (δ : Dl) : Seg (l, δ, yX0_feed, 0, (some .int), cX0_feed, 8) 19 113 :=
  seq (p := 19) (q := 21) (r := 113) (p_iload 6 dX0_feed_19) (seq (p := 21) (q := 23) (r := 113) (p_bipush 20 dX0_feed_21 (by decide)) (seq (p := 23) (q := 26) (r := 113) (p_icmp_ge 113 dX0_feed_23 (by decide)) (seq (p := 26) (q := 28) (r := 113) (p_iload 6 dX0_feed_26) (seq (p := 28) (q := 29) (r := 113) (p_iconst 4 dX0_feed_28) (seq (p := 29) (q := 72) (r := 113) (blk (seq (p := 29) (q := 36) (r := 72) (blk (seq (p := 29) (q := 32) (r := 36) (p_icmp_ge 36 dX0_feed_29 (by decide)) (seq (p := 32) (q := 33) (r := 36) (p_iload_n 1 dX0_feed_32) (seq (p := 33) (q := 36) (r := 36) (p_goto 72 dX0_feed_33 (by decide)) done)))) (seq (p := 36) (q := 38) (r := 72) (p_iload 6 dX0_feed_36) (seq (p := 38) (q := 40) (r := 72) (p_bipush 8 dX0_feed_38 (by decide)) (seq (p := 40) (q := 47) (r := 72) (blk (seq (p := 40) (q := 43) (r := 47) (p_icmp_ge 47 dX0_feed_40 (by decide)) (seq (p := 43) (q := 44) (r := 47) (p_iload_n 2 dX0_feed_43) (seq (p := 44) (q := 47) (r := 47) (p_goto 72 dX0_feed_44 (by decide)) done)))) (seq (p := 47) (q := 49) (r := 72) (p_iload 6 dX0_feed_47) (seq (p := 49) (q := 51) (r := 72) (p_bipush 12 dX0_feed_49 (by decide)) (seq (p := 51) (q := 58) (r := 72) (blk (seq (p := 51) (q := 54) (r := 58) (p_icmp_ge 58 dX0_feed_51 (by decide)) (seq (p := 54) (q := 55) (r := 58) (p_iload_n 3 dX0_feed_54) (seq (p := 55) (q := 58) (r := 58) (p_goto 72 dX0_feed_55 (by decide)) done)))) (seq (p := 58) (q := 60) (r := 72) (p_iload 6 dX0_feed_58) (seq (p := 60) (q := 62) (r := 72) (p_bipush 16 dX0_feed_60 (by decide)) (seq (p := 62) (q := 70) (r := 72) (blk (seq (p := 62) (q := 65) (r := 70) (p_icmp_ge 70 dX0_feed_62 (by decide)) (seq (p := 65) (q := 67) (r := 70) (p_iload 4 dX0_feed_65) (seq (p := 67) (q := 70) (r := 70) (p_goto 72 dX0_feed_67 (by decide)) done)))) (seq (p := 70) (q := 72) (r := 72) (p_iload 5 dX0_feed_70) done)))))))))))) (seq (p := 72) (q := 74) (r := 113) (p_istore 7 dX0_feed_72 (Nat.le_of_ble_eq_true rfl)) (seq (p := 74) (q := 75) (r := 113) (p_aload_n 0 dX0_feed_74) (seq (p := 75) (q := 78) (r := 113) (p_get [(0, 6)] (alL1 fl_X0_15_0) dX0_feed_75) (seq (p := 78) (q := 79) (r := 113) (p_aload_n 0 dX0_feed_78) (seq (p := 79) (q := 82) (r := 113) (p_get [(0, 7)] (alL1 fl_X0_178_0) dX0_feed_79) (seq (p := 82) (q := 84) (r := 113) (p_iload 7 dX0_feed_82) (seq (p := 84) (q := 86) (r := 113) (p_bipush 24 dX0_feed_84 (by decide)) (seq (p := 86) (q := 88) (r := 113) (p_bipush 8 dX0_feed_86 (by decide)) (seq (p := 88) (q := 90) (r := 113) (p_iload 6 dX0_feed_88) (seq (p := 90) (q := 91) (r := 113) (p_iconst 4 dX0_feed_90) (seq (p := 91) (q := 92) (r := 113) (p_irem dX0_feed_91) (seq (p := 92) (q := 93) (r := 113) (p_imul dX0_feed_92) (seq (p := 93) (q := 94) (r := 113) (p_isub dX0_feed_93) (seq (p := 94) (q := 95) (r := 113) (p_ishr dX0_feed_94) (seq (p := 95) (q := 96) (r := 113) (p_i2b dX0_feed_95) (seq (p := 96) (q := 97) (r := 113) (p_bast dX0_feed_96) (seq (p := 97) (q := 98) (r := 113) (p_aload_n 0 dX0_feed_97) (seq (p := 98) (q := 99) (r := 113) (p_dup dX0_feed_98) (seq (p := 99) (q := 102) (r := 113) (p_get [(0, 7)] (alL1 fl_X0_178_0) dX0_feed_99) (seq (p := 102) (q := 103) (r := 113) (p_iconst 1 dX0_feed_102) (seq (p := 103) (q := 104) (r := 113) (p_iadd dX0_feed_103) (seq (p := 104) (q := 107) (r := 113) (p_put [(0, 7)] .int (alP1 fp_X0_178_0) dX0_feed_104) (seq (p := 107) (q := 110) (r := 113) (p_iinc 6 1 dX0_feed_107 (Nat.le_of_ble_eq_true rfl)) (seq (p := 110) (q := 110) (r := 113) (er [true, true, true, true, true, true, true, false]) (seq (p := 110) (q := 113) (r := 113) (p_goto 19 dX0_feed_110 (by decide)) done))))))))))))))))))))))))))))))
noncomputable def B_X0_feed_L19 (l : Launch) (δ : Dl) : Seg (l, δ, yX0_feed, 0, (some .int), cX0_feed, 8) 19 113 := C_X0_feed_L19 l δ
theorem L_X0_feed_19 {l : Launch} {δ : Dl} {st : Stk} {L : Lc} {s : St} : (B_X0_feed_L19 l δ).1 st L s = (C_X0_feed_L19 l δ).1 st L s := nrfl rfl
noncomputable def B_X0_feed (l : Launch) (δ : Dl) : Seg (l, δ, yX0_feed, 0, (some .int), cX0_feed, 8) 0 118 :=
  seq (p := 0) (q := 1) (r := 118) (p_aload_n 0 dX0_feed_0) (seq (p := 1) (q := 4) (r := 118) (p_get [(0, 7)] (alL1 fl_X0_178_0) dX0_feed_1) (seq (p := 4) (q := 6) (r := 118) (p_bipush 20 dX0_feed_4 (by decide)) (seq (p := 6) (q := 7) (r := 118) (p_iadd dX0_feed_6) (seq (p := 7) (q := 10) (r := 118) (p_sipush 800 dX0_feed_7 (by decide)) (seq (p := 10) (q := 16) (r := 118) (blk (seq (p := 10) (q := 13) (r := 16) (p_icmp_le 16 dX0_feed_10 (by decide)) (seq (p := 13) (q := 15) (r := 16) (p_bipush (-4) dX0_feed_13 (by decide)) (seq (p := 15) (q := 16) (r := 16) (p_ireturn dX0_feed_15 rfl) done)))) (seq (p := 16) (q := 17) (r := 118) (p_iconst 0 dX0_feed_16) (seq (p := 17) (q := 19) (r := 118) (p_istore 6 dX0_feed_17 (Nat.le_of_ble_eq_true rfl)) (seq (p := 19) (q := 113) (r := 118) (blk (seq (p := 19) (q := 19) (r := 113) (er [true, true, true, true, true, true, true, false]) (seq (p := 19) (q := 113) (r := 113) (lp (B_X0_feed_L19 l δ)) done))) (seq (p := 113) (q := 114) (r := 118) (p_aload_n 0 dX0_feed_113) (seq (p := 114) (q := 117) (r := 118) (p_get [(0, 7)] (alL1 fl_X0_178_0) dX0_feed_114) (seq (p := 117) (q := 118) (r := 118) (p_ireturn dX0_feed_117 rfl) done)))))))))))
noncomputable def M_X0_feed (l : Launch) (δ : Dl) : Mth l δ yX0_feed cX0_feed 8 (some .int) 0 := mk (B_X0_feed l δ) (by decide)
theorem N_X0_feed {l : Launch} {δ : Dl} {o : Nat} {a1 : Int} {a2 : Int} {a3 : Int} {a4 : Int} {a5 : Int} {s : St} : (M_X0_feed l δ).1 [.inr (.inr (some o)), .inl a1, .inl a2, .inl a3, .inl a4, .inl a5] s = bres ((B_X0_feed l δ).1 [] [some (.inr (.inr (some o))), some (.inl a1), some (.inl a2), some (.inl a3), some (.inl a4), some (.inl a5), none, none] s) := (mk_eq (hy := by decide) rfl).trans (nrfl rfl)
theorem dX0_trim_0 : decode cX0_trim 0 = .ok (.iload_n 1, 1) := by decide +kernel
theorem dX0_trim_1 : decode cX0_trim 1 = .ok (.i2l, 1) := by decide +kernel
theorem dX0_trim_2 : decode cX0_trim 2 = .ok (.lconst 0, 1) := by decide +kernel
theorem dX0_trim_3 : decode cX0_trim 3 = .ok (.aload_n 0, 1) := by decide +kernel
theorem dX0_trim_4 : decode cX0_trim 4 = .ok (.getfield 178, 3) := by decide +kernel
theorem dX0_trim_7 : decode cX0_trim 7 = .ok (.i2l, 1) := by decide +kernel
theorem dX0_trim_8 : decode cX0_trim 8 = .ok (.invokestatic 32, 3) := by decide +kernel
theorem dX0_trim_11 : decode cX0_trim 11 = .ok (.ifCond .ne 6, 3) := by decide +kernel
theorem dX0_trim_14 : decode cX0_trim 14 = .ok (.bipush (-2), 2) := by decide +kernel
theorem dX0_trim_16 : decode cX0_trim 16 = .ok (.ireturn, 1) := by decide +kernel
theorem dX0_trim_17 : decode cX0_trim 17 = .ok (.aload_n 0, 1) := by decide +kernel
theorem dX0_trim_18 : decode cX0_trim 18 = .ok (.iload_n 1, 1) := by decide +kernel
theorem dX0_trim_19 : decode cX0_trim 19 = .ok (.putfield 178, 3) := by decide +kernel
theorem dX0_trim_22 : decode cX0_trim 22 = .ok (.iload_n 1, 1) := by decide +kernel
theorem dX0_trim_23 : decode cX0_trim 23 = .ok (.ireturn, 1) := by decide +kernel
noncomputable def B_X0_trim (l : Launch) (δ : Dl) : Seg (l, δ, yX0_trim, 1, (some .int), cX0_trim, 2) 0 24 :=
  seq (p := 0) (q := 1) (r := 24) (p_iload_n 1 dX0_trim_0) (seq (p := 1) (q := 2) (r := 24) (p_i2l dX0_trim_1) (seq (p := 2) (q := 3) (r := 24) (p_lconst0 dX0_trim_2) (seq (p := 3) (q := 4) (r := 24) (p_aload_n 0 dX0_trim_3) (seq (p := 4) (q := 7) (r := 24) (p_get [(0, 7)] (alL1 fl_X0_178_0) dX0_trim_4) (seq (p := 7) (q := 8) (r := 24) (p_i2l dX0_trim_7) (seq (p := 8) (q := 11) (r := 24) (p_callG 3 _ (ok_S cs_X0_32 (M_X0_isIn l δ) (Nat.le_of_ble_eq_true rfl) dX0_trim_8) (Nat.le_of_ble_eq_true rfl)) (seq (p := 11) (q := 17) (r := 24) (blk (seq (p := 11) (q := 14) (r := 17) (p_if_ne 17 dX0_trim_11 (by decide)) (seq (p := 14) (q := 16) (r := 17) (p_bipush (-2) dX0_trim_14 (by decide)) (seq (p := 16) (q := 17) (r := 17) (p_ireturn dX0_trim_16 rfl) done)))) (seq (p := 17) (q := 18) (r := 24) (p_aload_n 0 dX0_trim_17) (seq (p := 18) (q := 19) (r := 24) (p_iload_n 1 dX0_trim_18) (seq (p := 19) (q := 22) (r := 24) (p_put [(0, 7)] .int (alP1 fp_X0_178_0) dX0_trim_19) (seq (p := 22) (q := 23) (r := 24) (p_iload_n 1 dX0_trim_22) (seq (p := 23) (q := 24) (r := 24) (p_ireturn dX0_trim_23 rfl) done))))))))))))
noncomputable def M_X0_trim (l : Launch) (δ : Dl) : Mth l δ yX0_trim cX0_trim 2 (some .int) 1 := mk (B_X0_trim l δ) (by decide)
theorem N_X0_trim {l : Launch} {δ : Dl} {o : Nat} {a1 : Int} {s : St} : (M_X0_trim l δ).1 [.inr (.inr (some o)), .inl a1] s = bres ((B_X0_trim l δ).1 [] [some (.inr (.inr (some o))), some (.inl a1)] s) := (mk_eq (hy := by decide) rfl).trans (nrfl rfl)
theorem dX0_comes_0 : decode cX0_comes 0 = .ok (.aload_n 1, 1) := by decide +kernel
theorem dX0_comes_1 : decode cX0_comes 1 = .ok (.invokevirtual 166, 3) := by decide +kernel
theorem dX0_comes_4 : decode cX0_comes 4 = .ok (.sipush 600, 3) := by decide +kernel
theorem dX0_comes_7 : decode cX0_comes 7 = .ok (.if_icmp .gt 17, 3) := by decide +kernel
theorem dX0_comes_10 : decode cX0_comes 10 = .ok (.aload_n 0, 1) := by decide +kernel
theorem dX0_comes_11 : decode cX0_comes 11 = .ok (.getfield 22, 3) := by decide +kernel
theorem dX0_comes_14 : decode cX0_comes 14 = .ok (.invokeinterface 161 1, 5) := by decide +kernel
theorem dX0_comes_19 : decode cX0_comes 19 = .ok (.bipush 20, 2) := by decide +kernel
theorem dX0_comes_21 : decode cX0_comes 21 = .ok (.if_icmp .ne 6, 3) := by decide +kernel
theorem dX0_comes_24 : decode cX0_comes 24 = .ok (.bipush (-4), 2) := by decide +kernel
theorem dX0_comes_26 : decode cX0_comes 26 = .ok (.ireturn, 1) := by decide +kernel
theorem dX0_comes_27 : decode cX0_comes 27 = .ok (.aload_n 0, 1) := by decide +kernel
theorem dX0_comes_28 : decode cX0_comes 28 = .ok (.getfield 22, 3) := by decide +kernel
theorem dX0_comes_31 : decode cX0_comes 31 = .ok (.new 169, 3) := by decide +kernel
theorem dX0_comes_34 : decode cX0_comes 34 = .ok (.dup, 1) := by decide +kernel
theorem dX0_comes_35 : decode cX0_comes 35 = .ok (.aload_n 1, 1) := by decide +kernel
theorem dX0_comes_36 : decode cX0_comes 36 = .ok (.invokespecial 171, 3) := by decide +kernel
theorem dX0_comes_39 : decode cX0_comes 39 = .ok (.invokeinterface 174 2, 5) := by decide +kernel
theorem dX0_comes_44 : decode cX0_comes 44 = .ok (.pop, 1) := by decide +kernel
theorem dX0_comes_45 : decode cX0_comes 45 = .ok (.aload_n 0, 1) := by decide +kernel
theorem dX0_comes_46 : decode cX0_comes 46 = .ok (.getfield 22, 3) := by decide +kernel
theorem dX0_comes_49 : decode cX0_comes 49 = .ok (.invokeinterface 161 1, 5) := by decide +kernel
theorem dX0_comes_54 : decode cX0_comes 54 = .ok (.iconst 1, 1) := by decide +kernel
theorem dX0_comes_55 : decode cX0_comes 55 = .ok (.isub, 1) := by decide +kernel
theorem dX0_comes_56 : decode cX0_comes 56 = .ok (.ireturn, 1) := by decide +kernel
noncomputable def B_X0_comes (l : Launch) (δ : Dl) : Seg (l, δ, yX0_comes, 86, (some .int), cX0_comes, 2) 0 57 :=
  seq (p := 0) (q := 1) (r := 57) (p_aload_n 1 dX0_comes_0) (seq (p := 1) (q := 4) (r := 57) (p_callG 1 _ (ok_alt (ok_U 8 cu_X0_166_8 rfl ((R_nod l δ 64).2.1) (Nat.le_of_ble_eq_true rfl) dX0_comes_1) (ok_alt (ok_U 7 cu_X0_166_7 rfl ((R_nod l δ 64).2.1) (Nat.le_of_ble_eq_true rfl) dX0_comes_1) (ok_alt (ok_U 9 cu_X0_166_9 rfl ((R_nod l δ 64).2.2) (Nat.le_of_ble_eq_true rfl) dX0_comes_1) (ok_U 5 cu_X0_166_5 rfl ((R_nod l δ 64).1) (Nat.le_of_ble_eq_true rfl) dX0_comes_1)))) (Nat.le_of_ble_eq_true rfl)) (seq (p := 4) (q := 7) (r := 57) (p_sipush 600 dX0_comes_4 (by decide)) (seq (p := 7) (q := 27) (r := 57) (blk (seq (p := 7) (q := 24) (r := 27) (blk (seq (p := 7) (q := 10) (r := 24) (p_icmp_gt 24 dX0_comes_7 (by decide)) (seq (p := 10) (q := 11) (r := 24) (p_aload_n 0 dX0_comes_10) (seq (p := 11) (q := 14) (r := 24) (p_get [(0, 8)] (alL1 fl_X0_22_0) dX0_comes_11) (seq (p := 14) (q := 19) (r := 24) (p_callG 1 _ (ok_F 16 cf_X0_161 rfl (M_J2_size l δ) (Nat.le_of_ble_eq_true rfl) dX0_comes_14) (Nat.le_of_ble_eq_true rfl)) (seq (p := 19) (q := 21) (r := 24) (p_bipush 20 dX0_comes_19 (by decide)) (seq (p := 21) (q := 24) (r := 24) (p_icmp_ne 27 dX0_comes_21 (by decide)) done))))))) (seq (p := 24) (q := 26) (r := 27) (p_bipush (-4) dX0_comes_24 (by decide)) (seq (p := 26) (q := 27) (r := 27) (p_ireturn dX0_comes_26 rfl) done)))) (seq (p := 27) (q := 28) (r := 57) (p_aload_n 0 dX0_comes_27) (seq (p := 28) (q := 31) (r := 57) (p_get [(0, 8)] (alL1 fl_X0_22_0) dX0_comes_28) (seq (p := 31) (q := 34) (r := 57) (p_new 10 ck10 tyX11 tyX11_ok f0_10 f0_10_ok (okc q716) (okc q717) (okc q109) dX0_comes_31) (seq (p := 34) (q := 35) (r := 57) (p_dup dX0_comes_34) (seq (p := 35) (q := 36) (r := 57) (p_aload_n 1 dX0_comes_35) (seq (p := 36) (q := 39) (r := 57) (p_callG 2 _ (ok_I ci_X0_171 (M_X11_init l δ) (Nat.le_of_ble_eq_true rfl) dX0_comes_36) (Nat.le_of_ble_eq_true rfl)) (seq (p := 39) (q := 44) (r := 57) (p_callG 2 _ (ok_F 16 cf_X0_174 rfl (M_J2_add l δ) (Nat.le_of_ble_eq_true rfl) dX0_comes_39) (Nat.le_of_ble_eq_true rfl)) (seq (p := 44) (q := 45) (r := 57) (p_pop dX0_comes_44) (seq (p := 45) (q := 46) (r := 57) (p_aload_n 0 dX0_comes_45) (seq (p := 46) (q := 49) (r := 57) (p_get [(0, 8)] (alL1 fl_X0_22_0) dX0_comes_46) (seq (p := 49) (q := 54) (r := 57) (p_callG 1 _ (ok_F 16 cf_X0_161 rfl (M_J2_size l δ) (Nat.le_of_ble_eq_true rfl) dX0_comes_49) (Nat.le_of_ble_eq_true rfl)) (seq (p := 54) (q := 55) (r := 57) (p_iconst 1 dX0_comes_54) (seq (p := 55) (q := 56) (r := 57) (p_isub dX0_comes_55) (seq (p := 56) (q := 57) (r := 57) (p_ireturn dX0_comes_56 rfl) done)))))))))))))))))
noncomputable def M_X0_comes (l : Launch) (δ : Dl) : Mth l δ yX0_comes cX0_comes 2 (some .int) 86 := mk (B_X0_comes l δ) (by decide)
theorem N_X0_comes {l : Launch} {δ : Dl} {o : Nat} {a1 : Option Nat} {s : St} : (M_X0_comes l δ).1 [.inr (.inr (some o)), .inr (.inr a1)] s = bres ((B_X0_comes l δ).1 [] [some (.inr (.inr (some o))), some (.inr (.inr a1))] s) := (mk_eq (hy := by decide) rfl).trans (nrfl rfl)
theorem dX0_isSentence_0 : decode cX0_isSentence 0 = .ok (.iload_n 1, 1) := by decide +kernel
theorem dX0_isSentence_1 : decode cX0_isSentence 1 = .ok (.i2l, 1) := by decide +kernel
theorem dX0_isSentence_2 : decode cX0_isSentence 2 = .ok (.lconst 0, 1) := by decide +kernel
theorem dX0_isSentence_3 : decode cX0_isSentence 3 = .ok (.aload_n 0, 1) := by decide +kernel
theorem dX0_isSentence_4 : decode cX0_isSentence 4 = .ok (.getfield 22, 3) := by decide +kernel
theorem dX0_isSentence_7 : decode cX0_isSentence 7 = .ok (.invokeinterface 161 1, 5) := by decide +kernel
theorem dX0_isSentence_12 : decode cX0_isSentence 12 = .ok (.i2l, 1) := by decide +kernel
theorem dX0_isSentence_13 : decode cX0_isSentence 13 = .ok (.lconst 1, 1) := by decide +kernel
theorem dX0_isSentence_14 : decode cX0_isSentence 14 = .ok (.lsub, 1) := by decide +kernel
theorem dX0_isSentence_15 : decode cX0_isSentence 15 = .ok (.invokestatic 32, 3) := by decide +kernel
theorem dX0_isSentence_18 : decode cX0_isSentence 18 = .ok (.ireturn, 1) := by decide +kernel
noncomputable def B_X0_isSentence (l : Launch) (δ : Dl) : Seg (l, δ, yX0_isSentence, 1, (some .boolean), cX0_isSentence, 2) 0 19 :=
  seq (p := 0) (q := 1) (r := 19) (p_iload_n 1 dX0_isSentence_0) (seq (p := 1) (q := 2) (r := 19) (p_i2l dX0_isSentence_1) (seq (p := 2) (q := 3) (r := 19) (p_lconst0 dX0_isSentence_2) (seq (p := 3) (q := 4) (r := 19) (p_aload_n 0 dX0_isSentence_3) (seq (p := 4) (q := 7) (r := 19) (p_get [(0, 8)] (alL1 fl_X0_22_0) dX0_isSentence_4) (seq (p := 7) (q := 12) (r := 19) (p_callG 1 _ (ok_F 16 cf_X0_161 rfl (M_J2_size l δ) (Nat.le_of_ble_eq_true rfl) dX0_isSentence_7) (Nat.le_of_ble_eq_true rfl)) (seq (p := 12) (q := 13) (r := 19) (p_i2l dX0_isSentence_12) (seq (p := 13) (q := 14) (r := 19) (p_lconst1 dX0_isSentence_13) (seq (p := 14) (q := 15) (r := 19) (p_lsub dX0_isSentence_14) (seq (p := 15) (q := 18) (r := 19) (p_callG 3 _ (ok_S cs_X0_32 (M_X0_isIn l δ) (Nat.le_of_ble_eq_true rfl) dX0_isSentence_15) (Nat.le_of_ble_eq_true rfl)) (seq (p := 18) (q := 19) (r := 19) (p_zreturn dX0_isSentence_18 rfl) done))))))))))
noncomputable def M_X0_isSentence (l : Launch) (δ : Dl) : Mth l δ yX0_isSentence cX0_isSentence 2 (some .boolean) 1 := mk (B_X0_isSentence l δ) (by decide)
theorem N_X0_isSentence {l : Launch} {δ : Dl} {o : Nat} {a1 : Int} {s : St} : (M_X0_isSentence l δ).1 [.inr (.inr (some o)), .inl a1] s = bres ((B_X0_isSentence l δ).1 [] [some (.inr (.inr (some o))), some (.inl a1)] s) := (mk_eq (hy := by decide) rfl).trans (nrfl rfl)
theorem dX0_sentence_0 : decode cX0_sentence 0 = .ok (.aload_n 0, 1) := by decide +kernel
theorem dX0_sentence_1 : decode cX0_sentence 1 = .ok (.iload_n 1, 1) := by decide +kernel
theorem dX0_sentence_2 : decode cX0_sentence 2 = .ok (.invokevirtual 199, 3) := by decide +kernel
theorem dX0_sentence_5 : decode cX0_sentence 5 = .ok (.ifCond .ne 5, 3) := by decide +kernel
theorem dX0_sentence_8 : decode cX0_sentence 8 = .ok (.iconst (-1), 1) := by decide +kernel
theorem dX0_sentence_9 : decode cX0_sentence 9 = .ok (.ireturn, 1) := by decide +kernel
theorem dX0_sentence_10 : decode cX0_sentence 10 = .ok (.aload_n 0, 1) := by decide +kernel
theorem dX0_sentence_11 : decode cX0_sentence 11 = .ok (.getfield 22, 3) := by decide +kernel
theorem dX0_sentence_14 : decode cX0_sentence 14 = .ok (.iload_n 1, 1) := by decide +kernel
theorem dX0_sentence_15 : decode cX0_sentence 15 = .ok (.invokeinterface 202 2, 5) := by decide +kernel
theorem dX0_sentence_20 : decode cX0_sentence 20 = .ok (.checkcast 169, 3) := by decide +kernel
theorem dX0_sentence_23 : decode cX0_sentence 23 = .ok (.astore_n 3, 1) := by decide +kernel
theorem dX0_sentence_24 : decode cX0_sentence 24 = .ok (.iload_n 2, 1) := by decide +kernel
theorem dX0_sentence_25 : decode cX0_sentence 25 = .ok (.ifCond .ne 10, 3) := by decide +kernel
theorem dX0_sentence_28 : decode cX0_sentence 28 = .ok (.aload_n 3, 1) := by decide +kernel
theorem dX0_sentence_29 : decode cX0_sentence 29 = .ok (.getfield 206, 3) := by decide +kernel
theorem dX0_sentence_32 : decode cX0_sentence 32 = .ok (.goto 30, 3) := by decide +kernel
theorem dX0_sentence_35 : decode cX0_sentence 35 = .ok (.iload_n 2, 1) := by decide +kernel
theorem dX0_sentence_36 : decode cX0_sentence 36 = .ok (.iconst 1, 1) := by decide +kernel
theorem dX0_sentence_37 : decode cX0_sentence 37 = .ok (.if_icmp .ne 10, 3) := by decide +kernel
theorem dX0_sentence_40 : decode cX0_sentence 40 = .ok (.aload_n 3, 1) := by decide +kernel
theorem dX0_sentence_41 : decode cX0_sentence 41 = .ok (.getfield 209, 3) := by decide +kernel
theorem dX0_sentence_44 : decode cX0_sentence 44 = .ok (.goto 18, 3) := by decide +kernel
theorem dX0_sentence_47 : decode cX0_sentence 47 = .ok (.iload_n 2, 1) := by decide +kernel
theorem dX0_sentence_48 : decode cX0_sentence 48 = .ok (.iconst 2, 1) := by decide +kernel
theorem dX0_sentence_49 : decode cX0_sentence 49 = .ok (.if_icmp .ne 11, 3) := by decide +kernel
theorem dX0_sentence_52 : decode cX0_sentence 52 = .ok (.aload_n 3, 1) := by decide +kernel
theorem dX0_sentence_53 : decode cX0_sentence 53 = .ok (.getfield 211, 3) := by decide +kernel
theorem dX0_sentence_56 : decode cX0_sentence 56 = .ok (.arraylength, 1) := by decide +kernel
theorem dX0_sentence_57 : decode cX0_sentence 57 = .ok (.goto 5, 3) := by decide +kernel
theorem dX0_sentence_60 : decode cX0_sentence 60 = .ok (.bipush (-2), 2) := by decide +kernel
theorem dX0_sentence_62 : decode cX0_sentence 62 = .ok (.ireturn, 1) := by decide +kernel
noncomputable def B_X0_sentence (l : Launch) (δ : Dl) : Seg (l, δ, yX0_sentence, 3, (some .int), cX0_sentence, 4) 0 63 :=
  seq (p := 0) (q := 1) (r := 63) (p_aload_n 0 dX0_sentence_0) (seq (p := 1) (q := 2) (r := 63) (p_iload_n 1 dX0_sentence_1) (seq (p := 2) (q := 5) (r := 63) (p_callG 2 _ (ok_V 0 cv_X0_199 rfl (M_X0_isSentence l δ) (Nat.le_of_ble_eq_true rfl) dX0_sentence_2) (Nat.le_of_ble_eq_true rfl)) (seq (p := 5) (q := 10) (r := 63) (blk (seq (p := 5) (q := 8) (r := 10) (p_if_ne 10 dX0_sentence_5 (by decide)) (seq (p := 8) (q := 9) (r := 10) (p_iconst (-1) dX0_sentence_8) (seq (p := 9) (q := 10) (r := 10) (p_ireturn dX0_sentence_9 rfl) done)))) (seq (p := 10) (q := 11) (r := 63) (p_aload_n 0 dX0_sentence_10) (seq (p := 11) (q := 14) (r := 63) (p_get [(0, 8)] (alL1 fl_X0_22_0) dX0_sentence_11) (seq (p := 14) (q := 15) (r := 63) (p_iload_n 1 dX0_sentence_14) (seq (p := 15) (q := 20) (r := 63) (p_callG 2 _ (ok_F 16 cf_X0_202 rfl (M_J2_get l δ) (Nat.le_of_ble_eq_true rfl) dX0_sentence_15) (Nat.le_of_ble_eq_true rfl)) (seq (p := 20) (q := 23) (r := 63) (p_cast [10] ky_X0_169 dX0_sentence_20) (seq (p := 23) (q := 24) (r := 63) (p_astore_n 3 dX0_sentence_23 (Nat.le_of_ble_eq_true rfl)) (seq (p := 24) (q := 25) (r := 63) (p_iload_n 2 dX0_sentence_24) (seq (p := 25) (q := 62) (r := 63) (blk (seq (p := 25) (q := 35) (r := 62) (blk (seq (p := 25) (q := 28) (r := 35) (p_if_ne 35 dX0_sentence_25 (by decide)) (seq (p := 28) (q := 29) (r := 35) (p_aload_n 3 dX0_sentence_28) (seq (p := 29) (q := 32) (r := 35) (p_get [(10, 1)] (alL1 fl_X0_206_10) dX0_sentence_29) (seq (p := 32) (q := 35) (r := 35) (p_goto 62 dX0_sentence_32 (by decide)) done))))) (seq (p := 35) (q := 36) (r := 62) (p_iload_n 2 dX0_sentence_35) (seq (p := 36) (q := 37) (r := 62) (p_iconst 1 dX0_sentence_36) (seq (p := 37) (q := 47) (r := 62) (blk (seq (p := 37) (q := 40) (r := 47) (p_icmp_ne 47 dX0_sentence_37 (by decide)) (seq (p := 40) (q := 41) (r := 47) (p_aload_n 3 dX0_sentence_40) (seq (p := 41) (q := 44) (r := 47) (p_get [(10, 2)] (alL1 fl_X0_209_10) dX0_sentence_41) (seq (p := 44) (q := 47) (r := 47) (p_goto 62 dX0_sentence_44 (by decide)) done))))) (seq (p := 47) (q := 48) (r := 62) (p_iload_n 2 dX0_sentence_47) (seq (p := 48) (q := 49) (r := 62) (p_iconst 2 dX0_sentence_48) (seq (p := 49) (q := 60) (r := 62) (blk (seq (p := 49) (q := 52) (r := 60) (p_icmp_ne 60 dX0_sentence_49 (by decide)) (seq (p := 52) (q := 53) (r := 60) (p_aload_n 3 dX0_sentence_52) (seq (p := 53) (q := 56) (r := 60) (p_get [(10, 3)] (alL1 fl_X0_211_10) dX0_sentence_53) (seq (p := 56) (q := 57) (r := 60) (p_alen dX0_sentence_56) (seq (p := 57) (q := 60) (r := 60) (p_goto 62 dX0_sentence_57 (by decide)) done)))))) (seq (p := 60) (q := 62) (r := 62) (p_bipush (-2) dX0_sentence_60 (by decide)) done))))))))) (seq (p := 62) (q := 63) (r := 63) (p_ireturn dX0_sentence_62 rfl) done))))))))))))
noncomputable def M_X0_sentence (l : Launch) (δ : Dl) : Mth l δ yX0_sentence cX0_sentence 4 (some .int) 3 := mk (B_X0_sentence l δ) (by decide)
theorem N_X0_sentence {l : Launch} {δ : Dl} {o : Nat} {a1 : Int} {a2 : Int} {s : St} : (M_X0_sentence l δ).1 [.inr (.inr (some o)), .inl a1, .inl a2] s = bres ((B_X0_sentence l δ).1 [] [some (.inr (.inr (some o))), some (.inl a1), some (.inl a2), none] s) := (mk_eq (hy := by decide) rfl).trans (nrfl rfl)
theorem dX0_written_0 : decode cX0_written 0 = .ok (.aload_n 0, 1) := by decide +kernel
theorem dX0_written_1 : decode cX0_written 1 = .ok (.iload_n 1, 1) := by decide +kernel
theorem dX0_written_2 : decode cX0_written 2 = .ok (.invokevirtual 199, 3) := by decide +kernel
theorem dX0_written_5 : decode cX0_written 5 = .ok (.ifCond .eq 53, 3) := by decide +kernel
theorem dX0_written_8 : decode cX0_written 8 = .ok (.iload_n 2, 1) := by decide +kernel
theorem dX0_written_9 : decode cX0_written 9 = .ok (.i2l, 1) := by decide +kernel
theorem dX0_written_10 : decode cX0_written 10 = .ok (.lconst 0, 1) := by decide +kernel
theorem dX0_written_11 : decode cX0_written 11 = .ok (.aload_n 0, 1) := by decide +kernel
theorem dX0_written_12 : decode cX0_written 12 = .ok (.getfield 22, 3) := by decide +kernel
theorem dX0_written_15 : decode cX0_written 15 = .ok (.iload_n 1, 1) := by decide +kernel
theorem dX0_written_16 : decode cX0_written 16 = .ok (.invokeinterface 202 2, 5) := by decide +kernel
theorem dX0_written_21 : decode cX0_written 21 = .ok (.checkcast 169, 3) := by decide +kernel
theorem dX0_written_24 : decode cX0_written 24 = .ok (.getfield 211, 3) := by decide +kernel
theorem dX0_written_27 : decode cX0_written 27 = .ok (.arraylength, 1) := by decide +kernel
theorem dX0_written_28 : decode cX0_written 28 = .ok (.i2l, 1) := by decide +kernel
theorem dX0_written_29 : decode cX0_written 29 = .ok (.lconst 1, 1) := by decide +kernel
theorem dX0_written_30 : decode cX0_written 30 = .ok (.lsub, 1) := by decide +kernel
theorem dX0_written_31 : decode cX0_written 31 = .ok (.invokestatic 32, 3) := by decide +kernel
theorem dX0_written_34 : decode cX0_written 34 = .ok (.ifCond .eq 24, 3) := by decide +kernel
theorem dX0_written_37 : decode cX0_written 37 = .ok (.aload_n 0, 1) := by decide +kernel
theorem dX0_written_38 : decode cX0_written 38 = .ok (.getfield 22, 3) := by decide +kernel
theorem dX0_written_41 : decode cX0_written 41 = .ok (.iload_n 1, 1) := by decide +kernel
theorem dX0_written_42 : decode cX0_written 42 = .ok (.invokeinterface 202 2, 5) := by decide +kernel
theorem dX0_written_47 : decode cX0_written 47 = .ok (.checkcast 169, 3) := by decide +kernel
theorem dX0_written_50 : decode cX0_written 50 = .ok (.getfield 211, 3) := by decide +kernel
theorem dX0_written_53 : decode cX0_written 53 = .ok (.iload_n 2, 1) := by decide +kernel
theorem dX0_written_54 : decode cX0_written 54 = .ok (.baload, 1) := by decide +kernel
theorem dX0_written_55 : decode cX0_written 55 = .ok (.goto 4, 3) := by decide +kernel
theorem dX0_written_58 : decode cX0_written 58 = .ok (.iconst (-1), 1) := by decide +kernel
theorem dX0_written_59 : decode cX0_written 59 = .ok (.ireturn, 1) := by decide +kernel
noncomputable def B_X0_written (l : Launch) (δ : Dl) : Seg (l, δ, yX0_written, 3, (some .int), cX0_written, 3) 0 60 :=
  seq (p := 0) (q := 1) (r := 60) (p_aload_n 0 dX0_written_0) (seq (p := 1) (q := 2) (r := 60) (p_iload_n 1 dX0_written_1) (seq (p := 2) (q := 5) (r := 60) (p_callG 2 _ (ok_V 0 cv_X0_199 rfl (M_X0_isSentence l δ) (Nat.le_of_ble_eq_true rfl) dX0_written_2) (Nat.le_of_ble_eq_true rfl)) (seq (p := 5) (q := 59) (r := 60) (blk (seq (p := 5) (q := 58) (r := 59) (blk (seq (p := 5) (q := 8) (r := 58) (p_if_eq 58 dX0_written_5 (by decide)) (seq (p := 8) (q := 9) (r := 58) (p_iload_n 2 dX0_written_8) (seq (p := 9) (q := 10) (r := 58) (p_i2l dX0_written_9) (seq (p := 10) (q := 11) (r := 58) (p_lconst0 dX0_written_10) (seq (p := 11) (q := 12) (r := 58) (p_aload_n 0 dX0_written_11) (seq (p := 12) (q := 15) (r := 58) (p_get [(0, 8)] (alL1 fl_X0_22_0) dX0_written_12) (seq (p := 15) (q := 16) (r := 58) (p_iload_n 1 dX0_written_15) (seq (p := 16) (q := 21) (r := 58) (p_callG 2 _ (ok_F 16 cf_X0_202 rfl (M_J2_get l δ) (Nat.le_of_ble_eq_true rfl) dX0_written_16) (Nat.le_of_ble_eq_true rfl)) (seq (p := 21) (q := 24) (r := 58) (p_cast [10] ky_X0_169 dX0_written_21) (seq (p := 24) (q := 27) (r := 58) (p_get [(10, 3)] (alL1 fl_X0_211_10) dX0_written_24) (seq (p := 27) (q := 28) (r := 58) (p_alen dX0_written_27) (seq (p := 28) (q := 29) (r := 58) (p_i2l dX0_written_28) (seq (p := 29) (q := 30) (r := 58) (p_lconst1 dX0_written_29) (seq (p := 30) (q := 31) (r := 58) (p_lsub dX0_written_30) (seq (p := 31) (q := 34) (r := 58) (p_callG 3 _ (ok_S cs_X0_32 (M_X0_isIn l δ) (Nat.le_of_ble_eq_true rfl) dX0_written_31) (Nat.le_of_ble_eq_true rfl)) (seq (p := 34) (q := 37) (r := 58) (p_if_eq 58 dX0_written_34 (by decide)) (seq (p := 37) (q := 38) (r := 58) (p_aload_n 0 dX0_written_37) (seq (p := 38) (q := 41) (r := 58) (p_get [(0, 8)] (alL1 fl_X0_22_0) dX0_written_38) (seq (p := 41) (q := 42) (r := 58) (p_iload_n 1 dX0_written_41) (seq (p := 42) (q := 47) (r := 58) (p_callG 2 _ (ok_F 16 cf_X0_202 rfl (M_J2_get l δ) (Nat.le_of_ble_eq_true rfl) dX0_written_42) (Nat.le_of_ble_eq_true rfl)) (seq (p := 47) (q := 50) (r := 58) (p_cast [10] ky_X0_169 dX0_written_47) (seq (p := 50) (q := 53) (r := 58) (p_get [(10, 3)] (alL1 fl_X0_211_10) dX0_written_50) (seq (p := 53) (q := 54) (r := 58) (p_iload_n 2 dX0_written_53) (seq (p := 54) (q := 55) (r := 58) (p_bald dX0_written_54) (seq (p := 55) (q := 58) (r := 58) (p_goto 59 dX0_written_55 (by decide)) done)))))))))))))))))))))))))) (seq (p := 58) (q := 59) (r := 59) (p_iconst (-1) dX0_written_58) done))) (seq (p := 59) (q := 60) (r := 60) (p_ireturn dX0_written_59 rfl) done))))
noncomputable def M_X0_written (l : Launch) (δ : Dl) : Mth l δ yX0_written cX0_written 3 (some .int) 3 := mk (B_X0_written l δ) (by decide)
theorem N_X0_written {l : Launch} {δ : Dl} {o : Nat} {a1 : Int} {a2 : Int} {s : St} : (M_X0_written l δ).1 [.inr (.inr (some o)), .inl a1, .inl a2] s = bres ((B_X0_written l δ).1 [] [some (.inr (.inr (some o))), some (.inl a1), some (.inl a2)] s) := (mk_eq (hy := by decide) rfl).trans (nrfl rfl)
theorem dX0_asked_0 : decode cX0_asked 0 = .ok (.aload_n 0, 1) := by decide +kernel
theorem dX0_asked_1 : decode cX0_asked 1 = .ok (.getfield 230, 3) := by decide +kernel
theorem dX0_asked_4 : decode cX0_asked 4 = .ok (.ireturn, 1) := by decide +kernel
noncomputable def B_X0_asked (l : Launch) (δ : Dl) : Seg (l, δ, yX0_asked, 0, (some .int), cX0_asked, 1) 0 5 :=
  seq (p := 0) (q := 1) (r := 5) (p_aload_n 0 dX0_asked_0) (seq (p := 1) (q := 4) (r := 5) (p_get [(0, 9)] (alL1 fl_X0_230_0) dX0_asked_1) (seq (p := 4) (q := 5) (r := 5) (p_ireturn dX0_asked_4 rfl) done))
noncomputable def M_X0_asked (l : Launch) (δ : Dl) : Mth l δ yX0_asked cX0_asked 1 (some .int) 0 := mk (B_X0_asked l δ) (by decide)
theorem N_X0_asked {l : Launch} {δ : Dl} {o : Nat} {s : St} : (M_X0_asked l δ).1 [.inr (.inr (some o))] s = bres ((B_X0_asked l δ).1 [] [some (.inr (.inr (some o)))] s) := (mk_eq (hy := by decide) rfl).trans (nrfl rfl)
theorem dX0_same_0 : decode cX0_same 0 = .ok (.aload_n 0, 1) := by decide +kernel
theorem dX0_same_1 : decode cX0_same 1 = .ok (.iload_n 1, 1) := by decide +kernel
theorem dX0_same_2 : decode cX0_same 2 = .ok (.invokevirtual 199, 3) := by decide +kernel
theorem dX0_same_5 : decode cX0_same 5 = .ok (.ifCond .eq 11, 3) := by decide +kernel
theorem dX0_same_8 : decode cX0_same 8 = .ok (.aload_n 0, 1) := by decide +kernel
theorem dX0_same_9 : decode cX0_same 9 = .ok (.iload_n 2, 1) := by decide +kernel
theorem dX0_same_10 : decode cX0_same 10 = .ok (.invokevirtual 199, 3) := by decide +kernel
theorem dX0_same_13 : decode cX0_same 13 = .ok (.ifCond .ne 7, 3) := by decide +kernel
theorem dX0_same_16 : decode cX0_same 16 = .ok (.iconst (-1), 1) := by decide +kernel
theorem dX0_same_17 : decode cX0_same 17 = .ok (.goto 40, 3) := by decide +kernel
theorem dX0_same_20 : decode cX0_same 20 = .ok (.aload_n 0, 1) := by decide +kernel
theorem dX0_same_21 : decode cX0_same 21 = .ok (.getfield 22, 3) := by decide +kernel
theorem dX0_same_24 : decode cX0_same 24 = .ok (.iload_n 1, 1) := by decide +kernel
theorem dX0_same_25 : decode cX0_same 25 = .ok (.invokeinterface 202 2, 5) := by decide +kernel
theorem dX0_same_30 : decode cX0_same 30 = .ok (.checkcast 169, 3) := by decide +kernel
theorem dX0_same_33 : decode cX0_same 33 = .ok (.aload_n 0, 1) := by decide +kernel
theorem dX0_same_34 : decode cX0_same 34 = .ok (.getfield 22, 3) := by decide +kernel
theorem dX0_same_37 : decode cX0_same 37 = .ok (.iload_n 2, 1) := by decide +kernel
theorem dX0_same_38 : decode cX0_same 38 = .ok (.invokeinterface 202 2, 5) := by decide +kernel
theorem dX0_same_43 : decode cX0_same 43 = .ok (.checkcast 169, 3) := by decide +kernel
theorem dX0_same_46 : decode cX0_same 46 = .ok (.invokevirtual 235, 3) := by decide +kernel
theorem dX0_same_49 : decode cX0_same 49 = .ok (.ifCond .eq 7, 3) := by decide +kernel
theorem dX0_same_52 : decode cX0_same 52 = .ok (.iconst 1, 1) := by decide +kernel
theorem dX0_same_53 : decode cX0_same 53 = .ok (.goto 4, 3) := by decide +kernel
theorem dX0_same_56 : decode cX0_same 56 = .ok (.iconst 0, 1) := by decide +kernel
theorem dX0_same_57 : decode cX0_same 57 = .ok (.ireturn, 1) := by decide +kernel
noncomputable def B_X0_same (l : Launch) (δ : Dl) : Seg (l, δ, yX0_same, 3, (some .int), cX0_same, 3) 0 58 :=
  seq (p := 0) (q := 1) (r := 58) (p_aload_n 0 dX0_same_0) (seq (p := 1) (q := 2) (r := 58) (p_iload_n 1 dX0_same_1) (seq (p := 2) (q := 5) (r := 58) (p_callG 2 _ (ok_V 0 cv_X0_199 rfl (M_X0_isSentence l δ) (Nat.le_of_ble_eq_true rfl) dX0_same_2) (Nat.le_of_ble_eq_true rfl)) (seq (p := 5) (q := 57) (r := 58) (blk (seq (p := 5) (q := 20) (r := 57) (blk (seq (p := 5) (q := 16) (r := 20) (blk (seq (p := 5) (q := 8) (r := 16) (p_if_eq 16 dX0_same_5 (by decide)) (seq (p := 8) (q := 9) (r := 16) (p_aload_n 0 dX0_same_8) (seq (p := 9) (q := 10) (r := 16) (p_iload_n 2 dX0_same_9) (seq (p := 10) (q := 13) (r := 16) (p_callG 2 _ (ok_V 0 cv_X0_199 rfl (M_X0_isSentence l δ) (Nat.le_of_ble_eq_true rfl) dX0_same_10) (Nat.le_of_ble_eq_true rfl)) (seq (p := 13) (q := 16) (r := 16) (p_if_ne 20 dX0_same_13 (by decide)) done)))))) (seq (p := 16) (q := 17) (r := 20) (p_iconst (-1) dX0_same_16) (seq (p := 17) (q := 20) (r := 20) (p_goto 57 dX0_same_17 (by decide)) done)))) (seq (p := 20) (q := 21) (r := 57) (p_aload_n 0 dX0_same_20) (seq (p := 21) (q := 24) (r := 57) (p_get [(0, 8)] (alL1 fl_X0_22_0) dX0_same_21) (seq (p := 24) (q := 25) (r := 57) (p_iload_n 1 dX0_same_24) (seq (p := 25) (q := 30) (r := 57) (p_callG 2 _ (ok_F 16 cf_X0_202 rfl (M_J2_get l δ) (Nat.le_of_ble_eq_true rfl) dX0_same_25) (Nat.le_of_ble_eq_true rfl)) (seq (p := 30) (q := 33) (r := 57) (p_cast [10] ky_X0_169 dX0_same_30) (seq (p := 33) (q := 34) (r := 57) (p_aload_n 0 dX0_same_33) (seq (p := 34) (q := 37) (r := 57) (p_get [(0, 8)] (alL1 fl_X0_22_0) dX0_same_34) (seq (p := 37) (q := 38) (r := 57) (p_iload_n 2 dX0_same_37) (seq (p := 38) (q := 43) (r := 57) (p_callG 2 _ (ok_F 16 cf_X0_202 rfl (M_J2_get l δ) (Nat.le_of_ble_eq_true rfl) dX0_same_38) (Nat.le_of_ble_eq_true rfl)) (seq (p := 43) (q := 46) (r := 57) (p_cast [10] ky_X0_169 dX0_same_43) (seq (p := 46) (q := 49) (r := 57) (p_callG 2 _ (ok_V 10 cv_X0_235 rfl (M_X11_isLike l δ) (Nat.le_of_ble_eq_true rfl) dX0_same_46) (Nat.le_of_ble_eq_true rfl)) (seq (p := 49) (q := 56) (r := 57) (blk (seq (p := 49) (q := 52) (r := 56) (p_if_eq 56 dX0_same_49 (by decide)) (seq (p := 52) (q := 53) (r := 56) (p_iconst 1 dX0_same_52) (seq (p := 53) (q := 56) (r := 56) (p_goto 57 dX0_same_53 (by decide)) done)))) (seq (p := 56) (q := 57) (r := 57) (p_iconst 0 dX0_same_56) done))))))))))))))) (seq (p := 57) (q := 58) (r := 58) (p_ireturn dX0_same_57 rfl) done))))
noncomputable def M_X0_same (l : Launch) (δ : Dl) : Mth l δ yX0_same cX0_same 3 (some .int) 3 := mk (B_X0_same l δ) (by decide)
theorem N_X0_same {l : Launch} {δ : Dl} {o : Nat} {a1 : Int} {a2 : Int} {s : St} : (M_X0_same l δ).1 [.inr (.inr (some o)), .inl a1, .inl a2] s = bres ((B_X0_same l δ).1 [] [some (.inr (.inr (some o))), some (.inl a1), some (.inl a2)] s) := (mk_eq (hy := by decide) rfl).trans (nrfl rfl)
theorem dX0_isThere_0 : decode cX0_isThere 0 = .ok (.iconst 0, 1) := by decide +kernel
theorem dX0_isThere_1 : decode cX0_isThere 1 = .ok (.istore_n 2, 1) := by decide +kernel
theorem dX0_isThere_2 : decode cX0_isThere 2 = .ok (.iconst 0, 1) := by decide +kernel
theorem dX0_isThere_3 : decode cX0_isThere 3 = .ok (.istore_n 3, 1) := by decide +kernel
theorem dX0_isThere_4 : decode cX0_isThere 4 = .ok (.iload_n 3, 1) := by decide +kernel
theorem dX0_isThere_5 : decode cX0_isThere 5 = .ok (.aload_n 0, 1) := by decide +kernel
theorem dX0_isThere_6 : decode cX0_isThere 6 = .ok (.invokeinterface 161 1, 5) := by decide +kernel
theorem dX0_isThere_11 : decode cX0_isThere 11 = .ok (.if_icmp .ge 28, 3) := by decide +kernel
theorem dX0_isThere_14 : decode cX0_isThere 14 = .ok (.iload_n 2, 1) := by decide +kernel
theorem dX0_isThere_15 : decode cX0_isThere 15 = .ok (.ifCond .ne 24, 3) := by decide +kernel
theorem dX0_isThere_18 : decode cX0_isThere 18 = .ok (.aload_n 0, 1) := by decide +kernel
theorem dX0_isThere_19 : decode cX0_isThere 19 = .ok (.iload_n 3, 1) := by decide +kernel
theorem dX0_isThere_20 : decode cX0_isThere 20 = .ok (.invokeinterface 202 2, 5) := by decide +kernel
theorem dX0_isThere_25 : decode cX0_isThere 25 = .ok (.checkcast 146, 3) := by decide +kernel
theorem dX0_isThere_28 : decode cX0_isThere 28 = .ok (.aload_n 1, 1) := by decide +kernel
theorem dX0_isThere_29 : decode cX0_isThere 29 = .ok (.invokevirtual 288, 3) := by decide +kernel
theorem dX0_isThere_32 : decode cX0_isThere 32 = .ok (.istore_n 2, 1) := by decide +kernel
theorem dX0_isThere_33 : decode cX0_isThere 33 = .ok (.iinc 3 1, 3) := by decide +kernel
theorem dX0_isThere_36 : decode cX0_isThere 36 = .ok (.goto (-32), 3) := by decide +kernel
theorem dX0_isThere_39 : decode cX0_isThere 39 = .ok (.iload_n 2, 1) := by decide +kernel
theorem dX0_isThere_40 : decode cX0_isThere 40 = .ok (.ireturn, 1) := by decide +kernel
noncomputable def C_X0_isThere_L4 (l : Launch) (δ : Dl) : Seg (l, δ, yX0_isThere, 68, (some .boolean), cX0_isThere, 4) 4 39 :=
  seq (p := 4) (q := 5) (r := 39) (p_iload_n 3 dX0_isThere_4) (seq (p := 5) (q := 6) (r := 39) (p_aload_n 0 dX0_isThere_5) (seq (p := 6) (q := 11) (r := 39) (p_callG 1 _ (ok_F 16 cf_X0_161 rfl (M_J2_size l δ) (Nat.le_of_ble_eq_true rfl) dX0_isThere_6) (Nat.le_of_ble_eq_true rfl)) (seq (p := 11) (q := 14) (r := 39) (p_icmp_ge 39 dX0_isThere_11 (by decide)) (seq (p := 14) (q := 15) (r := 39) (p_iload_n 2 dX0_isThere_14) (seq (p := 15) (q := 18) (r := 39) (p_if_ne 39 dX0_isThere_15 (by decide)) (seq (p := 18) (q := 19) (r := 39) (p_aload_n 0 dX0_isThere_18) (seq (p := 19) (q := 20) (r := 39) (p_iload_n 3 dX0_isThere_19) (seq (p := 20) (q := 25) (r := 39) (p_callG 2 _ (ok_F 16 cf_X0_202 rfl (M_J2_get l δ) (Nat.le_of_ble_eq_true rfl) dX0_isThere_20) (Nat.le_of_ble_eq_true rfl)) (seq (p := 25) (q := 28) (r := 39) (p_cast [5, 7, 8, 9] ky_X0_146 dX0_isThere_25) (seq (p := 28) (q := 29) (r := 39) (p_aload_n 1 dX0_isThere_28) (seq (p := 29) (q := 32) (r := 39) (p_callG 2 _ (ok_alt (ok_U 8 cu_X0_288_8 rfl ((R_lik l δ 64).2.2.1) (Nat.le_of_ble_eq_true rfl) dX0_isThere_29) (ok_alt (ok_U 7 cu_X0_288_7 rfl ((R_lik l δ 64).2.1) (Nat.le_of_ble_eq_true rfl) dX0_isThere_29) (ok_alt (ok_U 9 cu_X0_288_9 rfl ((R_lik l δ 64).2.2.2) (Nat.le_of_ble_eq_true rfl) dX0_isThere_29) (ok_U 5 cu_X0_288_5 rfl ((R_lik l δ 64).1) (Nat.le_of_ble_eq_true rfl) dX0_isThere_29)))) (Nat.le_of_ble_eq_true rfl)) (seq (p := 32) (q := 33) (r := 39) (p_istore_n 2 dX0_isThere_32 (Nat.le_of_ble_eq_true rfl)) (seq (p := 33) (q := 36) (r := 39) (p_iinc 3 1 dX0_isThere_33 (Nat.le_of_ble_eq_true rfl)) (seq (p := 36) (q := 36) (r := 39) (er [true, true, true, true]) (seq (p := 36) (q := 39) (r := 39) (p_goto 4 dX0_isThere_36 (by decide)) done)))))))))))))))
noncomputable def B_X0_isThere_L4 (l : Launch) (δ : Dl) : Seg (l, δ, yX0_isThere, 68, (some .boolean), cX0_isThere, 4) 4 39 := C_X0_isThere_L4 l δ
theorem L_X0_isThere_4 {l : Launch} {δ : Dl} {st : Stk} {L : Lc} {s : St} : (B_X0_isThere_L4 l δ).1 st L s = (C_X0_isThere_L4 l δ).1 st L s := nrfl rfl
noncomputable def B_X0_isThere (l : Launch) (δ : Dl) : Seg (l, δ, yX0_isThere, 68, (some .boolean), cX0_isThere, 4) 0 41 :=
  seq (p := 0) (q := 1) (r := 41) (p_iconst 0 dX0_isThere_0) (seq (p := 1) (q := 2) (r := 41) (p_istore_n 2 dX0_isThere_1 (Nat.le_of_ble_eq_true rfl)) (seq (p := 2) (q := 3) (r := 41) (p_iconst 0 dX0_isThere_2) (seq (p := 3) (q := 4) (r := 41) (p_istore_n 3 dX0_isThere_3 (Nat.le_of_ble_eq_true rfl)) (seq (p := 4) (q := 39) (r := 41) (blk (seq (p := 4) (q := 4) (r := 39) (er [true, true, true, true]) (seq (p := 4) (q := 39) (r := 39) (lp (B_X0_isThere_L4 l δ)) done))) (seq (p := 39) (q := 40) (r := 41) (p_iload_n 2 dX0_isThere_39) (seq (p := 40) (q := 41) (r := 41) (p_zreturn dX0_isThere_40 rfl) done))))))
noncomputable def M_X0_isThere (l : Launch) (δ : Dl) : Mth l δ yX0_isThere cX0_isThere 4 (some .boolean) 68 := mk (B_X0_isThere l δ) (by decide)
theorem N_X0_isThere {l : Launch} {δ : Dl} {a1 : Option Nat} {a2 : Option Nat} {s : St} : (M_X0_isThere l δ).1 [.inr (.inr a1), .inr (.inr a2)] s = bres ((B_X0_isThere l δ).1 [] [some (.inr (.inr a1)), some (.inr (.inr a2)), none, none] s) := (mk_eq (hy := by decide) rfl).trans (nrfl rfl)
theorem dX0_literal_0 : decode cX0_literal 0 = .ok (.iload_n 3, 1) := by decide +kernel
theorem dX0_literal_1 : decode cX0_literal 1 = .ok (.iload 4, 2) := by decide +kernel
theorem dX0_literal_3 : decode cX0_literal 3 = .ok (.if_icmp .ne 5, 3) := by decide +kernel
theorem dX0_literal_6 : decode cX0_literal 6 = .ok (.aconst_null, 1) := by decide +kernel
theorem dX0_literal_7 : decode cX0_literal 7 = .ok (.areturn, 1) := by decide +kernel
theorem dX0_literal_8 : decode cX0_literal 8 = .ok (.new 239, 3) := by decide +kernel
theorem dX0_literal_11 : decode cX0_literal 11 = .ok (.dup, 1) := by decide +kernel
theorem dX0_literal_12 : decode cX0_literal 12 = .ok (.iload_n 0, 1) := by decide +kernel
theorem dX0_literal_13 : decode cX0_literal 13 = .ok (.iload_n 1, 1) := by decide +kernel
theorem dX0_literal_14 : decode cX0_literal 14 = .ok (.iload_n 2, 1) := by decide +kernel
theorem dX0_literal_15 : decode cX0_literal 15 = .ok (.invokespecial 241, 3) := by decide +kernel
theorem dX0_literal_18 : decode cX0_literal 18 = .ok (.astore 5, 2) := by decide +kernel
theorem dX0_literal_20 : decode cX0_literal 20 = .ok (.iload_n 3, 1) := by decide +kernel
theorem dX0_literal_21 : decode cX0_literal 21 = .ok (.ifCond .eq 8, 3) := by decide +kernel
theorem dX0_literal_24 : decode cX0_literal 24 = .ok (.aload 5, 2) := by decide +kernel
theorem dX0_literal_26 : decode cX0_literal 26 = .ok (.goto 12, 3) := by decide +kernel
theorem dX0_literal_29 : decode cX0_literal 29 = .ok (.new 244, 3) := by decide +kernel
theorem dX0_literal_32 : decode cX0_literal 32 = .ok (.dup, 1) := by decide +kernel
theorem dX0_literal_33 : decode cX0_literal 33 = .ok (.aload 5, 2) := by decide +kernel
theorem dX0_literal_35 : decode cX0_literal 35 = .ok (.invokespecial 246, 3) := by decide +kernel
theorem dX0_literal_38 : decode cX0_literal 38 = .ok (.areturn, 1) := by decide +kernel
noncomputable def B_X0_literal (l : Launch) (δ : Dl) : Seg (l, δ, yX0_literal, 3, (some (.object "TwoWorlds$Formula")), cX0_literal, 6) 0 39 :=
  seq (p := 0) (q := 1) (r := 39) (p_iload_n 3 dX0_literal_0) (seq (p := 1) (q := 3) (r := 39) (p_iload 4 dX0_literal_1) (seq (p := 3) (q := 8) (r := 39) (blk (seq (p := 3) (q := 6) (r := 8) (p_icmp_ne 8 dX0_literal_3 (by decide)) (seq (p := 6) (q := 7) (r := 8) (p_null dX0_literal_6) (seq (p := 7) (q := 8) (r := 8) (p_areturn dX0_literal_7 rfl (Or.inl ⟨_, rfl⟩)) done)))) (seq (p := 8) (q := 11) (r := 39) (p_new 5 ck5 tyX6 tyX6_ok f0_5 f0_5_ok (okc q934) (okc q453) (okc q96) dX0_literal_8) (seq (p := 11) (q := 12) (r := 39) (p_dup dX0_literal_11) (seq (p := 12) (q := 13) (r := 39) (p_iload_n 0 dX0_literal_12) (seq (p := 13) (q := 14) (r := 39) (p_iload_n 1 dX0_literal_13) (seq (p := 14) (q := 15) (r := 39) (p_iload_n 2 dX0_literal_14) (seq (p := 15) (q := 18) (r := 39) (p_callG 4 _ (ok_I ci_X0_241 (M_X6_init l δ) (Nat.le_of_ble_eq_true rfl) dX0_literal_15) (Nat.le_of_ble_eq_true rfl)) (seq (p := 18) (q := 20) (r := 39) (p_astore 5 dX0_literal_18 (Nat.le_of_ble_eq_true rfl)) (seq (p := 20) (q := 21) (r := 39) (p_iload_n 3 dX0_literal_20) (seq (p := 21) (q := 38) (r := 39) (blk (seq (p := 21) (q := 29) (r := 38) (blk (seq (p := 21) (q := 24) (r := 29) (p_if_eq 29 dX0_literal_21 (by decide)) (seq (p := 24) (q := 26) (r := 29) (p_aload 5 dX0_literal_24) (seq (p := 26) (q := 29) (r := 29) (p_goto 38 dX0_literal_26 (by decide)) done)))) (seq (p := 29) (q := 32) (r := 38) (p_new 7 ck7 tyX8 tyX8_ok f0_7 f0_7_ok (okc q936) (okc q553) (okc q100) dX0_literal_29) (seq (p := 32) (q := 33) (r := 38) (p_dup dX0_literal_32) (seq (p := 33) (q := 35) (r := 38) (p_aload 5 dX0_literal_33) (seq (p := 35) (q := 38) (r := 38) (p_callG 2 _ (ok_I ci_X0_246 (M_X8_init l δ) (Nat.le_of_ble_eq_true rfl) dX0_literal_35) (Nat.le_of_ble_eq_true rfl)) done)))))) (seq (p := 38) (q := 39) (r := 39) (p_areturn dX0_literal_38 rfl (Or.inl ⟨_, rfl⟩)) done))))))))))))
noncomputable def M_X0_literal (l : Launch) (δ : Dl) : Mth l δ yX0_literal cX0_literal 6 (some (.object "TwoWorlds$Formula")) 3 := mk (B_X0_literal l δ) (by decide)
theorem N_X0_literal {l : Launch} {δ : Dl} {a1 : Int} {a2 : Int} {a3 : Int} {a4 : Int} {a5 : Int} {s : St} : (M_X0_literal l δ).1 [.inl a1, .inl a2, .inl a3, .inl a4, .inl a5] s = bres ((B_X0_literal l δ).1 [] [some (.inl a1), some (.inl a2), some (.inl a3), some (.inl a4), some (.inl a5), none] s) := (mk_eq (hy := by decide) rfl).trans (nrfl rfl)

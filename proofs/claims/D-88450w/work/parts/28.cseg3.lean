/-! ===== the component's methods as segments, 3 ===== -/
set_option maxRecDepth 100000
abbrev T_lik (l : Launch) (δ : Dl) (n : Nat) : Type := Mth l δ yX6_isLike cX6_isLike 3 (some .boolean) (3 + n) × Mth l δ yX8_isLike cX8_isLike 3 (some .boolean) (3 + n) × Mth l δ yX9_isLike cX9_isLike 3 (some .boolean) (3 + n) × Mth l δ yX10_isLike cX10_isLike 4 (some .boolean) (3 + n)
theorem dX6_isLike_0 : decode cX6_isLike 0 = .ok (.aload_n 1, 1) := by decide +kernel
theorem dX6_isLike_1 : decode cX6_isLike 1 = .ok (.instanceof 8, 3) := by decide +kernel
theorem dX6_isLike_4 : decode cX6_isLike 4 = .ok (.ifCond .eq 45, 3) := by decide +kernel
theorem dX6_isLike_7 : decode cX6_isLike 7 = .ok (.aload_n 1, 1) := by decide +kernel
theorem dX6_isLike_8 : decode cX6_isLike 8 = .ok (.checkcast 8, 3) := by decide +kernel
theorem dX6_isLike_11 : decode cX6_isLike 11 = .ok (.astore_n 2, 1) := by decide +kernel
theorem dX6_isLike_12 : decode cX6_isLike 12 = .ok (.aload_n 2, 1) := by decide +kernel
theorem dX6_isLike_13 : decode cX6_isLike 13 = .ok (.getfield 7, 3) := by decide +kernel
theorem dX6_isLike_16 : decode cX6_isLike 16 = .ok (.aload_n 0, 1) := by decide +kernel
theorem dX6_isLike_17 : decode cX6_isLike 17 = .ok (.getfield 7, 3) := by decide +kernel
theorem dX6_isLike_20 : decode cX6_isLike 20 = .ok (.if_icmp .ne 29, 3) := by decide +kernel
theorem dX6_isLike_23 : decode cX6_isLike 23 = .ok (.aload_n 2, 1) := by decide +kernel
theorem dX6_isLike_24 : decode cX6_isLike 24 = .ok (.getfield 13, 3) := by decide +kernel
theorem dX6_isLike_27 : decode cX6_isLike 27 = .ok (.aload_n 0, 1) := by decide +kernel
theorem dX6_isLike_28 : decode cX6_isLike 28 = .ok (.getfield 13, 3) := by decide +kernel
theorem dX6_isLike_31 : decode cX6_isLike 31 = .ok (.if_icmp .ne 18, 3) := by decide +kernel
theorem dX6_isLike_34 : decode cX6_isLike 34 = .ok (.aload_n 2, 1) := by decide +kernel
theorem dX6_isLike_35 : decode cX6_isLike 35 = .ok (.getfield 17, 3) := by decide +kernel
theorem dX6_isLike_38 : decode cX6_isLike 38 = .ok (.aload_n 0, 1) := by decide +kernel
theorem dX6_isLike_39 : decode cX6_isLike 39 = .ok (.getfield 17, 3) := by decide +kernel
theorem dX6_isLike_42 : decode cX6_isLike 42 = .ok (.if_icmp .ne 7, 3) := by decide +kernel
theorem dX6_isLike_45 : decode cX6_isLike 45 = .ok (.iconst 1, 1) := by decide +kernel
theorem dX6_isLike_46 : decode cX6_isLike 46 = .ok (.goto 4, 3) := by decide +kernel
theorem dX6_isLike_49 : decode cX6_isLike 49 = .ok (.iconst 0, 1) := by decide +kernel
theorem dX6_isLike_50 : decode cX6_isLike 50 = .ok (.ireturn, 1) := by decide +kernel
noncomputable def B_X6_isLike (l : Launch) (δ : Dl) (n : Nat) (r : T_lik l δ n) : Seg (l, δ, yX6_isLike, 3 + (n + 1), (some .boolean), cX6_isLike, 3) 0 51 :=
  seq (p := 0) (q := 1) (r := 51) (p_aload_n 1 dX6_isLike_0) (seq (p := 1) (q := 4) (r := 51) (p_inst [5] [7, 8, 9] ky_X6_8 kn_X6_8 dX6_isLike_1) (seq (p := 4) (q := 50) (r := 51) (blk (seq (p := 4) (q := 49) (r := 50) (blk (seq (p := 4) (q := 7) (r := 49) (p_if_eq 49 dX6_isLike_4 (by decide)) (seq (p := 7) (q := 8) (r := 49) (p_aload_n 1 dX6_isLike_7) (seq (p := 8) (q := 11) (r := 49) (p_cast [5] ky_X6_8 dX6_isLike_8) (seq (p := 11) (q := 12) (r := 49) (p_astore_n 2 dX6_isLike_11 (Nat.le_of_ble_eq_true rfl)) (seq (p := 12) (q := 13) (r := 49) (p_aload_n 2 dX6_isLike_12) (seq (p := 13) (q := 16) (r := 49) (p_get [(5, 0)] (alL1 fl_X6_7_5) dX6_isLike_13) (seq (p := 16) (q := 17) (r := 49) (p_aload_n 0 dX6_isLike_16) (seq (p := 17) (q := 20) (r := 49) (p_get [(5, 0)] (alL1 fl_X6_7_5) dX6_isLike_17) (seq (p := 20) (q := 23) (r := 49) (p_icmp_ne 49 dX6_isLike_20 (by decide)) (seq (p := 23) (q := 24) (r := 49) (p_aload_n 2 dX6_isLike_23) (seq (p := 24) (q := 27) (r := 49) (p_get [(5, 1)] (alL1 fl_X6_13_5) dX6_isLike_24) (seq (p := 27) (q := 28) (r := 49) (p_aload_n 0 dX6_isLike_27) (seq (p := 28) (q := 31) (r := 49) (p_get [(5, 1)] (alL1 fl_X6_13_5) dX6_isLike_28) (seq (p := 31) (q := 34) (r := 49) (p_icmp_ne 49 dX6_isLike_31 (by decide)) (seq (p := 34) (q := 35) (r := 49) (p_aload_n 2 dX6_isLike_34) (seq (p := 35) (q := 38) (r := 49) (p_get [(5, 2)] (alL1 fl_X6_17_5) dX6_isLike_35) (seq (p := 38) (q := 39) (r := 49) (p_aload_n 0 dX6_isLike_38) (seq (p := 39) (q := 42) (r := 49) (p_get [(5, 2)] (alL1 fl_X6_17_5) dX6_isLike_39) (seq (p := 42) (q := 45) (r := 49) (p_icmp_ne 49 dX6_isLike_42 (by decide)) (seq (p := 45) (q := 46) (r := 49) (p_iconst 1 dX6_isLike_45) (seq (p := 46) (q := 49) (r := 49) (p_goto 50 dX6_isLike_46 (by decide)) done)))))))))))))))))))))) (seq (p := 49) (q := 50) (r := 50) (p_iconst 0 dX6_isLike_49) done))) (seq (p := 50) (q := 51) (r := 51) (p_zreturn dX6_isLike_50 rfl) done)))
theorem dX8_isLike_0 : decode cX8_isLike 0 = .ok (.aload_n 1, 1) := by decide +kernel
theorem dX8_isLike_1 : decode cX8_isLike 1 = .ok (.instanceof 8, 3) := by decide +kernel
theorem dX8_isLike_4 : decode cX8_isLike 4 = .ok (.ifCond .eq 33, 3) := by decide +kernel
theorem dX8_isLike_7 : decode cX8_isLike 7 = .ok (.aload_n 1, 1) := by decide +kernel
theorem dX8_isLike_8 : decode cX8_isLike 8 = .ok (.checkcast 8, 3) := by decide +kernel
theorem dX8_isLike_11 : decode cX8_isLike 11 = .ok (.astore_n 2, 1) := by decide +kernel
theorem dX8_isLike_12 : decode cX8_isLike 12 = .ok (.aload_n 1, 1) := by decide +kernel
theorem dX8_isLike_13 : decode cX8_isLike 13 = .ok (.instanceof 23, 3) := by decide +kernel
theorem dX8_isLike_16 : decode cX8_isLike 16 = .ok (.ifCond .ne 21, 3) := by decide +kernel
theorem dX8_isLike_19 : decode cX8_isLike 19 = .ok (.aload_n 2, 1) := by decide +kernel
theorem dX8_isLike_20 : decode cX8_isLike 20 = .ok (.getfield 7, 3) := by decide +kernel
theorem dX8_isLike_23 : decode cX8_isLike 23 = .ok (.aload_n 0, 1) := by decide +kernel
theorem dX8_isLike_24 : decode cX8_isLike 24 = .ok (.getfield 7, 3) := by decide +kernel
theorem dX8_isLike_27 : decode cX8_isLike 27 = .ok (.invokevirtual 25, 3) := by decide +kernel
theorem dX8_isLike_30 : decode cX8_isLike 30 = .ok (.ifCond .eq 7, 3) := by decide +kernel
theorem dX8_isLike_33 : decode cX8_isLike 33 = .ok (.iconst 1, 1) := by decide +kernel
theorem dX8_isLike_34 : decode cX8_isLike 34 = .ok (.goto 4, 3) := by decide +kernel
theorem dX8_isLike_37 : decode cX8_isLike 37 = .ok (.iconst 0, 1) := by decide +kernel
theorem dX8_isLike_38 : decode cX8_isLike 38 = .ok (.ireturn, 1) := by decide +kernel
noncomputable def B_X8_isLike (l : Launch) (δ : Dl) (n : Nat) (r : T_lik l δ n) : Seg (l, δ, yX8_isLike, 3 + (n + 1), (some .boolean), cX8_isLike, 3) 0 39 :=
  seq (p := 0) (q := 1) (r := 39) (p_aload_n 1 dX8_isLike_0) (seq (p := 1) (q := 4) (r := 39) (p_inst [7, 8] [5, 9] ky_X8_8 kn_X8_8 dX8_isLike_1) (seq (p := 4) (q := 38) (r := 39) (blk (seq (p := 4) (q := 37) (r := 38) (blk (seq (p := 4) (q := 7) (r := 37) (p_if_eq 37 dX8_isLike_4 (by decide)) (seq (p := 7) (q := 8) (r := 37) (p_aload_n 1 dX8_isLike_7) (seq (p := 8) (q := 11) (r := 37) (p_cast [7, 8] ky_X8_8 dX8_isLike_8) (seq (p := 11) (q := 12) (r := 37) (p_astore_n 2 dX8_isLike_11 (Nat.le_of_ble_eq_true rfl)) (seq (p := 12) (q := 13) (r := 37) (p_aload_n 1 dX8_isLike_12) (seq (p := 13) (q := 16) (r := 37) (p_inst [8] [5, 7, 9] ky_X8_23 kn_X8_23 dX8_isLike_13) (seq (p := 16) (q := 19) (r := 37) (p_if_ne 37 dX8_isLike_16 (by decide)) (seq (p := 19) (q := 20) (r := 37) (p_aload_n 2 dX8_isLike_19) (seq (p := 20) (q := 23) (r := 37) (p_get [(7, 0), (8, 0)] (alL2 fl_X8_7_7 fl_X8_7_8) dX8_isLike_20) (seq (p := 23) (q := 24) (r := 37) (p_aload_n 0 dX8_isLike_23) (seq (p := 24) (q := 27) (r := 37) (p_get [(7, 0), (8, 0)] (alL2 fl_X8_7_7 fl_X8_7_8) dX8_isLike_24) (seq (p := 27) (q := 30) (r := 37) (p_callG 2 _ (ok_alt (ok_U 8 cu_X8_25_8 rfl (r.2.2.1) (Nat.lt_succ_self _) dX8_isLike_27) (ok_alt (ok_U 7 cu_X8_25_7 rfl (r.2.1) (Nat.lt_succ_self _) dX8_isLike_27) (ok_alt (ok_U 9 cu_X8_25_9 rfl (r.2.2.2) (Nat.lt_succ_self _) dX8_isLike_27) (ok_U 5 cu_X8_25_5 rfl (r.1) (Nat.lt_succ_self _) dX8_isLike_27)))) (Nat.le_of_ble_eq_true rfl)) (seq (p := 30) (q := 33) (r := 37) (p_if_eq 37 dX8_isLike_30 (by decide)) (seq (p := 33) (q := 34) (r := 37) (p_iconst 1 dX8_isLike_33) (seq (p := 34) (q := 37) (r := 37) (p_goto 38 dX8_isLike_34 (by decide)) done)))))))))))))))) (seq (p := 37) (q := 38) (r := 38) (p_iconst 0 dX8_isLike_37) done))) (seq (p := 38) (q := 39) (r := 39) (p_zreturn dX8_isLike_38 rfl) done)))
theorem dX9_isLike_0 : decode cX9_isLike 0 = .ok (.aload_n 1, 1) := by decide +kernel
theorem dX9_isLike_1 : decode cX9_isLike 1 = .ok (.instanceof 8, 3) := by decide +kernel
theorem dX9_isLike_4 : decode cX9_isLike 4 = .ok (.ifCond .eq 48, 3) := by decide +kernel
theorem dX9_isLike_7 : decode cX9_isLike 7 = .ok (.aload_n 1, 1) := by decide +kernel
theorem dX9_isLike_8 : decode cX9_isLike 8 = .ok (.checkcast 8, 3) := by decide +kernel
theorem dX9_isLike_11 : decode cX9_isLike 11 = .ok (.astore_n 2, 1) := by decide +kernel
theorem dX9_isLike_12 : decode cX9_isLike 12 = .ok (.aload_n 2, 1) := by decide +kernel
theorem dX9_isLike_13 : decode cX9_isLike 13 = .ok (.getfield 7, 3) := by decide +kernel
theorem dX9_isLike_16 : decode cX9_isLike 16 = .ok (.aload_n 0, 1) := by decide +kernel
theorem dX9_isLike_17 : decode cX9_isLike 17 = .ok (.getfield 7, 3) := by decide +kernel
theorem dX9_isLike_20 : decode cX9_isLike 20 = .ok (.if_icmp .ne 32, 3) := by decide +kernel
theorem dX9_isLike_23 : decode cX9_isLike 23 = .ok (.aload_n 2, 1) := by decide +kernel
theorem dX9_isLike_24 : decode cX9_isLike 24 = .ok (.getfield 13, 3) := by decide +kernel
theorem dX9_isLike_27 : decode cX9_isLike 27 = .ok (.aload_n 0, 1) := by decide +kernel
theorem dX9_isLike_28 : decode cX9_isLike 28 = .ok (.getfield 13, 3) := by decide +kernel
theorem dX9_isLike_31 : decode cX9_isLike 31 = .ok (.if_icmp .ne 21, 3) := by decide +kernel
theorem dX9_isLike_34 : decode cX9_isLike 34 = .ok (.aload_n 2, 1) := by decide +kernel
theorem dX9_isLike_35 : decode cX9_isLike 35 = .ok (.getfield 32, 3) := by decide +kernel
theorem dX9_isLike_38 : decode cX9_isLike 38 = .ok (.aload_n 0, 1) := by decide +kernel
theorem dX9_isLike_39 : decode cX9_isLike 39 = .ok (.getfield 32, 3) := by decide +kernel
theorem dX9_isLike_42 : decode cX9_isLike 42 = .ok (.invokevirtual 44, 3) := by decide +kernel
theorem dX9_isLike_45 : decode cX9_isLike 45 = .ok (.ifCond .eq 7, 3) := by decide +kernel
theorem dX9_isLike_48 : decode cX9_isLike 48 = .ok (.iconst 1, 1) := by decide +kernel
theorem dX9_isLike_49 : decode cX9_isLike 49 = .ok (.goto 4, 3) := by decide +kernel
theorem dX9_isLike_52 : decode cX9_isLike 52 = .ok (.iconst 0, 1) := by decide +kernel
theorem dX9_isLike_53 : decode cX9_isLike 53 = .ok (.ireturn, 1) := by decide +kernel
noncomputable def B_X9_isLike (l : Launch) (δ : Dl) (n : Nat) (r : T_lik l δ n) : Seg (l, δ, yX9_isLike, 3 + (n + 1), (some .boolean), cX9_isLike, 3) 0 54 :=
  seq (p := 0) (q := 1) (r := 54) (p_aload_n 1 dX9_isLike_0) (seq (p := 1) (q := 4) (r := 54) (p_inst [8] [5, 7, 9] ky_X9_8 kn_X9_8 dX9_isLike_1) (seq (p := 4) (q := 53) (r := 54) (blk (seq (p := 4) (q := 52) (r := 53) (blk (seq (p := 4) (q := 7) (r := 52) (p_if_eq 52 dX9_isLike_4 (by decide)) (seq (p := 7) (q := 8) (r := 52) (p_aload_n 1 dX9_isLike_7) (seq (p := 8) (q := 11) (r := 52) (p_cast [8] ky_X9_8 dX9_isLike_8) (seq (p := 11) (q := 12) (r := 52) (p_astore_n 2 dX9_isLike_11 (Nat.le_of_ble_eq_true rfl)) (seq (p := 12) (q := 13) (r := 52) (p_aload_n 2 dX9_isLike_12) (seq (p := 13) (q := 16) (r := 52) (p_get [(8, 1)] (alL1 fl_X9_7_8) dX9_isLike_13) (seq (p := 16) (q := 17) (r := 52) (p_aload_n 0 dX9_isLike_16) (seq (p := 17) (q := 20) (r := 52) (p_get [(8, 1)] (alL1 fl_X9_7_8) dX9_isLike_17) (seq (p := 20) (q := 23) (r := 52) (p_icmp_ne 52 dX9_isLike_20 (by decide)) (seq (p := 23) (q := 24) (r := 52) (p_aload_n 2 dX9_isLike_23) (seq (p := 24) (q := 27) (r := 52) (p_get [(8, 2)] (alL1 fl_X9_13_8) dX9_isLike_24) (seq (p := 27) (q := 28) (r := 52) (p_aload_n 0 dX9_isLike_27) (seq (p := 28) (q := 31) (r := 52) (p_get [(8, 2)] (alL1 fl_X9_13_8) dX9_isLike_28) (seq (p := 31) (q := 34) (r := 52) (p_icmp_ne 52 dX9_isLike_31 (by decide)) (seq (p := 34) (q := 35) (r := 52) (p_aload_n 2 dX9_isLike_34) (seq (p := 35) (q := 38) (r := 52) (p_get [(7, 0), (8, 0)] (alL2 fl_X9_32_7 fl_X9_32_8) dX9_isLike_35) (seq (p := 38) (q := 39) (r := 52) (p_aload_n 0 dX9_isLike_38) (seq (p := 39) (q := 42) (r := 52) (p_get [(7, 0), (8, 0)] (alL2 fl_X9_32_7 fl_X9_32_8) dX9_isLike_39) (seq (p := 42) (q := 45) (r := 52) (p_callG 2 _ (ok_alt (ok_U 8 cu_X9_44_8 rfl (r.2.2.1) (Nat.lt_succ_self _) dX9_isLike_42) (ok_alt (ok_U 7 cu_X9_44_7 rfl (r.2.1) (Nat.lt_succ_self _) dX9_isLike_42) (ok_alt (ok_U 9 cu_X9_44_9 rfl (r.2.2.2) (Nat.lt_succ_self _) dX9_isLike_42) (ok_U 5 cu_X9_44_5 rfl (r.1) (Nat.lt_succ_self _) dX9_isLike_42)))) (Nat.le_of_ble_eq_true rfl)) (seq (p := 45) (q := 48) (r := 52) (p_if_eq 52 dX9_isLike_45 (by decide)) (seq (p := 48) (q := 49) (r := 52) (p_iconst 1 dX9_isLike_48) (seq (p := 49) (q := 52) (r := 52) (p_goto 53 dX9_isLike_49 (by decide)) done))))))))))))))))))))))) (seq (p := 52) (q := 53) (r := 53) (p_iconst 0 dX9_isLike_52) done))) (seq (p := 53) (q := 54) (r := 54) (p_zreturn dX9_isLike_53 rfl) done)))
theorem dX10_isLike_0 : decode cX10_isLike 0 = .ok (.aload_n 1, 1) := by decide +kernel
theorem dX10_isLike_1 : decode cX10_isLike 1 = .ok (.instanceof 8, 3) := by decide +kernel
theorem dX10_isLike_4 : decode cX10_isLike 4 = .ok (.ifCond .eq 44, 3) := by decide +kernel
theorem dX10_isLike_7 : decode cX10_isLike 7 = .ok (.aload_n 1, 1) := by decide +kernel
theorem dX10_isLike_8 : decode cX10_isLike 8 = .ok (.checkcast 8, 3) := by decide +kernel
theorem dX10_isLike_11 : decode cX10_isLike 11 = .ok (.astore_n 3, 1) := by decide +kernel
theorem dX10_isLike_12 : decode cX10_isLike 12 = .ok (.aload_n 3, 1) := by decide +kernel
theorem dX10_isLike_13 : decode cX10_isLike 13 = .ok (.getfield 13, 3) := by decide +kernel
theorem dX10_isLike_16 : decode cX10_isLike 16 = .ok (.aload_n 0, 1) := by decide +kernel
theorem dX10_isLike_17 : decode cX10_isLike 17 = .ok (.getfield 13, 3) := by decide +kernel
theorem dX10_isLike_20 : decode cX10_isLike 20 = .ok (.if_icmp .ne 28, 3) := by decide +kernel
theorem dX10_isLike_23 : decode cX10_isLike 23 = .ok (.aload_n 3, 1) := by decide +kernel
theorem dX10_isLike_24 : decode cX10_isLike 24 = .ok (.getfield 7, 3) := by decide +kernel
theorem dX10_isLike_27 : decode cX10_isLike 27 = .ok (.invokeinterface 17 1, 5) := by decide +kernel
theorem dX10_isLike_32 : decode cX10_isLike 32 = .ok (.aload_n 0, 1) := by decide +kernel
theorem dX10_isLike_33 : decode cX10_isLike 33 = .ok (.getfield 7, 3) := by decide +kernel
theorem dX10_isLike_36 : decode cX10_isLike 36 = .ok (.invokeinterface 17 1, 5) := by decide +kernel
theorem dX10_isLike_41 : decode cX10_isLike 41 = .ok (.if_icmp .ne 7, 3) := by decide +kernel
theorem dX10_isLike_44 : decode cX10_isLike 44 = .ok (.iconst 1, 1) := by decide +kernel
theorem dX10_isLike_45 : decode cX10_isLike 45 = .ok (.goto 4, 3) := by decide +kernel
theorem dX10_isLike_48 : decode cX10_isLike 48 = .ok (.iconst 0, 1) := by decide +kernel
theorem dX10_isLike_49 : decode cX10_isLike 49 = .ok (.istore_n 2, 1) := by decide +kernel
theorem dX10_isLike_50 : decode cX10_isLike 50 = .ok (.iconst 0, 1) := by decide +kernel
theorem dX10_isLike_51 : decode cX10_isLike 51 = .ok (.istore_n 3, 1) := by decide +kernel
theorem dX10_isLike_52 : decode cX10_isLike 52 = .ok (.iload_n 3, 1) := by decide +kernel
theorem dX10_isLike_53 : decode cX10_isLike 53 = .ok (.aload_n 0, 1) := by decide +kernel
theorem dX10_isLike_54 : decode cX10_isLike 54 = .ok (.getfield 7, 3) := by decide +kernel
theorem dX10_isLike_57 : decode cX10_isLike 57 = .ok (.invokeinterface 17 1, 5) := by decide +kernel
theorem dX10_isLike_62 : decode cX10_isLike 62 = .ok (.if_icmp .ge 46, 3) := by decide +kernel
theorem dX10_isLike_65 : decode cX10_isLike 65 = .ok (.iload_n 2, 1) := by decide +kernel
theorem dX10_isLike_66 : decode cX10_isLike 66 = .ok (.ifCond .eq 42, 3) := by decide +kernel
theorem dX10_isLike_69 : decode cX10_isLike 69 = .ok (.aload_n 1, 1) := by decide +kernel
theorem dX10_isLike_70 : decode cX10_isLike 70 = .ok (.checkcast 8, 3) := by decide +kernel
theorem dX10_isLike_73 : decode cX10_isLike 73 = .ok (.getfield 7, 3) := by decide +kernel
theorem dX10_isLike_76 : decode cX10_isLike 76 = .ok (.iload_n 3, 1) := by decide +kernel
theorem dX10_isLike_77 : decode cX10_isLike 77 = .ok (.invokeinterface 23 2, 5) := by decide +kernel
theorem dX10_isLike_82 : decode cX10_isLike 82 = .ok (.checkcast 2, 3) := by decide +kernel
theorem dX10_isLike_85 : decode cX10_isLike 85 = .ok (.aload_n 0, 1) := by decide +kernel
theorem dX10_isLike_86 : decode cX10_isLike 86 = .ok (.getfield 7, 3) := by decide +kernel
theorem dX10_isLike_89 : decode cX10_isLike 89 = .ok (.iload_n 3, 1) := by decide +kernel
theorem dX10_isLike_90 : decode cX10_isLike 90 = .ok (.invokeinterface 23 2, 5) := by decide +kernel
theorem dX10_isLike_95 : decode cX10_isLike 95 = .ok (.checkcast 2, 3) := by decide +kernel
theorem dX10_isLike_98 : decode cX10_isLike 98 = .ok (.invokevirtual 45, 3) := by decide +kernel
theorem dX10_isLike_101 : decode cX10_isLike 101 = .ok (.istore_n 2, 1) := by decide +kernel
theorem dX10_isLike_102 : decode cX10_isLike 102 = .ok (.iinc 3 1, 3) := by decide +kernel
theorem dX10_isLike_105 : decode cX10_isLike 105 = .ok (.goto (-53), 3) := by decide +kernel
theorem dX10_isLike_108 : decode cX10_isLike 108 = .ok (.iload_n 2, 1) := by decide +kernel
theorem dX10_isLike_109 : decode cX10_isLike 109 = .ok (.ireturn, 1) := by decide +kernel
noncomputable def C_X10_isLike_L52 (l : Launch) (δ : Dl) (n : Nat) (r : T_lik l δ n) : Seg (l, δ, yX10_isLike, 3 + (n + 1), (some .boolean), cX10_isLike, 4) 52 108 :=
  seq (p := 52) (q := 53) (r := 108) (p_iload_n 3 dX10_isLike_52) (seq (p := 53) (q := 54) (r := 108) (p_aload_n 0 dX10_isLike_53) (seq (p := 54) (q := 57) (r := 108) (p_get [(9, 0)] (alL1 fl_X10_7_9) dX10_isLike_54) (seq (p := 57) (q := 62) (r := 108) (p_callG 1 _ (ok_F 16 cf_X10_17 rfl (M_J2_size l δ) (Nat.lt_of_lt_of_le (show 0 < 3 from (Nat.le_of_ble_eq_true rfl)) (Nat.le_add_right _ _)) dX10_isLike_57) (Nat.le_of_ble_eq_true rfl)) (seq (p := 62) (q := 65) (r := 108) (p_icmp_ge 108 dX10_isLike_62 (by decide)) (seq (p := 65) (q := 66) (r := 108) (p_iload_n 2 dX10_isLike_65) (seq (p := 66) (q := 69) (r := 108) (p_if_eq 108 dX10_isLike_66 (by decide)) (seq (p := 69) (q := 70) (r := 108) (p_aload_n 1 dX10_isLike_69) (seq (p := 70) (q := 73) (r := 108) (p_cast [9] ky_X10_8 dX10_isLike_70) (seq (p := 73) (q := 76) (r := 108) (p_get [(9, 0)] (alL1 fl_X10_7_9) dX10_isLike_73) (seq (p := 76) (q := 77) (r := 108) (p_iload_n 3 dX10_isLike_76) (seq (p := 77) (q := 82) (r := 108) (p_callG 2 _ (ok_F 16 cf_X10_23 rfl (M_J2_get l δ) (Nat.lt_of_lt_of_le (show 2 < 3 from (Nat.le_of_ble_eq_true rfl)) (Nat.le_add_right _ _)) dX10_isLike_77) (Nat.le_of_ble_eq_true rfl)) (seq (p := 82) (q := 85) (r := 108) (p_cast [5, 7, 8, 9] ky_X10_2 dX10_isLike_82) (seq (p := 85) (q := 86) (r := 108) (p_aload_n 0 dX10_isLike_85) (seq (p := 86) (q := 89) (r := 108) (p_get [(9, 0)] (alL1 fl_X10_7_9) dX10_isLike_86) (seq (p := 89) (q := 90) (r := 108) (p_iload_n 3 dX10_isLike_89) (seq (p := 90) (q := 95) (r := 108) (p_callG 2 _ (ok_F 16 cf_X10_23 rfl (M_J2_get l δ) (Nat.lt_of_lt_of_le (show 2 < 3 from (Nat.le_of_ble_eq_true rfl)) (Nat.le_add_right _ _)) dX10_isLike_90) (Nat.le_of_ble_eq_true rfl)) (seq (p := 95) (q := 98) (r := 108) (p_cast [5, 7, 8, 9] ky_X10_2 dX10_isLike_95) (seq (p := 98) (q := 101) (r := 108) (p_callG 2 _ (ok_alt (ok_U 8 cu_X10_45_8 rfl (r.2.2.1) (Nat.lt_succ_self _) dX10_isLike_98) (ok_alt (ok_U 7 cu_X10_45_7 rfl (r.2.1) (Nat.lt_succ_self _) dX10_isLike_98) (ok_alt (ok_U 9 cu_X10_45_9 rfl (r.2.2.2) (Nat.lt_succ_self _) dX10_isLike_98) (ok_U 5 cu_X10_45_5 rfl (r.1) (Nat.lt_succ_self _) dX10_isLike_98)))) (Nat.le_of_ble_eq_true rfl)) (seq (p := 101) (q := 102) (r := 108) (p_istore_n 2 dX10_isLike_101 (Nat.le_of_ble_eq_true rfl)) (seq (p := 102) (q := 105) (r := 108) (p_iinc 3 1 dX10_isLike_102 (Nat.le_of_ble_eq_true rfl)) (seq (p := 105) (q := 105) (r := 108) (er [true, true, true, true]) (seq (p := 105) (q := 108) (r := 108) (p_goto 52 dX10_isLike_105 (by decide)) done))))))))))))))))))))))
noncomputable def B_X10_isLike_L52 (l : Launch) (δ : Dl) (n : Nat) (r : T_lik l δ n) : Seg (l, δ, yX10_isLike, 3 + (n + 1), (some .boolean), cX10_isLike, 4) 52 108 := C_X10_isLike_L52 l δ n r
theorem L_X10_isLike_52 {l : Launch} {δ : Dl} {n : Nat} {r : T_lik l δ n} {st : Stk} {L : Lc} {s : St} : (B_X10_isLike_L52 l δ n r).1 st L s = (C_X10_isLike_L52 l δ n r).1 st L s := nrfl rfl
noncomputable def B_X10_isLike (l : Launch) (δ : Dl) (n : Nat) (r : T_lik l δ n) : Seg (l, δ, yX10_isLike, 3 + (n + 1), (some .boolean), cX10_isLike, 4) 0 110 :=
  seq (p := 0) (q := 1) (r := 110) (p_aload_n 1 dX10_isLike_0) (seq (p := 1) (q := 4) (r := 110) (p_inst [9] [5, 7, 8] ky_X10_8 kn_X10_8 dX10_isLike_1) (seq (p := 4) (q := 49) (r := 110) (blk (seq (p := 4) (q := 48) (r := 49) (blk (seq (p := 4) (q := 7) (r := 48) (p_if_eq 48 dX10_isLike_4 (by decide)) (seq (p := 7) (q := 8) (r := 48) (p_aload_n 1 dX10_isLike_7) (seq (p := 8) (q := 11) (r := 48) (p_cast [9] ky_X10_8 dX10_isLike_8) (seq (p := 11) (q := 12) (r := 48) (p_astore_n 3 dX10_isLike_11 (Nat.le_of_ble_eq_true rfl)) (seq (p := 12) (q := 13) (r := 48) (p_aload_n 3 dX10_isLike_12) (seq (p := 13) (q := 16) (r := 48) (p_get [(9, 1)] (alL1 fl_X10_13_9) dX10_isLike_13) (seq (p := 16) (q := 17) (r := 48) (p_aload_n 0 dX10_isLike_16) (seq (p := 17) (q := 20) (r := 48) (p_get [(9, 1)] (alL1 fl_X10_13_9) dX10_isLike_17) (seq (p := 20) (q := 23) (r := 48) (p_icmp_ne 48 dX10_isLike_20 (by decide)) (seq (p := 23) (q := 24) (r := 48) (p_aload_n 3 dX10_isLike_23) (seq (p := 24) (q := 27) (r := 48) (p_get [(9, 0)] (alL1 fl_X10_7_9) dX10_isLike_24) (seq (p := 27) (q := 32) (r := 48) (p_callG 1 _ (ok_F 16 cf_X10_17 rfl (M_J2_size l δ) (Nat.lt_of_lt_of_le (show 0 < 3 from (Nat.le_of_ble_eq_true rfl)) (Nat.le_add_right _ _)) dX10_isLike_27) (Nat.le_of_ble_eq_true rfl)) (seq (p := 32) (q := 33) (r := 48) (p_aload_n 0 dX10_isLike_32) (seq (p := 33) (q := 36) (r := 48) (p_get [(9, 0)] (alL1 fl_X10_7_9) dX10_isLike_33) (seq (p := 36) (q := 41) (r := 48) (p_callG 1 _ (ok_F 16 cf_X10_17 rfl (M_J2_size l δ) (Nat.lt_of_lt_of_le (show 0 < 3 from (Nat.le_of_ble_eq_true rfl)) (Nat.le_add_right _ _)) dX10_isLike_36) (Nat.le_of_ble_eq_true rfl)) (seq (p := 41) (q := 44) (r := 48) (p_icmp_ne 48 dX10_isLike_41 (by decide)) (seq (p := 44) (q := 45) (r := 48) (p_iconst 1 dX10_isLike_44) (seq (p := 45) (q := 48) (r := 48) (p_goto 49 dX10_isLike_45 (by decide)) done))))))))))))))))))) (seq (p := 48) (q := 49) (r := 49) (p_iconst 0 dX10_isLike_48) done))) (seq (p := 49) (q := 50) (r := 110) (p_istore_n 2 dX10_isLike_49 (Nat.le_of_ble_eq_true rfl)) (seq (p := 50) (q := 51) (r := 110) (p_iconst 0 dX10_isLike_50) (seq (p := 51) (q := 52) (r := 110) (p_istore_n 3 dX10_isLike_51 (Nat.le_of_ble_eq_true rfl)) (seq (p := 52) (q := 108) (r := 110) (blk (seq (p := 52) (q := 52) (r := 108) (er [true, true, true, true]) (seq (p := 52) (q := 108) (r := 108) (lp (B_X10_isLike_L52 l δ n r)) done))) (seq (p := 108) (q := 109) (r := 110) (p_iload_n 2 dX10_isLike_108) (seq (p := 109) (q := 110) (r := 110) (p_zreturn dX10_isLike_109 rfl) done))))))))
noncomputable def R_lik (l : Launch) (δ : Dl) : (n : Nat) → T_lik l δ n
  | 0 => (M_no, M_no, M_no, M_no)
  | n + 1 => (mk (B_X6_isLike l δ n (R_lik l δ n)) (by decide), mk (B_X8_isLike l δ n (R_lik l δ n)) (by decide), mk (B_X9_isLike l δ n (R_lik l δ n)) (by decide), mk (B_X10_isLike l δ n (R_lik l δ n)) (by decide))
theorem N_X6_isLike {l : Launch} {δ : Dl} {n : Nat} {o : Nat} {a1 : Option Nat} {s : St} : ((R_lik l δ (n + 1)).1).1 [.inr (.inr (some o)), .inr (.inr a1)] s = bres ((B_X6_isLike l δ n (R_lik l δ n)).1 [] [some (.inr (.inr (some o))), some (.inr (.inr a1)), none] s) := (mk_eq (hy := by decide) rfl).trans (nrfl rfl)
theorem N_X8_isLike {l : Launch} {δ : Dl} {n : Nat} {o : Nat} {a1 : Option Nat} {s : St} : ((R_lik l δ (n + 1)).2.1).1 [.inr (.inr (some o)), .inr (.inr a1)] s = bres ((B_X8_isLike l δ n (R_lik l δ n)).1 [] [some (.inr (.inr (some o))), some (.inr (.inr a1)), none] s) := (mk_eq (hy := by decide) rfl).trans (nrfl rfl)
theorem N_X9_isLike {l : Launch} {δ : Dl} {n : Nat} {o : Nat} {a1 : Option Nat} {s : St} : ((R_lik l δ (n + 1)).2.2.1).1 [.inr (.inr (some o)), .inr (.inr a1)] s = bres ((B_X9_isLike l δ n (R_lik l δ n)).1 [] [some (.inr (.inr (some o))), some (.inr (.inr a1)), none] s) := (mk_eq (hy := by decide) rfl).trans (nrfl rfl)
theorem N_X10_isLike {l : Launch} {δ : Dl} {n : Nat} {o : Nat} {a1 : Option Nat} {s : St} : ((R_lik l δ (n + 1)).2.2.2).1 [.inr (.inr (some o)), .inr (.inr a1)] s = bres ((B_X10_isLike l δ n (R_lik l δ n)).1 [] [some (.inr (.inr (some o))), some (.inr (.inr a1)), none, none] s) := (mk_eq (hy := by decide) rfl).trans (nrfl rfl)
theorem dX3_init_0 : decode cX3_init 0 = .ok (.aload_n 0, 1) := by decide +kernel
theorem dX3_init_1 : decode cX3_init 1 = .ok (.invokespecial 1, 3) := by decide +kernel
theorem dX3_init_4 : decode cX3_init 4 = .ok (.aload_n 0, 1) := by decide +kernel
theorem dX3_init_5 : decode cX3_init 5 = .ok (.bipush 16, 2) := by decide +kernel
theorem dX3_init_7 : decode cX3_init 7 = .ok (.newarray .int, 2) := by decide +kernel
theorem dX3_init_9 : decode cX3_init 9 = .ok (.putfield 7, 3) := by decide +kernel
theorem dX3_init_12 : decode cX3_init 12 = .ok (.aload_n 0, 1) := by decide +kernel
theorem dX3_init_13 : decode cX3_init 13 = .ok (.iconst 2, 1) := by decide +kernel
theorem dX3_init_14 : decode cX3_init 14 = .ok (.anewarray 13, 3) := by decide +kernel
theorem dX3_init_17 : decode cX3_init 17 = .ok (.dup, 1) := by decide +kernel
theorem dX3_init_18 : decode cX3_init 18 = .ok (.iconst 0, 1) := by decide +kernel
theorem dX3_init_19 : decode cX3_init 19 = .ok (.aload_n 1, 1) := by decide +kernel
theorem dX3_init_20 : decode cX3_init 20 = .ok (.aastore, 1) := by decide +kernel
theorem dX3_init_21 : decode cX3_init 21 = .ok (.dup, 1) := by decide +kernel
theorem dX3_init_22 : decode cX3_init 22 = .ok (.iconst 1, 1) := by decide +kernel
theorem dX3_init_23 : decode cX3_init 23 = .ok (.aload_n 2, 1) := by decide +kernel
theorem dX3_init_24 : decode cX3_init 24 = .ok (.aastore, 1) := by decide +kernel
theorem dX3_init_25 : decode cX3_init 25 = .ok (.putfield 15, 3) := by decide +kernel
theorem dX3_init_28 : decode cX3_init 28 = .ok (.return_, 1) := by decide +kernel
noncomputable def B_X3_init (l : Launch) (δ : Dl) : Seg (l, δ, yX3_init, 1, none, cX3_init, 3) 0 29 :=
  seq (p := 0) (q := 1) (r := 29) (p_aload_n 0 dX3_init_0) (seq (p := 1) (q := 4) (r := 29) (p_objI (Nat.le_of_ble_eq_true rfl) (okc q294) (okc q122) (okc q123) dX3_init_1) (seq (p := 4) (q := 5) (r := 29) (p_aload_n 0 dX3_init_4) (seq (p := 5) (q := 7) (r := 29) (p_bipush 16 dX3_init_5 (by decide)) (seq (p := 7) (q := 9) (r := 29) (p_newa 0 (Nat.le_of_ble_eq_true rfl) dX3_init_7) (seq (p := 9) (q := 12) (r := 29) (p_putF [(3, 1)] (.array .int) (alF1 ff_X3_7_3) rfl dX3_init_9) (seq (p := 12) (q := 13) (r := 29) (p_aload_n 0 dX3_init_12) (seq (p := 13) (q := 14) (r := 29) (p_iconst 2 dX3_init_13) (seq (p := 14) (q := 17) (r := 29) (p_anewa 4 (Or.inl rfl) (okc q295) dX3_init_14) (seq (p := 17) (q := 18) (r := 29) (p_dup dX3_init_17) (seq (p := 18) (q := 19) (r := 29) (p_iconst 0 dX3_init_18) (seq (p := 19) (q := 20) (r := 29) (p_aload_n 1 dX3_init_19) (seq (p := 20) (q := 21) (r := 29) (p_aast dX3_init_20) (seq (p := 21) (q := 22) (r := 29) (p_dup dX3_init_21) (seq (p := 22) (q := 23) (r := 29) (p_iconst 1 dX3_init_22) (seq (p := 23) (q := 24) (r := 29) (p_aload_n 2 dX3_init_23) (seq (p := 24) (q := 25) (r := 29) (p_aast dX3_init_24) (seq (p := 25) (q := 28) (r := 29) (p_putF [(3, 0)] (.array (.object "TwoWorlds$World")) (alF1 ff_X3_15_3) rfl dX3_init_25) (seq (p := 28) (q := 29) (r := 29) (p_return dX3_init_28 rfl) done))))))))))))))))))
noncomputable def M_X3_init (l : Launch) (δ : Dl) : Mth l δ yX3_init cX3_init 3 none 1 := mk (B_X3_init l δ) (by decide)
theorem N_X3_init {l : Launch} {δ : Dl} {o : Nat} {a1 : Option Nat} {a2 : Option Nat} {s : St} : (M_X3_init l δ).1 [.inr (.inr (some o)), .inr (.inr a1), .inr (.inr a2)] s = bres ((B_X3_init l δ).1 [] [some (.inr (.inr (some o))), some (.inr (.inr a1)), some (.inr (.inr a2))] s) := (mk_eq (hy := by decide) rfl).trans (nrfl rfl)
theorem dX3_at_0 : decode cX3_at 0 = .ok (.aload_n 0, 1) := by decide +kernel
theorem dX3_at_1 : decode cX3_at 1 = .ok (.getfield 7, 3) := by decide +kernel
theorem dX3_at_4 : decode cX3_at 4 = .ok (.bipush 8, 2) := by decide +kernel
theorem dX3_at_6 : decode cX3_at 6 = .ok (.iload_n 1, 1) := by decide +kernel
theorem dX3_at_7 : decode cX3_at 7 = .ok (.imul, 1) := by decide +kernel
theorem dX3_at_8 : decode cX3_at 8 = .ok (.iload_n 2, 1) := by decide +kernel
theorem dX3_at_9 : decode cX3_at 9 = .ok (.iadd, 1) := by decide +kernel
theorem dX3_at_10 : decode cX3_at 10 = .ok (.iaload, 1) := by decide +kernel
theorem dX3_at_11 : decode cX3_at 11 = .ok (.ireturn, 1) := by decide +kernel
noncomputable def B_X3_at (l : Launch) (δ : Dl) : Seg (l, δ, yX3_at, 0, (some .int), cX3_at, 3) 0 12 :=
  seq (p := 0) (q := 1) (r := 12) (p_aload_n 0 dX3_at_0) (seq (p := 1) (q := 4) (r := 12) (p_get [(3, 1)] (alL1 fl_X3_7_3) dX3_at_1) (seq (p := 4) (q := 6) (r := 12) (p_bipush 8 dX3_at_4 (by decide)) (seq (p := 6) (q := 7) (r := 12) (p_iload_n 1 dX3_at_6) (seq (p := 7) (q := 8) (r := 12) (p_imul dX3_at_7) (seq (p := 8) (q := 9) (r := 12) (p_iload_n 2 dX3_at_8) (seq (p := 9) (q := 10) (r := 12) (p_iadd dX3_at_9) (seq (p := 10) (q := 11) (r := 12) (p_iald dX3_at_10) (seq (p := 11) (q := 12) (r := 12) (p_ireturn dX3_at_11 rfl) done))))))))
noncomputable def M_X3_at (l : Launch) (δ : Dl) : Mth l δ yX3_at cX3_at 3 (some .int) 0 := mk (B_X3_at l δ) (by decide)
theorem N_X3_at {l : Launch} {δ : Dl} {o : Nat} {a1 : Int} {a2 : Int} {s : St} : (M_X3_at l δ).1 [.inr (.inr (some o)), .inl a1, .inl a2] s = bres ((B_X3_at l δ).1 [] [some (.inr (.inr (some o))), some (.inl a1), some (.inl a2)] s) := (mk_eq (hy := by decide) rfl).trans (nrfl rfl)
theorem dX3_isOne_0 : decode cX3_isOne 0 = .ok (.aload_n 0, 1) := by decide +kernel
theorem dX3_isOne_1 : decode cX3_isOne 1 = .ok (.iload_n 1, 1) := by decide +kernel
theorem dX3_isOne_2 : decode cX3_isOne 2 = .ok (.iload_n 2, 1) := by decide +kernel
theorem dX3_isOne_3 : decode cX3_isOne 3 = .ok (.invokevirtual 23, 3) := by decide +kernel
theorem dX3_isOne_6 : decode cX3_isOne 6 = .ok (.aload_n 0, 1) := by decide +kernel
theorem dX3_isOne_7 : decode cX3_isOne 7 = .ok (.iload_n 1, 1) := by decide +kernel
theorem dX3_isOne_8 : decode cX3_isOne 8 = .ok (.iload_n 3, 1) := by decide +kernel
theorem dX3_isOne_9 : decode cX3_isOne 9 = .ok (.invokevirtual 23, 3) := by decide +kernel
theorem dX3_isOne_12 : decode cX3_isOne 12 = .ok (.if_icmp .ne 7, 3) := by decide +kernel
theorem dX3_isOne_15 : decode cX3_isOne 15 = .ok (.iconst 1, 1) := by decide +kernel
theorem dX3_isOne_16 : decode cX3_isOne 16 = .ok (.goto 4, 3) := by decide +kernel
theorem dX3_isOne_19 : decode cX3_isOne 19 = .ok (.iconst 0, 1) := by decide +kernel
theorem dX3_isOne_20 : decode cX3_isOne 20 = .ok (.ireturn, 1) := by decide +kernel
noncomputable def B_X3_isOne (l : Launch) (δ : Dl) : Seg (l, δ, yX3_isOne, 1, (some .boolean), cX3_isOne, 4) 0 21 :=
  seq (p := 0) (q := 1) (r := 21) (p_aload_n 0 dX3_isOne_0) (seq (p := 1) (q := 2) (r := 21) (p_iload_n 1 dX3_isOne_1) (seq (p := 2) (q := 3) (r := 21) (p_iload_n 2 dX3_isOne_2) (seq (p := 3) (q := 6) (r := 21) (p_callG 3 _ (ok_V 3 cv_X3_23 rfl (M_X3_at l δ) (Nat.le_of_ble_eq_true rfl) dX3_isOne_3) (Nat.le_of_ble_eq_true rfl)) (seq (p := 6) (q := 7) (r := 21) (p_aload_n 0 dX3_isOne_6) (seq (p := 7) (q := 8) (r := 21) (p_iload_n 1 dX3_isOne_7) (seq (p := 8) (q := 9) (r := 21) (p_iload_n 3 dX3_isOne_8) (seq (p := 9) (q := 12) (r := 21) (p_callG 3 _ (ok_V 3 cv_X3_23 rfl (M_X3_at l δ) (Nat.le_of_ble_eq_true rfl) dX3_isOne_9) (Nat.le_of_ble_eq_true rfl)) (seq (p := 12) (q := 20) (r := 21) (blk (seq (p := 12) (q := 19) (r := 20) (blk (seq (p := 12) (q := 15) (r := 19) (p_icmp_ne 19 dX3_isOne_12 (by decide)) (seq (p := 15) (q := 16) (r := 19) (p_iconst 1 dX3_isOne_15) (seq (p := 16) (q := 19) (r := 19) (p_goto 20 dX3_isOne_16 (by decide)) done)))) (seq (p := 19) (q := 20) (r := 20) (p_iconst 0 dX3_isOne_19) done))) (seq (p := 20) (q := 21) (r := 21) (p_zreturn dX3_isOne_20 rfl) done)))))))))
noncomputable def M_X3_isOne (l : Launch) (δ : Dl) : Mth l δ yX3_isOne cX3_isOne 4 (some .boolean) 1 := mk (B_X3_isOne l δ) (by decide)
theorem N_X3_isOne {l : Launch} {δ : Dl} {o : Nat} {a1 : Int} {a2 : Int} {a3 : Int} {s : St} : (M_X3_isOne l δ).1 [.inr (.inr (some o)), .inl a1, .inl a2, .inl a3] s = bres ((B_X3_isOne l δ).1 [] [some (.inr (.inr (some o))), some (.inl a1), some (.inl a2), some (.inl a3)] s) := (mk_eq (hy := by decide) rfl).trans (nrfl rfl)
theorem dX3_isTied_0 : decode cX3_isTied 0 = .ok (.aload_n 0, 1) := by decide +kernel
theorem dX3_isTied_1 : decode cX3_isTied 1 = .ok (.getfield 15, 3) := by decide +kernel
theorem dX3_isTied_4 : decode cX3_isTied 4 = .ok (.iload_n 1, 1) := by decide +kernel
theorem dX3_isTied_5 : decode cX3_isTied 5 = .ok (.aaload, 1) := by decide +kernel
theorem dX3_isTied_6 : decode cX3_isTied 6 = .ok (.aload_n 0, 1) := by decide +kernel
theorem dX3_isTied_7 : decode cX3_isTied 7 = .ok (.iload_n 1, 1) := by decide +kernel
theorem dX3_isTied_8 : decode cX3_isTied 8 = .ok (.iload_n 2, 1) := by decide +kernel
theorem dX3_isTied_9 : decode cX3_isTied 9 = .ok (.invokevirtual 23, 3) := by decide +kernel
theorem dX3_isTied_12 : decode cX3_isTied 12 = .ok (.aload_n 0, 1) := by decide +kernel
theorem dX3_isTied_13 : decode cX3_isTied 13 = .ok (.iload_n 1, 1) := by decide +kernel
theorem dX3_isTied_14 : decode cX3_isTied 14 = .ok (.iload_n 3, 1) := by decide +kernel
theorem dX3_isTied_15 : decode cX3_isTied 15 = .ok (.invokevirtual 23, 3) := by decide +kernel
theorem dX3_isTied_18 : decode cX3_isTied 18 = .ok (.invokevirtual 27, 3) := by decide +kernel
theorem dX3_isTied_21 : decode cX3_isTied 21 = .ok (.ireturn, 1) := by decide +kernel
noncomputable def B_X3_isTied (l : Launch) (δ : Dl) : Seg (l, δ, yX3_isTied, 1, (some .boolean), cX3_isTied, 4) 0 22 :=
  seq (p := 0) (q := 1) (r := 22) (p_aload_n 0 dX3_isTied_0) (seq (p := 1) (q := 4) (r := 22) (p_get [(3, 0)] (alL1 fl_X3_15_3) dX3_isTied_1) (seq (p := 4) (q := 5) (r := 22) (p_iload_n 1 dX3_isTied_4) (seq (p := 5) (q := 6) (r := 22) (p_aald dX3_isTied_5) (seq (p := 6) (q := 7) (r := 22) (p_aload_n 0 dX3_isTied_6) (seq (p := 7) (q := 8) (r := 22) (p_iload_n 1 dX3_isTied_7) (seq (p := 8) (q := 9) (r := 22) (p_iload_n 2 dX3_isTied_8) (seq (p := 9) (q := 12) (r := 22) (p_callG 3 _ (ok_V 3 cv_X3_23 rfl (M_X3_at l δ) (Nat.le_of_ble_eq_true rfl) dX3_isTied_9) (Nat.le_of_ble_eq_true rfl)) (seq (p := 12) (q := 13) (r := 22) (p_aload_n 0 dX3_isTied_12) (seq (p := 13) (q := 14) (r := 22) (p_iload_n 1 dX3_isTied_13) (seq (p := 14) (q := 15) (r := 22) (p_iload_n 3 dX3_isTied_14) (seq (p := 15) (q := 18) (r := 22) (p_callG 3 _ (ok_V 3 cv_X3_23 rfl (M_X3_at l δ) (Nat.le_of_ble_eq_true rfl) dX3_isTied_15) (Nat.le_of_ble_eq_true rfl)) (seq (p := 18) (q := 21) (r := 22) (p_callG 3 _ (ok_V 2 cv_X3_27 rfl (M_X2_isTied l δ) (Nat.le_of_ble_eq_true rfl) dX3_isTied_18) (Nat.le_of_ble_eq_true rfl)) (seq (p := 21) (q := 22) (r := 22) (p_zreturn dX3_isTied_21 rfl) done)))))))))))))
noncomputable def M_X3_isTied (l : Launch) (δ : Dl) : Mth l δ yX3_isTied cX3_isTied 4 (some .boolean) 1 := mk (B_X3_isTied l δ) (by decide)
theorem N_X3_isTied {l : Launch} {δ : Dl} {o : Nat} {a1 : Int} {a2 : Int} {a3 : Int} {s : St} : (M_X3_isTied l δ).1 [.inr (.inr (some o)), .inl a1, .inl a2, .inl a3] s = bres ((B_X3_isTied l δ).1 [] [some (.inr (.inr (some o))), some (.inl a1), some (.inl a2), some (.inl a3)] s) := (mk_eq (hy := by decide) rfl).trans (nrfl rfl)
theorem dX3_marks_0 : decode cX3_marks 0 = .ok (.aload_n 0, 1) := by decide +kernel
theorem dX3_marks_1 : decode cX3_marks 1 = .ok (.getfield 15, 3) := by decide +kernel
theorem dX3_marks_4 : decode cX3_marks 4 = .ok (.iload_n 1, 1) := by decide +kernel
theorem dX3_marks_5 : decode cX3_marks 5 = .ok (.aaload, 1) := by decide +kernel
theorem dX3_marks_6 : decode cX3_marks 6 = .ok (.getfield 31, 3) := by decide +kernel
theorem dX3_marks_9 : decode cX3_marks 9 = .ok (.aload_n 0, 1) := by decide +kernel
theorem dX3_marks_10 : decode cX3_marks 10 = .ok (.iload_n 1, 1) := by decide +kernel
theorem dX3_marks_11 : decode cX3_marks 11 = .ok (.iload_n 2, 1) := by decide +kernel
theorem dX3_marks_12 : decode cX3_marks 12 = .ok (.invokevirtual 23, 3) := by decide +kernel
theorem dX3_marks_15 : decode cX3_marks 15 = .ok (.iaload, 1) := by decide +kernel
theorem dX3_marks_16 : decode cX3_marks 16 = .ok (.ireturn, 1) := by decide +kernel
noncomputable def B_X3_marks (l : Launch) (δ : Dl) : Seg (l, δ, yX3_marks, 1, (some .int), cX3_marks, 3) 0 17 :=
  seq (p := 0) (q := 1) (r := 17) (p_aload_n 0 dX3_marks_0) (seq (p := 1) (q := 4) (r := 17) (p_get [(3, 0)] (alL1 fl_X3_15_3) dX3_marks_1) (seq (p := 4) (q := 5) (r := 17) (p_iload_n 1 dX3_marks_4) (seq (p := 5) (q := 6) (r := 17) (p_aald dX3_marks_5) (seq (p := 6) (q := 9) (r := 17) (p_get [(2, 1)] (alL1 fl_X3_31_2) dX3_marks_6) (seq (p := 9) (q := 10) (r := 17) (p_aload_n 0 dX3_marks_9) (seq (p := 10) (q := 11) (r := 17) (p_iload_n 1 dX3_marks_10) (seq (p := 11) (q := 12) (r := 17) (p_iload_n 2 dX3_marks_11) (seq (p := 12) (q := 15) (r := 17) (p_callG 3 _ (ok_V 3 cv_X3_23 rfl (M_X3_at l δ) (Nat.le_of_ble_eq_true rfl) dX3_marks_12) (Nat.le_of_ble_eq_true rfl)) (seq (p := 15) (q := 16) (r := 17) (p_iald dX3_marks_15) (seq (p := 16) (q := 17) (r := 17) (p_ireturn dX3_marks_16 rfl) done))))))))))
noncomputable def M_X3_marks (l : Launch) (δ : Dl) : Mth l δ yX3_marks cX3_marks 3 (some .int) 1 := mk (B_X3_marks l δ) (by decide)
theorem N_X3_marks {l : Launch} {δ : Dl} {o : Nat} {a1 : Int} {a2 : Int} {s : St} : (M_X3_marks l δ).1 [.inr (.inr (some o)), .inl a1, .inl a2] s = bres ((B_X3_marks l δ).1 [] [some (.inr (.inr (some o))), some (.inl a1), some (.inl a2)] s) := (mk_eq (hy := by decide) rfl).trans (nrfl rfl)
theorem dX3_isLastAlike_0 : decode cX3_isLastAlike 0 = .ok (.aload_n 0, 1) := by decide +kernel
theorem dX3_isLastAlike_1 : decode cX3_isLastAlike 1 = .ok (.getfield 19, 3) := by decide +kernel
theorem dX3_isLastAlike_4 : decode cX3_isLastAlike 4 = .ok (.iconst 1, 1) := by decide +kernel
theorem dX3_isLastAlike_5 : decode cX3_isLastAlike 5 = .ok (.isub, 1) := by decide +kernel
theorem dX3_isLastAlike_6 : decode cX3_isLastAlike 6 = .ok (.istore_n 1, 1) := by decide +kernel
theorem dX3_isLastAlike_7 : decode cX3_isLastAlike 7 = .ok (.aload_n 0, 1) := by decide +kernel
theorem dX3_isLastAlike_8 : decode cX3_isLastAlike 8 = .ok (.iconst 0, 1) := by decide +kernel
theorem dX3_isLastAlike_9 : decode cX3_isLastAlike 9 = .ok (.iload_n 1, 1) := by decide +kernel
theorem dX3_isLastAlike_10 : decode cX3_isLastAlike 10 = .ok (.invokevirtual 34, 3) := by decide +kernel
theorem dX3_isLastAlike_13 : decode cX3_isLastAlike 13 = .ok (.aload_n 0, 1) := by decide +kernel
theorem dX3_isLastAlike_14 : decode cX3_isLastAlike 14 = .ok (.iconst 1, 1) := by decide +kernel
theorem dX3_isLastAlike_15 : decode cX3_isLastAlike 15 = .ok (.iload_n 1, 1) := by decide +kernel
theorem dX3_isLastAlike_16 : decode cX3_isLastAlike 16 = .ok (.invokevirtual 34, 3) := by decide +kernel
theorem dX3_isLastAlike_19 : decode cX3_isLastAlike 19 = .ok (.if_icmp .ne 7, 3) := by decide +kernel
theorem dX3_isLastAlike_22 : decode cX3_isLastAlike 22 = .ok (.iconst 1, 1) := by decide +kernel
theorem dX3_isLastAlike_23 : decode cX3_isLastAlike 23 = .ok (.goto 4, 3) := by decide +kernel
theorem dX3_isLastAlike_26 : decode cX3_isLastAlike 26 = .ok (.iconst 0, 1) := by decide +kernel
theorem dX3_isLastAlike_27 : decode cX3_isLastAlike 27 = .ok (.istore_n 2, 1) := by decide +kernel
theorem dX3_isLastAlike_28 : decode cX3_isLastAlike 28 = .ok (.iconst 0, 1) := by decide +kernel
theorem dX3_isLastAlike_29 : decode cX3_isLastAlike 29 = .ok (.istore_n 3, 1) := by decide +kernel
theorem dX3_isLastAlike_30 : decode cX3_isLastAlike 30 = .ok (.iload_n 3, 1) := by decide +kernel
theorem dX3_isLastAlike_31 : decode cX3_isLastAlike 31 = .ok (.iload_n 1, 1) := by decide +kernel
theorem dX3_isLastAlike_32 : decode cX3_isLastAlike 32 = .ok (.if_icmp .gt 70, 3) := by decide +kernel
theorem dX3_isLastAlike_35 : decode cX3_isLastAlike 35 = .ok (.iload_n 2, 1) := by decide +kernel
theorem dX3_isLastAlike_36 : decode cX3_isLastAlike 36 = .ok (.ifCond .eq 66, 3) := by decide +kernel
theorem dX3_isLastAlike_39 : decode cX3_isLastAlike 39 = .ok (.aload_n 0, 1) := by decide +kernel
theorem dX3_isLastAlike_40 : decode cX3_isLastAlike 40 = .ok (.iconst 0, 1) := by decide +kernel
theorem dX3_isLastAlike_41 : decode cX3_isLastAlike 41 = .ok (.iload_n 1, 1) := by decide +kernel
theorem dX3_isLastAlike_42 : decode cX3_isLastAlike 42 = .ok (.iload_n 3, 1) := by decide +kernel
theorem dX3_isLastAlike_43 : decode cX3_isLastAlike 43 = .ok (.invokevirtual 36, 3) := by decide +kernel
theorem dX3_isLastAlike_46 : decode cX3_isLastAlike 46 = .ok (.aload_n 0, 1) := by decide +kernel
theorem dX3_isLastAlike_47 : decode cX3_isLastAlike 47 = .ok (.iconst 1, 1) := by decide +kernel
theorem dX3_isLastAlike_48 : decode cX3_isLastAlike 48 = .ok (.iload_n 1, 1) := by decide +kernel
theorem dX3_isLastAlike_49 : decode cX3_isLastAlike 49 = .ok (.iload_n 3, 1) := by decide +kernel
theorem dX3_isLastAlike_50 : decode cX3_isLastAlike 50 = .ok (.invokevirtual 36, 3) := by decide +kernel
theorem dX3_isLastAlike_53 : decode cX3_isLastAlike 53 = .ok (.if_icmp .ne 41, 3) := by decide +kernel
theorem dX3_isLastAlike_56 : decode cX3_isLastAlike 56 = .ok (.aload_n 0, 1) := by decide +kernel
theorem dX3_isLastAlike_57 : decode cX3_isLastAlike 57 = .ok (.iconst 0, 1) := by decide +kernel
theorem dX3_isLastAlike_58 : decode cX3_isLastAlike 58 = .ok (.iload_n 1, 1) := by decide +kernel
theorem dX3_isLastAlike_59 : decode cX3_isLastAlike 59 = .ok (.iload_n 3, 1) := by decide +kernel
theorem dX3_isLastAlike_60 : decode cX3_isLastAlike 60 = .ok (.invokevirtual 40, 3) := by decide +kernel
theorem dX3_isLastAlike_63 : decode cX3_isLastAlike 63 = .ok (.aload_n 0, 1) := by decide +kernel
theorem dX3_isLastAlike_64 : decode cX3_isLastAlike 64 = .ok (.iconst 1, 1) := by decide +kernel
theorem dX3_isLastAlike_65 : decode cX3_isLastAlike 65 = .ok (.iload_n 1, 1) := by decide +kernel
theorem dX3_isLastAlike_66 : decode cX3_isLastAlike 66 = .ok (.iload_n 3, 1) := by decide +kernel
theorem dX3_isLastAlike_67 : decode cX3_isLastAlike 67 = .ok (.invokevirtual 40, 3) := by decide +kernel
theorem dX3_isLastAlike_70 : decode cX3_isLastAlike 70 = .ok (.if_icmp .ne 24, 3) := by decide +kernel
theorem dX3_isLastAlike_73 : decode cX3_isLastAlike 73 = .ok (.aload_n 0, 1) := by decide +kernel
theorem dX3_isLastAlike_74 : decode cX3_isLastAlike 74 = .ok (.iconst 0, 1) := by decide +kernel
theorem dX3_isLastAlike_75 : decode cX3_isLastAlike 75 = .ok (.iload_n 3, 1) := by decide +kernel
theorem dX3_isLastAlike_76 : decode cX3_isLastAlike 76 = .ok (.iload_n 1, 1) := by decide +kernel
theorem dX3_isLastAlike_77 : decode cX3_isLastAlike 77 = .ok (.invokevirtual 40, 3) := by decide +kernel
theorem dX3_isLastAlike_80 : decode cX3_isLastAlike 80 = .ok (.aload_n 0, 1) := by decide +kernel
theorem dX3_isLastAlike_81 : decode cX3_isLastAlike 81 = .ok (.iconst 1, 1) := by decide +kernel
theorem dX3_isLastAlike_82 : decode cX3_isLastAlike 82 = .ok (.iload_n 3, 1) := by decide +kernel
theorem dX3_isLastAlike_83 : decode cX3_isLastAlike 83 = .ok (.iload_n 1, 1) := by decide +kernel
theorem dX3_isLastAlike_84 : decode cX3_isLastAlike 84 = .ok (.invokevirtual 40, 3) := by decide +kernel
theorem dX3_isLastAlike_87 : decode cX3_isLastAlike 87 = .ok (.if_icmp .ne 7, 3) := by decide +kernel
theorem dX3_isLastAlike_90 : decode cX3_isLastAlike 90 = .ok (.iconst 1, 1) := by decide +kernel
theorem dX3_isLastAlike_91 : decode cX3_isLastAlike 91 = .ok (.goto 4, 3) := by decide +kernel
theorem dX3_isLastAlike_94 : decode cX3_isLastAlike 94 = .ok (.iconst 0, 1) := by decide +kernel
theorem dX3_isLastAlike_95 : decode cX3_isLastAlike 95 = .ok (.istore_n 2, 1) := by decide +kernel
theorem dX3_isLastAlike_96 : decode cX3_isLastAlike 96 = .ok (.iinc 3 1, 3) := by decide +kernel
theorem dX3_isLastAlike_99 : decode cX3_isLastAlike 99 = .ok (.goto (-69), 3) := by decide +kernel
theorem dX3_isLastAlike_102 : decode cX3_isLastAlike 102 = .ok (.iload_n 2, 1) := by decide +kernel
theorem dX3_isLastAlike_103 : decode cX3_isLastAlike 103 = .ok (.ireturn, 1) := by decide +kernel
noncomputable def C_X3_isLastAlike_L30 (l : Launch) (δ : Dl) : Seg (l, δ, yX3_isLastAlike, 2, (some .boolean), cX3_isLastAlike, 4) 30 102 :=
  seq (p := 30) (q := 31) (r := 102) (p_iload_n 3 dX3_isLastAlike_30) (seq (p := 31) (q := 32) (r := 102) (p_iload_n 1 dX3_isLastAlike_31) (seq (p := 32) (q := 35) (r := 102) (p_icmp_gt 102 dX3_isLastAlike_32 (by decide)) (seq (p := 35) (q := 36) (r := 102) (p_iload_n 2 dX3_isLastAlike_35) (seq (p := 36) (q := 39) (r := 102) (p_if_eq 102 dX3_isLastAlike_36 (by decide)) (seq (p := 39) (q := 40) (r := 102) (p_aload_n 0 dX3_isLastAlike_39) (seq (p := 40) (q := 41) (r := 102) (p_iconst 0 dX3_isLastAlike_40) (seq (p := 41) (q := 42) (r := 102) (p_iload_n 1 dX3_isLastAlike_41) (seq (p := 42) (q := 43) (r := 102) (p_iload_n 3 dX3_isLastAlike_42) (seq (p := 43) (q := 46) (r := 102) (p_callG 4 _ (ok_V 3 cv_X3_36 rfl (M_X3_isOne l δ) (Nat.le_of_ble_eq_true rfl) dX3_isLastAlike_43) (Nat.le_of_ble_eq_true rfl)) (seq (p := 46) (q := 47) (r := 102) (p_aload_n 0 dX3_isLastAlike_46) (seq (p := 47) (q := 48) (r := 102) (p_iconst 1 dX3_isLastAlike_47) (seq (p := 48) (q := 49) (r := 102) (p_iload_n 1 dX3_isLastAlike_48) (seq (p := 49) (q := 50) (r := 102) (p_iload_n 3 dX3_isLastAlike_49) (seq (p := 50) (q := 53) (r := 102) (p_callG 4 _ (ok_V 3 cv_X3_36 rfl (M_X3_isOne l δ) (Nat.le_of_ble_eq_true rfl) dX3_isLastAlike_50) (Nat.le_of_ble_eq_true rfl)) (seq (p := 53) (q := 95) (r := 102) (blk (seq (p := 53) (q := 94) (r := 95) (blk (seq (p := 53) (q := 56) (r := 94) (p_icmp_ne 94 dX3_isLastAlike_53 (by decide)) (seq (p := 56) (q := 57) (r := 94) (p_aload_n 0 dX3_isLastAlike_56) (seq (p := 57) (q := 58) (r := 94) (p_iconst 0 dX3_isLastAlike_57) (seq (p := 58) (q := 59) (r := 94) (p_iload_n 1 dX3_isLastAlike_58) (seq (p := 59) (q := 60) (r := 94) (p_iload_n 3 dX3_isLastAlike_59) (seq (p := 60) (q := 63) (r := 94) (p_callG 4 _ (ok_V 3 cv_X3_40 rfl (M_X3_isTied l δ) (Nat.le_of_ble_eq_true rfl) dX3_isLastAlike_60) (Nat.le_of_ble_eq_true rfl)) (seq (p := 63) (q := 64) (r := 94) (p_aload_n 0 dX3_isLastAlike_63) (seq (p := 64) (q := 65) (r := 94) (p_iconst 1 dX3_isLastAlike_64) (seq (p := 65) (q := 66) (r := 94) (p_iload_n 1 dX3_isLastAlike_65) (seq (p := 66) (q := 67) (r := 94) (p_iload_n 3 dX3_isLastAlike_66) (seq (p := 67) (q := 70) (r := 94) (p_callG 4 _ (ok_V 3 cv_X3_40 rfl (M_X3_isTied l δ) (Nat.le_of_ble_eq_true rfl) dX3_isLastAlike_67) (Nat.le_of_ble_eq_true rfl)) (seq (p := 70) (q := 73) (r := 94) (p_icmp_ne 94 dX3_isLastAlike_70 (by decide)) (seq (p := 73) (q := 74) (r := 94) (p_aload_n 0 dX3_isLastAlike_73) (seq (p := 74) (q := 75) (r := 94) (p_iconst 0 dX3_isLastAlike_74) (seq (p := 75) (q := 76) (r := 94) (p_iload_n 3 dX3_isLastAlike_75) (seq (p := 76) (q := 77) (r := 94) (p_iload_n 1 dX3_isLastAlike_76) (seq (p := 77) (q := 80) (r := 94) (p_callG 4 _ (ok_V 3 cv_X3_40 rfl (M_X3_isTied l δ) (Nat.le_of_ble_eq_true rfl) dX3_isLastAlike_77) (Nat.le_of_ble_eq_true rfl)) (seq (p := 80) (q := 81) (r := 94) (p_aload_n 0 dX3_isLastAlike_80) (seq (p := 81) (q := 82) (r := 94) (p_iconst 1 dX3_isLastAlike_81) (seq (p := 82) (q := 83) (r := 94) (p_iload_n 3 dX3_isLastAlike_82) (seq (p := 83) (q := 84) (r := 94) (p_iload_n 1 dX3_isLastAlike_83) (seq (p := 84) (q := 87) (r := 94) (p_callG 4 _ (ok_V 3 cv_X3_40 rfl (M_X3_isTied l δ) (Nat.le_of_ble_eq_true rfl) dX3_isLastAlike_84) (Nat.le_of_ble_eq_true rfl)) (seq (p := 87) (q := 90) (r := 94) (p_icmp_ne 94 dX3_isLastAlike_87 (by decide)) (seq (p := 90) (q := 91) (r := 94) (p_iconst 1 dX3_isLastAlike_90) (seq (p := 91) (q := 94) (r := 94) (p_goto 95 dX3_isLastAlike_91 (by decide)) done)))))))))))))))))))))))))) (seq (p := 94) (q := 95) (r := 95) (p_iconst 0 dX3_isLastAlike_94) done))) (seq (p := 95) (q := 96) (r := 102) (p_istore_n 2 dX3_isLastAlike_95 (Nat.le_of_ble_eq_true rfl)) (seq (p := 96) (q := 99) (r := 102) (p_iinc 3 1 dX3_isLastAlike_96 (Nat.le_of_ble_eq_true rfl)) (seq (p := 99) (q := 99) (r := 102) (er [true, true, true, true]) (seq (p := 99) (q := 102) (r := 102) (p_goto 30 dX3_isLastAlike_99 (by decide)) done)))))))))))))))))))
noncomputable def B_X3_isLastAlike_L30 (l : Launch) (δ : Dl) : Seg (l, δ, yX3_isLastAlike, 2, (some .boolean), cX3_isLastAlike, 4) 30 102 := C_X3_isLastAlike_L30 l δ
theorem L_X3_isLastAlike_30 {l : Launch} {δ : Dl} {st : Stk} {L : Lc} {s : St} : (B_X3_isLastAlike_L30 l δ).1 st L s = (C_X3_isLastAlike_L30 l δ).1 st L s := nrfl rfl
noncomputable def B_X3_isLastAlike (l : Launch) (δ : Dl) : Seg (l, δ, yX3_isLastAlike, 2, (some .boolean), cX3_isLastAlike, 4) 0 104 :=
  seq (p := 0) (q := 1) (r := 104) (p_aload_n 0 dX3_isLastAlike_0) (seq (p := 1) (q := 4) (r := 104) (p_get [(3, 2)] (alL1 fl_X3_19_3) dX3_isLastAlike_1) (seq (p := 4) (q := 5) (r := 104) (p_iconst 1 dX3_isLastAlike_4) (seq (p := 5) (q := 6) (r := 104) (p_isub dX3_isLastAlike_5) (seq (p := 6) (q := 7) (r := 104) (p_istore_n 1 dX3_isLastAlike_6 (Nat.le_of_ble_eq_true rfl)) (seq (p := 7) (q := 8) (r := 104) (p_aload_n 0 dX3_isLastAlike_7) (seq (p := 8) (q := 9) (r := 104) (p_iconst 0 dX3_isLastAlike_8) (seq (p := 9) (q := 10) (r := 104) (p_iload_n 1 dX3_isLastAlike_9) (seq (p := 10) (q := 13) (r := 104) (p_callG 3 _ (ok_V 3 cv_X3_34 rfl (M_X3_marks l δ) (Nat.le_of_ble_eq_true rfl) dX3_isLastAlike_10) (Nat.le_of_ble_eq_true rfl)) (seq (p := 13) (q := 14) (r := 104) (p_aload_n 0 dX3_isLastAlike_13) (seq (p := 14) (q := 15) (r := 104) (p_iconst 1 dX3_isLastAlike_14) (seq (p := 15) (q := 16) (r := 104) (p_iload_n 1 dX3_isLastAlike_15) (seq (p := 16) (q := 19) (r := 104) (p_callG 3 _ (ok_V 3 cv_X3_34 rfl (M_X3_marks l δ) (Nat.le_of_ble_eq_true rfl) dX3_isLastAlike_16) (Nat.le_of_ble_eq_true rfl)) (seq (p := 19) (q := 27) (r := 104) (blk (seq (p := 19) (q := 26) (r := 27) (blk (seq (p := 19) (q := 22) (r := 26) (p_icmp_ne 26 dX3_isLastAlike_19 (by decide)) (seq (p := 22) (q := 23) (r := 26) (p_iconst 1 dX3_isLastAlike_22) (seq (p := 23) (q := 26) (r := 26) (p_goto 27 dX3_isLastAlike_23 (by decide)) done)))) (seq (p := 26) (q := 27) (r := 27) (p_iconst 0 dX3_isLastAlike_26) done))) (seq (p := 27) (q := 28) (r := 104) (p_istore_n 2 dX3_isLastAlike_27 (Nat.le_of_ble_eq_true rfl)) (seq (p := 28) (q := 29) (r := 104) (p_iconst 0 dX3_isLastAlike_28) (seq (p := 29) (q := 30) (r := 104) (p_istore_n 3 dX3_isLastAlike_29 (Nat.le_of_ble_eq_true rfl)) (seq (p := 30) (q := 102) (r := 104) (blk (seq (p := 30) (q := 30) (r := 102) (er [true, true, true, true]) (seq (p := 30) (q := 102) (r := 102) (lp (B_X3_isLastAlike_L30 l δ)) done))) (seq (p := 102) (q := 103) (r := 104) (p_iload_n 2 dX3_isLastAlike_102) (seq (p := 103) (q := 104) (r := 104) (p_zreturn dX3_isLastAlike_103 rfl) done)))))))))))))))))))
noncomputable def M_X3_isLastAlike (l : Launch) (δ : Dl) : Mth l δ yX3_isLastAlike cX3_isLastAlike 4 (some .boolean) 2 := mk (B_X3_isLastAlike l δ) (by decide)
theorem N_X3_isLastAlike {l : Launch} {δ : Dl} {o : Nat} {s : St} : (M_X3_isLastAlike l δ).1 [.inr (.inr (some o))] s = bres ((B_X3_isLastAlike l δ).1 [] [some (.inr (.inr (some o))), none, none, none] s) := (mk_eq (hy := by decide) rfl).trans (nrfl rfl)
theorem dX3_pop_0 : decode cX3_pop 0 = .ok (.aload_n 0, 1) := by decide +kernel
theorem dX3_pop_1 : decode cX3_pop 1 = .ok (.dup, 1) := by decide +kernel
theorem dX3_pop_2 : decode cX3_pop 2 = .ok (.getfield 19, 3) := by decide +kernel
theorem dX3_pop_5 : decode cX3_pop 5 = .ok (.iconst 1, 1) := by decide +kernel
theorem dX3_pop_6 : decode cX3_pop 6 = .ok (.isub, 1) := by decide +kernel
theorem dX3_pop_7 : decode cX3_pop 7 = .ok (.putfield 19, 3) := by decide +kernel
theorem dX3_pop_10 : decode cX3_pop 10 = .ok (.return_, 1) := by decide +kernel
noncomputable def B_X3_pop (l : Launch) (δ : Dl) : Seg (l, δ, yX3_pop, 0, none, cX3_pop, 1) 0 11 :=
  seq (p := 0) (q := 1) (r := 11) (p_aload_n 0 dX3_pop_0) (seq (p := 1) (q := 2) (r := 11) (p_dup dX3_pop_1) (seq (p := 2) (q := 5) (r := 11) (p_get [(3, 2)] (alL1 fl_X3_19_3) dX3_pop_2) (seq (p := 5) (q := 6) (r := 11) (p_iconst 1 dX3_pop_5) (seq (p := 6) (q := 7) (r := 11) (p_isub dX3_pop_6) (seq (p := 7) (q := 10) (r := 11) (p_put [(3, 2)] .int (alP1 fp_X3_19_3) dX3_pop_7) (seq (p := 10) (q := 11) (r := 11) (p_return dX3_pop_10 rfl) done))))))
noncomputable def M_X3_pop (l : Launch) (δ : Dl) : Mth l δ yX3_pop cX3_pop 1 none 0 := mk (B_X3_pop l δ) (by decide)
theorem N_X3_pop {l : Launch} {δ : Dl} {o : Nat} {s : St} : (M_X3_pop l δ).1 [.inr (.inr (some o))] s = bres ((B_X3_pop l δ).1 [] [some (.inr (.inr (some o)))] s) := (mk_eq (hy := by decide) rfl).trans (nrfl rfl)
theorem dX3_push_0 : decode cX3_push 0 = .ok (.aload_n 0, 1) := by decide +kernel
theorem dX3_push_1 : decode cX3_push 1 = .ok (.getfield 7, 3) := by decide +kernel
theorem dX3_push_4 : decode cX3_push 4 = .ok (.bipush 8, 2) := by decide +kernel
theorem dX3_push_6 : decode cX3_push 6 = .ok (.iload_n 1, 1) := by decide +kernel
theorem dX3_push_7 : decode cX3_push 7 = .ok (.imul, 1) := by decide +kernel
theorem dX3_push_8 : decode cX3_push 8 = .ok (.aload_n 0, 1) := by decide +kernel
theorem dX3_push_9 : decode cX3_push 9 = .ok (.getfield 19, 3) := by decide +kernel
theorem dX3_push_12 : decode cX3_push 12 = .ok (.iadd, 1) := by decide +kernel
theorem dX3_push_13 : decode cX3_push 13 = .ok (.iload_n 2, 1) := by decide +kernel
theorem dX3_push_14 : decode cX3_push 14 = .ok (.iastore, 1) := by decide +kernel
theorem dX3_push_15 : decode cX3_push 15 = .ok (.aload_n 0, 1) := by decide +kernel
theorem dX3_push_16 : decode cX3_push 16 = .ok (.getfield 7, 3) := by decide +kernel
theorem dX3_push_19 : decode cX3_push 19 = .ok (.bipush 8, 2) := by decide +kernel
theorem dX3_push_21 : decode cX3_push 21 = .ok (.iconst 1, 1) := by decide +kernel
theorem dX3_push_22 : decode cX3_push 22 = .ok (.iload_n 1, 1) := by decide +kernel
theorem dX3_push_23 : decode cX3_push 23 = .ok (.isub, 1) := by decide +kernel
theorem dX3_push_24 : decode cX3_push 24 = .ok (.imul, 1) := by decide +kernel
theorem dX3_push_25 : decode cX3_push 25 = .ok (.aload_n 0, 1) := by decide +kernel
theorem dX3_push_26 : decode cX3_push 26 = .ok (.getfield 19, 3) := by decide +kernel
theorem dX3_push_29 : decode cX3_push 29 = .ok (.iadd, 1) := by decide +kernel
theorem dX3_push_30 : decode cX3_push 30 = .ok (.iload_n 3, 1) := by decide +kernel
theorem dX3_push_31 : decode cX3_push 31 = .ok (.iastore, 1) := by decide +kernel
theorem dX3_push_32 : decode cX3_push 32 = .ok (.aload_n 0, 1) := by decide +kernel
theorem dX3_push_33 : decode cX3_push 33 = .ok (.dup, 1) := by decide +kernel
theorem dX3_push_34 : decode cX3_push 34 = .ok (.getfield 19, 3) := by decide +kernel
theorem dX3_push_37 : decode cX3_push 37 = .ok (.iconst 1, 1) := by decide +kernel
theorem dX3_push_38 : decode cX3_push 38 = .ok (.iadd, 1) := by decide +kernel
theorem dX3_push_39 : decode cX3_push 39 = .ok (.putfield 19, 3) := by decide +kernel
theorem dX3_push_42 : decode cX3_push 42 = .ok (.return_, 1) := by decide +kernel
noncomputable def B_X3_push (l : Launch) (δ : Dl) : Seg (l, δ, yX3_push, 0, none, cX3_push, 4) 0 43 :=
  seq (p := 0) (q := 1) (r := 43) (p_aload_n 0 dX3_push_0) (seq (p := 1) (q := 4) (r := 43) (p_get [(3, 1)] (alL1 fl_X3_7_3) dX3_push_1) (seq (p := 4) (q := 6) (r := 43) (p_bipush 8 dX3_push_4 (by decide)) (seq (p := 6) (q := 7) (r := 43) (p_iload_n 1 dX3_push_6) (seq (p := 7) (q := 8) (r := 43) (p_imul dX3_push_7) (seq (p := 8) (q := 9) (r := 43) (p_aload_n 0 dX3_push_8) (seq (p := 9) (q := 12) (r := 43) (p_get [(3, 2)] (alL1 fl_X3_19_3) dX3_push_9) (seq (p := 12) (q := 13) (r := 43) (p_iadd dX3_push_12) (seq (p := 13) (q := 14) (r := 43) (p_iload_n 2 dX3_push_13) (seq (p := 14) (q := 15) (r := 43) (p_iast dX3_push_14) (seq (p := 15) (q := 16) (r := 43) (p_aload_n 0 dX3_push_15) (seq (p := 16) (q := 19) (r := 43) (p_get [(3, 1)] (alL1 fl_X3_7_3) dX3_push_16) (seq (p := 19) (q := 21) (r := 43) (p_bipush 8 dX3_push_19 (by decide)) (seq (p := 21) (q := 22) (r := 43) (p_iconst 1 dX3_push_21) (seq (p := 22) (q := 23) (r := 43) (p_iload_n 1 dX3_push_22) (seq (p := 23) (q := 24) (r := 43) (p_isub dX3_push_23) (seq (p := 24) (q := 25) (r := 43) (p_imul dX3_push_24) (seq (p := 25) (q := 26) (r := 43) (p_aload_n 0 dX3_push_25) (seq (p := 26) (q := 29) (r := 43) (p_get [(3, 2)] (alL1 fl_X3_19_3) dX3_push_26) (seq (p := 29) (q := 30) (r := 43) (p_iadd dX3_push_29) (seq (p := 30) (q := 31) (r := 43) (p_iload_n 3 dX3_push_30) (seq (p := 31) (q := 32) (r := 43) (p_iast dX3_push_31) (seq (p := 32) (q := 33) (r := 43) (p_aload_n 0 dX3_push_32) (seq (p := 33) (q := 34) (r := 43) (p_dup dX3_push_33) (seq (p := 34) (q := 37) (r := 43) (p_get [(3, 2)] (alL1 fl_X3_19_3) dX3_push_34) (seq (p := 37) (q := 38) (r := 43) (p_iconst 1 dX3_push_37) (seq (p := 38) (q := 39) (r := 43) (p_iadd dX3_push_38) (seq (p := 39) (q := 42) (r := 43) (p_put [(3, 2)] .int (alP1 fp_X3_19_3) dX3_push_39) (seq (p := 42) (q := 43) (r := 43) (p_return dX3_push_42 rfl) done))))))))))))))))))))))))))))
noncomputable def M_X3_push (l : Launch) (δ : Dl) : Mth l δ yX3_push cX3_push 4 none 0 := mk (B_X3_push l δ) (by decide)
theorem N_X3_push {l : Launch} {δ : Dl} {o : Nat} {a1 : Int} {a2 : Int} {a3 : Int} {s : St} : (M_X3_push l δ).1 [.inr (.inr (some o)), .inl a1, .inl a2, .inl a3] s = bres ((B_X3_push l δ).1 [] [some (.inr (.inr (some o))), some (.inl a1), some (.inl a2), some (.inl a3)] s) := (mk_eq (hy := by decide) rfl).trans (nrfl rfl)
theorem dX3_sideOf_0 : decode cX3_sideOf 0 = .ok (.iload_n 1, 1) := by decide +kernel
theorem dX3_sideOf_1 : decode cX3_sideOf 1 = .ok (.aload_n 0, 1) := by decide +kernel
theorem dX3_sideOf_2 : decode cX3_sideOf 2 = .ok (.getfield 15, 3) := by decide +kernel
theorem dX3_sideOf_5 : decode cX3_sideOf 5 = .ok (.iconst 0, 1) := by decide +kernel
theorem dX3_sideOf_6 : decode cX3_sideOf 6 = .ok (.aaload, 1) := by decide +kernel
theorem dX3_sideOf_7 : decode cX3_sideOf 7 = .ok (.getfield 42, 3) := by decide +kernel
theorem dX3_sideOf_10 : decode cX3_sideOf 10 = .ok (.if_icmp .ge 7, 3) := by decide +kernel
theorem dX3_sideOf_13 : decode cX3_sideOf 13 = .ok (.iconst 0, 1) := by decide +kernel
theorem dX3_sideOf_14 : decode cX3_sideOf 14 = .ok (.goto 4, 3) := by decide +kernel
theorem dX3_sideOf_17 : decode cX3_sideOf 17 = .ok (.iconst 1, 1) := by decide +kernel
theorem dX3_sideOf_18 : decode cX3_sideOf 18 = .ok (.ireturn, 1) := by decide +kernel
noncomputable def B_X3_sideOf (l : Launch) (δ : Dl) : Seg (l, δ, yX3_sideOf, 0, (some .int), cX3_sideOf, 2) 0 19 :=
  seq (p := 0) (q := 1) (r := 19) (p_iload_n 1 dX3_sideOf_0) (seq (p := 1) (q := 2) (r := 19) (p_aload_n 0 dX3_sideOf_1) (seq (p := 2) (q := 5) (r := 19) (p_get [(3, 0)] (alL1 fl_X3_15_3) dX3_sideOf_2) (seq (p := 5) (q := 6) (r := 19) (p_iconst 0 dX3_sideOf_5) (seq (p := 6) (q := 7) (r := 19) (p_aald dX3_sideOf_6) (seq (p := 7) (q := 10) (r := 19) (p_get [(2, 0)] (alL1 fl_X3_42_2) dX3_sideOf_7) (seq (p := 10) (q := 18) (r := 19) (blk (seq (p := 10) (q := 17) (r := 18) (blk (seq (p := 10) (q := 13) (r := 17) (p_icmp_ge 17 dX3_sideOf_10 (by decide)) (seq (p := 13) (q := 14) (r := 17) (p_iconst 0 dX3_sideOf_13) (seq (p := 14) (q := 17) (r := 17) (p_goto 18 dX3_sideOf_14 (by decide)) done)))) (seq (p := 17) (q := 18) (r := 18) (p_iconst 1 dX3_sideOf_17) done))) (seq (p := 18) (q := 19) (r := 19) (p_ireturn dX3_sideOf_18 rfl) done)))))))
noncomputable def M_X3_sideOf (l : Launch) (δ : Dl) : Mth l δ yX3_sideOf cX3_sideOf 2 (some .int) 0 := mk (B_X3_sideOf l δ) (by decide)
theorem N_X3_sideOf {l : Launch} {δ : Dl} {o : Nat} {a1 : Int} {s : St} : (M_X3_sideOf l δ).1 [.inr (.inr (some o)), .inl a1] s = bres ((B_X3_sideOf l δ).1 [] [some (.inr (.inr (some o))), some (.inl a1)] s) := (mk_eq (hy := by decide) rfl).trans (nrfl rfl)
theorem dX3_thingOf_0 : decode cX3_thingOf 0 = .ok (.iload_n 1, 1) := by decide +kernel
theorem dX3_thingOf_1 : decode cX3_thingOf 1 = .ok (.aload_n 0, 1) := by decide +kernel
theorem dX3_thingOf_2 : decode cX3_thingOf 2 = .ok (.getfield 15, 3) := by decide +kernel
theorem dX3_thingOf_5 : decode cX3_thingOf 5 = .ok (.iconst 0, 1) := by decide +kernel
theorem dX3_thingOf_6 : decode cX3_thingOf 6 = .ok (.aaload, 1) := by decide +kernel
theorem dX3_thingOf_7 : decode cX3_thingOf 7 = .ok (.getfield 42, 3) := by decide +kernel
theorem dX3_thingOf_10 : decode cX3_thingOf 10 = .ok (.if_icmp .ge 7, 3) := by decide +kernel
theorem dX3_thingOf_13 : decode cX3_thingOf 13 = .ok (.iload_n 1, 1) := by decide +kernel
theorem dX3_thingOf_14 : decode cX3_thingOf 14 = .ok (.goto 14, 3) := by decide +kernel
theorem dX3_thingOf_17 : decode cX3_thingOf 17 = .ok (.iload_n 1, 1) := by decide +kernel
theorem dX3_thingOf_18 : decode cX3_thingOf 18 = .ok (.aload_n 0, 1) := by decide +kernel
theorem dX3_thingOf_19 : decode cX3_thingOf 19 = .ok (.getfield 15, 3) := by decide +kernel
theorem dX3_thingOf_22 : decode cX3_thingOf 22 = .ok (.iconst 0, 1) := by decide +kernel
theorem dX3_thingOf_23 : decode cX3_thingOf 23 = .ok (.aaload, 1) := by decide +kernel
theorem dX3_thingOf_24 : decode cX3_thingOf 24 = .ok (.getfield 42, 3) := by decide +kernel
theorem dX3_thingOf_27 : decode cX3_thingOf 27 = .ok (.isub, 1) := by decide +kernel
theorem dX3_thingOf_28 : decode cX3_thingOf 28 = .ok (.ireturn, 1) := by decide +kernel
noncomputable def B_X3_thingOf (l : Launch) (δ : Dl) : Seg (l, δ, yX3_thingOf, 0, (some .int), cX3_thingOf, 2) 0 29 :=
  seq (p := 0) (q := 1) (r := 29) (p_iload_n 1 dX3_thingOf_0) (seq (p := 1) (q := 2) (r := 29) (p_aload_n 0 dX3_thingOf_1) (seq (p := 2) (q := 5) (r := 29) (p_get [(3, 0)] (alL1 fl_X3_15_3) dX3_thingOf_2) (seq (p := 5) (q := 6) (r := 29) (p_iconst 0 dX3_thingOf_5) (seq (p := 6) (q := 7) (r := 29) (p_aald dX3_thingOf_6) (seq (p := 7) (q := 10) (r := 29) (p_get [(2, 0)] (alL1 fl_X3_42_2) dX3_thingOf_7) (seq (p := 10) (q := 28) (r := 29) (blk (seq (p := 10) (q := 17) (r := 28) (blk (seq (p := 10) (q := 13) (r := 17) (p_icmp_ge 17 dX3_thingOf_10 (by decide)) (seq (p := 13) (q := 14) (r := 17) (p_iload_n 1 dX3_thingOf_13) (seq (p := 14) (q := 17) (r := 17) (p_goto 28 dX3_thingOf_14 (by decide)) done)))) (seq (p := 17) (q := 18) (r := 28) (p_iload_n 1 dX3_thingOf_17) (seq (p := 18) (q := 19) (r := 28) (p_aload_n 0 dX3_thingOf_18) (seq (p := 19) (q := 22) (r := 28) (p_get [(3, 0)] (alL1 fl_X3_15_3) dX3_thingOf_19) (seq (p := 22) (q := 23) (r := 28) (p_iconst 0 dX3_thingOf_22) (seq (p := 23) (q := 24) (r := 28) (p_aald dX3_thingOf_23) (seq (p := 24) (q := 27) (r := 28) (p_get [(2, 0)] (alL1 fl_X3_42_2) dX3_thingOf_24) (seq (p := 27) (q := 28) (r := 28) (p_isub dX3_thingOf_27) done))))))))) (seq (p := 28) (q := 29) (r := 29) (p_ireturn dX3_thingOf_28 rfl) done)))))))
noncomputable def M_X3_thingOf (l : Launch) (δ : Dl) : Mth l δ yX3_thingOf cX3_thingOf 2 (some .int) 0 := mk (B_X3_thingOf l δ) (by decide)
theorem N_X3_thingOf {l : Launch} {δ : Dl} {o : Nat} {a1 : Int} {s : St} : (M_X3_thingOf l δ).1 [.inr (.inr (some o)), .inl a1] s = bres ((B_X3_thingOf l δ).1 [] [some (.inr (.inr (some o))), some (.inl a1)] s) := (mk_eq (hy := by decide) rfl).trans (nrfl rfl)
abbrev T_kept (l : Launch) (δ : Dl) (n : Nat) : Type := Mth l δ yX3_isKept cX3_isKept 4 (some .boolean) (3 + n) × Mth l δ yX3_wins cX3_wins 6 (some .boolean) (3 + n) × Mth l δ yX3_isGood cX3_isGood 6 (some .boolean) (3 + n)
theorem dX3_isKept_0 : decode cX3_isKept 0 = .ok (.iconst 1, 1) := by decide +kernel
theorem dX3_isKept_1 : decode cX3_isKept 1 = .ok (.istore_n 2, 1) := by decide +kernel
theorem dX3_isKept_2 : decode cX3_isKept 2 = .ok (.iconst 0, 1) := by decide +kernel
theorem dX3_isKept_3 : decode cX3_isKept 3 = .ok (.istore_n 3, 1) := by decide +kernel
theorem dX3_isKept_4 : decode cX3_isKept 4 = .ok (.iload_n 1, 1) := by decide +kernel
theorem dX3_isKept_5 : decode cX3_isKept 5 = .ok (.ifCond .le 51, 3) := by decide +kernel
theorem dX3_isKept_8 : decode cX3_isKept 8 = .ok (.iload_n 3, 1) := by decide +kernel
theorem dX3_isKept_9 : decode cX3_isKept 9 = .ok (.aload_n 0, 1) := by decide +kernel
theorem dX3_isKept_10 : decode cX3_isKept 10 = .ok (.getfield 15, 3) := by decide +kernel
theorem dX3_isKept_13 : decode cX3_isKept 13 = .ok (.iconst 0, 1) := by decide +kernel
theorem dX3_isKept_14 : decode cX3_isKept 14 = .ok (.aaload, 1) := by decide +kernel
theorem dX3_isKept_15 : decode cX3_isKept 15 = .ok (.getfield 42, 3) := by decide +kernel
theorem dX3_isKept_18 : decode cX3_isKept 18 = .ok (.aload_n 0, 1) := by decide +kernel
theorem dX3_isKept_19 : decode cX3_isKept 19 = .ok (.getfield 15, 3) := by decide +kernel
theorem dX3_isKept_22 : decode cX3_isKept 22 = .ok (.iconst 1, 1) := by decide +kernel
theorem dX3_isKept_23 : decode cX3_isKept 23 = .ok (.aaload, 1) := by decide +kernel
theorem dX3_isKept_24 : decode cX3_isKept 24 = .ok (.getfield 42, 3) := by decide +kernel
theorem dX3_isKept_27 : decode cX3_isKept 27 = .ok (.iadd, 1) := by decide +kernel
theorem dX3_isKept_28 : decode cX3_isKept 28 = .ok (.if_icmp .ge 28, 3) := by decide +kernel
theorem dX3_isKept_31 : decode cX3_isKept 31 = .ok (.iload_n 2, 1) := by decide +kernel
theorem dX3_isKept_32 : decode cX3_isKept 32 = .ok (.ifCond .eq 24, 3) := by decide +kernel
theorem dX3_isKept_35 : decode cX3_isKept 35 = .ok (.aload_n 0, 1) := by decide +kernel
theorem dX3_isKept_36 : decode cX3_isKept 36 = .ok (.iload_n 3, 1) := by decide +kernel
theorem dX3_isKept_37 : decode cX3_isKept 37 = .ok (.iload_n 1, 1) := by decide +kernel
theorem dX3_isKept_38 : decode cX3_isKept 38 = .ok (.invokevirtual 45, 3) := by decide +kernel
theorem dX3_isKept_41 : decode cX3_isKept 41 = .ok (.ifCond .ne 7, 3) := by decide +kernel
theorem dX3_isKept_44 : decode cX3_isKept 44 = .ok (.iconst 1, 1) := by decide +kernel
theorem dX3_isKept_45 : decode cX3_isKept 45 = .ok (.goto 4, 3) := by decide +kernel
theorem dX3_isKept_48 : decode cX3_isKept 48 = .ok (.iconst 0, 1) := by decide +kernel
theorem dX3_isKept_49 : decode cX3_isKept 49 = .ok (.istore_n 2, 1) := by decide +kernel
theorem dX3_isKept_50 : decode cX3_isKept 50 = .ok (.iinc 3 1, 3) := by decide +kernel
theorem dX3_isKept_53 : decode cX3_isKept 53 = .ok (.goto (-49), 3) := by decide +kernel
theorem dX3_isKept_56 : decode cX3_isKept 56 = .ok (.iload_n 2, 1) := by decide +kernel
theorem dX3_isKept_57 : decode cX3_isKept 57 = .ok (.ireturn, 1) := by decide +kernel
noncomputable def C_X3_isKept_L4 (l : Launch) (δ : Dl) (n : Nat) (r : T_kept l δ n) : Seg (l, δ, yX3_isKept, 3 + (n + 1), (some .boolean), cX3_isKept, 4) 4 56 :=
  seq (p := 4) (q := 5) (r := 56) (p_iload_n 1 dX3_isKept_4) (seq (p := 5) (q := 8) (r := 56) (p_if_le 56 dX3_isKept_5 (by decide)) (seq (p := 8) (q := 9) (r := 56) (p_iload_n 3 dX3_isKept_8) (seq (p := 9) (q := 10) (r := 56) (p_aload_n 0 dX3_isKept_9) (seq (p := 10) (q := 13) (r := 56) (p_get [(3, 0)] (alL1 fl_X3_15_3) dX3_isKept_10) (seq (p := 13) (q := 14) (r := 56) (p_iconst 0 dX3_isKept_13) (seq (p := 14) (q := 15) (r := 56) (p_aald dX3_isKept_14) (seq (p := 15) (q := 18) (r := 56) (p_get [(2, 0)] (alL1 fl_X3_42_2) dX3_isKept_15) (seq (p := 18) (q := 19) (r := 56) (p_aload_n 0 dX3_isKept_18) (seq (p := 19) (q := 22) (r := 56) (p_get [(3, 0)] (alL1 fl_X3_15_3) dX3_isKept_19) (seq (p := 22) (q := 23) (r := 56) (p_iconst 1 dX3_isKept_22) (seq (p := 23) (q := 24) (r := 56) (p_aald dX3_isKept_23) (seq (p := 24) (q := 27) (r := 56) (p_get [(2, 0)] (alL1 fl_X3_42_2) dX3_isKept_24) (seq (p := 27) (q := 28) (r := 56) (p_iadd dX3_isKept_27) (seq (p := 28) (q := 31) (r := 56) (p_icmp_ge 56 dX3_isKept_28 (by decide)) (seq (p := 31) (q := 32) (r := 56) (p_iload_n 2 dX3_isKept_31) (seq (p := 32) (q := 35) (r := 56) (p_if_eq 56 dX3_isKept_32 (by decide)) (seq (p := 35) (q := 36) (r := 56) (p_aload_n 0 dX3_isKept_35) (seq (p := 36) (q := 37) (r := 56) (p_iload_n 3 dX3_isKept_36) (seq (p := 37) (q := 38) (r := 56) (p_iload_n 1 dX3_isKept_37) (seq (p := 38) (q := 41) (r := 56) (p_callG 3 _ (ok_V 3 cv_X3_45 rfl (r.2.1) (Nat.lt_succ_self _) dX3_isKept_38) (Nat.le_of_ble_eq_true rfl)) (seq (p := 41) (q := 49) (r := 56) (blk (seq (p := 41) (q := 48) (r := 49) (blk (seq (p := 41) (q := 44) (r := 48) (p_if_ne 48 dX3_isKept_41 (by decide)) (seq (p := 44) (q := 45) (r := 48) (p_iconst 1 dX3_isKept_44) (seq (p := 45) (q := 48) (r := 48) (p_goto 49 dX3_isKept_45 (by decide)) done)))) (seq (p := 48) (q := 49) (r := 49) (p_iconst 0 dX3_isKept_48) done))) (seq (p := 49) (q := 50) (r := 56) (p_istore_n 2 dX3_isKept_49 (Nat.le_of_ble_eq_true rfl)) (seq (p := 50) (q := 53) (r := 56) (p_iinc 3 1 dX3_isKept_50 (Nat.le_of_ble_eq_true rfl)) (seq (p := 53) (q := 53) (r := 56) (er [true, true, true, true]) (seq (p := 53) (q := 56) (r := 56) (p_goto 4 dX3_isKept_53 (by decide)) done)))))))))))))))))))))))))
noncomputable def B_X3_isKept_L4 (l : Launch) (δ : Dl) (n : Nat) (r : T_kept l δ n) : Seg (l, δ, yX3_isKept, 3 + (n + 1), (some .boolean), cX3_isKept, 4) 4 56 := C_X3_isKept_L4 l δ n r
theorem L_X3_isKept_4 {l : Launch} {δ : Dl} {n : Nat} {r : T_kept l δ n} {st : Stk} {L : Lc} {s : St} : (B_X3_isKept_L4 l δ n r).1 st L s = (C_X3_isKept_L4 l δ n r).1 st L s := nrfl rfl
noncomputable def B_X3_isKept (l : Launch) (δ : Dl) (n : Nat) (r : T_kept l δ n) : Seg (l, δ, yX3_isKept, 3 + (n + 1), (some .boolean), cX3_isKept, 4) 0 58 :=
  seq (p := 0) (q := 1) (r := 58) (p_iconst 1 dX3_isKept_0) (seq (p := 1) (q := 2) (r := 58) (p_istore_n 2 dX3_isKept_1 (Nat.le_of_ble_eq_true rfl)) (seq (p := 2) (q := 3) (r := 58) (p_iconst 0 dX3_isKept_2) (seq (p := 3) (q := 4) (r := 58) (p_istore_n 3 dX3_isKept_3 (Nat.le_of_ble_eq_true rfl)) (seq (p := 4) (q := 56) (r := 58) (blk (seq (p := 4) (q := 4) (r := 56) (er [true, true, true, true]) (seq (p := 4) (q := 56) (r := 56) (lp (B_X3_isKept_L4 l δ n r)) done))) (seq (p := 56) (q := 57) (r := 58) (p_iload_n 2 dX3_isKept_56) (seq (p := 57) (q := 58) (r := 58) (p_zreturn dX3_isKept_57 rfl) done))))))
theorem dX3_wins_0 : decode cX3_wins 0 = .ok (.aload_n 0, 1) := by decide +kernel
theorem dX3_wins_1 : decode cX3_wins 1 = .ok (.iload_n 1, 1) := by decide +kernel
theorem dX3_wins_2 : decode cX3_wins 2 = .ok (.invokevirtual 48, 3) := by decide +kernel
theorem dX3_wins_5 : decode cX3_wins 5 = .ok (.istore_n 3, 1) := by decide +kernel
theorem dX3_wins_6 : decode cX3_wins 6 = .ok (.iconst 1, 1) := by decide +kernel
theorem dX3_wins_7 : decode cX3_wins 7 = .ok (.istore 4, 2) := by decide +kernel
theorem dX3_wins_9 : decode cX3_wins 9 = .ok (.iconst 0, 1) := by decide +kernel
theorem dX3_wins_10 : decode cX3_wins 10 = .ok (.istore 5, 2) := by decide +kernel
theorem dX3_wins_12 : decode cX3_wins 12 = .ok (.iload 5, 2) := by decide +kernel
theorem dX3_wins_14 : decode cX3_wins 14 = .ok (.aload_n 0, 1) := by decide +kernel
theorem dX3_wins_15 : decode cX3_wins 15 = .ok (.getfield 15, 3) := by decide +kernel
theorem dX3_wins_18 : decode cX3_wins 18 = .ok (.iconst 1, 1) := by decide +kernel
theorem dX3_wins_19 : decode cX3_wins 19 = .ok (.iload_n 3, 1) := by decide +kernel
theorem dX3_wins_20 : decode cX3_wins 20 = .ok (.isub, 1) := by decide +kernel
theorem dX3_wins_21 : decode cX3_wins 21 = .ok (.aaload, 1) := by decide +kernel
theorem dX3_wins_22 : decode cX3_wins 22 = .ok (.getfield 42, 3) := by decide +kernel
theorem dX3_wins_25 : decode cX3_wins 25 = .ok (.if_icmp .ge 37, 3) := by decide +kernel
theorem dX3_wins_28 : decode cX3_wins 28 = .ok (.iload 4, 2) := by decide +kernel
theorem dX3_wins_30 : decode cX3_wins 30 = .ok (.ifCond .eq 32, 3) := by decide +kernel
theorem dX3_wins_33 : decode cX3_wins 33 = .ok (.aload_n 0, 1) := by decide +kernel
theorem dX3_wins_34 : decode cX3_wins 34 = .ok (.iload_n 3, 1) := by decide +kernel
theorem dX3_wins_35 : decode cX3_wins 35 = .ok (.aload_n 0, 1) := by decide +kernel
theorem dX3_wins_36 : decode cX3_wins 36 = .ok (.iload_n 1, 1) := by decide +kernel
theorem dX3_wins_37 : decode cX3_wins 37 = .ok (.invokevirtual 52, 3) := by decide +kernel
theorem dX3_wins_40 : decode cX3_wins 40 = .ok (.iload 5, 2) := by decide +kernel
theorem dX3_wins_42 : decode cX3_wins 42 = .ok (.iload_n 2, 1) := by decide +kernel
theorem dX3_wins_43 : decode cX3_wins 43 = .ok (.invokevirtual 55, 3) := by decide +kernel
theorem dX3_wins_46 : decode cX3_wins 46 = .ok (.ifCond .ne 7, 3) := by decide +kernel
theorem dX3_wins_49 : decode cX3_wins 49 = .ok (.iconst 1, 1) := by decide +kernel
theorem dX3_wins_50 : decode cX3_wins 50 = .ok (.goto 4, 3) := by decide +kernel
theorem dX3_wins_53 : decode cX3_wins 53 = .ok (.iconst 0, 1) := by decide +kernel
theorem dX3_wins_54 : decode cX3_wins 54 = .ok (.istore 4, 2) := by decide +kernel
theorem dX3_wins_56 : decode cX3_wins 56 = .ok (.iinc 5 1, 3) := by decide +kernel
theorem dX3_wins_59 : decode cX3_wins 59 = .ok (.goto (-47), 3) := by decide +kernel
theorem dX3_wins_62 : decode cX3_wins 62 = .ok (.iload 4, 2) := by decide +kernel
theorem dX3_wins_64 : decode cX3_wins 64 = .ok (.ireturn, 1) := by decide +kernel
noncomputable def C_X3_wins_L12 (l : Launch) (δ : Dl) (n : Nat) (r : T_kept l δ n) : Seg (l, δ, yX3_wins, 3 + (n + 1), (some .boolean), cX3_wins, 6) 12 62 :=
  seq (p := 12) (q := 14) (r := 62) (p_iload 5 dX3_wins_12) (seq (p := 14) (q := 15) (r := 62) (p_aload_n 0 dX3_wins_14) (seq (p := 15) (q := 18) (r := 62) (p_get [(3, 0)] (alL1 fl_X3_15_3) dX3_wins_15) (seq (p := 18) (q := 19) (r := 62) (p_iconst 1 dX3_wins_18) (seq (p := 19) (q := 20) (r := 62) (p_iload_n 3 dX3_wins_19) (seq (p := 20) (q := 21) (r := 62) (p_isub dX3_wins_20) (seq (p := 21) (q := 22) (r := 62) (p_aald dX3_wins_21) (seq (p := 22) (q := 25) (r := 62) (p_get [(2, 0)] (alL1 fl_X3_42_2) dX3_wins_22) (seq (p := 25) (q := 28) (r := 62) (p_icmp_ge 62 dX3_wins_25 (by decide)) (seq (p := 28) (q := 30) (r := 62) (p_iload 4 dX3_wins_28) (seq (p := 30) (q := 33) (r := 62) (p_if_eq 62 dX3_wins_30 (by decide)) (seq (p := 33) (q := 34) (r := 62) (p_aload_n 0 dX3_wins_33) (seq (p := 34) (q := 35) (r := 62) (p_iload_n 3 dX3_wins_34) (seq (p := 35) (q := 36) (r := 62) (p_aload_n 0 dX3_wins_35) (seq (p := 36) (q := 37) (r := 62) (p_iload_n 1 dX3_wins_36) (seq (p := 37) (q := 40) (r := 62) (p_callG 2 _ (ok_V 3 cv_X3_52 rfl (M_X3_thingOf l δ) (Nat.lt_of_lt_of_le (show 0 < 3 from (Nat.le_of_ble_eq_true rfl)) (Nat.le_add_right _ _)) dX3_wins_37) (Nat.le_of_ble_eq_true rfl)) (seq (p := 40) (q := 42) (r := 62) (p_iload 5 dX3_wins_40) (seq (p := 42) (q := 43) (r := 62) (p_iload_n 2 dX3_wins_42) (seq (p := 43) (q := 46) (r := 62) (p_callG 5 _ (ok_V 3 cv_X3_55 rfl (r.2.2) (Nat.lt_succ_self _) dX3_wins_43) (Nat.le_of_ble_eq_true rfl)) (seq (p := 46) (q := 54) (r := 62) (blk (seq (p := 46) (q := 53) (r := 54) (blk (seq (p := 46) (q := 49) (r := 53) (p_if_ne 53 dX3_wins_46 (by decide)) (seq (p := 49) (q := 50) (r := 53) (p_iconst 1 dX3_wins_49) (seq (p := 50) (q := 53) (r := 53) (p_goto 54 dX3_wins_50 (by decide)) done)))) (seq (p := 53) (q := 54) (r := 54) (p_iconst 0 dX3_wins_53) done))) (seq (p := 54) (q := 56) (r := 62) (p_istore 4 dX3_wins_54 (Nat.le_of_ble_eq_true rfl)) (seq (p := 56) (q := 59) (r := 62) (p_iinc 5 1 dX3_wins_56 (Nat.le_of_ble_eq_true rfl)) (seq (p := 59) (q := 59) (r := 62) (er [true, true, true, true, true, true]) (seq (p := 59) (q := 62) (r := 62) (p_goto 12 dX3_wins_59 (by decide)) done)))))))))))))))))))))))
noncomputable def B_X3_wins_L12 (l : Launch) (δ : Dl) (n : Nat) (r : T_kept l δ n) : Seg (l, δ, yX3_wins, 3 + (n + 1), (some .boolean), cX3_wins, 6) 12 62 := C_X3_wins_L12 l δ n r
theorem L_X3_wins_12 {l : Launch} {δ : Dl} {n : Nat} {r : T_kept l δ n} {st : Stk} {L : Lc} {s : St} : (B_X3_wins_L12 l δ n r).1 st L s = (C_X3_wins_L12 l δ n r).1 st L s := nrfl rfl
noncomputable def B_X3_wins (l : Launch) (δ : Dl) (n : Nat) (r : T_kept l δ n) : Seg (l, δ, yX3_wins, 3 + (n + 1), (some .boolean), cX3_wins, 6) 0 65 :=
  seq (p := 0) (q := 1) (r := 65) (p_aload_n 0 dX3_wins_0) (seq (p := 1) (q := 2) (r := 65) (p_iload_n 1 dX3_wins_1) (seq (p := 2) (q := 5) (r := 65) (p_callG 2 _ (ok_V 3 cv_X3_48 rfl (M_X3_sideOf l δ) (Nat.lt_of_lt_of_le (show 0 < 3 from (Nat.le_of_ble_eq_true rfl)) (Nat.le_add_right _ _)) dX3_wins_2) (Nat.le_of_ble_eq_true rfl)) (seq (p := 5) (q := 6) (r := 65) (p_istore_n 3 dX3_wins_5 (Nat.le_of_ble_eq_true rfl)) (seq (p := 6) (q := 7) (r := 65) (p_iconst 1 dX3_wins_6) (seq (p := 7) (q := 9) (r := 65) (p_istore 4 dX3_wins_7 (Nat.le_of_ble_eq_true rfl)) (seq (p := 9) (q := 10) (r := 65) (p_iconst 0 dX3_wins_9) (seq (p := 10) (q := 12) (r := 65) (p_istore 5 dX3_wins_10 (Nat.le_of_ble_eq_true rfl)) (seq (p := 12) (q := 62) (r := 65) (blk (seq (p := 12) (q := 12) (r := 62) (er [true, true, true, true, true, true]) (seq (p := 12) (q := 62) (r := 62) (lp (B_X3_wins_L12 l δ n r)) done))) (seq (p := 62) (q := 64) (r := 65) (p_iload 4 dX3_wins_62) (seq (p := 64) (q := 65) (r := 65) (p_zreturn dX3_wins_64 rfl) done))))))))))
theorem dX3_isGood_0 : decode cX3_isGood 0 = .ok (.aload_n 0, 1) := by decide +kernel
theorem dX3_isGood_1 : decode cX3_isGood 1 = .ok (.iload_n 1, 1) := by decide +kernel
theorem dX3_isGood_2 : decode cX3_isGood 2 = .ok (.iload_n 2, 1) := by decide +kernel
theorem dX3_isGood_3 : decode cX3_isGood 3 = .ok (.iload_n 3, 1) := by decide +kernel
theorem dX3_isGood_4 : decode cX3_isGood 4 = .ok (.invokevirtual 59, 3) := by decide +kernel
theorem dX3_isGood_7 : decode cX3_isGood 7 = .ok (.aload_n 0, 1) := by decide +kernel
theorem dX3_isGood_8 : decode cX3_isGood 8 = .ok (.invokevirtual 63, 3) := by decide +kernel
theorem dX3_isGood_11 : decode cX3_isGood 11 = .ok (.ifCond .eq 18, 3) := by decide +kernel
theorem dX3_isGood_14 : decode cX3_isGood 14 = .ok (.aload_n 0, 1) := by decide +kernel
theorem dX3_isGood_15 : decode cX3_isGood 15 = .ok (.iload 4, 2) := by decide +kernel
theorem dX3_isGood_17 : decode cX3_isGood 17 = .ok (.iconst 1, 1) := by decide +kernel
theorem dX3_isGood_18 : decode cX3_isGood 18 = .ok (.isub, 1) := by decide +kernel
theorem dX3_isGood_19 : decode cX3_isGood 19 = .ok (.invokevirtual 67, 3) := by decide +kernel
theorem dX3_isGood_22 : decode cX3_isGood 22 = .ok (.ifCond .eq 7, 3) := by decide +kernel
theorem dX3_isGood_25 : decode cX3_isGood 25 = .ok (.iconst 1, 1) := by decide +kernel
theorem dX3_isGood_26 : decode cX3_isGood 26 = .ok (.goto 4, 3) := by decide +kernel
theorem dX3_isGood_29 : decode cX3_isGood 29 = .ok (.iconst 0, 1) := by decide +kernel
theorem dX3_isGood_30 : decode cX3_isGood 30 = .ok (.istore 5, 2) := by decide +kernel
theorem dX3_isGood_32 : decode cX3_isGood 32 = .ok (.aload_n 0, 1) := by decide +kernel
theorem dX3_isGood_33 : decode cX3_isGood 33 = .ok (.invokevirtual 71, 3) := by decide +kernel
theorem dX3_isGood_36 : decode cX3_isGood 36 = .ok (.iload 5, 2) := by decide +kernel
theorem dX3_isGood_38 : decode cX3_isGood 38 = .ok (.ireturn, 1) := by decide +kernel
noncomputable def B_X3_isGood (l : Launch) (δ : Dl) (n : Nat) (r : T_kept l δ n) : Seg (l, δ, yX3_isGood, 3 + (n + 1), (some .boolean), cX3_isGood, 6) 0 39 :=
  seq (p := 0) (q := 1) (r := 39) (p_aload_n 0 dX3_isGood_0) (seq (p := 1) (q := 2) (r := 39) (p_iload_n 1 dX3_isGood_1) (seq (p := 2) (q := 3) (r := 39) (p_iload_n 2 dX3_isGood_2) (seq (p := 3) (q := 4) (r := 39) (p_iload_n 3 dX3_isGood_3) (seq (p := 4) (q := 7) (r := 39) (p_callG 4 _ (ok_V 3 cv_X3_59 rfl (M_X3_push l δ) (Nat.lt_of_lt_of_le (show 0 < 3 from (Nat.le_of_ble_eq_true rfl)) (Nat.le_add_right _ _)) dX3_isGood_4) (Nat.le_of_ble_eq_true rfl)) (seq (p := 7) (q := 8) (r := 39) (p_aload_n 0 dX3_isGood_7) (seq (p := 8) (q := 11) (r := 39) (p_callG 1 _ (ok_V 3 cv_X3_63 rfl (M_X3_isLastAlike l δ) (Nat.lt_of_lt_of_le (show 2 < 3 from (Nat.le_of_ble_eq_true rfl)) (Nat.le_add_right _ _)) dX3_isGood_8) (Nat.le_of_ble_eq_true rfl)) (seq (p := 11) (q := 30) (r := 39) (blk (seq (p := 11) (q := 29) (r := 30) (blk (seq (p := 11) (q := 14) (r := 29) (p_if_eq 29 dX3_isGood_11 (by decide)) (seq (p := 14) (q := 15) (r := 29) (p_aload_n 0 dX3_isGood_14) (seq (p := 15) (q := 17) (r := 29) (p_iload 4 dX3_isGood_15) (seq (p := 17) (q := 18) (r := 29) (p_iconst 1 dX3_isGood_17) (seq (p := 18) (q := 19) (r := 29) (p_isub dX3_isGood_18) (seq (p := 19) (q := 22) (r := 29) (p_callG 2 _ (ok_V 3 cv_X3_67 rfl (r.1) (Nat.lt_succ_self _) dX3_isGood_19) (Nat.le_of_ble_eq_true rfl)) (seq (p := 22) (q := 25) (r := 29) (p_if_eq 29 dX3_isGood_22 (by decide)) (seq (p := 25) (q := 26) (r := 29) (p_iconst 1 dX3_isGood_25) (seq (p := 26) (q := 29) (r := 29) (p_goto 30 dX3_isGood_26 (by decide)) done)))))))))) (seq (p := 29) (q := 30) (r := 30) (p_iconst 0 dX3_isGood_29) done))) (seq (p := 30) (q := 32) (r := 39) (p_istore 5 dX3_isGood_30 (Nat.le_of_ble_eq_true rfl)) (seq (p := 32) (q := 33) (r := 39) (p_aload_n 0 dX3_isGood_32) (seq (p := 33) (q := 36) (r := 39) (p_callG 1 _ (ok_V 3 cv_X3_71 rfl (M_X3_pop l δ) (Nat.lt_of_lt_of_le (show 0 < 3 from (Nat.le_of_ble_eq_true rfl)) (Nat.le_add_right _ _)) dX3_isGood_33) (Nat.le_of_ble_eq_true rfl)) (seq (p := 36) (q := 38) (r := 39) (p_iload 5 dX3_isGood_36) (seq (p := 38) (q := 39) (r := 39) (p_zreturn dX3_isGood_38 rfl) done))))))))))))
noncomputable def R_kept (l : Launch) (δ : Dl) : (n : Nat) → T_kept l δ n
  | 0 => (M_no, M_no, M_no)
  | n + 1 => (mk (B_X3_isKept l δ n (R_kept l δ n)) (by decide), mk (B_X3_wins l δ n (R_kept l δ n)) (by decide), mk (B_X3_isGood l δ n (R_kept l δ n)) (by decide))
theorem N_X3_isKept {l : Launch} {δ : Dl} {n : Nat} {o : Nat} {a1 : Int} {s : St} : ((R_kept l δ (n + 1)).1).1 [.inr (.inr (some o)), .inl a1] s = bres ((B_X3_isKept l δ n (R_kept l δ n)).1 [] [some (.inr (.inr (some o))), some (.inl a1), none, none] s) := (mk_eq (hy := by decide) rfl).trans (nrfl rfl)
theorem N_X3_wins {l : Launch} {δ : Dl} {n : Nat} {o : Nat} {a1 : Int} {a2 : Int} {s : St} : ((R_kept l δ (n + 1)).2.1).1 [.inr (.inr (some o)), .inl a1, .inl a2] s = bres ((B_X3_wins l δ n (R_kept l δ n)).1 [] [some (.inr (.inr (some o))), some (.inl a1), some (.inl a2), none, none, none] s) := (mk_eq (hy := by decide) rfl).trans (nrfl rfl)
theorem N_X3_isGood {l : Launch} {δ : Dl} {n : Nat} {o : Nat} {a1 : Int} {a2 : Int} {a3 : Int} {a4 : Int} {s : St} : ((R_kept l δ (n + 1)).2.2).1 [.inr (.inr (some o)), .inl a1, .inl a2, .inl a3, .inl a4] s = bres ((B_X3_isGood l δ n (R_kept l δ n)).1 [] [some (.inr (.inr (some o))), some (.inl a1), some (.inl a2), some (.inl a3), some (.inl a4), none] s) := (mk_eq (hy := by decide) rfl).trans (nrfl rfl)
theorem dX16_thing_0 : decode cX16_thing 0 = .ok (.iload_n 1, 1) := by decide +kernel
theorem dX16_thing_1 : decode cX16_thing 1 = .ok (.aload_n 0, 1) := by decide +kernel
theorem dX16_thing_2 : decode cX16_thing 2 = .ok (.getfield 21, 3) := by decide +kernel
theorem dX16_thing_5 : decode cX16_thing 5 = .ok (.if_icmp .ge 7, 3) := by decide +kernel
theorem dX16_thing_8 : decode cX16_thing 8 = .ok (.iload_n 1, 1) := by decide +kernel
theorem dX16_thing_9 : decode cX16_thing 9 = .ok (.goto 9, 3) := by decide +kernel
theorem dX16_thing_12 : decode cX16_thing 12 = .ok (.iload_n 1, 1) := by decide +kernel
theorem dX16_thing_13 : decode cX16_thing 13 = .ok (.aload_n 0, 1) := by decide +kernel
theorem dX16_thing_14 : decode cX16_thing 14 = .ok (.getfield 21, 3) := by decide +kernel
theorem dX16_thing_17 : decode cX16_thing 17 = .ok (.isub, 1) := by decide +kernel
theorem dX16_thing_18 : decode cX16_thing 18 = .ok (.ireturn, 1) := by decide +kernel
noncomputable def B_X16_thing (l : Launch) (δ : Dl) : Seg (l, δ, yX16_thing, 0, (some .int), cX16_thing, 2) 0 19 :=
  seq (p := 0) (q := 1) (r := 19) (p_iload_n 1 dX16_thing_0) (seq (p := 1) (q := 2) (r := 19) (p_aload_n 0 dX16_thing_1) (seq (p := 2) (q := 5) (r := 19) (p_get [(14, 2), (15, 2)] (alL2 fl_X16_21_14 fl_X16_21_15) dX16_thing_2) (seq (p := 5) (q := 18) (r := 19) (blk (seq (p := 5) (q := 12) (r := 18) (blk (seq (p := 5) (q := 8) (r := 12) (p_icmp_ge 12 dX16_thing_5 (by decide)) (seq (p := 8) (q := 9) (r := 12) (p_iload_n 1 dX16_thing_8) (seq (p := 9) (q := 12) (r := 12) (p_goto 18 dX16_thing_9 (by decide)) done)))) (seq (p := 12) (q := 13) (r := 18) (p_iload_n 1 dX16_thing_12) (seq (p := 13) (q := 14) (r := 18) (p_aload_n 0 dX16_thing_13) (seq (p := 14) (q := 17) (r := 18) (p_get [(14, 2), (15, 2)] (alL2 fl_X16_21_14 fl_X16_21_15) dX16_thing_14) (seq (p := 17) (q := 18) (r := 18) (p_isub dX16_thing_17) done)))))) (seq (p := 18) (q := 19) (r := 19) (p_ireturn dX16_thing_18 rfl) done))))
noncomputable def M_X16_thing (l : Launch) (δ : Dl) : Mth l δ yX16_thing cX16_thing 2 (some .int) 0 := mk (B_X16_thing l δ) (by decide)
theorem N_X16_thing {l : Launch} {δ : Dl} {o : Nat} {a1 : Int} {s : St} : (M_X16_thing l δ).1 [.inr (.inr (some o)), .inl a1] s = bres ((B_X16_thing l δ).1 [] [some (.inr (.inr (some o))), some (.inl a1)] s) := (mk_eq (hy := by decide) rfl).trans (nrfl rfl)
theorem dX16_isAlike_0 : decode cX16_isAlike 0 = .ok (.aload_n 0, 1) := by decide +kernel
theorem dX16_isAlike_1 : decode cX16_isAlike 1 = .ok (.iload_n 1, 1) := by decide +kernel
theorem dX16_isAlike_2 : decode cX16_isAlike 2 = .ok (.invokevirtual 24, 3) := by decide +kernel
theorem dX16_isAlike_5 : decode cX16_isAlike 5 = .ok (.aload_n 0, 1) := by decide +kernel
theorem dX16_isAlike_6 : decode cX16_isAlike 6 = .ok (.iload_n 1, 1) := by decide +kernel
theorem dX16_isAlike_7 : decode cX16_isAlike 7 = .ok (.invokevirtual 28, 3) := by decide +kernel
theorem dX16_isAlike_10 : decode cX16_isAlike 10 = .ok (.aload_n 0, 1) := by decide +kernel
theorem dX16_isAlike_11 : decode cX16_isAlike 11 = .ok (.iload_n 2, 1) := by decide +kernel
theorem dX16_isAlike_12 : decode cX16_isAlike 12 = .ok (.invokevirtual 24, 3) := by decide +kernel
theorem dX16_isAlike_15 : decode cX16_isAlike 15 = .ok (.aload_n 0, 1) := by decide +kernel
theorem dX16_isAlike_16 : decode cX16_isAlike 16 = .ok (.iload_n 2, 1) := by decide +kernel
theorem dX16_isAlike_17 : decode cX16_isAlike 17 = .ok (.invokevirtual 28, 3) := by decide +kernel
theorem dX16_isAlike_20 : decode cX16_isAlike 20 = .ok (.invokestatic 32, 3) := by decide +kernel
theorem dX16_isAlike_23 : decode cX16_isAlike 23 = .ok (.ireturn, 1) := by decide +kernel
noncomputable def B_X16_isAlike (l : Launch) (δ : Dl) : Seg (l, δ, yX16_isAlike, 2, (some .boolean), cX16_isAlike, 3) 0 24 :=
  seq (p := 0) (q := 1) (r := 24) (p_aload_n 0 dX16_isAlike_0) (seq (p := 1) (q := 2) (r := 24) (p_iload_n 1 dX16_isAlike_1) (seq (p := 2) (q := 5) (r := 24) (p_callG 2 _ (ok_U 14 cu_X16_24_14 rfl (M_X15_of l δ) (Nat.le_of_ble_eq_true rfl) dX16_isAlike_2) (Nat.le_of_ble_eq_true rfl)) (seq (p := 5) (q := 6) (r := 24) (p_aload_n 0 dX16_isAlike_5) (seq (p := 6) (q := 7) (r := 24) (p_iload_n 1 dX16_isAlike_6) (seq (p := 7) (q := 10) (r := 24) (p_callG 2 _ (ok_V 14 cv_X16_28 rfl (M_X16_thing l δ) (Nat.le_of_ble_eq_true rfl) dX16_isAlike_7) (Nat.le_of_ble_eq_true rfl)) (seq (p := 10) (q := 11) (r := 24) (p_aload_n 0 dX16_isAlike_10) (seq (p := 11) (q := 12) (r := 24) (p_iload_n 2 dX16_isAlike_11) (seq (p := 12) (q := 15) (r := 24) (p_callG 2 _ (ok_U 14 cu_X16_24_14 rfl (M_X15_of l δ) (Nat.le_of_ble_eq_true rfl) dX16_isAlike_12) (Nat.le_of_ble_eq_true rfl)) (seq (p := 15) (q := 16) (r := 24) (p_aload_n 0 dX16_isAlike_15) (seq (p := 16) (q := 17) (r := 24) (p_iload_n 2 dX16_isAlike_16) (seq (p := 17) (q := 20) (r := 24) (p_callG 2 _ (ok_V 14 cv_X16_28 rfl (M_X16_thing l δ) (Nat.le_of_ble_eq_true rfl) dX16_isAlike_17) (Nat.le_of_ble_eq_true rfl)) (seq (p := 20) (q := 23) (r := 24) (p_callG 4 _ (ok_SI csi_X16_32 (M_X15_isOneAlike l δ) (Nat.le_of_ble_eq_true rfl) dX16_isAlike_20) (Nat.le_of_ble_eq_true rfl)) (seq (p := 23) (q := 24) (r := 24) (p_zreturn dX16_isAlike_23 rfl) done)))))))))))))
noncomputable def M_X16_isAlike (l : Launch) (δ : Dl) : Mth l δ yX16_isAlike cX16_isAlike 3 (some .boolean) 2 := mk (B_X16_isAlike l δ) (by decide)
theorem N_X16_isAlike {l : Launch} {δ : Dl} {o : Nat} {a1 : Int} {a2 : Int} {s : St} : (M_X16_isAlike l δ).1 [.inr (.inr (some o)), .inl a1, .inl a2] s = bres ((B_X16_isAlike l δ).1 [] [some (.inr (.inr (some o))), some (.inl a1), some (.inl a2)] s) := (mk_eq (hy := by decide) rfl).trans (nrfl rfl)
theorem dX16_place_0 : decode cX16_place 0 = .ok (.iload_n 1, 1) := by decide +kernel
theorem dX16_place_1 : decode cX16_place 1 = .ok (.aload_n 0, 1) := by decide +kernel
theorem dX16_place_2 : decode cX16_place 2 = .ok (.getfield 21, 3) := by decide +kernel
theorem dX16_place_5 : decode cX16_place 5 = .ok (.if_icmp .ge 7, 3) := by decide +kernel
theorem dX16_place_8 : decode cX16_place 8 = .ok (.iload_n 2, 1) := by decide +kernel
theorem dX16_place_9 : decode cX16_place 9 = .ok (.goto 9, 3) := by decide +kernel
theorem dX16_place_12 : decode cX16_place 12 = .ok (.aload_n 0, 1) := by decide +kernel
theorem dX16_place_13 : decode cX16_place 13 = .ok (.getfield 21, 3) := by decide +kernel
theorem dX16_place_16 : decode cX16_place 16 = .ok (.iload_n 2, 1) := by decide +kernel
theorem dX16_place_17 : decode cX16_place 17 = .ok (.iadd, 1) := by decide +kernel
theorem dX16_place_18 : decode cX16_place 18 = .ok (.ireturn, 1) := by decide +kernel
noncomputable def B_X16_place (l : Launch) (δ : Dl) : Seg (l, δ, yX16_place, 0, (some .int), cX16_place, 3) 0 19 :=
  seq (p := 0) (q := 1) (r := 19) (p_iload_n 1 dX16_place_0) (seq (p := 1) (q := 2) (r := 19) (p_aload_n 0 dX16_place_1) (seq (p := 2) (q := 5) (r := 19) (p_get [(14, 2), (15, 2)] (alL2 fl_X16_21_14 fl_X16_21_15) dX16_place_2) (seq (p := 5) (q := 18) (r := 19) (blk (seq (p := 5) (q := 12) (r := 18) (blk (seq (p := 5) (q := 8) (r := 12) (p_icmp_ge 12 dX16_place_5 (by decide)) (seq (p := 8) (q := 9) (r := 12) (p_iload_n 2 dX16_place_8) (seq (p := 9) (q := 12) (r := 12) (p_goto 18 dX16_place_9 (by decide)) done)))) (seq (p := 12) (q := 13) (r := 18) (p_aload_n 0 dX16_place_12) (seq (p := 13) (q := 16) (r := 18) (p_get [(14, 2), (15, 2)] (alL2 fl_X16_21_14 fl_X16_21_15) dX16_place_13) (seq (p := 16) (q := 17) (r := 18) (p_iload_n 2 dX16_place_16) (seq (p := 17) (q := 18) (r := 18) (p_iadd dX16_place_17) done)))))) (seq (p := 18) (q := 19) (r := 19) (p_ireturn dX16_place_18 rfl) done))))
noncomputable def M_X16_place (l : Launch) (δ : Dl) : Mth l δ yX16_place cX16_place 3 (some .int) 0 := mk (B_X16_place l δ) (by decide)
theorem N_X16_place {l : Launch} {δ : Dl} {o : Nat} {a1 : Int} {a2 : Int} {s : St} : (M_X16_place l δ).1 [.inr (.inr (some o)), .inl a1, .inl a2] s = bres ((B_X16_place l δ).1 [] [some (.inr (.inr (some o))), some (.inl a1), some (.inl a2)] s) := (mk_eq (hy := by decide) rfl).trans (nrfl rfl)
theorem dX16_prepare_0 : decode cX16_prepare 0 = .ok (.iconst 0, 1) := by decide +kernel
theorem dX16_prepare_1 : decode cX16_prepare 1 = .ok (.istore_n 1, 1) := by decide +kernel
theorem dX16_prepare_2 : decode cX16_prepare 2 = .ok (.iload_n 1, 1) := by decide +kernel
theorem dX16_prepare_3 : decode cX16_prepare 3 = .ok (.aload_n 0, 1) := by decide +kernel
theorem dX16_prepare_4 : decode cX16_prepare 4 = .ok (.getfield 15, 3) := by decide +kernel
theorem dX16_prepare_7 : decode cX16_prepare 7 = .ok (.arraylength, 1) := by decide +kernel
theorem dX16_prepare_8 : decode cX16_prepare 8 = .ok (.if_icmp .ge 16, 3) := by decide +kernel
theorem dX16_prepare_11 : decode cX16_prepare 11 = .ok (.aload_n 0, 1) := by decide +kernel
theorem dX16_prepare_12 : decode cX16_prepare 12 = .ok (.getfield 15, 3) := by decide +kernel
theorem dX16_prepare_15 : decode cX16_prepare 15 = .ok (.iload_n 1, 1) := by decide +kernel
theorem dX16_prepare_16 : decode cX16_prepare 16 = .ok (.iconst 0, 1) := by decide +kernel
theorem dX16_prepare_17 : decode cX16_prepare 17 = .ok (.iastore, 1) := by decide +kernel
theorem dX16_prepare_18 : decode cX16_prepare 18 = .ok (.iinc 1 1, 3) := by decide +kernel
theorem dX16_prepare_21 : decode cX16_prepare 21 = .ok (.goto (-19), 3) := by decide +kernel
theorem dX16_prepare_24 : decode cX16_prepare 24 = .ok (.iconst 0, 1) := by decide +kernel
theorem dX16_prepare_25 : decode cX16_prepare 25 = .ok (.istore_n 1, 1) := by decide +kernel
theorem dX16_prepare_26 : decode cX16_prepare 26 = .ok (.iload_n 1, 1) := by decide +kernel
theorem dX16_prepare_27 : decode cX16_prepare 27 = .ok (.aload_n 0, 1) := by decide +kernel
theorem dX16_prepare_28 : decode cX16_prepare 28 = .ok (.getfield 36, 3) := by decide +kernel
theorem dX16_prepare_31 : decode cX16_prepare 31 = .ok (.if_icmp .ge 112, 3) := by decide +kernel
theorem dX16_prepare_34 : decode cX16_prepare 34 = .ok (.iconst 0, 1) := by decide +kernel
theorem dX16_prepare_35 : decode cX16_prepare 35 = .ok (.istore_n 2, 1) := by decide +kernel
theorem dX16_prepare_36 : decode cX16_prepare 36 = .ok (.iload_n 2, 1) := by decide +kernel
theorem dX16_prepare_37 : decode cX16_prepare 37 = .ok (.aload_n 0, 1) := by decide +kernel
theorem dX16_prepare_38 : decode cX16_prepare 38 = .ok (.iload_n 1, 1) := by decide +kernel
theorem dX16_prepare_39 : decode cX16_prepare 39 = .ok (.invokevirtual 24, 3) := by decide +kernel
theorem dX16_prepare_42 : decode cX16_prepare 42 = .ok (.getfield 3, 3) := by decide +kernel
theorem dX16_prepare_45 : decode cX16_prepare 45 = .ok (.if_icmp .ge 92, 3) := by decide +kernel
theorem dX16_prepare_48 : decode cX16_prepare 48 = .ok (.bipush 24, 2) := by decide +kernel
theorem dX16_prepare_50 : decode cX16_prepare 50 = .ok (.iload_n 1, 1) := by decide +kernel
theorem dX16_prepare_51 : decode cX16_prepare 51 = .ok (.imul, 1) := by decide +kernel
theorem dX16_prepare_52 : decode cX16_prepare 52 = .ok (.iconst 2, 1) := by decide +kernel
theorem dX16_prepare_53 : decode cX16_prepare 53 = .ok (.aload_n 0, 1) := by decide +kernel
theorem dX16_prepare_54 : decode cX16_prepare 54 = .ok (.getfield 39, 3) := by decide +kernel
theorem dX16_prepare_57 : decode cX16_prepare 57 = .ok (.aload_n 0, 1) := by decide +kernel
theorem dX16_prepare_58 : decode cX16_prepare 58 = .ok (.iload_n 1, 1) := by decide +kernel
theorem dX16_prepare_59 : decode cX16_prepare 59 = .ok (.iload_n 2, 1) := by decide +kernel
theorem dX16_prepare_60 : decode cX16_prepare 60 = .ok (.invokevirtual 42, 3) := by decide +kernel
theorem dX16_prepare_63 : decode cX16_prepare 63 = .ok (.iaload, 1) := by decide +kernel
theorem dX16_prepare_64 : decode cX16_prepare 64 = .ok (.imul, 1) := by decide +kernel
theorem dX16_prepare_65 : decode cX16_prepare 65 = .ok (.iadd, 1) := by decide +kernel
theorem dX16_prepare_66 : decode cX16_prepare 66 = .ok (.istore_n 3, 1) := by decide +kernel
theorem dX16_prepare_67 : decode cX16_prepare 67 = .ok (.aload_n 0, 1) := by decide +kernel
theorem dX16_prepare_68 : decode cX16_prepare 68 = .ok (.getfield 15, 3) := by decide +kernel
theorem dX16_prepare_71 : decode cX16_prepare 71 = .ok (.iload_n 3, 1) := by decide +kernel
theorem dX16_prepare_72 : decode cX16_prepare 72 = .ok (.dup2, 1) := by decide +kernel
theorem dX16_prepare_73 : decode cX16_prepare 73 = .ok (.iaload, 1) := by decide +kernel
theorem dX16_prepare_74 : decode cX16_prepare 74 = .ok (.aload_n 0, 1) := by decide +kernel
theorem dX16_prepare_75 : decode cX16_prepare 75 = .ok (.iload_n 1, 1) := by decide +kernel
theorem dX16_prepare_76 : decode cX16_prepare 76 = .ok (.invokevirtual 24, 3) := by decide +kernel
theorem dX16_prepare_79 : decode cX16_prepare 79 = .ok (.aload_n 0, 1) := by decide +kernel
theorem dX16_prepare_80 : decode cX16_prepare 80 = .ok (.iload_n 1, 1) := by decide +kernel
theorem dX16_prepare_81 : decode cX16_prepare 81 = .ok (.invokevirtual 28, 3) := by decide +kernel
theorem dX16_prepare_84 : decode cX16_prepare 84 = .ok (.iload_n 2, 1) := by decide +kernel
theorem dX16_prepare_85 : decode cX16_prepare 85 = .ok (.invokevirtual 46, 3) := by decide +kernel
theorem dX16_prepare_88 : decode cX16_prepare 88 = .ok (.ifCond .eq 7, 3) := by decide +kernel
theorem dX16_prepare_91 : decode cX16_prepare 91 = .ok (.iconst 1, 1) := by decide +kernel
theorem dX16_prepare_92 : decode cX16_prepare 92 = .ok (.goto 4, 3) := by decide +kernel
theorem dX16_prepare_95 : decode cX16_prepare 95 = .ok (.iconst 0, 1) := by decide +kernel
theorem dX16_prepare_96 : decode cX16_prepare 96 = .ok (.iadd, 1) := by decide +kernel
theorem dX16_prepare_97 : decode cX16_prepare 97 = .ok (.iastore, 1) := by decide +kernel
theorem dX16_prepare_98 : decode cX16_prepare 98 = .ok (.aload_n 0, 1) := by decide +kernel
theorem dX16_prepare_99 : decode cX16_prepare 99 = .ok (.getfield 15, 3) := by decide +kernel
theorem dX16_prepare_102 : decode cX16_prepare 102 = .ok (.iload_n 3, 1) := by decide +kernel
theorem dX16_prepare_103 : decode cX16_prepare 103 = .ok (.iconst 1, 1) := by decide +kernel
theorem dX16_prepare_104 : decode cX16_prepare 104 = .ok (.iadd, 1) := by decide +kernel
theorem dX16_prepare_105 : decode cX16_prepare 105 = .ok (.dup2, 1) := by decide +kernel
theorem dX16_prepare_106 : decode cX16_prepare 106 = .ok (.iaload, 1) := by decide +kernel
theorem dX16_prepare_107 : decode cX16_prepare 107 = .ok (.aload_n 0, 1) := by decide +kernel
theorem dX16_prepare_108 : decode cX16_prepare 108 = .ok (.iload_n 1, 1) := by decide +kernel
theorem dX16_prepare_109 : decode cX16_prepare 109 = .ok (.invokevirtual 24, 3) := by decide +kernel
theorem dX16_prepare_112 : decode cX16_prepare 112 = .ok (.iload_n 2, 1) := by decide +kernel
theorem dX16_prepare_113 : decode cX16_prepare 113 = .ok (.aload_n 0, 1) := by decide +kernel
theorem dX16_prepare_114 : decode cX16_prepare 114 = .ok (.iload_n 1, 1) := by decide +kernel
theorem dX16_prepare_115 : decode cX16_prepare 115 = .ok (.invokevirtual 28, 3) := by decide +kernel
theorem dX16_prepare_118 : decode cX16_prepare 118 = .ok (.invokevirtual 46, 3) := by decide +kernel
theorem dX16_prepare_121 : decode cX16_prepare 121 = .ok (.ifCond .eq 7, 3) := by decide +kernel
theorem dX16_prepare_124 : decode cX16_prepare 124 = .ok (.iconst 1, 1) := by decide +kernel
theorem dX16_prepare_125 : decode cX16_prepare 125 = .ok (.goto 4, 3) := by decide +kernel
theorem dX16_prepare_128 : decode cX16_prepare 128 = .ok (.iconst 0, 1) := by decide +kernel
theorem dX16_prepare_129 : decode cX16_prepare 129 = .ok (.iadd, 1) := by decide +kernel
theorem dX16_prepare_130 : decode cX16_prepare 130 = .ok (.iastore, 1) := by decide +kernel
theorem dX16_prepare_131 : decode cX16_prepare 131 = .ok (.iinc 2 1, 3) := by decide +kernel
theorem dX16_prepare_134 : decode cX16_prepare 134 = .ok (.goto (-98), 3) := by decide +kernel
theorem dX16_prepare_137 : decode cX16_prepare 137 = .ok (.iinc 1 1, 3) := by decide +kernel
theorem dX16_prepare_140 : decode cX16_prepare 140 = .ok (.goto (-114), 3) := by decide +kernel
theorem dX16_prepare_143 : decode cX16_prepare 143 = .ok (.return_, 1) := by decide +kernel
noncomputable def C_X16_prepare_L2 (l : Launch) (δ : Dl) : Seg (l, δ, yX16_prepare, 1, none, cX16_prepare, 4) 2 24 :=
  seq (p := 2) (q := 3) (r := 24) (p_iload_n 1 dX16_prepare_2) (seq (p := 3) (q := 4) (r := 24) (p_aload_n 0 dX16_prepare_3) (seq (p := 4) (q := 7) (r := 24) (p_get [(14, 7)] (alL1 fl_X16_15_14) dX16_prepare_4) (seq (p := 7) (q := 8) (r := 24) (p_alen dX16_prepare_7) (seq (p := 8) (q := 11) (r := 24) (p_icmp_ge 24 dX16_prepare_8 (by decide)) (seq (p := 11) (q := 12) (r := 24) (p_aload_n 0 dX16_prepare_11) (seq (p := 12) (q := 15) (r := 24) (p_get [(14, 7)] (alL1 fl_X16_15_14) dX16_prepare_12) (seq (p := 15) (q := 16) (r := 24) (p_iload_n 1 dX16_prepare_15) (seq (p := 16) (q := 17) (r := 24) (p_iconst 0 dX16_prepare_16) (seq (p := 17) (q := 18) (r := 24) (p_iast dX16_prepare_17) (seq (p := 18) (q := 21) (r := 24) (p_iinc 1 1 dX16_prepare_18 (Nat.le_of_ble_eq_true rfl)) (seq (p := 21) (q := 21) (r := 24) (er [true, true, false, false]) (seq (p := 21) (q := 24) (r := 24) (p_goto 2 dX16_prepare_21 (by decide)) done))))))))))))
noncomputable def B_X16_prepare_L2 (l : Launch) (δ : Dl) : Seg (l, δ, yX16_prepare, 1, none, cX16_prepare, 4) 2 24 := C_X16_prepare_L2 l δ
theorem L_X16_prepare_2 {l : Launch} {δ : Dl} {st : Stk} {L : Lc} {s : St} : (B_X16_prepare_L2 l δ).1 st L s = (C_X16_prepare_L2 l δ).1 st L s := nrfl rfl
noncomputable def C_X16_prepare_L36 (l : Launch) (δ : Dl) : Seg (l, δ, yX16_prepare, 1, none, cX16_prepare, 4) 36 137 :=
  seq (p := 36) (q := 37) (r := 137) (p_iload_n 2 dX16_prepare_36) (seq (p := 37) (q := 38) (r := 137) (p_aload_n 0 dX16_prepare_37) (seq (p := 38) (q := 39) (r := 137) (p_iload_n 1 dX16_prepare_38) (seq (p := 39) (q := 42) (r := 137) (p_callG 2 _ (ok_U 14 cu_X16_24_14 rfl (M_X15_of l δ) (Nat.le_of_ble_eq_true rfl) dX16_prepare_39) (Nat.le_of_ble_eq_true rfl)) (seq (p := 42) (q := 45) (r := 137) (p_get [(2, 0)] (alL1 fl_X16_3_2) dX16_prepare_42) (seq (p := 45) (q := 48) (r := 137) (p_icmp_ge 137 dX16_prepare_45 (by decide)) (seq (p := 48) (q := 50) (r := 137) (p_bipush 24 dX16_prepare_48 (by decide)) (seq (p := 50) (q := 51) (r := 137) (p_iload_n 1 dX16_prepare_50) (seq (p := 51) (q := 52) (r := 137) (p_imul dX16_prepare_51) (seq (p := 52) (q := 53) (r := 137) (p_iconst 2 dX16_prepare_52) (seq (p := 53) (q := 54) (r := 137) (p_aload_n 0 dX16_prepare_53) (seq (p := 54) (q := 57) (r := 137) (p_get [(14, 4), (15, 4)] (alL2 fl_X16_39_14 fl_X16_39_15) dX16_prepare_54) (seq (p := 57) (q := 58) (r := 137) (p_aload_n 0 dX16_prepare_57) (seq (p := 58) (q := 59) (r := 137) (p_iload_n 1 dX16_prepare_58) (seq (p := 59) (q := 60) (r := 137) (p_iload_n 2 dX16_prepare_59) (seq (p := 60) (q := 63) (r := 137) (p_callG 3 _ (ok_V 14 cv_X16_42 rfl (M_X16_place l δ) (Nat.le_of_ble_eq_true rfl) dX16_prepare_60) (Nat.le_of_ble_eq_true rfl)) (seq (p := 63) (q := 64) (r := 137) (p_iald dX16_prepare_63) (seq (p := 64) (q := 65) (r := 137) (p_imul dX16_prepare_64) (seq (p := 65) (q := 66) (r := 137) (p_iadd dX16_prepare_65) (seq (p := 66) (q := 67) (r := 137) (p_istore_n 3 dX16_prepare_66 (Nat.le_of_ble_eq_true rfl)) (seq (p := 67) (q := 68) (r := 137) (p_aload_n 0 dX16_prepare_67) (seq (p := 68) (q := 71) (r := 137) (p_get [(14, 7)] (alL1 fl_X16_15_14) dX16_prepare_68) (seq (p := 71) (q := 72) (r := 137) (p_iload_n 3 dX16_prepare_71) (seq (p := 72) (q := 73) (r := 137) (p_dup2 dX16_prepare_72) (seq (p := 73) (q := 74) (r := 137) (p_iald dX16_prepare_73) (seq (p := 74) (q := 75) (r := 137) (p_aload_n 0 dX16_prepare_74) (seq (p := 75) (q := 76) (r := 137) (p_iload_n 1 dX16_prepare_75) (seq (p := 76) (q := 79) (r := 137) (p_callG 2 _ (ok_U 14 cu_X16_24_14 rfl (M_X15_of l δ) (Nat.le_of_ble_eq_true rfl) dX16_prepare_76) (Nat.le_of_ble_eq_true rfl)) (seq (p := 79) (q := 80) (r := 137) (p_aload_n 0 dX16_prepare_79) (seq (p := 80) (q := 81) (r := 137) (p_iload_n 1 dX16_prepare_80) (seq (p := 81) (q := 84) (r := 137) (p_callG 2 _ (ok_V 14 cv_X16_28 rfl (M_X16_thing l δ) (Nat.le_of_ble_eq_true rfl) dX16_prepare_81) (Nat.le_of_ble_eq_true rfl)) (seq (p := 84) (q := 85) (r := 137) (p_iload_n 2 dX16_prepare_84) (seq (p := 85) (q := 88) (r := 137) (p_callG 3 _ (ok_V 2 cv_X16_46 rfl (M_X2_isTied l δ) (Nat.le_of_ble_eq_true rfl) dX16_prepare_85) (Nat.le_of_ble_eq_true rfl)) (seq (p := 88) (q := 96) (r := 137) (blk (seq (p := 88) (q := 95) (r := 96) (blk (seq (p := 88) (q := 91) (r := 95) (p_if_eq 95 dX16_prepare_88 (by decide)) (seq (p := 91) (q := 92) (r := 95) (p_iconst 1 dX16_prepare_91) (seq (p := 92) (q := 95) (r := 95) (p_goto 96 dX16_prepare_92 (by decide)) done)))) (seq (p := 95) (q := 96) (r := 96) (p_iconst 0 dX16_prepare_95) done))) (seq (p := 96) (q := 97) (r := 137) (p_iadd dX16_prepare_96) (seq (p := 97) (q := 98) (r := 137) (p_iast dX16_prepare_97) (seq (p := 98) (q := 99) (r := 137) (p_aload_n 0 dX16_prepare_98) (seq (p := 99) (q := 102) (r := 137) (p_get [(14, 7)] (alL1 fl_X16_15_14) dX16_prepare_99) (seq (p := 102) (q := 103) (r := 137) (p_iload_n 3 dX16_prepare_102) (seq (p := 103) (q := 104) (r := 137) (p_iconst 1 dX16_prepare_103) (seq (p := 104) (q := 105) (r := 137) (p_iadd dX16_prepare_104) (seq (p := 105) (q := 106) (r := 137) (p_dup2 dX16_prepare_105) (seq (p := 106) (q := 107) (r := 137) (p_iald dX16_prepare_106) (seq (p := 107) (q := 108) (r := 137) (p_aload_n 0 dX16_prepare_107) (seq (p := 108) (q := 109) (r := 137) (p_iload_n 1 dX16_prepare_108) (seq (p := 109) (q := 112) (r := 137) (p_callG 2 _ (ok_U 14 cu_X16_24_14 rfl (M_X15_of l δ) (Nat.le_of_ble_eq_true rfl) dX16_prepare_109) (Nat.le_of_ble_eq_true rfl)) (seq (p := 112) (q := 113) (r := 137) (p_iload_n 2 dX16_prepare_112) (seq (p := 113) (q := 114) (r := 137) (p_aload_n 0 dX16_prepare_113) (seq (p := 114) (q := 115) (r := 137) (p_iload_n 1 dX16_prepare_114) (seq (p := 115) (q := 118) (r := 137) (p_callG 2 _ (ok_V 14 cv_X16_28 rfl (M_X16_thing l δ) (Nat.le_of_ble_eq_true rfl) dX16_prepare_115) (Nat.le_of_ble_eq_true rfl)) (seq (p := 118) (q := 121) (r := 137) (p_callG 3 _ (ok_V 2 cv_X16_46 rfl (M_X2_isTied l δ) (Nat.le_of_ble_eq_true rfl) dX16_prepare_118) (Nat.le_of_ble_eq_true rfl)) (seq (p := 121) (q := 129) (r := 137) (blk (seq (p := 121) (q := 128) (r := 129) (blk (seq (p := 121) (q := 124) (r := 128) (p_if_eq 128 dX16_prepare_121 (by decide)) (seq (p := 124) (q := 125) (r := 128) (p_iconst 1 dX16_prepare_124) (seq (p := 125) (q := 128) (r := 128) (p_goto 129 dX16_prepare_125 (by decide)) done)))) (seq (p := 128) (q := 129) (r := 129) (p_iconst 0 dX16_prepare_128) done))) (seq (p := 129) (q := 130) (r := 137) (p_iadd dX16_prepare_129) (seq (p := 130) (q := 131) (r := 137) (p_iast dX16_prepare_130) (seq (p := 131) (q := 134) (r := 137) (p_iinc 2 1 dX16_prepare_131 (Nat.le_of_ble_eq_true rfl)) (seq (p := 134) (q := 134) (r := 137) (er [true, true, true, false]) (seq (p := 134) (q := 137) (r := 137) (p_goto 36 dX16_prepare_134 (by decide)) done))))))))))))))))))))))))))))))))))))))))))))))))))))))))
noncomputable def B_X16_prepare_L36 (l : Launch) (δ : Dl) : Seg (l, δ, yX16_prepare, 1, none, cX16_prepare, 4) 36 137 := C_X16_prepare_L36 l δ
theorem L_X16_prepare_36 {l : Launch} {δ : Dl} {st : Stk} {L : Lc} {s : St} : (B_X16_prepare_L36 l δ).1 st L s = (C_X16_prepare_L36 l δ).1 st L s := nrfl rfl
noncomputable def C_X16_prepare_L26 (l : Launch) (δ : Dl) : Seg (l, δ, yX16_prepare, 1, none, cX16_prepare, 4) 26 143 :=
  seq (p := 26) (q := 27) (r := 143) (p_iload_n 1 dX16_prepare_26) (seq (p := 27) (q := 28) (r := 143) (p_aload_n 0 dX16_prepare_27) (seq (p := 28) (q := 31) (r := 143) (p_get [(14, 3), (15, 3)] (alL2 fl_X16_36_14 fl_X16_36_15) dX16_prepare_28) (seq (p := 31) (q := 34) (r := 143) (p_icmp_ge 143 dX16_prepare_31 (by decide)) (seq (p := 34) (q := 35) (r := 143) (p_iconst 0 dX16_prepare_34) (seq (p := 35) (q := 36) (r := 143) (p_istore_n 2 dX16_prepare_35 (Nat.le_of_ble_eq_true rfl)) (seq (p := 36) (q := 137) (r := 143) (blk (seq (p := 36) (q := 36) (r := 137) (er [true, true, true, false]) (seq (p := 36) (q := 137) (r := 137) (lp (B_X16_prepare_L36 l δ)) done))) (seq (p := 137) (q := 140) (r := 143) (p_iinc 1 1 dX16_prepare_137 (Nat.le_of_ble_eq_true rfl)) (seq (p := 140) (q := 140) (r := 143) (er [true, true, false, false]) (seq (p := 140) (q := 143) (r := 143) (p_goto 26 dX16_prepare_140 (by decide)) done)))))))))
noncomputable def B_X16_prepare_L26 (l : Launch) (δ : Dl) : Seg (l, δ, yX16_prepare, 1, none, cX16_prepare, 4) 26 143 := C_X16_prepare_L26 l δ
theorem L_X16_prepare_26 {l : Launch} {δ : Dl} {st : Stk} {L : Lc} {s : St} : (B_X16_prepare_L26 l δ).1 st L s = (C_X16_prepare_L26 l δ).1 st L s := nrfl rfl
noncomputable def B_X16_prepare (l : Launch) (δ : Dl) : Seg (l, δ, yX16_prepare, 1, none, cX16_prepare, 4) 0 144 :=
  seq (p := 0) (q := 1) (r := 144) (p_iconst 0 dX16_prepare_0) (seq (p := 1) (q := 2) (r := 144) (p_istore_n 1 dX16_prepare_1 (Nat.le_of_ble_eq_true rfl)) (seq (p := 2) (q := 24) (r := 144) (blk (seq (p := 2) (q := 2) (r := 24) (er [true, true, false, false]) (seq (p := 2) (q := 24) (r := 24) (lp (B_X16_prepare_L2 l δ)) done))) (seq (p := 24) (q := 25) (r := 144) (p_iconst 0 dX16_prepare_24) (seq (p := 25) (q := 26) (r := 144) (p_istore_n 1 dX16_prepare_25 (Nat.le_of_ble_eq_true rfl)) (seq (p := 26) (q := 143) (r := 144) (blk (seq (p := 26) (q := 26) (r := 143) (er [true, true, false, false]) (seq (p := 26) (q := 143) (r := 143) (lp (B_X16_prepare_L26 l δ)) done))) (seq (p := 143) (q := 144) (r := 144) (p_return dX16_prepare_143 rfl) done))))))
noncomputable def M_X16_prepare (l : Launch) (δ : Dl) : Mth l δ yX16_prepare cX16_prepare 4 none 1 := mk (B_X16_prepare l δ) (by decide)
theorem N_X16_prepare {l : Launch} {δ : Dl} {o : Nat} {s : St} : (M_X16_prepare l δ).1 [.inr (.inr (some o))] s = bres ((B_X16_prepare l δ).1 [] [some (.inr (.inr (some o))), none, none, none] s) := (mk_eq (hy := by decide) rfl).trans (nrfl rfl)
theorem dX16_stays_0 : decode cX16_stays 0 = .ok (.iconst 1, 1) := by decide +kernel
theorem dX16_stays_1 : decode cX16_stays 1 = .ok (.istore_n 3, 1) := by decide +kernel
theorem dX16_stays_2 : decode cX16_stays 2 = .ok (.iconst 0, 1) := by decide +kernel
theorem dX16_stays_3 : decode cX16_stays 3 = .ok (.istore 4, 2) := by decide +kernel
theorem dX16_stays_5 : decode cX16_stays 5 = .ok (.iload 4, 2) := by decide +kernel
theorem dX16_stays_7 : decode cX16_stays 7 = .ok (.bipush 24, 2) := by decide +kernel
theorem dX16_stays_9 : decode cX16_stays 9 = .ok (.if_icmp .ge 46, 3) := by decide +kernel
theorem dX16_stays_12 : decode cX16_stays 12 = .ok (.iload_n 3, 1) := by decide +kernel
theorem dX16_stays_13 : decode cX16_stays 13 = .ok (.ifCond .eq 42, 3) := by decide +kernel
theorem dX16_stays_16 : decode cX16_stays 16 = .ok (.aload_n 0, 1) := by decide +kernel
theorem dX16_stays_17 : decode cX16_stays 17 = .ok (.getfield 15, 3) := by decide +kernel
theorem dX16_stays_20 : decode cX16_stays 20 = .ok (.bipush 24, 2) := by decide +kernel
theorem dX16_stays_22 : decode cX16_stays 22 = .ok (.iload_n 1, 1) := by decide +kernel
theorem dX16_stays_23 : decode cX16_stays 23 = .ok (.imul, 1) := by decide +kernel
theorem dX16_stays_24 : decode cX16_stays 24 = .ok (.iload 4, 2) := by decide +kernel
theorem dX16_stays_26 : decode cX16_stays 26 = .ok (.iadd, 1) := by decide +kernel
theorem dX16_stays_27 : decode cX16_stays 27 = .ok (.iaload, 1) := by decide +kernel
theorem dX16_stays_28 : decode cX16_stays 28 = .ok (.aload_n 0, 1) := by decide +kernel
theorem dX16_stays_29 : decode cX16_stays 29 = .ok (.getfield 15, 3) := by decide +kernel
theorem dX16_stays_32 : decode cX16_stays 32 = .ok (.bipush 24, 2) := by decide +kernel
theorem dX16_stays_34 : decode cX16_stays 34 = .ok (.iload_n 2, 1) := by decide +kernel
theorem dX16_stays_35 : decode cX16_stays 35 = .ok (.imul, 1) := by decide +kernel
theorem dX16_stays_36 : decode cX16_stays 36 = .ok (.iload 4, 2) := by decide +kernel
theorem dX16_stays_38 : decode cX16_stays 38 = .ok (.iadd, 1) := by decide +kernel
theorem dX16_stays_39 : decode cX16_stays 39 = .ok (.iaload, 1) := by decide +kernel
theorem dX16_stays_40 : decode cX16_stays 40 = .ok (.if_icmp .ne 7, 3) := by decide +kernel
theorem dX16_stays_43 : decode cX16_stays 43 = .ok (.iconst 1, 1) := by decide +kernel
theorem dX16_stays_44 : decode cX16_stays 44 = .ok (.goto 4, 3) := by decide +kernel
theorem dX16_stays_47 : decode cX16_stays 47 = .ok (.iconst 0, 1) := by decide +kernel
theorem dX16_stays_48 : decode cX16_stays 48 = .ok (.istore_n 3, 1) := by decide +kernel
theorem dX16_stays_49 : decode cX16_stays 49 = .ok (.iinc 4 1, 3) := by decide +kernel
theorem dX16_stays_52 : decode cX16_stays 52 = .ok (.goto (-47), 3) := by decide +kernel
theorem dX16_stays_55 : decode cX16_stays 55 = .ok (.iload_n 3, 1) := by decide +kernel
theorem dX16_stays_56 : decode cX16_stays 56 = .ok (.ireturn, 1) := by decide +kernel
noncomputable def C_X16_stays_L5 (l : Launch) (δ : Dl) : Seg (l, δ, yX16_stays, 0, (some .boolean), cX16_stays, 5) 5 55 :=
  seq (p := 5) (q := 7) (r := 55) (p_iload 4 dX16_stays_5) (seq (p := 7) (q := 9) (r := 55) (p_bipush 24 dX16_stays_7 (by decide)) (seq (p := 9) (q := 12) (r := 55) (p_icmp_ge 55 dX16_stays_9 (by decide)) (seq (p := 12) (q := 13) (r := 55) (p_iload_n 3 dX16_stays_12) (seq (p := 13) (q := 16) (r := 55) (p_if_eq 55 dX16_stays_13 (by decide)) (seq (p := 16) (q := 17) (r := 55) (p_aload_n 0 dX16_stays_16) (seq (p := 17) (q := 20) (r := 55) (p_get [(14, 7)] (alL1 fl_X16_15_14) dX16_stays_17) (seq (p := 20) (q := 22) (r := 55) (p_bipush 24 dX16_stays_20 (by decide)) (seq (p := 22) (q := 23) (r := 55) (p_iload_n 1 dX16_stays_22) (seq (p := 23) (q := 24) (r := 55) (p_imul dX16_stays_23) (seq (p := 24) (q := 26) (r := 55) (p_iload 4 dX16_stays_24) (seq (p := 26) (q := 27) (r := 55) (p_iadd dX16_stays_26) (seq (p := 27) (q := 28) (r := 55) (p_iald dX16_stays_27) (seq (p := 28) (q := 29) (r := 55) (p_aload_n 0 dX16_stays_28) (seq (p := 29) (q := 32) (r := 55) (p_get [(14, 7)] (alL1 fl_X16_15_14) dX16_stays_29) (seq (p := 32) (q := 34) (r := 55) (p_bipush 24 dX16_stays_32 (by decide)) (seq (p := 34) (q := 35) (r := 55) (p_iload_n 2 dX16_stays_34) (seq (p := 35) (q := 36) (r := 55) (p_imul dX16_stays_35) (seq (p := 36) (q := 38) (r := 55) (p_iload 4 dX16_stays_36) (seq (p := 38) (q := 39) (r := 55) (p_iadd dX16_stays_38) (seq (p := 39) (q := 40) (r := 55) (p_iald dX16_stays_39) (seq (p := 40) (q := 48) (r := 55) (blk (seq (p := 40) (q := 47) (r := 48) (blk (seq (p := 40) (q := 43) (r := 47) (p_icmp_ne 47 dX16_stays_40 (by decide)) (seq (p := 43) (q := 44) (r := 47) (p_iconst 1 dX16_stays_43) (seq (p := 44) (q := 47) (r := 47) (p_goto 48 dX16_stays_44 (by decide)) done)))) (seq (p := 47) (q := 48) (r := 48) (p_iconst 0 dX16_stays_47) done))) (seq (p := 48) (q := 49) (r := 55) (p_istore_n 3 dX16_stays_48 (Nat.le_of_ble_eq_true rfl)) (seq (p := 49) (q := 52) (r := 55) (p_iinc 4 1 dX16_stays_49 (Nat.le_of_ble_eq_true rfl)) (seq (p := 52) (q := 52) (r := 55) (er [true, true, true, true, true]) (seq (p := 52) (q := 55) (r := 55) (p_goto 5 dX16_stays_52 (by decide)) done)))))))))))))))))))))))))
noncomputable def B_X16_stays_L5 (l : Launch) (δ : Dl) : Seg (l, δ, yX16_stays, 0, (some .boolean), cX16_stays, 5) 5 55 := C_X16_stays_L5 l δ
theorem L_X16_stays_5 {l : Launch} {δ : Dl} {st : Stk} {L : Lc} {s : St} : (B_X16_stays_L5 l δ).1 st L s = (C_X16_stays_L5 l δ).1 st L s := nrfl rfl
noncomputable def B_X16_stays (l : Launch) (δ : Dl) : Seg (l, δ, yX16_stays, 0, (some .boolean), cX16_stays, 5) 0 57 :=
  seq (p := 0) (q := 1) (r := 57) (p_iconst 1 dX16_stays_0) (seq (p := 1) (q := 2) (r := 57) (p_istore_n 3 dX16_stays_1 (Nat.le_of_ble_eq_true rfl)) (seq (p := 2) (q := 3) (r := 57) (p_iconst 0 dX16_stays_2) (seq (p := 3) (q := 5) (r := 57) (p_istore 4 dX16_stays_3 (Nat.le_of_ble_eq_true rfl)) (seq (p := 5) (q := 55) (r := 57) (blk (seq (p := 5) (q := 5) (r := 55) (er [true, true, true, true, true]) (seq (p := 5) (q := 55) (r := 55) (lp (B_X16_stays_L5 l δ)) done))) (seq (p := 55) (q := 56) (r := 57) (p_iload_n 3 dX16_stays_55) (seq (p := 56) (q := 57) (r := 57) (p_zreturn dX16_stays_56 rfl) done))))))
noncomputable def M_X16_stays (l : Launch) (δ : Dl) : Mth l δ yX16_stays cX16_stays 5 (some .boolean) 0 := mk (B_X16_stays l δ) (by decide)
theorem N_X16_stays {l : Launch} {δ : Dl} {o : Nat} {a1 : Int} {a2 : Int} {s : St} : (M_X16_stays l δ).1 [.inr (.inr (some o)), .inl a1, .inl a2] s = bres ((B_X16_stays l δ).1 [] [some (.inr (.inr (some o))), some (.inl a1), some (.inl a2), none, none] s) := (mk_eq (hy := by decide) rfl).trans (nrfl rfl)
theorem dX15_part_0 : decode cX15_part 0 = .ok (.iload_n 1, 1) := by decide +kernel
theorem dX15_part_1 : decode cX15_part 1 = .ok (.ifCond .ne 7, 3) := by decide +kernel
theorem dX15_part_4 : decode cX15_part 4 = .ok (.aload_n 0, 1) := by decide +kernel
theorem dX15_part_5 : decode cX15_part 5 = .ok (.invokevirtual 48, 3) := by decide +kernel
theorem dX15_part_8 : decode cX15_part 8 = .ok (.aload_n 0, 1) := by decide +kernel
theorem dX15_part_9 : decode cX15_part 9 = .ok (.getfield 22, 3) := by decide +kernel
theorem dX15_part_12 : decode cX15_part 12 = .ok (.newarray .int, 2) := by decide +kernel
theorem dX15_part_14 : decode cX15_part 14 = .ok (.astore_n 2, 1) := by decide +kernel
theorem dX15_part_15 : decode cX15_part 15 = .ok (.iconst 0, 1) := by decide +kernel
theorem dX15_part_16 : decode cX15_part 16 = .ok (.istore_n 3, 1) := by decide +kernel
theorem dX15_part_17 : decode cX15_part 17 = .ok (.iconst 0, 1) := by decide +kernel
theorem dX15_part_18 : decode cX15_part 18 = .ok (.istore 4, 2) := by decide +kernel
theorem dX15_part_20 : decode cX15_part 20 = .ok (.iload 4, 2) := by decide +kernel
theorem dX15_part_22 : decode cX15_part 22 = .ok (.aload_n 0, 1) := by decide +kernel
theorem dX15_part_23 : decode cX15_part 23 = .ok (.getfield 22, 3) := by decide +kernel
theorem dX15_part_26 : decode cX15_part 26 = .ok (.if_icmp .ge 114, 3) := by decide +kernel
theorem dX15_part_29 : decode cX15_part 29 = .ok (.aload_n 2, 1) := by decide +kernel
theorem dX15_part_30 : decode cX15_part 30 = .ok (.iload 4, 2) := by decide +kernel
theorem dX15_part_32 : decode cX15_part 32 = .ok (.bipush (-9), 2) := by decide +kernel
theorem dX15_part_34 : decode cX15_part 34 = .ok (.iastore, 1) := by decide +kernel
theorem dX15_part_35 : decode cX15_part 35 = .ok (.iconst 0, 1) := by decide +kernel
theorem dX15_part_36 : decode cX15_part 36 = .ok (.istore 5, 2) := by decide +kernel
theorem dX15_part_38 : decode cX15_part 38 = .ok (.iload 5, 2) := by decide +kernel
theorem dX15_part_40 : decode cX15_part 40 = .ok (.iload 4, 2) := by decide +kernel
theorem dX15_part_42 : decode cX15_part 42 = .ok (.if_icmp .ge 72, 3) := by decide +kernel
theorem dX15_part_45 : decode cX15_part 45 = .ok (.aload_n 2, 1) := by decide +kernel
theorem dX15_part_46 : decode cX15_part 46 = .ok (.iload 4, 2) := by decide +kernel
theorem dX15_part_48 : decode cX15_part 48 = .ok (.iaload, 1) := by decide +kernel
theorem dX15_part_49 : decode cX15_part 49 = .ok (.bipush (-9), 2) := by decide +kernel
theorem dX15_part_51 : decode cX15_part 51 = .ok (.if_icmp .ne 63, 3) := by decide +kernel
theorem dX15_part_54 : decode cX15_part 54 = .ok (.iload_n 1, 1) := by decide +kernel
theorem dX15_part_55 : decode cX15_part 55 = .ok (.ifCond .eq 17, 3) := by decide +kernel
theorem dX15_part_58 : decode cX15_part 58 = .ok (.aload_n 0, 1) := by decide +kernel
theorem dX15_part_59 : decode cX15_part 59 = .ok (.iload 4, 2) := by decide +kernel
theorem dX15_part_61 : decode cX15_part 61 = .ok (.iload 5, 2) := by decide +kernel
theorem dX15_part_63 : decode cX15_part 63 = .ok (.invokevirtual 51, 3) := by decide +kernel
theorem dX15_part_66 : decode cX15_part 66 = .ok (.ifCond .eq 42, 3) := by decide +kernel
theorem dX15_part_69 : decode cX15_part 69 = .ok (.goto 31, 3) := by decide +kernel
theorem dX15_part_72 : decode cX15_part 72 = .ok (.aload_n 0, 1) := by decide +kernel
theorem dX15_part_73 : decode cX15_part 73 = .ok (.getfield 25, 3) := by decide +kernel
theorem dX15_part_76 : decode cX15_part 76 = .ok (.iload 4, 2) := by decide +kernel
theorem dX15_part_78 : decode cX15_part 78 = .ok (.iaload, 1) := by decide +kernel
theorem dX15_part_79 : decode cX15_part 79 = .ok (.aload_n 0, 1) := by decide +kernel
theorem dX15_part_80 : decode cX15_part 80 = .ok (.getfield 25, 3) := by decide +kernel
theorem dX15_part_83 : decode cX15_part 83 = .ok (.iload 5, 2) := by decide +kernel
theorem dX15_part_85 : decode cX15_part 85 = .ok (.iaload, 1) := by decide +kernel
theorem dX15_part_86 : decode cX15_part 86 = .ok (.if_icmp .ne 22, 3) := by decide +kernel
theorem dX15_part_89 : decode cX15_part 89 = .ok (.aload_n 0, 1) := by decide +kernel
theorem dX15_part_90 : decode cX15_part 90 = .ok (.iload 4, 2) := by decide +kernel
theorem dX15_part_92 : decode cX15_part 92 = .ok (.iload 5, 2) := by decide +kernel
theorem dX15_part_94 : decode cX15_part 94 = .ok (.invokevirtual 54, 3) := by decide +kernel
theorem dX15_part_97 : decode cX15_part 97 = .ok (.ifCond .eq 11, 3) := by decide +kernel
theorem dX15_part_100 : decode cX15_part 100 = .ok (.aload_n 2, 1) := by decide +kernel
theorem dX15_part_101 : decode cX15_part 101 = .ok (.iload 4, 2) := by decide +kernel
theorem dX15_part_103 : decode cX15_part 103 = .ok (.aload_n 2, 1) := by decide +kernel
theorem dX15_part_104 : decode cX15_part 104 = .ok (.iload 5, 2) := by decide +kernel
theorem dX15_part_106 : decode cX15_part 106 = .ok (.iaload, 1) := by decide +kernel
theorem dX15_part_107 : decode cX15_part 107 = .ok (.iastore, 1) := by decide +kernel
theorem dX15_part_108 : decode cX15_part 108 = .ok (.iinc 5 1, 3) := by decide +kernel
theorem dX15_part_111 : decode cX15_part 111 = .ok (.goto (-73), 3) := by decide +kernel
theorem dX15_part_114 : decode cX15_part 114 = .ok (.aload_n 2, 1) := by decide +kernel
theorem dX15_part_115 : decode cX15_part 115 = .ok (.iload 4, 2) := by decide +kernel
theorem dX15_part_117 : decode cX15_part 117 = .ok (.iaload, 1) := by decide +kernel
theorem dX15_part_118 : decode cX15_part 118 = .ok (.bipush (-9), 2) := by decide +kernel
theorem dX15_part_120 : decode cX15_part 120 = .ok (.if_icmp .eq 6, 3) := by decide +kernel
theorem dX15_part_123 : decode cX15_part 123 = .ok (.goto 11, 3) := by decide +kernel
theorem dX15_part_126 : decode cX15_part 126 = .ok (.aload_n 2, 1) := by decide +kernel
theorem dX15_part_127 : decode cX15_part 127 = .ok (.iload 4, 2) := by decide +kernel
theorem dX15_part_129 : decode cX15_part 129 = .ok (.iload_n 3, 1) := by decide +kernel
theorem dX15_part_130 : decode cX15_part 130 = .ok (.iastore, 1) := by decide +kernel
theorem dX15_part_131 : decode cX15_part 131 = .ok (.iinc 3 1, 3) := by decide +kernel
theorem dX15_part_134 : decode cX15_part 134 = .ok (.iinc 4 1, 3) := by decide +kernel
theorem dX15_part_137 : decode cX15_part 137 = .ok (.goto (-117), 3) := by decide +kernel
theorem dX15_part_140 : decode cX15_part 140 = .ok (.aload_n 0, 1) := by decide +kernel
theorem dX15_part_141 : decode cX15_part 141 = .ok (.aload_n 2, 1) := by decide +kernel
theorem dX15_part_142 : decode cX15_part 142 = .ok (.putfield 25, 3) := by decide +kernel
theorem dX15_part_145 : decode cX15_part 145 = .ok (.aload_n 0, 1) := by decide +kernel
theorem dX15_part_146 : decode cX15_part 146 = .ok (.iload_n 3, 1) := by decide +kernel
theorem dX15_part_147 : decode cX15_part 147 = .ok (.putfield 38, 3) := by decide +kernel
theorem dX15_part_150 : decode cX15_part 150 = .ok (.return_, 1) := by decide +kernel
noncomputable def C_X15_part_L38 (l : Launch) (δ : Dl) : Seg (l, δ, yX15_part, 3, none, cX15_part, 6) 38 114 :=
  seq (p := 38) (q := 40) (r := 114) (p_iload 5 dX15_part_38) (seq (p := 40) (q := 42) (r := 114) (p_iload 4 dX15_part_40) (seq (p := 42) (q := 45) (r := 114) (p_icmp_ge 114 dX15_part_42 (by decide)) (seq (p := 45) (q := 46) (r := 114) (p_aload_n 2 dX15_part_45) (seq (p := 46) (q := 48) (r := 114) (p_iload 4 dX15_part_46) (seq (p := 48) (q := 49) (r := 114) (p_iald dX15_part_48) (seq (p := 49) (q := 51) (r := 114) (p_bipush (-9) dX15_part_49 (by decide)) (seq (p := 51) (q := 54) (r := 114) (p_icmp_ne 114 dX15_part_51 (by decide)) (seq (p := 54) (q := 55) (r := 114) (p_iload_n 1 dX15_part_54) (seq (p := 55) (q := 108) (r := 114) (blk (seq (p := 55) (q := 100) (r := 108) (blk (seq (p := 55) (q := 72) (r := 100) (blk (seq (p := 55) (q := 58) (r := 72) (p_if_eq 72 dX15_part_55 (by decide)) (seq (p := 58) (q := 59) (r := 72) (p_aload_n 0 dX15_part_58) (seq (p := 59) (q := 61) (r := 72) (p_iload 4 dX15_part_59) (seq (p := 61) (q := 63) (r := 72) (p_iload 5 dX15_part_61) (seq (p := 63) (q := 66) (r := 72) (p_callG 3 _ (ok_alt (ok_U 15 cu_X15_51_15 rfl (M_X17_isAlike l δ) (Nat.le_of_ble_eq_true rfl) dX15_part_63) (ok_U 14 cu_X15_51_14 rfl (M_X16_isAlike l δ) (Nat.le_of_ble_eq_true rfl) dX15_part_63)) (Nat.le_of_ble_eq_true rfl)) (seq (p := 66) (q := 69) (r := 72) (p_if_eq 108 dX15_part_66 (by decide)) (seq (p := 69) (q := 72) (r := 72) (p_goto 100 dX15_part_69 (by decide)) done)))))))) (seq (p := 72) (q := 73) (r := 100) (p_aload_n 0 dX15_part_72) (seq (p := 73) (q := 76) (r := 100) (p_get [(14, 4), (15, 4)] (alL2 fl_X15_25_14 fl_X15_25_15) dX15_part_73) (seq (p := 76) (q := 78) (r := 100) (p_iload 4 dX15_part_76) (seq (p := 78) (q := 79) (r := 100) (p_iald dX15_part_78) (seq (p := 79) (q := 80) (r := 100) (p_aload_n 0 dX15_part_79) (seq (p := 80) (q := 83) (r := 100) (p_get [(14, 4), (15, 4)] (alL2 fl_X15_25_14 fl_X15_25_15) dX15_part_80) (seq (p := 83) (q := 85) (r := 100) (p_iload 5 dX15_part_83) (seq (p := 85) (q := 86) (r := 100) (p_iald dX15_part_85) (seq (p := 86) (q := 89) (r := 100) (p_icmp_ne 108 dX15_part_86 (by decide)) (seq (p := 89) (q := 90) (r := 100) (p_aload_n 0 dX15_part_89) (seq (p := 90) (q := 92) (r := 100) (p_iload 4 dX15_part_90) (seq (p := 92) (q := 94) (r := 100) (p_iload 5 dX15_part_92) (seq (p := 94) (q := 97) (r := 100) (p_callG 3 _ (ok_alt (ok_U 15 cu_X15_54_15 rfl (M_X17_stays l δ) (Nat.le_of_ble_eq_true rfl) dX15_part_94) (ok_U 14 cu_X15_54_14 rfl (M_X16_stays l δ) (Nat.le_of_ble_eq_true rfl) dX15_part_94)) (Nat.le_of_ble_eq_true rfl)) (seq (p := 97) (q := 100) (r := 100) (p_if_eq 108 dX15_part_97 (by decide)) done)))))))))))))))) (seq (p := 100) (q := 101) (r := 108) (p_aload_n 2 dX15_part_100) (seq (p := 101) (q := 103) (r := 108) (p_iload 4 dX15_part_101) (seq (p := 103) (q := 104) (r := 108) (p_aload_n 2 dX15_part_103) (seq (p := 104) (q := 106) (r := 108) (p_iload 5 dX15_part_104) (seq (p := 106) (q := 107) (r := 108) (p_iald dX15_part_106) (seq (p := 107) (q := 108) (r := 108) (p_iast dX15_part_107) done)))))))) (seq (p := 108) (q := 111) (r := 114) (p_iinc 5 1 dX15_part_108 (Nat.le_of_ble_eq_true rfl)) (seq (p := 111) (q := 111) (r := 114) (er [true, true, true, true, true, true]) (seq (p := 111) (q := 114) (r := 114) (p_goto 38 dX15_part_111 (by decide)) done))))))))))))
noncomputable def B_X15_part_L38 (l : Launch) (δ : Dl) : Seg (l, δ, yX15_part, 3, none, cX15_part, 6) 38 114 := C_X15_part_L38 l δ
theorem L_X15_part_38 {l : Launch} {δ : Dl} {st : Stk} {L : Lc} {s : St} : (B_X15_part_L38 l δ).1 st L s = (C_X15_part_L38 l δ).1 st L s := nrfl rfl
noncomputable def C_X15_part_L20 (l : Launch) (δ : Dl) : Seg (l, δ, yX15_part, 3, none, cX15_part, 6) 20 140 :=
  seq (p := 20) (q := 22) (r := 140) (p_iload 4 dX15_part_20) (seq (p := 22) (q := 23) (r := 140) (p_aload_n 0 dX15_part_22) (seq (p := 23) (q := 26) (r := 140) (p_get [(14, 3), (15, 3)] (alL2 fl_X15_22_14 fl_X15_22_15) dX15_part_23) (seq (p := 26) (q := 29) (r := 140) (p_icmp_ge 140 dX15_part_26 (by decide)) (seq (p := 29) (q := 30) (r := 140) (p_aload_n 2 dX15_part_29) (seq (p := 30) (q := 32) (r := 140) (p_iload 4 dX15_part_30) (seq (p := 32) (q := 34) (r := 140) (p_bipush (-9) dX15_part_32 (by decide)) (seq (p := 34) (q := 35) (r := 140) (p_iast dX15_part_34) (seq (p := 35) (q := 36) (r := 140) (p_iconst 0 dX15_part_35) (seq (p := 36) (q := 38) (r := 140) (p_istore 5 dX15_part_36 (Nat.le_of_ble_eq_true rfl)) (seq (p := 38) (q := 114) (r := 140) (blk (seq (p := 38) (q := 38) (r := 114) (er [true, true, true, true, true, true]) (seq (p := 38) (q := 114) (r := 114) (lp (B_X15_part_L38 l δ)) done))) (seq (p := 114) (q := 115) (r := 140) (p_aload_n 2 dX15_part_114) (seq (p := 115) (q := 117) (r := 140) (p_iload 4 dX15_part_115) (seq (p := 117) (q := 118) (r := 140) (p_iald dX15_part_117) (seq (p := 118) (q := 120) (r := 140) (p_bipush (-9) dX15_part_118 (by decide)) (seq (p := 120) (q := 134) (r := 140) (blk (seq (p := 120) (q := 126) (r := 134) (blk (seq (p := 120) (q := 123) (r := 126) (p_icmp_eq 126 dX15_part_120 (by decide)) (seq (p := 123) (q := 126) (r := 126) (p_goto 134 dX15_part_123 (by decide)) done))) (seq (p := 126) (q := 127) (r := 134) (p_aload_n 2 dX15_part_126) (seq (p := 127) (q := 129) (r := 134) (p_iload 4 dX15_part_127) (seq (p := 129) (q := 130) (r := 134) (p_iload_n 3 dX15_part_129) (seq (p := 130) (q := 131) (r := 134) (p_iast dX15_part_130) (seq (p := 131) (q := 134) (r := 134) (p_iinc 3 1 dX15_part_131 (Nat.le_of_ble_eq_true rfl)) done))))))) (seq (p := 134) (q := 137) (r := 140) (p_iinc 4 1 dX15_part_134 (Nat.le_of_ble_eq_true rfl)) (seq (p := 137) (q := 137) (r := 140) (er [true, true, true, true, true, false]) (seq (p := 137) (q := 140) (r := 140) (p_goto 20 dX15_part_137 (by decide)) done))))))))))))))))))
noncomputable def B_X15_part_L20 (l : Launch) (δ : Dl) : Seg (l, δ, yX15_part, 3, none, cX15_part, 6) 20 140 := C_X15_part_L20 l δ
theorem L_X15_part_20 {l : Launch} {δ : Dl} {st : Stk} {L : Lc} {s : St} : (B_X15_part_L20 l δ).1 st L s = (C_X15_part_L20 l δ).1 st L s := nrfl rfl
noncomputable def B_X15_part (l : Launch) (δ : Dl) : Seg (l, δ, yX15_part, 3, none, cX15_part, 6) 0 151 :=
  seq (p := 0) (q := 1) (r := 151) (p_iload_n 1 dX15_part_0) (seq (p := 1) (q := 8) (r := 151) (blk (seq (p := 1) (q := 4) (r := 8) (p_if_ne 8 dX15_part_1 (by decide)) (seq (p := 4) (q := 5) (r := 8) (p_aload_n 0 dX15_part_4) (seq (p := 5) (q := 8) (r := 8) (p_callG 1 _ (ok_alt (ok_U 15 cu_X15_48_15 rfl (M_X17_prepare l δ) (Nat.le_of_ble_eq_true rfl) dX15_part_5) (ok_U 14 cu_X15_48_14 rfl (M_X16_prepare l δ) (Nat.le_of_ble_eq_true rfl) dX15_part_5)) (Nat.le_of_ble_eq_true rfl)) done)))) (seq (p := 8) (q := 9) (r := 151) (p_aload_n 0 dX15_part_8) (seq (p := 9) (q := 12) (r := 151) (p_get [(14, 3), (15, 3)] (alL2 fl_X15_22_14 fl_X15_22_15) dX15_part_9) (seq (p := 12) (q := 14) (r := 151) (p_newa 0 (Nat.le_of_ble_eq_true rfl) dX15_part_12) (seq (p := 14) (q := 15) (r := 151) (p_astore_n 2 dX15_part_14 (Nat.le_of_ble_eq_true rfl)) (seq (p := 15) (q := 16) (r := 151) (p_iconst 0 dX15_part_15) (seq (p := 16) (q := 17) (r := 151) (p_istore_n 3 dX15_part_16 (Nat.le_of_ble_eq_true rfl)) (seq (p := 17) (q := 18) (r := 151) (p_iconst 0 dX15_part_17) (seq (p := 18) (q := 20) (r := 151) (p_istore 4 dX15_part_18 (Nat.le_of_ble_eq_true rfl)) (seq (p := 20) (q := 140) (r := 151) (blk (seq (p := 20) (q := 20) (r := 140) (er [true, true, true, true, true, false]) (seq (p := 20) (q := 140) (r := 140) (lp (B_X15_part_L20 l δ)) done))) (seq (p := 140) (q := 141) (r := 151) (p_aload_n 0 dX15_part_140) (seq (p := 141) (q := 142) (r := 151) (p_aload_n 2 dX15_part_141) (seq (p := 142) (q := 145) (r := 151) (p_put [(14, 4), (15, 4)] (.array .int) (alP2 fp_X15_25_14 fp_X15_25_15) dX15_part_142) (seq (p := 145) (q := 146) (r := 151) (p_aload_n 0 dX15_part_145) (seq (p := 146) (q := 147) (r := 151) (p_iload_n 3 dX15_part_146) (seq (p := 147) (q := 150) (r := 151) (p_put [(14, 5), (15, 5)] .int (alP2 fp_X15_38_14 fp_X15_38_15) dX15_part_147) (seq (p := 150) (q := 151) (r := 151) (p_return dX15_part_150 rfl) done)))))))))))))))))
noncomputable def M_X15_part (l : Launch) (δ : Dl) : Mth l δ yX15_part cX15_part 6 none 3 := mk (B_X15_part l δ) (by decide)
theorem N_X15_part {l : Launch} {δ : Dl} {o : Nat} {a1 : Int} {s : St} : (M_X15_part l δ).1 [.inr (.inr (some o)), .inl a1] s = bres ((B_X15_part l δ).1 [] [some (.inr (.inr (some o))), some (.inl a1), none, none, none, none] s) := (mk_eq (hy := by decide) rfl).trans (nrfl rfl)
theorem dX15_run_0 : decode cX15_run 0 = .ok (.iconst (-1), 1) := by decide +kernel
theorem dX15_run_1 : decode cX15_run 1 = .ok (.istore_n 1, 1) := by decide +kernel
theorem dX15_run_2 : decode cX15_run 2 = .ok (.aload_n 0, 1) := by decide +kernel
theorem dX15_run_3 : decode cX15_run 3 = .ok (.getfield 38, 3) := by decide +kernel
theorem dX15_run_6 : decode cX15_run 6 = .ok (.iload_n 1, 1) := by decide +kernel
theorem dX15_run_7 : decode cX15_run 7 = .ok (.if_icmp .eq 51, 3) := by decide +kernel
theorem dX15_run_10 : decode cX15_run 10 = .ok (.aload_n 0, 1) := by decide +kernel
theorem dX15_run_11 : decode cX15_run 11 = .ok (.getfield 38, 3) := by decide +kernel
theorem dX15_run_14 : decode cX15_run 14 = .ok (.istore_n 1, 1) := by decide +kernel
theorem dX15_run_15 : decode cX15_run 15 = .ok (.aload_n 0, 1) := by decide +kernel
theorem dX15_run_16 : decode cX15_run 16 = .ok (.iload_n 1, 1) := by decide +kernel
theorem dX15_run_17 : decode cX15_run 17 = .ok (.iconst 1, 1) := by decide +kernel
theorem dX15_run_18 : decode cX15_run 18 = .ok (.if_icmp .ge 7, 3) := by decide +kernel
theorem dX15_run_21 : decode cX15_run 21 = .ok (.iconst 1, 1) := by decide +kernel
theorem dX15_run_22 : decode cX15_run 22 = .ok (.goto 4, 3) := by decide +kernel
theorem dX15_run_25 : decode cX15_run 25 = .ok (.iconst 0, 1) := by decide +kernel
theorem dX15_run_26 : decode cX15_run 26 = .ok (.invokevirtual 41, 3) := by decide +kernel
theorem dX15_run_29 : decode cX15_run 29 = .ok (.aload_n 0, 1) := by decide +kernel
theorem dX15_run_30 : decode cX15_run 30 = .ok (.dup, 1) := by decide +kernel
theorem dX15_run_31 : decode cX15_run 31 = .ok (.getfield 45, 3) := by decide +kernel
theorem dX15_run_34 : decode cX15_run 34 = .ok (.iload_n 1, 1) := by decide +kernel
theorem dX15_run_35 : decode cX15_run 35 = .ok (.ifCond .le 15, 3) := by decide +kernel
theorem dX15_run_38 : decode cX15_run 38 = .ok (.aload_n 0, 1) := by decide +kernel
theorem dX15_run_39 : decode cX15_run 39 = .ok (.getfield 38, 3) := by decide +kernel
theorem dX15_run_42 : decode cX15_run 42 = .ok (.iload_n 1, 1) := by decide +kernel
theorem dX15_run_43 : decode cX15_run 43 = .ok (.if_icmp .eq 7, 3) := by decide +kernel
theorem dX15_run_46 : decode cX15_run 46 = .ok (.iconst 1, 1) := by decide +kernel
theorem dX15_run_47 : decode cX15_run 47 = .ok (.goto 4, 3) := by decide +kernel
theorem dX15_run_50 : decode cX15_run 50 = .ok (.iconst 0, 1) := by decide +kernel
theorem dX15_run_51 : decode cX15_run 51 = .ok (.iadd, 1) := by decide +kernel
theorem dX15_run_52 : decode cX15_run 52 = .ok (.putfield 45, 3) := by decide +kernel
theorem dX15_run_55 : decode cX15_run 55 = .ok (.goto (-53), 3) := by decide +kernel
theorem dX15_run_58 : decode cX15_run 58 = .ok (.return_, 1) := by decide +kernel
noncomputable def C_X15_run_L2 (l : Launch) (δ : Dl) : Seg (l, δ, yX15_run, 4, none, cX15_run, 2) 2 58 :=
  seq (p := 2) (q := 3) (r := 58) (p_aload_n 0 dX15_run_2) (seq (p := 3) (q := 6) (r := 58) (p_get [(14, 5), (15, 5)] (alL2 fl_X15_38_14 fl_X15_38_15) dX15_run_3) (seq (p := 6) (q := 7) (r := 58) (p_iload_n 1 dX15_run_6) (seq (p := 7) (q := 10) (r := 58) (p_icmp_eq 58 dX15_run_7 (by decide)) (seq (p := 10) (q := 11) (r := 58) (p_aload_n 0 dX15_run_10) (seq (p := 11) (q := 14) (r := 58) (p_get [(14, 5), (15, 5)] (alL2 fl_X15_38_14 fl_X15_38_15) dX15_run_11) (seq (p := 14) (q := 15) (r := 58) (p_istore_n 1 dX15_run_14 (Nat.le_of_ble_eq_true rfl)) (seq (p := 15) (q := 16) (r := 58) (p_aload_n 0 dX15_run_15) (seq (p := 16) (q := 17) (r := 58) (p_iload_n 1 dX15_run_16) (seq (p := 17) (q := 18) (r := 58) (p_iconst 1 dX15_run_17) (seq (p := 18) (q := 26) (r := 58) (blk (seq (p := 18) (q := 25) (r := 26) (blk (seq (p := 18) (q := 21) (r := 25) (p_icmp_ge 25 dX15_run_18 (by decide)) (seq (p := 21) (q := 22) (r := 25) (p_iconst 1 dX15_run_21) (seq (p := 22) (q := 25) (r := 25) (p_goto 26 dX15_run_22 (by decide)) done)))) (seq (p := 25) (q := 26) (r := 26) (p_iconst 0 dX15_run_25) done))) (seq (p := 26) (q := 29) (r := 58) (p_callG 2 _ (ok_alt (ok_P 14 cup_X15_41_14 rfl (M_X15_part l δ) (Nat.le_of_ble_eq_true rfl) dX15_run_26) (ok_P 15 cup_X15_41_15 rfl (M_X15_part l δ) (Nat.le_of_ble_eq_true rfl) dX15_run_26)) (Nat.le_of_ble_eq_true rfl)) (seq (p := 29) (q := 30) (r := 58) (p_aload_n 0 dX15_run_29) (seq (p := 30) (q := 31) (r := 58) (p_dup dX15_run_30) (seq (p := 31) (q := 34) (r := 58) (p_get [(14, 6), (15, 6)] (alL2 fl_X15_45_14 fl_X15_45_15) dX15_run_31) (seq (p := 34) (q := 35) (r := 58) (p_iload_n 1 dX15_run_34) (seq (p := 35) (q := 51) (r := 58) (blk (seq (p := 35) (q := 50) (r := 51) (blk (seq (p := 35) (q := 38) (r := 50) (p_if_le 50 dX15_run_35 (by decide)) (seq (p := 38) (q := 39) (r := 50) (p_aload_n 0 dX15_run_38) (seq (p := 39) (q := 42) (r := 50) (p_get [(14, 5), (15, 5)] (alL2 fl_X15_38_14 fl_X15_38_15) dX15_run_39) (seq (p := 42) (q := 43) (r := 50) (p_iload_n 1 dX15_run_42) (seq (p := 43) (q := 46) (r := 50) (p_icmp_eq 50 dX15_run_43 (by decide)) (seq (p := 46) (q := 47) (r := 50) (p_iconst 1 dX15_run_46) (seq (p := 47) (q := 50) (r := 50) (p_goto 51 dX15_run_47 (by decide)) done)))))))) (seq (p := 50) (q := 51) (r := 51) (p_iconst 0 dX15_run_50) done))) (seq (p := 51) (q := 52) (r := 58) (p_iadd dX15_run_51) (seq (p := 52) (q := 55) (r := 58) (p_put [(14, 6), (15, 6)] .int (alP2 fp_X15_45_14 fp_X15_45_15) dX15_run_52) (seq (p := 55) (q := 55) (r := 58) (er [true, true]) (seq (p := 55) (q := 58) (r := 58) (p_goto 2 dX15_run_55 (by decide)) done))))))))))))))))))))
noncomputable def B_X15_run_L2 (l : Launch) (δ : Dl) : Seg (l, δ, yX15_run, 4, none, cX15_run, 2) 2 58 := C_X15_run_L2 l δ
theorem L_X15_run_2 {l : Launch} {δ : Dl} {st : Stk} {L : Lc} {s : St} : (B_X15_run_L2 l δ).1 st L s = (C_X15_run_L2 l δ).1 st L s := nrfl rfl
noncomputable def B_X15_run (l : Launch) (δ : Dl) : Seg (l, δ, yX15_run, 4, none, cX15_run, 2) 0 59 :=
  seq (p := 0) (q := 1) (r := 59) (p_iconst (-1) dX15_run_0) (seq (p := 1) (q := 2) (r := 59) (p_istore_n 1 dX15_run_1 (Nat.le_of_ble_eq_true rfl)) (seq (p := 2) (q := 58) (r := 59) (blk (seq (p := 2) (q := 2) (r := 58) (er [true, true]) (seq (p := 2) (q := 58) (r := 58) (lp (B_X15_run_L2 l δ)) done))) (seq (p := 58) (q := 59) (r := 59) (p_return dX15_run_58 rfl) done)))
noncomputable def M_X15_run (l : Launch) (δ : Dl) : Mth l δ yX15_run cX15_run 2 none 4 := mk (B_X15_run l δ) (by decide)
theorem N_X15_run {l : Launch} {δ : Dl} {o : Nat} {s : St} : (M_X15_run l δ).1 [.inr (.inr (some o))] s = bres ((B_X15_run l δ).1 [] [some (.inr (.inr (some o))), none] s) := (mk_eq (hy := by decide) rfl).trans (nrfl rfl)
theorem dX15_isBalanced_0 : decode cX15_isBalanced 0 = .ok (.aload_n 0, 1) := by decide +kernel
theorem dX15_isBalanced_1 : decode cX15_isBalanced 1 = .ok (.getfield 38, 3) := by decide +kernel
theorem dX15_isBalanced_4 : decode cX15_isBalanced 4 = .ok (.newarray .int, 2) := by decide +kernel
theorem dX15_isBalanced_6 : decode cX15_isBalanced 6 = .ok (.astore_n 1, 1) := by decide +kernel
theorem dX15_isBalanced_7 : decode cX15_isBalanced 7 = .ok (.iconst 0, 1) := by decide +kernel
theorem dX15_isBalanced_8 : decode cX15_isBalanced 8 = .ok (.istore_n 2, 1) := by decide +kernel
theorem dX15_isBalanced_9 : decode cX15_isBalanced 9 = .ok (.iload_n 2, 1) := by decide +kernel
theorem dX15_isBalanced_10 : decode cX15_isBalanced 10 = .ok (.aload_n 0, 1) := by decide +kernel
theorem dX15_isBalanced_11 : decode cX15_isBalanced 11 = .ok (.getfield 22, 3) := by decide +kernel
theorem dX15_isBalanced_14 : decode cX15_isBalanced 14 = .ok (.if_icmp .ge 33, 3) := by decide +kernel
theorem dX15_isBalanced_17 : decode cX15_isBalanced 17 = .ok (.aload_n 1, 1) := by decide +kernel
theorem dX15_isBalanced_18 : decode cX15_isBalanced 18 = .ok (.aload_n 0, 1) := by decide +kernel
theorem dX15_isBalanced_19 : decode cX15_isBalanced 19 = .ok (.getfield 25, 3) := by decide +kernel
theorem dX15_isBalanced_22 : decode cX15_isBalanced 22 = .ok (.iload_n 2, 1) := by decide +kernel
theorem dX15_isBalanced_23 : decode cX15_isBalanced 23 = .ok (.iaload, 1) := by decide +kernel
theorem dX15_isBalanced_24 : decode cX15_isBalanced 24 = .ok (.dup2, 1) := by decide +kernel
theorem dX15_isBalanced_25 : decode cX15_isBalanced 25 = .ok (.iaload, 1) := by decide +kernel
theorem dX15_isBalanced_26 : decode cX15_isBalanced 26 = .ok (.iload_n 2, 1) := by decide +kernel
theorem dX15_isBalanced_27 : decode cX15_isBalanced 27 = .ok (.aload_n 0, 1) := by decide +kernel
theorem dX15_isBalanced_28 : decode cX15_isBalanced 28 = .ok (.getfield 18, 3) := by decide +kernel
theorem dX15_isBalanced_31 : decode cX15_isBalanced 31 = .ok (.if_icmp .ge 7, 3) := by decide +kernel
theorem dX15_isBalanced_34 : decode cX15_isBalanced 34 = .ok (.iconst 1, 1) := by decide +kernel
theorem dX15_isBalanced_35 : decode cX15_isBalanced 35 = .ok (.goto 4, 3) := by decide +kernel
theorem dX15_isBalanced_38 : decode cX15_isBalanced 38 = .ok (.iconst (-1), 1) := by decide +kernel
theorem dX15_isBalanced_39 : decode cX15_isBalanced 39 = .ok (.iadd, 1) := by decide +kernel
theorem dX15_isBalanced_40 : decode cX15_isBalanced 40 = .ok (.iastore, 1) := by decide +kernel
theorem dX15_isBalanced_41 : decode cX15_isBalanced 41 = .ok (.iinc 2 1, 3) := by decide +kernel
theorem dX15_isBalanced_44 : decode cX15_isBalanced 44 = .ok (.goto (-35), 3) := by decide +kernel
theorem dX15_isBalanced_47 : decode cX15_isBalanced 47 = .ok (.iconst 1, 1) := by decide +kernel
theorem dX15_isBalanced_48 : decode cX15_isBalanced 48 = .ok (.istore_n 2, 1) := by decide +kernel
theorem dX15_isBalanced_49 : decode cX15_isBalanced 49 = .ok (.iconst 0, 1) := by decide +kernel
theorem dX15_isBalanced_50 : decode cX15_isBalanced 50 = .ok (.istore_n 3, 1) := by decide +kernel
theorem dX15_isBalanced_51 : decode cX15_isBalanced 51 = .ok (.iload_n 3, 1) := by decide +kernel
theorem dX15_isBalanced_52 : decode cX15_isBalanced 52 = .ok (.aload_n 0, 1) := by decide +kernel
theorem dX15_isBalanced_53 : decode cX15_isBalanced 53 = .ok (.getfield 38, 3) := by decide +kernel
theorem dX15_isBalanced_56 : decode cX15_isBalanced 56 = .ok (.if_icmp .ge 23, 3) := by decide +kernel
theorem dX15_isBalanced_59 : decode cX15_isBalanced 59 = .ok (.iload_n 2, 1) := by decide +kernel
theorem dX15_isBalanced_60 : decode cX15_isBalanced 60 = .ok (.aload_n 1, 1) := by decide +kernel
theorem dX15_isBalanced_61 : decode cX15_isBalanced 61 = .ok (.iload_n 3, 1) := by decide +kernel
theorem dX15_isBalanced_62 : decode cX15_isBalanced 62 = .ok (.iaload, 1) := by decide +kernel
theorem dX15_isBalanced_63 : decode cX15_isBalanced 63 = .ok (.ifCond .ne 7, 3) := by decide +kernel
theorem dX15_isBalanced_66 : decode cX15_isBalanced 66 = .ok (.iconst 1, 1) := by decide +kernel
theorem dX15_isBalanced_67 : decode cX15_isBalanced 67 = .ok (.goto 4, 3) := by decide +kernel
theorem dX15_isBalanced_70 : decode cX15_isBalanced 70 = .ok (.iconst 0, 1) := by decide +kernel
theorem dX15_isBalanced_71 : decode cX15_isBalanced 71 = .ok (.iand, 1) := by decide +kernel
theorem dX15_isBalanced_72 : decode cX15_isBalanced 72 = .ok (.istore_n 2, 1) := by decide +kernel
theorem dX15_isBalanced_73 : decode cX15_isBalanced 73 = .ok (.iinc 3 1, 3) := by decide +kernel
theorem dX15_isBalanced_76 : decode cX15_isBalanced 76 = .ok (.goto (-25), 3) := by decide +kernel
theorem dX15_isBalanced_79 : decode cX15_isBalanced 79 = .ok (.iload_n 2, 1) := by decide +kernel
theorem dX15_isBalanced_80 : decode cX15_isBalanced 80 = .ok (.ireturn, 1) := by decide +kernel
noncomputable def C_X15_isBalanced_L9 (l : Launch) (δ : Dl) : Seg (l, δ, yX15_isBalanced, 0, (some .boolean), cX15_isBalanced, 4) 9 47 :=
  seq (p := 9) (q := 10) (r := 47) (p_iload_n 2 dX15_isBalanced_9) (seq (p := 10) (q := 11) (r := 47) (p_aload_n 0 dX15_isBalanced_10) (seq (p := 11) (q := 14) (r := 47) (p_get [(14, 3), (15, 3)] (alL2 fl_X15_22_14 fl_X15_22_15) dX15_isBalanced_11) (seq (p := 14) (q := 17) (r := 47) (p_icmp_ge 47 dX15_isBalanced_14 (by decide)) (seq (p := 17) (q := 18) (r := 47) (p_aload_n 1 dX15_isBalanced_17) (seq (p := 18) (q := 19) (r := 47) (p_aload_n 0 dX15_isBalanced_18) (seq (p := 19) (q := 22) (r := 47) (p_get [(14, 4), (15, 4)] (alL2 fl_X15_25_14 fl_X15_25_15) dX15_isBalanced_19) (seq (p := 22) (q := 23) (r := 47) (p_iload_n 2 dX15_isBalanced_22) (seq (p := 23) (q := 24) (r := 47) (p_iald dX15_isBalanced_23) (seq (p := 24) (q := 25) (r := 47) (p_dup2 dX15_isBalanced_24) (seq (p := 25) (q := 26) (r := 47) (p_iald dX15_isBalanced_25) (seq (p := 26) (q := 27) (r := 47) (p_iload_n 2 dX15_isBalanced_26) (seq (p := 27) (q := 28) (r := 47) (p_aload_n 0 dX15_isBalanced_27) (seq (p := 28) (q := 31) (r := 47) (p_get [(14, 2), (15, 2)] (alL2 fl_X15_18_14 fl_X15_18_15) dX15_isBalanced_28) (seq (p := 31) (q := 39) (r := 47) (blk (seq (p := 31) (q := 38) (r := 39) (blk (seq (p := 31) (q := 34) (r := 38) (p_icmp_ge 38 dX15_isBalanced_31 (by decide)) (seq (p := 34) (q := 35) (r := 38) (p_iconst 1 dX15_isBalanced_34) (seq (p := 35) (q := 38) (r := 38) (p_goto 39 dX15_isBalanced_35 (by decide)) done)))) (seq (p := 38) (q := 39) (r := 39) (p_iconst (-1) dX15_isBalanced_38) done))) (seq (p := 39) (q := 40) (r := 47) (p_iadd dX15_isBalanced_39) (seq (p := 40) (q := 41) (r := 47) (p_iast dX15_isBalanced_40) (seq (p := 41) (q := 44) (r := 47) (p_iinc 2 1 dX15_isBalanced_41 (Nat.le_of_ble_eq_true rfl)) (seq (p := 44) (q := 44) (r := 47) (er [true, true, true, false]) (seq (p := 44) (q := 47) (r := 47) (p_goto 9 dX15_isBalanced_44 (by decide)) done)))))))))))))))))))
noncomputable def B_X15_isBalanced_L9 (l : Launch) (δ : Dl) : Seg (l, δ, yX15_isBalanced, 0, (some .boolean), cX15_isBalanced, 4) 9 47 := C_X15_isBalanced_L9 l δ
theorem L_X15_isBalanced_9 {l : Launch} {δ : Dl} {st : Stk} {L : Lc} {s : St} : (B_X15_isBalanced_L9 l δ).1 st L s = (C_X15_isBalanced_L9 l δ).1 st L s := nrfl rfl
noncomputable def C_X15_isBalanced_L51 (l : Launch) (δ : Dl) : Seg (l, δ, yX15_isBalanced, 0, (some .boolean), cX15_isBalanced, 4) 51 79 :=
  seq (p := 51) (q := 52) (r := 79) (p_iload_n 3 dX15_isBalanced_51) (seq (p := 52) (q := 53) (r := 79) (p_aload_n 0 dX15_isBalanced_52) (seq (p := 53) (q := 56) (r := 79) (p_get [(14, 5), (15, 5)] (alL2 fl_X15_38_14 fl_X15_38_15) dX15_isBalanced_53) (seq (p := 56) (q := 59) (r := 79) (p_icmp_ge 79 dX15_isBalanced_56 (by decide)) (seq (p := 59) (q := 60) (r := 79) (p_iload_n 2 dX15_isBalanced_59) (seq (p := 60) (q := 61) (r := 79) (p_aload_n 1 dX15_isBalanced_60) (seq (p := 61) (q := 62) (r := 79) (p_iload_n 3 dX15_isBalanced_61) (seq (p := 62) (q := 63) (r := 79) (p_iald dX15_isBalanced_62) (seq (p := 63) (q := 71) (r := 79) (blk (seq (p := 63) (q := 70) (r := 71) (blk (seq (p := 63) (q := 66) (r := 70) (p_if_ne 70 dX15_isBalanced_63 (by decide)) (seq (p := 66) (q := 67) (r := 70) (p_iconst 1 dX15_isBalanced_66) (seq (p := 67) (q := 70) (r := 70) (p_goto 71 dX15_isBalanced_67 (by decide)) done)))) (seq (p := 70) (q := 71) (r := 71) (p_iconst 0 dX15_isBalanced_70) done))) (seq (p := 71) (q := 72) (r := 79) (p_iand dX15_isBalanced_71) (seq (p := 72) (q := 73) (r := 79) (p_istore_n 2 dX15_isBalanced_72 (Nat.le_of_ble_eq_true rfl)) (seq (p := 73) (q := 76) (r := 79) (p_iinc 3 1 dX15_isBalanced_73 (Nat.le_of_ble_eq_true rfl)) (seq (p := 76) (q := 76) (r := 79) (er [true, true, true, true]) (seq (p := 76) (q := 79) (r := 79) (p_goto 51 dX15_isBalanced_76 (by decide)) done)))))))))))))
noncomputable def B_X15_isBalanced_L51 (l : Launch) (δ : Dl) : Seg (l, δ, yX15_isBalanced, 0, (some .boolean), cX15_isBalanced, 4) 51 79 := C_X15_isBalanced_L51 l δ
theorem L_X15_isBalanced_51 {l : Launch} {δ : Dl} {st : Stk} {L : Lc} {s : St} : (B_X15_isBalanced_L51 l δ).1 st L s = (C_X15_isBalanced_L51 l δ).1 st L s := nrfl rfl
noncomputable def B_X15_isBalanced (l : Launch) (δ : Dl) : Seg (l, δ, yX15_isBalanced, 0, (some .boolean), cX15_isBalanced, 4) 0 81 :=
  seq (p := 0) (q := 1) (r := 81) (p_aload_n 0 dX15_isBalanced_0) (seq (p := 1) (q := 4) (r := 81) (p_get [(14, 5), (15, 5)] (alL2 fl_X15_38_14 fl_X15_38_15) dX15_isBalanced_1) (seq (p := 4) (q := 6) (r := 81) (p_newa 0 (Nat.le_of_ble_eq_true rfl) dX15_isBalanced_4) (seq (p := 6) (q := 7) (r := 81) (p_astore_n 1 dX15_isBalanced_6 (Nat.le_of_ble_eq_true rfl)) (seq (p := 7) (q := 8) (r := 81) (p_iconst 0 dX15_isBalanced_7) (seq (p := 8) (q := 9) (r := 81) (p_istore_n 2 dX15_isBalanced_8 (Nat.le_of_ble_eq_true rfl)) (seq (p := 9) (q := 47) (r := 81) (blk (seq (p := 9) (q := 9) (r := 47) (er [true, true, true, false]) (seq (p := 9) (q := 47) (r := 47) (lp (B_X15_isBalanced_L9 l δ)) done))) (seq (p := 47) (q := 48) (r := 81) (p_iconst 1 dX15_isBalanced_47) (seq (p := 48) (q := 49) (r := 81) (p_istore_n 2 dX15_isBalanced_48 (Nat.le_of_ble_eq_true rfl)) (seq (p := 49) (q := 50) (r := 81) (p_iconst 0 dX15_isBalanced_49) (seq (p := 50) (q := 51) (r := 81) (p_istore_n 3 dX15_isBalanced_50 (Nat.le_of_ble_eq_true rfl)) (seq (p := 51) (q := 79) (r := 81) (blk (seq (p := 51) (q := 51) (r := 79) (er [true, true, true, true]) (seq (p := 51) (q := 79) (r := 79) (lp (B_X15_isBalanced_L51 l δ)) done))) (seq (p := 79) (q := 80) (r := 81) (p_iload_n 2 dX15_isBalanced_79) (seq (p := 80) (q := 81) (r := 81) (p_zreturn dX15_isBalanced_80 rfl) done)))))))))))))
noncomputable def M_X15_isBalanced (l : Launch) (δ : Dl) : Mth l δ yX15_isBalanced cX15_isBalanced 4 (some .boolean) 0 := mk (B_X15_isBalanced l δ) (by decide)
theorem N_X15_isBalanced {l : Launch} {δ : Dl} {o : Nat} {s : St} : (M_X15_isBalanced l δ).1 [.inr (.inr (some o))] s = bres ((B_X15_isBalanced l δ).1 [] [some (.inr (.inr (some o))), none, none, none] s) := (mk_eq (hy := by decide) rfl).trans (nrfl rfl)
theorem dX0_init_0 : decode cX0_init 0 = .ok (.aload_n 0, 1) := by decide +kernel
theorem dX0_init_1 : decode cX0_init 1 = .ok (.invokespecial 1, 3) := by decide +kernel
theorem dX0_init_4 : decode cX0_init 4 = .ok (.aload_n 0, 1) := by decide +kernel
theorem dX0_init_5 : decode cX0_init 5 = .ok (.bipush 6, 2) := by decide +kernel
theorem dX0_init_7 : decode cX0_init 7 = .ok (.anewarray 9, 3) := by decide +kernel
theorem dX0_init_10 : decode cX0_init 10 = .ok (.putfield 11, 3) := by decide +kernel
theorem dX0_init_13 : decode cX0_init 13 = .ok (.aload_n 0, 1) := by decide +kernel
theorem dX0_init_14 : decode cX0_init 14 = .ok (.sipush 800, 3) := by decide +kernel
theorem dX0_init_17 : decode cX0_init 17 = .ok (.newarray .byte, 2) := by decide +kernel
theorem dX0_init_19 : decode cX0_init 19 = .ok (.putfield 15, 3) := by decide +kernel
theorem dX0_init_22 : decode cX0_init 22 = .ok (.aload_n 0, 1) := by decide +kernel
theorem dX0_init_23 : decode cX0_init 23 = .ok (.new 19, 3) := by decide +kernel
theorem dX0_init_26 : decode cX0_init 26 = .ok (.dup, 1) := by decide +kernel
theorem dX0_init_27 : decode cX0_init 27 = .ok (.invokespecial 21, 3) := by decide +kernel
theorem dX0_init_30 : decode cX0_init 30 = .ok (.putfield 22, 3) := by decide +kernel
theorem dX0_init_33 : decode cX0_init 33 = .ok (.aload_n 0, 1) := by decide +kernel
theorem dX0_init_34 : decode cX0_init 34 = .ok (.bipush 12, 2) := by decide +kernel
theorem dX0_init_36 : decode cX0_init 36 = .ok (.newarray .int, 2) := by decide +kernel
theorem dX0_init_38 : decode cX0_init 38 = .ok (.putfield 26, 3) := by decide +kernel
theorem dX0_init_41 : decode cX0_init 41 = .ok (.return_, 1) := by decide +kernel
noncomputable def B_X0_init (l : Launch) (δ : Dl) : Seg (l, δ, yX0_init, 4, none, cX0_init, 1) 0 42 :=
  seq (p := 0) (q := 1) (r := 42) (p_aload_n 0 dX0_init_0) (seq (p := 1) (q := 4) (r := 42) (p_objI (Nat.le_of_ble_eq_true rfl) (okc q121) (okc q122) (okc q123) dX0_init_1) (seq (p := 4) (q := 5) (r := 42) (p_aload_n 0 dX0_init_4) (seq (p := 5) (q := 7) (r := 42) (p_bipush 6 dX0_init_5 (by decide)) (seq (p := 7) (q := 10) (r := 42) (p_anewa 4 (Or.inl rfl) (okc q124) dX0_init_7) (seq (p := 10) (q := 13) (r := 42) (p_putF [(0, 0)] (.array (.object "TwoWorlds$World")) (alF1 ff_X0_11_0) rfl dX0_init_10) (seq (p := 13) (q := 14) (r := 42) (p_aload_n 0 dX0_init_13) (seq (p := 14) (q := 17) (r := 42) (p_sipush 800 dX0_init_14 (by decide)) (seq (p := 17) (q := 19) (r := 42) (p_newa 1 (Nat.le_of_ble_eq_true rfl) dX0_init_17) (seq (p := 19) (q := 22) (r := 42) (p_putF [(0, 6)] (.array .byte) (alF1 ff_X0_15_0) rfl dX0_init_19) (seq (p := 22) (q := 23) (r := 42) (p_aload_n 0 dX0_init_22) (seq (p := 23) (q := 26) (r := 42) (p_new 16 ck16 tyJ2 tyJ2_ok f0_16 f0_16_ok (okc q126) (okc q127) (okc q90) dX0_init_23) (seq (p := 26) (q := 27) (r := 42) (p_dup dX0_init_26) (seq (p := 27) (q := 30) (r := 42) (p_callG 1 _ (ok_I ci_X0_21 (M_J2_init l δ) (Nat.le_of_ble_eq_true rfl) dX0_init_27) (Nat.le_of_ble_eq_true rfl)) (seq (p := 30) (q := 33) (r := 42) (p_putF [(0, 8)] (.object "java/util/List") (alF1 ff_X0_22_0) rfl dX0_init_30) (seq (p := 33) (q := 34) (r := 42) (p_aload_n 0 dX0_init_33) (seq (p := 34) (q := 36) (r := 42) (p_bipush 12 dX0_init_34 (by decide)) (seq (p := 36) (q := 38) (r := 42) (p_newa 0 (Nat.le_of_ble_eq_true rfl) dX0_init_36) (seq (p := 38) (q := 41) (r := 42) (p_putF [(0, 10)] (.array .int) (alF1 ff_X0_26_0) rfl dX0_init_38) (seq (p := 41) (q := 42) (r := 42) (p_return dX0_init_41 rfl) done)))))))))))))))))))
noncomputable def M_X0_init (l : Launch) (δ : Dl) : Mth l δ yX0_init cX0_init 1 none 4 := mk (B_X0_init l δ) (by decide)
theorem N_X0_init {l : Launch} {δ : Dl} {o : Nat} {s : St} : (M_X0_init l δ).1 [.inr (.inr (some o))] s = bres ((B_X0_init l δ).1 [] [some (.inr (.inr (some o)))] s) := (mk_eq (hy := by decide) rfl).trans (nrfl rfl)
theorem dX0_isPlace_0 : decode cX0_isPlace 0 = .ok (.iload_n 0, 1) := by decide +kernel
theorem dX0_isPlace_1 : decode cX0_isPlace 1 = .ok (.i2l, 1) := by decide +kernel
theorem dX0_isPlace_2 : decode cX0_isPlace 2 = .ok (.lconst 0, 1) := by decide +kernel
theorem dX0_isPlace_3 : decode cX0_isPlace 3 = .ok (.ldc2_w 30, 3) := by decide +kernel
theorem dX0_isPlace_6 : decode cX0_isPlace 6 = .ok (.invokestatic 32, 3) := by decide +kernel
theorem dX0_isPlace_9 : decode cX0_isPlace 9 = .ok (.ireturn, 1) := by decide +kernel
noncomputable def B_X0_isPlace (l : Launch) (δ : Dl) : Seg (l, δ, yX0_isPlace, 1, (some .boolean), cX0_isPlace, 1) 0 10 :=
  seq (p := 0) (q := 1) (r := 10) (p_iload_n 0 dX0_isPlace_0) (seq (p := 1) (q := 2) (r := 10) (p_i2l dX0_isPlace_1) (seq (p := 2) (q := 3) (r := 10) (p_lconst0 dX0_isPlace_2) (seq (p := 3) (q := 6) (r := 10) (p_ldc2 5 (okc q201) (by decide) dX0_isPlace_3) (seq (p := 6) (q := 9) (r := 10) (p_callG 3 _ (ok_S cs_X0_32 (M_X0_isIn l δ) (Nat.le_of_ble_eq_true rfl) dX0_isPlace_6) (Nat.le_of_ble_eq_true rfl)) (seq (p := 9) (q := 10) (r := 10) (p_zreturn dX0_isPlace_9 rfl) done)))))
noncomputable def M_X0_isPlace (l : Launch) (δ : Dl) : Mth l δ yX0_isPlace cX0_isPlace 1 (some .boolean) 1 := mk (B_X0_isPlace l δ) (by decide)
theorem N_X0_isPlace {l : Launch} {δ : Dl} {a1 : Int} {s : St} : (M_X0_isPlace l δ).1 [.inl a1] s = bres ((B_X0_isPlace l δ).1 [] [some (.inl a1)] s) := (mk_eq (hy := by decide) rfl).trans (nrfl rfl)
theorem dX0_world_0 : decode cX0_world 0 = .ok (.iload_n 1, 1) := by decide +kernel
theorem dX0_world_1 : decode cX0_world 1 = .ok (.invokestatic 36, 3) := by decide +kernel
theorem dX0_world_4 : decode cX0_world 4 = .ok (.ifCond .ne 5, 3) := by decide +kernel
theorem dX0_world_7 : decode cX0_world 7 = .ok (.iconst (-1), 1) := by decide +kernel
theorem dX0_world_8 : decode cX0_world 8 = .ok (.ireturn, 1) := by decide +kernel
theorem dX0_world_9 : decode cX0_world 9 = .ok (.iload_n 2, 1) := by decide +kernel
theorem dX0_world_10 : decode cX0_world 10 = .ok (.i2l, 1) := by decide +kernel
theorem dX0_world_11 : decode cX0_world 11 = .ok (.lconst 1, 1) := by decide +kernel
theorem dX0_world_12 : decode cX0_world 12 = .ok (.ldc2_w 46, 3) := by decide +kernel
theorem dX0_world_15 : decode cX0_world 15 = .ok (.invokestatic 32, 3) := by decide +kernel
theorem dX0_world_18 : decode cX0_world 18 = .ok (.ifCond .ne 6, 3) := by decide +kernel
theorem dX0_world_21 : decode cX0_world 21 = .ok (.bipush (-2), 2) := by decide +kernel
theorem dX0_world_23 : decode cX0_world 23 = .ok (.ireturn, 1) := by decide +kernel
theorem dX0_world_24 : decode cX0_world 24 = .ok (.aload_n 0, 1) := by decide +kernel
theorem dX0_world_25 : decode cX0_world 25 = .ok (.getfield 11, 3) := by decide +kernel
theorem dX0_world_28 : decode cX0_world 28 = .ok (.iload_n 1, 1) := by decide +kernel
theorem dX0_world_29 : decode cX0_world 29 = .ok (.new 9, 3) := by decide +kernel
theorem dX0_world_32 : decode cX0_world 32 = .ok (.dup, 1) := by decide +kernel
theorem dX0_world_33 : decode cX0_world 33 = .ok (.iload_n 2, 1) := by decide +kernel
theorem dX0_world_34 : decode cX0_world 34 = .ok (.invokespecial 48, 3) := by decide +kernel
theorem dX0_world_37 : decode cX0_world 37 = .ok (.aastore, 1) := by decide +kernel
theorem dX0_world_38 : decode cX0_world 38 = .ok (.iload_n 2, 1) := by decide +kernel
theorem dX0_world_39 : decode cX0_world 39 = .ok (.ireturn, 1) := by decide +kernel
noncomputable def B_X0_world (l : Launch) (δ : Dl) : Seg (l, δ, yX0_world, 2, (some .int), cX0_world, 3) 0 40 :=
  seq (p := 0) (q := 1) (r := 40) (p_iload_n 1 dX0_world_0) (seq (p := 1) (q := 4) (r := 40) (p_callG 1 _ (ok_S cs_X0_36 (M_X0_isPlace l δ) (Nat.le_of_ble_eq_true rfl) dX0_world_1) (Nat.le_of_ble_eq_true rfl)) (seq (p := 4) (q := 9) (r := 40) (blk (seq (p := 4) (q := 7) (r := 9) (p_if_ne 9 dX0_world_4 (by decide)) (seq (p := 7) (q := 8) (r := 9) (p_iconst (-1) dX0_world_7) (seq (p := 8) (q := 9) (r := 9) (p_ireturn dX0_world_8 rfl) done)))) (seq (p := 9) (q := 10) (r := 40) (p_iload_n 2 dX0_world_9) (seq (p := 10) (q := 11) (r := 40) (p_i2l dX0_world_10) (seq (p := 11) (q := 12) (r := 40) (p_lconst1 dX0_world_11) (seq (p := 12) (q := 15) (r := 40) (p_ldc2 6 (okc q205) (by decide) dX0_world_12) (seq (p := 15) (q := 18) (r := 40) (p_callG 3 _ (ok_S cs_X0_32 (M_X0_isIn l δ) (Nat.le_of_ble_eq_true rfl) dX0_world_15) (Nat.le_of_ble_eq_true rfl)) (seq (p := 18) (q := 24) (r := 40) (blk (seq (p := 18) (q := 21) (r := 24) (p_if_ne 24 dX0_world_18 (by decide)) (seq (p := 21) (q := 23) (r := 24) (p_bipush (-2) dX0_world_21 (by decide)) (seq (p := 23) (q := 24) (r := 24) (p_ireturn dX0_world_23 rfl) done)))) (seq (p := 24) (q := 25) (r := 40) (p_aload_n 0 dX0_world_24) (seq (p := 25) (q := 28) (r := 40) (p_get [(0, 0)] (alL1 fl_X0_11_0) dX0_world_25) (seq (p := 28) (q := 29) (r := 40) (p_iload_n 1 dX0_world_28) (seq (p := 29) (q := 32) (r := 40) (p_new 2 ck2 tyX2 tyX2_ok f0_2 f0_2_ok (okc q124) (okc q206) (okc q92) dX0_world_29) (seq (p := 32) (q := 33) (r := 40) (p_dup dX0_world_32) (seq (p := 33) (q := 34) (r := 40) (p_iload_n 2 dX0_world_33) (seq (p := 34) (q := 37) (r := 40) (p_callG 2 _ (ok_I ci_X0_48 (M_X2_init l δ) (Nat.le_of_ble_eq_true rfl) dX0_world_34) (Nat.le_of_ble_eq_true rfl)) (seq (p := 37) (q := 38) (r := 40) (p_aast dX0_world_37) (seq (p := 38) (q := 39) (r := 40) (p_iload_n 2 dX0_world_38) (seq (p := 39) (q := 40) (r := 40) (p_ireturn dX0_world_39 rfl) done))))))))))))))))))
noncomputable def M_X0_world (l : Launch) (δ : Dl) : Mth l δ yX0_world cX0_world 3 (some .int) 2 := mk (B_X0_world l δ) (by decide)
theorem N_X0_world {l : Launch} {δ : Dl} {o : Nat} {a1 : Int} {a2 : Int} {s : St} : (M_X0_world l δ).1 [.inr (.inr (some o)), .inl a1, .inl a2] s = bres ((B_X0_world l δ).1 [] [some (.inr (.inr (some o))), some (.inl a1), some (.inl a2)] s) := (mk_eq (hy := by decide) rfl).trans (nrfl rfl)
theorem dX0_isWorld_0 : decode cX0_isWorld 0 = .ok (.iload_n 1, 1) := by decide +kernel
theorem dX0_isWorld_1 : decode cX0_isWorld 1 = .ok (.invokestatic 36, 3) := by decide +kernel
theorem dX0_isWorld_4 : decode cX0_isWorld 4 = .ok (.ifCond .eq 16, 3) := by decide +kernel
theorem dX0_isWorld_7 : decode cX0_isWorld 7 = .ok (.aload_n 0, 1) := by decide +kernel
theorem dX0_isWorld_8 : decode cX0_isWorld 8 = .ok (.getfield 11, 3) := by decide +kernel
theorem dX0_isWorld_11 : decode cX0_isWorld 11 = .ok (.iload_n 1, 1) := by decide +kernel
theorem dX0_isWorld_12 : decode cX0_isWorld 12 = .ok (.aaload, 1) := by decide +kernel
theorem dX0_isWorld_13 : decode cX0_isWorld 13 = .ok (.ifnull 7, 3) := by decide +kernel
theorem dX0_isWorld_16 : decode cX0_isWorld 16 = .ok (.iconst 1, 1) := by decide +kernel
theorem dX0_isWorld_17 : decode cX0_isWorld 17 = .ok (.goto 4, 3) := by decide +kernel
theorem dX0_isWorld_20 : decode cX0_isWorld 20 = .ok (.iconst 0, 1) := by decide +kernel
theorem dX0_isWorld_21 : decode cX0_isWorld 21 = .ok (.ireturn, 1) := by decide +kernel
noncomputable def B_X0_isWorld (l : Launch) (δ : Dl) : Seg (l, δ, yX0_isWorld, 2, (some .boolean), cX0_isWorld, 2) 0 22 :=
  seq (p := 0) (q := 1) (r := 22) (p_iload_n 1 dX0_isWorld_0) (seq (p := 1) (q := 4) (r := 22) (p_callG 1 _ (ok_S cs_X0_36 (M_X0_isPlace l δ) (Nat.le_of_ble_eq_true rfl) dX0_isWorld_1) (Nat.le_of_ble_eq_true rfl)) (seq (p := 4) (q := 21) (r := 22) (blk (seq (p := 4) (q := 20) (r := 21) (blk (seq (p := 4) (q := 7) (r := 20) (p_if_eq 20 dX0_isWorld_4 (by decide)) (seq (p := 7) (q := 8) (r := 20) (p_aload_n 0 dX0_isWorld_7) (seq (p := 8) (q := 11) (r := 20) (p_get [(0, 0)] (alL1 fl_X0_11_0) dX0_isWorld_8) (seq (p := 11) (q := 12) (r := 20) (p_iload_n 1 dX0_isWorld_11) (seq (p := 12) (q := 13) (r := 20) (p_aald dX0_isWorld_12) (seq (p := 13) (q := 16) (r := 20) (p_ifnull 20 dX0_isWorld_13 (by decide)) (seq (p := 16) (q := 17) (r := 20) (p_iconst 1 dX0_isWorld_16) (seq (p := 17) (q := 20) (r := 20) (p_goto 21 dX0_isWorld_17 (by decide)) done))))))))) (seq (p := 20) (q := 21) (r := 21) (p_iconst 0 dX0_isWorld_20) done))) (seq (p := 21) (q := 22) (r := 22) (p_zreturn dX0_isWorld_21 rfl) done)))
noncomputable def M_X0_isWorld (l : Launch) (δ : Dl) : Mth l δ yX0_isWorld cX0_isWorld 2 (some .boolean) 2 := mk (B_X0_isWorld l δ) (by decide)
theorem N_X0_isWorld {l : Launch} {δ : Dl} {o : Nat} {a1 : Int} {s : St} : (M_X0_isWorld l δ).1 [.inr (.inr (some o)), .inl a1] s = bres ((B_X0_isWorld l δ).1 [] [some (.inr (.inr (some o))), some (.inl a1)] s) := (mk_eq (hy := by decide) rfl).trans (nrfl rfl)
theorem dX0_isThing_0 : decode cX0_isThing 0 = .ok (.aload_n 0, 1) := by decide +kernel
theorem dX0_isThing_1 : decode cX0_isThing 1 = .ok (.iload_n 1, 1) := by decide +kernel
theorem dX0_isThing_2 : decode cX0_isThing 2 = .ok (.invokevirtual 40, 3) := by decide +kernel
theorem dX0_isThing_5 : decode cX0_isThing 5 = .ok (.ifCond .eq 20, 3) := by decide +kernel
theorem dX0_isThing_8 : decode cX0_isThing 8 = .ok (.aload_n 0, 1) := by decide +kernel
theorem dX0_isThing_9 : decode cX0_isThing 9 = .ok (.getfield 11, 3) := by decide +kernel
theorem dX0_isThing_12 : decode cX0_isThing 12 = .ok (.iload_n 1, 1) := by decide +kernel
theorem dX0_isThing_13 : decode cX0_isThing 13 = .ok (.aaload, 1) := by decide +kernel
theorem dX0_isThing_14 : decode cX0_isThing 14 = .ok (.iload_n 2, 1) := by decide +kernel
theorem dX0_isThing_15 : decode cX0_isThing 15 = .ok (.invokevirtual 43, 3) := by decide +kernel
theorem dX0_isThing_18 : decode cX0_isThing 18 = .ok (.ifCond .eq 7, 3) := by decide +kernel
theorem dX0_isThing_21 : decode cX0_isThing 21 = .ok (.iconst 1, 1) := by decide +kernel
theorem dX0_isThing_22 : decode cX0_isThing 22 = .ok (.goto 4, 3) := by decide +kernel
theorem dX0_isThing_25 : decode cX0_isThing 25 = .ok (.iconst 0, 1) := by decide +kernel
theorem dX0_isThing_26 : decode cX0_isThing 26 = .ok (.ireturn, 1) := by decide +kernel
noncomputable def B_X0_isThing (l : Launch) (δ : Dl) : Seg (l, δ, yX0_isThing, 3, (some .boolean), cX0_isThing, 3) 0 27 :=
  seq (p := 0) (q := 1) (r := 27) (p_aload_n 0 dX0_isThing_0) (seq (p := 1) (q := 2) (r := 27) (p_iload_n 1 dX0_isThing_1) (seq (p := 2) (q := 5) (r := 27) (p_callG 2 _ (ok_V 0 cv_X0_40 rfl (M_X0_isWorld l δ) (Nat.le_of_ble_eq_true rfl) dX0_isThing_2) (Nat.le_of_ble_eq_true rfl)) (seq (p := 5) (q := 26) (r := 27) (blk (seq (p := 5) (q := 25) (r := 26) (blk (seq (p := 5) (q := 8) (r := 25) (p_if_eq 25 dX0_isThing_5 (by decide)) (seq (p := 8) (q := 9) (r := 25) (p_aload_n 0 dX0_isThing_8) (seq (p := 9) (q := 12) (r := 25) (p_get [(0, 0)] (alL1 fl_X0_11_0) dX0_isThing_9) (seq (p := 12) (q := 13) (r := 25) (p_iload_n 1 dX0_isThing_12) (seq (p := 13) (q := 14) (r := 25) (p_aald dX0_isThing_13) (seq (p := 14) (q := 15) (r := 25) (p_iload_n 2 dX0_isThing_14) (seq (p := 15) (q := 18) (r := 25) (p_callG 2 _ (ok_V 2 cv_X0_43 rfl (M_X2_isThing l δ) (Nat.le_of_ble_eq_true rfl) dX0_isThing_15) (Nat.le_of_ble_eq_true rfl)) (seq (p := 18) (q := 21) (r := 25) (p_if_eq 25 dX0_isThing_18 (by decide)) (seq (p := 21) (q := 22) (r := 25) (p_iconst 1 dX0_isThing_21) (seq (p := 22) (q := 25) (r := 25) (p_goto 26 dX0_isThing_22 (by decide)) done))))))))))) (seq (p := 25) (q := 26) (r := 26) (p_iconst 0 dX0_isThing_25) done))) (seq (p := 26) (q := 27) (r := 27) (p_zreturn dX0_isThing_26 rfl) done))))
noncomputable def M_X0_isThing (l : Launch) (δ : Dl) : Mth l δ yX0_isThing cX0_isThing 3 (some .boolean) 3 := mk (B_X0_isThing l δ) (by decide)
theorem N_X0_isThing {l : Launch} {δ : Dl} {o : Nat} {a1 : Int} {a2 : Int} {s : St} : (M_X0_isThing l δ).1 [.inr (.inr (some o)), .inl a1, .inl a2] s = bres ((B_X0_isThing l δ).1 [] [some (.inr (.inr (some o))), some (.inl a1), some (.inl a2)] s) := (mk_eq (hy := by decide) rfl).trans (nrfl rfl)
theorem dX0_mark_0 : decode cX0_mark 0 = .ok (.aload_n 0, 1) := by decide +kernel
theorem dX0_mark_1 : decode cX0_mark 1 = .ok (.iload_n 1, 1) := by decide +kernel
theorem dX0_mark_2 : decode cX0_mark 2 = .ok (.iload_n 2, 1) := by decide +kernel
theorem dX0_mark_3 : decode cX0_mark 3 = .ok (.invokevirtual 51, 3) := by decide +kernel
theorem dX0_mark_6 : decode cX0_mark 6 = .ok (.ifCond .ne 5, 3) := by decide +kernel
theorem dX0_mark_9 : decode cX0_mark 9 = .ok (.iconst (-1), 1) := by decide +kernel
theorem dX0_mark_10 : decode cX0_mark 10 = .ok (.ireturn, 1) := by decide +kernel
theorem dX0_mark_11 : decode cX0_mark 11 = .ok (.iload_n 3, 1) := by decide +kernel
theorem dX0_mark_12 : decode cX0_mark 12 = .ok (.i2l, 1) := by decide +kernel
theorem dX0_mark_13 : decode cX0_mark 13 = .ok (.lconst 0, 1) := by decide +kernel
theorem dX0_mark_14 : decode cX0_mark 14 = .ok (.lconst 1, 1) := by decide +kernel
theorem dX0_mark_15 : decode cX0_mark 15 = .ok (.invokestatic 32, 3) := by decide +kernel
theorem dX0_mark_18 : decode cX0_mark 18 = .ok (.ifCond .ne 6, 3) := by decide +kernel
theorem dX0_mark_21 : decode cX0_mark 21 = .ok (.bipush (-2), 2) := by decide +kernel
theorem dX0_mark_23 : decode cX0_mark 23 = .ok (.ireturn, 1) := by decide +kernel
theorem dX0_mark_24 : decode cX0_mark 24 = .ok (.iconst 1, 1) := by decide +kernel
theorem dX0_mark_25 : decode cX0_mark 25 = .ok (.iload_n 3, 1) := by decide +kernel
theorem dX0_mark_26 : decode cX0_mark 26 = .ok (.ishl, 1) := by decide +kernel
theorem dX0_mark_27 : decode cX0_mark 27 = .ok (.istore 5, 2) := by decide +kernel
theorem dX0_mark_29 : decode cX0_mark 29 = .ok (.aload_n 0, 1) := by decide +kernel
theorem dX0_mark_30 : decode cX0_mark 30 = .ok (.getfield 11, 3) := by decide +kernel
theorem dX0_mark_33 : decode cX0_mark 33 = .ok (.iload_n 1, 1) := by decide +kernel
theorem dX0_mark_34 : decode cX0_mark 34 = .ok (.aaload, 1) := by decide +kernel
theorem dX0_mark_35 : decode cX0_mark 35 = .ok (.getfield 54, 3) := by decide +kernel
theorem dX0_mark_38 : decode cX0_mark 38 = .ok (.iload_n 2, 1) := by decide +kernel
theorem dX0_mark_39 : decode cX0_mark 39 = .ok (.iaload, 1) := by decide +kernel
theorem dX0_mark_40 : decode cX0_mark 40 = .ok (.istore 6, 2) := by decide +kernel
theorem dX0_mark_42 : decode cX0_mark 42 = .ok (.aload_n 0, 1) := by decide +kernel
theorem dX0_mark_43 : decode cX0_mark 43 = .ok (.getfield 11, 3) := by decide +kernel
theorem dX0_mark_46 : decode cX0_mark 46 = .ok (.iload_n 1, 1) := by decide +kernel
theorem dX0_mark_47 : decode cX0_mark 47 = .ok (.aaload, 1) := by decide +kernel
theorem dX0_mark_48 : decode cX0_mark 48 = .ok (.getfield 54, 3) := by decide +kernel
theorem dX0_mark_51 : decode cX0_mark 51 = .ok (.iload_n 2, 1) := by decide +kernel
theorem dX0_mark_52 : decode cX0_mark 52 = .ok (.iload 4, 2) := by decide +kernel
theorem dX0_mark_54 : decode cX0_mark 54 = .ok (.ifCond .eq 11, 3) := by decide +kernel
theorem dX0_mark_57 : decode cX0_mark 57 = .ok (.iload 6, 2) := by decide +kernel
theorem dX0_mark_59 : decode cX0_mark 59 = .ok (.iload 5, 2) := by decide +kernel
theorem dX0_mark_61 : decode cX0_mark 61 = .ok (.ior, 1) := by decide +kernel
theorem dX0_mark_62 : decode cX0_mark 62 = .ok (.goto 10, 3) := by decide +kernel
theorem dX0_mark_65 : decode cX0_mark 65 = .ok (.iload 6, 2) := by decide +kernel
theorem dX0_mark_67 : decode cX0_mark 67 = .ok (.iload 5, 2) := by decide +kernel
theorem dX0_mark_69 : decode cX0_mark 69 = .ok (.iconst (-1), 1) := by decide +kernel
theorem dX0_mark_70 : decode cX0_mark 70 = .ok (.ixor, 1) := by decide +kernel
theorem dX0_mark_71 : decode cX0_mark 71 = .ok (.iand, 1) := by decide +kernel
theorem dX0_mark_72 : decode cX0_mark 72 = .ok (.iastore, 1) := by decide +kernel
theorem dX0_mark_73 : decode cX0_mark 73 = .ok (.aload_n 0, 1) := by decide +kernel
theorem dX0_mark_74 : decode cX0_mark 74 = .ok (.getfield 11, 3) := by decide +kernel
theorem dX0_mark_77 : decode cX0_mark 77 = .ok (.iload_n 1, 1) := by decide +kernel
theorem dX0_mark_78 : decode cX0_mark 78 = .ok (.aaload, 1) := by decide +kernel
theorem dX0_mark_79 : decode cX0_mark 79 = .ok (.getfield 54, 3) := by decide +kernel
theorem dX0_mark_82 : decode cX0_mark 82 = .ok (.iload_n 2, 1) := by decide +kernel
theorem dX0_mark_83 : decode cX0_mark 83 = .ok (.iaload, 1) := by decide +kernel
theorem dX0_mark_84 : decode cX0_mark 84 = .ok (.iload 6, 2) := by decide +kernel
theorem dX0_mark_86 : decode cX0_mark 86 = .ok (.if_icmp .ne 7, 3) := by decide +kernel
theorem dX0_mark_89 : decode cX0_mark 89 = .ok (.iconst 0, 1) := by decide +kernel
theorem dX0_mark_90 : decode cX0_mark 90 = .ok (.goto 4, 3) := by decide +kernel
theorem dX0_mark_93 : decode cX0_mark 93 = .ok (.iconst 1, 1) := by decide +kernel
theorem dX0_mark_94 : decode cX0_mark 94 = .ok (.ireturn, 1) := by decide +kernel
noncomputable def B_X0_mark (l : Launch) (δ : Dl) : Seg (l, δ, yX0_mark, 4, (some .int), cX0_mark, 7) 0 95 :=
  seq (p := 0) (q := 1) (r := 95) (p_aload_n 0 dX0_mark_0) (seq (p := 1) (q := 2) (r := 95) (p_iload_n 1 dX0_mark_1) (seq (p := 2) (q := 3) (r := 95) (p_iload_n 2 dX0_mark_2) (seq (p := 3) (q := 6) (r := 95) (p_callG 3 _ (ok_V 0 cv_X0_51 rfl (M_X0_isThing l δ) (Nat.le_of_ble_eq_true rfl) dX0_mark_3) (Nat.le_of_ble_eq_true rfl)) (seq (p := 6) (q := 11) (r := 95) (blk (seq (p := 6) (q := 9) (r := 11) (p_if_ne 11 dX0_mark_6 (by decide)) (seq (p := 9) (q := 10) (r := 11) (p_iconst (-1) dX0_mark_9) (seq (p := 10) (q := 11) (r := 11) (p_ireturn dX0_mark_10 rfl) done)))) (seq (p := 11) (q := 12) (r := 95) (p_iload_n 3 dX0_mark_11) (seq (p := 12) (q := 13) (r := 95) (p_i2l dX0_mark_12) (seq (p := 13) (q := 14) (r := 95) (p_lconst0 dX0_mark_13) (seq (p := 14) (q := 15) (r := 95) (p_lconst1 dX0_mark_14) (seq (p := 15) (q := 18) (r := 95) (p_callG 3 _ (ok_S cs_X0_32 (M_X0_isIn l δ) (Nat.le_of_ble_eq_true rfl) dX0_mark_15) (Nat.le_of_ble_eq_true rfl)) (seq (p := 18) (q := 24) (r := 95) (blk (seq (p := 18) (q := 21) (r := 24) (p_if_ne 24 dX0_mark_18 (by decide)) (seq (p := 21) (q := 23) (r := 24) (p_bipush (-2) dX0_mark_21 (by decide)) (seq (p := 23) (q := 24) (r := 24) (p_ireturn dX0_mark_23 rfl) done)))) (seq (p := 24) (q := 25) (r := 95) (p_iconst 1 dX0_mark_24) (seq (p := 25) (q := 26) (r := 95) (p_iload_n 3 dX0_mark_25) (seq (p := 26) (q := 27) (r := 95) (p_ishl dX0_mark_26) (seq (p := 27) (q := 29) (r := 95) (p_istore 5 dX0_mark_27 (Nat.le_of_ble_eq_true rfl)) (seq (p := 29) (q := 30) (r := 95) (p_aload_n 0 dX0_mark_29) (seq (p := 30) (q := 33) (r := 95) (p_get [(0, 0)] (alL1 fl_X0_11_0) dX0_mark_30) (seq (p := 33) (q := 34) (r := 95) (p_iload_n 1 dX0_mark_33) (seq (p := 34) (q := 35) (r := 95) (p_aald dX0_mark_34) (seq (p := 35) (q := 38) (r := 95) (p_get [(2, 1)] (alL1 fl_X0_54_2) dX0_mark_35) (seq (p := 38) (q := 39) (r := 95) (p_iload_n 2 dX0_mark_38) (seq (p := 39) (q := 40) (r := 95) (p_iald dX0_mark_39) (seq (p := 40) (q := 42) (r := 95) (p_istore 6 dX0_mark_40 (Nat.le_of_ble_eq_true rfl)) (seq (p := 42) (q := 43) (r := 95) (p_aload_n 0 dX0_mark_42) (seq (p := 43) (q := 46) (r := 95) (p_get [(0, 0)] (alL1 fl_X0_11_0) dX0_mark_43) (seq (p := 46) (q := 47) (r := 95) (p_iload_n 1 dX0_mark_46) (seq (p := 47) (q := 48) (r := 95) (p_aald dX0_mark_47) (seq (p := 48) (q := 51) (r := 95) (p_get [(2, 1)] (alL1 fl_X0_54_2) dX0_mark_48) (seq (p := 51) (q := 52) (r := 95) (p_iload_n 2 dX0_mark_51) (seq (p := 52) (q := 54) (r := 95) (p_iload 4 dX0_mark_52) (seq (p := 54) (q := 72) (r := 95) (blk (seq (p := 54) (q := 65) (r := 72) (blk (seq (p := 54) (q := 57) (r := 65) (p_if_eq 65 dX0_mark_54 (by decide)) (seq (p := 57) (q := 59) (r := 65) (p_iload 6 dX0_mark_57) (seq (p := 59) (q := 61) (r := 65) (p_iload 5 dX0_mark_59) (seq (p := 61) (q := 62) (r := 65) (p_ior dX0_mark_61) (seq (p := 62) (q := 65) (r := 65) (p_goto 72 dX0_mark_62 (by decide)) done)))))) (seq (p := 65) (q := 67) (r := 72) (p_iload 6 dX0_mark_65) (seq (p := 67) (q := 69) (r := 72) (p_iload 5 dX0_mark_67) (seq (p := 69) (q := 70) (r := 72) (p_iconst (-1) dX0_mark_69) (seq (p := 70) (q := 71) (r := 72) (p_ixor dX0_mark_70) (seq (p := 71) (q := 72) (r := 72) (p_iand dX0_mark_71) done))))))) (seq (p := 72) (q := 73) (r := 95) (p_iast dX0_mark_72) (seq (p := 73) (q := 74) (r := 95) (p_aload_n 0 dX0_mark_73) (seq (p := 74) (q := 77) (r := 95) (p_get [(0, 0)] (alL1 fl_X0_11_0) dX0_mark_74) (seq (p := 77) (q := 78) (r := 95) (p_iload_n 1 dX0_mark_77) (seq (p := 78) (q := 79) (r := 95) (p_aald dX0_mark_78) (seq (p := 79) (q := 82) (r := 95) (p_get [(2, 1)] (alL1 fl_X0_54_2) dX0_mark_79) (seq (p := 82) (q := 83) (r := 95) (p_iload_n 2 dX0_mark_82) (seq (p := 83) (q := 84) (r := 95) (p_iald dX0_mark_83) (seq (p := 84) (q := 86) (r := 95) (p_iload 6 dX0_mark_84) (seq (p := 86) (q := 94) (r := 95) (blk (seq (p := 86) (q := 93) (r := 94) (blk (seq (p := 86) (q := 89) (r := 93) (p_icmp_ne 93 dX0_mark_86 (by decide)) (seq (p := 89) (q := 90) (r := 93) (p_iconst 0 dX0_mark_89) (seq (p := 90) (q := 93) (r := 93) (p_goto 94 dX0_mark_90 (by decide)) done)))) (seq (p := 93) (q := 94) (r := 94) (p_iconst 1 dX0_mark_93) done))) (seq (p := 94) (q := 95) (r := 95) (p_ireturn dX0_mark_94 rfl) done)))))))))))))))))))))))))))))))))))))))))
noncomputable def M_X0_mark (l : Launch) (δ : Dl) : Mth l δ yX0_mark cX0_mark 7 (some .int) 4 := mk (B_X0_mark l δ) (by decide)
theorem N_X0_mark {l : Launch} {δ : Dl} {o : Nat} {a1 : Int} {a2 : Int} {a3 : Int} {a4 : Int} {s : St} : (M_X0_mark l δ).1 [.inr (.inr (some o)), .inl a1, .inl a2, .inl a3, .inl a4] s = bres ((B_X0_mark l δ).1 [] [some (.inr (.inr (some o))), some (.inl a1), some (.inl a2), some (.inl a3), some (.inl a4), none, none] s) := (mk_eq (hy := by decide) rfl).trans (nrfl rfl)
theorem dX0_tie_0 : decode cX0_tie 0 = .ok (.aload_n 0, 1) := by decide +kernel
theorem dX0_tie_1 : decode cX0_tie 1 = .ok (.iload_n 1, 1) := by decide +kernel
theorem dX0_tie_2 : decode cX0_tie 2 = .ok (.iload_n 2, 1) := by decide +kernel
theorem dX0_tie_3 : decode cX0_tie 3 = .ok (.invokevirtual 51, 3) := by decide +kernel
theorem dX0_tie_6 : decode cX0_tie 6 = .ok (.ifCond .eq 12, 3) := by decide +kernel
theorem dX0_tie_9 : decode cX0_tie 9 = .ok (.aload_n 0, 1) := by decide +kernel
theorem dX0_tie_10 : decode cX0_tie 10 = .ok (.iload_n 1, 1) := by decide +kernel
theorem dX0_tie_11 : decode cX0_tie 11 = .ok (.iload_n 3, 1) := by decide +kernel
theorem dX0_tie_12 : decode cX0_tie 12 = .ok (.invokevirtual 51, 3) := by decide +kernel
theorem dX0_tie_15 : decode cX0_tie 15 = .ok (.ifCond .ne 5, 3) := by decide +kernel
theorem dX0_tie_18 : decode cX0_tie 18 = .ok (.iconst (-1), 1) := by decide +kernel
theorem dX0_tie_19 : decode cX0_tie 19 = .ok (.ireturn, 1) := by decide +kernel
theorem dX0_tie_20 : decode cX0_tie 20 = .ok (.aload_n 0, 1) := by decide +kernel
theorem dX0_tie_21 : decode cX0_tie 21 = .ok (.getfield 11, 3) := by decide +kernel
theorem dX0_tie_24 : decode cX0_tie 24 = .ok (.iload_n 1, 1) := by decide +kernel
theorem dX0_tie_25 : decode cX0_tie 25 = .ok (.aaload, 1) := by decide +kernel
theorem dX0_tie_26 : decode cX0_tie 26 = .ok (.iload_n 2, 1) := by decide +kernel
theorem dX0_tie_27 : decode cX0_tie 27 = .ok (.iload_n 3, 1) := by decide +kernel
theorem dX0_tie_28 : decode cX0_tie 28 = .ok (.invokevirtual 57, 3) := by decide +kernel
theorem dX0_tie_31 : decode cX0_tie 31 = .ok (.istore 5, 2) := by decide +kernel
theorem dX0_tie_33 : decode cX0_tie 33 = .ok (.aload_n 0, 1) := by decide +kernel
theorem dX0_tie_34 : decode cX0_tie 34 = .ok (.getfield 11, 3) := by decide +kernel
theorem dX0_tie_37 : decode cX0_tie 37 = .ok (.iload_n 1, 1) := by decide +kernel
theorem dX0_tie_38 : decode cX0_tie 38 = .ok (.aaload, 1) := by decide +kernel
theorem dX0_tie_39 : decode cX0_tie 39 = .ok (.getfield 60, 3) := by decide +kernel
theorem dX0_tie_42 : decode cX0_tie 42 = .ok (.bipush 6, 2) := by decide +kernel
theorem dX0_tie_44 : decode cX0_tie 44 = .ok (.iload_n 2, 1) := by decide +kernel
theorem dX0_tie_45 : decode cX0_tie 45 = .ok (.imul, 1) := by decide +kernel
theorem dX0_tie_46 : decode cX0_tie 46 = .ok (.iload_n 3, 1) := by decide +kernel
theorem dX0_tie_47 : decode cX0_tie 47 = .ok (.iadd, 1) := by decide +kernel
theorem dX0_tie_48 : decode cX0_tie 48 = .ok (.iload 4, 2) := by decide +kernel
theorem dX0_tie_50 : decode cX0_tie 50 = .ok (.bastore, 1) := by decide +kernel
theorem dX0_tie_51 : decode cX0_tie 51 = .ok (.iload 5, 2) := by decide +kernel
theorem dX0_tie_53 : decode cX0_tie 53 = .ok (.iload 4, 2) := by decide +kernel
theorem dX0_tie_55 : decode cX0_tie 55 = .ok (.if_icmp .ne 7, 3) := by decide +kernel
theorem dX0_tie_58 : decode cX0_tie 58 = .ok (.iconst 0, 1) := by decide +kernel
theorem dX0_tie_59 : decode cX0_tie 59 = .ok (.goto 4, 3) := by decide +kernel
theorem dX0_tie_62 : decode cX0_tie 62 = .ok (.iconst 1, 1) := by decide +kernel
theorem dX0_tie_63 : decode cX0_tie 63 = .ok (.ireturn, 1) := by decide +kernel
noncomputable def B_X0_tie (l : Launch) (δ : Dl) : Seg (l, δ, yX0_tie, 4, (some .int), cX0_tie, 6) 0 64 :=
  seq (p := 0) (q := 1) (r := 64) (p_aload_n 0 dX0_tie_0) (seq (p := 1) (q := 2) (r := 64) (p_iload_n 1 dX0_tie_1) (seq (p := 2) (q := 3) (r := 64) (p_iload_n 2 dX0_tie_2) (seq (p := 3) (q := 6) (r := 64) (p_callG 3 _ (ok_V 0 cv_X0_51 rfl (M_X0_isThing l δ) (Nat.le_of_ble_eq_true rfl) dX0_tie_3) (Nat.le_of_ble_eq_true rfl)) (seq (p := 6) (q := 20) (r := 64) (blk (seq (p := 6) (q := 18) (r := 20) (blk (seq (p := 6) (q := 9) (r := 18) (p_if_eq 18 dX0_tie_6 (by decide)) (seq (p := 9) (q := 10) (r := 18) (p_aload_n 0 dX0_tie_9) (seq (p := 10) (q := 11) (r := 18) (p_iload_n 1 dX0_tie_10) (seq (p := 11) (q := 12) (r := 18) (p_iload_n 3 dX0_tie_11) (seq (p := 12) (q := 15) (r := 18) (p_callG 3 _ (ok_V 0 cv_X0_51 rfl (M_X0_isThing l δ) (Nat.le_of_ble_eq_true rfl) dX0_tie_12) (Nat.le_of_ble_eq_true rfl)) (seq (p := 15) (q := 18) (r := 18) (p_if_ne 20 dX0_tie_15 (by decide)) done))))))) (seq (p := 18) (q := 19) (r := 20) (p_iconst (-1) dX0_tie_18) (seq (p := 19) (q := 20) (r := 20) (p_ireturn dX0_tie_19 rfl) done)))) (seq (p := 20) (q := 21) (r := 64) (p_aload_n 0 dX0_tie_20) (seq (p := 21) (q := 24) (r := 64) (p_get [(0, 0)] (alL1 fl_X0_11_0) dX0_tie_21) (seq (p := 24) (q := 25) (r := 64) (p_iload_n 1 dX0_tie_24) (seq (p := 25) (q := 26) (r := 64) (p_aald dX0_tie_25) (seq (p := 26) (q := 27) (r := 64) (p_iload_n 2 dX0_tie_26) (seq (p := 27) (q := 28) (r := 64) (p_iload_n 3 dX0_tie_27) (seq (p := 28) (q := 31) (r := 64) (p_callG 3 _ (ok_V 2 cv_X0_57 rfl (M_X2_isTied l δ) (Nat.le_of_ble_eq_true rfl) dX0_tie_28) (Nat.le_of_ble_eq_true rfl)) (seq (p := 31) (q := 33) (r := 64) (p_istore 5 dX0_tie_31 (Nat.le_of_ble_eq_true rfl)) (seq (p := 33) (q := 34) (r := 64) (p_aload_n 0 dX0_tie_33) (seq (p := 34) (q := 37) (r := 64) (p_get [(0, 0)] (alL1 fl_X0_11_0) dX0_tie_34) (seq (p := 37) (q := 38) (r := 64) (p_iload_n 1 dX0_tie_37) (seq (p := 38) (q := 39) (r := 64) (p_aald dX0_tie_38) (seq (p := 39) (q := 42) (r := 64) (p_get [(2, 2)] (alL1 fl_X0_60_2) dX0_tie_39) (seq (p := 42) (q := 44) (r := 64) (p_bipush 6 dX0_tie_42 (by decide)) (seq (p := 44) (q := 45) (r := 64) (p_iload_n 2 dX0_tie_44) (seq (p := 45) (q := 46) (r := 64) (p_imul dX0_tie_45) (seq (p := 46) (q := 47) (r := 64) (p_iload_n 3 dX0_tie_46) (seq (p := 47) (q := 48) (r := 64) (p_iadd dX0_tie_47) (seq (p := 48) (q := 50) (r := 64) (p_iload 4 dX0_tie_48) (seq (p := 50) (q := 51) (r := 64) (p_zast dX0_tie_50) (seq (p := 51) (q := 53) (r := 64) (p_iload 5 dX0_tie_51) (seq (p := 53) (q := 55) (r := 64) (p_iload 4 dX0_tie_53) (seq (p := 55) (q := 63) (r := 64) (blk (seq (p := 55) (q := 62) (r := 63) (blk (seq (p := 55) (q := 58) (r := 62) (p_icmp_ne 62 dX0_tie_55 (by decide)) (seq (p := 58) (q := 59) (r := 62) (p_iconst 0 dX0_tie_58) (seq (p := 59) (q := 62) (r := 62) (p_goto 63 dX0_tie_59 (by decide)) done)))) (seq (p := 62) (q := 63) (r := 63) (p_iconst 1 dX0_tie_62) done))) (seq (p := 63) (q := 64) (r := 64) (p_ireturn dX0_tie_63 rfl) done))))))))))))))))))))))))))))
noncomputable def M_X0_tie (l : Launch) (δ : Dl) : Mth l δ yX0_tie cX0_tie 6 (some .int) 4 := mk (B_X0_tie l δ) (by decide)
theorem N_X0_tie {l : Launch} {δ : Dl} {o : Nat} {a1 : Int} {a2 : Int} {a3 : Int} {a4 : Int} {s : St} : (M_X0_tie l δ).1 [.inr (.inr (some o)), .inl a1, .inl a2, .inl a3, .inl a4] s = bres ((B_X0_tie l δ).1 [] [some (.inr (.inr (some o))), some (.inl a1), some (.inl a2), some (.inl a3), some (.inl a4), none] s) := (mk_eq (hy := by decide) rfl).trans (nrfl rfl)

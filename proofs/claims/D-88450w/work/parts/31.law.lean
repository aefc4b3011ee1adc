/-! ===== the methods with handlers and the law as segments ===== -/
set_option maxRecDepth 100000
theorem dX0_read_0 : decode cX0_read 0 = .ok (.aload_n 0, 1) := by decide +kernel
theorem dX0_read_1 : decode cX0_read 1 = .ok (.getfield 178, 3) := by decide +kernel
theorem dX0_read_4 : decode cX0_read 4 = .ok (.istore_n 1, 1) := by decide +kernel
theorem dX0_read_5 : decode cX0_read 5 = .ok (.aload_n 0, 1) := by decide +kernel
theorem dX0_read_6 : decode cX0_read 6 = .ok (.iconst 0, 1) := by decide +kernel
theorem dX0_read_7 : decode cX0_read 7 = .ok (.putfield 178, 3) := by decide +kernel
theorem dX0_read_10 : decode cX0_read 10 = .ok (.aload_n 0, 1) := by decide +kernel
theorem dX0_read_11 : decode cX0_read 11 = .ok (.new 181, 3) := by decide +kernel
theorem dX0_read_14 : decode cX0_read 14 = .ok (.dup, 1) := by decide +kernel
theorem dX0_read_15 : decode cX0_read 15 = .ok (.aload_n 0, 1) := by decide +kernel
theorem dX0_read_16 : decode cX0_read 16 = .ok (.getfield 15, 3) := by decide +kernel
theorem dX0_read_19 : decode cX0_read 19 = .ok (.iload_n 1, 1) := by decide +kernel
theorem dX0_read_20 : decode cX0_read 20 = .ok (.invokespecial 183, 3) := by decide +kernel
theorem dX0_read_23 : decode cX0_read 23 = .ok (.invokevirtual 186, 3) := by decide +kernel
theorem dX0_read_26 : decode cX0_read 26 = .ok (.invokevirtual 190, 3) := by decide +kernel
theorem dX0_read_29 : decode cX0_read 29 = .ok (.ireturn, 1) := by decide +kernel
theorem dX0_read_30 : decode cX0_read 30 = .ok (.astore_n 2, 1) := by decide +kernel
theorem dX0_read_31 : decode cX0_read 31 = .ok (.bipush (-20), 2) := by decide +kernel
theorem dX0_read_33 : decode cX0_read 33 = .ok (.aload_n 2, 1) := by decide +kernel
theorem dX0_read_34 : decode cX0_read 34 = .ok (.getfield 196, 3) := by decide +kernel
theorem dX0_read_37 : decode cX0_read 37 = .ok (.isub, 1) := by decide +kernel
theorem dX0_read_38 : decode cX0_read 38 = .ok (.ireturn, 1) := by decide +kernel
noncomputable def P_X0_read (l : Launch) (δ : Dl) : Seg (l, δ, yX0_read, 87, (some .int), cX0_read, 3) 0 10 :=
  seq (p := 0) (q := 1) (r := 10) (p_aload_n 0 dX0_read_0) (seq (p := 1) (q := 4) (r := 10) (p_get [(0, 7)] (alL1 fl_X0_178_0) dX0_read_1) (seq (p := 4) (q := 5) (r := 10) (p_istore_n 1 dX0_read_4 (Nat.le_of_ble_eq_true rfl)) (seq (p := 5) (q := 6) (r := 10) (p_aload_n 0 dX0_read_5) (seq (p := 6) (q := 7) (r := 10) (p_iconst 0 dX0_read_6) (seq (p := 7) (q := 10) (r := 10) (p_put [(0, 7)] .int (alP1 fp_X0_178_0) dX0_read_7) done)))))
noncomputable def T_X0_read (l : Launch) (δ : Dl) : Seg (l, δ, yX0_read, 87, (some .int), cX0_read, 3) 10 29 :=
  seq (p := 10) (q := 11) (r := 29) (p_aload_n 0 dX0_read_10) (seq (p := 11) (q := 14) (r := 29) (p_new 4 ck4 tyX4 tyX4_ok f0_4 f0_4_ok (okc q411) (okc q412) (okc q94) dX0_read_11) (seq (p := 14) (q := 15) (r := 29) (p_dup dX0_read_14) (seq (p := 15) (q := 16) (r := 29) (p_aload_n 0 dX0_read_15) (seq (p := 16) (q := 19) (r := 29) (p_get [(0, 6)] (alL1 fl_X0_15_0) dX0_read_16) (seq (p := 19) (q := 20) (r := 29) (p_iload_n 1 dX0_read_19) (seq (p := 20) (q := 23) (r := 29) (p_callG 3 _ (ok_I ci_X0_183 (M_X4_init l δ) (Nat.le_of_ble_eq_true rfl) dX0_read_20) (Nat.le_of_ble_eq_true rfl)) (seq (p := 23) (q := 26) (r := 29) (p_callG 1 _ (ok_V 4 cv_X0_186 rfl (M_X4_read l δ) (Nat.le_of_ble_eq_true rfl) dX0_read_23) (Nat.le_of_ble_eq_true rfl)) (seq (p := 26) (q := 29) (r := 29) (p_callG 2 _ (ok_V 0 cv_X0_190 rfl (M_X0_comes l δ) (Nat.le_of_ble_eq_true rfl) dX0_read_26) (Nat.le_of_ble_eq_true rfl)) done))))))))
noncomputable def E_X0_read (l : Launch) (δ : Dl) : Seg (l, δ, yX0_read, 87, (some .int), cX0_read, 3) 29 30 :=
  seq (p := 29) (q := 30) (r := 30) (p_ireturn dX0_read_29 rfl) done
noncomputable def H_X0_read (l : Launch) (δ : Dl) : Seg (l, δ, yX0_read, 87, (some .int), cX0_read, 3) 30 39 :=
  seq (p := 30) (q := 31) (r := 39) (p_astore_n 2 dX0_read_30 (Nat.le_of_ble_eq_true rfl)) (seq (p := 31) (q := 33) (r := 39) (p_bipush (-20) dX0_read_31 (by decide)) (seq (p := 33) (q := 34) (r := 39) (p_aload_n 2 dX0_read_33) (seq (p := 34) (q := 37) (r := 39) (p_get [(6, 6)] (alL1 fl_X0_196_6) dX0_read_34) (seq (p := 37) (q := 38) (r := 39) (p_isub dX0_read_37) (seq (p := 38) (q := 39) (r := 39) (p_ireturn dX0_read_38 rfl) done)))))
noncomputable def M_X0_read (l : Launch) (δ : Dl) : MthW l δ yX0_read cX0_read 3 (some .int) [(10, 29, 30, 194)] 87 := mkW 6 (P_X0_read l δ) (T_X0_read l δ) (E_X0_read l δ) (H_X0_read l δ) rfl (by decide) q410 (by decide)
theorem N_X0_read {l : Launch} {δ : Dl} {o : Nat} {s : St} : (M_X0_read l δ).1 [.inr (.inr (some o))] s = wD (P_X0_read l δ).1 (T_X0_read l δ).1 (E_X0_read l δ).1 (H_X0_read l δ).1 6 [] [some (.inr (.inr (some o))), none, none] s := (mkW_eq (hy := by decide) rfl).trans (nrfl rfl)
theorem dX0_holds_0 : decode cX0_holds 0 = .ok (.aload_n 0, 1) := by decide +kernel
theorem dX0_holds_1 : decode cX0_holds 1 = .ok (.iload_n 1, 1) := by decide +kernel
theorem dX0_holds_2 : decode cX0_holds 2 = .ok (.invokevirtual 199, 3) := by decide +kernel
theorem dX0_holds_5 : decode cX0_holds 5 = .ok (.ifCond .eq 11, 3) := by decide +kernel
theorem dX0_holds_8 : decode cX0_holds 8 = .ok (.aload_n 0, 1) := by decide +kernel
theorem dX0_holds_9 : decode cX0_holds 9 = .ok (.iload_n 2, 1) := by decide +kernel
theorem dX0_holds_10 : decode cX0_holds 10 = .ok (.invokevirtual 40, 3) := by decide +kernel
theorem dX0_holds_13 : decode cX0_holds 13 = .ok (.ifCond .ne 5, 3) := by decide +kernel
theorem dX0_holds_16 : decode cX0_holds 16 = .ok (.iconst (-1), 1) := by decide +kernel
theorem dX0_holds_17 : decode cX0_holds 17 = .ok (.ireturn, 1) := by decide +kernel
theorem dX0_holds_18 : decode cX0_holds 18 = .ok (.new 214, 3) := by decide +kernel
theorem dX0_holds_21 : decode cX0_holds 21 = .ok (.dup, 1) := by decide +kernel
theorem dX0_holds_22 : decode cX0_holds 22 = .ok (.aload_n 0, 1) := by decide +kernel
theorem dX0_holds_23 : decode cX0_holds 23 = .ok (.getfield 11, 3) := by decide +kernel
theorem dX0_holds_26 : decode cX0_holds 26 = .ok (.iload_n 2, 1) := by decide +kernel
theorem dX0_holds_27 : decode cX0_holds 27 = .ok (.aaload, 1) := by decide +kernel
theorem dX0_holds_28 : decode cX0_holds 28 = .ok (.invokespecial 216, 3) := by decide +kernel
theorem dX0_holds_31 : decode cX0_holds 31 = .ok (.astore_n 3, 1) := by decide +kernel
theorem dX0_holds_32 : decode cX0_holds 32 = .ok (.aload_n 3, 1) := by decide +kernel
theorem dX0_holds_33 : decode cX0_holds 33 = .ok (.aload_n 0, 1) := by decide +kernel
theorem dX0_holds_34 : decode cX0_holds 34 = .ok (.getfield 22, 3) := by decide +kernel
theorem dX0_holds_37 : decode cX0_holds 37 = .ok (.iload_n 1, 1) := by decide +kernel
theorem dX0_holds_38 : decode cX0_holds 38 = .ok (.invokeinterface 202 2, 5) := by decide +kernel
theorem dX0_holds_43 : decode cX0_holds 43 = .ok (.checkcast 169, 3) := by decide +kernel
theorem dX0_holds_46 : decode cX0_holds 46 = .ok (.getfield 219, 3) := by decide +kernel
theorem dX0_holds_49 : decode cX0_holds 49 = .ok (.invokevirtual 223, 3) := by decide +kernel
theorem dX0_holds_52 : decode cX0_holds 52 = .ok (.istore 4, 2) := by decide +kernel
theorem dX0_holds_54 : decode cX0_holds 54 = .ok (.aload_n 0, 1) := by decide +kernel
theorem dX0_holds_55 : decode cX0_holds 55 = .ok (.aload_n 3, 1) := by decide +kernel
theorem dX0_holds_56 : decode cX0_holds 56 = .ok (.getfield 227, 3) := by decide +kernel
theorem dX0_holds_59 : decode cX0_holds 59 = .ok (.putfield 230, 3) := by decide +kernel
theorem dX0_holds_62 : decode cX0_holds 62 = .ok (.iload 4, 2) := by decide +kernel
theorem dX0_holds_64 : decode cX0_holds 64 = .ok (.ifCond .eq 7, 3) := by decide +kernel
theorem dX0_holds_67 : decode cX0_holds 67 = .ok (.iconst 1, 1) := by decide +kernel
theorem dX0_holds_68 : decode cX0_holds 68 = .ok (.goto 4, 3) := by decide +kernel
theorem dX0_holds_71 : decode cX0_holds 71 = .ok (.iconst 0, 1) := by decide +kernel
theorem dX0_holds_72 : decode cX0_holds 72 = .ok (.ireturn, 1) := by decide +kernel
theorem dX0_holds_73 : decode cX0_holds 73 = .ok (.astore 4, 2) := by decide +kernel
theorem dX0_holds_75 : decode cX0_holds 75 = .ok (.bipush (-6), 2) := by decide +kernel
theorem dX0_holds_77 : decode cX0_holds 77 = .ok (.ireturn, 1) := by decide +kernel
noncomputable def P_X0_holds (l : Launch) (δ : Dl) : Seg (l, δ, yX0_holds, 85, (some .int), cX0_holds, 5) 0 32 :=
  seq (p := 0) (q := 1) (r := 32) (p_aload_n 0 dX0_holds_0) (seq (p := 1) (q := 2) (r := 32) (p_iload_n 1 dX0_holds_1) (seq (p := 2) (q := 5) (r := 32) (p_callG 2 _ (ok_V 0 cv_X0_199 rfl (M_X0_isSentence l δ) (Nat.le_of_ble_eq_true rfl) dX0_holds_2) (Nat.le_of_ble_eq_true rfl)) (seq (p := 5) (q := 18) (r := 32) (blk (seq (p := 5) (q := 16) (r := 18) (blk (seq (p := 5) (q := 8) (r := 16) (p_if_eq 16 dX0_holds_5 (by decide)) (seq (p := 8) (q := 9) (r := 16) (p_aload_n 0 dX0_holds_8) (seq (p := 9) (q := 10) (r := 16) (p_iload_n 2 dX0_holds_9) (seq (p := 10) (q := 13) (r := 16) (p_callG 2 _ (ok_V 0 cv_X0_40 rfl (M_X0_isWorld l δ) (Nat.le_of_ble_eq_true rfl) dX0_holds_10) (Nat.le_of_ble_eq_true rfl)) (seq (p := 13) (q := 16) (r := 16) (p_if_ne 18 dX0_holds_13 (by decide)) done)))))) (seq (p := 16) (q := 17) (r := 18) (p_iconst (-1) dX0_holds_16) (seq (p := 17) (q := 18) (r := 18) (p_ireturn dX0_holds_17 rfl) done)))) (seq (p := 18) (q := 21) (r := 32) (p_new 12 ck12 tyX13 tyX13_ok f0_12 f0_12_ok (okc q847) (okc q848) (okc q111) dX0_holds_18) (seq (p := 21) (q := 22) (r := 32) (p_dup dX0_holds_21) (seq (p := 22) (q := 23) (r := 32) (p_aload_n 0 dX0_holds_22) (seq (p := 23) (q := 26) (r := 32) (p_get [(0, 0)] (alL1 fl_X0_11_0) dX0_holds_23) (seq (p := 26) (q := 27) (r := 32) (p_iload_n 2 dX0_holds_26) (seq (p := 27) (q := 28) (r := 32) (p_aald dX0_holds_27) (seq (p := 28) (q := 31) (r := 32) (p_callG 2 _ (ok_I ci_X0_216 (M_X13_init l δ) (Nat.le_of_ble_eq_true rfl) dX0_holds_28) (Nat.le_of_ble_eq_true rfl)) (seq (p := 31) (q := 32) (r := 32) (p_astore_n 3 dX0_holds_31 (Nat.le_of_ble_eq_true rfl)) done)))))))))))
noncomputable def T_X0_holds (l : Launch) (δ : Dl) : Seg (l, δ, yX0_holds, 85, (some .int), cX0_holds, 5) 32 72 :=
  seq (p := 32) (q := 33) (r := 72) (p_aload_n 3 dX0_holds_32) (seq (p := 33) (q := 34) (r := 72) (p_aload_n 0 dX0_holds_33) (seq (p := 34) (q := 37) (r := 72) (p_get [(0, 8)] (alL1 fl_X0_22_0) dX0_holds_34) (seq (p := 37) (q := 38) (r := 72) (p_iload_n 1 dX0_holds_37) (seq (p := 38) (q := 43) (r := 72) (p_callG 2 _ (ok_F 16 cf_X0_202 rfl (M_J2_get l δ) (Nat.le_of_ble_eq_true rfl) dX0_holds_38) (Nat.le_of_ble_eq_true rfl)) (seq (p := 43) (q := 46) (r := 72) (p_cast [10] ky_X0_169 dX0_holds_43) (seq (p := 46) (q := 49) (r := 72) (p_get [(10, 0)] (alL1 fl_X0_219_10) dX0_holds_46) (seq (p := 49) (q := 52) (r := 72) (p_callG 2 _ (ok_V 12 cv_X0_223 rfl ((R_hol l δ 80).1) (Nat.le_of_ble_eq_true rfl) dX0_holds_49) (Nat.le_of_ble_eq_true rfl)) (seq (p := 52) (q := 54) (r := 72) (p_istore 4 dX0_holds_52 (Nat.le_of_ble_eq_true rfl)) (seq (p := 54) (q := 55) (r := 72) (p_aload_n 0 dX0_holds_54) (seq (p := 55) (q := 56) (r := 72) (p_aload_n 3 dX0_holds_55) (seq (p := 56) (q := 59) (r := 72) (p_get [(12, 2)] (alL1 fl_X0_227_12) dX0_holds_56) (seq (p := 59) (q := 62) (r := 72) (p_put [(0, 9)] .int (alP1 fp_X0_230_0) dX0_holds_59) (seq (p := 62) (q := 64) (r := 72) (p_iload 4 dX0_holds_62) (seq (p := 64) (q := 72) (r := 72) (blk (seq (p := 64) (q := 71) (r := 72) (blk (seq (p := 64) (q := 67) (r := 71) (p_if_eq 71 dX0_holds_64 (by decide)) (seq (p := 67) (q := 68) (r := 71) (p_iconst 1 dX0_holds_67) (seq (p := 68) (q := 71) (r := 71) (p_goto 72 dX0_holds_68 (by decide)) done)))) (seq (p := 71) (q := 72) (r := 72) (p_iconst 0 dX0_holds_71) done))) done))))))))))))))
noncomputable def E_X0_holds (l : Launch) (δ : Dl) : Seg (l, δ, yX0_holds, 85, (some .int), cX0_holds, 5) 72 73 :=
  seq (p := 72) (q := 73) (r := 73) (p_ireturn dX0_holds_72 rfl) done
noncomputable def H_X0_holds (l : Launch) (δ : Dl) : Seg (l, δ, yX0_holds, 85, (some .int), cX0_holds, 5) 73 78 :=
  seq (p := 73) (q := 75) (r := 78) (p_astore 4 dX0_holds_73 (Nat.le_of_ble_eq_true rfl)) (seq (p := 75) (q := 77) (r := 78) (p_bipush (-6) dX0_holds_75 (by decide)) (seq (p := 77) (q := 78) (r := 78) (p_ireturn dX0_holds_77 rfl) done))
noncomputable def M_X0_holds (l : Launch) (δ : Dl) : MthW l δ yX0_holds cX0_holds 5 (some .int) [(32, 72, 73, 233)] 85 := mkW 13 (P_X0_holds l δ) (T_X0_holds l δ) (E_X0_holds l δ) (H_X0_holds l δ) rfl (by decide) q846 (by decide)
theorem N_X0_holds {l : Launch} {δ : Dl} {o : Nat} {a1 : Int} {a2 : Int} {s : St} : (M_X0_holds l δ).1 [.inr (.inr (some o)), .inl a1, .inl a2] s = wD (P_X0_holds l δ).1 (T_X0_holds l δ).1 (E_X0_holds l δ).1 (H_X0_holds l δ).1 13 [] [some (.inr (.inr (some o))), some (.inl a1), some (.inl a2), none, none] s := (mkW_eq (hy := by decide) rfl).trans (nrfl rfl)
abbrev yL_law : MethodName := ⟨R_law, "law", "([I)Z"⟩
theorem cvw_L_88 : CVW R_law 88 RX0 yX0_read cX0_read 3 (some .int) [(10, 29, 30, 194)] 0 := ⟨lw_VW q406 q407 q408 q87 q409, rfl, by decide, by decide, by decide, by decide⟩
theorem cvw_L_100 : CVW R_law 100 RX0 yX0_holds cX0_holds 5 (some .int) [(32, 72, 73, 233)] 2 := ⟨lw_VW q842 q843 q844 q87 q845, rfl, by decide, by decide, by decide, by decide⟩
theorem dL_law_0 : decode cL_law 0 = .ok (.new 7, 3) := by decide +kernel
theorem dL_law_3 : decode cL_law 3 = .ok (.dup, 1) := by decide +kernel
theorem dL_law_4 : decode cL_law 4 = .ok (.invokespecial 9, 3) := by decide +kernel
theorem dL_law_7 : decode cL_law 7 = .ok (.astore_n 1, 1) := by decide +kernel
theorem dL_law_8 : decode cL_law 8 = .ok (.new 10, 3) := by decide +kernel
theorem dL_law_11 : decode cL_law 11 = .ok (.dup, 1) := by decide +kernel
theorem dL_law_12 : decode cL_law 12 = .ok (.invokespecial 12, 3) := by decide +kernel
theorem dL_law_15 : decode cL_law 15 = .ok (.astore_n 2, 1) := by decide +kernel
theorem dL_law_16 : decode cL_law 16 = .ok (.iconst 0, 1) := by decide +kernel
theorem dL_law_17 : decode cL_law 17 = .ok (.istore_n 3, 1) := by decide +kernel
theorem dL_law_18 : decode cL_law 18 = .ok (.iload_n 3, 1) := by decide +kernel
theorem dL_law_19 : decode cL_law 19 = .ok (.aload_n 0, 1) := by decide +kernel
theorem dL_law_20 : decode cL_law 20 = .ok (.arraylength, 1) := by decide +kernel
theorem dL_law_21 : decode cL_law 21 = .ok (.bipush 6, 2) := by decide +kernel
theorem dL_law_23 : decode cL_law 23 = .ok (.isub, 1) := by decide +kernel
theorem dL_law_24 : decode cL_law 24 = .ok (.if_icmp .gt 1162, 3) := by decide +kernel
theorem dL_law_27 : decode cL_law 27 = .ok (.aload_n 0, 1) := by decide +kernel
theorem dL_law_28 : decode cL_law 28 = .ok (.iload_n 3, 1) := by decide +kernel
theorem dL_law_29 : decode cL_law 29 = .ok (.iaload, 1) := by decide +kernel
theorem dL_law_30 : decode cL_law 30 = .ok (.bipush 31, 2) := by decide +kernel
theorem dL_law_32 : decode cL_law 32 = .ok (.iand, 1) := by decide +kernel
theorem dL_law_33 : decode cL_law 33 = .ok (.tableswitch 1147 0 29 #[135, 168, 237, 306, 359, 402, 435, 478, 521, 554, 597, 630, 653, 666, 679, 692, 755, 778, 791, 824, 857, 890, 903, 936, 969, 1012, 1035, 1078, 1101, 1124], 135) := by decide +kernel
theorem dL_law_168 : decode cL_law 168 = .ok (.aload_n 1, 1) := by decide +kernel
theorem dL_law_169 : decode cL_law 169 = .ok (.aload_n 0, 1) := by decide +kernel
theorem dL_law_170 : decode cL_law 170 = .ok (.iload_n 3, 1) := by decide +kernel
theorem dL_law_171 : decode cL_law 171 = .ok (.iconst 1, 1) := by decide +kernel
theorem dL_law_172 : decode cL_law 172 = .ok (.iadd, 1) := by decide +kernel
theorem dL_law_173 : decode cL_law 173 = .ok (.iaload, 1) := by decide +kernel
theorem dL_law_174 : decode cL_law 174 = .ok (.aload_n 0, 1) := by decide +kernel
theorem dL_law_175 : decode cL_law 175 = .ok (.iload_n 3, 1) := by decide +kernel
theorem dL_law_176 : decode cL_law 176 = .ok (.iconst 2, 1) := by decide +kernel
theorem dL_law_177 : decode cL_law 177 = .ok (.iadd, 1) := by decide +kernel
theorem dL_law_178 : decode cL_law 178 = .ok (.iaload, 1) := by decide +kernel
theorem dL_law_179 : decode cL_law 179 = .ok (.invokevirtual 13, 3) := by decide +kernel
theorem dL_law_182 : decode cL_law 182 = .ok (.aload_n 2, 1) := by decide +kernel
theorem dL_law_183 : decode cL_law 183 = .ok (.aload_n 0, 1) := by decide +kernel
theorem dL_law_184 : decode cL_law 184 = .ok (.iload_n 3, 1) := by decide +kernel
theorem dL_law_185 : decode cL_law 185 = .ok (.iconst 1, 1) := by decide +kernel
theorem dL_law_186 : decode cL_law 186 = .ok (.iadd, 1) := by decide +kernel
theorem dL_law_187 : decode cL_law 187 = .ok (.iaload, 1) := by decide +kernel
theorem dL_law_188 : decode cL_law 188 = .ok (.aload_n 0, 1) := by decide +kernel
theorem dL_law_189 : decode cL_law 189 = .ok (.iload_n 3, 1) := by decide +kernel
theorem dL_law_190 : decode cL_law 190 = .ok (.iconst 2, 1) := by decide +kernel
theorem dL_law_191 : decode cL_law 191 = .ok (.iadd, 1) := by decide +kernel
theorem dL_law_192 : decode cL_law 192 = .ok (.iaload, 1) := by decide +kernel
theorem dL_law_193 : decode cL_law 193 = .ok (.invokevirtual 17, 3) := by decide +kernel
theorem dL_law_196 : decode cL_law 196 = .ok (.if_icmp .eq 984, 3) := by decide +kernel
theorem dL_law_199 : decode cL_law 199 = .ok (.iconst 0, 1) := by decide +kernel
theorem dL_law_200 : decode cL_law 200 = .ok (.ireturn, 1) := by decide +kernel
theorem dL_law_201 : decode cL_law 201 = .ok (.aload_n 1, 1) := by decide +kernel
theorem dL_law_202 : decode cL_law 202 = .ok (.aload_n 0, 1) := by decide +kernel
theorem dL_law_203 : decode cL_law 203 = .ok (.iload_n 3, 1) := by decide +kernel
theorem dL_law_204 : decode cL_law 204 = .ok (.iconst 1, 1) := by decide +kernel
theorem dL_law_205 : decode cL_law 205 = .ok (.iadd, 1) := by decide +kernel
theorem dL_law_206 : decode cL_law 206 = .ok (.iaload, 1) := by decide +kernel
theorem dL_law_207 : decode cL_law 207 = .ok (.aload_n 0, 1) := by decide +kernel
theorem dL_law_208 : decode cL_law 208 = .ok (.iload_n 3, 1) := by decide +kernel
theorem dL_law_209 : decode cL_law 209 = .ok (.iconst 2, 1) := by decide +kernel
theorem dL_law_210 : decode cL_law 210 = .ok (.iadd, 1) := by decide +kernel
theorem dL_law_211 : decode cL_law 211 = .ok (.iaload, 1) := by decide +kernel
theorem dL_law_212 : decode cL_law 212 = .ok (.aload_n 0, 1) := by decide +kernel
theorem dL_law_213 : decode cL_law 213 = .ok (.iload_n 3, 1) := by decide +kernel
theorem dL_law_214 : decode cL_law 214 = .ok (.iconst 3, 1) := by decide +kernel
theorem dL_law_215 : decode cL_law 215 = .ok (.iadd, 1) := by decide +kernel
theorem dL_law_216 : decode cL_law 216 = .ok (.iaload, 1) := by decide +kernel
theorem dL_law_217 : decode cL_law 217 = .ok (.aload_n 0, 1) := by decide +kernel
theorem dL_law_218 : decode cL_law 218 = .ok (.iload_n 3, 1) := by decide +kernel
theorem dL_law_219 : decode cL_law 219 = .ok (.iconst 4, 1) := by decide +kernel
theorem dL_law_220 : decode cL_law 220 = .ok (.iadd, 1) := by decide +kernel
theorem dL_law_221 : decode cL_law 221 = .ok (.iaload, 1) := by decide +kernel
theorem dL_law_222 : decode cL_law 222 = .ok (.ifCond .eq 7, 3) := by decide +kernel
theorem dL_law_225 : decode cL_law 225 = .ok (.iconst 1, 1) := by decide +kernel
theorem dL_law_226 : decode cL_law 226 = .ok (.goto 4, 3) := by decide +kernel
theorem dL_law_229 : decode cL_law 229 = .ok (.iconst 0, 1) := by decide +kernel
theorem dL_law_230 : decode cL_law 230 = .ok (.invokevirtual 18, 3) := by decide +kernel
theorem dL_law_233 : decode cL_law 233 = .ok (.aload_n 2, 1) := by decide +kernel
theorem dL_law_234 : decode cL_law 234 = .ok (.aload_n 0, 1) := by decide +kernel
theorem dL_law_235 : decode cL_law 235 = .ok (.iload_n 3, 1) := by decide +kernel
theorem dL_law_236 : decode cL_law 236 = .ok (.iconst 1, 1) := by decide +kernel
theorem dL_law_237 : decode cL_law 237 = .ok (.iadd, 1) := by decide +kernel
theorem dL_law_238 : decode cL_law 238 = .ok (.iaload, 1) := by decide +kernel
theorem dL_law_239 : decode cL_law 239 = .ok (.aload_n 0, 1) := by decide +kernel
theorem dL_law_240 : decode cL_law 240 = .ok (.iload_n 3, 1) := by decide +kernel
theorem dL_law_241 : decode cL_law 241 = .ok (.iconst 2, 1) := by decide +kernel
theorem dL_law_242 : decode cL_law 242 = .ok (.iadd, 1) := by decide +kernel
theorem dL_law_243 : decode cL_law 243 = .ok (.iaload, 1) := by decide +kernel
theorem dL_law_244 : decode cL_law 244 = .ok (.aload_n 0, 1) := by decide +kernel
theorem dL_law_245 : decode cL_law 245 = .ok (.iload_n 3, 1) := by decide +kernel
theorem dL_law_246 : decode cL_law 246 = .ok (.iconst 3, 1) := by decide +kernel
theorem dL_law_247 : decode cL_law 247 = .ok (.iadd, 1) := by decide +kernel
theorem dL_law_248 : decode cL_law 248 = .ok (.iaload, 1) := by decide +kernel
theorem dL_law_249 : decode cL_law 249 = .ok (.aload_n 0, 1) := by decide +kernel
theorem dL_law_250 : decode cL_law 250 = .ok (.iload_n 3, 1) := by decide +kernel
theorem dL_law_251 : decode cL_law 251 = .ok (.iconst 4, 1) := by decide +kernel
theorem dL_law_252 : decode cL_law 252 = .ok (.iadd, 1) := by decide +kernel
theorem dL_law_253 : decode cL_law 253 = .ok (.iaload, 1) := by decide +kernel
theorem dL_law_254 : decode cL_law 254 = .ok (.ifCond .eq 7, 3) := by decide +kernel
theorem dL_law_257 : decode cL_law 257 = .ok (.iconst 1, 1) := by decide +kernel
theorem dL_law_258 : decode cL_law 258 = .ok (.goto 4, 3) := by decide +kernel
theorem dL_law_261 : decode cL_law 261 = .ok (.iconst 0, 1) := by decide +kernel
theorem dL_law_262 : decode cL_law 262 = .ok (.invokevirtual 22, 3) := by decide +kernel
theorem dL_law_265 : decode cL_law 265 = .ok (.if_icmp .eq 915, 3) := by decide +kernel
theorem dL_law_268 : decode cL_law 268 = .ok (.iconst 0, 1) := by decide +kernel
theorem dL_law_269 : decode cL_law 269 = .ok (.ireturn, 1) := by decide +kernel
theorem dL_law_270 : decode cL_law 270 = .ok (.aload_n 1, 1) := by decide +kernel
theorem dL_law_271 : decode cL_law 271 = .ok (.aload_n 0, 1) := by decide +kernel
theorem dL_law_272 : decode cL_law 272 = .ok (.iload_n 3, 1) := by decide +kernel
theorem dL_law_273 : decode cL_law 273 = .ok (.iconst 1, 1) := by decide +kernel
theorem dL_law_274 : decode cL_law 274 = .ok (.iadd, 1) := by decide +kernel
theorem dL_law_275 : decode cL_law 275 = .ok (.iaload, 1) := by decide +kernel
theorem dL_law_276 : decode cL_law 276 = .ok (.aload_n 0, 1) := by decide +kernel
theorem dL_law_277 : decode cL_law 277 = .ok (.iload_n 3, 1) := by decide +kernel
theorem dL_law_278 : decode cL_law 278 = .ok (.iconst 2, 1) := by decide +kernel
theorem dL_law_279 : decode cL_law 279 = .ok (.iadd, 1) := by decide +kernel
theorem dL_law_280 : decode cL_law 280 = .ok (.iaload, 1) := by decide +kernel
theorem dL_law_281 : decode cL_law 281 = .ok (.aload_n 0, 1) := by decide +kernel
theorem dL_law_282 : decode cL_law 282 = .ok (.iload_n 3, 1) := by decide +kernel
theorem dL_law_283 : decode cL_law 283 = .ok (.iconst 3, 1) := by decide +kernel
theorem dL_law_284 : decode cL_law 284 = .ok (.iadd, 1) := by decide +kernel
theorem dL_law_285 : decode cL_law 285 = .ok (.iaload, 1) := by decide +kernel
theorem dL_law_286 : decode cL_law 286 = .ok (.aload_n 0, 1) := by decide +kernel
theorem dL_law_287 : decode cL_law 287 = .ok (.iload_n 3, 1) := by decide +kernel
theorem dL_law_288 : decode cL_law 288 = .ok (.iconst 4, 1) := by decide +kernel
theorem dL_law_289 : decode cL_law 289 = .ok (.iadd, 1) := by decide +kernel
theorem dL_law_290 : decode cL_law 290 = .ok (.iaload, 1) := by decide +kernel
theorem dL_law_291 : decode cL_law 291 = .ok (.ifCond .eq 7, 3) := by decide +kernel
theorem dL_law_294 : decode cL_law 294 = .ok (.iconst 1, 1) := by decide +kernel
theorem dL_law_295 : decode cL_law 295 = .ok (.goto 4, 3) := by decide +kernel
theorem dL_law_298 : decode cL_law 298 = .ok (.iconst 0, 1) := by decide +kernel
theorem dL_law_299 : decode cL_law 299 = .ok (.invokevirtual 23, 3) := by decide +kernel
theorem dL_law_302 : decode cL_law 302 = .ok (.aload_n 2, 1) := by decide +kernel
theorem dL_law_303 : decode cL_law 303 = .ok (.aload_n 0, 1) := by decide +kernel
theorem dL_law_304 : decode cL_law 304 = .ok (.iload_n 3, 1) := by decide +kernel
theorem dL_law_305 : decode cL_law 305 = .ok (.iconst 1, 1) := by decide +kernel
theorem dL_law_306 : decode cL_law 306 = .ok (.iadd, 1) := by decide +kernel
theorem dL_law_307 : decode cL_law 307 = .ok (.iaload, 1) := by decide +kernel
theorem dL_law_308 : decode cL_law 308 = .ok (.aload_n 0, 1) := by decide +kernel
theorem dL_law_309 : decode cL_law 309 = .ok (.iload_n 3, 1) := by decide +kernel
theorem dL_law_310 : decode cL_law 310 = .ok (.iconst 2, 1) := by decide +kernel
theorem dL_law_311 : decode cL_law 311 = .ok (.iadd, 1) := by decide +kernel
theorem dL_law_312 : decode cL_law 312 = .ok (.iaload, 1) := by decide +kernel
theorem dL_law_313 : decode cL_law 313 = .ok (.aload_n 0, 1) := by decide +kernel
theorem dL_law_314 : decode cL_law 314 = .ok (.iload_n 3, 1) := by decide +kernel
theorem dL_law_315 : decode cL_law 315 = .ok (.iconst 3, 1) := by decide +kernel
theorem dL_law_316 : decode cL_law 316 = .ok (.iadd, 1) := by decide +kernel
theorem dL_law_317 : decode cL_law 317 = .ok (.iaload, 1) := by decide +kernel
theorem dL_law_318 : decode cL_law 318 = .ok (.aload_n 0, 1) := by decide +kernel
theorem dL_law_319 : decode cL_law 319 = .ok (.iload_n 3, 1) := by decide +kernel
theorem dL_law_320 : decode cL_law 320 = .ok (.iconst 4, 1) := by decide +kernel
theorem dL_law_321 : decode cL_law 321 = .ok (.iadd, 1) := by decide +kernel
theorem dL_law_322 : decode cL_law 322 = .ok (.iaload, 1) := by decide +kernel
theorem dL_law_323 : decode cL_law 323 = .ok (.ifCond .eq 7, 3) := by decide +kernel
theorem dL_law_326 : decode cL_law 326 = .ok (.iconst 1, 1) := by decide +kernel
theorem dL_law_327 : decode cL_law 327 = .ok (.goto 4, 3) := by decide +kernel
theorem dL_law_330 : decode cL_law 330 = .ok (.iconst 0, 1) := by decide +kernel
theorem dL_law_331 : decode cL_law 331 = .ok (.invokevirtual 26, 3) := by decide +kernel
theorem dL_law_334 : decode cL_law 334 = .ok (.if_icmp .eq 846, 3) := by decide +kernel
theorem dL_law_337 : decode cL_law 337 = .ok (.iconst 0, 1) := by decide +kernel
theorem dL_law_338 : decode cL_law 338 = .ok (.ireturn, 1) := by decide +kernel
theorem dL_law_339 : decode cL_law 339 = .ok (.aload_n 1, 1) := by decide +kernel
theorem dL_law_340 : decode cL_law 340 = .ok (.aload_n 0, 1) := by decide +kernel
theorem dL_law_341 : decode cL_law 341 = .ok (.iload_n 3, 1) := by decide +kernel
theorem dL_law_342 : decode cL_law 342 = .ok (.iconst 1, 1) := by decide +kernel
theorem dL_law_343 : decode cL_law 343 = .ok (.iadd, 1) := by decide +kernel
theorem dL_law_344 : decode cL_law 344 = .ok (.iaload, 1) := by decide +kernel
theorem dL_law_345 : decode cL_law 345 = .ok (.aload_n 0, 1) := by decide +kernel
theorem dL_law_346 : decode cL_law 346 = .ok (.iload_n 3, 1) := by decide +kernel
theorem dL_law_347 : decode cL_law 347 = .ok (.iconst 2, 1) := by decide +kernel
theorem dL_law_348 : decode cL_law 348 = .ok (.iadd, 1) := by decide +kernel
theorem dL_law_349 : decode cL_law 349 = .ok (.iaload, 1) := by decide +kernel
theorem dL_law_350 : decode cL_law 350 = .ok (.aload_n 0, 1) := by decide +kernel
theorem dL_law_351 : decode cL_law 351 = .ok (.iload_n 3, 1) := by decide +kernel
theorem dL_law_352 : decode cL_law 352 = .ok (.iconst 3, 1) := by decide +kernel
theorem dL_law_353 : decode cL_law 353 = .ok (.iadd, 1) := by decide +kernel
theorem dL_law_354 : decode cL_law 354 = .ok (.iaload, 1) := by decide +kernel
theorem dL_law_355 : decode cL_law 355 = .ok (.aload_n 0, 1) := by decide +kernel
theorem dL_law_356 : decode cL_law 356 = .ok (.iload_n 3, 1) := by decide +kernel
theorem dL_law_357 : decode cL_law 357 = .ok (.iconst 4, 1) := by decide +kernel
theorem dL_law_358 : decode cL_law 358 = .ok (.iadd, 1) := by decide +kernel
theorem dL_law_359 : decode cL_law 359 = .ok (.iaload, 1) := by decide +kernel
theorem dL_law_360 : decode cL_law 360 = .ok (.invokevirtual 27, 3) := by decide +kernel
theorem dL_law_363 : decode cL_law 363 = .ok (.aload_n 2, 1) := by decide +kernel
theorem dL_law_364 : decode cL_law 364 = .ok (.aload_n 0, 1) := by decide +kernel
theorem dL_law_365 : decode cL_law 365 = .ok (.iload_n 3, 1) := by decide +kernel
theorem dL_law_366 : decode cL_law 366 = .ok (.iconst 1, 1) := by decide +kernel
theorem dL_law_367 : decode cL_law 367 = .ok (.iadd, 1) := by decide +kernel
theorem dL_law_368 : decode cL_law 368 = .ok (.iaload, 1) := by decide +kernel
theorem dL_law_369 : decode cL_law 369 = .ok (.aload_n 0, 1) := by decide +kernel
theorem dL_law_370 : decode cL_law 370 = .ok (.iload_n 3, 1) := by decide +kernel
theorem dL_law_371 : decode cL_law 371 = .ok (.iconst 2, 1) := by decide +kernel
theorem dL_law_372 : decode cL_law 372 = .ok (.iadd, 1) := by decide +kernel
theorem dL_law_373 : decode cL_law 373 = .ok (.iaload, 1) := by decide +kernel
theorem dL_law_374 : decode cL_law 374 = .ok (.aload_n 0, 1) := by decide +kernel
theorem dL_law_375 : decode cL_law 375 = .ok (.iload_n 3, 1) := by decide +kernel
theorem dL_law_376 : decode cL_law 376 = .ok (.iconst 3, 1) := by decide +kernel
theorem dL_law_377 : decode cL_law 377 = .ok (.iadd, 1) := by decide +kernel
theorem dL_law_378 : decode cL_law 378 = .ok (.iaload, 1) := by decide +kernel
theorem dL_law_379 : decode cL_law 379 = .ok (.aload_n 0, 1) := by decide +kernel
theorem dL_law_380 : decode cL_law 380 = .ok (.iload_n 3, 1) := by decide +kernel
theorem dL_law_381 : decode cL_law 381 = .ok (.iconst 4, 1) := by decide +kernel
theorem dL_law_382 : decode cL_law 382 = .ok (.iadd, 1) := by decide +kernel
theorem dL_law_383 : decode cL_law 383 = .ok (.iaload, 1) := by decide +kernel
theorem dL_law_384 : decode cL_law 384 = .ok (.invokevirtual 31, 3) := by decide +kernel
theorem dL_law_387 : decode cL_law 387 = .ok (.if_icmp .eq 793, 3) := by decide +kernel
theorem dL_law_390 : decode cL_law 390 = .ok (.iconst 0, 1) := by decide +kernel
theorem dL_law_391 : decode cL_law 391 = .ok (.ireturn, 1) := by decide +kernel
theorem dL_law_392 : decode cL_law 392 = .ok (.aload_n 1, 1) := by decide +kernel
theorem dL_law_393 : decode cL_law 393 = .ok (.aload_n 0, 1) := by decide +kernel
theorem dL_law_394 : decode cL_law 394 = .ok (.iload_n 3, 1) := by decide +kernel
theorem dL_law_395 : decode cL_law 395 = .ok (.iconst 1, 1) := by decide +kernel
theorem dL_law_396 : decode cL_law 396 = .ok (.iadd, 1) := by decide +kernel
theorem dL_law_397 : decode cL_law 397 = .ok (.iaload, 1) := by decide +kernel
theorem dL_law_398 : decode cL_law 398 = .ok (.aload_n 0, 1) := by decide +kernel
theorem dL_law_399 : decode cL_law 399 = .ok (.iload_n 3, 1) := by decide +kernel
theorem dL_law_400 : decode cL_law 400 = .ok (.iconst 2, 1) := by decide +kernel
theorem dL_law_401 : decode cL_law 401 = .ok (.iadd, 1) := by decide +kernel
theorem dL_law_402 : decode cL_law 402 = .ok (.iaload, 1) := by decide +kernel
theorem dL_law_403 : decode cL_law 403 = .ok (.aload_n 0, 1) := by decide +kernel
theorem dL_law_404 : decode cL_law 404 = .ok (.iload_n 3, 1) := by decide +kernel
theorem dL_law_405 : decode cL_law 405 = .ok (.iconst 3, 1) := by decide +kernel
theorem dL_law_406 : decode cL_law 406 = .ok (.iadd, 1) := by decide +kernel
theorem dL_law_407 : decode cL_law 407 = .ok (.iaload, 1) := by decide +kernel
theorem dL_law_408 : decode cL_law 408 = .ok (.invokevirtual 32, 3) := by decide +kernel
theorem dL_law_411 : decode cL_law 411 = .ok (.aload_n 2, 1) := by decide +kernel
theorem dL_law_412 : decode cL_law 412 = .ok (.aload_n 0, 1) := by decide +kernel
theorem dL_law_413 : decode cL_law 413 = .ok (.iload_n 3, 1) := by decide +kernel
theorem dL_law_414 : decode cL_law 414 = .ok (.iconst 1, 1) := by decide +kernel
theorem dL_law_415 : decode cL_law 415 = .ok (.iadd, 1) := by decide +kernel
theorem dL_law_416 : decode cL_law 416 = .ok (.iaload, 1) := by decide +kernel
theorem dL_law_417 : decode cL_law 417 = .ok (.aload_n 0, 1) := by decide +kernel
theorem dL_law_418 : decode cL_law 418 = .ok (.iload_n 3, 1) := by decide +kernel
theorem dL_law_419 : decode cL_law 419 = .ok (.iconst 2, 1) := by decide +kernel
theorem dL_law_420 : decode cL_law 420 = .ok (.iadd, 1) := by decide +kernel
theorem dL_law_421 : decode cL_law 421 = .ok (.iaload, 1) := by decide +kernel
theorem dL_law_422 : decode cL_law 422 = .ok (.aload_n 0, 1) := by decide +kernel
theorem dL_law_423 : decode cL_law 423 = .ok (.iload_n 3, 1) := by decide +kernel
theorem dL_law_424 : decode cL_law 424 = .ok (.iconst 3, 1) := by decide +kernel
theorem dL_law_425 : decode cL_law 425 = .ok (.iadd, 1) := by decide +kernel
theorem dL_law_426 : decode cL_law 426 = .ok (.iaload, 1) := by decide +kernel
theorem dL_law_427 : decode cL_law 427 = .ok (.invokevirtual 36, 3) := by decide +kernel
theorem dL_law_430 : decode cL_law 430 = .ok (.if_icmp .eq 750, 3) := by decide +kernel
theorem dL_law_433 : decode cL_law 433 = .ok (.iconst 0, 1) := by decide +kernel
theorem dL_law_434 : decode cL_law 434 = .ok (.ireturn, 1) := by decide +kernel
theorem dL_law_435 : decode cL_law 435 = .ok (.aload_n 1, 1) := by decide +kernel
theorem dL_law_436 : decode cL_law 436 = .ok (.aload_n 0, 1) := by decide +kernel
theorem dL_law_437 : decode cL_law 437 = .ok (.iload_n 3, 1) := by decide +kernel
theorem dL_law_438 : decode cL_law 438 = .ok (.iconst 1, 1) := by decide +kernel
theorem dL_law_439 : decode cL_law 439 = .ok (.iadd, 1) := by decide +kernel
theorem dL_law_440 : decode cL_law 440 = .ok (.iaload, 1) := by decide +kernel
theorem dL_law_441 : decode cL_law 441 = .ok (.aload_n 0, 1) := by decide +kernel
theorem dL_law_442 : decode cL_law 442 = .ok (.iload_n 3, 1) := by decide +kernel
theorem dL_law_443 : decode cL_law 443 = .ok (.iconst 2, 1) := by decide +kernel
theorem dL_law_444 : decode cL_law 444 = .ok (.iadd, 1) := by decide +kernel
theorem dL_law_445 : decode cL_law 445 = .ok (.iaload, 1) := by decide +kernel
theorem dL_law_446 : decode cL_law 446 = .ok (.invokevirtual 37, 3) := by decide +kernel
theorem dL_law_449 : decode cL_law 449 = .ok (.aload_n 2, 1) := by decide +kernel
theorem dL_law_450 : decode cL_law 450 = .ok (.aload_n 0, 1) := by decide +kernel
theorem dL_law_451 : decode cL_law 451 = .ok (.iload_n 3, 1) := by decide +kernel
theorem dL_law_452 : decode cL_law 452 = .ok (.iconst 1, 1) := by decide +kernel
theorem dL_law_453 : decode cL_law 453 = .ok (.iadd, 1) := by decide +kernel
theorem dL_law_454 : decode cL_law 454 = .ok (.iaload, 1) := by decide +kernel
theorem dL_law_455 : decode cL_law 455 = .ok (.aload_n 0, 1) := by decide +kernel
theorem dL_law_456 : decode cL_law 456 = .ok (.iload_n 3, 1) := by decide +kernel
theorem dL_law_457 : decode cL_law 457 = .ok (.iconst 2, 1) := by decide +kernel
theorem dL_law_458 : decode cL_law 458 = .ok (.iadd, 1) := by decide +kernel
theorem dL_law_459 : decode cL_law 459 = .ok (.iaload, 1) := by decide +kernel
theorem dL_law_460 : decode cL_law 460 = .ok (.invokevirtual 40, 3) := by decide +kernel
theorem dL_law_463 : decode cL_law 463 = .ok (.if_icmp .eq 717, 3) := by decide +kernel
theorem dL_law_466 : decode cL_law 466 = .ok (.iconst 0, 1) := by decide +kernel
theorem dL_law_467 : decode cL_law 467 = .ok (.ireturn, 1) := by decide +kernel
theorem dL_law_468 : decode cL_law 468 = .ok (.aload_n 1, 1) := by decide +kernel
theorem dL_law_469 : decode cL_law 469 = .ok (.aload_n 0, 1) := by decide +kernel
theorem dL_law_470 : decode cL_law 470 = .ok (.iload_n 3, 1) := by decide +kernel
theorem dL_law_471 : decode cL_law 471 = .ok (.iconst 1, 1) := by decide +kernel
theorem dL_law_472 : decode cL_law 472 = .ok (.iadd, 1) := by decide +kernel
theorem dL_law_473 : decode cL_law 473 = .ok (.iaload, 1) := by decide +kernel
theorem dL_law_474 : decode cL_law 474 = .ok (.aload_n 0, 1) := by decide +kernel
theorem dL_law_475 : decode cL_law 475 = .ok (.iload_n 3, 1) := by decide +kernel
theorem dL_law_476 : decode cL_law 476 = .ok (.iconst 2, 1) := by decide +kernel
theorem dL_law_477 : decode cL_law 477 = .ok (.iadd, 1) := by decide +kernel
theorem dL_law_478 : decode cL_law 478 = .ok (.iaload, 1) := by decide +kernel
theorem dL_law_479 : decode cL_law 479 = .ok (.aload_n 0, 1) := by decide +kernel
theorem dL_law_480 : decode cL_law 480 = .ok (.iload_n 3, 1) := by decide +kernel
theorem dL_law_481 : decode cL_law 481 = .ok (.iconst 3, 1) := by decide +kernel
theorem dL_law_482 : decode cL_law 482 = .ok (.iadd, 1) := by decide +kernel
theorem dL_law_483 : decode cL_law 483 = .ok (.iaload, 1) := by decide +kernel
theorem dL_law_484 : decode cL_law 484 = .ok (.invokevirtual 41, 3) := by decide +kernel
theorem dL_law_487 : decode cL_law 487 = .ok (.aload_n 2, 1) := by decide +kernel
theorem dL_law_488 : decode cL_law 488 = .ok (.aload_n 0, 1) := by decide +kernel
theorem dL_law_489 : decode cL_law 489 = .ok (.iload_n 3, 1) := by decide +kernel
theorem dL_law_490 : decode cL_law 490 = .ok (.iconst 1, 1) := by decide +kernel
theorem dL_law_491 : decode cL_law 491 = .ok (.iadd, 1) := by decide +kernel
theorem dL_law_492 : decode cL_law 492 = .ok (.iaload, 1) := by decide +kernel
theorem dL_law_493 : decode cL_law 493 = .ok (.aload_n 0, 1) := by decide +kernel
theorem dL_law_494 : decode cL_law 494 = .ok (.iload_n 3, 1) := by decide +kernel
theorem dL_law_495 : decode cL_law 495 = .ok (.iconst 2, 1) := by decide +kernel
theorem dL_law_496 : decode cL_law 496 = .ok (.iadd, 1) := by decide +kernel
theorem dL_law_497 : decode cL_law 497 = .ok (.iaload, 1) := by decide +kernel
theorem dL_law_498 : decode cL_law 498 = .ok (.aload_n 0, 1) := by decide +kernel
theorem dL_law_499 : decode cL_law 499 = .ok (.iload_n 3, 1) := by decide +kernel
theorem dL_law_500 : decode cL_law 500 = .ok (.iconst 3, 1) := by decide +kernel
theorem dL_law_501 : decode cL_law 501 = .ok (.iadd, 1) := by decide +kernel
theorem dL_law_502 : decode cL_law 502 = .ok (.iaload, 1) := by decide +kernel
theorem dL_law_503 : decode cL_law 503 = .ok (.invokevirtual 44, 3) := by decide +kernel
theorem dL_law_506 : decode cL_law 506 = .ok (.if_icmp .eq 674, 3) := by decide +kernel
theorem dL_law_509 : decode cL_law 509 = .ok (.iconst 0, 1) := by decide +kernel
theorem dL_law_510 : decode cL_law 510 = .ok (.ireturn, 1) := by decide +kernel
theorem dL_law_511 : decode cL_law 511 = .ok (.aload_n 1, 1) := by decide +kernel
theorem dL_law_512 : decode cL_law 512 = .ok (.aload_n 0, 1) := by decide +kernel
theorem dL_law_513 : decode cL_law 513 = .ok (.iload_n 3, 1) := by decide +kernel
theorem dL_law_514 : decode cL_law 514 = .ok (.iconst 1, 1) := by decide +kernel
theorem dL_law_515 : decode cL_law 515 = .ok (.iadd, 1) := by decide +kernel
theorem dL_law_516 : decode cL_law 516 = .ok (.iaload, 1) := by decide +kernel
theorem dL_law_517 : decode cL_law 517 = .ok (.aload_n 0, 1) := by decide +kernel
theorem dL_law_518 : decode cL_law 518 = .ok (.iload_n 3, 1) := by decide +kernel
theorem dL_law_519 : decode cL_law 519 = .ok (.iconst 2, 1) := by decide +kernel
theorem dL_law_520 : decode cL_law 520 = .ok (.iadd, 1) := by decide +kernel
theorem dL_law_521 : decode cL_law 521 = .ok (.iaload, 1) := by decide +kernel
theorem dL_law_522 : decode cL_law 522 = .ok (.aload_n 0, 1) := by decide +kernel
theorem dL_law_523 : decode cL_law 523 = .ok (.iload_n 3, 1) := by decide +kernel
theorem dL_law_524 : decode cL_law 524 = .ok (.iconst 3, 1) := by decide +kernel
theorem dL_law_525 : decode cL_law 525 = .ok (.iadd, 1) := by decide +kernel
theorem dL_law_526 : decode cL_law 526 = .ok (.iaload, 1) := by decide +kernel
theorem dL_law_527 : decode cL_law 527 = .ok (.invokevirtual 45, 3) := by decide +kernel
theorem dL_law_530 : decode cL_law 530 = .ok (.aload_n 2, 1) := by decide +kernel
theorem dL_law_531 : decode cL_law 531 = .ok (.aload_n 0, 1) := by decide +kernel
theorem dL_law_532 : decode cL_law 532 = .ok (.iload_n 3, 1) := by decide +kernel
theorem dL_law_533 : decode cL_law 533 = .ok (.iconst 1, 1) := by decide +kernel
theorem dL_law_534 : decode cL_law 534 = .ok (.iadd, 1) := by decide +kernel
theorem dL_law_535 : decode cL_law 535 = .ok (.iaload, 1) := by decide +kernel
theorem dL_law_536 : decode cL_law 536 = .ok (.aload_n 0, 1) := by decide +kernel
theorem dL_law_537 : decode cL_law 537 = .ok (.iload_n 3, 1) := by decide +kernel
theorem dL_law_538 : decode cL_law 538 = .ok (.iconst 2, 1) := by decide +kernel
theorem dL_law_539 : decode cL_law 539 = .ok (.iadd, 1) := by decide +kernel
theorem dL_law_540 : decode cL_law 540 = .ok (.iaload, 1) := by decide +kernel
theorem dL_law_541 : decode cL_law 541 = .ok (.aload_n 0, 1) := by decide +kernel
theorem dL_law_542 : decode cL_law 542 = .ok (.iload_n 3, 1) := by decide +kernel
theorem dL_law_543 : decode cL_law 543 = .ok (.iconst 3, 1) := by decide +kernel
theorem dL_law_544 : decode cL_law 544 = .ok (.iadd, 1) := by decide +kernel
theorem dL_law_545 : decode cL_law 545 = .ok (.iaload, 1) := by decide +kernel
theorem dL_law_546 : decode cL_law 546 = .ok (.invokevirtual 48, 3) := by decide +kernel
theorem dL_law_549 : decode cL_law 549 = .ok (.if_icmp .eq 631, 3) := by decide +kernel
theorem dL_law_552 : decode cL_law 552 = .ok (.iconst 0, 1) := by decide +kernel
theorem dL_law_553 : decode cL_law 553 = .ok (.ireturn, 1) := by decide +kernel
theorem dL_law_554 : decode cL_law 554 = .ok (.aload_n 1, 1) := by decide +kernel
theorem dL_law_555 : decode cL_law 555 = .ok (.aload_n 0, 1) := by decide +kernel
theorem dL_law_556 : decode cL_law 556 = .ok (.iload_n 3, 1) := by decide +kernel
theorem dL_law_557 : decode cL_law 557 = .ok (.iconst 1, 1) := by decide +kernel
theorem dL_law_558 : decode cL_law 558 = .ok (.iadd, 1) := by decide +kernel
theorem dL_law_559 : decode cL_law 559 = .ok (.iaload, 1) := by decide +kernel
theorem dL_law_560 : decode cL_law 560 = .ok (.aload_n 0, 1) := by decide +kernel
theorem dL_law_561 : decode cL_law 561 = .ok (.iload_n 3, 1) := by decide +kernel
theorem dL_law_562 : decode cL_law 562 = .ok (.iconst 2, 1) := by decide +kernel
theorem dL_law_563 : decode cL_law 563 = .ok (.iadd, 1) := by decide +kernel
theorem dL_law_564 : decode cL_law 564 = .ok (.iaload, 1) := by decide +kernel
theorem dL_law_565 : decode cL_law 565 = .ok (.invokevirtual 49, 3) := by decide +kernel
theorem dL_law_568 : decode cL_law 568 = .ok (.aload_n 2, 1) := by decide +kernel
theorem dL_law_569 : decode cL_law 569 = .ok (.aload_n 0, 1) := by decide +kernel
theorem dL_law_570 : decode cL_law 570 = .ok (.iload_n 3, 1) := by decide +kernel
theorem dL_law_571 : decode cL_law 571 = .ok (.iconst 1, 1) := by decide +kernel
theorem dL_law_572 : decode cL_law 572 = .ok (.iadd, 1) := by decide +kernel
theorem dL_law_573 : decode cL_law 573 = .ok (.iaload, 1) := by decide +kernel
theorem dL_law_574 : decode cL_law 574 = .ok (.aload_n 0, 1) := by decide +kernel
theorem dL_law_575 : decode cL_law 575 = .ok (.iload_n 3, 1) := by decide +kernel
theorem dL_law_576 : decode cL_law 576 = .ok (.iconst 2, 1) := by decide +kernel
theorem dL_law_577 : decode cL_law 577 = .ok (.iadd, 1) := by decide +kernel
theorem dL_law_578 : decode cL_law 578 = .ok (.iaload, 1) := by decide +kernel
theorem dL_law_579 : decode cL_law 579 = .ok (.invokevirtual 52, 3) := by decide +kernel
theorem dL_law_582 : decode cL_law 582 = .ok (.if_icmp .eq 598, 3) := by decide +kernel
theorem dL_law_585 : decode cL_law 585 = .ok (.iconst 0, 1) := by decide +kernel
theorem dL_law_586 : decode cL_law 586 = .ok (.ireturn, 1) := by decide +kernel
theorem dL_law_587 : decode cL_law 587 = .ok (.aload_n 1, 1) := by decide +kernel
theorem dL_law_588 : decode cL_law 588 = .ok (.aload_n 0, 1) := by decide +kernel
theorem dL_law_589 : decode cL_law 589 = .ok (.iload_n 3, 1) := by decide +kernel
theorem dL_law_590 : decode cL_law 590 = .ok (.iconst 1, 1) := by decide +kernel
theorem dL_law_591 : decode cL_law 591 = .ok (.iadd, 1) := by decide +kernel
theorem dL_law_592 : decode cL_law 592 = .ok (.iaload, 1) := by decide +kernel
theorem dL_law_593 : decode cL_law 593 = .ok (.aload_n 0, 1) := by decide +kernel
theorem dL_law_594 : decode cL_law 594 = .ok (.iload_n 3, 1) := by decide +kernel
theorem dL_law_595 : decode cL_law 595 = .ok (.iconst 2, 1) := by decide +kernel
theorem dL_law_596 : decode cL_law 596 = .ok (.iadd, 1) := by decide +kernel
theorem dL_law_597 : decode cL_law 597 = .ok (.iaload, 1) := by decide +kernel
theorem dL_law_598 : decode cL_law 598 = .ok (.aload_n 0, 1) := by decide +kernel
theorem dL_law_599 : decode cL_law 599 = .ok (.iload_n 3, 1) := by decide +kernel
theorem dL_law_600 : decode cL_law 600 = .ok (.iconst 3, 1) := by decide +kernel
theorem dL_law_601 : decode cL_law 601 = .ok (.iadd, 1) := by decide +kernel
theorem dL_law_602 : decode cL_law 602 = .ok (.iaload, 1) := by decide +kernel
theorem dL_law_603 : decode cL_law 603 = .ok (.invokevirtual 53, 3) := by decide +kernel
theorem dL_law_606 : decode cL_law 606 = .ok (.aload_n 2, 1) := by decide +kernel
theorem dL_law_607 : decode cL_law 607 = .ok (.aload_n 0, 1) := by decide +kernel
theorem dL_law_608 : decode cL_law 608 = .ok (.iload_n 3, 1) := by decide +kernel
theorem dL_law_609 : decode cL_law 609 = .ok (.iconst 1, 1) := by decide +kernel
theorem dL_law_610 : decode cL_law 610 = .ok (.iadd, 1) := by decide +kernel
theorem dL_law_611 : decode cL_law 611 = .ok (.iaload, 1) := by decide +kernel
theorem dL_law_612 : decode cL_law 612 = .ok (.aload_n 0, 1) := by decide +kernel
theorem dL_law_613 : decode cL_law 613 = .ok (.iload_n 3, 1) := by decide +kernel
theorem dL_law_614 : decode cL_law 614 = .ok (.iconst 2, 1) := by decide +kernel
theorem dL_law_615 : decode cL_law 615 = .ok (.iadd, 1) := by decide +kernel
theorem dL_law_616 : decode cL_law 616 = .ok (.iaload, 1) := by decide +kernel
theorem dL_law_617 : decode cL_law 617 = .ok (.aload_n 0, 1) := by decide +kernel
theorem dL_law_618 : decode cL_law 618 = .ok (.iload_n 3, 1) := by decide +kernel
theorem dL_law_619 : decode cL_law 619 = .ok (.iconst 3, 1) := by decide +kernel
theorem dL_law_620 : decode cL_law 620 = .ok (.iadd, 1) := by decide +kernel
theorem dL_law_621 : decode cL_law 621 = .ok (.iaload, 1) := by decide +kernel
theorem dL_law_622 : decode cL_law 622 = .ok (.invokevirtual 56, 3) := by decide +kernel
theorem dL_law_625 : decode cL_law 625 = .ok (.if_icmp .eq 555, 3) := by decide +kernel
theorem dL_law_628 : decode cL_law 628 = .ok (.iconst 0, 1) := by decide +kernel
theorem dL_law_629 : decode cL_law 629 = .ok (.ireturn, 1) := by decide +kernel
theorem dL_law_630 : decode cL_law 630 = .ok (.aload_n 1, 1) := by decide +kernel
theorem dL_law_631 : decode cL_law 631 = .ok (.aload_n 0, 1) := by decide +kernel
theorem dL_law_632 : decode cL_law 632 = .ok (.iload_n 3, 1) := by decide +kernel
theorem dL_law_633 : decode cL_law 633 = .ok (.iconst 1, 1) := by decide +kernel
theorem dL_law_634 : decode cL_law 634 = .ok (.iadd, 1) := by decide +kernel
theorem dL_law_635 : decode cL_law 635 = .ok (.iaload, 1) := by decide +kernel
theorem dL_law_636 : decode cL_law 636 = .ok (.aload_n 0, 1) := by decide +kernel
theorem dL_law_637 : decode cL_law 637 = .ok (.iload_n 3, 1) := by decide +kernel
theorem dL_law_638 : decode cL_law 638 = .ok (.iconst 2, 1) := by decide +kernel
theorem dL_law_639 : decode cL_law 639 = .ok (.iadd, 1) := by decide +kernel
theorem dL_law_640 : decode cL_law 640 = .ok (.iaload, 1) := by decide +kernel
theorem dL_law_641 : decode cL_law 641 = .ok (.invokevirtual 57, 3) := by decide +kernel
theorem dL_law_644 : decode cL_law 644 = .ok (.aload_n 2, 1) := by decide +kernel
theorem dL_law_645 : decode cL_law 645 = .ok (.aload_n 0, 1) := by decide +kernel
theorem dL_law_646 : decode cL_law 646 = .ok (.iload_n 3, 1) := by decide +kernel
theorem dL_law_647 : decode cL_law 647 = .ok (.iconst 1, 1) := by decide +kernel
theorem dL_law_648 : decode cL_law 648 = .ok (.iadd, 1) := by decide +kernel
theorem dL_law_649 : decode cL_law 649 = .ok (.iaload, 1) := by decide +kernel
theorem dL_law_650 : decode cL_law 650 = .ok (.aload_n 0, 1) := by decide +kernel
theorem dL_law_651 : decode cL_law 651 = .ok (.iload_n 3, 1) := by decide +kernel
theorem dL_law_652 : decode cL_law 652 = .ok (.iconst 2, 1) := by decide +kernel
theorem dL_law_653 : decode cL_law 653 = .ok (.iadd, 1) := by decide +kernel
theorem dL_law_654 : decode cL_law 654 = .ok (.iaload, 1) := by decide +kernel
theorem dL_law_655 : decode cL_law 655 = .ok (.invokevirtual 60, 3) := by decide +kernel
theorem dL_law_658 : decode cL_law 658 = .ok (.if_icmp .eq 522, 3) := by decide +kernel
theorem dL_law_661 : decode cL_law 661 = .ok (.iconst 0, 1) := by decide +kernel
theorem dL_law_662 : decode cL_law 662 = .ok (.ireturn, 1) := by decide +kernel
theorem dL_law_663 : decode cL_law 663 = .ok (.aload_n 1, 1) := by decide +kernel
theorem dL_law_664 : decode cL_law 664 = .ok (.aload_n 0, 1) := by decide +kernel
theorem dL_law_665 : decode cL_law 665 = .ok (.iload_n 3, 1) := by decide +kernel
theorem dL_law_666 : decode cL_law 666 = .ok (.iconst 1, 1) := by decide +kernel
theorem dL_law_667 : decode cL_law 667 = .ok (.iadd, 1) := by decide +kernel
theorem dL_law_668 : decode cL_law 668 = .ok (.iaload, 1) := by decide +kernel
theorem dL_law_669 : decode cL_law 669 = .ok (.invokevirtual 61, 3) := by decide +kernel
theorem dL_law_672 : decode cL_law 672 = .ok (.aload_n 2, 1) := by decide +kernel
theorem dL_law_673 : decode cL_law 673 = .ok (.aload_n 0, 1) := by decide +kernel
theorem dL_law_674 : decode cL_law 674 = .ok (.iload_n 3, 1) := by decide +kernel
theorem dL_law_675 : decode cL_law 675 = .ok (.iconst 1, 1) := by decide +kernel
theorem dL_law_676 : decode cL_law 676 = .ok (.iadd, 1) := by decide +kernel
theorem dL_law_677 : decode cL_law 677 = .ok (.iaload, 1) := by decide +kernel
theorem dL_law_678 : decode cL_law 678 = .ok (.invokevirtual 65, 3) := by decide +kernel
theorem dL_law_681 : decode cL_law 681 = .ok (.if_icmp .eq 499, 3) := by decide +kernel
theorem dL_law_684 : decode cL_law 684 = .ok (.iconst 0, 1) := by decide +kernel
theorem dL_law_685 : decode cL_law 685 = .ok (.ireturn, 1) := by decide +kernel
theorem dL_law_686 : decode cL_law 686 = .ok (.aload_n 1, 1) := by decide +kernel
theorem dL_law_687 : decode cL_law 687 = .ok (.invokevirtual 66, 3) := by decide +kernel
theorem dL_law_690 : decode cL_law 690 = .ok (.aload_n 2, 1) := by decide +kernel
theorem dL_law_691 : decode cL_law 691 = .ok (.invokevirtual 70, 3) := by decide +kernel
theorem dL_law_694 : decode cL_law 694 = .ok (.if_icmp .eq 486, 3) := by decide +kernel
theorem dL_law_697 : decode cL_law 697 = .ok (.iconst 0, 1) := by decide +kernel
theorem dL_law_698 : decode cL_law 698 = .ok (.ireturn, 1) := by decide +kernel
theorem dL_law_699 : decode cL_law 699 = .ok (.aload_n 1, 1) := by decide +kernel
theorem dL_law_700 : decode cL_law 700 = .ok (.invokevirtual 71, 3) := by decide +kernel
theorem dL_law_703 : decode cL_law 703 = .ok (.aload_n 2, 1) := by decide +kernel
theorem dL_law_704 : decode cL_law 704 = .ok (.invokevirtual 74, 3) := by decide +kernel
theorem dL_law_707 : decode cL_law 707 = .ok (.if_icmp .eq 473, 3) := by decide +kernel
theorem dL_law_710 : decode cL_law 710 = .ok (.iconst 0, 1) := by decide +kernel
theorem dL_law_711 : decode cL_law 711 = .ok (.ireturn, 1) := by decide +kernel
theorem dL_law_712 : decode cL_law 712 = .ok (.aload_n 1, 1) := by decide +kernel
theorem dL_law_713 : decode cL_law 713 = .ok (.invokevirtual 75, 3) := by decide +kernel
theorem dL_law_716 : decode cL_law 716 = .ok (.aload_n 2, 1) := by decide +kernel
theorem dL_law_717 : decode cL_law 717 = .ok (.invokevirtual 78, 3) := by decide +kernel
theorem dL_law_720 : decode cL_law 720 = .ok (.if_icmp .eq 460, 3) := by decide +kernel
theorem dL_law_723 : decode cL_law 723 = .ok (.iconst 0, 1) := by decide +kernel
theorem dL_law_724 : decode cL_law 724 = .ok (.ireturn, 1) := by decide +kernel
theorem dL_law_725 : decode cL_law 725 = .ok (.aload_n 1, 1) := by decide +kernel
theorem dL_law_726 : decode cL_law 726 = .ok (.aload_n 0, 1) := by decide +kernel
theorem dL_law_727 : decode cL_law 727 = .ok (.iload_n 3, 1) := by decide +kernel
theorem dL_law_728 : decode cL_law 728 = .ok (.iconst 1, 1) := by decide +kernel
theorem dL_law_729 : decode cL_law 729 = .ok (.iadd, 1) := by decide +kernel
theorem dL_law_730 : decode cL_law 730 = .ok (.iaload, 1) := by decide +kernel
theorem dL_law_731 : decode cL_law 731 = .ok (.aload_n 0, 1) := by decide +kernel
theorem dL_law_732 : decode cL_law 732 = .ok (.iload_n 3, 1) := by decide +kernel
theorem dL_law_733 : decode cL_law 733 = .ok (.iconst 2, 1) := by decide +kernel
theorem dL_law_734 : decode cL_law 734 = .ok (.iadd, 1) := by decide +kernel
theorem dL_law_735 : decode cL_law 735 = .ok (.iaload, 1) := by decide +kernel
theorem dL_law_736 : decode cL_law 736 = .ok (.aload_n 0, 1) := by decide +kernel
theorem dL_law_737 : decode cL_law 737 = .ok (.iload_n 3, 1) := by decide +kernel
theorem dL_law_738 : decode cL_law 738 = .ok (.iconst 3, 1) := by decide +kernel
theorem dL_law_739 : decode cL_law 739 = .ok (.iadd, 1) := by decide +kernel
theorem dL_law_740 : decode cL_law 740 = .ok (.iaload, 1) := by decide +kernel
theorem dL_law_741 : decode cL_law 741 = .ok (.aload_n 0, 1) := by decide +kernel
theorem dL_law_742 : decode cL_law 742 = .ok (.iload_n 3, 1) := by decide +kernel
theorem dL_law_743 : decode cL_law 743 = .ok (.iconst 4, 1) := by decide +kernel
theorem dL_law_744 : decode cL_law 744 = .ok (.iadd, 1) := by decide +kernel
theorem dL_law_745 : decode cL_law 745 = .ok (.iaload, 1) := by decide +kernel
theorem dL_law_746 : decode cL_law 746 = .ok (.aload_n 0, 1) := by decide +kernel
theorem dL_law_747 : decode cL_law 747 = .ok (.iload_n 3, 1) := by decide +kernel
theorem dL_law_748 : decode cL_law 748 = .ok (.iconst 5, 1) := by decide +kernel
theorem dL_law_749 : decode cL_law 749 = .ok (.iadd, 1) := by decide +kernel
theorem dL_law_750 : decode cL_law 750 = .ok (.iaload, 1) := by decide +kernel
theorem dL_law_751 : decode cL_law 751 = .ok (.invokevirtual 79, 3) := by decide +kernel
theorem dL_law_754 : decode cL_law 754 = .ok (.aload_n 2, 1) := by decide +kernel
theorem dL_law_755 : decode cL_law 755 = .ok (.aload_n 0, 1) := by decide +kernel
theorem dL_law_756 : decode cL_law 756 = .ok (.iload_n 3, 1) := by decide +kernel
theorem dL_law_757 : decode cL_law 757 = .ok (.iconst 1, 1) := by decide +kernel
theorem dL_law_758 : decode cL_law 758 = .ok (.iadd, 1) := by decide +kernel
theorem dL_law_759 : decode cL_law 759 = .ok (.iaload, 1) := by decide +kernel
theorem dL_law_760 : decode cL_law 760 = .ok (.aload_n 0, 1) := by decide +kernel
theorem dL_law_761 : decode cL_law 761 = .ok (.iload_n 3, 1) := by decide +kernel
theorem dL_law_762 : decode cL_law 762 = .ok (.iconst 2, 1) := by decide +kernel
theorem dL_law_763 : decode cL_law 763 = .ok (.iadd, 1) := by decide +kernel
theorem dL_law_764 : decode cL_law 764 = .ok (.iaload, 1) := by decide +kernel
theorem dL_law_765 : decode cL_law 765 = .ok (.aload_n 0, 1) := by decide +kernel
theorem dL_law_766 : decode cL_law 766 = .ok (.iload_n 3, 1) := by decide +kernel
theorem dL_law_767 : decode cL_law 767 = .ok (.iconst 3, 1) := by decide +kernel
theorem dL_law_768 : decode cL_law 768 = .ok (.iadd, 1) := by decide +kernel
theorem dL_law_769 : decode cL_law 769 = .ok (.iaload, 1) := by decide +kernel
theorem dL_law_770 : decode cL_law 770 = .ok (.aload_n 0, 1) := by decide +kernel
theorem dL_law_771 : decode cL_law 771 = .ok (.iload_n 3, 1) := by decide +kernel
theorem dL_law_772 : decode cL_law 772 = .ok (.iconst 4, 1) := by decide +kernel
theorem dL_law_773 : decode cL_law 773 = .ok (.iadd, 1) := by decide +kernel
theorem dL_law_774 : decode cL_law 774 = .ok (.iaload, 1) := by decide +kernel
theorem dL_law_775 : decode cL_law 775 = .ok (.aload_n 0, 1) := by decide +kernel
theorem dL_law_776 : decode cL_law 776 = .ok (.iload_n 3, 1) := by decide +kernel
theorem dL_law_777 : decode cL_law 777 = .ok (.iconst 5, 1) := by decide +kernel
theorem dL_law_778 : decode cL_law 778 = .ok (.iadd, 1) := by decide +kernel
theorem dL_law_779 : decode cL_law 779 = .ok (.iaload, 1) := by decide +kernel
theorem dL_law_780 : decode cL_law 780 = .ok (.invokevirtual 83, 3) := by decide +kernel
theorem dL_law_783 : decode cL_law 783 = .ok (.if_icmp .eq 397, 3) := by decide +kernel
theorem dL_law_786 : decode cL_law 786 = .ok (.iconst 0, 1) := by decide +kernel
theorem dL_law_787 : decode cL_law 787 = .ok (.ireturn, 1) := by decide +kernel
theorem dL_law_788 : decode cL_law 788 = .ok (.aload_n 1, 1) := by decide +kernel
theorem dL_law_789 : decode cL_law 789 = .ok (.aload_n 0, 1) := by decide +kernel
theorem dL_law_790 : decode cL_law 790 = .ok (.iload_n 3, 1) := by decide +kernel
theorem dL_law_791 : decode cL_law 791 = .ok (.iconst 1, 1) := by decide +kernel
theorem dL_law_792 : decode cL_law 792 = .ok (.iadd, 1) := by decide +kernel
theorem dL_law_793 : decode cL_law 793 = .ok (.iaload, 1) := by decide +kernel
theorem dL_law_794 : decode cL_law 794 = .ok (.invokevirtual 84, 3) := by decide +kernel
theorem dL_law_797 : decode cL_law 797 = .ok (.aload_n 2, 1) := by decide +kernel
theorem dL_law_798 : decode cL_law 798 = .ok (.aload_n 0, 1) := by decide +kernel
theorem dL_law_799 : decode cL_law 799 = .ok (.iload_n 3, 1) := by decide +kernel
theorem dL_law_800 : decode cL_law 800 = .ok (.iconst 1, 1) := by decide +kernel
theorem dL_law_801 : decode cL_law 801 = .ok (.iadd, 1) := by decide +kernel
theorem dL_law_802 : decode cL_law 802 = .ok (.iaload, 1) := by decide +kernel
theorem dL_law_803 : decode cL_law 803 = .ok (.invokevirtual 87, 3) := by decide +kernel
theorem dL_law_806 : decode cL_law 806 = .ok (.if_icmp .eq 374, 3) := by decide +kernel
theorem dL_law_809 : decode cL_law 809 = .ok (.iconst 0, 1) := by decide +kernel
theorem dL_law_810 : decode cL_law 810 = .ok (.ireturn, 1) := by decide +kernel
theorem dL_law_811 : decode cL_law 811 = .ok (.aload_n 1, 1) := by decide +kernel
theorem dL_law_812 : decode cL_law 812 = .ok (.invokevirtual 88, 3) := by decide +kernel
theorem dL_law_815 : decode cL_law 815 = .ok (.aload_n 2, 1) := by decide +kernel
theorem dL_law_816 : decode cL_law 816 = .ok (.invokevirtual 91, 3) := by decide +kernel
theorem dL_law_819 : decode cL_law 819 = .ok (.if_icmp .eq 361, 3) := by decide +kernel
theorem dL_law_822 : decode cL_law 822 = .ok (.iconst 0, 1) := by decide +kernel
theorem dL_law_823 : decode cL_law 823 = .ok (.ireturn, 1) := by decide +kernel
theorem dL_law_824 : decode cL_law 824 = .ok (.aload_n 1, 1) := by decide +kernel
theorem dL_law_825 : decode cL_law 825 = .ok (.aload_n 0, 1) := by decide +kernel
theorem dL_law_826 : decode cL_law 826 = .ok (.iload_n 3, 1) := by decide +kernel
theorem dL_law_827 : decode cL_law 827 = .ok (.iconst 1, 1) := by decide +kernel
theorem dL_law_828 : decode cL_law 828 = .ok (.iadd, 1) := by decide +kernel
theorem dL_law_829 : decode cL_law 829 = .ok (.iaload, 1) := by decide +kernel
theorem dL_law_830 : decode cL_law 830 = .ok (.aload_n 0, 1) := by decide +kernel
theorem dL_law_831 : decode cL_law 831 = .ok (.iload_n 3, 1) := by decide +kernel
theorem dL_law_832 : decode cL_law 832 = .ok (.iconst 2, 1) := by decide +kernel
theorem dL_law_833 : decode cL_law 833 = .ok (.iadd, 1) := by decide +kernel
theorem dL_law_834 : decode cL_law 834 = .ok (.iaload, 1) := by decide +kernel
theorem dL_law_835 : decode cL_law 835 = .ok (.invokevirtual 92, 3) := by decide +kernel
theorem dL_law_838 : decode cL_law 838 = .ok (.aload_n 2, 1) := by decide +kernel
theorem dL_law_839 : decode cL_law 839 = .ok (.aload_n 0, 1) := by decide +kernel
theorem dL_law_840 : decode cL_law 840 = .ok (.iload_n 3, 1) := by decide +kernel
theorem dL_law_841 : decode cL_law 841 = .ok (.iconst 1, 1) := by decide +kernel
theorem dL_law_842 : decode cL_law 842 = .ok (.iadd, 1) := by decide +kernel
theorem dL_law_843 : decode cL_law 843 = .ok (.iaload, 1) := by decide +kernel
theorem dL_law_844 : decode cL_law 844 = .ok (.aload_n 0, 1) := by decide +kernel
theorem dL_law_845 : decode cL_law 845 = .ok (.iload_n 3, 1) := by decide +kernel
theorem dL_law_846 : decode cL_law 846 = .ok (.iconst 2, 1) := by decide +kernel
theorem dL_law_847 : decode cL_law 847 = .ok (.iadd, 1) := by decide +kernel
theorem dL_law_848 : decode cL_law 848 = .ok (.iaload, 1) := by decide +kernel
theorem dL_law_849 : decode cL_law 849 = .ok (.invokevirtual 95, 3) := by decide +kernel
theorem dL_law_852 : decode cL_law 852 = .ok (.if_icmp .eq 328, 3) := by decide +kernel
theorem dL_law_855 : decode cL_law 855 = .ok (.iconst 0, 1) := by decide +kernel
theorem dL_law_856 : decode cL_law 856 = .ok (.ireturn, 1) := by decide +kernel
theorem dL_law_857 : decode cL_law 857 = .ok (.aload_n 1, 1) := by decide +kernel
theorem dL_law_858 : decode cL_law 858 = .ok (.aload_n 0, 1) := by decide +kernel
theorem dL_law_859 : decode cL_law 859 = .ok (.iload_n 3, 1) := by decide +kernel
theorem dL_law_860 : decode cL_law 860 = .ok (.iconst 1, 1) := by decide +kernel
theorem dL_law_861 : decode cL_law 861 = .ok (.iadd, 1) := by decide +kernel
theorem dL_law_862 : decode cL_law 862 = .ok (.iaload, 1) := by decide +kernel
theorem dL_law_863 : decode cL_law 863 = .ok (.aload_n 0, 1) := by decide +kernel
theorem dL_law_864 : decode cL_law 864 = .ok (.iload_n 3, 1) := by decide +kernel
theorem dL_law_865 : decode cL_law 865 = .ok (.iconst 2, 1) := by decide +kernel
theorem dL_law_866 : decode cL_law 866 = .ok (.iadd, 1) := by decide +kernel
theorem dL_law_867 : decode cL_law 867 = .ok (.iaload, 1) := by decide +kernel
theorem dL_law_868 : decode cL_law 868 = .ok (.invokevirtual 96, 3) := by decide +kernel
theorem dL_law_871 : decode cL_law 871 = .ok (.aload_n 2, 1) := by decide +kernel
theorem dL_law_872 : decode cL_law 872 = .ok (.aload_n 0, 1) := by decide +kernel
theorem dL_law_873 : decode cL_law 873 = .ok (.iload_n 3, 1) := by decide +kernel
theorem dL_law_874 : decode cL_law 874 = .ok (.iconst 1, 1) := by decide +kernel
theorem dL_law_875 : decode cL_law 875 = .ok (.iadd, 1) := by decide +kernel
theorem dL_law_876 : decode cL_law 876 = .ok (.iaload, 1) := by decide +kernel
theorem dL_law_877 : decode cL_law 877 = .ok (.aload_n 0, 1) := by decide +kernel
theorem dL_law_878 : decode cL_law 878 = .ok (.iload_n 3, 1) := by decide +kernel
theorem dL_law_879 : decode cL_law 879 = .ok (.iconst 2, 1) := by decide +kernel
theorem dL_law_880 : decode cL_law 880 = .ok (.iadd, 1) := by decide +kernel
theorem dL_law_881 : decode cL_law 881 = .ok (.iaload, 1) := by decide +kernel
theorem dL_law_882 : decode cL_law 882 = .ok (.invokevirtual 99, 3) := by decide +kernel
theorem dL_law_885 : decode cL_law 885 = .ok (.if_icmp .eq 295, 3) := by decide +kernel
theorem dL_law_888 : decode cL_law 888 = .ok (.iconst 0, 1) := by decide +kernel
theorem dL_law_889 : decode cL_law 889 = .ok (.ireturn, 1) := by decide +kernel
theorem dL_law_890 : decode cL_law 890 = .ok (.aload_n 1, 1) := by decide +kernel
theorem dL_law_891 : decode cL_law 891 = .ok (.aload_n 0, 1) := by decide +kernel
theorem dL_law_892 : decode cL_law 892 = .ok (.iload_n 3, 1) := by decide +kernel
theorem dL_law_893 : decode cL_law 893 = .ok (.iconst 1, 1) := by decide +kernel
theorem dL_law_894 : decode cL_law 894 = .ok (.iadd, 1) := by decide +kernel
theorem dL_law_895 : decode cL_law 895 = .ok (.iaload, 1) := by decide +kernel
theorem dL_law_896 : decode cL_law 896 = .ok (.aload_n 0, 1) := by decide +kernel
theorem dL_law_897 : decode cL_law 897 = .ok (.iload_n 3, 1) := by decide +kernel
theorem dL_law_898 : decode cL_law 898 = .ok (.iconst 2, 1) := by decide +kernel
theorem dL_law_899 : decode cL_law 899 = .ok (.iadd, 1) := by decide +kernel
theorem dL_law_900 : decode cL_law 900 = .ok (.iaload, 1) := by decide +kernel
theorem dL_law_901 : decode cL_law 901 = .ok (.invokevirtual 100, 3) := by decide +kernel
theorem dL_law_904 : decode cL_law 904 = .ok (.aload_n 2, 1) := by decide +kernel
theorem dL_law_905 : decode cL_law 905 = .ok (.aload_n 0, 1) := by decide +kernel
theorem dL_law_906 : decode cL_law 906 = .ok (.iload_n 3, 1) := by decide +kernel
theorem dL_law_907 : decode cL_law 907 = .ok (.iconst 1, 1) := by decide +kernel
theorem dL_law_908 : decode cL_law 908 = .ok (.iadd, 1) := by decide +kernel
theorem dL_law_909 : decode cL_law 909 = .ok (.iaload, 1) := by decide +kernel
theorem dL_law_910 : decode cL_law 910 = .ok (.aload_n 0, 1) := by decide +kernel
theorem dL_law_911 : decode cL_law 911 = .ok (.iload_n 3, 1) := by decide +kernel
theorem dL_law_912 : decode cL_law 912 = .ok (.iconst 2, 1) := by decide +kernel
theorem dL_law_913 : decode cL_law 913 = .ok (.iadd, 1) := by decide +kernel
theorem dL_law_914 : decode cL_law 914 = .ok (.iaload, 1) := by decide +kernel
theorem dL_law_915 : decode cL_law 915 = .ok (.invokevirtual 103, 3) := by decide +kernel
theorem dL_law_918 : decode cL_law 918 = .ok (.if_icmp .eq 262, 3) := by decide +kernel
theorem dL_law_921 : decode cL_law 921 = .ok (.iconst 0, 1) := by decide +kernel
theorem dL_law_922 : decode cL_law 922 = .ok (.ireturn, 1) := by decide +kernel
theorem dL_law_923 : decode cL_law 923 = .ok (.aload_n 1, 1) := by decide +kernel
theorem dL_law_924 : decode cL_law 924 = .ok (.invokevirtual 104, 3) := by decide +kernel
theorem dL_law_927 : decode cL_law 927 = .ok (.aload_n 2, 1) := by decide +kernel
theorem dL_law_928 : decode cL_law 928 = .ok (.invokevirtual 107, 3) := by decide +kernel
theorem dL_law_931 : decode cL_law 931 = .ok (.if_icmp .eq 249, 3) := by decide +kernel
theorem dL_law_934 : decode cL_law 934 = .ok (.iconst 0, 1) := by decide +kernel
theorem dL_law_935 : decode cL_law 935 = .ok (.ireturn, 1) := by decide +kernel
theorem dL_law_936 : decode cL_law 936 = .ok (.aload_n 1, 1) := by decide +kernel
theorem dL_law_937 : decode cL_law 937 = .ok (.aload_n 0, 1) := by decide +kernel
theorem dL_law_938 : decode cL_law 938 = .ok (.iload_n 3, 1) := by decide +kernel
theorem dL_law_939 : decode cL_law 939 = .ok (.iconst 1, 1) := by decide +kernel
theorem dL_law_940 : decode cL_law 940 = .ok (.iadd, 1) := by decide +kernel
theorem dL_law_941 : decode cL_law 941 = .ok (.iaload, 1) := by decide +kernel
theorem dL_law_942 : decode cL_law 942 = .ok (.aload_n 0, 1) := by decide +kernel
theorem dL_law_943 : decode cL_law 943 = .ok (.iload_n 3, 1) := by decide +kernel
theorem dL_law_944 : decode cL_law 944 = .ok (.iconst 2, 1) := by decide +kernel
theorem dL_law_945 : decode cL_law 945 = .ok (.iadd, 1) := by decide +kernel
theorem dL_law_946 : decode cL_law 946 = .ok (.iaload, 1) := by decide +kernel
theorem dL_law_947 : decode cL_law 947 = .ok (.invokevirtual 108, 3) := by decide +kernel
theorem dL_law_950 : decode cL_law 950 = .ok (.aload_n 2, 1) := by decide +kernel
theorem dL_law_951 : decode cL_law 951 = .ok (.aload_n 0, 1) := by decide +kernel
theorem dL_law_952 : decode cL_law 952 = .ok (.iload_n 3, 1) := by decide +kernel
theorem dL_law_953 : decode cL_law 953 = .ok (.iconst 1, 1) := by decide +kernel
theorem dL_law_954 : decode cL_law 954 = .ok (.iadd, 1) := by decide +kernel
theorem dL_law_955 : decode cL_law 955 = .ok (.iaload, 1) := by decide +kernel
theorem dL_law_956 : decode cL_law 956 = .ok (.aload_n 0, 1) := by decide +kernel
theorem dL_law_957 : decode cL_law 957 = .ok (.iload_n 3, 1) := by decide +kernel
theorem dL_law_958 : decode cL_law 958 = .ok (.iconst 2, 1) := by decide +kernel
theorem dL_law_959 : decode cL_law 959 = .ok (.iadd, 1) := by decide +kernel
theorem dL_law_960 : decode cL_law 960 = .ok (.iaload, 1) := by decide +kernel
theorem dL_law_961 : decode cL_law 961 = .ok (.invokevirtual 111, 3) := by decide +kernel
theorem dL_law_964 : decode cL_law 964 = .ok (.if_icmp .eq 216, 3) := by decide +kernel
theorem dL_law_967 : decode cL_law 967 = .ok (.iconst 0, 1) := by decide +kernel
theorem dL_law_968 : decode cL_law 968 = .ok (.ireturn, 1) := by decide +kernel
theorem dL_law_969 : decode cL_law 969 = .ok (.aload_n 1, 1) := by decide +kernel
theorem dL_law_970 : decode cL_law 970 = .ok (.aload_n 0, 1) := by decide +kernel
theorem dL_law_971 : decode cL_law 971 = .ok (.iload_n 3, 1) := by decide +kernel
theorem dL_law_972 : decode cL_law 972 = .ok (.iconst 1, 1) := by decide +kernel
theorem dL_law_973 : decode cL_law 973 = .ok (.iadd, 1) := by decide +kernel
theorem dL_law_974 : decode cL_law 974 = .ok (.iaload, 1) := by decide +kernel
theorem dL_law_975 : decode cL_law 975 = .ok (.aload_n 0, 1) := by decide +kernel
theorem dL_law_976 : decode cL_law 976 = .ok (.iload_n 3, 1) := by decide +kernel
theorem dL_law_977 : decode cL_law 977 = .ok (.iconst 2, 1) := by decide +kernel
theorem dL_law_978 : decode cL_law 978 = .ok (.iadd, 1) := by decide +kernel
theorem dL_law_979 : decode cL_law 979 = .ok (.iaload, 1) := by decide +kernel
theorem dL_law_980 : decode cL_law 980 = .ok (.invokevirtual 112, 3) := by decide +kernel
theorem dL_law_983 : decode cL_law 983 = .ok (.aload_n 2, 1) := by decide +kernel
theorem dL_law_984 : decode cL_law 984 = .ok (.aload_n 0, 1) := by decide +kernel
theorem dL_law_985 : decode cL_law 985 = .ok (.iload_n 3, 1) := by decide +kernel
theorem dL_law_986 : decode cL_law 986 = .ok (.iconst 1, 1) := by decide +kernel
theorem dL_law_987 : decode cL_law 987 = .ok (.iadd, 1) := by decide +kernel
theorem dL_law_988 : decode cL_law 988 = .ok (.iaload, 1) := by decide +kernel
theorem dL_law_989 : decode cL_law 989 = .ok (.aload_n 0, 1) := by decide +kernel
theorem dL_law_990 : decode cL_law 990 = .ok (.iload_n 3, 1) := by decide +kernel
theorem dL_law_991 : decode cL_law 991 = .ok (.iconst 2, 1) := by decide +kernel
theorem dL_law_992 : decode cL_law 992 = .ok (.iadd, 1) := by decide +kernel
theorem dL_law_993 : decode cL_law 993 = .ok (.iaload, 1) := by decide +kernel
theorem dL_law_994 : decode cL_law 994 = .ok (.invokevirtual 115, 3) := by decide +kernel
theorem dL_law_997 : decode cL_law 997 = .ok (.if_icmp .eq 183, 3) := by decide +kernel
theorem dL_law_1000 : decode cL_law 1000 = .ok (.iconst 0, 1) := by decide +kernel
theorem dL_law_1001 : decode cL_law 1001 = .ok (.ireturn, 1) := by decide +kernel
theorem dL_law_1002 : decode cL_law 1002 = .ok (.aload_n 1, 1) := by decide +kernel
theorem dL_law_1003 : decode cL_law 1003 = .ok (.aload_n 0, 1) := by decide +kernel
theorem dL_law_1004 : decode cL_law 1004 = .ok (.iload_n 3, 1) := by decide +kernel
theorem dL_law_1005 : decode cL_law 1005 = .ok (.iconst 1, 1) := by decide +kernel
theorem dL_law_1006 : decode cL_law 1006 = .ok (.iadd, 1) := by decide +kernel
theorem dL_law_1007 : decode cL_law 1007 = .ok (.iaload, 1) := by decide +kernel
theorem dL_law_1008 : decode cL_law 1008 = .ok (.aload_n 0, 1) := by decide +kernel
theorem dL_law_1009 : decode cL_law 1009 = .ok (.iload_n 3, 1) := by decide +kernel
theorem dL_law_1010 : decode cL_law 1010 = .ok (.iconst 2, 1) := by decide +kernel
theorem dL_law_1011 : decode cL_law 1011 = .ok (.iadd, 1) := by decide +kernel
theorem dL_law_1012 : decode cL_law 1012 = .ok (.iaload, 1) := by decide +kernel
theorem dL_law_1013 : decode cL_law 1013 = .ok (.aload_n 0, 1) := by decide +kernel
theorem dL_law_1014 : decode cL_law 1014 = .ok (.iload_n 3, 1) := by decide +kernel
theorem dL_law_1015 : decode cL_law 1015 = .ok (.iconst 3, 1) := by decide +kernel
theorem dL_law_1016 : decode cL_law 1016 = .ok (.iadd, 1) := by decide +kernel
theorem dL_law_1017 : decode cL_law 1017 = .ok (.iaload, 1) := by decide +kernel
theorem dL_law_1018 : decode cL_law 1018 = .ok (.invokevirtual 116, 3) := by decide +kernel
theorem dL_law_1021 : decode cL_law 1021 = .ok (.aload_n 2, 1) := by decide +kernel
theorem dL_law_1022 : decode cL_law 1022 = .ok (.aload_n 0, 1) := by decide +kernel
theorem dL_law_1023 : decode cL_law 1023 = .ok (.iload_n 3, 1) := by decide +kernel
theorem dL_law_1024 : decode cL_law 1024 = .ok (.iconst 1, 1) := by decide +kernel
theorem dL_law_1025 : decode cL_law 1025 = .ok (.iadd, 1) := by decide +kernel
theorem dL_law_1026 : decode cL_law 1026 = .ok (.iaload, 1) := by decide +kernel
theorem dL_law_1027 : decode cL_law 1027 = .ok (.aload_n 0, 1) := by decide +kernel
theorem dL_law_1028 : decode cL_law 1028 = .ok (.iload_n 3, 1) := by decide +kernel
theorem dL_law_1029 : decode cL_law 1029 = .ok (.iconst 2, 1) := by decide +kernel
theorem dL_law_1030 : decode cL_law 1030 = .ok (.iadd, 1) := by decide +kernel
theorem dL_law_1031 : decode cL_law 1031 = .ok (.iaload, 1) := by decide +kernel
theorem dL_law_1032 : decode cL_law 1032 = .ok (.aload_n 0, 1) := by decide +kernel
theorem dL_law_1033 : decode cL_law 1033 = .ok (.iload_n 3, 1) := by decide +kernel
theorem dL_law_1034 : decode cL_law 1034 = .ok (.iconst 3, 1) := by decide +kernel
theorem dL_law_1035 : decode cL_law 1035 = .ok (.iadd, 1) := by decide +kernel
theorem dL_law_1036 : decode cL_law 1036 = .ok (.iaload, 1) := by decide +kernel
theorem dL_law_1037 : decode cL_law 1037 = .ok (.invokevirtual 119, 3) := by decide +kernel
theorem dL_law_1040 : decode cL_law 1040 = .ok (.if_icmp .eq 140, 3) := by decide +kernel
theorem dL_law_1043 : decode cL_law 1043 = .ok (.iconst 0, 1) := by decide +kernel
theorem dL_law_1044 : decode cL_law 1044 = .ok (.ireturn, 1) := by decide +kernel
theorem dL_law_1045 : decode cL_law 1045 = .ok (.aload_n 1, 1) := by decide +kernel
theorem dL_law_1046 : decode cL_law 1046 = .ok (.aload_n 0, 1) := by decide +kernel
theorem dL_law_1047 : decode cL_law 1047 = .ok (.iload_n 3, 1) := by decide +kernel
theorem dL_law_1048 : decode cL_law 1048 = .ok (.iconst 1, 1) := by decide +kernel
theorem dL_law_1049 : decode cL_law 1049 = .ok (.iadd, 1) := by decide +kernel
theorem dL_law_1050 : decode cL_law 1050 = .ok (.iaload, 1) := by decide +kernel
theorem dL_law_1051 : decode cL_law 1051 = .ok (.invokevirtual 120, 3) := by decide +kernel
theorem dL_law_1054 : decode cL_law 1054 = .ok (.aload_n 2, 1) := by decide +kernel
theorem dL_law_1055 : decode cL_law 1055 = .ok (.aload_n 0, 1) := by decide +kernel
theorem dL_law_1056 : decode cL_law 1056 = .ok (.iload_n 3, 1) := by decide +kernel
theorem dL_law_1057 : decode cL_law 1057 = .ok (.iconst 1, 1) := by decide +kernel
theorem dL_law_1058 : decode cL_law 1058 = .ok (.iadd, 1) := by decide +kernel
theorem dL_law_1059 : decode cL_law 1059 = .ok (.iaload, 1) := by decide +kernel
theorem dL_law_1060 : decode cL_law 1060 = .ok (.invokevirtual 123, 3) := by decide +kernel
theorem dL_law_1063 : decode cL_law 1063 = .ok (.if_icmp .eq 117, 3) := by decide +kernel
theorem dL_law_1066 : decode cL_law 1066 = .ok (.iconst 0, 1) := by decide +kernel
theorem dL_law_1067 : decode cL_law 1067 = .ok (.ireturn, 1) := by decide +kernel
theorem dL_law_1068 : decode cL_law 1068 = .ok (.aload_n 1, 1) := by decide +kernel
theorem dL_law_1069 : decode cL_law 1069 = .ok (.aload_n 0, 1) := by decide +kernel
theorem dL_law_1070 : decode cL_law 1070 = .ok (.iload_n 3, 1) := by decide +kernel
theorem dL_law_1071 : decode cL_law 1071 = .ok (.iconst 1, 1) := by decide +kernel
theorem dL_law_1072 : decode cL_law 1072 = .ok (.iadd, 1) := by decide +kernel
theorem dL_law_1073 : decode cL_law 1073 = .ok (.iaload, 1) := by decide +kernel
theorem dL_law_1074 : decode cL_law 1074 = .ok (.aload_n 0, 1) := by decide +kernel
theorem dL_law_1075 : decode cL_law 1075 = .ok (.iload_n 3, 1) := by decide +kernel
theorem dL_law_1076 : decode cL_law 1076 = .ok (.iconst 2, 1) := by decide +kernel
theorem dL_law_1077 : decode cL_law 1077 = .ok (.iadd, 1) := by decide +kernel
theorem dL_law_1078 : decode cL_law 1078 = .ok (.iaload, 1) := by decide +kernel
theorem dL_law_1079 : decode cL_law 1079 = .ok (.aload_n 0, 1) := by decide +kernel
theorem dL_law_1080 : decode cL_law 1080 = .ok (.iload_n 3, 1) := by decide +kernel
theorem dL_law_1081 : decode cL_law 1081 = .ok (.iconst 3, 1) := by decide +kernel
theorem dL_law_1082 : decode cL_law 1082 = .ok (.iadd, 1) := by decide +kernel
theorem dL_law_1083 : decode cL_law 1083 = .ok (.iaload, 1) := by decide +kernel
theorem dL_law_1084 : decode cL_law 1084 = .ok (.invokevirtual 124, 3) := by decide +kernel
theorem dL_law_1087 : decode cL_law 1087 = .ok (.aload_n 2, 1) := by decide +kernel
theorem dL_law_1088 : decode cL_law 1088 = .ok (.aload_n 0, 1) := by decide +kernel
theorem dL_law_1089 : decode cL_law 1089 = .ok (.iload_n 3, 1) := by decide +kernel
theorem dL_law_1090 : decode cL_law 1090 = .ok (.iconst 1, 1) := by decide +kernel
theorem dL_law_1091 : decode cL_law 1091 = .ok (.iadd, 1) := by decide +kernel
theorem dL_law_1092 : decode cL_law 1092 = .ok (.iaload, 1) := by decide +kernel
theorem dL_law_1093 : decode cL_law 1093 = .ok (.aload_n 0, 1) := by decide +kernel
theorem dL_law_1094 : decode cL_law 1094 = .ok (.iload_n 3, 1) := by decide +kernel
theorem dL_law_1095 : decode cL_law 1095 = .ok (.iconst 2, 1) := by decide +kernel
theorem dL_law_1096 : decode cL_law 1096 = .ok (.iadd, 1) := by decide +kernel
theorem dL_law_1097 : decode cL_law 1097 = .ok (.iaload, 1) := by decide +kernel
theorem dL_law_1098 : decode cL_law 1098 = .ok (.aload_n 0, 1) := by decide +kernel
theorem dL_law_1099 : decode cL_law 1099 = .ok (.iload_n 3, 1) := by decide +kernel
theorem dL_law_1100 : decode cL_law 1100 = .ok (.iconst 3, 1) := by decide +kernel
theorem dL_law_1101 : decode cL_law 1101 = .ok (.iadd, 1) := by decide +kernel
theorem dL_law_1102 : decode cL_law 1102 = .ok (.iaload, 1) := by decide +kernel
theorem dL_law_1103 : decode cL_law 1103 = .ok (.invokevirtual 127, 3) := by decide +kernel
theorem dL_law_1106 : decode cL_law 1106 = .ok (.if_icmp .eq 74, 3) := by decide +kernel
theorem dL_law_1109 : decode cL_law 1109 = .ok (.iconst 0, 1) := by decide +kernel
theorem dL_law_1110 : decode cL_law 1110 = .ok (.ireturn, 1) := by decide +kernel
theorem dL_law_1111 : decode cL_law 1111 = .ok (.aload_n 1, 1) := by decide +kernel
theorem dL_law_1112 : decode cL_law 1112 = .ok (.aload_n 0, 1) := by decide +kernel
theorem dL_law_1113 : decode cL_law 1113 = .ok (.iload_n 3, 1) := by decide +kernel
theorem dL_law_1114 : decode cL_law 1114 = .ok (.iconst 1, 1) := by decide +kernel
theorem dL_law_1115 : decode cL_law 1115 = .ok (.iadd, 1) := by decide +kernel
theorem dL_law_1116 : decode cL_law 1116 = .ok (.iaload, 1) := by decide +kernel
theorem dL_law_1117 : decode cL_law 1117 = .ok (.invokevirtual 128, 3) := by decide +kernel
theorem dL_law_1120 : decode cL_law 1120 = .ok (.aload_n 2, 1) := by decide +kernel
theorem dL_law_1121 : decode cL_law 1121 = .ok (.aload_n 0, 1) := by decide +kernel
theorem dL_law_1122 : decode cL_law 1122 = .ok (.iload_n 3, 1) := by decide +kernel
theorem dL_law_1123 : decode cL_law 1123 = .ok (.iconst 1, 1) := by decide +kernel
theorem dL_law_1124 : decode cL_law 1124 = .ok (.iadd, 1) := by decide +kernel
theorem dL_law_1125 : decode cL_law 1125 = .ok (.iaload, 1) := by decide +kernel
theorem dL_law_1126 : decode cL_law 1126 = .ok (.invokevirtual 131, 3) := by decide +kernel
theorem dL_law_1129 : decode cL_law 1129 = .ok (.if_icmp .eq 51, 3) := by decide +kernel
theorem dL_law_1132 : decode cL_law 1132 = .ok (.iconst 0, 1) := by decide +kernel
theorem dL_law_1133 : decode cL_law 1133 = .ok (.ireturn, 1) := by decide +kernel
theorem dL_law_1134 : decode cL_law 1134 = .ok (.aload_n 1, 1) := by decide +kernel
theorem dL_law_1135 : decode cL_law 1135 = .ok (.aload_n 0, 1) := by decide +kernel
theorem dL_law_1136 : decode cL_law 1136 = .ok (.iload_n 3, 1) := by decide +kernel
theorem dL_law_1137 : decode cL_law 1137 = .ok (.iconst 1, 1) := by decide +kernel
theorem dL_law_1138 : decode cL_law 1138 = .ok (.iadd, 1) := by decide +kernel
theorem dL_law_1139 : decode cL_law 1139 = .ok (.iaload, 1) := by decide +kernel
theorem dL_law_1140 : decode cL_law 1140 = .ok (.invokevirtual 132, 3) := by decide +kernel
theorem dL_law_1143 : decode cL_law 1143 = .ok (.aload_n 2, 1) := by decide +kernel
theorem dL_law_1144 : decode cL_law 1144 = .ok (.aload_n 0, 1) := by decide +kernel
theorem dL_law_1145 : decode cL_law 1145 = .ok (.iload_n 3, 1) := by decide +kernel
theorem dL_law_1146 : decode cL_law 1146 = .ok (.iconst 1, 1) := by decide +kernel
theorem dL_law_1147 : decode cL_law 1147 = .ok (.iadd, 1) := by decide +kernel
theorem dL_law_1148 : decode cL_law 1148 = .ok (.iaload, 1) := by decide +kernel
theorem dL_law_1149 : decode cL_law 1149 = .ok (.invokevirtual 135, 3) := by decide +kernel
theorem dL_law_1152 : decode cL_law 1152 = .ok (.if_icmp .eq 28, 3) := by decide +kernel
theorem dL_law_1155 : decode cL_law 1155 = .ok (.iconst 0, 1) := by decide +kernel
theorem dL_law_1156 : decode cL_law 1156 = .ok (.ireturn, 1) := by decide +kernel
theorem dL_law_1157 : decode cL_law 1157 = .ok (.aload_n 1, 1) := by decide +kernel
theorem dL_law_1158 : decode cL_law 1158 = .ok (.aload_n 0, 1) := by decide +kernel
theorem dL_law_1159 : decode cL_law 1159 = .ok (.iload_n 3, 1) := by decide +kernel
theorem dL_law_1160 : decode cL_law 1160 = .ok (.iconst 1, 1) := by decide +kernel
theorem dL_law_1161 : decode cL_law 1161 = .ok (.iadd, 1) := by decide +kernel
theorem dL_law_1162 : decode cL_law 1162 = .ok (.iaload, 1) := by decide +kernel
theorem dL_law_1163 : decode cL_law 1163 = .ok (.invokevirtual 136, 3) := by decide +kernel
theorem dL_law_1166 : decode cL_law 1166 = .ok (.aload_n 2, 1) := by decide +kernel
theorem dL_law_1167 : decode cL_law 1167 = .ok (.aload_n 0, 1) := by decide +kernel
theorem dL_law_1168 : decode cL_law 1168 = .ok (.iload_n 3, 1) := by decide +kernel
theorem dL_law_1169 : decode cL_law 1169 = .ok (.iconst 1, 1) := by decide +kernel
theorem dL_law_1170 : decode cL_law 1170 = .ok (.iadd, 1) := by decide +kernel
theorem dL_law_1171 : decode cL_law 1171 = .ok (.iaload, 1) := by decide +kernel
theorem dL_law_1172 : decode cL_law 1172 = .ok (.invokevirtual 139, 3) := by decide +kernel
theorem dL_law_1175 : decode cL_law 1175 = .ok (.if_icmp .eq 5, 3) := by decide +kernel
theorem dL_law_1178 : decode cL_law 1178 = .ok (.iconst 0, 1) := by decide +kernel
theorem dL_law_1179 : decode cL_law 1179 = .ok (.ireturn, 1) := by decide +kernel
theorem dL_law_1180 : decode cL_law 1180 = .ok (.iinc 3 6, 3) := by decide +kernel
theorem dL_law_1183 : decode cL_law 1183 = .ok (.goto (-1165), 3) := by decide +kernel
theorem dL_law_1186 : decode cL_law 1186 = .ok (.iconst 1, 1) := by decide +kernel
theorem dL_law_1187 : decode cL_law 1187 = .ok (.ireturn, 1) := by decide +kernel
noncomputable def C_L_law_L18 (l : Launch) (δ : Dl) : Seg (l, δ, yL_law, 88, (some .boolean), cL_law, 4) 18 1186 :=
  seq (p := 18) (q := 19) (r := 1186) (p_iload_n 3 dL_law_18) (seq (p := 19) (q := 20) (r := 1186) (p_aload_n 0 dL_law_19) (seq (p := 20) (q := 21) (r := 1186) (p_slen dL_law_20) (seq (p := 21) (q := 23) (r := 1186) (p_bipush 6 dL_law_21 (by decide)) (seq (p := 23) (q := 24) (r := 1186) (p_isub dL_law_23) (seq (p := 24) (q := 27) (r := 1186) (p_icmp_gt 1186 dL_law_24 (by decide)) (seq (p := 27) (q := 28) (r := 1186) (p_aload_n 0 dL_law_27) (seq (p := 28) (q := 29) (r := 1186) (p_iload_n 3 dL_law_28) (seq (p := 29) (q := 30) (r := 1186) (p_sld dL_law_29) (seq (p := 30) (q := 32) (r := 1186) (p_bipush 31 dL_law_30 (by decide)) (seq (p := 32) (q := 33) (r := 1186) (p_iand dL_law_32) (seq (p := 33) (q := 1180) (r := 1186) (blk (seq (p := 33) (q := 1157) (r := 1180) (blk (seq (p := 33) (q := 1134) (r := 1157) (blk (seq (p := 33) (q := 1111) (r := 1134) (blk (seq (p := 33) (q := 1068) (r := 1111) (blk (seq (p := 33) (q := 1045) (r := 1068) (blk (seq (p := 33) (q := 1002) (r := 1045) (blk (seq (p := 33) (q := 969) (r := 1002) (blk (seq (p := 33) (q := 936) (r := 969) (blk (seq (p := 33) (q := 923) (r := 936) (blk (seq (p := 33) (q := 890) (r := 923) (blk (seq (p := 33) (q := 857) (r := 890) (blk (seq (p := 33) (q := 824) (r := 857) (blk (seq (p := 33) (q := 811) (r := 824) (blk (seq (p := 33) (q := 788) (r := 811) (blk (seq (p := 33) (q := 725) (r := 788) (blk (seq (p := 33) (q := 712) (r := 725) (blk (seq (p := 33) (q := 699) (r := 712) (blk (seq (p := 33) (q := 686) (r := 699) (blk (seq (p := 33) (q := 663) (r := 686) (blk (seq (p := 33) (q := 630) (r := 663) (blk (seq (p := 33) (q := 587) (r := 630) (blk (seq (p := 33) (q := 554) (r := 587) (blk (seq (p := 33) (q := 511) (r := 554) (blk (seq (p := 33) (q := 468) (r := 511) (blk (seq (p := 33) (q := 435) (r := 468) (blk (seq (p := 33) (q := 392) (r := 435) (blk (seq (p := 33) (q := 339) (r := 392) (blk (seq (p := 33) (q := 270) (r := 339) (blk (seq (p := 33) (q := 201) (r := 270) (blk (seq (p := 33) (q := 168) (r := 201) (blk (seq (p := 33) (q := 168) (r := 168) (p_table (len := 135) dL_law_33 (by decide)) done)) (seq (p := 168) (q := 169) (r := 201) (p_aload_n 1 dL_law_168) (seq (p := 169) (q := 170) (r := 201) (p_aload_n 0 dL_law_169) (seq (p := 170) (q := 171) (r := 201) (p_iload_n 3 dL_law_170) (seq (p := 171) (q := 172) (r := 201) (p_iconst 1 dL_law_171) (seq (p := 172) (q := 173) (r := 201) (p_iadd dL_law_172) (seq (p := 173) (q := 174) (r := 201) (p_sld dL_law_173) (seq (p := 174) (q := 175) (r := 201) (p_aload_n 0 dL_law_174) (seq (p := 175) (q := 176) (r := 201) (p_iload_n 3 dL_law_175) (seq (p := 176) (q := 177) (r := 201) (p_iconst 2 dL_law_176) (seq (p := 177) (q := 178) (r := 201) (p_iadd dL_law_177) (seq (p := 178) (q := 179) (r := 201) (p_sld dL_law_178) (seq (p := 179) (q := 182) (r := 201) (p_callG 3 _ (ok_V 0 cv_L_13 rfl (M_X0_world l δ) (Nat.le_of_ble_eq_true rfl) dL_law_179) (Nat.le_of_ble_eq_true rfl)) (seq (p := 182) (q := 183) (r := 201) (p_aload_n 2 dL_law_182) (seq (p := 183) (q := 184) (r := 201) (p_aload_n 0 dL_law_183) (seq (p := 184) (q := 185) (r := 201) (p_iload_n 3 dL_law_184) (seq (p := 185) (q := 186) (r := 201) (p_iconst 1 dL_law_185) (seq (p := 186) (q := 187) (r := 201) (p_iadd dL_law_186) (seq (p := 187) (q := 188) (r := 201) (p_sld dL_law_187) (seq (p := 188) (q := 189) (r := 201) (p_aload_n 0 dL_law_188) (seq (p := 189) (q := 190) (r := 201) (p_iload_n 3 dL_law_189) (seq (p := 190) (q := 191) (r := 201) (p_iconst 2 dL_law_190) (seq (p := 191) (q := 192) (r := 201) (p_iadd dL_law_191) (seq (p := 192) (q := 193) (r := 201) (p_sld dL_law_192) (seq (p := 193) (q := 196) (r := 201) (p_callG 3 _ (ok_V 1 cv_L_17 rfl (M_X1_world l δ) (Nat.le_of_ble_eq_true rfl) dL_law_193) (Nat.le_of_ble_eq_true rfl)) (seq (p := 196) (q := 199) (r := 201) (p_icmp_eq 1180 dL_law_196 (by decide)) (seq (p := 199) (q := 200) (r := 201) (p_iconst 0 dL_law_199) (seq (p := 200) (q := 201) (r := 201) (p_zreturn dL_law_200 rfl) done))))))))))))))))))))))))))))) (seq (p := 201) (q := 202) (r := 270) (p_aload_n 1 dL_law_201) (seq (p := 202) (q := 203) (r := 270) (p_aload_n 0 dL_law_202) (seq (p := 203) (q := 204) (r := 270) (p_iload_n 3 dL_law_203) (seq (p := 204) (q := 205) (r := 270) (p_iconst 1 dL_law_204) (seq (p := 205) (q := 206) (r := 270) (p_iadd dL_law_205) (seq (p := 206) (q := 207) (r := 270) (p_sld dL_law_206) (seq (p := 207) (q := 208) (r := 270) (p_aload_n 0 dL_law_207) (seq (p := 208) (q := 209) (r := 270) (p_iload_n 3 dL_law_208) (seq (p := 209) (q := 210) (r := 270) (p_iconst 2 dL_law_209) (seq (p := 210) (q := 211) (r := 270) (p_iadd dL_law_210) (seq (p := 211) (q := 212) (r := 270) (p_sld dL_law_211) (seq (p := 212) (q := 213) (r := 270) (p_aload_n 0 dL_law_212) (seq (p := 213) (q := 214) (r := 270) (p_iload_n 3 dL_law_213) (seq (p := 214) (q := 215) (r := 270) (p_iconst 3 dL_law_214) (seq (p := 215) (q := 216) (r := 270) (p_iadd dL_law_215) (seq (p := 216) (q := 217) (r := 270) (p_sld dL_law_216) (seq (p := 217) (q := 218) (r := 270) (p_aload_n 0 dL_law_217) (seq (p := 218) (q := 219) (r := 270) (p_iload_n 3 dL_law_218) (seq (p := 219) (q := 220) (r := 270) (p_iconst 4 dL_law_219) (seq (p := 220) (q := 221) (r := 270) (p_iadd dL_law_220) (seq (p := 221) (q := 222) (r := 270) (p_sld dL_law_221) (seq (p := 222) (q := 230) (r := 270) (blk (seq (p := 222) (q := 229) (r := 230) (blk (seq (p := 222) (q := 225) (r := 229) (p_if_eq 229 dL_law_222 (by decide)) (seq (p := 225) (q := 226) (r := 229) (p_iconst 1 dL_law_225) (seq (p := 226) (q := 229) (r := 229) (p_goto 230 dL_law_226 (by decide)) done)))) (seq (p := 229) (q := 230) (r := 230) (p_iconst 0 dL_law_229) done))) (seq (p := 230) (q := 233) (r := 270) (p_callG 5 _ (ok_V 0 cv_L_18 rfl (M_X0_mark l δ) (Nat.le_of_ble_eq_true rfl) dL_law_230) (Nat.le_of_ble_eq_true rfl)) (seq (p := 233) (q := 234) (r := 270) (p_aload_n 2 dL_law_233) (seq (p := 234) (q := 235) (r := 270) (p_aload_n 0 dL_law_234) (seq (p := 235) (q := 236) (r := 270) (p_iload_n 3 dL_law_235) (seq (p := 236) (q := 237) (r := 270) (p_iconst 1 dL_law_236) (seq (p := 237) (q := 238) (r := 270) (p_iadd dL_law_237) (seq (p := 238) (q := 239) (r := 270) (p_sld dL_law_238) (seq (p := 239) (q := 240) (r := 270) (p_aload_n 0 dL_law_239) (seq (p := 240) (q := 241) (r := 270) (p_iload_n 3 dL_law_240) (seq (p := 241) (q := 242) (r := 270) (p_iconst 2 dL_law_241) (seq (p := 242) (q := 243) (r := 270) (p_iadd dL_law_242) (seq (p := 243) (q := 244) (r := 270) (p_sld dL_law_243) (seq (p := 244) (q := 245) (r := 270) (p_aload_n 0 dL_law_244) (seq (p := 245) (q := 246) (r := 270) (p_iload_n 3 dL_law_245) (seq (p := 246) (q := 247) (r := 270) (p_iconst 3 dL_law_246) (seq (p := 247) (q := 248) (r := 270) (p_iadd dL_law_247) (seq (p := 248) (q := 249) (r := 270) (p_sld dL_law_248) (seq (p := 249) (q := 250) (r := 270) (p_aload_n 0 dL_law_249) (seq (p := 250) (q := 251) (r := 270) (p_iload_n 3 dL_law_250) (seq (p := 251) (q := 252) (r := 270) (p_iconst 4 dL_law_251) (seq (p := 252) (q := 253) (r := 270) (p_iadd dL_law_252) (seq (p := 253) (q := 254) (r := 270) (p_sld dL_law_253) (seq (p := 254) (q := 262) (r := 270) (blk (seq (p := 254) (q := 261) (r := 262) (blk (seq (p := 254) (q := 257) (r := 261) (p_if_eq 261 dL_law_254 (by decide)) (seq (p := 257) (q := 258) (r := 261) (p_iconst 1 dL_law_257) (seq (p := 258) (q := 261) (r := 261) (p_goto 262 dL_law_258 (by decide)) done)))) (seq (p := 261) (q := 262) (r := 262) (p_iconst 0 dL_law_261) done))) (seq (p := 262) (q := 265) (r := 270) (p_callG 5 _ (ok_V 1 cv_L_22 rfl (M_X1_mark l δ) (Nat.le_of_ble_eq_true rfl) dL_law_262) (Nat.le_of_ble_eq_true rfl)) (seq (p := 265) (q := 268) (r := 270) (p_icmp_eq 1180 dL_law_265 (by decide)) (seq (p := 268) (q := 269) (r := 270) (p_iconst 0 dL_law_268) (seq (p := 269) (q := 270) (r := 270) (p_zreturn dL_law_269 rfl) done))))))))))))))))))))))))))))))))))))))))))))))))))) (seq (p := 270) (q := 271) (r := 339) (p_aload_n 1 dL_law_270) (seq (p := 271) (q := 272) (r := 339) (p_aload_n 0 dL_law_271) (seq (p := 272) (q := 273) (r := 339) (p_iload_n 3 dL_law_272) (seq (p := 273) (q := 274) (r := 339) (p_iconst 1 dL_law_273) (seq (p := 274) (q := 275) (r := 339) (p_iadd dL_law_274) (seq (p := 275) (q := 276) (r := 339) (p_sld dL_law_275) (seq (p := 276) (q := 277) (r := 339) (p_aload_n 0 dL_law_276) (seq (p := 277) (q := 278) (r := 339) (p_iload_n 3 dL_law_277) (seq (p := 278) (q := 279) (r := 339) (p_iconst 2 dL_law_278) (seq (p := 279) (q := 280) (r := 339) (p_iadd dL_law_279) (seq (p := 280) (q := 281) (r := 339) (p_sld dL_law_280) (seq (p := 281) (q := 282) (r := 339) (p_aload_n 0 dL_law_281) (seq (p := 282) (q := 283) (r := 339) (p_iload_n 3 dL_law_282) (seq (p := 283) (q := 284) (r := 339) (p_iconst 3 dL_law_283) (seq (p := 284) (q := 285) (r := 339) (p_iadd dL_law_284) (seq (p := 285) (q := 286) (r := 339) (p_sld dL_law_285) (seq (p := 286) (q := 287) (r := 339) (p_aload_n 0 dL_law_286) (seq (p := 287) (q := 288) (r := 339) (p_iload_n 3 dL_law_287) (seq (p := 288) (q := 289) (r := 339) (p_iconst 4 dL_law_288) (seq (p := 289) (q := 290) (r := 339) (p_iadd dL_law_289) (seq (p := 290) (q := 291) (r := 339) (p_sld dL_law_290) (seq (p := 291) (q := 299) (r := 339) (blk (seq (p := 291) (q := 298) (r := 299) (blk (seq (p := 291) (q := 294) (r := 298) (p_if_eq 298 dL_law_291 (by decide)) (seq (p := 294) (q := 295) (r := 298) (p_iconst 1 dL_law_294) (seq (p := 295) (q := 298) (r := 298) (p_goto 299 dL_law_295 (by decide)) done)))) (seq (p := 298) (q := 299) (r := 299) (p_iconst 0 dL_law_298) done))) (seq (p := 299) (q := 302) (r := 339) (p_callG 5 _ (ok_V 0 cv_L_23 rfl (M_X0_tie l δ) (Nat.le_of_ble_eq_true rfl) dL_law_299) (Nat.le_of_ble_eq_true rfl)) (seq (p := 302) (q := 303) (r := 339) (p_aload_n 2 dL_law_302) (seq (p := 303) (q := 304) (r := 339) (p_aload_n 0 dL_law_303) (seq (p := 304) (q := 305) (r := 339) (p_iload_n 3 dL_law_304) (seq (p := 305) (q := 306) (r := 339) (p_iconst 1 dL_law_305) (seq (p := 306) (q := 307) (r := 339) (p_iadd dL_law_306) (seq (p := 307) (q := 308) (r := 339) (p_sld dL_law_307) (seq (p := 308) (q := 309) (r := 339) (p_aload_n 0 dL_law_308) (seq (p := 309) (q := 310) (r := 339) (p_iload_n 3 dL_law_309) (seq (p := 310) (q := 311) (r := 339) (p_iconst 2 dL_law_310) (seq (p := 311) (q := 312) (r := 339) (p_iadd dL_law_311) (seq (p := 312) (q := 313) (r := 339) (p_sld dL_law_312) (seq (p := 313) (q := 314) (r := 339) (p_aload_n 0 dL_law_313) (seq (p := 314) (q := 315) (r := 339) (p_iload_n 3 dL_law_314) (seq (p := 315) (q := 316) (r := 339) (p_iconst 3 dL_law_315) (seq (p := 316) (q := 317) (r := 339) (p_iadd dL_law_316) (seq (p := 317) (q := 318) (r := 339) (p_sld dL_law_317) (seq (p := 318) (q := 319) (r := 339) (p_aload_n 0 dL_law_318) (seq (p := 319) (q := 320) (r := 339) (p_iload_n 3 dL_law_319) (seq (p := 320) (q := 321) (r := 339) (p_iconst 4 dL_law_320) (seq (p := 321) (q := 322) (r := 339) (p_iadd dL_law_321) (seq (p := 322) (q := 323) (r := 339) (p_sld dL_law_322) (seq (p := 323) (q := 331) (r := 339) (blk (seq (p := 323) (q := 330) (r := 331) (blk (seq (p := 323) (q := 326) (r := 330) (p_if_eq 330 dL_law_323 (by decide)) (seq (p := 326) (q := 327) (r := 330) (p_iconst 1 dL_law_326) (seq (p := 327) (q := 330) (r := 330) (p_goto 331 dL_law_327 (by decide)) done)))) (seq (p := 330) (q := 331) (r := 331) (p_iconst 0 dL_law_330) done))) (seq (p := 331) (q := 334) (r := 339) (p_callG 5 _ (ok_V 1 cv_L_26 rfl (M_X1_tie l δ) (Nat.le_of_ble_eq_true rfl) dL_law_331) (Nat.le_of_ble_eq_true rfl)) (seq (p := 334) (q := 337) (r := 339) (p_icmp_eq 1180 dL_law_334 (by decide)) (seq (p := 337) (q := 338) (r := 339) (p_iconst 0 dL_law_337) (seq (p := 338) (q := 339) (r := 339) (p_zreturn dL_law_338 rfl) done))))))))))))))))))))))))))))))))))))))))))))))))))) (seq (p := 339) (q := 340) (r := 392) (p_aload_n 1 dL_law_339) (seq (p := 340) (q := 341) (r := 392) (p_aload_n 0 dL_law_340) (seq (p := 341) (q := 342) (r := 392) (p_iload_n 3 dL_law_341) (seq (p := 342) (q := 343) (r := 392) (p_iconst 1 dL_law_342) (seq (p := 343) (q := 344) (r := 392) (p_iadd dL_law_343) (seq (p := 344) (q := 345) (r := 392) (p_sld dL_law_344) (seq (p := 345) (q := 346) (r := 392) (p_aload_n 0 dL_law_345) (seq (p := 346) (q := 347) (r := 392) (p_iload_n 3 dL_law_346) (seq (p := 347) (q := 348) (r := 392) (p_iconst 2 dL_law_347) (seq (p := 348) (q := 349) (r := 392) (p_iadd dL_law_348) (seq (p := 349) (q := 350) (r := 392) (p_sld dL_law_349) (seq (p := 350) (q := 351) (r := 392) (p_aload_n 0 dL_law_350) (seq (p := 351) (q := 352) (r := 392) (p_iload_n 3 dL_law_351) (seq (p := 352) (q := 353) (r := 392) (p_iconst 3 dL_law_352) (seq (p := 353) (q := 354) (r := 392) (p_iadd dL_law_353) (seq (p := 354) (q := 355) (r := 392) (p_sld dL_law_354) (seq (p := 355) (q := 356) (r := 392) (p_aload_n 0 dL_law_355) (seq (p := 356) (q := 357) (r := 392) (p_iload_n 3 dL_law_356) (seq (p := 357) (q := 358) (r := 392) (p_iconst 4 dL_law_357) (seq (p := 358) (q := 359) (r := 392) (p_iadd dL_law_358) (seq (p := 359) (q := 360) (r := 392) (p_sld dL_law_359) (seq (p := 360) (q := 363) (r := 392) (p_callG 5 _ (ok_V 0 cv_L_27 rfl (M_X0_turn l δ) (Nat.le_of_ble_eq_true rfl) dL_law_360) (Nat.le_of_ble_eq_true rfl)) (seq (p := 363) (q := 364) (r := 392) (p_aload_n 2 dL_law_363) (seq (p := 364) (q := 365) (r := 392) (p_aload_n 0 dL_law_364) (seq (p := 365) (q := 366) (r := 392) (p_iload_n 3 dL_law_365) (seq (p := 366) (q := 367) (r := 392) (p_iconst 1 dL_law_366) (seq (p := 367) (q := 368) (r := 392) (p_iadd dL_law_367) (seq (p := 368) (q := 369) (r := 392) (p_sld dL_law_368) (seq (p := 369) (q := 370) (r := 392) (p_aload_n 0 dL_law_369) (seq (p := 370) (q := 371) (r := 392) (p_iload_n 3 dL_law_370) (seq (p := 371) (q := 372) (r := 392) (p_iconst 2 dL_law_371) (seq (p := 372) (q := 373) (r := 392) (p_iadd dL_law_372) (seq (p := 373) (q := 374) (r := 392) (p_sld dL_law_373) (seq (p := 374) (q := 375) (r := 392) (p_aload_n 0 dL_law_374) (seq (p := 375) (q := 376) (r := 392) (p_iload_n 3 dL_law_375) (seq (p := 376) (q := 377) (r := 392) (p_iconst 3 dL_law_376) (seq (p := 377) (q := 378) (r := 392) (p_iadd dL_law_377) (seq (p := 378) (q := 379) (r := 392) (p_sld dL_law_378) (seq (p := 379) (q := 380) (r := 392) (p_aload_n 0 dL_law_379) (seq (p := 380) (q := 381) (r := 392) (p_iload_n 3 dL_law_380) (seq (p := 381) (q := 382) (r := 392) (p_iconst 4 dL_law_381) (seq (p := 382) (q := 383) (r := 392) (p_iadd dL_law_382) (seq (p := 383) (q := 384) (r := 392) (p_sld dL_law_383) (seq (p := 384) (q := 387) (r := 392) (p_callG 5 _ (ok_V 1 cv_L_31 rfl (M_X1_turn l δ) (Nat.le_of_ble_eq_true rfl) dL_law_384) (Nat.le_of_ble_eq_true rfl)) (seq (p := 387) (q := 390) (r := 392) (p_icmp_eq 1180 dL_law_387 (by decide)) (seq (p := 390) (q := 391) (r := 392) (p_iconst 0 dL_law_390) (seq (p := 391) (q := 392) (r := 392) (p_zreturn dL_law_391 rfl) done))))))))))))))))))))))))))))))))))))))))))))))))) (seq (p := 392) (q := 393) (r := 435) (p_aload_n 1 dL_law_392) (seq (p := 393) (q := 394) (r := 435) (p_aload_n 0 dL_law_393) (seq (p := 394) (q := 395) (r := 435) (p_iload_n 3 dL_law_394) (seq (p := 395) (q := 396) (r := 435) (p_iconst 1 dL_law_395) (seq (p := 396) (q := 397) (r := 435) (p_iadd dL_law_396) (seq (p := 397) (q := 398) (r := 435) (p_sld dL_law_397) (seq (p := 398) (q := 399) (r := 435) (p_aload_n 0 dL_law_398) (seq (p := 399) (q := 400) (r := 435) (p_iload_n 3 dL_law_399) (seq (p := 400) (q := 401) (r := 435) (p_iconst 2 dL_law_400) (seq (p := 401) (q := 402) (r := 435) (p_iadd dL_law_401) (seq (p := 402) (q := 403) (r := 435) (p_sld dL_law_402) (seq (p := 403) (q := 404) (r := 435) (p_aload_n 0 dL_law_403) (seq (p := 404) (q := 405) (r := 435) (p_iload_n 3 dL_law_404) (seq (p := 405) (q := 406) (r := 435) (p_iconst 3 dL_law_405) (seq (p := 406) (q := 407) (r := 435) (p_iadd dL_law_406) (seq (p := 407) (q := 408) (r := 435) (p_sld dL_law_407) (seq (p := 408) (q := 411) (r := 435) (p_callG 4 _ (ok_V 0 cv_L_32 rfl (M_X0_join l δ) (Nat.le_of_ble_eq_true rfl) dL_law_408) (Nat.le_of_ble_eq_true rfl)) (seq (p := 411) (q := 412) (r := 435) (p_aload_n 2 dL_law_411) (seq (p := 412) (q := 413) (r := 435) (p_aload_n 0 dL_law_412) (seq (p := 413) (q := 414) (r := 435) (p_iload_n 3 dL_law_413) (seq (p := 414) (q := 415) (r := 435) (p_iconst 1 dL_law_414) (seq (p := 415) (q := 416) (r := 435) (p_iadd dL_law_415) (seq (p := 416) (q := 417) (r := 435) (p_sld dL_law_416) (seq (p := 417) (q := 418) (r := 435) (p_aload_n 0 dL_law_417) (seq (p := 418) (q := 419) (r := 435) (p_iload_n 3 dL_law_418) (seq (p := 419) (q := 420) (r := 435) (p_iconst 2 dL_law_419) (seq (p := 420) (q := 421) (r := 435) (p_iadd dL_law_420) (seq (p := 421) (q := 422) (r := 435) (p_sld dL_law_421) (seq (p := 422) (q := 423) (r := 435) (p_aload_n 0 dL_law_422) (seq (p := 423) (q := 424) (r := 435) (p_iload_n 3 dL_law_423) (seq (p := 424) (q := 425) (r := 435) (p_iconst 3 dL_law_424) (seq (p := 425) (q := 426) (r := 435) (p_iadd dL_law_425) (seq (p := 426) (q := 427) (r := 435) (p_sld dL_law_426) (seq (p := 427) (q := 430) (r := 435) (p_callG 4 _ (ok_V 1 cv_L_36 rfl (M_X1_join l δ) (Nat.le_of_ble_eq_true rfl) dL_law_427) (Nat.le_of_ble_eq_true rfl)) (seq (p := 430) (q := 433) (r := 435) (p_icmp_eq 1180 dL_law_430 (by decide)) (seq (p := 433) (q := 434) (r := 435) (p_iconst 0 dL_law_433) (seq (p := 434) (q := 435) (r := 435) (p_zreturn dL_law_434 rfl) done))))))))))))))))))))))))))))))))))))))) (seq (p := 435) (q := 436) (r := 468) (p_aload_n 1 dL_law_435) (seq (p := 436) (q := 437) (r := 468) (p_aload_n 0 dL_law_436) (seq (p := 437) (q := 438) (r := 468) (p_iload_n 3 dL_law_437) (seq (p := 438) (q := 439) (r := 468) (p_iconst 1 dL_law_438) (seq (p := 439) (q := 440) (r := 468) (p_iadd dL_law_439) (seq (p := 440) (q := 441) (r := 468) (p_sld dL_law_440) (seq (p := 441) (q := 442) (r := 468) (p_aload_n 0 dL_law_441) (seq (p := 442) (q := 443) (r := 468) (p_iload_n 3 dL_law_442) (seq (p := 443) (q := 444) (r := 468) (p_iconst 2 dL_law_443) (seq (p := 444) (q := 445) (r := 468) (p_iadd dL_law_444) (seq (p := 445) (q := 446) (r := 468) (p_sld dL_law_445) (seq (p := 446) (q := 449) (r := 468) (p_callG 3 _ (ok_V 0 cv_L_37 rfl (M_X0_about l δ) (Nat.le_of_ble_eq_true rfl) dL_law_446) (Nat.le_of_ble_eq_true rfl)) (seq (p := 449) (q := 450) (r := 468) (p_aload_n 2 dL_law_449) (seq (p := 450) (q := 451) (r := 468) (p_aload_n 0 dL_law_450) (seq (p := 451) (q := 452) (r := 468) (p_iload_n 3 dL_law_451) (seq (p := 452) (q := 453) (r := 468) (p_iconst 1 dL_law_452) (seq (p := 453) (q := 454) (r := 468) (p_iadd dL_law_453) (seq (p := 454) (q := 455) (r := 468) (p_sld dL_law_454) (seq (p := 455) (q := 456) (r := 468) (p_aload_n 0 dL_law_455) (seq (p := 456) (q := 457) (r := 468) (p_iload_n 3 dL_law_456) (seq (p := 457) (q := 458) (r := 468) (p_iconst 2 dL_law_457) (seq (p := 458) (q := 459) (r := 468) (p_iadd dL_law_458) (seq (p := 459) (q := 460) (r := 468) (p_sld dL_law_459) (seq (p := 460) (q := 463) (r := 468) (p_callG 3 _ (ok_V 1 cv_L_40 rfl (M_X1_about l δ) (Nat.le_of_ble_eq_true rfl) dL_law_460) (Nat.le_of_ble_eq_true rfl)) (seq (p := 463) (q := 466) (r := 468) (p_icmp_eq 1180 dL_law_463 (by decide)) (seq (p := 466) (q := 467) (r := 468) (p_iconst 0 dL_law_466) (seq (p := 467) (q := 468) (r := 468) (p_zreturn dL_law_467 rfl) done))))))))))))))))))))))))))))) (seq (p := 468) (q := 469) (r := 511) (p_aload_n 1 dL_law_468) (seq (p := 469) (q := 470) (r := 511) (p_aload_n 0 dL_law_469) (seq (p := 470) (q := 471) (r := 511) (p_iload_n 3 dL_law_470) (seq (p := 471) (q := 472) (r := 511) (p_iconst 1 dL_law_471) (seq (p := 472) (q := 473) (r := 511) (p_iadd dL_law_472) (seq (p := 473) (q := 474) (r := 511) (p_sld dL_law_473) (seq (p := 474) (q := 475) (r := 511) (p_aload_n 0 dL_law_474) (seq (p := 475) (q := 476) (r := 511) (p_iload_n 3 dL_law_475) (seq (p := 476) (q := 477) (r := 511) (p_iconst 2 dL_law_476) (seq (p := 477) (q := 478) (r := 511) (p_iadd dL_law_477) (seq (p := 478) (q := 479) (r := 511) (p_sld dL_law_478) (seq (p := 479) (q := 480) (r := 511) (p_aload_n 0 dL_law_479) (seq (p := 480) (q := 481) (r := 511) (p_iload_n 3 dL_law_480) (seq (p := 481) (q := 482) (r := 511) (p_iconst 3 dL_law_481) (seq (p := 482) (q := 483) (r := 511) (p_iadd dL_law_482) (seq (p := 483) (q := 484) (r := 511) (p_sld dL_law_483) (seq (p := 484) (q := 487) (r := 511) (p_callG 4 _ (ok_V 0 cv_L_41 rfl (M_X0_tied l δ) (Nat.le_of_ble_eq_true rfl) dL_law_484) (Nat.le_of_ble_eq_true rfl)) (seq (p := 487) (q := 488) (r := 511) (p_aload_n 2 dL_law_487) (seq (p := 488) (q := 489) (r := 511) (p_aload_n 0 dL_law_488) (seq (p := 489) (q := 490) (r := 511) (p_iload_n 3 dL_law_489) (seq (p := 490) (q := 491) (r := 511) (p_iconst 1 dL_law_490) (seq (p := 491) (q := 492) (r := 511) (p_iadd dL_law_491) (seq (p := 492) (q := 493) (r := 511) (p_sld dL_law_492) (seq (p := 493) (q := 494) (r := 511) (p_aload_n 0 dL_law_493) (seq (p := 494) (q := 495) (r := 511) (p_iload_n 3 dL_law_494) (seq (p := 495) (q := 496) (r := 511) (p_iconst 2 dL_law_495) (seq (p := 496) (q := 497) (r := 511) (p_iadd dL_law_496) (seq (p := 497) (q := 498) (r := 511) (p_sld dL_law_497) (seq (p := 498) (q := 499) (r := 511) (p_aload_n 0 dL_law_498) (seq (p := 499) (q := 500) (r := 511) (p_iload_n 3 dL_law_499) (seq (p := 500) (q := 501) (r := 511) (p_iconst 3 dL_law_500) (seq (p := 501) (q := 502) (r := 511) (p_iadd dL_law_501) (seq (p := 502) (q := 503) (r := 511) (p_sld dL_law_502) (seq (p := 503) (q := 506) (r := 511) (p_callG 4 _ (ok_V 1 cv_L_44 rfl (M_X1_tied l δ) (Nat.le_of_ble_eq_true rfl) dL_law_503) (Nat.le_of_ble_eq_true rfl)) (seq (p := 506) (q := 509) (r := 511) (p_icmp_eq 1180 dL_law_506 (by decide)) (seq (p := 509) (q := 510) (r := 511) (p_iconst 0 dL_law_509) (seq (p := 510) (q := 511) (r := 511) (p_zreturn dL_law_510 rfl) done))))))))))))))))))))))))))))))))))))))) (seq (p := 511) (q := 512) (r := 554) (p_aload_n 1 dL_law_511) (seq (p := 512) (q := 513) (r := 554) (p_aload_n 0 dL_law_512) (seq (p := 513) (q := 514) (r := 554) (p_iload_n 3 dL_law_513) (seq (p := 514) (q := 515) (r := 554) (p_iconst 1 dL_law_514) (seq (p := 515) (q := 516) (r := 554) (p_iadd dL_law_515) (seq (p := 516) (q := 517) (r := 554) (p_sld dL_law_516) (seq (p := 517) (q := 518) (r := 554) (p_aload_n 0 dL_law_517) (seq (p := 518) (q := 519) (r := 554) (p_iload_n 3 dL_law_518) (seq (p := 519) (q := 520) (r := 554) (p_iconst 2 dL_law_519) (seq (p := 520) (q := 521) (r := 554) (p_iadd dL_law_520) (seq (p := 521) (q := 522) (r := 554) (p_sld dL_law_521) (seq (p := 522) (q := 523) (r := 554) (p_aload_n 0 dL_law_522) (seq (p := 523) (q := 524) (r := 554) (p_iload_n 3 dL_law_523) (seq (p := 524) (q := 525) (r := 554) (p_iconst 3 dL_law_524) (seq (p := 525) (q := 526) (r := 554) (p_iadd dL_law_525) (seq (p := 526) (q := 527) (r := 554) (p_sld dL_law_526) (seq (p := 527) (q := 530) (r := 554) (p_callG 4 _ (ok_V 0 cv_L_45 rfl (M_X0_game l δ) (Nat.le_of_ble_eq_true rfl) dL_law_527) (Nat.le_of_ble_eq_true rfl)) (seq (p := 530) (q := 531) (r := 554) (p_aload_n 2 dL_law_530) (seq (p := 531) (q := 532) (r := 554) (p_aload_n 0 dL_law_531) (seq (p := 532) (q := 533) (r := 554) (p_iload_n 3 dL_law_532) (seq (p := 533) (q := 534) (r := 554) (p_iconst 1 dL_law_533) (seq (p := 534) (q := 535) (r := 554) (p_iadd dL_law_534) (seq (p := 535) (q := 536) (r := 554) (p_sld dL_law_535) (seq (p := 536) (q := 537) (r := 554) (p_aload_n 0 dL_law_536) (seq (p := 537) (q := 538) (r := 554) (p_iload_n 3 dL_law_537) (seq (p := 538) (q := 539) (r := 554) (p_iconst 2 dL_law_538) (seq (p := 539) (q := 540) (r := 554) (p_iadd dL_law_539) (seq (p := 540) (q := 541) (r := 554) (p_sld dL_law_540) (seq (p := 541) (q := 542) (r := 554) (p_aload_n 0 dL_law_541) (seq (p := 542) (q := 543) (r := 554) (p_iload_n 3 dL_law_542) (seq (p := 543) (q := 544) (r := 554) (p_iconst 3 dL_law_543) (seq (p := 544) (q := 545) (r := 554) (p_iadd dL_law_544) (seq (p := 545) (q := 546) (r := 554) (p_sld dL_law_545) (seq (p := 546) (q := 549) (r := 554) (p_callG 4 _ (ok_V 1 cv_L_48 rfl (M_X1_game l δ) (Nat.le_of_ble_eq_true rfl) dL_law_546) (Nat.le_of_ble_eq_true rfl)) (seq (p := 549) (q := 552) (r := 554) (p_icmp_eq 1180 dL_law_549 (by decide)) (seq (p := 552) (q := 553) (r := 554) (p_iconst 0 dL_law_552) (seq (p := 553) (q := 554) (r := 554) (p_zreturn dL_law_553 rfl) done))))))))))))))))))))))))))))))))))))))) (seq (p := 554) (q := 555) (r := 587) (p_aload_n 1 dL_law_554) (seq (p := 555) (q := 556) (r := 587) (p_aload_n 0 dL_law_555) (seq (p := 556) (q := 557) (r := 587) (p_iload_n 3 dL_law_556) (seq (p := 557) (q := 558) (r := 587) (p_iconst 1 dL_law_557) (seq (p := 558) (q := 559) (r := 587) (p_iadd dL_law_558) (seq (p := 559) (q := 560) (r := 587) (p_sld dL_law_559) (seq (p := 560) (q := 561) (r := 587) (p_aload_n 0 dL_law_560) (seq (p := 561) (q := 562) (r := 587) (p_iload_n 3 dL_law_561) (seq (p := 562) (q := 563) (r := 587) (p_iconst 2 dL_law_562) (seq (p := 563) (q := 564) (r := 587) (p_iadd dL_law_563) (seq (p := 564) (q := 565) (r := 587) (p_sld dL_law_564) (seq (p := 565) (q := 568) (r := 587) (p_callG 3 _ (ok_V 0 cv_L_49 rfl (M_X0_rank l δ) (Nat.le_of_ble_eq_true rfl) dL_law_565) (Nat.le_of_ble_eq_true rfl)) (seq (p := 568) (q := 569) (r := 587) (p_aload_n 2 dL_law_568) (seq (p := 569) (q := 570) (r := 587) (p_aload_n 0 dL_law_569) (seq (p := 570) (q := 571) (r := 587) (p_iload_n 3 dL_law_570) (seq (p := 571) (q := 572) (r := 587) (p_iconst 1 dL_law_571) (seq (p := 572) (q := 573) (r := 587) (p_iadd dL_law_572) (seq (p := 573) (q := 574) (r := 587) (p_sld dL_law_573) (seq (p := 574) (q := 575) (r := 587) (p_aload_n 0 dL_law_574) (seq (p := 575) (q := 576) (r := 587) (p_iload_n 3 dL_law_575) (seq (p := 576) (q := 577) (r := 587) (p_iconst 2 dL_law_576) (seq (p := 577) (q := 578) (r := 587) (p_iadd dL_law_577) (seq (p := 578) (q := 579) (r := 587) (p_sld dL_law_578) (seq (p := 579) (q := 582) (r := 587) (p_callG 3 _ (ok_V 1 cv_L_52 rfl (M_X1_rank l δ) (Nat.le_of_ble_eq_true rfl) dL_law_579) (Nat.le_of_ble_eq_true rfl)) (seq (p := 582) (q := 585) (r := 587) (p_icmp_eq 1180 dL_law_582 (by decide)) (seq (p := 585) (q := 586) (r := 587) (p_iconst 0 dL_law_585) (seq (p := 586) (q := 587) (r := 587) (p_zreturn dL_law_586 rfl) done))))))))))))))))))))))))))))) (seq (p := 587) (q := 588) (r := 630) (p_aload_n 1 dL_law_587) (seq (p := 588) (q := 589) (r := 630) (p_aload_n 0 dL_law_588) (seq (p := 589) (q := 590) (r := 630) (p_iload_n 3 dL_law_589) (seq (p := 590) (q := 591) (r := 630) (p_iconst 1 dL_law_590) (seq (p := 591) (q := 592) (r := 630) (p_iadd dL_law_591) (seq (p := 592) (q := 593) (r := 630) (p_sld dL_law_592) (seq (p := 593) (q := 594) (r := 630) (p_aload_n 0 dL_law_593) (seq (p := 594) (q := 595) (r := 630) (p_iload_n 3 dL_law_594) (seq (p := 595) (q := 596) (r := 630) (p_iconst 2 dL_law_595) (seq (p := 596) (q := 597) (r := 630) (p_iadd dL_law_596) (seq (p := 597) (q := 598) (r := 630) (p_sld dL_law_597) (seq (p := 598) (q := 599) (r := 630) (p_aload_n 0 dL_law_598) (seq (p := 599) (q := 600) (r := 630) (p_iload_n 3 dL_law_599) (seq (p := 600) (q := 601) (r := 630) (p_iconst 3 dL_law_600) (seq (p := 601) (q := 602) (r := 630) (p_iadd dL_law_601) (seq (p := 602) (q := 603) (r := 630) (p_sld dL_law_602) (seq (p := 603) (q := 606) (r := 630) (p_callG 4 _ (ok_V 0 cv_L_53 rfl (M_X0_play l δ) (Nat.le_of_ble_eq_true rfl) dL_law_603) (Nat.le_of_ble_eq_true rfl)) (seq (p := 606) (q := 607) (r := 630) (p_aload_n 2 dL_law_606) (seq (p := 607) (q := 608) (r := 630) (p_aload_n 0 dL_law_607) (seq (p := 608) (q := 609) (r := 630) (p_iload_n 3 dL_law_608) (seq (p := 609) (q := 610) (r := 630) (p_iconst 1 dL_law_609) (seq (p := 610) (q := 611) (r := 630) (p_iadd dL_law_610) (seq (p := 611) (q := 612) (r := 630) (p_sld dL_law_611) (seq (p := 612) (q := 613) (r := 630) (p_aload_n 0 dL_law_612) (seq (p := 613) (q := 614) (r := 630) (p_iload_n 3 dL_law_613) (seq (p := 614) (q := 615) (r := 630) (p_iconst 2 dL_law_614) (seq (p := 615) (q := 616) (r := 630) (p_iadd dL_law_615) (seq (p := 616) (q := 617) (r := 630) (p_sld dL_law_616) (seq (p := 617) (q := 618) (r := 630) (p_aload_n 0 dL_law_617) (seq (p := 618) (q := 619) (r := 630) (p_iload_n 3 dL_law_618) (seq (p := 619) (q := 620) (r := 630) (p_iconst 3 dL_law_619) (seq (p := 620) (q := 621) (r := 630) (p_iadd dL_law_620) (seq (p := 621) (q := 622) (r := 630) (p_sld dL_law_621) (seq (p := 622) (q := 625) (r := 630) (p_callG 4 _ (ok_V 1 cv_L_56 rfl (M_X1_play l δ) (Nat.le_of_ble_eq_true rfl) dL_law_622) (Nat.le_of_ble_eq_true rfl)) (seq (p := 625) (q := 628) (r := 630) (p_icmp_eq 1180 dL_law_625 (by decide)) (seq (p := 628) (q := 629) (r := 630) (p_iconst 0 dL_law_628) (seq (p := 629) (q := 630) (r := 630) (p_zreturn dL_law_629 rfl) done))))))))))))))))))))))))))))))))))))))) (seq (p := 630) (q := 631) (r := 663) (p_aload_n 1 dL_law_630) (seq (p := 631) (q := 632) (r := 663) (p_aload_n 0 dL_law_631) (seq (p := 632) (q := 633) (r := 663) (p_iload_n 3 dL_law_632) (seq (p := 633) (q := 634) (r := 663) (p_iconst 1 dL_law_633) (seq (p := 634) (q := 635) (r := 663) (p_iadd dL_law_634) (seq (p := 635) (q := 636) (r := 663) (p_sld dL_law_635) (seq (p := 636) (q := 637) (r := 663) (p_aload_n 0 dL_law_636) (seq (p := 637) (q := 638) (r := 663) (p_iload_n 3 dL_law_637) (seq (p := 638) (q := 639) (r := 663) (p_iconst 2 dL_law_638) (seq (p := 639) (q := 640) (r := 663) (p_iadd dL_law_639) (seq (p := 640) (q := 641) (r := 663) (p_sld dL_law_640) (seq (p := 641) (q := 644) (r := 663) (p_callG 3 _ (ok_V 0 cv_L_57 rfl (M_X0_pick l δ) (Nat.le_of_ble_eq_true rfl) dL_law_641) (Nat.le_of_ble_eq_true rfl)) (seq (p := 644) (q := 645) (r := 663) (p_aload_n 2 dL_law_644) (seq (p := 645) (q := 646) (r := 663) (p_aload_n 0 dL_law_645) (seq (p := 646) (q := 647) (r := 663) (p_iload_n 3 dL_law_646) (seq (p := 647) (q := 648) (r := 663) (p_iconst 1 dL_law_647) (seq (p := 648) (q := 649) (r := 663) (p_iadd dL_law_648) (seq (p := 649) (q := 650) (r := 663) (p_sld dL_law_649) (seq (p := 650) (q := 651) (r := 663) (p_aload_n 0 dL_law_650) (seq (p := 651) (q := 652) (r := 663) (p_iload_n 3 dL_law_651) (seq (p := 652) (q := 653) (r := 663) (p_iconst 2 dL_law_652) (seq (p := 653) (q := 654) (r := 663) (p_iadd dL_law_653) (seq (p := 654) (q := 655) (r := 663) (p_sld dL_law_654) (seq (p := 655) (q := 658) (r := 663) (p_callG 3 _ (ok_V 1 cv_L_60 rfl (M_X1_pick l δ) (Nat.le_of_ble_eq_true rfl) dL_law_655) (Nat.le_of_ble_eq_true rfl)) (seq (p := 658) (q := 661) (r := 663) (p_icmp_eq 1180 dL_law_658 (by decide)) (seq (p := 661) (q := 662) (r := 663) (p_iconst 0 dL_law_661) (seq (p := 662) (q := 663) (r := 663) (p_zreturn dL_law_662 rfl) done))))))))))))))))))))))))))))) (seq (p := 663) (q := 664) (r := 686) (p_aload_n 1 dL_law_663) (seq (p := 664) (q := 665) (r := 686) (p_aload_n 0 dL_law_664) (seq (p := 665) (q := 666) (r := 686) (p_iload_n 3 dL_law_665) (seq (p := 666) (q := 667) (r := 686) (p_iconst 1 dL_law_666) (seq (p := 667) (q := 668) (r := 686) (p_iadd dL_law_667) (seq (p := 668) (q := 669) (r := 686) (p_sld dL_law_668) (seq (p := 669) (q := 672) (r := 686) (p_callG 2 _ (ok_V 0 cv_L_61 rfl (M_X0_answer l δ) (Nat.le_of_ble_eq_true rfl) dL_law_669) (Nat.le_of_ble_eq_true rfl)) (seq (p := 672) (q := 673) (r := 686) (p_aload_n 2 dL_law_672) (seq (p := 673) (q := 674) (r := 686) (p_aload_n 0 dL_law_673) (seq (p := 674) (q := 675) (r := 686) (p_iload_n 3 dL_law_674) (seq (p := 675) (q := 676) (r := 686) (p_iconst 1 dL_law_675) (seq (p := 676) (q := 677) (r := 686) (p_iadd dL_law_676) (seq (p := 677) (q := 678) (r := 686) (p_sld dL_law_677) (seq (p := 678) (q := 681) (r := 686) (p_callG 2 _ (ok_V 1 cv_L_65 rfl (M_X1_answer l δ) (Nat.le_of_ble_eq_true rfl) dL_law_678) (Nat.le_of_ble_eq_true rfl)) (seq (p := 681) (q := 684) (r := 686) (p_icmp_eq 1180 dL_law_681 (by decide)) (seq (p := 684) (q := 685) (r := 686) (p_iconst 0 dL_law_684) (seq (p := 685) (q := 686) (r := 686) (p_zreturn dL_law_685 rfl) done))))))))))))))))))) (seq (p := 686) (q := 687) (r := 699) (p_aload_n 1 dL_law_686) (seq (p := 687) (q := 690) (r := 699) (p_callG 1 _ (ok_V 0 cv_L_66 rfl (M_X0_best l δ) (Nat.le_of_ble_eq_true rfl) dL_law_687) (Nat.le_of_ble_eq_true rfl)) (seq (p := 690) (q := 691) (r := 699) (p_aload_n 2 dL_law_690) (seq (p := 691) (q := 694) (r := 699) (p_callG 1 _ (ok_V 1 cv_L_70 rfl (M_X1_best l δ) (Nat.le_of_ble_eq_true rfl) dL_law_691) (Nat.le_of_ble_eq_true rfl)) (seq (p := 694) (q := 697) (r := 699) (p_icmp_eq 1180 dL_law_694 (by decide)) (seq (p := 697) (q := 698) (r := 699) (p_iconst 0 dL_law_697) (seq (p := 698) (q := 699) (r := 699) (p_zreturn dL_law_698 rfl) done))))))))) (seq (p := 699) (q := 700) (r := 712) (p_aload_n 1 dL_law_699) (seq (p := 700) (q := 703) (r := 712) (p_callG 1 _ (ok_V 0 cv_L_71 rfl (M_X0_state l δ) (Nat.le_of_ble_eq_true rfl) dL_law_700) (Nat.le_of_ble_eq_true rfl)) (seq (p := 703) (q := 704) (r := 712) (p_aload_n 2 dL_law_703) (seq (p := 704) (q := 707) (r := 712) (p_callG 1 _ (ok_V 1 cv_L_74 rfl (M_X1_state l δ) (Nat.le_of_ble_eq_true rfl) dL_law_704) (Nat.le_of_ble_eq_true rfl)) (seq (p := 707) (q := 710) (r := 712) (p_icmp_eq 1180 dL_law_707 (by decide)) (seq (p := 710) (q := 711) (r := 712) (p_iconst 0 dL_law_710) (seq (p := 711) (q := 712) (r := 712) (p_zreturn dL_law_711 rfl) done))))))))) (seq (p := 712) (q := 713) (r := 725) (p_aload_n 1 dL_law_712) (seq (p := 713) (q := 716) (r := 725) (p_callG 1 _ (ok_V 0 cv_L_75 rfl (M_X0_left l δ) (Nat.le_of_ble_eq_true rfl) dL_law_713) (Nat.le_of_ble_eq_true rfl)) (seq (p := 716) (q := 717) (r := 725) (p_aload_n 2 dL_law_716) (seq (p := 717) (q := 720) (r := 725) (p_callG 1 _ (ok_V 1 cv_L_78 rfl (M_X1_left l δ) (Nat.le_of_ble_eq_true rfl) dL_law_717) (Nat.le_of_ble_eq_true rfl)) (seq (p := 720) (q := 723) (r := 725) (p_icmp_eq 1180 dL_law_720 (by decide)) (seq (p := 723) (q := 724) (r := 725) (p_iconst 0 dL_law_723) (seq (p := 724) (q := 725) (r := 725) (p_zreturn dL_law_724 rfl) done))))))))) (seq (p := 725) (q := 726) (r := 788) (p_aload_n 1 dL_law_725) (seq (p := 726) (q := 727) (r := 788) (p_aload_n 0 dL_law_726) (seq (p := 727) (q := 728) (r := 788) (p_iload_n 3 dL_law_727) (seq (p := 728) (q := 729) (r := 788) (p_iconst 1 dL_law_728) (seq (p := 729) (q := 730) (r := 788) (p_iadd dL_law_729) (seq (p := 730) (q := 731) (r := 788) (p_sld dL_law_730) (seq (p := 731) (q := 732) (r := 788) (p_aload_n 0 dL_law_731) (seq (p := 732) (q := 733) (r := 788) (p_iload_n 3 dL_law_732) (seq (p := 733) (q := 734) (r := 788) (p_iconst 2 dL_law_733) (seq (p := 734) (q := 735) (r := 788) (p_iadd dL_law_734) (seq (p := 735) (q := 736) (r := 788) (p_sld dL_law_735) (seq (p := 736) (q := 737) (r := 788) (p_aload_n 0 dL_law_736) (seq (p := 737) (q := 738) (r := 788) (p_iload_n 3 dL_law_737) (seq (p := 738) (q := 739) (r := 788) (p_iconst 3 dL_law_738) (seq (p := 739) (q := 740) (r := 788) (p_iadd dL_law_739) (seq (p := 740) (q := 741) (r := 788) (p_sld dL_law_740) (seq (p := 741) (q := 742) (r := 788) (p_aload_n 0 dL_law_741) (seq (p := 742) (q := 743) (r := 788) (p_iload_n 3 dL_law_742) (seq (p := 743) (q := 744) (r := 788) (p_iconst 4 dL_law_743) (seq (p := 744) (q := 745) (r := 788) (p_iadd dL_law_744) (seq (p := 745) (q := 746) (r := 788) (p_sld dL_law_745) (seq (p := 746) (q := 747) (r := 788) (p_aload_n 0 dL_law_746) (seq (p := 747) (q := 748) (r := 788) (p_iload_n 3 dL_law_747) (seq (p := 748) (q := 749) (r := 788) (p_iconst 5 dL_law_748) (seq (p := 749) (q := 750) (r := 788) (p_iadd dL_law_749) (seq (p := 750) (q := 751) (r := 788) (p_sld dL_law_750) (seq (p := 751) (q := 754) (r := 788) (p_callG 6 _ (ok_V 0 cv_L_79 rfl (M_X0_feed l δ) (Nat.le_of_ble_eq_true rfl) dL_law_751) (Nat.le_of_ble_eq_true rfl)) (seq (p := 754) (q := 755) (r := 788) (p_aload_n 2 dL_law_754) (seq (p := 755) (q := 756) (r := 788) (p_aload_n 0 dL_law_755) (seq (p := 756) (q := 757) (r := 788) (p_iload_n 3 dL_law_756) (seq (p := 757) (q := 758) (r := 788) (p_iconst 1 dL_law_757) (seq (p := 758) (q := 759) (r := 788) (p_iadd dL_law_758) (seq (p := 759) (q := 760) (r := 788) (p_sld dL_law_759) (seq (p := 760) (q := 761) (r := 788) (p_aload_n 0 dL_law_760) (seq (p := 761) (q := 762) (r := 788) (p_iload_n 3 dL_law_761) (seq (p := 762) (q := 763) (r := 788) (p_iconst 2 dL_law_762) (seq (p := 763) (q := 764) (r := 788) (p_iadd dL_law_763) (seq (p := 764) (q := 765) (r := 788) (p_sld dL_law_764) (seq (p := 765) (q := 766) (r := 788) (p_aload_n 0 dL_law_765) (seq (p := 766) (q := 767) (r := 788) (p_iload_n 3 dL_law_766) (seq (p := 767) (q := 768) (r := 788) (p_iconst 3 dL_law_767) (seq (p := 768) (q := 769) (r := 788) (p_iadd dL_law_768) (seq (p := 769) (q := 770) (r := 788) (p_sld dL_law_769) (seq (p := 770) (q := 771) (r := 788) (p_aload_n 0 dL_law_770) (seq (p := 771) (q := 772) (r := 788) (p_iload_n 3 dL_law_771) (seq (p := 772) (q := 773) (r := 788) (p_iconst 4 dL_law_772) (seq (p := 773) (q := 774) (r := 788) (p_iadd dL_law_773) (seq (p := 774) (q := 775) (r := 788) (p_sld dL_law_774) (seq (p := 775) (q := 776) (r := 788) (p_aload_n 0 dL_law_775) (seq (p := 776) (q := 777) (r := 788) (p_iload_n 3 dL_law_776) (seq (p := 777) (q := 778) (r := 788) (p_iconst 5 dL_law_777) (seq (p := 778) (q := 779) (r := 788) (p_iadd dL_law_778) (seq (p := 779) (q := 780) (r := 788) (p_sld dL_law_779) (seq (p := 780) (q := 783) (r := 788) (p_callG 6 _ (ok_V 1 cv_L_83 rfl (M_X1_feed l δ) (Nat.le_of_ble_eq_true rfl) dL_law_780) (Nat.le_of_ble_eq_true rfl)) (seq (p := 783) (q := 786) (r := 788) (p_icmp_eq 1180 dL_law_783 (by decide)) (seq (p := 786) (q := 787) (r := 788) (p_iconst 0 dL_law_786) (seq (p := 787) (q := 788) (r := 788) (p_zreturn dL_law_787 rfl) done))))))))))))))))))))))))))))))))))))))))))))))))))))))))))) (seq (p := 788) (q := 789) (r := 811) (p_aload_n 1 dL_law_788) (seq (p := 789) (q := 790) (r := 811) (p_aload_n 0 dL_law_789) (seq (p := 790) (q := 791) (r := 811) (p_iload_n 3 dL_law_790) (seq (p := 791) (q := 792) (r := 811) (p_iconst 1 dL_law_791) (seq (p := 792) (q := 793) (r := 811) (p_iadd dL_law_792) (seq (p := 793) (q := 794) (r := 811) (p_sld dL_law_793) (seq (p := 794) (q := 797) (r := 811) (p_callG 2 _ (ok_V 0 cv_L_84 rfl (M_X0_trim l δ) (Nat.le_of_ble_eq_true rfl) dL_law_794) (Nat.le_of_ble_eq_true rfl)) (seq (p := 797) (q := 798) (r := 811) (p_aload_n 2 dL_law_797) (seq (p := 798) (q := 799) (r := 811) (p_aload_n 0 dL_law_798) (seq (p := 799) (q := 800) (r := 811) (p_iload_n 3 dL_law_799) (seq (p := 800) (q := 801) (r := 811) (p_iconst 1 dL_law_800) (seq (p := 801) (q := 802) (r := 811) (p_iadd dL_law_801) (seq (p := 802) (q := 803) (r := 811) (p_sld dL_law_802) (seq (p := 803) (q := 806) (r := 811) (p_callG 2 _ (ok_V 1 cv_L_87 rfl (M_X1_trim l δ) (Nat.le_of_ble_eq_true rfl) dL_law_803) (Nat.le_of_ble_eq_true rfl)) (seq (p := 806) (q := 809) (r := 811) (p_icmp_eq 1180 dL_law_806 (by decide)) (seq (p := 809) (q := 810) (r := 811) (p_iconst 0 dL_law_809) (seq (p := 810) (q := 811) (r := 811) (p_zreturn dL_law_810 rfl) done))))))))))))))))))) (seq (p := 811) (q := 812) (r := 824) (p_aload_n 1 dL_law_811) (seq (p := 812) (q := 815) (r := 824) (p_callG 1 _ (ok_W 0 cvw_L_88 rfl (M_X0_read l δ) (Nat.le_of_ble_eq_true rfl) dL_law_812) (Nat.le_of_ble_eq_true rfl)) (seq (p := 815) (q := 816) (r := 824) (p_aload_n 2 dL_law_815) (seq (p := 816) (q := 819) (r := 824) (p_callG 1 _ (ok_V 1 cv_L_91 rfl (M_X1_read l δ) (Nat.le_of_ble_eq_true rfl) dL_law_816) (Nat.le_of_ble_eq_true rfl)) (seq (p := 819) (q := 822) (r := 824) (p_icmp_eq 1180 dL_law_819 (by decide)) (seq (p := 822) (q := 823) (r := 824) (p_iconst 0 dL_law_822) (seq (p := 823) (q := 824) (r := 824) (p_zreturn dL_law_823 rfl) done))))))))) (seq (p := 824) (q := 825) (r := 857) (p_aload_n 1 dL_law_824) (seq (p := 825) (q := 826) (r := 857) (p_aload_n 0 dL_law_825) (seq (p := 826) (q := 827) (r := 857) (p_iload_n 3 dL_law_826) (seq (p := 827) (q := 828) (r := 857) (p_iconst 1 dL_law_827) (seq (p := 828) (q := 829) (r := 857) (p_iadd dL_law_828) (seq (p := 829) (q := 830) (r := 857) (p_sld dL_law_829) (seq (p := 830) (q := 831) (r := 857) (p_aload_n 0 dL_law_830) (seq (p := 831) (q := 832) (r := 857) (p_iload_n 3 dL_law_831) (seq (p := 832) (q := 833) (r := 857) (p_iconst 2 dL_law_832) (seq (p := 833) (q := 834) (r := 857) (p_iadd dL_law_833) (seq (p := 834) (q := 835) (r := 857) (p_sld dL_law_834) (seq (p := 835) (q := 838) (r := 857) (p_callG 3 _ (ok_V 0 cv_L_92 rfl (M_X0_sentence l δ) (Nat.le_of_ble_eq_true rfl) dL_law_835) (Nat.le_of_ble_eq_true rfl)) (seq (p := 838) (q := 839) (r := 857) (p_aload_n 2 dL_law_838) (seq (p := 839) (q := 840) (r := 857) (p_aload_n 0 dL_law_839) (seq (p := 840) (q := 841) (r := 857) (p_iload_n 3 dL_law_840) (seq (p := 841) (q := 842) (r := 857) (p_iconst 1 dL_law_841) (seq (p := 842) (q := 843) (r := 857) (p_iadd dL_law_842) (seq (p := 843) (q := 844) (r := 857) (p_sld dL_law_843) (seq (p := 844) (q := 845) (r := 857) (p_aload_n 0 dL_law_844) (seq (p := 845) (q := 846) (r := 857) (p_iload_n 3 dL_law_845) (seq (p := 846) (q := 847) (r := 857) (p_iconst 2 dL_law_846) (seq (p := 847) (q := 848) (r := 857) (p_iadd dL_law_847) (seq (p := 848) (q := 849) (r := 857) (p_sld dL_law_848) (seq (p := 849) (q := 852) (r := 857) (p_callG 3 _ (ok_V 1 cv_L_95 rfl (M_X1_sentence l δ) (Nat.le_of_ble_eq_true rfl) dL_law_849) (Nat.le_of_ble_eq_true rfl)) (seq (p := 852) (q := 855) (r := 857) (p_icmp_eq 1180 dL_law_852 (by decide)) (seq (p := 855) (q := 856) (r := 857) (p_iconst 0 dL_law_855) (seq (p := 856) (q := 857) (r := 857) (p_zreturn dL_law_856 rfl) done))))))))))))))))))))))))))))) (seq (p := 857) (q := 858) (r := 890) (p_aload_n 1 dL_law_857) (seq (p := 858) (q := 859) (r := 890) (p_aload_n 0 dL_law_858) (seq (p := 859) (q := 860) (r := 890) (p_iload_n 3 dL_law_859) (seq (p := 860) (q := 861) (r := 890) (p_iconst 1 dL_law_860) (seq (p := 861) (q := 862) (r := 890) (p_iadd dL_law_861) (seq (p := 862) (q := 863) (r := 890) (p_sld dL_law_862) (seq (p := 863) (q := 864) (r := 890) (p_aload_n 0 dL_law_863) (seq (p := 864) (q := 865) (r := 890) (p_iload_n 3 dL_law_864) (seq (p := 865) (q := 866) (r := 890) (p_iconst 2 dL_law_865) (seq (p := 866) (q := 867) (r := 890) (p_iadd dL_law_866) (seq (p := 867) (q := 868) (r := 890) (p_sld dL_law_867) (seq (p := 868) (q := 871) (r := 890) (p_callG 3 _ (ok_V 0 cv_L_96 rfl (M_X0_written l δ) (Nat.le_of_ble_eq_true rfl) dL_law_868) (Nat.le_of_ble_eq_true rfl)) (seq (p := 871) (q := 872) (r := 890) (p_aload_n 2 dL_law_871) (seq (p := 872) (q := 873) (r := 890) (p_aload_n 0 dL_law_872) (seq (p := 873) (q := 874) (r := 890) (p_iload_n 3 dL_law_873) (seq (p := 874) (q := 875) (r := 890) (p_iconst 1 dL_law_874) (seq (p := 875) (q := 876) (r := 890) (p_iadd dL_law_875) (seq (p := 876) (q := 877) (r := 890) (p_sld dL_law_876) (seq (p := 877) (q := 878) (r := 890) (p_aload_n 0 dL_law_877) (seq (p := 878) (q := 879) (r := 890) (p_iload_n 3 dL_law_878) (seq (p := 879) (q := 880) (r := 890) (p_iconst 2 dL_law_879) (seq (p := 880) (q := 881) (r := 890) (p_iadd dL_law_880) (seq (p := 881) (q := 882) (r := 890) (p_sld dL_law_881) (seq (p := 882) (q := 885) (r := 890) (p_callG 3 _ (ok_V 1 cv_L_99 rfl (M_X1_written l δ) (Nat.le_of_ble_eq_true rfl) dL_law_882) (Nat.le_of_ble_eq_true rfl)) (seq (p := 885) (q := 888) (r := 890) (p_icmp_eq 1180 dL_law_885 (by decide)) (seq (p := 888) (q := 889) (r := 890) (p_iconst 0 dL_law_888) (seq (p := 889) (q := 890) (r := 890) (p_zreturn dL_law_889 rfl) done))))))))))))))))))))))))))))) (seq (p := 890) (q := 891) (r := 923) (p_aload_n 1 dL_law_890) (seq (p := 891) (q := 892) (r := 923) (p_aload_n 0 dL_law_891) (seq (p := 892) (q := 893) (r := 923) (p_iload_n 3 dL_law_892) (seq (p := 893) (q := 894) (r := 923) (p_iconst 1 dL_law_893) (seq (p := 894) (q := 895) (r := 923) (p_iadd dL_law_894) (seq (p := 895) (q := 896) (r := 923) (p_sld dL_law_895) (seq (p := 896) (q := 897) (r := 923) (p_aload_n 0 dL_law_896) (seq (p := 897) (q := 898) (r := 923) (p_iload_n 3 dL_law_897) (seq (p := 898) (q := 899) (r := 923) (p_iconst 2 dL_law_898) (seq (p := 899) (q := 900) (r := 923) (p_iadd dL_law_899) (seq (p := 900) (q := 901) (r := 923) (p_sld dL_law_900) (seq (p := 901) (q := 904) (r := 923) (p_callG 3 _ (ok_W 0 cvw_L_100 rfl (M_X0_holds l δ) (Nat.le_of_ble_eq_true rfl) dL_law_901) (Nat.le_of_ble_eq_true rfl)) (seq (p := 904) (q := 905) (r := 923) (p_aload_n 2 dL_law_904) (seq (p := 905) (q := 906) (r := 923) (p_aload_n 0 dL_law_905) (seq (p := 906) (q := 907) (r := 923) (p_iload_n 3 dL_law_906) (seq (p := 907) (q := 908) (r := 923) (p_iconst 1 dL_law_907) (seq (p := 908) (q := 909) (r := 923) (p_iadd dL_law_908) (seq (p := 909) (q := 910) (r := 923) (p_sld dL_law_909) (seq (p := 910) (q := 911) (r := 923) (p_aload_n 0 dL_law_910) (seq (p := 911) (q := 912) (r := 923) (p_iload_n 3 dL_law_911) (seq (p := 912) (q := 913) (r := 923) (p_iconst 2 dL_law_912) (seq (p := 913) (q := 914) (r := 923) (p_iadd dL_law_913) (seq (p := 914) (q := 915) (r := 923) (p_sld dL_law_914) (seq (p := 915) (q := 918) (r := 923) (p_callG 3 _ (ok_V 1 cv_L_103 rfl (M_X1_holds l δ) (Nat.le_of_ble_eq_true rfl) dL_law_915) (Nat.le_of_ble_eq_true rfl)) (seq (p := 918) (q := 921) (r := 923) (p_icmp_eq 1180 dL_law_918 (by decide)) (seq (p := 921) (q := 922) (r := 923) (p_iconst 0 dL_law_921) (seq (p := 922) (q := 923) (r := 923) (p_zreturn dL_law_922 rfl) done))))))))))))))))))))))))))))) (seq (p := 923) (q := 924) (r := 936) (p_aload_n 1 dL_law_923) (seq (p := 924) (q := 927) (r := 936) (p_callG 1 _ (ok_V 0 cv_L_104 rfl (M_X0_asked l δ) (Nat.le_of_ble_eq_true rfl) dL_law_924) (Nat.le_of_ble_eq_true rfl)) (seq (p := 927) (q := 928) (r := 936) (p_aload_n 2 dL_law_927) (seq (p := 928) (q := 931) (r := 936) (p_callG 1 _ (ok_V 1 cv_L_107 rfl (M_X1_asked l δ) (Nat.le_of_ble_eq_true rfl) dL_law_928) (Nat.le_of_ble_eq_true rfl)) (seq (p := 931) (q := 934) (r := 936) (p_icmp_eq 1180 dL_law_931 (by decide)) (seq (p := 934) (q := 935) (r := 936) (p_iconst 0 dL_law_934) (seq (p := 935) (q := 936) (r := 936) (p_zreturn dL_law_935 rfl) done))))))))) (seq (p := 936) (q := 937) (r := 969) (p_aload_n 1 dL_law_936) (seq (p := 937) (q := 938) (r := 969) (p_aload_n 0 dL_law_937) (seq (p := 938) (q := 939) (r := 969) (p_iload_n 3 dL_law_938) (seq (p := 939) (q := 940) (r := 969) (p_iconst 1 dL_law_939) (seq (p := 940) (q := 941) (r := 969) (p_iadd dL_law_940) (seq (p := 941) (q := 942) (r := 969) (p_sld dL_law_941) (seq (p := 942) (q := 943) (r := 969) (p_aload_n 0 dL_law_942) (seq (p := 943) (q := 944) (r := 969) (p_iload_n 3 dL_law_943) (seq (p := 944) (q := 945) (r := 969) (p_iconst 2 dL_law_944) (seq (p := 945) (q := 946) (r := 969) (p_iadd dL_law_945) (seq (p := 946) (q := 947) (r := 969) (p_sld dL_law_946) (seq (p := 947) (q := 950) (r := 969) (p_callG 3 _ (ok_V 0 cv_L_108 rfl (M_X0_same l δ) (Nat.le_of_ble_eq_true rfl) dL_law_947) (Nat.le_of_ble_eq_true rfl)) (seq (p := 950) (q := 951) (r := 969) (p_aload_n 2 dL_law_950) (seq (p := 951) (q := 952) (r := 969) (p_aload_n 0 dL_law_951) (seq (p := 952) (q := 953) (r := 969) (p_iload_n 3 dL_law_952) (seq (p := 953) (q := 954) (r := 969) (p_iconst 1 dL_law_953) (seq (p := 954) (q := 955) (r := 969) (p_iadd dL_law_954) (seq (p := 955) (q := 956) (r := 969) (p_sld dL_law_955) (seq (p := 956) (q := 957) (r := 969) (p_aload_n 0 dL_law_956) (seq (p := 957) (q := 958) (r := 969) (p_iload_n 3 dL_law_957) (seq (p := 958) (q := 959) (r := 969) (p_iconst 2 dL_law_958) (seq (p := 959) (q := 960) (r := 969) (p_iadd dL_law_959) (seq (p := 960) (q := 961) (r := 969) (p_sld dL_law_960) (seq (p := 961) (q := 964) (r := 969) (p_callG 3 _ (ok_V 1 cv_L_111 rfl (M_X1_same l δ) (Nat.le_of_ble_eq_true rfl) dL_law_961) (Nat.le_of_ble_eq_true rfl)) (seq (p := 964) (q := 967) (r := 969) (p_icmp_eq 1180 dL_law_964 (by decide)) (seq (p := 967) (q := 968) (r := 969) (p_iconst 0 dL_law_967) (seq (p := 968) (q := 969) (r := 969) (p_zreturn dL_law_968 rfl) done))))))))))))))))))))))))))))) (seq (p := 969) (q := 970) (r := 1002) (p_aload_n 1 dL_law_969) (seq (p := 970) (q := 971) (r := 1002) (p_aload_n 0 dL_law_970) (seq (p := 971) (q := 972) (r := 1002) (p_iload_n 3 dL_law_971) (seq (p := 972) (q := 973) (r := 1002) (p_iconst 1 dL_law_972) (seq (p := 973) (q := 974) (r := 1002) (p_iadd dL_law_973) (seq (p := 974) (q := 975) (r := 1002) (p_sld dL_law_974) (seq (p := 975) (q := 976) (r := 1002) (p_aload_n 0 dL_law_975) (seq (p := 976) (q := 977) (r := 1002) (p_iload_n 3 dL_law_976) (seq (p := 977) (q := 978) (r := 1002) (p_iconst 2 dL_law_977) (seq (p := 978) (q := 979) (r := 1002) (p_iadd dL_law_978) (seq (p := 979) (q := 980) (r := 1002) (p_sld dL_law_979) (seq (p := 980) (q := 983) (r := 1002) (p_callG 3 _ (ok_V 0 cv_L_112 rfl (M_X0_part l δ) (Nat.le_of_ble_eq_true rfl) dL_law_980) (Nat.le_of_ble_eq_true rfl)) (seq (p := 983) (q := 984) (r := 1002) (p_aload_n 2 dL_law_983) (seq (p := 984) (q := 985) (r := 1002) (p_aload_n 0 dL_law_984) (seq (p := 985) (q := 986) (r := 1002) (p_iload_n 3 dL_law_985) (seq (p := 986) (q := 987) (r := 1002) (p_iconst 1 dL_law_986) (seq (p := 987) (q := 988) (r := 1002) (p_iadd dL_law_987) (seq (p := 988) (q := 989) (r := 1002) (p_sld dL_law_988) (seq (p := 989) (q := 990) (r := 1002) (p_aload_n 0 dL_law_989) (seq (p := 990) (q := 991) (r := 1002) (p_iload_n 3 dL_law_990) (seq (p := 991) (q := 992) (r := 1002) (p_iconst 2 dL_law_991) (seq (p := 992) (q := 993) (r := 1002) (p_iadd dL_law_992) (seq (p := 993) (q := 994) (r := 1002) (p_sld dL_law_993) (seq (p := 994) (q := 997) (r := 1002) (p_callG 3 _ (ok_V 1 cv_L_115 rfl (M_X1_part l δ) (Nat.le_of_ble_eq_true rfl) dL_law_994) (Nat.le_of_ble_eq_true rfl)) (seq (p := 997) (q := 1000) (r := 1002) (p_icmp_eq 1180 dL_law_997 (by decide)) (seq (p := 1000) (q := 1001) (r := 1002) (p_iconst 0 dL_law_1000) (seq (p := 1001) (q := 1002) (r := 1002) (p_zreturn dL_law_1001 rfl) done))))))))))))))))))))))))))))) (seq (p := 1002) (q := 1003) (r := 1045) (p_aload_n 1 dL_law_1002) (seq (p := 1003) (q := 1004) (r := 1045) (p_aload_n 0 dL_law_1003) (seq (p := 1004) (q := 1005) (r := 1045) (p_iload_n 3 dL_law_1004) (seq (p := 1005) (q := 1006) (r := 1045) (p_iconst 1 dL_law_1005) (seq (p := 1006) (q := 1007) (r := 1045) (p_iadd dL_law_1006) (seq (p := 1007) (q := 1008) (r := 1045) (p_sld dL_law_1007) (seq (p := 1008) (q := 1009) (r := 1045) (p_aload_n 0 dL_law_1008) (seq (p := 1009) (q := 1010) (r := 1045) (p_iload_n 3 dL_law_1009) (seq (p := 1010) (q := 1011) (r := 1045) (p_iconst 2 dL_law_1010) (seq (p := 1011) (q := 1012) (r := 1045) (p_iadd dL_law_1011) (seq (p := 1012) (q := 1013) (r := 1045) (p_sld dL_law_1012) (seq (p := 1013) (q := 1014) (r := 1045) (p_aload_n 0 dL_law_1013) (seq (p := 1014) (q := 1015) (r := 1045) (p_iload_n 3 dL_law_1014) (seq (p := 1015) (q := 1016) (r := 1045) (p_iconst 3 dL_law_1015) (seq (p := 1016) (q := 1017) (r := 1045) (p_iadd dL_law_1016) (seq (p := 1017) (q := 1018) (r := 1045) (p_sld dL_law_1017) (seq (p := 1018) (q := 1021) (r := 1045) (p_callG 4 _ (ok_V 0 cv_L_116 rfl (M_X0_kinds l δ) (Nat.le_of_ble_eq_true rfl) dL_law_1018) (Nat.le_of_ble_eq_true rfl)) (seq (p := 1021) (q := 1022) (r := 1045) (p_aload_n 2 dL_law_1021) (seq (p := 1022) (q := 1023) (r := 1045) (p_aload_n 0 dL_law_1022) (seq (p := 1023) (q := 1024) (r := 1045) (p_iload_n 3 dL_law_1023) (seq (p := 1024) (q := 1025) (r := 1045) (p_iconst 1 dL_law_1024) (seq (p := 1025) (q := 1026) (r := 1045) (p_iadd dL_law_1025) (seq (p := 1026) (q := 1027) (r := 1045) (p_sld dL_law_1026) (seq (p := 1027) (q := 1028) (r := 1045) (p_aload_n 0 dL_law_1027) (seq (p := 1028) (q := 1029) (r := 1045) (p_iload_n 3 dL_law_1028) (seq (p := 1029) (q := 1030) (r := 1045) (p_iconst 2 dL_law_1029) (seq (p := 1030) (q := 1031) (r := 1045) (p_iadd dL_law_1030) (seq (p := 1031) (q := 1032) (r := 1045) (p_sld dL_law_1031) (seq (p := 1032) (q := 1033) (r := 1045) (p_aload_n 0 dL_law_1032) (seq (p := 1033) (q := 1034) (r := 1045) (p_iload_n 3 dL_law_1033) (seq (p := 1034) (q := 1035) (r := 1045) (p_iconst 3 dL_law_1034) (seq (p := 1035) (q := 1036) (r := 1045) (p_iadd dL_law_1035) (seq (p := 1036) (q := 1037) (r := 1045) (p_sld dL_law_1036) (seq (p := 1037) (q := 1040) (r := 1045) (p_callG 4 _ (ok_V 1 cv_L_119 rfl (M_X1_kinds l δ) (Nat.le_of_ble_eq_true rfl) dL_law_1037) (Nat.le_of_ble_eq_true rfl)) (seq (p := 1040) (q := 1043) (r := 1045) (p_icmp_eq 1180 dL_law_1040 (by decide)) (seq (p := 1043) (q := 1044) (r := 1045) (p_iconst 0 dL_law_1043) (seq (p := 1044) (q := 1045) (r := 1045) (p_zreturn dL_law_1044 rfl) done))))))))))))))))))))))))))))))))))))))) (seq (p := 1045) (q := 1046) (r := 1068) (p_aload_n 1 dL_law_1045) (seq (p := 1046) (q := 1047) (r := 1068) (p_aload_n 0 dL_law_1046) (seq (p := 1047) (q := 1048) (r := 1068) (p_iload_n 3 dL_law_1047) (seq (p := 1048) (q := 1049) (r := 1068) (p_iconst 1 dL_law_1048) (seq (p := 1049) (q := 1050) (r := 1068) (p_iadd dL_law_1049) (seq (p := 1050) (q := 1051) (r := 1068) (p_sld dL_law_1050) (seq (p := 1051) (q := 1054) (r := 1068) (p_callG 2 _ (ok_V 0 cv_L_120 rfl (M_X0_kind l δ) (Nat.le_of_ble_eq_true rfl) dL_law_1051) (Nat.le_of_ble_eq_true rfl)) (seq (p := 1054) (q := 1055) (r := 1068) (p_aload_n 2 dL_law_1054) (seq (p := 1055) (q := 1056) (r := 1068) (p_aload_n 0 dL_law_1055) (seq (p := 1056) (q := 1057) (r := 1068) (p_iload_n 3 dL_law_1056) (seq (p := 1057) (q := 1058) (r := 1068) (p_iconst 1 dL_law_1057) (seq (p := 1058) (q := 1059) (r := 1068) (p_iadd dL_law_1058) (seq (p := 1059) (q := 1060) (r := 1068) (p_sld dL_law_1059) (seq (p := 1060) (q := 1063) (r := 1068) (p_callG 2 _ (ok_V 1 cv_L_123 rfl (M_X1_kind l δ) (Nat.le_of_ble_eq_true rfl) dL_law_1060) (Nat.le_of_ble_eq_true rfl)) (seq (p := 1063) (q := 1066) (r := 1068) (p_icmp_eq 1180 dL_law_1063 (by decide)) (seq (p := 1066) (q := 1067) (r := 1068) (p_iconst 0 dL_law_1066) (seq (p := 1067) (q := 1068) (r := 1068) (p_zreturn dL_law_1067 rfl) done))))))))))))))))))) (seq (p := 1068) (q := 1069) (r := 1111) (p_aload_n 1 dL_law_1068) (seq (p := 1069) (q := 1070) (r := 1111) (p_aload_n 0 dL_law_1069) (seq (p := 1070) (q := 1071) (r := 1111) (p_iload_n 3 dL_law_1070) (seq (p := 1071) (q := 1072) (r := 1111) (p_iconst 1 dL_law_1071) (seq (p := 1072) (q := 1073) (r := 1111) (p_iadd dL_law_1072) (seq (p := 1073) (q := 1074) (r := 1111) (p_sld dL_law_1073) (seq (p := 1074) (q := 1075) (r := 1111) (p_aload_n 0 dL_law_1074) (seq (p := 1075) (q := 1076) (r := 1111) (p_iload_n 3 dL_law_1075) (seq (p := 1076) (q := 1077) (r := 1111) (p_iconst 2 dL_law_1076) (seq (p := 1077) (q := 1078) (r := 1111) (p_iadd dL_law_1077) (seq (p := 1078) (q := 1079) (r := 1111) (p_sld dL_law_1078) (seq (p := 1079) (q := 1080) (r := 1111) (p_aload_n 0 dL_law_1079) (seq (p := 1080) (q := 1081) (r := 1111) (p_iload_n 3 dL_law_1080) (seq (p := 1081) (q := 1082) (r := 1111) (p_iconst 3 dL_law_1081) (seq (p := 1082) (q := 1083) (r := 1111) (p_iadd dL_law_1082) (seq (p := 1083) (q := 1084) (r := 1111) (p_sld dL_law_1083) (seq (p := 1084) (q := 1087) (r := 1111) (p_callG 4 _ (ok_V 0 cv_L_124 rfl (M_X0_colour l δ) (Nat.le_of_ble_eq_true rfl) dL_law_1084) (Nat.le_of_ble_eq_true rfl)) (seq (p := 1087) (q := 1088) (r := 1111) (p_aload_n 2 dL_law_1087) (seq (p := 1088) (q := 1089) (r := 1111) (p_aload_n 0 dL_law_1088) (seq (p := 1089) (q := 1090) (r := 1111) (p_iload_n 3 dL_law_1089) (seq (p := 1090) (q := 1091) (r := 1111) (p_iconst 1 dL_law_1090) (seq (p := 1091) (q := 1092) (r := 1111) (p_iadd dL_law_1091) (seq (p := 1092) (q := 1093) (r := 1111) (p_sld dL_law_1092) (seq (p := 1093) (q := 1094) (r := 1111) (p_aload_n 0 dL_law_1093) (seq (p := 1094) (q := 1095) (r := 1111) (p_iload_n 3 dL_law_1094) (seq (p := 1095) (q := 1096) (r := 1111) (p_iconst 2 dL_law_1095) (seq (p := 1096) (q := 1097) (r := 1111) (p_iadd dL_law_1096) (seq (p := 1097) (q := 1098) (r := 1111) (p_sld dL_law_1097) (seq (p := 1098) (q := 1099) (r := 1111) (p_aload_n 0 dL_law_1098) (seq (p := 1099) (q := 1100) (r := 1111) (p_iload_n 3 dL_law_1099) (seq (p := 1100) (q := 1101) (r := 1111) (p_iconst 3 dL_law_1100) (seq (p := 1101) (q := 1102) (r := 1111) (p_iadd dL_law_1101) (seq (p := 1102) (q := 1103) (r := 1111) (p_sld dL_law_1102) (seq (p := 1103) (q := 1106) (r := 1111) (p_callG 4 _ (ok_V 1 cv_L_127 rfl (M_X1_colour l δ) (Nat.le_of_ble_eq_true rfl) dL_law_1103) (Nat.le_of_ble_eq_true rfl)) (seq (p := 1106) (q := 1109) (r := 1111) (p_icmp_eq 1180 dL_law_1106 (by decide)) (seq (p := 1109) (q := 1110) (r := 1111) (p_iconst 0 dL_law_1109) (seq (p := 1110) (q := 1111) (r := 1111) (p_zreturn dL_law_1110 rfl) done))))))))))))))))))))))))))))))))))))))) (seq (p := 1111) (q := 1112) (r := 1134) (p_aload_n 1 dL_law_1111) (seq (p := 1112) (q := 1113) (r := 1134) (p_aload_n 0 dL_law_1112) (seq (p := 1113) (q := 1114) (r := 1134) (p_iload_n 3 dL_law_1113) (seq (p := 1114) (q := 1115) (r := 1134) (p_iconst 1 dL_law_1114) (seq (p := 1115) (q := 1116) (r := 1134) (p_iadd dL_law_1115) (seq (p := 1116) (q := 1117) (r := 1134) (p_sld dL_law_1116) (seq (p := 1117) (q := 1120) (r := 1134) (p_callG 2 _ (ok_V 0 cv_L_128 rfl (M_X0_coloured l δ) (Nat.le_of_ble_eq_true rfl) dL_law_1117) (Nat.le_of_ble_eq_true rfl)) (seq (p := 1120) (q := 1121) (r := 1134) (p_aload_n 2 dL_law_1120) (seq (p := 1121) (q := 1122) (r := 1134) (p_aload_n 0 dL_law_1121) (seq (p := 1122) (q := 1123) (r := 1134) (p_iload_n 3 dL_law_1122) (seq (p := 1123) (q := 1124) (r := 1134) (p_iconst 1 dL_law_1123) (seq (p := 1124) (q := 1125) (r := 1134) (p_iadd dL_law_1124) (seq (p := 1125) (q := 1126) (r := 1134) (p_sld dL_law_1125) (seq (p := 1126) (q := 1129) (r := 1134) (p_callG 2 _ (ok_V 1 cv_L_131 rfl (M_X1_coloured l δ) (Nat.le_of_ble_eq_true rfl) dL_law_1126) (Nat.le_of_ble_eq_true rfl)) (seq (p := 1129) (q := 1132) (r := 1134) (p_icmp_eq 1180 dL_law_1129 (by decide)) (seq (p := 1132) (q := 1133) (r := 1134) (p_iconst 0 dL_law_1132) (seq (p := 1133) (q := 1134) (r := 1134) (p_zreturn dL_law_1133 rfl) done))))))))))))))))))) (seq (p := 1134) (q := 1135) (r := 1157) (p_aload_n 1 dL_law_1134) (seq (p := 1135) (q := 1136) (r := 1157) (p_aload_n 0 dL_law_1135) (seq (p := 1136) (q := 1137) (r := 1157) (p_iload_n 3 dL_law_1136) (seq (p := 1137) (q := 1138) (r := 1157) (p_iconst 1 dL_law_1137) (seq (p := 1138) (q := 1139) (r := 1157) (p_iadd dL_law_1138) (seq (p := 1139) (q := 1140) (r := 1157) (p_sld dL_law_1139) (seq (p := 1140) (q := 1143) (r := 1157) (p_callG 2 _ (ok_V 0 cv_L_132 rfl (M_X0_still l δ) (Nat.le_of_ble_eq_true rfl) dL_law_1140) (Nat.le_of_ble_eq_true rfl)) (seq (p := 1143) (q := 1144) (r := 1157) (p_aload_n 2 dL_law_1143) (seq (p := 1144) (q := 1145) (r := 1157) (p_aload_n 0 dL_law_1144) (seq (p := 1145) (q := 1146) (r := 1157) (p_iload_n 3 dL_law_1145) (seq (p := 1146) (q := 1147) (r := 1157) (p_iconst 1 dL_law_1146) (seq (p := 1147) (q := 1148) (r := 1157) (p_iadd dL_law_1147) (seq (p := 1148) (q := 1149) (r := 1157) (p_sld dL_law_1148) (seq (p := 1149) (q := 1152) (r := 1157) (p_callG 2 _ (ok_V 1 cv_L_135 rfl (M_X1_still l δ) (Nat.le_of_ble_eq_true rfl) dL_law_1149) (Nat.le_of_ble_eq_true rfl)) (seq (p := 1152) (q := 1155) (r := 1157) (p_icmp_eq 1180 dL_law_1152 (by decide)) (seq (p := 1155) (q := 1156) (r := 1157) (p_iconst 0 dL_law_1155) (seq (p := 1156) (q := 1157) (r := 1157) (p_zreturn dL_law_1156 rfl) done))))))))))))))))))) (seq (p := 1157) (q := 1158) (r := 1180) (p_aload_n 1 dL_law_1157) (seq (p := 1158) (q := 1159) (r := 1180) (p_aload_n 0 dL_law_1158) (seq (p := 1159) (q := 1160) (r := 1180) (p_iload_n 3 dL_law_1159) (seq (p := 1160) (q := 1161) (r := 1180) (p_iconst 1 dL_law_1160) (seq (p := 1161) (q := 1162) (r := 1180) (p_iadd dL_law_1161) (seq (p := 1162) (q := 1163) (r := 1180) (p_sld dL_law_1162) (seq (p := 1163) (q := 1166) (r := 1180) (p_callG 2 _ (ok_V 0 cv_L_136 rfl (M_X0_told l δ) (Nat.le_of_ble_eq_true rfl) dL_law_1163) (Nat.le_of_ble_eq_true rfl)) (seq (p := 1166) (q := 1167) (r := 1180) (p_aload_n 2 dL_law_1166) (seq (p := 1167) (q := 1168) (r := 1180) (p_aload_n 0 dL_law_1167) (seq (p := 1168) (q := 1169) (r := 1180) (p_iload_n 3 dL_law_1168) (seq (p := 1169) (q := 1170) (r := 1180) (p_iconst 1 dL_law_1169) (seq (p := 1170) (q := 1171) (r := 1180) (p_iadd dL_law_1170) (seq (p := 1171) (q := 1172) (r := 1180) (p_sld dL_law_1171) (seq (p := 1172) (q := 1175) (r := 1180) (p_callG 2 _ (ok_V 1 cv_L_139 rfl (M_X1_told l δ) (Nat.le_of_ble_eq_true rfl) dL_law_1172) (Nat.le_of_ble_eq_true rfl)) (seq (p := 1175) (q := 1178) (r := 1180) (p_icmp_eq 1180 dL_law_1175 (by decide)) (seq (p := 1178) (q := 1179) (r := 1180) (p_iconst 0 dL_law_1178) (seq (p := 1179) (q := 1180) (r := 1180) (p_zreturn dL_law_1179 rfl) done))))))))))))))))))) (seq (p := 1180) (q := 1183) (r := 1186) (p_iinc 3 6 dL_law_1180 (Nat.le_of_ble_eq_true rfl)) (seq (p := 1183) (q := 1183) (r := 1186) (er [true, true, true, true]) (seq (p := 1183) (q := 1186) (r := 1186) (p_goto 18 dL_law_1183 (by decide)) done))))))))))))))
noncomputable def B_L_law_L18 (l : Launch) (δ : Dl) : Seg (l, δ, yL_law, 88, (some .boolean), cL_law, 4) 18 1186 := C_L_law_L18 l δ
theorem L_L_law_18 {l : Launch} {δ : Dl} {st : Stk} {L : Lc} {s : St} : (B_L_law_L18 l δ).1 st L s = (C_L_law_L18 l δ).1 st L s := nrfl rfl
noncomputable def B_L_law (l : Launch) (δ : Dl) : Seg (l, δ, yL_law, 88, (some .boolean), cL_law, 4) 0 1188 :=
  seq (p := 0) (q := 3) (r := 1188) (p_new 0 ck0 tyX0 tyX0_ok f0_0 f0_0_ok (okc q116) (okc q117) (okc q87) dL_law_0) (seq (p := 3) (q := 4) (r := 1188) (p_dup dL_law_3) (seq (p := 4) (q := 7) (r := 1188) (p_callG 1 _ (ok_I ci_L_9 (M_X0_init l δ) (Nat.le_of_ble_eq_true rfl) dL_law_4) (Nat.le_of_ble_eq_true rfl)) (seq (p := 7) (q := 8) (r := 1188) (p_astore_n 1 dL_law_7 (Nat.le_of_ble_eq_true rfl)) (seq (p := 8) (q := 11) (r := 1188) (p_new 1 ck1 tyX1 tyX1_ok f0_1 f0_1_ok (okc q1153) (okc q1154) (okc q91) dL_law_8) (seq (p := 11) (q := 12) (r := 1188) (p_dup dL_law_11) (seq (p := 12) (q := 15) (r := 1188) (p_callG 1 _ (ok_I ci_L_12 (M_X1_init l δ) (Nat.le_of_ble_eq_true rfl) dL_law_12) (Nat.le_of_ble_eq_true rfl)) (seq (p := 15) (q := 16) (r := 1188) (p_astore_n 2 dL_law_15 (Nat.le_of_ble_eq_true rfl)) (seq (p := 16) (q := 17) (r := 1188) (p_iconst 0 dL_law_16) (seq (p := 17) (q := 18) (r := 1188) (p_istore_n 3 dL_law_17 (Nat.le_of_ble_eq_true rfl)) (seq (p := 18) (q := 1186) (r := 1188) (blk (seq (p := 18) (q := 18) (r := 1186) (er [true, true, true, true]) (seq (p := 18) (q := 1186) (r := 1186) (lp (B_L_law_L18 l δ)) done))) (seq (p := 1186) (q := 1187) (r := 1188) (p_iconst 1 dL_law_1186) (seq (p := 1187) (q := 1188) (r := 1188) (p_zreturn dL_law_1187 rfl) done))))))))))))

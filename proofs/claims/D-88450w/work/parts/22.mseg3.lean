/-! ===== the reference's methods as segments, 3 ===== -/
set_option maxRecDepth 100000
theorem dX1_variable_0 : decode cX1_variable 0 = .ok (.aload_n 0, 1) := by decide +kernel
theorem dX1_variable_1 : decode cX1_variable 1 = .ok (.invokevirtual 246, 3) := by decide +kernel
theorem dX1_variable_4 : decode cX1_variable 4 = .ok (.aload_n 0, 1) := by decide +kernel
theorem dX1_variable_5 : decode cX1_variable 5 = .ok (.invokevirtual 249, 3) := by decide +kernel
theorem dX1_variable_8 : decode cX1_variable 8 = .ok (.istore_n 1, 1) := by decide +kernel
theorem dX1_variable_9 : decode cX1_variable 9 = .ok (.iconst (-1), 1) := by decide +kernel
theorem dX1_variable_10 : decode cX1_variable 10 = .ok (.istore_n 2, 1) := by decide +kernel
theorem dX1_variable_11 : decode cX1_variable 11 = .ok (.iconst 0, 1) := by decide +kernel
theorem dX1_variable_12 : decode cX1_variable 12 = .ok (.istore_n 3, 1) := by decide +kernel
theorem dX1_variable_13 : decode cX1_variable 13 = .ok (.iload_n 3, 1) := by decide +kernel
theorem dX1_variable_14 : decode cX1_variable 14 = .ok (.aload_n 0, 1) := by decide +kernel
theorem dX1_variable_15 : decode cX1_variable 15 = .ok (.getfield 253, 3) := by decide +kernel
theorem dX1_variable_18 : decode cX1_variable 18 = .ok (.if_icmp .ge 25, 3) := by decide +kernel
theorem dX1_variable_21 : decode cX1_variable 21 = .ok (.aload_n 0, 1) := by decide +kernel
theorem dX1_variable_22 : decode cX1_variable 22 = .ok (.getfield 74, 3) := by decide +kernel
theorem dX1_variable_25 : decode cX1_variable 25 = .ok (.iload_n 3, 1) := by decide +kernel
theorem dX1_variable_26 : decode cX1_variable 26 = .ok (.iaload, 1) := by decide +kernel
theorem dX1_variable_27 : decode cX1_variable 27 = .ok (.iload_n 1, 1) := by decide +kernel
theorem dX1_variable_28 : decode cX1_variable 28 = .ok (.if_icmp .ne 7, 3) := by decide +kernel
theorem dX1_variable_31 : decode cX1_variable 31 = .ok (.iload_n 3, 1) := by decide +kernel
theorem dX1_variable_32 : decode cX1_variable 32 = .ok (.goto 4, 3) := by decide +kernel
theorem dX1_variable_35 : decode cX1_variable 35 = .ok (.iload_n 2, 1) := by decide +kernel
theorem dX1_variable_36 : decode cX1_variable 36 = .ok (.istore_n 2, 1) := by decide +kernel
theorem dX1_variable_37 : decode cX1_variable 37 = .ok (.iinc 3 1, 3) := by decide +kernel
theorem dX1_variable_40 : decode cX1_variable 40 = .ok (.goto (-27), 3) := by decide +kernel
theorem dX1_variable_43 : decode cX1_variable 43 = .ok (.iload_n 2, 1) := by decide +kernel
theorem dX1_variable_44 : decode cX1_variable 44 = .ok (.ifCond .ge 14, 3) := by decide +kernel
theorem dX1_variable_47 : decode cX1_variable 47 = .ok (.aload_n 0, 1) := by decide +kernel
theorem dX1_variable_48 : decode cX1_variable 48 = .ok (.aload_n 0, 1) := by decide +kernel
theorem dX1_variable_49 : decode cX1_variable 49 = .ok (.getfield 237, 3) := by decide +kernel
theorem dX1_variable_52 : decode cX1_variable 52 = .ok (.putfield 256, 3) := by decide +kernel
theorem dX1_variable_55 : decode cX1_variable 55 = .ok (.goto 13, 3) := by decide +kernel
theorem dX1_variable_58 : decode cX1_variable 58 = .ok (.aload_n 0, 1) := by decide +kernel
theorem dX1_variable_59 : decode cX1_variable 59 = .ok (.dup, 1) := by decide +kernel
theorem dX1_variable_60 : decode cX1_variable 60 = .ok (.getfield 237, 3) := by decide +kernel
theorem dX1_variable_63 : decode cX1_variable 63 = .ok (.iconst 1, 1) := by decide +kernel
theorem dX1_variable_64 : decode cX1_variable 64 = .ok (.iadd, 1) := by decide +kernel
theorem dX1_variable_65 : decode cX1_variable 65 = .ok (.putfield 237, 3) := by decide +kernel
theorem dX1_variable_68 : decode cX1_variable 68 = .ok (.iload_n 2, 1) := by decide +kernel
theorem dX1_variable_69 : decode cX1_variable 69 = .ok (.ireturn, 1) := by decide +kernel
noncomputable def C_X1_variable_L13 (l : Launch) (δ : Dl) : Seg (l, δ, yX1_variable, 1, (some .int), cX1_variable, 4) 13 43 :=
  seq (p := 13) (q := 14) (r := 43) (p_iload_n 3 dX1_variable_13) (seq (p := 14) (q := 15) (r := 43) (p_aload_n 0 dX1_variable_14) (seq (p := 15) (q := 18) (r := 43) (p_get [(1, 34)] (alL1 fl_X1_253_1) dX1_variable_15) (seq (p := 18) (q := 21) (r := 43) (p_icmp_ge 43 dX1_variable_18 (by decide)) (seq (p := 21) (q := 22) (r := 43) (p_aload_n 0 dX1_variable_21) (seq (p := 22) (q := 25) (r := 43) (p_get [(1, 35)] (alL1 fl_X1_74_1) dX1_variable_22) (seq (p := 25) (q := 26) (r := 43) (p_iload_n 3 dX1_variable_25) (seq (p := 26) (q := 27) (r := 43) (p_iald dX1_variable_26) (seq (p := 27) (q := 28) (r := 43) (p_iload_n 1 dX1_variable_27) (seq (p := 28) (q := 36) (r := 43) (blk (seq (p := 28) (q := 35) (r := 36) (blk (seq (p := 28) (q := 31) (r := 35) (p_icmp_ne 35 dX1_variable_28 (by decide)) (seq (p := 31) (q := 32) (r := 35) (p_iload_n 3 dX1_variable_31) (seq (p := 32) (q := 35) (r := 35) (p_goto 36 dX1_variable_32 (by decide)) done)))) (seq (p := 35) (q := 36) (r := 36) (p_iload_n 2 dX1_variable_35) done))) (seq (p := 36) (q := 37) (r := 43) (p_istore_n 2 dX1_variable_36 (Nat.le_of_ble_eq_true rfl)) (seq (p := 37) (q := 40) (r := 43) (p_iinc 3 1 dX1_variable_37 (Nat.le_of_ble_eq_true rfl)) (seq (p := 40) (q := 40) (r := 43) (er [true, true, true, true]) (seq (p := 40) (q := 43) (r := 43) (p_goto 13 dX1_variable_40 (by decide)) done)))))))))))))
noncomputable def B_X1_variable_L13 (l : Launch) (δ : Dl) : Seg (l, δ, yX1_variable, 1, (some .int), cX1_variable, 4) 13 43 := C_X1_variable_L13 l δ
theorem L_X1_variable_13 {l : Launch} {δ : Dl} {st : Stk} {L : Lc} {s : St} : (B_X1_variable_L13 l δ).1 st L s = (C_X1_variable_L13 l δ).1 st L s := nrfl rfl
noncomputable def B_X1_variable (l : Launch) (δ : Dl) : Seg (l, δ, yX1_variable, 1, (some .int), cX1_variable, 4) 0 70 :=
  seq (p := 0) (q := 1) (r := 70) (p_aload_n 0 dX1_variable_0) (seq (p := 1) (q := 4) (r := 70) (p_callV 1 cv_X1_246 hcR1 (M_X1_skip l δ) (Nat.le_of_ble_eq_true rfl) dX1_variable_1) (seq (p := 4) (q := 5) (r := 70) (p_aload_n 0 dX1_variable_4) (seq (p := 5) (q := 8) (r := 70) (p_callV 1 cv_X1_249 hcR1 (M_X1_here l δ) (Nat.le_of_ble_eq_true rfl) dX1_variable_5) (seq (p := 8) (q := 9) (r := 70) (p_istore_n 1 dX1_variable_8 (Nat.le_of_ble_eq_true rfl)) (seq (p := 9) (q := 10) (r := 70) (p_iconst (-1) dX1_variable_9) (seq (p := 10) (q := 11) (r := 70) (p_istore_n 2 dX1_variable_10 (Nat.le_of_ble_eq_true rfl)) (seq (p := 11) (q := 12) (r := 70) (p_iconst 0 dX1_variable_11) (seq (p := 12) (q := 13) (r := 70) (p_istore_n 3 dX1_variable_12 (Nat.le_of_ble_eq_true rfl)) (seq (p := 13) (q := 43) (r := 70) (blk (seq (p := 13) (q := 13) (r := 43) (er [true, true, true, true]) (seq (p := 13) (q := 43) (r := 43) (lp (B_X1_variable_L13 l δ)) done))) (seq (p := 43) (q := 44) (r := 70) (p_iload_n 2 dX1_variable_43) (seq (p := 44) (q := 68) (r := 70) (blk (seq (p := 44) (q := 58) (r := 68) (blk (seq (p := 44) (q := 47) (r := 58) (p_if_ge 58 dX1_variable_44 (by decide)) (seq (p := 47) (q := 48) (r := 58) (p_aload_n 0 dX1_variable_47) (seq (p := 48) (q := 49) (r := 58) (p_aload_n 0 dX1_variable_48) (seq (p := 49) (q := 52) (r := 58) (p_get [(1, 36)] (alL1 fl_X1_237_1) dX1_variable_49) (seq (p := 52) (q := 55) (r := 58) (p_put [(1, 37)] .int (alP1 fp_X1_256_1) dX1_variable_52) (seq (p := 55) (q := 58) (r := 58) (p_goto 68 dX1_variable_55 (by decide)) done))))))) (seq (p := 58) (q := 59) (r := 68) (p_aload_n 0 dX1_variable_58) (seq (p := 59) (q := 60) (r := 68) (p_dup dX1_variable_59) (seq (p := 60) (q := 63) (r := 68) (p_get [(1, 36)] (alL1 fl_X1_237_1) dX1_variable_60) (seq (p := 63) (q := 64) (r := 68) (p_iconst 1 dX1_variable_63) (seq (p := 64) (q := 65) (r := 68) (p_iadd dX1_variable_64) (seq (p := 65) (q := 68) (r := 68) (p_put [(1, 36)] .int (alP1 fp_X1_237_1) dX1_variable_65) done)))))))) (seq (p := 68) (q := 69) (r := 70) (p_iload_n 2 dX1_variable_68) (seq (p := 69) (q := 70) (r := 70) (p_ireturn dX1_variable_69 rfl) done)))))))))))))
noncomputable def M_X1_variable (l : Launch) (δ : Dl) : Mth l δ yX1_variable cX1_variable 4 (some .int) 1 := mk (B_X1_variable l δ) (by decide)
theorem N_X1_variable {l : Launch} {δ : Dl} {o : Nat} {s : St} : (M_X1_variable l δ).1 [.inr (.inr (some o))] s = bres ((B_X1_variable l δ).1 [] [some (.inr (.inr (some o))), none, none, none] s) := (mk_eq (hy := by decide) rfl).trans (nrfl rfl)
theorem dX1_atom_0 : decode cX1_atom 0 = .ok (.aload_n 0, 1) := by decide +kernel
theorem dX1_atom_1 : decode cX1_atom 1 = .ok (.dup, 1) := by decide +kernel
theorem dX1_atom_2 : decode cX1_atom 2 = .ok (.getfield 237, 3) := by decide +kernel
theorem dX1_atom_5 : decode cX1_atom 5 = .ok (.iconst 1, 1) := by decide +kernel
theorem dX1_atom_6 : decode cX1_atom 6 = .ok (.iadd, 1) := by decide +kernel
theorem dX1_atom_7 : decode cX1_atom 7 = .ok (.putfield 237, 3) := by decide +kernel
theorem dX1_atom_10 : decode cX1_atom 10 = .ok (.iload_n 2, 1) := by decide +kernel
theorem dX1_atom_11 : decode cX1_atom 11 = .ok (.ifCond .le 10, 3) := by decide +kernel
theorem dX1_atom_14 : decode cX1_atom 14 = .ok (.aload_n 0, 1) := by decide +kernel
theorem dX1_atom_15 : decode cX1_atom 15 = .ok (.invokevirtual 259, 3) := by decide +kernel
theorem dX1_atom_18 : decode cX1_atom 18 = .ok (.goto 4, 3) := by decide +kernel
theorem dX1_atom_21 : decode cX1_atom 21 = .ok (.iconst 0, 1) := by decide +kernel
theorem dX1_atom_22 : decode cX1_atom 22 = .ok (.istore_n 3, 1) := by decide +kernel
theorem dX1_atom_23 : decode cX1_atom 23 = .ok (.iload_n 3, 1) := by decide +kernel
theorem dX1_atom_24 : decode cX1_atom 24 = .ok (.ifCond .lt 15, 3) := by decide +kernel
theorem dX1_atom_27 : decode cX1_atom 27 = .ok (.iload_n 2, 1) := by decide +kernel
theorem dX1_atom_28 : decode cX1_atom 28 = .ok (.iconst 1, 1) := by decide +kernel
theorem dX1_atom_29 : decode cX1_atom 29 = .ok (.if_icmp .le 10, 3) := by decide +kernel
theorem dX1_atom_32 : decode cX1_atom 32 = .ok (.aload_n 0, 1) := by decide +kernel
theorem dX1_atom_33 : decode cX1_atom 33 = .ok (.invokevirtual 259, 3) := by decide +kernel
theorem dX1_atom_36 : decode cX1_atom 36 = .ok (.goto 4, 3) := by decide +kernel
theorem dX1_atom_39 : decode cX1_atom 39 = .ok (.iconst 0, 1) := by decide +kernel
theorem dX1_atom_40 : decode cX1_atom 40 = .ok (.istore 4, 2) := by decide +kernel
theorem dX1_atom_42 : decode cX1_atom 42 = .ok (.iload_n 3, 1) := by decide +kernel
theorem dX1_atom_43 : decode cX1_atom 43 = .ok (.ifCond .lt 20, 3) := by decide +kernel
theorem dX1_atom_46 : decode cX1_atom 46 = .ok (.iload 4, 2) := by decide +kernel
theorem dX1_atom_48 : decode cX1_atom 48 = .ok (.ifCond .lt 15, 3) := by decide +kernel
theorem dX1_atom_51 : decode cX1_atom 51 = .ok (.aload_n 0, 1) := by decide +kernel
theorem dX1_atom_52 : decode cX1_atom 52 = .ok (.iload_n 1, 1) := by decide +kernel
theorem dX1_atom_53 : decode cX1_atom 53 = .ok (.iload_n 3, 1) := by decide +kernel
theorem dX1_atom_54 : decode cX1_atom 54 = .ok (.iload 4, 2) := by decide +kernel
theorem dX1_atom_56 : decode cX1_atom 56 = .ok (.invokevirtual 262, 3) := by decide +kernel
theorem dX1_atom_59 : decode cX1_atom 59 = .ok (.aload_n 0, 1) := by decide +kernel
theorem dX1_atom_60 : decode cX1_atom 60 = .ok (.invokevirtual 265, 3) := by decide +kernel
theorem dX1_atom_63 : decode cX1_atom 63 = .ok (.return_, 1) := by decide +kernel
noncomputable def B_X1_atom (l : Launch) (δ : Dl) : Seg (l, δ, yX1_atom, 2, none, cX1_atom, 5) 0 64 :=
  seq (p := 0) (q := 1) (r := 64) (p_aload_n 0 dX1_atom_0) (seq (p := 1) (q := 2) (r := 64) (p_dup dX1_atom_1) (seq (p := 2) (q := 5) (r := 64) (p_get [(1, 36)] (alL1 fl_X1_237_1) dX1_atom_2) (seq (p := 5) (q := 6) (r := 64) (p_iconst 1 dX1_atom_5) (seq (p := 6) (q := 7) (r := 64) (p_iadd dX1_atom_6) (seq (p := 7) (q := 10) (r := 64) (p_put [(1, 36)] .int (alP1 fp_X1_237_1) dX1_atom_7) (seq (p := 10) (q := 11) (r := 64) (p_iload_n 2 dX1_atom_10) (seq (p := 11) (q := 22) (r := 64) (blk (seq (p := 11) (q := 21) (r := 22) (blk (seq (p := 11) (q := 14) (r := 21) (p_if_le 21 dX1_atom_11 (by decide)) (seq (p := 14) (q := 15) (r := 21) (p_aload_n 0 dX1_atom_14) (seq (p := 15) (q := 18) (r := 21) (p_callV 1 cv_X1_259 hcR1 (M_X1_variable l δ) (Nat.le_of_ble_eq_true rfl) dX1_atom_15) (seq (p := 18) (q := 21) (r := 21) (p_goto 22 dX1_atom_18 (by decide)) done))))) (seq (p := 21) (q := 22) (r := 22) (p_iconst 0 dX1_atom_21) done))) (seq (p := 22) (q := 23) (r := 64) (p_istore_n 3 dX1_atom_22 (Nat.le_of_ble_eq_true rfl)) (seq (p := 23) (q := 24) (r := 64) (p_iload_n 3 dX1_atom_23) (seq (p := 24) (q := 40) (r := 64) (blk (seq (p := 24) (q := 39) (r := 40) (blk (seq (p := 24) (q := 27) (r := 39) (p_if_lt 39 dX1_atom_24 (by decide)) (seq (p := 27) (q := 28) (r := 39) (p_iload_n 2 dX1_atom_27) (seq (p := 28) (q := 29) (r := 39) (p_iconst 1 dX1_atom_28) (seq (p := 29) (q := 32) (r := 39) (p_icmp_le 39 dX1_atom_29 (by decide)) (seq (p := 32) (q := 33) (r := 39) (p_aload_n 0 dX1_atom_32) (seq (p := 33) (q := 36) (r := 39) (p_callV 1 cv_X1_259 hcR1 (M_X1_variable l δ) (Nat.le_of_ble_eq_true rfl) dX1_atom_33) (seq (p := 36) (q := 39) (r := 39) (p_goto 40 dX1_atom_36 (by decide)) done)))))))) (seq (p := 39) (q := 40) (r := 40) (p_iconst 0 dX1_atom_39) done))) (seq (p := 40) (q := 42) (r := 64) (p_istore 4 dX1_atom_40 (Nat.le_of_ble_eq_true rfl)) (seq (p := 42) (q := 43) (r := 64) (p_iload_n 3 dX1_atom_42) (seq (p := 43) (q := 63) (r := 64) (blk (seq (p := 43) (q := 46) (r := 63) (p_if_lt 63 dX1_atom_43 (by decide)) (seq (p := 46) (q := 48) (r := 63) (p_iload 4 dX1_atom_46) (seq (p := 48) (q := 51) (r := 63) (p_if_lt 63 dX1_atom_48 (by decide)) (seq (p := 51) (q := 52) (r := 63) (p_aload_n 0 dX1_atom_51) (seq (p := 52) (q := 53) (r := 63) (p_iload_n 1 dX1_atom_52) (seq (p := 53) (q := 54) (r := 63) (p_iload_n 3 dX1_atom_53) (seq (p := 54) (q := 56) (r := 63) (p_iload 4 dX1_atom_54) (seq (p := 56) (q := 59) (r := 63) (p_callV 1 cv_X1_262 hcR1 (M_X1_emit l δ) (Nat.le_of_ble_eq_true rfl) dX1_atom_56) (seq (p := 59) (q := 60) (r := 63) (p_aload_n 0 dX1_atom_59) (seq (p := 60) (q := 63) (r := 63) (p_callV 1 cv_X1_265 hcR1 (M_X1_partDone l δ) (Nat.le_of_ble_eq_true rfl) dX1_atom_60) done))))))))))) (seq (p := 63) (q := 64) (r := 64) (p_return dX1_atom_63 rfl) done))))))))))))))
noncomputable def M_X1_atom (l : Launch) (δ : Dl) : Mth l δ yX1_atom cX1_atom 5 none 2 := mk (B_X1_atom l δ) (by decide)
theorem N_X1_atom {l : Launch} {δ : Dl} {o : Nat} {a1 : Int} {a2 : Int} {s : St} : (M_X1_atom l δ).1 [.inr (.inr (some o)), .inl a1, .inl a2] s = bres ((B_X1_atom l δ).1 [] [some (.inr (.inr (some o))), some (.inl a1), some (.inl a2), none, none] s) := (mk_eq (hy := by decide) rfl).trans (nrfl rfl)
theorem dX1_openFormula_0 : decode cX1_openFormula 0 = .ok (.aload_n 0, 1) := by decide +kernel
theorem dX1_openFormula_1 : decode cX1_openFormula 1 = .ok (.getfield 65, 3) := by decide +kernel
theorem dX1_openFormula_4 : decode cX1_openFormula 4 = .ok (.aload_n 0, 1) := by decide +kernel
theorem dX1_openFormula_5 : decode cX1_openFormula 5 = .ok (.getfield 240, 3) := by decide +kernel
theorem dX1_openFormula_8 : decode cX1_openFormula 8 = .ok (.iconst 0, 1) := by decide +kernel
theorem dX1_openFormula_9 : decode cX1_openFormula 9 = .ok (.iastore, 1) := by decide +kernel
theorem dX1_openFormula_10 : decode cX1_openFormula 10 = .ok (.aload_n 0, 1) := by decide +kernel
theorem dX1_openFormula_11 : decode cX1_openFormula 11 = .ok (.getfield 68, 3) := by decide +kernel
theorem dX1_openFormula_14 : decode cX1_openFormula 14 = .ok (.aload_n 0, 1) := by decide +kernel
theorem dX1_openFormula_15 : decode cX1_openFormula 15 = .ok (.getfield 240, 3) := by decide +kernel
theorem dX1_openFormula_18 : decode cX1_openFormula 18 = .ok (.aload_n 0, 1) := by decide +kernel
theorem dX1_openFormula_19 : decode cX1_openFormula 19 = .ok (.getfield 234, 3) := by decide +kernel
theorem dX1_openFormula_22 : decode cX1_openFormula 22 = .ok (.iastore, 1) := by decide +kernel
theorem dX1_openFormula_23 : decode cX1_openFormula 23 = .ok (.aload_n 0, 1) := by decide +kernel
theorem dX1_openFormula_24 : decode cX1_openFormula 24 = .ok (.getfield 71, 3) := by decide +kernel
theorem dX1_openFormula_27 : decode cX1_openFormula 27 = .ok (.aload_n 0, 1) := by decide +kernel
theorem dX1_openFormula_28 : decode cX1_openFormula 28 = .ok (.getfield 240, 3) := by decide +kernel
theorem dX1_openFormula_31 : decode cX1_openFormula 31 = .ok (.iconst 0, 1) := by decide +kernel
theorem dX1_openFormula_32 : decode cX1_openFormula 32 = .ok (.iastore, 1) := by decide +kernel
theorem dX1_openFormula_33 : decode cX1_openFormula 33 = .ok (.aload_n 0, 1) := by decide +kernel
theorem dX1_openFormula_34 : decode cX1_openFormula 34 = .ok (.dup, 1) := by decide +kernel
theorem dX1_openFormula_35 : decode cX1_openFormula 35 = .ok (.getfield 240, 3) := by decide +kernel
theorem dX1_openFormula_38 : decode cX1_openFormula 38 = .ok (.iconst 1, 1) := by decide +kernel
theorem dX1_openFormula_39 : decode cX1_openFormula 39 = .ok (.iadd, 1) := by decide +kernel
theorem dX1_openFormula_40 : decode cX1_openFormula 40 = .ok (.putfield 240, 3) := by decide +kernel
theorem dX1_openFormula_43 : decode cX1_openFormula 43 = .ok (.return_, 1) := by decide +kernel
noncomputable def B_X1_openFormula (l : Launch) (δ : Dl) : Seg (l, δ, yX1_openFormula, 0, none, cX1_openFormula, 1) 0 44 :=
  seq (p := 0) (q := 1) (r := 44) (p_aload_n 0 dX1_openFormula_0) (seq (p := 1) (q := 4) (r := 44) (p_get [(1, 30)] (alL1 fl_X1_65_1) dX1_openFormula_1) (seq (p := 4) (q := 5) (r := 44) (p_aload_n 0 dX1_openFormula_4) (seq (p := 5) (q := 8) (r := 44) (p_get [(1, 29)] (alL1 fl_X1_240_1) dX1_openFormula_5) (seq (p := 8) (q := 9) (r := 44) (p_iconst 0 dX1_openFormula_8) (seq (p := 9) (q := 10) (r := 44) (p_iast dX1_openFormula_9) (seq (p := 10) (q := 11) (r := 44) (p_aload_n 0 dX1_openFormula_10) (seq (p := 11) (q := 14) (r := 44) (p_get [(1, 31)] (alL1 fl_X1_68_1) dX1_openFormula_11) (seq (p := 14) (q := 15) (r := 44) (p_aload_n 0 dX1_openFormula_14) (seq (p := 15) (q := 18) (r := 44) (p_get [(1, 29)] (alL1 fl_X1_240_1) dX1_openFormula_15) (seq (p := 18) (q := 19) (r := 44) (p_aload_n 0 dX1_openFormula_18) (seq (p := 19) (q := 22) (r := 44) (p_get [(1, 23)] (alL1 fl_X1_234_1) dX1_openFormula_19) (seq (p := 22) (q := 23) (r := 44) (p_iast dX1_openFormula_22) (seq (p := 23) (q := 24) (r := 44) (p_aload_n 0 dX1_openFormula_23) (seq (p := 24) (q := 27) (r := 44) (p_get [(1, 32)] (alL1 fl_X1_71_1) dX1_openFormula_24) (seq (p := 27) (q := 28) (r := 44) (p_aload_n 0 dX1_openFormula_27) (seq (p := 28) (q := 31) (r := 44) (p_get [(1, 29)] (alL1 fl_X1_240_1) dX1_openFormula_28) (seq (p := 31) (q := 32) (r := 44) (p_iconst 0 dX1_openFormula_31) (seq (p := 32) (q := 33) (r := 44) (p_iast dX1_openFormula_32) (seq (p := 33) (q := 34) (r := 44) (p_aload_n 0 dX1_openFormula_33) (seq (p := 34) (q := 35) (r := 44) (p_dup dX1_openFormula_34) (seq (p := 35) (q := 38) (r := 44) (p_get [(1, 29)] (alL1 fl_X1_240_1) dX1_openFormula_35) (seq (p := 38) (q := 39) (r := 44) (p_iconst 1 dX1_openFormula_38) (seq (p := 39) (q := 40) (r := 44) (p_iadd dX1_openFormula_39) (seq (p := 40) (q := 43) (r := 44) (p_put [(1, 29)] .int (alP1 fp_X1_240_1) dX1_openFormula_40) (seq (p := 43) (q := 44) (r := 44) (p_return dX1_openFormula_43 rfl) done)))))))))))))))))))))))))
noncomputable def M_X1_openFormula (l : Launch) (δ : Dl) : Mth l δ yX1_openFormula cX1_openFormula 1 none 0 := mk (B_X1_openFormula l δ) (by decide)
theorem N_X1_openFormula {l : Launch} {δ : Dl} {o : Nat} {s : St} : (M_X1_openFormula l δ).1 [.inr (.inr (some o))] s = bres ((B_X1_openFormula l δ).1 [] [some (.inr (.inr (some o)))] s) := (mk_eq (hy := by decide) rfl).trans (nrfl rfl)
theorem dX1_openNode_0 : decode cX1_openNode 0 = .ok (.aload_n 0, 1) := by decide +kernel
theorem dX1_openNode_1 : decode cX1_openNode 1 = .ok (.getfield 65, 3) := by decide +kernel
theorem dX1_openNode_4 : decode cX1_openNode 4 = .ok (.aload_n 0, 1) := by decide +kernel
theorem dX1_openNode_5 : decode cX1_openNode 5 = .ok (.getfield 240, 3) := by decide +kernel
theorem dX1_openNode_8 : decode cX1_openNode 8 = .ok (.iload_n 1, 1) := by decide +kernel
theorem dX1_openNode_9 : decode cX1_openNode 9 = .ok (.iastore, 1) := by decide +kernel
theorem dX1_openNode_10 : decode cX1_openNode 10 = .ok (.aload_n 0, 1) := by decide +kernel
theorem dX1_openNode_11 : decode cX1_openNode 11 = .ok (.dup, 1) := by decide +kernel
theorem dX1_openNode_12 : decode cX1_openNode 12 = .ok (.getfield 240, 3) := by decide +kernel
theorem dX1_openNode_15 : decode cX1_openNode 15 = .ok (.iconst 1, 1) := by decide +kernel
theorem dX1_openNode_16 : decode cX1_openNode 16 = .ok (.iadd, 1) := by decide +kernel
theorem dX1_openNode_17 : decode cX1_openNode 17 = .ok (.putfield 240, 3) := by decide +kernel
theorem dX1_openNode_20 : decode cX1_openNode 20 = .ok (.aload_n 0, 1) := by decide +kernel
theorem dX1_openNode_21 : decode cX1_openNode 21 = .ok (.dup, 1) := by decide +kernel
theorem dX1_openNode_22 : decode cX1_openNode 22 = .ok (.getfield 243, 3) := by decide +kernel
theorem dX1_openNode_25 : decode cX1_openNode 25 = .ok (.iconst 1, 1) := by decide +kernel
theorem dX1_openNode_26 : decode cX1_openNode 26 = .ok (.iadd, 1) := by decide +kernel
theorem dX1_openNode_27 : decode cX1_openNode 27 = .ok (.putfield 243, 3) := by decide +kernel
theorem dX1_openNode_30 : decode cX1_openNode 30 = .ok (.return_, 1) := by decide +kernel
noncomputable def B_X1_openNode (l : Launch) (δ : Dl) : Seg (l, δ, yX1_openNode, 0, none, cX1_openNode, 2) 0 31 :=
  seq (p := 0) (q := 1) (r := 31) (p_aload_n 0 dX1_openNode_0) (seq (p := 1) (q := 4) (r := 31) (p_get [(1, 30)] (alL1 fl_X1_65_1) dX1_openNode_1) (seq (p := 4) (q := 5) (r := 31) (p_aload_n 0 dX1_openNode_4) (seq (p := 5) (q := 8) (r := 31) (p_get [(1, 29)] (alL1 fl_X1_240_1) dX1_openNode_5) (seq (p := 8) (q := 9) (r := 31) (p_iload_n 1 dX1_openNode_8) (seq (p := 9) (q := 10) (r := 31) (p_iast dX1_openNode_9) (seq (p := 10) (q := 11) (r := 31) (p_aload_n 0 dX1_openNode_10) (seq (p := 11) (q := 12) (r := 31) (p_dup dX1_openNode_11) (seq (p := 12) (q := 15) (r := 31) (p_get [(1, 29)] (alL1 fl_X1_240_1) dX1_openNode_12) (seq (p := 15) (q := 16) (r := 31) (p_iconst 1 dX1_openNode_15) (seq (p := 16) (q := 17) (r := 31) (p_iadd dX1_openNode_16) (seq (p := 17) (q := 20) (r := 31) (p_put [(1, 29)] .int (alP1 fp_X1_240_1) dX1_openNode_17) (seq (p := 20) (q := 21) (r := 31) (p_aload_n 0 dX1_openNode_20) (seq (p := 21) (q := 22) (r := 31) (p_dup dX1_openNode_21) (seq (p := 22) (q := 25) (r := 31) (p_get [(1, 33)] (alL1 fl_X1_243_1) dX1_openNode_22) (seq (p := 25) (q := 26) (r := 31) (p_iconst 1 dX1_openNode_25) (seq (p := 26) (q := 27) (r := 31) (p_iadd dX1_openNode_26) (seq (p := 27) (q := 30) (r := 31) (p_put [(1, 33)] .int (alP1 fp_X1_243_1) dX1_openNode_27) (seq (p := 30) (q := 31) (r := 31) (p_return dX1_openNode_30 rfl) done))))))))))))))))))
noncomputable def M_X1_openNode (l : Launch) (δ : Dl) : Mth l δ yX1_openNode cX1_openNode 2 none 0 := mk (B_X1_openNode l δ) (by decide)
theorem N_X1_openNode {l : Launch} {δ : Dl} {o : Nat} {a1 : Int} {s : St} : (M_X1_openNode l δ).1 [.inr (.inr (some o)), .inl a1] s = bres ((B_X1_openNode l δ).1 [] [some (.inr (.inr (some o))), some (.inl a1)] s) := (mk_eq (hy := by decide) rfl).trans (nrfl rfl)
theorem dX1_quantifier_0 : decode cX1_quantifier 0 = .ok (.aload_n 0, 1) := by decide +kernel
theorem dX1_quantifier_1 : decode cX1_quantifier 1 = .ok (.getfield 243, 3) := by decide +kernel
theorem dX1_quantifier_4 : decode cX1_quantifier 4 = .ok (.bipush 12, 2) := by decide +kernel
theorem dX1_quantifier_6 : decode cX1_quantifier 6 = .ok (.if_icmp .eq 12, 3) := by decide +kernel
theorem dX1_quantifier_9 : decode cX1_quantifier 9 = .ok (.aload_n 0, 1) := by decide +kernel
theorem dX1_quantifier_10 : decode cX1_quantifier 10 = .ok (.getfield 253, 3) := by decide +kernel
theorem dX1_quantifier_13 : decode cX1_quantifier 13 = .ok (.bipush 8, 2) := by decide +kernel
theorem dX1_quantifier_15 : decode cX1_quantifier 15 = .ok (.if_icmp .ne 12, 3) := by decide +kernel
theorem dX1_quantifier_18 : decode cX1_quantifier 18 = .ok (.aload_n 0, 1) := by decide +kernel
theorem dX1_quantifier_19 : decode cX1_quantifier 19 = .ok (.aload_n 0, 1) := by decide +kernel
theorem dX1_quantifier_20 : decode cX1_quantifier 20 = .ok (.getfield 237, 3) := by decide +kernel
theorem dX1_quantifier_23 : decode cX1_quantifier 23 = .ok (.putfield 256, 3) := by decide +kernel
theorem dX1_quantifier_26 : decode cX1_quantifier 26 = .ok (.return_, 1) := by decide +kernel
theorem dX1_quantifier_27 : decode cX1_quantifier 27 = .ok (.aload_n 0, 1) := by decide +kernel
theorem dX1_quantifier_28 : decode cX1_quantifier 28 = .ok (.dup, 1) := by decide +kernel
theorem dX1_quantifier_29 : decode cX1_quantifier 29 = .ok (.getfield 237, 3) := by decide +kernel
theorem dX1_quantifier_32 : decode cX1_quantifier 32 = .ok (.iconst 1, 1) := by decide +kernel
theorem dX1_quantifier_33 : decode cX1_quantifier 33 = .ok (.iadd, 1) := by decide +kernel
theorem dX1_quantifier_34 : decode cX1_quantifier 34 = .ok (.putfield 237, 3) := by decide +kernel
theorem dX1_quantifier_37 : decode cX1_quantifier 37 = .ok (.aload_n 0, 1) := by decide +kernel
theorem dX1_quantifier_38 : decode cX1_quantifier 38 = .ok (.invokevirtual 246, 3) := by decide +kernel
theorem dX1_quantifier_41 : decode cX1_quantifier 41 = .ok (.aload_n 0, 1) := by decide +kernel
theorem dX1_quantifier_42 : decode cX1_quantifier 42 = .ok (.invokevirtual 249, 3) := by decide +kernel
theorem dX1_quantifier_45 : decode cX1_quantifier 45 = .ok (.bipush 97, 2) := by decide +kernel
theorem dX1_quantifier_47 : decode cX1_quantifier 47 = .ok (.bipush 104, 2) := by decide +kernel
theorem dX1_quantifier_49 : decode cX1_quantifier 49 = .ok (.invokestatic 133, 3) := by decide +kernel
theorem dX1_quantifier_52 : decode cX1_quantifier 52 = .ok (.ifCond .ne 12, 3) := by decide +kernel
theorem dX1_quantifier_55 : decode cX1_quantifier 55 = .ok (.aload_n 0, 1) := by decide +kernel
theorem dX1_quantifier_56 : decode cX1_quantifier 56 = .ok (.aload_n 0, 1) := by decide +kernel
theorem dX1_quantifier_57 : decode cX1_quantifier 57 = .ok (.getfield 237, 3) := by decide +kernel
theorem dX1_quantifier_60 : decode cX1_quantifier 60 = .ok (.putfield 256, 3) := by decide +kernel
theorem dX1_quantifier_63 : decode cX1_quantifier 63 = .ok (.return_, 1) := by decide +kernel
theorem dX1_quantifier_64 : decode cX1_quantifier 64 = .ok (.aload_n 0, 1) := by decide +kernel
theorem dX1_quantifier_65 : decode cX1_quantifier 65 = .ok (.iload_n 1, 1) := by decide +kernel
theorem dX1_quantifier_66 : decode cX1_quantifier 66 = .ok (.aload_n 0, 1) := by decide +kernel
theorem dX1_quantifier_67 : decode cX1_quantifier 67 = .ok (.getfield 253, 3) := by decide +kernel
theorem dX1_quantifier_70 : decode cX1_quantifier 70 = .ok (.iconst 0, 1) := by decide +kernel
theorem dX1_quantifier_71 : decode cX1_quantifier 71 = .ok (.invokevirtual 262, 3) := by decide +kernel
theorem dX1_quantifier_74 : decode cX1_quantifier 74 = .ok (.aload_n 0, 1) := by decide +kernel
theorem dX1_quantifier_75 : decode cX1_quantifier 75 = .ok (.getfield 74, 3) := by decide +kernel
theorem dX1_quantifier_78 : decode cX1_quantifier 78 = .ok (.aload_n 0, 1) := by decide +kernel
theorem dX1_quantifier_79 : decode cX1_quantifier 79 = .ok (.getfield 253, 3) := by decide +kernel
theorem dX1_quantifier_82 : decode cX1_quantifier 82 = .ok (.aload_n 0, 1) := by decide +kernel
theorem dX1_quantifier_83 : decode cX1_quantifier 83 = .ok (.invokevirtual 249, 3) := by decide +kernel
theorem dX1_quantifier_86 : decode cX1_quantifier 86 = .ok (.iastore, 1) := by decide +kernel
theorem dX1_quantifier_87 : decode cX1_quantifier 87 = .ok (.aload_n 0, 1) := by decide +kernel
theorem dX1_quantifier_88 : decode cX1_quantifier 88 = .ok (.dup, 1) := by decide +kernel
theorem dX1_quantifier_89 : decode cX1_quantifier 89 = .ok (.getfield 253, 3) := by decide +kernel
theorem dX1_quantifier_92 : decode cX1_quantifier 92 = .ok (.iconst 1, 1) := by decide +kernel
theorem dX1_quantifier_93 : decode cX1_quantifier 93 = .ok (.iadd, 1) := by decide +kernel
theorem dX1_quantifier_94 : decode cX1_quantifier 94 = .ok (.putfield 253, 3) := by decide +kernel
theorem dX1_quantifier_97 : decode cX1_quantifier 97 = .ok (.aload_n 0, 1) := by decide +kernel
theorem dX1_quantifier_98 : decode cX1_quantifier 98 = .ok (.iload_n 1, 1) := by decide +kernel
theorem dX1_quantifier_99 : decode cX1_quantifier 99 = .ok (.invokevirtual 268, 3) := by decide +kernel
theorem dX1_quantifier_102 : decode cX1_quantifier 102 = .ok (.aload_n 0, 1) := by decide +kernel
theorem dX1_quantifier_103 : decode cX1_quantifier 103 = .ok (.dup, 1) := by decide +kernel
theorem dX1_quantifier_104 : decode cX1_quantifier 104 = .ok (.getfield 237, 3) := by decide +kernel
theorem dX1_quantifier_107 : decode cX1_quantifier 107 = .ok (.iconst 1, 1) := by decide +kernel
theorem dX1_quantifier_108 : decode cX1_quantifier 108 = .ok (.iadd, 1) := by decide +kernel
theorem dX1_quantifier_109 : decode cX1_quantifier 109 = .ok (.putfield 237, 3) := by decide +kernel
theorem dX1_quantifier_112 : decode cX1_quantifier 112 = .ok (.return_, 1) := by decide +kernel
noncomputable def B_X1_quantifier (l : Launch) (δ : Dl) : Seg (l, δ, yX1_quantifier, 1, none, cX1_quantifier, 2) 0 113 :=
  seq (p := 0) (q := 1) (r := 113) (p_aload_n 0 dX1_quantifier_0) (seq (p := 1) (q := 4) (r := 113) (p_get [(1, 33)] (alL1 fl_X1_243_1) dX1_quantifier_1) (seq (p := 4) (q := 6) (r := 113) (p_bipush 12 dX1_quantifier_4 (by decide)) (seq (p := 6) (q := 27) (r := 113) (blk (seq (p := 6) (q := 18) (r := 27) (blk (seq (p := 6) (q := 9) (r := 18) (p_icmp_eq 18 dX1_quantifier_6 (by decide)) (seq (p := 9) (q := 10) (r := 18) (p_aload_n 0 dX1_quantifier_9) (seq (p := 10) (q := 13) (r := 18) (p_get [(1, 34)] (alL1 fl_X1_253_1) dX1_quantifier_10) (seq (p := 13) (q := 15) (r := 18) (p_bipush 8 dX1_quantifier_13 (by decide)) (seq (p := 15) (q := 18) (r := 18) (p_icmp_ne 27 dX1_quantifier_15 (by decide)) done)))))) (seq (p := 18) (q := 19) (r := 27) (p_aload_n 0 dX1_quantifier_18) (seq (p := 19) (q := 20) (r := 27) (p_aload_n 0 dX1_quantifier_19) (seq (p := 20) (q := 23) (r := 27) (p_get [(1, 36)] (alL1 fl_X1_237_1) dX1_quantifier_20) (seq (p := 23) (q := 26) (r := 27) (p_put [(1, 37)] .int (alP1 fp_X1_256_1) dX1_quantifier_23) (seq (p := 26) (q := 27) (r := 27) (p_return dX1_quantifier_26 rfl) done))))))) (seq (p := 27) (q := 28) (r := 113) (p_aload_n 0 dX1_quantifier_27) (seq (p := 28) (q := 29) (r := 113) (p_dup dX1_quantifier_28) (seq (p := 29) (q := 32) (r := 113) (p_get [(1, 36)] (alL1 fl_X1_237_1) dX1_quantifier_29) (seq (p := 32) (q := 33) (r := 113) (p_iconst 1 dX1_quantifier_32) (seq (p := 33) (q := 34) (r := 113) (p_iadd dX1_quantifier_33) (seq (p := 34) (q := 37) (r := 113) (p_put [(1, 36)] .int (alP1 fp_X1_237_1) dX1_quantifier_34) (seq (p := 37) (q := 38) (r := 113) (p_aload_n 0 dX1_quantifier_37) (seq (p := 38) (q := 41) (r := 113) (p_callV 1 cv_X1_246 hcR1 (M_X1_skip l δ) (Nat.le_of_ble_eq_true rfl) dX1_quantifier_38) (seq (p := 41) (q := 42) (r := 113) (p_aload_n 0 dX1_quantifier_41) (seq (p := 42) (q := 45) (r := 113) (p_callV 1 cv_X1_249 hcR1 (M_X1_here l δ) (Nat.le_of_ble_eq_true rfl) dX1_quantifier_42) (seq (p := 45) (q := 47) (r := 113) (p_bipush 97 dX1_quantifier_45 (by decide)) (seq (p := 47) (q := 49) (r := 113) (p_bipush 104 dX1_quantifier_47 (by decide)) (seq (p := 49) (q := 52) (r := 113) (p_callS cs_X1_133 (M_X1_in l δ) (Nat.le_of_ble_eq_true rfl) dX1_quantifier_49) (seq (p := 52) (q := 64) (r := 113) (blk (seq (p := 52) (q := 55) (r := 64) (p_if_ne 64 dX1_quantifier_52 (by decide)) (seq (p := 55) (q := 56) (r := 64) (p_aload_n 0 dX1_quantifier_55) (seq (p := 56) (q := 57) (r := 64) (p_aload_n 0 dX1_quantifier_56) (seq (p := 57) (q := 60) (r := 64) (p_get [(1, 36)] (alL1 fl_X1_237_1) dX1_quantifier_57) (seq (p := 60) (q := 63) (r := 64) (p_put [(1, 37)] .int (alP1 fp_X1_256_1) dX1_quantifier_60) (seq (p := 63) (q := 64) (r := 64) (p_return dX1_quantifier_63 rfl) done))))))) (seq (p := 64) (q := 65) (r := 113) (p_aload_n 0 dX1_quantifier_64) (seq (p := 65) (q := 66) (r := 113) (p_iload_n 1 dX1_quantifier_65) (seq (p := 66) (q := 67) (r := 113) (p_aload_n 0 dX1_quantifier_66) (seq (p := 67) (q := 70) (r := 113) (p_get [(1, 34)] (alL1 fl_X1_253_1) dX1_quantifier_67) (seq (p := 70) (q := 71) (r := 113) (p_iconst 0 dX1_quantifier_70) (seq (p := 71) (q := 74) (r := 113) (p_callV 1 cv_X1_262 hcR1 (M_X1_emit l δ) (Nat.le_of_ble_eq_true rfl) dX1_quantifier_71) (seq (p := 74) (q := 75) (r := 113) (p_aload_n 0 dX1_quantifier_74) (seq (p := 75) (q := 78) (r := 113) (p_get [(1, 35)] (alL1 fl_X1_74_1) dX1_quantifier_75) (seq (p := 78) (q := 79) (r := 113) (p_aload_n 0 dX1_quantifier_78) (seq (p := 79) (q := 82) (r := 113) (p_get [(1, 34)] (alL1 fl_X1_253_1) dX1_quantifier_79) (seq (p := 82) (q := 83) (r := 113) (p_aload_n 0 dX1_quantifier_82) (seq (p := 83) (q := 86) (r := 113) (p_callV 1 cv_X1_249 hcR1 (M_X1_here l δ) (Nat.le_of_ble_eq_true rfl) dX1_quantifier_83) (seq (p := 86) (q := 87) (r := 113) (p_iast dX1_quantifier_86) (seq (p := 87) (q := 88) (r := 113) (p_aload_n 0 dX1_quantifier_87) (seq (p := 88) (q := 89) (r := 113) (p_dup dX1_quantifier_88) (seq (p := 89) (q := 92) (r := 113) (p_get [(1, 34)] (alL1 fl_X1_253_1) dX1_quantifier_89) (seq (p := 92) (q := 93) (r := 113) (p_iconst 1 dX1_quantifier_92) (seq (p := 93) (q := 94) (r := 113) (p_iadd dX1_quantifier_93) (seq (p := 94) (q := 97) (r := 113) (p_put [(1, 34)] .int (alP1 fp_X1_253_1) dX1_quantifier_94) (seq (p := 97) (q := 98) (r := 113) (p_aload_n 0 dX1_quantifier_97) (seq (p := 98) (q := 99) (r := 113) (p_iload_n 1 dX1_quantifier_98) (seq (p := 99) (q := 102) (r := 113) (p_callV 1 cv_X1_268 hcR1 (M_X1_openNode l δ) (Nat.le_of_ble_eq_true rfl) dX1_quantifier_99) (seq (p := 102) (q := 103) (r := 113) (p_aload_n 0 dX1_quantifier_102) (seq (p := 103) (q := 104) (r := 113) (p_dup dX1_quantifier_103) (seq (p := 104) (q := 107) (r := 113) (p_get [(1, 36)] (alL1 fl_X1_237_1) dX1_quantifier_104) (seq (p := 107) (q := 108) (r := 113) (p_iconst 1 dX1_quantifier_107) (seq (p := 108) (q := 109) (r := 113) (p_iadd dX1_quantifier_108) (seq (p := 109) (q := 112) (r := 113) (p_put [(1, 36)] .int (alP1 fp_X1_237_1) dX1_quantifier_109) (seq (p := 112) (q := 113) (r := 113) (p_return dX1_quantifier_112 rfl) done))))))))))))))))))))))))))))))))))))))))))))))
noncomputable def M_X1_quantifier (l : Launch) (δ : Dl) : Mth l δ yX1_quantifier cX1_quantifier 2 none 1 := mk (B_X1_quantifier l δ) (by decide)
theorem N_X1_quantifier {l : Launch} {δ : Dl} {o : Nat} {a1 : Int} {s : St} : (M_X1_quantifier l δ).1 [.inr (.inr (some o)), .inl a1] s = bres ((B_X1_quantifier l δ).1 [] [some (.inr (.inr (some o))), some (.inl a1)] s) := (mk_eq (hy := by decide) rfl).trans (nrfl rfl)
theorem dX1_beginPart_0 : decode cX1_beginPart 0 = .ok (.aload_n 0, 1) := by decide +kernel
theorem dX1_beginPart_1 : decode cX1_beginPart 1 = .ok (.invokevirtual 249, 3) := by decide +kernel
theorem dX1_beginPart_4 : decode cX1_beginPart 4 = .ok (.lookupswitch 229 #[(40, 92), (45, 92), (61, 202), (63, 168), (64, 161), (65, 175), (66, 184), (69, 193), (70, 220), (84, 211)], 92) := by decide +kernel
theorem dX1_beginPart_96 : decode cX1_beginPart 96 = .ok (.aload_n 0, 1) := by decide +kernel
theorem dX1_beginPart_97 : decode cX1_beginPart 97 = .ok (.getfield 243, 3) := by decide +kernel
theorem dX1_beginPart_100 : decode cX1_beginPart 100 = .ok (.bipush 12, 2) := by decide +kernel
theorem dX1_beginPart_102 : decode cX1_beginPart 102 = .ok (.if_icmp .ne 13, 3) := by decide +kernel
theorem dX1_beginPart_105 : decode cX1_beginPart 105 = .ok (.aload_n 0, 1) := by decide +kernel
theorem dX1_beginPart_106 : decode cX1_beginPart 106 = .ok (.aload_n 0, 1) := by decide +kernel
theorem dX1_beginPart_107 : decode cX1_beginPart 107 = .ok (.getfield 237, 3) := by decide +kernel
theorem dX1_beginPart_110 : decode cX1_beginPart 110 = .ok (.putfield 256, 3) := by decide +kernel
theorem dX1_beginPart_113 : decode cX1_beginPart 113 = .ok (.iconst 0, 1) := by decide +kernel
theorem dX1_beginPart_114 : decode cX1_beginPart 114 = .ok (.ireturn, 1) := by decide +kernel
theorem dX1_beginPart_115 : decode cX1_beginPart 115 = .ok (.aload_n 0, 1) := by decide +kernel
theorem dX1_beginPart_116 : decode cX1_beginPart 116 = .ok (.invokevirtual 249, 3) := by decide +kernel
theorem dX1_beginPart_119 : decode cX1_beginPart 119 = .ok (.bipush 45, 2) := by decide +kernel
theorem dX1_beginPart_121 : decode cX1_beginPart 121 = .ok (.if_icmp .ne 18, 3) := by decide +kernel
theorem dX1_beginPart_124 : decode cX1_beginPart 124 = .ok (.aload_n 0, 1) := by decide +kernel
theorem dX1_beginPart_125 : decode cX1_beginPart 125 = .ok (.iconst 1, 1) := by decide +kernel
theorem dX1_beginPart_126 : decode cX1_beginPart 126 = .ok (.iconst 0, 1) := by decide +kernel
theorem dX1_beginPart_127 : decode cX1_beginPart 127 = .ok (.iconst 0, 1) := by decide +kernel
theorem dX1_beginPart_128 : decode cX1_beginPart 128 = .ok (.invokevirtual 262, 3) := by decide +kernel
theorem dX1_beginPart_131 : decode cX1_beginPart 131 = .ok (.aload_n 0, 1) := by decide +kernel
theorem dX1_beginPart_132 : decode cX1_beginPart 132 = .ok (.iconst 1, 1) := by decide +kernel
theorem dX1_beginPart_133 : decode cX1_beginPart 133 = .ok (.invokevirtual 268, 3) := by decide +kernel
theorem dX1_beginPart_136 : decode cX1_beginPart 136 = .ok (.goto 17, 3) := by decide +kernel
theorem dX1_beginPart_139 : decode cX1_beginPart 139 = .ok (.aload_n 0, 1) := by decide +kernel
theorem dX1_beginPart_140 : decode cX1_beginPart 140 = .ok (.dup, 1) := by decide +kernel
theorem dX1_beginPart_141 : decode cX1_beginPart 141 = .ok (.getfield 243, 3) := by decide +kernel
theorem dX1_beginPart_144 : decode cX1_beginPart 144 = .ok (.iconst 1, 1) := by decide +kernel
theorem dX1_beginPart_145 : decode cX1_beginPart 145 = .ok (.iadd, 1) := by decide +kernel
theorem dX1_beginPart_146 : decode cX1_beginPart 146 = .ok (.putfield 243, 3) := by decide +kernel
theorem dX1_beginPart_149 : decode cX1_beginPart 149 = .ok (.aload_n 0, 1) := by decide +kernel
theorem dX1_beginPart_150 : decode cX1_beginPart 150 = .ok (.invokevirtual 272, 3) := by decide +kernel
theorem dX1_beginPart_153 : decode cX1_beginPart 153 = .ok (.aload_n 0, 1) := by decide +kernel
theorem dX1_beginPart_154 : decode cX1_beginPart 154 = .ok (.dup, 1) := by decide +kernel
theorem dX1_beginPart_155 : decode cX1_beginPart 155 = .ok (.getfield 237, 3) := by decide +kernel
theorem dX1_beginPart_158 : decode cX1_beginPart 158 = .ok (.iconst 1, 1) := by decide +kernel
theorem dX1_beginPart_159 : decode cX1_beginPart 159 = .ok (.iadd, 1) := by decide +kernel
theorem dX1_beginPart_160 : decode cX1_beginPart 160 = .ok (.putfield 237, 3) := by decide +kernel
theorem dX1_beginPart_163 : decode cX1_beginPart 163 = .ok (.iconst 0, 1) := by decide +kernel
theorem dX1_beginPart_164 : decode cX1_beginPart 164 = .ok (.ireturn, 1) := by decide +kernel
theorem dX1_beginPart_165 : decode cX1_beginPart 165 = .ok (.aload_n 0, 1) := by decide +kernel
theorem dX1_beginPart_166 : decode cX1_beginPart 166 = .ok (.iconst 2, 1) := by decide +kernel
theorem dX1_beginPart_167 : decode cX1_beginPart 167 = .ok (.invokevirtual 275, 3) := by decide +kernel
theorem dX1_beginPart_170 : decode cX1_beginPart 170 = .ok (.iconst 0, 1) := by decide +kernel
theorem dX1_beginPart_171 : decode cX1_beginPart 171 = .ok (.ireturn, 1) := by decide +kernel
theorem dX1_beginPart_172 : decode cX1_beginPart 172 = .ok (.aload_n 0, 1) := by decide +kernel
theorem dX1_beginPart_173 : decode cX1_beginPart 173 = .ok (.iconst 3, 1) := by decide +kernel
theorem dX1_beginPart_174 : decode cX1_beginPart 174 = .ok (.invokevirtual 275, 3) := by decide +kernel
theorem dX1_beginPart_177 : decode cX1_beginPart 177 = .ok (.iconst 0, 1) := by decide +kernel
theorem dX1_beginPart_178 : decode cX1_beginPart 178 = .ok (.ireturn, 1) := by decide +kernel
theorem dX1_beginPart_179 : decode cX1_beginPart 179 = .ok (.aload_n 0, 1) := by decide +kernel
theorem dX1_beginPart_180 : decode cX1_beginPart 180 = .ok (.bipush 6, 2) := by decide +kernel
theorem dX1_beginPart_182 : decode cX1_beginPart 182 = .ok (.iconst 1, 1) := by decide +kernel
theorem dX1_beginPart_183 : decode cX1_beginPart 183 = .ok (.invokevirtual 278, 3) := by decide +kernel
theorem dX1_beginPart_186 : decode cX1_beginPart 186 = .ok (.iconst 1, 1) := by decide +kernel
theorem dX1_beginPart_187 : decode cX1_beginPart 187 = .ok (.ireturn, 1) := by decide +kernel
theorem dX1_beginPart_188 : decode cX1_beginPart 188 = .ok (.aload_n 0, 1) := by decide +kernel
theorem dX1_beginPart_189 : decode cX1_beginPart 189 = .ok (.bipush 7, 2) := by decide +kernel
theorem dX1_beginPart_191 : decode cX1_beginPart 191 = .ok (.iconst 1, 1) := by decide +kernel
theorem dX1_beginPart_192 : decode cX1_beginPart 192 = .ok (.invokevirtual 278, 3) := by decide +kernel
theorem dX1_beginPart_195 : decode cX1_beginPart 195 = .ok (.iconst 1, 1) := by decide +kernel
theorem dX1_beginPart_196 : decode cX1_beginPart 196 = .ok (.ireturn, 1) := by decide +kernel
theorem dX1_beginPart_197 : decode cX1_beginPart 197 = .ok (.aload_n 0, 1) := by decide +kernel
theorem dX1_beginPart_198 : decode cX1_beginPart 198 = .ok (.bipush 8, 2) := by decide +kernel
theorem dX1_beginPart_200 : decode cX1_beginPart 200 = .ok (.iconst 2, 1) := by decide +kernel
theorem dX1_beginPart_201 : decode cX1_beginPart 201 = .ok (.invokevirtual 278, 3) := by decide +kernel
theorem dX1_beginPart_204 : decode cX1_beginPart 204 = .ok (.iconst 1, 1) := by decide +kernel
theorem dX1_beginPart_205 : decode cX1_beginPart 205 = .ok (.ireturn, 1) := by decide +kernel
theorem dX1_beginPart_206 : decode cX1_beginPart 206 = .ok (.aload_n 0, 1) := by decide +kernel
theorem dX1_beginPart_207 : decode cX1_beginPart 207 = .ok (.bipush 9, 2) := by decide +kernel
theorem dX1_beginPart_209 : decode cX1_beginPart 209 = .ok (.iconst 2, 1) := by decide +kernel
theorem dX1_beginPart_210 : decode cX1_beginPart 210 = .ok (.invokevirtual 278, 3) := by decide +kernel
theorem dX1_beginPart_213 : decode cX1_beginPart 213 = .ok (.iconst 1, 1) := by decide +kernel
theorem dX1_beginPart_214 : decode cX1_beginPart 214 = .ok (.ireturn, 1) := by decide +kernel
theorem dX1_beginPart_215 : decode cX1_beginPart 215 = .ok (.aload_n 0, 1) := by decide +kernel
theorem dX1_beginPart_216 : decode cX1_beginPart 216 = .ok (.bipush 10, 2) := by decide +kernel
theorem dX1_beginPart_218 : decode cX1_beginPart 218 = .ok (.iconst 0, 1) := by decide +kernel
theorem dX1_beginPart_219 : decode cX1_beginPart 219 = .ok (.invokevirtual 278, 3) := by decide +kernel
theorem dX1_beginPart_222 : decode cX1_beginPart 222 = .ok (.iconst 1, 1) := by decide +kernel
theorem dX1_beginPart_223 : decode cX1_beginPart 223 = .ok (.ireturn, 1) := by decide +kernel
theorem dX1_beginPart_224 : decode cX1_beginPart 224 = .ok (.aload_n 0, 1) := by decide +kernel
theorem dX1_beginPart_225 : decode cX1_beginPart 225 = .ok (.bipush 11, 2) := by decide +kernel
theorem dX1_beginPart_227 : decode cX1_beginPart 227 = .ok (.iconst 0, 1) := by decide +kernel
theorem dX1_beginPart_228 : decode cX1_beginPart 228 = .ok (.invokevirtual 278, 3) := by decide +kernel
theorem dX1_beginPart_231 : decode cX1_beginPart 231 = .ok (.iconst 1, 1) := by decide +kernel
theorem dX1_beginPart_232 : decode cX1_beginPart 232 = .ok (.ireturn, 1) := by decide +kernel
theorem dX1_beginPart_233 : decode cX1_beginPart 233 = .ok (.aload_n 0, 1) := by decide +kernel
theorem dX1_beginPart_234 : decode cX1_beginPart 234 = .ok (.aload_n 0, 1) := by decide +kernel
theorem dX1_beginPart_235 : decode cX1_beginPart 235 = .ok (.getfield 237, 3) := by decide +kernel
theorem dX1_beginPart_238 : decode cX1_beginPart 238 = .ok (.putfield 256, 3) := by decide +kernel
theorem dX1_beginPart_241 : decode cX1_beginPart 241 = .ok (.iconst 0, 1) := by decide +kernel
theorem dX1_beginPart_242 : decode cX1_beginPart 242 = .ok (.ireturn, 1) := by decide +kernel
noncomputable def B_X1_beginPart (l : Launch) (δ : Dl) : Seg (l, δ, yX1_beginPart, 3, (some .boolean), cX1_beginPart, 1) 0 243 :=
  seq (p := 0) (q := 1) (r := 243) (p_aload_n 0 dX1_beginPart_0) (seq (p := 1) (q := 4) (r := 243) (p_callV 1 cv_X1_249 hcR1 (M_X1_here l δ) (Nat.le_of_ble_eq_true rfl) dX1_beginPart_1) (seq (p := 4) (q := 233) (r := 243) (blk (seq (p := 4) (q := 224) (r := 233) (blk (seq (p := 4) (q := 215) (r := 224) (blk (seq (p := 4) (q := 206) (r := 215) (blk (seq (p := 4) (q := 197) (r := 206) (blk (seq (p := 4) (q := 188) (r := 197) (blk (seq (p := 4) (q := 179) (r := 188) (blk (seq (p := 4) (q := 172) (r := 179) (blk (seq (p := 4) (q := 165) (r := 172) (blk (seq (p := 4) (q := 96) (r := 165) (blk (seq (p := 4) (q := 96) (r := 96) (p_lookup (len := 92) dX1_beginPart_4 (by decide)) done)) (seq (p := 96) (q := 97) (r := 165) (p_aload_n 0 dX1_beginPart_96) (seq (p := 97) (q := 100) (r := 165) (p_get [(1, 33)] (alL1 fl_X1_243_1) dX1_beginPart_97) (seq (p := 100) (q := 102) (r := 165) (p_bipush 12 dX1_beginPart_100 (by decide)) (seq (p := 102) (q := 115) (r := 165) (blk (seq (p := 102) (q := 105) (r := 115) (p_icmp_ne 115 dX1_beginPart_102 (by decide)) (seq (p := 105) (q := 106) (r := 115) (p_aload_n 0 dX1_beginPart_105) (seq (p := 106) (q := 107) (r := 115) (p_aload_n 0 dX1_beginPart_106) (seq (p := 107) (q := 110) (r := 115) (p_get [(1, 36)] (alL1 fl_X1_237_1) dX1_beginPart_107) (seq (p := 110) (q := 113) (r := 115) (p_put [(1, 37)] .int (alP1 fp_X1_256_1) dX1_beginPart_110) (seq (p := 113) (q := 114) (r := 115) (p_iconst 0 dX1_beginPart_113) (seq (p := 114) (q := 115) (r := 115) (p_zreturn dX1_beginPart_114 rfl) done)))))))) (seq (p := 115) (q := 116) (r := 165) (p_aload_n 0 dX1_beginPart_115) (seq (p := 116) (q := 119) (r := 165) (p_callV 1 cv_X1_249 hcR1 (M_X1_here l δ) (Nat.le_of_ble_eq_true rfl) dX1_beginPart_116) (seq (p := 119) (q := 121) (r := 165) (p_bipush 45 dX1_beginPart_119 (by decide)) (seq (p := 121) (q := 153) (r := 165) (blk (seq (p := 121) (q := 139) (r := 153) (blk (seq (p := 121) (q := 124) (r := 139) (p_icmp_ne 139 dX1_beginPart_121 (by decide)) (seq (p := 124) (q := 125) (r := 139) (p_aload_n 0 dX1_beginPart_124) (seq (p := 125) (q := 126) (r := 139) (p_iconst 1 dX1_beginPart_125) (seq (p := 126) (q := 127) (r := 139) (p_iconst 0 dX1_beginPart_126) (seq (p := 127) (q := 128) (r := 139) (p_iconst 0 dX1_beginPart_127) (seq (p := 128) (q := 131) (r := 139) (p_callV 1 cv_X1_262 hcR1 (M_X1_emit l δ) (Nat.le_of_ble_eq_true rfl) dX1_beginPart_128) (seq (p := 131) (q := 132) (r := 139) (p_aload_n 0 dX1_beginPart_131) (seq (p := 132) (q := 133) (r := 139) (p_iconst 1 dX1_beginPart_132) (seq (p := 133) (q := 136) (r := 139) (p_callV 1 cv_X1_268 hcR1 (M_X1_openNode l δ) (Nat.le_of_ble_eq_true rfl) dX1_beginPart_133) (seq (p := 136) (q := 139) (r := 139) (p_goto 153 dX1_beginPart_136 (by decide)) done))))))))))) (seq (p := 139) (q := 140) (r := 153) (p_aload_n 0 dX1_beginPart_139) (seq (p := 140) (q := 141) (r := 153) (p_dup dX1_beginPart_140) (seq (p := 141) (q := 144) (r := 153) (p_get [(1, 33)] (alL1 fl_X1_243_1) dX1_beginPart_141) (seq (p := 144) (q := 145) (r := 153) (p_iconst 1 dX1_beginPart_144) (seq (p := 145) (q := 146) (r := 153) (p_iadd dX1_beginPart_145) (seq (p := 146) (q := 149) (r := 153) (p_put [(1, 33)] .int (alP1 fp_X1_243_1) dX1_beginPart_146) (seq (p := 149) (q := 150) (r := 153) (p_aload_n 0 dX1_beginPart_149) (seq (p := 150) (q := 153) (r := 153) (p_callV 1 cv_X1_272 hcR1 (M_X1_openFormula l δ) (Nat.le_of_ble_eq_true rfl) dX1_beginPart_150) done)))))))))) (seq (p := 153) (q := 154) (r := 165) (p_aload_n 0 dX1_beginPart_153) (seq (p := 154) (q := 155) (r := 165) (p_dup dX1_beginPart_154) (seq (p := 155) (q := 158) (r := 165) (p_get [(1, 36)] (alL1 fl_X1_237_1) dX1_beginPart_155) (seq (p := 158) (q := 159) (r := 165) (p_iconst 1 dX1_beginPart_158) (seq (p := 159) (q := 160) (r := 165) (p_iadd dX1_beginPart_159) (seq (p := 160) (q := 163) (r := 165) (p_put [(1, 36)] .int (alP1 fp_X1_237_1) dX1_beginPart_160) (seq (p := 163) (q := 164) (r := 165) (p_iconst 0 dX1_beginPart_163) (seq (p := 164) (q := 165) (r := 165) (p_zreturn dX1_beginPart_164 rfl) done)))))))))))))))))) (seq (p := 165) (q := 166) (r := 172) (p_aload_n 0 dX1_beginPart_165) (seq (p := 166) (q := 167) (r := 172) (p_iconst 2 dX1_beginPart_166) (seq (p := 167) (q := 170) (r := 172) (p_callV 1 cv_X1_275 hcR1 (M_X1_quantifier l δ) (Nat.le_of_ble_eq_true rfl) dX1_beginPart_167) (seq (p := 170) (q := 171) (r := 172) (p_iconst 0 dX1_beginPart_170) (seq (p := 171) (q := 172) (r := 172) (p_zreturn dX1_beginPart_171 rfl) done))))))) (seq (p := 172) (q := 173) (r := 179) (p_aload_n 0 dX1_beginPart_172) (seq (p := 173) (q := 174) (r := 179) (p_iconst 3 dX1_beginPart_173) (seq (p := 174) (q := 177) (r := 179) (p_callV 1 cv_X1_275 hcR1 (M_X1_quantifier l δ) (Nat.le_of_ble_eq_true rfl) dX1_beginPart_174) (seq (p := 177) (q := 178) (r := 179) (p_iconst 0 dX1_beginPart_177) (seq (p := 178) (q := 179) (r := 179) (p_zreturn dX1_beginPart_178 rfl) done))))))) (seq (p := 179) (q := 180) (r := 188) (p_aload_n 0 dX1_beginPart_179) (seq (p := 180) (q := 182) (r := 188) (p_bipush 6 dX1_beginPart_180 (by decide)) (seq (p := 182) (q := 183) (r := 188) (p_iconst 1 dX1_beginPart_182) (seq (p := 183) (q := 186) (r := 188) (p_callV 1 cv_X1_278 hcR1 (M_X1_atom l δ) (Nat.le_of_ble_eq_true rfl) dX1_beginPart_183) (seq (p := 186) (q := 187) (r := 188) (p_iconst 1 dX1_beginPart_186) (seq (p := 187) (q := 188) (r := 188) (p_zreturn dX1_beginPart_187 rfl) done)))))))) (seq (p := 188) (q := 189) (r := 197) (p_aload_n 0 dX1_beginPart_188) (seq (p := 189) (q := 191) (r := 197) (p_bipush 7 dX1_beginPart_189 (by decide)) (seq (p := 191) (q := 192) (r := 197) (p_iconst 1 dX1_beginPart_191) (seq (p := 192) (q := 195) (r := 197) (p_callV 1 cv_X1_278 hcR1 (M_X1_atom l δ) (Nat.le_of_ble_eq_true rfl) dX1_beginPart_192) (seq (p := 195) (q := 196) (r := 197) (p_iconst 1 dX1_beginPart_195) (seq (p := 196) (q := 197) (r := 197) (p_zreturn dX1_beginPart_196 rfl) done)))))))) (seq (p := 197) (q := 198) (r := 206) (p_aload_n 0 dX1_beginPart_197) (seq (p := 198) (q := 200) (r := 206) (p_bipush 8 dX1_beginPart_198 (by decide)) (seq (p := 200) (q := 201) (r := 206) (p_iconst 2 dX1_beginPart_200) (seq (p := 201) (q := 204) (r := 206) (p_callV 1 cv_X1_278 hcR1 (M_X1_atom l δ) (Nat.le_of_ble_eq_true rfl) dX1_beginPart_201) (seq (p := 204) (q := 205) (r := 206) (p_iconst 1 dX1_beginPart_204) (seq (p := 205) (q := 206) (r := 206) (p_zreturn dX1_beginPart_205 rfl) done)))))))) (seq (p := 206) (q := 207) (r := 215) (p_aload_n 0 dX1_beginPart_206) (seq (p := 207) (q := 209) (r := 215) (p_bipush 9 dX1_beginPart_207 (by decide)) (seq (p := 209) (q := 210) (r := 215) (p_iconst 2 dX1_beginPart_209) (seq (p := 210) (q := 213) (r := 215) (p_callV 1 cv_X1_278 hcR1 (M_X1_atom l δ) (Nat.le_of_ble_eq_true rfl) dX1_beginPart_210) (seq (p := 213) (q := 214) (r := 215) (p_iconst 1 dX1_beginPart_213) (seq (p := 214) (q := 215) (r := 215) (p_zreturn dX1_beginPart_214 rfl) done)))))))) (seq (p := 215) (q := 216) (r := 224) (p_aload_n 0 dX1_beginPart_215) (seq (p := 216) (q := 218) (r := 224) (p_bipush 10 dX1_beginPart_216 (by decide)) (seq (p := 218) (q := 219) (r := 224) (p_iconst 0 dX1_beginPart_218) (seq (p := 219) (q := 222) (r := 224) (p_callV 1 cv_X1_278 hcR1 (M_X1_atom l δ) (Nat.le_of_ble_eq_true rfl) dX1_beginPart_219) (seq (p := 222) (q := 223) (r := 224) (p_iconst 1 dX1_beginPart_222) (seq (p := 223) (q := 224) (r := 224) (p_zreturn dX1_beginPart_223 rfl) done)))))))) (seq (p := 224) (q := 225) (r := 233) (p_aload_n 0 dX1_beginPart_224) (seq (p := 225) (q := 227) (r := 233) (p_bipush 11 dX1_beginPart_225 (by decide)) (seq (p := 227) (q := 228) (r := 233) (p_iconst 0 dX1_beginPart_227) (seq (p := 228) (q := 231) (r := 233) (p_callV 1 cv_X1_278 hcR1 (M_X1_atom l δ) (Nat.le_of_ble_eq_true rfl) dX1_beginPart_228) (seq (p := 231) (q := 232) (r := 233) (p_iconst 1 dX1_beginPart_231) (seq (p := 232) (q := 233) (r := 233) (p_zreturn dX1_beginPart_232 rfl) done)))))))) (seq (p := 233) (q := 234) (r := 243) (p_aload_n 0 dX1_beginPart_233) (seq (p := 234) (q := 235) (r := 243) (p_aload_n 0 dX1_beginPart_234) (seq (p := 235) (q := 238) (r := 243) (p_get [(1, 36)] (alL1 fl_X1_237_1) dX1_beginPart_235) (seq (p := 238) (q := 241) (r := 243) (p_put [(1, 37)] .int (alP1 fp_X1_256_1) dX1_beginPart_238) (seq (p := 241) (q := 242) (r := 243) (p_iconst 0 dX1_beginPart_241) (seq (p := 242) (q := 243) (r := 243) (p_zreturn dX1_beginPart_242 rfl) done))))))))
noncomputable def M_X1_beginPart (l : Launch) (δ : Dl) : Mth l δ yX1_beginPart cX1_beginPart 1 (some .boolean) 3 := mk (B_X1_beginPart l δ) (by decide)
theorem N_X1_beginPart {l : Launch} {δ : Dl} {o : Nat} {s : St} : (M_X1_beginPart l δ).1 [.inr (.inr (some o))] s = bres ((B_X1_beginPart l δ).1 [] [some (.inr (.inr (some o)))] s) := (mk_eq (hy := by decide) rfl).trans (nrfl rfl)
theorem dX1_insert_0 : decode cX1_insert 0 = .ok (.aload_n 0, 1) := by decide +kernel
theorem dX1_insert_1 : decode cX1_insert 1 = .ok (.getfield 234, 3) := by decide +kernel
theorem dX1_insert_4 : decode cX1_insert 4 = .ok (.istore_n 3, 1) := by decide +kernel
theorem dX1_insert_5 : decode cX1_insert 5 = .ok (.iload_n 3, 1) := by decide +kernel
theorem dX1_insert_6 : decode cX1_insert 6 = .ok (.iload_n 1, 1) := by decide +kernel
theorem dX1_insert_7 : decode cX1_insert 7 = .ok (.if_icmp .le 51, 3) := by decide +kernel
theorem dX1_insert_10 : decode cX1_insert 10 = .ok (.aload_n 0, 1) := by decide +kernel
theorem dX1_insert_11 : decode cX1_insert 11 = .ok (.getfield 53, 3) := by decide +kernel
theorem dX1_insert_14 : decode cX1_insert 14 = .ok (.iload_n 3, 1) := by decide +kernel
theorem dX1_insert_15 : decode cX1_insert 15 = .ok (.aload_n 0, 1) := by decide +kernel
theorem dX1_insert_16 : decode cX1_insert 16 = .ok (.getfield 53, 3) := by decide +kernel
theorem dX1_insert_19 : decode cX1_insert 19 = .ok (.iload_n 3, 1) := by decide +kernel
theorem dX1_insert_20 : decode cX1_insert 20 = .ok (.iconst 1, 1) := by decide +kernel
theorem dX1_insert_21 : decode cX1_insert 21 = .ok (.isub, 1) := by decide +kernel
theorem dX1_insert_22 : decode cX1_insert 22 = .ok (.baload, 1) := by decide +kernel
theorem dX1_insert_23 : decode cX1_insert 23 = .ok (.bastore, 1) := by decide +kernel
theorem dX1_insert_24 : decode cX1_insert 24 = .ok (.aload_n 0, 1) := by decide +kernel
theorem dX1_insert_25 : decode cX1_insert 25 = .ok (.getfield 56, 3) := by decide +kernel
theorem dX1_insert_28 : decode cX1_insert 28 = .ok (.iload_n 3, 1) := by decide +kernel
theorem dX1_insert_29 : decode cX1_insert 29 = .ok (.aload_n 0, 1) := by decide +kernel
theorem dX1_insert_30 : decode cX1_insert 30 = .ok (.getfield 56, 3) := by decide +kernel
theorem dX1_insert_33 : decode cX1_insert 33 = .ok (.iload_n 3, 1) := by decide +kernel
theorem dX1_insert_34 : decode cX1_insert 34 = .ok (.iconst 1, 1) := by decide +kernel
theorem dX1_insert_35 : decode cX1_insert 35 = .ok (.isub, 1) := by decide +kernel
theorem dX1_insert_36 : decode cX1_insert 36 = .ok (.iaload, 1) := by decide +kernel
theorem dX1_insert_37 : decode cX1_insert 37 = .ok (.iastore, 1) := by decide +kernel
theorem dX1_insert_38 : decode cX1_insert 38 = .ok (.aload_n 0, 1) := by decide +kernel
theorem dX1_insert_39 : decode cX1_insert 39 = .ok (.getfield 59, 3) := by decide +kernel
theorem dX1_insert_42 : decode cX1_insert 42 = .ok (.iload_n 3, 1) := by decide +kernel
theorem dX1_insert_43 : decode cX1_insert 43 = .ok (.aload_n 0, 1) := by decide +kernel
theorem dX1_insert_44 : decode cX1_insert 44 = .ok (.getfield 59, 3) := by decide +kernel
theorem dX1_insert_47 : decode cX1_insert 47 = .ok (.iload_n 3, 1) := by decide +kernel
theorem dX1_insert_48 : decode cX1_insert 48 = .ok (.iconst 1, 1) := by decide +kernel
theorem dX1_insert_49 : decode cX1_insert 49 = .ok (.isub, 1) := by decide +kernel
theorem dX1_insert_50 : decode cX1_insert 50 = .ok (.baload, 1) := by decide +kernel
theorem dX1_insert_51 : decode cX1_insert 51 = .ok (.bastore, 1) := by decide +kernel
theorem dX1_insert_52 : decode cX1_insert 52 = .ok (.iinc 3 (-1), 3) := by decide +kernel
theorem dX1_insert_55 : decode cX1_insert 55 = .ok (.goto (-50), 3) := by decide +kernel
theorem dX1_insert_58 : decode cX1_insert 58 = .ok (.aload_n 0, 1) := by decide +kernel
theorem dX1_insert_59 : decode cX1_insert 59 = .ok (.getfield 53, 3) := by decide +kernel
theorem dX1_insert_62 : decode cX1_insert 62 = .ok (.iload_n 1, 1) := by decide +kernel
theorem dX1_insert_63 : decode cX1_insert 63 = .ok (.iload_n 2, 1) := by decide +kernel
theorem dX1_insert_64 : decode cX1_insert 64 = .ok (.i2b, 1) := by decide +kernel
theorem dX1_insert_65 : decode cX1_insert 65 = .ok (.bastore, 1) := by decide +kernel
theorem dX1_insert_66 : decode cX1_insert 66 = .ok (.aload_n 0, 1) := by decide +kernel
theorem dX1_insert_67 : decode cX1_insert 67 = .ok (.getfield 56, 3) := by decide +kernel
theorem dX1_insert_70 : decode cX1_insert 70 = .ok (.iload_n 1, 1) := by decide +kernel
theorem dX1_insert_71 : decode cX1_insert 71 = .ok (.iconst 0, 1) := by decide +kernel
theorem dX1_insert_72 : decode cX1_insert 72 = .ok (.iastore, 1) := by decide +kernel
theorem dX1_insert_73 : decode cX1_insert 73 = .ok (.aload_n 0, 1) := by decide +kernel
theorem dX1_insert_74 : decode cX1_insert 74 = .ok (.getfield 59, 3) := by decide +kernel
theorem dX1_insert_77 : decode cX1_insert 77 = .ok (.iload_n 1, 1) := by decide +kernel
theorem dX1_insert_78 : decode cX1_insert 78 = .ok (.iconst 0, 1) := by decide +kernel
theorem dX1_insert_79 : decode cX1_insert 79 = .ok (.bastore, 1) := by decide +kernel
theorem dX1_insert_80 : decode cX1_insert 80 = .ok (.aload_n 0, 1) := by decide +kernel
theorem dX1_insert_81 : decode cX1_insert 81 = .ok (.dup, 1) := by decide +kernel
theorem dX1_insert_82 : decode cX1_insert 82 = .ok (.getfield 234, 3) := by decide +kernel
theorem dX1_insert_85 : decode cX1_insert 85 = .ok (.iconst 1, 1) := by decide +kernel
theorem dX1_insert_86 : decode cX1_insert 86 = .ok (.iadd, 1) := by decide +kernel
theorem dX1_insert_87 : decode cX1_insert 87 = .ok (.putfield 234, 3) := by decide +kernel
theorem dX1_insert_90 : decode cX1_insert 90 = .ok (.return_, 1) := by decide +kernel
noncomputable def C_X1_insert_L5 (l : Launch) (δ : Dl) : Seg (l, δ, yX1_insert, 0, none, cX1_insert, 4) 5 58 :=
  seq (p := 5) (q := 6) (r := 58) (p_iload_n 3 dX1_insert_5) (seq (p := 6) (q := 7) (r := 58) (p_iload_n 1 dX1_insert_6) (seq (p := 7) (q := 10) (r := 58) (p_icmp_le 58 dX1_insert_7 (by decide)) (seq (p := 10) (q := 11) (r := 58) (p_aload_n 0 dX1_insert_10) (seq (p := 11) (q := 14) (r := 58) (p_get [(1, 24)] (alL1 fl_X1_53_1) dX1_insert_11) (seq (p := 14) (q := 15) (r := 58) (p_iload_n 3 dX1_insert_14) (seq (p := 15) (q := 16) (r := 58) (p_aload_n 0 dX1_insert_15) (seq (p := 16) (q := 19) (r := 58) (p_get [(1, 24)] (alL1 fl_X1_53_1) dX1_insert_16) (seq (p := 19) (q := 20) (r := 58) (p_iload_n 3 dX1_insert_19) (seq (p := 20) (q := 21) (r := 58) (p_iconst 1 dX1_insert_20) (seq (p := 21) (q := 22) (r := 58) (p_isub dX1_insert_21) (seq (p := 22) (q := 23) (r := 58) (p_bald dX1_insert_22) (seq (p := 23) (q := 24) (r := 58) (p_bast dX1_insert_23) (seq (p := 24) (q := 25) (r := 58) (p_aload_n 0 dX1_insert_24) (seq (p := 25) (q := 28) (r := 58) (p_get [(1, 25)] (alL1 fl_X1_56_1) dX1_insert_25) (seq (p := 28) (q := 29) (r := 58) (p_iload_n 3 dX1_insert_28) (seq (p := 29) (q := 30) (r := 58) (p_aload_n 0 dX1_insert_29) (seq (p := 30) (q := 33) (r := 58) (p_get [(1, 25)] (alL1 fl_X1_56_1) dX1_insert_30) (seq (p := 33) (q := 34) (r := 58) (p_iload_n 3 dX1_insert_33) (seq (p := 34) (q := 35) (r := 58) (p_iconst 1 dX1_insert_34) (seq (p := 35) (q := 36) (r := 58) (p_isub dX1_insert_35) (seq (p := 36) (q := 37) (r := 58) (p_iald dX1_insert_36) (seq (p := 37) (q := 38) (r := 58) (p_iast dX1_insert_37) (seq (p := 38) (q := 39) (r := 58) (p_aload_n 0 dX1_insert_38) (seq (p := 39) (q := 42) (r := 58) (p_get [(1, 26)] (alL1 fl_X1_59_1) dX1_insert_39) (seq (p := 42) (q := 43) (r := 58) (p_iload_n 3 dX1_insert_42) (seq (p := 43) (q := 44) (r := 58) (p_aload_n 0 dX1_insert_43) (seq (p := 44) (q := 47) (r := 58) (p_get [(1, 26)] (alL1 fl_X1_59_1) dX1_insert_44) (seq (p := 47) (q := 48) (r := 58) (p_iload_n 3 dX1_insert_47) (seq (p := 48) (q := 49) (r := 58) (p_iconst 1 dX1_insert_48) (seq (p := 49) (q := 50) (r := 58) (p_isub dX1_insert_49) (seq (p := 50) (q := 51) (r := 58) (p_bald dX1_insert_50) (seq (p := 51) (q := 52) (r := 58) (p_bast dX1_insert_51) (seq (p := 52) (q := 55) (r := 58) (p_iinc 3 (-1) dX1_insert_52 (Nat.le_of_ble_eq_true rfl)) (seq (p := 55) (q := 55) (r := 58) (er [true, true, true, true]) (seq (p := 55) (q := 58) (r := 58) (p_goto 5 dX1_insert_55 (by decide)) done)))))))))))))))))))))))))))))))))))
noncomputable def B_X1_insert_L5 (l : Launch) (δ : Dl) : Seg (l, δ, yX1_insert, 0, none, cX1_insert, 4) 5 58 := C_X1_insert_L5 l δ
theorem L_X1_insert_5 {l : Launch} {δ : Dl} {st : Stk} {L : Lc} {s : St} : (B_X1_insert_L5 l δ).1 st L s = (C_X1_insert_L5 l δ).1 st L s := nrfl rfl
noncomputable def B_X1_insert (l : Launch) (δ : Dl) : Seg (l, δ, yX1_insert, 0, none, cX1_insert, 4) 0 91 :=
  seq (p := 0) (q := 1) (r := 91) (p_aload_n 0 dX1_insert_0) (seq (p := 1) (q := 4) (r := 91) (p_get [(1, 23)] (alL1 fl_X1_234_1) dX1_insert_1) (seq (p := 4) (q := 5) (r := 91) (p_istore_n 3 dX1_insert_4 (Nat.le_of_ble_eq_true rfl)) (seq (p := 5) (q := 58) (r := 91) (blk (seq (p := 5) (q := 5) (r := 58) (er [true, true, true, true]) (seq (p := 5) (q := 58) (r := 58) (lp (B_X1_insert_L5 l δ)) done))) (seq (p := 58) (q := 59) (r := 91) (p_aload_n 0 dX1_insert_58) (seq (p := 59) (q := 62) (r := 91) (p_get [(1, 24)] (alL1 fl_X1_53_1) dX1_insert_59) (seq (p := 62) (q := 63) (r := 91) (p_iload_n 1 dX1_insert_62) (seq (p := 63) (q := 64) (r := 91) (p_iload_n 2 dX1_insert_63) (seq (p := 64) (q := 65) (r := 91) (p_i2b dX1_insert_64) (seq (p := 65) (q := 66) (r := 91) (p_bast dX1_insert_65) (seq (p := 66) (q := 67) (r := 91) (p_aload_n 0 dX1_insert_66) (seq (p := 67) (q := 70) (r := 91) (p_get [(1, 25)] (alL1 fl_X1_56_1) dX1_insert_67) (seq (p := 70) (q := 71) (r := 91) (p_iload_n 1 dX1_insert_70) (seq (p := 71) (q := 72) (r := 91) (p_iconst 0 dX1_insert_71) (seq (p := 72) (q := 73) (r := 91) (p_iast dX1_insert_72) (seq (p := 73) (q := 74) (r := 91) (p_aload_n 0 dX1_insert_73) (seq (p := 74) (q := 77) (r := 91) (p_get [(1, 26)] (alL1 fl_X1_59_1) dX1_insert_74) (seq (p := 77) (q := 78) (r := 91) (p_iload_n 1 dX1_insert_77) (seq (p := 78) (q := 79) (r := 91) (p_iconst 0 dX1_insert_78) (seq (p := 79) (q := 80) (r := 91) (p_bast dX1_insert_79) (seq (p := 80) (q := 81) (r := 91) (p_aload_n 0 dX1_insert_80) (seq (p := 81) (q := 82) (r := 91) (p_dup dX1_insert_81) (seq (p := 82) (q := 85) (r := 91) (p_get [(1, 23)] (alL1 fl_X1_234_1) dX1_insert_82) (seq (p := 85) (q := 86) (r := 91) (p_iconst 1 dX1_insert_85) (seq (p := 86) (q := 87) (r := 91) (p_iadd dX1_insert_86) (seq (p := 87) (q := 90) (r := 91) (p_put [(1, 23)] .int (alP1 fp_X1_234_1) dX1_insert_87) (seq (p := 90) (q := 91) (r := 91) (p_return dX1_insert_90 rfl) done))))))))))))))))))))))))))
noncomputable def M_X1_insert (l : Launch) (δ : Dl) : Mth l δ yX1_insert cX1_insert 4 none 0 := mk (B_X1_insert l δ) (by decide)
theorem N_X1_insert {l : Launch} {δ : Dl} {o : Nat} {a1 : Int} {a2 : Int} {s : St} : (M_X1_insert l δ).1 [.inr (.inr (some o)), .inl a1, .inl a2] s = bres ((B_X1_insert l δ).1 [] [some (.inr (.inr (some o))), some (.inl a1), some (.inl a2), none] s) := (mk_eq (hy := by decide) rfl).trans (nrfl rfl)
theorem dX1_goOn_0 : decode cX1_goOn 0 = .ok (.aload_n 0, 1) := by decide +kernel
theorem dX1_goOn_1 : decode cX1_goOn 1 = .ok (.invokevirtual 249, 3) := by decide +kernel
theorem dX1_goOn_4 : decode cX1_goOn 4 = .ok (.istore_n 1, 1) := by decide +kernel
theorem dX1_goOn_5 : decode cX1_goOn 5 = .ok (.aload_n 0, 1) := by decide +kernel
theorem dX1_goOn_6 : decode cX1_goOn 6 = .ok (.getfield 240, 3) := by decide +kernel
theorem dX1_goOn_9 : decode cX1_goOn 9 = .ok (.iconst 1, 1) := by decide +kernel
theorem dX1_goOn_10 : decode cX1_goOn 10 = .ok (.isub, 1) := by decide +kernel
theorem dX1_goOn_11 : decode cX1_goOn 11 = .ok (.istore_n 2, 1) := by decide +kernel
theorem dX1_goOn_12 : decode cX1_goOn 12 = .ok (.iload_n 1, 1) := by decide +kernel
theorem dX1_goOn_13 : decode cX1_goOn 13 = .ok (.bipush 41, 2) := by decide +kernel
theorem dX1_goOn_15 : decode cX1_goOn 15 = .ok (.if_icmp .ne 47, 3) := by decide +kernel
theorem dX1_goOn_18 : decode cX1_goOn 18 = .ok (.aload_n 0, 1) := by decide +kernel
theorem dX1_goOn_19 : decode cX1_goOn 19 = .ok (.getfield 240, 3) := by decide +kernel
theorem dX1_goOn_22 : decode cX1_goOn 22 = .ok (.iconst 1, 1) := by decide +kernel
theorem dX1_goOn_23 : decode cX1_goOn 23 = .ok (.if_icmp .le 39, 3) := by decide +kernel
theorem dX1_goOn_26 : decode cX1_goOn 26 = .ok (.aload_n 0, 1) := by decide +kernel
theorem dX1_goOn_27 : decode cX1_goOn 27 = .ok (.dup, 1) := by decide +kernel
theorem dX1_goOn_28 : decode cX1_goOn 28 = .ok (.getfield 240, 3) := by decide +kernel
theorem dX1_goOn_31 : decode cX1_goOn 31 = .ok (.iconst 1, 1) := by decide +kernel
theorem dX1_goOn_32 : decode cX1_goOn 32 = .ok (.isub, 1) := by decide +kernel
theorem dX1_goOn_33 : decode cX1_goOn 33 = .ok (.putfield 240, 3) := by decide +kernel
theorem dX1_goOn_36 : decode cX1_goOn 36 = .ok (.aload_n 0, 1) := by decide +kernel
theorem dX1_goOn_37 : decode cX1_goOn 37 = .ok (.dup, 1) := by decide +kernel
theorem dX1_goOn_38 : decode cX1_goOn 38 = .ok (.getfield 243, 3) := by decide +kernel
theorem dX1_goOn_41 : decode cX1_goOn 41 = .ok (.iconst 1, 1) := by decide +kernel
theorem dX1_goOn_42 : decode cX1_goOn 42 = .ok (.isub, 1) := by decide +kernel
theorem dX1_goOn_43 : decode cX1_goOn 43 = .ok (.putfield 243, 3) := by decide +kernel
theorem dX1_goOn_46 : decode cX1_goOn 46 = .ok (.aload_n 0, 1) := by decide +kernel
theorem dX1_goOn_47 : decode cX1_goOn 47 = .ok (.dup, 1) := by decide +kernel
theorem dX1_goOn_48 : decode cX1_goOn 48 = .ok (.getfield 237, 3) := by decide +kernel
theorem dX1_goOn_51 : decode cX1_goOn 51 = .ok (.iconst 1, 1) := by decide +kernel
theorem dX1_goOn_52 : decode cX1_goOn 52 = .ok (.iadd, 1) := by decide +kernel
theorem dX1_goOn_53 : decode cX1_goOn 53 = .ok (.putfield 237, 3) := by decide +kernel
theorem dX1_goOn_56 : decode cX1_goOn 56 = .ok (.aload_n 0, 1) := by decide +kernel
theorem dX1_goOn_57 : decode cX1_goOn 57 = .ok (.invokevirtual 265, 3) := by decide +kernel
theorem dX1_goOn_60 : decode cX1_goOn 60 = .ok (.iconst 0, 1) := by decide +kernel
theorem dX1_goOn_61 : decode cX1_goOn 61 = .ok (.ireturn, 1) := by decide +kernel
theorem dX1_goOn_62 : decode cX1_goOn 62 = .ok (.iload_n 1, 1) := by decide +kernel
theorem dX1_goOn_63 : decode cX1_goOn 63 = .ok (.bipush 38, 2) := by decide +kernel
theorem dX1_goOn_65 : decode cX1_goOn 65 = .ok (.if_icmp .ne 7, 3) := by decide +kernel
theorem dX1_goOn_68 : decode cX1_goOn 68 = .ok (.iconst 4, 1) := by decide +kernel
theorem dX1_goOn_69 : decode cX1_goOn 69 = .ok (.goto 14, 3) := by decide +kernel
theorem dX1_goOn_72 : decode cX1_goOn 72 = .ok (.iload_n 1, 1) := by decide +kernel
theorem dX1_goOn_73 : decode cX1_goOn 73 = .ok (.bipush 124, 2) := by decide +kernel
theorem dX1_goOn_75 : decode cX1_goOn 75 = .ok (.if_icmp .ne 7, 3) := by decide +kernel
theorem dX1_goOn_78 : decode cX1_goOn 78 = .ok (.iconst 5, 1) := by decide +kernel
theorem dX1_goOn_79 : decode cX1_goOn 79 = .ok (.goto 4, 3) := by decide +kernel
theorem dX1_goOn_82 : decode cX1_goOn 82 = .ok (.iconst 0, 1) := by decide +kernel
theorem dX1_goOn_83 : decode cX1_goOn 83 = .ok (.istore_n 3, 1) := by decide +kernel
theorem dX1_goOn_84 : decode cX1_goOn 84 = .ok (.iload_n 3, 1) := by decide +kernel
theorem dX1_goOn_85 : decode cX1_goOn 85 = .ok (.ifCond .eq 22, 3) := by decide +kernel
theorem dX1_goOn_88 : decode cX1_goOn 88 = .ok (.aload_n 0, 1) := by decide +kernel
theorem dX1_goOn_89 : decode cX1_goOn 89 = .ok (.getfield 71, 3) := by decide +kernel
theorem dX1_goOn_92 : decode cX1_goOn 92 = .ok (.iload_n 2, 1) := by decide +kernel
theorem dX1_goOn_93 : decode cX1_goOn 93 = .ok (.iaload, 1) := by decide +kernel
theorem dX1_goOn_94 : decode cX1_goOn 94 = .ok (.ifCond .eq 23, 3) := by decide +kernel
theorem dX1_goOn_97 : decode cX1_goOn 97 = .ok (.aload_n 0, 1) := by decide +kernel
theorem dX1_goOn_98 : decode cX1_goOn 98 = .ok (.getfield 71, 3) := by decide +kernel
theorem dX1_goOn_101 : decode cX1_goOn 101 = .ok (.iload_n 2, 1) := by decide +kernel
theorem dX1_goOn_102 : decode cX1_goOn 102 = .ok (.iaload, 1) := by decide +kernel
theorem dX1_goOn_103 : decode cX1_goOn 103 = .ok (.iload_n 3, 1) := by decide +kernel
theorem dX1_goOn_104 : decode cX1_goOn 104 = .ok (.if_icmp .eq 13, 3) := by decide +kernel
theorem dX1_goOn_107 : decode cX1_goOn 107 = .ok (.aload_n 0, 1) := by decide +kernel
theorem dX1_goOn_108 : decode cX1_goOn 108 = .ok (.aload_n 0, 1) := by decide +kernel
theorem dX1_goOn_109 : decode cX1_goOn 109 = .ok (.getfield 237, 3) := by decide +kernel
theorem dX1_goOn_112 : decode cX1_goOn 112 = .ok (.putfield 256, 3) := by decide +kernel
theorem dX1_goOn_115 : decode cX1_goOn 115 = .ok (.iconst 0, 1) := by decide +kernel
theorem dX1_goOn_116 : decode cX1_goOn 116 = .ok (.ireturn, 1) := by decide +kernel
theorem dX1_goOn_117 : decode cX1_goOn 117 = .ok (.aload_n 0, 1) := by decide +kernel
theorem dX1_goOn_118 : decode cX1_goOn 118 = .ok (.getfield 71, 3) := by decide +kernel
theorem dX1_goOn_121 : decode cX1_goOn 121 = .ok (.iload_n 2, 1) := by decide +kernel
theorem dX1_goOn_122 : decode cX1_goOn 122 = .ok (.iaload, 1) := by decide +kernel
theorem dX1_goOn_123 : decode cX1_goOn 123 = .ok (.ifCond .ne 33, 3) := by decide +kernel
theorem dX1_goOn_126 : decode cX1_goOn 126 = .ok (.aload_n 0, 1) := by decide +kernel
theorem dX1_goOn_127 : decode cX1_goOn 127 = .ok (.getfield 71, 3) := by decide +kernel
theorem dX1_goOn_130 : decode cX1_goOn 130 = .ok (.iload_n 2, 1) := by decide +kernel
theorem dX1_goOn_131 : decode cX1_goOn 131 = .ok (.iload_n 3, 1) := by decide +kernel
theorem dX1_goOn_132 : decode cX1_goOn 132 = .ok (.iastore, 1) := by decide +kernel
theorem dX1_goOn_133 : decode cX1_goOn 133 = .ok (.aload_n 0, 1) := by decide +kernel
theorem dX1_goOn_134 : decode cX1_goOn 134 = .ok (.aload_n 0, 1) := by decide +kernel
theorem dX1_goOn_135 : decode cX1_goOn 135 = .ok (.getfield 68, 3) := by decide +kernel
theorem dX1_goOn_138 : decode cX1_goOn 138 = .ok (.iload_n 2, 1) := by decide +kernel
theorem dX1_goOn_139 : decode cX1_goOn 139 = .ok (.iaload, 1) := by decide +kernel
theorem dX1_goOn_140 : decode cX1_goOn 140 = .ok (.iload_n 3, 1) := by decide +kernel
theorem dX1_goOn_141 : decode cX1_goOn 141 = .ok (.invokevirtual 281, 3) := by decide +kernel
theorem dX1_goOn_144 : decode cX1_goOn 144 = .ok (.aload_n 0, 1) := by decide +kernel
theorem dX1_goOn_145 : decode cX1_goOn 145 = .ok (.getfield 56, 3) := by decide +kernel
theorem dX1_goOn_148 : decode cX1_goOn 148 = .ok (.aload_n 0, 1) := by decide +kernel
theorem dX1_goOn_149 : decode cX1_goOn 149 = .ok (.getfield 68, 3) := by decide +kernel
theorem dX1_goOn_152 : decode cX1_goOn 152 = .ok (.iload_n 2, 1) := by decide +kernel
theorem dX1_goOn_153 : decode cX1_goOn 153 = .ok (.iaload, 1) := by decide +kernel
theorem dX1_goOn_154 : decode cX1_goOn 154 = .ok (.iconst 1, 1) := by decide +kernel
theorem dX1_goOn_155 : decode cX1_goOn 155 = .ok (.iastore, 1) := by decide +kernel
theorem dX1_goOn_156 : decode cX1_goOn 156 = .ok (.aload_n 0, 1) := by decide +kernel
theorem dX1_goOn_157 : decode cX1_goOn 157 = .ok (.dup, 1) := by decide +kernel
theorem dX1_goOn_158 : decode cX1_goOn 158 = .ok (.getfield 237, 3) := by decide +kernel
theorem dX1_goOn_161 : decode cX1_goOn 161 = .ok (.iconst 1, 1) := by decide +kernel
theorem dX1_goOn_162 : decode cX1_goOn 162 = .ok (.iadd, 1) := by decide +kernel
theorem dX1_goOn_163 : decode cX1_goOn 163 = .ok (.putfield 237, 3) := by decide +kernel
theorem dX1_goOn_166 : decode cX1_goOn 166 = .ok (.iconst 1, 1) := by decide +kernel
theorem dX1_goOn_167 : decode cX1_goOn 167 = .ok (.ireturn, 1) := by decide +kernel
noncomputable def B_X1_goOn (l : Launch) (δ : Dl) : Seg (l, δ, yX1_goOn, 1, (some .boolean), cX1_goOn, 4) 0 168 :=
  seq (p := 0) (q := 1) (r := 168) (p_aload_n 0 dX1_goOn_0) (seq (p := 1) (q := 4) (r := 168) (p_callV 1 cv_X1_249 hcR1 (M_X1_here l δ) (Nat.le_of_ble_eq_true rfl) dX1_goOn_1) (seq (p := 4) (q := 5) (r := 168) (p_istore_n 1 dX1_goOn_4 (Nat.le_of_ble_eq_true rfl)) (seq (p := 5) (q := 6) (r := 168) (p_aload_n 0 dX1_goOn_5) (seq (p := 6) (q := 9) (r := 168) (p_get [(1, 29)] (alL1 fl_X1_240_1) dX1_goOn_6) (seq (p := 9) (q := 10) (r := 168) (p_iconst 1 dX1_goOn_9) (seq (p := 10) (q := 11) (r := 168) (p_isub dX1_goOn_10) (seq (p := 11) (q := 12) (r := 168) (p_istore_n 2 dX1_goOn_11 (Nat.le_of_ble_eq_true rfl)) (seq (p := 12) (q := 13) (r := 168) (p_iload_n 1 dX1_goOn_12) (seq (p := 13) (q := 15) (r := 168) (p_bipush 41 dX1_goOn_13 (by decide)) (seq (p := 15) (q := 62) (r := 168) (blk (seq (p := 15) (q := 18) (r := 62) (p_icmp_ne 62 dX1_goOn_15 (by decide)) (seq (p := 18) (q := 19) (r := 62) (p_aload_n 0 dX1_goOn_18) (seq (p := 19) (q := 22) (r := 62) (p_get [(1, 29)] (alL1 fl_X1_240_1) dX1_goOn_19) (seq (p := 22) (q := 23) (r := 62) (p_iconst 1 dX1_goOn_22) (seq (p := 23) (q := 26) (r := 62) (p_icmp_le 62 dX1_goOn_23 (by decide)) (seq (p := 26) (q := 27) (r := 62) (p_aload_n 0 dX1_goOn_26) (seq (p := 27) (q := 28) (r := 62) (p_dup dX1_goOn_27) (seq (p := 28) (q := 31) (r := 62) (p_get [(1, 29)] (alL1 fl_X1_240_1) dX1_goOn_28) (seq (p := 31) (q := 32) (r := 62) (p_iconst 1 dX1_goOn_31) (seq (p := 32) (q := 33) (r := 62) (p_isub dX1_goOn_32) (seq (p := 33) (q := 36) (r := 62) (p_put [(1, 29)] .int (alP1 fp_X1_240_1) dX1_goOn_33) (seq (p := 36) (q := 37) (r := 62) (p_aload_n 0 dX1_goOn_36) (seq (p := 37) (q := 38) (r := 62) (p_dup dX1_goOn_37) (seq (p := 38) (q := 41) (r := 62) (p_get [(1, 33)] (alL1 fl_X1_243_1) dX1_goOn_38) (seq (p := 41) (q := 42) (r := 62) (p_iconst 1 dX1_goOn_41) (seq (p := 42) (q := 43) (r := 62) (p_isub dX1_goOn_42) (seq (p := 43) (q := 46) (r := 62) (p_put [(1, 33)] .int (alP1 fp_X1_243_1) dX1_goOn_43) (seq (p := 46) (q := 47) (r := 62) (p_aload_n 0 dX1_goOn_46) (seq (p := 47) (q := 48) (r := 62) (p_dup dX1_goOn_47) (seq (p := 48) (q := 51) (r := 62) (p_get [(1, 36)] (alL1 fl_X1_237_1) dX1_goOn_48) (seq (p := 51) (q := 52) (r := 62) (p_iconst 1 dX1_goOn_51) (seq (p := 52) (q := 53) (r := 62) (p_iadd dX1_goOn_52) (seq (p := 53) (q := 56) (r := 62) (p_put [(1, 36)] .int (alP1 fp_X1_237_1) dX1_goOn_53) (seq (p := 56) (q := 57) (r := 62) (p_aload_n 0 dX1_goOn_56) (seq (p := 57) (q := 60) (r := 62) (p_callV 1 cv_X1_265 hcR1 (M_X1_partDone l δ) (Nat.le_of_ble_eq_true rfl) dX1_goOn_57) (seq (p := 60) (q := 61) (r := 62) (p_iconst 0 dX1_goOn_60) (seq (p := 61) (q := 62) (r := 62) (p_zreturn dX1_goOn_61 rfl) done)))))))))))))))))))))))))))) (seq (p := 62) (q := 63) (r := 168) (p_iload_n 1 dX1_goOn_62) (seq (p := 63) (q := 65) (r := 168) (p_bipush 38 dX1_goOn_63 (by decide)) (seq (p := 65) (q := 83) (r := 168) (blk (seq (p := 65) (q := 72) (r := 83) (blk (seq (p := 65) (q := 68) (r := 72) (p_icmp_ne 72 dX1_goOn_65 (by decide)) (seq (p := 68) (q := 69) (r := 72) (p_iconst 4 dX1_goOn_68) (seq (p := 69) (q := 72) (r := 72) (p_goto 83 dX1_goOn_69 (by decide)) done)))) (seq (p := 72) (q := 73) (r := 83) (p_iload_n 1 dX1_goOn_72) (seq (p := 73) (q := 75) (r := 83) (p_bipush 124 dX1_goOn_73 (by decide)) (seq (p := 75) (q := 82) (r := 83) (blk (seq (p := 75) (q := 78) (r := 82) (p_icmp_ne 82 dX1_goOn_75 (by decide)) (seq (p := 78) (q := 79) (r := 82) (p_iconst 5 dX1_goOn_78) (seq (p := 79) (q := 82) (r := 82) (p_goto 83 dX1_goOn_79 (by decide)) done)))) (seq (p := 82) (q := 83) (r := 83) (p_iconst 0 dX1_goOn_82) done)))))) (seq (p := 83) (q := 84) (r := 168) (p_istore_n 3 dX1_goOn_83 (Nat.le_of_ble_eq_true rfl)) (seq (p := 84) (q := 85) (r := 168) (p_iload_n 3 dX1_goOn_84) (seq (p := 85) (q := 117) (r := 168) (blk (seq (p := 85) (q := 107) (r := 117) (blk (seq (p := 85) (q := 88) (r := 107) (p_if_eq 107 dX1_goOn_85 (by decide)) (seq (p := 88) (q := 89) (r := 107) (p_aload_n 0 dX1_goOn_88) (seq (p := 89) (q := 92) (r := 107) (p_get [(1, 32)] (alL1 fl_X1_71_1) dX1_goOn_89) (seq (p := 92) (q := 93) (r := 107) (p_iload_n 2 dX1_goOn_92) (seq (p := 93) (q := 94) (r := 107) (p_iald dX1_goOn_93) (seq (p := 94) (q := 97) (r := 107) (p_if_eq 117 dX1_goOn_94 (by decide)) (seq (p := 97) (q := 98) (r := 107) (p_aload_n 0 dX1_goOn_97) (seq (p := 98) (q := 101) (r := 107) (p_get [(1, 32)] (alL1 fl_X1_71_1) dX1_goOn_98) (seq (p := 101) (q := 102) (r := 107) (p_iload_n 2 dX1_goOn_101) (seq (p := 102) (q := 103) (r := 107) (p_iald dX1_goOn_102) (seq (p := 103) (q := 104) (r := 107) (p_iload_n 3 dX1_goOn_103) (seq (p := 104) (q := 107) (r := 107) (p_icmp_eq 117 dX1_goOn_104 (by decide)) done))))))))))))) (seq (p := 107) (q := 108) (r := 117) (p_aload_n 0 dX1_goOn_107) (seq (p := 108) (q := 109) (r := 117) (p_aload_n 0 dX1_goOn_108) (seq (p := 109) (q := 112) (r := 117) (p_get [(1, 36)] (alL1 fl_X1_237_1) dX1_goOn_109) (seq (p := 112) (q := 115) (r := 117) (p_put [(1, 37)] .int (alP1 fp_X1_256_1) dX1_goOn_112) (seq (p := 115) (q := 116) (r := 117) (p_iconst 0 dX1_goOn_115) (seq (p := 116) (q := 117) (r := 117) (p_zreturn dX1_goOn_116 rfl) done)))))))) (seq (p := 117) (q := 118) (r := 168) (p_aload_n 0 dX1_goOn_117) (seq (p := 118) (q := 121) (r := 168) (p_get [(1, 32)] (alL1 fl_X1_71_1) dX1_goOn_118) (seq (p := 121) (q := 122) (r := 168) (p_iload_n 2 dX1_goOn_121) (seq (p := 122) (q := 123) (r := 168) (p_iald dX1_goOn_122) (seq (p := 123) (q := 156) (r := 168) (blk (seq (p := 123) (q := 126) (r := 156) (p_if_ne 156 dX1_goOn_123 (by decide)) (seq (p := 126) (q := 127) (r := 156) (p_aload_n 0 dX1_goOn_126) (seq (p := 127) (q := 130) (r := 156) (p_get [(1, 32)] (alL1 fl_X1_71_1) dX1_goOn_127) (seq (p := 130) (q := 131) (r := 156) (p_iload_n 2 dX1_goOn_130) (seq (p := 131) (q := 132) (r := 156) (p_iload_n 3 dX1_goOn_131) (seq (p := 132) (q := 133) (r := 156) (p_iast dX1_goOn_132) (seq (p := 133) (q := 134) (r := 156) (p_aload_n 0 dX1_goOn_133) (seq (p := 134) (q := 135) (r := 156) (p_aload_n 0 dX1_goOn_134) (seq (p := 135) (q := 138) (r := 156) (p_get [(1, 31)] (alL1 fl_X1_68_1) dX1_goOn_135) (seq (p := 138) (q := 139) (r := 156) (p_iload_n 2 dX1_goOn_138) (seq (p := 139) (q := 140) (r := 156) (p_iald dX1_goOn_139) (seq (p := 140) (q := 141) (r := 156) (p_iload_n 3 dX1_goOn_140) (seq (p := 141) (q := 144) (r := 156) (p_callV 1 cv_X1_281 hcR1 (M_X1_insert l δ) (Nat.le_of_ble_eq_true rfl) dX1_goOn_141) (seq (p := 144) (q := 145) (r := 156) (p_aload_n 0 dX1_goOn_144) (seq (p := 145) (q := 148) (r := 156) (p_get [(1, 25)] (alL1 fl_X1_56_1) dX1_goOn_145) (seq (p := 148) (q := 149) (r := 156) (p_aload_n 0 dX1_goOn_148) (seq (p := 149) (q := 152) (r := 156) (p_get [(1, 31)] (alL1 fl_X1_68_1) dX1_goOn_149) (seq (p := 152) (q := 153) (r := 156) (p_iload_n 2 dX1_goOn_152) (seq (p := 153) (q := 154) (r := 156) (p_iald dX1_goOn_153) (seq (p := 154) (q := 155) (r := 156) (p_iconst 1 dX1_goOn_154) (seq (p := 155) (q := 156) (r := 156) (p_iast dX1_goOn_155) done)))))))))))))))))))))) (seq (p := 156) (q := 157) (r := 168) (p_aload_n 0 dX1_goOn_156) (seq (p := 157) (q := 158) (r := 168) (p_dup dX1_goOn_157) (seq (p := 158) (q := 161) (r := 168) (p_get [(1, 36)] (alL1 fl_X1_237_1) dX1_goOn_158) (seq (p := 161) (q := 162) (r := 168) (p_iconst 1 dX1_goOn_161) (seq (p := 162) (q := 163) (r := 168) (p_iadd dX1_goOn_162) (seq (p := 163) (q := 166) (r := 168) (p_put [(1, 36)] .int (alP1 fp_X1_237_1) dX1_goOn_163) (seq (p := 166) (q := 167) (r := 168) (p_iconst 1 dX1_goOn_166) (seq (p := 167) (q := 168) (r := 168) (p_zreturn dX1_goOn_167 rfl) done)))))))))))))))))))))))))))))
noncomputable def M_X1_goOn (l : Launch) (δ : Dl) : Mth l δ yX1_goOn cX1_goOn 4 (some .boolean) 1 := mk (B_X1_goOn l δ) (by decide)
theorem N_X1_goOn {l : Launch} {δ : Dl} {o : Nat} {s : St} : (M_X1_goOn l δ).1 [.inr (.inr (some o))] s = bres ((B_X1_goOn l δ).1 [] [some (.inr (.inr (some o))), none, none, none] s) := (mk_eq (hy := by decide) rfl).trans (nrfl rfl)
theorem dX1_parse_0 : decode cX1_parse 0 = .ok (.aload_n 0, 1) := by decide +kernel
theorem dX1_parse_1 : decode cX1_parse 1 = .ok (.iconst 0, 1) := by decide +kernel
theorem dX1_parse_2 : decode cX1_parse 2 = .ok (.putfield 234, 3) := by decide +kernel
theorem dX1_parse_5 : decode cX1_parse 5 = .ok (.aload_n 0, 1) := by decide +kernel
theorem dX1_parse_6 : decode cX1_parse 6 = .ok (.iconst 0, 1) := by decide +kernel
theorem dX1_parse_7 : decode cX1_parse 7 = .ok (.putfield 240, 3) := by decide +kernel
theorem dX1_parse_10 : decode cX1_parse 10 = .ok (.aload_n 0, 1) := by decide +kernel
theorem dX1_parse_11 : decode cX1_parse 11 = .ok (.iconst 0, 1) := by decide +kernel
theorem dX1_parse_12 : decode cX1_parse 12 = .ok (.putfield 243, 3) := by decide +kernel
theorem dX1_parse_15 : decode cX1_parse 15 = .ok (.aload_n 0, 1) := by decide +kernel
theorem dX1_parse_16 : decode cX1_parse 16 = .ok (.iconst 0, 1) := by decide +kernel
theorem dX1_parse_17 : decode cX1_parse 17 = .ok (.putfield 253, 3) := by decide +kernel
theorem dX1_parse_20 : decode cX1_parse 20 = .ok (.aload_n 0, 1) := by decide +kernel
theorem dX1_parse_21 : decode cX1_parse 21 = .ok (.iconst 0, 1) := by decide +kernel
theorem dX1_parse_22 : decode cX1_parse 22 = .ok (.putfield 237, 3) := by decide +kernel
theorem dX1_parse_25 : decode cX1_parse 25 = .ok (.aload_n 0, 1) := by decide +kernel
theorem dX1_parse_26 : decode cX1_parse 26 = .ok (.iconst (-1), 1) := by decide +kernel
theorem dX1_parse_27 : decode cX1_parse 27 = .ok (.putfield 256, 3) := by decide +kernel
theorem dX1_parse_30 : decode cX1_parse 30 = .ok (.aload_n 0, 1) := by decide +kernel
theorem dX1_parse_31 : decode cX1_parse 31 = .ok (.invokevirtual 272, 3) := by decide +kernel
theorem dX1_parse_34 : decode cX1_parse 34 = .ok (.iconst 1, 1) := by decide +kernel
theorem dX1_parse_35 : decode cX1_parse 35 = .ok (.istore_n 1, 1) := by decide +kernel
theorem dX1_parse_36 : decode cX1_parse 36 = .ok (.aload_n 0, 1) := by decide +kernel
theorem dX1_parse_37 : decode cX1_parse 37 = .ok (.invokevirtual 246, 3) := by decide +kernel
theorem dX1_parse_40 : decode cX1_parse 40 = .ok (.aload_n 0, 1) := by decide +kernel
theorem dX1_parse_41 : decode cX1_parse 41 = .ok (.getfield 256, 3) := by decide +kernel
theorem dX1_parse_44 : decode cX1_parse 44 = .ok (.ifCond .ge 65, 3) := by decide +kernel
theorem dX1_parse_47 : decode cX1_parse 47 = .ok (.iload_n 1, 1) := by decide +kernel
theorem dX1_parse_48 : decode cX1_parse 48 = .ok (.ifCond .ne 22, 3) := by decide +kernel
theorem dX1_parse_51 : decode cX1_parse 51 = .ok (.aload_n 0, 1) := by decide +kernel
theorem dX1_parse_52 : decode cX1_parse 52 = .ok (.getfield 240, 3) := by decide +kernel
theorem dX1_parse_55 : decode cX1_parse 55 = .ok (.iconst 1, 1) := by decide +kernel
theorem dX1_parse_56 : decode cX1_parse 56 = .ok (.if_icmp .gt 14, 3) := by decide +kernel
theorem dX1_parse_59 : decode cX1_parse 59 = .ok (.aload_n 0, 1) := by decide +kernel
theorem dX1_parse_60 : decode cX1_parse 60 = .ok (.getfield 237, 3) := by decide +kernel
theorem dX1_parse_63 : decode cX1_parse 63 = .ok (.aload_n 0, 1) := by decide +kernel
theorem dX1_parse_64 : decode cX1_parse 64 = .ok (.getfield 231, 3) := by decide +kernel
theorem dX1_parse_67 : decode cX1_parse 67 = .ok (.if_icmp .ge 42, 3) := by decide +kernel
theorem dX1_parse_70 : decode cX1_parse 70 = .ok (.iload_n 1, 1) := by decide +kernel
theorem dX1_parse_71 : decode cX1_parse 71 = .ok (.ifCond .eq 19, 3) := by decide +kernel
theorem dX1_parse_74 : decode cX1_parse 74 = .ok (.aload_n 0, 1) := by decide +kernel
theorem dX1_parse_75 : decode cX1_parse 75 = .ok (.invokevirtual 284, 3) := by decide +kernel
theorem dX1_parse_78 : decode cX1_parse 78 = .ok (.ifCond .ne 7, 3) := by decide +kernel
theorem dX1_parse_81 : decode cX1_parse 81 = .ok (.iconst 1, 1) := by decide +kernel
theorem dX1_parse_82 : decode cX1_parse 82 = .ok (.goto 4, 3) := by decide +kernel
theorem dX1_parse_85 : decode cX1_parse 85 = .ok (.iconst 0, 1) := by decide +kernel
theorem dX1_parse_86 : decode cX1_parse 86 = .ok (.istore_n 1, 1) := by decide +kernel
theorem dX1_parse_87 : decode cX1_parse 87 = .ok (.goto 8, 3) := by decide +kernel
theorem dX1_parse_90 : decode cX1_parse 90 = .ok (.aload_n 0, 1) := by decide +kernel
theorem dX1_parse_91 : decode cX1_parse 91 = .ok (.invokevirtual 287, 3) := by decide +kernel
theorem dX1_parse_94 : decode cX1_parse 94 = .ok (.istore_n 1, 1) := by decide +kernel
theorem dX1_parse_95 : decode cX1_parse 95 = .ok (.aload_n 0, 1) := by decide +kernel
theorem dX1_parse_96 : decode cX1_parse 96 = .ok (.getfield 256, 3) := by decide +kernel
theorem dX1_parse_99 : decode cX1_parse 99 = .ok (.ifCond .ge (-59), 3) := by decide +kernel
theorem dX1_parse_102 : decode cX1_parse 102 = .ok (.aload_n 0, 1) := by decide +kernel
theorem dX1_parse_103 : decode cX1_parse 103 = .ok (.invokevirtual 246, 3) := by decide +kernel
theorem dX1_parse_106 : decode cX1_parse 106 = .ok (.goto (-66), 3) := by decide +kernel
theorem dX1_parse_109 : decode cX1_parse 109 = .ok (.return_, 1) := by decide +kernel
noncomputable def C_X1_parse_L40 (l : Launch) (δ : Dl) : Seg (l, δ, yX1_parse, 4, none, cX1_parse, 2) 40 109 :=
  seq (p := 40) (q := 41) (r := 109) (p_aload_n 0 dX1_parse_40) (seq (p := 41) (q := 44) (r := 109) (p_get [(1, 37)] (alL1 fl_X1_256_1) dX1_parse_41) (seq (p := 44) (q := 47) (r := 109) (p_if_ge 109 dX1_parse_44 (by decide)) (seq (p := 47) (q := 48) (r := 109) (p_iload_n 1 dX1_parse_47) (seq (p := 48) (q := 70) (r := 109) (blk (seq (p := 48) (q := 51) (r := 70) (p_if_ne 70 dX1_parse_48 (by decide)) (seq (p := 51) (q := 52) (r := 70) (p_aload_n 0 dX1_parse_51) (seq (p := 52) (q := 55) (r := 70) (p_get [(1, 29)] (alL1 fl_X1_240_1) dX1_parse_52) (seq (p := 55) (q := 56) (r := 70) (p_iconst 1 dX1_parse_55) (seq (p := 56) (q := 59) (r := 70) (p_icmp_gt 70 dX1_parse_56 (by decide)) (seq (p := 59) (q := 60) (r := 70) (p_aload_n 0 dX1_parse_59) (seq (p := 60) (q := 63) (r := 70) (p_get [(1, 36)] (alL1 fl_X1_237_1) dX1_parse_60) (seq (p := 63) (q := 64) (r := 70) (p_aload_n 0 dX1_parse_63) (seq (p := 64) (q := 67) (r := 70) (p_get [(1, 28)] (alL1 fl_X1_231_1) dX1_parse_64) (seq (p := 67) (q := 70) (r := 70) (p_icmp_ge 109 dX1_parse_67 (by decide)) done))))))))))) (seq (p := 70) (q := 71) (r := 109) (p_iload_n 1 dX1_parse_70) (seq (p := 71) (q := 95) (r := 109) (blk (seq (p := 71) (q := 90) (r := 95) (blk (seq (p := 71) (q := 74) (r := 90) (p_if_eq 90 dX1_parse_71 (by decide)) (seq (p := 74) (q := 75) (r := 90) (p_aload_n 0 dX1_parse_74) (seq (p := 75) (q := 78) (r := 90) (p_callV 1 cv_X1_284 hcR1 (M_X1_beginPart l δ) (Nat.le_of_ble_eq_true rfl) dX1_parse_75) (seq (p := 78) (q := 86) (r := 90) (blk (seq (p := 78) (q := 85) (r := 86) (blk (seq (p := 78) (q := 81) (r := 85) (p_if_ne 85 dX1_parse_78 (by decide)) (seq (p := 81) (q := 82) (r := 85) (p_iconst 1 dX1_parse_81) (seq (p := 82) (q := 85) (r := 85) (p_goto 86 dX1_parse_82 (by decide)) done)))) (seq (p := 85) (q := 86) (r := 86) (p_iconst 0 dX1_parse_85) done))) (seq (p := 86) (q := 87) (r := 90) (p_istore_n 1 dX1_parse_86 (Nat.le_of_ble_eq_true rfl)) (seq (p := 87) (q := 90) (r := 90) (p_goto 95 dX1_parse_87 (by decide)) done))))))) (seq (p := 90) (q := 91) (r := 95) (p_aload_n 0 dX1_parse_90) (seq (p := 91) (q := 94) (r := 95) (p_callV 1 cv_X1_287 hcR1 (M_X1_goOn l δ) (Nat.le_of_ble_eq_true rfl) dX1_parse_91) (seq (p := 94) (q := 95) (r := 95) (p_istore_n 1 dX1_parse_94 (Nat.le_of_ble_eq_true rfl)) done))))) (seq (p := 95) (q := 96) (r := 109) (p_aload_n 0 dX1_parse_95) (seq (p := 96) (q := 99) (r := 109) (p_get [(1, 37)] (alL1 fl_X1_256_1) dX1_parse_96) (seq (p := 99) (q := 99) (r := 109) (er [true, true]) (seq (p := 99) (q := 102) (r := 109) (p_if_ge 40 dX1_parse_99 (by decide)) (seq (p := 102) (q := 103) (r := 109) (p_aload_n 0 dX1_parse_102) (seq (p := 103) (q := 106) (r := 109) (p_callV 1 cv_X1_246 hcR1 (M_X1_skip l δ) (Nat.le_of_ble_eq_true rfl) dX1_parse_103) (seq (p := 106) (q := 106) (r := 109) (er [true, true]) (seq (p := 106) (q := 109) (r := 109) (p_goto 40 dX1_parse_106 (by decide)) done))))))))))))))
noncomputable def B_X1_parse_L40 (l : Launch) (δ : Dl) : Seg (l, δ, yX1_parse, 4, none, cX1_parse, 2) 40 109 := C_X1_parse_L40 l δ
theorem L_X1_parse_40 {l : Launch} {δ : Dl} {st : Stk} {L : Lc} {s : St} : (B_X1_parse_L40 l δ).1 st L s = (C_X1_parse_L40 l δ).1 st L s := nrfl rfl
noncomputable def B_X1_parse (l : Launch) (δ : Dl) : Seg (l, δ, yX1_parse, 4, none, cX1_parse, 2) 0 110 :=
  seq (p := 0) (q := 1) (r := 110) (p_aload_n 0 dX1_parse_0) (seq (p := 1) (q := 2) (r := 110) (p_iconst 0 dX1_parse_1) (seq (p := 2) (q := 5) (r := 110) (p_put [(1, 23)] .int (alP1 fp_X1_234_1) dX1_parse_2) (seq (p := 5) (q := 6) (r := 110) (p_aload_n 0 dX1_parse_5) (seq (p := 6) (q := 7) (r := 110) (p_iconst 0 dX1_parse_6) (seq (p := 7) (q := 10) (r := 110) (p_put [(1, 29)] .int (alP1 fp_X1_240_1) dX1_parse_7) (seq (p := 10) (q := 11) (r := 110) (p_aload_n 0 dX1_parse_10) (seq (p := 11) (q := 12) (r := 110) (p_iconst 0 dX1_parse_11) (seq (p := 12) (q := 15) (r := 110) (p_put [(1, 33)] .int (alP1 fp_X1_243_1) dX1_parse_12) (seq (p := 15) (q := 16) (r := 110) (p_aload_n 0 dX1_parse_15) (seq (p := 16) (q := 17) (r := 110) (p_iconst 0 dX1_parse_16) (seq (p := 17) (q := 20) (r := 110) (p_put [(1, 34)] .int (alP1 fp_X1_253_1) dX1_parse_17) (seq (p := 20) (q := 21) (r := 110) (p_aload_n 0 dX1_parse_20) (seq (p := 21) (q := 22) (r := 110) (p_iconst 0 dX1_parse_21) (seq (p := 22) (q := 25) (r := 110) (p_put [(1, 36)] .int (alP1 fp_X1_237_1) dX1_parse_22) (seq (p := 25) (q := 26) (r := 110) (p_aload_n 0 dX1_parse_25) (seq (p := 26) (q := 27) (r := 110) (p_iconst (-1) dX1_parse_26) (seq (p := 27) (q := 30) (r := 110) (p_put [(1, 37)] .int (alP1 fp_X1_256_1) dX1_parse_27) (seq (p := 30) (q := 31) (r := 110) (p_aload_n 0 dX1_parse_30) (seq (p := 31) (q := 34) (r := 110) (p_callV 1 cv_X1_272 hcR1 (M_X1_openFormula l δ) (Nat.le_of_ble_eq_true rfl) dX1_parse_31) (seq (p := 34) (q := 35) (r := 110) (p_iconst 1 dX1_parse_34) (seq (p := 35) (q := 36) (r := 110) (p_istore_n 1 dX1_parse_35 (Nat.le_of_ble_eq_true rfl)) (seq (p := 36) (q := 37) (r := 110) (p_aload_n 0 dX1_parse_36) (seq (p := 37) (q := 40) (r := 110) (p_callV 1 cv_X1_246 hcR1 (M_X1_skip l δ) (Nat.le_of_ble_eq_true rfl) dX1_parse_37) (seq (p := 40) (q := 109) (r := 110) (blk (seq (p := 40) (q := 40) (r := 109) (er [true, true]) (seq (p := 40) (q := 109) (r := 109) (lp (B_X1_parse_L40 l δ)) done))) (seq (p := 109) (q := 110) (r := 110) (p_return dX1_parse_109 rfl) done)))))))))))))))))))))))))
noncomputable def M_X1_parse (l : Launch) (δ : Dl) : Mth l δ yX1_parse cX1_parse 2 none 4 := mk (B_X1_parse l δ) (by decide)
theorem N_X1_parse {l : Launch} {δ : Dl} {o : Nat} {s : St} : (M_X1_parse l δ).1 [.inr (.inr (some o))] s = bres ((B_X1_parse l δ).1 [] [some (.inr (.inr (some o))), none] s) := (mk_eq (hy := by decide) rfl).trans (nrfl rfl)
theorem dX1_read_0 : decode cX1_read 0 = .ok (.aload_n 0, 1) := by decide +kernel
theorem dX1_read_1 : decode cX1_read 1 = .ok (.invokevirtual 296, 3) := by decide +kernel
theorem dX1_read_4 : decode cX1_read 4 = .ok (.aload_n 0, 1) := by decide +kernel
theorem dX1_read_5 : decode cX1_read 5 = .ok (.iconst 0, 1) := by decide +kernel
theorem dX1_read_6 : decode cX1_read 6 = .ok (.putfield 231, 3) := by decide +kernel
theorem dX1_read_9 : decode cX1_read 9 = .ok (.aload_n 0, 1) := by decide +kernel
theorem dX1_read_10 : decode cX1_read 10 = .ok (.getfield 256, 3) := by decide +kernel
theorem dX1_read_13 : decode cX1_read 13 = .ok (.ifCond .lt 11, 3) := by decide +kernel
theorem dX1_read_16 : decode cX1_read 16 = .ok (.bipush (-20), 2) := by decide +kernel
theorem dX1_read_18 : decode cX1_read 18 = .ok (.aload_n 0, 1) := by decide +kernel
theorem dX1_read_19 : decode cX1_read 19 = .ok (.getfield 256, 3) := by decide +kernel
theorem dX1_read_22 : decode cX1_read 22 = .ok (.isub, 1) := by decide +kernel
theorem dX1_read_23 : decode cX1_read 23 = .ok (.ireturn, 1) := by decide +kernel
theorem dX1_read_24 : decode cX1_read 24 = .ok (.aload_n 0, 1) := by decide +kernel
theorem dX1_read_25 : decode cX1_read 25 = .ok (.getfield 234, 3) := by decide +kernel
theorem dX1_read_28 : decode cX1_read 28 = .ok (.sipush 600, 3) := by decide +kernel
theorem dX1_read_31 : decode cX1_read 31 = .ok (.if_icmp .gt 12, 3) := by decide +kernel
theorem dX1_read_34 : decode cX1_read 34 = .ok (.aload_n 0, 1) := by decide +kernel
theorem dX1_read_35 : decode cX1_read 35 = .ok (.getfield 290, 3) := by decide +kernel
theorem dX1_read_38 : decode cX1_read 38 = .ok (.bipush 20, 2) := by decide +kernel
theorem dX1_read_40 : decode cX1_read 40 = .ok (.if_icmp .ne 8, 3) := by decide +kernel
theorem dX1_read_43 : decode cX1_read 43 = .ok (.bipush (-4), 2) := by decide +kernel
theorem dX1_read_45 : decode cX1_read 45 = .ok (.goto 7, 3) := by decide +kernel
theorem dX1_read_48 : decode cX1_read 48 = .ok (.aload_n 0, 1) := by decide +kernel
theorem dX1_read_49 : decode cX1_read 49 = .ok (.invokevirtual 299, 3) := by decide +kernel
theorem dX1_read_52 : decode cX1_read 52 = .ok (.ireturn, 1) := by decide +kernel
noncomputable def B_X1_read (l : Launch) (δ : Dl) : Seg (l, δ, yX1_read, 5, (some .int), cX1_read, 1) 0 53 :=
  seq (p := 0) (q := 1) (r := 53) (p_aload_n 0 dX1_read_0) (seq (p := 1) (q := 4) (r := 53) (p_callV 1 cv_X1_296 hcR1 (M_X1_parse l δ) (Nat.le_of_ble_eq_true rfl) dX1_read_1) (seq (p := 4) (q := 5) (r := 53) (p_aload_n 0 dX1_read_4) (seq (p := 5) (q := 6) (r := 53) (p_iconst 0 dX1_read_5) (seq (p := 6) (q := 9) (r := 53) (p_put [(1, 28)] .int (alP1 fp_X1_231_1) dX1_read_6) (seq (p := 9) (q := 10) (r := 53) (p_aload_n 0 dX1_read_9) (seq (p := 10) (q := 13) (r := 53) (p_get [(1, 37)] (alL1 fl_X1_256_1) dX1_read_10) (seq (p := 13) (q := 24) (r := 53) (blk (seq (p := 13) (q := 16) (r := 24) (p_if_lt 24 dX1_read_13 (by decide)) (seq (p := 16) (q := 18) (r := 24) (p_bipush (-20) dX1_read_16 (by decide)) (seq (p := 18) (q := 19) (r := 24) (p_aload_n 0 dX1_read_18) (seq (p := 19) (q := 22) (r := 24) (p_get [(1, 37)] (alL1 fl_X1_256_1) dX1_read_19) (seq (p := 22) (q := 23) (r := 24) (p_isub dX1_read_22) (seq (p := 23) (q := 24) (r := 24) (p_ireturn dX1_read_23 rfl) done))))))) (seq (p := 24) (q := 25) (r := 53) (p_aload_n 0 dX1_read_24) (seq (p := 25) (q := 28) (r := 53) (p_get [(1, 23)] (alL1 fl_X1_234_1) dX1_read_25) (seq (p := 28) (q := 31) (r := 53) (p_sipush 600 dX1_read_28 (by decide)) (seq (p := 31) (q := 52) (r := 53) (blk (seq (p := 31) (q := 48) (r := 52) (blk (seq (p := 31) (q := 43) (r := 48) (blk (seq (p := 31) (q := 34) (r := 43) (p_icmp_gt 43 dX1_read_31 (by decide)) (seq (p := 34) (q := 35) (r := 43) (p_aload_n 0 dX1_read_34) (seq (p := 35) (q := 38) (r := 43) (p_get [(1, 17)] (alL1 fl_X1_290_1) dX1_read_35) (seq (p := 38) (q := 40) (r := 43) (p_bipush 20 dX1_read_38 (by decide)) (seq (p := 40) (q := 43) (r := 43) (p_icmp_ne 48 dX1_read_40 (by decide)) done)))))) (seq (p := 43) (q := 45) (r := 48) (p_bipush (-4) dX1_read_43 (by decide)) (seq (p := 45) (q := 48) (r := 48) (p_goto 52 dX1_read_45 (by decide)) done)))) (seq (p := 48) (q := 49) (r := 52) (p_aload_n 0 dX1_read_48) (seq (p := 49) (q := 52) (r := 52) (p_callV 1 cv_X1_299 hcR1 (M_X1_keep l δ) (Nat.le_of_ble_eq_true rfl) dX1_read_49) done)))) (seq (p := 52) (q := 53) (r := 53) (p_ireturn dX1_read_52 rfl) done))))))))))))
noncomputable def M_X1_read (l : Launch) (δ : Dl) : Mth l δ yX1_read cX1_read 1 (some .int) 5 := mk (B_X1_read l δ) (by decide)
theorem N_X1_read {l : Launch} {δ : Dl} {o : Nat} {s : St} : (M_X1_read l δ).1 [.inr (.inr (some o))] s = bres ((B_X1_read l δ).1 [] [some (.inr (.inr (some o)))] s) := (mk_eq (hy := by decide) rfl).trans (nrfl rfl)
theorem dX1_depthOf_0 : decode cX1_depthOf 0 = .ok (.sipush 600, 3) := by decide +kernel
theorem dX1_depthOf_3 : decode cX1_depthOf 3 = .ok (.iload_n 1, 1) := by decide +kernel
theorem dX1_depthOf_4 : decode cX1_depthOf 4 = .ok (.imul, 1) := by decide +kernel
theorem dX1_depthOf_5 : decode cX1_depthOf 5 = .ok (.istore_n 2, 1) := by decide +kernel
theorem dX1_depthOf_6 : decode cX1_depthOf 6 = .ok (.iconst 0, 1) := by decide +kernel
theorem dX1_depthOf_7 : decode cX1_depthOf 7 = .ok (.istore_n 3, 1) := by decide +kernel
theorem dX1_depthOf_8 : decode cX1_depthOf 8 = .ok (.iconst 0, 1) := by decide +kernel
theorem dX1_depthOf_9 : decode cX1_depthOf 9 = .ok (.istore 4, 2) := by decide +kernel
theorem dX1_depthOf_11 : decode cX1_depthOf 11 = .ok (.iload 4, 2) := by decide +kernel
theorem dX1_depthOf_13 : decode cX1_depthOf 13 = .ok (.aload_n 0, 1) := by decide +kernel
theorem dX1_depthOf_14 : decode cX1_depthOf 14 = .ok (.getfield 37, 3) := by decide +kernel
theorem dX1_depthOf_17 : decode cX1_depthOf 17 = .ok (.iload_n 1, 1) := by decide +kernel
theorem dX1_depthOf_18 : decode cX1_depthOf 18 = .ok (.iaload, 1) := by decide +kernel
theorem dX1_depthOf_19 : decode cX1_depthOf 19 = .ok (.if_icmp .ge 91, 3) := by decide +kernel
theorem dX1_depthOf_22 : decode cX1_depthOf 22 = .ok (.iconst 0, 1) := by decide +kernel
theorem dX1_depthOf_23 : decode cX1_depthOf 23 = .ok (.istore 5, 2) := by decide +kernel
theorem dX1_depthOf_25 : decode cX1_depthOf 25 = .ok (.iconst 0, 1) := by decide +kernel
theorem dX1_depthOf_26 : decode cX1_depthOf 26 = .ok (.istore 6, 2) := by decide +kernel
theorem dX1_depthOf_28 : decode cX1_depthOf 28 = .ok (.iload 6, 2) := by decide +kernel
theorem dX1_depthOf_30 : decode cX1_depthOf 30 = .ok (.iload 4, 2) := by decide +kernel
theorem dX1_depthOf_32 : decode cX1_depthOf 32 = .ok (.if_icmp .gt 59, 3) := by decide +kernel
theorem dX1_depthOf_35 : decode cX1_depthOf 35 = .ok (.iload 5, 2) := by decide +kernel
theorem dX1_depthOf_37 : decode cX1_depthOf 37 = .ok (.aload_n 0, 1) := by decide +kernel
theorem dX1_depthOf_38 : decode cX1_depthOf 38 = .ok (.getfield 40, 3) := by decide +kernel
theorem dX1_depthOf_41 : decode cX1_depthOf 41 = .ok (.iload_n 2, 1) := by decide +kernel
theorem dX1_depthOf_42 : decode cX1_depthOf 42 = .ok (.iload 6, 2) := by decide +kernel
theorem dX1_depthOf_44 : decode cX1_depthOf 44 = .ok (.iadd, 1) := by decide +kernel
theorem dX1_depthOf_45 : decode cX1_depthOf 45 = .ok (.baload, 1) := by decide +kernel
theorem dX1_depthOf_46 : decode cX1_depthOf 46 = .ok (.iconst 2, 1) := by decide +kernel
theorem dX1_depthOf_47 : decode cX1_depthOf 47 = .ok (.if_icmp .eq 16, 3) := by decide +kernel
theorem dX1_depthOf_50 : decode cX1_depthOf 50 = .ok (.aload_n 0, 1) := by decide +kernel
theorem dX1_depthOf_51 : decode cX1_depthOf 51 = .ok (.getfield 40, 3) := by decide +kernel
theorem dX1_depthOf_54 : decode cX1_depthOf 54 = .ok (.iload_n 2, 1) := by decide +kernel
theorem dX1_depthOf_55 : decode cX1_depthOf 55 = .ok (.iload 6, 2) := by decide +kernel
theorem dX1_depthOf_57 : decode cX1_depthOf 57 = .ok (.iadd, 1) := by decide +kernel
theorem dX1_depthOf_58 : decode cX1_depthOf 58 = .ok (.baload, 1) := by decide +kernel
theorem dX1_depthOf_59 : decode cX1_depthOf 59 = .ok (.iconst 3, 1) := by decide +kernel
theorem dX1_depthOf_60 : decode cX1_depthOf 60 = .ok (.if_icmp .ne 21, 3) := by decide +kernel
theorem dX1_depthOf_63 : decode cX1_depthOf 63 = .ok (.aload_n 0, 1) := by decide +kernel
theorem dX1_depthOf_64 : decode cX1_depthOf 64 = .ok (.getfield 50, 3) := by decide +kernel
theorem dX1_depthOf_67 : decode cX1_depthOf 67 = .ok (.iload_n 2, 1) := by decide +kernel
theorem dX1_depthOf_68 : decode cX1_depthOf 68 = .ok (.iload 6, 2) := by decide +kernel
theorem dX1_depthOf_70 : decode cX1_depthOf 70 = .ok (.iadd, 1) := by decide +kernel
theorem dX1_depthOf_71 : decode cX1_depthOf 71 = .ok (.iaload, 1) := by decide +kernel
theorem dX1_depthOf_72 : decode cX1_depthOf 72 = .ok (.iload 4, 2) := by decide +kernel
theorem dX1_depthOf_74 : decode cX1_depthOf 74 = .ok (.if_icmp .le 7, 3) := by decide +kernel
theorem dX1_depthOf_77 : decode cX1_depthOf 77 = .ok (.iconst 1, 1) := by decide +kernel
theorem dX1_depthOf_78 : decode cX1_depthOf 78 = .ok (.goto 4, 3) := by decide +kernel
theorem dX1_depthOf_81 : decode cX1_depthOf 81 = .ok (.iconst 0, 1) := by decide +kernel
theorem dX1_depthOf_82 : decode cX1_depthOf 82 = .ok (.iadd, 1) := by decide +kernel
theorem dX1_depthOf_83 : decode cX1_depthOf 83 = .ok (.istore 5, 2) := by decide +kernel
theorem dX1_depthOf_85 : decode cX1_depthOf 85 = .ok (.iinc 6 1, 3) := by decide +kernel
theorem dX1_depthOf_88 : decode cX1_depthOf 88 = .ok (.goto (-60), 3) := by decide +kernel
theorem dX1_depthOf_91 : decode cX1_depthOf 91 = .ok (.iload 5, 2) := by decide +kernel
theorem dX1_depthOf_93 : decode cX1_depthOf 93 = .ok (.iload_n 3, 1) := by decide +kernel
theorem dX1_depthOf_94 : decode cX1_depthOf 94 = .ok (.if_icmp .le 8, 3) := by decide +kernel
theorem dX1_depthOf_97 : decode cX1_depthOf 97 = .ok (.iload 5, 2) := by decide +kernel
theorem dX1_depthOf_99 : decode cX1_depthOf 99 = .ok (.goto 4, 3) := by decide +kernel
theorem dX1_depthOf_102 : decode cX1_depthOf 102 = .ok (.iload_n 3, 1) := by decide +kernel
theorem dX1_depthOf_103 : decode cX1_depthOf 103 = .ok (.istore_n 3, 1) := by decide +kernel
theorem dX1_depthOf_104 : decode cX1_depthOf 104 = .ok (.iinc 4 1, 3) := by decide +kernel
theorem dX1_depthOf_107 : decode cX1_depthOf 107 = .ok (.goto (-96), 3) := by decide +kernel
theorem dX1_depthOf_110 : decode cX1_depthOf 110 = .ok (.iload_n 3, 1) := by decide +kernel
theorem dX1_depthOf_111 : decode cX1_depthOf 111 = .ok (.ireturn, 1) := by decide +kernel
noncomputable def C_X1_depthOf_L28 (l : Launch) (δ : Dl) : Seg (l, δ, yX1_depthOf, 0, (some .int), cX1_depthOf, 7) 28 91 :=
  seq (p := 28) (q := 30) (r := 91) (p_iload 6 dX1_depthOf_28) (seq (p := 30) (q := 32) (r := 91) (p_iload 4 dX1_depthOf_30) (seq (p := 32) (q := 35) (r := 91) (p_icmp_gt 91 dX1_depthOf_32 (by decide)) (seq (p := 35) (q := 37) (r := 91) (p_iload 5 dX1_depthOf_35) (seq (p := 37) (q := 38) (r := 91) (p_aload_n 0 dX1_depthOf_37) (seq (p := 38) (q := 41) (r := 91) (p_get [(1, 19)] (alL1 fl_X1_40_1) dX1_depthOf_38) (seq (p := 41) (q := 42) (r := 91) (p_iload_n 2 dX1_depthOf_41) (seq (p := 42) (q := 44) (r := 91) (p_iload 6 dX1_depthOf_42) (seq (p := 44) (q := 45) (r := 91) (p_iadd dX1_depthOf_44) (seq (p := 45) (q := 46) (r := 91) (p_bald dX1_depthOf_45) (seq (p := 46) (q := 47) (r := 91) (p_iconst 2 dX1_depthOf_46) (seq (p := 47) (q := 82) (r := 91) (blk (seq (p := 47) (q := 81) (r := 82) (blk (seq (p := 47) (q := 63) (r := 81) (blk (seq (p := 47) (q := 50) (r := 63) (p_icmp_eq 63 dX1_depthOf_47 (by decide)) (seq (p := 50) (q := 51) (r := 63) (p_aload_n 0 dX1_depthOf_50) (seq (p := 51) (q := 54) (r := 63) (p_get [(1, 19)] (alL1 fl_X1_40_1) dX1_depthOf_51) (seq (p := 54) (q := 55) (r := 63) (p_iload_n 2 dX1_depthOf_54) (seq (p := 55) (q := 57) (r := 63) (p_iload 6 dX1_depthOf_55) (seq (p := 57) (q := 58) (r := 63) (p_iadd dX1_depthOf_57) (seq (p := 58) (q := 59) (r := 63) (p_bald dX1_depthOf_58) (seq (p := 59) (q := 60) (r := 63) (p_iconst 3 dX1_depthOf_59) (seq (p := 60) (q := 63) (r := 63) (p_icmp_ne 81 dX1_depthOf_60 (by decide)) done)))))))))) (seq (p := 63) (q := 64) (r := 81) (p_aload_n 0 dX1_depthOf_63) (seq (p := 64) (q := 67) (r := 81) (p_get [(1, 22)] (alL1 fl_X1_50_1) dX1_depthOf_64) (seq (p := 67) (q := 68) (r := 81) (p_iload_n 2 dX1_depthOf_67) (seq (p := 68) (q := 70) (r := 81) (p_iload 6 dX1_depthOf_68) (seq (p := 70) (q := 71) (r := 81) (p_iadd dX1_depthOf_70) (seq (p := 71) (q := 72) (r := 81) (p_iald dX1_depthOf_71) (seq (p := 72) (q := 74) (r := 81) (p_iload 4 dX1_depthOf_72) (seq (p := 74) (q := 77) (r := 81) (p_icmp_le 81 dX1_depthOf_74 (by decide)) (seq (p := 77) (q := 78) (r := 81) (p_iconst 1 dX1_depthOf_77) (seq (p := 78) (q := 81) (r := 81) (p_goto 82 dX1_depthOf_78 (by decide)) done)))))))))))) (seq (p := 81) (q := 82) (r := 82) (p_iconst 0 dX1_depthOf_81) done))) (seq (p := 82) (q := 83) (r := 91) (p_iadd dX1_depthOf_82) (seq (p := 83) (q := 85) (r := 91) (p_istore 5 dX1_depthOf_83 (Nat.le_of_ble_eq_true rfl)) (seq (p := 85) (q := 88) (r := 91) (p_iinc 6 1 dX1_depthOf_85 (Nat.le_of_ble_eq_true rfl)) (seq (p := 88) (q := 88) (r := 91) (er [true, true, true, true, true, true, true]) (seq (p := 88) (q := 91) (r := 91) (p_goto 28 dX1_depthOf_88 (by decide)) done))))))))))))))))
noncomputable def B_X1_depthOf_L28 (l : Launch) (δ : Dl) : Seg (l, δ, yX1_depthOf, 0, (some .int), cX1_depthOf, 7) 28 91 := C_X1_depthOf_L28 l δ
theorem L_X1_depthOf_28 {l : Launch} {δ : Dl} {st : Stk} {L : Lc} {s : St} : (B_X1_depthOf_L28 l δ).1 st L s = (C_X1_depthOf_L28 l δ).1 st L s := nrfl rfl
noncomputable def C_X1_depthOf_L11 (l : Launch) (δ : Dl) : Seg (l, δ, yX1_depthOf, 0, (some .int), cX1_depthOf, 7) 11 110 :=
  seq (p := 11) (q := 13) (r := 110) (p_iload 4 dX1_depthOf_11) (seq (p := 13) (q := 14) (r := 110) (p_aload_n 0 dX1_depthOf_13) (seq (p := 14) (q := 17) (r := 110) (p_get [(1, 18)] (alL1 fl_X1_37_1) dX1_depthOf_14) (seq (p := 17) (q := 18) (r := 110) (p_iload_n 1 dX1_depthOf_17) (seq (p := 18) (q := 19) (r := 110) (p_iald dX1_depthOf_18) (seq (p := 19) (q := 22) (r := 110) (p_icmp_ge 110 dX1_depthOf_19 (by decide)) (seq (p := 22) (q := 23) (r := 110) (p_iconst 0 dX1_depthOf_22) (seq (p := 23) (q := 25) (r := 110) (p_istore 5 dX1_depthOf_23 (Nat.le_of_ble_eq_true rfl)) (seq (p := 25) (q := 26) (r := 110) (p_iconst 0 dX1_depthOf_25) (seq (p := 26) (q := 28) (r := 110) (p_istore 6 dX1_depthOf_26 (Nat.le_of_ble_eq_true rfl)) (seq (p := 28) (q := 91) (r := 110) (blk (seq (p := 28) (q := 28) (r := 91) (er [true, true, true, true, true, true, true]) (seq (p := 28) (q := 91) (r := 91) (lp (B_X1_depthOf_L28 l δ)) done))) (seq (p := 91) (q := 93) (r := 110) (p_iload 5 dX1_depthOf_91) (seq (p := 93) (q := 94) (r := 110) (p_iload_n 3 dX1_depthOf_93) (seq (p := 94) (q := 103) (r := 110) (blk (seq (p := 94) (q := 102) (r := 103) (blk (seq (p := 94) (q := 97) (r := 102) (p_icmp_le 102 dX1_depthOf_94 (by decide)) (seq (p := 97) (q := 99) (r := 102) (p_iload 5 dX1_depthOf_97) (seq (p := 99) (q := 102) (r := 102) (p_goto 103 dX1_depthOf_99 (by decide)) done)))) (seq (p := 102) (q := 103) (r := 103) (p_iload_n 3 dX1_depthOf_102) done))) (seq (p := 103) (q := 104) (r := 110) (p_istore_n 3 dX1_depthOf_103 (Nat.le_of_ble_eq_true rfl)) (seq (p := 104) (q := 107) (r := 110) (p_iinc 4 1 dX1_depthOf_104 (Nat.le_of_ble_eq_true rfl)) (seq (p := 107) (q := 107) (r := 110) (er [true, true, true, true, true, false, false]) (seq (p := 107) (q := 110) (r := 110) (p_goto 11 dX1_depthOf_107 (by decide)) done)))))))))))))))))
noncomputable def B_X1_depthOf_L11 (l : Launch) (δ : Dl) : Seg (l, δ, yX1_depthOf, 0, (some .int), cX1_depthOf, 7) 11 110 := C_X1_depthOf_L11 l δ
theorem L_X1_depthOf_11 {l : Launch} {δ : Dl} {st : Stk} {L : Lc} {s : St} : (B_X1_depthOf_L11 l δ).1 st L s = (C_X1_depthOf_L11 l δ).1 st L s := nrfl rfl
noncomputable def B_X1_depthOf (l : Launch) (δ : Dl) : Seg (l, δ, yX1_depthOf, 0, (some .int), cX1_depthOf, 7) 0 112 :=
  seq (p := 0) (q := 3) (r := 112) (p_sipush 600 dX1_depthOf_0 (by decide)) (seq (p := 3) (q := 4) (r := 112) (p_iload_n 1 dX1_depthOf_3) (seq (p := 4) (q := 5) (r := 112) (p_imul dX1_depthOf_4) (seq (p := 5) (q := 6) (r := 112) (p_istore_n 2 dX1_depthOf_5 (Nat.le_of_ble_eq_true rfl)) (seq (p := 6) (q := 7) (r := 112) (p_iconst 0 dX1_depthOf_6) (seq (p := 7) (q := 8) (r := 112) (p_istore_n 3 dX1_depthOf_7 (Nat.le_of_ble_eq_true rfl)) (seq (p := 8) (q := 9) (r := 112) (p_iconst 0 dX1_depthOf_8) (seq (p := 9) (q := 11) (r := 112) (p_istore 4 dX1_depthOf_9 (Nat.le_of_ble_eq_true rfl)) (seq (p := 11) (q := 110) (r := 112) (blk (seq (p := 11) (q := 11) (r := 110) (er [true, true, true, true, true, false, false]) (seq (p := 11) (q := 110) (r := 110) (lp (B_X1_depthOf_L11 l δ)) done))) (seq (p := 110) (q := 111) (r := 112) (p_iload_n 3 dX1_depthOf_110) (seq (p := 111) (q := 112) (r := 112) (p_ireturn dX1_depthOf_111 rfl) done))))))))))
noncomputable def M_X1_depthOf (l : Launch) (δ : Dl) : Mth l δ yX1_depthOf cX1_depthOf 7 (some .int) 0 := mk (B_X1_depthOf l δ) (by decide)
theorem N_X1_depthOf {l : Launch} {δ : Dl} {o : Nat} {a1 : Int} {s : St} : (M_X1_depthOf l δ).1 [.inr (.inr (some o)), .inl a1] s = bres ((B_X1_depthOf l δ).1 [] [some (.inr (.inr (some o))), some (.inl a1), none, none, none, none, none] s) := (mk_eq (hy := by decide) rfl).trans (nrfl rfl)
theorem dX1_noSentence_0 : decode cX1_noSentence 0 = .ok (.iload_n 1, 1) := by decide +kernel
theorem dX1_noSentence_1 : decode cX1_noSentence 1 = .ok (.iconst 0, 1) := by decide +kernel
theorem dX1_noSentence_2 : decode cX1_noSentence 2 = .ok (.aload_n 0, 1) := by decide +kernel
theorem dX1_noSentence_3 : decode cX1_noSentence 3 = .ok (.getfield 290, 3) := by decide +kernel
theorem dX1_noSentence_6 : decode cX1_noSentence 6 = .ok (.iconst 1, 1) := by decide +kernel
theorem dX1_noSentence_7 : decode cX1_noSentence 7 = .ok (.isub, 1) := by decide +kernel
theorem dX1_noSentence_8 : decode cX1_noSentence 8 = .ok (.invokestatic 133, 3) := by decide +kernel
theorem dX1_noSentence_11 : decode cX1_noSentence 11 = .ok (.ifCond .ne 7, 3) := by decide +kernel
theorem dX1_noSentence_14 : decode cX1_noSentence 14 = .ok (.iconst 1, 1) := by decide +kernel
theorem dX1_noSentence_15 : decode cX1_noSentence 15 = .ok (.goto 4, 3) := by decide +kernel
theorem dX1_noSentence_18 : decode cX1_noSentence 18 = .ok (.iconst 0, 1) := by decide +kernel
theorem dX1_noSentence_19 : decode cX1_noSentence 19 = .ok (.ireturn, 1) := by decide +kernel
noncomputable def B_X1_noSentence (l : Launch) (δ : Dl) : Seg (l, δ, yX1_noSentence, 1, (some .boolean), cX1_noSentence, 2) 0 20 :=
  seq (p := 0) (q := 1) (r := 20) (p_iload_n 1 dX1_noSentence_0) (seq (p := 1) (q := 2) (r := 20) (p_iconst 0 dX1_noSentence_1) (seq (p := 2) (q := 3) (r := 20) (p_aload_n 0 dX1_noSentence_2) (seq (p := 3) (q := 6) (r := 20) (p_get [(1, 17)] (alL1 fl_X1_290_1) dX1_noSentence_3) (seq (p := 6) (q := 7) (r := 20) (p_iconst 1 dX1_noSentence_6) (seq (p := 7) (q := 8) (r := 20) (p_isub dX1_noSentence_7) (seq (p := 8) (q := 11) (r := 20) (p_callS cs_X1_133 (M_X1_in l δ) (Nat.le_of_ble_eq_true rfl) dX1_noSentence_8) (seq (p := 11) (q := 19) (r := 20) (blk (seq (p := 11) (q := 18) (r := 19) (blk (seq (p := 11) (q := 14) (r := 18) (p_if_ne 18 dX1_noSentence_11 (by decide)) (seq (p := 14) (q := 15) (r := 18) (p_iconst 1 dX1_noSentence_14) (seq (p := 15) (q := 18) (r := 18) (p_goto 19 dX1_noSentence_15 (by decide)) done)))) (seq (p := 18) (q := 19) (r := 19) (p_iconst 0 dX1_noSentence_18) done))) (seq (p := 19) (q := 20) (r := 20) (p_zreturn dX1_noSentence_19 rfl) done))))))))
noncomputable def M_X1_noSentence (l : Launch) (δ : Dl) : Mth l δ yX1_noSentence cX1_noSentence 2 (some .boolean) 1 := mk (B_X1_noSentence l δ) (by decide)
theorem N_X1_noSentence {l : Launch} {δ : Dl} {o : Nat} {a1 : Int} {s : St} : (M_X1_noSentence l δ).1 [.inr (.inr (some o)), .inl a1] s = bres ((B_X1_noSentence l δ).1 [] [some (.inr (.inr (some o))), some (.inl a1)] s) := (mk_eq (hy := by decide) rfl).trans (nrfl rfl)
theorem dX1_write_0 : decode cX1_write 0 = .ok (.aload_n 0, 1) := by decide +kernel
theorem dX1_write_1 : decode cX1_write 1 = .ok (.getfield 86, 3) := by decide +kernel
theorem dX1_write_4 : decode cX1_write 4 = .ok (.aload_n 0, 1) := by decide +kernel
theorem dX1_write_5 : decode cX1_write 5 = .ok (.getfield 302, 3) := by decide +kernel
theorem dX1_write_8 : decode cX1_write 8 = .ok (.iload_n 1, 1) := by decide +kernel
theorem dX1_write_9 : decode cX1_write 9 = .ok (.i2b, 1) := by decide +kernel
theorem dX1_write_10 : decode cX1_write 10 = .ok (.bastore, 1) := by decide +kernel
theorem dX1_write_11 : decode cX1_write 11 = .ok (.aload_n 0, 1) := by decide +kernel
theorem dX1_write_12 : decode cX1_write 12 = .ok (.dup, 1) := by decide +kernel
theorem dX1_write_13 : decode cX1_write 13 = .ok (.getfield 302, 3) := by decide +kernel
theorem dX1_write_16 : decode cX1_write 16 = .ok (.iconst 1, 1) := by decide +kernel
theorem dX1_write_17 : decode cX1_write 17 = .ok (.iadd, 1) := by decide +kernel
theorem dX1_write_18 : decode cX1_write 18 = .ok (.putfield 302, 3) := by decide +kernel
theorem dX1_write_21 : decode cX1_write 21 = .ok (.return_, 1) := by decide +kernel
noncomputable def B_X1_write (l : Launch) (δ : Dl) : Seg (l, δ, yX1_write, 0, none, cX1_write, 2) 0 22 :=
  seq (p := 0) (q := 1) (r := 22) (p_aload_n 0 dX1_write_0) (seq (p := 1) (q := 4) (r := 22) (p_get [(1, 43)] (alL1 fl_X1_86_1) dX1_write_1) (seq (p := 4) (q := 5) (r := 22) (p_aload_n 0 dX1_write_4) (seq (p := 5) (q := 8) (r := 22) (p_get [(1, 42)] (alL1 fl_X1_302_1) dX1_write_5) (seq (p := 8) (q := 9) (r := 22) (p_iload_n 1 dX1_write_8) (seq (p := 9) (q := 10) (r := 22) (p_i2b dX1_write_9) (seq (p := 10) (q := 11) (r := 22) (p_bast dX1_write_10) (seq (p := 11) (q := 12) (r := 22) (p_aload_n 0 dX1_write_11) (seq (p := 12) (q := 13) (r := 22) (p_dup dX1_write_12) (seq (p := 13) (q := 16) (r := 22) (p_get [(1, 42)] (alL1 fl_X1_302_1) dX1_write_13) (seq (p := 16) (q := 17) (r := 22) (p_iconst 1 dX1_write_16) (seq (p := 17) (q := 18) (r := 22) (p_iadd dX1_write_17) (seq (p := 18) (q := 21) (r := 22) (p_put [(1, 42)] .int (alP1 fp_X1_302_1) dX1_write_18) (seq (p := 21) (q := 22) (r := 22) (p_return dX1_write_21 rfl) done)))))))))))))
noncomputable def M_X1_write (l : Launch) (δ : Dl) : Mth l δ yX1_write cX1_write 2 none 0 := mk (B_X1_write l δ) (by decide)
theorem N_X1_write {l : Launch} {δ : Dl} {o : Nat} {a1 : Int} {s : St} : (M_X1_write l δ).1 [.inr (.inr (some o)), .inl a1] s = bres ((B_X1_write l δ).1 [] [some (.inr (.inr (some o))), some (.inl a1)] s) := (mk_eq (hy := by decide) rfl).trans (nrfl rfl)
theorem dX1_writeAtom_0 : decode cX1_writeAtom 0 = .ok (.aload_n 0, 1) := by decide +kernel
theorem dX1_writeAtom_1 : decode cX1_writeAtom 1 = .ok (.getfield 40, 3) := by decide +kernel
theorem dX1_writeAtom_4 : decode cX1_writeAtom 4 = .ok (.iload_n 1, 1) := by decide +kernel
theorem dX1_writeAtom_5 : decode cX1_writeAtom 5 = .ok (.baload, 1) := by decide +kernel
theorem dX1_writeAtom_6 : decode cX1_writeAtom 6 = .ok (.istore_n 2, 1) := by decide +kernel
theorem dX1_writeAtom_7 : decode cX1_writeAtom 7 = .ok (.aload_n 0, 1) := by decide +kernel
theorem dX1_writeAtom_8 : decode cX1_writeAtom 8 = .ok (.iload_n 2, 1) := by decide +kernel
theorem dX1_writeAtom_9 : decode cX1_writeAtom 9 = .ok (.bipush 6, 2) := by decide +kernel
theorem dX1_writeAtom_11 : decode cX1_writeAtom 11 = .ok (.if_icmp .ne 8, 3) := by decide +kernel
theorem dX1_writeAtom_14 : decode cX1_writeAtom 14 = .ok (.bipush 65, 2) := by decide +kernel
theorem dX1_writeAtom_16 : decode cX1_writeAtom 16 = .ok (.goto 49, 3) := by decide +kernel
theorem dX1_writeAtom_19 : decode cX1_writeAtom 19 = .ok (.iload_n 2, 1) := by decide +kernel
theorem dX1_writeAtom_20 : decode cX1_writeAtom 20 = .ok (.bipush 7, 2) := by decide +kernel
theorem dX1_writeAtom_22 : decode cX1_writeAtom 22 = .ok (.if_icmp .ne 8, 3) := by decide +kernel
theorem dX1_writeAtom_25 : decode cX1_writeAtom 25 = .ok (.bipush 66, 2) := by decide +kernel
theorem dX1_writeAtom_27 : decode cX1_writeAtom 27 = .ok (.goto 38, 3) := by decide +kernel
theorem dX1_writeAtom_30 : decode cX1_writeAtom 30 = .ok (.iload_n 2, 1) := by decide +kernel
theorem dX1_writeAtom_31 : decode cX1_writeAtom 31 = .ok (.bipush 8, 2) := by decide +kernel
theorem dX1_writeAtom_33 : decode cX1_writeAtom 33 = .ok (.if_icmp .ne 8, 3) := by decide +kernel
theorem dX1_writeAtom_36 : decode cX1_writeAtom 36 = .ok (.bipush 69, 2) := by decide +kernel
theorem dX1_writeAtom_38 : decode cX1_writeAtom 38 = .ok (.goto 27, 3) := by decide +kernel
theorem dX1_writeAtom_41 : decode cX1_writeAtom 41 = .ok (.iload_n 2, 1) := by decide +kernel
theorem dX1_writeAtom_42 : decode cX1_writeAtom 42 = .ok (.bipush 9, 2) := by decide +kernel
theorem dX1_writeAtom_44 : decode cX1_writeAtom 44 = .ok (.if_icmp .ne 8, 3) := by decide +kernel
theorem dX1_writeAtom_47 : decode cX1_writeAtom 47 = .ok (.bipush 61, 2) := by decide +kernel
theorem dX1_writeAtom_49 : decode cX1_writeAtom 49 = .ok (.goto 16, 3) := by decide +kernel
theorem dX1_writeAtom_52 : decode cX1_writeAtom 52 = .ok (.iload_n 2, 1) := by decide +kernel
theorem dX1_writeAtom_53 : decode cX1_writeAtom 53 = .ok (.bipush 10, 2) := by decide +kernel
theorem dX1_writeAtom_55 : decode cX1_writeAtom 55 = .ok (.if_icmp .ne 8, 3) := by decide +kernel
theorem dX1_writeAtom_58 : decode cX1_writeAtom 58 = .ok (.bipush 84, 2) := by decide +kernel
theorem dX1_writeAtom_60 : decode cX1_writeAtom 60 = .ok (.goto 5, 3) := by decide +kernel
theorem dX1_writeAtom_63 : decode cX1_writeAtom 63 = .ok (.bipush 70, 2) := by decide +kernel
theorem dX1_writeAtom_65 : decode cX1_writeAtom 65 = .ok (.invokevirtual 305, 3) := by decide +kernel
theorem dX1_writeAtom_68 : decode cX1_writeAtom 68 = .ok (.iload_n 2, 1) := by decide +kernel
theorem dX1_writeAtom_69 : decode cX1_writeAtom 69 = .ok (.bipush 10, 2) := by decide +kernel
theorem dX1_writeAtom_71 : decode cX1_writeAtom 71 = .ok (.if_icmp .ge 16, 3) := by decide +kernel
theorem dX1_writeAtom_74 : decode cX1_writeAtom 74 = .ok (.aload_n 0, 1) := by decide +kernel
theorem dX1_writeAtom_75 : decode cX1_writeAtom 75 = .ok (.bipush 97, 2) := by decide +kernel
theorem dX1_writeAtom_77 : decode cX1_writeAtom 77 = .ok (.aload_n 0, 1) := by decide +kernel
theorem dX1_writeAtom_78 : decode cX1_writeAtom 78 = .ok (.getfield 44, 3) := by decide +kernel
theorem dX1_writeAtom_81 : decode cX1_writeAtom 81 = .ok (.iload_n 1, 1) := by decide +kernel
theorem dX1_writeAtom_82 : decode cX1_writeAtom 82 = .ok (.iaload, 1) := by decide +kernel
theorem dX1_writeAtom_83 : decode cX1_writeAtom 83 = .ok (.iadd, 1) := by decide +kernel
theorem dX1_writeAtom_84 : decode cX1_writeAtom 84 = .ok (.invokevirtual 305, 3) := by decide +kernel
theorem dX1_writeAtom_87 : decode cX1_writeAtom 87 = .ok (.iload_n 2, 1) := by decide +kernel
theorem dX1_writeAtom_88 : decode cX1_writeAtom 88 = .ok (.bipush 8, 2) := by decide +kernel
theorem dX1_writeAtom_90 : decode cX1_writeAtom 90 = .ok (.if_icmp .eq 9, 3) := by decide +kernel
theorem dX1_writeAtom_93 : decode cX1_writeAtom 93 = .ok (.iload_n 2, 1) := by decide +kernel
theorem dX1_writeAtom_94 : decode cX1_writeAtom 94 = .ok (.bipush 9, 2) := by decide +kernel
theorem dX1_writeAtom_96 : decode cX1_writeAtom 96 = .ok (.if_icmp .ne 16, 3) := by decide +kernel
theorem dX1_writeAtom_99 : decode cX1_writeAtom 99 = .ok (.aload_n 0, 1) := by decide +kernel
theorem dX1_writeAtom_100 : decode cX1_writeAtom 100 = .ok (.bipush 97, 2) := by decide +kernel
theorem dX1_writeAtom_102 : decode cX1_writeAtom 102 = .ok (.aload_n 0, 1) := by decide +kernel
theorem dX1_writeAtom_103 : decode cX1_writeAtom 103 = .ok (.getfield 47, 3) := by decide +kernel
theorem dX1_writeAtom_106 : decode cX1_writeAtom 106 = .ok (.iload_n 1, 1) := by decide +kernel
theorem dX1_writeAtom_107 : decode cX1_writeAtom 107 = .ok (.baload, 1) := by decide +kernel
theorem dX1_writeAtom_108 : decode cX1_writeAtom 108 = .ok (.iadd, 1) := by decide +kernel
theorem dX1_writeAtom_109 : decode cX1_writeAtom 109 = .ok (.invokevirtual 305, 3) := by decide +kernel
theorem dX1_writeAtom_112 : decode cX1_writeAtom 112 = .ok (.return_, 1) := by decide +kernel
noncomputable def B_X1_writeAtom (l : Launch) (δ : Dl) : Seg (l, δ, yX1_writeAtom, 1, none, cX1_writeAtom, 3) 0 113 :=
  seq (p := 0) (q := 1) (r := 113) (p_aload_n 0 dX1_writeAtom_0) (seq (p := 1) (q := 4) (r := 113) (p_get [(1, 19)] (alL1 fl_X1_40_1) dX1_writeAtom_1) (seq (p := 4) (q := 5) (r := 113) (p_iload_n 1 dX1_writeAtom_4) (seq (p := 5) (q := 6) (r := 113) (p_bald dX1_writeAtom_5) (seq (p := 6) (q := 7) (r := 113) (p_istore_n 2 dX1_writeAtom_6 (Nat.le_of_ble_eq_true rfl)) (seq (p := 7) (q := 8) (r := 113) (p_aload_n 0 dX1_writeAtom_7) (seq (p := 8) (q := 9) (r := 113) (p_iload_n 2 dX1_writeAtom_8) (seq (p := 9) (q := 11) (r := 113) (p_bipush 6 dX1_writeAtom_9 (by decide)) (seq (p := 11) (q := 65) (r := 113) (blk (seq (p := 11) (q := 19) (r := 65) (blk (seq (p := 11) (q := 14) (r := 19) (p_icmp_ne 19 dX1_writeAtom_11 (by decide)) (seq (p := 14) (q := 16) (r := 19) (p_bipush 65 dX1_writeAtom_14 (by decide)) (seq (p := 16) (q := 19) (r := 19) (p_goto 65 dX1_writeAtom_16 (by decide)) done)))) (seq (p := 19) (q := 20) (r := 65) (p_iload_n 2 dX1_writeAtom_19) (seq (p := 20) (q := 22) (r := 65) (p_bipush 7 dX1_writeAtom_20 (by decide)) (seq (p := 22) (q := 30) (r := 65) (blk (seq (p := 22) (q := 25) (r := 30) (p_icmp_ne 30 dX1_writeAtom_22 (by decide)) (seq (p := 25) (q := 27) (r := 30) (p_bipush 66 dX1_writeAtom_25 (by decide)) (seq (p := 27) (q := 30) (r := 30) (p_goto 65 dX1_writeAtom_27 (by decide)) done)))) (seq (p := 30) (q := 31) (r := 65) (p_iload_n 2 dX1_writeAtom_30) (seq (p := 31) (q := 33) (r := 65) (p_bipush 8 dX1_writeAtom_31 (by decide)) (seq (p := 33) (q := 41) (r := 65) (blk (seq (p := 33) (q := 36) (r := 41) (p_icmp_ne 41 dX1_writeAtom_33 (by decide)) (seq (p := 36) (q := 38) (r := 41) (p_bipush 69 dX1_writeAtom_36 (by decide)) (seq (p := 38) (q := 41) (r := 41) (p_goto 65 dX1_writeAtom_38 (by decide)) done)))) (seq (p := 41) (q := 42) (r := 65) (p_iload_n 2 dX1_writeAtom_41) (seq (p := 42) (q := 44) (r := 65) (p_bipush 9 dX1_writeAtom_42 (by decide)) (seq (p := 44) (q := 52) (r := 65) (blk (seq (p := 44) (q := 47) (r := 52) (p_icmp_ne 52 dX1_writeAtom_44 (by decide)) (seq (p := 47) (q := 49) (r := 52) (p_bipush 61 dX1_writeAtom_47 (by decide)) (seq (p := 49) (q := 52) (r := 52) (p_goto 65 dX1_writeAtom_49 (by decide)) done)))) (seq (p := 52) (q := 53) (r := 65) (p_iload_n 2 dX1_writeAtom_52) (seq (p := 53) (q := 55) (r := 65) (p_bipush 10 dX1_writeAtom_53 (by decide)) (seq (p := 55) (q := 63) (r := 65) (blk (seq (p := 55) (q := 58) (r := 63) (p_icmp_ne 63 dX1_writeAtom_55 (by decide)) (seq (p := 58) (q := 60) (r := 63) (p_bipush 84 dX1_writeAtom_58 (by decide)) (seq (p := 60) (q := 63) (r := 63) (p_goto 65 dX1_writeAtom_60 (by decide)) done)))) (seq (p := 63) (q := 65) (r := 65) (p_bipush 70 dX1_writeAtom_63 (by decide)) done))))))))))))))) (seq (p := 65) (q := 68) (r := 113) (p_callV 1 cv_X1_305 hcR1 (M_X1_write l δ) (Nat.le_of_ble_eq_true rfl) dX1_writeAtom_65) (seq (p := 68) (q := 69) (r := 113) (p_iload_n 2 dX1_writeAtom_68) (seq (p := 69) (q := 71) (r := 113) (p_bipush 10 dX1_writeAtom_69 (by decide)) (seq (p := 71) (q := 87) (r := 113) (blk (seq (p := 71) (q := 74) (r := 87) (p_icmp_ge 87 dX1_writeAtom_71 (by decide)) (seq (p := 74) (q := 75) (r := 87) (p_aload_n 0 dX1_writeAtom_74) (seq (p := 75) (q := 77) (r := 87) (p_bipush 97 dX1_writeAtom_75 (by decide)) (seq (p := 77) (q := 78) (r := 87) (p_aload_n 0 dX1_writeAtom_77) (seq (p := 78) (q := 81) (r := 87) (p_get [(1, 20)] (alL1 fl_X1_44_1) dX1_writeAtom_78) (seq (p := 81) (q := 82) (r := 87) (p_iload_n 1 dX1_writeAtom_81) (seq (p := 82) (q := 83) (r := 87) (p_iald dX1_writeAtom_82) (seq (p := 83) (q := 84) (r := 87) (p_iadd dX1_writeAtom_83) (seq (p := 84) (q := 87) (r := 87) (p_callV 1 cv_X1_305 hcR1 (M_X1_write l δ) (Nat.le_of_ble_eq_true rfl) dX1_writeAtom_84) done)))))))))) (seq (p := 87) (q := 88) (r := 113) (p_iload_n 2 dX1_writeAtom_87) (seq (p := 88) (q := 90) (r := 113) (p_bipush 8 dX1_writeAtom_88 (by decide)) (seq (p := 90) (q := 112) (r := 113) (blk (seq (p := 90) (q := 99) (r := 112) (blk (seq (p := 90) (q := 93) (r := 99) (p_icmp_eq 99 dX1_writeAtom_90 (by decide)) (seq (p := 93) (q := 94) (r := 99) (p_iload_n 2 dX1_writeAtom_93) (seq (p := 94) (q := 96) (r := 99) (p_bipush 9 dX1_writeAtom_94 (by decide)) (seq (p := 96) (q := 99) (r := 99) (p_icmp_ne 112 dX1_writeAtom_96 (by decide)) done))))) (seq (p := 99) (q := 100) (r := 112) (p_aload_n 0 dX1_writeAtom_99) (seq (p := 100) (q := 102) (r := 112) (p_bipush 97 dX1_writeAtom_100 (by decide)) (seq (p := 102) (q := 103) (r := 112) (p_aload_n 0 dX1_writeAtom_102) (seq (p := 103) (q := 106) (r := 112) (p_get [(1, 21)] (alL1 fl_X1_47_1) dX1_writeAtom_103) (seq (p := 106) (q := 107) (r := 112) (p_iload_n 1 dX1_writeAtom_106) (seq (p := 107) (q := 108) (r := 112) (p_bald dX1_writeAtom_107) (seq (p := 108) (q := 109) (r := 112) (p_iadd dX1_writeAtom_108) (seq (p := 109) (q := 112) (r := 112) (p_callV 1 cv_X1_305 hcR1 (M_X1_write l δ) (Nat.le_of_ble_eq_true rfl) dX1_writeAtom_109) done)))))))))) (seq (p := 112) (q := 113) (r := 113) (p_return dX1_writeAtom_112 rfl) done))))))))))))))))
noncomputable def M_X1_writeAtom (l : Launch) (δ : Dl) : Mth l δ yX1_writeAtom cX1_writeAtom 3 none 1 := mk (B_X1_writeAtom l δ) (by decide)
theorem N_X1_writeAtom {l : Launch} {δ : Dl} {o : Nat} {a1 : Int} {s : St} : (M_X1_writeAtom l δ).1 [.inr (.inr (some o)), .inl a1] s = bres ((B_X1_writeAtom l δ).1 [] [some (.inr (.inr (some o))), some (.inl a1), none] s) := (mk_eq (hy := by decide) rfl).trans (nrfl rfl)
theorem dX1_writeBehind_0 : decode cX1_writeBehind 0 = .ok (.sipush 600, 3) := by decide +kernel
theorem dX1_writeBehind_3 : decode cX1_writeBehind 3 = .ok (.iload_n 1, 1) := by decide +kernel
theorem dX1_writeBehind_4 : decode cX1_writeBehind 4 = .ok (.imul, 1) := by decide +kernel
theorem dX1_writeBehind_5 : decode cX1_writeBehind 5 = .ok (.istore_n 3, 1) := by decide +kernel
theorem dX1_writeBehind_6 : decode cX1_writeBehind 6 = .ok (.aload_n 0, 1) := by decide +kernel
theorem dX1_writeBehind_7 : decode cX1_writeBehind 7 = .ok (.getfield 308, 3) := by decide +kernel
theorem dX1_writeBehind_10 : decode cX1_writeBehind 10 = .ok (.ifCond .le 56, 3) := by decide +kernel
theorem dX1_writeBehind_13 : decode cX1_writeBehind 13 = .ok (.aload_n 0, 1) := by decide +kernel
theorem dX1_writeBehind_14 : decode cX1_writeBehind 14 = .ok (.getfield 50, 3) := by decide +kernel
theorem dX1_writeBehind_17 : decode cX1_writeBehind 17 = .ok (.iload_n 3, 1) := by decide +kernel
theorem dX1_writeBehind_18 : decode cX1_writeBehind 18 = .ok (.aload_n 0, 1) := by decide +kernel
theorem dX1_writeBehind_19 : decode cX1_writeBehind 19 = .ok (.getfield 77, 3) := by decide +kernel
theorem dX1_writeBehind_22 : decode cX1_writeBehind 22 = .ok (.aload_n 0, 1) := by decide +kernel
theorem dX1_writeBehind_23 : decode cX1_writeBehind 23 = .ok (.getfield 308, 3) := by decide +kernel
theorem dX1_writeBehind_26 : decode cX1_writeBehind 26 = .ok (.iconst 1, 1) := by decide +kernel
theorem dX1_writeBehind_27 : decode cX1_writeBehind 27 = .ok (.isub, 1) := by decide +kernel
theorem dX1_writeBehind_28 : decode cX1_writeBehind 28 = .ok (.iaload, 1) := by decide +kernel
theorem dX1_writeBehind_29 : decode cX1_writeBehind 29 = .ok (.iadd, 1) := by decide +kernel
theorem dX1_writeBehind_30 : decode cX1_writeBehind 30 = .ok (.iaload, 1) := by decide +kernel
theorem dX1_writeBehind_31 : decode cX1_writeBehind 31 = .ok (.iload_n 2, 1) := by decide +kernel
theorem dX1_writeBehind_32 : decode cX1_writeBehind 32 = .ok (.if_icmp .ne 34, 3) := by decide +kernel
theorem dX1_writeBehind_35 : decode cX1_writeBehind 35 = .ok (.aload_n 0, 1) := by decide +kernel
theorem dX1_writeBehind_36 : decode cX1_writeBehind 36 = .ok (.dup, 1) := by decide +kernel
theorem dX1_writeBehind_37 : decode cX1_writeBehind 37 = .ok (.getfield 308, 3) := by decide +kernel
theorem dX1_writeBehind_40 : decode cX1_writeBehind 40 = .ok (.iconst 1, 1) := by decide +kernel
theorem dX1_writeBehind_41 : decode cX1_writeBehind 41 = .ok (.isub, 1) := by decide +kernel
theorem dX1_writeBehind_42 : decode cX1_writeBehind 42 = .ok (.putfield 308, 3) := by decide +kernel
theorem dX1_writeBehind_45 : decode cX1_writeBehind 45 = .ok (.aload_n 0, 1) := by decide +kernel
theorem dX1_writeBehind_46 : decode cX1_writeBehind 46 = .ok (.getfield 77, 3) := by decide +kernel
theorem dX1_writeBehind_49 : decode cX1_writeBehind 49 = .ok (.aload_n 0, 1) := by decide +kernel
theorem dX1_writeBehind_50 : decode cX1_writeBehind 50 = .ok (.getfield 308, 3) := by decide +kernel
theorem dX1_writeBehind_53 : decode cX1_writeBehind 53 = .ok (.iaload, 1) := by decide +kernel
theorem dX1_writeBehind_54 : decode cX1_writeBehind 54 = .ok (.ifCond .le (-48), 3) := by decide +kernel
theorem dX1_writeBehind_57 : decode cX1_writeBehind 57 = .ok (.aload_n 0, 1) := by decide +kernel
theorem dX1_writeBehind_58 : decode cX1_writeBehind 58 = .ok (.bipush 41, 2) := by decide +kernel
theorem dX1_writeBehind_60 : decode cX1_writeBehind 60 = .ok (.invokevirtual 305, 3) := by decide +kernel
theorem dX1_writeBehind_63 : decode cX1_writeBehind 63 = .ok (.goto (-57), 3) := by decide +kernel
theorem dX1_writeBehind_66 : decode cX1_writeBehind 66 = .ok (.aload_n 0, 1) := by decide +kernel
theorem dX1_writeBehind_67 : decode cX1_writeBehind 67 = .ok (.getfield 308, 3) := by decide +kernel
theorem dX1_writeBehind_70 : decode cX1_writeBehind 70 = .ok (.ifCond .le 70, 3) := by decide +kernel
theorem dX1_writeBehind_73 : decode cX1_writeBehind 73 = .ok (.aload_n 0, 1) := by decide +kernel
theorem dX1_writeBehind_74 : decode cX1_writeBehind 74 = .ok (.getfield 83, 3) := by decide +kernel
theorem dX1_writeBehind_77 : decode cX1_writeBehind 77 = .ok (.aload_n 0, 1) := by decide +kernel
theorem dX1_writeBehind_78 : decode cX1_writeBehind 78 = .ok (.getfield 308, 3) := by decide +kernel
theorem dX1_writeBehind_81 : decode cX1_writeBehind 81 = .ok (.iconst 1, 1) := by decide +kernel
theorem dX1_writeBehind_82 : decode cX1_writeBehind 82 = .ok (.isub, 1) := by decide +kernel
theorem dX1_writeBehind_83 : decode cX1_writeBehind 83 = .ok (.iaload, 1) := by decide +kernel
theorem dX1_writeBehind_84 : decode cX1_writeBehind 84 = .ok (.iload_n 2, 1) := by decide +kernel
theorem dX1_writeBehind_85 : decode cX1_writeBehind 85 = .ok (.if_icmp .ne 55, 3) := by decide +kernel
theorem dX1_writeBehind_88 : decode cX1_writeBehind 88 = .ok (.aload_n 0, 1) := by decide +kernel
theorem dX1_writeBehind_89 : decode cX1_writeBehind 89 = .ok (.aload_n 0, 1) := by decide +kernel
theorem dX1_writeBehind_90 : decode cX1_writeBehind 90 = .ok (.getfield 40, 3) := by decide +kernel
theorem dX1_writeBehind_93 : decode cX1_writeBehind 93 = .ok (.iload_n 3, 1) := by decide +kernel
theorem dX1_writeBehind_94 : decode cX1_writeBehind 94 = .ok (.aload_n 0, 1) := by decide +kernel
theorem dX1_writeBehind_95 : decode cX1_writeBehind 95 = .ok (.getfield 77, 3) := by decide +kernel
theorem dX1_writeBehind_98 : decode cX1_writeBehind 98 = .ok (.aload_n 0, 1) := by decide +kernel
theorem dX1_writeBehind_99 : decode cX1_writeBehind 99 = .ok (.getfield 308, 3) := by decide +kernel
theorem dX1_writeBehind_102 : decode cX1_writeBehind 102 = .ok (.iconst 1, 1) := by decide +kernel
theorem dX1_writeBehind_103 : decode cX1_writeBehind 103 = .ok (.isub, 1) := by decide +kernel
theorem dX1_writeBehind_104 : decode cX1_writeBehind 104 = .ok (.iaload, 1) := by decide +kernel
theorem dX1_writeBehind_105 : decode cX1_writeBehind 105 = .ok (.iadd, 1) := by decide +kernel
theorem dX1_writeBehind_106 : decode cX1_writeBehind 106 = .ok (.baload, 1) := by decide +kernel
theorem dX1_writeBehind_107 : decode cX1_writeBehind 107 = .ok (.iconst 4, 1) := by decide +kernel
theorem dX1_writeBehind_108 : decode cX1_writeBehind 108 = .ok (.if_icmp .ne 8, 3) := by decide +kernel
theorem dX1_writeBehind_111 : decode cX1_writeBehind 111 = .ok (.bipush 38, 2) := by decide +kernel
theorem dX1_writeBehind_113 : decode cX1_writeBehind 113 = .ok (.goto 5, 3) := by decide +kernel
theorem dX1_writeBehind_116 : decode cX1_writeBehind 116 = .ok (.bipush 124, 2) := by decide +kernel
theorem dX1_writeBehind_118 : decode cX1_writeBehind 118 = .ok (.invokevirtual 305, 3) := by decide +kernel
theorem dX1_writeBehind_121 : decode cX1_writeBehind 121 = .ok (.aload_n 0, 1) := by decide +kernel
theorem dX1_writeBehind_122 : decode cX1_writeBehind 122 = .ok (.getfield 83, 3) := by decide +kernel
theorem dX1_writeBehind_125 : decode cX1_writeBehind 125 = .ok (.aload_n 0, 1) := by decide +kernel
theorem dX1_writeBehind_126 : decode cX1_writeBehind 126 = .ok (.getfield 308, 3) := by decide +kernel
theorem dX1_writeBehind_129 : decode cX1_writeBehind 129 = .ok (.iconst 1, 1) := by decide +kernel
theorem dX1_writeBehind_130 : decode cX1_writeBehind 130 = .ok (.isub, 1) := by decide +kernel
theorem dX1_writeBehind_131 : decode cX1_writeBehind 131 = .ok (.aload_n 0, 1) := by decide +kernel
theorem dX1_writeBehind_132 : decode cX1_writeBehind 132 = .ok (.getfield 50, 3) := by decide +kernel
theorem dX1_writeBehind_135 : decode cX1_writeBehind 135 = .ok (.iload_n 3, 1) := by decide +kernel
theorem dX1_writeBehind_136 : decode cX1_writeBehind 136 = .ok (.iload_n 2, 1) := by decide +kernel
theorem dX1_writeBehind_137 : decode cX1_writeBehind 137 = .ok (.iadd, 1) := by decide +kernel
theorem dX1_writeBehind_138 : decode cX1_writeBehind 138 = .ok (.iaload, 1) := by decide +kernel
theorem dX1_writeBehind_139 : decode cX1_writeBehind 139 = .ok (.iastore, 1) := by decide +kernel
theorem dX1_writeBehind_140 : decode cX1_writeBehind 140 = .ok (.return_, 1) := by decide +kernel
noncomputable def C_X1_writeBehind_L6 (l : Launch) (δ : Dl) : Seg (l, δ, yX1_writeBehind, 1, none, cX1_writeBehind, 4) 6 66 :=
  seq (p := 6) (q := 7) (r := 66) (p_aload_n 0 dX1_writeBehind_6) (seq (p := 7) (q := 10) (r := 66) (p_get [(1, 38)] (alL1 fl_X1_308_1) dX1_writeBehind_7) (seq (p := 10) (q := 13) (r := 66) (p_if_le 66 dX1_writeBehind_10 (by decide)) (seq (p := 13) (q := 14) (r := 66) (p_aload_n 0 dX1_writeBehind_13) (seq (p := 14) (q := 17) (r := 66) (p_get [(1, 22)] (alL1 fl_X1_50_1) dX1_writeBehind_14) (seq (p := 17) (q := 18) (r := 66) (p_iload_n 3 dX1_writeBehind_17) (seq (p := 18) (q := 19) (r := 66) (p_aload_n 0 dX1_writeBehind_18) (seq (p := 19) (q := 22) (r := 66) (p_get [(1, 39)] (alL1 fl_X1_77_1) dX1_writeBehind_19) (seq (p := 22) (q := 23) (r := 66) (p_aload_n 0 dX1_writeBehind_22) (seq (p := 23) (q := 26) (r := 66) (p_get [(1, 38)] (alL1 fl_X1_308_1) dX1_writeBehind_23) (seq (p := 26) (q := 27) (r := 66) (p_iconst 1 dX1_writeBehind_26) (seq (p := 27) (q := 28) (r := 66) (p_isub dX1_writeBehind_27) (seq (p := 28) (q := 29) (r := 66) (p_iald dX1_writeBehind_28) (seq (p := 29) (q := 30) (r := 66) (p_iadd dX1_writeBehind_29) (seq (p := 30) (q := 31) (r := 66) (p_iald dX1_writeBehind_30) (seq (p := 31) (q := 32) (r := 66) (p_iload_n 2 dX1_writeBehind_31) (seq (p := 32) (q := 35) (r := 66) (p_icmp_ne 66 dX1_writeBehind_32 (by decide)) (seq (p := 35) (q := 36) (r := 66) (p_aload_n 0 dX1_writeBehind_35) (seq (p := 36) (q := 37) (r := 66) (p_dup dX1_writeBehind_36) (seq (p := 37) (q := 40) (r := 66) (p_get [(1, 38)] (alL1 fl_X1_308_1) dX1_writeBehind_37) (seq (p := 40) (q := 41) (r := 66) (p_iconst 1 dX1_writeBehind_40) (seq (p := 41) (q := 42) (r := 66) (p_isub dX1_writeBehind_41) (seq (p := 42) (q := 45) (r := 66) (p_put [(1, 38)] .int (alP1 fp_X1_308_1) dX1_writeBehind_42) (seq (p := 45) (q := 46) (r := 66) (p_aload_n 0 dX1_writeBehind_45) (seq (p := 46) (q := 49) (r := 66) (p_get [(1, 39)] (alL1 fl_X1_77_1) dX1_writeBehind_46) (seq (p := 49) (q := 50) (r := 66) (p_aload_n 0 dX1_writeBehind_49) (seq (p := 50) (q := 53) (r := 66) (p_get [(1, 38)] (alL1 fl_X1_308_1) dX1_writeBehind_50) (seq (p := 53) (q := 54) (r := 66) (p_iald dX1_writeBehind_53) (seq (p := 54) (q := 54) (r := 66) (er [true, false, true, true]) (seq (p := 54) (q := 57) (r := 66) (p_if_le 6 dX1_writeBehind_54 (by decide)) (seq (p := 57) (q := 58) (r := 66) (p_aload_n 0 dX1_writeBehind_57) (seq (p := 58) (q := 60) (r := 66) (p_bipush 41 dX1_writeBehind_58 (by decide)) (seq (p := 60) (q := 63) (r := 66) (p_callV 1 cv_X1_305 hcR1 (M_X1_write l δ) (Nat.le_of_ble_eq_true rfl) dX1_writeBehind_60) (seq (p := 63) (q := 63) (r := 66) (er [true, false, true, true]) (seq (p := 63) (q := 66) (r := 66) (p_goto 6 dX1_writeBehind_63 (by decide)) done))))))))))))))))))))))))))))))))))
noncomputable def B_X1_writeBehind_L6 (l : Launch) (δ : Dl) : Seg (l, δ, yX1_writeBehind, 1, none, cX1_writeBehind, 4) 6 66 := C_X1_writeBehind_L6 l δ
theorem L_X1_writeBehind_6 {l : Launch} {δ : Dl} {st : Stk} {L : Lc} {s : St} : (B_X1_writeBehind_L6 l δ).1 st L s = (C_X1_writeBehind_L6 l δ).1 st L s := nrfl rfl
noncomputable def B_X1_writeBehind (l : Launch) (δ : Dl) : Seg (l, δ, yX1_writeBehind, 1, none, cX1_writeBehind, 4) 0 141 :=
  seq (p := 0) (q := 3) (r := 141) (p_sipush 600 dX1_writeBehind_0 (by decide)) (seq (p := 3) (q := 4) (r := 141) (p_iload_n 1 dX1_writeBehind_3) (seq (p := 4) (q := 5) (r := 141) (p_imul dX1_writeBehind_4) (seq (p := 5) (q := 6) (r := 141) (p_istore_n 3 dX1_writeBehind_5 (Nat.le_of_ble_eq_true rfl)) (seq (p := 6) (q := 66) (r := 141) (blk (seq (p := 6) (q := 6) (r := 66) (er [true, false, true, true]) (seq (p := 6) (q := 66) (r := 66) (lp (B_X1_writeBehind_L6 l δ)) done))) (seq (p := 66) (q := 67) (r := 141) (p_aload_n 0 dX1_writeBehind_66) (seq (p := 67) (q := 70) (r := 141) (p_get [(1, 38)] (alL1 fl_X1_308_1) dX1_writeBehind_67) (seq (p := 70) (q := 140) (r := 141) (blk (seq (p := 70) (q := 73) (r := 140) (p_if_le 140 dX1_writeBehind_70 (by decide)) (seq (p := 73) (q := 74) (r := 140) (p_aload_n 0 dX1_writeBehind_73) (seq (p := 74) (q := 77) (r := 140) (p_get [(1, 41)] (alL1 fl_X1_83_1) dX1_writeBehind_74) (seq (p := 77) (q := 78) (r := 140) (p_aload_n 0 dX1_writeBehind_77) (seq (p := 78) (q := 81) (r := 140) (p_get [(1, 38)] (alL1 fl_X1_308_1) dX1_writeBehind_78) (seq (p := 81) (q := 82) (r := 140) (p_iconst 1 dX1_writeBehind_81) (seq (p := 82) (q := 83) (r := 140) (p_isub dX1_writeBehind_82) (seq (p := 83) (q := 84) (r := 140) (p_iald dX1_writeBehind_83) (seq (p := 84) (q := 85) (r := 140) (p_iload_n 2 dX1_writeBehind_84) (seq (p := 85) (q := 88) (r := 140) (p_icmp_ne 140 dX1_writeBehind_85 (by decide)) (seq (p := 88) (q := 89) (r := 140) (p_aload_n 0 dX1_writeBehind_88) (seq (p := 89) (q := 90) (r := 140) (p_aload_n 0 dX1_writeBehind_89) (seq (p := 90) (q := 93) (r := 140) (p_get [(1, 19)] (alL1 fl_X1_40_1) dX1_writeBehind_90) (seq (p := 93) (q := 94) (r := 140) (p_iload_n 3 dX1_writeBehind_93) (seq (p := 94) (q := 95) (r := 140) (p_aload_n 0 dX1_writeBehind_94) (seq (p := 95) (q := 98) (r := 140) (p_get [(1, 39)] (alL1 fl_X1_77_1) dX1_writeBehind_95) (seq (p := 98) (q := 99) (r := 140) (p_aload_n 0 dX1_writeBehind_98) (seq (p := 99) (q := 102) (r := 140) (p_get [(1, 38)] (alL1 fl_X1_308_1) dX1_writeBehind_99) (seq (p := 102) (q := 103) (r := 140) (p_iconst 1 dX1_writeBehind_102) (seq (p := 103) (q := 104) (r := 140) (p_isub dX1_writeBehind_103) (seq (p := 104) (q := 105) (r := 140) (p_iald dX1_writeBehind_104) (seq (p := 105) (q := 106) (r := 140) (p_iadd dX1_writeBehind_105) (seq (p := 106) (q := 107) (r := 140) (p_bald dX1_writeBehind_106) (seq (p := 107) (q := 108) (r := 140) (p_iconst 4 dX1_writeBehind_107) (seq (p := 108) (q := 118) (r := 140) (blk (seq (p := 108) (q := 116) (r := 118) (blk (seq (p := 108) (q := 111) (r := 116) (p_icmp_ne 116 dX1_writeBehind_108 (by decide)) (seq (p := 111) (q := 113) (r := 116) (p_bipush 38 dX1_writeBehind_111 (by decide)) (seq (p := 113) (q := 116) (r := 116) (p_goto 118 dX1_writeBehind_113 (by decide)) done)))) (seq (p := 116) (q := 118) (r := 118) (p_bipush 124 dX1_writeBehind_116 (by decide)) done))) (seq (p := 118) (q := 121) (r := 140) (p_callV 1 cv_X1_305 hcR1 (M_X1_write l δ) (Nat.le_of_ble_eq_true rfl) dX1_writeBehind_118) (seq (p := 121) (q := 122) (r := 140) (p_aload_n 0 dX1_writeBehind_121) (seq (p := 122) (q := 125) (r := 140) (p_get [(1, 41)] (alL1 fl_X1_83_1) dX1_writeBehind_122) (seq (p := 125) (q := 126) (r := 140) (p_aload_n 0 dX1_writeBehind_125) (seq (p := 126) (q := 129) (r := 140) (p_get [(1, 38)] (alL1 fl_X1_308_1) dX1_writeBehind_126) (seq (p := 129) (q := 130) (r := 140) (p_iconst 1 dX1_writeBehind_129) (seq (p := 130) (q := 131) (r := 140) (p_isub dX1_writeBehind_130) (seq (p := 131) (q := 132) (r := 140) (p_aload_n 0 dX1_writeBehind_131) (seq (p := 132) (q := 135) (r := 140) (p_get [(1, 22)] (alL1 fl_X1_50_1) dX1_writeBehind_132) (seq (p := 135) (q := 136) (r := 140) (p_iload_n 3 dX1_writeBehind_135) (seq (p := 136) (q := 137) (r := 140) (p_iload_n 2 dX1_writeBehind_136) (seq (p := 137) (q := 138) (r := 140) (p_iadd dX1_writeBehind_137) (seq (p := 138) (q := 139) (r := 140) (p_iald dX1_writeBehind_138) (seq (p := 139) (q := 140) (r := 140) (p_iast dX1_writeBehind_139) done)))))))))))))))))))))))))))))))))))))))) (seq (p := 140) (q := 141) (r := 141) (p_return dX1_writeBehind_140 rfl) done))))))))
noncomputable def M_X1_writeBehind (l : Launch) (δ : Dl) : Mth l δ yX1_writeBehind cX1_writeBehind 4 none 1 := mk (B_X1_writeBehind l δ) (by decide)
theorem N_X1_writeBehind {l : Launch} {δ : Dl} {o : Nat} {a1 : Int} {a2 : Int} {s : St} : (M_X1_writeBehind l δ).1 [.inr (.inr (some o)), .inl a1, .inl a2] s = bres ((B_X1_writeBehind l δ).1 [] [some (.inr (.inr (some o))), some (.inl a1), some (.inl a2), none] s) := (mk_eq (hy := by decide) rfl).trans (nrfl rfl)
theorem dX1_writeAll_0 : decode cX1_writeAll 0 = .ok (.sipush 600, 3) := by decide +kernel
theorem dX1_writeAll_3 : decode cX1_writeAll 3 = .ok (.iload_n 1, 1) := by decide +kernel
theorem dX1_writeAll_4 : decode cX1_writeAll 4 = .ok (.imul, 1) := by decide +kernel
theorem dX1_writeAll_5 : decode cX1_writeAll 5 = .ok (.istore_n 2, 1) := by decide +kernel
theorem dX1_writeAll_6 : decode cX1_writeAll 6 = .ok (.aload_n 0, 1) := by decide +kernel
theorem dX1_writeAll_7 : decode cX1_writeAll 7 = .ok (.iconst 0, 1) := by decide +kernel
theorem dX1_writeAll_8 : decode cX1_writeAll 8 = .ok (.putfield 302, 3) := by decide +kernel
theorem dX1_writeAll_11 : decode cX1_writeAll 11 = .ok (.aload_n 0, 1) := by decide +kernel
theorem dX1_writeAll_12 : decode cX1_writeAll 12 = .ok (.iconst 0, 1) := by decide +kernel
theorem dX1_writeAll_13 : decode cX1_writeAll 13 = .ok (.putfield 308, 3) := by decide +kernel
theorem dX1_writeAll_16 : decode cX1_writeAll 16 = .ok (.iconst 0, 1) := by decide +kernel
theorem dX1_writeAll_17 : decode cX1_writeAll 17 = .ok (.istore_n 3, 1) := by decide +kernel
theorem dX1_writeAll_18 : decode cX1_writeAll 18 = .ok (.iload_n 3, 1) := by decide +kernel
theorem dX1_writeAll_19 : decode cX1_writeAll 19 = .ok (.aload_n 0, 1) := by decide +kernel
theorem dX1_writeAll_20 : decode cX1_writeAll 20 = .ok (.getfield 37, 3) := by decide +kernel
theorem dX1_writeAll_23 : decode cX1_writeAll 23 = .ok (.iload_n 1, 1) := by decide +kernel
theorem dX1_writeAll_24 : decode cX1_writeAll 24 = .ok (.iaload, 1) := by decide +kernel
theorem dX1_writeAll_25 : decode cX1_writeAll 25 = .ok (.if_icmp .ge 172, 3) := by decide +kernel
theorem dX1_writeAll_28 : decode cX1_writeAll 28 = .ok (.iload_n 2, 1) := by decide +kernel
theorem dX1_writeAll_29 : decode cX1_writeAll 29 = .ok (.iload_n 3, 1) := by decide +kernel
theorem dX1_writeAll_30 : decode cX1_writeAll 30 = .ok (.iadd, 1) := by decide +kernel
theorem dX1_writeAll_31 : decode cX1_writeAll 31 = .ok (.istore 4, 2) := by decide +kernel
theorem dX1_writeAll_33 : decode cX1_writeAll 33 = .ok (.aload_n 0, 1) := by decide +kernel
theorem dX1_writeAll_34 : decode cX1_writeAll 34 = .ok (.getfield 40, 3) := by decide +kernel
theorem dX1_writeAll_37 : decode cX1_writeAll 37 = .ok (.iload 4, 2) := by decide +kernel
theorem dX1_writeAll_39 : decode cX1_writeAll 39 = .ok (.baload, 1) := by decide +kernel
theorem dX1_writeAll_40 : decode cX1_writeAll 40 = .ok (.iconst 4, 1) := by decide +kernel
theorem dX1_writeAll_41 : decode cX1_writeAll 41 = .ok (.if_icmp .eq 14, 3) := by decide +kernel
theorem dX1_writeAll_44 : decode cX1_writeAll 44 = .ok (.aload_n 0, 1) := by decide +kernel
theorem dX1_writeAll_45 : decode cX1_writeAll 45 = .ok (.getfield 40, 3) := by decide +kernel
theorem dX1_writeAll_48 : decode cX1_writeAll 48 = .ok (.iload 4, 2) := by decide +kernel
theorem dX1_writeAll_50 : decode cX1_writeAll 50 = .ok (.baload, 1) := by decide +kernel
theorem dX1_writeAll_51 : decode cX1_writeAll 51 = .ok (.iconst 5, 1) := by decide +kernel
theorem dX1_writeAll_52 : decode cX1_writeAll 52 = .ok (.if_icmp .ne 55, 3) := by decide +kernel
theorem dX1_writeAll_55 : decode cX1_writeAll 55 = .ok (.iload_n 3, 1) := by decide +kernel
theorem dX1_writeAll_56 : decode cX1_writeAll 56 = .ok (.ifCond .le 9, 3) := by decide +kernel
theorem dX1_writeAll_59 : decode cX1_writeAll 59 = .ok (.aload_n 0, 1) := by decide +kernel
theorem dX1_writeAll_60 : decode cX1_writeAll 60 = .ok (.bipush 40, 2) := by decide +kernel
theorem dX1_writeAll_62 : decode cX1_writeAll 62 = .ok (.invokevirtual 305, 3) := by decide +kernel
theorem dX1_writeAll_65 : decode cX1_writeAll 65 = .ok (.aload_n 0, 1) := by decide +kernel
theorem dX1_writeAll_66 : decode cX1_writeAll 66 = .ok (.getfield 77, 3) := by decide +kernel
theorem dX1_writeAll_69 : decode cX1_writeAll 69 = .ok (.aload_n 0, 1) := by decide +kernel
theorem dX1_writeAll_70 : decode cX1_writeAll 70 = .ok (.getfield 308, 3) := by decide +kernel
theorem dX1_writeAll_73 : decode cX1_writeAll 73 = .ok (.iload_n 3, 1) := by decide +kernel
theorem dX1_writeAll_74 : decode cX1_writeAll 74 = .ok (.iastore, 1) := by decide +kernel
theorem dX1_writeAll_75 : decode cX1_writeAll 75 = .ok (.aload_n 0, 1) := by decide +kernel
theorem dX1_writeAll_76 : decode cX1_writeAll 76 = .ok (.getfield 83, 3) := by decide +kernel
theorem dX1_writeAll_79 : decode cX1_writeAll 79 = .ok (.aload_n 0, 1) := by decide +kernel
theorem dX1_writeAll_80 : decode cX1_writeAll 80 = .ok (.getfield 308, 3) := by decide +kernel
theorem dX1_writeAll_83 : decode cX1_writeAll 83 = .ok (.aload_n 0, 1) := by decide +kernel
theorem dX1_writeAll_84 : decode cX1_writeAll 84 = .ok (.getfield 50, 3) := by decide +kernel
theorem dX1_writeAll_87 : decode cX1_writeAll 87 = .ok (.iload_n 2, 1) := by decide +kernel
theorem dX1_writeAll_88 : decode cX1_writeAll 88 = .ok (.iload_n 3, 1) := by decide +kernel
theorem dX1_writeAll_89 : decode cX1_writeAll 89 = .ok (.iadd, 1) := by decide +kernel
theorem dX1_writeAll_90 : decode cX1_writeAll 90 = .ok (.iconst 1, 1) := by decide +kernel
theorem dX1_writeAll_91 : decode cX1_writeAll 91 = .ok (.iadd, 1) := by decide +kernel
theorem dX1_writeAll_92 : decode cX1_writeAll 92 = .ok (.iaload, 1) := by decide +kernel
theorem dX1_writeAll_93 : decode cX1_writeAll 93 = .ok (.iastore, 1) := by decide +kernel
theorem dX1_writeAll_94 : decode cX1_writeAll 94 = .ok (.aload_n 0, 1) := by decide +kernel
theorem dX1_writeAll_95 : decode cX1_writeAll 95 = .ok (.dup, 1) := by decide +kernel
theorem dX1_writeAll_96 : decode cX1_writeAll 96 = .ok (.getfield 308, 3) := by decide +kernel
theorem dX1_writeAll_99 : decode cX1_writeAll 99 = .ok (.iconst 1, 1) := by decide +kernel
theorem dX1_writeAll_100 : decode cX1_writeAll 100 = .ok (.iadd, 1) := by decide +kernel
theorem dX1_writeAll_101 : decode cX1_writeAll 101 = .ok (.putfield 308, 3) := by decide +kernel
theorem dX1_writeAll_104 : decode cX1_writeAll 104 = .ok (.goto 87, 3) := by decide +kernel
theorem dX1_writeAll_107 : decode cX1_writeAll 107 = .ok (.aload_n 0, 1) := by decide +kernel
theorem dX1_writeAll_108 : decode cX1_writeAll 108 = .ok (.getfield 40, 3) := by decide +kernel
theorem dX1_writeAll_111 : decode cX1_writeAll 111 = .ok (.iload 4, 2) := by decide +kernel
theorem dX1_writeAll_113 : decode cX1_writeAll 113 = .ok (.baload, 1) := by decide +kernel
theorem dX1_writeAll_114 : decode cX1_writeAll 114 = .ok (.iconst 1, 1) := by decide +kernel
theorem dX1_writeAll_115 : decode cX1_writeAll 115 = .ok (.if_icmp .ne 12, 3) := by decide +kernel
theorem dX1_writeAll_118 : decode cX1_writeAll 118 = .ok (.aload_n 0, 1) := by decide +kernel
theorem dX1_writeAll_119 : decode cX1_writeAll 119 = .ok (.bipush 45, 2) := by decide +kernel
theorem dX1_writeAll_121 : decode cX1_writeAll 121 = .ok (.invokevirtual 305, 3) := by decide +kernel
theorem dX1_writeAll_124 : decode cX1_writeAll 124 = .ok (.goto 67, 3) := by decide +kernel
theorem dX1_writeAll_127 : decode cX1_writeAll 127 = .ok (.aload_n 0, 1) := by decide +kernel
theorem dX1_writeAll_128 : decode cX1_writeAll 128 = .ok (.getfield 40, 3) := by decide +kernel
theorem dX1_writeAll_131 : decode cX1_writeAll 131 = .ok (.iload 4, 2) := by decide +kernel
theorem dX1_writeAll_133 : decode cX1_writeAll 133 = .ok (.baload, 1) := by decide +kernel
theorem dX1_writeAll_134 : decode cX1_writeAll 134 = .ok (.iconst 4, 1) := by decide +kernel
theorem dX1_writeAll_135 : decode cX1_writeAll 135 = .ok (.if_icmp .ge 42, 3) := by decide +kernel
theorem dX1_writeAll_138 : decode cX1_writeAll 138 = .ok (.aload_n 0, 1) := by decide +kernel
theorem dX1_writeAll_139 : decode cX1_writeAll 139 = .ok (.aload_n 0, 1) := by decide +kernel
theorem dX1_writeAll_140 : decode cX1_writeAll 140 = .ok (.getfield 40, 3) := by decide +kernel
theorem dX1_writeAll_143 : decode cX1_writeAll 143 = .ok (.iload 4, 2) := by decide +kernel
theorem dX1_writeAll_145 : decode cX1_writeAll 145 = .ok (.baload, 1) := by decide +kernel
theorem dX1_writeAll_146 : decode cX1_writeAll 146 = .ok (.iconst 2, 1) := by decide +kernel
theorem dX1_writeAll_147 : decode cX1_writeAll 147 = .ok (.if_icmp .ne 8, 3) := by decide +kernel
theorem dX1_writeAll_150 : decode cX1_writeAll 150 = .ok (.bipush 64, 2) := by decide +kernel
theorem dX1_writeAll_152 : decode cX1_writeAll 152 = .ok (.goto 5, 3) := by decide +kernel
theorem dX1_writeAll_155 : decode cX1_writeAll 155 = .ok (.bipush 63, 2) := by decide +kernel
theorem dX1_writeAll_157 : decode cX1_writeAll 157 = .ok (.invokevirtual 305, 3) := by decide +kernel
theorem dX1_writeAll_160 : decode cX1_writeAll 160 = .ok (.aload_n 0, 1) := by decide +kernel
theorem dX1_writeAll_161 : decode cX1_writeAll 161 = .ok (.bipush 97, 2) := by decide +kernel
theorem dX1_writeAll_163 : decode cX1_writeAll 163 = .ok (.aload_n 0, 1) := by decide +kernel
theorem dX1_writeAll_164 : decode cX1_writeAll 164 = .ok (.getfield 44, 3) := by decide +kernel
theorem dX1_writeAll_167 : decode cX1_writeAll 167 = .ok (.iload 4, 2) := by decide +kernel
theorem dX1_writeAll_169 : decode cX1_writeAll 169 = .ok (.iaload, 1) := by decide +kernel
theorem dX1_writeAll_170 : decode cX1_writeAll 170 = .ok (.iadd, 1) := by decide +kernel
theorem dX1_writeAll_171 : decode cX1_writeAll 171 = .ok (.invokevirtual 305, 3) := by decide +kernel
theorem dX1_writeAll_174 : decode cX1_writeAll 174 = .ok (.goto 17, 3) := by decide +kernel
theorem dX1_writeAll_177 : decode cX1_writeAll 177 = .ok (.aload_n 0, 1) := by decide +kernel
theorem dX1_writeAll_178 : decode cX1_writeAll 178 = .ok (.iload 4, 2) := by decide +kernel
theorem dX1_writeAll_180 : decode cX1_writeAll 180 = .ok (.invokevirtual 311, 3) := by decide +kernel
theorem dX1_writeAll_183 : decode cX1_writeAll 183 = .ok (.aload_n 0, 1) := by decide +kernel
theorem dX1_writeAll_184 : decode cX1_writeAll 184 = .ok (.iload_n 1, 1) := by decide +kernel
theorem dX1_writeAll_185 : decode cX1_writeAll 185 = .ok (.iload_n 3, 1) := by decide +kernel
theorem dX1_writeAll_186 : decode cX1_writeAll 186 = .ok (.iconst 1, 1) := by decide +kernel
theorem dX1_writeAll_187 : decode cX1_writeAll 187 = .ok (.iadd, 1) := by decide +kernel
theorem dX1_writeAll_188 : decode cX1_writeAll 188 = .ok (.invokevirtual 314, 3) := by decide +kernel
theorem dX1_writeAll_191 : decode cX1_writeAll 191 = .ok (.iinc 3 1, 3) := by decide +kernel
theorem dX1_writeAll_194 : decode cX1_writeAll 194 = .ok (.goto (-176), 3) := by decide +kernel
theorem dX1_writeAll_197 : decode cX1_writeAll 197 = .ok (.return_, 1) := by decide +kernel
noncomputable def C_X1_writeAll_L18 (l : Launch) (δ : Dl) : Seg (l, δ, yX1_writeAll, 2, none, cX1_writeAll, 5) 18 197 :=
  seq (p := 18) (q := 19) (r := 197) (p_iload_n 3 dX1_writeAll_18) (seq (p := 19) (q := 20) (r := 197) (p_aload_n 0 dX1_writeAll_19) (seq (p := 20) (q := 23) (r := 197) (p_get [(1, 18)] (alL1 fl_X1_37_1) dX1_writeAll_20) (seq (p := 23) (q := 24) (r := 197) (p_iload_n 1 dX1_writeAll_23) (seq (p := 24) (q := 25) (r := 197) (p_iald dX1_writeAll_24) (seq (p := 25) (q := 28) (r := 197) (p_icmp_ge 197 dX1_writeAll_25 (by decide)) (seq (p := 28) (q := 29) (r := 197) (p_iload_n 2 dX1_writeAll_28) (seq (p := 29) (q := 30) (r := 197) (p_iload_n 3 dX1_writeAll_29) (seq (p := 30) (q := 31) (r := 197) (p_iadd dX1_writeAll_30) (seq (p := 31) (q := 33) (r := 197) (p_istore 4 dX1_writeAll_31 (Nat.le_of_ble_eq_true rfl)) (seq (p := 33) (q := 34) (r := 197) (p_aload_n 0 dX1_writeAll_33) (seq (p := 34) (q := 37) (r := 197) (p_get [(1, 19)] (alL1 fl_X1_40_1) dX1_writeAll_34) (seq (p := 37) (q := 39) (r := 197) (p_iload 4 dX1_writeAll_37) (seq (p := 39) (q := 40) (r := 197) (p_bald dX1_writeAll_39) (seq (p := 40) (q := 41) (r := 197) (p_iconst 4 dX1_writeAll_40) (seq (p := 41) (q := 191) (r := 197) (blk (seq (p := 41) (q := 107) (r := 191) (blk (seq (p := 41) (q := 55) (r := 107) (blk (seq (p := 41) (q := 44) (r := 55) (p_icmp_eq 55 dX1_writeAll_41 (by decide)) (seq (p := 44) (q := 45) (r := 55) (p_aload_n 0 dX1_writeAll_44) (seq (p := 45) (q := 48) (r := 55) (p_get [(1, 19)] (alL1 fl_X1_40_1) dX1_writeAll_45) (seq (p := 48) (q := 50) (r := 55) (p_iload 4 dX1_writeAll_48) (seq (p := 50) (q := 51) (r := 55) (p_bald dX1_writeAll_50) (seq (p := 51) (q := 52) (r := 55) (p_iconst 5 dX1_writeAll_51) (seq (p := 52) (q := 55) (r := 55) (p_icmp_ne 107 dX1_writeAll_52 (by decide)) done)))))))) (seq (p := 55) (q := 56) (r := 107) (p_iload_n 3 dX1_writeAll_55) (seq (p := 56) (q := 65) (r := 107) (blk (seq (p := 56) (q := 59) (r := 65) (p_if_le 65 dX1_writeAll_56 (by decide)) (seq (p := 59) (q := 60) (r := 65) (p_aload_n 0 dX1_writeAll_59) (seq (p := 60) (q := 62) (r := 65) (p_bipush 40 dX1_writeAll_60 (by decide)) (seq (p := 62) (q := 65) (r := 65) (p_callV 1 cv_X1_305 hcR1 (M_X1_write l δ) (Nat.le_of_ble_eq_true rfl) dX1_writeAll_62) done))))) (seq (p := 65) (q := 66) (r := 107) (p_aload_n 0 dX1_writeAll_65) (seq (p := 66) (q := 69) (r := 107) (p_get [(1, 39)] (alL1 fl_X1_77_1) dX1_writeAll_66) (seq (p := 69) (q := 70) (r := 107) (p_aload_n 0 dX1_writeAll_69) (seq (p := 70) (q := 73) (r := 107) (p_get [(1, 38)] (alL1 fl_X1_308_1) dX1_writeAll_70) (seq (p := 73) (q := 74) (r := 107) (p_iload_n 3 dX1_writeAll_73) (seq (p := 74) (q := 75) (r := 107) (p_iast dX1_writeAll_74) (seq (p := 75) (q := 76) (r := 107) (p_aload_n 0 dX1_writeAll_75) (seq (p := 76) (q := 79) (r := 107) (p_get [(1, 41)] (alL1 fl_X1_83_1) dX1_writeAll_76) (seq (p := 79) (q := 80) (r := 107) (p_aload_n 0 dX1_writeAll_79) (seq (p := 80) (q := 83) (r := 107) (p_get [(1, 38)] (alL1 fl_X1_308_1) dX1_writeAll_80) (seq (p := 83) (q := 84) (r := 107) (p_aload_n 0 dX1_writeAll_83) (seq (p := 84) (q := 87) (r := 107) (p_get [(1, 22)] (alL1 fl_X1_50_1) dX1_writeAll_84) (seq (p := 87) (q := 88) (r := 107) (p_iload_n 2 dX1_writeAll_87) (seq (p := 88) (q := 89) (r := 107) (p_iload_n 3 dX1_writeAll_88) (seq (p := 89) (q := 90) (r := 107) (p_iadd dX1_writeAll_89) (seq (p := 90) (q := 91) (r := 107) (p_iconst 1 dX1_writeAll_90) (seq (p := 91) (q := 92) (r := 107) (p_iadd dX1_writeAll_91) (seq (p := 92) (q := 93) (r := 107) (p_iald dX1_writeAll_92) (seq (p := 93) (q := 94) (r := 107) (p_iast dX1_writeAll_93) (seq (p := 94) (q := 95) (r := 107) (p_aload_n 0 dX1_writeAll_94) (seq (p := 95) (q := 96) (r := 107) (p_dup dX1_writeAll_95) (seq (p := 96) (q := 99) (r := 107) (p_get [(1, 38)] (alL1 fl_X1_308_1) dX1_writeAll_96) (seq (p := 99) (q := 100) (r := 107) (p_iconst 1 dX1_writeAll_99) (seq (p := 100) (q := 101) (r := 107) (p_iadd dX1_writeAll_100) (seq (p := 101) (q := 104) (r := 107) (p_put [(1, 38)] .int (alP1 fp_X1_308_1) dX1_writeAll_101) (seq (p := 104) (q := 107) (r := 107) (p_goto 191 dX1_writeAll_104 (by decide)) done)))))))))))))))))))))))))))))) (seq (p := 107) (q := 108) (r := 191) (p_aload_n 0 dX1_writeAll_107) (seq (p := 108) (q := 111) (r := 191) (p_get [(1, 19)] (alL1 fl_X1_40_1) dX1_writeAll_108) (seq (p := 111) (q := 113) (r := 191) (p_iload 4 dX1_writeAll_111) (seq (p := 113) (q := 114) (r := 191) (p_bald dX1_writeAll_113) (seq (p := 114) (q := 115) (r := 191) (p_iconst 1 dX1_writeAll_114) (seq (p := 115) (q := 127) (r := 191) (blk (seq (p := 115) (q := 118) (r := 127) (p_icmp_ne 127 dX1_writeAll_115 (by decide)) (seq (p := 118) (q := 119) (r := 127) (p_aload_n 0 dX1_writeAll_118) (seq (p := 119) (q := 121) (r := 127) (p_bipush 45 dX1_writeAll_119 (by decide)) (seq (p := 121) (q := 124) (r := 127) (p_callV 1 cv_X1_305 hcR1 (M_X1_write l δ) (Nat.le_of_ble_eq_true rfl) dX1_writeAll_121) (seq (p := 124) (q := 127) (r := 127) (p_goto 191 dX1_writeAll_124 (by decide)) done)))))) (seq (p := 127) (q := 128) (r := 191) (p_aload_n 0 dX1_writeAll_127) (seq (p := 128) (q := 131) (r := 191) (p_get [(1, 19)] (alL1 fl_X1_40_1) dX1_writeAll_128) (seq (p := 131) (q := 133) (r := 191) (p_iload 4 dX1_writeAll_131) (seq (p := 133) (q := 134) (r := 191) (p_bald dX1_writeAll_133) (seq (p := 134) (q := 135) (r := 191) (p_iconst 4 dX1_writeAll_134) (seq (p := 135) (q := 177) (r := 191) (blk (seq (p := 135) (q := 138) (r := 177) (p_icmp_ge 177 dX1_writeAll_135 (by decide)) (seq (p := 138) (q := 139) (r := 177) (p_aload_n 0 dX1_writeAll_138) (seq (p := 139) (q := 140) (r := 177) (p_aload_n 0 dX1_writeAll_139) (seq (p := 140) (q := 143) (r := 177) (p_get [(1, 19)] (alL1 fl_X1_40_1) dX1_writeAll_140) (seq (p := 143) (q := 145) (r := 177) (p_iload 4 dX1_writeAll_143) (seq (p := 145) (q := 146) (r := 177) (p_bald dX1_writeAll_145) (seq (p := 146) (q := 147) (r := 177) (p_iconst 2 dX1_writeAll_146) (seq (p := 147) (q := 157) (r := 177) (blk (seq (p := 147) (q := 155) (r := 157) (blk (seq (p := 147) (q := 150) (r := 155) (p_icmp_ne 155 dX1_writeAll_147 (by decide)) (seq (p := 150) (q := 152) (r := 155) (p_bipush 64 dX1_writeAll_150 (by decide)) (seq (p := 152) (q := 155) (r := 155) (p_goto 157 dX1_writeAll_152 (by decide)) done)))) (seq (p := 155) (q := 157) (r := 157) (p_bipush 63 dX1_writeAll_155 (by decide)) done))) (seq (p := 157) (q := 160) (r := 177) (p_callV 1 cv_X1_305 hcR1 (M_X1_write l δ) (Nat.le_of_ble_eq_true rfl) dX1_writeAll_157) (seq (p := 160) (q := 161) (r := 177) (p_aload_n 0 dX1_writeAll_160) (seq (p := 161) (q := 163) (r := 177) (p_bipush 97 dX1_writeAll_161 (by decide)) (seq (p := 163) (q := 164) (r := 177) (p_aload_n 0 dX1_writeAll_163) (seq (p := 164) (q := 167) (r := 177) (p_get [(1, 20)] (alL1 fl_X1_44_1) dX1_writeAll_164) (seq (p := 167) (q := 169) (r := 177) (p_iload 4 dX1_writeAll_167) (seq (p := 169) (q := 170) (r := 177) (p_iald dX1_writeAll_169) (seq (p := 170) (q := 171) (r := 177) (p_iadd dX1_writeAll_170) (seq (p := 171) (q := 174) (r := 177) (p_callV 1 cv_X1_305 hcR1 (M_X1_write l δ) (Nat.le_of_ble_eq_true rfl) dX1_writeAll_171) (seq (p := 174) (q := 177) (r := 177) (p_goto 191 dX1_writeAll_174 (by decide)) done))))))))))))))))))) (seq (p := 177) (q := 178) (r := 191) (p_aload_n 0 dX1_writeAll_177) (seq (p := 178) (q := 180) (r := 191) (p_iload 4 dX1_writeAll_178) (seq (p := 180) (q := 183) (r := 191) (p_callV 1 cv_X1_311 hcR1 (M_X1_writeAtom l δ) (Nat.le_of_ble_eq_true rfl) dX1_writeAll_180) (seq (p := 183) (q := 184) (r := 191) (p_aload_n 0 dX1_writeAll_183) (seq (p := 184) (q := 185) (r := 191) (p_iload_n 1 dX1_writeAll_184) (seq (p := 185) (q := 186) (r := 191) (p_iload_n 3 dX1_writeAll_185) (seq (p := 186) (q := 187) (r := 191) (p_iconst 1 dX1_writeAll_186) (seq (p := 187) (q := 188) (r := 191) (p_iadd dX1_writeAll_187) (seq (p := 188) (q := 191) (r := 191) (p_callV 1 cv_X1_314 hcR1 (M_X1_writeBehind l δ) (Nat.le_of_ble_eq_true rfl) dX1_writeAll_188) done))))))))))))))))))))))) (seq (p := 191) (q := 194) (r := 197) (p_iinc 3 1 dX1_writeAll_191 (Nat.le_of_ble_eq_true rfl)) (seq (p := 194) (q := 194) (r := 197) (er [true, true, true, true, false]) (seq (p := 194) (q := 197) (r := 197) (p_goto 18 dX1_writeAll_194 (by decide)) done))))))))))))))))))
noncomputable def B_X1_writeAll_L18 (l : Launch) (δ : Dl) : Seg (l, δ, yX1_writeAll, 2, none, cX1_writeAll, 5) 18 197 := C_X1_writeAll_L18 l δ
theorem L_X1_writeAll_18 {l : Launch} {δ : Dl} {st : Stk} {L : Lc} {s : St} : (B_X1_writeAll_L18 l δ).1 st L s = (C_X1_writeAll_L18 l δ).1 st L s := nrfl rfl
noncomputable def B_X1_writeAll (l : Launch) (δ : Dl) : Seg (l, δ, yX1_writeAll, 2, none, cX1_writeAll, 5) 0 198 :=
  seq (p := 0) (q := 3) (r := 198) (p_sipush 600 dX1_writeAll_0 (by decide)) (seq (p := 3) (q := 4) (r := 198) (p_iload_n 1 dX1_writeAll_3) (seq (p := 4) (q := 5) (r := 198) (p_imul dX1_writeAll_4) (seq (p := 5) (q := 6) (r := 198) (p_istore_n 2 dX1_writeAll_5 (Nat.le_of_ble_eq_true rfl)) (seq (p := 6) (q := 7) (r := 198) (p_aload_n 0 dX1_writeAll_6) (seq (p := 7) (q := 8) (r := 198) (p_iconst 0 dX1_writeAll_7) (seq (p := 8) (q := 11) (r := 198) (p_put [(1, 42)] .int (alP1 fp_X1_302_1) dX1_writeAll_8) (seq (p := 11) (q := 12) (r := 198) (p_aload_n 0 dX1_writeAll_11) (seq (p := 12) (q := 13) (r := 198) (p_iconst 0 dX1_writeAll_12) (seq (p := 13) (q := 16) (r := 198) (p_put [(1, 38)] .int (alP1 fp_X1_308_1) dX1_writeAll_13) (seq (p := 16) (q := 17) (r := 198) (p_iconst 0 dX1_writeAll_16) (seq (p := 17) (q := 18) (r := 198) (p_istore_n 3 dX1_writeAll_17 (Nat.le_of_ble_eq_true rfl)) (seq (p := 18) (q := 197) (r := 198) (blk (seq (p := 18) (q := 18) (r := 197) (er [true, true, true, true, false]) (seq (p := 18) (q := 197) (r := 197) (lp (B_X1_writeAll_L18 l δ)) done))) (seq (p := 197) (q := 198) (r := 198) (p_return dX1_writeAll_197 rfl) done)))))))))))))
noncomputable def M_X1_writeAll (l : Launch) (δ : Dl) : Mth l δ yX1_writeAll cX1_writeAll 5 none 2 := mk (B_X1_writeAll l δ) (by decide)
theorem N_X1_writeAll {l : Launch} {δ : Dl} {o : Nat} {a1 : Int} {s : St} : (M_X1_writeAll l δ).1 [.inr (.inr (some o)), .inl a1] s = bres ((B_X1_writeAll l δ).1 [] [some (.inr (.inr (some o))), some (.inl a1), none, none, none] s) := (mk_eq (hy := by decide) rfl).trans (nrfl rfl)
theorem dX1_sentence_0 : decode cX1_sentence 0 = .ok (.aload_n 0, 1) := by decide +kernel
theorem dX1_sentence_1 : decode cX1_sentence 1 = .ok (.iload_n 1, 1) := by decide +kernel
theorem dX1_sentence_2 : decode cX1_sentence 2 = .ok (.invokevirtual 317, 3) := by decide +kernel
theorem dX1_sentence_5 : decode cX1_sentence 5 = .ok (.ifCond .eq 5, 3) := by decide +kernel
theorem dX1_sentence_8 : decode cX1_sentence 8 = .ok (.iconst (-1), 1) := by decide +kernel
theorem dX1_sentence_9 : decode cX1_sentence 9 = .ok (.ireturn, 1) := by decide +kernel
theorem dX1_sentence_10 : decode cX1_sentence 10 = .ok (.iload_n 2, 1) := by decide +kernel
theorem dX1_sentence_11 : decode cX1_sentence 11 = .ok (.iconst 2, 1) := by decide +kernel
theorem dX1_sentence_12 : decode cX1_sentence 12 = .ok (.if_icmp .ne 13, 3) := by decide +kernel
theorem dX1_sentence_15 : decode cX1_sentence 15 = .ok (.aload_n 0, 1) := by decide +kernel
theorem dX1_sentence_16 : decode cX1_sentence 16 = .ok (.iload_n 1, 1) := by decide +kernel
theorem dX1_sentence_17 : decode cX1_sentence 17 = .ok (.invokevirtual 320, 3) := by decide +kernel
theorem dX1_sentence_20 : decode cX1_sentence 20 = .ok (.aload_n 0, 1) := by decide +kernel
theorem dX1_sentence_21 : decode cX1_sentence 21 = .ok (.getfield 302, 3) := by decide +kernel
theorem dX1_sentence_24 : decode cX1_sentence 24 = .ok (.ireturn, 1) := by decide +kernel
theorem dX1_sentence_25 : decode cX1_sentence 25 = .ok (.iload_n 2, 1) := by decide +kernel
theorem dX1_sentence_26 : decode cX1_sentence 26 = .ok (.ifCond .ne 11, 3) := by decide +kernel
theorem dX1_sentence_29 : decode cX1_sentence 29 = .ok (.aload_n 0, 1) := by decide +kernel
theorem dX1_sentence_30 : decode cX1_sentence 30 = .ok (.iload_n 1, 1) := by decide +kernel
theorem dX1_sentence_31 : decode cX1_sentence 31 = .ok (.invokevirtual 323, 3) := by decide +kernel
theorem dX1_sentence_34 : decode cX1_sentence 34 = .ok (.goto 19, 3) := by decide +kernel
theorem dX1_sentence_37 : decode cX1_sentence 37 = .ok (.iload_n 2, 1) := by decide +kernel
theorem dX1_sentence_38 : decode cX1_sentence 38 = .ok (.iconst 1, 1) := by decide +kernel
theorem dX1_sentence_39 : decode cX1_sentence 39 = .ok (.if_icmp .ne 12, 3) := by decide +kernel
theorem dX1_sentence_42 : decode cX1_sentence 42 = .ok (.aload_n 0, 1) := by decide +kernel
theorem dX1_sentence_43 : decode cX1_sentence 43 = .ok (.getfield 37, 3) := by decide +kernel
theorem dX1_sentence_46 : decode cX1_sentence 46 = .ok (.iload_n 1, 1) := by decide +kernel
theorem dX1_sentence_47 : decode cX1_sentence 47 = .ok (.iaload, 1) := by decide +kernel
theorem dX1_sentence_48 : decode cX1_sentence 48 = .ok (.goto 5, 3) := by decide +kernel
theorem dX1_sentence_51 : decode cX1_sentence 51 = .ok (.bipush (-2), 2) := by decide +kernel
theorem dX1_sentence_53 : decode cX1_sentence 53 = .ok (.ireturn, 1) := by decide +kernel
noncomputable def B_X1_sentence (l : Launch) (δ : Dl) : Seg (l, δ, yX1_sentence, 3, (some .int), cX1_sentence, 3) 0 54 :=
  seq (p := 0) (q := 1) (r := 54) (p_aload_n 0 dX1_sentence_0) (seq (p := 1) (q := 2) (r := 54) (p_iload_n 1 dX1_sentence_1) (seq (p := 2) (q := 5) (r := 54) (p_callV 1 cv_X1_317 hcR1 (M_X1_noSentence l δ) (Nat.le_of_ble_eq_true rfl) dX1_sentence_2) (seq (p := 5) (q := 10) (r := 54) (blk (seq (p := 5) (q := 8) (r := 10) (p_if_eq 10 dX1_sentence_5 (by decide)) (seq (p := 8) (q := 9) (r := 10) (p_iconst (-1) dX1_sentence_8) (seq (p := 9) (q := 10) (r := 10) (p_ireturn dX1_sentence_9 rfl) done)))) (seq (p := 10) (q := 11) (r := 54) (p_iload_n 2 dX1_sentence_10) (seq (p := 11) (q := 12) (r := 54) (p_iconst 2 dX1_sentence_11) (seq (p := 12) (q := 25) (r := 54) (blk (seq (p := 12) (q := 15) (r := 25) (p_icmp_ne 25 dX1_sentence_12 (by decide)) (seq (p := 15) (q := 16) (r := 25) (p_aload_n 0 dX1_sentence_15) (seq (p := 16) (q := 17) (r := 25) (p_iload_n 1 dX1_sentence_16) (seq (p := 17) (q := 20) (r := 25) (p_callV 1 cv_X1_320 hcR1 (M_X1_writeAll l δ) (Nat.le_of_ble_eq_true rfl) dX1_sentence_17) (seq (p := 20) (q := 21) (r := 25) (p_aload_n 0 dX1_sentence_20) (seq (p := 21) (q := 24) (r := 25) (p_get [(1, 42)] (alL1 fl_X1_302_1) dX1_sentence_21) (seq (p := 24) (q := 25) (r := 25) (p_ireturn dX1_sentence_24 rfl) done)))))))) (seq (p := 25) (q := 26) (r := 54) (p_iload_n 2 dX1_sentence_25) (seq (p := 26) (q := 53) (r := 54) (blk (seq (p := 26) (q := 37) (r := 53) (blk (seq (p := 26) (q := 29) (r := 37) (p_if_ne 37 dX1_sentence_26 (by decide)) (seq (p := 29) (q := 30) (r := 37) (p_aload_n 0 dX1_sentence_29) (seq (p := 30) (q := 31) (r := 37) (p_iload_n 1 dX1_sentence_30) (seq (p := 31) (q := 34) (r := 37) (p_callV 1 cv_X1_323 hcR1 (M_X1_depthOf l δ) (Nat.le_of_ble_eq_true rfl) dX1_sentence_31) (seq (p := 34) (q := 37) (r := 37) (p_goto 53 dX1_sentence_34 (by decide)) done)))))) (seq (p := 37) (q := 38) (r := 53) (p_iload_n 2 dX1_sentence_37) (seq (p := 38) (q := 39) (r := 53) (p_iconst 1 dX1_sentence_38) (seq (p := 39) (q := 51) (r := 53) (blk (seq (p := 39) (q := 42) (r := 51) (p_icmp_ne 51 dX1_sentence_39 (by decide)) (seq (p := 42) (q := 43) (r := 51) (p_aload_n 0 dX1_sentence_42) (seq (p := 43) (q := 46) (r := 51) (p_get [(1, 18)] (alL1 fl_X1_37_1) dX1_sentence_43) (seq (p := 46) (q := 47) (r := 51) (p_iload_n 1 dX1_sentence_46) (seq (p := 47) (q := 48) (r := 51) (p_iald dX1_sentence_47) (seq (p := 48) (q := 51) (r := 51) (p_goto 53 dX1_sentence_48 (by decide)) done))))))) (seq (p := 51) (q := 53) (r := 53) (p_bipush (-2) dX1_sentence_51 (by decide)) done)))))) (seq (p := 53) (q := 54) (r := 54) (p_ireturn dX1_sentence_53 rfl) done)))))))))
noncomputable def M_X1_sentence (l : Launch) (δ : Dl) : Mth l δ yX1_sentence cX1_sentence 3 (some .int) 3 := mk (B_X1_sentence l δ) (by decide)
theorem N_X1_sentence {l : Launch} {δ : Dl} {o : Nat} {a1 : Int} {a2 : Int} {s : St} : (M_X1_sentence l δ).1 [.inr (.inr (some o)), .inl a1, .inl a2] s = bres ((B_X1_sentence l δ).1 [] [some (.inr (.inr (some o))), some (.inl a1), some (.inl a2)] s) := (mk_eq (hy := by decide) rfl).trans (nrfl rfl)

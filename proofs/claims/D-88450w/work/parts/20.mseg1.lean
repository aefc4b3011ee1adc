/-! ===== the reference's methods as segments, 1 ===== -/
set_option maxRecDepth 100000
theorem hcR1 : cR 1 = some RX1 := rfl
theorem okc {p : Prop} (h : p) : p := h
theorem dX1_in_0 : decode cX1_in 0 = .ok (.iload_n 0, 1) := by decide +kernel
theorem dX1_in_1 : decode cX1_in 1 = .ok (.iload_n 1, 1) := by decide +kernel
theorem dX1_in_2 : decode cX1_in 2 = .ok (.if_icmp .lt 12, 3) := by decide +kernel
theorem dX1_in_5 : decode cX1_in 5 = .ok (.iload_n 0, 1) := by decide +kernel
theorem dX1_in_6 : decode cX1_in 6 = .ok (.iload_n 2, 1) := by decide +kernel
theorem dX1_in_7 : decode cX1_in 7 = .ok (.if_icmp .gt 7, 3) := by decide +kernel
theorem dX1_in_10 : decode cX1_in 10 = .ok (.iconst 1, 1) := by decide +kernel
theorem dX1_in_11 : decode cX1_in 11 = .ok (.goto 4, 3) := by decide +kernel
theorem dX1_in_14 : decode cX1_in 14 = .ok (.iconst 0, 1) := by decide +kernel
theorem dX1_in_15 : decode cX1_in 15 = .ok (.ireturn, 1) := by decide +kernel
noncomputable def B_X1_in (l : Launch) (δ : Dl) : Seg (l, δ, yX1_in, 0, (some .boolean), cX1_in, 3) 0 16 :=
  seq (p := 0) (q := 1) (r := 16) (p_iload_n 0 dX1_in_0) (seq (p := 1) (q := 2) (r := 16) (p_iload_n 1 dX1_in_1) (seq (p := 2) (q := 15) (r := 16) (blk (seq (p := 2) (q := 14) (r := 15) (blk (seq (p := 2) (q := 5) (r := 14) (p_icmp_lt 14 dX1_in_2 (by decide)) (seq (p := 5) (q := 6) (r := 14) (p_iload_n 0 dX1_in_5) (seq (p := 6) (q := 7) (r := 14) (p_iload_n 2 dX1_in_6) (seq (p := 7) (q := 10) (r := 14) (p_icmp_gt 14 dX1_in_7 (by decide)) (seq (p := 10) (q := 11) (r := 14) (p_iconst 1 dX1_in_10) (seq (p := 11) (q := 14) (r := 14) (p_goto 15 dX1_in_11 (by decide)) done))))))) (seq (p := 14) (q := 15) (r := 15) (p_iconst 0 dX1_in_14) done))) (seq (p := 15) (q := 16) (r := 16) (p_zreturn dX1_in_15 rfl) done)))
noncomputable def M_X1_in (l : Launch) (δ : Dl) : Mth l δ yX1_in cX1_in 3 (some .boolean) 0 := mk (B_X1_in l δ) (by decide)
theorem N_X1_in {l : Launch} {δ : Dl} {a1 : Int} {a2 : Int} {a3 : Int} {s : St} : (M_X1_in l δ).1 [.inl a1, .inl a2, .inl a3] s = bres ((B_X1_in l δ).1 [] [some (.inl a1), some (.inl a2), some (.inl a3)] s) := (mk_eq (hy := by decide) rfl).trans (nrfl rfl)
theorem dX1_noPlace_0 : decode cX1_noPlace 0 = .ok (.iload_n 0, 1) := by decide +kernel
theorem dX1_noPlace_1 : decode cX1_noPlace 1 = .ok (.iconst 0, 1) := by decide +kernel
theorem dX1_noPlace_2 : decode cX1_noPlace 2 = .ok (.iconst 5, 1) := by decide +kernel
theorem dX1_noPlace_3 : decode cX1_noPlace 3 = .ok (.invokestatic 133, 3) := by decide +kernel
theorem dX1_noPlace_6 : decode cX1_noPlace 6 = .ok (.ifCond .ne 7, 3) := by decide +kernel
theorem dX1_noPlace_9 : decode cX1_noPlace 9 = .ok (.iconst 1, 1) := by decide +kernel
theorem dX1_noPlace_10 : decode cX1_noPlace 10 = .ok (.goto 4, 3) := by decide +kernel
theorem dX1_noPlace_13 : decode cX1_noPlace 13 = .ok (.iconst 0, 1) := by decide +kernel
theorem dX1_noPlace_14 : decode cX1_noPlace 14 = .ok (.ireturn, 1) := by decide +kernel
noncomputable def B_X1_noPlace (l : Launch) (δ : Dl) : Seg (l, δ, yX1_noPlace, 1, (some .boolean), cX1_noPlace, 1) 0 15 :=
  seq (p := 0) (q := 1) (r := 15) (p_iload_n 0 dX1_noPlace_0) (seq (p := 1) (q := 2) (r := 15) (p_iconst 0 dX1_noPlace_1) (seq (p := 2) (q := 3) (r := 15) (p_iconst 5 dX1_noPlace_2) (seq (p := 3) (q := 6) (r := 15) (p_callS cs_X1_133 (M_X1_in l δ) (Nat.le_of_ble_eq_true rfl) dX1_noPlace_3) (seq (p := 6) (q := 14) (r := 15) (blk (seq (p := 6) (q := 13) (r := 14) (blk (seq (p := 6) (q := 9) (r := 13) (p_if_ne 13 dX1_noPlace_6 (by decide)) (seq (p := 9) (q := 10) (r := 13) (p_iconst 1 dX1_noPlace_9) (seq (p := 10) (q := 13) (r := 13) (p_goto 14 dX1_noPlace_10 (by decide)) done)))) (seq (p := 13) (q := 14) (r := 14) (p_iconst 0 dX1_noPlace_13) done))) (seq (p := 14) (q := 15) (r := 15) (p_zreturn dX1_noPlace_14 rfl) done)))))
noncomputable def M_X1_noPlace (l : Launch) (δ : Dl) : Mth l δ yX1_noPlace cX1_noPlace 1 (some .boolean) 1 := mk (B_X1_noPlace l δ) (by decide)
theorem N_X1_noPlace {l : Launch} {δ : Dl} {a1 : Int} {s : St} : (M_X1_noPlace l δ).1 [.inl a1] s = bres ((B_X1_noPlace l δ).1 [] [some (.inl a1)] s) := (mk_eq (hy := by decide) rfl).trans (nrfl rfl)
theorem dX1_world_0 : decode cX1_world 0 = .ok (.iload_n 1, 1) := by decide +kernel
theorem dX1_world_1 : decode cX1_world 1 = .ok (.invokestatic 137, 3) := by decide +kernel
theorem dX1_world_4 : decode cX1_world 4 = .ok (.ifCond .eq 5, 3) := by decide +kernel
theorem dX1_world_7 : decode cX1_world 7 = .ok (.iconst (-1), 1) := by decide +kernel
theorem dX1_world_8 : decode cX1_world 8 = .ok (.ireturn, 1) := by decide +kernel
theorem dX1_world_9 : decode cX1_world 9 = .ok (.iload_n 2, 1) := by decide +kernel
theorem dX1_world_10 : decode cX1_world 10 = .ok (.iconst 1, 1) := by decide +kernel
theorem dX1_world_11 : decode cX1_world 11 = .ok (.bipush 6, 2) := by decide +kernel
theorem dX1_world_13 : decode cX1_world 13 = .ok (.invokestatic 133, 3) := by decide +kernel
theorem dX1_world_16 : decode cX1_world 16 = .ok (.ifCond .ne 6, 3) := by decide +kernel
theorem dX1_world_19 : decode cX1_world 19 = .ok (.bipush (-2), 2) := by decide +kernel
theorem dX1_world_21 : decode cX1_world 21 = .ok (.ireturn, 1) := by decide +kernel
theorem dX1_world_22 : decode cX1_world 22 = .ok (.aload_n 0, 1) := by decide +kernel
theorem dX1_world_23 : decode cX1_world 23 = .ok (.getfield 7, 3) := by decide +kernel
theorem dX1_world_26 : decode cX1_world 26 = .ok (.iload_n 1, 1) := by decide +kernel
theorem dX1_world_27 : decode cX1_world 27 = .ok (.iload_n 2, 1) := by decide +kernel
theorem dX1_world_28 : decode cX1_world 28 = .ok (.iastore, 1) := by decide +kernel
theorem dX1_world_29 : decode cX1_world 29 = .ok (.iconst 0, 1) := by decide +kernel
theorem dX1_world_30 : decode cX1_world 30 = .ok (.istore_n 3, 1) := by decide +kernel
theorem dX1_world_31 : decode cX1_world 31 = .ok (.iload_n 3, 1) := by decide +kernel
theorem dX1_world_32 : decode cX1_world 32 = .ok (.bipush 6, 2) := by decide +kernel
theorem dX1_world_34 : decode cX1_world 34 = .ok (.if_icmp .ge 33, 3) := by decide +kernel
theorem dX1_world_37 : decode cX1_world 37 = .ok (.aload_n 0, 1) := by decide +kernel
theorem dX1_world_38 : decode cX1_world 38 = .ok (.getfield 13, 3) := by decide +kernel
theorem dX1_world_41 : decode cX1_world 41 = .ok (.bipush 6, 2) := by decide +kernel
theorem dX1_world_43 : decode cX1_world 43 = .ok (.iload_n 1, 1) := by decide +kernel
theorem dX1_world_44 : decode cX1_world 44 = .ok (.imul, 1) := by decide +kernel
theorem dX1_world_45 : decode cX1_world 45 = .ok (.iload_n 3, 1) := by decide +kernel
theorem dX1_world_46 : decode cX1_world 46 = .ok (.iadd, 1) := by decide +kernel
theorem dX1_world_47 : decode cX1_world 47 = .ok (.iconst 0, 1) := by decide +kernel
theorem dX1_world_48 : decode cX1_world 48 = .ok (.iastore, 1) := by decide +kernel
theorem dX1_world_49 : decode cX1_world 49 = .ok (.aload_n 0, 1) := by decide +kernel
theorem dX1_world_50 : decode cX1_world 50 = .ok (.getfield 16, 3) := by decide +kernel
theorem dX1_world_53 : decode cX1_world 53 = .ok (.bipush 6, 2) := by decide +kernel
theorem dX1_world_55 : decode cX1_world 55 = .ok (.iload_n 1, 1) := by decide +kernel
theorem dX1_world_56 : decode cX1_world 56 = .ok (.imul, 1) := by decide +kernel
theorem dX1_world_57 : decode cX1_world 57 = .ok (.iload_n 3, 1) := by decide +kernel
theorem dX1_world_58 : decode cX1_world 58 = .ok (.iadd, 1) := by decide +kernel
theorem dX1_world_59 : decode cX1_world 59 = .ok (.iconst 0, 1) := by decide +kernel
theorem dX1_world_60 : decode cX1_world 60 = .ok (.iastore, 1) := by decide +kernel
theorem dX1_world_61 : decode cX1_world 61 = .ok (.iinc 3 1, 3) := by decide +kernel
theorem dX1_world_64 : decode cX1_world 64 = .ok (.goto (-33), 3) := by decide +kernel
theorem dX1_world_67 : decode cX1_world 67 = .ok (.iload_n 2, 1) := by decide +kernel
theorem dX1_world_68 : decode cX1_world 68 = .ok (.ireturn, 1) := by decide +kernel
noncomputable def C_X1_world_L31 (l : Launch) (δ : Dl) : Seg (l, δ, yX1_world, 2, (some .int), cX1_world, 4) 31 67 :=
  seq (p := 31) (q := 32) (r := 67) (p_iload_n 3 dX1_world_31) (seq (p := 32) (q := 34) (r := 67) (p_bipush 6 dX1_world_32 (by decide)) (seq (p := 34) (q := 37) (r := 67) (p_icmp_ge 67 dX1_world_34 (by decide)) (seq (p := 37) (q := 38) (r := 67) (p_aload_n 0 dX1_world_37) (seq (p := 38) (q := 41) (r := 67) (p_get [(1, 1)] (alL1 fl_X1_13_1) dX1_world_38) (seq (p := 41) (q := 43) (r := 67) (p_bipush 6 dX1_world_41 (by decide)) (seq (p := 43) (q := 44) (r := 67) (p_iload_n 1 dX1_world_43) (seq (p := 44) (q := 45) (r := 67) (p_imul dX1_world_44) (seq (p := 45) (q := 46) (r := 67) (p_iload_n 3 dX1_world_45) (seq (p := 46) (q := 47) (r := 67) (p_iadd dX1_world_46) (seq (p := 47) (q := 48) (r := 67) (p_iconst 0 dX1_world_47) (seq (p := 48) (q := 49) (r := 67) (p_iast dX1_world_48) (seq (p := 49) (q := 50) (r := 67) (p_aload_n 0 dX1_world_49) (seq (p := 50) (q := 53) (r := 67) (p_get [(1, 2)] (alL1 fl_X1_16_1) dX1_world_50) (seq (p := 53) (q := 55) (r := 67) (p_bipush 6 dX1_world_53 (by decide)) (seq (p := 55) (q := 56) (r := 67) (p_iload_n 1 dX1_world_55) (seq (p := 56) (q := 57) (r := 67) (p_imul dX1_world_56) (seq (p := 57) (q := 58) (r := 67) (p_iload_n 3 dX1_world_57) (seq (p := 58) (q := 59) (r := 67) (p_iadd dX1_world_58) (seq (p := 59) (q := 60) (r := 67) (p_iconst 0 dX1_world_59) (seq (p := 60) (q := 61) (r := 67) (p_iast dX1_world_60) (seq (p := 61) (q := 64) (r := 67) (p_iinc 3 1 dX1_world_61 (Nat.le_of_ble_eq_true rfl)) (seq (p := 64) (q := 64) (r := 67) (er [true, true, true, true]) (seq (p := 64) (q := 67) (r := 67) (p_goto 31 dX1_world_64 (by decide)) done)))))))))))))))))))))))
noncomputable def B_X1_world_L31 (l : Launch) (δ : Dl) : Seg (l, δ, yX1_world, 2, (some .int), cX1_world, 4) 31 67 := C_X1_world_L31 l δ
theorem L_X1_world_31 {l : Launch} {δ : Dl} {st : Stk} {L : Lc} {s : St} : (B_X1_world_L31 l δ).1 st L s = (C_X1_world_L31 l δ).1 st L s := nrfl rfl
noncomputable def B_X1_world (l : Launch) (δ : Dl) : Seg (l, δ, yX1_world, 2, (some .int), cX1_world, 4) 0 69 :=
  seq (p := 0) (q := 1) (r := 69) (p_iload_n 1 dX1_world_0) (seq (p := 1) (q := 4) (r := 69) (p_callS cs_X1_137 (M_X1_noPlace l δ) (Nat.le_of_ble_eq_true rfl) dX1_world_1) (seq (p := 4) (q := 9) (r := 69) (blk (seq (p := 4) (q := 7) (r := 9) (p_if_eq 9 dX1_world_4 (by decide)) (seq (p := 7) (q := 8) (r := 9) (p_iconst (-1) dX1_world_7) (seq (p := 8) (q := 9) (r := 9) (p_ireturn dX1_world_8 rfl) done)))) (seq (p := 9) (q := 10) (r := 69) (p_iload_n 2 dX1_world_9) (seq (p := 10) (q := 11) (r := 69) (p_iconst 1 dX1_world_10) (seq (p := 11) (q := 13) (r := 69) (p_bipush 6 dX1_world_11 (by decide)) (seq (p := 13) (q := 16) (r := 69) (p_callS cs_X1_133 (M_X1_in l δ) (Nat.le_of_ble_eq_true rfl) dX1_world_13) (seq (p := 16) (q := 22) (r := 69) (blk (seq (p := 16) (q := 19) (r := 22) (p_if_ne 22 dX1_world_16 (by decide)) (seq (p := 19) (q := 21) (r := 22) (p_bipush (-2) dX1_world_19 (by decide)) (seq (p := 21) (q := 22) (r := 22) (p_ireturn dX1_world_21 rfl) done)))) (seq (p := 22) (q := 23) (r := 69) (p_aload_n 0 dX1_world_22) (seq (p := 23) (q := 26) (r := 69) (p_get [(1, 0)] (alL1 fl_X1_7_1) dX1_world_23) (seq (p := 26) (q := 27) (r := 69) (p_iload_n 1 dX1_world_26) (seq (p := 27) (q := 28) (r := 69) (p_iload_n 2 dX1_world_27) (seq (p := 28) (q := 29) (r := 69) (p_iast dX1_world_28) (seq (p := 29) (q := 30) (r := 69) (p_iconst 0 dX1_world_29) (seq (p := 30) (q := 31) (r := 69) (p_istore_n 3 dX1_world_30 (Nat.le_of_ble_eq_true rfl)) (seq (p := 31) (q := 67) (r := 69) (blk (seq (p := 31) (q := 31) (r := 67) (er [true, true, true, true]) (seq (p := 31) (q := 67) (r := 67) (lp (B_X1_world_L31 l δ)) done))) (seq (p := 67) (q := 68) (r := 69) (p_iload_n 2 dX1_world_67) (seq (p := 68) (q := 69) (r := 69) (p_ireturn dX1_world_68 rfl) done)))))))))))))))))
noncomputable def M_X1_world (l : Launch) (δ : Dl) : Mth l δ yX1_world cX1_world 4 (some .int) 2 := mk (B_X1_world l δ) (by decide)
theorem N_X1_world {l : Launch} {δ : Dl} {o : Nat} {a1 : Int} {a2 : Int} {s : St} : (M_X1_world l δ).1 [.inr (.inr (some o)), .inl a1, .inl a2] s = bres ((B_X1_world l δ).1 [] [some (.inr (.inr (some o))), some (.inl a1), some (.inl a2), none] s) := (mk_eq (hy := by decide) rfl).trans (nrfl rfl)
theorem dX1_noWorld_0 : decode cX1_noWorld 0 = .ok (.iload_n 1, 1) := by decide +kernel
theorem dX1_noWorld_1 : decode cX1_noWorld 1 = .ok (.invokestatic 137, 3) := by decide +kernel
theorem dX1_noWorld_4 : decode cX1_noWorld 4 = .ok (.ifCond .ne 12, 3) := by decide +kernel
theorem dX1_noWorld_7 : decode cX1_noWorld 7 = .ok (.aload_n 0, 1) := by decide +kernel
theorem dX1_noWorld_8 : decode cX1_noWorld 8 = .ok (.getfield 7, 3) := by decide +kernel
theorem dX1_noWorld_11 : decode cX1_noWorld 11 = .ok (.iload_n 1, 1) := by decide +kernel
theorem dX1_noWorld_12 : decode cX1_noWorld 12 = .ok (.iaload, 1) := by decide +kernel
theorem dX1_noWorld_13 : decode cX1_noWorld 13 = .ok (.ifCond .ne 7, 3) := by decide +kernel
theorem dX1_noWorld_16 : decode cX1_noWorld 16 = .ok (.iconst 1, 1) := by decide +kernel
theorem dX1_noWorld_17 : decode cX1_noWorld 17 = .ok (.goto 4, 3) := by decide +kernel
theorem dX1_noWorld_20 : decode cX1_noWorld 20 = .ok (.iconst 0, 1) := by decide +kernel
theorem dX1_noWorld_21 : decode cX1_noWorld 21 = .ok (.ireturn, 1) := by decide +kernel
noncomputable def B_X1_noWorld (l : Launch) (δ : Dl) : Seg (l, δ, yX1_noWorld, 2, (some .boolean), cX1_noWorld, 2) 0 22 :=
  seq (p := 0) (q := 1) (r := 22) (p_iload_n 1 dX1_noWorld_0) (seq (p := 1) (q := 4) (r := 22) (p_callS cs_X1_137 (M_X1_noPlace l δ) (Nat.le_of_ble_eq_true rfl) dX1_noWorld_1) (seq (p := 4) (q := 21) (r := 22) (blk (seq (p := 4) (q := 20) (r := 21) (blk (seq (p := 4) (q := 16) (r := 20) (blk (seq (p := 4) (q := 7) (r := 16) (p_if_ne 16 dX1_noWorld_4 (by decide)) (seq (p := 7) (q := 8) (r := 16) (p_aload_n 0 dX1_noWorld_7) (seq (p := 8) (q := 11) (r := 16) (p_get [(1, 0)] (alL1 fl_X1_7_1) dX1_noWorld_8) (seq (p := 11) (q := 12) (r := 16) (p_iload_n 1 dX1_noWorld_11) (seq (p := 12) (q := 13) (r := 16) (p_iald dX1_noWorld_12) (seq (p := 13) (q := 16) (r := 16) (p_if_ne 20 dX1_noWorld_13 (by decide)) done))))))) (seq (p := 16) (q := 17) (r := 20) (p_iconst 1 dX1_noWorld_16) (seq (p := 17) (q := 20) (r := 20) (p_goto 21 dX1_noWorld_17 (by decide)) done)))) (seq (p := 20) (q := 21) (r := 21) (p_iconst 0 dX1_noWorld_20) done))) (seq (p := 21) (q := 22) (r := 22) (p_zreturn dX1_noWorld_21 rfl) done)))
noncomputable def M_X1_noWorld (l : Launch) (δ : Dl) : Mth l δ yX1_noWorld cX1_noWorld 2 (some .boolean) 2 := mk (B_X1_noWorld l δ) (by decide)
theorem N_X1_noWorld {l : Launch} {δ : Dl} {o : Nat} {a1 : Int} {s : St} : (M_X1_noWorld l δ).1 [.inr (.inr (some o)), .inl a1] s = bres ((B_X1_noWorld l δ).1 [] [some (.inr (.inr (some o))), some (.inl a1)] s) := (mk_eq (hy := by decide) rfl).trans (nrfl rfl)
theorem dX1_noThing_0 : decode cX1_noThing 0 = .ok (.aload_n 0, 1) := by decide +kernel
theorem dX1_noThing_1 : decode cX1_noThing 1 = .ok (.iload_n 1, 1) := by decide +kernel
theorem dX1_noThing_2 : decode cX1_noThing 2 = .ok (.invokevirtual 141, 3) := by decide +kernel
theorem dX1_noThing_5 : decode cX1_noThing 5 = .ok (.ifCond .ne 19, 3) := by decide +kernel
theorem dX1_noThing_8 : decode cX1_noThing 8 = .ok (.iload_n 2, 1) := by decide +kernel
theorem dX1_noThing_9 : decode cX1_noThing 9 = .ok (.iconst 0, 1) := by decide +kernel
theorem dX1_noThing_10 : decode cX1_noThing 10 = .ok (.aload_n 0, 1) := by decide +kernel
theorem dX1_noThing_11 : decode cX1_noThing 11 = .ok (.getfield 7, 3) := by decide +kernel
theorem dX1_noThing_14 : decode cX1_noThing 14 = .ok (.iload_n 1, 1) := by decide +kernel
theorem dX1_noThing_15 : decode cX1_noThing 15 = .ok (.iaload, 1) := by decide +kernel
theorem dX1_noThing_16 : decode cX1_noThing 16 = .ok (.iconst 1, 1) := by decide +kernel
theorem dX1_noThing_17 : decode cX1_noThing 17 = .ok (.isub, 1) := by decide +kernel
theorem dX1_noThing_18 : decode cX1_noThing 18 = .ok (.invokestatic 133, 3) := by decide +kernel
theorem dX1_noThing_21 : decode cX1_noThing 21 = .ok (.ifCond .ne 7, 3) := by decide +kernel
theorem dX1_noThing_24 : decode cX1_noThing 24 = .ok (.iconst 1, 1) := by decide +kernel
theorem dX1_noThing_25 : decode cX1_noThing 25 = .ok (.goto 4, 3) := by decide +kernel
theorem dX1_noThing_28 : decode cX1_noThing 28 = .ok (.iconst 0, 1) := by decide +kernel
theorem dX1_noThing_29 : decode cX1_noThing 29 = .ok (.ireturn, 1) := by decide +kernel
noncomputable def B_X1_noThing (l : Launch) (δ : Dl) : Seg (l, δ, yX1_noThing, 3, (some .boolean), cX1_noThing, 3) 0 30 :=
  seq (p := 0) (q := 1) (r := 30) (p_aload_n 0 dX1_noThing_0) (seq (p := 1) (q := 2) (r := 30) (p_iload_n 1 dX1_noThing_1) (seq (p := 2) (q := 5) (r := 30) (p_callV 1 cv_X1_141 hcR1 (M_X1_noWorld l δ) (Nat.le_of_ble_eq_true rfl) dX1_noThing_2) (seq (p := 5) (q := 29) (r := 30) (blk (seq (p := 5) (q := 28) (r := 29) (blk (seq (p := 5) (q := 24) (r := 28) (blk (seq (p := 5) (q := 8) (r := 24) (p_if_ne 24 dX1_noThing_5 (by decide)) (seq (p := 8) (q := 9) (r := 24) (p_iload_n 2 dX1_noThing_8) (seq (p := 9) (q := 10) (r := 24) (p_iconst 0 dX1_noThing_9) (seq (p := 10) (q := 11) (r := 24) (p_aload_n 0 dX1_noThing_10) (seq (p := 11) (q := 14) (r := 24) (p_get [(1, 0)] (alL1 fl_X1_7_1) dX1_noThing_11) (seq (p := 14) (q := 15) (r := 24) (p_iload_n 1 dX1_noThing_14) (seq (p := 15) (q := 16) (r := 24) (p_iald dX1_noThing_15) (seq (p := 16) (q := 17) (r := 24) (p_iconst 1 dX1_noThing_16) (seq (p := 17) (q := 18) (r := 24) (p_isub dX1_noThing_17) (seq (p := 18) (q := 21) (r := 24) (p_callS cs_X1_133 (M_X1_in l δ) (Nat.le_of_ble_eq_true rfl) dX1_noThing_18) (seq (p := 21) (q := 24) (r := 24) (p_if_ne 28 dX1_noThing_21 (by decide)) done)))))))))))) (seq (p := 24) (q := 25) (r := 28) (p_iconst 1 dX1_noThing_24) (seq (p := 25) (q := 28) (r := 28) (p_goto 29 dX1_noThing_25 (by decide)) done)))) (seq (p := 28) (q := 29) (r := 29) (p_iconst 0 dX1_noThing_28) done))) (seq (p := 29) (q := 30) (r := 30) (p_zreturn dX1_noThing_29 rfl) done))))
noncomputable def M_X1_noThing (l : Launch) (δ : Dl) : Mth l δ yX1_noThing cX1_noThing 3 (some .boolean) 3 := mk (B_X1_noThing l δ) (by decide)
theorem N_X1_noThing {l : Launch} {δ : Dl} {o : Nat} {a1 : Int} {a2 : Int} {s : St} : (M_X1_noThing l δ).1 [.inr (.inr (some o)), .inl a1, .inl a2] s = bres ((B_X1_noThing l δ).1 [] [some (.inr (.inr (some o))), some (.inl a1), some (.inl a2)] s) := (mk_eq (hy := by decide) rfl).trans (nrfl rfl)
theorem dX1_mark_0 : decode cX1_mark 0 = .ok (.aload_n 0, 1) := by decide +kernel
theorem dX1_mark_1 : decode cX1_mark 1 = .ok (.iload_n 1, 1) := by decide +kernel
theorem dX1_mark_2 : decode cX1_mark 2 = .ok (.iload_n 2, 1) := by decide +kernel
theorem dX1_mark_3 : decode cX1_mark 3 = .ok (.invokevirtual 144, 3) := by decide +kernel
theorem dX1_mark_6 : decode cX1_mark 6 = .ok (.ifCond .eq 5, 3) := by decide +kernel
theorem dX1_mark_9 : decode cX1_mark 9 = .ok (.iconst (-1), 1) := by decide +kernel
theorem dX1_mark_10 : decode cX1_mark 10 = .ok (.ireturn, 1) := by decide +kernel
theorem dX1_mark_11 : decode cX1_mark 11 = .ok (.iload_n 3, 1) := by decide +kernel
theorem dX1_mark_12 : decode cX1_mark 12 = .ok (.iconst 0, 1) := by decide +kernel
theorem dX1_mark_13 : decode cX1_mark 13 = .ok (.iconst 1, 1) := by decide +kernel
theorem dX1_mark_14 : decode cX1_mark 14 = .ok (.invokestatic 133, 3) := by decide +kernel
theorem dX1_mark_17 : decode cX1_mark 17 = .ok (.ifCond .ne 6, 3) := by decide +kernel
theorem dX1_mark_20 : decode cX1_mark 20 = .ok (.bipush (-2), 2) := by decide +kernel
theorem dX1_mark_22 : decode cX1_mark 22 = .ok (.ireturn, 1) := by decide +kernel
theorem dX1_mark_23 : decode cX1_mark 23 = .ok (.aload_n 0, 1) := by decide +kernel
theorem dX1_mark_24 : decode cX1_mark 24 = .ok (.getfield 13, 3) := by decide +kernel
theorem dX1_mark_27 : decode cX1_mark 27 = .ok (.bipush 6, 2) := by decide +kernel
theorem dX1_mark_29 : decode cX1_mark 29 = .ok (.iload_n 1, 1) := by decide +kernel
theorem dX1_mark_30 : decode cX1_mark 30 = .ok (.imul, 1) := by decide +kernel
theorem dX1_mark_31 : decode cX1_mark 31 = .ok (.iload_n 2, 1) := by decide +kernel
theorem dX1_mark_32 : decode cX1_mark 32 = .ok (.iadd, 1) := by decide +kernel
theorem dX1_mark_33 : decode cX1_mark 33 = .ok (.iaload, 1) := by decide +kernel
theorem dX1_mark_34 : decode cX1_mark 34 = .ok (.istore 5, 2) := by decide +kernel
theorem dX1_mark_36 : decode cX1_mark 36 = .ok (.aload_n 0, 1) := by decide +kernel
theorem dX1_mark_37 : decode cX1_mark 37 = .ok (.getfield 13, 3) := by decide +kernel
theorem dX1_mark_40 : decode cX1_mark 40 = .ok (.bipush 6, 2) := by decide +kernel
theorem dX1_mark_42 : decode cX1_mark 42 = .ok (.iload_n 1, 1) := by decide +kernel
theorem dX1_mark_43 : decode cX1_mark 43 = .ok (.imul, 1) := by decide +kernel
theorem dX1_mark_44 : decode cX1_mark 44 = .ok (.iload_n 2, 1) := by decide +kernel
theorem dX1_mark_45 : decode cX1_mark 45 = .ok (.iadd, 1) := by decide +kernel
theorem dX1_mark_46 : decode cX1_mark 46 = .ok (.iload 4, 2) := by decide +kernel
theorem dX1_mark_48 : decode cX1_mark 48 = .ok (.ifCond .eq 12, 3) := by decide +kernel
theorem dX1_mark_51 : decode cX1_mark 51 = .ok (.iload 5, 2) := by decide +kernel
theorem dX1_mark_53 : decode cX1_mark 53 = .ok (.iconst 1, 1) := by decide +kernel
theorem dX1_mark_54 : decode cX1_mark 54 = .ok (.iload_n 3, 1) := by decide +kernel
theorem dX1_mark_55 : decode cX1_mark 55 = .ok (.ishl, 1) := by decide +kernel
theorem dX1_mark_56 : decode cX1_mark 56 = .ok (.ior, 1) := by decide +kernel
theorem dX1_mark_57 : decode cX1_mark 57 = .ok (.goto 11, 3) := by decide +kernel
theorem dX1_mark_60 : decode cX1_mark 60 = .ok (.iload 5, 2) := by decide +kernel
theorem dX1_mark_62 : decode cX1_mark 62 = .ok (.iconst 1, 1) := by decide +kernel
theorem dX1_mark_63 : decode cX1_mark 63 = .ok (.iload_n 3, 1) := by decide +kernel
theorem dX1_mark_64 : decode cX1_mark 64 = .ok (.ishl, 1) := by decide +kernel
theorem dX1_mark_65 : decode cX1_mark 65 = .ok (.iconst (-1), 1) := by decide +kernel
theorem dX1_mark_66 : decode cX1_mark 66 = .ok (.ixor, 1) := by decide +kernel
theorem dX1_mark_67 : decode cX1_mark 67 = .ok (.iand, 1) := by decide +kernel
theorem dX1_mark_68 : decode cX1_mark 68 = .ok (.iastore, 1) := by decide +kernel
theorem dX1_mark_69 : decode cX1_mark 69 = .ok (.aload_n 0, 1) := by decide +kernel
theorem dX1_mark_70 : decode cX1_mark 70 = .ok (.getfield 13, 3) := by decide +kernel
theorem dX1_mark_73 : decode cX1_mark 73 = .ok (.bipush 6, 2) := by decide +kernel
theorem dX1_mark_75 : decode cX1_mark 75 = .ok (.iload_n 1, 1) := by decide +kernel
theorem dX1_mark_76 : decode cX1_mark 76 = .ok (.imul, 1) := by decide +kernel
theorem dX1_mark_77 : decode cX1_mark 77 = .ok (.iload_n 2, 1) := by decide +kernel
theorem dX1_mark_78 : decode cX1_mark 78 = .ok (.iadd, 1) := by decide +kernel
theorem dX1_mark_79 : decode cX1_mark 79 = .ok (.iaload, 1) := by decide +kernel
theorem dX1_mark_80 : decode cX1_mark 80 = .ok (.iload 5, 2) := by decide +kernel
theorem dX1_mark_82 : decode cX1_mark 82 = .ok (.if_icmp .ne 7, 3) := by decide +kernel
theorem dX1_mark_85 : decode cX1_mark 85 = .ok (.iconst 0, 1) := by decide +kernel
theorem dX1_mark_86 : decode cX1_mark 86 = .ok (.goto 4, 3) := by decide +kernel
theorem dX1_mark_89 : decode cX1_mark 89 = .ok (.iconst 1, 1) := by decide +kernel
theorem dX1_mark_90 : decode cX1_mark 90 = .ok (.ireturn, 1) := by decide +kernel
noncomputable def B_X1_mark (l : Launch) (δ : Dl) : Seg (l, δ, yX1_mark, 4, (some .int), cX1_mark, 6) 0 91 :=
  seq (p := 0) (q := 1) (r := 91) (p_aload_n 0 dX1_mark_0) (seq (p := 1) (q := 2) (r := 91) (p_iload_n 1 dX1_mark_1) (seq (p := 2) (q := 3) (r := 91) (p_iload_n 2 dX1_mark_2) (seq (p := 3) (q := 6) (r := 91) (p_callV 1 cv_X1_144 hcR1 (M_X1_noThing l δ) (Nat.le_of_ble_eq_true rfl) dX1_mark_3) (seq (p := 6) (q := 11) (r := 91) (blk (seq (p := 6) (q := 9) (r := 11) (p_if_eq 11 dX1_mark_6 (by decide)) (seq (p := 9) (q := 10) (r := 11) (p_iconst (-1) dX1_mark_9) (seq (p := 10) (q := 11) (r := 11) (p_ireturn dX1_mark_10 rfl) done)))) (seq (p := 11) (q := 12) (r := 91) (p_iload_n 3 dX1_mark_11) (seq (p := 12) (q := 13) (r := 91) (p_iconst 0 dX1_mark_12) (seq (p := 13) (q := 14) (r := 91) (p_iconst 1 dX1_mark_13) (seq (p := 14) (q := 17) (r := 91) (p_callS cs_X1_133 (M_X1_in l δ) (Nat.le_of_ble_eq_true rfl) dX1_mark_14) (seq (p := 17) (q := 23) (r := 91) (blk (seq (p := 17) (q := 20) (r := 23) (p_if_ne 23 dX1_mark_17 (by decide)) (seq (p := 20) (q := 22) (r := 23) (p_bipush (-2) dX1_mark_20 (by decide)) (seq (p := 22) (q := 23) (r := 23) (p_ireturn dX1_mark_22 rfl) done)))) (seq (p := 23) (q := 24) (r := 91) (p_aload_n 0 dX1_mark_23) (seq (p := 24) (q := 27) (r := 91) (p_get [(1, 1)] (alL1 fl_X1_13_1) dX1_mark_24) (seq (p := 27) (q := 29) (r := 91) (p_bipush 6 dX1_mark_27 (by decide)) (seq (p := 29) (q := 30) (r := 91) (p_iload_n 1 dX1_mark_29) (seq (p := 30) (q := 31) (r := 91) (p_imul dX1_mark_30) (seq (p := 31) (q := 32) (r := 91) (p_iload_n 2 dX1_mark_31) (seq (p := 32) (q := 33) (r := 91) (p_iadd dX1_mark_32) (seq (p := 33) (q := 34) (r := 91) (p_iald dX1_mark_33) (seq (p := 34) (q := 36) (r := 91) (p_istore 5 dX1_mark_34 (Nat.le_of_ble_eq_true rfl)) (seq (p := 36) (q := 37) (r := 91) (p_aload_n 0 dX1_mark_36) (seq (p := 37) (q := 40) (r := 91) (p_get [(1, 1)] (alL1 fl_X1_13_1) dX1_mark_37) (seq (p := 40) (q := 42) (r := 91) (p_bipush 6 dX1_mark_40 (by decide)) (seq (p := 42) (q := 43) (r := 91) (p_iload_n 1 dX1_mark_42) (seq (p := 43) (q := 44) (r := 91) (p_imul dX1_mark_43) (seq (p := 44) (q := 45) (r := 91) (p_iload_n 2 dX1_mark_44) (seq (p := 45) (q := 46) (r := 91) (p_iadd dX1_mark_45) (seq (p := 46) (q := 48) (r := 91) (p_iload 4 dX1_mark_46) (seq (p := 48) (q := 68) (r := 91) (blk (seq (p := 48) (q := 60) (r := 68) (blk (seq (p := 48) (q := 51) (r := 60) (p_if_eq 60 dX1_mark_48 (by decide)) (seq (p := 51) (q := 53) (r := 60) (p_iload 5 dX1_mark_51) (seq (p := 53) (q := 54) (r := 60) (p_iconst 1 dX1_mark_53) (seq (p := 54) (q := 55) (r := 60) (p_iload_n 3 dX1_mark_54) (seq (p := 55) (q := 56) (r := 60) (p_ishl dX1_mark_55) (seq (p := 56) (q := 57) (r := 60) (p_ior dX1_mark_56) (seq (p := 57) (q := 60) (r := 60) (p_goto 68 dX1_mark_57 (by decide)) done)))))))) (seq (p := 60) (q := 62) (r := 68) (p_iload 5 dX1_mark_60) (seq (p := 62) (q := 63) (r := 68) (p_iconst 1 dX1_mark_62) (seq (p := 63) (q := 64) (r := 68) (p_iload_n 3 dX1_mark_63) (seq (p := 64) (q := 65) (r := 68) (p_ishl dX1_mark_64) (seq (p := 65) (q := 66) (r := 68) (p_iconst (-1) dX1_mark_65) (seq (p := 66) (q := 67) (r := 68) (p_ixor dX1_mark_66) (seq (p := 67) (q := 68) (r := 68) (p_iand dX1_mark_67) done))))))))) (seq (p := 68) (q := 69) (r := 91) (p_iast dX1_mark_68) (seq (p := 69) (q := 70) (r := 91) (p_aload_n 0 dX1_mark_69) (seq (p := 70) (q := 73) (r := 91) (p_get [(1, 1)] (alL1 fl_X1_13_1) dX1_mark_70) (seq (p := 73) (q := 75) (r := 91) (p_bipush 6 dX1_mark_73 (by decide)) (seq (p := 75) (q := 76) (r := 91) (p_iload_n 1 dX1_mark_75) (seq (p := 76) (q := 77) (r := 91) (p_imul dX1_mark_76) (seq (p := 77) (q := 78) (r := 91) (p_iload_n 2 dX1_mark_77) (seq (p := 78) (q := 79) (r := 91) (p_iadd dX1_mark_78) (seq (p := 79) (q := 80) (r := 91) (p_iald dX1_mark_79) (seq (p := 80) (q := 82) (r := 91) (p_iload 5 dX1_mark_80) (seq (p := 82) (q := 90) (r := 91) (blk (seq (p := 82) (q := 89) (r := 90) (blk (seq (p := 82) (q := 85) (r := 89) (p_icmp_ne 89 dX1_mark_82 (by decide)) (seq (p := 85) (q := 86) (r := 89) (p_iconst 0 dX1_mark_85) (seq (p := 86) (q := 89) (r := 89) (p_goto 90 dX1_mark_86 (by decide)) done)))) (seq (p := 89) (q := 90) (r := 90) (p_iconst 1 dX1_mark_89) done))) (seq (p := 90) (q := 91) (r := 91) (p_ireturn dX1_mark_90 rfl) done)))))))))))))))))))))))))))))))))))))))
noncomputable def M_X1_mark (l : Launch) (δ : Dl) : Mth l δ yX1_mark cX1_mark 6 (some .int) 4 := mk (B_X1_mark l δ) (by decide)
theorem N_X1_mark {l : Launch} {δ : Dl} {o : Nat} {a1 : Int} {a2 : Int} {a3 : Int} {a4 : Int} {s : St} : (M_X1_mark l δ).1 [.inr (.inr (some o)), .inl a1, .inl a2, .inl a3, .inl a4] s = bres ((B_X1_mark l δ).1 [] [some (.inr (.inr (some o))), some (.inl a1), some (.inl a2), some (.inl a3), some (.inl a4), none] s) := (mk_eq (hy := by decide) rfl).trans (nrfl rfl)
theorem dX1_tie_0 : decode cX1_tie 0 = .ok (.aload_n 0, 1) := by decide +kernel
theorem dX1_tie_1 : decode cX1_tie 1 = .ok (.iload_n 1, 1) := by decide +kernel
theorem dX1_tie_2 : decode cX1_tie 2 = .ok (.iload_n 2, 1) := by decide +kernel
theorem dX1_tie_3 : decode cX1_tie 3 = .ok (.invokevirtual 144, 3) := by decide +kernel
theorem dX1_tie_6 : decode cX1_tie 6 = .ok (.ifCond .ne 12, 3) := by decide +kernel
theorem dX1_tie_9 : decode cX1_tie 9 = .ok (.aload_n 0, 1) := by decide +kernel
theorem dX1_tie_10 : decode cX1_tie 10 = .ok (.iload_n 1, 1) := by decide +kernel
theorem dX1_tie_11 : decode cX1_tie 11 = .ok (.iload_n 3, 1) := by decide +kernel
theorem dX1_tie_12 : decode cX1_tie 12 = .ok (.invokevirtual 144, 3) := by decide +kernel
theorem dX1_tie_15 : decode cX1_tie 15 = .ok (.ifCond .eq 5, 3) := by decide +kernel
theorem dX1_tie_18 : decode cX1_tie 18 = .ok (.iconst (-1), 1) := by decide +kernel
theorem dX1_tie_19 : decode cX1_tie 19 = .ok (.ireturn, 1) := by decide +kernel
theorem dX1_tie_20 : decode cX1_tie 20 = .ok (.aload_n 0, 1) := by decide +kernel
theorem dX1_tie_21 : decode cX1_tie 21 = .ok (.getfield 16, 3) := by decide +kernel
theorem dX1_tie_24 : decode cX1_tie 24 = .ok (.bipush 6, 2) := by decide +kernel
theorem dX1_tie_26 : decode cX1_tie 26 = .ok (.iload_n 1, 1) := by decide +kernel
theorem dX1_tie_27 : decode cX1_tie 27 = .ok (.imul, 1) := by decide +kernel
theorem dX1_tie_28 : decode cX1_tie 28 = .ok (.iload_n 2, 1) := by decide +kernel
theorem dX1_tie_29 : decode cX1_tie 29 = .ok (.iadd, 1) := by decide +kernel
theorem dX1_tie_30 : decode cX1_tie 30 = .ok (.iaload, 1) := by decide +kernel
theorem dX1_tie_31 : decode cX1_tie 31 = .ok (.istore 5, 2) := by decide +kernel
theorem dX1_tie_33 : decode cX1_tie 33 = .ok (.aload_n 0, 1) := by decide +kernel
theorem dX1_tie_34 : decode cX1_tie 34 = .ok (.getfield 16, 3) := by decide +kernel
theorem dX1_tie_37 : decode cX1_tie 37 = .ok (.bipush 6, 2) := by decide +kernel
theorem dX1_tie_39 : decode cX1_tie 39 = .ok (.iload_n 1, 1) := by decide +kernel
theorem dX1_tie_40 : decode cX1_tie 40 = .ok (.imul, 1) := by decide +kernel
theorem dX1_tie_41 : decode cX1_tie 41 = .ok (.iload_n 2, 1) := by decide +kernel
theorem dX1_tie_42 : decode cX1_tie 42 = .ok (.iadd, 1) := by decide +kernel
theorem dX1_tie_43 : decode cX1_tie 43 = .ok (.iload 4, 2) := by decide +kernel
theorem dX1_tie_45 : decode cX1_tie 45 = .ok (.ifCond .eq 12, 3) := by decide +kernel
theorem dX1_tie_48 : decode cX1_tie 48 = .ok (.iload 5, 2) := by decide +kernel
theorem dX1_tie_50 : decode cX1_tie 50 = .ok (.iconst 1, 1) := by decide +kernel
theorem dX1_tie_51 : decode cX1_tie 51 = .ok (.iload_n 3, 1) := by decide +kernel
theorem dX1_tie_52 : decode cX1_tie 52 = .ok (.ishl, 1) := by decide +kernel
theorem dX1_tie_53 : decode cX1_tie 53 = .ok (.ior, 1) := by decide +kernel
theorem dX1_tie_54 : decode cX1_tie 54 = .ok (.goto 11, 3) := by decide +kernel
theorem dX1_tie_57 : decode cX1_tie 57 = .ok (.iload 5, 2) := by decide +kernel
theorem dX1_tie_59 : decode cX1_tie 59 = .ok (.iconst 1, 1) := by decide +kernel
theorem dX1_tie_60 : decode cX1_tie 60 = .ok (.iload_n 3, 1) := by decide +kernel
theorem dX1_tie_61 : decode cX1_tie 61 = .ok (.ishl, 1) := by decide +kernel
theorem dX1_tie_62 : decode cX1_tie 62 = .ok (.iconst (-1), 1) := by decide +kernel
theorem dX1_tie_63 : decode cX1_tie 63 = .ok (.ixor, 1) := by decide +kernel
theorem dX1_tie_64 : decode cX1_tie 64 = .ok (.iand, 1) := by decide +kernel
theorem dX1_tie_65 : decode cX1_tie 65 = .ok (.iastore, 1) := by decide +kernel
theorem dX1_tie_66 : decode cX1_tie 66 = .ok (.aload_n 0, 1) := by decide +kernel
theorem dX1_tie_67 : decode cX1_tie 67 = .ok (.getfield 16, 3) := by decide +kernel
theorem dX1_tie_70 : decode cX1_tie 70 = .ok (.bipush 6, 2) := by decide +kernel
theorem dX1_tie_72 : decode cX1_tie 72 = .ok (.iload_n 1, 1) := by decide +kernel
theorem dX1_tie_73 : decode cX1_tie 73 = .ok (.imul, 1) := by decide +kernel
theorem dX1_tie_74 : decode cX1_tie 74 = .ok (.iload_n 2, 1) := by decide +kernel
theorem dX1_tie_75 : decode cX1_tie 75 = .ok (.iadd, 1) := by decide +kernel
theorem dX1_tie_76 : decode cX1_tie 76 = .ok (.iaload, 1) := by decide +kernel
theorem dX1_tie_77 : decode cX1_tie 77 = .ok (.iload 5, 2) := by decide +kernel
theorem dX1_tie_79 : decode cX1_tie 79 = .ok (.if_icmp .ne 7, 3) := by decide +kernel
theorem dX1_tie_82 : decode cX1_tie 82 = .ok (.iconst 0, 1) := by decide +kernel
theorem dX1_tie_83 : decode cX1_tie 83 = .ok (.goto 4, 3) := by decide +kernel
theorem dX1_tie_86 : decode cX1_tie 86 = .ok (.iconst 1, 1) := by decide +kernel
theorem dX1_tie_87 : decode cX1_tie 87 = .ok (.ireturn, 1) := by decide +kernel
noncomputable def B_X1_tie (l : Launch) (δ : Dl) : Seg (l, δ, yX1_tie, 4, (some .int), cX1_tie, 6) 0 88 :=
  seq (p := 0) (q := 1) (r := 88) (p_aload_n 0 dX1_tie_0) (seq (p := 1) (q := 2) (r := 88) (p_iload_n 1 dX1_tie_1) (seq (p := 2) (q := 3) (r := 88) (p_iload_n 2 dX1_tie_2) (seq (p := 3) (q := 6) (r := 88) (p_callV 1 cv_X1_144 hcR1 (M_X1_noThing l δ) (Nat.le_of_ble_eq_true rfl) dX1_tie_3) (seq (p := 6) (q := 20) (r := 88) (blk (seq (p := 6) (q := 18) (r := 20) (blk (seq (p := 6) (q := 9) (r := 18) (p_if_ne 18 dX1_tie_6 (by decide)) (seq (p := 9) (q := 10) (r := 18) (p_aload_n 0 dX1_tie_9) (seq (p := 10) (q := 11) (r := 18) (p_iload_n 1 dX1_tie_10) (seq (p := 11) (q := 12) (r := 18) (p_iload_n 3 dX1_tie_11) (seq (p := 12) (q := 15) (r := 18) (p_callV 1 cv_X1_144 hcR1 (M_X1_noThing l δ) (Nat.le_of_ble_eq_true rfl) dX1_tie_12) (seq (p := 15) (q := 18) (r := 18) (p_if_eq 20 dX1_tie_15 (by decide)) done))))))) (seq (p := 18) (q := 19) (r := 20) (p_iconst (-1) dX1_tie_18) (seq (p := 19) (q := 20) (r := 20) (p_ireturn dX1_tie_19 rfl) done)))) (seq (p := 20) (q := 21) (r := 88) (p_aload_n 0 dX1_tie_20) (seq (p := 21) (q := 24) (r := 88) (p_get [(1, 2)] (alL1 fl_X1_16_1) dX1_tie_21) (seq (p := 24) (q := 26) (r := 88) (p_bipush 6 dX1_tie_24 (by decide)) (seq (p := 26) (q := 27) (r := 88) (p_iload_n 1 dX1_tie_26) (seq (p := 27) (q := 28) (r := 88) (p_imul dX1_tie_27) (seq (p := 28) (q := 29) (r := 88) (p_iload_n 2 dX1_tie_28) (seq (p := 29) (q := 30) (r := 88) (p_iadd dX1_tie_29) (seq (p := 30) (q := 31) (r := 88) (p_iald dX1_tie_30) (seq (p := 31) (q := 33) (r := 88) (p_istore 5 dX1_tie_31 (Nat.le_of_ble_eq_true rfl)) (seq (p := 33) (q := 34) (r := 88) (p_aload_n 0 dX1_tie_33) (seq (p := 34) (q := 37) (r := 88) (p_get [(1, 2)] (alL1 fl_X1_16_1) dX1_tie_34) (seq (p := 37) (q := 39) (r := 88) (p_bipush 6 dX1_tie_37 (by decide)) (seq (p := 39) (q := 40) (r := 88) (p_iload_n 1 dX1_tie_39) (seq (p := 40) (q := 41) (r := 88) (p_imul dX1_tie_40) (seq (p := 41) (q := 42) (r := 88) (p_iload_n 2 dX1_tie_41) (seq (p := 42) (q := 43) (r := 88) (p_iadd dX1_tie_42) (seq (p := 43) (q := 45) (r := 88) (p_iload 4 dX1_tie_43) (seq (p := 45) (q := 65) (r := 88) (blk (seq (p := 45) (q := 57) (r := 65) (blk (seq (p := 45) (q := 48) (r := 57) (p_if_eq 57 dX1_tie_45 (by decide)) (seq (p := 48) (q := 50) (r := 57) (p_iload 5 dX1_tie_48) (seq (p := 50) (q := 51) (r := 57) (p_iconst 1 dX1_tie_50) (seq (p := 51) (q := 52) (r := 57) (p_iload_n 3 dX1_tie_51) (seq (p := 52) (q := 53) (r := 57) (p_ishl dX1_tie_52) (seq (p := 53) (q := 54) (r := 57) (p_ior dX1_tie_53) (seq (p := 54) (q := 57) (r := 57) (p_goto 65 dX1_tie_54 (by decide)) done)))))))) (seq (p := 57) (q := 59) (r := 65) (p_iload 5 dX1_tie_57) (seq (p := 59) (q := 60) (r := 65) (p_iconst 1 dX1_tie_59) (seq (p := 60) (q := 61) (r := 65) (p_iload_n 3 dX1_tie_60) (seq (p := 61) (q := 62) (r := 65) (p_ishl dX1_tie_61) (seq (p := 62) (q := 63) (r := 65) (p_iconst (-1) dX1_tie_62) (seq (p := 63) (q := 64) (r := 65) (p_ixor dX1_tie_63) (seq (p := 64) (q := 65) (r := 65) (p_iand dX1_tie_64) done))))))))) (seq (p := 65) (q := 66) (r := 88) (p_iast dX1_tie_65) (seq (p := 66) (q := 67) (r := 88) (p_aload_n 0 dX1_tie_66) (seq (p := 67) (q := 70) (r := 88) (p_get [(1, 2)] (alL1 fl_X1_16_1) dX1_tie_67) (seq (p := 70) (q := 72) (r := 88) (p_bipush 6 dX1_tie_70 (by decide)) (seq (p := 72) (q := 73) (r := 88) (p_iload_n 1 dX1_tie_72) (seq (p := 73) (q := 74) (r := 88) (p_imul dX1_tie_73) (seq (p := 74) (q := 75) (r := 88) (p_iload_n 2 dX1_tie_74) (seq (p := 75) (q := 76) (r := 88) (p_iadd dX1_tie_75) (seq (p := 76) (q := 77) (r := 88) (p_iald dX1_tie_76) (seq (p := 77) (q := 79) (r := 88) (p_iload 5 dX1_tie_77) (seq (p := 79) (q := 87) (r := 88) (blk (seq (p := 79) (q := 86) (r := 87) (blk (seq (p := 79) (q := 82) (r := 86) (p_icmp_ne 86 dX1_tie_79 (by decide)) (seq (p := 82) (q := 83) (r := 86) (p_iconst 0 dX1_tie_82) (seq (p := 83) (q := 86) (r := 86) (p_goto 87 dX1_tie_83 (by decide)) done)))) (seq (p := 86) (q := 87) (r := 87) (p_iconst 1 dX1_tie_86) done))) (seq (p := 87) (q := 88) (r := 88) (p_ireturn dX1_tie_87 rfl) done))))))))))))))))))))))))))))))))))
noncomputable def M_X1_tie (l : Launch) (δ : Dl) : Mth l δ yX1_tie cX1_tie 6 (some .int) 4 := mk (B_X1_tie l δ) (by decide)
theorem N_X1_tie {l : Launch} {δ : Dl} {o : Nat} {a1 : Int} {a2 : Int} {a3 : Int} {a4 : Int} {s : St} : (M_X1_tie l δ).1 [.inr (.inr (some o)), .inl a1, .inl a2, .inl a3, .inl a4] s = bres ((B_X1_tie l δ).1 [] [some (.inr (.inr (some o))), some (.inl a1), some (.inl a2), some (.inl a3), some (.inl a4), none] s) := (mk_eq (hy := by decide) rfl).trans (nrfl rfl)
theorem dX1_isTied_0 : decode cX1_isTied 0 = .ok (.aload_n 0, 1) := by decide +kernel
theorem dX1_isTied_1 : decode cX1_isTied 1 = .ok (.getfield 16, 3) := by decide +kernel
theorem dX1_isTied_4 : decode cX1_isTied 4 = .ok (.bipush 6, 2) := by decide +kernel
theorem dX1_isTied_6 : decode cX1_isTied 6 = .ok (.iload_n 1, 1) := by decide +kernel
theorem dX1_isTied_7 : decode cX1_isTied 7 = .ok (.imul, 1) := by decide +kernel
theorem dX1_isTied_8 : decode cX1_isTied 8 = .ok (.iload_n 2, 1) := by decide +kernel
theorem dX1_isTied_9 : decode cX1_isTied 9 = .ok (.iadd, 1) := by decide +kernel
theorem dX1_isTied_10 : decode cX1_isTied 10 = .ok (.iaload, 1) := by decide +kernel
theorem dX1_isTied_11 : decode cX1_isTied 11 = .ok (.iload_n 3, 1) := by decide +kernel
theorem dX1_isTied_12 : decode cX1_isTied 12 = .ok (.ishr, 1) := by decide +kernel
theorem dX1_isTied_13 : decode cX1_isTied 13 = .ok (.iconst 1, 1) := by decide +kernel
theorem dX1_isTied_14 : decode cX1_isTied 14 = .ok (.iand, 1) := by decide +kernel
theorem dX1_isTied_15 : decode cX1_isTied 15 = .ok (.iconst 1, 1) := by decide +kernel
theorem dX1_isTied_16 : decode cX1_isTied 16 = .ok (.if_icmp .ne 7, 3) := by decide +kernel
theorem dX1_isTied_19 : decode cX1_isTied 19 = .ok (.iconst 1, 1) := by decide +kernel
theorem dX1_isTied_20 : decode cX1_isTied 20 = .ok (.goto 4, 3) := by decide +kernel
theorem dX1_isTied_23 : decode cX1_isTied 23 = .ok (.iconst 0, 1) := by decide +kernel
theorem dX1_isTied_24 : decode cX1_isTied 24 = .ok (.ireturn, 1) := by decide +kernel
noncomputable def B_X1_isTied (l : Launch) (δ : Dl) : Seg (l, δ, yX1_isTied, 0, (some .boolean), cX1_isTied, 4) 0 25 :=
  seq (p := 0) (q := 1) (r := 25) (p_aload_n 0 dX1_isTied_0) (seq (p := 1) (q := 4) (r := 25) (p_get [(1, 2)] (alL1 fl_X1_16_1) dX1_isTied_1) (seq (p := 4) (q := 6) (r := 25) (p_bipush 6 dX1_isTied_4 (by decide)) (seq (p := 6) (q := 7) (r := 25) (p_iload_n 1 dX1_isTied_6) (seq (p := 7) (q := 8) (r := 25) (p_imul dX1_isTied_7) (seq (p := 8) (q := 9) (r := 25) (p_iload_n 2 dX1_isTied_8) (seq (p := 9) (q := 10) (r := 25) (p_iadd dX1_isTied_9) (seq (p := 10) (q := 11) (r := 25) (p_iald dX1_isTied_10) (seq (p := 11) (q := 12) (r := 25) (p_iload_n 3 dX1_isTied_11) (seq (p := 12) (q := 13) (r := 25) (p_ishr dX1_isTied_12) (seq (p := 13) (q := 14) (r := 25) (p_iconst 1 dX1_isTied_13) (seq (p := 14) (q := 15) (r := 25) (p_iand dX1_isTied_14) (seq (p := 15) (q := 16) (r := 25) (p_iconst 1 dX1_isTied_15) (seq (p := 16) (q := 24) (r := 25) (blk (seq (p := 16) (q := 23) (r := 24) (blk (seq (p := 16) (q := 19) (r := 23) (p_icmp_ne 23 dX1_isTied_16 (by decide)) (seq (p := 19) (q := 20) (r := 23) (p_iconst 1 dX1_isTied_19) (seq (p := 20) (q := 23) (r := 23) (p_goto 24 dX1_isTied_20 (by decide)) done)))) (seq (p := 23) (q := 24) (r := 24) (p_iconst 0 dX1_isTied_23) done))) (seq (p := 24) (q := 25) (r := 25) (p_zreturn dX1_isTied_24 rfl) done))))))))))))))
noncomputable def M_X1_isTied (l : Launch) (δ : Dl) : Mth l δ yX1_isTied cX1_isTied 4 (some .boolean) 0 := mk (B_X1_isTied l δ) (by decide)
theorem N_X1_isTied {l : Launch} {δ : Dl} {o : Nat} {a1 : Int} {a2 : Int} {a3 : Int} {s : St} : (M_X1_isTied l δ).1 [.inr (.inr (some o)), .inl a1, .inl a2, .inl a3] s = bres ((B_X1_isTied l δ).1 [] [some (.inr (.inr (some o))), some (.inl a1), some (.inl a2), some (.inl a3)] s) := (mk_eq (hy := by decide) rfl).trans (nrfl rfl)
theorem dX1_lay_0 : decode cX1_lay 0 = .ok (.aload_n 0, 1) := by decide +kernel
theorem dX1_lay_1 : decode cX1_lay 1 = .ok (.getfield 7, 3) := by decide +kernel
theorem dX1_lay_4 : decode cX1_lay 4 = .ok (.iload_n 1, 1) := by decide +kernel
theorem dX1_lay_5 : decode cX1_lay 5 = .ok (.iload_n 2, 1) := by decide +kernel
theorem dX1_lay_6 : decode cX1_lay 6 = .ok (.iastore, 1) := by decide +kernel
theorem dX1_lay_7 : decode cX1_lay 7 = .ok (.iconst 0, 1) := by decide +kernel
theorem dX1_lay_8 : decode cX1_lay 8 = .ok (.istore_n 3, 1) := by decide +kernel
theorem dX1_lay_9 : decode cX1_lay 9 = .ok (.iload_n 3, 1) := by decide +kernel
theorem dX1_lay_10 : decode cX1_lay 10 = .ok (.bipush 6, 2) := by decide +kernel
theorem dX1_lay_12 : decode cX1_lay 12 = .ok (.if_icmp .ge 61, 3) := by decide +kernel
theorem dX1_lay_15 : decode cX1_lay 15 = .ok (.aload_n 0, 1) := by decide +kernel
theorem dX1_lay_16 : decode cX1_lay 16 = .ok (.getfield 13, 3) := by decide +kernel
theorem dX1_lay_19 : decode cX1_lay 19 = .ok (.bipush 6, 2) := by decide +kernel
theorem dX1_lay_21 : decode cX1_lay 21 = .ok (.iload_n 1, 1) := by decide +kernel
theorem dX1_lay_22 : decode cX1_lay 22 = .ok (.imul, 1) := by decide +kernel
theorem dX1_lay_23 : decode cX1_lay 23 = .ok (.iload_n 3, 1) := by decide +kernel
theorem dX1_lay_24 : decode cX1_lay 24 = .ok (.iadd, 1) := by decide +kernel
theorem dX1_lay_25 : decode cX1_lay 25 = .ok (.iload_n 3, 1) := by decide +kernel
theorem dX1_lay_26 : decode cX1_lay 26 = .ok (.iload_n 2, 1) := by decide +kernel
theorem dX1_lay_27 : decode cX1_lay 27 = .ok (.if_icmp .ge 12, 3) := by decide +kernel
theorem dX1_lay_30 : decode cX1_lay 30 = .ok (.aload_n 0, 1) := by decide +kernel
theorem dX1_lay_31 : decode cX1_lay 31 = .ok (.getfield 19, 3) := by decide +kernel
theorem dX1_lay_34 : decode cX1_lay 34 = .ok (.iload_n 3, 1) := by decide +kernel
theorem dX1_lay_35 : decode cX1_lay 35 = .ok (.iaload, 1) := by decide +kernel
theorem dX1_lay_36 : decode cX1_lay 36 = .ok (.goto 4, 3) := by decide +kernel
theorem dX1_lay_39 : decode cX1_lay 39 = .ok (.iconst 0, 1) := by decide +kernel
theorem dX1_lay_40 : decode cX1_lay 40 = .ok (.iastore, 1) := by decide +kernel
theorem dX1_lay_41 : decode cX1_lay 41 = .ok (.aload_n 0, 1) := by decide +kernel
theorem dX1_lay_42 : decode cX1_lay 42 = .ok (.getfield 16, 3) := by decide +kernel
theorem dX1_lay_45 : decode cX1_lay 45 = .ok (.bipush 6, 2) := by decide +kernel
theorem dX1_lay_47 : decode cX1_lay 47 = .ok (.iload_n 1, 1) := by decide +kernel
theorem dX1_lay_48 : decode cX1_lay 48 = .ok (.imul, 1) := by decide +kernel
theorem dX1_lay_49 : decode cX1_lay 49 = .ok (.iload_n 3, 1) := by decide +kernel
theorem dX1_lay_50 : decode cX1_lay 50 = .ok (.iadd, 1) := by decide +kernel
theorem dX1_lay_51 : decode cX1_lay 51 = .ok (.iload_n 3, 1) := by decide +kernel
theorem dX1_lay_52 : decode cX1_lay 52 = .ok (.iload_n 2, 1) := by decide +kernel
theorem dX1_lay_53 : decode cX1_lay 53 = .ok (.if_icmp .ge 12, 3) := by decide +kernel
theorem dX1_lay_56 : decode cX1_lay 56 = .ok (.aload_n 0, 1) := by decide +kernel
theorem dX1_lay_57 : decode cX1_lay 57 = .ok (.getfield 22, 3) := by decide +kernel
theorem dX1_lay_60 : decode cX1_lay 60 = .ok (.iload_n 3, 1) := by decide +kernel
theorem dX1_lay_61 : decode cX1_lay 61 = .ok (.iaload, 1) := by decide +kernel
theorem dX1_lay_62 : decode cX1_lay 62 = .ok (.goto 4, 3) := by decide +kernel
theorem dX1_lay_65 : decode cX1_lay 65 = .ok (.iconst 0, 1) := by decide +kernel
theorem dX1_lay_66 : decode cX1_lay 66 = .ok (.iastore, 1) := by decide +kernel
theorem dX1_lay_67 : decode cX1_lay 67 = .ok (.iinc 3 1, 3) := by decide +kernel
theorem dX1_lay_70 : decode cX1_lay 70 = .ok (.goto (-61), 3) := by decide +kernel
theorem dX1_lay_73 : decode cX1_lay 73 = .ok (.return_, 1) := by decide +kernel
noncomputable def C_X1_lay_L9 (l : Launch) (δ : Dl) : Seg (l, δ, yX1_lay, 0, none, cX1_lay, 4) 9 73 :=
  seq (p := 9) (q := 10) (r := 73) (p_iload_n 3 dX1_lay_9) (seq (p := 10) (q := 12) (r := 73) (p_bipush 6 dX1_lay_10 (by decide)) (seq (p := 12) (q := 15) (r := 73) (p_icmp_ge 73 dX1_lay_12 (by decide)) (seq (p := 15) (q := 16) (r := 73) (p_aload_n 0 dX1_lay_15) (seq (p := 16) (q := 19) (r := 73) (p_get [(1, 1)] (alL1 fl_X1_13_1) dX1_lay_16) (seq (p := 19) (q := 21) (r := 73) (p_bipush 6 dX1_lay_19 (by decide)) (seq (p := 21) (q := 22) (r := 73) (p_iload_n 1 dX1_lay_21) (seq (p := 22) (q := 23) (r := 73) (p_imul dX1_lay_22) (seq (p := 23) (q := 24) (r := 73) (p_iload_n 3 dX1_lay_23) (seq (p := 24) (q := 25) (r := 73) (p_iadd dX1_lay_24) (seq (p := 25) (q := 26) (r := 73) (p_iload_n 3 dX1_lay_25) (seq (p := 26) (q := 27) (r := 73) (p_iload_n 2 dX1_lay_26) (seq (p := 27) (q := 40) (r := 73) (blk (seq (p := 27) (q := 39) (r := 40) (blk (seq (p := 27) (q := 30) (r := 39) (p_icmp_ge 39 dX1_lay_27 (by decide)) (seq (p := 30) (q := 31) (r := 39) (p_aload_n 0 dX1_lay_30) (seq (p := 31) (q := 34) (r := 39) (p_get [(1, 3)] (alL1 fl_X1_19_1) dX1_lay_31) (seq (p := 34) (q := 35) (r := 39) (p_iload_n 3 dX1_lay_34) (seq (p := 35) (q := 36) (r := 39) (p_iald dX1_lay_35) (seq (p := 36) (q := 39) (r := 39) (p_goto 40 dX1_lay_36 (by decide)) done))))))) (seq (p := 39) (q := 40) (r := 40) (p_iconst 0 dX1_lay_39) done))) (seq (p := 40) (q := 41) (r := 73) (p_iast dX1_lay_40) (seq (p := 41) (q := 42) (r := 73) (p_aload_n 0 dX1_lay_41) (seq (p := 42) (q := 45) (r := 73) (p_get [(1, 2)] (alL1 fl_X1_16_1) dX1_lay_42) (seq (p := 45) (q := 47) (r := 73) (p_bipush 6 dX1_lay_45 (by decide)) (seq (p := 47) (q := 48) (r := 73) (p_iload_n 1 dX1_lay_47) (seq (p := 48) (q := 49) (r := 73) (p_imul dX1_lay_48) (seq (p := 49) (q := 50) (r := 73) (p_iload_n 3 dX1_lay_49) (seq (p := 50) (q := 51) (r := 73) (p_iadd dX1_lay_50) (seq (p := 51) (q := 52) (r := 73) (p_iload_n 3 dX1_lay_51) (seq (p := 52) (q := 53) (r := 73) (p_iload_n 2 dX1_lay_52) (seq (p := 53) (q := 66) (r := 73) (blk (seq (p := 53) (q := 65) (r := 66) (blk (seq (p := 53) (q := 56) (r := 65) (p_icmp_ge 65 dX1_lay_53 (by decide)) (seq (p := 56) (q := 57) (r := 65) (p_aload_n 0 dX1_lay_56) (seq (p := 57) (q := 60) (r := 65) (p_get [(1, 4)] (alL1 fl_X1_22_1) dX1_lay_57) (seq (p := 60) (q := 61) (r := 65) (p_iload_n 3 dX1_lay_60) (seq (p := 61) (q := 62) (r := 65) (p_iald dX1_lay_61) (seq (p := 62) (q := 65) (r := 65) (p_goto 66 dX1_lay_62 (by decide)) done))))))) (seq (p := 65) (q := 66) (r := 66) (p_iconst 0 dX1_lay_65) done))) (seq (p := 66) (q := 67) (r := 73) (p_iast dX1_lay_66) (seq (p := 67) (q := 70) (r := 73) (p_iinc 3 1 dX1_lay_67 (Nat.le_of_ble_eq_true rfl)) (seq (p := 70) (q := 70) (r := 73) (er [true, true, true, true]) (seq (p := 70) (q := 73) (r := 73) (p_goto 9 dX1_lay_70 (by decide)) done)))))))))))))))))))))))))))
noncomputable def B_X1_lay_L9 (l : Launch) (δ : Dl) : Seg (l, δ, yX1_lay, 0, none, cX1_lay, 4) 9 73 := C_X1_lay_L9 l δ
theorem L_X1_lay_9 {l : Launch} {δ : Dl} {st : Stk} {L : Lc} {s : St} : (B_X1_lay_L9 l δ).1 st L s = (C_X1_lay_L9 l δ).1 st L s := nrfl rfl
noncomputable def B_X1_lay (l : Launch) (δ : Dl) : Seg (l, δ, yX1_lay, 0, none, cX1_lay, 4) 0 74 :=
  seq (p := 0) (q := 1) (r := 74) (p_aload_n 0 dX1_lay_0) (seq (p := 1) (q := 4) (r := 74) (p_get [(1, 0)] (alL1 fl_X1_7_1) dX1_lay_1) (seq (p := 4) (q := 5) (r := 74) (p_iload_n 1 dX1_lay_4) (seq (p := 5) (q := 6) (r := 74) (p_iload_n 2 dX1_lay_5) (seq (p := 6) (q := 7) (r := 74) (p_iast dX1_lay_6) (seq (p := 7) (q := 8) (r := 74) (p_iconst 0 dX1_lay_7) (seq (p := 8) (q := 9) (r := 74) (p_istore_n 3 dX1_lay_8 (Nat.le_of_ble_eq_true rfl)) (seq (p := 9) (q := 73) (r := 74) (blk (seq (p := 9) (q := 9) (r := 73) (er [true, true, true, true]) (seq (p := 9) (q := 73) (r := 73) (lp (B_X1_lay_L9 l δ)) done))) (seq (p := 73) (q := 74) (r := 74) (p_return dX1_lay_73 rfl) done))))))))
noncomputable def M_X1_lay (l : Launch) (δ : Dl) : Mth l δ yX1_lay cX1_lay 4 none 0 := mk (B_X1_lay l δ) (by decide)
theorem N_X1_lay {l : Launch} {δ : Dl} {o : Nat} {a1 : Int} {a2 : Int} {s : St} : (M_X1_lay l δ).1 [.inr (.inr (some o)), .inl a1, .inl a2] s = bres ((B_X1_lay l δ).1 [] [some (.inr (.inr (some o))), some (.inl a1), some (.inl a2), none] s) := (mk_eq (hy := by decide) rfl).trans (nrfl rfl)
theorem dX1_turned_0 : decode cX1_turned 0 = .ok (.iload_n 0, 1) := by decide +kernel
theorem dX1_turned_1 : decode cX1_turned 1 = .ok (.iload_n 1, 1) := by decide +kernel
theorem dX1_turned_2 : decode cX1_turned 2 = .ok (.if_icmp .ne 7, 3) := by decide +kernel
theorem dX1_turned_5 : decode cX1_turned 5 = .ok (.iload_n 2, 1) := by decide +kernel
theorem dX1_turned_6 : decode cX1_turned 6 = .ok (.goto 13, 3) := by decide +kernel
theorem dX1_turned_9 : decode cX1_turned 9 = .ok (.iload_n 0, 1) := by decide +kernel
theorem dX1_turned_10 : decode cX1_turned 10 = .ok (.iload_n 2, 1) := by decide +kernel
theorem dX1_turned_11 : decode cX1_turned 11 = .ok (.if_icmp .ne 7, 3) := by decide +kernel
theorem dX1_turned_14 : decode cX1_turned 14 = .ok (.iload_n 1, 1) := by decide +kernel
theorem dX1_turned_15 : decode cX1_turned 15 = .ok (.goto 4, 3) := by decide +kernel
theorem dX1_turned_18 : decode cX1_turned 18 = .ok (.iload_n 0, 1) := by decide +kernel
theorem dX1_turned_19 : decode cX1_turned 19 = .ok (.ireturn, 1) := by decide +kernel
noncomputable def B_X1_turned (l : Launch) (δ : Dl) : Seg (l, δ, yX1_turned, 0, (some .int), cX1_turned, 3) 0 20 :=
  seq (p := 0) (q := 1) (r := 20) (p_iload_n 0 dX1_turned_0) (seq (p := 1) (q := 2) (r := 20) (p_iload_n 1 dX1_turned_1) (seq (p := 2) (q := 19) (r := 20) (blk (seq (p := 2) (q := 9) (r := 19) (blk (seq (p := 2) (q := 5) (r := 9) (p_icmp_ne 9 dX1_turned_2 (by decide)) (seq (p := 5) (q := 6) (r := 9) (p_iload_n 2 dX1_turned_5) (seq (p := 6) (q := 9) (r := 9) (p_goto 19 dX1_turned_6 (by decide)) done)))) (seq (p := 9) (q := 10) (r := 19) (p_iload_n 0 dX1_turned_9) (seq (p := 10) (q := 11) (r := 19) (p_iload_n 2 dX1_turned_10) (seq (p := 11) (q := 18) (r := 19) (blk (seq (p := 11) (q := 14) (r := 18) (p_icmp_ne 18 dX1_turned_11 (by decide)) (seq (p := 14) (q := 15) (r := 18) (p_iload_n 1 dX1_turned_14) (seq (p := 15) (q := 18) (r := 18) (p_goto 19 dX1_turned_15 (by decide)) done)))) (seq (p := 18) (q := 19) (r := 19) (p_iload_n 0 dX1_turned_18) done)))))) (seq (p := 19) (q := 20) (r := 20) (p_ireturn dX1_turned_19 rfl) done)))
noncomputable def M_X1_turned (l : Launch) (δ : Dl) : Mth l δ yX1_turned cX1_turned 3 (some .int) 0 := mk (B_X1_turned l δ) (by decide)
theorem N_X1_turned {l : Launch} {δ : Dl} {a1 : Int} {a2 : Int} {a3 : Int} {s : St} : (M_X1_turned l δ).1 [.inl a1, .inl a2, .inl a3] s = bres ((B_X1_turned l δ).1 [] [some (.inl a1), some (.inl a2), some (.inl a3)] s) := (mk_eq (hy := by decide) rfl).trans (nrfl rfl)
theorem dX1_turn_0 : decode cX1_turn 0 = .ok (.aload_n 0, 1) := by decide +kernel
theorem dX1_turn_1 : decode cX1_turn 1 = .ok (.iload_n 1, 1) := by decide +kernel
theorem dX1_turn_2 : decode cX1_turn 2 = .ok (.iload_n 2, 1) := by decide +kernel
theorem dX1_turn_3 : decode cX1_turn 3 = .ok (.invokevirtual 144, 3) := by decide +kernel
theorem dX1_turn_6 : decode cX1_turn 6 = .ok (.ifCond .ne 20, 3) := by decide +kernel
theorem dX1_turn_9 : decode cX1_turn 9 = .ok (.aload_n 0, 1) := by decide +kernel
theorem dX1_turn_10 : decode cX1_turn 10 = .ok (.iload_n 1, 1) := by decide +kernel
theorem dX1_turn_11 : decode cX1_turn 11 = .ok (.iload_n 3, 1) := by decide +kernel
theorem dX1_turn_12 : decode cX1_turn 12 = .ok (.invokevirtual 144, 3) := by decide +kernel
theorem dX1_turn_15 : decode cX1_turn 15 = .ok (.ifCond .ne 11, 3) := by decide +kernel
theorem dX1_turn_18 : decode cX1_turn 18 = .ok (.iload 4, 2) := by decide +kernel
theorem dX1_turn_20 : decode cX1_turn 20 = .ok (.invokestatic 137, 3) := by decide +kernel
theorem dX1_turn_23 : decode cX1_turn 23 = .ok (.ifCond .eq 5, 3) := by decide +kernel
theorem dX1_turn_26 : decode cX1_turn 26 = .ok (.iconst (-1), 1) := by decide +kernel
theorem dX1_turn_27 : decode cX1_turn 27 = .ok (.ireturn, 1) := by decide +kernel
theorem dX1_turn_28 : decode cX1_turn 28 = .ok (.iconst 0, 1) := by decide +kernel
theorem dX1_turn_29 : decode cX1_turn 29 = .ok (.istore 5, 2) := by decide +kernel
theorem dX1_turn_31 : decode cX1_turn 31 = .ok (.iload 5, 2) := by decide +kernel
theorem dX1_turn_33 : decode cX1_turn 33 = .ok (.aload_n 0, 1) := by decide +kernel
theorem dX1_turn_34 : decode cX1_turn 34 = .ok (.getfield 7, 3) := by decide +kernel
theorem dX1_turn_37 : decode cX1_turn 37 = .ok (.iload_n 1, 1) := by decide +kernel
theorem dX1_turn_38 : decode cX1_turn 38 = .ok (.iaload, 1) := by decide +kernel
theorem dX1_turn_39 : decode cX1_turn 39 = .ok (.if_icmp .ge 100, 3) := by decide +kernel
theorem dX1_turn_42 : decode cX1_turn 42 = .ok (.iload 5, 2) := by decide +kernel
theorem dX1_turn_44 : decode cX1_turn 44 = .ok (.iload_n 2, 1) := by decide +kernel
theorem dX1_turn_45 : decode cX1_turn 45 = .ok (.iload_n 3, 1) := by decide +kernel
theorem dX1_turn_46 : decode cX1_turn 46 = .ok (.invokestatic 148, 3) := by decide +kernel
theorem dX1_turn_49 : decode cX1_turn 49 = .ok (.istore 6, 2) := by decide +kernel
theorem dX1_turn_51 : decode cX1_turn 51 = .ok (.aload_n 0, 1) := by decide +kernel
theorem dX1_turn_52 : decode cX1_turn 52 = .ok (.getfield 19, 3) := by decide +kernel
theorem dX1_turn_55 : decode cX1_turn 55 = .ok (.iload 5, 2) := by decide +kernel
theorem dX1_turn_57 : decode cX1_turn 57 = .ok (.aload_n 0, 1) := by decide +kernel
theorem dX1_turn_58 : decode cX1_turn 58 = .ok (.getfield 13, 3) := by decide +kernel
theorem dX1_turn_61 : decode cX1_turn 61 = .ok (.bipush 6, 2) := by decide +kernel
theorem dX1_turn_63 : decode cX1_turn 63 = .ok (.iload_n 1, 1) := by decide +kernel
theorem dX1_turn_64 : decode cX1_turn 64 = .ok (.imul, 1) := by decide +kernel
theorem dX1_turn_65 : decode cX1_turn 65 = .ok (.iload 6, 2) := by decide +kernel
theorem dX1_turn_67 : decode cX1_turn 67 = .ok (.iadd, 1) := by decide +kernel
theorem dX1_turn_68 : decode cX1_turn 68 = .ok (.iaload, 1) := by decide +kernel
theorem dX1_turn_69 : decode cX1_turn 69 = .ok (.iastore, 1) := by decide +kernel
theorem dX1_turn_70 : decode cX1_turn 70 = .ok (.aload_n 0, 1) := by decide +kernel
theorem dX1_turn_71 : decode cX1_turn 71 = .ok (.getfield 22, 3) := by decide +kernel
theorem dX1_turn_74 : decode cX1_turn 74 = .ok (.iload 5, 2) := by decide +kernel
theorem dX1_turn_76 : decode cX1_turn 76 = .ok (.iconst 0, 1) := by decide +kernel
theorem dX1_turn_77 : decode cX1_turn 77 = .ok (.iastore, 1) := by decide +kernel
theorem dX1_turn_78 : decode cX1_turn 78 = .ok (.iconst 0, 1) := by decide +kernel
theorem dX1_turn_79 : decode cX1_turn 79 = .ok (.istore 7, 2) := by decide +kernel
theorem dX1_turn_81 : decode cX1_turn 81 = .ok (.iload 7, 2) := by decide +kernel
theorem dX1_turn_83 : decode cX1_turn 83 = .ok (.aload_n 0, 1) := by decide +kernel
theorem dX1_turn_84 : decode cX1_turn 84 = .ok (.getfield 7, 3) := by decide +kernel
theorem dX1_turn_87 : decode cX1_turn 87 = .ok (.iload_n 1, 1) := by decide +kernel
theorem dX1_turn_88 : decode cX1_turn 88 = .ok (.iaload, 1) := by decide +kernel
theorem dX1_turn_89 : decode cX1_turn 89 = .ok (.if_icmp .ge 44, 3) := by decide +kernel
theorem dX1_turn_92 : decode cX1_turn 92 = .ok (.aload_n 0, 1) := by decide +kernel
theorem dX1_turn_93 : decode cX1_turn 93 = .ok (.getfield 22, 3) := by decide +kernel
theorem dX1_turn_96 : decode cX1_turn 96 = .ok (.iload 5, 2) := by decide +kernel
theorem dX1_turn_98 : decode cX1_turn 98 = .ok (.dup2, 1) := by decide +kernel
theorem dX1_turn_99 : decode cX1_turn 99 = .ok (.iaload, 1) := by decide +kernel
theorem dX1_turn_100 : decode cX1_turn 100 = .ok (.aload_n 0, 1) := by decide +kernel
theorem dX1_turn_101 : decode cX1_turn 101 = .ok (.iload_n 1, 1) := by decide +kernel
theorem dX1_turn_102 : decode cX1_turn 102 = .ok (.iload 6, 2) := by decide +kernel
theorem dX1_turn_104 : decode cX1_turn 104 = .ok (.iload 7, 2) := by decide +kernel
theorem dX1_turn_106 : decode cX1_turn 106 = .ok (.iload_n 2, 1) := by decide +kernel
theorem dX1_turn_107 : decode cX1_turn 107 = .ok (.iload_n 3, 1) := by decide +kernel
theorem dX1_turn_108 : decode cX1_turn 108 = .ok (.invokestatic 148, 3) := by decide +kernel
theorem dX1_turn_111 : decode cX1_turn 111 = .ok (.invokevirtual 152, 3) := by decide +kernel
theorem dX1_turn_114 : decode cX1_turn 114 = .ok (.ifCond .eq 10, 3) := by decide +kernel
theorem dX1_turn_117 : decode cX1_turn 117 = .ok (.iconst 1, 1) := by decide +kernel
theorem dX1_turn_118 : decode cX1_turn 118 = .ok (.iload 7, 2) := by decide +kernel
theorem dX1_turn_120 : decode cX1_turn 120 = .ok (.ishl, 1) := by decide +kernel
theorem dX1_turn_121 : decode cX1_turn 121 = .ok (.goto 4, 3) := by decide +kernel
theorem dX1_turn_124 : decode cX1_turn 124 = .ok (.iconst 0, 1) := by decide +kernel
theorem dX1_turn_125 : decode cX1_turn 125 = .ok (.ior, 1) := by decide +kernel
theorem dX1_turn_126 : decode cX1_turn 126 = .ok (.iastore, 1) := by decide +kernel
theorem dX1_turn_127 : decode cX1_turn 127 = .ok (.iinc 7 1, 3) := by decide +kernel
theorem dX1_turn_130 : decode cX1_turn 130 = .ok (.goto (-49), 3) := by decide +kernel
theorem dX1_turn_133 : decode cX1_turn 133 = .ok (.iinc 5 1, 3) := by decide +kernel
theorem dX1_turn_136 : decode cX1_turn 136 = .ok (.goto (-105), 3) := by decide +kernel
theorem dX1_turn_139 : decode cX1_turn 139 = .ok (.aload_n 0, 1) := by decide +kernel
theorem dX1_turn_140 : decode cX1_turn 140 = .ok (.iload 4, 2) := by decide +kernel
theorem dX1_turn_142 : decode cX1_turn 142 = .ok (.aload_n 0, 1) := by decide +kernel
theorem dX1_turn_143 : decode cX1_turn 143 = .ok (.getfield 7, 3) := by decide +kernel
theorem dX1_turn_146 : decode cX1_turn 146 = .ok (.iload_n 1, 1) := by decide +kernel
theorem dX1_turn_147 : decode cX1_turn 147 = .ok (.iaload, 1) := by decide +kernel
theorem dX1_turn_148 : decode cX1_turn 148 = .ok (.invokevirtual 155, 3) := by decide +kernel
theorem dX1_turn_151 : decode cX1_turn 151 = .ok (.iconst 1, 1) := by decide +kernel
theorem dX1_turn_152 : decode cX1_turn 152 = .ok (.ireturn, 1) := by decide +kernel
noncomputable def C_X1_turn_L81 (l : Launch) (δ : Dl) : Seg (l, δ, yX1_turn, 4, (some .int), cX1_turn, 8) 81 133 :=
  seq (p := 81) (q := 83) (r := 133) (p_iload 7 dX1_turn_81) (seq (p := 83) (q := 84) (r := 133) (p_aload_n 0 dX1_turn_83) (seq (p := 84) (q := 87) (r := 133) (p_get [(1, 0)] (alL1 fl_X1_7_1) dX1_turn_84) (seq (p := 87) (q := 88) (r := 133) (p_iload_n 1 dX1_turn_87) (seq (p := 88) (q := 89) (r := 133) (p_iald dX1_turn_88) (seq (p := 89) (q := 92) (r := 133) (p_icmp_ge 133 dX1_turn_89 (by decide)) (seq (p := 92) (q := 93) (r := 133) (p_aload_n 0 dX1_turn_92) (seq (p := 93) (q := 96) (r := 133) (p_get [(1, 4)] (alL1 fl_X1_22_1) dX1_turn_93) (seq (p := 96) (q := 98) (r := 133) (p_iload 5 dX1_turn_96) (seq (p := 98) (q := 99) (r := 133) (p_dup2 dX1_turn_98) (seq (p := 99) (q := 100) (r := 133) (p_iald dX1_turn_99) (seq (p := 100) (q := 101) (r := 133) (p_aload_n 0 dX1_turn_100) (seq (p := 101) (q := 102) (r := 133) (p_iload_n 1 dX1_turn_101) (seq (p := 102) (q := 104) (r := 133) (p_iload 6 dX1_turn_102) (seq (p := 104) (q := 106) (r := 133) (p_iload 7 dX1_turn_104) (seq (p := 106) (q := 107) (r := 133) (p_iload_n 2 dX1_turn_106) (seq (p := 107) (q := 108) (r := 133) (p_iload_n 3 dX1_turn_107) (seq (p := 108) (q := 111) (r := 133) (p_callS cs_X1_148 (M_X1_turned l δ) (Nat.le_of_ble_eq_true rfl) dX1_turn_108) (seq (p := 111) (q := 114) (r := 133) (p_callV 1 cv_X1_152 hcR1 (M_X1_isTied l δ) (Nat.le_of_ble_eq_true rfl) dX1_turn_111) (seq (p := 114) (q := 125) (r := 133) (blk (seq (p := 114) (q := 124) (r := 125) (blk (seq (p := 114) (q := 117) (r := 124) (p_if_eq 124 dX1_turn_114 (by decide)) (seq (p := 117) (q := 118) (r := 124) (p_iconst 1 dX1_turn_117) (seq (p := 118) (q := 120) (r := 124) (p_iload 7 dX1_turn_118) (seq (p := 120) (q := 121) (r := 124) (p_ishl dX1_turn_120) (seq (p := 121) (q := 124) (r := 124) (p_goto 125 dX1_turn_121 (by decide)) done)))))) (seq (p := 124) (q := 125) (r := 125) (p_iconst 0 dX1_turn_124) done))) (seq (p := 125) (q := 126) (r := 133) (p_ior dX1_turn_125) (seq (p := 126) (q := 127) (r := 133) (p_iast dX1_turn_126) (seq (p := 127) (q := 130) (r := 133) (p_iinc 7 1 dX1_turn_127 (Nat.le_of_ble_eq_true rfl)) (seq (p := 130) (q := 130) (r := 133) (er [true, true, true, true, true, true, true, true]) (seq (p := 130) (q := 133) (r := 133) (p_goto 81 dX1_turn_130 (by decide)) done))))))))))))))))))))))))
noncomputable def B_X1_turn_L81 (l : Launch) (δ : Dl) : Seg (l, δ, yX1_turn, 4, (some .int), cX1_turn, 8) 81 133 := C_X1_turn_L81 l δ
theorem L_X1_turn_81 {l : Launch} {δ : Dl} {st : Stk} {L : Lc} {s : St} : (B_X1_turn_L81 l δ).1 st L s = (C_X1_turn_L81 l δ).1 st L s := nrfl rfl
noncomputable def C_X1_turn_L31 (l : Launch) (δ : Dl) : Seg (l, δ, yX1_turn, 4, (some .int), cX1_turn, 8) 31 139 :=
  seq (p := 31) (q := 33) (r := 139) (p_iload 5 dX1_turn_31) (seq (p := 33) (q := 34) (r := 139) (p_aload_n 0 dX1_turn_33) (seq (p := 34) (q := 37) (r := 139) (p_get [(1, 0)] (alL1 fl_X1_7_1) dX1_turn_34) (seq (p := 37) (q := 38) (r := 139) (p_iload_n 1 dX1_turn_37) (seq (p := 38) (q := 39) (r := 139) (p_iald dX1_turn_38) (seq (p := 39) (q := 42) (r := 139) (p_icmp_ge 139 dX1_turn_39 (by decide)) (seq (p := 42) (q := 44) (r := 139) (p_iload 5 dX1_turn_42) (seq (p := 44) (q := 45) (r := 139) (p_iload_n 2 dX1_turn_44) (seq (p := 45) (q := 46) (r := 139) (p_iload_n 3 dX1_turn_45) (seq (p := 46) (q := 49) (r := 139) (p_callS cs_X1_148 (M_X1_turned l δ) (Nat.le_of_ble_eq_true rfl) dX1_turn_46) (seq (p := 49) (q := 51) (r := 139) (p_istore 6 dX1_turn_49 (Nat.le_of_ble_eq_true rfl)) (seq (p := 51) (q := 52) (r := 139) (p_aload_n 0 dX1_turn_51) (seq (p := 52) (q := 55) (r := 139) (p_get [(1, 3)] (alL1 fl_X1_19_1) dX1_turn_52) (seq (p := 55) (q := 57) (r := 139) (p_iload 5 dX1_turn_55) (seq (p := 57) (q := 58) (r := 139) (p_aload_n 0 dX1_turn_57) (seq (p := 58) (q := 61) (r := 139) (p_get [(1, 1)] (alL1 fl_X1_13_1) dX1_turn_58) (seq (p := 61) (q := 63) (r := 139) (p_bipush 6 dX1_turn_61 (by decide)) (seq (p := 63) (q := 64) (r := 139) (p_iload_n 1 dX1_turn_63) (seq (p := 64) (q := 65) (r := 139) (p_imul dX1_turn_64) (seq (p := 65) (q := 67) (r := 139) (p_iload 6 dX1_turn_65) (seq (p := 67) (q := 68) (r := 139) (p_iadd dX1_turn_67) (seq (p := 68) (q := 69) (r := 139) (p_iald dX1_turn_68) (seq (p := 69) (q := 70) (r := 139) (p_iast dX1_turn_69) (seq (p := 70) (q := 71) (r := 139) (p_aload_n 0 dX1_turn_70) (seq (p := 71) (q := 74) (r := 139) (p_get [(1, 4)] (alL1 fl_X1_22_1) dX1_turn_71) (seq (p := 74) (q := 76) (r := 139) (p_iload 5 dX1_turn_74) (seq (p := 76) (q := 77) (r := 139) (p_iconst 0 dX1_turn_76) (seq (p := 77) (q := 78) (r := 139) (p_iast dX1_turn_77) (seq (p := 78) (q := 79) (r := 139) (p_iconst 0 dX1_turn_78) (seq (p := 79) (q := 81) (r := 139) (p_istore 7 dX1_turn_79 (Nat.le_of_ble_eq_true rfl)) (seq (p := 81) (q := 133) (r := 139) (blk (seq (p := 81) (q := 81) (r := 133) (er [true, true, true, true, true, true, true, true]) (seq (p := 81) (q := 133) (r := 133) (lp (B_X1_turn_L81 l δ)) done))) (seq (p := 133) (q := 136) (r := 139) (p_iinc 5 1 dX1_turn_133 (Nat.le_of_ble_eq_true rfl)) (seq (p := 136) (q := 136) (r := 139) (er [true, true, true, true, true, true, false, false]) (seq (p := 136) (q := 139) (r := 139) (p_goto 31 dX1_turn_136 (by decide)) done)))))))))))))))))))))))))))))))))
noncomputable def B_X1_turn_L31 (l : Launch) (δ : Dl) : Seg (l, δ, yX1_turn, 4, (some .int), cX1_turn, 8) 31 139 := C_X1_turn_L31 l δ
theorem L_X1_turn_31 {l : Launch} {δ : Dl} {st : Stk} {L : Lc} {s : St} : (B_X1_turn_L31 l δ).1 st L s = (C_X1_turn_L31 l δ).1 st L s := nrfl rfl
noncomputable def B_X1_turn (l : Launch) (δ : Dl) : Seg (l, δ, yX1_turn, 4, (some .int), cX1_turn, 8) 0 153 :=
  seq (p := 0) (q := 1) (r := 153) (p_aload_n 0 dX1_turn_0) (seq (p := 1) (q := 2) (r := 153) (p_iload_n 1 dX1_turn_1) (seq (p := 2) (q := 3) (r := 153) (p_iload_n 2 dX1_turn_2) (seq (p := 3) (q := 6) (r := 153) (p_callV 1 cv_X1_144 hcR1 (M_X1_noThing l δ) (Nat.le_of_ble_eq_true rfl) dX1_turn_3) (seq (p := 6) (q := 28) (r := 153) (blk (seq (p := 6) (q := 26) (r := 28) (blk (seq (p := 6) (q := 9) (r := 26) (p_if_ne 26 dX1_turn_6 (by decide)) (seq (p := 9) (q := 10) (r := 26) (p_aload_n 0 dX1_turn_9) (seq (p := 10) (q := 11) (r := 26) (p_iload_n 1 dX1_turn_10) (seq (p := 11) (q := 12) (r := 26) (p_iload_n 3 dX1_turn_11) (seq (p := 12) (q := 15) (r := 26) (p_callV 1 cv_X1_144 hcR1 (M_X1_noThing l δ) (Nat.le_of_ble_eq_true rfl) dX1_turn_12) (seq (p := 15) (q := 18) (r := 26) (p_if_ne 26 dX1_turn_15 (by decide)) (seq (p := 18) (q := 20) (r := 26) (p_iload 4 dX1_turn_18) (seq (p := 20) (q := 23) (r := 26) (p_callS cs_X1_137 (M_X1_noPlace l δ) (Nat.le_of_ble_eq_true rfl) dX1_turn_20) (seq (p := 23) (q := 26) (r := 26) (p_if_eq 28 dX1_turn_23 (by decide)) done)))))))))) (seq (p := 26) (q := 27) (r := 28) (p_iconst (-1) dX1_turn_26) (seq (p := 27) (q := 28) (r := 28) (p_ireturn dX1_turn_27 rfl) done)))) (seq (p := 28) (q := 29) (r := 153) (p_iconst 0 dX1_turn_28) (seq (p := 29) (q := 31) (r := 153) (p_istore 5 dX1_turn_29 (Nat.le_of_ble_eq_true rfl)) (seq (p := 31) (q := 139) (r := 153) (blk (seq (p := 31) (q := 31) (r := 139) (er [true, true, true, true, true, true, false, false]) (seq (p := 31) (q := 139) (r := 139) (lp (B_X1_turn_L31 l δ)) done))) (seq (p := 139) (q := 140) (r := 153) (p_aload_n 0 dX1_turn_139) (seq (p := 140) (q := 142) (r := 153) (p_iload 4 dX1_turn_140) (seq (p := 142) (q := 143) (r := 153) (p_aload_n 0 dX1_turn_142) (seq (p := 143) (q := 146) (r := 153) (p_get [(1, 0)] (alL1 fl_X1_7_1) dX1_turn_143) (seq (p := 146) (q := 147) (r := 153) (p_iload_n 1 dX1_turn_146) (seq (p := 147) (q := 148) (r := 153) (p_iald dX1_turn_147) (seq (p := 148) (q := 151) (r := 153) (p_callV 1 cv_X1_155 hcR1 (M_X1_lay l δ) (Nat.le_of_ble_eq_true rfl) dX1_turn_148) (seq (p := 151) (q := 152) (r := 153) (p_iconst 1 dX1_turn_151) (seq (p := 152) (q := 153) (r := 153) (p_ireturn dX1_turn_152 rfl) done))))))))))))))))
noncomputable def M_X1_turn (l : Launch) (δ : Dl) : Mth l δ yX1_turn cX1_turn 8 (some .int) 4 := mk (B_X1_turn l δ) (by decide)
theorem N_X1_turn {l : Launch} {δ : Dl} {o : Nat} {a1 : Int} {a2 : Int} {a3 : Int} {a4 : Int} {s : St} : (M_X1_turn l δ).1 [.inr (.inr (some o)), .inl a1, .inl a2, .inl a3, .inl a4] s = bres ((B_X1_turn l δ).1 [] [some (.inr (.inr (some o))), some (.inl a1), some (.inl a2), some (.inl a3), some (.inl a4), none, none, none] s) := (mk_eq (hy := by decide) rfl).trans (nrfl rfl)
theorem dX1_join_0 : decode cX1_join 0 = .ok (.aload_n 0, 1) := by decide +kernel
theorem dX1_join_1 : decode cX1_join 1 = .ok (.iload_n 1, 1) := by decide +kernel
theorem dX1_join_2 : decode cX1_join 2 = .ok (.invokevirtual 141, 3) := by decide +kernel
theorem dX1_join_5 : decode cX1_join 5 = .ok (.ifCond .ne 18, 3) := by decide +kernel
theorem dX1_join_8 : decode cX1_join 8 = .ok (.aload_n 0, 1) := by decide +kernel
theorem dX1_join_9 : decode cX1_join 9 = .ok (.iload_n 2, 1) := by decide +kernel
theorem dX1_join_10 : decode cX1_join 10 = .ok (.invokevirtual 141, 3) := by decide +kernel
theorem dX1_join_13 : decode cX1_join 13 = .ok (.ifCond .ne 10, 3) := by decide +kernel
theorem dX1_join_16 : decode cX1_join 16 = .ok (.iload_n 3, 1) := by decide +kernel
theorem dX1_join_17 : decode cX1_join 17 = .ok (.invokestatic 137, 3) := by decide +kernel
theorem dX1_join_20 : decode cX1_join 20 = .ok (.ifCond .eq 5, 3) := by decide +kernel
theorem dX1_join_23 : decode cX1_join 23 = .ok (.iconst (-1), 1) := by decide +kernel
theorem dX1_join_24 : decode cX1_join 24 = .ok (.ireturn, 1) := by decide +kernel
theorem dX1_join_25 : decode cX1_join 25 = .ok (.aload_n 0, 1) := by decide +kernel
theorem dX1_join_26 : decode cX1_join 26 = .ok (.getfield 7, 3) := by decide +kernel
theorem dX1_join_29 : decode cX1_join 29 = .ok (.iload_n 1, 1) := by decide +kernel
theorem dX1_join_30 : decode cX1_join 30 = .ok (.iaload, 1) := by decide +kernel
theorem dX1_join_31 : decode cX1_join 31 = .ok (.istore 4, 2) := by decide +kernel
theorem dX1_join_33 : decode cX1_join 33 = .ok (.iload 4, 2) := by decide +kernel
theorem dX1_join_35 : decode cX1_join 35 = .ok (.aload_n 0, 1) := by decide +kernel
theorem dX1_join_36 : decode cX1_join 36 = .ok (.getfield 7, 3) := by decide +kernel
theorem dX1_join_39 : decode cX1_join 39 = .ok (.iload_n 2, 1) := by decide +kernel
theorem dX1_join_40 : decode cX1_join 40 = .ok (.iaload, 1) := by decide +kernel
theorem dX1_join_41 : decode cX1_join 41 = .ok (.iadd, 1) := by decide +kernel
theorem dX1_join_42 : decode cX1_join 42 = .ok (.istore 5, 2) := by decide +kernel
theorem dX1_join_44 : decode cX1_join 44 = .ok (.iload 5, 2) := by decide +kernel
theorem dX1_join_46 : decode cX1_join 46 = .ok (.bipush 6, 2) := by decide +kernel
theorem dX1_join_48 : decode cX1_join 48 = .ok (.if_icmp .le 6, 3) := by decide +kernel
theorem dX1_join_51 : decode cX1_join 51 = .ok (.bipush (-2), 2) := by decide +kernel
theorem dX1_join_53 : decode cX1_join 53 = .ok (.ireturn, 1) := by decide +kernel
theorem dX1_join_54 : decode cX1_join 54 = .ok (.iconst 0, 1) := by decide +kernel
theorem dX1_join_55 : decode cX1_join 55 = .ok (.istore 6, 2) := by decide +kernel
theorem dX1_join_57 : decode cX1_join 57 = .ok (.iload 6, 2) := by decide +kernel
theorem dX1_join_59 : decode cX1_join 59 = .ok (.iload 5, 2) := by decide +kernel
theorem dX1_join_61 : decode cX1_join 61 = .ok (.if_icmp .ge 100, 3) := by decide +kernel
theorem dX1_join_64 : decode cX1_join 64 = .ok (.aload_n 0, 1) := by decide +kernel
theorem dX1_join_65 : decode cX1_join 65 = .ok (.getfield 19, 3) := by decide +kernel
theorem dX1_join_68 : decode cX1_join 68 = .ok (.iload 6, 2) := by decide +kernel
theorem dX1_join_70 : decode cX1_join 70 = .ok (.iload 6, 2) := by decide +kernel
theorem dX1_join_72 : decode cX1_join 72 = .ok (.iload 4, 2) := by decide +kernel
theorem dX1_join_74 : decode cX1_join 74 = .ok (.if_icmp .ge 18, 3) := by decide +kernel
theorem dX1_join_77 : decode cX1_join 77 = .ok (.aload_n 0, 1) := by decide +kernel
theorem dX1_join_78 : decode cX1_join 78 = .ok (.getfield 13, 3) := by decide +kernel
theorem dX1_join_81 : decode cX1_join 81 = .ok (.bipush 6, 2) := by decide +kernel
theorem dX1_join_83 : decode cX1_join 83 = .ok (.iload_n 1, 1) := by decide +kernel
theorem dX1_join_84 : decode cX1_join 84 = .ok (.imul, 1) := by decide +kernel
theorem dX1_join_85 : decode cX1_join 85 = .ok (.iload 6, 2) := by decide +kernel
theorem dX1_join_87 : decode cX1_join 87 = .ok (.iadd, 1) := by decide +kernel
theorem dX1_join_88 : decode cX1_join 88 = .ok (.iaload, 1) := by decide +kernel
theorem dX1_join_89 : decode cX1_join 89 = .ok (.goto 18, 3) := by decide +kernel
theorem dX1_join_92 : decode cX1_join 92 = .ok (.aload_n 0, 1) := by decide +kernel
theorem dX1_join_93 : decode cX1_join 93 = .ok (.getfield 13, 3) := by decide +kernel
theorem dX1_join_96 : decode cX1_join 96 = .ok (.bipush 6, 2) := by decide +kernel
theorem dX1_join_98 : decode cX1_join 98 = .ok (.iload_n 2, 1) := by decide +kernel
theorem dX1_join_99 : decode cX1_join 99 = .ok (.imul, 1) := by decide +kernel
theorem dX1_join_100 : decode cX1_join 100 = .ok (.iload 6, 2) := by decide +kernel
theorem dX1_join_102 : decode cX1_join 102 = .ok (.iadd, 1) := by decide +kernel
theorem dX1_join_103 : decode cX1_join 103 = .ok (.iload 4, 2) := by decide +kernel
theorem dX1_join_105 : decode cX1_join 105 = .ok (.isub, 1) := by decide +kernel
theorem dX1_join_106 : decode cX1_join 106 = .ok (.iaload, 1) := by decide +kernel
theorem dX1_join_107 : decode cX1_join 107 = .ok (.iastore, 1) := by decide +kernel
theorem dX1_join_108 : decode cX1_join 108 = .ok (.aload_n 0, 1) := by decide +kernel
theorem dX1_join_109 : decode cX1_join 109 = .ok (.getfield 22, 3) := by decide +kernel
theorem dX1_join_112 : decode cX1_join 112 = .ok (.iload 6, 2) := by decide +kernel
theorem dX1_join_114 : decode cX1_join 114 = .ok (.iload 6, 2) := by decide +kernel
theorem dX1_join_116 : decode cX1_join 116 = .ok (.iload 4, 2) := by decide +kernel
theorem dX1_join_118 : decode cX1_join 118 = .ok (.if_icmp .ge 18, 3) := by decide +kernel
theorem dX1_join_121 : decode cX1_join 121 = .ok (.aload_n 0, 1) := by decide +kernel
theorem dX1_join_122 : decode cX1_join 122 = .ok (.getfield 16, 3) := by decide +kernel
theorem dX1_join_125 : decode cX1_join 125 = .ok (.bipush 6, 2) := by decide +kernel
theorem dX1_join_127 : decode cX1_join 127 = .ok (.iload_n 1, 1) := by decide +kernel
theorem dX1_join_128 : decode cX1_join 128 = .ok (.imul, 1) := by decide +kernel
theorem dX1_join_129 : decode cX1_join 129 = .ok (.iload 6, 2) := by decide +kernel
theorem dX1_join_131 : decode cX1_join 131 = .ok (.iadd, 1) := by decide +kernel
theorem dX1_join_132 : decode cX1_join 132 = .ok (.iaload, 1) := by decide +kernel
theorem dX1_join_133 : decode cX1_join 133 = .ok (.goto 21, 3) := by decide +kernel
theorem dX1_join_136 : decode cX1_join 136 = .ok (.aload_n 0, 1) := by decide +kernel
theorem dX1_join_137 : decode cX1_join 137 = .ok (.getfield 16, 3) := by decide +kernel
theorem dX1_join_140 : decode cX1_join 140 = .ok (.bipush 6, 2) := by decide +kernel
theorem dX1_join_142 : decode cX1_join 142 = .ok (.iload_n 2, 1) := by decide +kernel
theorem dX1_join_143 : decode cX1_join 143 = .ok (.imul, 1) := by decide +kernel
theorem dX1_join_144 : decode cX1_join 144 = .ok (.iload 6, 2) := by decide +kernel
theorem dX1_join_146 : decode cX1_join 146 = .ok (.iadd, 1) := by decide +kernel
theorem dX1_join_147 : decode cX1_join 147 = .ok (.iload 4, 2) := by decide +kernel
theorem dX1_join_149 : decode cX1_join 149 = .ok (.isub, 1) := by decide +kernel
theorem dX1_join_150 : decode cX1_join 150 = .ok (.iaload, 1) := by decide +kernel
theorem dX1_join_151 : decode cX1_join 151 = .ok (.iload 4, 2) := by decide +kernel
theorem dX1_join_153 : decode cX1_join 153 = .ok (.ishl, 1) := by decide +kernel
theorem dX1_join_154 : decode cX1_join 154 = .ok (.iastore, 1) := by decide +kernel
theorem dX1_join_155 : decode cX1_join 155 = .ok (.iinc 6 1, 3) := by decide +kernel
theorem dX1_join_158 : decode cX1_join 158 = .ok (.goto (-101), 3) := by decide +kernel
theorem dX1_join_161 : decode cX1_join 161 = .ok (.aload_n 0, 1) := by decide +kernel
theorem dX1_join_162 : decode cX1_join 162 = .ok (.iload_n 3, 1) := by decide +kernel
theorem dX1_join_163 : decode cX1_join 163 = .ok (.iload 5, 2) := by decide +kernel
theorem dX1_join_165 : decode cX1_join 165 = .ok (.invokevirtual 155, 3) := by decide +kernel
theorem dX1_join_168 : decode cX1_join 168 = .ok (.iload 5, 2) := by decide +kernel
theorem dX1_join_170 : decode cX1_join 170 = .ok (.ireturn, 1) := by decide +kernel
noncomputable def C_X1_join_L57 (l : Launch) (δ : Dl) : Seg (l, δ, yX1_join, 3, (some .int), cX1_join, 7) 57 161 :=
  seq (p := 57) (q := 59) (r := 161) (p_iload 6 dX1_join_57) (seq (p := 59) (q := 61) (r := 161) (p_iload 5 dX1_join_59) (seq (p := 61) (q := 64) (r := 161) (p_icmp_ge 161 dX1_join_61 (by decide)) (seq (p := 64) (q := 65) (r := 161) (p_aload_n 0 dX1_join_64) (seq (p := 65) (q := 68) (r := 161) (p_get [(1, 3)] (alL1 fl_X1_19_1) dX1_join_65) (seq (p := 68) (q := 70) (r := 161) (p_iload 6 dX1_join_68) (seq (p := 70) (q := 72) (r := 161) (p_iload 6 dX1_join_70) (seq (p := 72) (q := 74) (r := 161) (p_iload 4 dX1_join_72) (seq (p := 74) (q := 107) (r := 161) (blk (seq (p := 74) (q := 92) (r := 107) (blk (seq (p := 74) (q := 77) (r := 92) (p_icmp_ge 92 dX1_join_74 (by decide)) (seq (p := 77) (q := 78) (r := 92) (p_aload_n 0 dX1_join_77) (seq (p := 78) (q := 81) (r := 92) (p_get [(1, 1)] (alL1 fl_X1_13_1) dX1_join_78) (seq (p := 81) (q := 83) (r := 92) (p_bipush 6 dX1_join_81 (by decide)) (seq (p := 83) (q := 84) (r := 92) (p_iload_n 1 dX1_join_83) (seq (p := 84) (q := 85) (r := 92) (p_imul dX1_join_84) (seq (p := 85) (q := 87) (r := 92) (p_iload 6 dX1_join_85) (seq (p := 87) (q := 88) (r := 92) (p_iadd dX1_join_87) (seq (p := 88) (q := 89) (r := 92) (p_iald dX1_join_88) (seq (p := 89) (q := 92) (r := 92) (p_goto 107 dX1_join_89 (by decide)) done))))))))))) (seq (p := 92) (q := 93) (r := 107) (p_aload_n 0 dX1_join_92) (seq (p := 93) (q := 96) (r := 107) (p_get [(1, 1)] (alL1 fl_X1_13_1) dX1_join_93) (seq (p := 96) (q := 98) (r := 107) (p_bipush 6 dX1_join_96 (by decide)) (seq (p := 98) (q := 99) (r := 107) (p_iload_n 2 dX1_join_98) (seq (p := 99) (q := 100) (r := 107) (p_imul dX1_join_99) (seq (p := 100) (q := 102) (r := 107) (p_iload 6 dX1_join_100) (seq (p := 102) (q := 103) (r := 107) (p_iadd dX1_join_102) (seq (p := 103) (q := 105) (r := 107) (p_iload 4 dX1_join_103) (seq (p := 105) (q := 106) (r := 107) (p_isub dX1_join_105) (seq (p := 106) (q := 107) (r := 107) (p_iald dX1_join_106) done)))))))))))) (seq (p := 107) (q := 108) (r := 161) (p_iast dX1_join_107) (seq (p := 108) (q := 109) (r := 161) (p_aload_n 0 dX1_join_108) (seq (p := 109) (q := 112) (r := 161) (p_get [(1, 4)] (alL1 fl_X1_22_1) dX1_join_109) (seq (p := 112) (q := 114) (r := 161) (p_iload 6 dX1_join_112) (seq (p := 114) (q := 116) (r := 161) (p_iload 6 dX1_join_114) (seq (p := 116) (q := 118) (r := 161) (p_iload 4 dX1_join_116) (seq (p := 118) (q := 154) (r := 161) (blk (seq (p := 118) (q := 136) (r := 154) (blk (seq (p := 118) (q := 121) (r := 136) (p_icmp_ge 136 dX1_join_118 (by decide)) (seq (p := 121) (q := 122) (r := 136) (p_aload_n 0 dX1_join_121) (seq (p := 122) (q := 125) (r := 136) (p_get [(1, 2)] (alL1 fl_X1_16_1) dX1_join_122) (seq (p := 125) (q := 127) (r := 136) (p_bipush 6 dX1_join_125 (by decide)) (seq (p := 127) (q := 128) (r := 136) (p_iload_n 1 dX1_join_127) (seq (p := 128) (q := 129) (r := 136) (p_imul dX1_join_128) (seq (p := 129) (q := 131) (r := 136) (p_iload 6 dX1_join_129) (seq (p := 131) (q := 132) (r := 136) (p_iadd dX1_join_131) (seq (p := 132) (q := 133) (r := 136) (p_iald dX1_join_132) (seq (p := 133) (q := 136) (r := 136) (p_goto 154 dX1_join_133 (by decide)) done))))))))))) (seq (p := 136) (q := 137) (r := 154) (p_aload_n 0 dX1_join_136) (seq (p := 137) (q := 140) (r := 154) (p_get [(1, 2)] (alL1 fl_X1_16_1) dX1_join_137) (seq (p := 140) (q := 142) (r := 154) (p_bipush 6 dX1_join_140 (by decide)) (seq (p := 142) (q := 143) (r := 154) (p_iload_n 2 dX1_join_142) (seq (p := 143) (q := 144) (r := 154) (p_imul dX1_join_143) (seq (p := 144) (q := 146) (r := 154) (p_iload 6 dX1_join_144) (seq (p := 146) (q := 147) (r := 154) (p_iadd dX1_join_146) (seq (p := 147) (q := 149) (r := 154) (p_iload 4 dX1_join_147) (seq (p := 149) (q := 150) (r := 154) (p_isub dX1_join_149) (seq (p := 150) (q := 151) (r := 154) (p_iald dX1_join_150) (seq (p := 151) (q := 153) (r := 154) (p_iload 4 dX1_join_151) (seq (p := 153) (q := 154) (r := 154) (p_ishl dX1_join_153) done)))))))))))))) (seq (p := 154) (q := 155) (r := 161) (p_iast dX1_join_154) (seq (p := 155) (q := 158) (r := 161) (p_iinc 6 1 dX1_join_155 (Nat.le_of_ble_eq_true rfl)) (seq (p := 158) (q := 158) (r := 161) (er [true, true, true, true, true, true, true]) (seq (p := 158) (q := 161) (r := 161) (p_goto 57 dX1_join_158 (by decide)) done)))))))))))))))))))
noncomputable def B_X1_join_L57 (l : Launch) (δ : Dl) : Seg (l, δ, yX1_join, 3, (some .int), cX1_join, 7) 57 161 := C_X1_join_L57 l δ
theorem L_X1_join_57 {l : Launch} {δ : Dl} {st : Stk} {L : Lc} {s : St} : (B_X1_join_L57 l δ).1 st L s = (C_X1_join_L57 l δ).1 st L s := nrfl rfl
noncomputable def B_X1_join (l : Launch) (δ : Dl) : Seg (l, δ, yX1_join, 3, (some .int), cX1_join, 7) 0 171 :=
  seq (p := 0) (q := 1) (r := 171) (p_aload_n 0 dX1_join_0) (seq (p := 1) (q := 2) (r := 171) (p_iload_n 1 dX1_join_1) (seq (p := 2) (q := 5) (r := 171) (p_callV 1 cv_X1_141 hcR1 (M_X1_noWorld l δ) (Nat.le_of_ble_eq_true rfl) dX1_join_2) (seq (p := 5) (q := 25) (r := 171) (blk (seq (p := 5) (q := 23) (r := 25) (blk (seq (p := 5) (q := 8) (r := 23) (p_if_ne 23 dX1_join_5 (by decide)) (seq (p := 8) (q := 9) (r := 23) (p_aload_n 0 dX1_join_8) (seq (p := 9) (q := 10) (r := 23) (p_iload_n 2 dX1_join_9) (seq (p := 10) (q := 13) (r := 23) (p_callV 1 cv_X1_141 hcR1 (M_X1_noWorld l δ) (Nat.le_of_ble_eq_true rfl) dX1_join_10) (seq (p := 13) (q := 16) (r := 23) (p_if_ne 23 dX1_join_13 (by decide)) (seq (p := 16) (q := 17) (r := 23) (p_iload_n 3 dX1_join_16) (seq (p := 17) (q := 20) (r := 23) (p_callS cs_X1_137 (M_X1_noPlace l δ) (Nat.le_of_ble_eq_true rfl) dX1_join_17) (seq (p := 20) (q := 23) (r := 23) (p_if_eq 25 dX1_join_20 (by decide)) done))))))))) (seq (p := 23) (q := 24) (r := 25) (p_iconst (-1) dX1_join_23) (seq (p := 24) (q := 25) (r := 25) (p_ireturn dX1_join_24 rfl) done)))) (seq (p := 25) (q := 26) (r := 171) (p_aload_n 0 dX1_join_25) (seq (p := 26) (q := 29) (r := 171) (p_get [(1, 0)] (alL1 fl_X1_7_1) dX1_join_26) (seq (p := 29) (q := 30) (r := 171) (p_iload_n 1 dX1_join_29) (seq (p := 30) (q := 31) (r := 171) (p_iald dX1_join_30) (seq (p := 31) (q := 33) (r := 171) (p_istore 4 dX1_join_31 (Nat.le_of_ble_eq_true rfl)) (seq (p := 33) (q := 35) (r := 171) (p_iload 4 dX1_join_33) (seq (p := 35) (q := 36) (r := 171) (p_aload_n 0 dX1_join_35) (seq (p := 36) (q := 39) (r := 171) (p_get [(1, 0)] (alL1 fl_X1_7_1) dX1_join_36) (seq (p := 39) (q := 40) (r := 171) (p_iload_n 2 dX1_join_39) (seq (p := 40) (q := 41) (r := 171) (p_iald dX1_join_40) (seq (p := 41) (q := 42) (r := 171) (p_iadd dX1_join_41) (seq (p := 42) (q := 44) (r := 171) (p_istore 5 dX1_join_42 (Nat.le_of_ble_eq_true rfl)) (seq (p := 44) (q := 46) (r := 171) (p_iload 5 dX1_join_44) (seq (p := 46) (q := 48) (r := 171) (p_bipush 6 dX1_join_46 (by decide)) (seq (p := 48) (q := 54) (r := 171) (blk (seq (p := 48) (q := 51) (r := 54) (p_icmp_le 54 dX1_join_48 (by decide)) (seq (p := 51) (q := 53) (r := 54) (p_bipush (-2) dX1_join_51 (by decide)) (seq (p := 53) (q := 54) (r := 54) (p_ireturn dX1_join_53 rfl) done)))) (seq (p := 54) (q := 55) (r := 171) (p_iconst 0 dX1_join_54) (seq (p := 55) (q := 57) (r := 171) (p_istore 6 dX1_join_55 (Nat.le_of_ble_eq_true rfl)) (seq (p := 57) (q := 161) (r := 171) (blk (seq (p := 57) (q := 57) (r := 161) (er [true, true, true, true, true, true, true]) (seq (p := 57) (q := 161) (r := 161) (lp (B_X1_join_L57 l δ)) done))) (seq (p := 161) (q := 162) (r := 171) (p_aload_n 0 dX1_join_161) (seq (p := 162) (q := 163) (r := 171) (p_iload_n 3 dX1_join_162) (seq (p := 163) (q := 165) (r := 171) (p_iload 5 dX1_join_163) (seq (p := 165) (q := 168) (r := 171) (p_callV 1 cv_X1_155 hcR1 (M_X1_lay l δ) (Nat.le_of_ble_eq_true rfl) dX1_join_165) (seq (p := 168) (q := 170) (r := 171) (p_iload 5 dX1_join_168) (seq (p := 170) (q := 171) (r := 171) (p_ireturn dX1_join_170 rfl) done)))))))))))))))))))))))))))
noncomputable def M_X1_join (l : Launch) (δ : Dl) : Mth l δ yX1_join cX1_join 7 (some .int) 3 := mk (B_X1_join l δ) (by decide)
theorem N_X1_join {l : Launch} {δ : Dl} {o : Nat} {a1 : Int} {a2 : Int} {a3 : Int} {s : St} : (M_X1_join l δ).1 [.inr (.inr (some o)), .inl a1, .inl a2, .inl a3] s = bres ((B_X1_join l δ).1 [] [some (.inr (.inr (some o))), some (.inl a1), some (.inl a2), some (.inl a3), none, none, none] s) := (mk_eq (hy := by decide) rfl).trans (nrfl rfl)
theorem dX1_bits_0 : decode cX1_bits 0 = .ok (.iconst 0, 1) := by decide +kernel
theorem dX1_bits_1 : decode cX1_bits 1 = .ok (.istore_n 1, 1) := by decide +kernel
theorem dX1_bits_2 : decode cX1_bits 2 = .ok (.iconst 0, 1) := by decide +kernel
theorem dX1_bits_3 : decode cX1_bits 3 = .ok (.istore_n 2, 1) := by decide +kernel
theorem dX1_bits_4 : decode cX1_bits 4 = .ok (.iload_n 2, 1) := by decide +kernel
theorem dX1_bits_5 : decode cX1_bits 5 = .ok (.bipush 6, 2) := by decide +kernel
theorem dX1_bits_7 : decode cX1_bits 7 = .ok (.if_icmp .ge 17, 3) := by decide +kernel
theorem dX1_bits_10 : decode cX1_bits 10 = .ok (.iload_n 1, 1) := by decide +kernel
theorem dX1_bits_11 : decode cX1_bits 11 = .ok (.iload_n 0, 1) := by decide +kernel
theorem dX1_bits_12 : decode cX1_bits 12 = .ok (.iload_n 2, 1) := by decide +kernel
theorem dX1_bits_13 : decode cX1_bits 13 = .ok (.ishr, 1) := by decide +kernel
theorem dX1_bits_14 : decode cX1_bits 14 = .ok (.iconst 1, 1) := by decide +kernel
theorem dX1_bits_15 : decode cX1_bits 15 = .ok (.iand, 1) := by decide +kernel
theorem dX1_bits_16 : decode cX1_bits 16 = .ok (.iadd, 1) := by decide +kernel
theorem dX1_bits_17 : decode cX1_bits 17 = .ok (.istore_n 1, 1) := by decide +kernel
theorem dX1_bits_18 : decode cX1_bits 18 = .ok (.iinc 2 1, 3) := by decide +kernel
theorem dX1_bits_21 : decode cX1_bits 21 = .ok (.goto (-17), 3) := by decide +kernel
theorem dX1_bits_24 : decode cX1_bits 24 = .ok (.iload_n 1, 1) := by decide +kernel
theorem dX1_bits_25 : decode cX1_bits 25 = .ok (.ireturn, 1) := by decide +kernel
noncomputable def C_X1_bits_L4 (l : Launch) (δ : Dl) : Seg (l, δ, yX1_bits, 0, (some .int), cX1_bits, 3) 4 24 :=
  seq (p := 4) (q := 5) (r := 24) (p_iload_n 2 dX1_bits_4) (seq (p := 5) (q := 7) (r := 24) (p_bipush 6 dX1_bits_5 (by decide)) (seq (p := 7) (q := 10) (r := 24) (p_icmp_ge 24 dX1_bits_7 (by decide)) (seq (p := 10) (q := 11) (r := 24) (p_iload_n 1 dX1_bits_10) (seq (p := 11) (q := 12) (r := 24) (p_iload_n 0 dX1_bits_11) (seq (p := 12) (q := 13) (r := 24) (p_iload_n 2 dX1_bits_12) (seq (p := 13) (q := 14) (r := 24) (p_ishr dX1_bits_13) (seq (p := 14) (q := 15) (r := 24) (p_iconst 1 dX1_bits_14) (seq (p := 15) (q := 16) (r := 24) (p_iand dX1_bits_15) (seq (p := 16) (q := 17) (r := 24) (p_iadd dX1_bits_16) (seq (p := 17) (q := 18) (r := 24) (p_istore_n 1 dX1_bits_17 (Nat.le_of_ble_eq_true rfl)) (seq (p := 18) (q := 21) (r := 24) (p_iinc 2 1 dX1_bits_18 (Nat.le_of_ble_eq_true rfl)) (seq (p := 21) (q := 21) (r := 24) (er [true, true, true]) (seq (p := 21) (q := 24) (r := 24) (p_goto 4 dX1_bits_21 (by decide)) done)))))))))))))
noncomputable def B_X1_bits_L4 (l : Launch) (δ : Dl) : Seg (l, δ, yX1_bits, 0, (some .int), cX1_bits, 3) 4 24 := C_X1_bits_L4 l δ
theorem L_X1_bits_4 {l : Launch} {δ : Dl} {st : Stk} {L : Lc} {s : St} : (B_X1_bits_L4 l δ).1 st L s = (C_X1_bits_L4 l δ).1 st L s := nrfl rfl
noncomputable def B_X1_bits (l : Launch) (δ : Dl) : Seg (l, δ, yX1_bits, 0, (some .int), cX1_bits, 3) 0 26 :=
  seq (p := 0) (q := 1) (r := 26) (p_iconst 0 dX1_bits_0) (seq (p := 1) (q := 2) (r := 26) (p_istore_n 1 dX1_bits_1 (Nat.le_of_ble_eq_true rfl)) (seq (p := 2) (q := 3) (r := 26) (p_iconst 0 dX1_bits_2) (seq (p := 3) (q := 4) (r := 26) (p_istore_n 2 dX1_bits_3 (Nat.le_of_ble_eq_true rfl)) (seq (p := 4) (q := 24) (r := 26) (blk (seq (p := 4) (q := 4) (r := 24) (er [true, true, true]) (seq (p := 4) (q := 24) (r := 24) (lp (B_X1_bits_L4 l δ)) done))) (seq (p := 24) (q := 25) (r := 26) (p_iload_n 1 dX1_bits_24) (seq (p := 25) (q := 26) (r := 26) (p_ireturn dX1_bits_25 rfl) done))))))
noncomputable def M_X1_bits (l : Launch) (δ : Dl) : Mth l δ yX1_bits cX1_bits 3 (some .int) 0 := mk (B_X1_bits l δ) (by decide)
theorem N_X1_bits {l : Launch} {δ : Dl} {a1 : Int} {s : St} : (M_X1_bits l δ).1 [.inl a1] s = bres ((B_X1_bits l δ).1 [] [some (.inl a1), none, none] s) := (mk_eq (hy := by decide) rfl).trans (nrfl rfl)
theorem dX1_about_0 : decode cX1_about 0 = .ok (.aload_n 0, 1) := by decide +kernel
theorem dX1_about_1 : decode cX1_about 1 = .ok (.iload_n 1, 1) := by decide +kernel
theorem dX1_about_2 : decode cX1_about 2 = .ok (.invokevirtual 141, 3) := by decide +kernel
theorem dX1_about_5 : decode cX1_about 5 = .ok (.ifCond .eq 5, 3) := by decide +kernel
theorem dX1_about_8 : decode cX1_about 8 = .ok (.iconst (-1), 1) := by decide +kernel
theorem dX1_about_9 : decode cX1_about 9 = .ok (.ireturn, 1) := by decide +kernel
theorem dX1_about_10 : decode cX1_about 10 = .ok (.iload_n 2, 1) := by decide +kernel
theorem dX1_about_11 : decode cX1_about 11 = .ok (.bipush 10, 2) := by decide +kernel
theorem dX1_about_13 : decode cX1_about 13 = .ok (.bipush 9, 2) := by decide +kernel
theorem dX1_about_15 : decode cX1_about 15 = .ok (.aload_n 0, 1) := by decide +kernel
theorem dX1_about_16 : decode cX1_about 16 = .ok (.getfield 7, 3) := by decide +kernel
theorem dX1_about_19 : decode cX1_about 19 = .ok (.iload_n 1, 1) := by decide +kernel
theorem dX1_about_20 : decode cX1_about 20 = .ok (.iaload, 1) := by decide +kernel
theorem dX1_about_21 : decode cX1_about 21 = .ok (.iadd, 1) := by decide +kernel
theorem dX1_about_22 : decode cX1_about 22 = .ok (.invokestatic 133, 3) := by decide +kernel
theorem dX1_about_25 : decode cX1_about 25 = .ok (.ifCond .eq 18, 3) := by decide +kernel
theorem dX1_about_28 : decode cX1_about 28 = .ok (.aload_n 0, 1) := by decide +kernel
theorem dX1_about_29 : decode cX1_about 29 = .ok (.getfield 13, 3) := by decide +kernel
theorem dX1_about_32 : decode cX1_about 32 = .ok (.bipush 6, 2) := by decide +kernel
theorem dX1_about_34 : decode cX1_about 34 = .ok (.iload_n 1, 1) := by decide +kernel
theorem dX1_about_35 : decode cX1_about 35 = .ok (.imul, 1) := by decide +kernel
theorem dX1_about_36 : decode cX1_about 36 = .ok (.iload_n 2, 1) := by decide +kernel
theorem dX1_about_37 : decode cX1_about 37 = .ok (.iadd, 1) := by decide +kernel
theorem dX1_about_38 : decode cX1_about 38 = .ok (.bipush 10, 2) := by decide +kernel
theorem dX1_about_40 : decode cX1_about 40 = .ok (.isub, 1) := by decide +kernel
theorem dX1_about_41 : decode cX1_about 41 = .ok (.iaload, 1) := by decide +kernel
theorem dX1_about_42 : decode cX1_about 42 = .ok (.ireturn, 1) := by decide +kernel
theorem dX1_about_43 : decode cX1_about 43 = .ok (.iload_n 2, 1) := by decide +kernel
theorem dX1_about_44 : decode cX1_about 44 = .ok (.iconst 0, 1) := by decide +kernel
theorem dX1_about_45 : decode cX1_about 45 = .ok (.iconst 3, 1) := by decide +kernel
theorem dX1_about_46 : decode cX1_about 46 = .ok (.invokestatic 133, 3) := by decide +kernel
theorem dX1_about_49 : decode cX1_about 49 = .ok (.ifCond .ne 6, 3) := by decide +kernel
theorem dX1_about_52 : decode cX1_about 52 = .ok (.bipush (-2), 2) := by decide +kernel
theorem dX1_about_54 : decode cX1_about 54 = .ok (.ireturn, 1) := by decide +kernel
theorem dX1_about_55 : decode cX1_about 55 = .ok (.iconst 0, 1) := by decide +kernel
theorem dX1_about_56 : decode cX1_about 56 = .ok (.istore_n 3, 1) := by decide +kernel
theorem dX1_about_57 : decode cX1_about 57 = .ok (.iconst 0, 1) := by decide +kernel
theorem dX1_about_58 : decode cX1_about 58 = .ok (.istore 4, 2) := by decide +kernel
theorem dX1_about_60 : decode cX1_about 60 = .ok (.iload 4, 2) := by decide +kernel
theorem dX1_about_62 : decode cX1_about 62 = .ok (.aload_n 0, 1) := by decide +kernel
theorem dX1_about_63 : decode cX1_about 63 = .ok (.getfield 7, 3) := by decide +kernel
theorem dX1_about_66 : decode cX1_about 66 = .ok (.iload_n 1, 1) := by decide +kernel
theorem dX1_about_67 : decode cX1_about 67 = .ok (.iaload, 1) := by decide +kernel
theorem dX1_about_68 : decode cX1_about 68 = .ok (.if_icmp .ge 61, 3) := by decide +kernel
theorem dX1_about_71 : decode cX1_about 71 = .ok (.iload_n 3, 1) := by decide +kernel
theorem dX1_about_72 : decode cX1_about 72 = .ok (.iload_n 2, 1) := by decide +kernel
theorem dX1_about_73 : decode cX1_about 73 = .ok (.ifCond .ne 7, 3) := by decide +kernel
theorem dX1_about_76 : decode cX1_about 76 = .ok (.iconst 1, 1) := by decide +kernel
theorem dX1_about_77 : decode cX1_about 77 = .ok (.goto 44, 3) := by decide +kernel
theorem dX1_about_80 : decode cX1_about 80 = .ok (.iload_n 2, 1) := by decide +kernel
theorem dX1_about_81 : decode cX1_about 81 = .ok (.iconst 3, 1) := by decide +kernel
theorem dX1_about_82 : decode cX1_about 82 = .ok (.if_icmp .ne 21, 3) := by decide +kernel
theorem dX1_about_85 : decode cX1_about 85 = .ok (.aload_n 0, 1) := by decide +kernel
theorem dX1_about_86 : decode cX1_about 86 = .ok (.getfield 16, 3) := by decide +kernel
theorem dX1_about_89 : decode cX1_about 89 = .ok (.bipush 6, 2) := by decide +kernel
theorem dX1_about_91 : decode cX1_about 91 = .ok (.iload_n 1, 1) := by decide +kernel
theorem dX1_about_92 : decode cX1_about 92 = .ok (.imul, 1) := by decide +kernel
theorem dX1_about_93 : decode cX1_about 93 = .ok (.iload 4, 2) := by decide +kernel
theorem dX1_about_95 : decode cX1_about 95 = .ok (.iadd, 1) := by decide +kernel
theorem dX1_about_96 : decode cX1_about 96 = .ok (.iaload, 1) := by decide +kernel
theorem dX1_about_97 : decode cX1_about 97 = .ok (.invokestatic 159, 3) := by decide +kernel
theorem dX1_about_100 : decode cX1_about 100 = .ok (.goto 21, 3) := by decide +kernel
theorem dX1_about_103 : decode cX1_about 103 = .ok (.aload_n 0, 1) := by decide +kernel
theorem dX1_about_104 : decode cX1_about 104 = .ok (.getfield 13, 3) := by decide +kernel
theorem dX1_about_107 : decode cX1_about 107 = .ok (.bipush 6, 2) := by decide +kernel
theorem dX1_about_109 : decode cX1_about 109 = .ok (.iload_n 1, 1) := by decide +kernel
theorem dX1_about_110 : decode cX1_about 110 = .ok (.imul, 1) := by decide +kernel
theorem dX1_about_111 : decode cX1_about 111 = .ok (.iload 4, 2) := by decide +kernel
theorem dX1_about_113 : decode cX1_about 113 = .ok (.iadd, 1) := by decide +kernel
theorem dX1_about_114 : decode cX1_about 114 = .ok (.iaload, 1) := by decide +kernel
theorem dX1_about_115 : decode cX1_about 115 = .ok (.iload_n 2, 1) := by decide +kernel
theorem dX1_about_116 : decode cX1_about 116 = .ok (.iconst 1, 1) := by decide +kernel
theorem dX1_about_117 : decode cX1_about 117 = .ok (.isub, 1) := by decide +kernel
theorem dX1_about_118 : decode cX1_about 118 = .ok (.ishr, 1) := by decide +kernel
theorem dX1_about_119 : decode cX1_about 119 = .ok (.iconst 1, 1) := by decide +kernel
theorem dX1_about_120 : decode cX1_about 120 = .ok (.iand, 1) := by decide +kernel
theorem dX1_about_121 : decode cX1_about 121 = .ok (.iadd, 1) := by decide +kernel
theorem dX1_about_122 : decode cX1_about 122 = .ok (.istore_n 3, 1) := by decide +kernel
theorem dX1_about_123 : decode cX1_about 123 = .ok (.iinc 4 1, 3) := by decide +kernel
theorem dX1_about_126 : decode cX1_about 126 = .ok (.goto (-66), 3) := by decide +kernel
theorem dX1_about_129 : decode cX1_about 129 = .ok (.iload_n 3, 1) := by decide +kernel
theorem dX1_about_130 : decode cX1_about 130 = .ok (.ireturn, 1) := by decide +kernel
noncomputable def C_X1_about_L60 (l : Launch) (δ : Dl) : Seg (l, δ, yX1_about, 3, (some .int), cX1_about, 5) 60 129 :=
  seq (p := 60) (q := 62) (r := 129) (p_iload 4 dX1_about_60) (seq (p := 62) (q := 63) (r := 129) (p_aload_n 0 dX1_about_62) (seq (p := 63) (q := 66) (r := 129) (p_get [(1, 0)] (alL1 fl_X1_7_1) dX1_about_63) (seq (p := 66) (q := 67) (r := 129) (p_iload_n 1 dX1_about_66) (seq (p := 67) (q := 68) (r := 129) (p_iald dX1_about_67) (seq (p := 68) (q := 71) (r := 129) (p_icmp_ge 129 dX1_about_68 (by decide)) (seq (p := 71) (q := 72) (r := 129) (p_iload_n 3 dX1_about_71) (seq (p := 72) (q := 73) (r := 129) (p_iload_n 2 dX1_about_72) (seq (p := 73) (q := 121) (r := 129) (blk (seq (p := 73) (q := 80) (r := 121) (blk (seq (p := 73) (q := 76) (r := 80) (p_if_ne 80 dX1_about_73 (by decide)) (seq (p := 76) (q := 77) (r := 80) (p_iconst 1 dX1_about_76) (seq (p := 77) (q := 80) (r := 80) (p_goto 121 dX1_about_77 (by decide)) done)))) (seq (p := 80) (q := 81) (r := 121) (p_iload_n 2 dX1_about_80) (seq (p := 81) (q := 82) (r := 121) (p_iconst 3 dX1_about_81) (seq (p := 82) (q := 103) (r := 121) (blk (seq (p := 82) (q := 85) (r := 103) (p_icmp_ne 103 dX1_about_82 (by decide)) (seq (p := 85) (q := 86) (r := 103) (p_aload_n 0 dX1_about_85) (seq (p := 86) (q := 89) (r := 103) (p_get [(1, 2)] (alL1 fl_X1_16_1) dX1_about_86) (seq (p := 89) (q := 91) (r := 103) (p_bipush 6 dX1_about_89 (by decide)) (seq (p := 91) (q := 92) (r := 103) (p_iload_n 1 dX1_about_91) (seq (p := 92) (q := 93) (r := 103) (p_imul dX1_about_92) (seq (p := 93) (q := 95) (r := 103) (p_iload 4 dX1_about_93) (seq (p := 95) (q := 96) (r := 103) (p_iadd dX1_about_95) (seq (p := 96) (q := 97) (r := 103) (p_iald dX1_about_96) (seq (p := 97) (q := 100) (r := 103) (p_callS cs_X1_159 (M_X1_bits l δ) (Nat.le_of_ble_eq_true rfl) dX1_about_97) (seq (p := 100) (q := 103) (r := 103) (p_goto 121 dX1_about_100 (by decide)) done)))))))))))) (seq (p := 103) (q := 104) (r := 121) (p_aload_n 0 dX1_about_103) (seq (p := 104) (q := 107) (r := 121) (p_get [(1, 1)] (alL1 fl_X1_13_1) dX1_about_104) (seq (p := 107) (q := 109) (r := 121) (p_bipush 6 dX1_about_107 (by decide)) (seq (p := 109) (q := 110) (r := 121) (p_iload_n 1 dX1_about_109) (seq (p := 110) (q := 111) (r := 121) (p_imul dX1_about_110) (seq (p := 111) (q := 113) (r := 121) (p_iload 4 dX1_about_111) (seq (p := 113) (q := 114) (r := 121) (p_iadd dX1_about_113) (seq (p := 114) (q := 115) (r := 121) (p_iald dX1_about_114) (seq (p := 115) (q := 116) (r := 121) (p_iload_n 2 dX1_about_115) (seq (p := 116) (q := 117) (r := 121) (p_iconst 1 dX1_about_116) (seq (p := 117) (q := 118) (r := 121) (p_isub dX1_about_117) (seq (p := 118) (q := 119) (r := 121) (p_ishr dX1_about_118) (seq (p := 119) (q := 120) (r := 121) (p_iconst 1 dX1_about_119) (seq (p := 120) (q := 121) (r := 121) (p_iand dX1_about_120) done))))))))))))))))))) (seq (p := 121) (q := 122) (r := 129) (p_iadd dX1_about_121) (seq (p := 122) (q := 123) (r := 129) (p_istore_n 3 dX1_about_122 (Nat.le_of_ble_eq_true rfl)) (seq (p := 123) (q := 126) (r := 129) (p_iinc 4 1 dX1_about_123 (Nat.le_of_ble_eq_true rfl)) (seq (p := 126) (q := 126) (r := 129) (er [true, true, true, true, true]) (seq (p := 126) (q := 129) (r := 129) (p_goto 60 dX1_about_126 (by decide)) done)))))))))))))
noncomputable def B_X1_about_L60 (l : Launch) (δ : Dl) : Seg (l, δ, yX1_about, 3, (some .int), cX1_about, 5) 60 129 := C_X1_about_L60 l δ
theorem L_X1_about_60 {l : Launch} {δ : Dl} {st : Stk} {L : Lc} {s : St} : (B_X1_about_L60 l δ).1 st L s = (C_X1_about_L60 l δ).1 st L s := nrfl rfl
noncomputable def B_X1_about (l : Launch) (δ : Dl) : Seg (l, δ, yX1_about, 3, (some .int), cX1_about, 5) 0 131 :=
  seq (p := 0) (q := 1) (r := 131) (p_aload_n 0 dX1_about_0) (seq (p := 1) (q := 2) (r := 131) (p_iload_n 1 dX1_about_1) (seq (p := 2) (q := 5) (r := 131) (p_callV 1 cv_X1_141 hcR1 (M_X1_noWorld l δ) (Nat.le_of_ble_eq_true rfl) dX1_about_2) (seq (p := 5) (q := 10) (r := 131) (blk (seq (p := 5) (q := 8) (r := 10) (p_if_eq 10 dX1_about_5 (by decide)) (seq (p := 8) (q := 9) (r := 10) (p_iconst (-1) dX1_about_8) (seq (p := 9) (q := 10) (r := 10) (p_ireturn dX1_about_9 rfl) done)))) (seq (p := 10) (q := 11) (r := 131) (p_iload_n 2 dX1_about_10) (seq (p := 11) (q := 13) (r := 131) (p_bipush 10 dX1_about_11 (by decide)) (seq (p := 13) (q := 15) (r := 131) (p_bipush 9 dX1_about_13 (by decide)) (seq (p := 15) (q := 16) (r := 131) (p_aload_n 0 dX1_about_15) (seq (p := 16) (q := 19) (r := 131) (p_get [(1, 0)] (alL1 fl_X1_7_1) dX1_about_16) (seq (p := 19) (q := 20) (r := 131) (p_iload_n 1 dX1_about_19) (seq (p := 20) (q := 21) (r := 131) (p_iald dX1_about_20) (seq (p := 21) (q := 22) (r := 131) (p_iadd dX1_about_21) (seq (p := 22) (q := 25) (r := 131) (p_callS cs_X1_133 (M_X1_in l δ) (Nat.le_of_ble_eq_true rfl) dX1_about_22) (seq (p := 25) (q := 43) (r := 131) (blk (seq (p := 25) (q := 28) (r := 43) (p_if_eq 43 dX1_about_25 (by decide)) (seq (p := 28) (q := 29) (r := 43) (p_aload_n 0 dX1_about_28) (seq (p := 29) (q := 32) (r := 43) (p_get [(1, 1)] (alL1 fl_X1_13_1) dX1_about_29) (seq (p := 32) (q := 34) (r := 43) (p_bipush 6 dX1_about_32 (by decide)) (seq (p := 34) (q := 35) (r := 43) (p_iload_n 1 dX1_about_34) (seq (p := 35) (q := 36) (r := 43) (p_imul dX1_about_35) (seq (p := 36) (q := 37) (r := 43) (p_iload_n 2 dX1_about_36) (seq (p := 37) (q := 38) (r := 43) (p_iadd dX1_about_37) (seq (p := 38) (q := 40) (r := 43) (p_bipush 10 dX1_about_38 (by decide)) (seq (p := 40) (q := 41) (r := 43) (p_isub dX1_about_40) (seq (p := 41) (q := 42) (r := 43) (p_iald dX1_about_41) (seq (p := 42) (q := 43) (r := 43) (p_ireturn dX1_about_42 rfl) done))))))))))))) (seq (p := 43) (q := 44) (r := 131) (p_iload_n 2 dX1_about_43) (seq (p := 44) (q := 45) (r := 131) (p_iconst 0 dX1_about_44) (seq (p := 45) (q := 46) (r := 131) (p_iconst 3 dX1_about_45) (seq (p := 46) (q := 49) (r := 131) (p_callS cs_X1_133 (M_X1_in l δ) (Nat.le_of_ble_eq_true rfl) dX1_about_46) (seq (p := 49) (q := 55) (r := 131) (blk (seq (p := 49) (q := 52) (r := 55) (p_if_ne 55 dX1_about_49 (by decide)) (seq (p := 52) (q := 54) (r := 55) (p_bipush (-2) dX1_about_52 (by decide)) (seq (p := 54) (q := 55) (r := 55) (p_ireturn dX1_about_54 rfl) done)))) (seq (p := 55) (q := 56) (r := 131) (p_iconst 0 dX1_about_55) (seq (p := 56) (q := 57) (r := 131) (p_istore_n 3 dX1_about_56 (Nat.le_of_ble_eq_true rfl)) (seq (p := 57) (q := 58) (r := 131) (p_iconst 0 dX1_about_57) (seq (p := 58) (q := 60) (r := 131) (p_istore 4 dX1_about_58 (Nat.le_of_ble_eq_true rfl)) (seq (p := 60) (q := 129) (r := 131) (blk (seq (p := 60) (q := 60) (r := 129) (er [true, true, true, true, true]) (seq (p := 60) (q := 129) (r := 129) (lp (B_X1_about_L60 l δ)) done))) (seq (p := 129) (q := 130) (r := 131) (p_iload_n 3 dX1_about_129) (seq (p := 130) (q := 131) (r := 131) (p_ireturn dX1_about_130 rfl) done)))))))))))))))))))))))))
noncomputable def M_X1_about (l : Launch) (δ : Dl) : Mth l δ yX1_about cX1_about 5 (some .int) 3 := mk (B_X1_about l δ) (by decide)
theorem N_X1_about {l : Launch} {δ : Dl} {o : Nat} {a1 : Int} {a2 : Int} {s : St} : (M_X1_about l δ).1 [.inr (.inr (some o)), .inl a1, .inl a2] s = bres ((B_X1_about l δ).1 [] [some (.inr (.inr (some o))), some (.inl a1), some (.inl a2), none, none] s) := (mk_eq (hy := by decide) rfl).trans (nrfl rfl)
theorem dX1_tied_0 : decode cX1_tied 0 = .ok (.aload_n 0, 1) := by decide +kernel
theorem dX1_tied_1 : decode cX1_tied 1 = .ok (.iload_n 1, 1) := by decide +kernel
theorem dX1_tied_2 : decode cX1_tied 2 = .ok (.iload_n 2, 1) := by decide +kernel
theorem dX1_tied_3 : decode cX1_tied 3 = .ok (.invokevirtual 144, 3) := by decide +kernel
theorem dX1_tied_6 : decode cX1_tied 6 = .ok (.ifCond .ne 12, 3) := by decide +kernel
theorem dX1_tied_9 : decode cX1_tied 9 = .ok (.aload_n 0, 1) := by decide +kernel
theorem dX1_tied_10 : decode cX1_tied 10 = .ok (.iload_n 1, 1) := by decide +kernel
theorem dX1_tied_11 : decode cX1_tied 11 = .ok (.iload_n 3, 1) := by decide +kernel
theorem dX1_tied_12 : decode cX1_tied 12 = .ok (.invokevirtual 144, 3) := by decide +kernel
theorem dX1_tied_15 : decode cX1_tied 15 = .ok (.ifCond .eq 7, 3) := by decide +kernel
theorem dX1_tied_18 : decode cX1_tied 18 = .ok (.iconst (-1), 1) := by decide +kernel
theorem dX1_tied_19 : decode cX1_tied 19 = .ok (.goto 18, 3) := by decide +kernel
theorem dX1_tied_22 : decode cX1_tied 22 = .ok (.aload_n 0, 1) := by decide +kernel
theorem dX1_tied_23 : decode cX1_tied 23 = .ok (.iload_n 1, 1) := by decide +kernel
theorem dX1_tied_24 : decode cX1_tied 24 = .ok (.iload_n 2, 1) := by decide +kernel
theorem dX1_tied_25 : decode cX1_tied 25 = .ok (.iload_n 3, 1) := by decide +kernel
theorem dX1_tied_26 : decode cX1_tied 26 = .ok (.invokevirtual 152, 3) := by decide +kernel
theorem dX1_tied_29 : decode cX1_tied 29 = .ok (.ifCond .eq 7, 3) := by decide +kernel
theorem dX1_tied_32 : decode cX1_tied 32 = .ok (.iconst 1, 1) := by decide +kernel
theorem dX1_tied_33 : decode cX1_tied 33 = .ok (.goto 4, 3) := by decide +kernel
theorem dX1_tied_36 : decode cX1_tied 36 = .ok (.iconst 0, 1) := by decide +kernel
theorem dX1_tied_37 : decode cX1_tied 37 = .ok (.ireturn, 1) := by decide +kernel
noncomputable def B_X1_tied (l : Launch) (δ : Dl) : Seg (l, δ, yX1_tied, 4, (some .int), cX1_tied, 4) 0 38 :=
  seq (p := 0) (q := 1) (r := 38) (p_aload_n 0 dX1_tied_0) (seq (p := 1) (q := 2) (r := 38) (p_iload_n 1 dX1_tied_1) (seq (p := 2) (q := 3) (r := 38) (p_iload_n 2 dX1_tied_2) (seq (p := 3) (q := 6) (r := 38) (p_callV 1 cv_X1_144 hcR1 (M_X1_noThing l δ) (Nat.le_of_ble_eq_true rfl) dX1_tied_3) (seq (p := 6) (q := 37) (r := 38) (blk (seq (p := 6) (q := 22) (r := 37) (blk (seq (p := 6) (q := 18) (r := 22) (blk (seq (p := 6) (q := 9) (r := 18) (p_if_ne 18 dX1_tied_6 (by decide)) (seq (p := 9) (q := 10) (r := 18) (p_aload_n 0 dX1_tied_9) (seq (p := 10) (q := 11) (r := 18) (p_iload_n 1 dX1_tied_10) (seq (p := 11) (q := 12) (r := 18) (p_iload_n 3 dX1_tied_11) (seq (p := 12) (q := 15) (r := 18) (p_callV 1 cv_X1_144 hcR1 (M_X1_noThing l δ) (Nat.le_of_ble_eq_true rfl) dX1_tied_12) (seq (p := 15) (q := 18) (r := 18) (p_if_eq 22 dX1_tied_15 (by decide)) done))))))) (seq (p := 18) (q := 19) (r := 22) (p_iconst (-1) dX1_tied_18) (seq (p := 19) (q := 22) (r := 22) (p_goto 37 dX1_tied_19 (by decide)) done)))) (seq (p := 22) (q := 23) (r := 37) (p_aload_n 0 dX1_tied_22) (seq (p := 23) (q := 24) (r := 37) (p_iload_n 1 dX1_tied_23) (seq (p := 24) (q := 25) (r := 37) (p_iload_n 2 dX1_tied_24) (seq (p := 25) (q := 26) (r := 37) (p_iload_n 3 dX1_tied_25) (seq (p := 26) (q := 29) (r := 37) (p_callV 1 cv_X1_152 hcR1 (M_X1_isTied l δ) (Nat.le_of_ble_eq_true rfl) dX1_tied_26) (seq (p := 29) (q := 36) (r := 37) (blk (seq (p := 29) (q := 32) (r := 36) (p_if_eq 36 dX1_tied_29 (by decide)) (seq (p := 32) (q := 33) (r := 36) (p_iconst 1 dX1_tied_32) (seq (p := 33) (q := 36) (r := 36) (p_goto 37 dX1_tied_33 (by decide)) done)))) (seq (p := 36) (q := 37) (r := 37) (p_iconst 0 dX1_tied_36) done))))))))) (seq (p := 37) (q := 38) (r := 38) (p_ireturn dX1_tied_37 rfl) done)))))
noncomputable def M_X1_tied (l : Launch) (δ : Dl) : Mth l δ yX1_tied cX1_tied 4 (some .int) 4 := mk (B_X1_tied l δ) (by decide)
theorem N_X1_tied {l : Launch} {δ : Dl} {o : Nat} {a1 : Int} {a2 : Int} {a3 : Int} {s : St} : (M_X1_tied l δ).1 [.inr (.inr (some o)), .inl a1, .inl a2, .inl a3] s = bres ((B_X1_tied l δ).1 [] [some (.inr (.inr (some o))), some (.inl a1), some (.inl a2), some (.inl a3)] s) := (mk_eq (hy := by decide) rfl).trans (nrfl rfl)
theorem dX1_begin_0 : decode cX1_begin 0 = .ok (.aload_n 0, 1) := by decide +kernel
theorem dX1_begin_1 : decode cX1_begin 1 = .ok (.iload_n 1, 1) := by decide +kernel
theorem dX1_begin_2 : decode cX1_begin 2 = .ok (.putfield 163, 3) := by decide +kernel
theorem dX1_begin_5 : decode cX1_begin 5 = .ok (.aload_n 0, 1) := by decide +kernel
theorem dX1_begin_6 : decode cX1_begin 6 = .ok (.iload_n 2, 1) := by decide +kernel
theorem dX1_begin_7 : decode cX1_begin 7 = .ok (.putfield 166, 3) := by decide +kernel
theorem dX1_begin_10 : decode cX1_begin 10 = .ok (.aload_n 0, 1) := by decide +kernel
theorem dX1_begin_11 : decode cX1_begin 11 = .ok (.iconst 0, 1) := by decide +kernel
theorem dX1_begin_12 : decode cX1_begin 12 = .ok (.putfield 169, 3) := by decide +kernel
theorem dX1_begin_15 : decode cX1_begin 15 = .ok (.return_, 1) := by decide +kernel
noncomputable def B_X1_begin (l : Launch) (δ : Dl) : Seg (l, δ, yX1_begin, 0, none, cX1_begin, 3) 0 16 :=
  seq (p := 0) (q := 1) (r := 16) (p_aload_n 0 dX1_begin_0) (seq (p := 1) (q := 2) (r := 16) (p_iload_n 1 dX1_begin_1) (seq (p := 2) (q := 5) (r := 16) (p_put [(1, 5)] .int (alP1 fp_X1_163_1) dX1_begin_2) (seq (p := 5) (q := 6) (r := 16) (p_aload_n 0 dX1_begin_5) (seq (p := 6) (q := 7) (r := 16) (p_iload_n 2 dX1_begin_6) (seq (p := 7) (q := 10) (r := 16) (p_put [(1, 6)] .int (alP1 fp_X1_166_1) dX1_begin_7) (seq (p := 10) (q := 11) (r := 16) (p_aload_n 0 dX1_begin_10) (seq (p := 11) (q := 12) (r := 16) (p_iconst 0 dX1_begin_11) (seq (p := 12) (q := 15) (r := 16) (p_put [(1, 7)] .int (alP1 fp_X1_169_1) dX1_begin_12) (seq (p := 15) (q := 16) (r := 16) (p_return dX1_begin_15 rfl) done)))))))))
noncomputable def M_X1_begin (l : Launch) (δ : Dl) : Mth l δ yX1_begin cX1_begin 3 none 0 := mk (B_X1_begin l δ) (by decide)
theorem N_X1_begin {l : Launch} {δ : Dl} {o : Nat} {a1 : Int} {a2 : Int} {s : St} : (M_X1_begin l δ).1 [.inr (.inr (some o)), .inl a1, .inl a2] s = bres ((B_X1_begin l δ).1 [] [some (.inr (.inr (some o))), some (.inl a1), some (.inl a2)] s) := (mk_eq (hy := by decide) rfl).trans (nrfl rfl)
theorem dX1_isPlaceAlike_0 : decode cX1_isPlaceAlike 0 = .ok (.aload_n 0, 1) := by decide +kernel
theorem dX1_isPlaceAlike_1 : decode cX1_isPlaceAlike 1 = .ok (.getfield 13, 3) := by decide +kernel
theorem dX1_isPlaceAlike_4 : decode cX1_isPlaceAlike 4 = .ok (.bipush 6, 2) := by decide +kernel
theorem dX1_isPlaceAlike_6 : decode cX1_isPlaceAlike 6 = .ok (.aload_n 0, 1) := by decide +kernel
theorem dX1_isPlaceAlike_7 : decode cX1_isPlaceAlike 7 = .ok (.getfield 163, 3) := by decide +kernel
theorem dX1_isPlaceAlike_10 : decode cX1_isPlaceAlike 10 = .ok (.imul, 1) := by decide +kernel
theorem dX1_isPlaceAlike_11 : decode cX1_isPlaceAlike 11 = .ok (.aload_n 0, 1) := by decide +kernel
theorem dX1_isPlaceAlike_12 : decode cX1_isPlaceAlike 12 = .ok (.getfield 25, 3) := by decide +kernel
theorem dX1_isPlaceAlike_15 : decode cX1_isPlaceAlike 15 = .ok (.iload_n 1, 1) := by decide +kernel
theorem dX1_isPlaceAlike_16 : decode cX1_isPlaceAlike 16 = .ok (.iaload, 1) := by decide +kernel
theorem dX1_isPlaceAlike_17 : decode cX1_isPlaceAlike 17 = .ok (.iadd, 1) := by decide +kernel
theorem dX1_isPlaceAlike_18 : decode cX1_isPlaceAlike 18 = .ok (.iaload, 1) := by decide +kernel
theorem dX1_isPlaceAlike_19 : decode cX1_isPlaceAlike 19 = .ok (.aload_n 0, 1) := by decide +kernel
theorem dX1_isPlaceAlike_20 : decode cX1_isPlaceAlike 20 = .ok (.getfield 13, 3) := by decide +kernel
theorem dX1_isPlaceAlike_23 : decode cX1_isPlaceAlike 23 = .ok (.bipush 6, 2) := by decide +kernel
theorem dX1_isPlaceAlike_25 : decode cX1_isPlaceAlike 25 = .ok (.aload_n 0, 1) := by decide +kernel
theorem dX1_isPlaceAlike_26 : decode cX1_isPlaceAlike 26 = .ok (.getfield 166, 3) := by decide +kernel
theorem dX1_isPlaceAlike_29 : decode cX1_isPlaceAlike 29 = .ok (.imul, 1) := by decide +kernel
theorem dX1_isPlaceAlike_30 : decode cX1_isPlaceAlike 30 = .ok (.aload_n 0, 1) := by decide +kernel
theorem dX1_isPlaceAlike_31 : decode cX1_isPlaceAlike 31 = .ok (.getfield 28, 3) := by decide +kernel
theorem dX1_isPlaceAlike_34 : decode cX1_isPlaceAlike 34 = .ok (.iload_n 1, 1) := by decide +kernel
theorem dX1_isPlaceAlike_35 : decode cX1_isPlaceAlike 35 = .ok (.iaload, 1) := by decide +kernel
theorem dX1_isPlaceAlike_36 : decode cX1_isPlaceAlike 36 = .ok (.iadd, 1) := by decide +kernel
theorem dX1_isPlaceAlike_37 : decode cX1_isPlaceAlike 37 = .ok (.iaload, 1) := by decide +kernel
theorem dX1_isPlaceAlike_38 : decode cX1_isPlaceAlike 38 = .ok (.if_icmp .ne 7, 3) := by decide +kernel
theorem dX1_isPlaceAlike_41 : decode cX1_isPlaceAlike 41 = .ok (.iconst 1, 1) := by decide +kernel
theorem dX1_isPlaceAlike_42 : decode cX1_isPlaceAlike 42 = .ok (.goto 4, 3) := by decide +kernel
theorem dX1_isPlaceAlike_45 : decode cX1_isPlaceAlike 45 = .ok (.iconst 0, 1) := by decide +kernel
theorem dX1_isPlaceAlike_46 : decode cX1_isPlaceAlike 46 = .ok (.istore_n 2, 1) := by decide +kernel
theorem dX1_isPlaceAlike_47 : decode cX1_isPlaceAlike 47 = .ok (.iconst 0, 1) := by decide +kernel
theorem dX1_isPlaceAlike_48 : decode cX1_isPlaceAlike 48 = .ok (.istore_n 3, 1) := by decide +kernel
theorem dX1_isPlaceAlike_49 : decode cX1_isPlaceAlike 49 = .ok (.iload_n 3, 1) := by decide +kernel
theorem dX1_isPlaceAlike_50 : decode cX1_isPlaceAlike 50 = .ok (.iload_n 1, 1) := by decide +kernel
theorem dX1_isPlaceAlike_51 : decode cX1_isPlaceAlike 51 = .ok (.if_icmp .gt 148, 3) := by decide +kernel
theorem dX1_isPlaceAlike_54 : decode cX1_isPlaceAlike 54 = .ok (.iload_n 2, 1) := by decide +kernel
theorem dX1_isPlaceAlike_55 : decode cX1_isPlaceAlike 55 = .ok (.ifCond .eq 144, 3) := by decide +kernel
theorem dX1_isPlaceAlike_58 : decode cX1_isPlaceAlike 58 = .ok (.aload_n 0, 1) := by decide +kernel
theorem dX1_isPlaceAlike_59 : decode cX1_isPlaceAlike 59 = .ok (.getfield 25, 3) := by decide +kernel
theorem dX1_isPlaceAlike_62 : decode cX1_isPlaceAlike 62 = .ok (.iload_n 3, 1) := by decide +kernel
theorem dX1_isPlaceAlike_63 : decode cX1_isPlaceAlike 63 = .ok (.iaload, 1) := by decide +kernel
theorem dX1_isPlaceAlike_64 : decode cX1_isPlaceAlike 64 = .ok (.aload_n 0, 1) := by decide +kernel
theorem dX1_isPlaceAlike_65 : decode cX1_isPlaceAlike 65 = .ok (.getfield 25, 3) := by decide +kernel
theorem dX1_isPlaceAlike_68 : decode cX1_isPlaceAlike 68 = .ok (.iload_n 1, 1) := by decide +kernel
theorem dX1_isPlaceAlike_69 : decode cX1_isPlaceAlike 69 = .ok (.iaload, 1) := by decide +kernel
theorem dX1_isPlaceAlike_70 : decode cX1_isPlaceAlike 70 = .ok (.if_icmp .ne 7, 3) := by decide +kernel
theorem dX1_isPlaceAlike_73 : decode cX1_isPlaceAlike 73 = .ok (.iconst 1, 1) := by decide +kernel
theorem dX1_isPlaceAlike_74 : decode cX1_isPlaceAlike 74 = .ok (.goto 4, 3) := by decide +kernel
theorem dX1_isPlaceAlike_77 : decode cX1_isPlaceAlike 77 = .ok (.iconst 0, 1) := by decide +kernel
theorem dX1_isPlaceAlike_78 : decode cX1_isPlaceAlike 78 = .ok (.aload_n 0, 1) := by decide +kernel
theorem dX1_isPlaceAlike_79 : decode cX1_isPlaceAlike 79 = .ok (.getfield 28, 3) := by decide +kernel
theorem dX1_isPlaceAlike_82 : decode cX1_isPlaceAlike 82 = .ok (.iload_n 3, 1) := by decide +kernel
theorem dX1_isPlaceAlike_83 : decode cX1_isPlaceAlike 83 = .ok (.iaload, 1) := by decide +kernel
theorem dX1_isPlaceAlike_84 : decode cX1_isPlaceAlike 84 = .ok (.aload_n 0, 1) := by decide +kernel
theorem dX1_isPlaceAlike_85 : decode cX1_isPlaceAlike 85 = .ok (.getfield 28, 3) := by decide +kernel
theorem dX1_isPlaceAlike_88 : decode cX1_isPlaceAlike 88 = .ok (.iload_n 1, 1) := by decide +kernel
theorem dX1_isPlaceAlike_89 : decode cX1_isPlaceAlike 89 = .ok (.iaload, 1) := by decide +kernel
theorem dX1_isPlaceAlike_90 : decode cX1_isPlaceAlike 90 = .ok (.if_icmp .ne 7, 3) := by decide +kernel
theorem dX1_isPlaceAlike_93 : decode cX1_isPlaceAlike 93 = .ok (.iconst 1, 1) := by decide +kernel
theorem dX1_isPlaceAlike_94 : decode cX1_isPlaceAlike 94 = .ok (.goto 4, 3) := by decide +kernel
theorem dX1_isPlaceAlike_97 : decode cX1_isPlaceAlike 97 = .ok (.iconst 0, 1) := by decide +kernel
theorem dX1_isPlaceAlike_98 : decode cX1_isPlaceAlike 98 = .ok (.if_icmp .ne 93, 3) := by decide +kernel
theorem dX1_isPlaceAlike_101 : decode cX1_isPlaceAlike 101 = .ok (.aload_n 0, 1) := by decide +kernel
theorem dX1_isPlaceAlike_102 : decode cX1_isPlaceAlike 102 = .ok (.aload_n 0, 1) := by decide +kernel
theorem dX1_isPlaceAlike_103 : decode cX1_isPlaceAlike 103 = .ok (.getfield 163, 3) := by decide +kernel
theorem dX1_isPlaceAlike_106 : decode cX1_isPlaceAlike 106 = .ok (.aload_n 0, 1) := by decide +kernel
theorem dX1_isPlaceAlike_107 : decode cX1_isPlaceAlike 107 = .ok (.getfield 25, 3) := by decide +kernel
theorem dX1_isPlaceAlike_110 : decode cX1_isPlaceAlike 110 = .ok (.iload_n 3, 1) := by decide +kernel
theorem dX1_isPlaceAlike_111 : decode cX1_isPlaceAlike 111 = .ok (.iaload, 1) := by decide +kernel
theorem dX1_isPlaceAlike_112 : decode cX1_isPlaceAlike 112 = .ok (.aload_n 0, 1) := by decide +kernel
theorem dX1_isPlaceAlike_113 : decode cX1_isPlaceAlike 113 = .ok (.getfield 25, 3) := by decide +kernel
theorem dX1_isPlaceAlike_116 : decode cX1_isPlaceAlike 116 = .ok (.iload_n 1, 1) := by decide +kernel
theorem dX1_isPlaceAlike_117 : decode cX1_isPlaceAlike 117 = .ok (.iaload, 1) := by decide +kernel
theorem dX1_isPlaceAlike_118 : decode cX1_isPlaceAlike 118 = .ok (.invokevirtual 152, 3) := by decide +kernel
theorem dX1_isPlaceAlike_121 : decode cX1_isPlaceAlike 121 = .ok (.aload_n 0, 1) := by decide +kernel
theorem dX1_isPlaceAlike_122 : decode cX1_isPlaceAlike 122 = .ok (.aload_n 0, 1) := by decide +kernel
theorem dX1_isPlaceAlike_123 : decode cX1_isPlaceAlike 123 = .ok (.getfield 166, 3) := by decide +kernel
theorem dX1_isPlaceAlike_126 : decode cX1_isPlaceAlike 126 = .ok (.aload_n 0, 1) := by decide +kernel
theorem dX1_isPlaceAlike_127 : decode cX1_isPlaceAlike 127 = .ok (.getfield 28, 3) := by decide +kernel
theorem dX1_isPlaceAlike_130 : decode cX1_isPlaceAlike 130 = .ok (.iload_n 3, 1) := by decide +kernel
theorem dX1_isPlaceAlike_131 : decode cX1_isPlaceAlike 131 = .ok (.iaload, 1) := by decide +kernel
theorem dX1_isPlaceAlike_132 : decode cX1_isPlaceAlike 132 = .ok (.aload_n 0, 1) := by decide +kernel
theorem dX1_isPlaceAlike_133 : decode cX1_isPlaceAlike 133 = .ok (.getfield 28, 3) := by decide +kernel
theorem dX1_isPlaceAlike_136 : decode cX1_isPlaceAlike 136 = .ok (.iload_n 1, 1) := by decide +kernel
theorem dX1_isPlaceAlike_137 : decode cX1_isPlaceAlike 137 = .ok (.iaload, 1) := by decide +kernel
theorem dX1_isPlaceAlike_138 : decode cX1_isPlaceAlike 138 = .ok (.invokevirtual 152, 3) := by decide +kernel
theorem dX1_isPlaceAlike_141 : decode cX1_isPlaceAlike 141 = .ok (.if_icmp .ne 50, 3) := by decide +kernel
theorem dX1_isPlaceAlike_144 : decode cX1_isPlaceAlike 144 = .ok (.aload_n 0, 1) := by decide +kernel
theorem dX1_isPlaceAlike_145 : decode cX1_isPlaceAlike 145 = .ok (.aload_n 0, 1) := by decide +kernel
theorem dX1_isPlaceAlike_146 : decode cX1_isPlaceAlike 146 = .ok (.getfield 163, 3) := by decide +kernel
theorem dX1_isPlaceAlike_149 : decode cX1_isPlaceAlike 149 = .ok (.aload_n 0, 1) := by decide +kernel
theorem dX1_isPlaceAlike_150 : decode cX1_isPlaceAlike 150 = .ok (.getfield 25, 3) := by decide +kernel
theorem dX1_isPlaceAlike_153 : decode cX1_isPlaceAlike 153 = .ok (.iload_n 1, 1) := by decide +kernel
theorem dX1_isPlaceAlike_154 : decode cX1_isPlaceAlike 154 = .ok (.iaload, 1) := by decide +kernel
theorem dX1_isPlaceAlike_155 : decode cX1_isPlaceAlike 155 = .ok (.aload_n 0, 1) := by decide +kernel
theorem dX1_isPlaceAlike_156 : decode cX1_isPlaceAlike 156 = .ok (.getfield 25, 3) := by decide +kernel
theorem dX1_isPlaceAlike_159 : decode cX1_isPlaceAlike 159 = .ok (.iload_n 3, 1) := by decide +kernel
theorem dX1_isPlaceAlike_160 : decode cX1_isPlaceAlike 160 = .ok (.iaload, 1) := by decide +kernel
theorem dX1_isPlaceAlike_161 : decode cX1_isPlaceAlike 161 = .ok (.invokevirtual 152, 3) := by decide +kernel
theorem dX1_isPlaceAlike_164 : decode cX1_isPlaceAlike 164 = .ok (.aload_n 0, 1) := by decide +kernel
theorem dX1_isPlaceAlike_165 : decode cX1_isPlaceAlike 165 = .ok (.aload_n 0, 1) := by decide +kernel
theorem dX1_isPlaceAlike_166 : decode cX1_isPlaceAlike 166 = .ok (.getfield 166, 3) := by decide +kernel
theorem dX1_isPlaceAlike_169 : decode cX1_isPlaceAlike 169 = .ok (.aload_n 0, 1) := by decide +kernel
theorem dX1_isPlaceAlike_170 : decode cX1_isPlaceAlike 170 = .ok (.getfield 28, 3) := by decide +kernel
theorem dX1_isPlaceAlike_173 : decode cX1_isPlaceAlike 173 = .ok (.iload_n 1, 1) := by decide +kernel
theorem dX1_isPlaceAlike_174 : decode cX1_isPlaceAlike 174 = .ok (.iaload, 1) := by decide +kernel
theorem dX1_isPlaceAlike_175 : decode cX1_isPlaceAlike 175 = .ok (.aload_n 0, 1) := by decide +kernel
theorem dX1_isPlaceAlike_176 : decode cX1_isPlaceAlike 176 = .ok (.getfield 28, 3) := by decide +kernel
theorem dX1_isPlaceAlike_179 : decode cX1_isPlaceAlike 179 = .ok (.iload_n 3, 1) := by decide +kernel
theorem dX1_isPlaceAlike_180 : decode cX1_isPlaceAlike 180 = .ok (.iaload, 1) := by decide +kernel
theorem dX1_isPlaceAlike_181 : decode cX1_isPlaceAlike 181 = .ok (.invokevirtual 152, 3) := by decide +kernel
theorem dX1_isPlaceAlike_184 : decode cX1_isPlaceAlike 184 = .ok (.if_icmp .ne 7, 3) := by decide +kernel
theorem dX1_isPlaceAlike_187 : decode cX1_isPlaceAlike 187 = .ok (.iconst 1, 1) := by decide +kernel
theorem dX1_isPlaceAlike_188 : decode cX1_isPlaceAlike 188 = .ok (.goto 4, 3) := by decide +kernel
theorem dX1_isPlaceAlike_191 : decode cX1_isPlaceAlike 191 = .ok (.iconst 0, 1) := by decide +kernel
theorem dX1_isPlaceAlike_192 : decode cX1_isPlaceAlike 192 = .ok (.istore_n 2, 1) := by decide +kernel
theorem dX1_isPlaceAlike_193 : decode cX1_isPlaceAlike 193 = .ok (.iinc 3 1, 3) := by decide +kernel
theorem dX1_isPlaceAlike_196 : decode cX1_isPlaceAlike 196 = .ok (.goto (-147), 3) := by decide +kernel
theorem dX1_isPlaceAlike_199 : decode cX1_isPlaceAlike 199 = .ok (.iload_n 2, 1) := by decide +kernel
theorem dX1_isPlaceAlike_200 : decode cX1_isPlaceAlike 200 = .ok (.ireturn, 1) := by decide +kernel
noncomputable def C_X1_isPlaceAlike_L49 (l : Launch) (δ : Dl) : Seg (l, δ, yX1_isPlaceAlike, 1, (some .boolean), cX1_isPlaceAlike, 4) 49 199 :=
  seq (p := 49) (q := 50) (r := 199) (p_iload_n 3 dX1_isPlaceAlike_49) (seq (p := 50) (q := 51) (r := 199) (p_iload_n 1 dX1_isPlaceAlike_50) (seq (p := 51) (q := 54) (r := 199) (p_icmp_gt 199 dX1_isPlaceAlike_51 (by decide)) (seq (p := 54) (q := 55) (r := 199) (p_iload_n 2 dX1_isPlaceAlike_54) (seq (p := 55) (q := 58) (r := 199) (p_if_eq 199 dX1_isPlaceAlike_55 (by decide)) (seq (p := 58) (q := 59) (r := 199) (p_aload_n 0 dX1_isPlaceAlike_58) (seq (p := 59) (q := 62) (r := 199) (p_get [(1, 8)] (alL1 fl_X1_25_1) dX1_isPlaceAlike_59) (seq (p := 62) (q := 63) (r := 199) (p_iload_n 3 dX1_isPlaceAlike_62) (seq (p := 63) (q := 64) (r := 199) (p_iald dX1_isPlaceAlike_63) (seq (p := 64) (q := 65) (r := 199) (p_aload_n 0 dX1_isPlaceAlike_64) (seq (p := 65) (q := 68) (r := 199) (p_get [(1, 8)] (alL1 fl_X1_25_1) dX1_isPlaceAlike_65) (seq (p := 68) (q := 69) (r := 199) (p_iload_n 1 dX1_isPlaceAlike_68) (seq (p := 69) (q := 70) (r := 199) (p_iald dX1_isPlaceAlike_69) (seq (p := 70) (q := 78) (r := 199) (blk (seq (p := 70) (q := 77) (r := 78) (blk (seq (p := 70) (q := 73) (r := 77) (p_icmp_ne 77 dX1_isPlaceAlike_70 (by decide)) (seq (p := 73) (q := 74) (r := 77) (p_iconst 1 dX1_isPlaceAlike_73) (seq (p := 74) (q := 77) (r := 77) (p_goto 78 dX1_isPlaceAlike_74 (by decide)) done)))) (seq (p := 77) (q := 78) (r := 78) (p_iconst 0 dX1_isPlaceAlike_77) done))) (seq (p := 78) (q := 79) (r := 199) (p_aload_n 0 dX1_isPlaceAlike_78) (seq (p := 79) (q := 82) (r := 199) (p_get [(1, 9)] (alL1 fl_X1_28_1) dX1_isPlaceAlike_79) (seq (p := 82) (q := 83) (r := 199) (p_iload_n 3 dX1_isPlaceAlike_82) (seq (p := 83) (q := 84) (r := 199) (p_iald dX1_isPlaceAlike_83) (seq (p := 84) (q := 85) (r := 199) (p_aload_n 0 dX1_isPlaceAlike_84) (seq (p := 85) (q := 88) (r := 199) (p_get [(1, 9)] (alL1 fl_X1_28_1) dX1_isPlaceAlike_85) (seq (p := 88) (q := 89) (r := 199) (p_iload_n 1 dX1_isPlaceAlike_88) (seq (p := 89) (q := 90) (r := 199) (p_iald dX1_isPlaceAlike_89) (seq (p := 90) (q := 98) (r := 199) (blk (seq (p := 90) (q := 97) (r := 98) (blk (seq (p := 90) (q := 93) (r := 97) (p_icmp_ne 97 dX1_isPlaceAlike_90 (by decide)) (seq (p := 93) (q := 94) (r := 97) (p_iconst 1 dX1_isPlaceAlike_93) (seq (p := 94) (q := 97) (r := 97) (p_goto 98 dX1_isPlaceAlike_94 (by decide)) done)))) (seq (p := 97) (q := 98) (r := 98) (p_iconst 0 dX1_isPlaceAlike_97) done))) (seq (p := 98) (q := 192) (r := 199) (blk (seq (p := 98) (q := 191) (r := 192) (blk (seq (p := 98) (q := 101) (r := 191) (p_icmp_ne 191 dX1_isPlaceAlike_98 (by decide)) (seq (p := 101) (q := 102) (r := 191) (p_aload_n 0 dX1_isPlaceAlike_101) (seq (p := 102) (q := 103) (r := 191) (p_aload_n 0 dX1_isPlaceAlike_102) (seq (p := 103) (q := 106) (r := 191) (p_get [(1, 5)] (alL1 fl_X1_163_1) dX1_isPlaceAlike_103) (seq (p := 106) (q := 107) (r := 191) (p_aload_n 0 dX1_isPlaceAlike_106) (seq (p := 107) (q := 110) (r := 191) (p_get [(1, 8)] (alL1 fl_X1_25_1) dX1_isPlaceAlike_107) (seq (p := 110) (q := 111) (r := 191) (p_iload_n 3 dX1_isPlaceAlike_110) (seq (p := 111) (q := 112) (r := 191) (p_iald dX1_isPlaceAlike_111) (seq (p := 112) (q := 113) (r := 191) (p_aload_n 0 dX1_isPlaceAlike_112) (seq (p := 113) (q := 116) (r := 191) (p_get [(1, 8)] (alL1 fl_X1_25_1) dX1_isPlaceAlike_113) (seq (p := 116) (q := 117) (r := 191) (p_iload_n 1 dX1_isPlaceAlike_116) (seq (p := 117) (q := 118) (r := 191) (p_iald dX1_isPlaceAlike_117) (seq (p := 118) (q := 121) (r := 191) (p_callV 1 cv_X1_152 hcR1 (M_X1_isTied l δ) (Nat.le_of_ble_eq_true rfl) dX1_isPlaceAlike_118) (seq (p := 121) (q := 122) (r := 191) (p_aload_n 0 dX1_isPlaceAlike_121) (seq (p := 122) (q := 123) (r := 191) (p_aload_n 0 dX1_isPlaceAlike_122) (seq (p := 123) (q := 126) (r := 191) (p_get [(1, 6)] (alL1 fl_X1_166_1) dX1_isPlaceAlike_123) (seq (p := 126) (q := 127) (r := 191) (p_aload_n 0 dX1_isPlaceAlike_126) (seq (p := 127) (q := 130) (r := 191) (p_get [(1, 9)] (alL1 fl_X1_28_1) dX1_isPlaceAlike_127) (seq (p := 130) (q := 131) (r := 191) (p_iload_n 3 dX1_isPlaceAlike_130) (seq (p := 131) (q := 132) (r := 191) (p_iald dX1_isPlaceAlike_131) (seq (p := 132) (q := 133) (r := 191) (p_aload_n 0 dX1_isPlaceAlike_132) (seq (p := 133) (q := 136) (r := 191) (p_get [(1, 9)] (alL1 fl_X1_28_1) dX1_isPlaceAlike_133) (seq (p := 136) (q := 137) (r := 191) (p_iload_n 1 dX1_isPlaceAlike_136) (seq (p := 137) (q := 138) (r := 191) (p_iald dX1_isPlaceAlike_137) (seq (p := 138) (q := 141) (r := 191) (p_callV 1 cv_X1_152 hcR1 (M_X1_isTied l δ) (Nat.le_of_ble_eq_true rfl) dX1_isPlaceAlike_138) (seq (p := 141) (q := 144) (r := 191) (p_icmp_ne 191 dX1_isPlaceAlike_141 (by decide)) (seq (p := 144) (q := 145) (r := 191) (p_aload_n 0 dX1_isPlaceAlike_144) (seq (p := 145) (q := 146) (r := 191) (p_aload_n 0 dX1_isPlaceAlike_145) (seq (p := 146) (q := 149) (r := 191) (p_get [(1, 5)] (alL1 fl_X1_163_1) dX1_isPlaceAlike_146) (seq (p := 149) (q := 150) (r := 191) (p_aload_n 0 dX1_isPlaceAlike_149) (seq (p := 150) (q := 153) (r := 191) (p_get [(1, 8)] (alL1 fl_X1_25_1) dX1_isPlaceAlike_150) (seq (p := 153) (q := 154) (r := 191) (p_iload_n 1 dX1_isPlaceAlike_153) (seq (p := 154) (q := 155) (r := 191) (p_iald dX1_isPlaceAlike_154) (seq (p := 155) (q := 156) (r := 191) (p_aload_n 0 dX1_isPlaceAlike_155) (seq (p := 156) (q := 159) (r := 191) (p_get [(1, 8)] (alL1 fl_X1_25_1) dX1_isPlaceAlike_156) (seq (p := 159) (q := 160) (r := 191) (p_iload_n 3 dX1_isPlaceAlike_159) (seq (p := 160) (q := 161) (r := 191) (p_iald dX1_isPlaceAlike_160) (seq (p := 161) (q := 164) (r := 191) (p_callV 1 cv_X1_152 hcR1 (M_X1_isTied l δ) (Nat.le_of_ble_eq_true rfl) dX1_isPlaceAlike_161) (seq (p := 164) (q := 165) (r := 191) (p_aload_n 0 dX1_isPlaceAlike_164) (seq (p := 165) (q := 166) (r := 191) (p_aload_n 0 dX1_isPlaceAlike_165) (seq (p := 166) (q := 169) (r := 191) (p_get [(1, 6)] (alL1 fl_X1_166_1) dX1_isPlaceAlike_166) (seq (p := 169) (q := 170) (r := 191) (p_aload_n 0 dX1_isPlaceAlike_169) (seq (p := 170) (q := 173) (r := 191) (p_get [(1, 9)] (alL1 fl_X1_28_1) dX1_isPlaceAlike_170) (seq (p := 173) (q := 174) (r := 191) (p_iload_n 1 dX1_isPlaceAlike_173) (seq (p := 174) (q := 175) (r := 191) (p_iald dX1_isPlaceAlike_174) (seq (p := 175) (q := 176) (r := 191) (p_aload_n 0 dX1_isPlaceAlike_175) (seq (p := 176) (q := 179) (r := 191) (p_get [(1, 9)] (alL1 fl_X1_28_1) dX1_isPlaceAlike_176) (seq (p := 179) (q := 180) (r := 191) (p_iload_n 3 dX1_isPlaceAlike_179) (seq (p := 180) (q := 181) (r := 191) (p_iald dX1_isPlaceAlike_180) (seq (p := 181) (q := 184) (r := 191) (p_callV 1 cv_X1_152 hcR1 (M_X1_isTied l δ) (Nat.le_of_ble_eq_true rfl) dX1_isPlaceAlike_181) (seq (p := 184) (q := 187) (r := 191) (p_icmp_ne 191 dX1_isPlaceAlike_184 (by decide)) (seq (p := 187) (q := 188) (r := 191) (p_iconst 1 dX1_isPlaceAlike_187) (seq (p := 188) (q := 191) (r := 191) (p_goto 192 dX1_isPlaceAlike_188 (by decide)) done)))))))))))))))))))))))))))))))))))))))))))))))))))))) (seq (p := 191) (q := 192) (r := 192) (p_iconst 0 dX1_isPlaceAlike_191) done))) (seq (p := 192) (q := 193) (r := 199) (p_istore_n 2 dX1_isPlaceAlike_192 (Nat.le_of_ble_eq_true rfl)) (seq (p := 193) (q := 196) (r := 199) (p_iinc 3 1 dX1_isPlaceAlike_193 (Nat.le_of_ble_eq_true rfl)) (seq (p := 196) (q := 196) (r := 199) (er [true, true, true, true]) (seq (p := 196) (q := 199) (r := 199) (p_goto 49 dX1_isPlaceAlike_196 (by decide)) done)))))))))))))))))))))))))))
noncomputable def B_X1_isPlaceAlike_L49 (l : Launch) (δ : Dl) : Seg (l, δ, yX1_isPlaceAlike, 1, (some .boolean), cX1_isPlaceAlike, 4) 49 199 := C_X1_isPlaceAlike_L49 l δ
theorem L_X1_isPlaceAlike_49 {l : Launch} {δ : Dl} {st : Stk} {L : Lc} {s : St} : (B_X1_isPlaceAlike_L49 l δ).1 st L s = (C_X1_isPlaceAlike_L49 l δ).1 st L s := nrfl rfl
noncomputable def B_X1_isPlaceAlike (l : Launch) (δ : Dl) : Seg (l, δ, yX1_isPlaceAlike, 1, (some .boolean), cX1_isPlaceAlike, 4) 0 201 :=
  seq (p := 0) (q := 1) (r := 201) (p_aload_n 0 dX1_isPlaceAlike_0) (seq (p := 1) (q := 4) (r := 201) (p_get [(1, 1)] (alL1 fl_X1_13_1) dX1_isPlaceAlike_1) (seq (p := 4) (q := 6) (r := 201) (p_bipush 6 dX1_isPlaceAlike_4 (by decide)) (seq (p := 6) (q := 7) (r := 201) (p_aload_n 0 dX1_isPlaceAlike_6) (seq (p := 7) (q := 10) (r := 201) (p_get [(1, 5)] (alL1 fl_X1_163_1) dX1_isPlaceAlike_7) (seq (p := 10) (q := 11) (r := 201) (p_imul dX1_isPlaceAlike_10) (seq (p := 11) (q := 12) (r := 201) (p_aload_n 0 dX1_isPlaceAlike_11) (seq (p := 12) (q := 15) (r := 201) (p_get [(1, 8)] (alL1 fl_X1_25_1) dX1_isPlaceAlike_12) (seq (p := 15) (q := 16) (r := 201) (p_iload_n 1 dX1_isPlaceAlike_15) (seq (p := 16) (q := 17) (r := 201) (p_iald dX1_isPlaceAlike_16) (seq (p := 17) (q := 18) (r := 201) (p_iadd dX1_isPlaceAlike_17) (seq (p := 18) (q := 19) (r := 201) (p_iald dX1_isPlaceAlike_18) (seq (p := 19) (q := 20) (r := 201) (p_aload_n 0 dX1_isPlaceAlike_19) (seq (p := 20) (q := 23) (r := 201) (p_get [(1, 1)] (alL1 fl_X1_13_1) dX1_isPlaceAlike_20) (seq (p := 23) (q := 25) (r := 201) (p_bipush 6 dX1_isPlaceAlike_23 (by decide)) (seq (p := 25) (q := 26) (r := 201) (p_aload_n 0 dX1_isPlaceAlike_25) (seq (p := 26) (q := 29) (r := 201) (p_get [(1, 6)] (alL1 fl_X1_166_1) dX1_isPlaceAlike_26) (seq (p := 29) (q := 30) (r := 201) (p_imul dX1_isPlaceAlike_29) (seq (p := 30) (q := 31) (r := 201) (p_aload_n 0 dX1_isPlaceAlike_30) (seq (p := 31) (q := 34) (r := 201) (p_get [(1, 9)] (alL1 fl_X1_28_1) dX1_isPlaceAlike_31) (seq (p := 34) (q := 35) (r := 201) (p_iload_n 1 dX1_isPlaceAlike_34) (seq (p := 35) (q := 36) (r := 201) (p_iald dX1_isPlaceAlike_35) (seq (p := 36) (q := 37) (r := 201) (p_iadd dX1_isPlaceAlike_36) (seq (p := 37) (q := 38) (r := 201) (p_iald dX1_isPlaceAlike_37) (seq (p := 38) (q := 46) (r := 201) (blk (seq (p := 38) (q := 45) (r := 46) (blk (seq (p := 38) (q := 41) (r := 45) (p_icmp_ne 45 dX1_isPlaceAlike_38 (by decide)) (seq (p := 41) (q := 42) (r := 45) (p_iconst 1 dX1_isPlaceAlike_41) (seq (p := 42) (q := 45) (r := 45) (p_goto 46 dX1_isPlaceAlike_42 (by decide)) done)))) (seq (p := 45) (q := 46) (r := 46) (p_iconst 0 dX1_isPlaceAlike_45) done))) (seq (p := 46) (q := 47) (r := 201) (p_istore_n 2 dX1_isPlaceAlike_46 (Nat.le_of_ble_eq_true rfl)) (seq (p := 47) (q := 48) (r := 201) (p_iconst 0 dX1_isPlaceAlike_47) (seq (p := 48) (q := 49) (r := 201) (p_istore_n 3 dX1_isPlaceAlike_48 (Nat.le_of_ble_eq_true rfl)) (seq (p := 49) (q := 199) (r := 201) (blk (seq (p := 49) (q := 49) (r := 199) (er [true, true, true, true]) (seq (p := 49) (q := 199) (r := 199) (lp (B_X1_isPlaceAlike_L49 l δ)) done))) (seq (p := 199) (q := 200) (r := 201) (p_iload_n 2 dX1_isPlaceAlike_199) (seq (p := 200) (q := 201) (r := 201) (p_zreturn dX1_isPlaceAlike_200 rfl) done))))))))))))))))))))))))))))))
noncomputable def M_X1_isPlaceAlike (l : Launch) (δ : Dl) : Mth l δ yX1_isPlaceAlike cX1_isPlaceAlike 4 (some .boolean) 1 := mk (B_X1_isPlaceAlike l δ) (by decide)
theorem N_X1_isPlaceAlike {l : Launch} {δ : Dl} {o : Nat} {a1 : Int} {s : St} : (M_X1_isPlaceAlike l δ).1 [.inr (.inr (some o)), .inl a1] s = bres ((B_X1_isPlaceAlike l δ).1 [] [some (.inr (.inr (some o))), some (.inl a1), none, none] s) := (mk_eq (hy := by decide) rfl).trans (nrfl rfl)
theorem dX1_areAlike_0 : decode cX1_areAlike 0 = .ok (.iconst 1, 1) := by decide +kernel
theorem dX1_areAlike_1 : decode cX1_areAlike 1 = .ok (.istore_n 1, 1) := by decide +kernel
theorem dX1_areAlike_2 : decode cX1_areAlike 2 = .ok (.iconst 0, 1) := by decide +kernel
theorem dX1_areAlike_3 : decode cX1_areAlike 3 = .ok (.istore_n 2, 1) := by decide +kernel
theorem dX1_areAlike_4 : decode cX1_areAlike 4 = .ok (.iload_n 2, 1) := by decide +kernel
theorem dX1_areAlike_5 : decode cX1_areAlike 5 = .ok (.aload_n 0, 1) := by decide +kernel
theorem dX1_areAlike_6 : decode cX1_areAlike 6 = .ok (.getfield 169, 3) := by decide +kernel
theorem dX1_areAlike_9 : decode cX1_areAlike 9 = .ok (.if_icmp .ge 19, 3) := by decide +kernel
theorem dX1_areAlike_12 : decode cX1_areAlike 12 = .ok (.iload_n 1, 1) := by decide +kernel
theorem dX1_areAlike_13 : decode cX1_areAlike 13 = .ok (.ifCond .eq 15, 3) := by decide +kernel
theorem dX1_areAlike_16 : decode cX1_areAlike 16 = .ok (.aload_n 0, 1) := by decide +kernel
theorem dX1_areAlike_17 : decode cX1_areAlike 17 = .ok (.iload_n 2, 1) := by decide +kernel
theorem dX1_areAlike_18 : decode cX1_areAlike 18 = .ok (.invokevirtual 172, 3) := by decide +kernel
theorem dX1_areAlike_21 : decode cX1_areAlike 21 = .ok (.istore_n 1, 1) := by decide +kernel
theorem dX1_areAlike_22 : decode cX1_areAlike 22 = .ok (.iinc 2 1, 3) := by decide +kernel
theorem dX1_areAlike_25 : decode cX1_areAlike 25 = .ok (.goto (-21), 3) := by decide +kernel
theorem dX1_areAlike_28 : decode cX1_areAlike 28 = .ok (.iload_n 1, 1) := by decide +kernel
theorem dX1_areAlike_29 : decode cX1_areAlike 29 = .ok (.ireturn, 1) := by decide +kernel
noncomputable def C_X1_areAlike_L4 (l : Launch) (δ : Dl) : Seg (l, δ, yX1_areAlike, 2, (some .boolean), cX1_areAlike, 3) 4 28 :=
  seq (p := 4) (q := 5) (r := 28) (p_iload_n 2 dX1_areAlike_4) (seq (p := 5) (q := 6) (r := 28) (p_aload_n 0 dX1_areAlike_5) (seq (p := 6) (q := 9) (r := 28) (p_get [(1, 7)] (alL1 fl_X1_169_1) dX1_areAlike_6) (seq (p := 9) (q := 12) (r := 28) (p_icmp_ge 28 dX1_areAlike_9 (by decide)) (seq (p := 12) (q := 13) (r := 28) (p_iload_n 1 dX1_areAlike_12) (seq (p := 13) (q := 16) (r := 28) (p_if_eq 28 dX1_areAlike_13 (by decide)) (seq (p := 16) (q := 17) (r := 28) (p_aload_n 0 dX1_areAlike_16) (seq (p := 17) (q := 18) (r := 28) (p_iload_n 2 dX1_areAlike_17) (seq (p := 18) (q := 21) (r := 28) (p_callV 1 cv_X1_172 hcR1 (M_X1_isPlaceAlike l δ) (Nat.le_of_ble_eq_true rfl) dX1_areAlike_18) (seq (p := 21) (q := 22) (r := 28) (p_istore_n 1 dX1_areAlike_21 (Nat.le_of_ble_eq_true rfl)) (seq (p := 22) (q := 25) (r := 28) (p_iinc 2 1 dX1_areAlike_22 (Nat.le_of_ble_eq_true rfl)) (seq (p := 25) (q := 25) (r := 28) (er [true, true, true]) (seq (p := 25) (q := 28) (r := 28) (p_goto 4 dX1_areAlike_25 (by decide)) done))))))))))))
noncomputable def B_X1_areAlike_L4 (l : Launch) (δ : Dl) : Seg (l, δ, yX1_areAlike, 2, (some .boolean), cX1_areAlike, 3) 4 28 := C_X1_areAlike_L4 l δ
theorem L_X1_areAlike_4 {l : Launch} {δ : Dl} {st : Stk} {L : Lc} {s : St} : (B_X1_areAlike_L4 l δ).1 st L s = (C_X1_areAlike_L4 l δ).1 st L s := nrfl rfl
noncomputable def B_X1_areAlike (l : Launch) (δ : Dl) : Seg (l, δ, yX1_areAlike, 2, (some .boolean), cX1_areAlike, 3) 0 30 :=
  seq (p := 0) (q := 1) (r := 30) (p_iconst 1 dX1_areAlike_0) (seq (p := 1) (q := 2) (r := 30) (p_istore_n 1 dX1_areAlike_1 (Nat.le_of_ble_eq_true rfl)) (seq (p := 2) (q := 3) (r := 30) (p_iconst 0 dX1_areAlike_2) (seq (p := 3) (q := 4) (r := 30) (p_istore_n 2 dX1_areAlike_3 (Nat.le_of_ble_eq_true rfl)) (seq (p := 4) (q := 28) (r := 30) (blk (seq (p := 4) (q := 4) (r := 28) (er [true, true, true]) (seq (p := 4) (q := 28) (r := 28) (lp (B_X1_areAlike_L4 l δ)) done))) (seq (p := 28) (q := 29) (r := 30) (p_iload_n 1 dX1_areAlike_28) (seq (p := 29) (q := 30) (r := 30) (p_zreturn dX1_areAlike_29 rfl) done))))))
noncomputable def M_X1_areAlike (l : Launch) (δ : Dl) : Mth l δ yX1_areAlike cX1_areAlike 3 (some .boolean) 2 := mk (B_X1_areAlike l δ) (by decide)
theorem N_X1_areAlike {l : Launch} {δ : Dl} {o : Nat} {s : St} : (M_X1_areAlike l δ).1 [.inr (.inr (some o))] s = bres ((B_X1_areAlike l δ).1 [] [some (.inr (.inr (some o))), none, none] s) := (mk_eq (hy := by decide) rfl).trans (nrfl rfl)
theorem dX1_add_0 : decode cX1_add 0 = .ok (.aload_n 0, 1) := by decide +kernel
theorem dX1_add_1 : decode cX1_add 1 = .ok (.getfield 25, 3) := by decide +kernel
theorem dX1_add_4 : decode cX1_add 4 = .ok (.aload_n 0, 1) := by decide +kernel
theorem dX1_add_5 : decode cX1_add 5 = .ok (.getfield 169, 3) := by decide +kernel
theorem dX1_add_8 : decode cX1_add 8 = .ok (.iload_n 1, 1) := by decide +kernel
theorem dX1_add_9 : decode cX1_add 9 = .ok (.iastore, 1) := by decide +kernel
theorem dX1_add_10 : decode cX1_add 10 = .ok (.aload_n 0, 1) := by decide +kernel
theorem dX1_add_11 : decode cX1_add 11 = .ok (.getfield 28, 3) := by decide +kernel
theorem dX1_add_14 : decode cX1_add 14 = .ok (.aload_n 0, 1) := by decide +kernel
theorem dX1_add_15 : decode cX1_add 15 = .ok (.getfield 169, 3) := by decide +kernel
theorem dX1_add_18 : decode cX1_add 18 = .ok (.iload_n 2, 1) := by decide +kernel
theorem dX1_add_19 : decode cX1_add 19 = .ok (.iastore, 1) := by decide +kernel
theorem dX1_add_20 : decode cX1_add 20 = .ok (.aload_n 0, 1) := by decide +kernel
theorem dX1_add_21 : decode cX1_add 21 = .ok (.dup, 1) := by decide +kernel
theorem dX1_add_22 : decode cX1_add 22 = .ok (.getfield 169, 3) := by decide +kernel
theorem dX1_add_25 : decode cX1_add 25 = .ok (.iconst 1, 1) := by decide +kernel
theorem dX1_add_26 : decode cX1_add 26 = .ok (.iadd, 1) := by decide +kernel
theorem dX1_add_27 : decode cX1_add 27 = .ok (.putfield 169, 3) := by decide +kernel
theorem dX1_add_30 : decode cX1_add 30 = .ok (.return_, 1) := by decide +kernel
noncomputable def B_X1_add (l : Launch) (δ : Dl) : Seg (l, δ, yX1_add, 0, none, cX1_add, 3) 0 31 :=
  seq (p := 0) (q := 1) (r := 31) (p_aload_n 0 dX1_add_0) (seq (p := 1) (q := 4) (r := 31) (p_get [(1, 8)] (alL1 fl_X1_25_1) dX1_add_1) (seq (p := 4) (q := 5) (r := 31) (p_aload_n 0 dX1_add_4) (seq (p := 5) (q := 8) (r := 31) (p_get [(1, 7)] (alL1 fl_X1_169_1) dX1_add_5) (seq (p := 8) (q := 9) (r := 31) (p_iload_n 1 dX1_add_8) (seq (p := 9) (q := 10) (r := 31) (p_iast dX1_add_9) (seq (p := 10) (q := 11) (r := 31) (p_aload_n 0 dX1_add_10) (seq (p := 11) (q := 14) (r := 31) (p_get [(1, 9)] (alL1 fl_X1_28_1) dX1_add_11) (seq (p := 14) (q := 15) (r := 31) (p_aload_n 0 dX1_add_14) (seq (p := 15) (q := 18) (r := 31) (p_get [(1, 7)] (alL1 fl_X1_169_1) dX1_add_15) (seq (p := 18) (q := 19) (r := 31) (p_iload_n 2 dX1_add_18) (seq (p := 19) (q := 20) (r := 31) (p_iast dX1_add_19) (seq (p := 20) (q := 21) (r := 31) (p_aload_n 0 dX1_add_20) (seq (p := 21) (q := 22) (r := 31) (p_dup dX1_add_21) (seq (p := 22) (q := 25) (r := 31) (p_get [(1, 7)] (alL1 fl_X1_169_1) dX1_add_22) (seq (p := 25) (q := 26) (r := 31) (p_iconst 1 dX1_add_25) (seq (p := 26) (q := 27) (r := 31) (p_iadd dX1_add_26) (seq (p := 27) (q := 30) (r := 31) (p_put [(1, 7)] .int (alP1 fp_X1_169_1) dX1_add_27) (seq (p := 30) (q := 31) (r := 31) (p_return dX1_add_30 rfl) done))))))))))))))))))
noncomputable def M_X1_add (l : Launch) (δ : Dl) : Mth l δ yX1_add cX1_add 3 none 0 := mk (B_X1_add l δ) (by decide)
theorem N_X1_add {l : Launch} {δ : Dl} {o : Nat} {a1 : Int} {a2 : Int} {s : St} : (M_X1_add l δ).1 [.inr (.inr (some o)), .inl a1, .inl a2] s = bres ((B_X1_add l δ).1 [] [some (.inr (.inr (some o))), some (.inl a1), some (.inl a2)] s) := (mk_eq (hy := by decide) rfl).trans (nrfl rfl)
theorem dX1_addPick_0 : decode cX1_addPick 0 = .ok (.iload_n 1, 1) := by decide +kernel
theorem dX1_addPick_1 : decode cX1_addPick 1 = .ok (.ifCond .ne 12, 3) := by decide +kernel
theorem dX1_addPick_4 : decode cX1_addPick 4 = .ok (.aload_n 0, 1) := by decide +kernel
theorem dX1_addPick_5 : decode cX1_addPick 5 = .ok (.iload_n 2, 1) := by decide +kernel
theorem dX1_addPick_6 : decode cX1_addPick 6 = .ok (.iload_n 3, 1) := by decide +kernel
theorem dX1_addPick_7 : decode cX1_addPick 7 = .ok (.invokevirtual 175, 3) := by decide +kernel
theorem dX1_addPick_10 : decode cX1_addPick 10 = .ok (.goto 9, 3) := by decide +kernel
theorem dX1_addPick_13 : decode cX1_addPick 13 = .ok (.aload_n 0, 1) := by decide +kernel
theorem dX1_addPick_14 : decode cX1_addPick 14 = .ok (.iload_n 3, 1) := by decide +kernel
theorem dX1_addPick_15 : decode cX1_addPick 15 = .ok (.iload_n 2, 1) := by decide +kernel
theorem dX1_addPick_16 : decode cX1_addPick 16 = .ok (.invokevirtual 175, 3) := by decide +kernel
theorem dX1_addPick_19 : decode cX1_addPick 19 = .ok (.return_, 1) := by decide +kernel
noncomputable def B_X1_addPick (l : Launch) (δ : Dl) : Seg (l, δ, yX1_addPick, 1, none, cX1_addPick, 4) 0 20 :=
  seq (p := 0) (q := 1) (r := 20) (p_iload_n 1 dX1_addPick_0) (seq (p := 1) (q := 19) (r := 20) (blk (seq (p := 1) (q := 13) (r := 19) (blk (seq (p := 1) (q := 4) (r := 13) (p_if_ne 13 dX1_addPick_1 (by decide)) (seq (p := 4) (q := 5) (r := 13) (p_aload_n 0 dX1_addPick_4) (seq (p := 5) (q := 6) (r := 13) (p_iload_n 2 dX1_addPick_5) (seq (p := 6) (q := 7) (r := 13) (p_iload_n 3 dX1_addPick_6) (seq (p := 7) (q := 10) (r := 13) (p_callV 1 cv_X1_175 hcR1 (M_X1_add l δ) (Nat.le_of_ble_eq_true rfl) dX1_addPick_7) (seq (p := 10) (q := 13) (r := 13) (p_goto 19 dX1_addPick_10 (by decide)) done))))))) (seq (p := 13) (q := 14) (r := 19) (p_aload_n 0 dX1_addPick_13) (seq (p := 14) (q := 15) (r := 19) (p_iload_n 3 dX1_addPick_14) (seq (p := 15) (q := 16) (r := 19) (p_iload_n 2 dX1_addPick_15) (seq (p := 16) (q := 19) (r := 19) (p_callV 1 cv_X1_175 hcR1 (M_X1_add l δ) (Nat.le_of_ble_eq_true rfl) dX1_addPick_16) done)))))) (seq (p := 19) (q := 20) (r := 20) (p_return dX1_addPick_19 rfl) done))
noncomputable def M_X1_addPick (l : Launch) (δ : Dl) : Mth l δ yX1_addPick cX1_addPick 4 none 1 := mk (B_X1_addPick l δ) (by decide)
theorem N_X1_addPick {l : Launch} {δ : Dl} {o : Nat} {a1 : Int} {a2 : Int} {a3 : Int} {s : St} : (M_X1_addPick l δ).1 [.inr (.inr (some o)), .inl a1, .inl a2, .inl a3] s = bres ((B_X1_addPick l δ).1 [] [some (.inr (.inr (some o))), some (.inl a1), some (.inl a2), some (.inl a3)] s) := (mk_eq (hy := by decide) rfl).trans (nrfl rfl)
theorem dX1_manyOf_0 : decode cX1_manyOf 0 = .ok (.aload_n 0, 1) := by decide +kernel
theorem dX1_manyOf_1 : decode cX1_manyOf 1 = .ok (.getfield 7, 3) := by decide +kernel
theorem dX1_manyOf_4 : decode cX1_manyOf 4 = .ok (.iload_n 1, 1) := by decide +kernel
theorem dX1_manyOf_5 : decode cX1_manyOf 5 = .ok (.ifCond .ne 10, 3) := by decide +kernel
theorem dX1_manyOf_8 : decode cX1_manyOf 8 = .ok (.aload_n 0, 1) := by decide +kernel
theorem dX1_manyOf_9 : decode cX1_manyOf 9 = .ok (.getfield 163, 3) := by decide +kernel
theorem dX1_manyOf_12 : decode cX1_manyOf 12 = .ok (.goto 7, 3) := by decide +kernel
theorem dX1_manyOf_15 : decode cX1_manyOf 15 = .ok (.aload_n 0, 1) := by decide +kernel
theorem dX1_manyOf_16 : decode cX1_manyOf 16 = .ok (.getfield 166, 3) := by decide +kernel
theorem dX1_manyOf_19 : decode cX1_manyOf 19 = .ok (.iaload, 1) := by decide +kernel
theorem dX1_manyOf_20 : decode cX1_manyOf 20 = .ok (.ireturn, 1) := by decide +kernel
noncomputable def B_X1_manyOf (l : Launch) (δ : Dl) : Seg (l, δ, yX1_manyOf, 0, (some .int), cX1_manyOf, 2) 0 21 :=
  seq (p := 0) (q := 1) (r := 21) (p_aload_n 0 dX1_manyOf_0) (seq (p := 1) (q := 4) (r := 21) (p_get [(1, 0)] (alL1 fl_X1_7_1) dX1_manyOf_1) (seq (p := 4) (q := 5) (r := 21) (p_iload_n 1 dX1_manyOf_4) (seq (p := 5) (q := 19) (r := 21) (blk (seq (p := 5) (q := 15) (r := 19) (blk (seq (p := 5) (q := 8) (r := 15) (p_if_ne 15 dX1_manyOf_5 (by decide)) (seq (p := 8) (q := 9) (r := 15) (p_aload_n 0 dX1_manyOf_8) (seq (p := 9) (q := 12) (r := 15) (p_get [(1, 5)] (alL1 fl_X1_163_1) dX1_manyOf_9) (seq (p := 12) (q := 15) (r := 15) (p_goto 19 dX1_manyOf_12 (by decide)) done))))) (seq (p := 15) (q := 16) (r := 19) (p_aload_n 0 dX1_manyOf_15) (seq (p := 16) (q := 19) (r := 19) (p_get [(1, 6)] (alL1 fl_X1_166_1) dX1_manyOf_16) done)))) (seq (p := 19) (q := 20) (r := 21) (p_iald dX1_manyOf_19) (seq (p := 20) (q := 21) (r := 21) (p_ireturn dX1_manyOf_20 rfl) done)))))
noncomputable def M_X1_manyOf (l : Launch) (δ : Dl) : Mth l δ yX1_manyOf cX1_manyOf 2 (some .int) 0 := mk (B_X1_manyOf l δ) (by decide)
theorem N_X1_manyOf {l : Launch} {δ : Dl} {o : Nat} {a1 : Int} {s : St} : (M_X1_manyOf l δ).1 [.inr (.inr (some o)), .inl a1] s = bres ((B_X1_manyOf l δ).1 [] [some (.inr (.inr (some o))), some (.inl a1)] s) := (mk_eq (hy := by decide) rfl).trans (nrfl rfl)
theorem dX1_keeps1_0 : decode cX1_keeps1 0 = .ok (.aload_n 0, 1) := by decide +kernel
theorem dX1_keeps1_1 : decode cX1_keeps1 1 = .ok (.invokevirtual 178, 3) := by decide +kernel
theorem dX1_keeps1_4 : decode cX1_keeps1 4 = .ok (.istore_n 1, 1) := by decide +kernel
theorem dX1_keeps1_5 : decode cX1_keeps1 5 = .ok (.iconst 0, 1) := by decide +kernel
theorem dX1_keeps1_6 : decode cX1_keeps1 6 = .ok (.istore_n 2, 1) := by decide +kernel
theorem dX1_keeps1_7 : decode cX1_keeps1 7 = .ok (.iload_n 2, 1) := by decide +kernel
theorem dX1_keeps1_8 : decode cX1_keeps1 8 = .ok (.iconst 2, 1) := by decide +kernel
theorem dX1_keeps1_9 : decode cX1_keeps1 9 = .ok (.if_icmp .ge 86, 3) := by decide +kernel
theorem dX1_keeps1_12 : decode cX1_keeps1 12 = .ok (.iconst 0, 1) := by decide +kernel
theorem dX1_keeps1_13 : decode cX1_keeps1 13 = .ok (.istore_n 3, 1) := by decide +kernel
theorem dX1_keeps1_14 : decode cX1_keeps1 14 = .ok (.iload_n 3, 1) := by decide +kernel
theorem dX1_keeps1_15 : decode cX1_keeps1 15 = .ok (.aload_n 0, 1) := by decide +kernel
theorem dX1_keeps1_16 : decode cX1_keeps1 16 = .ok (.iload_n 2, 1) := by decide +kernel
theorem dX1_keeps1_17 : decode cX1_keeps1 17 = .ok (.invokevirtual 182, 3) := by decide +kernel
theorem dX1_keeps1_20 : decode cX1_keeps1 20 = .ok (.if_icmp .ge 69, 3) := by decide +kernel
theorem dX1_keeps1_23 : decode cX1_keeps1 23 = .ok (.iload_n 1, 1) := by decide +kernel
theorem dX1_keeps1_24 : decode cX1_keeps1 24 = .ok (.ifCond .eq 65, 3) := by decide +kernel
theorem dX1_keeps1_27 : decode cX1_keeps1 27 = .ok (.iconst 0, 1) := by decide +kernel
theorem dX1_keeps1_28 : decode cX1_keeps1 28 = .ok (.istore_n 1, 1) := by decide +kernel
theorem dX1_keeps1_29 : decode cX1_keeps1 29 = .ok (.iconst 0, 1) := by decide +kernel
theorem dX1_keeps1_30 : decode cX1_keeps1 30 = .ok (.istore 4, 2) := by decide +kernel
theorem dX1_keeps1_32 : decode cX1_keeps1 32 = .ok (.iload 4, 2) := by decide +kernel
theorem dX1_keeps1_34 : decode cX1_keeps1 34 = .ok (.aload_n 0, 1) := by decide +kernel
theorem dX1_keeps1_35 : decode cX1_keeps1 35 = .ok (.iconst 1, 1) := by decide +kernel
theorem dX1_keeps1_36 : decode cX1_keeps1 36 = .ok (.iload_n 2, 1) := by decide +kernel
theorem dX1_keeps1_37 : decode cX1_keeps1 37 = .ok (.isub, 1) := by decide +kernel
theorem dX1_keeps1_38 : decode cX1_keeps1 38 = .ok (.invokevirtual 182, 3) := by decide +kernel
theorem dX1_keeps1_41 : decode cX1_keeps1 41 = .ok (.if_icmp .ge 42, 3) := by decide +kernel
theorem dX1_keeps1_44 : decode cX1_keeps1 44 = .ok (.iload_n 1, 1) := by decide +kernel
theorem dX1_keeps1_45 : decode cX1_keeps1 45 = .ok (.ifCond .ne 38, 3) := by decide +kernel
theorem dX1_keeps1_48 : decode cX1_keeps1 48 = .ok (.aload_n 0, 1) := by decide +kernel
theorem dX1_keeps1_49 : decode cX1_keeps1 49 = .ok (.iload_n 2, 1) := by decide +kernel
theorem dX1_keeps1_50 : decode cX1_keeps1 50 = .ok (.iload_n 3, 1) := by decide +kernel
theorem dX1_keeps1_51 : decode cX1_keeps1 51 = .ok (.iload 4, 2) := by decide +kernel
theorem dX1_keeps1_53 : decode cX1_keeps1 53 = .ok (.invokevirtual 185, 3) := by decide +kernel
theorem dX1_keeps1_56 : decode cX1_keeps1 56 = .ok (.aload_n 0, 1) := by decide +kernel
theorem dX1_keeps1_57 : decode cX1_keeps1 57 = .ok (.aload_n 0, 1) := by decide +kernel
theorem dX1_keeps1_58 : decode cX1_keeps1 58 = .ok (.getfield 169, 3) := by decide +kernel
theorem dX1_keeps1_61 : decode cX1_keeps1 61 = .ok (.iconst 1, 1) := by decide +kernel
theorem dX1_keeps1_62 : decode cX1_keeps1 62 = .ok (.isub, 1) := by decide +kernel
theorem dX1_keeps1_63 : decode cX1_keeps1 63 = .ok (.invokevirtual 172, 3) := by decide +kernel
theorem dX1_keeps1_66 : decode cX1_keeps1 66 = .ok (.istore_n 1, 1) := by decide +kernel
theorem dX1_keeps1_67 : decode cX1_keeps1 67 = .ok (.aload_n 0, 1) := by decide +kernel
theorem dX1_keeps1_68 : decode cX1_keeps1 68 = .ok (.dup, 1) := by decide +kernel
theorem dX1_keeps1_69 : decode cX1_keeps1 69 = .ok (.getfield 169, 3) := by decide +kernel
theorem dX1_keeps1_72 : decode cX1_keeps1 72 = .ok (.iconst 1, 1) := by decide +kernel
theorem dX1_keeps1_73 : decode cX1_keeps1 73 = .ok (.isub, 1) := by decide +kernel
theorem dX1_keeps1_74 : decode cX1_keeps1 74 = .ok (.putfield 169, 3) := by decide +kernel
theorem dX1_keeps1_77 : decode cX1_keeps1 77 = .ok (.iinc 4 1, 3) := by decide +kernel
theorem dX1_keeps1_80 : decode cX1_keeps1 80 = .ok (.goto (-48), 3) := by decide +kernel
theorem dX1_keeps1_83 : decode cX1_keeps1 83 = .ok (.iinc 3 1, 3) := by decide +kernel
theorem dX1_keeps1_86 : decode cX1_keeps1 86 = .ok (.goto (-72), 3) := by decide +kernel
theorem dX1_keeps1_89 : decode cX1_keeps1 89 = .ok (.iinc 2 1, 3) := by decide +kernel
theorem dX1_keeps1_92 : decode cX1_keeps1 92 = .ok (.goto (-85), 3) := by decide +kernel
theorem dX1_keeps1_95 : decode cX1_keeps1 95 = .ok (.iload_n 1, 1) := by decide +kernel
theorem dX1_keeps1_96 : decode cX1_keeps1 96 = .ok (.ireturn, 1) := by decide +kernel
noncomputable def C_X1_keeps1_L32 (l : Launch) (δ : Dl) : Seg (l, δ, yX1_keeps1, 3, (some .boolean), cX1_keeps1, 5) 32 83 :=
  seq (p := 32) (q := 34) (r := 83) (p_iload 4 dX1_keeps1_32) (seq (p := 34) (q := 35) (r := 83) (p_aload_n 0 dX1_keeps1_34) (seq (p := 35) (q := 36) (r := 83) (p_iconst 1 dX1_keeps1_35) (seq (p := 36) (q := 37) (r := 83) (p_iload_n 2 dX1_keeps1_36) (seq (p := 37) (q := 38) (r := 83) (p_isub dX1_keeps1_37) (seq (p := 38) (q := 41) (r := 83) (p_callV 1 cv_X1_182 hcR1 (M_X1_manyOf l δ) (Nat.le_of_ble_eq_true rfl) dX1_keeps1_38) (seq (p := 41) (q := 44) (r := 83) (p_icmp_ge 83 dX1_keeps1_41 (by decide)) (seq (p := 44) (q := 45) (r := 83) (p_iload_n 1 dX1_keeps1_44) (seq (p := 45) (q := 48) (r := 83) (p_if_ne 83 dX1_keeps1_45 (by decide)) (seq (p := 48) (q := 49) (r := 83) (p_aload_n 0 dX1_keeps1_48) (seq (p := 49) (q := 50) (r := 83) (p_iload_n 2 dX1_keeps1_49) (seq (p := 50) (q := 51) (r := 83) (p_iload_n 3 dX1_keeps1_50) (seq (p := 51) (q := 53) (r := 83) (p_iload 4 dX1_keeps1_51) (seq (p := 53) (q := 56) (r := 83) (p_callV 1 cv_X1_185 hcR1 (M_X1_addPick l δ) (Nat.le_of_ble_eq_true rfl) dX1_keeps1_53) (seq (p := 56) (q := 57) (r := 83) (p_aload_n 0 dX1_keeps1_56) (seq (p := 57) (q := 58) (r := 83) (p_aload_n 0 dX1_keeps1_57) (seq (p := 58) (q := 61) (r := 83) (p_get [(1, 7)] (alL1 fl_X1_169_1) dX1_keeps1_58) (seq (p := 61) (q := 62) (r := 83) (p_iconst 1 dX1_keeps1_61) (seq (p := 62) (q := 63) (r := 83) (p_isub dX1_keeps1_62) (seq (p := 63) (q := 66) (r := 83) (p_callV 1 cv_X1_172 hcR1 (M_X1_isPlaceAlike l δ) (Nat.le_of_ble_eq_true rfl) dX1_keeps1_63) (seq (p := 66) (q := 67) (r := 83) (p_istore_n 1 dX1_keeps1_66 (Nat.le_of_ble_eq_true rfl)) (seq (p := 67) (q := 68) (r := 83) (p_aload_n 0 dX1_keeps1_67) (seq (p := 68) (q := 69) (r := 83) (p_dup dX1_keeps1_68) (seq (p := 69) (q := 72) (r := 83) (p_get [(1, 7)] (alL1 fl_X1_169_1) dX1_keeps1_69) (seq (p := 72) (q := 73) (r := 83) (p_iconst 1 dX1_keeps1_72) (seq (p := 73) (q := 74) (r := 83) (p_isub dX1_keeps1_73) (seq (p := 74) (q := 77) (r := 83) (p_put [(1, 7)] .int (alP1 fp_X1_169_1) dX1_keeps1_74) (seq (p := 77) (q := 80) (r := 83) (p_iinc 4 1 dX1_keeps1_77 (Nat.le_of_ble_eq_true rfl)) (seq (p := 80) (q := 80) (r := 83) (er [true, true, true, true, true]) (seq (p := 80) (q := 83) (r := 83) (p_goto 32 dX1_keeps1_80 (by decide)) done)))))))))))))))))))))))))))))
noncomputable def B_X1_keeps1_L32 (l : Launch) (δ : Dl) : Seg (l, δ, yX1_keeps1, 3, (some .boolean), cX1_keeps1, 5) 32 83 := C_X1_keeps1_L32 l δ
theorem L_X1_keeps1_32 {l : Launch} {δ : Dl} {st : Stk} {L : Lc} {s : St} : (B_X1_keeps1_L32 l δ).1 st L s = (C_X1_keeps1_L32 l δ).1 st L s := nrfl rfl
noncomputable def C_X1_keeps1_L14 (l : Launch) (δ : Dl) : Seg (l, δ, yX1_keeps1, 3, (some .boolean), cX1_keeps1, 5) 14 89 :=
  seq (p := 14) (q := 15) (r := 89) (p_iload_n 3 dX1_keeps1_14) (seq (p := 15) (q := 16) (r := 89) (p_aload_n 0 dX1_keeps1_15) (seq (p := 16) (q := 17) (r := 89) (p_iload_n 2 dX1_keeps1_16) (seq (p := 17) (q := 20) (r := 89) (p_callV 1 cv_X1_182 hcR1 (M_X1_manyOf l δ) (Nat.le_of_ble_eq_true rfl) dX1_keeps1_17) (seq (p := 20) (q := 23) (r := 89) (p_icmp_ge 89 dX1_keeps1_20 (by decide)) (seq (p := 23) (q := 24) (r := 89) (p_iload_n 1 dX1_keeps1_23) (seq (p := 24) (q := 27) (r := 89) (p_if_eq 89 dX1_keeps1_24 (by decide)) (seq (p := 27) (q := 28) (r := 89) (p_iconst 0 dX1_keeps1_27) (seq (p := 28) (q := 29) (r := 89) (p_istore_n 1 dX1_keeps1_28 (Nat.le_of_ble_eq_true rfl)) (seq (p := 29) (q := 30) (r := 89) (p_iconst 0 dX1_keeps1_29) (seq (p := 30) (q := 32) (r := 89) (p_istore 4 dX1_keeps1_30 (Nat.le_of_ble_eq_true rfl)) (seq (p := 32) (q := 83) (r := 89) (blk (seq (p := 32) (q := 32) (r := 83) (er [true, true, true, true, true]) (seq (p := 32) (q := 83) (r := 83) (lp (B_X1_keeps1_L32 l δ)) done))) (seq (p := 83) (q := 86) (r := 89) (p_iinc 3 1 dX1_keeps1_83 (Nat.le_of_ble_eq_true rfl)) (seq (p := 86) (q := 86) (r := 89) (er [true, true, true, true, false]) (seq (p := 86) (q := 89) (r := 89) (p_goto 14 dX1_keeps1_86 (by decide)) done))))))))))))))
noncomputable def B_X1_keeps1_L14 (l : Launch) (δ : Dl) : Seg (l, δ, yX1_keeps1, 3, (some .boolean), cX1_keeps1, 5) 14 89 := C_X1_keeps1_L14 l δ
theorem L_X1_keeps1_14 {l : Launch} {δ : Dl} {st : Stk} {L : Lc} {s : St} : (B_X1_keeps1_L14 l δ).1 st L s = (C_X1_keeps1_L14 l δ).1 st L s := nrfl rfl
noncomputable def C_X1_keeps1_L7 (l : Launch) (δ : Dl) : Seg (l, δ, yX1_keeps1, 3, (some .boolean), cX1_keeps1, 5) 7 95 :=
  seq (p := 7) (q := 8) (r := 95) (p_iload_n 2 dX1_keeps1_7) (seq (p := 8) (q := 9) (r := 95) (p_iconst 2 dX1_keeps1_8) (seq (p := 9) (q := 12) (r := 95) (p_icmp_ge 95 dX1_keeps1_9 (by decide)) (seq (p := 12) (q := 13) (r := 95) (p_iconst 0 dX1_keeps1_12) (seq (p := 13) (q := 14) (r := 95) (p_istore_n 3 dX1_keeps1_13 (Nat.le_of_ble_eq_true rfl)) (seq (p := 14) (q := 89) (r := 95) (blk (seq (p := 14) (q := 14) (r := 89) (er [true, true, true, true, false]) (seq (p := 14) (q := 89) (r := 89) (lp (B_X1_keeps1_L14 l δ)) done))) (seq (p := 89) (q := 92) (r := 95) (p_iinc 2 1 dX1_keeps1_89 (Nat.le_of_ble_eq_true rfl)) (seq (p := 92) (q := 92) (r := 95) (er [true, true, true, false, false]) (seq (p := 92) (q := 95) (r := 95) (p_goto 7 dX1_keeps1_92 (by decide)) done))))))))
noncomputable def B_X1_keeps1_L7 (l : Launch) (δ : Dl) : Seg (l, δ, yX1_keeps1, 3, (some .boolean), cX1_keeps1, 5) 7 95 := C_X1_keeps1_L7 l δ
theorem L_X1_keeps1_7 {l : Launch} {δ : Dl} {st : Stk} {L : Lc} {s : St} : (B_X1_keeps1_L7 l δ).1 st L s = (C_X1_keeps1_L7 l δ).1 st L s := nrfl rfl
noncomputable def B_X1_keeps1 (l : Launch) (δ : Dl) : Seg (l, δ, yX1_keeps1, 3, (some .boolean), cX1_keeps1, 5) 0 97 :=
  seq (p := 0) (q := 1) (r := 97) (p_aload_n 0 dX1_keeps1_0) (seq (p := 1) (q := 4) (r := 97) (p_callV 1 cv_X1_178 hcR1 (M_X1_areAlike l δ) (Nat.le_of_ble_eq_true rfl) dX1_keeps1_1) (seq (p := 4) (q := 5) (r := 97) (p_istore_n 1 dX1_keeps1_4 (Nat.le_of_ble_eq_true rfl)) (seq (p := 5) (q := 6) (r := 97) (p_iconst 0 dX1_keeps1_5) (seq (p := 6) (q := 7) (r := 97) (p_istore_n 2 dX1_keeps1_6 (Nat.le_of_ble_eq_true rfl)) (seq (p := 7) (q := 95) (r := 97) (blk (seq (p := 7) (q := 7) (r := 95) (er [true, true, true, false, false]) (seq (p := 7) (q := 95) (r := 95) (lp (B_X1_keeps1_L7 l δ)) done))) (seq (p := 95) (q := 96) (r := 97) (p_iload_n 1 dX1_keeps1_95) (seq (p := 96) (q := 97) (r := 97) (p_zreturn dX1_keeps1_96 rfl) done)))))))
noncomputable def M_X1_keeps1 (l : Launch) (δ : Dl) : Mth l δ yX1_keeps1 cX1_keeps1 5 (some .boolean) 3 := mk (B_X1_keeps1 l δ) (by decide)
theorem N_X1_keeps1 {l : Launch} {δ : Dl} {o : Nat} {s : St} : (M_X1_keeps1 l δ).1 [.inr (.inr (some o))] s = bres ((B_X1_keeps1 l δ).1 [] [some (.inr (.inr (some o))), none, none, none, none] s) := (mk_eq (hy := by decide) rfl).trans (nrfl rfl)

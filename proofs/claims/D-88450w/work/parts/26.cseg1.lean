/-! ===== the component's methods as segments, 1 ===== -/
set_option maxRecDepth 100000
def M_no {l : Launch} {δ : Dl} {y : MethodName} {b : ByteArray} {n : Nat} {ret : Option FieldType} {d : Nat} : Mth l δ y b n ret d := ⟨fun _ _ => none, fun av s r s' h => by cases h⟩
theorem dX4_init_0 : decode cX4_init 0 = .ok (.aload_n 0, 1) := by decide +kernel
theorem dX4_init_1 : decode cX4_init 1 = .ok (.invokespecial 3, 3) := by decide +kernel
theorem dX4_init_4 : decode cX4_init 4 = .ok (.aload_n 0, 1) := by decide +kernel
theorem dX4_init_5 : decode cX4_init 5 = .ok (.bipush 9, 2) := by decide +kernel
theorem dX4_init_7 : decode cX4_init 7 = .ok (.newarray .int, 2) := by decide +kernel
theorem dX4_init_9 : decode cX4_init 9 = .ok (.putfield 9, 3) := by decide +kernel
theorem dX4_init_12 : decode cX4_init 12 = .ok (.aload_n 0, 1) := by decide +kernel
theorem dX4_init_13 : decode cX4_init 13 = .ok (.aload_n 1, 1) := by decide +kernel
theorem dX4_init_14 : decode cX4_init 14 = .ok (.putfield 15, 3) := by decide +kernel
theorem dX4_init_17 : decode cX4_init 17 = .ok (.aload_n 0, 1) := by decide +kernel
theorem dX4_init_18 : decode cX4_init 18 = .ok (.iload_n 2, 1) := by decide +kernel
theorem dX4_init_19 : decode cX4_init 19 = .ok (.putfield 19, 3) := by decide +kernel
theorem dX4_init_22 : decode cX4_init 22 = .ok (.return_, 1) := by decide +kernel
noncomputable def B_X4_init (l : Launch) (δ : Dl) : Seg (l, δ, yX4_init, 1, none, cX4_init, 3) 0 23 :=
  seq (p := 0) (q := 1) (r := 23) (p_aload_n 0 dX4_init_0) (seq (p := 1) (q := 4) (r := 23) (p_objI (Nat.le_of_ble_eq_true rfl) (okc q416) (okc q122) (okc q123) dX4_init_1) (seq (p := 4) (q := 5) (r := 23) (p_aload_n 0 dX4_init_4) (seq (p := 5) (q := 7) (r := 23) (p_bipush 9 dX4_init_5 (by decide)) (seq (p := 7) (q := 9) (r := 23) (p_newa 0 (Nat.le_of_ble_eq_true rfl) dX4_init_7) (seq (p := 9) (q := 12) (r := 23) (p_putF [(4, 5)] (.array .int) (alF1 ff_X4_9_4) rfl dX4_init_9) (seq (p := 12) (q := 13) (r := 23) (p_aload_n 0 dX4_init_12) (seq (p := 13) (q := 14) (r := 23) (p_aload_n 1 dX4_init_13) (seq (p := 14) (q := 17) (r := 23) (p_putF [(4, 0)] (.array .byte) (alF1 ff_X4_15_4) rfl dX4_init_14) (seq (p := 17) (q := 18) (r := 23) (p_aload_n 0 dX4_init_17) (seq (p := 18) (q := 19) (r := 23) (p_iload_n 2 dX4_init_18) (seq (p := 19) (q := 22) (r := 23) (p_putF [(4, 1)] .int (alF1 ff_X4_19_4) rfl dX4_init_19) (seq (p := 22) (q := 23) (r := 23) (p_return dX4_init_22 rfl) done))))))))))))
noncomputable def M_X4_init (l : Launch) (δ : Dl) : Mth l δ yX4_init cX4_init 3 none 1 := mk (B_X4_init l δ) (by decide)
theorem N_X4_init {l : Launch} {δ : Dl} {o : Nat} {a1 : Option Nat} {a2 : Int} {s : St} : (M_X4_init l δ).1 [.inr (.inr (some o)), .inr (.inr a1), .inl a2] s = bres ((B_X4_init l δ).1 [] [some (.inr (.inr (some o))), some (.inr (.inr a1)), some (.inl a2)] s) := (mk_eq (hy := by decide) rfl).trans (nrfl rfl)
theorem dJ5_newLength_0 : decode cJ5_newLength 0 = .ok (.iload_n 0, 1) := by decide +kernel
theorem dJ5_newLength_1 : decode cJ5_newLength 1 = .ok (.iload_n 1, 1) := by decide +kernel
theorem dJ5_newLength_2 : decode cJ5_newLength 2 = .ok (.iload_n 2, 1) := by decide +kernel
theorem dJ5_newLength_3 : decode cJ5_newLength 3 = .ok (.invokestatic 194, 3) := by decide +kernel
theorem dJ5_newLength_6 : decode cJ5_newLength 6 = .ok (.iadd, 1) := by decide +kernel
theorem dJ5_newLength_7 : decode cJ5_newLength 7 = .ok (.istore_n 3, 1) := by decide +kernel
theorem dJ5_newLength_8 : decode cJ5_newLength 8 = .ok (.iconst 0, 1) := by decide +kernel
theorem dJ5_newLength_9 : decode cJ5_newLength 9 = .ok (.iload_n 3, 1) := by decide +kernel
theorem dJ5_newLength_10 : decode cJ5_newLength 10 = .ok (.if_icmp .ge 11, 3) := by decide +kernel
theorem dJ5_newLength_13 : decode cJ5_newLength 13 = .ok (.iload_n 3, 1) := by decide +kernel
theorem dJ5_newLength_14 : decode cJ5_newLength 14 = .ok (.ldc 200, 2) := by decide +kernel
theorem dJ5_newLength_16 : decode cJ5_newLength 16 = .ok (.if_icmp .gt 5, 3) := by decide +kernel
theorem dJ5_newLength_19 : decode cJ5_newLength 19 = .ok (.iload_n 3, 1) := by decide +kernel
theorem dJ5_newLength_20 : decode cJ5_newLength 20 = .ok (.ireturn, 1) := by decide +kernel
theorem dJ5_newLength_21 : decode cJ5_newLength 21 = .ok (.iload_n 0, 1) := by decide +kernel
theorem dJ5_newLength_22 : decode cJ5_newLength 22 = .ok (.iload_n 1, 1) := by decide +kernel
theorem dJ5_newLength_23 : decode cJ5_newLength 23 = .ok (.invokestatic 201, 3) := by decide +kernel
theorem dJ5_newLength_26 : decode cJ5_newLength 26 = .ok (.ireturn, 1) := by decide +kernel
noncomputable def B_J5_newLength (l : Launch) (δ : Dl) : Seg (l, δ, yJ5_newLength, 1, (some .int), cJ5_newLength, 4) 0 27 :=
  seq (p := 0) (q := 1) (r := 27) (p_iload_n 0 dJ5_newLength_0) (seq (p := 1) (q := 2) (r := 27) (p_iload_n 1 dJ5_newLength_1) (seq (p := 2) (q := 3) (r := 27) (p_iload_n 2 dJ5_newLength_2) (seq (p := 3) (q := 6) (r := 27) (p_mmax (Nat.le_of_ble_eq_true rfl) (okc q609) (okc q610) (okc q103) (okc q611) dJ5_newLength_3) (seq (p := 6) (q := 7) (r := 27) (p_iadd dJ5_newLength_6) (seq (p := 7) (q := 8) (r := 27) (p_istore_n 3 dJ5_newLength_7 (Nat.le_of_ble_eq_true rfl)) (seq (p := 8) (q := 9) (r := 27) (p_iconst 0 dJ5_newLength_8) (seq (p := 9) (q := 10) (r := 27) (p_iload_n 3 dJ5_newLength_9) (seq (p := 10) (q := 21) (r := 27) (blk (seq (p := 10) (q := 13) (r := 21) (p_icmp_ge 21 dJ5_newLength_10 (by decide)) (seq (p := 13) (q := 14) (r := 21) (p_iload_n 3 dJ5_newLength_13) (seq (p := 14) (q := 16) (r := 21) (p_ldc 2147483639 (okc q612) (by decide) dJ5_newLength_14) (seq (p := 16) (q := 19) (r := 21) (p_icmp_gt 21 dJ5_newLength_16 (by decide)) (seq (p := 19) (q := 20) (r := 21) (p_iload_n 3 dJ5_newLength_19) (seq (p := 20) (q := 21) (r := 21) (p_ireturn dJ5_newLength_20 rfl) done))))))) (seq (p := 21) (q := 22) (r := 27) (p_iload_n 0 dJ5_newLength_21) (seq (p := 22) (q := 23) (r := 27) (p_iload_n 1 dJ5_newLength_22) (seq (p := 23) (q := 26) (r := 27) (p_dead 26 (Nat.le_of_ble_eq_true rfl)) (seq (p := 26) (q := 27) (r := 27) (p_ireturn dJ5_newLength_26 rfl) done))))))))))))
noncomputable def M_J5_newLength (l : Launch) (δ : Dl) : Mth l δ yJ5_newLength cJ5_newLength 4 (some .int) 1 := mk (B_J5_newLength l δ) (by decide)
theorem N_J5_newLength {l : Launch} {δ : Dl} {a1 : Int} {a2 : Int} {a3 : Int} {s : St} : (M_J5_newLength l δ).1 [.inl a1, .inl a2, .inl a3] s = bres ((B_J5_newLength l δ).1 [] [some (.inl a1), some (.inl a2), some (.inl a3), none] s) := (mk_eq (hy := by decide) rfl).trans (nrfl rfl)
theorem dJ7_copyOf_2_0 : decode cJ7_copyOf_2 0 = .ok (.aload_n 2, 1) := by decide +kernel
theorem dJ7_copyOf_2_1 : decode cJ7_copyOf_2 1 = .ok (.ldc 110, 2) := by decide +kernel
theorem dJ7_copyOf_2_3 : decode cJ7_copyOf_2 3 = .ok (.if_acmp .ne 10, 3) := by decide +kernel
theorem dJ7_copyOf_2_6 : decode cJ7_copyOf_2 6 = .ok (.iload_n 1, 1) := by decide +kernel
theorem dJ7_copyOf_2_7 : decode cJ7_copyOf_2 7 = .ok (.anewarray 2, 3) := by decide +kernel
theorem dJ7_copyOf_2_10 : decode cJ7_copyOf_2 10 = .ok (.goto 14, 3) := by decide +kernel
theorem dJ7_copyOf_2_13 : decode cJ7_copyOf_2 13 = .ok (.aload_n 2, 1) := by decide +kernel
theorem dJ7_copyOf_2_14 : decode cJ7_copyOf_2 14 = .ok (.invokevirtual 90, 3) := by decide +kernel
theorem dJ7_copyOf_2_17 : decode cJ7_copyOf_2 17 = .ok (.iload_n 1, 1) := by decide +kernel
theorem dJ7_copyOf_2_18 : decode cJ7_copyOf_2 18 = .ok (.invokestatic 95, 3) := by decide +kernel
theorem dJ7_copyOf_2_21 : decode cJ7_copyOf_2 21 = .ok (.checkcast 110, 3) := by decide +kernel
theorem dJ7_copyOf_2_24 : decode cJ7_copyOf_2 24 = .ok (.astore_n 3, 1) := by decide +kernel
theorem dJ7_copyOf_2_25 : decode cJ7_copyOf_2 25 = .ok (.aload_n 0, 1) := by decide +kernel
theorem dJ7_copyOf_2_26 : decode cJ7_copyOf_2 26 = .ok (.iconst 0, 1) := by decide +kernel
theorem dJ7_copyOf_2_27 : decode cJ7_copyOf_2 27 = .ok (.aload_n 3, 1) := by decide +kernel
theorem dJ7_copyOf_2_28 : decode cJ7_copyOf_2 28 = .ok (.iconst 0, 1) := by decide +kernel
theorem dJ7_copyOf_2_29 : decode cJ7_copyOf_2 29 = .ok (.aload_n 0, 1) := by decide +kernel
theorem dJ7_copyOf_2_30 : decode cJ7_copyOf_2 30 = .ok (.arraylength, 1) := by decide +kernel
theorem dJ7_copyOf_2_31 : decode cJ7_copyOf_2 31 = .ok (.iload_n 1, 1) := by decide +kernel
theorem dJ7_copyOf_2_32 : decode cJ7_copyOf_2 32 = .ok (.invokestatic 304, 3) := by decide +kernel
theorem dJ7_copyOf_2_35 : decode cJ7_copyOf_2 35 = .ok (.invokestatic 150, 3) := by decide +kernel
theorem dJ7_copyOf_2_38 : decode cJ7_copyOf_2 38 = .ok (.aload_n 3, 1) := by decide +kernel
theorem dJ7_copyOf_2_39 : decode cJ7_copyOf_2 39 = .ok (.areturn, 1) := by decide +kernel
noncomputable def B_J7_copyOf_2 (l : Launch) (δ : Dl) : Seg (l, δ, yJ7_copyOf_2, 1, (some (.array (FieldType.object "java/lang/Object"))), cJ7_copyOf_2, 4) 0 40 :=
  seq (p := 0) (q := 1) (r := 40) (p_aload_n 2 dJ7_copyOf_2_0) (seq (p := 1) (q := 3) (r := 40) (p_ldcM (okc q643) dJ7_copyOf_2_1) (seq (p := 3) (q := 24) (r := 40) (blk (seq (p := 3) (q := 13) (r := 24) (blk (seq (p := 3) (q := 6) (r := 13) (p_acmp_ne 13 dJ7_copyOf_2_3 (by decide)) (seq (p := 6) (q := 7) (r := 13) (p_iload_n 1 dJ7_copyOf_2_6) (seq (p := 7) (q := 10) (r := 13) (p_anewa 5 (Or.inr rfl) (okc q645) dJ7_copyOf_2_7) (seq (p := 10) (q := 13) (r := 13) (p_goto 24 dJ7_copyOf_2_10 (by decide)) done))))) (seq (p := 13) (q := 14) (r := 24) (p_aload_n 2 dJ7_copyOf_2_13) (seq (p := 14) (q := 17) (r := 24) (p_dead 17 (Nat.le_of_ble_eq_true rfl)) (seq (p := 17) (q := 18) (r := 24) (p_iload_n 1 dJ7_copyOf_2_17) (seq (p := 18) (q := 21) (r := 24) (p_dead 21 (Nat.le_of_ble_eq_true rfl)) (seq (p := 21) (q := 24) (r := 24) (p_dead 24 (Nat.le_of_ble_eq_true rfl)) done))))))) (seq (p := 24) (q := 25) (r := 40) (p_astore_n 3 dJ7_copyOf_2_24 (Nat.le_of_ble_eq_true rfl)) (seq (p := 25) (q := 26) (r := 40) (p_aload_n 0 dJ7_copyOf_2_25) (seq (p := 26) (q := 27) (r := 40) (p_iconst 0 dJ7_copyOf_2_26) (seq (p := 27) (q := 28) (r := 40) (p_aload_n 3 dJ7_copyOf_2_27) (seq (p := 28) (q := 29) (r := 40) (p_iconst 0 dJ7_copyOf_2_28) (seq (p := 29) (q := 30) (r := 40) (p_aload_n 0 dJ7_copyOf_2_29) (seq (p := 30) (q := 31) (r := 40) (p_alenE dJ7_copyOf_2_30) (seq (p := 31) (q := 32) (r := 40) (p_iload_n 1 dJ7_copyOf_2_31) (seq (p := 32) (q := 35) (r := 40) (p_mmin (Nat.le_of_ble_eq_true rfl) (okc q646) (okc q647) (okc q103) (okc q648) dJ7_copyOf_2_32) (seq (p := 35) (q := 38) (r := 40) (p_copyO (Nat.le_of_ble_eq_true rfl) (okc q649) (okc q651) (okc q650) (okc q105) dJ7_copyOf_2_35) (seq (p := 38) (q := 39) (r := 40) (p_aload_n 3 dJ7_copyOf_2_38) (seq (p := 39) (q := 40) (r := 40) (p_areturn dJ7_copyOf_2_39 rfl (Or.inr ⟨_, rfl⟩)) done))))))))))))))
noncomputable def M_J7_copyOf_2 (l : Launch) (δ : Dl) : Mth l δ yJ7_copyOf_2 cJ7_copyOf_2 4 (some (.array (FieldType.object "java/lang/Object"))) 1 := mk (B_J7_copyOf_2 l δ) (by decide)
theorem N_J7_copyOf_2 {l : Launch} {δ : Dl} {a1 : Option Nat} {a2 : Int} {a3 : Option Nat} {s : St} : (M_J7_copyOf_2 l δ).1 [.inr (.inr a1), .inl a2, .inr (.inr a3)] s = bres ((B_J7_copyOf_2 l δ).1 [] [some (.inr (.inr a1)), some (.inl a2), some (.inr (.inr a3)), none] s) := (mk_eq (hy := by decide) rfl).trans (nrfl rfl)
theorem dJ7_copyOf_0 : decode cJ7_copyOf 0 = .ok (.aload_n 0, 1) := by decide +kernel
theorem dJ7_copyOf_1 : decode cJ7_copyOf 1 = .ok (.iload_n 1, 1) := by decide +kernel
theorem dJ7_copyOf_2 : decode cJ7_copyOf 2 = .ok (.aload_n 0, 1) := by decide +kernel
theorem dJ7_copyOf_3 : decode cJ7_copyOf 3 = .ok (.invokevirtual 86, 3) := by decide +kernel
theorem dJ7_copyOf_6 : decode cJ7_copyOf 6 = .ok (.invokestatic 300, 3) := by decide +kernel
theorem dJ7_copyOf_9 : decode cJ7_copyOf 9 = .ok (.areturn, 1) := by decide +kernel
noncomputable def B_J7_copyOf (l : Launch) (δ : Dl) : Seg (l, δ, yJ7_copyOf, 2, (some (.array (FieldType.object "java/lang/Object"))), cJ7_copyOf, 2) 0 10 :=
  seq (p := 0) (q := 1) (r := 10) (p_aload_n 0 dJ7_copyOf_0) (seq (p := 1) (q := 2) (r := 10) (p_iload_n 1 dJ7_copyOf_1) (seq (p := 2) (q := 3) (r := 10) (p_aload_n 0 dJ7_copyOf_2) (seq (p := 3) (q := 6) (r := 10) (p_getC (Nat.le_of_ble_eq_true rfl) (okc q619) (okc q1757) (okc q620) (okc q639) dJ7_copyOf_3) (seq (p := 6) (q := 9) (r := 10) (p_callG 3 _ (ok_S cs_J7_300 (M_J7_copyOf_2 l δ) (Nat.le_of_ble_eq_true rfl) dJ7_copyOf_6) (Nat.le_of_ble_eq_true rfl)) (seq (p := 9) (q := 10) (r := 10) (p_areturn dJ7_copyOf_9 rfl (Or.inr ⟨_, rfl⟩)) done)))))
noncomputable def M_J7_copyOf (l : Launch) (δ : Dl) : Mth l δ yJ7_copyOf cJ7_copyOf 2 (some (.array (FieldType.object "java/lang/Object"))) 2 := mk (B_J7_copyOf l δ) (by decide)
theorem N_J7_copyOf {l : Launch} {δ : Dl} {a1 : Option Nat} {a2 : Int} {s : St} : (M_J7_copyOf l δ).1 [.inr (.inr a1), .inl a2] s = bres ((B_J7_copyOf l δ).1 [] [some (.inr (.inr a1)), some (.inl a2)] s) := (mk_eq (hy := by decide) rfl).trans (nrfl rfl)
theorem dJ2_grow_2_0 : decode cJ2_grow_2 0 = .ok (.aload_n 0, 1) := by decide +kernel
theorem dJ2_grow_2_1 : decode cJ2_grow_2 1 = .ok (.getfield 9, 3) := by decide +kernel
theorem dJ2_grow_2_4 : decode cJ2_grow_2 4 = .ok (.arraylength, 1) := by decide +kernel
theorem dJ2_grow_2_5 : decode cJ2_grow_2 5 = .ok (.istore_n 2, 1) := by decide +kernel
theorem dJ2_grow_2_6 : decode cJ2_grow_2 6 = .ok (.iload_n 2, 1) := by decide +kernel
theorem dJ2_grow_2_7 : decode cJ2_grow_2 7 = .ok (.ifCond .gt 13, 3) := by decide +kernel
theorem dJ2_grow_2_10 : decode cJ2_grow_2 10 = .ok (.aload_n 0, 1) := by decide +kernel
theorem dJ2_grow_2_11 : decode cJ2_grow_2 11 = .ok (.getfield 9, 3) := by decide +kernel
theorem dJ2_grow_2_14 : decode cJ2_grow_2 14 = .ok (.getstatic 39, 3) := by decide +kernel
theorem dJ2_grow_2_17 : decode cJ2_grow_2 17 = .ok (.if_acmp .eq 28, 3) := by decide +kernel
theorem dJ2_grow_2_20 : decode cJ2_grow_2 20 = .ok (.iload_n 2, 1) := by decide +kernel
theorem dJ2_grow_2_21 : decode cJ2_grow_2 21 = .ok (.iload_n 1, 1) := by decide +kernel
theorem dJ2_grow_2_22 : decode cJ2_grow_2 22 = .ok (.iload_n 2, 1) := by decide +kernel
theorem dJ2_grow_2_23 : decode cJ2_grow_2 23 = .ok (.isub, 1) := by decide +kernel
theorem dJ2_grow_2_24 : decode cJ2_grow_2 24 = .ok (.iload_n 2, 1) := by decide +kernel
theorem dJ2_grow_2_25 : decode cJ2_grow_2 25 = .ok (.iconst 1, 1) := by decide +kernel
theorem dJ2_grow_2_26 : decode cJ2_grow_2 26 = .ok (.ishr, 1) := by decide +kernel
theorem dJ2_grow_2_27 : decode cJ2_grow_2 27 = .ok (.invokestatic 73, 3) := by decide +kernel
theorem dJ2_grow_2_30 : decode cJ2_grow_2 30 = .ok (.istore_n 3, 1) := by decide +kernel
theorem dJ2_grow_2_31 : decode cJ2_grow_2 31 = .ok (.aload_n 0, 1) := by decide +kernel
theorem dJ2_grow_2_32 : decode cJ2_grow_2 32 = .ok (.aload_n 0, 1) := by decide +kernel
theorem dJ2_grow_2_33 : decode cJ2_grow_2 33 = .ok (.getfield 9, 3) := by decide +kernel
theorem dJ2_grow_2_36 : decode cJ2_grow_2 36 = .ok (.iload_n 3, 1) := by decide +kernel
theorem dJ2_grow_2_37 : decode cJ2_grow_2 37 = .ok (.invokestatic 66, 3) := by decide +kernel
theorem dJ2_grow_2_40 : decode cJ2_grow_2 40 = .ok (.dup_x1, 1) := by decide +kernel
theorem dJ2_grow_2_41 : decode cJ2_grow_2 41 = .ok (.putfield 9, 3) := by decide +kernel
theorem dJ2_grow_2_44 : decode cJ2_grow_2 44 = .ok (.areturn, 1) := by decide +kernel
theorem dJ2_grow_2_45 : decode cJ2_grow_2 45 = .ok (.aload_n 0, 1) := by decide +kernel
theorem dJ2_grow_2_46 : decode cJ2_grow_2 46 = .ok (.bipush 10, 2) := by decide +kernel
theorem dJ2_grow_2_48 : decode cJ2_grow_2 48 = .ok (.iload_n 1, 1) := by decide +kernel
theorem dJ2_grow_2_49 : decode cJ2_grow_2 49 = .ok (.invokestatic 79, 3) := by decide +kernel
theorem dJ2_grow_2_52 : decode cJ2_grow_2 52 = .ok (.anewarray 7, 3) := by decide +kernel
theorem dJ2_grow_2_55 : decode cJ2_grow_2 55 = .ok (.dup_x1, 1) := by decide +kernel
theorem dJ2_grow_2_56 : decode cJ2_grow_2 56 = .ok (.putfield 9, 3) := by decide +kernel
theorem dJ2_grow_2_59 : decode cJ2_grow_2 59 = .ok (.areturn, 1) := by decide +kernel
noncomputable def B_J2_grow_2 (l : Launch) (δ : Dl) : Seg (l, δ, yJ2_grow_2, 3, (some (.array (FieldType.object "java/lang/Object"))), cJ2_grow_2, 4) 0 60 :=
  seq (p := 0) (q := 1) (r := 60) (p_aload_n 0 dJ2_grow_2_0) (seq (p := 1) (q := 4) (r := 60) (p_get [(16, 1)] (alL1 fl_J2_9_16) dJ2_grow_2_1) (seq (p := 4) (q := 5) (r := 60) (p_alenE dJ2_grow_2_4) (seq (p := 5) (q := 6) (r := 60) (p_istore_n 2 dJ2_grow_2_5 (Nat.le_of_ble_eq_true rfl)) (seq (p := 6) (q := 7) (r := 60) (p_iload_n 2 dJ2_grow_2_6) (seq (p := 7) (q := 45) (r := 60) (blk (seq (p := 7) (q := 20) (r := 45) (blk (seq (p := 7) (q := 10) (r := 20) (p_if_gt 20 dJ2_grow_2_7 (by decide)) (seq (p := 10) (q := 11) (r := 20) (p_aload_n 0 dJ2_grow_2_10) (seq (p := 11) (q := 14) (r := 20) (p_get [(16, 1)] (alL1 fl_J2_9_16) dJ2_grow_2_11) (seq (p := 14) (q := 17) (r := 20) (p_gets0 (okc q138) dJ2_grow_2_14) (seq (p := 17) (q := 20) (r := 20) (p_acmp_eq 45 dJ2_grow_2_17 (by decide)) done)))))) (seq (p := 20) (q := 21) (r := 45) (p_iload_n 2 dJ2_grow_2_20) (seq (p := 21) (q := 22) (r := 45) (p_iload_n 1 dJ2_grow_2_21) (seq (p := 22) (q := 23) (r := 45) (p_iload_n 2 dJ2_grow_2_22) (seq (p := 23) (q := 24) (r := 45) (p_isub dJ2_grow_2_23) (seq (p := 24) (q := 25) (r := 45) (p_iload_n 2 dJ2_grow_2_24) (seq (p := 25) (q := 26) (r := 45) (p_iconst 1 dJ2_grow_2_25) (seq (p := 26) (q := 27) (r := 45) (p_ishr dJ2_grow_2_26) (seq (p := 27) (q := 30) (r := 45) (p_callG 3 _ (ok_S cs_J2_73 (M_J5_newLength l δ) (Nat.le_of_ble_eq_true rfl) dJ2_grow_2_27) (Nat.le_of_ble_eq_true rfl)) (seq (p := 30) (q := 31) (r := 45) (p_istore_n 3 dJ2_grow_2_30 (Nat.le_of_ble_eq_true rfl)) (seq (p := 31) (q := 32) (r := 45) (p_aload_n 0 dJ2_grow_2_31) (seq (p := 32) (q := 33) (r := 45) (p_aload_n 0 dJ2_grow_2_32) (seq (p := 33) (q := 36) (r := 45) (p_get [(16, 1)] (alL1 fl_J2_9_16) dJ2_grow_2_33) (seq (p := 36) (q := 37) (r := 45) (p_iload_n 3 dJ2_grow_2_36) (seq (p := 37) (q := 40) (r := 45) (p_callG 2 _ (ok_S cs_J2_66 (M_J7_copyOf l δ) (Nat.le_of_ble_eq_true rfl) dJ2_grow_2_37) (Nat.le_of_ble_eq_true rfl)) (seq (p := 40) (q := 41) (r := 45) (p_dup_x1 dJ2_grow_2_40) (seq (p := 41) (q := 44) (r := 45) (p_put [(16, 1)] (.array (.object "java/lang/Object")) (alP1 fp_J2_9_16) dJ2_grow_2_41) (seq (p := 44) (q := 45) (r := 45) (p_areturn dJ2_grow_2_44 rfl (Or.inr ⟨_, rfl⟩)) done))))))))))))))))))) (seq (p := 45) (q := 46) (r := 60) (p_aload_n 0 dJ2_grow_2_45) (seq (p := 46) (q := 48) (r := 60) (p_bipush 10 dJ2_grow_2_46 (by decide)) (seq (p := 48) (q := 49) (r := 60) (p_iload_n 1 dJ2_grow_2_48) (seq (p := 49) (q := 52) (r := 60) (p_mmax (Nat.le_of_ble_eq_true rfl) (okc q652) (okc q610) (okc q103) (okc q611) dJ2_grow_2_49) (seq (p := 52) (q := 55) (r := 60) (p_anewa 5 (Or.inr rfl) (okc q653) dJ2_grow_2_52) (seq (p := 55) (q := 56) (r := 60) (p_dup_x1 dJ2_grow_2_55) (seq (p := 56) (q := 59) (r := 60) (p_put [(16, 1)] (.array (.object "java/lang/Object")) (alP1 fp_J2_9_16) dJ2_grow_2_56) (seq (p := 59) (q := 60) (r := 60) (p_areturn dJ2_grow_2_59 rfl (Or.inr ⟨_, rfl⟩)) done)))))))))))))
noncomputable def M_J2_grow_2 (l : Launch) (δ : Dl) : Mth l δ yJ2_grow_2 cJ2_grow_2 4 (some (.array (FieldType.object "java/lang/Object"))) 3 := mk (B_J2_grow_2 l δ) (by decide)
theorem N_J2_grow_2 {l : Launch} {δ : Dl} {o : Nat} {a1 : Int} {s : St} : (M_J2_grow_2 l δ).1 [.inr (.inr (some o)), .inl a1] s = bres ((B_J2_grow_2 l δ).1 [] [some (.inr (.inr (some o))), some (.inl a1), none, none] s) := (mk_eq (hy := by decide) rfl).trans (nrfl rfl)
theorem dJ2_grow_0 : decode cJ2_grow 0 = .ok (.aload_n 0, 1) := by decide +kernel
theorem dJ2_grow_1 : decode cJ2_grow 1 = .ok (.aload_n 0, 1) := by decide +kernel
theorem dJ2_grow_2 : decode cJ2_grow 2 = .ok (.getfield 48, 3) := by decide +kernel
theorem dJ2_grow_5 : decode cJ2_grow 5 = .ok (.iconst 1, 1) := by decide +kernel
theorem dJ2_grow_6 : decode cJ2_grow 6 = .ok (.iadd, 1) := by decide +kernel
theorem dJ2_grow_7 : decode cJ2_grow 7 = .ok (.invokevirtual 69, 3) := by decide +kernel
theorem dJ2_grow_10 : decode cJ2_grow 10 = .ok (.areturn, 1) := by decide +kernel
noncomputable def B_J2_grow (l : Launch) (δ : Dl) : Seg (l, δ, yJ2_grow, 4, (some (.array (FieldType.object "java/lang/Object"))), cJ2_grow, 1) 0 11 :=
  seq (p := 0) (q := 1) (r := 11) (p_aload_n 0 dJ2_grow_0) (seq (p := 1) (q := 2) (r := 11) (p_aload_n 0 dJ2_grow_1) (seq (p := 2) (q := 5) (r := 11) (p_get [(16, 2)] (alL1 fl_J2_48_16) dJ2_grow_2) (seq (p := 5) (q := 6) (r := 11) (p_iconst 1 dJ2_grow_5) (seq (p := 6) (q := 7) (r := 11) (p_iadd dJ2_grow_6) (seq (p := 7) (q := 10) (r := 11) (p_callG 2 _ (ok_V 16 cv_J2_69 rfl (M_J2_grow_2 l δ) (Nat.le_of_ble_eq_true rfl) dJ2_grow_7) (Nat.le_of_ble_eq_true rfl)) (seq (p := 10) (q := 11) (r := 11) (p_areturn dJ2_grow_10 rfl (Or.inr ⟨_, rfl⟩)) done))))))
noncomputable def M_J2_grow (l : Launch) (δ : Dl) : Mth l δ yJ2_grow cJ2_grow 1 (some (.array (FieldType.object "java/lang/Object"))) 4 := mk (B_J2_grow l δ) (by decide)
theorem N_J2_grow {l : Launch} {δ : Dl} {o : Nat} {s : St} : (M_J2_grow l δ).1 [.inr (.inr (some o))] s = bres ((B_J2_grow l δ).1 [] [some (.inr (.inr (some o)))] s) := (mk_eq (hy := by decide) rfl).trans (nrfl rfl)
theorem dJ2_add_2_0 : decode cJ2_add_2 0 = .ok (.iload_n 3, 1) := by decide +kernel
theorem dJ2_add_2_1 : decode cJ2_add_2 1 = .ok (.aload_n 2, 1) := by decide +kernel
theorem dJ2_add_2_2 : decode cJ2_add_2 2 = .ok (.arraylength, 1) := by decide +kernel
theorem dJ2_add_2_3 : decode cJ2_add_2 3 = .ok (.if_icmp .ne 8, 3) := by decide +kernel
theorem dJ2_add_2_6 : decode cJ2_add_2 6 = .ok (.aload_n 0, 1) := by decide +kernel
theorem dJ2_add_2_7 : decode cJ2_add_2 7 = .ok (.invokevirtual 129, 3) := by decide +kernel
theorem dJ2_add_2_10 : decode cJ2_add_2 10 = .ok (.astore_n 2, 1) := by decide +kernel
theorem dJ2_add_2_11 : decode cJ2_add_2 11 = .ok (.aload_n 2, 1) := by decide +kernel
theorem dJ2_add_2_12 : decode cJ2_add_2 12 = .ok (.iload_n 3, 1) := by decide +kernel
theorem dJ2_add_2_13 : decode cJ2_add_2 13 = .ok (.aload_n 1, 1) := by decide +kernel
theorem dJ2_add_2_14 : decode cJ2_add_2 14 = .ok (.aastore, 1) := by decide +kernel
theorem dJ2_add_2_15 : decode cJ2_add_2 15 = .ok (.aload_n 0, 1) := by decide +kernel
theorem dJ2_add_2_16 : decode cJ2_add_2 16 = .ok (.iload_n 3, 1) := by decide +kernel
theorem dJ2_add_2_17 : decode cJ2_add_2 17 = .ok (.iconst 1, 1) := by decide +kernel
theorem dJ2_add_2_18 : decode cJ2_add_2 18 = .ok (.iadd, 1) := by decide +kernel
theorem dJ2_add_2_19 : decode cJ2_add_2 19 = .ok (.putfield 48, 3) := by decide +kernel
theorem dJ2_add_2_22 : decode cJ2_add_2 22 = .ok (.return_, 1) := by decide +kernel
noncomputable def B_J2_add_2 (l : Launch) (δ : Dl) : Seg (l, δ, yJ2_add_2, 5, none, cJ2_add_2, 4) 0 23 :=
  seq (p := 0) (q := 1) (r := 23) (p_iload_n 3 dJ2_add_2_0) (seq (p := 1) (q := 2) (r := 23) (p_aload_n 2 dJ2_add_2_1) (seq (p := 2) (q := 3) (r := 23) (p_alenE dJ2_add_2_2) (seq (p := 3) (q := 11) (r := 23) (blk (seq (p := 3) (q := 6) (r := 11) (p_icmp_ne 11 dJ2_add_2_3 (by decide)) (seq (p := 6) (q := 7) (r := 11) (p_aload_n 0 dJ2_add_2_6) (seq (p := 7) (q := 10) (r := 11) (p_callG 1 _ (ok_V 16 cv_J2_129 rfl (M_J2_grow l δ) (Nat.le_of_ble_eq_true rfl) dJ2_add_2_7) (Nat.le_of_ble_eq_true rfl)) (seq (p := 10) (q := 11) (r := 11) (p_astore_n 2 dJ2_add_2_10 (Nat.le_of_ble_eq_true rfl)) done))))) (seq (p := 11) (q := 12) (r := 23) (p_aload_n 2 dJ2_add_2_11) (seq (p := 12) (q := 13) (r := 23) (p_iload_n 3 dJ2_add_2_12) (seq (p := 13) (q := 14) (r := 23) (p_aload_n 1 dJ2_add_2_13) (seq (p := 14) (q := 15) (r := 23) (p_aast dJ2_add_2_14) (seq (p := 15) (q := 16) (r := 23) (p_aload_n 0 dJ2_add_2_15) (seq (p := 16) (q := 17) (r := 23) (p_iload_n 3 dJ2_add_2_16) (seq (p := 17) (q := 18) (r := 23) (p_iconst 1 dJ2_add_2_17) (seq (p := 18) (q := 19) (r := 23) (p_iadd dJ2_add_2_18) (seq (p := 19) (q := 22) (r := 23) (p_put [(16, 2)] .int (alP1 fp_J2_48_16) dJ2_add_2_19) (seq (p := 22) (q := 23) (r := 23) (p_return dJ2_add_2_22 rfl) done)))))))))))))
noncomputable def M_J2_add_2 (l : Launch) (δ : Dl) : Mth l δ yJ2_add_2 cJ2_add_2 4 none 5 := mk (B_J2_add_2 l δ) (by decide)
theorem N_J2_add_2 {l : Launch} {δ : Dl} {o : Nat} {a1 : Option Nat} {a2 : Option Nat} {a3 : Int} {s : St} : (M_J2_add_2 l δ).1 [.inr (.inr (some o)), .inr (.inr a1), .inr (.inr a2), .inl a3] s = bres ((B_J2_add_2 l δ).1 [] [some (.inr (.inr (some o))), some (.inr (.inr a1)), some (.inr (.inr a2)), some (.inl a3)] s) := (mk_eq (hy := by decide) rfl).trans (nrfl rfl)
theorem dJ2_add_0 : decode cJ2_add 0 = .ok (.aload_n 0, 1) := by decide +kernel
theorem dJ2_add_1 : decode cJ2_add 1 = .ok (.dup, 1) := by decide +kernel
theorem dJ2_add_2 : decode cJ2_add 2 = .ok (.getfield 63, 3) := by decide +kernel
theorem dJ2_add_5 : decode cJ2_add 5 = .ok (.iconst 1, 1) := by decide +kernel
theorem dJ2_add_6 : decode cJ2_add 6 = .ok (.iadd, 1) := by decide +kernel
theorem dJ2_add_7 : decode cJ2_add 7 = .ok (.putfield 63, 3) := by decide +kernel
theorem dJ2_add_10 : decode cJ2_add 10 = .ok (.aload_n 0, 1) := by decide +kernel
theorem dJ2_add_11 : decode cJ2_add 11 = .ok (.aload_n 1, 1) := by decide +kernel
theorem dJ2_add_12 : decode cJ2_add 12 = .ok (.aload_n 0, 1) := by decide +kernel
theorem dJ2_add_13 : decode cJ2_add 13 = .ok (.getfield 9, 3) := by decide +kernel
theorem dJ2_add_16 : decode cJ2_add 16 = .ok (.aload_n 0, 1) := by decide +kernel
theorem dJ2_add_17 : decode cJ2_add 17 = .ok (.getfield 48, 3) := by decide +kernel
theorem dJ2_add_20 : decode cJ2_add 20 = .ok (.invokevirtual 131, 3) := by decide +kernel
theorem dJ2_add_23 : decode cJ2_add 23 = .ok (.iconst 1, 1) := by decide +kernel
theorem dJ2_add_24 : decode cJ2_add 24 = .ok (.ireturn, 1) := by decide +kernel
noncomputable def B_J2_add (l : Launch) (δ : Dl) : Seg (l, δ, yJ2_add, 6, (some .boolean), cJ2_add, 2) 0 25 :=
  seq (p := 0) (q := 1) (r := 25) (p_aload_n 0 dJ2_add_0) (seq (p := 1) (q := 2) (r := 25) (p_dup dJ2_add_1) (seq (p := 2) (q := 5) (r := 25) (p_get [(16, 0)] (alL1 fl_J2_63_16) dJ2_add_2) (seq (p := 5) (q := 6) (r := 25) (p_iconst 1 dJ2_add_5) (seq (p := 6) (q := 7) (r := 25) (p_iadd dJ2_add_6) (seq (p := 7) (q := 10) (r := 25) (p_put [(16, 0)] .int (alP1 fp_J2_63_16) dJ2_add_7) (seq (p := 10) (q := 11) (r := 25) (p_aload_n 0 dJ2_add_10) (seq (p := 11) (q := 12) (r := 25) (p_aload_n 1 dJ2_add_11) (seq (p := 12) (q := 13) (r := 25) (p_aload_n 0 dJ2_add_12) (seq (p := 13) (q := 16) (r := 25) (p_get [(16, 1)] (alL1 fl_J2_9_16) dJ2_add_13) (seq (p := 16) (q := 17) (r := 25) (p_aload_n 0 dJ2_add_16) (seq (p := 17) (q := 20) (r := 25) (p_get [(16, 2)] (alL1 fl_J2_48_16) dJ2_add_17) (seq (p := 20) (q := 23) (r := 25) (p_callG 4 _ (ok_V 16 cv_J2_131 rfl (M_J2_add_2 l δ) (Nat.le_of_ble_eq_true rfl) dJ2_add_20) (Nat.le_of_ble_eq_true rfl)) (seq (p := 23) (q := 24) (r := 25) (p_iconst 1 dJ2_add_23) (seq (p := 24) (q := 25) (r := 25) (p_zreturn dJ2_add_24 rfl) done))))))))))))))
noncomputable def M_J2_add (l : Launch) (δ : Dl) : Mth l δ yJ2_add cJ2_add 2 (some .boolean) 6 := mk (B_J2_add l δ) (by decide)
theorem N_J2_add {l : Launch} {δ : Dl} {o : Nat} {a1 : Option Nat} {s : St} : (M_J2_add l δ).1 [.inr (.inr (some o)), .inr (.inr a1)] s = bres ((B_J2_add l δ).1 [] [some (.inr (.inr (some o))), some (.inr (.inr a1))] s) := (mk_eq (hy := by decide) rfl).trans (nrfl rfl)
theorem dJ0_init_0 : decode cJ0_init 0 = .ok (.aload_n 0, 1) := by decide +kernel
theorem dJ0_init_1 : decode cJ0_init 1 = .ok (.invokespecial 1, 3) := by decide +kernel
theorem dJ0_init_4 : decode cJ0_init 4 = .ok (.return_, 1) := by decide +kernel
noncomputable def B_J0_init (l : Launch) (δ : Dl) : Seg (l, δ, yJ0_init, 1, none, cJ0_init, 1) 0 5 :=
  seq (p := 0) (q := 1) (r := 5) (p_aload_n 0 dJ0_init_0) (seq (p := 1) (q := 4) (r := 5) (p_objI (Nat.le_of_ble_eq_true rfl) (okc q137) (okc q122) (okc q123) dJ0_init_1) (seq (p := 4) (q := 5) (r := 5) (p_return dJ0_init_4 rfl) done))
noncomputable def M_J0_init (l : Launch) (δ : Dl) : Mth l δ yJ0_init cJ0_init 1 none 1 := mk (B_J0_init l δ) (by decide)
theorem N_J0_init {l : Launch} {δ : Dl} {o : Nat} {s : St} : (M_J0_init l δ).1 [.inr (.inr (some o))] s = bres ((B_J0_init l δ).1 [] [some (.inr (.inr (some o)))] s) := (mk_eq (hy := by decide) rfl).trans (nrfl rfl)
theorem dJ1_init_0 : decode cJ1_init 0 = .ok (.aload_n 0, 1) := by decide +kernel
theorem dJ1_init_1 : decode cJ1_init 1 = .ok (.invokespecial 1, 3) := by decide +kernel
theorem dJ1_init_4 : decode cJ1_init 4 = .ok (.aload_n 0, 1) := by decide +kernel
theorem dJ1_init_5 : decode cJ1_init 5 = .ok (.iconst 0, 1) := by decide +kernel
theorem dJ1_init_6 : decode cJ1_init 6 = .ok (.putfield 7, 3) := by decide +kernel
theorem dJ1_init_9 : decode cJ1_init 9 = .ok (.return_, 1) := by decide +kernel
noncomputable def B_J1_init (l : Launch) (δ : Dl) : Seg (l, δ, yJ1_init, 2, none, cJ1_init, 1) 0 10 :=
  seq (p := 0) (q := 1) (r := 10) (p_aload_n 0 dJ1_init_0) (seq (p := 1) (q := 4) (r := 10) (p_callG 1 _ (ok_I ci_J1_1 (M_J0_init l δ) (Nat.le_of_ble_eq_true rfl) dJ1_init_1) (Nat.le_of_ble_eq_true rfl)) (seq (p := 4) (q := 5) (r := 10) (p_aload_n 0 dJ1_init_4) (seq (p := 5) (q := 6) (r := 10) (p_iconst 0 dJ1_init_5) (seq (p := 6) (q := 9) (r := 10) (p_put [(16, 0)] .int (alP1 fp_J1_7_16) dJ1_init_6) (seq (p := 9) (q := 10) (r := 10) (p_return dJ1_init_9 rfl) done)))))
noncomputable def M_J1_init (l : Launch) (δ : Dl) : Mth l δ yJ1_init cJ1_init 1 none 2 := mk (B_J1_init l δ) (by decide)
theorem N_J1_init {l : Launch} {δ : Dl} {o : Nat} {s : St} : (M_J1_init l δ).1 [.inr (.inr (some o))] s = bres ((B_J1_init l δ).1 [] [some (.inr (.inr (some o)))] s) := (mk_eq (hy := by decide) rfl).trans (nrfl rfl)
theorem dJ2_init_0 : decode cJ2_init 0 = .ok (.aload_n 0, 1) := by decide +kernel
theorem dJ2_init_1 : decode cJ2_init 1 = .ok (.invokespecial 1, 3) := by decide +kernel
theorem dJ2_init_4 : decode cJ2_init 4 = .ok (.aload_n 0, 1) := by decide +kernel
theorem dJ2_init_5 : decode cJ2_init 5 = .ok (.getstatic 39, 3) := by decide +kernel
theorem dJ2_init_8 : decode cJ2_init 8 = .ok (.putfield 9, 3) := by decide +kernel
theorem dJ2_init_11 : decode cJ2_init 11 = .ok (.return_, 1) := by decide +kernel
noncomputable def B_J2_init (l : Launch) (δ : Dl) : Seg (l, δ, yJ2_init, 3, none, cJ2_init, 1) 0 12 :=
  seq (p := 0) (q := 1) (r := 12) (p_aload_n 0 dJ2_init_0) (seq (p := 1) (q := 4) (r := 12) (p_callG 1 _ (ok_I ci_J2_1 (M_J1_init l δ) (Nat.le_of_ble_eq_true rfl) dJ2_init_1) (Nat.le_of_ble_eq_true rfl)) (seq (p := 4) (q := 5) (r := 12) (p_aload_n 0 dJ2_init_4) (seq (p := 5) (q := 8) (r := 12) (p_gets0 (okc q138) dJ2_init_5) (seq (p := 8) (q := 11) (r := 12) (p_put [(16, 1)] (.array (.object "java/lang/Object")) (alP1 fp_J2_9_16) dJ2_init_8) (seq (p := 11) (q := 12) (r := 12) (p_return dJ2_init_11 rfl) done)))))
noncomputable def M_J2_init (l : Launch) (δ : Dl) : Mth l δ yJ2_init cJ2_init 1 none 3 := mk (B_J2_init l δ) (by decide)
theorem N_J2_init {l : Launch} {δ : Dl} {o : Nat} {s : St} : (M_J2_init l δ).1 [.inr (.inr (some o))] s = bres ((B_J2_init l δ).1 [] [some (.inr (.inr (some o)))] s) := (mk_eq (hy := by decide) rfl).trans (nrfl rfl)
theorem dX5_init_0 : decode cX5_init 0 = .ok (.aload_n 0, 1) := by decide +kernel
theorem dX5_init_1 : decode cX5_init 1 = .ok (.invokespecial 1, 3) := by decide +kernel
theorem dX5_init_4 : decode cX5_init 4 = .ok (.return_, 1) := by decide +kernel
noncomputable def B_X5_init (l : Launch) (δ : Dl) : Seg (l, δ, yX5_init, 1, none, cX5_init, 1) 0 5 :=
  seq (p := 0) (q := 1) (r := 5) (p_aload_n 0 dX5_init_0) (seq (p := 1) (q := 4) (r := 5) (p_objI (Nat.le_of_ble_eq_true rfl) (okc q460) (okc q122) (okc q123) dX5_init_1) (seq (p := 4) (q := 5) (r := 5) (p_return dX5_init_4 rfl) done))
noncomputable def M_X5_init (l : Launch) (δ : Dl) : Mth l δ yX5_init cX5_init 1 none 1 := mk (B_X5_init l δ) (by decide)
theorem N_X5_init {l : Launch} {δ : Dl} {o : Nat} {s : St} : (M_X5_init l δ).1 [.inr (.inr (some o))] s = bres ((B_X5_init l δ).1 [] [some (.inr (.inr (some o)))] s) := (mk_eq (hy := by decide) rfl).trans (nrfl rfl)
theorem dX10_init_0 : decode cX10_init 0 = .ok (.aload_n 0, 1) := by decide +kernel
theorem dX10_init_1 : decode cX10_init 1 = .ok (.invokespecial 1, 3) := by decide +kernel
theorem dX10_init_4 : decode cX10_init 4 = .ok (.aload_n 0, 1) := by decide +kernel
theorem dX10_init_5 : decode cX10_init 5 = .ok (.aload_n 1, 1) := by decide +kernel
theorem dX10_init_6 : decode cX10_init 6 = .ok (.putfield 7, 3) := by decide +kernel
theorem dX10_init_9 : decode cX10_init 9 = .ok (.aload_n 0, 1) := by decide +kernel
theorem dX10_init_10 : decode cX10_init 10 = .ok (.iload_n 2, 1) := by decide +kernel
theorem dX10_init_11 : decode cX10_init 11 = .ok (.putfield 13, 3) := by decide +kernel
theorem dX10_init_14 : decode cX10_init 14 = .ok (.return_, 1) := by decide +kernel
noncomputable def B_X10_init (l : Launch) (δ : Dl) : Seg (l, δ, yX10_init, 2, none, cX10_init, 3) 0 15 :=
  seq (p := 0) (q := 1) (r := 15) (p_aload_n 0 dX10_init_0) (seq (p := 1) (q := 4) (r := 15) (p_callG 1 _ (ok_I ci_X10_1 (M_X5_init l δ) (Nat.le_of_ble_eq_true rfl) dX10_init_1) (Nat.le_of_ble_eq_true rfl)) (seq (p := 4) (q := 5) (r := 15) (p_aload_n 0 dX10_init_4) (seq (p := 5) (q := 6) (r := 15) (p_aload_n 1 dX10_init_5) (seq (p := 6) (q := 9) (r := 15) (p_putF [(9, 0)] (.object "java/util/List") (alF1 ff_X10_7_9) rfl dX10_init_6) (seq (p := 9) (q := 10) (r := 15) (p_aload_n 0 dX10_init_9) (seq (p := 10) (q := 11) (r := 15) (p_iload_n 2 dX10_init_10) (seq (p := 11) (q := 14) (r := 15) (p_putF [(9, 1)] .char (alF1 ff_X10_13_9) rfl dX10_init_11) (seq (p := 14) (q := 15) (r := 15) (p_return dX10_init_14 rfl) done))))))))
noncomputable def M_X10_init (l : Launch) (δ : Dl) : Mth l δ yX10_init cX10_init 3 none 2 := mk (B_X10_init l δ) (by decide)
theorem N_X10_init {l : Launch} {δ : Dl} {o : Nat} {a1 : Option Nat} {a2 : Int} {s : St} : (M_X10_init l δ).1 [.inr (.inr (some o)), .inr (.inr a1), .inl a2] s = bres ((B_X10_init l δ).1 [] [some (.inr (.inr (some o))), some (.inr (.inr a1)), some (.inl a2)] s) := (mk_eq (hy := by decide) rfl).trans (nrfl rfl)
theorem dX4_look_0 : decode cX4_look 0 = .ok (.aload_n 0, 1) := by decide +kernel
theorem dX4_look_1 : decode cX4_look 1 = .ok (.getfield 23, 3) := by decide +kernel
theorem dX4_look_4 : decode cX4_look 4 = .ok (.aload_n 0, 1) := by decide +kernel
theorem dX4_look_5 : decode cX4_look 5 = .ok (.getfield 19, 3) := by decide +kernel
theorem dX4_look_8 : decode cX4_look 8 = .ok (.if_icmp .ge 44, 3) := by decide +kernel
theorem dX4_look_11 : decode cX4_look 11 = .ok (.aload_n 0, 1) := by decide +kernel
theorem dX4_look_12 : decode cX4_look 12 = .ok (.getfield 15, 3) := by decide +kernel
theorem dX4_look_15 : decode cX4_look 15 = .ok (.aload_n 0, 1) := by decide +kernel
theorem dX4_look_16 : decode cX4_look 16 = .ok (.getfield 23, 3) := by decide +kernel
theorem dX4_look_19 : decode cX4_look 19 = .ok (.baload, 1) := by decide +kernel
theorem dX4_look_20 : decode cX4_look 20 = .ok (.bipush 32, 2) := by decide +kernel
theorem dX4_look_22 : decode cX4_look 22 = .ok (.if_icmp .eq 17, 3) := by decide +kernel
theorem dX4_look_25 : decode cX4_look 25 = .ok (.aload_n 0, 1) := by decide +kernel
theorem dX4_look_26 : decode cX4_look 26 = .ok (.getfield 15, 3) := by decide +kernel
theorem dX4_look_29 : decode cX4_look 29 = .ok (.aload_n 0, 1) := by decide +kernel
theorem dX4_look_30 : decode cX4_look 30 = .ok (.getfield 23, 3) := by decide +kernel
theorem dX4_look_33 : decode cX4_look 33 = .ok (.baload, 1) := by decide +kernel
theorem dX4_look_34 : decode cX4_look 34 = .ok (.bipush 10, 2) := by decide +kernel
theorem dX4_look_36 : decode cX4_look 36 = .ok (.if_icmp .ne 16, 3) := by decide +kernel
theorem dX4_look_39 : decode cX4_look 39 = .ok (.aload_n 0, 1) := by decide +kernel
theorem dX4_look_40 : decode cX4_look 40 = .ok (.dup, 1) := by decide +kernel
theorem dX4_look_41 : decode cX4_look 41 = .ok (.getfield 23, 3) := by decide +kernel
theorem dX4_look_44 : decode cX4_look 44 = .ok (.iconst 1, 1) := by decide +kernel
theorem dX4_look_45 : decode cX4_look 45 = .ok (.iadd, 1) := by decide +kernel
theorem dX4_look_46 : decode cX4_look 46 = .ok (.putfield 23, 3) := by decide +kernel
theorem dX4_look_49 : decode cX4_look 49 = .ok (.goto (-49), 3) := by decide +kernel
theorem dX4_look_52 : decode cX4_look 52 = .ok (.aload_n 0, 1) := by decide +kernel
theorem dX4_look_53 : decode cX4_look 53 = .ok (.getfield 23, 3) := by decide +kernel
theorem dX4_look_56 : decode cX4_look 56 = .ok (.aload_n 0, 1) := by decide +kernel
theorem dX4_look_57 : decode cX4_look 57 = .ok (.getfield 19, 3) := by decide +kernel
theorem dX4_look_60 : decode cX4_look 60 = .ok (.if_icmp .ne 7, 3) := by decide +kernel
theorem dX4_look_63 : decode cX4_look 63 = .ok (.iconst (-1), 1) := by decide +kernel
theorem dX4_look_64 : decode cX4_look 64 = .ok (.goto 16, 3) := by decide +kernel
theorem dX4_look_67 : decode cX4_look 67 = .ok (.aload_n 0, 1) := by decide +kernel
theorem dX4_look_68 : decode cX4_look 68 = .ok (.getfield 15, 3) := by decide +kernel
theorem dX4_look_71 : decode cX4_look 71 = .ok (.aload_n 0, 1) := by decide +kernel
theorem dX4_look_72 : decode cX4_look 72 = .ok (.getfield 23, 3) := by decide +kernel
theorem dX4_look_75 : decode cX4_look 75 = .ok (.baload, 1) := by decide +kernel
theorem dX4_look_76 : decode cX4_look 76 = .ok (.sipush 255, 3) := by decide +kernel
theorem dX4_look_79 : decode cX4_look 79 = .ok (.iand, 1) := by decide +kernel
theorem dX4_look_80 : decode cX4_look 80 = .ok (.ireturn, 1) := by decide +kernel
noncomputable def C_X4_look_L0 (l : Launch) (δ : Dl) : Seg (l, δ, yX4_look, 0, (some .int), cX4_look, 1) 0 52 :=
  seq (p := 0) (q := 1) (r := 52) (p_aload_n 0 dX4_look_0) (seq (p := 1) (q := 4) (r := 52) (p_get [(4, 2)] (alL1 fl_X4_23_4) dX4_look_1) (seq (p := 4) (q := 5) (r := 52) (p_aload_n 0 dX4_look_4) (seq (p := 5) (q := 8) (r := 52) (p_get [(4, 1)] (alL1 fl_X4_19_4) dX4_look_5) (seq (p := 8) (q := 11) (r := 52) (p_icmp_ge 52 dX4_look_8 (by decide)) (seq (p := 11) (q := 12) (r := 52) (p_aload_n 0 dX4_look_11) (seq (p := 12) (q := 15) (r := 52) (p_get [(4, 0)] (alL1 fl_X4_15_4) dX4_look_12) (seq (p := 15) (q := 16) (r := 52) (p_aload_n 0 dX4_look_15) (seq (p := 16) (q := 19) (r := 52) (p_get [(4, 2)] (alL1 fl_X4_23_4) dX4_look_16) (seq (p := 19) (q := 20) (r := 52) (p_bald dX4_look_19) (seq (p := 20) (q := 22) (r := 52) (p_bipush 32 dX4_look_20 (by decide)) (seq (p := 22) (q := 39) (r := 52) (blk (seq (p := 22) (q := 25) (r := 39) (p_icmp_eq 39 dX4_look_22 (by decide)) (seq (p := 25) (q := 26) (r := 39) (p_aload_n 0 dX4_look_25) (seq (p := 26) (q := 29) (r := 39) (p_get [(4, 0)] (alL1 fl_X4_15_4) dX4_look_26) (seq (p := 29) (q := 30) (r := 39) (p_aload_n 0 dX4_look_29) (seq (p := 30) (q := 33) (r := 39) (p_get [(4, 2)] (alL1 fl_X4_23_4) dX4_look_30) (seq (p := 33) (q := 34) (r := 39) (p_bald dX4_look_33) (seq (p := 34) (q := 36) (r := 39) (p_bipush 10 dX4_look_34 (by decide)) (seq (p := 36) (q := 39) (r := 39) (p_icmp_ne 52 dX4_look_36 (by decide)) done))))))))) (seq (p := 39) (q := 40) (r := 52) (p_aload_n 0 dX4_look_39) (seq (p := 40) (q := 41) (r := 52) (p_dup dX4_look_40) (seq (p := 41) (q := 44) (r := 52) (p_get [(4, 2)] (alL1 fl_X4_23_4) dX4_look_41) (seq (p := 44) (q := 45) (r := 52) (p_iconst 1 dX4_look_44) (seq (p := 45) (q := 46) (r := 52) (p_iadd dX4_look_45) (seq (p := 46) (q := 49) (r := 52) (p_put [(4, 2)] .int (alP1 fp_X4_23_4) dX4_look_46) (seq (p := 49) (q := 49) (r := 52) (er [true]) (seq (p := 49) (q := 52) (r := 52) (p_goto 0 dX4_look_49 (by decide)) done)))))))))))))))))))
noncomputable def B_X4_look_L0 (l : Launch) (δ : Dl) : Seg (l, δ, yX4_look, 0, (some .int), cX4_look, 1) 0 52 := C_X4_look_L0 l δ
theorem L_X4_look_0 {l : Launch} {δ : Dl} {st : Stk} {L : Lc} {s : St} : (B_X4_look_L0 l δ).1 st L s = (C_X4_look_L0 l δ).1 st L s := nrfl rfl
noncomputable def B_X4_look (l : Launch) (δ : Dl) : Seg (l, δ, yX4_look, 0, (some .int), cX4_look, 1) 0 81 :=
  seq (p := 0) (q := 52) (r := 81) (blk (seq (p := 0) (q := 0) (r := 52) (er [true]) (seq (p := 0) (q := 52) (r := 52) (lp (B_X4_look_L0 l δ)) done))) (seq (p := 52) (q := 53) (r := 81) (p_aload_n 0 dX4_look_52) (seq (p := 53) (q := 56) (r := 81) (p_get [(4, 2)] (alL1 fl_X4_23_4) dX4_look_53) (seq (p := 56) (q := 57) (r := 81) (p_aload_n 0 dX4_look_56) (seq (p := 57) (q := 60) (r := 81) (p_get [(4, 1)] (alL1 fl_X4_19_4) dX4_look_57) (seq (p := 60) (q := 80) (r := 81) (blk (seq (p := 60) (q := 67) (r := 80) (blk (seq (p := 60) (q := 63) (r := 67) (p_icmp_ne 67 dX4_look_60 (by decide)) (seq (p := 63) (q := 64) (r := 67) (p_iconst (-1) dX4_look_63) (seq (p := 64) (q := 67) (r := 67) (p_goto 80 dX4_look_64 (by decide)) done)))) (seq (p := 67) (q := 68) (r := 80) (p_aload_n 0 dX4_look_67) (seq (p := 68) (q := 71) (r := 80) (p_get [(4, 0)] (alL1 fl_X4_15_4) dX4_look_68) (seq (p := 71) (q := 72) (r := 80) (p_aload_n 0 dX4_look_71) (seq (p := 72) (q := 75) (r := 80) (p_get [(4, 2)] (alL1 fl_X4_23_4) dX4_look_72) (seq (p := 75) (q := 76) (r := 80) (p_bald dX4_look_75) (seq (p := 76) (q := 79) (r := 80) (p_sipush 255 dX4_look_76 (by decide)) (seq (p := 79) (q := 80) (r := 80) (p_iand dX4_look_79) done))))))))) (seq (p := 80) (q := 81) (r := 81) (p_ireturn dX4_look_80 rfl) done))))))
noncomputable def M_X4_look (l : Launch) (δ : Dl) : Mth l δ yX4_look cX4_look 1 (some .int) 0 := mk (B_X4_look l δ) (by decide)
theorem N_X4_look {l : Launch} {δ : Dl} {o : Nat} {s : St} : (M_X4_look l δ).1 [.inr (.inr (some o))] s = bres ((B_X4_look l δ).1 [] [some (.inr (.inr (some o)))] s) := (mk_eq (hy := by decide) rfl).trans (nrfl rfl)
theorem dJ3_init_2_0 : decode cJ3_init_2 0 = .ok (.aload_n 0, 1) := by decide +kernel
theorem dJ3_init_2_1 : decode cJ3_init_2 1 = .ok (.invokespecial 1, 3) := by decide +kernel
theorem dJ3_init_2_4 : decode cJ3_init_2 4 = .ok (.aload_n 0, 1) := by decide +kernel
theorem dJ3_init_2_5 : decode cJ3_init_2 5 = .ok (.aload_n 0, 1) := by decide +kernel
theorem dJ3_init_2_6 : decode cJ3_init_2 6 = .ok (.putfield 7, 3) := by decide +kernel
theorem dJ3_init_2_9 : decode cJ3_init_2 9 = .ok (.aload_n 0, 1) := by decide +kernel
theorem dJ3_init_2_10 : decode cJ3_init_2 10 = .ok (.getstatic 13, 3) := by decide +kernel
theorem dJ3_init_2_13 : decode cJ3_init_2 13 = .ok (.putfield 17, 3) := by decide +kernel
theorem dJ3_init_2_16 : decode cJ3_init_2 16 = .ok (.aload_n 0, 1) := by decide +kernel
theorem dJ3_init_2_17 : decode cJ3_init_2 17 = .ok (.getstatic 20, 3) := by decide +kernel
theorem dJ3_init_2_20 : decode cJ3_init_2 20 = .ok (.putfield 24, 3) := by decide +kernel
theorem dJ3_init_2_23 : decode cJ3_init_2 23 = .ok (.iload 4, 2) := by decide +kernel
theorem dJ3_init_2_25 : decode cJ3_init_2 25 = .ok (.ifCond .eq 11, 3) := by decide +kernel
theorem dJ3_init_2_28 : decode cJ3_init_2 28 = .ok (.aload_n 0, 1) := by decide +kernel
theorem dJ3_init_2_29 : decode cJ3_init_2 29 = .ok (.invokevirtual 27, 3) := by decide +kernel
theorem dJ3_init_2_32 : decode cJ3_init_2 32 = .ok (.pop, 1) := by decide +kernel
theorem dJ3_init_2_33 : decode cJ3_init_2 33 = .ok (.goto 8, 3) := by decide +kernel
theorem dJ3_init_2_36 : decode cJ3_init_2 36 = .ok (.aload_n 0, 1) := by decide +kernel
theorem dJ3_init_2_37 : decode cJ3_init_2 37 = .ok (.aconst_null, 1) := by decide +kernel
theorem dJ3_init_2_38 : decode cJ3_init_2 38 = .ok (.putfield 17, 3) := by decide +kernel
theorem dJ3_init_2_41 : decode cJ3_init_2 41 = .ok (.aload_n 0, 1) := by decide +kernel
theorem dJ3_init_2_42 : decode cJ3_init_2 42 = .ok (.aload_n 1, 1) := by decide +kernel
theorem dJ3_init_2_43 : decode cJ3_init_2 43 = .ok (.putfield 31, 3) := by decide +kernel
theorem dJ3_init_2_46 : decode cJ3_init_2 46 = .ok (.aload_n 0, 1) := by decide +kernel
theorem dJ3_init_2_47 : decode cJ3_init_2 47 = .ok (.aload_n 2, 1) := by decide +kernel
theorem dJ3_init_2_48 : decode cJ3_init_2 48 = .ok (.putfield 7, 3) := by decide +kernel
theorem dJ3_init_2_51 : decode cJ3_init_2 51 = .ok (.iload_n 3, 1) := by decide +kernel
theorem dJ3_init_2_52 : decode cJ3_init_2 52 = .ok (.ifCond .ne 8, 3) := by decide +kernel
theorem dJ3_init_2_55 : decode cJ3_init_2 55 = .ok (.aload_n 0, 1) := by decide +kernel
theorem dJ3_init_2_56 : decode cJ3_init_2 56 = .ok (.aconst_null, 1) := by decide +kernel
theorem dJ3_init_2_57 : decode cJ3_init_2 57 = .ok (.putfield 24, 3) := by decide +kernel
theorem dJ3_init_2_60 : decode cJ3_init_2 60 = .ok (.return_, 1) := by decide +kernel
noncomputable def B_J3_init_2 (l : Launch) (δ : Dl) : Seg (l, δ, yJ3_init_2, 1, none, cJ3_init_2, 5) 0 61 :=
  seq (p := 0) (q := 1) (r := 61) (p_aload_n 0 dJ3_init_2_0) (seq (p := 1) (q := 4) (r := 61) (p_objI (Nat.le_of_ble_eq_true rfl) (okc q506) (okc q122) (okc q123) dJ3_init_2_1) (seq (p := 4) (q := 5) (r := 61) (p_aload_n 0 dJ3_init_2_4) (seq (p := 5) (q := 6) (r := 61) (p_aload_n 0 dJ3_init_2_5) (seq (p := 6) (q := 9) (r := 61) (p_put [(6, 0), (13, 0)] (.object "java/lang/Throwable") (alP2 fp_J3_7_6 fp_J3_7_13) dJ3_init_2_6) (seq (p := 9) (q := 10) (r := 61) (p_aload_n 0 dJ3_init_2_9) (seq (p := 10) (q := 13) (r := 61) (p_gets4 (okc q507) dJ3_init_2_10) (seq (p := 13) (q := 16) (r := 61) (p_put [(6, 1), (13, 1)] (.array (.object "java/lang/StackTraceElement")) (alP2 fp_J3_17_6 fp_J3_17_13) dJ3_init_2_13) (seq (p := 16) (q := 17) (r := 61) (p_aload_n 0 dJ3_init_2_16) (seq (p := 17) (q := 20) (r := 61) (p_gets5 (okc q509) dJ3_init_2_17) (seq (p := 20) (q := 23) (r := 61) (p_put [(6, 2), (13, 2)] (.object "java/util/List") (alP2 fp_J3_24_6 fp_J3_24_13) dJ3_init_2_20) (seq (p := 23) (q := 25) (r := 61) (p_iload 4 dJ3_init_2_23) (seq (p := 25) (q := 41) (r := 61) (blk (seq (p := 25) (q := 36) (r := 41) (blk (seq (p := 25) (q := 28) (r := 36) (p_if_eq 36 dJ3_init_2_25 (by decide)) (seq (p := 28) (q := 29) (r := 36) (p_aload_n 0 dJ3_init_2_28) (seq (p := 29) (q := 32) (r := 36) (p_dead 32 (Nat.le_of_ble_eq_true rfl)) (seq (p := 32) (q := 33) (r := 36) (p_pop dJ3_init_2_32) (seq (p := 33) (q := 36) (r := 36) (p_goto 41 dJ3_init_2_33 (by decide)) done)))))) (seq (p := 36) (q := 37) (r := 41) (p_aload_n 0 dJ3_init_2_36) (seq (p := 37) (q := 38) (r := 41) (p_null dJ3_init_2_37) (seq (p := 38) (q := 41) (r := 41) (p_put [(6, 1), (13, 1)] (.array (.object "java/lang/StackTraceElement")) (alP2 fp_J3_17_6 fp_J3_17_13) dJ3_init_2_38) done))))) (seq (p := 41) (q := 42) (r := 61) (p_aload_n 0 dJ3_init_2_41) (seq (p := 42) (q := 43) (r := 61) (p_aload_n 1 dJ3_init_2_42) (seq (p := 43) (q := 46) (r := 61) (p_put [(6, 3), (13, 3)] (.object "java/lang/String") (alP2 fp_J3_31_6 fp_J3_31_13) dJ3_init_2_43) (seq (p := 46) (q := 47) (r := 61) (p_aload_n 0 dJ3_init_2_46) (seq (p := 47) (q := 48) (r := 61) (p_aload_n 2 dJ3_init_2_47) (seq (p := 48) (q := 51) (r := 61) (p_put [(6, 0), (13, 0)] (.object "java/lang/Throwable") (alP2 fp_J3_7_6 fp_J3_7_13) dJ3_init_2_48) (seq (p := 51) (q := 52) (r := 61) (p_iload_n 3 dJ3_init_2_51) (seq (p := 52) (q := 60) (r := 61) (blk (seq (p := 52) (q := 55) (r := 60) (p_if_ne 60 dJ3_init_2_52 (by decide)) (seq (p := 55) (q := 56) (r := 60) (p_aload_n 0 dJ3_init_2_55) (seq (p := 56) (q := 57) (r := 60) (p_null dJ3_init_2_56) (seq (p := 57) (q := 60) (r := 60) (p_put [(6, 2), (13, 2)] (.object "java/util/List") (alP2 fp_J3_24_6 fp_J3_24_13) dJ3_init_2_57) done))))) (seq (p := 60) (q := 61) (r := 61) (p_return dJ3_init_2_60 rfl) done)))))))))))))))))))))
noncomputable def M_J3_init_2 (l : Launch) (δ : Dl) : Mth l δ yJ3_init_2 cJ3_init_2 5 none 1 := mk (B_J3_init_2 l δ) (by decide)
theorem N_J3_init_2 {l : Launch} {δ : Dl} {o : Nat} {a1 : Option Nat} {a2 : Option Nat} {a3 : Int} {a4 : Int} {s : St} : (M_J3_init_2 l δ).1 [.inr (.inr (some o)), .inr (.inr a1), .inr (.inr a2), .inl a3, .inl a4] s = bres ((B_J3_init_2 l δ).1 [] [some (.inr (.inr (some o))), some (.inr (.inr a1)), some (.inr (.inr a2)), some (.inl a3), some (.inl a4)] s) := (mk_eq (hy := by decide) rfl).trans (nrfl rfl)
theorem dJ4_init_0 : decode cJ4_init 0 = .ok (.aload_n 0, 1) := by decide +kernel
theorem dJ4_init_1 : decode cJ4_init 1 = .ok (.aload_n 1, 1) := by decide +kernel
theorem dJ4_init_2 : decode cJ4_init 2 = .ok (.aload_n 2, 1) := by decide +kernel
theorem dJ4_init_3 : decode cJ4_init 3 = .ok (.iload_n 3, 1) := by decide +kernel
theorem dJ4_init_4 : decode cJ4_init 4 = .ok (.iload 4, 2) := by decide +kernel
theorem dJ4_init_6 : decode cJ4_init 6 = .ok (.invokespecial 16, 3) := by decide +kernel
theorem dJ4_init_9 : decode cJ4_init 9 = .ok (.return_, 1) := by decide +kernel
noncomputable def B_J4_init (l : Launch) (δ : Dl) : Seg (l, δ, yJ4_init, 2, none, cJ4_init, 5) 0 10 :=
  seq (p := 0) (q := 1) (r := 10) (p_aload_n 0 dJ4_init_0) (seq (p := 1) (q := 2) (r := 10) (p_aload_n 1 dJ4_init_1) (seq (p := 2) (q := 3) (r := 10) (p_aload_n 2 dJ4_init_2) (seq (p := 3) (q := 4) (r := 10) (p_iload_n 3 dJ4_init_3) (seq (p := 4) (q := 6) (r := 10) (p_iload 4 dJ4_init_4) (seq (p := 6) (q := 9) (r := 10) (p_callG 5 _ (ok_I ci_J4_16 (M_J3_init_2 l δ) (Nat.le_of_ble_eq_true rfl) dJ4_init_6) (Nat.le_of_ble_eq_true rfl)) (seq (p := 9) (q := 10) (r := 10) (p_return dJ4_init_9 rfl) done))))))
noncomputable def M_J4_init (l : Launch) (δ : Dl) : Mth l δ yJ4_init cJ4_init 5 none 2 := mk (B_J4_init l δ) (by decide)
theorem N_J4_init {l : Launch} {δ : Dl} {o : Nat} {a1 : Option Nat} {a2 : Option Nat} {a3 : Int} {a4 : Int} {s : St} : (M_J4_init l δ).1 [.inr (.inr (some o)), .inr (.inr a1), .inr (.inr a2), .inl a3, .inl a4] s = bres ((B_J4_init l δ).1 [] [some (.inr (.inr (some o))), some (.inr (.inr a1)), some (.inr (.inr a2)), some (.inl a3), some (.inl a4)] s) := (mk_eq (hy := by decide) rfl).trans (nrfl rfl)
theorem dX7_init_0 : decode cX7_init 0 = .ok (.aload_n 0, 1) := by decide +kernel
theorem dX7_init_1 : decode cX7_init 1 = .ok (.ldc 1, 2) := by decide +kernel
theorem dX7_init_3 : decode cX7_init 3 = .ok (.aconst_null, 1) := by decide +kernel
theorem dX7_init_4 : decode cX7_init 4 = .ok (.iconst 0, 1) := by decide +kernel
theorem dX7_init_5 : decode cX7_init 5 = .ok (.iconst 0, 1) := by decide +kernel
theorem dX7_init_6 : decode cX7_init 6 = .ok (.invokespecial 3, 3) := by decide +kernel
theorem dX7_init_9 : decode cX7_init 9 = .ok (.aload_n 0, 1) := by decide +kernel
theorem dX7_init_10 : decode cX7_init 10 = .ok (.iload_n 1, 1) := by decide +kernel
theorem dX7_init_11 : decode cX7_init 11 = .ok (.putfield 9, 3) := by decide +kernel
theorem dX7_init_14 : decode cX7_init 14 = .ok (.return_, 1) := by decide +kernel
noncomputable def B_X7_init (l : Launch) (δ : Dl) : Seg (l, δ, yX7_init, 3, none, cX7_init, 2) 0 15 :=
  seq (p := 0) (q := 1) (r := 15) (p_aload_n 0 dX7_init_0) (seq (p := 1) (q := 3) (r := 15) (p_ldcS 1 (Or.inl ⟨rfl, rfl⟩) dX7_init_1) (seq (p := 3) (q := 4) (r := 15) (p_null dX7_init_3) (seq (p := 4) (q := 5) (r := 15) (p_iconst 0 dX7_init_4) (seq (p := 5) (q := 6) (r := 15) (p_iconst 0 dX7_init_5) (seq (p := 6) (q := 9) (r := 15) (p_callG 5 _ (ok_I ci_X7_3 (M_J4_init l δ) (Nat.le_of_ble_eq_true rfl) dX7_init_6) (Nat.le_of_ble_eq_true rfl)) (seq (p := 9) (q := 10) (r := 15) (p_aload_n 0 dX7_init_9) (seq (p := 10) (q := 11) (r := 15) (p_iload_n 1 dX7_init_10) (seq (p := 11) (q := 14) (r := 15) (p_putF [(6, 6)] .int (alF1 ff_X7_9_6) rfl dX7_init_11) (seq (p := 14) (q := 15) (r := 15) (p_return dX7_init_14 rfl) done)))))))))
noncomputable def M_X7_init (l : Launch) (δ : Dl) : Mth l δ yX7_init cX7_init 2 none 3 := mk (B_X7_init l δ) (by decide)
theorem N_X7_init {l : Launch} {δ : Dl} {o : Nat} {a1 : Int} {s : St} : (M_X7_init l δ).1 [.inr (.inr (some o)), .inl a1] s = bres ((B_X7_init l δ).1 [] [some (.inr (.inr (some o))), some (.inl a1)] s) := (mk_eq (hy := by decide) rfl).trans (nrfl rfl)
theorem dX4_want_0 : decode cX4_want 0 = .ok (.iload_n 1, 1) := by decide +kernel
theorem dX4_want_1 : decode cX4_want 1 = .ok (.ifCond .ne 15, 3) := by decide +kernel
theorem dX4_want_4 : decode cX4_want 4 = .ok (.new 26, 3) := by decide +kernel
theorem dX4_want_7 : decode cX4_want 7 = .ok (.dup, 1) := by decide +kernel
theorem dX4_want_8 : decode cX4_want 8 = .ok (.aload_n 0, 1) := by decide +kernel
theorem dX4_want_9 : decode cX4_want 9 = .ok (.getfield 23, 3) := by decide +kernel
theorem dX4_want_12 : decode cX4_want 12 = .ok (.invokespecial 28, 3) := by decide +kernel
theorem dX4_want_15 : decode cX4_want 15 = .ok (.athrow, 1) := by decide +kernel
theorem dX4_want_16 : decode cX4_want 16 = .ok (.return_, 1) := by decide +kernel
noncomputable def B_X4_want (l : Launch) (δ : Dl) : Seg (l, δ, yX4_want, 4, none, cX4_want, 2) 0 17 :=
  seq (p := 0) (q := 1) (r := 17) (p_iload_n 1 dX4_want_0) (seq (p := 1) (q := 16) (r := 17) (blk (seq (p := 1) (q := 4) (r := 16) (p_if_ne 16 dX4_want_1 (by decide)) (seq (p := 4) (q := 7) (r := 16) (p_new 6 ck6 tyX7 tyX7_ok f0_6 f0_6_ok (okc q483) (okc q484) (okc q99) dX4_want_4) (seq (p := 7) (q := 8) (r := 16) (p_dup dX4_want_7) (seq (p := 8) (q := 9) (r := 16) (p_aload_n 0 dX4_want_8) (seq (p := 9) (q := 12) (r := 16) (p_get [(4, 2)] (alL1 fl_X4_23_4) dX4_want_9) (seq (p := 12) (q := 15) (r := 16) (p_callG 2 _ (ok_I ci_X4_28 (M_X7_init l δ) (Nat.le_of_ble_eq_true rfl) dX4_want_12) (Nat.le_of_ble_eq_true rfl)) (seq (p := 15) (q := 16) (r := 16) (p_athrow dX4_want_15) done)))))))) (seq (p := 16) (q := 17) (r := 17) (p_return dX4_want_16 rfl) done))
noncomputable def M_X4_want (l : Launch) (δ : Dl) : Mth l δ yX4_want cX4_want 2 none 4 := mk (B_X4_want l δ) (by decide)
theorem N_X4_want {l : Launch} {δ : Dl} {o : Nat} {a1 : Int} {s : St} : (M_X4_want l δ).1 [.inr (.inr (some o)), .inl a1] s = bres ((B_X4_want l δ).1 [] [some (.inr (.inr (some o))), some (.inl a1)] s) := (mk_eq (hy := by decide) rfl).trans (nrfl rfl)
theorem dX4_letter_0 : decode cX4_letter 0 = .ok (.aload_n 0, 1) := by decide +kernel
theorem dX4_letter_1 : decode cX4_letter 1 = .ok (.invokevirtual 31, 3) := by decide +kernel
theorem dX4_letter_4 : decode cX4_letter 4 = .ok (.istore_n 1, 1) := by decide +kernel
theorem dX4_letter_5 : decode cX4_letter 5 = .ok (.aload_n 0, 1) := by decide +kernel
theorem dX4_letter_6 : decode cX4_letter 6 = .ok (.iload_n 1, 1) := by decide +kernel
theorem dX4_letter_7 : decode cX4_letter 7 = .ok (.bipush 97, 2) := by decide +kernel
theorem dX4_letter_9 : decode cX4_letter 9 = .ok (.if_icmp .lt 13, 3) := by decide +kernel
theorem dX4_letter_12 : decode cX4_letter 12 = .ok (.iload_n 1, 1) := by decide +kernel
theorem dX4_letter_13 : decode cX4_letter 13 = .ok (.bipush 104, 2) := by decide +kernel
theorem dX4_letter_15 : decode cX4_letter 15 = .ok (.if_icmp .gt 7, 3) := by decide +kernel
theorem dX4_letter_18 : decode cX4_letter 18 = .ok (.iconst 1, 1) := by decide +kernel
theorem dX4_letter_19 : decode cX4_letter 19 = .ok (.goto 4, 3) := by decide +kernel
theorem dX4_letter_22 : decode cX4_letter 22 = .ok (.iconst 0, 1) := by decide +kernel
theorem dX4_letter_23 : decode cX4_letter 23 = .ok (.invokevirtual 35, 3) := by decide +kernel
theorem dX4_letter_26 : decode cX4_letter 26 = .ok (.iload_n 1, 1) := by decide +kernel
theorem dX4_letter_27 : decode cX4_letter 27 = .ok (.ireturn, 1) := by decide +kernel
noncomputable def B_X4_letter (l : Launch) (δ : Dl) : Seg (l, δ, yX4_letter, 5, (some .int), cX4_letter, 2) 0 28 :=
  seq (p := 0) (q := 1) (r := 28) (p_aload_n 0 dX4_letter_0) (seq (p := 1) (q := 4) (r := 28) (p_callG 1 _ (ok_V 4 cv_X4_31 rfl (M_X4_look l δ) (Nat.le_of_ble_eq_true rfl) dX4_letter_1) (Nat.le_of_ble_eq_true rfl)) (seq (p := 4) (q := 5) (r := 28) (p_istore_n 1 dX4_letter_4 (Nat.le_of_ble_eq_true rfl)) (seq (p := 5) (q := 6) (r := 28) (p_aload_n 0 dX4_letter_5) (seq (p := 6) (q := 7) (r := 28) (p_iload_n 1 dX4_letter_6) (seq (p := 7) (q := 9) (r := 28) (p_bipush 97 dX4_letter_7 (by decide)) (seq (p := 9) (q := 23) (r := 28) (blk (seq (p := 9) (q := 22) (r := 23) (blk (seq (p := 9) (q := 12) (r := 22) (p_icmp_lt 22 dX4_letter_9 (by decide)) (seq (p := 12) (q := 13) (r := 22) (p_iload_n 1 dX4_letter_12) (seq (p := 13) (q := 15) (r := 22) (p_bipush 104 dX4_letter_13 (by decide)) (seq (p := 15) (q := 18) (r := 22) (p_icmp_gt 22 dX4_letter_15 (by decide)) (seq (p := 18) (q := 19) (r := 22) (p_iconst 1 dX4_letter_18) (seq (p := 19) (q := 22) (r := 22) (p_goto 23 dX4_letter_19 (by decide)) done))))))) (seq (p := 22) (q := 23) (r := 23) (p_iconst 0 dX4_letter_22) done))) (seq (p := 23) (q := 26) (r := 28) (p_callG 2 _ (ok_V 4 cv_X4_35 rfl (M_X4_want l δ) (Nat.le_of_ble_eq_true rfl) dX4_letter_23) (Nat.le_of_ble_eq_true rfl)) (seq (p := 26) (q := 27) (r := 28) (p_iload_n 1 dX4_letter_26) (seq (p := 27) (q := 28) (r := 28) (p_ireturn dX4_letter_27 rfl) done)))))))))
noncomputable def M_X4_letter (l : Launch) (δ : Dl) : Mth l δ yX4_letter cX4_letter 2 (some .int) 5 := mk (B_X4_letter l δ) (by decide)
theorem N_X4_letter {l : Launch} {δ : Dl} {o : Nat} {s : St} : (M_X4_letter l δ).1 [.inr (.inr (some o))] s = bres ((B_X4_letter l δ).1 [] [some (.inr (.inr (some o))), none] s) := (mk_eq (hy := by decide) rfl).trans (nrfl rfl)
theorem dX4_nest_0 : decode cX4_nest 0 = .ok (.aload_n 0, 1) := by decide +kernel
theorem dX4_nest_1 : decode cX4_nest 1 = .ok (.aload_n 0, 1) := by decide +kernel
theorem dX4_nest_2 : decode cX4_nest 2 = .ok (.getfield 45, 3) := by decide +kernel
theorem dX4_nest_5 : decode cX4_nest 5 = .ok (.bipush 12, 2) := by decide +kernel
theorem dX4_nest_7 : decode cX4_nest 7 = .ok (.if_icmp .ge 7, 3) := by decide +kernel
theorem dX4_nest_10 : decode cX4_nest 10 = .ok (.iconst 1, 1) := by decide +kernel
theorem dX4_nest_11 : decode cX4_nest 11 = .ok (.goto 4, 3) := by decide +kernel
theorem dX4_nest_14 : decode cX4_nest 14 = .ok (.iconst 0, 1) := by decide +kernel
theorem dX4_nest_15 : decode cX4_nest 15 = .ok (.invokevirtual 35, 3) := by decide +kernel
theorem dX4_nest_18 : decode cX4_nest 18 = .ok (.aload_n 0, 1) := by decide +kernel
theorem dX4_nest_19 : decode cX4_nest 19 = .ok (.dup, 1) := by decide +kernel
theorem dX4_nest_20 : decode cX4_nest 20 = .ok (.getfield 45, 3) := by decide +kernel
theorem dX4_nest_23 : decode cX4_nest 23 = .ok (.iconst 1, 1) := by decide +kernel
theorem dX4_nest_24 : decode cX4_nest 24 = .ok (.iadd, 1) := by decide +kernel
theorem dX4_nest_25 : decode cX4_nest 25 = .ok (.putfield 45, 3) := by decide +kernel
theorem dX4_nest_28 : decode cX4_nest 28 = .ok (.aload_n 0, 1) := by decide +kernel
theorem dX4_nest_29 : decode cX4_nest 29 = .ok (.dup, 1) := by decide +kernel
theorem dX4_nest_30 : decode cX4_nest 30 = .ok (.getfield 23, 3) := by decide +kernel
theorem dX4_nest_33 : decode cX4_nest 33 = .ok (.iconst 1, 1) := by decide +kernel
theorem dX4_nest_34 : decode cX4_nest 34 = .ok (.iadd, 1) := by decide +kernel
theorem dX4_nest_35 : decode cX4_nest 35 = .ok (.putfield 23, 3) := by decide +kernel
theorem dX4_nest_38 : decode cX4_nest 38 = .ok (.return_, 1) := by decide +kernel
noncomputable def B_X4_nest (l : Launch) (δ : Dl) : Seg (l, δ, yX4_nest, 5, none, cX4_nest, 1) 0 39 :=
  seq (p := 0) (q := 1) (r := 39) (p_aload_n 0 dX4_nest_0) (seq (p := 1) (q := 2) (r := 39) (p_aload_n 0 dX4_nest_1) (seq (p := 2) (q := 5) (r := 39) (p_get [(4, 3)] (alL1 fl_X4_45_4) dX4_nest_2) (seq (p := 5) (q := 7) (r := 39) (p_bipush 12 dX4_nest_5 (by decide)) (seq (p := 7) (q := 15) (r := 39) (blk (seq (p := 7) (q := 14) (r := 15) (blk (seq (p := 7) (q := 10) (r := 14) (p_icmp_ge 14 dX4_nest_7 (by decide)) (seq (p := 10) (q := 11) (r := 14) (p_iconst 1 dX4_nest_10) (seq (p := 11) (q := 14) (r := 14) (p_goto 15 dX4_nest_11 (by decide)) done)))) (seq (p := 14) (q := 15) (r := 15) (p_iconst 0 dX4_nest_14) done))) (seq (p := 15) (q := 18) (r := 39) (p_callG 2 _ (ok_V 4 cv_X4_35 rfl (M_X4_want l δ) (Nat.le_of_ble_eq_true rfl) dX4_nest_15) (Nat.le_of_ble_eq_true rfl)) (seq (p := 18) (q := 19) (r := 39) (p_aload_n 0 dX4_nest_18) (seq (p := 19) (q := 20) (r := 39) (p_dup dX4_nest_19) (seq (p := 20) (q := 23) (r := 39) (p_get [(4, 3)] (alL1 fl_X4_45_4) dX4_nest_20) (seq (p := 23) (q := 24) (r := 39) (p_iconst 1 dX4_nest_23) (seq (p := 24) (q := 25) (r := 39) (p_iadd dX4_nest_24) (seq (p := 25) (q := 28) (r := 39) (p_put [(4, 3)] .int (alP1 fp_X4_45_4) dX4_nest_25) (seq (p := 28) (q := 29) (r := 39) (p_aload_n 0 dX4_nest_28) (seq (p := 29) (q := 30) (r := 39) (p_dup dX4_nest_29) (seq (p := 30) (q := 33) (r := 39) (p_get [(4, 2)] (alL1 fl_X4_23_4) dX4_nest_30) (seq (p := 33) (q := 34) (r := 39) (p_iconst 1 dX4_nest_33) (seq (p := 34) (q := 35) (r := 39) (p_iadd dX4_nest_34) (seq (p := 35) (q := 38) (r := 39) (p_put [(4, 2)] .int (alP1 fp_X4_23_4) dX4_nest_35) (seq (p := 38) (q := 39) (r := 39) (p_return dX4_nest_38 rfl) done))))))))))))))))))
noncomputable def M_X4_nest (l : Launch) (δ : Dl) : Mth l δ yX4_nest cX4_nest 1 none 5 := mk (B_X4_nest l δ) (by decide)
theorem N_X4_nest {l : Launch} {δ : Dl} {o : Nat} {s : St} : (M_X4_nest l δ).1 [.inr (.inr (some o))] s = bres ((B_X4_nest l δ).1 [] [some (.inr (.inr (some o)))] s) := (mk_eq (hy := by decide) rfl).trans (nrfl rfl)
theorem dX4_variable_0 : decode cX4_variable 0 = .ok (.aload_n 0, 1) := by decide +kernel
theorem dX4_variable_1 : decode cX4_variable 1 = .ok (.invokevirtual 39, 3) := by decide +kernel
theorem dX4_variable_4 : decode cX4_variable 4 = .ok (.istore_n 1, 1) := by decide +kernel
theorem dX4_variable_5 : decode cX4_variable 5 = .ok (.aload_n 0, 1) := by decide +kernel
theorem dX4_variable_6 : decode cX4_variable 6 = .ok (.getfield 42, 3) := by decide +kernel
theorem dX4_variable_9 : decode cX4_variable 9 = .ok (.istore_n 2, 1) := by decide +kernel
theorem dX4_variable_10 : decode cX4_variable 10 = .ok (.iload_n 2, 1) := by decide +kernel
theorem dX4_variable_11 : decode cX4_variable 11 = .ok (.ifCond .le 19, 3) := by decide +kernel
theorem dX4_variable_14 : decode cX4_variable 14 = .ok (.aload_n 0, 1) := by decide +kernel
theorem dX4_variable_15 : decode cX4_variable 15 = .ok (.getfield 9, 3) := by decide +kernel
theorem dX4_variable_18 : decode cX4_variable 18 = .ok (.iload_n 2, 1) := by decide +kernel
theorem dX4_variable_19 : decode cX4_variable 19 = .ok (.iaload, 1) := by decide +kernel
theorem dX4_variable_20 : decode cX4_variable 20 = .ok (.iload_n 1, 1) := by decide +kernel
theorem dX4_variable_21 : decode cX4_variable 21 = .ok (.if_icmp .eq 9, 3) := by decide +kernel
theorem dX4_variable_24 : decode cX4_variable 24 = .ok (.iinc 2 (-1), 3) := by decide +kernel
theorem dX4_variable_27 : decode cX4_variable 27 = .ok (.goto (-17), 3) := by decide +kernel
theorem dX4_variable_30 : decode cX4_variable 30 = .ok (.aload_n 0, 1) := by decide +kernel
theorem dX4_variable_31 : decode cX4_variable 31 = .ok (.iload_n 2, 1) := by decide +kernel
theorem dX4_variable_32 : decode cX4_variable 32 = .ok (.ifCond .le 7, 3) := by decide +kernel
theorem dX4_variable_35 : decode cX4_variable 35 = .ok (.iconst 1, 1) := by decide +kernel
theorem dX4_variable_36 : decode cX4_variable 36 = .ok (.goto 4, 3) := by decide +kernel
theorem dX4_variable_39 : decode cX4_variable 39 = .ok (.iconst 0, 1) := by decide +kernel
theorem dX4_variable_40 : decode cX4_variable 40 = .ok (.invokevirtual 35, 3) := by decide +kernel
theorem dX4_variable_43 : decode cX4_variable 43 = .ok (.aload_n 0, 1) := by decide +kernel
theorem dX4_variable_44 : decode cX4_variable 44 = .ok (.dup, 1) := by decide +kernel
theorem dX4_variable_45 : decode cX4_variable 45 = .ok (.getfield 23, 3) := by decide +kernel
theorem dX4_variable_48 : decode cX4_variable 48 = .ok (.iconst 1, 1) := by decide +kernel
theorem dX4_variable_49 : decode cX4_variable 49 = .ok (.iadd, 1) := by decide +kernel
theorem dX4_variable_50 : decode cX4_variable 50 = .ok (.putfield 23, 3) := by decide +kernel
theorem dX4_variable_53 : decode cX4_variable 53 = .ok (.iload_n 2, 1) := by decide +kernel
theorem dX4_variable_54 : decode cX4_variable 54 = .ok (.ireturn, 1) := by decide +kernel
noncomputable def C_X4_variable_L10 (l : Launch) (δ : Dl) : Seg (l, δ, yX4_variable, 6, (some .int), cX4_variable, 3) 10 30 :=
  seq (p := 10) (q := 11) (r := 30) (p_iload_n 2 dX4_variable_10) (seq (p := 11) (q := 14) (r := 30) (p_if_le 30 dX4_variable_11 (by decide)) (seq (p := 14) (q := 15) (r := 30) (p_aload_n 0 dX4_variable_14) (seq (p := 15) (q := 18) (r := 30) (p_get [(4, 5)] (alL1 fl_X4_9_4) dX4_variable_15) (seq (p := 18) (q := 19) (r := 30) (p_iload_n 2 dX4_variable_18) (seq (p := 19) (q := 20) (r := 30) (p_iald dX4_variable_19) (seq (p := 20) (q := 21) (r := 30) (p_iload_n 1 dX4_variable_20) (seq (p := 21) (q := 24) (r := 30) (p_icmp_eq 30 dX4_variable_21 (by decide)) (seq (p := 24) (q := 27) (r := 30) (p_iinc 2 (-1) dX4_variable_24 (Nat.le_of_ble_eq_true rfl)) (seq (p := 27) (q := 27) (r := 30) (er [true, true, true]) (seq (p := 27) (q := 30) (r := 30) (p_goto 10 dX4_variable_27 (by decide)) done))))))))))
noncomputable def B_X4_variable_L10 (l : Launch) (δ : Dl) : Seg (l, δ, yX4_variable, 6, (some .int), cX4_variable, 3) 10 30 := C_X4_variable_L10 l δ
theorem L_X4_variable_10 {l : Launch} {δ : Dl} {st : Stk} {L : Lc} {s : St} : (B_X4_variable_L10 l δ).1 st L s = (C_X4_variable_L10 l δ).1 st L s := nrfl rfl
noncomputable def B_X4_variable (l : Launch) (δ : Dl) : Seg (l, δ, yX4_variable, 6, (some .int), cX4_variable, 3) 0 55 :=
  seq (p := 0) (q := 1) (r := 55) (p_aload_n 0 dX4_variable_0) (seq (p := 1) (q := 4) (r := 55) (p_callG 1 _ (ok_V 4 cv_X4_39 rfl (M_X4_letter l δ) (Nat.le_of_ble_eq_true rfl) dX4_variable_1) (Nat.le_of_ble_eq_true rfl)) (seq (p := 4) (q := 5) (r := 55) (p_istore_n 1 dX4_variable_4 (Nat.le_of_ble_eq_true rfl)) (seq (p := 5) (q := 6) (r := 55) (p_aload_n 0 dX4_variable_5) (seq (p := 6) (q := 9) (r := 55) (p_get [(4, 4)] (alL1 fl_X4_42_4) dX4_variable_6) (seq (p := 9) (q := 10) (r := 55) (p_istore_n 2 dX4_variable_9 (Nat.le_of_ble_eq_true rfl)) (seq (p := 10) (q := 30) (r := 55) (blk (seq (p := 10) (q := 10) (r := 30) (er [true, true, true]) (seq (p := 10) (q := 30) (r := 30) (lp (B_X4_variable_L10 l δ)) done))) (seq (p := 30) (q := 31) (r := 55) (p_aload_n 0 dX4_variable_30) (seq (p := 31) (q := 32) (r := 55) (p_iload_n 2 dX4_variable_31) (seq (p := 32) (q := 40) (r := 55) (blk (seq (p := 32) (q := 39) (r := 40) (blk (seq (p := 32) (q := 35) (r := 39) (p_if_le 39 dX4_variable_32 (by decide)) (seq (p := 35) (q := 36) (r := 39) (p_iconst 1 dX4_variable_35) (seq (p := 36) (q := 39) (r := 39) (p_goto 40 dX4_variable_36 (by decide)) done)))) (seq (p := 39) (q := 40) (r := 40) (p_iconst 0 dX4_variable_39) done))) (seq (p := 40) (q := 43) (r := 55) (p_callG 2 _ (ok_V 4 cv_X4_35 rfl (M_X4_want l δ) (Nat.le_of_ble_eq_true rfl) dX4_variable_40) (Nat.le_of_ble_eq_true rfl)) (seq (p := 43) (q := 44) (r := 55) (p_aload_n 0 dX4_variable_43) (seq (p := 44) (q := 45) (r := 55) (p_dup dX4_variable_44) (seq (p := 45) (q := 48) (r := 55) (p_get [(4, 2)] (alL1 fl_X4_23_4) dX4_variable_45) (seq (p := 48) (q := 49) (r := 55) (p_iconst 1 dX4_variable_48) (seq (p := 49) (q := 50) (r := 55) (p_iadd dX4_variable_49) (seq (p := 50) (q := 53) (r := 55) (p_put [(4, 2)] .int (alP1 fp_X4_23_4) dX4_variable_50) (seq (p := 53) (q := 54) (r := 55) (p_iload_n 2 dX4_variable_53) (seq (p := 54) (q := 55) (r := 55) (p_ireturn dX4_variable_54 rfl) done))))))))))))))))))
noncomputable def M_X4_variable (l : Launch) (δ : Dl) : Mth l δ yX4_variable cX4_variable 3 (some .int) 6 := mk (B_X4_variable l δ) (by decide)
theorem N_X4_variable {l : Launch} {δ : Dl} {o : Nat} {s : St} : (M_X4_variable l δ).1 [.inr (.inr (some o))] s = bres ((B_X4_variable l δ).1 [] [some (.inr (.inr (some o))), none, none] s) := (mk_eq (hy := by decide) rfl).trans (nrfl rfl)
theorem dX6_init_0 : decode cX6_init 0 = .ok (.aload_n 0, 1) := by decide +kernel
theorem dX6_init_1 : decode cX6_init 1 = .ok (.invokespecial 1, 3) := by decide +kernel
theorem dX6_init_4 : decode cX6_init 4 = .ok (.aload_n 0, 1) := by decide +kernel
theorem dX6_init_5 : decode cX6_init 5 = .ok (.iload_n 1, 1) := by decide +kernel
theorem dX6_init_6 : decode cX6_init 6 = .ok (.putfield 7, 3) := by decide +kernel
theorem dX6_init_9 : decode cX6_init 9 = .ok (.aload_n 0, 1) := by decide +kernel
theorem dX6_init_10 : decode cX6_init 10 = .ok (.iload_n 2, 1) := by decide +kernel
theorem dX6_init_11 : decode cX6_init 11 = .ok (.putfield 13, 3) := by decide +kernel
theorem dX6_init_14 : decode cX6_init 14 = .ok (.aload_n 0, 1) := by decide +kernel
theorem dX6_init_15 : decode cX6_init 15 = .ok (.iload_n 3, 1) := by decide +kernel
theorem dX6_init_16 : decode cX6_init 16 = .ok (.putfield 17, 3) := by decide +kernel
theorem dX6_init_19 : decode cX6_init 19 = .ok (.return_, 1) := by decide +kernel
noncomputable def B_X6_init (l : Launch) (δ : Dl) : Seg (l, δ, yX6_init, 2, none, cX6_init, 4) 0 20 :=
  seq (p := 0) (q := 1) (r := 20) (p_aload_n 0 dX6_init_0) (seq (p := 1) (q := 4) (r := 20) (p_callG 1 _ (ok_I ci_X6_1 (M_X5_init l δ) (Nat.le_of_ble_eq_true rfl) dX6_init_1) (Nat.le_of_ble_eq_true rfl)) (seq (p := 4) (q := 5) (r := 20) (p_aload_n 0 dX6_init_4) (seq (p := 5) (q := 6) (r := 20) (p_iload_n 1 dX6_init_5) (seq (p := 6) (q := 9) (r := 20) (p_putF [(5, 0)] .char (alF1 ff_X6_7_5) rfl dX6_init_6) (seq (p := 9) (q := 10) (r := 20) (p_aload_n 0 dX6_init_9) (seq (p := 10) (q := 11) (r := 20) (p_iload_n 2 dX6_init_10) (seq (p := 11) (q := 14) (r := 20) (p_putF [(5, 1)] .int (alF1 ff_X6_13_5) rfl dX6_init_11) (seq (p := 14) (q := 15) (r := 20) (p_aload_n 0 dX6_init_14) (seq (p := 15) (q := 16) (r := 20) (p_iload_n 3 dX6_init_15) (seq (p := 16) (q := 19) (r := 20) (p_putF [(5, 2)] .int (alF1 ff_X6_17_5) rfl dX6_init_16) (seq (p := 19) (q := 20) (r := 20) (p_return dX6_init_19 rfl) done)))))))))))
noncomputable def M_X6_init (l : Launch) (δ : Dl) : Mth l δ yX6_init cX6_init 4 none 2 := mk (B_X6_init l δ) (by decide)
theorem N_X6_init {l : Launch} {δ : Dl} {o : Nat} {a1 : Int} {a2 : Int} {a3 : Int} {s : St} : (M_X6_init l δ).1 [.inr (.inr (some o)), .inl a1, .inl a2, .inl a3] s = bres ((B_X6_init l δ).1 [] [some (.inr (.inr (some o))), some (.inl a1), some (.inl a2), some (.inl a3)] s) := (mk_eq (hy := by decide) rfl).trans (nrfl rfl)
theorem dX8_init_0 : decode cX8_init 0 = .ok (.aload_n 0, 1) := by decide +kernel
theorem dX8_init_1 : decode cX8_init 1 = .ok (.invokespecial 1, 3) := by decide +kernel
theorem dX8_init_4 : decode cX8_init 4 = .ok (.aload_n 0, 1) := by decide +kernel
theorem dX8_init_5 : decode cX8_init 5 = .ok (.aload_n 1, 1) := by decide +kernel
theorem dX8_init_6 : decode cX8_init 6 = .ok (.putfield 7, 3) := by decide +kernel
theorem dX8_init_9 : decode cX8_init 9 = .ok (.return_, 1) := by decide +kernel
noncomputable def B_X8_init (l : Launch) (δ : Dl) : Seg (l, δ, yX8_init, 2, none, cX8_init, 2) 0 10 :=
  seq (p := 0) (q := 1) (r := 10) (p_aload_n 0 dX8_init_0) (seq (p := 1) (q := 4) (r := 10) (p_callG 1 _ (ok_I ci_X8_1 (M_X5_init l δ) (Nat.le_of_ble_eq_true rfl) dX8_init_1) (Nat.le_of_ble_eq_true rfl)) (seq (p := 4) (q := 5) (r := 10) (p_aload_n 0 dX8_init_4) (seq (p := 5) (q := 6) (r := 10) (p_aload_n 1 dX8_init_5) (seq (p := 6) (q := 9) (r := 10) (p_putF [(7, 0), (8, 0)] (.object "TwoWorlds$Formula") (alF2 ff_X8_7_7 ff_X8_7_8) rfl dX8_init_6) (seq (p := 9) (q := 10) (r := 10) (p_return dX8_init_9 rfl) done)))))
noncomputable def M_X8_init (l : Launch) (δ : Dl) : Mth l δ yX8_init cX8_init 2 none 2 := mk (B_X8_init l δ) (by decide)
theorem N_X8_init {l : Launch} {δ : Dl} {o : Nat} {a1 : Option Nat} {s : St} : (M_X8_init l δ).1 [.inr (.inr (some o)), .inr (.inr a1)] s = bres ((B_X8_init l δ).1 [] [some (.inr (.inr (some o))), some (.inr (.inr a1))] s) := (mk_eq (hy := by decide) rfl).trans (nrfl rfl)
theorem dX9_init_0 : decode cX9_init 0 = .ok (.aload_n 0, 1) := by decide +kernel
theorem dX9_init_1 : decode cX9_init 1 = .ok (.aload_n 1, 1) := by decide +kernel
theorem dX9_init_2 : decode cX9_init 2 = .ok (.invokespecial 1, 3) := by decide +kernel
theorem dX9_init_5 : decode cX9_init 5 = .ok (.aload_n 0, 1) := by decide +kernel
theorem dX9_init_6 : decode cX9_init 6 = .ok (.iload_n 2, 1) := by decide +kernel
theorem dX9_init_7 : decode cX9_init 7 = .ok (.putfield 7, 3) := by decide +kernel
theorem dX9_init_10 : decode cX9_init 10 = .ok (.aload_n 0, 1) := by decide +kernel
theorem dX9_init_11 : decode cX9_init 11 = .ok (.iload_n 3, 1) := by decide +kernel
theorem dX9_init_12 : decode cX9_init 12 = .ok (.putfield 13, 3) := by decide +kernel
theorem dX9_init_15 : decode cX9_init 15 = .ok (.return_, 1) := by decide +kernel
noncomputable def B_X9_init (l : Launch) (δ : Dl) : Seg (l, δ, yX9_init, 3, none, cX9_init, 4) 0 16 :=
  seq (p := 0) (q := 1) (r := 16) (p_aload_n 0 dX9_init_0) (seq (p := 1) (q := 2) (r := 16) (p_aload_n 1 dX9_init_1) (seq (p := 2) (q := 5) (r := 16) (p_callG 2 _ (ok_I ci_X9_1 (M_X8_init l δ) (Nat.le_of_ble_eq_true rfl) dX9_init_2) (Nat.le_of_ble_eq_true rfl)) (seq (p := 5) (q := 6) (r := 16) (p_aload_n 0 dX9_init_5) (seq (p := 6) (q := 7) (r := 16) (p_iload_n 2 dX9_init_6) (seq (p := 7) (q := 10) (r := 16) (p_putF [(8, 1)] .int (alF1 ff_X9_7_8) rfl dX9_init_7) (seq (p := 10) (q := 11) (r := 16) (p_aload_n 0 dX9_init_10) (seq (p := 11) (q := 12) (r := 16) (p_iload_n 3 dX9_init_11) (seq (p := 12) (q := 15) (r := 16) (p_putF [(8, 2)] .boolean (alF1 ff_X9_13_8) rfl dX9_init_12) (seq (p := 15) (q := 16) (r := 16) (p_return dX9_init_15 rfl) done)))))))))
noncomputable def M_X9_init (l : Launch) (δ : Dl) : Mth l δ yX9_init cX9_init 4 none 3 := mk (B_X9_init l δ) (by decide)
theorem N_X9_init {l : Launch} {δ : Dl} {o : Nat} {a1 : Option Nat} {a2 : Int} {a3 : Int} {s : St} : (M_X9_init l δ).1 [.inr (.inr (some o)), .inr (.inr a1), .inl a2, .inl a3] s = bres ((B_X9_init l δ).1 [] [some (.inr (.inr (some o))), some (.inr (.inr a1)), some (.inl a2), some (.inl a3)] s) := (mk_eq (hy := by decide) rfl).trans (nrfl rfl)
abbrev T_rea (l : Launch) (δ : Dl) (n : Nat) : Type := Mth l δ yX4_part cX4_part 5 (some (.object "TwoWorlds$Formula")) (7 + n) × Mth l δ yX4_each cX4_each 5 (some (.object "TwoWorlds$Formula")) (7 + n) × Mth l δ yX4_formula cX4_formula 4 (some (.object "TwoWorlds$Formula")) (7 + n)
theorem dX4_part_0 : decode cX4_part 0 = .ok (.aload_n 0, 1) := by decide +kernel
theorem dX4_part_1 : decode cX4_part 1 = .ok (.invokevirtual 31, 3) := by decide +kernel
theorem dX4_part_4 : decode cX4_part 4 = .ok (.istore_n 1, 1) := by decide +kernel
theorem dX4_part_5 : decode cX4_part 5 = .ok (.iload_n 1, 1) := by decide +kernel
theorem dX4_part_6 : decode cX4_part 6 = .ok (.lookupswitch 262 #[(40, 195), (45, 167), (61, 137), (63, 246), (64, 246), (65, 112), (66, 112), (69, 137), (70, 90), (84, 90)], 90) := by decide +kernel
theorem dX4_part_96 : decode cX4_part 96 = .ok (.aload_n 0, 1) := by decide +kernel
theorem dX4_part_97 : decode cX4_part 97 = .ok (.dup, 1) := by decide +kernel
theorem dX4_part_98 : decode cX4_part 98 = .ok (.getfield 23, 3) := by decide +kernel
theorem dX4_part_101 : decode cX4_part 101 = .ok (.iconst 1, 1) := by decide +kernel
theorem dX4_part_102 : decode cX4_part 102 = .ok (.iadd, 1) := by decide +kernel
theorem dX4_part_103 : decode cX4_part 103 = .ok (.putfield 23, 3) := by decide +kernel
theorem dX4_part_106 : decode cX4_part 106 = .ok (.new 48, 3) := by decide +kernel
theorem dX4_part_109 : decode cX4_part 109 = .ok (.dup, 1) := by decide +kernel
theorem dX4_part_110 : decode cX4_part 110 = .ok (.iload_n 1, 1) := by decide +kernel
theorem dX4_part_111 : decode cX4_part 111 = .ok (.i2c, 1) := by decide +kernel
theorem dX4_part_112 : decode cX4_part 112 = .ok (.iconst 0, 1) := by decide +kernel
theorem dX4_part_113 : decode cX4_part 113 = .ok (.iconst 0, 1) := by decide +kernel
theorem dX4_part_114 : decode cX4_part 114 = .ok (.invokespecial 50, 3) := by decide +kernel
theorem dX4_part_117 : decode cX4_part 117 = .ok (.areturn, 1) := by decide +kernel
theorem dX4_part_118 : decode cX4_part 118 = .ok (.aload_n 0, 1) := by decide +kernel
theorem dX4_part_119 : decode cX4_part 119 = .ok (.dup, 1) := by decide +kernel
theorem dX4_part_120 : decode cX4_part 120 = .ok (.getfield 23, 3) := by decide +kernel
theorem dX4_part_123 : decode cX4_part 123 = .ok (.iconst 1, 1) := by decide +kernel
theorem dX4_part_124 : decode cX4_part 124 = .ok (.iadd, 1) := by decide +kernel
theorem dX4_part_125 : decode cX4_part 125 = .ok (.putfield 23, 3) := by decide +kernel
theorem dX4_part_128 : decode cX4_part 128 = .ok (.new 48, 3) := by decide +kernel
theorem dX4_part_131 : decode cX4_part 131 = .ok (.dup, 1) := by decide +kernel
theorem dX4_part_132 : decode cX4_part 132 = .ok (.iload_n 1, 1) := by decide +kernel
theorem dX4_part_133 : decode cX4_part 133 = .ok (.i2c, 1) := by decide +kernel
theorem dX4_part_134 : decode cX4_part 134 = .ok (.aload_n 0, 1) := by decide +kernel
theorem dX4_part_135 : decode cX4_part 135 = .ok (.invokevirtual 53, 3) := by decide +kernel
theorem dX4_part_138 : decode cX4_part 138 = .ok (.iconst 0, 1) := by decide +kernel
theorem dX4_part_139 : decode cX4_part 139 = .ok (.invokespecial 50, 3) := by decide +kernel
theorem dX4_part_142 : decode cX4_part 142 = .ok (.areturn, 1) := by decide +kernel
theorem dX4_part_143 : decode cX4_part 143 = .ok (.aload_n 0, 1) := by decide +kernel
theorem dX4_part_144 : decode cX4_part 144 = .ok (.dup, 1) := by decide +kernel
theorem dX4_part_145 : decode cX4_part 145 = .ok (.getfield 23, 3) := by decide +kernel
theorem dX4_part_148 : decode cX4_part 148 = .ok (.iconst 1, 1) := by decide +kernel
theorem dX4_part_149 : decode cX4_part 149 = .ok (.iadd, 1) := by decide +kernel
theorem dX4_part_150 : decode cX4_part 150 = .ok (.putfield 23, 3) := by decide +kernel
theorem dX4_part_153 : decode cX4_part 153 = .ok (.aload_n 0, 1) := by decide +kernel
theorem dX4_part_154 : decode cX4_part 154 = .ok (.invokevirtual 53, 3) := by decide +kernel
theorem dX4_part_157 : decode cX4_part 157 = .ok (.istore_n 2, 1) := by decide +kernel
theorem dX4_part_158 : decode cX4_part 158 = .ok (.new 48, 3) := by decide +kernel
theorem dX4_part_161 : decode cX4_part 161 = .ok (.dup, 1) := by decide +kernel
theorem dX4_part_162 : decode cX4_part 162 = .ok (.iload_n 1, 1) := by decide +kernel
theorem dX4_part_163 : decode cX4_part 163 = .ok (.i2c, 1) := by decide +kernel
theorem dX4_part_164 : decode cX4_part 164 = .ok (.iload_n 2, 1) := by decide +kernel
theorem dX4_part_165 : decode cX4_part 165 = .ok (.aload_n 0, 1) := by decide +kernel
theorem dX4_part_166 : decode cX4_part 166 = .ok (.invokevirtual 53, 3) := by decide +kernel
theorem dX4_part_169 : decode cX4_part 169 = .ok (.invokespecial 50, 3) := by decide +kernel
theorem dX4_part_172 : decode cX4_part 172 = .ok (.areturn, 1) := by decide +kernel
theorem dX4_part_173 : decode cX4_part 173 = .ok (.aload_n 0, 1) := by decide +kernel
theorem dX4_part_174 : decode cX4_part 174 = .ok (.invokevirtual 56, 3) := by decide +kernel
theorem dX4_part_177 : decode cX4_part 177 = .ok (.new 59, 3) := by decide +kernel
theorem dX4_part_180 : decode cX4_part 180 = .ok (.dup, 1) := by decide +kernel
theorem dX4_part_181 : decode cX4_part 181 = .ok (.aload_n 0, 1) := by decide +kernel
theorem dX4_part_182 : decode cX4_part 182 = .ok (.invokevirtual 61, 3) := by decide +kernel
theorem dX4_part_185 : decode cX4_part 185 = .ok (.invokespecial 65, 3) := by decide +kernel
theorem dX4_part_188 : decode cX4_part 188 = .ok (.astore_n 3, 1) := by decide +kernel
theorem dX4_part_189 : decode cX4_part 189 = .ok (.aload_n 0, 1) := by decide +kernel
theorem dX4_part_190 : decode cX4_part 190 = .ok (.dup, 1) := by decide +kernel
theorem dX4_part_191 : decode cX4_part 191 = .ok (.getfield 45, 3) := by decide +kernel
theorem dX4_part_194 : decode cX4_part 194 = .ok (.iconst 1, 1) := by decide +kernel
theorem dX4_part_195 : decode cX4_part 195 = .ok (.isub, 1) := by decide +kernel
theorem dX4_part_196 : decode cX4_part 196 = .ok (.putfield 45, 3) := by decide +kernel
theorem dX4_part_199 : decode cX4_part 199 = .ok (.aload_n 3, 1) := by decide +kernel
theorem dX4_part_200 : decode cX4_part 200 = .ok (.areturn, 1) := by decide +kernel
theorem dX4_part_201 : decode cX4_part 201 = .ok (.aload_n 0, 1) := by decide +kernel
theorem dX4_part_202 : decode cX4_part 202 = .ok (.invokevirtual 56, 3) := by decide +kernel
theorem dX4_part_205 : decode cX4_part 205 = .ok (.aload_n 0, 1) := by decide +kernel
theorem dX4_part_206 : decode cX4_part 206 = .ok (.invokevirtual 68, 3) := by decide +kernel
theorem dX4_part_209 : decode cX4_part 209 = .ok (.astore 4, 2) := by decide +kernel
theorem dX4_part_211 : decode cX4_part 211 = .ok (.aload_n 0, 1) := by decide +kernel
theorem dX4_part_212 : decode cX4_part 212 = .ok (.aload_n 0, 1) := by decide +kernel
theorem dX4_part_213 : decode cX4_part 213 = .ok (.invokevirtual 31, 3) := by decide +kernel
theorem dX4_part_216 : decode cX4_part 216 = .ok (.bipush 41, 2) := by decide +kernel
theorem dX4_part_218 : decode cX4_part 218 = .ok (.if_icmp .ne 7, 3) := by decide +kernel
theorem dX4_part_221 : decode cX4_part 221 = .ok (.iconst 1, 1) := by decide +kernel
theorem dX4_part_222 : decode cX4_part 222 = .ok (.goto 4, 3) := by decide +kernel
theorem dX4_part_225 : decode cX4_part 225 = .ok (.iconst 0, 1) := by decide +kernel
theorem dX4_part_226 : decode cX4_part 226 = .ok (.invokevirtual 35, 3) := by decide +kernel
theorem dX4_part_229 : decode cX4_part 229 = .ok (.aload_n 0, 1) := by decide +kernel
theorem dX4_part_230 : decode cX4_part 230 = .ok (.dup, 1) := by decide +kernel
theorem dX4_part_231 : decode cX4_part 231 = .ok (.getfield 23, 3) := by decide +kernel
theorem dX4_part_234 : decode cX4_part 234 = .ok (.iconst 1, 1) := by decide +kernel
theorem dX4_part_235 : decode cX4_part 235 = .ok (.iadd, 1) := by decide +kernel
theorem dX4_part_236 : decode cX4_part 236 = .ok (.putfield 23, 3) := by decide +kernel
theorem dX4_part_239 : decode cX4_part 239 = .ok (.aload_n 0, 1) := by decide +kernel
theorem dX4_part_240 : decode cX4_part 240 = .ok (.dup, 1) := by decide +kernel
theorem dX4_part_241 : decode cX4_part 241 = .ok (.getfield 45, 3) := by decide +kernel
theorem dX4_part_244 : decode cX4_part 244 = .ok (.iconst 1, 1) := by decide +kernel
theorem dX4_part_245 : decode cX4_part 245 = .ok (.isub, 1) := by decide +kernel
theorem dX4_part_246 : decode cX4_part 246 = .ok (.putfield 45, 3) := by decide +kernel
theorem dX4_part_249 : decode cX4_part 249 = .ok (.aload 4, 2) := by decide +kernel
theorem dX4_part_251 : decode cX4_part 251 = .ok (.areturn, 1) := by decide +kernel
theorem dX4_part_252 : decode cX4_part 252 = .ok (.aload_n 0, 1) := by decide +kernel
theorem dX4_part_253 : decode cX4_part 253 = .ok (.iload_n 1, 1) := by decide +kernel
theorem dX4_part_254 : decode cX4_part 254 = .ok (.bipush 64, 2) := by decide +kernel
theorem dX4_part_256 : decode cX4_part 256 = .ok (.if_icmp .ne 7, 3) := by decide +kernel
theorem dX4_part_259 : decode cX4_part 259 = .ok (.iconst 1, 1) := by decide +kernel
theorem dX4_part_260 : decode cX4_part 260 = .ok (.goto 4, 3) := by decide +kernel
theorem dX4_part_263 : decode cX4_part 263 = .ok (.iconst 0, 1) := by decide +kernel
theorem dX4_part_264 : decode cX4_part 264 = .ok (.invokevirtual 71, 3) := by decide +kernel
theorem dX4_part_267 : decode cX4_part 267 = .ok (.areturn, 1) := by decide +kernel
theorem dX4_part_268 : decode cX4_part 268 = .ok (.new 26, 3) := by decide +kernel
theorem dX4_part_271 : decode cX4_part 271 = .ok (.dup, 1) := by decide +kernel
theorem dX4_part_272 : decode cX4_part 272 = .ok (.aload_n 0, 1) := by decide +kernel
theorem dX4_part_273 : decode cX4_part 273 = .ok (.getfield 23, 3) := by decide +kernel
theorem dX4_part_276 : decode cX4_part 276 = .ok (.invokespecial 28, 3) := by decide +kernel
theorem dX4_part_279 : decode cX4_part 279 = .ok (.athrow, 1) := by decide +kernel
noncomputable def B_X4_part (l : Launch) (δ : Dl) (n : Nat) (r : T_rea l δ n) : Seg (l, δ, yX4_part, 7 + (n + 1), (some (.object "TwoWorlds$Formula")), cX4_part, 5) 0 280 :=
  seq (p := 0) (q := 1) (r := 280) (p_aload_n 0 dX4_part_0) (seq (p := 1) (q := 4) (r := 280) (p_callG 1 _ (ok_V 4 cv_X4_31 rfl (M_X4_look l δ) (Nat.lt_of_lt_of_le (show 0 < 7 from (Nat.le_of_ble_eq_true rfl)) (Nat.le_add_right _ _)) dX4_part_1) (Nat.le_of_ble_eq_true rfl)) (seq (p := 4) (q := 5) (r := 280) (p_istore_n 1 dX4_part_4 (Nat.le_of_ble_eq_true rfl)) (seq (p := 5) (q := 6) (r := 280) (p_iload_n 1 dX4_part_5) (seq (p := 6) (q := 268) (r := 280) (blk (seq (p := 6) (q := 252) (r := 268) (blk (seq (p := 6) (q := 201) (r := 252) (blk (seq (p := 6) (q := 173) (r := 201) (blk (seq (p := 6) (q := 143) (r := 173) (blk (seq (p := 6) (q := 118) (r := 143) (blk (seq (p := 6) (q := 96) (r := 118) (blk (seq (p := 6) (q := 96) (r := 96) (p_lookup (len := 90) dX4_part_6 (by decide)) done)) (seq (p := 96) (q := 97) (r := 118) (p_aload_n 0 dX4_part_96) (seq (p := 97) (q := 98) (r := 118) (p_dup dX4_part_97) (seq (p := 98) (q := 101) (r := 118) (p_get [(4, 2)] (alL1 fl_X4_23_4) dX4_part_98) (seq (p := 101) (q := 102) (r := 118) (p_iconst 1 dX4_part_101) (seq (p := 102) (q := 103) (r := 118) (p_iadd dX4_part_102) (seq (p := 103) (q := 106) (r := 118) (p_put [(4, 2)] .int (alP1 fp_X4_23_4) dX4_part_103) (seq (p := 106) (q := 109) (r := 118) (p_new 5 ck5 tyX6 tyX6_ok f0_5 f0_5_ok (okc q452) (okc q453) (okc q96) dX4_part_106) (seq (p := 109) (q := 110) (r := 118) (p_dup dX4_part_109) (seq (p := 110) (q := 111) (r := 118) (p_iload_n 1 dX4_part_110) (seq (p := 111) (q := 112) (r := 118) (p_i2c dX4_part_111) (seq (p := 112) (q := 113) (r := 118) (p_iconst 0 dX4_part_112) (seq (p := 113) (q := 114) (r := 118) (p_iconst 0 dX4_part_113) (seq (p := 114) (q := 117) (r := 118) (p_callG 4 _ (ok_I ci_X4_50 (M_X6_init l δ) (Nat.lt_of_lt_of_le (show 2 < 7 from (Nat.le_of_ble_eq_true rfl)) (Nat.le_add_right _ _)) dX4_part_114) (Nat.le_of_ble_eq_true rfl)) (seq (p := 117) (q := 118) (r := 118) (p_areturn dX4_part_117 rfl (Or.inl ⟨_, rfl⟩)) done)))))))))))))))) (seq (p := 118) (q := 119) (r := 143) (p_aload_n 0 dX4_part_118) (seq (p := 119) (q := 120) (r := 143) (p_dup dX4_part_119) (seq (p := 120) (q := 123) (r := 143) (p_get [(4, 2)] (alL1 fl_X4_23_4) dX4_part_120) (seq (p := 123) (q := 124) (r := 143) (p_iconst 1 dX4_part_123) (seq (p := 124) (q := 125) (r := 143) (p_iadd dX4_part_124) (seq (p := 125) (q := 128) (r := 143) (p_put [(4, 2)] .int (alP1 fp_X4_23_4) dX4_part_125) (seq (p := 128) (q := 131) (r := 143) (p_new 5 ck5 tyX6 tyX6_ok f0_5 f0_5_ok (okc q452) (okc q453) (okc q96) dX4_part_128) (seq (p := 131) (q := 132) (r := 143) (p_dup dX4_part_131) (seq (p := 132) (q := 133) (r := 143) (p_iload_n 1 dX4_part_132) (seq (p := 133) (q := 134) (r := 143) (p_i2c dX4_part_133) (seq (p := 134) (q := 135) (r := 143) (p_aload_n 0 dX4_part_134) (seq (p := 135) (q := 138) (r := 143) (p_callG 1 _ (ok_V 4 cv_X4_53 rfl (M_X4_variable l δ) (Nat.lt_of_lt_of_le (show 6 < 7 from (Nat.le_of_ble_eq_true rfl)) (Nat.le_add_right _ _)) dX4_part_135) (Nat.le_of_ble_eq_true rfl)) (seq (p := 138) (q := 139) (r := 143) (p_iconst 0 dX4_part_138) (seq (p := 139) (q := 142) (r := 143) (p_callG 4 _ (ok_I ci_X4_50 (M_X6_init l δ) (Nat.lt_of_lt_of_le (show 2 < 7 from (Nat.le_of_ble_eq_true rfl)) (Nat.le_add_right _ _)) dX4_part_139) (Nat.le_of_ble_eq_true rfl)) (seq (p := 142) (q := 143) (r := 143) (p_areturn dX4_part_142 rfl (Or.inl ⟨_, rfl⟩)) done))))))))))))))))) (seq (p := 143) (q := 144) (r := 173) (p_aload_n 0 dX4_part_143) (seq (p := 144) (q := 145) (r := 173) (p_dup dX4_part_144) (seq (p := 145) (q := 148) (r := 173) (p_get [(4, 2)] (alL1 fl_X4_23_4) dX4_part_145) (seq (p := 148) (q := 149) (r := 173) (p_iconst 1 dX4_part_148) (seq (p := 149) (q := 150) (r := 173) (p_iadd dX4_part_149) (seq (p := 150) (q := 153) (r := 173) (p_put [(4, 2)] .int (alP1 fp_X4_23_4) dX4_part_150) (seq (p := 153) (q := 154) (r := 173) (p_aload_n 0 dX4_part_153) (seq (p := 154) (q := 157) (r := 173) (p_callG 1 _ (ok_V 4 cv_X4_53 rfl (M_X4_variable l δ) (Nat.lt_of_lt_of_le (show 6 < 7 from (Nat.le_of_ble_eq_true rfl)) (Nat.le_add_right _ _)) dX4_part_154) (Nat.le_of_ble_eq_true rfl)) (seq (p := 157) (q := 158) (r := 173) (p_istore_n 2 dX4_part_157 (Nat.le_of_ble_eq_true rfl)) (seq (p := 158) (q := 161) (r := 173) (p_new 5 ck5 tyX6 tyX6_ok f0_5 f0_5_ok (okc q452) (okc q453) (okc q96) dX4_part_158) (seq (p := 161) (q := 162) (r := 173) (p_dup dX4_part_161) (seq (p := 162) (q := 163) (r := 173) (p_iload_n 1 dX4_part_162) (seq (p := 163) (q := 164) (r := 173) (p_i2c dX4_part_163) (seq (p := 164) (q := 165) (r := 173) (p_iload_n 2 dX4_part_164) (seq (p := 165) (q := 166) (r := 173) (p_aload_n 0 dX4_part_165) (seq (p := 166) (q := 169) (r := 173) (p_callG 1 _ (ok_V 4 cv_X4_53 rfl (M_X4_variable l δ) (Nat.lt_of_lt_of_le (show 6 < 7 from (Nat.le_of_ble_eq_true rfl)) (Nat.le_add_right _ _)) dX4_part_166) (Nat.le_of_ble_eq_true rfl)) (seq (p := 169) (q := 172) (r := 173) (p_callG 4 _ (ok_I ci_X4_50 (M_X6_init l δ) (Nat.lt_of_lt_of_le (show 2 < 7 from (Nat.le_of_ble_eq_true rfl)) (Nat.le_add_right _ _)) dX4_part_169) (Nat.le_of_ble_eq_true rfl)) (seq (p := 172) (q := 173) (r := 173) (p_areturn dX4_part_172 rfl (Or.inl ⟨_, rfl⟩)) done)))))))))))))))))))) (seq (p := 173) (q := 174) (r := 201) (p_aload_n 0 dX4_part_173) (seq (p := 174) (q := 177) (r := 201) (p_callG 1 _ (ok_V 4 cv_X4_56 rfl (M_X4_nest l δ) (Nat.lt_of_lt_of_le (show 5 < 7 from (Nat.le_of_ble_eq_true rfl)) (Nat.le_add_right _ _)) dX4_part_174) (Nat.le_of_ble_eq_true rfl)) (seq (p := 177) (q := 180) (r := 201) (p_new 7 ck7 tyX8 tyX8_ok f0_7 f0_7_ok (okc q552) (okc q553) (okc q100) dX4_part_177) (seq (p := 180) (q := 181) (r := 201) (p_dup dX4_part_180) (seq (p := 181) (q := 182) (r := 201) (p_aload_n 0 dX4_part_181) (seq (p := 182) (q := 185) (r := 201) (p_callG 1 _ (ok_V 4 cv_X4_61 rfl (r.1) (Nat.lt_succ_self _) dX4_part_182) (Nat.le_of_ble_eq_true rfl)) (seq (p := 185) (q := 188) (r := 201) (p_callG 2 _ (ok_I ci_X4_65 (M_X8_init l δ) (Nat.lt_of_lt_of_le (show 2 < 7 from (Nat.le_of_ble_eq_true rfl)) (Nat.le_add_right _ _)) dX4_part_185) (Nat.le_of_ble_eq_true rfl)) (seq (p := 188) (q := 189) (r := 201) (p_astore_n 3 dX4_part_188 (Nat.le_of_ble_eq_true rfl)) (seq (p := 189) (q := 190) (r := 201) (p_aload_n 0 dX4_part_189) (seq (p := 190) (q := 191) (r := 201) (p_dup dX4_part_190) (seq (p := 191) (q := 194) (r := 201) (p_get [(4, 3)] (alL1 fl_X4_45_4) dX4_part_191) (seq (p := 194) (q := 195) (r := 201) (p_iconst 1 dX4_part_194) (seq (p := 195) (q := 196) (r := 201) (p_isub dX4_part_195) (seq (p := 196) (q := 199) (r := 201) (p_put [(4, 3)] .int (alP1 fp_X4_45_4) dX4_part_196) (seq (p := 199) (q := 200) (r := 201) (p_aload_n 3 dX4_part_199) (seq (p := 200) (q := 201) (r := 201) (p_areturn dX4_part_200 rfl (Or.inl ⟨_, rfl⟩)) done)))))))))))))))))) (seq (p := 201) (q := 202) (r := 252) (p_aload_n 0 dX4_part_201) (seq (p := 202) (q := 205) (r := 252) (p_callG 1 _ (ok_V 4 cv_X4_56 rfl (M_X4_nest l δ) (Nat.lt_of_lt_of_le (show 5 < 7 from (Nat.le_of_ble_eq_true rfl)) (Nat.le_add_right _ _)) dX4_part_202) (Nat.le_of_ble_eq_true rfl)) (seq (p := 205) (q := 206) (r := 252) (p_aload_n 0 dX4_part_205) (seq (p := 206) (q := 209) (r := 252) (p_callG 1 _ (ok_V 4 cv_X4_68 rfl (r.2.2) (Nat.lt_succ_self _) dX4_part_206) (Nat.le_of_ble_eq_true rfl)) (seq (p := 209) (q := 211) (r := 252) (p_astore 4 dX4_part_209 (Nat.le_of_ble_eq_true rfl)) (seq (p := 211) (q := 212) (r := 252) (p_aload_n 0 dX4_part_211) (seq (p := 212) (q := 213) (r := 252) (p_aload_n 0 dX4_part_212) (seq (p := 213) (q := 216) (r := 252) (p_callG 1 _ (ok_V 4 cv_X4_31 rfl (M_X4_look l δ) (Nat.lt_of_lt_of_le (show 0 < 7 from (Nat.le_of_ble_eq_true rfl)) (Nat.le_add_right _ _)) dX4_part_213) (Nat.le_of_ble_eq_true rfl)) (seq (p := 216) (q := 218) (r := 252) (p_bipush 41 dX4_part_216 (by decide)) (seq (p := 218) (q := 226) (r := 252) (blk (seq (p := 218) (q := 225) (r := 226) (blk (seq (p := 218) (q := 221) (r := 225) (p_icmp_ne 225 dX4_part_218 (by decide)) (seq (p := 221) (q := 222) (r := 225) (p_iconst 1 dX4_part_221) (seq (p := 222) (q := 225) (r := 225) (p_goto 226 dX4_part_222 (by decide)) done)))) (seq (p := 225) (q := 226) (r := 226) (p_iconst 0 dX4_part_225) done))) (seq (p := 226) (q := 229) (r := 252) (p_callG 2 _ (ok_V 4 cv_X4_35 rfl (M_X4_want l δ) (Nat.lt_of_lt_of_le (show 4 < 7 from (Nat.le_of_ble_eq_true rfl)) (Nat.le_add_right _ _)) dX4_part_226) (Nat.le_of_ble_eq_true rfl)) (seq (p := 229) (q := 230) (r := 252) (p_aload_n 0 dX4_part_229) (seq (p := 230) (q := 231) (r := 252) (p_dup dX4_part_230) (seq (p := 231) (q := 234) (r := 252) (p_get [(4, 2)] (alL1 fl_X4_23_4) dX4_part_231) (seq (p := 234) (q := 235) (r := 252) (p_iconst 1 dX4_part_234) (seq (p := 235) (q := 236) (r := 252) (p_iadd dX4_part_235) (seq (p := 236) (q := 239) (r := 252) (p_put [(4, 2)] .int (alP1 fp_X4_23_4) dX4_part_236) (seq (p := 239) (q := 240) (r := 252) (p_aload_n 0 dX4_part_239) (seq (p := 240) (q := 241) (r := 252) (p_dup dX4_part_240) (seq (p := 241) (q := 244) (r := 252) (p_get [(4, 3)] (alL1 fl_X4_45_4) dX4_part_241) (seq (p := 244) (q := 245) (r := 252) (p_iconst 1 dX4_part_244) (seq (p := 245) (q := 246) (r := 252) (p_isub dX4_part_245) (seq (p := 246) (q := 249) (r := 252) (p_put [(4, 3)] .int (alP1 fp_X4_45_4) dX4_part_246) (seq (p := 249) (q := 251) (r := 252) (p_aload 4 dX4_part_249) (seq (p := 251) (q := 252) (r := 252) (p_areturn dX4_part_251 rfl (Or.inl ⟨_, rfl⟩)) done))))))))))))))))))))))))))) (seq (p := 252) (q := 253) (r := 268) (p_aload_n 0 dX4_part_252) (seq (p := 253) (q := 254) (r := 268) (p_iload_n 1 dX4_part_253) (seq (p := 254) (q := 256) (r := 268) (p_bipush 64 dX4_part_254 (by decide)) (seq (p := 256) (q := 264) (r := 268) (blk (seq (p := 256) (q := 263) (r := 264) (blk (seq (p := 256) (q := 259) (r := 263) (p_icmp_ne 263 dX4_part_256 (by decide)) (seq (p := 259) (q := 260) (r := 263) (p_iconst 1 dX4_part_259) (seq (p := 260) (q := 263) (r := 263) (p_goto 264 dX4_part_260 (by decide)) done)))) (seq (p := 263) (q := 264) (r := 264) (p_iconst 0 dX4_part_263) done))) (seq (p := 264) (q := 267) (r := 268) (p_callG 2 _ (ok_V 4 cv_X4_71 rfl (r.2.1) (Nat.lt_succ_self _) dX4_part_264) (Nat.le_of_ble_eq_true rfl)) (seq (p := 267) (q := 268) (r := 268) (p_areturn dX4_part_267 rfl (Or.inl ⟨_, rfl⟩)) done)))))))) (seq (p := 268) (q := 271) (r := 280) (p_new 6 ck6 tyX7 tyX7_ok f0_6 f0_6_ok (okc q483) (okc q484) (okc q99) dX4_part_268) (seq (p := 271) (q := 272) (r := 280) (p_dup dX4_part_271) (seq (p := 272) (q := 273) (r := 280) (p_aload_n 0 dX4_part_272) (seq (p := 273) (q := 276) (r := 280) (p_get [(4, 2)] (alL1 fl_X4_23_4) dX4_part_273) (seq (p := 276) (q := 279) (r := 280) (p_callG 2 _ (ok_I ci_X4_28 (M_X7_init l δ) (Nat.lt_of_lt_of_le (show 3 < 7 from (Nat.le_of_ble_eq_true rfl)) (Nat.le_add_right _ _)) dX4_part_276) (Nat.le_of_ble_eq_true rfl)) (seq (p := 279) (q := 280) (r := 280) (p_athrow dX4_part_279) done))))))))))
theorem dX4_each_0 : decode cX4_each 0 = .ok (.aload_n 0, 1) := by decide +kernel
theorem dX4_each_1 : decode cX4_each 1 = .ok (.aload_n 0, 1) := by decide +kernel
theorem dX4_each_2 : decode cX4_each 2 = .ok (.getfield 42, 3) := by decide +kernel
theorem dX4_each_5 : decode cX4_each 5 = .ok (.bipush 8, 2) := by decide +kernel
theorem dX4_each_7 : decode cX4_each 7 = .ok (.if_icmp .ge 7, 3) := by decide +kernel
theorem dX4_each_10 : decode cX4_each 10 = .ok (.iconst 1, 1) := by decide +kernel
theorem dX4_each_11 : decode cX4_each 11 = .ok (.goto 4, 3) := by decide +kernel
theorem dX4_each_14 : decode cX4_each 14 = .ok (.iconst 0, 1) := by decide +kernel
theorem dX4_each_15 : decode cX4_each 15 = .ok (.invokevirtual 35, 3) := by decide +kernel
theorem dX4_each_18 : decode cX4_each 18 = .ok (.aload_n 0, 1) := by decide +kernel
theorem dX4_each_19 : decode cX4_each 19 = .ok (.invokevirtual 56, 3) := by decide +kernel
theorem dX4_each_22 : decode cX4_each 22 = .ok (.aload_n 0, 1) := by decide +kernel
theorem dX4_each_23 : decode cX4_each 23 = .ok (.invokevirtual 39, 3) := by decide +kernel
theorem dX4_each_26 : decode cX4_each 26 = .ok (.istore_n 2, 1) := by decide +kernel
theorem dX4_each_27 : decode cX4_each 27 = .ok (.aload_n 0, 1) := by decide +kernel
theorem dX4_each_28 : decode cX4_each 28 = .ok (.dup, 1) := by decide +kernel
theorem dX4_each_29 : decode cX4_each 29 = .ok (.getfield 23, 3) := by decide +kernel
theorem dX4_each_32 : decode cX4_each 32 = .ok (.iconst 1, 1) := by decide +kernel
theorem dX4_each_33 : decode cX4_each 33 = .ok (.iadd, 1) := by decide +kernel
theorem dX4_each_34 : decode cX4_each 34 = .ok (.putfield 23, 3) := by decide +kernel
theorem dX4_each_37 : decode cX4_each 37 = .ok (.aload_n 0, 1) := by decide +kernel
theorem dX4_each_38 : decode cX4_each 38 = .ok (.dup, 1) := by decide +kernel
theorem dX4_each_39 : decode cX4_each 39 = .ok (.getfield 42, 3) := by decide +kernel
theorem dX4_each_42 : decode cX4_each 42 = .ok (.iconst 1, 1) := by decide +kernel
theorem dX4_each_43 : decode cX4_each 43 = .ok (.iadd, 1) := by decide +kernel
theorem dX4_each_44 : decode cX4_each 44 = .ok (.putfield 42, 3) := by decide +kernel
theorem dX4_each_47 : decode cX4_each 47 = .ok (.aload_n 0, 1) := by decide +kernel
theorem dX4_each_48 : decode cX4_each 48 = .ok (.getfield 9, 3) := by decide +kernel
theorem dX4_each_51 : decode cX4_each 51 = .ok (.aload_n 0, 1) := by decide +kernel
theorem dX4_each_52 : decode cX4_each 52 = .ok (.getfield 42, 3) := by decide +kernel
theorem dX4_each_55 : decode cX4_each 55 = .ok (.iload_n 2, 1) := by decide +kernel
theorem dX4_each_56 : decode cX4_each 56 = .ok (.iastore, 1) := by decide +kernel
theorem dX4_each_57 : decode cX4_each 57 = .ok (.aload_n 0, 1) := by decide +kernel
theorem dX4_each_58 : decode cX4_each 58 = .ok (.getfield 42, 3) := by decide +kernel
theorem dX4_each_61 : decode cX4_each 61 = .ok (.istore_n 3, 1) := by decide +kernel
theorem dX4_each_62 : decode cX4_each 62 = .ok (.new 75, 3) := by decide +kernel
theorem dX4_each_65 : decode cX4_each 65 = .ok (.dup, 1) := by decide +kernel
theorem dX4_each_66 : decode cX4_each 66 = .ok (.aload_n 0, 1) := by decide +kernel
theorem dX4_each_67 : decode cX4_each 67 = .ok (.invokevirtual 61, 3) := by decide +kernel
theorem dX4_each_70 : decode cX4_each 70 = .ok (.iload_n 3, 1) := by decide +kernel
theorem dX4_each_71 : decode cX4_each 71 = .ok (.iload_n 1, 1) := by decide +kernel
theorem dX4_each_72 : decode cX4_each 72 = .ok (.invokespecial 77, 3) := by decide +kernel
theorem dX4_each_75 : decode cX4_each 75 = .ok (.astore 4, 2) := by decide +kernel
theorem dX4_each_77 : decode cX4_each 77 = .ok (.aload_n 0, 1) := by decide +kernel
theorem dX4_each_78 : decode cX4_each 78 = .ok (.dup, 1) := by decide +kernel
theorem dX4_each_79 : decode cX4_each 79 = .ok (.getfield 42, 3) := by decide +kernel
theorem dX4_each_82 : decode cX4_each 82 = .ok (.iconst 1, 1) := by decide +kernel
theorem dX4_each_83 : decode cX4_each 83 = .ok (.isub, 1) := by decide +kernel
theorem dX4_each_84 : decode cX4_each 84 = .ok (.putfield 42, 3) := by decide +kernel
theorem dX4_each_87 : decode cX4_each 87 = .ok (.aload_n 0, 1) := by decide +kernel
theorem dX4_each_88 : decode cX4_each 88 = .ok (.dup, 1) := by decide +kernel
theorem dX4_each_89 : decode cX4_each 89 = .ok (.getfield 45, 3) := by decide +kernel
theorem dX4_each_92 : decode cX4_each 92 = .ok (.iconst 1, 1) := by decide +kernel
theorem dX4_each_93 : decode cX4_each 93 = .ok (.isub, 1) := by decide +kernel
theorem dX4_each_94 : decode cX4_each 94 = .ok (.putfield 45, 3) := by decide +kernel
theorem dX4_each_97 : decode cX4_each 97 = .ok (.aload 4, 2) := by decide +kernel
theorem dX4_each_99 : decode cX4_each 99 = .ok (.areturn, 1) := by decide +kernel
noncomputable def B_X4_each (l : Launch) (δ : Dl) (n : Nat) (r : T_rea l δ n) : Seg (l, δ, yX4_each, 7 + (n + 1), (some (.object "TwoWorlds$Formula")), cX4_each, 5) 0 100 :=
  seq (p := 0) (q := 1) (r := 100) (p_aload_n 0 dX4_each_0) (seq (p := 1) (q := 2) (r := 100) (p_aload_n 0 dX4_each_1) (seq (p := 2) (q := 5) (r := 100) (p_get [(4, 4)] (alL1 fl_X4_42_4) dX4_each_2) (seq (p := 5) (q := 7) (r := 100) (p_bipush 8 dX4_each_5 (by decide)) (seq (p := 7) (q := 15) (r := 100) (blk (seq (p := 7) (q := 14) (r := 15) (blk (seq (p := 7) (q := 10) (r := 14) (p_icmp_ge 14 dX4_each_7 (by decide)) (seq (p := 10) (q := 11) (r := 14) (p_iconst 1 dX4_each_10) (seq (p := 11) (q := 14) (r := 14) (p_goto 15 dX4_each_11 (by decide)) done)))) (seq (p := 14) (q := 15) (r := 15) (p_iconst 0 dX4_each_14) done))) (seq (p := 15) (q := 18) (r := 100) (p_callG 2 _ (ok_V 4 cv_X4_35 rfl (M_X4_want l δ) (Nat.lt_of_lt_of_le (show 4 < 7 from (Nat.le_of_ble_eq_true rfl)) (Nat.le_add_right _ _)) dX4_each_15) (Nat.le_of_ble_eq_true rfl)) (seq (p := 18) (q := 19) (r := 100) (p_aload_n 0 dX4_each_18) (seq (p := 19) (q := 22) (r := 100) (p_callG 1 _ (ok_V 4 cv_X4_56 rfl (M_X4_nest l δ) (Nat.lt_of_lt_of_le (show 5 < 7 from (Nat.le_of_ble_eq_true rfl)) (Nat.le_add_right _ _)) dX4_each_19) (Nat.le_of_ble_eq_true rfl)) (seq (p := 22) (q := 23) (r := 100) (p_aload_n 0 dX4_each_22) (seq (p := 23) (q := 26) (r := 100) (p_callG 1 _ (ok_V 4 cv_X4_39 rfl (M_X4_letter l δ) (Nat.lt_of_lt_of_le (show 5 < 7 from (Nat.le_of_ble_eq_true rfl)) (Nat.le_add_right _ _)) dX4_each_23) (Nat.le_of_ble_eq_true rfl)) (seq (p := 26) (q := 27) (r := 100) (p_istore_n 2 dX4_each_26 (Nat.le_of_ble_eq_true rfl)) (seq (p := 27) (q := 28) (r := 100) (p_aload_n 0 dX4_each_27) (seq (p := 28) (q := 29) (r := 100) (p_dup dX4_each_28) (seq (p := 29) (q := 32) (r := 100) (p_get [(4, 2)] (alL1 fl_X4_23_4) dX4_each_29) (seq (p := 32) (q := 33) (r := 100) (p_iconst 1 dX4_each_32) (seq (p := 33) (q := 34) (r := 100) (p_iadd dX4_each_33) (seq (p := 34) (q := 37) (r := 100) (p_put [(4, 2)] .int (alP1 fp_X4_23_4) dX4_each_34) (seq (p := 37) (q := 38) (r := 100) (p_aload_n 0 dX4_each_37) (seq (p := 38) (q := 39) (r := 100) (p_dup dX4_each_38) (seq (p := 39) (q := 42) (r := 100) (p_get [(4, 4)] (alL1 fl_X4_42_4) dX4_each_39) (seq (p := 42) (q := 43) (r := 100) (p_iconst 1 dX4_each_42) (seq (p := 43) (q := 44) (r := 100) (p_iadd dX4_each_43) (seq (p := 44) (q := 47) (r := 100) (p_put [(4, 4)] .int (alP1 fp_X4_42_4) dX4_each_44) (seq (p := 47) (q := 48) (r := 100) (p_aload_n 0 dX4_each_47) (seq (p := 48) (q := 51) (r := 100) (p_get [(4, 5)] (alL1 fl_X4_9_4) dX4_each_48) (seq (p := 51) (q := 52) (r := 100) (p_aload_n 0 dX4_each_51) (seq (p := 52) (q := 55) (r := 100) (p_get [(4, 4)] (alL1 fl_X4_42_4) dX4_each_52) (seq (p := 55) (q := 56) (r := 100) (p_iload_n 2 dX4_each_55) (seq (p := 56) (q := 57) (r := 100) (p_iast dX4_each_56) (seq (p := 57) (q := 58) (r := 100) (p_aload_n 0 dX4_each_57) (seq (p := 58) (q := 61) (r := 100) (p_get [(4, 4)] (alL1 fl_X4_42_4) dX4_each_58) (seq (p := 61) (q := 62) (r := 100) (p_istore_n 3 dX4_each_61 (Nat.le_of_ble_eq_true rfl)) (seq (p := 62) (q := 65) (r := 100) (p_new 8 ck8 tyX9 tyX9_ok f0_8 f0_8_ok (okc q568) (okc q569) (okc q101) dX4_each_62) (seq (p := 65) (q := 66) (r := 100) (p_dup dX4_each_65) (seq (p := 66) (q := 67) (r := 100) (p_aload_n 0 dX4_each_66) (seq (p := 67) (q := 70) (r := 100) (p_callG 1 _ (ok_V 4 cv_X4_61 rfl (r.1) (Nat.lt_succ_self _) dX4_each_67) (Nat.le_of_ble_eq_true rfl)) (seq (p := 70) (q := 71) (r := 100) (p_iload_n 3 dX4_each_70) (seq (p := 71) (q := 72) (r := 100) (p_iload_n 1 dX4_each_71) (seq (p := 72) (q := 75) (r := 100) (p_callG 4 _ (ok_I ci_X4_77 (M_X9_init l δ) (Nat.lt_of_lt_of_le (show 3 < 7 from (Nat.le_of_ble_eq_true rfl)) (Nat.le_add_right _ _)) dX4_each_72) (Nat.le_of_ble_eq_true rfl)) (seq (p := 75) (q := 77) (r := 100) (p_astore 4 dX4_each_75 (Nat.le_of_ble_eq_true rfl)) (seq (p := 77) (q := 78) (r := 100) (p_aload_n 0 dX4_each_77) (seq (p := 78) (q := 79) (r := 100) (p_dup dX4_each_78) (seq (p := 79) (q := 82) (r := 100) (p_get [(4, 4)] (alL1 fl_X4_42_4) dX4_each_79) (seq (p := 82) (q := 83) (r := 100) (p_iconst 1 dX4_each_82) (seq (p := 83) (q := 84) (r := 100) (p_isub dX4_each_83) (seq (p := 84) (q := 87) (r := 100) (p_put [(4, 4)] .int (alP1 fp_X4_42_4) dX4_each_84) (seq (p := 87) (q := 88) (r := 100) (p_aload_n 0 dX4_each_87) (seq (p := 88) (q := 89) (r := 100) (p_dup dX4_each_88) (seq (p := 89) (q := 92) (r := 100) (p_get [(4, 3)] (alL1 fl_X4_45_4) dX4_each_89) (seq (p := 92) (q := 93) (r := 100) (p_iconst 1 dX4_each_92) (seq (p := 93) (q := 94) (r := 100) (p_isub dX4_each_93) (seq (p := 94) (q := 97) (r := 100) (p_put [(4, 3)] .int (alP1 fp_X4_45_4) dX4_each_94) (seq (p := 97) (q := 99) (r := 100) (p_aload 4 dX4_each_97) (seq (p := 99) (q := 100) (r := 100) (p_areturn dX4_each_99 rfl (Or.inl ⟨_, rfl⟩)) done)))))))))))))))))))))))))))))))))))))))))))))))))))))
theorem dX4_formula_0 : decode cX4_formula 0 = .ok (.aload_n 0, 1) := by decide +kernel
theorem dX4_formula_1 : decode cX4_formula 1 = .ok (.invokevirtual 61, 3) := by decide +kernel
theorem dX4_formula_4 : decode cX4_formula 4 = .ok (.astore_n 1, 1) := by decide +kernel
theorem dX4_formula_5 : decode cX4_formula 5 = .ok (.aload_n 0, 1) := by decide +kernel
theorem dX4_formula_6 : decode cX4_formula 6 = .ok (.invokevirtual 31, 3) := by decide +kernel
theorem dX4_formula_9 : decode cX4_formula 9 = .ok (.istore_n 2, 1) := by decide +kernel
theorem dX4_formula_10 : decode cX4_formula 10 = .ok (.iload_n 2, 1) := by decide +kernel
theorem dX4_formula_11 : decode cX4_formula 11 = .ok (.bipush 38, 2) := by decide +kernel
theorem dX4_formula_13 : decode cX4_formula 13 = .ok (.if_icmp .eq 11, 3) := by decide +kernel
theorem dX4_formula_16 : decode cX4_formula 16 = .ok (.iload_n 2, 1) := by decide +kernel
theorem dX4_formula_17 : decode cX4_formula 17 = .ok (.bipush 124, 2) := by decide +kernel
theorem dX4_formula_19 : decode cX4_formula 19 = .ok (.if_icmp .eq 5, 3) := by decide +kernel
theorem dX4_formula_22 : decode cX4_formula 22 = .ok (.aload_n 1, 1) := by decide +kernel
theorem dX4_formula_23 : decode cX4_formula 23 = .ok (.areturn, 1) := by decide +kernel
theorem dX4_formula_24 : decode cX4_formula 24 = .ok (.new 80, 3) := by decide +kernel
theorem dX4_formula_27 : decode cX4_formula 27 = .ok (.dup, 1) := by decide +kernel
theorem dX4_formula_28 : decode cX4_formula 28 = .ok (.invokespecial 82, 3) := by decide +kernel
theorem dX4_formula_31 : decode cX4_formula 31 = .ok (.astore_n 3, 1) := by decide +kernel
theorem dX4_formula_32 : decode cX4_formula 32 = .ok (.aload_n 3, 1) := by decide +kernel
theorem dX4_formula_33 : decode cX4_formula 33 = .ok (.aload_n 1, 1) := by decide +kernel
theorem dX4_formula_34 : decode cX4_formula 34 = .ok (.invokeinterface 83 2, 5) := by decide +kernel
theorem dX4_formula_39 : decode cX4_formula 39 = .ok (.pop, 1) := by decide +kernel
theorem dX4_formula_40 : decode cX4_formula 40 = .ok (.aload_n 0, 1) := by decide +kernel
theorem dX4_formula_41 : decode cX4_formula 41 = .ok (.invokevirtual 31, 3) := by decide +kernel
theorem dX4_formula_44 : decode cX4_formula 44 = .ok (.iload_n 2, 1) := by decide +kernel
theorem dX4_formula_45 : decode cX4_formula 45 = .ok (.if_icmp .ne 27, 3) := by decide +kernel
theorem dX4_formula_48 : decode cX4_formula 48 = .ok (.aload_n 0, 1) := by decide +kernel
theorem dX4_formula_49 : decode cX4_formula 49 = .ok (.dup, 1) := by decide +kernel
theorem dX4_formula_50 : decode cX4_formula 50 = .ok (.getfield 23, 3) := by decide +kernel
theorem dX4_formula_53 : decode cX4_formula 53 = .ok (.iconst 1, 1) := by decide +kernel
theorem dX4_formula_54 : decode cX4_formula 54 = .ok (.iadd, 1) := by decide +kernel
theorem dX4_formula_55 : decode cX4_formula 55 = .ok (.putfield 23, 3) := by decide +kernel
theorem dX4_formula_58 : decode cX4_formula 58 = .ok (.aload_n 3, 1) := by decide +kernel
theorem dX4_formula_59 : decode cX4_formula 59 = .ok (.aload_n 0, 1) := by decide +kernel
theorem dX4_formula_60 : decode cX4_formula 60 = .ok (.invokevirtual 61, 3) := by decide +kernel
theorem dX4_formula_63 : decode cX4_formula 63 = .ok (.invokeinterface 83 2, 5) := by decide +kernel
theorem dX4_formula_68 : decode cX4_formula 68 = .ok (.pop, 1) := by decide +kernel
theorem dX4_formula_69 : decode cX4_formula 69 = .ok (.goto (-29), 3) := by decide +kernel
theorem dX4_formula_72 : decode cX4_formula 72 = .ok (.new 89, 3) := by decide +kernel
theorem dX4_formula_75 : decode cX4_formula 75 = .ok (.dup, 1) := by decide +kernel
theorem dX4_formula_76 : decode cX4_formula 76 = .ok (.aload_n 3, 1) := by decide +kernel
theorem dX4_formula_77 : decode cX4_formula 77 = .ok (.iload_n 2, 1) := by decide +kernel
theorem dX4_formula_78 : decode cX4_formula 78 = .ok (.i2c, 1) := by decide +kernel
theorem dX4_formula_79 : decode cX4_formula 79 = .ok (.invokespecial 91, 3) := by decide +kernel
theorem dX4_formula_82 : decode cX4_formula 82 = .ok (.areturn, 1) := by decide +kernel
noncomputable def C_X4_formula_L40 (l : Launch) (δ : Dl) (n : Nat) (r : T_rea l δ n) : Seg (l, δ, yX4_formula, 7 + (n + 1), (some (.object "TwoWorlds$Formula")), cX4_formula, 4) 40 72 :=
  seq (p := 40) (q := 41) (r := 72) (p_aload_n 0 dX4_formula_40) (seq (p := 41) (q := 44) (r := 72) (p_callG 1 _ (ok_V 4 cv_X4_31 rfl (M_X4_look l δ) (Nat.lt_of_lt_of_le (show 0 < 7 from (Nat.le_of_ble_eq_true rfl)) (Nat.le_add_right _ _)) dX4_formula_41) (Nat.le_of_ble_eq_true rfl)) (seq (p := 44) (q := 45) (r := 72) (p_iload_n 2 dX4_formula_44) (seq (p := 45) (q := 48) (r := 72) (p_icmp_ne 72 dX4_formula_45 (by decide)) (seq (p := 48) (q := 49) (r := 72) (p_aload_n 0 dX4_formula_48) (seq (p := 49) (q := 50) (r := 72) (p_dup dX4_formula_49) (seq (p := 50) (q := 53) (r := 72) (p_get [(4, 2)] (alL1 fl_X4_23_4) dX4_formula_50) (seq (p := 53) (q := 54) (r := 72) (p_iconst 1 dX4_formula_53) (seq (p := 54) (q := 55) (r := 72) (p_iadd dX4_formula_54) (seq (p := 55) (q := 58) (r := 72) (p_put [(4, 2)] .int (alP1 fp_X4_23_4) dX4_formula_55) (seq (p := 58) (q := 59) (r := 72) (p_aload_n 3 dX4_formula_58) (seq (p := 59) (q := 60) (r := 72) (p_aload_n 0 dX4_formula_59) (seq (p := 60) (q := 63) (r := 72) (p_callG 1 _ (ok_V 4 cv_X4_61 rfl (r.1) (Nat.lt_succ_self _) dX4_formula_60) (Nat.le_of_ble_eq_true rfl)) (seq (p := 63) (q := 68) (r := 72) (p_callG 2 _ (ok_F 16 cf_X4_83 rfl (M_J2_add l δ) (Nat.lt_of_lt_of_le (show 6 < 7 from (Nat.le_of_ble_eq_true rfl)) (Nat.le_add_right _ _)) dX4_formula_63) (Nat.le_of_ble_eq_true rfl)) (seq (p := 68) (q := 69) (r := 72) (p_pop dX4_formula_68) (seq (p := 69) (q := 69) (r := 72) (er [true, false, true, true]) (seq (p := 69) (q := 72) (r := 72) (p_goto 40 dX4_formula_69 (by decide)) done))))))))))))))))
noncomputable def B_X4_formula_L40 (l : Launch) (δ : Dl) (n : Nat) (r : T_rea l δ n) : Seg (l, δ, yX4_formula, 7 + (n + 1), (some (.object "TwoWorlds$Formula")), cX4_formula, 4) 40 72 := C_X4_formula_L40 l δ n r
theorem L_X4_formula_40 {l : Launch} {δ : Dl} {n : Nat} {r : T_rea l δ n} {st : Stk} {L : Lc} {s : St} : (B_X4_formula_L40 l δ n r).1 st L s = (C_X4_formula_L40 l δ n r).1 st L s := nrfl rfl
noncomputable def B_X4_formula (l : Launch) (δ : Dl) (n : Nat) (r : T_rea l δ n) : Seg (l, δ, yX4_formula, 7 + (n + 1), (some (.object "TwoWorlds$Formula")), cX4_formula, 4) 0 83 :=
  seq (p := 0) (q := 1) (r := 83) (p_aload_n 0 dX4_formula_0) (seq (p := 1) (q := 4) (r := 83) (p_callG 1 _ (ok_V 4 cv_X4_61 rfl (r.1) (Nat.lt_succ_self _) dX4_formula_1) (Nat.le_of_ble_eq_true rfl)) (seq (p := 4) (q := 5) (r := 83) (p_astore_n 1 dX4_formula_4 (Nat.le_of_ble_eq_true rfl)) (seq (p := 5) (q := 6) (r := 83) (p_aload_n 0 dX4_formula_5) (seq (p := 6) (q := 9) (r := 83) (p_callG 1 _ (ok_V 4 cv_X4_31 rfl (M_X4_look l δ) (Nat.lt_of_lt_of_le (show 0 < 7 from (Nat.le_of_ble_eq_true rfl)) (Nat.le_add_right _ _)) dX4_formula_6) (Nat.le_of_ble_eq_true rfl)) (seq (p := 9) (q := 10) (r := 83) (p_istore_n 2 dX4_formula_9 (Nat.le_of_ble_eq_true rfl)) (seq (p := 10) (q := 11) (r := 83) (p_iload_n 2 dX4_formula_10) (seq (p := 11) (q := 13) (r := 83) (p_bipush 38 dX4_formula_11 (by decide)) (seq (p := 13) (q := 24) (r := 83) (blk (seq (p := 13) (q := 16) (r := 24) (p_icmp_eq 24 dX4_formula_13 (by decide)) (seq (p := 16) (q := 17) (r := 24) (p_iload_n 2 dX4_formula_16) (seq (p := 17) (q := 19) (r := 24) (p_bipush 124 dX4_formula_17 (by decide)) (seq (p := 19) (q := 22) (r := 24) (p_icmp_eq 24 dX4_formula_19 (by decide)) (seq (p := 22) (q := 23) (r := 24) (p_aload_n 1 dX4_formula_22) (seq (p := 23) (q := 24) (r := 24) (p_areturn dX4_formula_23 rfl (Or.inl ⟨_, rfl⟩)) done))))))) (seq (p := 24) (q := 27) (r := 83) (p_new 16 ck16 tyJ2 tyJ2_ok f0_16 f0_16_ok (okc q582) (okc q127) (okc q90) dX4_formula_24) (seq (p := 27) (q := 28) (r := 83) (p_dup dX4_formula_27) (seq (p := 28) (q := 31) (r := 83) (p_callG 1 _ (ok_I ci_X4_82 (M_J2_init l δ) (Nat.lt_of_lt_of_le (show 3 < 7 from (Nat.le_of_ble_eq_true rfl)) (Nat.le_add_right _ _)) dX4_formula_28) (Nat.le_of_ble_eq_true rfl)) (seq (p := 31) (q := 32) (r := 83) (p_astore_n 3 dX4_formula_31 (Nat.le_of_ble_eq_true rfl)) (seq (p := 32) (q := 33) (r := 83) (p_aload_n 3 dX4_formula_32) (seq (p := 33) (q := 34) (r := 83) (p_aload_n 1 dX4_formula_33) (seq (p := 34) (q := 39) (r := 83) (p_callG 2 _ (ok_F 16 cf_X4_83 rfl (M_J2_add l δ) (Nat.lt_of_lt_of_le (show 6 < 7 from (Nat.le_of_ble_eq_true rfl)) (Nat.le_add_right _ _)) dX4_formula_34) (Nat.le_of_ble_eq_true rfl)) (seq (p := 39) (q := 40) (r := 83) (p_pop dX4_formula_39) (seq (p := 40) (q := 72) (r := 83) (blk (seq (p := 40) (q := 40) (r := 72) (er [true, false, true, true]) (seq (p := 40) (q := 72) (r := 72) (lp (B_X4_formula_L40 l δ n r)) done))) (seq (p := 72) (q := 75) (r := 83) (p_new 9 ck9 tyX10 tyX10_ok f0_9 f0_9_ok (okc q654) (okc q655) (okc q106) dX4_formula_72) (seq (p := 75) (q := 76) (r := 83) (p_dup dX4_formula_75) (seq (p := 76) (q := 77) (r := 83) (p_aload_n 3 dX4_formula_76) (seq (p := 77) (q := 78) (r := 83) (p_iload_n 2 dX4_formula_77) (seq (p := 78) (q := 79) (r := 83) (p_i2c dX4_formula_78) (seq (p := 79) (q := 82) (r := 83) (p_callG 3 _ (ok_I ci_X4_91 (M_X10_init l δ) (Nat.lt_of_lt_of_le (show 2 < 7 from (Nat.le_of_ble_eq_true rfl)) (Nat.le_add_right _ _)) dX4_formula_79) (Nat.le_of_ble_eq_true rfl)) (seq (p := 82) (q := 83) (r := 83) (p_areturn dX4_formula_82 rfl (Or.inl ⟨_, rfl⟩)) done))))))))))))))))))))))))
noncomputable def R_rea (l : Launch) (δ : Dl) : (n : Nat) → T_rea l δ n
  | 0 => (M_no, M_no, M_no)
  | n + 1 => (mk (B_X4_part l δ n (R_rea l δ n)) (by decide), mk (B_X4_each l δ n (R_rea l δ n)) (by decide), mk (B_X4_formula l δ n (R_rea l δ n)) (by decide))
theorem N_X4_part {l : Launch} {δ : Dl} {n : Nat} {o : Nat} {s : St} : ((R_rea l δ (n + 1)).1).1 [.inr (.inr (some o))] s = bres ((B_X4_part l δ n (R_rea l δ n)).1 [] [some (.inr (.inr (some o))), none, none, none, none] s) := (mk_eq (hy := by decide) rfl).trans (nrfl rfl)
theorem N_X4_each {l : Launch} {δ : Dl} {n : Nat} {o : Nat} {a1 : Int} {s : St} : ((R_rea l δ (n + 1)).2.1).1 [.inr (.inr (some o)), .inl a1] s = bres ((B_X4_each l δ n (R_rea l δ n)).1 [] [some (.inr (.inr (some o))), some (.inl a1), none, none, none] s) := (mk_eq (hy := by decide) rfl).trans (nrfl rfl)
theorem N_X4_formula {l : Launch} {δ : Dl} {n : Nat} {o : Nat} {s : St} : ((R_rea l δ (n + 1)).2.2).1 [.inr (.inr (some o))] s = bres ((B_X4_formula l δ n (R_rea l δ n)).1 [] [some (.inr (.inr (some o))), none, none, none] s) := (mk_eq (hy := by decide) rfl).trans (nrfl rfl)
theorem dX4_read_0 : decode cX4_read 0 = .ok (.aload_n 0, 1) := by decide +kernel
theorem dX4_read_1 : decode cX4_read 1 = .ok (.invokevirtual 68, 3) := by decide +kernel
theorem dX4_read_4 : decode cX4_read 4 = .ok (.astore_n 1, 1) := by decide +kernel
theorem dX4_read_5 : decode cX4_read 5 = .ok (.aload_n 0, 1) := by decide +kernel
theorem dX4_read_6 : decode cX4_read 6 = .ok (.aload_n 0, 1) := by decide +kernel
theorem dX4_read_7 : decode cX4_read 7 = .ok (.invokevirtual 31, 3) := by decide +kernel
theorem dX4_read_10 : decode cX4_read 10 = .ok (.ifCond .ge 7, 3) := by decide +kernel
theorem dX4_read_13 : decode cX4_read 13 = .ok (.iconst 1, 1) := by decide +kernel
theorem dX4_read_14 : decode cX4_read 14 = .ok (.goto 4, 3) := by decide +kernel
theorem dX4_read_17 : decode cX4_read 17 = .ok (.iconst 0, 1) := by decide +kernel
theorem dX4_read_18 : decode cX4_read 18 = .ok (.invokevirtual 35, 3) := by decide +kernel
theorem dX4_read_21 : decode cX4_read 21 = .ok (.aload_n 1, 1) := by decide +kernel
theorem dX4_read_22 : decode cX4_read 22 = .ok (.areturn, 1) := by decide +kernel
noncomputable def B_X4_read (l : Launch) (δ : Dl) : Seg (l, δ, yX4_read, 72, (some (.object "TwoWorlds$Formula")), cX4_read, 2) 0 23 :=
  seq (p := 0) (q := 1) (r := 23) (p_aload_n 0 dX4_read_0) (seq (p := 1) (q := 4) (r := 23) (p_callG 1 _ (ok_V 4 cv_X4_68 rfl ((R_rea l δ 64).2.2) (Nat.le_of_ble_eq_true rfl) dX4_read_1) (Nat.le_of_ble_eq_true rfl)) (seq (p := 4) (q := 5) (r := 23) (p_astore_n 1 dX4_read_4 (Nat.le_of_ble_eq_true rfl)) (seq (p := 5) (q := 6) (r := 23) (p_aload_n 0 dX4_read_5) (seq (p := 6) (q := 7) (r := 23) (p_aload_n 0 dX4_read_6) (seq (p := 7) (q := 10) (r := 23) (p_callG 1 _ (ok_V 4 cv_X4_31 rfl (M_X4_look l δ) (Nat.le_of_ble_eq_true rfl) dX4_read_7) (Nat.le_of_ble_eq_true rfl)) (seq (p := 10) (q := 18) (r := 23) (blk (seq (p := 10) (q := 17) (r := 18) (blk (seq (p := 10) (q := 13) (r := 17) (p_if_ge 17 dX4_read_10 (by decide)) (seq (p := 13) (q := 14) (r := 17) (p_iconst 1 dX4_read_13) (seq (p := 14) (q := 17) (r := 17) (p_goto 18 dX4_read_14 (by decide)) done)))) (seq (p := 17) (q := 18) (r := 18) (p_iconst 0 dX4_read_17) done))) (seq (p := 18) (q := 21) (r := 23) (p_callG 2 _ (ok_V 4 cv_X4_35 rfl (M_X4_want l δ) (Nat.le_of_ble_eq_true rfl) dX4_read_18) (Nat.le_of_ble_eq_true rfl)) (seq (p := 21) (q := 22) (r := 23) (p_aload_n 1 dX4_read_21) (seq (p := 22) (q := 23) (r := 23) (p_areturn dX4_read_22 rfl (Or.inl ⟨_, rfl⟩)) done)))))))))
noncomputable def M_X4_read (l : Launch) (δ : Dl) : Mth l δ yX4_read cX4_read 2 (some (.object "TwoWorlds$Formula")) 72 := mk (B_X4_read l δ) (by decide)
theorem N_X4_read {l : Launch} {δ : Dl} {o : Nat} {s : St} : (M_X4_read l δ).1 [.inr (.inr (some o))] s = bres ((B_X4_read l δ).1 [] [some (.inr (.inr (some o))), none] s) := (mk_eq (hy := by decide) rfl).trans (nrfl rfl)
theorem dX13_init_0 : decode cX13_init 0 = .ok (.aload_n 0, 1) := by decide +kernel
theorem dX13_init_1 : decode cX13_init 1 = .ok (.invokespecial 3, 3) := by decide +kernel
theorem dX13_init_4 : decode cX13_init 4 = .ok (.aload_n 0, 1) := by decide +kernel
theorem dX13_init_5 : decode cX13_init 5 = .ok (.bipush 9, 2) := by decide +kernel
theorem dX13_init_7 : decode cX13_init 7 = .ok (.newarray .int, 2) := by decide +kernel
theorem dX13_init_9 : decode cX13_init 9 = .ok (.putfield 9, 3) := by decide +kernel
theorem dX13_init_12 : decode cX13_init 12 = .ok (.aload_n 0, 1) := by decide +kernel
theorem dX13_init_13 : decode cX13_init 13 = .ok (.aload_n 1, 1) := by decide +kernel
theorem dX13_init_14 : decode cX13_init 14 = .ok (.putfield 15, 3) := by decide +kernel
theorem dX13_init_17 : decode cX13_init 17 = .ok (.return_, 1) := by decide +kernel
noncomputable def B_X13_init (l : Launch) (δ : Dl) : Seg (l, δ, yX13_init, 1, none, cX13_init, 2) 0 18 :=
  seq (p := 0) (q := 1) (r := 18) (p_aload_n 0 dX13_init_0) (seq (p := 1) (q := 4) (r := 18) (p_objI (Nat.le_of_ble_eq_true rfl) (okc q852) (okc q122) (okc q123) dX13_init_1) (seq (p := 4) (q := 5) (r := 18) (p_aload_n 0 dX13_init_4) (seq (p := 5) (q := 7) (r := 18) (p_bipush 9 dX13_init_5 (by decide)) (seq (p := 7) (q := 9) (r := 18) (p_newa 0 (Nat.le_of_ble_eq_true rfl) dX13_init_7) (seq (p := 9) (q := 12) (r := 18) (p_putF [(12, 1)] (.array .int) (alF1 ff_X13_9_12) rfl dX13_init_9) (seq (p := 12) (q := 13) (r := 18) (p_aload_n 0 dX13_init_12) (seq (p := 13) (q := 14) (r := 18) (p_aload_n 1 dX13_init_13) (seq (p := 14) (q := 17) (r := 18) (p_putF [(12, 0)] (.object "TwoWorlds$World") (alF1 ff_X13_15_12) rfl dX13_init_14) (seq (p := 17) (q := 18) (r := 18) (p_return dX13_init_17 rfl) done)))))))))
noncomputable def M_X13_init (l : Launch) (δ : Dl) : Mth l δ yX13_init cX13_init 2 none 1 := mk (B_X13_init l δ) (by decide)
theorem N_X13_init {l : Launch} {δ : Dl} {o : Nat} {a1 : Option Nat} {s : St} : (M_X13_init l δ).1 [.inr (.inr (some o)), .inr (.inr a1)] s = bres ((B_X13_init l δ).1 [] [some (.inr (.inr (some o))), some (.inr (.inr a1))] s) := (mk_eq (hy := by decide) rfl).trans (nrfl rfl)
theorem dJ2_elementData_0 : decode cJ2_elementData 0 = .ok (.aload_n 0, 1) := by decide +kernel
theorem dJ2_elementData_1 : decode cJ2_elementData 1 = .ok (.getfield 9, 3) := by decide +kernel
theorem dJ2_elementData_4 : decode cJ2_elementData 4 = .ok (.iload_n 1, 1) := by decide +kernel
theorem dJ2_elementData_5 : decode cJ2_elementData 5 = .ok (.aaload, 1) := by decide +kernel
theorem dJ2_elementData_6 : decode cJ2_elementData 6 = .ok (.areturn, 1) := by decide +kernel
noncomputable def B_J2_elementData (l : Launch) (δ : Dl) : Seg (l, δ, yJ2_elementData, 0, (some (.object "java/lang/Object")), cJ2_elementData, 2) 0 7 :=
  seq (p := 0) (q := 1) (r := 7) (p_aload_n 0 dJ2_elementData_0) (seq (p := 1) (q := 4) (r := 7) (p_get [(16, 1)] (alL1 fl_J2_9_16) dJ2_elementData_1) (seq (p := 4) (q := 5) (r := 7) (p_iload_n 1 dJ2_elementData_4) (seq (p := 5) (q := 6) (r := 7) (p_aald dJ2_elementData_5) (seq (p := 6) (q := 7) (r := 7) (p_areturn dJ2_elementData_6 rfl (Or.inl ⟨_, rfl⟩)) done))))
noncomputable def M_J2_elementData (l : Launch) (δ : Dl) : Mth l δ yJ2_elementData cJ2_elementData 2 (some (.object "java/lang/Object")) 0 := mk (B_J2_elementData l δ) (by decide)
theorem N_J2_elementData {l : Launch} {δ : Dl} {o : Nat} {a1 : Int} {s : St} : (M_J2_elementData l δ).1 [.inr (.inr (some o)), .inl a1] s = bres ((B_J2_elementData l δ).1 [] [some (.inr (.inr (some o))), some (.inl a1)] s) := (mk_eq (hy := by decide) rfl).trans (nrfl rfl)
theorem dJ9_checkIndex_0 : decode cJ9_checkIndex 0 = .ok (.iload_n 0, 1) := by decide +kernel
theorem dJ9_checkIndex_1 : decode cJ9_checkIndex 1 = .ok (.ifCond .lt 8, 3) := by decide +kernel
theorem dJ9_checkIndex_4 : decode cJ9_checkIndex 4 = .ok (.iload_n 0, 1) := by decide +kernel
theorem dJ9_checkIndex_5 : decode cJ9_checkIndex 5 = .ok (.iload_n 1, 1) := by decide +kernel
theorem dJ9_checkIndex_6 : decode cJ9_checkIndex 6 = .ok (.if_icmp .lt 10, 3) := by decide +kernel
theorem dJ9_checkIndex_9 : decode cJ9_checkIndex 9 = .ok (.aload_n 2, 1) := by decide +kernel
theorem dJ9_checkIndex_10 : decode cJ9_checkIndex 10 = .ok (.iload_n 0, 1) := by decide +kernel
theorem dJ9_checkIndex_11 : decode cJ9_checkIndex 11 = .ok (.iload_n 1, 1) := by decide +kernel
theorem dJ9_checkIndex_12 : decode cJ9_checkIndex 12 = .ok (.invokestatic 95, 3) := by decide +kernel
theorem dJ9_checkIndex_15 : decode cJ9_checkIndex 15 = .ok (.athrow, 1) := by decide +kernel
theorem dJ9_checkIndex_16 : decode cJ9_checkIndex 16 = .ok (.iload_n 0, 1) := by decide +kernel
theorem dJ9_checkIndex_17 : decode cJ9_checkIndex 17 = .ok (.ireturn, 1) := by decide +kernel
noncomputable def B_J9_checkIndex (l : Launch) (δ : Dl) : Seg (l, δ, yJ9_checkIndex, 0, (some .int), cJ9_checkIndex, 3) 0 18 :=
  seq (p := 0) (q := 1) (r := 18) (p_iload_n 0 dJ9_checkIndex_0) (seq (p := 1) (q := 16) (r := 18) (blk (seq (p := 1) (q := 9) (r := 16) (blk (seq (p := 1) (q := 4) (r := 9) (p_if_lt 9 dJ9_checkIndex_1 (by decide)) (seq (p := 4) (q := 5) (r := 9) (p_iload_n 0 dJ9_checkIndex_4) (seq (p := 5) (q := 6) (r := 9) (p_iload_n 1 dJ9_checkIndex_5) (seq (p := 6) (q := 9) (r := 9) (p_icmp_lt 16 dJ9_checkIndex_6 (by decide)) done))))) (seq (p := 9) (q := 10) (r := 16) (p_aload_n 2 dJ9_checkIndex_9) (seq (p := 10) (q := 11) (r := 16) (p_iload_n 0 dJ9_checkIndex_10) (seq (p := 11) (q := 12) (r := 16) (p_iload_n 1 dJ9_checkIndex_11) (seq (p := 12) (q := 15) (r := 16) (p_dead 15 (Nat.le_of_ble_eq_true rfl)) (seq (p := 15) (q := 16) (r := 16) (p_athrow dJ9_checkIndex_15) done))))))) (seq (p := 16) (q := 17) (r := 18) (p_iload_n 0 dJ9_checkIndex_16) (seq (p := 17) (q := 18) (r := 18) (p_ireturn dJ9_checkIndex_17 rfl) done)))
noncomputable def M_J9_checkIndex (l : Launch) (δ : Dl) : Mth l δ yJ9_checkIndex cJ9_checkIndex 3 (some .int) 0 := mk (B_J9_checkIndex l δ) (by decide)
theorem N_J9_checkIndex {l : Launch} {δ : Dl} {a1 : Int} {a2 : Int} {a3 : Option Nat} {s : St} : (M_J9_checkIndex l δ).1 [.inl a1, .inl a2, .inr (.inr a3)] s = bres ((B_J9_checkIndex l δ).1 [] [some (.inl a1), some (.inl a2), some (.inr (.inr a3))] s) := (mk_eq (hy := by decide) rfl).trans (nrfl rfl)
theorem dJ8_checkIndex_0 : decode cJ8_checkIndex 0 = .ok (.iload_n 0, 1) := by decide +kernel
theorem dJ8_checkIndex_1 : decode cJ8_checkIndex 1 = .ok (.iload_n 1, 1) := by decide +kernel
theorem dJ8_checkIndex_2 : decode cJ8_checkIndex 2 = .ok (.aconst_null, 1) := by decide +kernel
theorem dJ8_checkIndex_3 : decode cJ8_checkIndex 3 = .ok (.invokestatic 105, 3) := by decide +kernel
theorem dJ8_checkIndex_6 : decode cJ8_checkIndex 6 = .ok (.ireturn, 1) := by decide +kernel
noncomputable def B_J8_checkIndex (l : Launch) (δ : Dl) : Seg (l, δ, yJ8_checkIndex, 1, (some .int), cJ8_checkIndex, 2) 0 7 :=
  seq (p := 0) (q := 1) (r := 7) (p_iload_n 0 dJ8_checkIndex_0) (seq (p := 1) (q := 2) (r := 7) (p_iload_n 1 dJ8_checkIndex_1) (seq (p := 2) (q := 3) (r := 7) (p_null dJ8_checkIndex_2) (seq (p := 3) (q := 6) (r := 7) (p_callG 3 _ (ok_S cs_J8_105 (M_J9_checkIndex l δ) (Nat.le_of_ble_eq_true rfl) dJ8_checkIndex_3) (Nat.le_of_ble_eq_true rfl)) (seq (p := 6) (q := 7) (r := 7) (p_ireturn dJ8_checkIndex_6 rfl) done))))
noncomputable def M_J8_checkIndex (l : Launch) (δ : Dl) : Mth l δ yJ8_checkIndex cJ8_checkIndex 2 (some .int) 1 := mk (B_J8_checkIndex l δ) (by decide)
theorem N_J8_checkIndex {l : Launch} {δ : Dl} {a1 : Int} {a2 : Int} {s : St} : (M_J8_checkIndex l δ).1 [.inl a1, .inl a2] s = bres ((B_J8_checkIndex l δ).1 [] [some (.inl a1), some (.inl a2)] s) := (mk_eq (hy := by decide) rfl).trans (nrfl rfl)
theorem dJ2_get_0 : decode cJ2_get 0 = .ok (.iload_n 1, 1) := by decide +kernel
theorem dJ2_get_1 : decode cJ2_get 1 = .ok (.aload_n 0, 1) := by decide +kernel
theorem dJ2_get_2 : decode cJ2_get 2 = .ok (.getfield 48, 3) := by decide +kernel
theorem dJ2_get_5 : decode cJ2_get 5 = .ok (.invokestatic 118, 3) := by decide +kernel
theorem dJ2_get_8 : decode cJ2_get 8 = .ok (.pop, 1) := by decide +kernel
theorem dJ2_get_9 : decode cJ2_get 9 = .ok (.aload_n 0, 1) := by decide +kernel
theorem dJ2_get_10 : decode cJ2_get 10 = .ok (.iload_n 1, 1) := by decide +kernel
theorem dJ2_get_11 : decode cJ2_get 11 = .ok (.invokevirtual 123, 3) := by decide +kernel
theorem dJ2_get_14 : decode cJ2_get 14 = .ok (.areturn, 1) := by decide +kernel
noncomputable def B_J2_get (l : Launch) (δ : Dl) : Seg (l, δ, yJ2_get, 2, (some (.object "java/lang/Object")), cJ2_get, 2) 0 15 :=
  seq (p := 0) (q := 1) (r := 15) (p_iload_n 1 dJ2_get_0) (seq (p := 1) (q := 2) (r := 15) (p_aload_n 0 dJ2_get_1) (seq (p := 2) (q := 5) (r := 15) (p_get [(16, 2)] (alL1 fl_J2_48_16) dJ2_get_2) (seq (p := 5) (q := 8) (r := 15) (p_callG 2 _ (ok_S cs_J2_118 (M_J8_checkIndex l δ) (Nat.le_of_ble_eq_true rfl) dJ2_get_5) (Nat.le_of_ble_eq_true rfl)) (seq (p := 8) (q := 9) (r := 15) (p_pop dJ2_get_8) (seq (p := 9) (q := 10) (r := 15) (p_aload_n 0 dJ2_get_9) (seq (p := 10) (q := 11) (r := 15) (p_iload_n 1 dJ2_get_10) (seq (p := 11) (q := 14) (r := 15) (p_callG 2 _ (ok_V 16 cv_J2_123 rfl (M_J2_elementData l δ) (Nat.le_of_ble_eq_true rfl) dJ2_get_11) (Nat.le_of_ble_eq_true rfl)) (seq (p := 14) (q := 15) (r := 15) (p_areturn dJ2_get_14 rfl (Or.inl ⟨_, rfl⟩)) done))))))))
noncomputable def M_J2_get (l : Launch) (δ : Dl) : Mth l δ yJ2_get cJ2_get 2 (some (.object "java/lang/Object")) 2 := mk (B_J2_get l δ) (by decide)
theorem N_J2_get {l : Launch} {δ : Dl} {o : Nat} {a1 : Int} {s : St} : (M_J2_get l δ).1 [.inr (.inr (some o)), .inl a1] s = bres ((B_J2_get l δ).1 [] [some (.inr (.inr (some o))), some (.inl a1)] s) := (mk_eq (hy := by decide) rfl).trans (nrfl rfl)
theorem dJ2_size_0 : decode cJ2_size 0 = .ok (.aload_n 0, 1) := by decide +kernel
theorem dJ2_size_1 : decode cJ2_size 1 = .ok (.getfield 48, 3) := by decide +kernel
theorem dJ2_size_4 : decode cJ2_size 4 = .ok (.ireturn, 1) := by decide +kernel
noncomputable def B_J2_size (l : Launch) (δ : Dl) : Seg (l, δ, yJ2_size, 0, (some .int), cJ2_size, 1) 0 5 :=
  seq (p := 0) (q := 1) (r := 5) (p_aload_n 0 dJ2_size_0) (seq (p := 1) (q := 4) (r := 5) (p_get [(16, 2)] (alL1 fl_J2_48_16) dJ2_size_1) (seq (p := 4) (q := 5) (r := 5) (p_ireturn dJ2_size_4 rfl) done))
noncomputable def M_J2_size (l : Launch) (δ : Dl) : Mth l δ yJ2_size cJ2_size 1 (some .int) 0 := mk (B_J2_size l δ) (by decide)
theorem N_J2_size {l : Launch} {δ : Dl} {o : Nat} {s : St} : (M_J2_size l δ).1 [.inr (.inr (some o))] s = bres ((B_J2_size l δ).1 [] [some (.inr (.inr (some o)))] s) := (mk_eq (hy := by decide) rfl).trans (nrfl rfl)
theorem dX14_init_0 : decode cX14_init 0 = .ok (.aload_n 0, 1) := by decide +kernel
theorem dX14_init_1 : decode cX14_init 1 = .ok (.ldc 1, 2) := by decide +kernel
theorem dX14_init_3 : decode cX14_init 3 = .ok (.aconst_null, 1) := by decide +kernel
theorem dX14_init_4 : decode cX14_init 4 = .ok (.iconst 0, 1) := by decide +kernel
theorem dX14_init_5 : decode cX14_init 5 = .ok (.iconst 0, 1) := by decide +kernel
theorem dX14_init_6 : decode cX14_init 6 = .ok (.invokespecial 3, 3) := by decide +kernel
theorem dX14_init_9 : decode cX14_init 9 = .ok (.return_, 1) := by decide +kernel
noncomputable def B_X14_init (l : Launch) (δ : Dl) : Seg (l, δ, yX14_init, 3, none, cX14_init, 1) 0 10 :=
  seq (p := 0) (q := 1) (r := 10) (p_aload_n 0 dX14_init_0) (seq (p := 1) (q := 3) (r := 10) (p_ldcS 2 (Or.inr ⟨rfl, rfl⟩) dX14_init_1) (seq (p := 3) (q := 4) (r := 10) (p_null dX14_init_3) (seq (p := 4) (q := 5) (r := 10) (p_iconst 0 dX14_init_4) (seq (p := 5) (q := 6) (r := 10) (p_iconst 0 dX14_init_5) (seq (p := 6) (q := 9) (r := 10) (p_callG 5 _ (ok_I ci_X14_3 (M_J4_init l δ) (Nat.le_of_ble_eq_true rfl) dX14_init_6) (Nat.le_of_ble_eq_true rfl)) (seq (p := 9) (q := 10) (r := 10) (p_return dX14_init_9 rfl) done))))))
noncomputable def M_X14_init (l : Launch) (δ : Dl) : Mth l δ yX14_init cX14_init 1 none 3 := mk (B_X14_init l δ) (by decide)
theorem N_X14_init {l : Launch} {δ : Dl} {o : Nat} {s : St} : (M_X14_init l δ).1 [.inr (.inr (some o))] s = bres ((B_X14_init l δ).1 [] [some (.inr (.inr (some o)))] s) := (mk_eq (hy := by decide) rfl).trans (nrfl rfl)
theorem dX2_isTied_0 : decode cX2_isTied 0 = .ok (.aload_n 0, 1) := by decide +kernel
theorem dX2_isTied_1 : decode cX2_isTied 1 = .ok (.getfield 15, 3) := by decide +kernel
theorem dX2_isTied_4 : decode cX2_isTied 4 = .ok (.bipush 6, 2) := by decide +kernel
theorem dX2_isTied_6 : decode cX2_isTied 6 = .ok (.iload_n 1, 1) := by decide +kernel
theorem dX2_isTied_7 : decode cX2_isTied 7 = .ok (.imul, 1) := by decide +kernel
theorem dX2_isTied_8 : decode cX2_isTied 8 = .ok (.iload_n 2, 1) := by decide +kernel
theorem dX2_isTied_9 : decode cX2_isTied 9 = .ok (.iadd, 1) := by decide +kernel
theorem dX2_isTied_10 : decode cX2_isTied 10 = .ok (.baload, 1) := by decide +kernel
theorem dX2_isTied_11 : decode cX2_isTied 11 = .ok (.ireturn, 1) := by decide +kernel
noncomputable def B_X2_isTied (l : Launch) (δ : Dl) : Seg (l, δ, yX2_isTied, 0, (some .boolean), cX2_isTied, 3) 0 12 :=
  seq (p := 0) (q := 1) (r := 12) (p_aload_n 0 dX2_isTied_0) (seq (p := 1) (q := 4) (r := 12) (p_get [(2, 2)] (alL1 fl_X2_15_2) dX2_isTied_1) (seq (p := 4) (q := 6) (r := 12) (p_bipush 6 dX2_isTied_4 (by decide)) (seq (p := 6) (q := 7) (r := 12) (p_iload_n 1 dX2_isTied_6) (seq (p := 7) (q := 8) (r := 12) (p_imul dX2_isTied_7) (seq (p := 8) (q := 9) (r := 12) (p_iload_n 2 dX2_isTied_8) (seq (p := 9) (q := 10) (r := 12) (p_iadd dX2_isTied_9) (seq (p := 10) (q := 11) (r := 12) (p_bald dX2_isTied_10) (seq (p := 11) (q := 12) (r := 12) (p_zreturn dX2_isTied_11 rfl) done))))))))
noncomputable def M_X2_isTied (l : Launch) (δ : Dl) : Mth l δ yX2_isTied cX2_isTied 3 (some .boolean) 0 := mk (B_X2_isTied l δ) (by decide)
theorem N_X2_isTied {l : Launch} {δ : Dl} {o : Nat} {a1 : Int} {a2 : Int} {s : St} : (M_X2_isTied l δ).1 [.inr (.inr (some o)), .inl a1, .inl a2] s = bres ((B_X2_isTied l δ).1 [] [some (.inr (.inr (some o))), some (.inl a1), some (.inl a2)] s) := (mk_eq (hy := by decide) rfl).trans (nrfl rfl)
abbrev T_hol (l : Launch) (δ : Dl) (n : Nat) : Type := Mth l δ yX13_asks cX13_asks 2 (some .boolean) (4 + n) × Mth l δ yX6_holds cX6_holds 2 (some .boolean) (4 + n) × Mth l δ yX8_holds cX8_holds 2 (some .boolean) (4 + n) × Mth l δ yX9_holds cX9_holds 4 (some .boolean) (4 + n) × Mth l δ yX10_holds cX10_holds 5 (some .boolean) (4 + n)
theorem dX13_asks_0 : decode cX13_asks 0 = .ok (.aload_n 0, 1) := by decide +kernel
theorem dX13_asks_1 : decode cX13_asks 1 = .ok (.dup, 1) := by decide +kernel
theorem dX13_asks_2 : decode cX13_asks 2 = .ok (.getfield 19, 3) := by decide +kernel
theorem dX13_asks_5 : decode cX13_asks 5 = .ok (.iconst 1, 1) := by decide +kernel
theorem dX13_asks_6 : decode cX13_asks 6 = .ok (.iadd, 1) := by decide +kernel
theorem dX13_asks_7 : decode cX13_asks 7 = .ok (.putfield 19, 3) := by decide +kernel
theorem dX13_asks_10 : decode cX13_asks 10 = .ok (.aload_n 0, 1) := by decide +kernel
theorem dX13_asks_11 : decode cX13_asks 11 = .ok (.getfield 19, 3) := by decide +kernel
theorem dX13_asks_14 : decode cX13_asks 14 = .ok (.ldc 23, 2) := by decide +kernel
theorem dX13_asks_16 : decode cX13_asks 16 = .ok (.if_icmp .le 11, 3) := by decide +kernel
theorem dX13_asks_19 : decode cX13_asks 19 = .ok (.new 24, 3) := by decide +kernel
theorem dX13_asks_22 : decode cX13_asks 22 = .ok (.dup, 1) := by decide +kernel
theorem dX13_asks_23 : decode cX13_asks 23 = .ok (.invokespecial 26, 3) := by decide +kernel
theorem dX13_asks_26 : decode cX13_asks 26 = .ok (.athrow, 1) := by decide +kernel
theorem dX13_asks_27 : decode cX13_asks 27 = .ok (.aload_n 1, 1) := by decide +kernel
theorem dX13_asks_28 : decode cX13_asks 28 = .ok (.aload_n 0, 1) := by decide +kernel
theorem dX13_asks_29 : decode cX13_asks 29 = .ok (.invokevirtual 27, 3) := by decide +kernel
theorem dX13_asks_32 : decode cX13_asks 32 = .ok (.ireturn, 1) := by decide +kernel
noncomputable def B_X13_asks (l : Launch) (δ : Dl) (n : Nat) (r : T_hol l δ n) : Seg (l, δ, yX13_asks, 4 + (n + 1), (some .boolean), cX13_asks, 2) 0 33 :=
  seq (p := 0) (q := 1) (r := 33) (p_aload_n 0 dX13_asks_0) (seq (p := 1) (q := 2) (r := 33) (p_dup dX13_asks_1) (seq (p := 2) (q := 5) (r := 33) (p_get [(12, 2)] (alL1 fl_X13_19_12) dX13_asks_2) (seq (p := 5) (q := 6) (r := 33) (p_iconst 1 dX13_asks_5) (seq (p := 6) (q := 7) (r := 33) (p_iadd dX13_asks_6) (seq (p := 7) (q := 10) (r := 33) (p_put [(12, 2)] .int (alP1 fp_X13_19_12) dX13_asks_7) (seq (p := 10) (q := 11) (r := 33) (p_aload_n 0 dX13_asks_10) (seq (p := 11) (q := 14) (r := 33) (p_get [(12, 2)] (alL1 fl_X13_19_12) dX13_asks_11) (seq (p := 14) (q := 16) (r := 33) (p_ldc 100000 (okc q872) (by decide) dX13_asks_14) (seq (p := 16) (q := 27) (r := 33) (blk (seq (p := 16) (q := 19) (r := 27) (p_icmp_le 27 dX13_asks_16 (by decide)) (seq (p := 19) (q := 22) (r := 27) (p_new 13 ck13 tyX14 tyX14_ok f0_13 f0_13_ok (okc q873) (okc q874) (okc q112) dX13_asks_19) (seq (p := 22) (q := 23) (r := 27) (p_dup dX13_asks_22) (seq (p := 23) (q := 26) (r := 27) (p_callG 1 _ (ok_I ci_X13_26 (M_X14_init l δ) (Nat.lt_of_lt_of_le (show 3 < 4 from (Nat.le_of_ble_eq_true rfl)) (Nat.le_add_right _ _)) dX13_asks_23) (Nat.le_of_ble_eq_true rfl)) (seq (p := 26) (q := 27) (r := 27) (p_athrow dX13_asks_26) done)))))) (seq (p := 27) (q := 28) (r := 33) (p_aload_n 1 dX13_asks_27) (seq (p := 28) (q := 29) (r := 33) (p_aload_n 0 dX13_asks_28) (seq (p := 29) (q := 32) (r := 33) (p_callG 2 _ (ok_alt (ok_U 8 cu_X13_27_8 rfl (r.2.2.2.1) (Nat.lt_succ_self _) dX13_asks_29) (ok_alt (ok_U 7 cu_X13_27_7 rfl (r.2.2.1) (Nat.lt_succ_self _) dX13_asks_29) (ok_alt (ok_U 9 cu_X13_27_9 rfl (r.2.2.2.2) (Nat.lt_succ_self _) dX13_asks_29) (ok_U 5 cu_X13_27_5 rfl (r.2.1) (Nat.lt_succ_self _) dX13_asks_29)))) (Nat.le_of_ble_eq_true rfl)) (seq (p := 32) (q := 33) (r := 33) (p_zreturn dX13_asks_32 rfl) done)))))))))))))
theorem dX6_holds_0 : decode cX6_holds 0 = .ok (.aload_n 0, 1) := by decide +kernel
theorem dX6_holds_1 : decode cX6_holds 1 = .ok (.getfield 7, 3) := by decide +kernel
theorem dX6_holds_4 : decode cX6_holds 4 = .ok (.tableswitch 163 61 69 #[136, 163, 163, 163, 52, 81, 163, 163, 110], 52) := by decide +kernel
theorem dX6_holds_56 : decode cX6_holds 56 = .ok (.aload_n 1, 1) := by decide +kernel
theorem dX6_holds_57 : decode cX6_holds 57 = .ok (.getfield 20, 3) := by decide +kernel
theorem dX6_holds_60 : decode cX6_holds 60 = .ok (.getfield 26, 3) := by decide +kernel
theorem dX6_holds_63 : decode cX6_holds 63 = .ok (.aload_n 1, 1) := by decide +kernel
theorem dX6_holds_64 : decode cX6_holds 64 = .ok (.getfield 32, 3) := by decide +kernel
theorem dX6_holds_67 : decode cX6_holds 67 = .ok (.aload_n 0, 1) := by decide +kernel
theorem dX6_holds_68 : decode cX6_holds 68 = .ok (.getfield 13, 3) := by decide +kernel
theorem dX6_holds_71 : decode cX6_holds 71 = .ok (.iaload, 1) := by decide +kernel
theorem dX6_holds_72 : decode cX6_holds 72 = .ok (.iaload, 1) := by decide +kernel
theorem dX6_holds_73 : decode cX6_holds 73 = .ok (.iconst 1, 1) := by decide +kernel
theorem dX6_holds_74 : decode cX6_holds 74 = .ok (.iand, 1) := by decide +kernel
theorem dX6_holds_75 : decode cX6_holds 75 = .ok (.iconst 1, 1) := by decide +kernel
theorem dX6_holds_76 : decode cX6_holds 76 = .ok (.if_icmp .ne 7, 3) := by decide +kernel
theorem dX6_holds_79 : decode cX6_holds 79 = .ok (.iconst 1, 1) := by decide +kernel
theorem dX6_holds_80 : decode cX6_holds 80 = .ok (.goto 4, 3) := by decide +kernel
theorem dX6_holds_83 : decode cX6_holds 83 = .ok (.iconst 0, 1) := by decide +kernel
theorem dX6_holds_84 : decode cX6_holds 84 = .ok (.ireturn, 1) := by decide +kernel
theorem dX6_holds_85 : decode cX6_holds 85 = .ok (.aload_n 1, 1) := by decide +kernel
theorem dX6_holds_86 : decode cX6_holds 86 = .ok (.getfield 20, 3) := by decide +kernel
theorem dX6_holds_89 : decode cX6_holds 89 = .ok (.getfield 26, 3) := by decide +kernel
theorem dX6_holds_92 : decode cX6_holds 92 = .ok (.aload_n 1, 1) := by decide +kernel
theorem dX6_holds_93 : decode cX6_holds 93 = .ok (.getfield 32, 3) := by decide +kernel
theorem dX6_holds_96 : decode cX6_holds 96 = .ok (.aload_n 0, 1) := by decide +kernel
theorem dX6_holds_97 : decode cX6_holds 97 = .ok (.getfield 13, 3) := by decide +kernel
theorem dX6_holds_100 : decode cX6_holds 100 = .ok (.iaload, 1) := by decide +kernel
theorem dX6_holds_101 : decode cX6_holds 101 = .ok (.iaload, 1) := by decide +kernel
theorem dX6_holds_102 : decode cX6_holds 102 = .ok (.iconst 2, 1) := by decide +kernel
theorem dX6_holds_103 : decode cX6_holds 103 = .ok (.iand, 1) := by decide +kernel
theorem dX6_holds_104 : decode cX6_holds 104 = .ok (.iconst 2, 1) := by decide +kernel
theorem dX6_holds_105 : decode cX6_holds 105 = .ok (.if_icmp .ne 7, 3) := by decide +kernel
theorem dX6_holds_108 : decode cX6_holds 108 = .ok (.iconst 1, 1) := by decide +kernel
theorem dX6_holds_109 : decode cX6_holds 109 = .ok (.goto 4, 3) := by decide +kernel
theorem dX6_holds_112 : decode cX6_holds 112 = .ok (.iconst 0, 1) := by decide +kernel
theorem dX6_holds_113 : decode cX6_holds 113 = .ok (.ireturn, 1) := by decide +kernel
theorem dX6_holds_114 : decode cX6_holds 114 = .ok (.aload_n 1, 1) := by decide +kernel
theorem dX6_holds_115 : decode cX6_holds 115 = .ok (.getfield 20, 3) := by decide +kernel
theorem dX6_holds_118 : decode cX6_holds 118 = .ok (.aload_n 1, 1) := by decide +kernel
theorem dX6_holds_119 : decode cX6_holds 119 = .ok (.getfield 32, 3) := by decide +kernel
theorem dX6_holds_122 : decode cX6_holds 122 = .ok (.aload_n 0, 1) := by decide +kernel
theorem dX6_holds_123 : decode cX6_holds 123 = .ok (.getfield 13, 3) := by decide +kernel
theorem dX6_holds_126 : decode cX6_holds 126 = .ok (.iaload, 1) := by decide +kernel
theorem dX6_holds_127 : decode cX6_holds 127 = .ok (.aload_n 1, 1) := by decide +kernel
theorem dX6_holds_128 : decode cX6_holds 128 = .ok (.getfield 32, 3) := by decide +kernel
theorem dX6_holds_131 : decode cX6_holds 131 = .ok (.aload_n 0, 1) := by decide +kernel
theorem dX6_holds_132 : decode cX6_holds 132 = .ok (.getfield 17, 3) := by decide +kernel
theorem dX6_holds_135 : decode cX6_holds 135 = .ok (.iaload, 1) := by decide +kernel
theorem dX6_holds_136 : decode cX6_holds 136 = .ok (.invokevirtual 35, 3) := by decide +kernel
theorem dX6_holds_139 : decode cX6_holds 139 = .ok (.ireturn, 1) := by decide +kernel
theorem dX6_holds_140 : decode cX6_holds 140 = .ok (.aload_n 1, 1) := by decide +kernel
theorem dX6_holds_141 : decode cX6_holds 141 = .ok (.getfield 32, 3) := by decide +kernel
theorem dX6_holds_144 : decode cX6_holds 144 = .ok (.aload_n 0, 1) := by decide +kernel
theorem dX6_holds_145 : decode cX6_holds 145 = .ok (.getfield 13, 3) := by decide +kernel
theorem dX6_holds_148 : decode cX6_holds 148 = .ok (.iaload, 1) := by decide +kernel
theorem dX6_holds_149 : decode cX6_holds 149 = .ok (.aload_n 1, 1) := by decide +kernel
theorem dX6_holds_150 : decode cX6_holds 150 = .ok (.getfield 32, 3) := by decide +kernel
theorem dX6_holds_153 : decode cX6_holds 153 = .ok (.aload_n 0, 1) := by decide +kernel
theorem dX6_holds_154 : decode cX6_holds 154 = .ok (.getfield 17, 3) := by decide +kernel
theorem dX6_holds_157 : decode cX6_holds 157 = .ok (.iaload, 1) := by decide +kernel
theorem dX6_holds_158 : decode cX6_holds 158 = .ok (.if_icmp .ne 7, 3) := by decide +kernel
theorem dX6_holds_161 : decode cX6_holds 161 = .ok (.iconst 1, 1) := by decide +kernel
theorem dX6_holds_162 : decode cX6_holds 162 = .ok (.goto 4, 3) := by decide +kernel
theorem dX6_holds_165 : decode cX6_holds 165 = .ok (.iconst 0, 1) := by decide +kernel
theorem dX6_holds_166 : decode cX6_holds 166 = .ok (.ireturn, 1) := by decide +kernel
theorem dX6_holds_167 : decode cX6_holds 167 = .ok (.aload_n 0, 1) := by decide +kernel
theorem dX6_holds_168 : decode cX6_holds 168 = .ok (.getfield 7, 3) := by decide +kernel
theorem dX6_holds_171 : decode cX6_holds 171 = .ok (.bipush 84, 2) := by decide +kernel
theorem dX6_holds_173 : decode cX6_holds 173 = .ok (.if_icmp .ne 7, 3) := by decide +kernel
theorem dX6_holds_176 : decode cX6_holds 176 = .ok (.iconst 1, 1) := by decide +kernel
theorem dX6_holds_177 : decode cX6_holds 177 = .ok (.goto 4, 3) := by decide +kernel
theorem dX6_holds_180 : decode cX6_holds 180 = .ok (.iconst 0, 1) := by decide +kernel
theorem dX6_holds_181 : decode cX6_holds 181 = .ok (.ireturn, 1) := by decide +kernel
noncomputable def B_X6_holds (l : Launch) (δ : Dl) (n : Nat) (r : T_hol l δ n) : Seg (l, δ, yX6_holds, 4 + (n + 1), (some .boolean), cX6_holds, 2) 0 182 :=
  seq (p := 0) (q := 1) (r := 182) (p_aload_n 0 dX6_holds_0) (seq (p := 1) (q := 4) (r := 182) (p_get [(5, 0)] (alL1 fl_X6_7_5) dX6_holds_1) (seq (p := 4) (q := 167) (r := 182) (blk (seq (p := 4) (q := 140) (r := 167) (blk (seq (p := 4) (q := 114) (r := 140) (blk (seq (p := 4) (q := 85) (r := 114) (blk (seq (p := 4) (q := 56) (r := 85) (blk (seq (p := 4) (q := 56) (r := 56) (p_table (len := 52) dX6_holds_4 (by decide)) done)) (seq (p := 56) (q := 57) (r := 85) (p_aload_n 1 dX6_holds_56) (seq (p := 57) (q := 60) (r := 85) (p_get [(12, 0)] (alL1 fl_X6_20_12) dX6_holds_57) (seq (p := 60) (q := 63) (r := 85) (p_get [(2, 1)] (alL1 fl_X6_26_2) dX6_holds_60) (seq (p := 63) (q := 64) (r := 85) (p_aload_n 1 dX6_holds_63) (seq (p := 64) (q := 67) (r := 85) (p_get [(12, 1)] (alL1 fl_X6_32_12) dX6_holds_64) (seq (p := 67) (q := 68) (r := 85) (p_aload_n 0 dX6_holds_67) (seq (p := 68) (q := 71) (r := 85) (p_get [(5, 1)] (alL1 fl_X6_13_5) dX6_holds_68) (seq (p := 71) (q := 72) (r := 85) (p_iald dX6_holds_71) (seq (p := 72) (q := 73) (r := 85) (p_iald dX6_holds_72) (seq (p := 73) (q := 74) (r := 85) (p_iconst 1 dX6_holds_73) (seq (p := 74) (q := 75) (r := 85) (p_iand dX6_holds_74) (seq (p := 75) (q := 76) (r := 85) (p_iconst 1 dX6_holds_75) (seq (p := 76) (q := 84) (r := 85) (blk (seq (p := 76) (q := 83) (r := 84) (blk (seq (p := 76) (q := 79) (r := 83) (p_icmp_ne 83 dX6_holds_76 (by decide)) (seq (p := 79) (q := 80) (r := 83) (p_iconst 1 dX6_holds_79) (seq (p := 80) (q := 83) (r := 83) (p_goto 84 dX6_holds_80 (by decide)) done)))) (seq (p := 83) (q := 84) (r := 84) (p_iconst 0 dX6_holds_83) done))) (seq (p := 84) (q := 85) (r := 85) (p_zreturn dX6_holds_84 rfl) done)))))))))))))))) (seq (p := 85) (q := 86) (r := 114) (p_aload_n 1 dX6_holds_85) (seq (p := 86) (q := 89) (r := 114) (p_get [(12, 0)] (alL1 fl_X6_20_12) dX6_holds_86) (seq (p := 89) (q := 92) (r := 114) (p_get [(2, 1)] (alL1 fl_X6_26_2) dX6_holds_89) (seq (p := 92) (q := 93) (r := 114) (p_aload_n 1 dX6_holds_92) (seq (p := 93) (q := 96) (r := 114) (p_get [(12, 1)] (alL1 fl_X6_32_12) dX6_holds_93) (seq (p := 96) (q := 97) (r := 114) (p_aload_n 0 dX6_holds_96) (seq (p := 97) (q := 100) (r := 114) (p_get [(5, 1)] (alL1 fl_X6_13_5) dX6_holds_97) (seq (p := 100) (q := 101) (r := 114) (p_iald dX6_holds_100) (seq (p := 101) (q := 102) (r := 114) (p_iald dX6_holds_101) (seq (p := 102) (q := 103) (r := 114) (p_iconst 2 dX6_holds_102) (seq (p := 103) (q := 104) (r := 114) (p_iand dX6_holds_103) (seq (p := 104) (q := 105) (r := 114) (p_iconst 2 dX6_holds_104) (seq (p := 105) (q := 113) (r := 114) (blk (seq (p := 105) (q := 112) (r := 113) (blk (seq (p := 105) (q := 108) (r := 112) (p_icmp_ne 112 dX6_holds_105 (by decide)) (seq (p := 108) (q := 109) (r := 112) (p_iconst 1 dX6_holds_108) (seq (p := 109) (q := 112) (r := 112) (p_goto 113 dX6_holds_109 (by decide)) done)))) (seq (p := 112) (q := 113) (r := 113) (p_iconst 0 dX6_holds_112) done))) (seq (p := 113) (q := 114) (r := 114) (p_zreturn dX6_holds_113 rfl) done)))))))))))))))) (seq (p := 114) (q := 115) (r := 140) (p_aload_n 1 dX6_holds_114) (seq (p := 115) (q := 118) (r := 140) (p_get [(12, 0)] (alL1 fl_X6_20_12) dX6_holds_115) (seq (p := 118) (q := 119) (r := 140) (p_aload_n 1 dX6_holds_118) (seq (p := 119) (q := 122) (r := 140) (p_get [(12, 1)] (alL1 fl_X6_32_12) dX6_holds_119) (seq (p := 122) (q := 123) (r := 140) (p_aload_n 0 dX6_holds_122) (seq (p := 123) (q := 126) (r := 140) (p_get [(5, 1)] (alL1 fl_X6_13_5) dX6_holds_123) (seq (p := 126) (q := 127) (r := 140) (p_iald dX6_holds_126) (seq (p := 127) (q := 128) (r := 140) (p_aload_n 1 dX6_holds_127) (seq (p := 128) (q := 131) (r := 140) (p_get [(12, 1)] (alL1 fl_X6_32_12) dX6_holds_128) (seq (p := 131) (q := 132) (r := 140) (p_aload_n 0 dX6_holds_131) (seq (p := 132) (q := 135) (r := 140) (p_get [(5, 2)] (alL1 fl_X6_17_5) dX6_holds_132) (seq (p := 135) (q := 136) (r := 140) (p_iald dX6_holds_135) (seq (p := 136) (q := 139) (r := 140) (p_callG 3 _ (ok_V 2 cv_X6_35 rfl (M_X2_isTied l δ) (Nat.lt_of_lt_of_le (show 0 < 4 from (Nat.le_of_ble_eq_true rfl)) (Nat.le_add_right _ _)) dX6_holds_136) (Nat.le_of_ble_eq_true rfl)) (seq (p := 139) (q := 140) (r := 140) (p_zreturn dX6_holds_139 rfl) done)))))))))))))))) (seq (p := 140) (q := 141) (r := 167) (p_aload_n 1 dX6_holds_140) (seq (p := 141) (q := 144) (r := 167) (p_get [(12, 1)] (alL1 fl_X6_32_12) dX6_holds_141) (seq (p := 144) (q := 145) (r := 167) (p_aload_n 0 dX6_holds_144) (seq (p := 145) (q := 148) (r := 167) (p_get [(5, 1)] (alL1 fl_X6_13_5) dX6_holds_145) (seq (p := 148) (q := 149) (r := 167) (p_iald dX6_holds_148) (seq (p := 149) (q := 150) (r := 167) (p_aload_n 1 dX6_holds_149) (seq (p := 150) (q := 153) (r := 167) (p_get [(12, 1)] (alL1 fl_X6_32_12) dX6_holds_150) (seq (p := 153) (q := 154) (r := 167) (p_aload_n 0 dX6_holds_153) (seq (p := 154) (q := 157) (r := 167) (p_get [(5, 2)] (alL1 fl_X6_17_5) dX6_holds_154) (seq (p := 157) (q := 158) (r := 167) (p_iald dX6_holds_157) (seq (p := 158) (q := 166) (r := 167) (blk (seq (p := 158) (q := 165) (r := 166) (blk (seq (p := 158) (q := 161) (r := 165) (p_icmp_ne 165 dX6_holds_158 (by decide)) (seq (p := 161) (q := 162) (r := 165) (p_iconst 1 dX6_holds_161) (seq (p := 162) (q := 165) (r := 165) (p_goto 166 dX6_holds_162 (by decide)) done)))) (seq (p := 165) (q := 166) (r := 166) (p_iconst 0 dX6_holds_165) done))) (seq (p := 166) (q := 167) (r := 167) (p_zreturn dX6_holds_166 rfl) done)))))))))))))) (seq (p := 167) (q := 168) (r := 182) (p_aload_n 0 dX6_holds_167) (seq (p := 168) (q := 171) (r := 182) (p_get [(5, 0)] (alL1 fl_X6_7_5) dX6_holds_168) (seq (p := 171) (q := 173) (r := 182) (p_bipush 84 dX6_holds_171 (by decide)) (seq (p := 173) (q := 181) (r := 182) (blk (seq (p := 173) (q := 180) (r := 181) (blk (seq (p := 173) (q := 176) (r := 180) (p_icmp_ne 180 dX6_holds_173 (by decide)) (seq (p := 176) (q := 177) (r := 180) (p_iconst 1 dX6_holds_176) (seq (p := 177) (q := 180) (r := 180) (p_goto 181 dX6_holds_177 (by decide)) done)))) (seq (p := 180) (q := 181) (r := 181) (p_iconst 0 dX6_holds_180) done))) (seq (p := 181) (q := 182) (r := 182) (p_zreturn dX6_holds_181 rfl) done)))))))
theorem dX8_holds_0 : decode cX8_holds 0 = .ok (.aload_n 1, 1) := by decide +kernel
theorem dX8_holds_1 : decode cX8_holds 1 = .ok (.aload_n 0, 1) := by decide +kernel
theorem dX8_holds_2 : decode cX8_holds 2 = .ok (.getfield 7, 3) := by decide +kernel
theorem dX8_holds_5 : decode cX8_holds 5 = .ok (.invokevirtual 13, 3) := by decide +kernel
theorem dX8_holds_8 : decode cX8_holds 8 = .ok (.ifCond .ne 7, 3) := by decide +kernel
theorem dX8_holds_11 : decode cX8_holds 11 = .ok (.iconst 1, 1) := by decide +kernel
theorem dX8_holds_12 : decode cX8_holds 12 = .ok (.goto 4, 3) := by decide +kernel
theorem dX8_holds_15 : decode cX8_holds 15 = .ok (.iconst 0, 1) := by decide +kernel
theorem dX8_holds_16 : decode cX8_holds 16 = .ok (.ireturn, 1) := by decide +kernel
noncomputable def B_X8_holds (l : Launch) (δ : Dl) (n : Nat) (r : T_hol l δ n) : Seg (l, δ, yX8_holds, 4 + (n + 1), (some .boolean), cX8_holds, 2) 0 17 :=
  seq (p := 0) (q := 1) (r := 17) (p_aload_n 1 dX8_holds_0) (seq (p := 1) (q := 2) (r := 17) (p_aload_n 0 dX8_holds_1) (seq (p := 2) (q := 5) (r := 17) (p_get [(7, 0), (8, 0)] (alL2 fl_X8_7_7 fl_X8_7_8) dX8_holds_2) (seq (p := 5) (q := 8) (r := 17) (p_callG 2 _ (ok_V 12 cv_X8_13 rfl (r.1) (Nat.lt_succ_self _) dX8_holds_5) (Nat.le_of_ble_eq_true rfl)) (seq (p := 8) (q := 16) (r := 17) (blk (seq (p := 8) (q := 15) (r := 16) (blk (seq (p := 8) (q := 11) (r := 15) (p_if_ne 15 dX8_holds_8 (by decide)) (seq (p := 11) (q := 12) (r := 15) (p_iconst 1 dX8_holds_11) (seq (p := 12) (q := 15) (r := 15) (p_goto 16 dX8_holds_12 (by decide)) done)))) (seq (p := 15) (q := 16) (r := 16) (p_iconst 0 dX8_holds_15) done))) (seq (p := 16) (q := 17) (r := 17) (p_zreturn dX8_holds_16 rfl) done)))))
theorem dX9_holds_0 : decode cX9_holds 0 = .ok (.aload_n 0, 1) := by decide +kernel
theorem dX9_holds_1 : decode cX9_holds 1 = .ok (.getfield 13, 3) := by decide +kernel
theorem dX9_holds_4 : decode cX9_holds 4 = .ok (.istore_n 2, 1) := by decide +kernel
theorem dX9_holds_5 : decode cX9_holds 5 = .ok (.iconst 0, 1) := by decide +kernel
theorem dX9_holds_6 : decode cX9_holds 6 = .ok (.istore_n 3, 1) := by decide +kernel
theorem dX9_holds_7 : decode cX9_holds 7 = .ok (.iload_n 3, 1) := by decide +kernel
theorem dX9_holds_8 : decode cX9_holds 8 = .ok (.aload_n 1, 1) := by decide +kernel
theorem dX9_holds_9 : decode cX9_holds 9 = .ok (.getfield 17, 3) := by decide +kernel
theorem dX9_holds_12 : decode cX9_holds 12 = .ok (.getfield 23, 3) := by decide +kernel
theorem dX9_holds_15 : decode cX9_holds 15 = .ok (.if_icmp .ge 36, 3) := by decide +kernel
theorem dX9_holds_18 : decode cX9_holds 18 = .ok (.iload_n 2, 1) := by decide +kernel
theorem dX9_holds_19 : decode cX9_holds 19 = .ok (.aload_n 0, 1) := by decide +kernel
theorem dX9_holds_20 : decode cX9_holds 20 = .ok (.getfield 13, 3) := by decide +kernel
theorem dX9_holds_23 : decode cX9_holds 23 = .ok (.if_icmp .ne 28, 3) := by decide +kernel
theorem dX9_holds_26 : decode cX9_holds 26 = .ok (.aload_n 1, 1) := by decide +kernel
theorem dX9_holds_27 : decode cX9_holds 27 = .ok (.getfield 28, 3) := by decide +kernel
theorem dX9_holds_30 : decode cX9_holds 30 = .ok (.aload_n 0, 1) := by decide +kernel
theorem dX9_holds_31 : decode cX9_holds 31 = .ok (.getfield 7, 3) := by decide +kernel
theorem dX9_holds_34 : decode cX9_holds 34 = .ok (.iload_n 3, 1) := by decide +kernel
theorem dX9_holds_35 : decode cX9_holds 35 = .ok (.iastore, 1) := by decide +kernel
theorem dX9_holds_36 : decode cX9_holds 36 = .ok (.aload_n 1, 1) := by decide +kernel
theorem dX9_holds_37 : decode cX9_holds 37 = .ok (.aload_n 0, 1) := by decide +kernel
theorem dX9_holds_38 : decode cX9_holds 38 = .ok (.getfield 32, 3) := by decide +kernel
theorem dX9_holds_41 : decode cX9_holds 41 = .ok (.invokevirtual 36, 3) := by decide +kernel
theorem dX9_holds_44 : decode cX9_holds 44 = .ok (.istore_n 2, 1) := by decide +kernel
theorem dX9_holds_45 : decode cX9_holds 45 = .ok (.iinc 3 1, 3) := by decide +kernel
theorem dX9_holds_48 : decode cX9_holds 48 = .ok (.goto (-41), 3) := by decide +kernel
theorem dX9_holds_51 : decode cX9_holds 51 = .ok (.iload_n 2, 1) := by decide +kernel
theorem dX9_holds_52 : decode cX9_holds 52 = .ok (.ireturn, 1) := by decide +kernel
noncomputable def C_X9_holds_L7 (l : Launch) (δ : Dl) (n : Nat) (r : T_hol l δ n) : Seg (l, δ, yX9_holds, 4 + (n + 1), (some .boolean), cX9_holds, 4) 7 51 :=
  seq (p := 7) (q := 8) (r := 51) (p_iload_n 3 dX9_holds_7) (seq (p := 8) (q := 9) (r := 51) (p_aload_n 1 dX9_holds_8) (seq (p := 9) (q := 12) (r := 51) (p_get [(12, 0)] (alL1 fl_X9_17_12) dX9_holds_9) (seq (p := 12) (q := 15) (r := 51) (p_get [(2, 0)] (alL1 fl_X9_23_2) dX9_holds_12) (seq (p := 15) (q := 18) (r := 51) (p_icmp_ge 51 dX9_holds_15 (by decide)) (seq (p := 18) (q := 19) (r := 51) (p_iload_n 2 dX9_holds_18) (seq (p := 19) (q := 20) (r := 51) (p_aload_n 0 dX9_holds_19) (seq (p := 20) (q := 23) (r := 51) (p_get [(8, 2)] (alL1 fl_X9_13_8) dX9_holds_20) (seq (p := 23) (q := 26) (r := 51) (p_icmp_ne 51 dX9_holds_23 (by decide)) (seq (p := 26) (q := 27) (r := 51) (p_aload_n 1 dX9_holds_26) (seq (p := 27) (q := 30) (r := 51) (p_get [(12, 1)] (alL1 fl_X9_28_12) dX9_holds_27) (seq (p := 30) (q := 31) (r := 51) (p_aload_n 0 dX9_holds_30) (seq (p := 31) (q := 34) (r := 51) (p_get [(8, 1)] (alL1 fl_X9_7_8) dX9_holds_31) (seq (p := 34) (q := 35) (r := 51) (p_iload_n 3 dX9_holds_34) (seq (p := 35) (q := 36) (r := 51) (p_iast dX9_holds_35) (seq (p := 36) (q := 37) (r := 51) (p_aload_n 1 dX9_holds_36) (seq (p := 37) (q := 38) (r := 51) (p_aload_n 0 dX9_holds_37) (seq (p := 38) (q := 41) (r := 51) (p_get [(7, 0), (8, 0)] (alL2 fl_X9_32_7 fl_X9_32_8) dX9_holds_38) (seq (p := 41) (q := 44) (r := 51) (p_callG 2 _ (ok_V 12 cv_X9_36 rfl (r.1) (Nat.lt_succ_self _) dX9_holds_41) (Nat.le_of_ble_eq_true rfl)) (seq (p := 44) (q := 45) (r := 51) (p_istore_n 2 dX9_holds_44 (Nat.le_of_ble_eq_true rfl)) (seq (p := 45) (q := 48) (r := 51) (p_iinc 3 1 dX9_holds_45 (Nat.le_of_ble_eq_true rfl)) (seq (p := 48) (q := 48) (r := 51) (er [true, true, true, true]) (seq (p := 48) (q := 51) (r := 51) (p_goto 7 dX9_holds_48 (by decide)) done))))))))))))))))))))))
noncomputable def B_X9_holds_L7 (l : Launch) (δ : Dl) (n : Nat) (r : T_hol l δ n) : Seg (l, δ, yX9_holds, 4 + (n + 1), (some .boolean), cX9_holds, 4) 7 51 := C_X9_holds_L7 l δ n r
theorem L_X9_holds_7 {l : Launch} {δ : Dl} {n : Nat} {r : T_hol l δ n} {st : Stk} {L : Lc} {s : St} : (B_X9_holds_L7 l δ n r).1 st L s = (C_X9_holds_L7 l δ n r).1 st L s := nrfl rfl
noncomputable def B_X9_holds (l : Launch) (δ : Dl) (n : Nat) (r : T_hol l δ n) : Seg (l, δ, yX9_holds, 4 + (n + 1), (some .boolean), cX9_holds, 4) 0 53 :=
  seq (p := 0) (q := 1) (r := 53) (p_aload_n 0 dX9_holds_0) (seq (p := 1) (q := 4) (r := 53) (p_get [(8, 2)] (alL1 fl_X9_13_8) dX9_holds_1) (seq (p := 4) (q := 5) (r := 53) (p_istore_n 2 dX9_holds_4 (Nat.le_of_ble_eq_true rfl)) (seq (p := 5) (q := 6) (r := 53) (p_iconst 0 dX9_holds_5) (seq (p := 6) (q := 7) (r := 53) (p_istore_n 3 dX9_holds_6 (Nat.le_of_ble_eq_true rfl)) (seq (p := 7) (q := 51) (r := 53) (blk (seq (p := 7) (q := 7) (r := 51) (er [true, true, true, true]) (seq (p := 7) (q := 51) (r := 51) (lp (B_X9_holds_L7 l δ n r)) done))) (seq (p := 51) (q := 52) (r := 53) (p_iload_n 2 dX9_holds_51) (seq (p := 52) (q := 53) (r := 53) (p_zreturn dX9_holds_52 rfl) done)))))))
theorem dX10_holds_0 : decode cX10_holds 0 = .ok (.aload_n 0, 1) := by decide +kernel
theorem dX10_holds_1 : decode cX10_holds 1 = .ok (.getfield 13, 3) := by decide +kernel
theorem dX10_holds_4 : decode cX10_holds 4 = .ok (.bipush 38, 2) := by decide +kernel
theorem dX10_holds_6 : decode cX10_holds 6 = .ok (.if_icmp .ne 7, 3) := by decide +kernel
theorem dX10_holds_9 : decode cX10_holds 9 = .ok (.iconst 1, 1) := by decide +kernel
theorem dX10_holds_10 : decode cX10_holds 10 = .ok (.goto 4, 3) := by decide +kernel
theorem dX10_holds_13 : decode cX10_holds 13 = .ok (.iconst 0, 1) := by decide +kernel
theorem dX10_holds_14 : decode cX10_holds 14 = .ok (.istore_n 2, 1) := by decide +kernel
theorem dX10_holds_15 : decode cX10_holds 15 = .ok (.iload_n 2, 1) := by decide +kernel
theorem dX10_holds_16 : decode cX10_holds 16 = .ok (.istore_n 3, 1) := by decide +kernel
theorem dX10_holds_17 : decode cX10_holds 17 = .ok (.iconst 0, 1) := by decide +kernel
theorem dX10_holds_18 : decode cX10_holds 18 = .ok (.istore 4, 2) := by decide +kernel
theorem dX10_holds_20 : decode cX10_holds 20 = .ok (.iload 4, 2) := by decide +kernel
theorem dX10_holds_22 : decode cX10_holds 22 = .ok (.aload_n 0, 1) := by decide +kernel
theorem dX10_holds_23 : decode cX10_holds 23 = .ok (.getfield 7, 3) := by decide +kernel
theorem dX10_holds_26 : decode cX10_holds 26 = .ok (.invokeinterface 17 1, 5) := by decide +kernel
theorem dX10_holds_31 : decode cX10_holds 31 = .ok (.if_icmp .ge 33, 3) := by decide +kernel
theorem dX10_holds_34 : decode cX10_holds 34 = .ok (.iload_n 3, 1) := by decide +kernel
theorem dX10_holds_35 : decode cX10_holds 35 = .ok (.iload_n 2, 1) := by decide +kernel
theorem dX10_holds_36 : decode cX10_holds 36 = .ok (.if_icmp .ne 28, 3) := by decide +kernel
theorem dX10_holds_39 : decode cX10_holds 39 = .ok (.aload_n 1, 1) := by decide +kernel
theorem dX10_holds_40 : decode cX10_holds 40 = .ok (.aload_n 0, 1) := by decide +kernel
theorem dX10_holds_41 : decode cX10_holds 41 = .ok (.getfield 7, 3) := by decide +kernel
theorem dX10_holds_44 : decode cX10_holds 44 = .ok (.iload 4, 2) := by decide +kernel
theorem dX10_holds_46 : decode cX10_holds 46 = .ok (.invokeinterface 23 2, 5) := by decide +kernel
theorem dX10_holds_51 : decode cX10_holds 51 = .ok (.checkcast 2, 3) := by decide +kernel
theorem dX10_holds_54 : decode cX10_holds 54 = .ok (.invokevirtual 27, 3) := by decide +kernel
theorem dX10_holds_57 : decode cX10_holds 57 = .ok (.istore_n 3, 1) := by decide +kernel
theorem dX10_holds_58 : decode cX10_holds 58 = .ok (.iinc 4 1, 3) := by decide +kernel
theorem dX10_holds_61 : decode cX10_holds 61 = .ok (.goto (-41), 3) := by decide +kernel
theorem dX10_holds_64 : decode cX10_holds 64 = .ok (.iload_n 3, 1) := by decide +kernel
theorem dX10_holds_65 : decode cX10_holds 65 = .ok (.ireturn, 1) := by decide +kernel
noncomputable def C_X10_holds_L20 (l : Launch) (δ : Dl) (n : Nat) (r : T_hol l δ n) : Seg (l, δ, yX10_holds, 4 + (n + 1), (some .boolean), cX10_holds, 5) 20 64 :=
  seq (p := 20) (q := 22) (r := 64) (p_iload 4 dX10_holds_20) (seq (p := 22) (q := 23) (r := 64) (p_aload_n 0 dX10_holds_22) (seq (p := 23) (q := 26) (r := 64) (p_get [(9, 0)] (alL1 fl_X10_7_9) dX10_holds_23) (seq (p := 26) (q := 31) (r := 64) (p_callG 1 _ (ok_F 16 cf_X10_17 rfl (M_J2_size l δ) (Nat.lt_of_lt_of_le (show 0 < 4 from (Nat.le_of_ble_eq_true rfl)) (Nat.le_add_right _ _)) dX10_holds_26) (Nat.le_of_ble_eq_true rfl)) (seq (p := 31) (q := 34) (r := 64) (p_icmp_ge 64 dX10_holds_31 (by decide)) (seq (p := 34) (q := 35) (r := 64) (p_iload_n 3 dX10_holds_34) (seq (p := 35) (q := 36) (r := 64) (p_iload_n 2 dX10_holds_35) (seq (p := 36) (q := 39) (r := 64) (p_icmp_ne 64 dX10_holds_36 (by decide)) (seq (p := 39) (q := 40) (r := 64) (p_aload_n 1 dX10_holds_39) (seq (p := 40) (q := 41) (r := 64) (p_aload_n 0 dX10_holds_40) (seq (p := 41) (q := 44) (r := 64) (p_get [(9, 0)] (alL1 fl_X10_7_9) dX10_holds_41) (seq (p := 44) (q := 46) (r := 64) (p_iload 4 dX10_holds_44) (seq (p := 46) (q := 51) (r := 64) (p_callG 2 _ (ok_F 16 cf_X10_23 rfl (M_J2_get l δ) (Nat.lt_of_lt_of_le (show 2 < 4 from (Nat.le_of_ble_eq_true rfl)) (Nat.le_add_right _ _)) dX10_holds_46) (Nat.le_of_ble_eq_true rfl)) (seq (p := 51) (q := 54) (r := 64) (p_cast [5, 7, 8, 9] ky_X10_2 dX10_holds_51) (seq (p := 54) (q := 57) (r := 64) (p_callG 2 _ (ok_V 12 cv_X10_27 rfl (r.1) (Nat.lt_succ_self _) dX10_holds_54) (Nat.le_of_ble_eq_true rfl)) (seq (p := 57) (q := 58) (r := 64) (p_istore_n 3 dX10_holds_57 (Nat.le_of_ble_eq_true rfl)) (seq (p := 58) (q := 61) (r := 64) (p_iinc 4 1 dX10_holds_58 (Nat.le_of_ble_eq_true rfl)) (seq (p := 61) (q := 61) (r := 64) (er [true, true, true, true, true]) (seq (p := 61) (q := 64) (r := 64) (p_goto 20 dX10_holds_61 (by decide)) done))))))))))))))))))
noncomputable def B_X10_holds_L20 (l : Launch) (δ : Dl) (n : Nat) (r : T_hol l δ n) : Seg (l, δ, yX10_holds, 4 + (n + 1), (some .boolean), cX10_holds, 5) 20 64 := C_X10_holds_L20 l δ n r
theorem L_X10_holds_20 {l : Launch} {δ : Dl} {n : Nat} {r : T_hol l δ n} {st : Stk} {L : Lc} {s : St} : (B_X10_holds_L20 l δ n r).1 st L s = (C_X10_holds_L20 l δ n r).1 st L s := nrfl rfl
noncomputable def B_X10_holds (l : Launch) (δ : Dl) (n : Nat) (r : T_hol l δ n) : Seg (l, δ, yX10_holds, 4 + (n + 1), (some .boolean), cX10_holds, 5) 0 66 :=
  seq (p := 0) (q := 1) (r := 66) (p_aload_n 0 dX10_holds_0) (seq (p := 1) (q := 4) (r := 66) (p_get [(9, 1)] (alL1 fl_X10_13_9) dX10_holds_1) (seq (p := 4) (q := 6) (r := 66) (p_bipush 38 dX10_holds_4 (by decide)) (seq (p := 6) (q := 14) (r := 66) (blk (seq (p := 6) (q := 13) (r := 14) (blk (seq (p := 6) (q := 9) (r := 13) (p_icmp_ne 13 dX10_holds_6 (by decide)) (seq (p := 9) (q := 10) (r := 13) (p_iconst 1 dX10_holds_9) (seq (p := 10) (q := 13) (r := 13) (p_goto 14 dX10_holds_10 (by decide)) done)))) (seq (p := 13) (q := 14) (r := 14) (p_iconst 0 dX10_holds_13) done))) (seq (p := 14) (q := 15) (r := 66) (p_istore_n 2 dX10_holds_14 (Nat.le_of_ble_eq_true rfl)) (seq (p := 15) (q := 16) (r := 66) (p_iload_n 2 dX10_holds_15) (seq (p := 16) (q := 17) (r := 66) (p_istore_n 3 dX10_holds_16 (Nat.le_of_ble_eq_true rfl)) (seq (p := 17) (q := 18) (r := 66) (p_iconst 0 dX10_holds_17) (seq (p := 18) (q := 20) (r := 66) (p_istore 4 dX10_holds_18 (Nat.le_of_ble_eq_true rfl)) (seq (p := 20) (q := 64) (r := 66) (blk (seq (p := 20) (q := 20) (r := 64) (er [true, true, true, true, true]) (seq (p := 20) (q := 64) (r := 64) (lp (B_X10_holds_L20 l δ n r)) done))) (seq (p := 64) (q := 65) (r := 66) (p_iload_n 3 dX10_holds_64) (seq (p := 65) (q := 66) (r := 66) (p_zreturn dX10_holds_65 rfl) done)))))))))))
noncomputable def R_hol (l : Launch) (δ : Dl) : (n : Nat) → T_hol l δ n
  | 0 => (M_no, M_no, M_no, M_no, M_no)
  | n + 1 => (mk (B_X13_asks l δ n (R_hol l δ n)) (by decide), mk (B_X6_holds l δ n (R_hol l δ n)) (by decide), mk (B_X8_holds l δ n (R_hol l δ n)) (by decide), mk (B_X9_holds l δ n (R_hol l δ n)) (by decide), mk (B_X10_holds l δ n (R_hol l δ n)) (by decide))
theorem N_X13_asks {l : Launch} {δ : Dl} {n : Nat} {o : Nat} {a1 : Option Nat} {s : St} : ((R_hol l δ (n + 1)).1).1 [.inr (.inr (some o)), .inr (.inr a1)] s = bres ((B_X13_asks l δ n (R_hol l δ n)).1 [] [some (.inr (.inr (some o))), some (.inr (.inr a1))] s) := (mk_eq (hy := by decide) rfl).trans (nrfl rfl)
theorem N_X6_holds {l : Launch} {δ : Dl} {n : Nat} {o : Nat} {a1 : Option Nat} {s : St} : ((R_hol l δ (n + 1)).2.1).1 [.inr (.inr (some o)), .inr (.inr a1)] s = bres ((B_X6_holds l δ n (R_hol l δ n)).1 [] [some (.inr (.inr (some o))), some (.inr (.inr a1))] s) := (mk_eq (hy := by decide) rfl).trans (nrfl rfl)
theorem N_X8_holds {l : Launch} {δ : Dl} {n : Nat} {o : Nat} {a1 : Option Nat} {s : St} : ((R_hol l δ (n + 1)).2.2.1).1 [.inr (.inr (some o)), .inr (.inr a1)] s = bres ((B_X8_holds l δ n (R_hol l δ n)).1 [] [some (.inr (.inr (some o))), some (.inr (.inr a1))] s) := (mk_eq (hy := by decide) rfl).trans (nrfl rfl)
theorem N_X9_holds {l : Launch} {δ : Dl} {n : Nat} {o : Nat} {a1 : Option Nat} {s : St} : ((R_hol l δ (n + 1)).2.2.2.1).1 [.inr (.inr (some o)), .inr (.inr a1)] s = bres ((B_X9_holds l δ n (R_hol l δ n)).1 [] [some (.inr (.inr (some o))), some (.inr (.inr a1)), none, none] s) := (mk_eq (hy := by decide) rfl).trans (nrfl rfl)
theorem N_X10_holds {l : Launch} {δ : Dl} {n : Nat} {o : Nat} {a1 : Option Nat} {s : St} : ((R_hol l δ (n + 1)).2.2.2.2).1 [.inr (.inr (some o)), .inr (.inr a1)] s = bres ((B_X10_holds l δ n (R_hol l δ n)).1 [] [some (.inr (.inr (some o))), some (.inr (.inr a1)), none, none, none] s) := (mk_eq (hy := by decide) rfl).trans (nrfl rfl)

/-! ===== the component's methods as segments, 5 ===== -/
set_option maxRecDepth 100000
theorem dX0_unlike_0 : decode cX0_unlike 0 = .ok (.iconst 1, 1) := by decide +kernel
theorem dX0_unlike_1 : decode cX0_unlike 1 = .ok (.iload_n 1, 1) := by decide +kernel
theorem dX0_unlike_2 : decode cX0_unlike 2 = .ok (.isub, 1) := by decide +kernel
theorem dX0_unlike_3 : decode cX0_unlike 3 = .ok (.istore_n 2, 1) := by decide +kernel
theorem dX0_unlike_4 : decode cX0_unlike 4 = .ok (.aload_n 0, 1) := by decide +kernel
theorem dX0_unlike_5 : decode cX0_unlike 5 = .ok (.getfield 90, 3) := by decide +kernel
theorem dX0_unlike_8 : decode cX0_unlike 8 = .ok (.istore_n 3, 1) := by decide +kernel
theorem dX0_unlike_9 : decode cX0_unlike 9 = .ok (.iconst 1, 1) := by decide +kernel
theorem dX0_unlike_10 : decode cX0_unlike 10 = .ok (.istore 4, 2) := by decide +kernel
theorem dX0_unlike_12 : decode cX0_unlike 12 = .ok (.iload 4, 2) := by decide +kernel
theorem dX0_unlike_14 : decode cX0_unlike 14 = .ok (.iload_n 3, 1) := by decide +kernel
theorem dX0_unlike_15 : decode cX0_unlike 15 = .ok (.if_icmp .ge 51, 3) := by decide +kernel
theorem dX0_unlike_18 : decode cX0_unlike 18 = .ok (.bipush 61, 2) := by decide +kernel
theorem dX0_unlike_20 : decode cX0_unlike 20 = .ok (.iload 4, 2) := by decide +kernel
theorem dX0_unlike_22 : decode cX0_unlike 22 = .ok (.iload_n 3, 1) := by decide +kernel
theorem dX0_unlike_23 : decode cX0_unlike 23 = .ok (.aload_n 0, 1) := by decide +kernel
theorem dX0_unlike_24 : decode cX0_unlike 24 = .ok (.iload_n 1, 1) := by decide +kernel
theorem dX0_unlike_25 : decode cX0_unlike 25 = .ok (.iload 4, 2) := by decide +kernel
theorem dX0_unlike_27 : decode cX0_unlike 27 = .ok (.iconst 1, 1) := by decide +kernel
theorem dX0_unlike_28 : decode cX0_unlike 28 = .ok (.isub, 1) := by decide +kernel
theorem dX0_unlike_29 : decode cX0_unlike 29 = .ok (.iload_n 3, 1) := by decide +kernel
theorem dX0_unlike_30 : decode cX0_unlike 30 = .ok (.iconst 1, 1) := by decide +kernel
theorem dX0_unlike_31 : decode cX0_unlike 31 = .ok (.isub, 1) := by decide +kernel
theorem dX0_unlike_32 : decode cX0_unlike 32 = .ok (.invokevirtual 247, 3) := by decide +kernel
theorem dX0_unlike_35 : decode cX0_unlike 35 = .ok (.aload_n 0, 1) := by decide +kernel
theorem dX0_unlike_36 : decode cX0_unlike 36 = .ok (.iload_n 2, 1) := by decide +kernel
theorem dX0_unlike_37 : decode cX0_unlike 37 = .ok (.iload 4, 2) := by decide +kernel
theorem dX0_unlike_39 : decode cX0_unlike 39 = .ok (.iconst 1, 1) := by decide +kernel
theorem dX0_unlike_40 : decode cX0_unlike 40 = .ok (.isub, 1) := by decide +kernel
theorem dX0_unlike_41 : decode cX0_unlike 41 = .ok (.iload_n 3, 1) := by decide +kernel
theorem dX0_unlike_42 : decode cX0_unlike 42 = .ok (.iconst 1, 1) := by decide +kernel
theorem dX0_unlike_43 : decode cX0_unlike 43 = .ok (.isub, 1) := by decide +kernel
theorem dX0_unlike_44 : decode cX0_unlike 44 = .ok (.invokevirtual 247, 3) := by decide +kernel
theorem dX0_unlike_47 : decode cX0_unlike 47 = .ok (.invokestatic 251, 3) := by decide +kernel
theorem dX0_unlike_50 : decode cX0_unlike 50 = .ok (.astore 5, 2) := by decide +kernel
theorem dX0_unlike_52 : decode cX0_unlike 52 = .ok (.aload 5, 2) := by decide +kernel
theorem dX0_unlike_54 : decode cX0_unlike 54 = .ok (.ifnull 6, 3) := by decide +kernel
theorem dX0_unlike_57 : decode cX0_unlike 57 = .ok (.aload 5, 2) := by decide +kernel
theorem dX0_unlike_59 : decode cX0_unlike 59 = .ok (.areturn, 1) := by decide +kernel
theorem dX0_unlike_60 : decode cX0_unlike 60 = .ok (.iinc 4 1, 3) := by decide +kernel
theorem dX0_unlike_63 : decode cX0_unlike 63 = .ok (.goto (-51), 3) := by decide +kernel
theorem dX0_unlike_66 : decode cX0_unlike 66 = .ok (.bipush 65, 2) := by decide +kernel
theorem dX0_unlike_68 : decode cX0_unlike 68 = .ok (.iload_n 3, 1) := by decide +kernel
theorem dX0_unlike_69 : decode cX0_unlike 69 = .ok (.iconst 0, 1) := by decide +kernel
theorem dX0_unlike_70 : decode cX0_unlike 70 = .ok (.aload_n 0, 1) := by decide +kernel
theorem dX0_unlike_71 : decode cX0_unlike 71 = .ok (.iload_n 1, 1) := by decide +kernel
theorem dX0_unlike_72 : decode cX0_unlike 72 = .ok (.iload_n 3, 1) := by decide +kernel
theorem dX0_unlike_73 : decode cX0_unlike 73 = .ok (.iconst 1, 1) := by decide +kernel
theorem dX0_unlike_74 : decode cX0_unlike 74 = .ok (.isub, 1) := by decide +kernel
theorem dX0_unlike_75 : decode cX0_unlike 75 = .ok (.invokevirtual 255, 3) := by decide +kernel
theorem dX0_unlike_78 : decode cX0_unlike 78 = .ok (.iconst 1, 1) := by decide +kernel
theorem dX0_unlike_79 : decode cX0_unlike 79 = .ok (.iand, 1) := by decide +kernel
theorem dX0_unlike_80 : decode cX0_unlike 80 = .ok (.iconst 1, 1) := by decide +kernel
theorem dX0_unlike_81 : decode cX0_unlike 81 = .ok (.if_icmp .ne 7, 3) := by decide +kernel
theorem dX0_unlike_84 : decode cX0_unlike 84 = .ok (.iconst 1, 1) := by decide +kernel
theorem dX0_unlike_85 : decode cX0_unlike 85 = .ok (.goto 4, 3) := by decide +kernel
theorem dX0_unlike_88 : decode cX0_unlike 88 = .ok (.iconst 0, 1) := by decide +kernel
theorem dX0_unlike_89 : decode cX0_unlike 89 = .ok (.aload_n 0, 1) := by decide +kernel
theorem dX0_unlike_90 : decode cX0_unlike 90 = .ok (.iload_n 2, 1) := by decide +kernel
theorem dX0_unlike_91 : decode cX0_unlike 91 = .ok (.iload_n 3, 1) := by decide +kernel
theorem dX0_unlike_92 : decode cX0_unlike 92 = .ok (.iconst 1, 1) := by decide +kernel
theorem dX0_unlike_93 : decode cX0_unlike 93 = .ok (.isub, 1) := by decide +kernel
theorem dX0_unlike_94 : decode cX0_unlike 94 = .ok (.invokevirtual 255, 3) := by decide +kernel
theorem dX0_unlike_97 : decode cX0_unlike 97 = .ok (.iconst 1, 1) := by decide +kernel
theorem dX0_unlike_98 : decode cX0_unlike 98 = .ok (.iand, 1) := by decide +kernel
theorem dX0_unlike_99 : decode cX0_unlike 99 = .ok (.iconst 1, 1) := by decide +kernel
theorem dX0_unlike_100 : decode cX0_unlike 100 = .ok (.if_icmp .ne 7, 3) := by decide +kernel
theorem dX0_unlike_103 : decode cX0_unlike 103 = .ok (.iconst 1, 1) := by decide +kernel
theorem dX0_unlike_104 : decode cX0_unlike 104 = .ok (.goto 4, 3) := by decide +kernel
theorem dX0_unlike_107 : decode cX0_unlike 107 = .ok (.iconst 0, 1) := by decide +kernel
theorem dX0_unlike_108 : decode cX0_unlike 108 = .ok (.invokestatic 251, 3) := by decide +kernel
theorem dX0_unlike_111 : decode cX0_unlike 111 = .ok (.astore 4, 2) := by decide +kernel
theorem dX0_unlike_113 : decode cX0_unlike 113 = .ok (.aload 4, 2) := by decide +kernel
theorem dX0_unlike_115 : decode cX0_unlike 115 = .ok (.ifnonnull 50, 3) := by decide +kernel
theorem dX0_unlike_118 : decode cX0_unlike 118 = .ok (.bipush 66, 2) := by decide +kernel
theorem dX0_unlike_120 : decode cX0_unlike 120 = .ok (.iload_n 3, 1) := by decide +kernel
theorem dX0_unlike_121 : decode cX0_unlike 121 = .ok (.iconst 0, 1) := by decide +kernel
theorem dX0_unlike_122 : decode cX0_unlike 122 = .ok (.aload_n 0, 1) := by decide +kernel
theorem dX0_unlike_123 : decode cX0_unlike 123 = .ok (.iload_n 1, 1) := by decide +kernel
theorem dX0_unlike_124 : decode cX0_unlike 124 = .ok (.iload_n 3, 1) := by decide +kernel
theorem dX0_unlike_125 : decode cX0_unlike 125 = .ok (.iconst 1, 1) := by decide +kernel
theorem dX0_unlike_126 : decode cX0_unlike 126 = .ok (.isub, 1) := by decide +kernel
theorem dX0_unlike_127 : decode cX0_unlike 127 = .ok (.invokevirtual 255, 3) := by decide +kernel
theorem dX0_unlike_130 : decode cX0_unlike 130 = .ok (.iconst 2, 1) := by decide +kernel
theorem dX0_unlike_131 : decode cX0_unlike 131 = .ok (.iand, 1) := by decide +kernel
theorem dX0_unlike_132 : decode cX0_unlike 132 = .ok (.iconst 2, 1) := by decide +kernel
theorem dX0_unlike_133 : decode cX0_unlike 133 = .ok (.if_icmp .ne 7, 3) := by decide +kernel
theorem dX0_unlike_136 : decode cX0_unlike 136 = .ok (.iconst 1, 1) := by decide +kernel
theorem dX0_unlike_137 : decode cX0_unlike 137 = .ok (.goto 4, 3) := by decide +kernel
theorem dX0_unlike_140 : decode cX0_unlike 140 = .ok (.iconst 0, 1) := by decide +kernel
theorem dX0_unlike_141 : decode cX0_unlike 141 = .ok (.aload_n 0, 1) := by decide +kernel
theorem dX0_unlike_142 : decode cX0_unlike 142 = .ok (.iload_n 2, 1) := by decide +kernel
theorem dX0_unlike_143 : decode cX0_unlike 143 = .ok (.iload_n 3, 1) := by decide +kernel
theorem dX0_unlike_144 : decode cX0_unlike 144 = .ok (.iconst 1, 1) := by decide +kernel
theorem dX0_unlike_145 : decode cX0_unlike 145 = .ok (.isub, 1) := by decide +kernel
theorem dX0_unlike_146 : decode cX0_unlike 146 = .ok (.invokevirtual 255, 3) := by decide +kernel
theorem dX0_unlike_149 : decode cX0_unlike 149 = .ok (.iconst 2, 1) := by decide +kernel
theorem dX0_unlike_150 : decode cX0_unlike 150 = .ok (.iand, 1) := by decide +kernel
theorem dX0_unlike_151 : decode cX0_unlike 151 = .ok (.iconst 2, 1) := by decide +kernel
theorem dX0_unlike_152 : decode cX0_unlike 152 = .ok (.if_icmp .ne 7, 3) := by decide +kernel
theorem dX0_unlike_155 : decode cX0_unlike 155 = .ok (.iconst 1, 1) := by decide +kernel
theorem dX0_unlike_156 : decode cX0_unlike 156 = .ok (.goto 4, 3) := by decide +kernel
theorem dX0_unlike_159 : decode cX0_unlike 159 = .ok (.iconst 0, 1) := by decide +kernel
theorem dX0_unlike_160 : decode cX0_unlike 160 = .ok (.invokestatic 251, 3) := by decide +kernel
theorem dX0_unlike_163 : decode cX0_unlike 163 = .ok (.astore 4, 2) := by decide +kernel
theorem dX0_unlike_165 : decode cX0_unlike 165 = .ok (.iconst 1, 1) := by decide +kernel
theorem dX0_unlike_166 : decode cX0_unlike 166 = .ok (.istore 5, 2) := by decide +kernel
theorem dX0_unlike_168 : decode cX0_unlike 168 = .ok (.iload 5, 2) := by decide +kernel
theorem dX0_unlike_170 : decode cX0_unlike 170 = .ok (.iload_n 3, 1) := by decide +kernel
theorem dX0_unlike_171 : decode cX0_unlike 171 = .ok (.if_icmp .gt 93, 3) := by decide +kernel
theorem dX0_unlike_174 : decode cX0_unlike 174 = .ok (.aload 4, 2) := by decide +kernel
theorem dX0_unlike_176 : decode cX0_unlike 176 = .ok (.ifnonnull 88, 3) := by decide +kernel
theorem dX0_unlike_179 : decode cX0_unlike 179 = .ok (.bipush 69, 2) := by decide +kernel
theorem dX0_unlike_181 : decode cX0_unlike 181 = .ok (.iload 5, 2) := by decide +kernel
theorem dX0_unlike_183 : decode cX0_unlike 183 = .ok (.iload_n 3, 1) := by decide +kernel
theorem dX0_unlike_184 : decode cX0_unlike 184 = .ok (.aload_n 0, 1) := by decide +kernel
theorem dX0_unlike_185 : decode cX0_unlike 185 = .ok (.iload_n 1, 1) := by decide +kernel
theorem dX0_unlike_186 : decode cX0_unlike 186 = .ok (.iload 5, 2) := by decide +kernel
theorem dX0_unlike_188 : decode cX0_unlike 188 = .ok (.iconst 1, 1) := by decide +kernel
theorem dX0_unlike_189 : decode cX0_unlike 189 = .ok (.isub, 1) := by decide +kernel
theorem dX0_unlike_190 : decode cX0_unlike 190 = .ok (.iload_n 3, 1) := by decide +kernel
theorem dX0_unlike_191 : decode cX0_unlike 191 = .ok (.iconst 1, 1) := by decide +kernel
theorem dX0_unlike_192 : decode cX0_unlike 192 = .ok (.isub, 1) := by decide +kernel
theorem dX0_unlike_193 : decode cX0_unlike 193 = .ok (.invokevirtual 258, 3) := by decide +kernel
theorem dX0_unlike_196 : decode cX0_unlike 196 = .ok (.aload_n 0, 1) := by decide +kernel
theorem dX0_unlike_197 : decode cX0_unlike 197 = .ok (.iload_n 2, 1) := by decide +kernel
theorem dX0_unlike_198 : decode cX0_unlike 198 = .ok (.iload 5, 2) := by decide +kernel
theorem dX0_unlike_200 : decode cX0_unlike 200 = .ok (.iconst 1, 1) := by decide +kernel
theorem dX0_unlike_201 : decode cX0_unlike 201 = .ok (.isub, 1) := by decide +kernel
theorem dX0_unlike_202 : decode cX0_unlike 202 = .ok (.iload_n 3, 1) := by decide +kernel
theorem dX0_unlike_203 : decode cX0_unlike 203 = .ok (.iconst 1, 1) := by decide +kernel
theorem dX0_unlike_204 : decode cX0_unlike 204 = .ok (.isub, 1) := by decide +kernel
theorem dX0_unlike_205 : decode cX0_unlike 205 = .ok (.invokevirtual 258, 3) := by decide +kernel
theorem dX0_unlike_208 : decode cX0_unlike 208 = .ok (.invokestatic 251, 3) := by decide +kernel
theorem dX0_unlike_211 : decode cX0_unlike 211 = .ok (.astore 4, 2) := by decide +kernel
theorem dX0_unlike_213 : decode cX0_unlike 213 = .ok (.aload 4, 2) := by decide +kernel
theorem dX0_unlike_215 : decode cX0_unlike 215 = .ok (.ifnonnull 43, 3) := by decide +kernel
theorem dX0_unlike_218 : decode cX0_unlike 218 = .ok (.iload 5, 2) := by decide +kernel
theorem dX0_unlike_220 : decode cX0_unlike 220 = .ok (.iload_n 3, 1) := by decide +kernel
theorem dX0_unlike_221 : decode cX0_unlike 221 = .ok (.if_icmp .ge 37, 3) := by decide +kernel
theorem dX0_unlike_224 : decode cX0_unlike 224 = .ok (.bipush 69, 2) := by decide +kernel
theorem dX0_unlike_226 : decode cX0_unlike 226 = .ok (.iload_n 3, 1) := by decide +kernel
theorem dX0_unlike_227 : decode cX0_unlike 227 = .ok (.iload 5, 2) := by decide +kernel
theorem dX0_unlike_229 : decode cX0_unlike 229 = .ok (.aload_n 0, 1) := by decide +kernel
theorem dX0_unlike_230 : decode cX0_unlike 230 = .ok (.iload_n 1, 1) := by decide +kernel
theorem dX0_unlike_231 : decode cX0_unlike 231 = .ok (.iload_n 3, 1) := by decide +kernel
theorem dX0_unlike_232 : decode cX0_unlike 232 = .ok (.iconst 1, 1) := by decide +kernel
theorem dX0_unlike_233 : decode cX0_unlike 233 = .ok (.isub, 1) := by decide +kernel
theorem dX0_unlike_234 : decode cX0_unlike 234 = .ok (.iload 5, 2) := by decide +kernel
theorem dX0_unlike_236 : decode cX0_unlike 236 = .ok (.iconst 1, 1) := by decide +kernel
theorem dX0_unlike_237 : decode cX0_unlike 237 = .ok (.isub, 1) := by decide +kernel
theorem dX0_unlike_238 : decode cX0_unlike 238 = .ok (.invokevirtual 258, 3) := by decide +kernel
theorem dX0_unlike_241 : decode cX0_unlike 241 = .ok (.aload_n 0, 1) := by decide +kernel
theorem dX0_unlike_242 : decode cX0_unlike 242 = .ok (.iload_n 2, 1) := by decide +kernel
theorem dX0_unlike_243 : decode cX0_unlike 243 = .ok (.iload_n 3, 1) := by decide +kernel
theorem dX0_unlike_244 : decode cX0_unlike 244 = .ok (.iconst 1, 1) := by decide +kernel
theorem dX0_unlike_245 : decode cX0_unlike 245 = .ok (.isub, 1) := by decide +kernel
theorem dX0_unlike_246 : decode cX0_unlike 246 = .ok (.iload 5, 2) := by decide +kernel
theorem dX0_unlike_248 : decode cX0_unlike 248 = .ok (.iconst 1, 1) := by decide +kernel
theorem dX0_unlike_249 : decode cX0_unlike 249 = .ok (.isub, 1) := by decide +kernel
theorem dX0_unlike_250 : decode cX0_unlike 250 = .ok (.invokevirtual 258, 3) := by decide +kernel
theorem dX0_unlike_253 : decode cX0_unlike 253 = .ok (.invokestatic 251, 3) := by decide +kernel
theorem dX0_unlike_256 : decode cX0_unlike 256 = .ok (.astore 4, 2) := by decide +kernel
theorem dX0_unlike_258 : decode cX0_unlike 258 = .ok (.iinc 5 1, 3) := by decide +kernel
theorem dX0_unlike_261 : decode cX0_unlike 261 = .ok (.goto (-93), 3) := by decide +kernel
theorem dX0_unlike_264 : decode cX0_unlike 264 = .ok (.aload 4, 2) := by decide +kernel
theorem dX0_unlike_266 : decode cX0_unlike 266 = .ok (.areturn, 1) := by decide +kernel
noncomputable def C_X0_unlike_L12 (l : Launch) (δ : Dl) : Seg (l, δ, yX0_unlike, 4, (some (.object "TwoWorlds$Formula")), cX0_unlike, 6) 12 66 :=
  seq (p := 12) (q := 14) (r := 66) (p_iload 4 dX0_unlike_12) (seq (p := 14) (q := 15) (r := 66) (p_iload_n 3 dX0_unlike_14) (seq (p := 15) (q := 18) (r := 66) (p_icmp_ge 66 dX0_unlike_15 (by decide)) (seq (p := 18) (q := 20) (r := 66) (p_bipush 61 dX0_unlike_18 (by decide)) (seq (p := 20) (q := 22) (r := 66) (p_iload 4 dX0_unlike_20) (seq (p := 22) (q := 23) (r := 66) (p_iload_n 3 dX0_unlike_22) (seq (p := 23) (q := 24) (r := 66) (p_aload_n 0 dX0_unlike_23) (seq (p := 24) (q := 25) (r := 66) (p_iload_n 1 dX0_unlike_24) (seq (p := 25) (q := 27) (r := 66) (p_iload 4 dX0_unlike_25) (seq (p := 27) (q := 28) (r := 66) (p_iconst 1 dX0_unlike_27) (seq (p := 28) (q := 29) (r := 66) (p_isub dX0_unlike_28) (seq (p := 29) (q := 30) (r := 66) (p_iload_n 3 dX0_unlike_29) (seq (p := 30) (q := 31) (r := 66) (p_iconst 1 dX0_unlike_30) (seq (p := 31) (q := 32) (r := 66) (p_isub dX0_unlike_31) (seq (p := 32) (q := 35) (r := 66) (p_callG 4 _ (ok_VN 3 cvn_X0_247 rfl (M_X3_isOne l δ) (Nat.le_of_ble_eq_true rfl) dX0_unlike_32) (Nat.le_of_ble_eq_true rfl)) (seq (p := 35) (q := 36) (r := 66) (p_aload_n 0 dX0_unlike_35) (seq (p := 36) (q := 37) (r := 66) (p_iload_n 2 dX0_unlike_36) (seq (p := 37) (q := 39) (r := 66) (p_iload 4 dX0_unlike_37) (seq (p := 39) (q := 40) (r := 66) (p_iconst 1 dX0_unlike_39) (seq (p := 40) (q := 41) (r := 66) (p_isub dX0_unlike_40) (seq (p := 41) (q := 42) (r := 66) (p_iload_n 3 dX0_unlike_41) (seq (p := 42) (q := 43) (r := 66) (p_iconst 1 dX0_unlike_42) (seq (p := 43) (q := 44) (r := 66) (p_isub dX0_unlike_43) (seq (p := 44) (q := 47) (r := 66) (p_callG 4 _ (ok_VN 3 cvn_X0_247 rfl (M_X3_isOne l δ) (Nat.le_of_ble_eq_true rfl) dX0_unlike_44) (Nat.le_of_ble_eq_true rfl)) (seq (p := 47) (q := 50) (r := 66) (p_callG 5 _ (ok_S cs_X0_251 (M_X0_literal l δ) (Nat.le_of_ble_eq_true rfl) dX0_unlike_47) (Nat.le_of_ble_eq_true rfl)) (seq (p := 50) (q := 52) (r := 66) (p_astore 5 dX0_unlike_50 (Nat.le_of_ble_eq_true rfl)) (seq (p := 52) (q := 54) (r := 66) (p_aload 5 dX0_unlike_52) (seq (p := 54) (q := 60) (r := 66) (blk (seq (p := 54) (q := 57) (r := 60) (p_ifnull 60 dX0_unlike_54 (by decide)) (seq (p := 57) (q := 59) (r := 60) (p_aload 5 dX0_unlike_57) (seq (p := 59) (q := 60) (r := 60) (p_areturn dX0_unlike_59 rfl (Or.inl ⟨_, rfl⟩)) done)))) (seq (p := 60) (q := 63) (r := 66) (p_iinc 4 1 dX0_unlike_60 (Nat.le_of_ble_eq_true rfl)) (seq (p := 63) (q := 63) (r := 66) (er [true, true, true, true, true, false]) (seq (p := 63) (q := 66) (r := 66) (p_goto 12 dX0_unlike_63 (by decide)) done))))))))))))))))))))))))))))))
noncomputable def B_X0_unlike_L12 (l : Launch) (δ : Dl) : Seg (l, δ, yX0_unlike, 4, (some (.object "TwoWorlds$Formula")), cX0_unlike, 6) 12 66 := C_X0_unlike_L12 l δ
theorem L_X0_unlike_12 {l : Launch} {δ : Dl} {st : Stk} {L : Lc} {s : St} : (B_X0_unlike_L12 l δ).1 st L s = (C_X0_unlike_L12 l δ).1 st L s := nrfl rfl
noncomputable def C_X0_unlike_L168 (l : Launch) (δ : Dl) : Seg (l, δ, yX0_unlike, 4, (some (.object "TwoWorlds$Formula")), cX0_unlike, 6) 168 264 :=
  seq (p := 168) (q := 170) (r := 264) (p_iload 5 dX0_unlike_168) (seq (p := 170) (q := 171) (r := 264) (p_iload_n 3 dX0_unlike_170) (seq (p := 171) (q := 174) (r := 264) (p_icmp_gt 264 dX0_unlike_171 (by decide)) (seq (p := 174) (q := 176) (r := 264) (p_aload 4 dX0_unlike_174) (seq (p := 176) (q := 179) (r := 264) (p_ifnonnull 264 dX0_unlike_176 (by decide)) (seq (p := 179) (q := 181) (r := 264) (p_bipush 69 dX0_unlike_179 (by decide)) (seq (p := 181) (q := 183) (r := 264) (p_iload 5 dX0_unlike_181) (seq (p := 183) (q := 184) (r := 264) (p_iload_n 3 dX0_unlike_183) (seq (p := 184) (q := 185) (r := 264) (p_aload_n 0 dX0_unlike_184) (seq (p := 185) (q := 186) (r := 264) (p_iload_n 1 dX0_unlike_185) (seq (p := 186) (q := 188) (r := 264) (p_iload 5 dX0_unlike_186) (seq (p := 188) (q := 189) (r := 264) (p_iconst 1 dX0_unlike_188) (seq (p := 189) (q := 190) (r := 264) (p_isub dX0_unlike_189) (seq (p := 190) (q := 191) (r := 264) (p_iload_n 3 dX0_unlike_190) (seq (p := 191) (q := 192) (r := 264) (p_iconst 1 dX0_unlike_191) (seq (p := 192) (q := 193) (r := 264) (p_isub dX0_unlike_192) (seq (p := 193) (q := 196) (r := 264) (p_callG 4 _ (ok_VN 3 cvn_X0_258 rfl (M_X3_isTied l δ) (Nat.le_of_ble_eq_true rfl) dX0_unlike_193) (Nat.le_of_ble_eq_true rfl)) (seq (p := 196) (q := 197) (r := 264) (p_aload_n 0 dX0_unlike_196) (seq (p := 197) (q := 198) (r := 264) (p_iload_n 2 dX0_unlike_197) (seq (p := 198) (q := 200) (r := 264) (p_iload 5 dX0_unlike_198) (seq (p := 200) (q := 201) (r := 264) (p_iconst 1 dX0_unlike_200) (seq (p := 201) (q := 202) (r := 264) (p_isub dX0_unlike_201) (seq (p := 202) (q := 203) (r := 264) (p_iload_n 3 dX0_unlike_202) (seq (p := 203) (q := 204) (r := 264) (p_iconst 1 dX0_unlike_203) (seq (p := 204) (q := 205) (r := 264) (p_isub dX0_unlike_204) (seq (p := 205) (q := 208) (r := 264) (p_callG 4 _ (ok_VN 3 cvn_X0_258 rfl (M_X3_isTied l δ) (Nat.le_of_ble_eq_true rfl) dX0_unlike_205) (Nat.le_of_ble_eq_true rfl)) (seq (p := 208) (q := 211) (r := 264) (p_callG 5 _ (ok_S cs_X0_251 (M_X0_literal l δ) (Nat.le_of_ble_eq_true rfl) dX0_unlike_208) (Nat.le_of_ble_eq_true rfl)) (seq (p := 211) (q := 213) (r := 264) (p_astore 4 dX0_unlike_211 (Nat.le_of_ble_eq_true rfl)) (seq (p := 213) (q := 215) (r := 264) (p_aload 4 dX0_unlike_213) (seq (p := 215) (q := 258) (r := 264) (blk (seq (p := 215) (q := 218) (r := 258) (p_ifnonnull 258 dX0_unlike_215 (by decide)) (seq (p := 218) (q := 220) (r := 258) (p_iload 5 dX0_unlike_218) (seq (p := 220) (q := 221) (r := 258) (p_iload_n 3 dX0_unlike_220) (seq (p := 221) (q := 224) (r := 258) (p_icmp_ge 258 dX0_unlike_221 (by decide)) (seq (p := 224) (q := 226) (r := 258) (p_bipush 69 dX0_unlike_224 (by decide)) (seq (p := 226) (q := 227) (r := 258) (p_iload_n 3 dX0_unlike_226) (seq (p := 227) (q := 229) (r := 258) (p_iload 5 dX0_unlike_227) (seq (p := 229) (q := 230) (r := 258) (p_aload_n 0 dX0_unlike_229) (seq (p := 230) (q := 231) (r := 258) (p_iload_n 1 dX0_unlike_230) (seq (p := 231) (q := 232) (r := 258) (p_iload_n 3 dX0_unlike_231) (seq (p := 232) (q := 233) (r := 258) (p_iconst 1 dX0_unlike_232) (seq (p := 233) (q := 234) (r := 258) (p_isub dX0_unlike_233) (seq (p := 234) (q := 236) (r := 258) (p_iload 5 dX0_unlike_234) (seq (p := 236) (q := 237) (r := 258) (p_iconst 1 dX0_unlike_236) (seq (p := 237) (q := 238) (r := 258) (p_isub dX0_unlike_237) (seq (p := 238) (q := 241) (r := 258) (p_callG 4 _ (ok_VN 3 cvn_X0_258 rfl (M_X3_isTied l δ) (Nat.le_of_ble_eq_true rfl) dX0_unlike_238) (Nat.le_of_ble_eq_true rfl)) (seq (p := 241) (q := 242) (r := 258) (p_aload_n 0 dX0_unlike_241) (seq (p := 242) (q := 243) (r := 258) (p_iload_n 2 dX0_unlike_242) (seq (p := 243) (q := 244) (r := 258) (p_iload_n 3 dX0_unlike_243) (seq (p := 244) (q := 245) (r := 258) (p_iconst 1 dX0_unlike_244) (seq (p := 245) (q := 246) (r := 258) (p_isub dX0_unlike_245) (seq (p := 246) (q := 248) (r := 258) (p_iload 5 dX0_unlike_246) (seq (p := 248) (q := 249) (r := 258) (p_iconst 1 dX0_unlike_248) (seq (p := 249) (q := 250) (r := 258) (p_isub dX0_unlike_249) (seq (p := 250) (q := 253) (r := 258) (p_callG 4 _ (ok_VN 3 cvn_X0_258 rfl (M_X3_isTied l δ) (Nat.le_of_ble_eq_true rfl) dX0_unlike_250) (Nat.le_of_ble_eq_true rfl)) (seq (p := 253) (q := 256) (r := 258) (p_callG 5 _ (ok_S cs_X0_251 (M_X0_literal l δ) (Nat.le_of_ble_eq_true rfl) dX0_unlike_253) (Nat.le_of_ble_eq_true rfl)) (seq (p := 256) (q := 258) (r := 258) (p_astore 4 dX0_unlike_256 (Nat.le_of_ble_eq_true rfl)) done)))))))))))))))))))))))))))) (seq (p := 258) (q := 261) (r := 264) (p_iinc 5 1 dX0_unlike_258 (Nat.le_of_ble_eq_true rfl)) (seq (p := 261) (q := 261) (r := 264) (er [true, true, true, true, true, true]) (seq (p := 261) (q := 264) (r := 264) (p_goto 168 dX0_unlike_261 (by decide)) done))))))))))))))))))))))))))))))))
noncomputable def B_X0_unlike_L168 (l : Launch) (δ : Dl) : Seg (l, δ, yX0_unlike, 4, (some (.object "TwoWorlds$Formula")), cX0_unlike, 6) 168 264 := C_X0_unlike_L168 l δ
theorem L_X0_unlike_168 {l : Launch} {δ : Dl} {st : Stk} {L : Lc} {s : St} : (B_X0_unlike_L168 l δ).1 st L s = (C_X0_unlike_L168 l δ).1 st L s := nrfl rfl
noncomputable def B_X0_unlike (l : Launch) (δ : Dl) : Seg (l, δ, yX0_unlike, 4, (some (.object "TwoWorlds$Formula")), cX0_unlike, 6) 0 267 :=
  seq (p := 0) (q := 1) (r := 267) (p_iconst 1 dX0_unlike_0) (seq (p := 1) (q := 2) (r := 267) (p_iload_n 1 dX0_unlike_1) (seq (p := 2) (q := 3) (r := 267) (p_isub dX0_unlike_2) (seq (p := 3) (q := 4) (r := 267) (p_istore_n 2 dX0_unlike_3 (Nat.le_of_ble_eq_true rfl)) (seq (p := 4) (q := 5) (r := 267) (p_aload_n 0 dX0_unlike_4) (seq (p := 5) (q := 8) (r := 267) (p_get [(3, 2)] (alL1 fl_X0_90_3) dX0_unlike_5) (seq (p := 8) (q := 9) (r := 267) (p_istore_n 3 dX0_unlike_8 (Nat.le_of_ble_eq_true rfl)) (seq (p := 9) (q := 10) (r := 267) (p_iconst 1 dX0_unlike_9) (seq (p := 10) (q := 12) (r := 267) (p_istore 4 dX0_unlike_10 (Nat.le_of_ble_eq_true rfl)) (seq (p := 12) (q := 66) (r := 267) (blk (seq (p := 12) (q := 12) (r := 66) (er [true, true, true, true, true, false]) (seq (p := 12) (q := 66) (r := 66) (lp (B_X0_unlike_L12 l δ)) done))) (seq (p := 66) (q := 68) (r := 267) (p_bipush 65 dX0_unlike_66 (by decide)) (seq (p := 68) (q := 69) (r := 267) (p_iload_n 3 dX0_unlike_68) (seq (p := 69) (q := 70) (r := 267) (p_iconst 0 dX0_unlike_69) (seq (p := 70) (q := 71) (r := 267) (p_aload_n 0 dX0_unlike_70) (seq (p := 71) (q := 72) (r := 267) (p_iload_n 1 dX0_unlike_71) (seq (p := 72) (q := 73) (r := 267) (p_iload_n 3 dX0_unlike_72) (seq (p := 73) (q := 74) (r := 267) (p_iconst 1 dX0_unlike_73) (seq (p := 74) (q := 75) (r := 267) (p_isub dX0_unlike_74) (seq (p := 75) (q := 78) (r := 267) (p_callG 3 _ (ok_VN 3 cvn_X0_255 rfl (M_X3_marks l δ) (Nat.le_of_ble_eq_true rfl) dX0_unlike_75) (Nat.le_of_ble_eq_true rfl)) (seq (p := 78) (q := 79) (r := 267) (p_iconst 1 dX0_unlike_78) (seq (p := 79) (q := 80) (r := 267) (p_iand dX0_unlike_79) (seq (p := 80) (q := 81) (r := 267) (p_iconst 1 dX0_unlike_80) (seq (p := 81) (q := 89) (r := 267) (blk (seq (p := 81) (q := 88) (r := 89) (blk (seq (p := 81) (q := 84) (r := 88) (p_icmp_ne 88 dX0_unlike_81 (by decide)) (seq (p := 84) (q := 85) (r := 88) (p_iconst 1 dX0_unlike_84) (seq (p := 85) (q := 88) (r := 88) (p_goto 89 dX0_unlike_85 (by decide)) done)))) (seq (p := 88) (q := 89) (r := 89) (p_iconst 0 dX0_unlike_88) done))) (seq (p := 89) (q := 90) (r := 267) (p_aload_n 0 dX0_unlike_89) (seq (p := 90) (q := 91) (r := 267) (p_iload_n 2 dX0_unlike_90) (seq (p := 91) (q := 92) (r := 267) (p_iload_n 3 dX0_unlike_91) (seq (p := 92) (q := 93) (r := 267) (p_iconst 1 dX0_unlike_92) (seq (p := 93) (q := 94) (r := 267) (p_isub dX0_unlike_93) (seq (p := 94) (q := 97) (r := 267) (p_callG 3 _ (ok_VN 3 cvn_X0_255 rfl (M_X3_marks l δ) (Nat.le_of_ble_eq_true rfl) dX0_unlike_94) (Nat.le_of_ble_eq_true rfl)) (seq (p := 97) (q := 98) (r := 267) (p_iconst 1 dX0_unlike_97) (seq (p := 98) (q := 99) (r := 267) (p_iand dX0_unlike_98) (seq (p := 99) (q := 100) (r := 267) (p_iconst 1 dX0_unlike_99) (seq (p := 100) (q := 108) (r := 267) (blk (seq (p := 100) (q := 107) (r := 108) (blk (seq (p := 100) (q := 103) (r := 107) (p_icmp_ne 107 dX0_unlike_100 (by decide)) (seq (p := 103) (q := 104) (r := 107) (p_iconst 1 dX0_unlike_103) (seq (p := 104) (q := 107) (r := 107) (p_goto 108 dX0_unlike_104 (by decide)) done)))) (seq (p := 107) (q := 108) (r := 108) (p_iconst 0 dX0_unlike_107) done))) (seq (p := 108) (q := 111) (r := 267) (p_callG 5 _ (ok_S cs_X0_251 (M_X0_literal l δ) (Nat.le_of_ble_eq_true rfl) dX0_unlike_108) (Nat.le_of_ble_eq_true rfl)) (seq (p := 111) (q := 113) (r := 267) (p_astore 4 dX0_unlike_111 (Nat.le_of_ble_eq_true rfl)) (seq (p := 113) (q := 115) (r := 267) (p_aload 4 dX0_unlike_113) (seq (p := 115) (q := 165) (r := 267) (blk (seq (p := 115) (q := 118) (r := 165) (p_ifnonnull 165 dX0_unlike_115 (by decide)) (seq (p := 118) (q := 120) (r := 165) (p_bipush 66 dX0_unlike_118 (by decide)) (seq (p := 120) (q := 121) (r := 165) (p_iload_n 3 dX0_unlike_120) (seq (p := 121) (q := 122) (r := 165) (p_iconst 0 dX0_unlike_121) (seq (p := 122) (q := 123) (r := 165) (p_aload_n 0 dX0_unlike_122) (seq (p := 123) (q := 124) (r := 165) (p_iload_n 1 dX0_unlike_123) (seq (p := 124) (q := 125) (r := 165) (p_iload_n 3 dX0_unlike_124) (seq (p := 125) (q := 126) (r := 165) (p_iconst 1 dX0_unlike_125) (seq (p := 126) (q := 127) (r := 165) (p_isub dX0_unlike_126) (seq (p := 127) (q := 130) (r := 165) (p_callG 3 _ (ok_VN 3 cvn_X0_255 rfl (M_X3_marks l δ) (Nat.le_of_ble_eq_true rfl) dX0_unlike_127) (Nat.le_of_ble_eq_true rfl)) (seq (p := 130) (q := 131) (r := 165) (p_iconst 2 dX0_unlike_130) (seq (p := 131) (q := 132) (r := 165) (p_iand dX0_unlike_131) (seq (p := 132) (q := 133) (r := 165) (p_iconst 2 dX0_unlike_132) (seq (p := 133) (q := 141) (r := 165) (blk (seq (p := 133) (q := 140) (r := 141) (blk (seq (p := 133) (q := 136) (r := 140) (p_icmp_ne 140 dX0_unlike_133 (by decide)) (seq (p := 136) (q := 137) (r := 140) (p_iconst 1 dX0_unlike_136) (seq (p := 137) (q := 140) (r := 140) (p_goto 141 dX0_unlike_137 (by decide)) done)))) (seq (p := 140) (q := 141) (r := 141) (p_iconst 0 dX0_unlike_140) done))) (seq (p := 141) (q := 142) (r := 165) (p_aload_n 0 dX0_unlike_141) (seq (p := 142) (q := 143) (r := 165) (p_iload_n 2 dX0_unlike_142) (seq (p := 143) (q := 144) (r := 165) (p_iload_n 3 dX0_unlike_143) (seq (p := 144) (q := 145) (r := 165) (p_iconst 1 dX0_unlike_144) (seq (p := 145) (q := 146) (r := 165) (p_isub dX0_unlike_145) (seq (p := 146) (q := 149) (r := 165) (p_callG 3 _ (ok_VN 3 cvn_X0_255 rfl (M_X3_marks l δ) (Nat.le_of_ble_eq_true rfl) dX0_unlike_146) (Nat.le_of_ble_eq_true rfl)) (seq (p := 149) (q := 150) (r := 165) (p_iconst 2 dX0_unlike_149) (seq (p := 150) (q := 151) (r := 165) (p_iand dX0_unlike_150) (seq (p := 151) (q := 152) (r := 165) (p_iconst 2 dX0_unlike_151) (seq (p := 152) (q := 160) (r := 165) (blk (seq (p := 152) (q := 159) (r := 160) (blk (seq (p := 152) (q := 155) (r := 159) (p_icmp_ne 159 dX0_unlike_152 (by decide)) (seq (p := 155) (q := 156) (r := 159) (p_iconst 1 dX0_unlike_155) (seq (p := 156) (q := 159) (r := 159) (p_goto 160 dX0_unlike_156 (by decide)) done)))) (seq (p := 159) (q := 160) (r := 160) (p_iconst 0 dX0_unlike_159) done))) (seq (p := 160) (q := 163) (r := 165) (p_callG 5 _ (ok_S cs_X0_251 (M_X0_literal l δ) (Nat.le_of_ble_eq_true rfl) dX0_unlike_160) (Nat.le_of_ble_eq_true rfl)) (seq (p := 163) (q := 165) (r := 165) (p_astore 4 dX0_unlike_163 (Nat.le_of_ble_eq_true rfl)) done))))))))))))))))))))))))))) (seq (p := 165) (q := 166) (r := 267) (p_iconst 1 dX0_unlike_165) (seq (p := 166) (q := 168) (r := 267) (p_istore 5 dX0_unlike_166 (Nat.le_of_ble_eq_true rfl)) (seq (p := 168) (q := 264) (r := 267) (blk (seq (p := 168) (q := 168) (r := 264) (er [true, true, true, true, true, true]) (seq (p := 168) (q := 264) (r := 264) (lp (B_X0_unlike_L168 l δ)) done))) (seq (p := 264) (q := 266) (r := 267) (p_aload 4 dX0_unlike_264) (seq (p := 266) (q := 267) (r := 267) (p_areturn dX0_unlike_266 rfl (Or.inl ⟨_, rfl⟩)) done)))))))))))))))))))))))))))))))))))))))))
noncomputable def M_X0_unlike (l : Launch) (δ : Dl) : Mth l δ yX0_unlike cX0_unlike 6 (some (.object "TwoWorlds$Formula")) 4 := mk (B_X0_unlike l δ) (by decide)
theorem N_X0_unlike {l : Launch} {δ : Dl} {a1 : Option Nat} {a2 : Int} {s : St} : (M_X0_unlike l δ).1 [.inr (.inr a1), .inl a2] s = bres ((B_X0_unlike l δ).1 [] [some (.inr (.inr a1)), some (.inl a2), none, none, none, none] s) := (mk_eq (hy := by decide) rfl).trans (nrfl rfl)
abbrev T_par (l : Launch) (δ : Dl) (n : Nat) : Type := Mth l δ yX0_parting cX0_parting 8 (some (.object "TwoWorlds$Formula")) (69 + n) × Mth l δ yX0_answers cX0_answers 6 (some (.object "TwoWorlds$Formula")) (69 + n)
theorem dX0_parting_0 : decode cX0_parting 0 = .ok (.aload_n 0, 1) := by decide +kernel
theorem dX0_parting_1 : decode cX0_parting 1 = .ok (.getfield 90, 3) := by decide +kernel
theorem dX0_parting_4 : decode cX0_parting 4 = .ok (.ifCond .le 16, 3) := by decide +kernel
theorem dX0_parting_7 : decode cX0_parting 7 = .ok (.aload_n 0, 1) := by decide +kernel
theorem dX0_parting_8 : decode cX0_parting 8 = .ok (.invokevirtual 124, 3) := by decide +kernel
theorem dX0_parting_11 : decode cX0_parting 11 = .ok (.ifCond .ne 9, 3) := by decide +kernel
theorem dX0_parting_14 : decode cX0_parting 14 = .ok (.aload_n 0, 1) := by decide +kernel
theorem dX0_parting_15 : decode cX0_parting 15 = .ok (.iload_n 1, 1) := by decide +kernel
theorem dX0_parting_16 : decode cX0_parting 16 = .ok (.invokestatic 260, 3) := by decide +kernel
theorem dX0_parting_19 : decode cX0_parting 19 = .ok (.areturn, 1) := by decide +kernel
theorem dX0_parting_20 : decode cX0_parting 20 = .ok (.aload_n 0, 1) := by decide +kernel
theorem dX0_parting_21 : decode cX0_parting 21 = .ok (.invokestatic 93, 3) := by decide +kernel
theorem dX0_parting_24 : decode cX0_parting 24 = .ok (.istore_n 2, 1) := by decide +kernel
theorem dX0_parting_25 : decode cX0_parting 25 = .ok (.aload_n 0, 1) := by decide +kernel
theorem dX0_parting_26 : decode cX0_parting 26 = .ok (.getfield 111, 3) := by decide +kernel
theorem dX0_parting_29 : decode cX0_parting 29 = .ok (.iload_n 1, 1) := by decide +kernel
theorem dX0_parting_30 : decode cX0_parting 30 = .ok (.aaload, 1) := by decide +kernel
theorem dX0_parting_31 : decode cX0_parting 31 = .ok (.getfield 64, 3) := by decide +kernel
theorem dX0_parting_34 : decode cX0_parting 34 = .ok (.istore_n 3, 1) := by decide +kernel
theorem dX0_parting_35 : decode cX0_parting 35 = .ok (.iconst 0, 1) := by decide +kernel
theorem dX0_parting_36 : decode cX0_parting 36 = .ok (.istore 4, 2) := by decide +kernel
theorem dX0_parting_38 : decode cX0_parting 38 = .ok (.iload 4, 2) := by decide +kernel
theorem dX0_parting_40 : decode cX0_parting 40 = .ok (.iload_n 3, 1) := by decide +kernel
theorem dX0_parting_41 : decode cX0_parting 41 = .ok (.aload_n 0, 1) := by decide +kernel
theorem dX0_parting_42 : decode cX0_parting 42 = .ok (.getfield 111, 3) := by decide +kernel
theorem dX0_parting_45 : decode cX0_parting 45 = .ok (.iconst 1, 1) := by decide +kernel
theorem dX0_parting_46 : decode cX0_parting 46 = .ok (.iload_n 1, 1) := by decide +kernel
theorem dX0_parting_47 : decode cX0_parting 47 = .ok (.isub, 1) := by decide +kernel
theorem dX0_parting_48 : decode cX0_parting 48 = .ok (.aaload, 1) := by decide +kernel
theorem dX0_parting_49 : decode cX0_parting 49 = .ok (.getfield 64, 3) := by decide +kernel
theorem dX0_parting_52 : decode cX0_parting 52 = .ok (.iadd, 1) := by decide +kernel
theorem dX0_parting_53 : decode cX0_parting 53 = .ok (.if_icmp .ge 105, 3) := by decide +kernel
theorem dX0_parting_56 : decode cX0_parting 56 = .ok (.iload 4, 2) := by decide +kernel
theorem dX0_parting_58 : decode cX0_parting 58 = .ok (.iload_n 3, 1) := by decide +kernel
theorem dX0_parting_59 : decode cX0_parting 59 = .ok (.if_icmp .ge 7, 3) := by decide +kernel
theorem dX0_parting_62 : decode cX0_parting 62 = .ok (.iload_n 1, 1) := by decide +kernel
theorem dX0_parting_63 : decode cX0_parting 63 = .ok (.goto 6, 3) := by decide +kernel
theorem dX0_parting_66 : decode cX0_parting 66 = .ok (.iconst 1, 1) := by decide +kernel
theorem dX0_parting_67 : decode cX0_parting 67 = .ok (.iload_n 1, 1) := by decide +kernel
theorem dX0_parting_68 : decode cX0_parting 68 = .ok (.isub, 1) := by decide +kernel
theorem dX0_parting_69 : decode cX0_parting 69 = .ok (.istore 5, 2) := by decide +kernel
theorem dX0_parting_71 : decode cX0_parting 71 = .ok (.iload 4, 2) := by decide +kernel
theorem dX0_parting_73 : decode cX0_parting 73 = .ok (.iload_n 3, 1) := by decide +kernel
theorem dX0_parting_74 : decode cX0_parting 74 = .ok (.if_icmp .ge 8, 3) := by decide +kernel
theorem dX0_parting_77 : decode cX0_parting 77 = .ok (.iload 4, 2) := by decide +kernel
theorem dX0_parting_79 : decode cX0_parting 79 = .ok (.goto 7, 3) := by decide +kernel
theorem dX0_parting_82 : decode cX0_parting 82 = .ok (.iload 4, 2) := by decide +kernel
theorem dX0_parting_84 : decode cX0_parting 84 = .ok (.iload_n 3, 1) := by decide +kernel
theorem dX0_parting_85 : decode cX0_parting 85 = .ok (.isub, 1) := by decide +kernel
theorem dX0_parting_86 : decode cX0_parting 86 = .ok (.istore 6, 2) := by decide +kernel
theorem dX0_parting_88 : decode cX0_parting 88 = .ok (.aload_n 0, 1) := by decide +kernel
theorem dX0_parting_89 : decode cX0_parting 89 = .ok (.iload 5, 2) := by decide +kernel
theorem dX0_parting_91 : decode cX0_parting 91 = .ok (.ifCond .ne 8, 3) := by decide +kernel
theorem dX0_parting_94 : decode cX0_parting 94 = .ok (.iload 6, 2) := by decide +kernel
theorem dX0_parting_96 : decode cX0_parting 96 = .ok (.goto 15, 3) := by decide +kernel
theorem dX0_parting_99 : decode cX0_parting 99 = .ok (.aload_n 0, 1) := by decide +kernel
theorem dX0_parting_100 : decode cX0_parting 100 = .ok (.getfield 111, 3) := by decide +kernel
theorem dX0_parting_103 : decode cX0_parting 103 = .ok (.iconst 0, 1) := by decide +kernel
theorem dX0_parting_104 : decode cX0_parting 104 = .ok (.aaload, 1) := by decide +kernel
theorem dX0_parting_105 : decode cX0_parting 105 = .ok (.getfield 64, 3) := by decide +kernel
theorem dX0_parting_108 : decode cX0_parting 108 = .ok (.iload 6, 2) := by decide +kernel
theorem dX0_parting_110 : decode cX0_parting 110 = .ok (.iadd, 1) := by decide +kernel
theorem dX0_parting_111 : decode cX0_parting 111 = .ok (.iload_n 2, 1) := by decide +kernel
theorem dX0_parting_112 : decode cX0_parting 112 = .ok (.invokevirtual 128, 3) := by decide +kernel
theorem dX0_parting_115 : decode cX0_parting 115 = .ok (.ifCond .ne 6, 3) := by decide +kernel
theorem dX0_parting_118 : decode cX0_parting 118 = .ok (.goto 34, 3) := by decide +kernel
theorem dX0_parting_121 : decode cX0_parting 121 = .ok (.aload_n 0, 1) := by decide +kernel
theorem dX0_parting_122 : decode cX0_parting 122 = .ok (.iload 5, 2) := by decide +kernel
theorem dX0_parting_124 : decode cX0_parting 124 = .ok (.iload 6, 2) := by decide +kernel
theorem dX0_parting_126 : decode cX0_parting 126 = .ok (.invokestatic 264, 3) := by decide +kernel
theorem dX0_parting_129 : decode cX0_parting 129 = .ok (.astore 7, 2) := by decide +kernel
theorem dX0_parting_131 : decode cX0_parting 131 = .ok (.iload 5, 2) := by decide +kernel
theorem dX0_parting_133 : decode cX0_parting 133 = .ok (.iload_n 1, 1) := by decide +kernel
theorem dX0_parting_134 : decode cX0_parting 134 = .ok (.if_icmp .ne 8, 3) := by decide +kernel
theorem dX0_parting_137 : decode cX0_parting 137 = .ok (.aload 7, 2) := by decide +kernel
theorem dX0_parting_139 : decode cX0_parting 139 = .ok (.goto 12, 3) := by decide +kernel
theorem dX0_parting_142 : decode cX0_parting 142 = .ok (.new 244, 3) := by decide +kernel
theorem dX0_parting_145 : decode cX0_parting 145 = .ok (.dup, 1) := by decide +kernel
theorem dX0_parting_146 : decode cX0_parting 146 = .ok (.aload 7, 2) := by decide +kernel
theorem dX0_parting_148 : decode cX0_parting 148 = .ok (.invokespecial 246, 3) := by decide +kernel
theorem dX0_parting_151 : decode cX0_parting 151 = .ok (.areturn, 1) := by decide +kernel
theorem dX0_parting_152 : decode cX0_parting 152 = .ok (.iinc 4 1, 3) := by decide +kernel
theorem dX0_parting_155 : decode cX0_parting 155 = .ok (.goto (-117), 3) := by decide +kernel
theorem dX0_parting_158 : decode cX0_parting 158 = .ok (.aconst_null, 1) := by decide +kernel
theorem dX0_parting_159 : decode cX0_parting 159 = .ok (.areturn, 1) := by decide +kernel
noncomputable def C_X0_parting_L38 (l : Launch) (δ : Dl) (n : Nat) (r : T_par l δ n) : Seg (l, δ, yX0_parting, 69 + (n + 1), (some (.object "TwoWorlds$Formula")), cX0_parting, 8) 38 158 :=
  seq (p := 38) (q := 40) (r := 158) (p_iload 4 dX0_parting_38) (seq (p := 40) (q := 41) (r := 158) (p_iload_n 3 dX0_parting_40) (seq (p := 41) (q := 42) (r := 158) (p_aload_n 0 dX0_parting_41) (seq (p := 42) (q := 45) (r := 158) (p_get [(3, 0)] (alL1 fl_X0_111_3) dX0_parting_42) (seq (p := 45) (q := 46) (r := 158) (p_iconst 1 dX0_parting_45) (seq (p := 46) (q := 47) (r := 158) (p_iload_n 1 dX0_parting_46) (seq (p := 47) (q := 48) (r := 158) (p_isub dX0_parting_47) (seq (p := 48) (q := 49) (r := 158) (p_aald dX0_parting_48) (seq (p := 49) (q := 52) (r := 158) (p_get [(2, 0)] (alL1 fl_X0_64_2) dX0_parting_49) (seq (p := 52) (q := 53) (r := 158) (p_iadd dX0_parting_52) (seq (p := 53) (q := 56) (r := 158) (p_icmp_ge 158 dX0_parting_53 (by decide)) (seq (p := 56) (q := 58) (r := 158) (p_iload 4 dX0_parting_56) (seq (p := 58) (q := 59) (r := 158) (p_iload_n 3 dX0_parting_58) (seq (p := 59) (q := 69) (r := 158) (blk (seq (p := 59) (q := 66) (r := 69) (blk (seq (p := 59) (q := 62) (r := 66) (p_icmp_ge 66 dX0_parting_59 (by decide)) (seq (p := 62) (q := 63) (r := 66) (p_iload_n 1 dX0_parting_62) (seq (p := 63) (q := 66) (r := 66) (p_goto 69 dX0_parting_63 (by decide)) done)))) (seq (p := 66) (q := 67) (r := 69) (p_iconst 1 dX0_parting_66) (seq (p := 67) (q := 68) (r := 69) (p_iload_n 1 dX0_parting_67) (seq (p := 68) (q := 69) (r := 69) (p_isub dX0_parting_68) done))))) (seq (p := 69) (q := 71) (r := 158) (p_istore 5 dX0_parting_69 (Nat.le_of_ble_eq_true rfl)) (seq (p := 71) (q := 73) (r := 158) (p_iload 4 dX0_parting_71) (seq (p := 73) (q := 74) (r := 158) (p_iload_n 3 dX0_parting_73) (seq (p := 74) (q := 86) (r := 158) (blk (seq (p := 74) (q := 82) (r := 86) (blk (seq (p := 74) (q := 77) (r := 82) (p_icmp_ge 82 dX0_parting_74 (by decide)) (seq (p := 77) (q := 79) (r := 82) (p_iload 4 dX0_parting_77) (seq (p := 79) (q := 82) (r := 82) (p_goto 86 dX0_parting_79 (by decide)) done)))) (seq (p := 82) (q := 84) (r := 86) (p_iload 4 dX0_parting_82) (seq (p := 84) (q := 85) (r := 86) (p_iload_n 3 dX0_parting_84) (seq (p := 85) (q := 86) (r := 86) (p_isub dX0_parting_85) done))))) (seq (p := 86) (q := 88) (r := 158) (p_istore 6 dX0_parting_86 (Nat.le_of_ble_eq_true rfl)) (seq (p := 88) (q := 89) (r := 158) (p_aload_n 0 dX0_parting_88) (seq (p := 89) (q := 91) (r := 158) (p_iload 5 dX0_parting_89) (seq (p := 91) (q := 111) (r := 158) (blk (seq (p := 91) (q := 99) (r := 111) (blk (seq (p := 91) (q := 94) (r := 99) (p_if_ne 99 dX0_parting_91 (by decide)) (seq (p := 94) (q := 96) (r := 99) (p_iload 6 dX0_parting_94) (seq (p := 96) (q := 99) (r := 99) (p_goto 111 dX0_parting_96 (by decide)) done)))) (seq (p := 99) (q := 100) (r := 111) (p_aload_n 0 dX0_parting_99) (seq (p := 100) (q := 103) (r := 111) (p_get [(3, 0)] (alL1 fl_X0_111_3) dX0_parting_100) (seq (p := 103) (q := 104) (r := 111) (p_iconst 0 dX0_parting_103) (seq (p := 104) (q := 105) (r := 111) (p_aald dX0_parting_104) (seq (p := 105) (q := 108) (r := 111) (p_get [(2, 0)] (alL1 fl_X0_64_2) dX0_parting_105) (seq (p := 108) (q := 110) (r := 111) (p_iload 6 dX0_parting_108) (seq (p := 110) (q := 111) (r := 111) (p_iadd dX0_parting_110) done))))))))) (seq (p := 111) (q := 112) (r := 158) (p_iload_n 2 dX0_parting_111) (seq (p := 112) (q := 115) (r := 158) (p_callG 3 _ (ok_V 3 cv_X0_128 rfl ((R_kept l δ 12).2.1) (Nat.lt_of_lt_of_le (show 15 < 69 from (Nat.le_of_ble_eq_true rfl)) (Nat.le_add_right _ _)) dX0_parting_112) (Nat.le_of_ble_eq_true rfl)) (seq (p := 115) (q := 152) (r := 158) (blk (seq (p := 115) (q := 121) (r := 152) (blk (seq (p := 115) (q := 118) (r := 121) (p_if_ne 121 dX0_parting_115 (by decide)) (seq (p := 118) (q := 121) (r := 121) (p_goto 152 dX0_parting_118 (by decide)) done))) (seq (p := 121) (q := 122) (r := 152) (p_aload_n 0 dX0_parting_121) (seq (p := 122) (q := 124) (r := 152) (p_iload 5 dX0_parting_122) (seq (p := 124) (q := 126) (r := 152) (p_iload 6 dX0_parting_124) (seq (p := 126) (q := 129) (r := 152) (p_callG 3 _ (ok_S cs_X0_264 (r.2) (Nat.lt_succ_self _) dX0_parting_126) (Nat.le_of_ble_eq_true rfl)) (seq (p := 129) (q := 131) (r := 152) (p_astore 7 dX0_parting_129 (Nat.le_of_ble_eq_true rfl)) (seq (p := 131) (q := 133) (r := 152) (p_iload 5 dX0_parting_131) (seq (p := 133) (q := 134) (r := 152) (p_iload_n 1 dX0_parting_133) (seq (p := 134) (q := 151) (r := 152) (blk (seq (p := 134) (q := 142) (r := 151) (blk (seq (p := 134) (q := 137) (r := 142) (p_icmp_ne 142 dX0_parting_134 (by decide)) (seq (p := 137) (q := 139) (r := 142) (p_aload 7 dX0_parting_137) (seq (p := 139) (q := 142) (r := 142) (p_goto 151 dX0_parting_139 (by decide)) done)))) (seq (p := 142) (q := 145) (r := 151) (p_new 7 ck7 tyX8 tyX8_ok f0_7 f0_7_ok (okc q936) (okc q553) (okc q100) dX0_parting_142) (seq (p := 145) (q := 146) (r := 151) (p_dup dX0_parting_145) (seq (p := 146) (q := 148) (r := 151) (p_aload 7 dX0_parting_146) (seq (p := 148) (q := 151) (r := 151) (p_callG 2 _ (ok_I ci_X0_246 (M_X8_init l δ) (Nat.lt_of_lt_of_le (show 2 < 69 from (Nat.le_of_ble_eq_true rfl)) (Nat.le_add_right _ _)) dX0_parting_148) (Nat.le_of_ble_eq_true rfl)) done)))))) (seq (p := 151) (q := 152) (r := 152) (p_areturn dX0_parting_151 rfl (Or.inl ⟨_, rfl⟩)) done))))))))))) (seq (p := 152) (q := 155) (r := 158) (p_iinc 4 1 dX0_parting_152 (Nat.le_of_ble_eq_true rfl)) (seq (p := 155) (q := 155) (r := 158) (er [true, true, true, true, true, false, false, false]) (seq (p := 155) (q := 158) (r := 158) (p_goto 38 dX0_parting_155 (by decide)) done)))))))))))))))))))))))))))
noncomputable def B_X0_parting_L38 (l : Launch) (δ : Dl) (n : Nat) (r : T_par l δ n) : Seg (l, δ, yX0_parting, 69 + (n + 1), (some (.object "TwoWorlds$Formula")), cX0_parting, 8) 38 158 := C_X0_parting_L38 l δ n r
theorem L_X0_parting_38 {l : Launch} {δ : Dl} {n : Nat} {r : T_par l δ n} {st : Stk} {L : Lc} {s : St} : (B_X0_parting_L38 l δ n r).1 st L s = (C_X0_parting_L38 l δ n r).1 st L s := nrfl rfl
noncomputable def B_X0_parting (l : Launch) (δ : Dl) (n : Nat) (r : T_par l δ n) : Seg (l, δ, yX0_parting, 69 + (n + 1), (some (.object "TwoWorlds$Formula")), cX0_parting, 8) 0 160 :=
  seq (p := 0) (q := 1) (r := 160) (p_aload_n 0 dX0_parting_0) (seq (p := 1) (q := 4) (r := 160) (p_get [(3, 2)] (alL1 fl_X0_90_3) dX0_parting_1) (seq (p := 4) (q := 20) (r := 160) (blk (seq (p := 4) (q := 7) (r := 20) (p_if_le 20 dX0_parting_4 (by decide)) (seq (p := 7) (q := 8) (r := 20) (p_aload_n 0 dX0_parting_7) (seq (p := 8) (q := 11) (r := 20) (p_callG 1 _ (ok_V 3 cv_X0_124 rfl (M_X3_isLastAlike l δ) (Nat.lt_of_lt_of_le (show 2 < 69 from (Nat.le_of_ble_eq_true rfl)) (Nat.le_add_right _ _)) dX0_parting_8) (Nat.le_of_ble_eq_true rfl)) (seq (p := 11) (q := 14) (r := 20) (p_if_ne 20 dX0_parting_11 (by decide)) (seq (p := 14) (q := 15) (r := 20) (p_aload_n 0 dX0_parting_14) (seq (p := 15) (q := 16) (r := 20) (p_iload_n 1 dX0_parting_15) (seq (p := 16) (q := 19) (r := 20) (p_callG 2 _ (ok_S cs_X0_260 (M_X0_unlike l δ) (Nat.lt_of_lt_of_le (show 4 < 69 from (Nat.le_of_ble_eq_true rfl)) (Nat.le_add_right _ _)) dX0_parting_16) (Nat.le_of_ble_eq_true rfl)) (seq (p := 19) (q := 20) (r := 20) (p_areturn dX0_parting_19 rfl (Or.inl ⟨_, rfl⟩)) done))))))))) (seq (p := 20) (q := 21) (r := 160) (p_aload_n 0 dX0_parting_20) (seq (p := 21) (q := 24) (r := 160) (p_callG 1 _ (ok_S cs_X0_93 (M_X0_rankOf l δ) (Nat.lt_of_lt_of_le (show 16 < 69 from (Nat.le_of_ble_eq_true rfl)) (Nat.le_add_right _ _)) dX0_parting_21) (Nat.le_of_ble_eq_true rfl)) (seq (p := 24) (q := 25) (r := 160) (p_istore_n 2 dX0_parting_24 (Nat.le_of_ble_eq_true rfl)) (seq (p := 25) (q := 26) (r := 160) (p_aload_n 0 dX0_parting_25) (seq (p := 26) (q := 29) (r := 160) (p_get [(3, 0)] (alL1 fl_X0_111_3) dX0_parting_26) (seq (p := 29) (q := 30) (r := 160) (p_iload_n 1 dX0_parting_29) (seq (p := 30) (q := 31) (r := 160) (p_aald dX0_parting_30) (seq (p := 31) (q := 34) (r := 160) (p_get [(2, 0)] (alL1 fl_X0_64_2) dX0_parting_31) (seq (p := 34) (q := 35) (r := 160) (p_istore_n 3 dX0_parting_34 (Nat.le_of_ble_eq_true rfl)) (seq (p := 35) (q := 36) (r := 160) (p_iconst 0 dX0_parting_35) (seq (p := 36) (q := 38) (r := 160) (p_istore 4 dX0_parting_36 (Nat.le_of_ble_eq_true rfl)) (seq (p := 38) (q := 158) (r := 160) (blk (seq (p := 38) (q := 38) (r := 158) (er [true, true, true, true, true, false, false, false]) (seq (p := 38) (q := 158) (r := 158) (lp (B_X0_parting_L38 l δ n r)) done))) (seq (p := 158) (q := 159) (r := 160) (p_null dX0_parting_158) (seq (p := 159) (q := 160) (r := 160) (p_areturn dX0_parting_159 rfl (Or.inl ⟨_, rfl⟩)) done))))))))))))))))
theorem dX0_answers_0 : decode cX0_answers 0 = .ok (.new 19, 3) := by decide +kernel
theorem dX0_answers_3 : decode cX0_answers 3 = .ok (.dup, 1) := by decide +kernel
theorem dX0_answers_4 : decode cX0_answers 4 = .ok (.invokespecial 21, 3) := by decide +kernel
theorem dX0_answers_7 : decode cX0_answers 7 = .ok (.astore_n 3, 1) := by decide +kernel
theorem dX0_answers_8 : decode cX0_answers 8 = .ok (.iconst 0, 1) := by decide +kernel
theorem dX0_answers_9 : decode cX0_answers 9 = .ok (.istore 4, 2) := by decide +kernel
theorem dX0_answers_11 : decode cX0_answers 11 = .ok (.iload 4, 2) := by decide +kernel
theorem dX0_answers_13 : decode cX0_answers 13 = .ok (.aload_n 0, 1) := by decide +kernel
theorem dX0_answers_14 : decode cX0_answers 14 = .ok (.getfield 111, 3) := by decide +kernel
theorem dX0_answers_17 : decode cX0_answers 17 = .ok (.iconst 1, 1) := by decide +kernel
theorem dX0_answers_18 : decode cX0_answers 18 = .ok (.iload_n 1, 1) := by decide +kernel
theorem dX0_answers_19 : decode cX0_answers 19 = .ok (.isub, 1) := by decide +kernel
theorem dX0_answers_20 : decode cX0_answers 20 = .ok (.aaload, 1) := by decide +kernel
theorem dX0_answers_21 : decode cX0_answers 21 = .ok (.getfield 64, 3) := by decide +kernel
theorem dX0_answers_24 : decode cX0_answers 24 = .ok (.if_icmp .ge 46, 3) := by decide +kernel
theorem dX0_answers_27 : decode cX0_answers 27 = .ok (.aload_n 0, 1) := by decide +kernel
theorem dX0_answers_28 : decode cX0_answers 28 = .ok (.iload_n 1, 1) := by decide +kernel
theorem dX0_answers_29 : decode cX0_answers 29 = .ok (.iload_n 2, 1) := by decide +kernel
theorem dX0_answers_30 : decode cX0_answers 30 = .ok (.iload 4, 2) := by decide +kernel
theorem dX0_answers_32 : decode cX0_answers 32 = .ok (.invokevirtual 120, 3) := by decide +kernel
theorem dX0_answers_35 : decode cX0_answers 35 = .ok (.aload_n 0, 1) := by decide +kernel
theorem dX0_answers_36 : decode cX0_answers 36 = .ok (.iload_n 1, 1) := by decide +kernel
theorem dX0_answers_37 : decode cX0_answers 37 = .ok (.invokestatic 268, 3) := by decide +kernel
theorem dX0_answers_40 : decode cX0_answers 40 = .ok (.astore 5, 2) := by decide +kernel
theorem dX0_answers_42 : decode cX0_answers 42 = .ok (.aload_n 0, 1) := by decide +kernel
theorem dX0_answers_43 : decode cX0_answers 43 = .ok (.invokevirtual 271, 3) := by decide +kernel
theorem dX0_answers_46 : decode cX0_answers 46 = .ok (.aload_n 3, 1) := by decide +kernel
theorem dX0_answers_47 : decode cX0_answers 47 = .ok (.aload 5, 2) := by decide +kernel
theorem dX0_answers_49 : decode cX0_answers 49 = .ok (.invokestatic 274, 3) := by decide +kernel
theorem dX0_answers_52 : decode cX0_answers 52 = .ok (.ifCond .ne 12, 3) := by decide +kernel
theorem dX0_answers_55 : decode cX0_answers 55 = .ok (.aload_n 3, 1) := by decide +kernel
theorem dX0_answers_56 : decode cX0_answers 56 = .ok (.aload 5, 2) := by decide +kernel
theorem dX0_answers_58 : decode cX0_answers 58 = .ok (.invokeinterface 174 2, 5) := by decide +kernel
theorem dX0_answers_63 : decode cX0_answers 63 = .ok (.pop, 1) := by decide +kernel
theorem dX0_answers_64 : decode cX0_answers 64 = .ok (.iinc 4 1, 3) := by decide +kernel
theorem dX0_answers_67 : decode cX0_answers 67 = .ok (.goto (-56), 3) := by decide +kernel
theorem dX0_answers_70 : decode cX0_answers 70 = .ok (.new 278, 3) := by decide +kernel
theorem dX0_answers_73 : decode cX0_answers 73 = .ok (.dup, 1) := by decide +kernel
theorem dX0_answers_74 : decode cX0_answers 74 = .ok (.aload_n 3, 1) := by decide +kernel
theorem dX0_answers_75 : decode cX0_answers 75 = .ok (.invokeinterface 161 1, 5) := by decide +kernel
theorem dX0_answers_80 : decode cX0_answers 80 = .ok (.iconst 1, 1) := by decide +kernel
theorem dX0_answers_81 : decode cX0_answers 81 = .ok (.if_icmp .ne 16, 3) := by decide +kernel
theorem dX0_answers_84 : decode cX0_answers 84 = .ok (.aload_n 3, 1) := by decide +kernel
theorem dX0_answers_85 : decode cX0_answers 85 = .ok (.iconst 0, 1) := by decide +kernel
theorem dX0_answers_86 : decode cX0_answers 86 = .ok (.invokeinterface 202 2, 5) := by decide +kernel
theorem dX0_answers_91 : decode cX0_answers 91 = .ok (.checkcast 146, 3) := by decide +kernel
theorem dX0_answers_94 : decode cX0_answers 94 = .ok (.goto 13, 3) := by decide +kernel
theorem dX0_answers_97 : decode cX0_answers 97 = .ok (.new 280, 3) := by decide +kernel
theorem dX0_answers_100 : decode cX0_answers 100 = .ok (.dup, 1) := by decide +kernel
theorem dX0_answers_101 : decode cX0_answers 101 = .ok (.aload_n 3, 1) := by decide +kernel
theorem dX0_answers_102 : decode cX0_answers 102 = .ok (.bipush 38, 2) := by decide +kernel
theorem dX0_answers_104 : decode cX0_answers 104 = .ok (.invokespecial 282, 3) := by decide +kernel
theorem dX0_answers_107 : decode cX0_answers 107 = .ok (.aload_n 0, 1) := by decide +kernel
theorem dX0_answers_108 : decode cX0_answers 108 = .ok (.getfield 90, 3) := by decide +kernel
theorem dX0_answers_111 : decode cX0_answers 111 = .ok (.iconst 1, 1) := by decide +kernel
theorem dX0_answers_112 : decode cX0_answers 112 = .ok (.iadd, 1) := by decide +kernel
theorem dX0_answers_113 : decode cX0_answers 113 = .ok (.iconst 0, 1) := by decide +kernel
theorem dX0_answers_114 : decode cX0_answers 114 = .ok (.invokespecial 285, 3) := by decide +kernel
theorem dX0_answers_117 : decode cX0_answers 117 = .ok (.areturn, 1) := by decide +kernel
noncomputable def C_X0_answers_L11 (l : Launch) (δ : Dl) (n : Nat) (r : T_par l δ n) : Seg (l, δ, yX0_answers, 69 + (n + 1), (some (.object "TwoWorlds$Formula")), cX0_answers, 6) 11 70 :=
  seq (p := 11) (q := 13) (r := 70) (p_iload 4 dX0_answers_11) (seq (p := 13) (q := 14) (r := 70) (p_aload_n 0 dX0_answers_13) (seq (p := 14) (q := 17) (r := 70) (p_get [(3, 0)] (alL1 fl_X0_111_3) dX0_answers_14) (seq (p := 17) (q := 18) (r := 70) (p_iconst 1 dX0_answers_17) (seq (p := 18) (q := 19) (r := 70) (p_iload_n 1 dX0_answers_18) (seq (p := 19) (q := 20) (r := 70) (p_isub dX0_answers_19) (seq (p := 20) (q := 21) (r := 70) (p_aald dX0_answers_20) (seq (p := 21) (q := 24) (r := 70) (p_get [(2, 0)] (alL1 fl_X0_64_2) dX0_answers_21) (seq (p := 24) (q := 27) (r := 70) (p_icmp_ge 70 dX0_answers_24 (by decide)) (seq (p := 27) (q := 28) (r := 70) (p_aload_n 0 dX0_answers_27) (seq (p := 28) (q := 29) (r := 70) (p_iload_n 1 dX0_answers_28) (seq (p := 29) (q := 30) (r := 70) (p_iload_n 2 dX0_answers_29) (seq (p := 30) (q := 32) (r := 70) (p_iload 4 dX0_answers_30) (seq (p := 32) (q := 35) (r := 70) (p_callG 4 _ (ok_V 3 cv_X0_120 rfl (M_X3_push l δ) (Nat.lt_of_lt_of_le (show 0 < 69 from (Nat.le_of_ble_eq_true rfl)) (Nat.le_add_right _ _)) dX0_answers_32) (Nat.le_of_ble_eq_true rfl)) (seq (p := 35) (q := 36) (r := 70) (p_aload_n 0 dX0_answers_35) (seq (p := 36) (q := 37) (r := 70) (p_iload_n 1 dX0_answers_36) (seq (p := 37) (q := 40) (r := 70) (p_callG 2 _ (ok_S cs_X0_268 (r.1) (Nat.lt_succ_self _) dX0_answers_37) (Nat.le_of_ble_eq_true rfl)) (seq (p := 40) (q := 42) (r := 70) (p_astore 5 dX0_answers_40 (Nat.le_of_ble_eq_true rfl)) (seq (p := 42) (q := 43) (r := 70) (p_aload_n 0 dX0_answers_42) (seq (p := 43) (q := 46) (r := 70) (p_callG 1 _ (ok_V 3 cv_X0_271 rfl (M_X3_pop l δ) (Nat.lt_of_lt_of_le (show 0 < 69 from (Nat.le_of_ble_eq_true rfl)) (Nat.le_add_right _ _)) dX0_answers_43) (Nat.le_of_ble_eq_true rfl)) (seq (p := 46) (q := 47) (r := 70) (p_aload_n 3 dX0_answers_46) (seq (p := 47) (q := 49) (r := 70) (p_aload 5 dX0_answers_47) (seq (p := 49) (q := 52) (r := 70) (p_callG 2 _ (ok_S cs_X0_274 (M_X0_isThere l δ) (Nat.lt_of_lt_of_le (show 68 < 69 from (Nat.le_of_ble_eq_true rfl)) (Nat.le_add_right _ _)) dX0_answers_49) (Nat.le_of_ble_eq_true rfl)) (seq (p := 52) (q := 64) (r := 70) (blk (seq (p := 52) (q := 55) (r := 64) (p_if_ne 64 dX0_answers_52 (by decide)) (seq (p := 55) (q := 56) (r := 64) (p_aload_n 3 dX0_answers_55) (seq (p := 56) (q := 58) (r := 64) (p_aload 5 dX0_answers_56) (seq (p := 58) (q := 63) (r := 64) (p_callG 2 _ (ok_F 16 cf_X0_174 rfl (M_J2_add l δ) (Nat.lt_of_lt_of_le (show 6 < 69 from (Nat.le_of_ble_eq_true rfl)) (Nat.le_add_right _ _)) dX0_answers_58) (Nat.le_of_ble_eq_true rfl)) (seq (p := 63) (q := 64) (r := 64) (p_pop dX0_answers_63) done)))))) (seq (p := 64) (q := 67) (r := 70) (p_iinc 4 1 dX0_answers_64 (Nat.le_of_ble_eq_true rfl)) (seq (p := 67) (q := 67) (r := 70) (er [true, true, true, true, true, false]) (seq (p := 67) (q := 70) (r := 70) (p_goto 11 dX0_answers_67 (by decide)) done))))))))))))))))))))))))))
noncomputable def B_X0_answers_L11 (l : Launch) (δ : Dl) (n : Nat) (r : T_par l δ n) : Seg (l, δ, yX0_answers, 69 + (n + 1), (some (.object "TwoWorlds$Formula")), cX0_answers, 6) 11 70 := C_X0_answers_L11 l δ n r
theorem L_X0_answers_11 {l : Launch} {δ : Dl} {n : Nat} {r : T_par l δ n} {st : Stk} {L : Lc} {s : St} : (B_X0_answers_L11 l δ n r).1 st L s = (C_X0_answers_L11 l δ n r).1 st L s := nrfl rfl
noncomputable def B_X0_answers (l : Launch) (δ : Dl) (n : Nat) (r : T_par l δ n) : Seg (l, δ, yX0_answers, 69 + (n + 1), (some (.object "TwoWorlds$Formula")), cX0_answers, 6) 0 118 :=
  seq (p := 0) (q := 3) (r := 118) (p_new 16 ck16 tyJ2 tyJ2_ok f0_16 f0_16_ok (okc q126) (okc q127) (okc q90) dX0_answers_0) (seq (p := 3) (q := 4) (r := 118) (p_dup dX0_answers_3) (seq (p := 4) (q := 7) (r := 118) (p_callG 1 _ (ok_I ci_X0_21 (M_J2_init l δ) (Nat.lt_of_lt_of_le (show 3 < 69 from (Nat.le_of_ble_eq_true rfl)) (Nat.le_add_right _ _)) dX0_answers_4) (Nat.le_of_ble_eq_true rfl)) (seq (p := 7) (q := 8) (r := 118) (p_astore_n 3 dX0_answers_7 (Nat.le_of_ble_eq_true rfl)) (seq (p := 8) (q := 9) (r := 118) (p_iconst 0 dX0_answers_8) (seq (p := 9) (q := 11) (r := 118) (p_istore 4 dX0_answers_9 (Nat.le_of_ble_eq_true rfl)) (seq (p := 11) (q := 70) (r := 118) (blk (seq (p := 11) (q := 11) (r := 70) (er [true, true, true, true, true, false]) (seq (p := 11) (q := 70) (r := 70) (lp (B_X0_answers_L11 l δ n r)) done))) (seq (p := 70) (q := 73) (r := 118) (p_new 8 ck8 tyX9 tyX9_ok f0_8 f0_8_ok (okc q971) (okc q569) (okc q101) dX0_answers_70) (seq (p := 73) (q := 74) (r := 118) (p_dup dX0_answers_73) (seq (p := 74) (q := 75) (r := 118) (p_aload_n 3 dX0_answers_74) (seq (p := 75) (q := 80) (r := 118) (p_callG 1 _ (ok_F 16 cf_X0_161 rfl (M_J2_size l δ) (Nat.lt_of_lt_of_le (show 0 < 69 from (Nat.le_of_ble_eq_true rfl)) (Nat.le_add_right _ _)) dX0_answers_75) (Nat.le_of_ble_eq_true rfl)) (seq (p := 80) (q := 81) (r := 118) (p_iconst 1 dX0_answers_80) (seq (p := 81) (q := 107) (r := 118) (blk (seq (p := 81) (q := 97) (r := 107) (blk (seq (p := 81) (q := 84) (r := 97) (p_icmp_ne 97 dX0_answers_81 (by decide)) (seq (p := 84) (q := 85) (r := 97) (p_aload_n 3 dX0_answers_84) (seq (p := 85) (q := 86) (r := 97) (p_iconst 0 dX0_answers_85) (seq (p := 86) (q := 91) (r := 97) (p_callG 2 _ (ok_F 16 cf_X0_202 rfl (M_J2_get l δ) (Nat.lt_of_lt_of_le (show 2 < 69 from (Nat.le_of_ble_eq_true rfl)) (Nat.le_add_right _ _)) dX0_answers_86) (Nat.le_of_ble_eq_true rfl)) (seq (p := 91) (q := 94) (r := 97) (p_cast [5, 7, 8, 9] ky_X0_146 dX0_answers_91) (seq (p := 94) (q := 97) (r := 97) (p_goto 107 dX0_answers_94 (by decide)) done))))))) (seq (p := 97) (q := 100) (r := 107) (p_new 9 ck9 tyX10 tyX10_ok f0_9 f0_9_ok (okc q972) (okc q655) (okc q106) dX0_answers_97) (seq (p := 100) (q := 101) (r := 107) (p_dup dX0_answers_100) (seq (p := 101) (q := 102) (r := 107) (p_aload_n 3 dX0_answers_101) (seq (p := 102) (q := 104) (r := 107) (p_bipush 38 dX0_answers_102 (by decide)) (seq (p := 104) (q := 107) (r := 107) (p_callG 3 _ (ok_I ci_X0_282 (M_X10_init l δ) (Nat.lt_of_lt_of_le (show 2 < 69 from (Nat.le_of_ble_eq_true rfl)) (Nat.le_add_right _ _)) dX0_answers_104) (Nat.le_of_ble_eq_true rfl)) done))))))) (seq (p := 107) (q := 108) (r := 118) (p_aload_n 0 dX0_answers_107) (seq (p := 108) (q := 111) (r := 118) (p_get [(3, 2)] (alL1 fl_X0_90_3) dX0_answers_108) (seq (p := 111) (q := 112) (r := 118) (p_iconst 1 dX0_answers_111) (seq (p := 112) (q := 113) (r := 118) (p_iadd dX0_answers_112) (seq (p := 113) (q := 114) (r := 118) (p_iconst 0 dX0_answers_113) (seq (p := 114) (q := 117) (r := 118) (p_callG 4 _ (ok_I ci_X0_285 (M_X9_init l δ) (Nat.lt_of_lt_of_le (show 3 < 69 from (Nat.le_of_ble_eq_true rfl)) (Nat.le_add_right _ _)) dX0_answers_114) (Nat.le_of_ble_eq_true rfl)) (seq (p := 117) (q := 118) (r := 118) (p_areturn dX0_answers_117 rfl (Or.inl ⟨_, rfl⟩)) done)))))))))))))))))))
noncomputable def R_par (l : Launch) (δ : Dl) : (n : Nat) → T_par l δ n
  | 0 => (M_no, M_no)
  | n + 1 => (mk (B_X0_parting l δ n (R_par l δ n)) (by decide), mk (B_X0_answers l δ n (R_par l δ n)) (by decide))
theorem N_X0_parting {l : Launch} {δ : Dl} {n : Nat} {a1 : Option Nat} {a2 : Int} {s : St} : ((R_par l δ (n + 1)).1).1 [.inr (.inr a1), .inl a2] s = bres ((B_X0_parting l δ n (R_par l δ n)).1 [] [some (.inr (.inr a1)), some (.inl a2), none, none, none, none, none, none] s) := (mk_eq (hy := by decide) rfl).trans (nrfl rfl)
theorem N_X0_answers {l : Launch} {δ : Dl} {n : Nat} {a1 : Option Nat} {a2 : Int} {a3 : Int} {s : St} : ((R_par l δ (n + 1)).2).1 [.inr (.inr a1), .inl a2, .inl a3] s = bres ((B_X0_answers l δ n (R_par l δ n)).1 [] [some (.inr (.inr a1)), some (.inl a2), some (.inl a3), none, none, none] s) := (mk_eq (hy := by decide) rfl).trans (nrfl rfl)
theorem dX0_part_0 : decode cX0_part 0 = .ok (.aload_n 0, 1) := by decide +kernel
theorem dX0_part_1 : decode cX0_part 1 = .ok (.iload_n 1, 1) := by decide +kernel
theorem dX0_part_2 : decode cX0_part 2 = .ok (.invokevirtual 40, 3) := by decide +kernel
theorem dX0_part_5 : decode cX0_part 5 = .ok (.ifCond .eq 11, 3) := by decide +kernel
theorem dX0_part_8 : decode cX0_part 8 = .ok (.aload_n 0, 1) := by decide +kernel
theorem dX0_part_9 : decode cX0_part 9 = .ok (.iload_n 2, 1) := by decide +kernel
theorem dX0_part_10 : decode cX0_part 10 = .ok (.invokevirtual 40, 3) := by decide +kernel
theorem dX0_part_13 : decode cX0_part 13 = .ok (.ifCond .ne 5, 3) := by decide +kernel
theorem dX0_part_16 : decode cX0_part 16 = .ok (.iconst (-1), 1) := by decide +kernel
theorem dX0_part_17 : decode cX0_part 17 = .ok (.ireturn, 1) := by decide +kernel
theorem dX0_part_18 : decode cX0_part 18 = .ok (.aload_n 0, 1) := by decide +kernel
theorem dX0_part_19 : decode cX0_part 19 = .ok (.iload_n 1, 1) := by decide +kernel
theorem dX0_part_20 : decode cX0_part 20 = .ok (.iload_n 2, 1) := by decide +kernel
theorem dX0_part_21 : decode cX0_part 21 = .ok (.invokevirtual 83, 3) := by decide +kernel
theorem dX0_part_24 : decode cX0_part 24 = .ok (.astore_n 3, 1) := by decide +kernel
theorem dX0_part_25 : decode cX0_part 25 = .ok (.aload_n 3, 1) := by decide +kernel
theorem dX0_part_26 : decode cX0_part 26 = .ok (.invokestatic 93, 3) := by decide +kernel
theorem dX0_part_29 : decode cX0_part 29 = .ok (.bipush (-9), 2) := by decide +kernel
theorem dX0_part_31 : decode cX0_part 31 = .ok (.if_icmp .ne 6, 3) := by decide +kernel
theorem dX0_part_34 : decode cX0_part 34 = .ok (.bipush (-9), 2) := by decide +kernel
theorem dX0_part_36 : decode cX0_part 36 = .ok (.ireturn, 1) := by decide +kernel
theorem dX0_part_37 : decode cX0_part 37 = .ok (.aload_n 0, 1) := by decide +kernel
theorem dX0_part_38 : decode cX0_part 38 = .ok (.getfield 22, 3) := by decide +kernel
theorem dX0_part_41 : decode cX0_part 41 = .ok (.invokeinterface 161 1, 5) := by decide +kernel
theorem dX0_part_46 : decode cX0_part 46 = .ok (.bipush 20, 2) := by decide +kernel
theorem dX0_part_48 : decode cX0_part 48 = .ok (.if_icmp .ne 8, 3) := by decide +kernel
theorem dX0_part_51 : decode cX0_part 51 = .ok (.bipush (-4), 2) := by decide +kernel
theorem dX0_part_53 : decode cX0_part 53 = .ok (.goto 12, 3) := by decide +kernel
theorem dX0_part_56 : decode cX0_part 56 = .ok (.aload_n 0, 1) := by decide +kernel
theorem dX0_part_57 : decode cX0_part 57 = .ok (.aload_n 3, 1) := by decide +kernel
theorem dX0_part_58 : decode cX0_part 58 = .ok (.iconst 0, 1) := by decide +kernel
theorem dX0_part_59 : decode cX0_part 59 = .ok (.invokestatic 268, 3) := by decide +kernel
theorem dX0_part_62 : decode cX0_part 62 = .ok (.invokevirtual 190, 3) := by decide +kernel
theorem dX0_part_65 : decode cX0_part 65 = .ok (.ireturn, 1) := by decide +kernel
noncomputable def B_X0_part (l : Launch) (δ : Dl) : Seg (l, δ, yX0_part, 87, (some .int), cX0_part, 4) 0 66 :=
  seq (p := 0) (q := 1) (r := 66) (p_aload_n 0 dX0_part_0) (seq (p := 1) (q := 2) (r := 66) (p_iload_n 1 dX0_part_1) (seq (p := 2) (q := 5) (r := 66) (p_callG 2 _ (ok_V 0 cv_X0_40 rfl (M_X0_isWorld l δ) (Nat.le_of_ble_eq_true rfl) dX0_part_2) (Nat.le_of_ble_eq_true rfl)) (seq (p := 5) (q := 18) (r := 66) (blk (seq (p := 5) (q := 16) (r := 18) (blk (seq (p := 5) (q := 8) (r := 16) (p_if_eq 16 dX0_part_5 (by decide)) (seq (p := 8) (q := 9) (r := 16) (p_aload_n 0 dX0_part_8) (seq (p := 9) (q := 10) (r := 16) (p_iload_n 2 dX0_part_9) (seq (p := 10) (q := 13) (r := 16) (p_callG 2 _ (ok_V 0 cv_X0_40 rfl (M_X0_isWorld l δ) (Nat.le_of_ble_eq_true rfl) dX0_part_10) (Nat.le_of_ble_eq_true rfl)) (seq (p := 13) (q := 16) (r := 16) (p_if_ne 18 dX0_part_13 (by decide)) done)))))) (seq (p := 16) (q := 17) (r := 18) (p_iconst (-1) dX0_part_16) (seq (p := 17) (q := 18) (r := 18) (p_ireturn dX0_part_17 rfl) done)))) (seq (p := 18) (q := 19) (r := 66) (p_aload_n 0 dX0_part_18) (seq (p := 19) (q := 20) (r := 66) (p_iload_n 1 dX0_part_19) (seq (p := 20) (q := 21) (r := 66) (p_iload_n 2 dX0_part_20) (seq (p := 21) (q := 24) (r := 66) (p_callG 3 _ (ok_V 0 cv_X0_83 rfl (M_X0_match l δ) (Nat.le_of_ble_eq_true rfl) dX0_part_21) (Nat.le_of_ble_eq_true rfl)) (seq (p := 24) (q := 25) (r := 66) (p_astore_n 3 dX0_part_24 (Nat.le_of_ble_eq_true rfl)) (seq (p := 25) (q := 26) (r := 66) (p_aload_n 3 dX0_part_25) (seq (p := 26) (q := 29) (r := 66) (p_callG 1 _ (ok_S cs_X0_93 (M_X0_rankOf l δ) (Nat.le_of_ble_eq_true rfl) dX0_part_26) (Nat.le_of_ble_eq_true rfl)) (seq (p := 29) (q := 31) (r := 66) (p_bipush (-9) dX0_part_29 (by decide)) (seq (p := 31) (q := 37) (r := 66) (blk (seq (p := 31) (q := 34) (r := 37) (p_icmp_ne 37 dX0_part_31 (by decide)) (seq (p := 34) (q := 36) (r := 37) (p_bipush (-9) dX0_part_34 (by decide)) (seq (p := 36) (q := 37) (r := 37) (p_ireturn dX0_part_36 rfl) done)))) (seq (p := 37) (q := 38) (r := 66) (p_aload_n 0 dX0_part_37) (seq (p := 38) (q := 41) (r := 66) (p_get [(0, 8)] (alL1 fl_X0_22_0) dX0_part_38) (seq (p := 41) (q := 46) (r := 66) (p_callG 1 _ (ok_F 16 cf_X0_161 rfl (M_J2_size l δ) (Nat.le_of_ble_eq_true rfl) dX0_part_41) (Nat.le_of_ble_eq_true rfl)) (seq (p := 46) (q := 48) (r := 66) (p_bipush 20 dX0_part_46 (by decide)) (seq (p := 48) (q := 65) (r := 66) (blk (seq (p := 48) (q := 56) (r := 65) (blk (seq (p := 48) (q := 51) (r := 56) (p_icmp_ne 56 dX0_part_48 (by decide)) (seq (p := 51) (q := 53) (r := 56) (p_bipush (-4) dX0_part_51 (by decide)) (seq (p := 53) (q := 56) (r := 56) (p_goto 65 dX0_part_53 (by decide)) done)))) (seq (p := 56) (q := 57) (r := 65) (p_aload_n 0 dX0_part_56) (seq (p := 57) (q := 58) (r := 65) (p_aload_n 3 dX0_part_57) (seq (p := 58) (q := 59) (r := 65) (p_iconst 0 dX0_part_58) (seq (p := 59) (q := 62) (r := 65) (p_callG 2 _ (ok_S cs_X0_268 ((R_par l δ 12).1) (Nat.le_of_ble_eq_true rfl) dX0_part_59) (Nat.le_of_ble_eq_true rfl)) (seq (p := 62) (q := 65) (r := 65) (p_callG 2 _ (ok_V 0 cv_X0_190 rfl (M_X0_comes l δ) (Nat.le_of_ble_eq_true rfl) dX0_part_62) (Nat.le_of_ble_eq_true rfl)) done))))))) (seq (p := 65) (q := 66) (r := 66) (p_ireturn dX0_part_65 rfl) done))))))))))))))))))
noncomputable def M_X0_part (l : Launch) (δ : Dl) : Mth l δ yX0_part cX0_part 4 (some .int) 87 := mk (B_X0_part l δ) (by decide)
theorem N_X0_part {l : Launch} {δ : Dl} {o : Nat} {a1 : Int} {a2 : Int} {s : St} : (M_X0_part l δ).1 [.inr (.inr (some o)), .inl a1, .inl a2] s = bres ((B_X0_part l δ).1 [] [some (.inr (.inr (some o))), some (.inl a1), some (.inl a2), none] s) := (mk_eq (hy := by decide) rfl).trans (nrfl rfl)
theorem dX0_kinds_0 : decode cX0_kinds 0 = .ok (.aload_n 0, 1) := by decide +kernel
theorem dX0_kinds_1 : decode cX0_kinds 1 = .ok (.iload_n 1, 1) := by decide +kernel
theorem dX0_kinds_2 : decode cX0_kinds 2 = .ok (.invokevirtual 40, 3) := by decide +kernel
theorem dX0_kinds_5 : decode cX0_kinds 5 = .ok (.ifCond .eq 11, 3) := by decide +kernel
theorem dX0_kinds_8 : decode cX0_kinds 8 = .ok (.aload_n 0, 1) := by decide +kernel
theorem dX0_kinds_9 : decode cX0_kinds 9 = .ok (.iload_n 2, 1) := by decide +kernel
theorem dX0_kinds_10 : decode cX0_kinds 10 = .ok (.invokevirtual 40, 3) := by decide +kernel
theorem dX0_kinds_13 : decode cX0_kinds 13 = .ok (.ifCond .ne 5, 3) := by decide +kernel
theorem dX0_kinds_16 : decode cX0_kinds 16 = .ok (.iconst (-1), 1) := by decide +kernel
theorem dX0_kinds_17 : decode cX0_kinds 17 = .ok (.ireturn, 1) := by decide +kernel
theorem dX0_kinds_18 : decode cX0_kinds 18 = .ok (.iload_n 3, 1) := by decide +kernel
theorem dX0_kinds_19 : decode cX0_kinds 19 = .ok (.i2l, 1) := by decide +kernel
theorem dX0_kinds_20 : decode cX0_kinds 20 = .ok (.lconst 0, 1) := by decide +kernel
theorem dX0_kinds_21 : decode cX0_kinds 21 = .ok (.ldc2_w 290, 3) := by decide +kernel
theorem dX0_kinds_24 : decode cX0_kinds 24 = .ok (.invokestatic 32, 3) := by decide +kernel
theorem dX0_kinds_27 : decode cX0_kinds 27 = .ok (.ifCond .ne 6, 3) := by decide +kernel
theorem dX0_kinds_30 : decode cX0_kinds 30 = .ok (.bipush (-2), 2) := by decide +kernel
theorem dX0_kinds_32 : decode cX0_kinds 32 = .ok (.ireturn, 1) := by decide +kernel
theorem dX0_kinds_33 : decode cX0_kinds 33 = .ok (.aload_n 0, 1) := by decide +kernel
theorem dX0_kinds_34 : decode cX0_kinds 34 = .ok (.getfield 11, 3) := by decide +kernel
theorem dX0_kinds_37 : decode cX0_kinds 37 = .ok (.iload_n 1, 1) := by decide +kernel
theorem dX0_kinds_38 : decode cX0_kinds 38 = .ok (.aaload, 1) := by decide +kernel
theorem dX0_kinds_39 : decode cX0_kinds 39 = .ok (.astore 4, 2) := by decide +kernel
theorem dX0_kinds_41 : decode cX0_kinds 41 = .ok (.aload_n 0, 1) := by decide +kernel
theorem dX0_kinds_42 : decode cX0_kinds 42 = .ok (.getfield 11, 3) := by decide +kernel
theorem dX0_kinds_45 : decode cX0_kinds 45 = .ok (.iload_n 2, 1) := by decide +kernel
theorem dX0_kinds_46 : decode cX0_kinds 46 = .ok (.aaload, 1) := by decide +kernel
theorem dX0_kinds_47 : decode cX0_kinds 47 = .ok (.astore 5, 2) := by decide +kernel
theorem dX0_kinds_49 : decode cX0_kinds 49 = .ok (.aload_n 0, 1) := by decide +kernel
theorem dX0_kinds_50 : decode cX0_kinds 50 = .ok (.aload 4, 2) := by decide +kernel
theorem dX0_kinds_52 : decode cX0_kinds 52 = .ok (.getfield 64, 3) := by decide +kernel
theorem dX0_kinds_55 : decode cX0_kinds 55 = .ok (.aload 5, 2) := by decide +kernel
theorem dX0_kinds_57 : decode cX0_kinds 57 = .ok (.getfield 64, 3) := by decide +kernel
theorem dX0_kinds_60 : decode cX0_kinds 60 = .ok (.iadd, 1) := by decide +kernel
theorem dX0_kinds_61 : decode cX0_kinds 61 = .ok (.putfield 292, 3) := by decide +kernel
theorem dX0_kinds_64 : decode cX0_kinds 64 = .ok (.iconst 0, 1) := by decide +kernel
theorem dX0_kinds_65 : decode cX0_kinds 65 = .ok (.istore 6, 2) := by decide +kernel
theorem dX0_kinds_67 : decode cX0_kinds 67 = .ok (.new 76, 3) := by decide +kernel
theorem dX0_kinds_70 : decode cX0_kinds 70 = .ok (.dup, 1) := by decide +kernel
theorem dX0_kinds_71 : decode cX0_kinds 71 = .ok (.aload 4, 2) := by decide +kernel
theorem dX0_kinds_73 : decode cX0_kinds 73 = .ok (.aload 4, 2) := by decide +kernel
theorem dX0_kinds_75 : decode cX0_kinds 75 = .ok (.invokespecial 78, 3) := by decide +kernel
theorem dX0_kinds_78 : decode cX0_kinds 78 = .ok (.astore 7, 2) := by decide +kernel
theorem dX0_kinds_80 : decode cX0_kinds 80 = .ok (.new 76, 3) := by decide +kernel
theorem dX0_kinds_83 : decode cX0_kinds 83 = .ok (.dup, 1) := by decide +kernel
theorem dX0_kinds_84 : decode cX0_kinds 84 = .ok (.aload 5, 2) := by decide +kernel
theorem dX0_kinds_86 : decode cX0_kinds 86 = .ok (.aload 4, 2) := by decide +kernel
theorem dX0_kinds_88 : decode cX0_kinds 88 = .ok (.invokespecial 78, 3) := by decide +kernel
theorem dX0_kinds_91 : decode cX0_kinds 91 = .ok (.astore 8, 2) := by decide +kernel
theorem dX0_kinds_93 : decode cX0_kinds 93 = .ok (.new 76, 3) := by decide +kernel
theorem dX0_kinds_96 : decode cX0_kinds 96 = .ok (.dup, 1) := by decide +kernel
theorem dX0_kinds_97 : decode cX0_kinds 97 = .ok (.aload 5, 2) := by decide +kernel
theorem dX0_kinds_99 : decode cX0_kinds 99 = .ok (.aload 5, 2) := by decide +kernel
theorem dX0_kinds_101 : decode cX0_kinds 101 = .ok (.invokespecial 78, 3) := by decide +kernel
theorem dX0_kinds_104 : decode cX0_kinds 104 = .ok (.astore 9, 2) := by decide +kernel
theorem dX0_kinds_106 : decode cX0_kinds 106 = .ok (.iconst 0, 1) := by decide +kernel
theorem dX0_kinds_107 : decode cX0_kinds 107 = .ok (.istore 10, 2) := by decide +kernel
theorem dX0_kinds_109 : decode cX0_kinds 109 = .ok (.iload 10, 2) := by decide +kernel
theorem dX0_kinds_111 : decode cX0_kinds 111 = .ok (.aload_n 0, 1) := by decide +kernel
theorem dX0_kinds_112 : decode cX0_kinds 112 = .ok (.getfield 292, 3) := by decide +kernel
theorem dX0_kinds_115 : decode cX0_kinds 115 = .ok (.if_icmp .ge 179, 3) := by decide +kernel
theorem dX0_kinds_118 : decode cX0_kinds 118 = .ok (.aload_n 0, 1) := by decide +kernel
theorem dX0_kinds_119 : decode cX0_kinds 119 = .ok (.getfield 26, 3) := by decide +kernel
theorem dX0_kinds_122 : decode cX0_kinds 122 = .ok (.iload 10, 2) := by decide +kernel
theorem dX0_kinds_124 : decode cX0_kinds 124 = .ok (.bipush (-9), 2) := by decide +kernel
theorem dX0_kinds_126 : decode cX0_kinds 126 = .ok (.iastore, 1) := by decide +kernel
theorem dX0_kinds_127 : decode cX0_kinds 127 = .ok (.iconst 0, 1) := by decide +kernel
theorem dX0_kinds_128 : decode cX0_kinds 128 = .ok (.istore 11, 2) := by decide +kernel
theorem dX0_kinds_130 : decode cX0_kinds 130 = .ok (.iload 11, 2) := by decide +kernel
theorem dX0_kinds_132 : decode cX0_kinds 132 = .ok (.iload 10, 2) := by decide +kernel
theorem dX0_kinds_134 : decode cX0_kinds 134 = .ok (.if_icmp .ge 127, 3) := by decide +kernel
theorem dX0_kinds_137 : decode cX0_kinds 137 = .ok (.aload_n 0, 1) := by decide +kernel
theorem dX0_kinds_138 : decode cX0_kinds 138 = .ok (.getfield 26, 3) := by decide +kernel
theorem dX0_kinds_141 : decode cX0_kinds 141 = .ok (.iload 10, 2) := by decide +kernel
theorem dX0_kinds_143 : decode cX0_kinds 143 = .ok (.iaload, 1) := by decide +kernel
theorem dX0_kinds_144 : decode cX0_kinds 144 = .ok (.bipush (-9), 2) := by decide +kernel
theorem dX0_kinds_146 : decode cX0_kinds 146 = .ok (.if_icmp .ne 115, 3) := by decide +kernel
theorem dX0_kinds_149 : decode cX0_kinds 149 = .ok (.iload 10, 2) := by decide +kernel
theorem dX0_kinds_151 : decode cX0_kinds 151 = .ok (.aload 4, 2) := by decide +kernel
theorem dX0_kinds_153 : decode cX0_kinds 153 = .ok (.getfield 64, 3) := by decide +kernel
theorem dX0_kinds_156 : decode cX0_kinds 156 = .ok (.if_icmp .ge 8, 3) := by decide +kernel
theorem dX0_kinds_159 : decode cX0_kinds 159 = .ok (.aload 7, 2) := by decide +kernel
theorem dX0_kinds_161 : decode cX0_kinds 161 = .ok (.goto 20, 3) := by decide +kernel
theorem dX0_kinds_164 : decode cX0_kinds 164 = .ok (.iload 11, 2) := by decide +kernel
theorem dX0_kinds_166 : decode cX0_kinds 166 = .ok (.aload 4, 2) := by decide +kernel
theorem dX0_kinds_168 : decode cX0_kinds 168 = .ok (.getfield 64, 3) := by decide +kernel
theorem dX0_kinds_171 : decode cX0_kinds 171 = .ok (.if_icmp .ge 8, 3) := by decide +kernel
theorem dX0_kinds_174 : decode cX0_kinds 174 = .ok (.aload 8, 2) := by decide +kernel
theorem dX0_kinds_176 : decode cX0_kinds 176 = .ok (.goto 5, 3) := by decide +kernel
theorem dX0_kinds_179 : decode cX0_kinds 179 = .ok (.aload 9, 2) := by decide +kernel
theorem dX0_kinds_181 : decode cX0_kinds 181 = .ok (.astore 12, 2) := by decide +kernel
theorem dX0_kinds_183 : decode cX0_kinds 183 = .ok (.aload 12, 2) := by decide +kernel
theorem dX0_kinds_185 : decode cX0_kinds 185 = .ok (.iconst 0, 1) := by decide +kernel
theorem dX0_kinds_186 : decode cX0_kinds 186 = .ok (.iload 10, 2) := by decide +kernel
theorem dX0_kinds_188 : decode cX0_kinds 188 = .ok (.aload 4, 2) := by decide +kernel
theorem dX0_kinds_190 : decode cX0_kinds 190 = .ok (.getfield 64, 3) := by decide +kernel
theorem dX0_kinds_193 : decode cX0_kinds 193 = .ok (.if_icmp .ge 8, 3) := by decide +kernel
theorem dX0_kinds_196 : decode cX0_kinds 196 = .ok (.iload 10, 2) := by decide +kernel
theorem dX0_kinds_198 : decode cX0_kinds 198 = .ok (.goto 11, 3) := by decide +kernel
theorem dX0_kinds_201 : decode cX0_kinds 201 = .ok (.iload 10, 2) := by decide +kernel
theorem dX0_kinds_203 : decode cX0_kinds 203 = .ok (.aload 4, 2) := by decide +kernel
theorem dX0_kinds_205 : decode cX0_kinds 205 = .ok (.getfield 64, 3) := by decide +kernel
theorem dX0_kinds_208 : decode cX0_kinds 208 = .ok (.isub, 1) := by decide +kernel
theorem dX0_kinds_209 : decode cX0_kinds 209 = .ok (.iload 11, 2) := by decide +kernel
theorem dX0_kinds_211 : decode cX0_kinds 211 = .ok (.aload 4, 2) := by decide +kernel
theorem dX0_kinds_213 : decode cX0_kinds 213 = .ok (.getfield 64, 3) := by decide +kernel
theorem dX0_kinds_216 : decode cX0_kinds 216 = .ok (.if_icmp .ge 8, 3) := by decide +kernel
theorem dX0_kinds_219 : decode cX0_kinds 219 = .ok (.iload 11, 2) := by decide +kernel
theorem dX0_kinds_221 : decode cX0_kinds 221 = .ok (.goto 11, 3) := by decide +kernel
theorem dX0_kinds_224 : decode cX0_kinds 224 = .ok (.iload 11, 2) := by decide +kernel
theorem dX0_kinds_226 : decode cX0_kinds 226 = .ok (.aload 4, 2) := by decide +kernel
theorem dX0_kinds_228 : decode cX0_kinds 228 = .ok (.getfield 64, 3) := by decide +kernel
theorem dX0_kinds_231 : decode cX0_kinds 231 = .ok (.isub, 1) := by decide +kernel
theorem dX0_kinds_232 : decode cX0_kinds 232 = .ok (.iload_n 3, 1) := by decide +kernel
theorem dX0_kinds_233 : decode cX0_kinds 233 = .ok (.iconst 1, 1) := by decide +kernel
theorem dX0_kinds_234 : decode cX0_kinds 234 = .ok (.iadd, 1) := by decide +kernel
theorem dX0_kinds_235 : decode cX0_kinds 235 = .ok (.invokevirtual 138, 3) := by decide +kernel
theorem dX0_kinds_238 : decode cX0_kinds 238 = .ok (.ifCond .eq 17, 3) := by decide +kernel
theorem dX0_kinds_241 : decode cX0_kinds 241 = .ok (.aload_n 0, 1) := by decide +kernel
theorem dX0_kinds_242 : decode cX0_kinds 242 = .ok (.getfield 26, 3) := by decide +kernel
theorem dX0_kinds_245 : decode cX0_kinds 245 = .ok (.iload 10, 2) := by decide +kernel
theorem dX0_kinds_247 : decode cX0_kinds 247 = .ok (.aload_n 0, 1) := by decide +kernel
theorem dX0_kinds_248 : decode cX0_kinds 248 = .ok (.getfield 26, 3) := by decide +kernel
theorem dX0_kinds_251 : decode cX0_kinds 251 = .ok (.iload 11, 2) := by decide +kernel
theorem dX0_kinds_253 : decode cX0_kinds 253 = .ok (.iaload, 1) := by decide +kernel
theorem dX0_kinds_254 : decode cX0_kinds 254 = .ok (.iastore, 1) := by decide +kernel
theorem dX0_kinds_255 : decode cX0_kinds 255 = .ok (.iinc 11 1, 3) := by decide +kernel
theorem dX0_kinds_258 : decode cX0_kinds 258 = .ok (.goto (-128), 3) := by decide +kernel
theorem dX0_kinds_261 : decode cX0_kinds 261 = .ok (.aload_n 0, 1) := by decide +kernel
theorem dX0_kinds_262 : decode cX0_kinds 262 = .ok (.getfield 26, 3) := by decide +kernel
theorem dX0_kinds_265 : decode cX0_kinds 265 = .ok (.iload 10, 2) := by decide +kernel
theorem dX0_kinds_267 : decode cX0_kinds 267 = .ok (.iaload, 1) := by decide +kernel
theorem dX0_kinds_268 : decode cX0_kinds 268 = .ok (.bipush (-9), 2) := by decide +kernel
theorem dX0_kinds_270 : decode cX0_kinds 270 = .ok (.if_icmp .eq 6, 3) := by decide +kernel
theorem dX0_kinds_273 : decode cX0_kinds 273 = .ok (.goto 15, 3) := by decide +kernel
theorem dX0_kinds_276 : decode cX0_kinds 276 = .ok (.aload_n 0, 1) := by decide +kernel
theorem dX0_kinds_277 : decode cX0_kinds 277 = .ok (.getfield 26, 3) := by decide +kernel
theorem dX0_kinds_280 : decode cX0_kinds 280 = .ok (.iload 10, 2) := by decide +kernel
theorem dX0_kinds_282 : decode cX0_kinds 282 = .ok (.iload 6, 2) := by decide +kernel
theorem dX0_kinds_284 : decode cX0_kinds 284 = .ok (.iastore, 1) := by decide +kernel
theorem dX0_kinds_285 : decode cX0_kinds 285 = .ok (.iinc 6 1, 3) := by decide +kernel
theorem dX0_kinds_288 : decode cX0_kinds 288 = .ok (.iinc 10 1, 3) := by decide +kernel
theorem dX0_kinds_291 : decode cX0_kinds 291 = .ok (.goto (-182), 3) := by decide +kernel
theorem dX0_kinds_294 : decode cX0_kinds 294 = .ok (.iload 6, 2) := by decide +kernel
theorem dX0_kinds_296 : decode cX0_kinds 296 = .ok (.ireturn, 1) := by decide +kernel
noncomputable def C_X0_kinds_L130 (l : Launch) (δ : Dl) : Seg (l, δ, yX0_kinds, 16, (some .int), cX0_kinds, 13) 130 261 :=
  seq (p := 130) (q := 132) (r := 261) (p_iload 11 dX0_kinds_130) (seq (p := 132) (q := 134) (r := 261) (p_iload 10 dX0_kinds_132) (seq (p := 134) (q := 137) (r := 261) (p_icmp_ge 261 dX0_kinds_134 (by decide)) (seq (p := 137) (q := 138) (r := 261) (p_aload_n 0 dX0_kinds_137) (seq (p := 138) (q := 141) (r := 261) (p_get [(0, 10)] (alL1 fl_X0_26_0) dX0_kinds_138) (seq (p := 141) (q := 143) (r := 261) (p_iload 10 dX0_kinds_141) (seq (p := 143) (q := 144) (r := 261) (p_iald dX0_kinds_143) (seq (p := 144) (q := 146) (r := 261) (p_bipush (-9) dX0_kinds_144 (by decide)) (seq (p := 146) (q := 149) (r := 261) (p_icmp_ne 261 dX0_kinds_146 (by decide)) (seq (p := 149) (q := 151) (r := 261) (p_iload 10 dX0_kinds_149) (seq (p := 151) (q := 153) (r := 261) (p_aload 4 dX0_kinds_151) (seq (p := 153) (q := 156) (r := 261) (p_get [(2, 0)] (alL1 fl_X0_64_2) dX0_kinds_153) (seq (p := 156) (q := 181) (r := 261) (blk (seq (p := 156) (q := 164) (r := 181) (blk (seq (p := 156) (q := 159) (r := 164) (p_icmp_ge 164 dX0_kinds_156 (by decide)) (seq (p := 159) (q := 161) (r := 164) (p_aload 7 dX0_kinds_159) (seq (p := 161) (q := 164) (r := 164) (p_goto 181 dX0_kinds_161 (by decide)) done)))) (seq (p := 164) (q := 166) (r := 181) (p_iload 11 dX0_kinds_164) (seq (p := 166) (q := 168) (r := 181) (p_aload 4 dX0_kinds_166) (seq (p := 168) (q := 171) (r := 181) (p_get [(2, 0)] (alL1 fl_X0_64_2) dX0_kinds_168) (seq (p := 171) (q := 179) (r := 181) (blk (seq (p := 171) (q := 174) (r := 179) (p_icmp_ge 179 dX0_kinds_171 (by decide)) (seq (p := 174) (q := 176) (r := 179) (p_aload 8 dX0_kinds_174) (seq (p := 176) (q := 179) (r := 179) (p_goto 181 dX0_kinds_176 (by decide)) done)))) (seq (p := 179) (q := 181) (r := 181) (p_aload 9 dX0_kinds_179) done))))))) (seq (p := 181) (q := 183) (r := 261) (p_astore 12 dX0_kinds_181 (Nat.le_of_ble_eq_true rfl)) (seq (p := 183) (q := 185) (r := 261) (p_aload 12 dX0_kinds_183) (seq (p := 185) (q := 186) (r := 261) (p_iconst 0 dX0_kinds_185) (seq (p := 186) (q := 188) (r := 261) (p_iload 10 dX0_kinds_186) (seq (p := 188) (q := 190) (r := 261) (p_aload 4 dX0_kinds_188) (seq (p := 190) (q := 193) (r := 261) (p_get [(2, 0)] (alL1 fl_X0_64_2) dX0_kinds_190) (seq (p := 193) (q := 209) (r := 261) (blk (seq (p := 193) (q := 201) (r := 209) (blk (seq (p := 193) (q := 196) (r := 201) (p_icmp_ge 201 dX0_kinds_193 (by decide)) (seq (p := 196) (q := 198) (r := 201) (p_iload 10 dX0_kinds_196) (seq (p := 198) (q := 201) (r := 201) (p_goto 209 dX0_kinds_198 (by decide)) done)))) (seq (p := 201) (q := 203) (r := 209) (p_iload 10 dX0_kinds_201) (seq (p := 203) (q := 205) (r := 209) (p_aload 4 dX0_kinds_203) (seq (p := 205) (q := 208) (r := 209) (p_get [(2, 0)] (alL1 fl_X0_64_2) dX0_kinds_205) (seq (p := 208) (q := 209) (r := 209) (p_isub dX0_kinds_208) done)))))) (seq (p := 209) (q := 211) (r := 261) (p_iload 11 dX0_kinds_209) (seq (p := 211) (q := 213) (r := 261) (p_aload 4 dX0_kinds_211) (seq (p := 213) (q := 216) (r := 261) (p_get [(2, 0)] (alL1 fl_X0_64_2) dX0_kinds_213) (seq (p := 216) (q := 232) (r := 261) (blk (seq (p := 216) (q := 224) (r := 232) (blk (seq (p := 216) (q := 219) (r := 224) (p_icmp_ge 224 dX0_kinds_216 (by decide)) (seq (p := 219) (q := 221) (r := 224) (p_iload 11 dX0_kinds_219) (seq (p := 221) (q := 224) (r := 224) (p_goto 232 dX0_kinds_221 (by decide)) done)))) (seq (p := 224) (q := 226) (r := 232) (p_iload 11 dX0_kinds_224) (seq (p := 226) (q := 228) (r := 232) (p_aload 4 dX0_kinds_226) (seq (p := 228) (q := 231) (r := 232) (p_get [(2, 0)] (alL1 fl_X0_64_2) dX0_kinds_228) (seq (p := 231) (q := 232) (r := 232) (p_isub dX0_kinds_231) done)))))) (seq (p := 232) (q := 233) (r := 261) (p_iload_n 3 dX0_kinds_232) (seq (p := 233) (q := 234) (r := 261) (p_iconst 1 dX0_kinds_233) (seq (p := 234) (q := 235) (r := 261) (p_iadd dX0_kinds_234) (seq (p := 235) (q := 238) (r := 261) (p_callG 5 _ (ok_V 3 cv_X0_138 rfl ((R_kept l δ 12).2.2) (Nat.le_of_ble_eq_true rfl) dX0_kinds_235) (Nat.le_of_ble_eq_true rfl)) (seq (p := 238) (q := 255) (r := 261) (blk (seq (p := 238) (q := 241) (r := 255) (p_if_eq 255 dX0_kinds_238 (by decide)) (seq (p := 241) (q := 242) (r := 255) (p_aload_n 0 dX0_kinds_241) (seq (p := 242) (q := 245) (r := 255) (p_get [(0, 10)] (alL1 fl_X0_26_0) dX0_kinds_242) (seq (p := 245) (q := 247) (r := 255) (p_iload 10 dX0_kinds_245) (seq (p := 247) (q := 248) (r := 255) (p_aload_n 0 dX0_kinds_247) (seq (p := 248) (q := 251) (r := 255) (p_get [(0, 10)] (alL1 fl_X0_26_0) dX0_kinds_248) (seq (p := 251) (q := 253) (r := 255) (p_iload 11 dX0_kinds_251) (seq (p := 253) (q := 254) (r := 255) (p_iald dX0_kinds_253) (seq (p := 254) (q := 255) (r := 255) (p_iast dX0_kinds_254) done)))))))))) (seq (p := 255) (q := 258) (r := 261) (p_iinc 11 1 dX0_kinds_255 (Nat.le_of_ble_eq_true rfl)) (seq (p := 258) (q := 258) (r := 261) (er [true, false, false, true, true, false, true, true, true, true, true, true, false]) (seq (p := 258) (q := 261) (r := 261) (p_goto 130 dX0_kinds_258 (by decide)) done)))))))))))))))))))))))))))))))
noncomputable def B_X0_kinds_L130 (l : Launch) (δ : Dl) : Seg (l, δ, yX0_kinds, 16, (some .int), cX0_kinds, 13) 130 261 := C_X0_kinds_L130 l δ
theorem L_X0_kinds_130 {l : Launch} {δ : Dl} {st : Stk} {L : Lc} {s : St} : (B_X0_kinds_L130 l δ).1 st L s = (C_X0_kinds_L130 l δ).1 st L s := nrfl rfl
noncomputable def C_X0_kinds_L109 (l : Launch) (δ : Dl) : Seg (l, δ, yX0_kinds, 16, (some .int), cX0_kinds, 13) 109 294 :=
  seq (p := 109) (q := 111) (r := 294) (p_iload 10 dX0_kinds_109) (seq (p := 111) (q := 112) (r := 294) (p_aload_n 0 dX0_kinds_111) (seq (p := 112) (q := 115) (r := 294) (p_get [(0, 11)] (alL1 fl_X0_292_0) dX0_kinds_112) (seq (p := 115) (q := 118) (r := 294) (p_icmp_ge 294 dX0_kinds_115 (by decide)) (seq (p := 118) (q := 119) (r := 294) (p_aload_n 0 dX0_kinds_118) (seq (p := 119) (q := 122) (r := 294) (p_get [(0, 10)] (alL1 fl_X0_26_0) dX0_kinds_119) (seq (p := 122) (q := 124) (r := 294) (p_iload 10 dX0_kinds_122) (seq (p := 124) (q := 126) (r := 294) (p_bipush (-9) dX0_kinds_124 (by decide)) (seq (p := 126) (q := 127) (r := 294) (p_iast dX0_kinds_126) (seq (p := 127) (q := 128) (r := 294) (p_iconst 0 dX0_kinds_127) (seq (p := 128) (q := 130) (r := 294) (p_istore 11 dX0_kinds_128 (Nat.le_of_ble_eq_true rfl)) (seq (p := 130) (q := 261) (r := 294) (blk (seq (p := 130) (q := 130) (r := 261) (er [true, false, false, true, true, false, true, true, true, true, true, true, false]) (seq (p := 130) (q := 261) (r := 261) (lp (B_X0_kinds_L130 l δ)) done))) (seq (p := 261) (q := 262) (r := 294) (p_aload_n 0 dX0_kinds_261) (seq (p := 262) (q := 265) (r := 294) (p_get [(0, 10)] (alL1 fl_X0_26_0) dX0_kinds_262) (seq (p := 265) (q := 267) (r := 294) (p_iload 10 dX0_kinds_265) (seq (p := 267) (q := 268) (r := 294) (p_iald dX0_kinds_267) (seq (p := 268) (q := 270) (r := 294) (p_bipush (-9) dX0_kinds_268 (by decide)) (seq (p := 270) (q := 288) (r := 294) (blk (seq (p := 270) (q := 276) (r := 288) (blk (seq (p := 270) (q := 273) (r := 276) (p_icmp_eq 276 dX0_kinds_270 (by decide)) (seq (p := 273) (q := 276) (r := 276) (p_goto 288 dX0_kinds_273 (by decide)) done))) (seq (p := 276) (q := 277) (r := 288) (p_aload_n 0 dX0_kinds_276) (seq (p := 277) (q := 280) (r := 288) (p_get [(0, 10)] (alL1 fl_X0_26_0) dX0_kinds_277) (seq (p := 280) (q := 282) (r := 288) (p_iload 10 dX0_kinds_280) (seq (p := 282) (q := 284) (r := 288) (p_iload 6 dX0_kinds_282) (seq (p := 284) (q := 285) (r := 288) (p_iast dX0_kinds_284) (seq (p := 285) (q := 288) (r := 288) (p_iinc 6 1 dX0_kinds_285 (Nat.le_of_ble_eq_true rfl)) done)))))))) (seq (p := 288) (q := 291) (r := 294) (p_iinc 10 1 dX0_kinds_288 (Nat.le_of_ble_eq_true rfl)) (seq (p := 291) (q := 291) (r := 294) (er [true, false, false, true, true, false, true, true, true, true, true, false, false]) (seq (p := 291) (q := 294) (r := 294) (p_goto 109 dX0_kinds_291 (by decide)) done))))))))))))))))))))
noncomputable def B_X0_kinds_L109 (l : Launch) (δ : Dl) : Seg (l, δ, yX0_kinds, 16, (some .int), cX0_kinds, 13) 109 294 := C_X0_kinds_L109 l δ
theorem L_X0_kinds_109 {l : Launch} {δ : Dl} {st : Stk} {L : Lc} {s : St} : (B_X0_kinds_L109 l δ).1 st L s = (C_X0_kinds_L109 l δ).1 st L s := nrfl rfl
noncomputable def B_X0_kinds (l : Launch) (δ : Dl) : Seg (l, δ, yX0_kinds, 16, (some .int), cX0_kinds, 13) 0 297 :=
  seq (p := 0) (q := 1) (r := 297) (p_aload_n 0 dX0_kinds_0) (seq (p := 1) (q := 2) (r := 297) (p_iload_n 1 dX0_kinds_1) (seq (p := 2) (q := 5) (r := 297) (p_callG 2 _ (ok_V 0 cv_X0_40 rfl (M_X0_isWorld l δ) (Nat.le_of_ble_eq_true rfl) dX0_kinds_2) (Nat.le_of_ble_eq_true rfl)) (seq (p := 5) (q := 18) (r := 297) (blk (seq (p := 5) (q := 16) (r := 18) (blk (seq (p := 5) (q := 8) (r := 16) (p_if_eq 16 dX0_kinds_5 (by decide)) (seq (p := 8) (q := 9) (r := 16) (p_aload_n 0 dX0_kinds_8) (seq (p := 9) (q := 10) (r := 16) (p_iload_n 2 dX0_kinds_9) (seq (p := 10) (q := 13) (r := 16) (p_callG 2 _ (ok_V 0 cv_X0_40 rfl (M_X0_isWorld l δ) (Nat.le_of_ble_eq_true rfl) dX0_kinds_10) (Nat.le_of_ble_eq_true rfl)) (seq (p := 13) (q := 16) (r := 16) (p_if_ne 18 dX0_kinds_13 (by decide)) done)))))) (seq (p := 16) (q := 17) (r := 18) (p_iconst (-1) dX0_kinds_16) (seq (p := 17) (q := 18) (r := 18) (p_ireturn dX0_kinds_17 rfl) done)))) (seq (p := 18) (q := 19) (r := 297) (p_iload_n 3 dX0_kinds_18) (seq (p := 19) (q := 20) (r := 297) (p_i2l dX0_kinds_19) (seq (p := 20) (q := 21) (r := 297) (p_lconst0 dX0_kinds_20) (seq (p := 21) (q := 24) (r := 297) (p_ldc2 2 (okc q979) (by decide) dX0_kinds_21) (seq (p := 24) (q := 27) (r := 297) (p_callG 3 _ (ok_S cs_X0_32 (M_X0_isIn l δ) (Nat.le_of_ble_eq_true rfl) dX0_kinds_24) (Nat.le_of_ble_eq_true rfl)) (seq (p := 27) (q := 33) (r := 297) (blk (seq (p := 27) (q := 30) (r := 33) (p_if_ne 33 dX0_kinds_27 (by decide)) (seq (p := 30) (q := 32) (r := 33) (p_bipush (-2) dX0_kinds_30 (by decide)) (seq (p := 32) (q := 33) (r := 33) (p_ireturn dX0_kinds_32 rfl) done)))) (seq (p := 33) (q := 34) (r := 297) (p_aload_n 0 dX0_kinds_33) (seq (p := 34) (q := 37) (r := 297) (p_get [(0, 0)] (alL1 fl_X0_11_0) dX0_kinds_34) (seq (p := 37) (q := 38) (r := 297) (p_iload_n 1 dX0_kinds_37) (seq (p := 38) (q := 39) (r := 297) (p_aald dX0_kinds_38) (seq (p := 39) (q := 41) (r := 297) (p_astore 4 dX0_kinds_39 (Nat.le_of_ble_eq_true rfl)) (seq (p := 41) (q := 42) (r := 297) (p_aload_n 0 dX0_kinds_41) (seq (p := 42) (q := 45) (r := 297) (p_get [(0, 0)] (alL1 fl_X0_11_0) dX0_kinds_42) (seq (p := 45) (q := 46) (r := 297) (p_iload_n 2 dX0_kinds_45) (seq (p := 46) (q := 47) (r := 297) (p_aald dX0_kinds_46) (seq (p := 47) (q := 49) (r := 297) (p_astore 5 dX0_kinds_47 (Nat.le_of_ble_eq_true rfl)) (seq (p := 49) (q := 50) (r := 297) (p_aload_n 0 dX0_kinds_49) (seq (p := 50) (q := 52) (r := 297) (p_aload 4 dX0_kinds_50) (seq (p := 52) (q := 55) (r := 297) (p_get [(2, 0)] (alL1 fl_X0_64_2) dX0_kinds_52) (seq (p := 55) (q := 57) (r := 297) (p_aload 5 dX0_kinds_55) (seq (p := 57) (q := 60) (r := 297) (p_get [(2, 0)] (alL1 fl_X0_64_2) dX0_kinds_57) (seq (p := 60) (q := 61) (r := 297) (p_iadd dX0_kinds_60) (seq (p := 61) (q := 64) (r := 297) (p_put [(0, 11)] .int (alP1 fp_X0_292_0) dX0_kinds_61) (seq (p := 64) (q := 65) (r := 297) (p_iconst 0 dX0_kinds_64) (seq (p := 65) (q := 67) (r := 297) (p_istore 6 dX0_kinds_65 (Nat.le_of_ble_eq_true rfl)) (seq (p := 67) (q := 70) (r := 297) (p_new 3 ck3 tyX3 tyX3_ok f0_3 f0_3_ok (okc q289) (okc q290) (okc q93) dX0_kinds_67) (seq (p := 70) (q := 71) (r := 297) (p_dup dX0_kinds_70) (seq (p := 71) (q := 73) (r := 297) (p_aload 4 dX0_kinds_71) (seq (p := 73) (q := 75) (r := 297) (p_aload 4 dX0_kinds_73) (seq (p := 75) (q := 78) (r := 297) (p_callG 3 _ (ok_I ci_X0_78 (M_X3_init l δ) (Nat.le_of_ble_eq_true rfl) dX0_kinds_75) (Nat.le_of_ble_eq_true rfl)) (seq (p := 78) (q := 80) (r := 297) (p_astore 7 dX0_kinds_78 (Nat.le_of_ble_eq_true rfl)) (seq (p := 80) (q := 83) (r := 297) (p_new 3 ck3 tyX3 tyX3_ok f0_3 f0_3_ok (okc q289) (okc q290) (okc q93) dX0_kinds_80) (seq (p := 83) (q := 84) (r := 297) (p_dup dX0_kinds_83) (seq (p := 84) (q := 86) (r := 297) (p_aload 5 dX0_kinds_84) (seq (p := 86) (q := 88) (r := 297) (p_aload 4 dX0_kinds_86) (seq (p := 88) (q := 91) (r := 297) (p_callG 3 _ (ok_I ci_X0_78 (M_X3_init l δ) (Nat.le_of_ble_eq_true rfl) dX0_kinds_88) (Nat.le_of_ble_eq_true rfl)) (seq (p := 91) (q := 93) (r := 297) (p_astore 8 dX0_kinds_91 (Nat.le_of_ble_eq_true rfl)) (seq (p := 93) (q := 96) (r := 297) (p_new 3 ck3 tyX3 tyX3_ok f0_3 f0_3_ok (okc q289) (okc q290) (okc q93) dX0_kinds_93) (seq (p := 96) (q := 97) (r := 297) (p_dup dX0_kinds_96) (seq (p := 97) (q := 99) (r := 297) (p_aload 5 dX0_kinds_97) (seq (p := 99) (q := 101) (r := 297) (p_aload 5 dX0_kinds_99) (seq (p := 101) (q := 104) (r := 297) (p_callG 3 _ (ok_I ci_X0_78 (M_X3_init l δ) (Nat.le_of_ble_eq_true rfl) dX0_kinds_101) (Nat.le_of_ble_eq_true rfl)) (seq (p := 104) (q := 106) (r := 297) (p_astore 9 dX0_kinds_104 (Nat.le_of_ble_eq_true rfl)) (seq (p := 106) (q := 107) (r := 297) (p_iconst 0 dX0_kinds_106) (seq (p := 107) (q := 109) (r := 297) (p_istore 10 dX0_kinds_107 (Nat.le_of_ble_eq_true rfl)) (seq (p := 109) (q := 294) (r := 297) (blk (seq (p := 109) (q := 109) (r := 294) (er [true, false, false, true, true, false, true, true, true, true, true, false, false]) (seq (p := 109) (q := 294) (r := 294) (lp (B_X0_kinds_L109 l δ)) done))) (seq (p := 294) (q := 296) (r := 297) (p_iload 6 dX0_kinds_294) (seq (p := 296) (q := 297) (r := 297) (p_ireturn dX0_kinds_296 rfl) done)))))))))))))))))))))))))))))))))))))))))))))))))))
noncomputable def M_X0_kinds (l : Launch) (δ : Dl) : Mth l δ yX0_kinds cX0_kinds 13 (some .int) 16 := mk (B_X0_kinds l δ) (by decide)
theorem N_X0_kinds {l : Launch} {δ : Dl} {o : Nat} {a1 : Int} {a2 : Int} {a3 : Int} {s : St} : (M_X0_kinds l δ).1 [.inr (.inr (some o)), .inl a1, .inl a2, .inl a3] s = bres ((B_X0_kinds l δ).1 [] [some (.inr (.inr (some o))), some (.inl a1), some (.inl a2), some (.inl a3), none, none, none, none, none, none, none, none, none] s) := (mk_eq (hy := by decide) rfl).trans (nrfl rfl)
theorem dX0_kind_0 : decode cX0_kind 0 = .ok (.iload_n 1, 1) := by decide +kernel
theorem dX0_kind_1 : decode cX0_kind 1 = .ok (.i2l, 1) := by decide +kernel
theorem dX0_kind_2 : decode cX0_kind 2 = .ok (.lconst 0, 1) := by decide +kernel
theorem dX0_kind_3 : decode cX0_kind 3 = .ok (.aload_n 0, 1) := by decide +kernel
theorem dX0_kind_4 : decode cX0_kind 4 = .ok (.getfield 292, 3) := by decide +kernel
theorem dX0_kind_7 : decode cX0_kind 7 = .ok (.i2l, 1) := by decide +kernel
theorem dX0_kind_8 : decode cX0_kind 8 = .ok (.lconst 1, 1) := by decide +kernel
theorem dX0_kind_9 : decode cX0_kind 9 = .ok (.lsub, 1) := by decide +kernel
theorem dX0_kind_10 : decode cX0_kind 10 = .ok (.invokestatic 32, 3) := by decide +kernel
theorem dX0_kind_13 : decode cX0_kind 13 = .ok (.ifCond .eq 12, 3) := by decide +kernel
theorem dX0_kind_16 : decode cX0_kind 16 = .ok (.aload_n 0, 1) := by decide +kernel
theorem dX0_kind_17 : decode cX0_kind 17 = .ok (.getfield 26, 3) := by decide +kernel
theorem dX0_kind_20 : decode cX0_kind 20 = .ok (.iload_n 1, 1) := by decide +kernel
theorem dX0_kind_21 : decode cX0_kind 21 = .ok (.iaload, 1) := by decide +kernel
theorem dX0_kind_22 : decode cX0_kind 22 = .ok (.goto 4, 3) := by decide +kernel
theorem dX0_kind_25 : decode cX0_kind 25 = .ok (.iconst (-1), 1) := by decide +kernel
theorem dX0_kind_26 : decode cX0_kind 26 = .ok (.ireturn, 1) := by decide +kernel
noncomputable def B_X0_kind (l : Launch) (δ : Dl) : Seg (l, δ, yX0_kind, 1, (some .int), cX0_kind, 2) 0 27 :=
  seq (p := 0) (q := 1) (r := 27) (p_iload_n 1 dX0_kind_0) (seq (p := 1) (q := 2) (r := 27) (p_i2l dX0_kind_1) (seq (p := 2) (q := 3) (r := 27) (p_lconst0 dX0_kind_2) (seq (p := 3) (q := 4) (r := 27) (p_aload_n 0 dX0_kind_3) (seq (p := 4) (q := 7) (r := 27) (p_get [(0, 11)] (alL1 fl_X0_292_0) dX0_kind_4) (seq (p := 7) (q := 8) (r := 27) (p_i2l dX0_kind_7) (seq (p := 8) (q := 9) (r := 27) (p_lconst1 dX0_kind_8) (seq (p := 9) (q := 10) (r := 27) (p_lsub dX0_kind_9) (seq (p := 10) (q := 13) (r := 27) (p_callG 3 _ (ok_S cs_X0_32 (M_X0_isIn l δ) (Nat.le_of_ble_eq_true rfl) dX0_kind_10) (Nat.le_of_ble_eq_true rfl)) (seq (p := 13) (q := 26) (r := 27) (blk (seq (p := 13) (q := 25) (r := 26) (blk (seq (p := 13) (q := 16) (r := 25) (p_if_eq 25 dX0_kind_13 (by decide)) (seq (p := 16) (q := 17) (r := 25) (p_aload_n 0 dX0_kind_16) (seq (p := 17) (q := 20) (r := 25) (p_get [(0, 10)] (alL1 fl_X0_26_0) dX0_kind_17) (seq (p := 20) (q := 21) (r := 25) (p_iload_n 1 dX0_kind_20) (seq (p := 21) (q := 22) (r := 25) (p_iald dX0_kind_21) (seq (p := 22) (q := 25) (r := 25) (p_goto 26 dX0_kind_22 (by decide)) done))))))) (seq (p := 25) (q := 26) (r := 26) (p_iconst (-1) dX0_kind_25) done))) (seq (p := 26) (q := 27) (r := 27) (p_ireturn dX0_kind_26 rfl) done))))))))))
noncomputable def M_X0_kind (l : Launch) (δ : Dl) : Mth l δ yX0_kind cX0_kind 2 (some .int) 1 := mk (B_X0_kind l δ) (by decide)
theorem N_X0_kind {l : Launch} {δ : Dl} {o : Nat} {a1 : Int} {s : St} : (M_X0_kind l δ).1 [.inr (.inr (some o)), .inl a1] s = bres ((B_X0_kind l δ).1 [] [some (.inr (.inr (some o))), some (.inl a1)] s) := (mk_eq (hy := by decide) rfl).trans (nrfl rfl)
theorem dX16_init_0 : decode cX16_init 0 = .ok (.aload_n 0, 1) := by decide +kernel
theorem dX16_init_1 : decode cX16_init 1 = .ok (.aload_n 1, 1) := by decide +kernel
theorem dX16_init_2 : decode cX16_init 2 = .ok (.aload_n 2, 1) := by decide +kernel
theorem dX16_init_3 : decode cX16_init 3 = .ok (.aload_n 1, 1) := by decide +kernel
theorem dX16_init_4 : decode cX16_init 4 = .ok (.getfield 3, 3) := by decide +kernel
theorem dX16_init_7 : decode cX16_init 7 = .ok (.aload_n 1, 1) := by decide +kernel
theorem dX16_init_8 : decode cX16_init 8 = .ok (.getfield 3, 3) := by decide +kernel
theorem dX16_init_11 : decode cX16_init 11 = .ok (.aload_n 2, 1) := by decide +kernel
theorem dX16_init_12 : decode cX16_init 12 = .ok (.getfield 3, 3) := by decide +kernel
theorem dX16_init_15 : decode cX16_init 15 = .ok (.iadd, 1) := by decide +kernel
theorem dX16_init_16 : decode cX16_init 16 = .ok (.invokespecial 9, 3) := by decide +kernel
theorem dX16_init_19 : decode cX16_init 19 = .ok (.aload_n 0, 1) := by decide +kernel
theorem dX16_init_20 : decode cX16_init 20 = .ok (.sipush 288, 3) := by decide +kernel
theorem dX16_init_23 : decode cX16_init 23 = .ok (.newarray .int, 2) := by decide +kernel
theorem dX16_init_25 : decode cX16_init 25 = .ok (.putfield 15, 3) := by decide +kernel
theorem dX16_init_28 : decode cX16_init 28 = .ok (.return_, 1) := by decide +kernel
noncomputable def B_X16_init (l : Launch) (δ : Dl) : Seg (l, δ, yX16_init, 2, none, cX16_init, 3) 0 29 :=
  seq (p := 0) (q := 1) (r := 29) (p_aload_n 0 dX16_init_0) (seq (p := 1) (q := 2) (r := 29) (p_aload_n 1 dX16_init_1) (seq (p := 2) (q := 3) (r := 29) (p_aload_n 2 dX16_init_2) (seq (p := 3) (q := 4) (r := 29) (p_aload_n 1 dX16_init_3) (seq (p := 4) (q := 7) (r := 29) (p_get [(2, 0)] (alL1 fl_X16_3_2) dX16_init_4) (seq (p := 7) (q := 8) (r := 29) (p_aload_n 1 dX16_init_7) (seq (p := 8) (q := 11) (r := 29) (p_get [(2, 0)] (alL1 fl_X16_3_2) dX16_init_8) (seq (p := 11) (q := 12) (r := 29) (p_aload_n 2 dX16_init_11) (seq (p := 12) (q := 15) (r := 29) (p_get [(2, 0)] (alL1 fl_X16_3_2) dX16_init_12) (seq (p := 15) (q := 16) (r := 29) (p_iadd dX16_init_15) (seq (p := 16) (q := 19) (r := 29) (p_callG 5 _ (ok_I ci_X16_9 (M_X15_init l δ) (Nat.le_of_ble_eq_true rfl) dX16_init_16) (Nat.le_of_ble_eq_true rfl)) (seq (p := 19) (q := 20) (r := 29) (p_aload_n 0 dX16_init_19) (seq (p := 20) (q := 23) (r := 29) (p_sipush 288 dX16_init_20 (by decide)) (seq (p := 23) (q := 25) (r := 29) (p_newa 0 (Nat.le_of_ble_eq_true rfl) dX16_init_23) (seq (p := 25) (q := 28) (r := 29) (p_putF [(14, 7)] (.array .int) (alF1 ff_X16_15_14) rfl dX16_init_25) (seq (p := 28) (q := 29) (r := 29) (p_return dX16_init_28 rfl) done)))))))))))))))
noncomputable def M_X16_init (l : Launch) (δ : Dl) : Mth l δ yX16_init cX16_init 3 none 2 := mk (B_X16_init l δ) (by decide)
theorem N_X16_init {l : Launch} {δ : Dl} {o : Nat} {a1 : Option Nat} {a2 : Option Nat} {s : St} : (M_X16_init l δ).1 [.inr (.inr (some o)), .inr (.inr a1), .inr (.inr a2)] s = bres ((B_X16_init l δ).1 [] [some (.inr (.inr (some o))), some (.inr (.inr a1)), some (.inr (.inr a2))] s) := (mk_eq (hy := by decide) rfl).trans (nrfl rfl)
theorem dX0_colour_0 : decode cX0_colour 0 = .ok (.aload_n 0, 1) := by decide +kernel
theorem dX0_colour_1 : decode cX0_colour 1 = .ok (.iload_n 1, 1) := by decide +kernel
theorem dX0_colour_2 : decode cX0_colour 2 = .ok (.invokevirtual 40, 3) := by decide +kernel
theorem dX0_colour_5 : decode cX0_colour 5 = .ok (.ifCond .eq 11, 3) := by decide +kernel
theorem dX0_colour_8 : decode cX0_colour 8 = .ok (.aload_n 0, 1) := by decide +kernel
theorem dX0_colour_9 : decode cX0_colour 9 = .ok (.iload_n 2, 1) := by decide +kernel
theorem dX0_colour_10 : decode cX0_colour 10 = .ok (.invokevirtual 40, 3) := by decide +kernel
theorem dX0_colour_13 : decode cX0_colour 13 = .ok (.ifCond .ne 5, 3) := by decide +kernel
theorem dX0_colour_16 : decode cX0_colour 16 = .ok (.iconst (-1), 1) := by decide +kernel
theorem dX0_colour_17 : decode cX0_colour 17 = .ok (.ireturn, 1) := by decide +kernel
theorem dX0_colour_18 : decode cX0_colour 18 = .ok (.iload_n 3, 1) := by decide +kernel
theorem dX0_colour_19 : decode cX0_colour 19 = .ok (.i2l, 1) := by decide +kernel
theorem dX0_colour_20 : decode cX0_colour 20 = .ok (.lconst 0, 1) := by decide +kernel
theorem dX0_colour_21 : decode cX0_colour 21 = .ok (.lconst 1, 1) := by decide +kernel
theorem dX0_colour_22 : decode cX0_colour 22 = .ok (.invokestatic 32, 3) := by decide +kernel
theorem dX0_colour_25 : decode cX0_colour 25 = .ok (.ifCond .ne 6, 3) := by decide +kernel
theorem dX0_colour_28 : decode cX0_colour 28 = .ok (.bipush (-2), 2) := by decide +kernel
theorem dX0_colour_30 : decode cX0_colour 30 = .ok (.ireturn, 1) := by decide +kernel
theorem dX0_colour_31 : decode cX0_colour 31 = .ok (.aload_n 0, 1) := by decide +kernel
theorem dX0_colour_32 : decode cX0_colour 32 = .ok (.getfield 11, 3) := by decide +kernel
theorem dX0_colour_35 : decode cX0_colour 35 = .ok (.iload_n 1, 1) := by decide +kernel
theorem dX0_colour_36 : decode cX0_colour 36 = .ok (.aaload, 1) := by decide +kernel
theorem dX0_colour_37 : decode cX0_colour 37 = .ok (.invokestatic 97, 3) := by decide +kernel
theorem dX0_colour_40 : decode cX0_colour 40 = .ok (.astore 4, 2) := by decide +kernel
theorem dX0_colour_42 : decode cX0_colour 42 = .ok (.aload_n 0, 1) := by decide +kernel
theorem dX0_colour_43 : decode cX0_colour 43 = .ok (.getfield 11, 3) := by decide +kernel
theorem dX0_colour_46 : decode cX0_colour 46 = .ok (.iload_n 2, 1) := by decide +kernel
theorem dX0_colour_47 : decode cX0_colour 47 = .ok (.aaload, 1) := by decide +kernel
theorem dX0_colour_48 : decode cX0_colour 48 = .ok (.invokestatic 97, 3) := by decide +kernel
theorem dX0_colour_51 : decode cX0_colour 51 = .ok (.astore 5, 2) := by decide +kernel
theorem dX0_colour_53 : decode cX0_colour 53 = .ok (.aload_n 0, 1) := by decide +kernel
theorem dX0_colour_54 : decode cX0_colour 54 = .ok (.iload_n 3, 1) := by decide +kernel
theorem dX0_colour_55 : decode cX0_colour 55 = .ok (.ifCond .ne 17, 3) := by decide +kernel
theorem dX0_colour_58 : decode cX0_colour 58 = .ok (.new 295, 3) := by decide +kernel
theorem dX0_colour_61 : decode cX0_colour 61 = .ok (.dup, 1) := by decide +kernel
theorem dX0_colour_62 : decode cX0_colour 62 = .ok (.aload 4, 2) := by decide +kernel
theorem dX0_colour_64 : decode cX0_colour 64 = .ok (.aload 5, 2) := by decide +kernel
theorem dX0_colour_66 : decode cX0_colour 66 = .ok (.invokespecial 297, 3) := by decide +kernel
theorem dX0_colour_69 : decode cX0_colour 69 = .ok (.goto 14, 3) := by decide +kernel
theorem dX0_colour_72 : decode cX0_colour 72 = .ok (.new 298, 3) := by decide +kernel
theorem dX0_colour_75 : decode cX0_colour 75 = .ok (.dup, 1) := by decide +kernel
theorem dX0_colour_76 : decode cX0_colour 76 = .ok (.aload 4, 2) := by decide +kernel
theorem dX0_colour_78 : decode cX0_colour 78 = .ok (.aload 5, 2) := by decide +kernel
theorem dX0_colour_80 : decode cX0_colour 80 = .ok (.invokespecial 300, 3) := by decide +kernel
theorem dX0_colour_83 : decode cX0_colour 83 = .ok (.putfield 301, 3) := by decide +kernel
theorem dX0_colour_86 : decode cX0_colour 86 = .ok (.aload_n 0, 1) := by decide +kernel
theorem dX0_colour_87 : decode cX0_colour 87 = .ok (.getfield 301, 3) := by decide +kernel
theorem dX0_colour_90 : decode cX0_colour 90 = .ok (.invokevirtual 305, 3) := by decide +kernel
theorem dX0_colour_93 : decode cX0_colour 93 = .ok (.aload_n 0, 1) := by decide +kernel
theorem dX0_colour_94 : decode cX0_colour 94 = .ok (.getfield 301, 3) := by decide +kernel
theorem dX0_colour_97 : decode cX0_colour 97 = .ok (.getfield 310, 3) := by decide +kernel
theorem dX0_colour_100 : decode cX0_colour 100 = .ok (.ireturn, 1) := by decide +kernel
noncomputable def B_X0_colour (l : Launch) (δ : Dl) : Seg (l, δ, yX0_colour, 5, (some .int), cX0_colour, 6) 0 101 :=
  seq (p := 0) (q := 1) (r := 101) (p_aload_n 0 dX0_colour_0) (seq (p := 1) (q := 2) (r := 101) (p_iload_n 1 dX0_colour_1) (seq (p := 2) (q := 5) (r := 101) (p_callG 2 _ (ok_V 0 cv_X0_40 rfl (M_X0_isWorld l δ) (Nat.le_of_ble_eq_true rfl) dX0_colour_2) (Nat.le_of_ble_eq_true rfl)) (seq (p := 5) (q := 18) (r := 101) (blk (seq (p := 5) (q := 16) (r := 18) (blk (seq (p := 5) (q := 8) (r := 16) (p_if_eq 16 dX0_colour_5 (by decide)) (seq (p := 8) (q := 9) (r := 16) (p_aload_n 0 dX0_colour_8) (seq (p := 9) (q := 10) (r := 16) (p_iload_n 2 dX0_colour_9) (seq (p := 10) (q := 13) (r := 16) (p_callG 2 _ (ok_V 0 cv_X0_40 rfl (M_X0_isWorld l δ) (Nat.le_of_ble_eq_true rfl) dX0_colour_10) (Nat.le_of_ble_eq_true rfl)) (seq (p := 13) (q := 16) (r := 16) (p_if_ne 18 dX0_colour_13 (by decide)) done)))))) (seq (p := 16) (q := 17) (r := 18) (p_iconst (-1) dX0_colour_16) (seq (p := 17) (q := 18) (r := 18) (p_ireturn dX0_colour_17 rfl) done)))) (seq (p := 18) (q := 19) (r := 101) (p_iload_n 3 dX0_colour_18) (seq (p := 19) (q := 20) (r := 101) (p_i2l dX0_colour_19) (seq (p := 20) (q := 21) (r := 101) (p_lconst0 dX0_colour_20) (seq (p := 21) (q := 22) (r := 101) (p_lconst1 dX0_colour_21) (seq (p := 22) (q := 25) (r := 101) (p_callG 3 _ (ok_S cs_X0_32 (M_X0_isIn l δ) (Nat.le_of_ble_eq_true rfl) dX0_colour_22) (Nat.le_of_ble_eq_true rfl)) (seq (p := 25) (q := 31) (r := 101) (blk (seq (p := 25) (q := 28) (r := 31) (p_if_ne 31 dX0_colour_25 (by decide)) (seq (p := 28) (q := 30) (r := 31) (p_bipush (-2) dX0_colour_28 (by decide)) (seq (p := 30) (q := 31) (r := 31) (p_ireturn dX0_colour_30 rfl) done)))) (seq (p := 31) (q := 32) (r := 101) (p_aload_n 0 dX0_colour_31) (seq (p := 32) (q := 35) (r := 101) (p_get [(0, 0)] (alL1 fl_X0_11_0) dX0_colour_32) (seq (p := 35) (q := 36) (r := 101) (p_iload_n 1 dX0_colour_35) (seq (p := 36) (q := 37) (r := 101) (p_aald dX0_colour_36) (seq (p := 37) (q := 40) (r := 101) (p_callG 1 _ (ok_S cs_X0_97 (M_X0_copyOf l δ) (Nat.le_of_ble_eq_true rfl) dX0_colour_37) (Nat.le_of_ble_eq_true rfl)) (seq (p := 40) (q := 42) (r := 101) (p_astore 4 dX0_colour_40 (Nat.le_of_ble_eq_true rfl)) (seq (p := 42) (q := 43) (r := 101) (p_aload_n 0 dX0_colour_42) (seq (p := 43) (q := 46) (r := 101) (p_get [(0, 0)] (alL1 fl_X0_11_0) dX0_colour_43) (seq (p := 46) (q := 47) (r := 101) (p_iload_n 2 dX0_colour_46) (seq (p := 47) (q := 48) (r := 101) (p_aald dX0_colour_47) (seq (p := 48) (q := 51) (r := 101) (p_callG 1 _ (ok_S cs_X0_97 (M_X0_copyOf l δ) (Nat.le_of_ble_eq_true rfl) dX0_colour_48) (Nat.le_of_ble_eq_true rfl)) (seq (p := 51) (q := 53) (r := 101) (p_astore 5 dX0_colour_51 (Nat.le_of_ble_eq_true rfl)) (seq (p := 53) (q := 54) (r := 101) (p_aload_n 0 dX0_colour_53) (seq (p := 54) (q := 55) (r := 101) (p_iload_n 3 dX0_colour_54) (seq (p := 55) (q := 83) (r := 101) (blk (seq (p := 55) (q := 72) (r := 83) (blk (seq (p := 55) (q := 58) (r := 72) (p_if_ne 72 dX0_colour_55 (by decide)) (seq (p := 58) (q := 61) (r := 72) (p_new 14 ck14 tyX16 tyX16_ok f0_14 f0_14_ok (okc q988) (okc q989) (okc q114) dX0_colour_58) (seq (p := 61) (q := 62) (r := 72) (p_dup dX0_colour_61) (seq (p := 62) (q := 64) (r := 72) (p_aload 4 dX0_colour_62) (seq (p := 64) (q := 66) (r := 72) (p_aload 5 dX0_colour_64) (seq (p := 66) (q := 69) (r := 72) (p_callG 3 _ (ok_I ci_X0_297 (M_X16_init l δ) (Nat.le_of_ble_eq_true rfl) dX0_colour_66) (Nat.le_of_ble_eq_true rfl)) (seq (p := 69) (q := 72) (r := 72) (p_goto 83 dX0_colour_69 (by decide)) done)))))))) (seq (p := 72) (q := 75) (r := 83) (p_new 15 ck15 tyX17 tyX17_ok f0_15 f0_15_ok (okc q1042) (okc q1043) (okc q115) dX0_colour_72) (seq (p := 75) (q := 76) (r := 83) (p_dup dX0_colour_75) (seq (p := 76) (q := 78) (r := 83) (p_aload 4 dX0_colour_76) (seq (p := 78) (q := 80) (r := 83) (p_aload 5 dX0_colour_78) (seq (p := 80) (q := 83) (r := 83) (p_callG 3 _ (ok_I ci_X0_300 (M_X17_init l δ) (Nat.le_of_ble_eq_true rfl) dX0_colour_80) (Nat.le_of_ble_eq_true rfl)) done))))))) (seq (p := 83) (q := 86) (r := 101) (p_put [(0, 12)] (.object "TwoWorlds$Colouring") (alP1 fp_X0_301_0) dX0_colour_83) (seq (p := 86) (q := 87) (r := 101) (p_aload_n 0 dX0_colour_86) (seq (p := 87) (q := 90) (r := 101) (p_get [(0, 12)] (alL1 fl_X0_301_0) dX0_colour_87) (seq (p := 90) (q := 93) (r := 101) (p_callG 1 _ (ok_alt (ok_U 15 cu_X0_305_15 rfl (M_X15_run l δ) (Nat.le_of_ble_eq_true rfl) dX0_colour_90) (ok_U 14 cu_X0_305_14 rfl (M_X15_run l δ) (Nat.le_of_ble_eq_true rfl) dX0_colour_90)) (Nat.le_of_ble_eq_true rfl)) (seq (p := 93) (q := 94) (r := 101) (p_aload_n 0 dX0_colour_93) (seq (p := 94) (q := 97) (r := 101) (p_get [(0, 12)] (alL1 fl_X0_301_0) dX0_colour_94) (seq (p := 97) (q := 100) (r := 101) (p_get [(14, 5), (15, 5)] (alL2 fl_X0_310_14 fl_X0_310_15) dX0_colour_97) (seq (p := 100) (q := 101) (r := 101) (p_ireturn dX0_colour_100 rfl) done))))))))))))))))))))))))))))))))
noncomputable def M_X0_colour (l : Launch) (δ : Dl) : Mth l δ yX0_colour cX0_colour 6 (some .int) 5 := mk (B_X0_colour l δ) (by decide)
theorem N_X0_colour {l : Launch} {δ : Dl} {o : Nat} {a1 : Int} {a2 : Int} {a3 : Int} {s : St} : (M_X0_colour l δ).1 [.inr (.inr (some o)), .inl a1, .inl a2, .inl a3] s = bres ((B_X0_colour l δ).1 [] [some (.inr (.inr (some o))), some (.inl a1), some (.inl a2), some (.inl a3), none, none] s) := (mk_eq (hy := by decide) rfl).trans (nrfl rfl)
theorem dX0_coloured_0 : decode cX0_coloured 0 = .ok (.aload_n 0, 1) := by decide +kernel
theorem dX0_coloured_1 : decode cX0_coloured 1 = .ok (.getfield 301, 3) := by decide +kernel
theorem dX0_coloured_4 : decode cX0_coloured 4 = .ok (.ifnull 34, 3) := by decide +kernel
theorem dX0_coloured_7 : decode cX0_coloured 7 = .ok (.iload_n 1, 1) := by decide +kernel
theorem dX0_coloured_8 : decode cX0_coloured 8 = .ok (.i2l, 1) := by decide +kernel
theorem dX0_coloured_9 : decode cX0_coloured 9 = .ok (.lconst 0, 1) := by decide +kernel
theorem dX0_coloured_10 : decode cX0_coloured 10 = .ok (.aload_n 0, 1) := by decide +kernel
theorem dX0_coloured_11 : decode cX0_coloured 11 = .ok (.getfield 301, 3) := by decide +kernel
theorem dX0_coloured_14 : decode cX0_coloured 14 = .ok (.getfield 313, 3) := by decide +kernel
theorem dX0_coloured_17 : decode cX0_coloured 17 = .ok (.i2l, 1) := by decide +kernel
theorem dX0_coloured_18 : decode cX0_coloured 18 = .ok (.lconst 1, 1) := by decide +kernel
theorem dX0_coloured_19 : decode cX0_coloured 19 = .ok (.lsub, 1) := by decide +kernel
theorem dX0_coloured_20 : decode cX0_coloured 20 = .ok (.invokestatic 32, 3) := by decide +kernel
theorem dX0_coloured_23 : decode cX0_coloured 23 = .ok (.ifCond .eq 15, 3) := by decide +kernel
theorem dX0_coloured_26 : decode cX0_coloured 26 = .ok (.aload_n 0, 1) := by decide +kernel
theorem dX0_coloured_27 : decode cX0_coloured 27 = .ok (.getfield 301, 3) := by decide +kernel
theorem dX0_coloured_30 : decode cX0_coloured 30 = .ok (.getfield 316, 3) := by decide +kernel
theorem dX0_coloured_33 : decode cX0_coloured 33 = .ok (.iload_n 1, 1) := by decide +kernel
theorem dX0_coloured_34 : decode cX0_coloured 34 = .ok (.iaload, 1) := by decide +kernel
theorem dX0_coloured_35 : decode cX0_coloured 35 = .ok (.goto 4, 3) := by decide +kernel
theorem dX0_coloured_38 : decode cX0_coloured 38 = .ok (.iconst (-1), 1) := by decide +kernel
theorem dX0_coloured_39 : decode cX0_coloured 39 = .ok (.ireturn, 1) := by decide +kernel
noncomputable def B_X0_coloured (l : Launch) (δ : Dl) : Seg (l, δ, yX0_coloured, 1, (some .int), cX0_coloured, 2) 0 40 :=
  seq (p := 0) (q := 1) (r := 40) (p_aload_n 0 dX0_coloured_0) (seq (p := 1) (q := 4) (r := 40) (p_get [(0, 12)] (alL1 fl_X0_301_0) dX0_coloured_1) (seq (p := 4) (q := 39) (r := 40) (blk (seq (p := 4) (q := 38) (r := 39) (blk (seq (p := 4) (q := 7) (r := 38) (p_ifnull 38 dX0_coloured_4 (by decide)) (seq (p := 7) (q := 8) (r := 38) (p_iload_n 1 dX0_coloured_7) (seq (p := 8) (q := 9) (r := 38) (p_i2l dX0_coloured_8) (seq (p := 9) (q := 10) (r := 38) (p_lconst0 dX0_coloured_9) (seq (p := 10) (q := 11) (r := 38) (p_aload_n 0 dX0_coloured_10) (seq (p := 11) (q := 14) (r := 38) (p_get [(0, 12)] (alL1 fl_X0_301_0) dX0_coloured_11) (seq (p := 14) (q := 17) (r := 38) (p_get [(14, 3), (15, 3)] (alL2 fl_X0_313_14 fl_X0_313_15) dX0_coloured_14) (seq (p := 17) (q := 18) (r := 38) (p_i2l dX0_coloured_17) (seq (p := 18) (q := 19) (r := 38) (p_lconst1 dX0_coloured_18) (seq (p := 19) (q := 20) (r := 38) (p_lsub dX0_coloured_19) (seq (p := 20) (q := 23) (r := 38) (p_callG 3 _ (ok_S cs_X0_32 (M_X0_isIn l δ) (Nat.le_of_ble_eq_true rfl) dX0_coloured_20) (Nat.le_of_ble_eq_true rfl)) (seq (p := 23) (q := 26) (r := 38) (p_if_eq 38 dX0_coloured_23 (by decide)) (seq (p := 26) (q := 27) (r := 38) (p_aload_n 0 dX0_coloured_26) (seq (p := 27) (q := 30) (r := 38) (p_get [(0, 12)] (alL1 fl_X0_301_0) dX0_coloured_27) (seq (p := 30) (q := 33) (r := 38) (p_get [(14, 4), (15, 4)] (alL2 fl_X0_316_14 fl_X0_316_15) dX0_coloured_30) (seq (p := 33) (q := 34) (r := 38) (p_iload_n 1 dX0_coloured_33) (seq (p := 34) (q := 35) (r := 38) (p_iald dX0_coloured_34) (seq (p := 35) (q := 38) (r := 38) (p_goto 39 dX0_coloured_35 (by decide)) done))))))))))))))))))) (seq (p := 38) (q := 39) (r := 39) (p_iconst (-1) dX0_coloured_38) done))) (seq (p := 39) (q := 40) (r := 40) (p_ireturn dX0_coloured_39 rfl) done)))
noncomputable def M_X0_coloured (l : Launch) (δ : Dl) : Mth l δ yX0_coloured cX0_coloured 2 (some .int) 1 := mk (B_X0_coloured l δ) (by decide)
theorem N_X0_coloured {l : Launch} {δ : Dl} {o : Nat} {a1 : Int} {s : St} : (M_X0_coloured l δ).1 [.inr (.inr (some o)), .inl a1] s = bres ((B_X0_coloured l δ).1 [] [some (.inr (.inr (some o))), some (.inl a1)] s) := (mk_eq (hy := by decide) rfl).trans (nrfl rfl)
theorem dX0_still_0 : decode cX0_still 0 = .ok (.iload_n 1, 1) := by decide +kernel
theorem dX0_still_1 : decode cX0_still 1 = .ok (.i2l, 1) := by decide +kernel
theorem dX0_still_2 : decode cX0_still 2 = .ok (.lconst 0, 1) := by decide +kernel
theorem dX0_still_3 : decode cX0_still 3 = .ok (.lconst 1, 1) := by decide +kernel
theorem dX0_still_4 : decode cX0_still 4 = .ok (.invokestatic 32, 3) := by decide +kernel
theorem dX0_still_7 : decode cX0_still 7 = .ok (.ifCond .ne 6, 3) := by decide +kernel
theorem dX0_still_10 : decode cX0_still 10 = .ok (.bipush (-2), 2) := by decide +kernel
theorem dX0_still_12 : decode cX0_still 12 = .ok (.ireturn, 1) := by decide +kernel
theorem dX0_still_13 : decode cX0_still 13 = .ok (.aload_n 0, 1) := by decide +kernel
theorem dX0_still_14 : decode cX0_still 14 = .ok (.getfield 301, 3) := by decide +kernel
theorem dX0_still_17 : decode cX0_still 17 = .ok (.ifnonnull 6, 3) := by decide +kernel
theorem dX0_still_20 : decode cX0_still 20 = .ok (.bipush (-3), 2) := by decide +kernel
theorem dX0_still_22 : decode cX0_still 22 = .ok (.ireturn, 1) := by decide +kernel
theorem dX0_still_23 : decode cX0_still 23 = .ok (.iload_n 1, 1) := by decide +kernel
theorem dX0_still_24 : decode cX0_still 24 = .ok (.ifCond .ne 13, 3) := by decide +kernel
theorem dX0_still_27 : decode cX0_still 27 = .ok (.aload_n 0, 1) := by decide +kernel
theorem dX0_still_28 : decode cX0_still 28 = .ok (.getfield 301, 3) := by decide +kernel
theorem dX0_still_31 : decode cX0_still 31 = .ok (.getfield 319, 3) := by decide +kernel
theorem dX0_still_34 : decode cX0_still 34 = .ok (.goto 18, 3) := by decide +kernel
theorem dX0_still_37 : decode cX0_still 37 = .ok (.aload_n 0, 1) := by decide +kernel
theorem dX0_still_38 : decode cX0_still 38 = .ok (.getfield 301, 3) := by decide +kernel
theorem dX0_still_41 : decode cX0_still 41 = .ok (.invokevirtual 322, 3) := by decide +kernel
theorem dX0_still_44 : decode cX0_still 44 = .ok (.ifCond .eq 7, 3) := by decide +kernel
theorem dX0_still_47 : decode cX0_still 47 = .ok (.iconst 1, 1) := by decide +kernel
theorem dX0_still_48 : decode cX0_still 48 = .ok (.goto 4, 3) := by decide +kernel
theorem dX0_still_51 : decode cX0_still 51 = .ok (.iconst 0, 1) := by decide +kernel
theorem dX0_still_52 : decode cX0_still 52 = .ok (.ireturn, 1) := by decide +kernel
noncomputable def B_X0_still (l : Launch) (δ : Dl) : Seg (l, δ, yX0_still, 1, (some .int), cX0_still, 2) 0 53 :=
  seq (p := 0) (q := 1) (r := 53) (p_iload_n 1 dX0_still_0) (seq (p := 1) (q := 2) (r := 53) (p_i2l dX0_still_1) (seq (p := 2) (q := 3) (r := 53) (p_lconst0 dX0_still_2) (seq (p := 3) (q := 4) (r := 53) (p_lconst1 dX0_still_3) (seq (p := 4) (q := 7) (r := 53) (p_callG 3 _ (ok_S cs_X0_32 (M_X0_isIn l δ) (Nat.le_of_ble_eq_true rfl) dX0_still_4) (Nat.le_of_ble_eq_true rfl)) (seq (p := 7) (q := 13) (r := 53) (blk (seq (p := 7) (q := 10) (r := 13) (p_if_ne 13 dX0_still_7 (by decide)) (seq (p := 10) (q := 12) (r := 13) (p_bipush (-2) dX0_still_10 (by decide)) (seq (p := 12) (q := 13) (r := 13) (p_ireturn dX0_still_12 rfl) done)))) (seq (p := 13) (q := 14) (r := 53) (p_aload_n 0 dX0_still_13) (seq (p := 14) (q := 17) (r := 53) (p_get [(0, 12)] (alL1 fl_X0_301_0) dX0_still_14) (seq (p := 17) (q := 23) (r := 53) (blk (seq (p := 17) (q := 20) (r := 23) (p_ifnonnull 23 dX0_still_17 (by decide)) (seq (p := 20) (q := 22) (r := 23) (p_bipush (-3) dX0_still_20 (by decide)) (seq (p := 22) (q := 23) (r := 23) (p_ireturn dX0_still_22 rfl) done)))) (seq (p := 23) (q := 24) (r := 53) (p_iload_n 1 dX0_still_23) (seq (p := 24) (q := 52) (r := 53) (blk (seq (p := 24) (q := 37) (r := 52) (blk (seq (p := 24) (q := 27) (r := 37) (p_if_ne 37 dX0_still_24 (by decide)) (seq (p := 27) (q := 28) (r := 37) (p_aload_n 0 dX0_still_27) (seq (p := 28) (q := 31) (r := 37) (p_get [(0, 12)] (alL1 fl_X0_301_0) dX0_still_28) (seq (p := 31) (q := 34) (r := 37) (p_get [(14, 6), (15, 6)] (alL2 fl_X0_319_14 fl_X0_319_15) dX0_still_31) (seq (p := 34) (q := 37) (r := 37) (p_goto 52 dX0_still_34 (by decide)) done)))))) (seq (p := 37) (q := 38) (r := 52) (p_aload_n 0 dX0_still_37) (seq (p := 38) (q := 41) (r := 52) (p_get [(0, 12)] (alL1 fl_X0_301_0) dX0_still_38) (seq (p := 41) (q := 44) (r := 52) (p_callG 1 _ (ok_alt (ok_U 15 cu_X0_322_15 rfl (M_X15_isBalanced l δ) (Nat.le_of_ble_eq_true rfl) dX0_still_41) (ok_U 14 cu_X0_322_14 rfl (M_X15_isBalanced l δ) (Nat.le_of_ble_eq_true rfl) dX0_still_41)) (Nat.le_of_ble_eq_true rfl)) (seq (p := 44) (q := 51) (r := 52) (blk (seq (p := 44) (q := 47) (r := 51) (p_if_eq 51 dX0_still_44 (by decide)) (seq (p := 47) (q := 48) (r := 51) (p_iconst 1 dX0_still_47) (seq (p := 48) (q := 51) (r := 51) (p_goto 52 dX0_still_48 (by decide)) done)))) (seq (p := 51) (q := 52) (r := 52) (p_iconst 0 dX0_still_51) done))))))) (seq (p := 52) (q := 53) (r := 53) (p_ireturn dX0_still_52 rfl) done)))))))))))
noncomputable def M_X0_still (l : Launch) (δ : Dl) : Mth l δ yX0_still cX0_still 2 (some .int) 1 := mk (B_X0_still l δ) (by decide)
theorem N_X0_still {l : Launch} {δ : Dl} {o : Nat} {a1 : Int} {s : St} : (M_X0_still l δ).1 [.inr (.inr (some o)), .inl a1] s = bres ((B_X0_still l δ).1 [] [some (.inr (.inr (some o))), some (.inl a1)] s) := (mk_eq (hy := by decide) rfl).trans (nrfl rfl)
theorem dX0_told_0 : decode cX0_told 0 = .ok (.iload_n 1, 1) := by decide +kernel
theorem dX0_told_1 : decode cX0_told 1 = .ok (.tableswitch 109 0 4 #[35, 70, 80, 85, 90], 35) := by decide +kernel
theorem dX0_told_36 : decode cX0_told 36 = .ok (.iconst 0, 1) := by decide +kernel
theorem dX0_told_37 : decode cX0_told 37 = .ok (.istore_n 2, 1) := by decide +kernel
theorem dX0_told_38 : decode cX0_told 38 = .ok (.iconst 0, 1) := by decide +kernel
theorem dX0_told_39 : decode cX0_told 39 = .ok (.istore_n 3, 1) := by decide +kernel
theorem dX0_told_40 : decode cX0_told 40 = .ok (.iload_n 3, 1) := by decide +kernel
theorem dX0_told_41 : decode cX0_told 41 = .ok (.bipush 6, 2) := by decide +kernel
theorem dX0_told_43 : decode cX0_told 43 = .ok (.if_icmp .ge 26, 3) := by decide +kernel
theorem dX0_told_46 : decode cX0_told 46 = .ok (.iload_n 2, 1) := by decide +kernel
theorem dX0_told_47 : decode cX0_told 47 = .ok (.aload_n 0, 1) := by decide +kernel
theorem dX0_told_48 : decode cX0_told 48 = .ok (.getfield 11, 3) := by decide +kernel
theorem dX0_told_51 : decode cX0_told 51 = .ok (.iload_n 3, 1) := by decide +kernel
theorem dX0_told_52 : decode cX0_told 52 = .ok (.aaload, 1) := by decide +kernel
theorem dX0_told_53 : decode cX0_told 53 = .ok (.ifnonnull 7, 3) := by decide +kernel
theorem dX0_told_56 : decode cX0_told 56 = .ok (.iconst 0, 1) := by decide +kernel
theorem dX0_told_57 : decode cX0_told 57 = .ok (.goto 4, 3) := by decide +kernel
theorem dX0_told_60 : decode cX0_told 60 = .ok (.iconst 1, 1) := by decide +kernel
theorem dX0_told_61 : decode cX0_told 61 = .ok (.iadd, 1) := by decide +kernel
theorem dX0_told_62 : decode cX0_told 62 = .ok (.istore_n 2, 1) := by decide +kernel
theorem dX0_told_63 : decode cX0_told 63 = .ok (.iinc 3 1, 3) := by decide +kernel
theorem dX0_told_66 : decode cX0_told 66 = .ok (.goto (-26), 3) := by decide +kernel
theorem dX0_told_69 : decode cX0_told 69 = .ok (.iload_n 2, 1) := by decide +kernel
theorem dX0_told_70 : decode cX0_told 70 = .ok (.ireturn, 1) := by decide +kernel
theorem dX0_told_71 : decode cX0_told 71 = .ok (.aload_n 0, 1) := by decide +kernel
theorem dX0_told_72 : decode cX0_told 72 = .ok (.getfield 22, 3) := by decide +kernel
theorem dX0_told_75 : decode cX0_told 75 = .ok (.invokeinterface 161 1, 5) := by decide +kernel
theorem dX0_told_80 : decode cX0_told 80 = .ok (.ireturn, 1) := by decide +kernel
theorem dX0_told_81 : decode cX0_told 81 = .ok (.aload_n 0, 1) := by decide +kernel
theorem dX0_told_82 : decode cX0_told 82 = .ok (.getfield 178, 3) := by decide +kernel
theorem dX0_told_85 : decode cX0_told 85 = .ok (.ireturn, 1) := by decide +kernel
theorem dX0_told_86 : decode cX0_told 86 = .ok (.aload_n 0, 1) := by decide +kernel
theorem dX0_told_87 : decode cX0_told 87 = .ok (.getfield 292, 3) := by decide +kernel
theorem dX0_told_90 : decode cX0_told 90 = .ok (.ireturn, 1) := by decide +kernel
theorem dX0_told_91 : decode cX0_told 91 = .ok (.aload_n 0, 1) := by decide +kernel
theorem dX0_told_92 : decode cX0_told 92 = .ok (.getfield 301, 3) := by decide +kernel
theorem dX0_told_95 : decode cX0_told 95 = .ok (.ifnonnull 7, 3) := by decide +kernel
theorem dX0_told_98 : decode cX0_told 98 = .ok (.iconst 0, 1) := by decide +kernel
theorem dX0_told_99 : decode cX0_told 99 = .ok (.goto 10, 3) := by decide +kernel
theorem dX0_told_102 : decode cX0_told 102 = .ok (.aload_n 0, 1) := by decide +kernel
theorem dX0_told_103 : decode cX0_told 103 = .ok (.getfield 301, 3) := by decide +kernel
theorem dX0_told_106 : decode cX0_told 106 = .ok (.getfield 313, 3) := by decide +kernel
theorem dX0_told_109 : decode cX0_told 109 = .ok (.ireturn, 1) := by decide +kernel
theorem dX0_told_110 : decode cX0_told 110 = .ok (.bipush (-2), 2) := by decide +kernel
theorem dX0_told_112 : decode cX0_told 112 = .ok (.ireturn, 1) := by decide +kernel
noncomputable def C_X0_told_L40 (l : Launch) (δ : Dl) : Seg (l, δ, yX0_told, 1, (some .int), cX0_told, 4) 40 69 :=
  seq (p := 40) (q := 41) (r := 69) (p_iload_n 3 dX0_told_40) (seq (p := 41) (q := 43) (r := 69) (p_bipush 6 dX0_told_41 (by decide)) (seq (p := 43) (q := 46) (r := 69) (p_icmp_ge 69 dX0_told_43 (by decide)) (seq (p := 46) (q := 47) (r := 69) (p_iload_n 2 dX0_told_46) (seq (p := 47) (q := 48) (r := 69) (p_aload_n 0 dX0_told_47) (seq (p := 48) (q := 51) (r := 69) (p_get [(0, 0)] (alL1 fl_X0_11_0) dX0_told_48) (seq (p := 51) (q := 52) (r := 69) (p_iload_n 3 dX0_told_51) (seq (p := 52) (q := 53) (r := 69) (p_aald dX0_told_52) (seq (p := 53) (q := 61) (r := 69) (blk (seq (p := 53) (q := 60) (r := 61) (blk (seq (p := 53) (q := 56) (r := 60) (p_ifnonnull 60 dX0_told_53 (by decide)) (seq (p := 56) (q := 57) (r := 60) (p_iconst 0 dX0_told_56) (seq (p := 57) (q := 60) (r := 60) (p_goto 61 dX0_told_57 (by decide)) done)))) (seq (p := 60) (q := 61) (r := 61) (p_iconst 1 dX0_told_60) done))) (seq (p := 61) (q := 62) (r := 69) (p_iadd dX0_told_61) (seq (p := 62) (q := 63) (r := 69) (p_istore_n 2 dX0_told_62 (Nat.le_of_ble_eq_true rfl)) (seq (p := 63) (q := 66) (r := 69) (p_iinc 3 1 dX0_told_63 (Nat.le_of_ble_eq_true rfl)) (seq (p := 66) (q := 66) (r := 69) (er [true, false, true, true]) (seq (p := 66) (q := 69) (r := 69) (p_goto 40 dX0_told_66 (by decide)) done)))))))))))))
noncomputable def B_X0_told_L40 (l : Launch) (δ : Dl) : Seg (l, δ, yX0_told, 1, (some .int), cX0_told, 4) 40 69 := C_X0_told_L40 l δ
theorem L_X0_told_40 {l : Launch} {δ : Dl} {st : Stk} {L : Lc} {s : St} : (B_X0_told_L40 l δ).1 st L s = (C_X0_told_L40 l δ).1 st L s := nrfl rfl
noncomputable def B_X0_told (l : Launch) (δ : Dl) : Seg (l, δ, yX0_told, 1, (some .int), cX0_told, 4) 0 113 :=
  seq (p := 0) (q := 1) (r := 113) (p_iload_n 1 dX0_told_0) (seq (p := 1) (q := 110) (r := 113) (blk (seq (p := 1) (q := 91) (r := 110) (blk (seq (p := 1) (q := 86) (r := 91) (blk (seq (p := 1) (q := 81) (r := 86) (blk (seq (p := 1) (q := 71) (r := 81) (blk (seq (p := 1) (q := 36) (r := 71) (blk (seq (p := 1) (q := 36) (r := 36) (p_table (len := 35) dX0_told_1 (by decide)) done)) (seq (p := 36) (q := 37) (r := 71) (p_iconst 0 dX0_told_36) (seq (p := 37) (q := 38) (r := 71) (p_istore_n 2 dX0_told_37 (Nat.le_of_ble_eq_true rfl)) (seq (p := 38) (q := 39) (r := 71) (p_iconst 0 dX0_told_38) (seq (p := 39) (q := 40) (r := 71) (p_istore_n 3 dX0_told_39 (Nat.le_of_ble_eq_true rfl)) (seq (p := 40) (q := 69) (r := 71) (blk (seq (p := 40) (q := 40) (r := 69) (er [true, false, true, true]) (seq (p := 40) (q := 69) (r := 69) (lp (B_X0_told_L40 l δ)) done))) (seq (p := 69) (q := 70) (r := 71) (p_iload_n 2 dX0_told_69) (seq (p := 70) (q := 71) (r := 71) (p_ireturn dX0_told_70 rfl) done))))))))) (seq (p := 71) (q := 72) (r := 81) (p_aload_n 0 dX0_told_71) (seq (p := 72) (q := 75) (r := 81) (p_get [(0, 8)] (alL1 fl_X0_22_0) dX0_told_72) (seq (p := 75) (q := 80) (r := 81) (p_callG 1 _ (ok_F 16 cf_X0_161 rfl (M_J2_size l δ) (Nat.le_of_ble_eq_true rfl) dX0_told_75) (Nat.le_of_ble_eq_true rfl)) (seq (p := 80) (q := 81) (r := 81) (p_ireturn dX0_told_80 rfl) done)))))) (seq (p := 81) (q := 82) (r := 86) (p_aload_n 0 dX0_told_81) (seq (p := 82) (q := 85) (r := 86) (p_get [(0, 7)] (alL1 fl_X0_178_0) dX0_told_82) (seq (p := 85) (q := 86) (r := 86) (p_ireturn dX0_told_85 rfl) done))))) (seq (p := 86) (q := 87) (r := 91) (p_aload_n 0 dX0_told_86) (seq (p := 87) (q := 90) (r := 91) (p_get [(0, 11)] (alL1 fl_X0_292_0) dX0_told_87) (seq (p := 90) (q := 91) (r := 91) (p_ireturn dX0_told_90 rfl) done))))) (seq (p := 91) (q := 92) (r := 110) (p_aload_n 0 dX0_told_91) (seq (p := 92) (q := 95) (r := 110) (p_get [(0, 12)] (alL1 fl_X0_301_0) dX0_told_92) (seq (p := 95) (q := 109) (r := 110) (blk (seq (p := 95) (q := 102) (r := 109) (blk (seq (p := 95) (q := 98) (r := 102) (p_ifnonnull 102 dX0_told_95 (by decide)) (seq (p := 98) (q := 99) (r := 102) (p_iconst 0 dX0_told_98) (seq (p := 99) (q := 102) (r := 102) (p_goto 109 dX0_told_99 (by decide)) done)))) (seq (p := 102) (q := 103) (r := 109) (p_aload_n 0 dX0_told_102) (seq (p := 103) (q := 106) (r := 109) (p_get [(0, 12)] (alL1 fl_X0_301_0) dX0_told_103) (seq (p := 106) (q := 109) (r := 109) (p_get [(14, 3), (15, 3)] (alL2 fl_X0_313_14 fl_X0_313_15) dX0_told_106) done))))) (seq (p := 109) (q := 110) (r := 110) (p_ireturn dX0_told_109 rfl) done)))))) (seq (p := 110) (q := 112) (r := 113) (p_bipush (-2) dX0_told_110 (by decide)) (seq (p := 112) (q := 113) (r := 113) (p_ireturn dX0_told_112 rfl) done)))
noncomputable def M_X0_told (l : Launch) (δ : Dl) : Mth l δ yX0_told cX0_told 4 (some .int) 1 := mk (B_X0_told l δ) (by decide)
theorem N_X0_told {l : Launch} {δ : Dl} {o : Nat} {a1 : Int} {s : St} : (M_X0_told l δ).1 [.inr (.inr (some o)), .inl a1] s = bres ((B_X0_told l δ).1 [] [some (.inr (.inr (some o))), some (.inl a1), none, none] s) := (mk_eq (hy := by decide) rfl).trans (nrfl rfl)

/-! ===== the component's methods as segments, 2 ===== -/
set_option maxRecDepth 100000
theorem dX1_init_0 : decode cX1_init 0 = .ok (.aload_n 0, 1) := by decide +kernel
theorem dX1_init_1 : decode cX1_init 1 = .ok (.invokespecial 1, 3) := by decide +kernel
theorem dX1_init_4 : decode cX1_init 4 = .ok (.aload_n 0, 1) := by decide +kernel
theorem dX1_init_5 : decode cX1_init 5 = .ok (.bipush 8, 2) := by decide +kernel
theorem dX1_init_7 : decode cX1_init 7 = .ok (.newarray .int, 2) := by decide +kernel
theorem dX1_init_9 : decode cX1_init 9 = .ok (.putfield 7, 3) := by decide +kernel
theorem dX1_init_12 : decode cX1_init 12 = .ok (.aload_n 0, 1) := by decide +kernel
theorem dX1_init_13 : decode cX1_init 13 = .ok (.bipush 48, 2) := by decide +kernel
theorem dX1_init_15 : decode cX1_init 15 = .ok (.newarray .int, 2) := by decide +kernel
theorem dX1_init_17 : decode cX1_init 17 = .ok (.putfield 13, 3) := by decide +kernel
theorem dX1_init_20 : decode cX1_init 20 = .ok (.aload_n 0, 1) := by decide +kernel
theorem dX1_init_21 : decode cX1_init 21 = .ok (.bipush 48, 2) := by decide +kernel
theorem dX1_init_23 : decode cX1_init 23 = .ok (.newarray .int, 2) := by decide +kernel
theorem dX1_init_25 : decode cX1_init 25 = .ok (.putfield 16, 3) := by decide +kernel
theorem dX1_init_28 : decode cX1_init 28 = .ok (.aload_n 0, 1) := by decide +kernel
theorem dX1_init_29 : decode cX1_init 29 = .ok (.bipush 6, 2) := by decide +kernel
theorem dX1_init_31 : decode cX1_init 31 = .ok (.newarray .int, 2) := by decide +kernel
theorem dX1_init_33 : decode cX1_init 33 = .ok (.putfield 19, 3) := by decide +kernel
theorem dX1_init_36 : decode cX1_init 36 = .ok (.aload_n 0, 1) := by decide +kernel
theorem dX1_init_37 : decode cX1_init 37 = .ok (.bipush 6, 2) := by decide +kernel
theorem dX1_init_39 : decode cX1_init 39 = .ok (.newarray .int, 2) := by decide +kernel
theorem dX1_init_41 : decode cX1_init 41 = .ok (.putfield 22, 3) := by decide +kernel
theorem dX1_init_44 : decode cX1_init 44 = .ok (.aload_n 0, 1) := by decide +kernel
theorem dX1_init_45 : decode cX1_init 45 = .ok (.iconst 5, 1) := by decide +kernel
theorem dX1_init_46 : decode cX1_init 46 = .ok (.newarray .int, 2) := by decide +kernel
theorem dX1_init_48 : decode cX1_init 48 = .ok (.putfield 25, 3) := by decide +kernel
theorem dX1_init_51 : decode cX1_init 51 = .ok (.aload_n 0, 1) := by decide +kernel
theorem dX1_init_52 : decode cX1_init 52 = .ok (.iconst 5, 1) := by decide +kernel
theorem dX1_init_53 : decode cX1_init 53 = .ok (.newarray .int, 2) := by decide +kernel
theorem dX1_init_55 : decode cX1_init 55 = .ok (.putfield 28, 3) := by decide +kernel
theorem dX1_init_58 : decode cX1_init 58 = .ok (.aload_n 0, 1) := by decide +kernel
theorem dX1_init_59 : decode cX1_init 59 = .ok (.iconst 5, 1) := by decide +kernel
theorem dX1_init_60 : decode cX1_init 60 = .ok (.newarray .int, 2) := by decide +kernel
theorem dX1_init_62 : decode cX1_init 62 = .ok (.putfield 31, 3) := by decide +kernel
theorem dX1_init_65 : decode cX1_init 65 = .ok (.aload_n 0, 1) := by decide +kernel
theorem dX1_init_66 : decode cX1_init 66 = .ok (.iconst 5, 1) := by decide +kernel
theorem dX1_init_67 : decode cX1_init 67 = .ok (.newarray .int, 2) := by decide +kernel
theorem dX1_init_69 : decode cX1_init 69 = .ok (.putfield 34, 3) := by decide +kernel
theorem dX1_init_72 : decode cX1_init 72 = .ok (.aload_n 0, 1) := by decide +kernel
theorem dX1_init_73 : decode cX1_init 73 = .ok (.bipush 20, 2) := by decide +kernel
theorem dX1_init_75 : decode cX1_init 75 = .ok (.newarray .int, 2) := by decide +kernel
theorem dX1_init_77 : decode cX1_init 77 = .ok (.putfield 37, 3) := by decide +kernel
theorem dX1_init_80 : decode cX1_init 80 = .ok (.aload_n 0, 1) := by decide +kernel
theorem dX1_init_81 : decode cX1_init 81 = .ok (.sipush 12000, 3) := by decide +kernel
theorem dX1_init_84 : decode cX1_init 84 = .ok (.newarray .byte, 2) := by decide +kernel
theorem dX1_init_86 : decode cX1_init 86 = .ok (.putfield 40, 3) := by decide +kernel
theorem dX1_init_89 : decode cX1_init 89 = .ok (.aload_n 0, 1) := by decide +kernel
theorem dX1_init_90 : decode cX1_init 90 = .ok (.sipush 12000, 3) := by decide +kernel
theorem dX1_init_93 : decode cX1_init 93 = .ok (.newarray .int, 2) := by decide +kernel
theorem dX1_init_95 : decode cX1_init 95 = .ok (.putfield 44, 3) := by decide +kernel
theorem dX1_init_98 : decode cX1_init 98 = .ok (.aload_n 0, 1) := by decide +kernel
theorem dX1_init_99 : decode cX1_init 99 = .ok (.sipush 12000, 3) := by decide +kernel
theorem dX1_init_102 : decode cX1_init 102 = .ok (.newarray .byte, 2) := by decide +kernel
theorem dX1_init_104 : decode cX1_init 104 = .ok (.putfield 47, 3) := by decide +kernel
theorem dX1_init_107 : decode cX1_init 107 = .ok (.aload_n 0, 1) := by decide +kernel
theorem dX1_init_108 : decode cX1_init 108 = .ok (.sipush 12000, 3) := by decide +kernel
theorem dX1_init_111 : decode cX1_init 111 = .ok (.newarray .int, 2) := by decide +kernel
theorem dX1_init_113 : decode cX1_init 113 = .ok (.putfield 50, 3) := by decide +kernel
theorem dX1_init_116 : decode cX1_init 116 = .ok (.aload_n 0, 1) := by decide +kernel
theorem dX1_init_117 : decode cX1_init 117 = .ok (.sipush 1000, 3) := by decide +kernel
theorem dX1_init_120 : decode cX1_init 120 = .ok (.newarray .byte, 2) := by decide +kernel
theorem dX1_init_122 : decode cX1_init 122 = .ok (.putfield 53, 3) := by decide +kernel
theorem dX1_init_125 : decode cX1_init 125 = .ok (.aload_n 0, 1) := by decide +kernel
theorem dX1_init_126 : decode cX1_init 126 = .ok (.sipush 1000, 3) := by decide +kernel
theorem dX1_init_129 : decode cX1_init 129 = .ok (.newarray .int, 2) := by decide +kernel
theorem dX1_init_131 : decode cX1_init 131 = .ok (.putfield 56, 3) := by decide +kernel
theorem dX1_init_134 : decode cX1_init 134 = .ok (.aload_n 0, 1) := by decide +kernel
theorem dX1_init_135 : decode cX1_init 135 = .ok (.sipush 1000, 3) := by decide +kernel
theorem dX1_init_138 : decode cX1_init 138 = .ok (.newarray .byte, 2) := by decide +kernel
theorem dX1_init_140 : decode cX1_init 140 = .ok (.putfield 59, 3) := by decide +kernel
theorem dX1_init_143 : decode cX1_init 143 = .ok (.aload_n 0, 1) := by decide +kernel
theorem dX1_init_144 : decode cX1_init 144 = .ok (.sipush 800, 3) := by decide +kernel
theorem dX1_init_147 : decode cX1_init 147 = .ok (.newarray .byte, 2) := by decide +kernel
theorem dX1_init_149 : decode cX1_init 149 = .ok (.putfield 62, 3) := by decide +kernel
theorem dX1_init_152 : decode cX1_init 152 = .ok (.aload_n 0, 1) := by decide +kernel
theorem dX1_init_153 : decode cX1_init 153 = .ok (.bipush 32, 2) := by decide +kernel
theorem dX1_init_155 : decode cX1_init 155 = .ok (.newarray .int, 2) := by decide +kernel
theorem dX1_init_157 : decode cX1_init 157 = .ok (.putfield 65, 3) := by decide +kernel
theorem dX1_init_160 : decode cX1_init 160 = .ok (.aload_n 0, 1) := by decide +kernel
theorem dX1_init_161 : decode cX1_init 161 = .ok (.bipush 32, 2) := by decide +kernel
theorem dX1_init_163 : decode cX1_init 163 = .ok (.newarray .int, 2) := by decide +kernel
theorem dX1_init_165 : decode cX1_init 165 = .ok (.putfield 68, 3) := by decide +kernel
theorem dX1_init_168 : decode cX1_init 168 = .ok (.aload_n 0, 1) := by decide +kernel
theorem dX1_init_169 : decode cX1_init 169 = .ok (.bipush 32, 2) := by decide +kernel
theorem dX1_init_171 : decode cX1_init 171 = .ok (.newarray .int, 2) := by decide +kernel
theorem dX1_init_173 : decode cX1_init 173 = .ok (.putfield 71, 3) := by decide +kernel
theorem dX1_init_176 : decode cX1_init 176 = .ok (.aload_n 0, 1) := by decide +kernel
theorem dX1_init_177 : decode cX1_init 177 = .ok (.bipush 10, 2) := by decide +kernel
theorem dX1_init_179 : decode cX1_init 179 = .ok (.newarray .int, 2) := by decide +kernel
theorem dX1_init_181 : decode cX1_init 181 = .ok (.putfield 74, 3) := by decide +kernel
theorem dX1_init_184 : decode cX1_init 184 = .ok (.aload_n 0, 1) := by decide +kernel
theorem dX1_init_185 : decode cX1_init 185 = .ok (.bipush 64, 2) := by decide +kernel
theorem dX1_init_187 : decode cX1_init 187 = .ok (.newarray .int, 2) := by decide +kernel
theorem dX1_init_189 : decode cX1_init 189 = .ok (.putfield 77, 3) := by decide +kernel
theorem dX1_init_192 : decode cX1_init 192 = .ok (.aload_n 0, 1) := by decide +kernel
theorem dX1_init_193 : decode cX1_init 193 = .ok (.bipush 64, 2) := by decide +kernel
theorem dX1_init_195 : decode cX1_init 195 = .ok (.newarray .int, 2) := by decide +kernel
theorem dX1_init_197 : decode cX1_init 197 = .ok (.putfield 80, 3) := by decide +kernel
theorem dX1_init_200 : decode cX1_init 200 = .ok (.aload_n 0, 1) := by decide +kernel
theorem dX1_init_201 : decode cX1_init 201 = .ok (.bipush 64, 2) := by decide +kernel
theorem dX1_init_203 : decode cX1_init 203 = .ok (.newarray .int, 2) := by decide +kernel
theorem dX1_init_205 : decode cX1_init 205 = .ok (.putfield 83, 3) := by decide +kernel
theorem dX1_init_208 : decode cX1_init 208 = .ok (.aload_n 0, 1) := by decide +kernel
theorem dX1_init_209 : decode cX1_init 209 = .ok (.sipush 8000, 3) := by decide +kernel
theorem dX1_init_212 : decode cX1_init 212 = .ok (.newarray .byte, 2) := by decide +kernel
theorem dX1_init_214 : decode cX1_init 214 = .ok (.putfield 86, 3) := by decide +kernel
theorem dX1_init_217 : decode cX1_init 217 = .ok (.aload_n 0, 1) := by decide +kernel
theorem dX1_init_218 : decode cX1_init 218 = .ok (.bipush 10, 2) := by decide +kernel
theorem dX1_init_220 : decode cX1_init 220 = .ok (.newarray .int, 2) := by decide +kernel
theorem dX1_init_222 : decode cX1_init 222 = .ok (.putfield 89, 3) := by decide +kernel
theorem dX1_init_225 : decode cX1_init 225 = .ok (.aload_n 0, 1) := by decide +kernel
theorem dX1_init_226 : decode cX1_init 226 = .ok (.bipush 12, 2) := by decide +kernel
theorem dX1_init_228 : decode cX1_init 228 = .ok (.newarray .int, 2) := by decide +kernel
theorem dX1_init_230 : decode cX1_init 230 = .ok (.putfield 92, 3) := by decide +kernel
theorem dX1_init_233 : decode cX1_init 233 = .ok (.aload_n 0, 1) := by decide +kernel
theorem dX1_init_234 : decode cX1_init 234 = .ok (.bipush 72, 2) := by decide +kernel
theorem dX1_init_236 : decode cX1_init 236 = .ok (.newarray .int, 2) := by decide +kernel
theorem dX1_init_238 : decode cX1_init 238 = .ok (.putfield 95, 3) := by decide +kernel
theorem dX1_init_241 : decode cX1_init 241 = .ok (.aload_n 0, 1) := by decide +kernel
theorem dX1_init_242 : decode cX1_init 242 = .ok (.bipush 72, 2) := by decide +kernel
theorem dX1_init_244 : decode cX1_init 244 = .ok (.newarray .int, 2) := by decide +kernel
theorem dX1_init_246 : decode cX1_init 246 = .ok (.putfield 98, 3) := by decide +kernel
theorem dX1_init_249 : decode cX1_init 249 = .ok (.aload_n 0, 1) := by decide +kernel
theorem dX1_init_250 : decode cX1_init 250 = .ok (.bipush 72, 2) := by decide +kernel
theorem dX1_init_252 : decode cX1_init 252 = .ok (.newarray .int, 2) := by decide +kernel
theorem dX1_init_254 : decode cX1_init 254 = .ok (.putfield 101, 3) := by decide +kernel
theorem dX1_init_257 : decode cX1_init 257 = .ok (.aload_n 0, 1) := by decide +kernel
theorem dX1_init_258 : decode cX1_init 258 = .ok (.bipush 72, 2) := by decide +kernel
theorem dX1_init_260 : decode cX1_init 260 = .ok (.newarray .int, 2) := by decide +kernel
theorem dX1_init_262 : decode cX1_init 262 = .ok (.putfield 104, 3) := by decide +kernel
theorem dX1_init_265 : decode cX1_init 265 = .ok (.aload_n 0, 1) := by decide +kernel
theorem dX1_init_266 : decode cX1_init 266 = .ok (.bipush 72, 2) := by decide +kernel
theorem dX1_init_268 : decode cX1_init 268 = .ok (.newarray .int, 2) := by decide +kernel
theorem dX1_init_270 : decode cX1_init 270 = .ok (.putfield 107, 3) := by decide +kernel
theorem dX1_init_273 : decode cX1_init 273 = .ok (.aload_n 0, 1) := by decide +kernel
theorem dX1_init_274 : decode cX1_init 274 = .ok (.bipush 72, 2) := by decide +kernel
theorem dX1_init_276 : decode cX1_init 276 = .ok (.newarray .int, 2) := by decide +kernel
theorem dX1_init_278 : decode cX1_init 278 = .ok (.putfield 110, 3) := by decide +kernel
theorem dX1_init_281 : decode cX1_init 281 = .ok (.aload_n 0, 1) := by decide +kernel
theorem dX1_init_282 : decode cX1_init 282 = .ok (.bipush 72, 2) := by decide +kernel
theorem dX1_init_284 : decode cX1_init 284 = .ok (.newarray .long, 2) := by decide +kernel
theorem dX1_init_286 : decode cX1_init 286 = .ok (.putfield 113, 3) := by decide +kernel
theorem dX1_init_289 : decode cX1_init 289 = .ok (.aload_n 0, 1) := by decide +kernel
theorem dX1_init_290 : decode cX1_init 290 = .ok (.bipush 72, 2) := by decide +kernel
theorem dX1_init_292 : decode cX1_init 292 = .ok (.newarray .long, 2) := by decide +kernel
theorem dX1_init_294 : decode cX1_init 294 = .ok (.putfield 117, 3) := by decide +kernel
theorem dX1_init_297 : decode cX1_init 297 = .ok (.aload_n 0, 1) := by decide +kernel
theorem dX1_init_298 : decode cX1_init 298 = .ok (.bipush 72, 2) := by decide +kernel
theorem dX1_init_300 : decode cX1_init 300 = .ok (.newarray .long, 2) := by decide +kernel
theorem dX1_init_302 : decode cX1_init 302 = .ok (.putfield 120, 3) := by decide +kernel
theorem dX1_init_305 : decode cX1_init 305 = .ok (.aload_n 0, 1) := by decide +kernel
theorem dX1_init_306 : decode cX1_init 306 = .ok (.bipush 72, 2) := by decide +kernel
theorem dX1_init_308 : decode cX1_init 308 = .ok (.newarray .long, 2) := by decide +kernel
theorem dX1_init_310 : decode cX1_init 310 = .ok (.putfield 123, 3) := by decide +kernel
theorem dX1_init_313 : decode cX1_init 313 = .ok (.aload_n 0, 1) := by decide +kernel
theorem dX1_init_314 : decode cX1_init 314 = .ok (.iconst 0, 1) := by decide +kernel
theorem dX1_init_315 : decode cX1_init 315 = .ok (.putfield 126, 3) := by decide +kernel
theorem dX1_init_318 : decode cX1_init 318 = .ok (.aload_n 0, 1) := by decide +kernel
theorem dX1_init_319 : decode cX1_init 319 = .ok (.iconst (-1), 1) := by decide +kernel
theorem dX1_init_320 : decode cX1_init 320 = .ok (.putfield 130, 3) := by decide +kernel
theorem dX1_init_323 : decode cX1_init 323 = .ok (.return_, 1) := by decide +kernel
noncomputable def B_X1_init (l : Launch) (δ : Dl) : Seg (l, δ, yX1_init, 1, none, cX1_init, 1) 0 324 :=
  seq (p := 0) (q := 1) (r := 324) (p_aload_n 0 dX1_init_0) (seq (p := 1) (q := 4) (r := 324) (p_objI (Nat.le_of_ble_eq_true rfl) (okc q1158) (okc q122) (okc q123) dX1_init_1) (seq (p := 4) (q := 5) (r := 324) (p_aload_n 0 dX1_init_4) (seq (p := 5) (q := 7) (r := 324) (p_bipush 8 dX1_init_5 (by decide)) (seq (p := 7) (q := 9) (r := 324) (p_newa 0 (Nat.le_of_ble_eq_true rfl) dX1_init_7) (seq (p := 9) (q := 12) (r := 324) (p_putF [(1, 0)] (.array .int) (alF1 ff_X1_7_1) rfl dX1_init_9) (seq (p := 12) (q := 13) (r := 324) (p_aload_n 0 dX1_init_12) (seq (p := 13) (q := 15) (r := 324) (p_bipush 48 dX1_init_13 (by decide)) (seq (p := 15) (q := 17) (r := 324) (p_newa 0 (Nat.le_of_ble_eq_true rfl) dX1_init_15) (seq (p := 17) (q := 20) (r := 324) (p_putF [(1, 1)] (.array .int) (alF1 ff_X1_13_1) rfl dX1_init_17) (seq (p := 20) (q := 21) (r := 324) (p_aload_n 0 dX1_init_20) (seq (p := 21) (q := 23) (r := 324) (p_bipush 48 dX1_init_21 (by decide)) (seq (p := 23) (q := 25) (r := 324) (p_newa 0 (Nat.le_of_ble_eq_true rfl) dX1_init_23) (seq (p := 25) (q := 28) (r := 324) (p_putF [(1, 2)] (.array .int) (alF1 ff_X1_16_1) rfl dX1_init_25) (seq (p := 28) (q := 29) (r := 324) (p_aload_n 0 dX1_init_28) (seq (p := 29) (q := 31) (r := 324) (p_bipush 6 dX1_init_29 (by decide)) (seq (p := 31) (q := 33) (r := 324) (p_newa 0 (Nat.le_of_ble_eq_true rfl) dX1_init_31) (seq (p := 33) (q := 36) (r := 324) (p_putF [(1, 3)] (.array .int) (alF1 ff_X1_19_1) rfl dX1_init_33) (seq (p := 36) (q := 37) (r := 324) (p_aload_n 0 dX1_init_36) (seq (p := 37) (q := 39) (r := 324) (p_bipush 6 dX1_init_37 (by decide)) (seq (p := 39) (q := 41) (r := 324) (p_newa 0 (Nat.le_of_ble_eq_true rfl) dX1_init_39) (seq (p := 41) (q := 44) (r := 324) (p_putF [(1, 4)] (.array .int) (alF1 ff_X1_22_1) rfl dX1_init_41) (seq (p := 44) (q := 45) (r := 324) (p_aload_n 0 dX1_init_44) (seq (p := 45) (q := 46) (r := 324) (p_iconst 5 dX1_init_45) (seq (p := 46) (q := 48) (r := 324) (p_newa 0 (Nat.le_of_ble_eq_true rfl) dX1_init_46) (seq (p := 48) (q := 51) (r := 324) (p_putF [(1, 8)] (.array .int) (alF1 ff_X1_25_1) rfl dX1_init_48) (seq (p := 51) (q := 52) (r := 324) (p_aload_n 0 dX1_init_51) (seq (p := 52) (q := 53) (r := 324) (p_iconst 5 dX1_init_52) (seq (p := 53) (q := 55) (r := 324) (p_newa 0 (Nat.le_of_ble_eq_true rfl) dX1_init_53) (seq (p := 55) (q := 58) (r := 324) (p_putF [(1, 9)] (.array .int) (alF1 ff_X1_28_1) rfl dX1_init_55) (seq (p := 58) (q := 59) (r := 324) (p_aload_n 0 dX1_init_58) (seq (p := 59) (q := 60) (r := 324) (p_iconst 5 dX1_init_59) (seq (p := 60) (q := 62) (r := 324) (p_newa 0 (Nat.le_of_ble_eq_true rfl) dX1_init_60) (seq (p := 62) (q := 65) (r := 324) (p_putF [(1, 13)] (.array .int) (alF1 ff_X1_31_1) rfl dX1_init_62) (seq (p := 65) (q := 66) (r := 324) (p_aload_n 0 dX1_init_65) (seq (p := 66) (q := 67) (r := 324) (p_iconst 5 dX1_init_66) (seq (p := 67) (q := 69) (r := 324) (p_newa 0 (Nat.le_of_ble_eq_true rfl) dX1_init_67) (seq (p := 69) (q := 72) (r := 324) (p_putF [(1, 14)] (.array .int) (alF1 ff_X1_34_1) rfl dX1_init_69) (seq (p := 72) (q := 73) (r := 324) (p_aload_n 0 dX1_init_72) (seq (p := 73) (q := 75) (r := 324) (p_bipush 20 dX1_init_73 (by decide)) (seq (p := 75) (q := 77) (r := 324) (p_newa 0 (Nat.le_of_ble_eq_true rfl) dX1_init_75) (seq (p := 77) (q := 80) (r := 324) (p_putF [(1, 18)] (.array .int) (alF1 ff_X1_37_1) rfl dX1_init_77) (seq (p := 80) (q := 81) (r := 324) (p_aload_n 0 dX1_init_80) (seq (p := 81) (q := 84) (r := 324) (p_sipush 12000 dX1_init_81 (by decide)) (seq (p := 84) (q := 86) (r := 324) (p_newa 1 (Nat.le_of_ble_eq_true rfl) dX1_init_84) (seq (p := 86) (q := 89) (r := 324) (p_putF [(1, 19)] (.array .byte) (alF1 ff_X1_40_1) rfl dX1_init_86) (seq (p := 89) (q := 90) (r := 324) (p_aload_n 0 dX1_init_89) (seq (p := 90) (q := 93) (r := 324) (p_sipush 12000 dX1_init_90 (by decide)) (seq (p := 93) (q := 95) (r := 324) (p_newa 0 (Nat.le_of_ble_eq_true rfl) dX1_init_93) (seq (p := 95) (q := 98) (r := 324) (p_putF [(1, 20)] (.array .int) (alF1 ff_X1_44_1) rfl dX1_init_95) (seq (p := 98) (q := 99) (r := 324) (p_aload_n 0 dX1_init_98) (seq (p := 99) (q := 102) (r := 324) (p_sipush 12000 dX1_init_99 (by decide)) (seq (p := 102) (q := 104) (r := 324) (p_newa 1 (Nat.le_of_ble_eq_true rfl) dX1_init_102) (seq (p := 104) (q := 107) (r := 324) (p_putF [(1, 21)] (.array .byte) (alF1 ff_X1_47_1) rfl dX1_init_104) (seq (p := 107) (q := 108) (r := 324) (p_aload_n 0 dX1_init_107) (seq (p := 108) (q := 111) (r := 324) (p_sipush 12000 dX1_init_108 (by decide)) (seq (p := 111) (q := 113) (r := 324) (p_newa 0 (Nat.le_of_ble_eq_true rfl) dX1_init_111) (seq (p := 113) (q := 116) (r := 324) (p_putF [(1, 22)] (.array .int) (alF1 ff_X1_50_1) rfl dX1_init_113) (seq (p := 116) (q := 117) (r := 324) (p_aload_n 0 dX1_init_116) (seq (p := 117) (q := 120) (r := 324) (p_sipush 1000 dX1_init_117 (by decide)) (seq (p := 120) (q := 122) (r := 324) (p_newa 1 (Nat.le_of_ble_eq_true rfl) dX1_init_120) (seq (p := 122) (q := 125) (r := 324) (p_putF [(1, 24)] (.array .byte) (alF1 ff_X1_53_1) rfl dX1_init_122) (seq (p := 125) (q := 126) (r := 324) (p_aload_n 0 dX1_init_125) (seq (p := 126) (q := 129) (r := 324) (p_sipush 1000 dX1_init_126 (by decide)) (seq (p := 129) (q := 131) (r := 324) (p_newa 0 (Nat.le_of_ble_eq_true rfl) dX1_init_129) (seq (p := 131) (q := 134) (r := 324) (p_putF [(1, 25)] (.array .int) (alF1 ff_X1_56_1) rfl dX1_init_131) (seq (p := 134) (q := 135) (r := 324) (p_aload_n 0 dX1_init_134) (seq (p := 135) (q := 138) (r := 324) (p_sipush 1000 dX1_init_135 (by decide)) (seq (p := 138) (q := 140) (r := 324) (p_newa 1 (Nat.le_of_ble_eq_true rfl) dX1_init_138) (seq (p := 140) (q := 143) (r := 324) (p_putF [(1, 26)] (.array .byte) (alF1 ff_X1_59_1) rfl dX1_init_140) (seq (p := 143) (q := 144) (r := 324) (p_aload_n 0 dX1_init_143) (seq (p := 144) (q := 147) (r := 324) (p_sipush 800 dX1_init_144 (by decide)) (seq (p := 147) (q := 149) (r := 324) (p_newa 1 (Nat.le_of_ble_eq_true rfl) dX1_init_147) (seq (p := 149) (q := 152) (r := 324) (p_putF [(1, 27)] (.array .byte) (alF1 ff_X1_62_1) rfl dX1_init_149) (seq (p := 152) (q := 153) (r := 324) (p_aload_n 0 dX1_init_152) (seq (p := 153) (q := 155) (r := 324) (p_bipush 32 dX1_init_153 (by decide)) (seq (p := 155) (q := 157) (r := 324) (p_newa 0 (Nat.le_of_ble_eq_true rfl) dX1_init_155) (seq (p := 157) (q := 160) (r := 324) (p_putF [(1, 30)] (.array .int) (alF1 ff_X1_65_1) rfl dX1_init_157) (seq (p := 160) (q := 161) (r := 324) (p_aload_n 0 dX1_init_160) (seq (p := 161) (q := 163) (r := 324) (p_bipush 32 dX1_init_161 (by decide)) (seq (p := 163) (q := 165) (r := 324) (p_newa 0 (Nat.le_of_ble_eq_true rfl) dX1_init_163) (seq (p := 165) (q := 168) (r := 324) (p_putF [(1, 31)] (.array .int) (alF1 ff_X1_68_1) rfl dX1_init_165) (seq (p := 168) (q := 169) (r := 324) (p_aload_n 0 dX1_init_168) (seq (p := 169) (q := 171) (r := 324) (p_bipush 32 dX1_init_169 (by decide)) (seq (p := 171) (q := 173) (r := 324) (p_newa 0 (Nat.le_of_ble_eq_true rfl) dX1_init_171) (seq (p := 173) (q := 176) (r := 324) (p_putF [(1, 32)] (.array .int) (alF1 ff_X1_71_1) rfl dX1_init_173) (seq (p := 176) (q := 177) (r := 324) (p_aload_n 0 dX1_init_176) (seq (p := 177) (q := 179) (r := 324) (p_bipush 10 dX1_init_177 (by decide)) (seq (p := 179) (q := 181) (r := 324) (p_newa 0 (Nat.le_of_ble_eq_true rfl) dX1_init_179) (seq (p := 181) (q := 184) (r := 324) (p_putF [(1, 35)] (.array .int) (alF1 ff_X1_74_1) rfl dX1_init_181) (seq (p := 184) (q := 185) (r := 324) (p_aload_n 0 dX1_init_184) (seq (p := 185) (q := 187) (r := 324) (p_bipush 64 dX1_init_185 (by decide)) (seq (p := 187) (q := 189) (r := 324) (p_newa 0 (Nat.le_of_ble_eq_true rfl) dX1_init_187) (seq (p := 189) (q := 192) (r := 324) (p_putF [(1, 39)] (.array .int) (alF1 ff_X1_77_1) rfl dX1_init_189) (seq (p := 192) (q := 193) (r := 324) (p_aload_n 0 dX1_init_192) (seq (p := 193) (q := 195) (r := 324) (p_bipush 64 dX1_init_193 (by decide)) (seq (p := 195) (q := 197) (r := 324) (p_newa 0 (Nat.le_of_ble_eq_true rfl) dX1_init_195) (seq (p := 197) (q := 200) (r := 324) (p_putF [(1, 40)] (.array .int) (alF1 ff_X1_80_1) rfl dX1_init_197) (seq (p := 200) (q := 201) (r := 324) (p_aload_n 0 dX1_init_200) (seq (p := 201) (q := 203) (r := 324) (p_bipush 64 dX1_init_201 (by decide)) (seq (p := 203) (q := 205) (r := 324) (p_newa 0 (Nat.le_of_ble_eq_true rfl) dX1_init_203) (seq (p := 205) (q := 208) (r := 324) (p_putF [(1, 41)] (.array .int) (alF1 ff_X1_83_1) rfl dX1_init_205) (seq (p := 208) (q := 209) (r := 324) (p_aload_n 0 dX1_init_208) (seq (p := 209) (q := 212) (r := 324) (p_sipush 8000 dX1_init_209 (by decide)) (seq (p := 212) (q := 214) (r := 324) (p_newa 1 (Nat.le_of_ble_eq_true rfl) dX1_init_212) (seq (p := 214) (q := 217) (r := 324) (p_putF [(1, 43)] (.array .byte) (alF1 ff_X1_86_1) rfl dX1_init_214) (seq (p := 217) (q := 218) (r := 324) (p_aload_n 0 dX1_init_217) (seq (p := 218) (q := 220) (r := 324) (p_bipush 10 dX1_init_218 (by decide)) (seq (p := 220) (q := 222) (r := 324) (p_newa 0 (Nat.le_of_ble_eq_true rfl) dX1_init_220) (seq (p := 222) (q := 225) (r := 324) (p_putF [(1, 46)] (.array .int) (alF1 ff_X1_89_1) rfl dX1_init_222) (seq (p := 225) (q := 226) (r := 324) (p_aload_n 0 dX1_init_225) (seq (p := 226) (q := 228) (r := 324) (p_bipush 12 dX1_init_226 (by decide)) (seq (p := 228) (q := 230) (r := 324) (p_newa 0 (Nat.le_of_ble_eq_true rfl) dX1_init_228) (seq (p := 230) (q := 233) (r := 324) (p_putF [(1, 49)] (.array .int) (alF1 ff_X1_92_1) rfl dX1_init_230) (seq (p := 233) (q := 234) (r := 324) (p_aload_n 0 dX1_init_233) (seq (p := 234) (q := 236) (r := 324) (p_bipush 72 dX1_init_234 (by decide)) (seq (p := 236) (q := 238) (r := 324) (p_newa 0 (Nat.le_of_ble_eq_true rfl) dX1_init_236) (seq (p := 238) (q := 241) (r := 324) (p_putF [(1, 50)] (.array .int) (alF1 ff_X1_95_1) rfl dX1_init_238) (seq (p := 241) (q := 242) (r := 324) (p_aload_n 0 dX1_init_241) (seq (p := 242) (q := 244) (r := 324) (p_bipush 72 dX1_init_242 (by decide)) (seq (p := 244) (q := 246) (r := 324) (p_newa 0 (Nat.le_of_ble_eq_true rfl) dX1_init_244) (seq (p := 246) (q := 249) (r := 324) (p_putF [(1, 55)] (.array .int) (alF1 ff_X1_98_1) rfl dX1_init_246) (seq (p := 249) (q := 250) (r := 324) (p_aload_n 0 dX1_init_249) (seq (p := 250) (q := 252) (r := 324) (p_bipush 72 dX1_init_250 (by decide)) (seq (p := 252) (q := 254) (r := 324) (p_newa 0 (Nat.le_of_ble_eq_true rfl) dX1_init_252) (seq (p := 254) (q := 257) (r := 324) (p_putF [(1, 56)] (.array .int) (alF1 ff_X1_101_1) rfl dX1_init_254) (seq (p := 257) (q := 258) (r := 324) (p_aload_n 0 dX1_init_257) (seq (p := 258) (q := 260) (r := 324) (p_bipush 72 dX1_init_258 (by decide)) (seq (p := 260) (q := 262) (r := 324) (p_newa 0 (Nat.le_of_ble_eq_true rfl) dX1_init_260) (seq (p := 262) (q := 265) (r := 324) (p_putF [(1, 57)] (.array .int) (alF1 ff_X1_104_1) rfl dX1_init_262) (seq (p := 265) (q := 266) (r := 324) (p_aload_n 0 dX1_init_265) (seq (p := 266) (q := 268) (r := 324) (p_bipush 72 dX1_init_266 (by decide)) (seq (p := 268) (q := 270) (r := 324) (p_newa 0 (Nat.le_of_ble_eq_true rfl) dX1_init_268) (seq (p := 270) (q := 273) (r := 324) (p_putF [(1, 58)] (.array .int) (alF1 ff_X1_107_1) rfl dX1_init_270) (seq (p := 273) (q := 274) (r := 324) (p_aload_n 0 dX1_init_273) (seq (p := 274) (q := 276) (r := 324) (p_bipush 72 dX1_init_274 (by decide)) (seq (p := 276) (q := 278) (r := 324) (p_newa 0 (Nat.le_of_ble_eq_true rfl) dX1_init_276) (seq (p := 278) (q := 281) (r := 324) (p_putF [(1, 59)] (.array .int) (alF1 ff_X1_110_1) rfl dX1_init_278) (seq (p := 281) (q := 282) (r := 324) (p_aload_n 0 dX1_init_281) (seq (p := 282) (q := 284) (r := 324) (p_bipush 72 dX1_init_282 (by decide)) (seq (p := 284) (q := 286) (r := 324) (p_newa 3 (Nat.le_of_ble_eq_true rfl) dX1_init_284) (seq (p := 286) (q := 289) (r := 324) (p_putF [(1, 60)] (.array .long) (alF1 ff_X1_113_1) rfl dX1_init_286) (seq (p := 289) (q := 290) (r := 324) (p_aload_n 0 dX1_init_289) (seq (p := 290) (q := 292) (r := 324) (p_bipush 72 dX1_init_290 (by decide)) (seq (p := 292) (q := 294) (r := 324) (p_newa 3 (Nat.le_of_ble_eq_true rfl) dX1_init_292) (seq (p := 294) (q := 297) (r := 324) (p_putF [(1, 61)] (.array .long) (alF1 ff_X1_117_1) rfl dX1_init_294) (seq (p := 297) (q := 298) (r := 324) (p_aload_n 0 dX1_init_297) (seq (p := 298) (q := 300) (r := 324) (p_bipush 72 dX1_init_298 (by decide)) (seq (p := 300) (q := 302) (r := 324) (p_newa 3 (Nat.le_of_ble_eq_true rfl) dX1_init_300) (seq (p := 302) (q := 305) (r := 324) (p_putF [(1, 62)] (.array .long) (alF1 ff_X1_120_1) rfl dX1_init_302) (seq (p := 305) (q := 306) (r := 324) (p_aload_n 0 dX1_init_305) (seq (p := 306) (q := 308) (r := 324) (p_bipush 72 dX1_init_306 (by decide)) (seq (p := 308) (q := 310) (r := 324) (p_newa 3 (Nat.le_of_ble_eq_true rfl) dX1_init_308) (seq (p := 310) (q := 313) (r := 324) (p_putF [(1, 63)] (.array .long) (alF1 ff_X1_123_1) rfl dX1_init_310) (seq (p := 313) (q := 314) (r := 324) (p_aload_n 0 dX1_init_313) (seq (p := 314) (q := 315) (r := 324) (p_iconst 0 dX1_init_314) (seq (p := 315) (q := 318) (r := 324) (p_put [(1, 10)] .int (alP1 fp_X1_126_1) dX1_init_315) (seq (p := 318) (q := 319) (r := 324) (p_aload_n 0 dX1_init_318) (seq (p := 319) (q := 320) (r := 324) (p_iconst (-1) dX1_init_319) (seq (p := 320) (q := 323) (r := 324) (p_put [(1, 51)] .int (alP1 fp_X1_130_1) dX1_init_320) (seq (p := 323) (q := 324) (r := 324) (p_return dX1_init_323 rfl) done))))))))))))))))))))))))))))))))))))))))))))))))))))))))))))))))))))))))))))))))))))))))))))))))))))))))))))))))))))))))))))))))))))))))))))))))))))))))))))))))
noncomputable def M_X1_init (l : Launch) (δ : Dl) : Mth l δ yX1_init cX1_init 1 none 1 := mk (B_X1_init l δ) (by decide)
theorem N_X1_init {l : Launch} {δ : Dl} {o : Nat} {s : St} : (M_X1_init l δ).1 [.inr (.inr (some o))] s = bres ((B_X1_init l δ).1 [] [some (.inr (.inr (some o)))] s) := (mk_eq (hy := by decide) rfl).trans (nrfl rfl)
theorem dX12_init_0 : decode cX12_init 0 = .ok (.aload_n 0, 1) := by decide +kernel
theorem dX12_init_1 : decode cX12_init 1 = .ok (.invokespecial 3, 3) := by decide +kernel
theorem dX12_init_4 : decode cX12_init 4 = .ok (.aload_n 0, 1) := by decide +kernel
theorem dX12_init_5 : decode cX12_init 5 = .ok (.sipush 4800, 3) := by decide +kernel
theorem dX12_init_8 : decode cX12_init 8 = .ok (.newarray .byte, 2) := by decide +kernel
theorem dX12_init_10 : decode cX12_init 10 = .ok (.putfield 9, 3) := by decide +kernel
theorem dX12_init_13 : decode cX12_init 13 = .ok (.return_, 1) := by decide +kernel
noncomputable def B_X12_init (l : Launch) (δ : Dl) : Seg (l, δ, yX12_init, 1, none, cX12_init, 1) 0 14 :=
  seq (p := 0) (q := 1) (r := 14) (p_aload_n 0 dX12_init_0) (seq (p := 1) (q := 4) (r := 14) (p_objI (Nat.le_of_ble_eq_true rfl) (okc q750) (okc q122) (okc q123) dX12_init_1) (seq (p := 4) (q := 5) (r := 14) (p_aload_n 0 dX12_init_4) (seq (p := 5) (q := 8) (r := 14) (p_sipush 4800 dX12_init_5 (by decide)) (seq (p := 8) (q := 10) (r := 14) (p_newa 1 (Nat.le_of_ble_eq_true rfl) dX12_init_8) (seq (p := 10) (q := 13) (r := 14) (p_putF [(11, 0)] (.array .byte) (alF1 ff_X12_9_11) rfl dX12_init_10) (seq (p := 13) (q := 14) (r := 14) (p_return dX12_init_13 rfl) done))))))
noncomputable def M_X12_init (l : Launch) (δ : Dl) : Mth l δ yX12_init cX12_init 1 none 1 := mk (B_X12_init l δ) (by decide)
theorem N_X12_init {l : Launch} {δ : Dl} {o : Nat} {s : St} : (M_X12_init l δ).1 [.inr (.inr (some o))] s = bres ((B_X12_init l δ).1 [] [some (.inr (.inr (some o)))] s) := (mk_eq (hy := by decide) rfl).trans (nrfl rfl)
theorem dX12_put_0 : decode cX12_put 0 = .ok (.aload_n 0, 1) := by decide +kernel
theorem dX12_put_1 : decode cX12_put 1 = .ok (.getfield 9, 3) := by decide +kernel
theorem dX12_put_4 : decode cX12_put 4 = .ok (.aload_n 0, 1) := by decide +kernel
theorem dX12_put_5 : decode cX12_put 5 = .ok (.getfield 15, 3) := by decide +kernel
theorem dX12_put_8 : decode cX12_put 8 = .ok (.iload_n 1, 1) := by decide +kernel
theorem dX12_put_9 : decode cX12_put 9 = .ok (.i2b, 1) := by decide +kernel
theorem dX12_put_10 : decode cX12_put 10 = .ok (.bastore, 1) := by decide +kernel
theorem dX12_put_11 : decode cX12_put 11 = .ok (.aload_n 0, 1) := by decide +kernel
theorem dX12_put_12 : decode cX12_put 12 = .ok (.dup, 1) := by decide +kernel
theorem dX12_put_13 : decode cX12_put 13 = .ok (.getfield 15, 3) := by decide +kernel
theorem dX12_put_16 : decode cX12_put 16 = .ok (.iconst 1, 1) := by decide +kernel
theorem dX12_put_17 : decode cX12_put 17 = .ok (.iadd, 1) := by decide +kernel
theorem dX12_put_18 : decode cX12_put 18 = .ok (.putfield 15, 3) := by decide +kernel
theorem dX12_put_21 : decode cX12_put 21 = .ok (.return_, 1) := by decide +kernel
noncomputable def B_X12_put (l : Launch) (δ : Dl) : Seg (l, δ, yX12_put, 0, none, cX12_put, 2) 0 22 :=
  seq (p := 0) (q := 1) (r := 22) (p_aload_n 0 dX12_put_0) (seq (p := 1) (q := 4) (r := 22) (p_get [(11, 0)] (alL1 fl_X12_9_11) dX12_put_1) (seq (p := 4) (q := 5) (r := 22) (p_aload_n 0 dX12_put_4) (seq (p := 5) (q := 8) (r := 22) (p_get [(11, 1)] (alL1 fl_X12_15_11) dX12_put_5) (seq (p := 8) (q := 9) (r := 22) (p_iload_n 1 dX12_put_8) (seq (p := 9) (q := 10) (r := 22) (p_i2b dX12_put_9) (seq (p := 10) (q := 11) (r := 22) (p_bast dX12_put_10) (seq (p := 11) (q := 12) (r := 22) (p_aload_n 0 dX12_put_11) (seq (p := 12) (q := 13) (r := 22) (p_dup dX12_put_12) (seq (p := 13) (q := 16) (r := 22) (p_get [(11, 1)] (alL1 fl_X12_15_11) dX12_put_13) (seq (p := 16) (q := 17) (r := 22) (p_iconst 1 dX12_put_16) (seq (p := 17) (q := 18) (r := 22) (p_iadd dX12_put_17) (seq (p := 18) (q := 21) (r := 22) (p_put [(11, 1)] .int (alP1 fp_X12_15_11) dX12_put_18) (seq (p := 21) (q := 22) (r := 22) (p_return dX12_put_21 rfl) done)))))))))))))
noncomputable def M_X12_put (l : Launch) (δ : Dl) : Mth l δ yX12_put cX12_put 2 none 0 := mk (B_X12_put l δ) (by decide)
theorem N_X12_put {l : Launch} {δ : Dl} {o : Nat} {a1 : Int} {s : St} : (M_X12_put l δ).1 [.inr (.inr (some o)), .inl a1] s = bres ((B_X12_put l δ).1 [] [some (.inr (.inr (some o))), some (.inl a1)] s) := (mk_eq (hy := by decide) rfl).trans (nrfl rfl)
theorem dX12_variable_0 : decode cX12_variable 0 = .ok (.aload_n 0, 1) := by decide +kernel
theorem dX12_variable_1 : decode cX12_variable 1 = .ok (.bipush 97, 2) := by decide +kernel
theorem dX12_variable_3 : decode cX12_variable 3 = .ok (.iload_n 1, 1) := by decide +kernel
theorem dX12_variable_4 : decode cX12_variable 4 = .ok (.iadd, 1) := by decide +kernel
theorem dX12_variable_5 : decode cX12_variable 5 = .ok (.iconst 1, 1) := by decide +kernel
theorem dX12_variable_6 : decode cX12_variable 6 = .ok (.isub, 1) := by decide +kernel
theorem dX12_variable_7 : decode cX12_variable 7 = .ok (.invokevirtual 19, 3) := by decide +kernel
theorem dX12_variable_10 : decode cX12_variable 10 = .ok (.return_, 1) := by decide +kernel
noncomputable def B_X12_variable (l : Launch) (δ : Dl) : Seg (l, δ, yX12_variable, 1, none, cX12_variable, 2) 0 11 :=
  seq (p := 0) (q := 1) (r := 11) (p_aload_n 0 dX12_variable_0) (seq (p := 1) (q := 3) (r := 11) (p_bipush 97 dX12_variable_1 (by decide)) (seq (p := 3) (q := 4) (r := 11) (p_iload_n 1 dX12_variable_3) (seq (p := 4) (q := 5) (r := 11) (p_iadd dX12_variable_4) (seq (p := 5) (q := 6) (r := 11) (p_iconst 1 dX12_variable_5) (seq (p := 6) (q := 7) (r := 11) (p_isub dX12_variable_6) (seq (p := 7) (q := 10) (r := 11) (p_callG 2 _ (ok_V 11 cv_X12_19 rfl (M_X12_put l δ) (Nat.le_of_ble_eq_true rfl) dX12_variable_7) (Nat.le_of_ble_eq_true rfl)) (seq (p := 10) (q := 11) (r := 11) (p_return dX12_variable_10 rfl) done)))))))
noncomputable def M_X12_variable (l : Launch) (δ : Dl) : Mth l δ yX12_variable cX12_variable 2 none 1 := mk (B_X12_variable l δ) (by decide)
theorem N_X12_variable {l : Launch} {δ : Dl} {o : Nat} {a1 : Int} {s : St} : (M_X12_variable l δ).1 [.inr (.inr (some o)), .inl a1] s = bres ((B_X12_variable l δ).1 [] [some (.inr (.inr (some o))), some (.inl a1)] s) := (mk_eq (hy := by decide) rfl).trans (nrfl rfl)
theorem dX2_init_0 : decode cX2_init 0 = .ok (.aload_n 0, 1) := by decide +kernel
theorem dX2_init_1 : decode cX2_init 1 = .ok (.invokespecial 3, 3) := by decide +kernel
theorem dX2_init_4 : decode cX2_init 4 = .ok (.aload_n 0, 1) := by decide +kernel
theorem dX2_init_5 : decode cX2_init 5 = .ok (.bipush 6, 2) := by decide +kernel
theorem dX2_init_7 : decode cX2_init 7 = .ok (.newarray .int, 2) := by decide +kernel
theorem dX2_init_9 : decode cX2_init 9 = .ok (.putfield 9, 3) := by decide +kernel
theorem dX2_init_12 : decode cX2_init 12 = .ok (.aload_n 0, 1) := by decide +kernel
theorem dX2_init_13 : decode cX2_init 13 = .ok (.bipush 36, 2) := by decide +kernel
theorem dX2_init_15 : decode cX2_init 15 = .ok (.newarray .boolean, 2) := by decide +kernel
theorem dX2_init_17 : decode cX2_init 17 = .ok (.putfield 15, 3) := by decide +kernel
theorem dX2_init_20 : decode cX2_init 20 = .ok (.aload_n 0, 1) := by decide +kernel
theorem dX2_init_21 : decode cX2_init 21 = .ok (.iload_n 1, 1) := by decide +kernel
theorem dX2_init_22 : decode cX2_init 22 = .ok (.putfield 19, 3) := by decide +kernel
theorem dX2_init_25 : decode cX2_init 25 = .ok (.return_, 1) := by decide +kernel
noncomputable def B_X2_init (l : Launch) (δ : Dl) : Seg (l, δ, yX2_init, 1, none, cX2_init, 2) 0 26 :=
  seq (p := 0) (q := 1) (r := 26) (p_aload_n 0 dX2_init_0) (seq (p := 1) (q := 4) (r := 26) (p_objI (Nat.le_of_ble_eq_true rfl) (okc q210) (okc q122) (okc q123) dX2_init_1) (seq (p := 4) (q := 5) (r := 26) (p_aload_n 0 dX2_init_4) (seq (p := 5) (q := 7) (r := 26) (p_bipush 6 dX2_init_5 (by decide)) (seq (p := 7) (q := 9) (r := 26) (p_newa 0 (Nat.le_of_ble_eq_true rfl) dX2_init_7) (seq (p := 9) (q := 12) (r := 26) (p_putF [(2, 1)] (.array .int) (alF1 ff_X2_9_2) rfl dX2_init_9) (seq (p := 12) (q := 13) (r := 26) (p_aload_n 0 dX2_init_12) (seq (p := 13) (q := 15) (r := 26) (p_bipush 36 dX2_init_13 (by decide)) (seq (p := 15) (q := 17) (r := 26) (p_newa 2 (Nat.le_of_ble_eq_true rfl) dX2_init_15) (seq (p := 17) (q := 20) (r := 26) (p_putF [(2, 2)] (.array .boolean) (alF1 ff_X2_15_2) rfl dX2_init_17) (seq (p := 20) (q := 21) (r := 26) (p_aload_n 0 dX2_init_20) (seq (p := 21) (q := 22) (r := 26) (p_iload_n 1 dX2_init_21) (seq (p := 22) (q := 25) (r := 26) (p_putF [(2, 0)] .int (alF1 ff_X2_19_2) rfl dX2_init_22) (seq (p := 25) (q := 26) (r := 26) (p_return dX2_init_25 rfl) done)))))))))))))
noncomputable def M_X2_init (l : Launch) (δ : Dl) : Mth l δ yX2_init cX2_init 2 none 1 := mk (B_X2_init l δ) (by decide)
theorem N_X2_init {l : Launch} {δ : Dl} {o : Nat} {a1 : Int} {s : St} : (M_X2_init l δ).1 [.inr (.inr (some o)), .inl a1] s = bres ((B_X2_init l δ).1 [] [some (.inr (.inr (some o))), some (.inl a1)] s) := (mk_eq (hy := by decide) rfl).trans (nrfl rfl)
theorem dX0_isIn_0 : decode cX0_isIn 0 = .ok (.lload_n 0, 1) := by decide +kernel
theorem dX0_isIn_1 : decode cX0_isIn 1 = .ok (.lload_n 2, 1) := by decide +kernel
theorem dX0_isIn_2 : decode cX0_isIn 2 = .ok (.lcmp, 1) := by decide +kernel
theorem dX0_isIn_3 : decode cX0_isIn 3 = .ok (.ifCond .lt 14, 3) := by decide +kernel
theorem dX0_isIn_6 : decode cX0_isIn 6 = .ok (.lload_n 0, 1) := by decide +kernel
theorem dX0_isIn_7 : decode cX0_isIn 7 = .ok (.lload 4, 2) := by decide +kernel
theorem dX0_isIn_9 : decode cX0_isIn 9 = .ok (.lcmp, 1) := by decide +kernel
theorem dX0_isIn_10 : decode cX0_isIn 10 = .ok (.ifCond .gt 7, 3) := by decide +kernel
theorem dX0_isIn_13 : decode cX0_isIn 13 = .ok (.iconst 1, 1) := by decide +kernel
theorem dX0_isIn_14 : decode cX0_isIn 14 = .ok (.goto 4, 3) := by decide +kernel
theorem dX0_isIn_17 : decode cX0_isIn 17 = .ok (.iconst 0, 1) := by decide +kernel
theorem dX0_isIn_18 : decode cX0_isIn 18 = .ok (.ireturn, 1) := by decide +kernel
noncomputable def B_X0_isIn (l : Launch) (δ : Dl) : Seg (l, δ, yX0_isIn, 0, (some .boolean), cX0_isIn, 6) 0 19 :=
  seq (p := 0) (q := 1) (r := 19) (p_lload_n 0 dX0_isIn_0) (seq (p := 1) (q := 2) (r := 19) (p_lload_n 2 dX0_isIn_1) (seq (p := 2) (q := 3) (r := 19) (p_lcmp dX0_isIn_2) (seq (p := 3) (q := 18) (r := 19) (blk (seq (p := 3) (q := 17) (r := 18) (blk (seq (p := 3) (q := 6) (r := 17) (p_if_lt 17 dX0_isIn_3 (by decide)) (seq (p := 6) (q := 7) (r := 17) (p_lload_n 0 dX0_isIn_6) (seq (p := 7) (q := 9) (r := 17) (p_lload 4 dX0_isIn_7) (seq (p := 9) (q := 10) (r := 17) (p_lcmp dX0_isIn_9) (seq (p := 10) (q := 13) (r := 17) (p_if_gt 17 dX0_isIn_10 (by decide)) (seq (p := 13) (q := 14) (r := 17) (p_iconst 1 dX0_isIn_13) (seq (p := 14) (q := 17) (r := 17) (p_goto 18 dX0_isIn_14 (by decide)) done)))))))) (seq (p := 17) (q := 18) (r := 18) (p_iconst 0 dX0_isIn_17) done))) (seq (p := 18) (q := 19) (r := 19) (p_zreturn dX0_isIn_18 rfl) done))))
noncomputable def M_X0_isIn (l : Launch) (δ : Dl) : Mth l δ yX0_isIn cX0_isIn 6 (some .boolean) 0 := mk (B_X0_isIn l δ) (by decide)
theorem N_X0_isIn {l : Launch} {δ : Dl} {a1 : Int} {a2 : Int} {a3 : Int} {s : St} : (M_X0_isIn l δ).1 [.inr (.inl a1), .inr (.inl a2), .inr (.inl a3)] s = bres ((B_X0_isIn l δ).1 [] [some (.inr (.inl a1)), none, some (.inr (.inl a2)), none, some (.inr (.inl a3)), none] s) := (mk_eq (hy := by decide) rfl).trans (nrfl rfl)
theorem dX2_isThing_0 : decode cX2_isThing 0 = .ok (.iload_n 1, 1) := by decide +kernel
theorem dX2_isThing_1 : decode cX2_isThing 1 = .ok (.i2l, 1) := by decide +kernel
theorem dX2_isThing_2 : decode cX2_isThing 2 = .ok (.lconst 0, 1) := by decide +kernel
theorem dX2_isThing_3 : decode cX2_isThing 3 = .ok (.aload_n 0, 1) := by decide +kernel
theorem dX2_isThing_4 : decode cX2_isThing 4 = .ok (.getfield 19, 3) := by decide +kernel
theorem dX2_isThing_7 : decode cX2_isThing 7 = .ok (.i2l, 1) := by decide +kernel
theorem dX2_isThing_8 : decode cX2_isThing 8 = .ok (.lconst 1, 1) := by decide +kernel
theorem dX2_isThing_9 : decode cX2_isThing 9 = .ok (.lsub, 1) := by decide +kernel
theorem dX2_isThing_10 : decode cX2_isThing 10 = .ok (.invokestatic 23, 3) := by decide +kernel
theorem dX2_isThing_13 : decode cX2_isThing 13 = .ok (.ireturn, 1) := by decide +kernel
noncomputable def B_X2_isThing (l : Launch) (δ : Dl) : Seg (l, δ, yX2_isThing, 1, (some .boolean), cX2_isThing, 2) 0 14 :=
  seq (p := 0) (q := 1) (r := 14) (p_iload_n 1 dX2_isThing_0) (seq (p := 1) (q := 2) (r := 14) (p_i2l dX2_isThing_1) (seq (p := 2) (q := 3) (r := 14) (p_lconst0 dX2_isThing_2) (seq (p := 3) (q := 4) (r := 14) (p_aload_n 0 dX2_isThing_3) (seq (p := 4) (q := 7) (r := 14) (p_get [(2, 0)] (alL1 fl_X2_19_2) dX2_isThing_4) (seq (p := 7) (q := 8) (r := 14) (p_i2l dX2_isThing_7) (seq (p := 8) (q := 9) (r := 14) (p_lconst1 dX2_isThing_8) (seq (p := 9) (q := 10) (r := 14) (p_lsub dX2_isThing_9) (seq (p := 10) (q := 13) (r := 14) (p_callG 3 _ (ok_SN csn_X2_23 (M_X0_isIn l δ) (Nat.le_of_ble_eq_true rfl) dX2_isThing_10) (Nat.le_of_ble_eq_true rfl)) (seq (p := 13) (q := 14) (r := 14) (p_zreturn dX2_isThing_13 rfl) done)))))))))
noncomputable def M_X2_isThing (l : Launch) (δ : Dl) : Mth l δ yX2_isThing cX2_isThing 2 (some .boolean) 1 := mk (B_X2_isThing l δ) (by decide)
theorem N_X2_isThing {l : Launch} {δ : Dl} {o : Nat} {a1 : Int} {s : St} : (M_X2_isThing l δ).1 [.inr (.inr (some o)), .inl a1] s = bres ((B_X2_isThing l δ).1 [] [some (.inr (.inr (some o))), some (.inl a1)] s) := (mk_eq (hy := by decide) rfl).trans (nrfl rfl)
theorem dX2_take_0 : decode cX2_take 0 = .ok (.iconst 0, 1) := by decide +kernel
theorem dX2_take_1 : decode cX2_take 1 = .ok (.istore_n 3, 1) := by decide +kernel
theorem dX2_take_2 : decode cX2_take 2 = .ok (.iload_n 3, 1) := by decide +kernel
theorem dX2_take_3 : decode cX2_take 3 = .ok (.aload_n 1, 1) := by decide +kernel
theorem dX2_take_4 : decode cX2_take 4 = .ok (.getfield 19, 3) := by decide +kernel
theorem dX2_take_7 : decode cX2_take 7 = .ok (.if_icmp .ge 64, 3) := by decide +kernel
theorem dX2_take_10 : decode cX2_take 10 = .ok (.aload_n 0, 1) := by decide +kernel
theorem dX2_take_11 : decode cX2_take 11 = .ok (.getfield 9, 3) := by decide +kernel
theorem dX2_take_14 : decode cX2_take 14 = .ok (.aload_n 2, 1) := by decide +kernel
theorem dX2_take_15 : decode cX2_take 15 = .ok (.iload_n 3, 1) := by decide +kernel
theorem dX2_take_16 : decode cX2_take 16 = .ok (.iaload, 1) := by decide +kernel
theorem dX2_take_17 : decode cX2_take 17 = .ok (.aload_n 1, 1) := by decide +kernel
theorem dX2_take_18 : decode cX2_take 18 = .ok (.getfield 9, 3) := by decide +kernel
theorem dX2_take_21 : decode cX2_take 21 = .ok (.iload_n 3, 1) := by decide +kernel
theorem dX2_take_22 : decode cX2_take 22 = .ok (.iaload, 1) := by decide +kernel
theorem dX2_take_23 : decode cX2_take 23 = .ok (.iastore, 1) := by decide +kernel
theorem dX2_take_24 : decode cX2_take 24 = .ok (.iconst 0, 1) := by decide +kernel
theorem dX2_take_25 : decode cX2_take 25 = .ok (.istore 4, 2) := by decide +kernel
theorem dX2_take_27 : decode cX2_take 27 = .ok (.iload 4, 2) := by decide +kernel
theorem dX2_take_29 : decode cX2_take 29 = .ok (.aload_n 1, 1) := by decide +kernel
theorem dX2_take_30 : decode cX2_take 30 = .ok (.getfield 19, 3) := by decide +kernel
theorem dX2_take_33 : decode cX2_take 33 = .ok (.if_icmp .ge 32, 3) := by decide +kernel
theorem dX2_take_36 : decode cX2_take 36 = .ok (.aload_n 0, 1) := by decide +kernel
theorem dX2_take_37 : decode cX2_take 37 = .ok (.getfield 15, 3) := by decide +kernel
theorem dX2_take_40 : decode cX2_take 40 = .ok (.bipush 6, 2) := by decide +kernel
theorem dX2_take_42 : decode cX2_take 42 = .ok (.aload_n 2, 1) := by decide +kernel
theorem dX2_take_43 : decode cX2_take 43 = .ok (.iload_n 3, 1) := by decide +kernel
theorem dX2_take_44 : decode cX2_take 44 = .ok (.iaload, 1) := by decide +kernel
theorem dX2_take_45 : decode cX2_take 45 = .ok (.imul, 1) := by decide +kernel
theorem dX2_take_46 : decode cX2_take 46 = .ok (.aload_n 2, 1) := by decide +kernel
theorem dX2_take_47 : decode cX2_take 47 = .ok (.iload 4, 2) := by decide +kernel
theorem dX2_take_49 : decode cX2_take 49 = .ok (.iaload, 1) := by decide +kernel
theorem dX2_take_50 : decode cX2_take 50 = .ok (.iadd, 1) := by decide +kernel
theorem dX2_take_51 : decode cX2_take 51 = .ok (.aload_n 1, 1) := by decide +kernel
theorem dX2_take_52 : decode cX2_take 52 = .ok (.iload_n 3, 1) := by decide +kernel
theorem dX2_take_53 : decode cX2_take 53 = .ok (.iload 4, 2) := by decide +kernel
theorem dX2_take_55 : decode cX2_take 55 = .ok (.invokevirtual 27, 3) := by decide +kernel
theorem dX2_take_58 : decode cX2_take 58 = .ok (.bastore, 1) := by decide +kernel
theorem dX2_take_59 : decode cX2_take 59 = .ok (.iinc 4 1, 3) := by decide +kernel
theorem dX2_take_62 : decode cX2_take 62 = .ok (.goto (-35), 3) := by decide +kernel
theorem dX2_take_65 : decode cX2_take 65 = .ok (.iinc 3 1, 3) := by decide +kernel
theorem dX2_take_68 : decode cX2_take 68 = .ok (.goto (-66), 3) := by decide +kernel
theorem dX2_take_71 : decode cX2_take 71 = .ok (.return_, 1) := by decide +kernel
noncomputable def C_X2_take_L27 (l : Launch) (δ : Dl) : Seg (l, δ, yX2_take, 1, none, cX2_take, 5) 27 65 :=
  seq (p := 27) (q := 29) (r := 65) (p_iload 4 dX2_take_27) (seq (p := 29) (q := 30) (r := 65) (p_aload_n 1 dX2_take_29) (seq (p := 30) (q := 33) (r := 65) (p_get [(2, 0)] (alL1 fl_X2_19_2) dX2_take_30) (seq (p := 33) (q := 36) (r := 65) (p_icmp_ge 65 dX2_take_33 (by decide)) (seq (p := 36) (q := 37) (r := 65) (p_aload_n 0 dX2_take_36) (seq (p := 37) (q := 40) (r := 65) (p_get [(2, 2)] (alL1 fl_X2_15_2) dX2_take_37) (seq (p := 40) (q := 42) (r := 65) (p_bipush 6 dX2_take_40 (by decide)) (seq (p := 42) (q := 43) (r := 65) (p_aload_n 2 dX2_take_42) (seq (p := 43) (q := 44) (r := 65) (p_iload_n 3 dX2_take_43) (seq (p := 44) (q := 45) (r := 65) (p_iald dX2_take_44) (seq (p := 45) (q := 46) (r := 65) (p_imul dX2_take_45) (seq (p := 46) (q := 47) (r := 65) (p_aload_n 2 dX2_take_46) (seq (p := 47) (q := 49) (r := 65) (p_iload 4 dX2_take_47) (seq (p := 49) (q := 50) (r := 65) (p_iald dX2_take_49) (seq (p := 50) (q := 51) (r := 65) (p_iadd dX2_take_50) (seq (p := 51) (q := 52) (r := 65) (p_aload_n 1 dX2_take_51) (seq (p := 52) (q := 53) (r := 65) (p_iload_n 3 dX2_take_52) (seq (p := 53) (q := 55) (r := 65) (p_iload 4 dX2_take_53) (seq (p := 55) (q := 58) (r := 65) (p_callG 3 _ (ok_V 2 cv_X2_27 rfl (M_X2_isTied l δ) (Nat.le_of_ble_eq_true rfl) dX2_take_55) (Nat.le_of_ble_eq_true rfl)) (seq (p := 58) (q := 59) (r := 65) (p_zast dX2_take_58) (seq (p := 59) (q := 62) (r := 65) (p_iinc 4 1 dX2_take_59 (Nat.le_of_ble_eq_true rfl)) (seq (p := 62) (q := 62) (r := 65) (er [true, true, true, true, true]) (seq (p := 62) (q := 65) (r := 65) (p_goto 27 dX2_take_62 (by decide)) done))))))))))))))))))))))
noncomputable def B_X2_take_L27 (l : Launch) (δ : Dl) : Seg (l, δ, yX2_take, 1, none, cX2_take, 5) 27 65 := C_X2_take_L27 l δ
theorem L_X2_take_27 {l : Launch} {δ : Dl} {st : Stk} {L : Lc} {s : St} : (B_X2_take_L27 l δ).1 st L s = (C_X2_take_L27 l δ).1 st L s := nrfl rfl
noncomputable def C_X2_take_L2 (l : Launch) (δ : Dl) : Seg (l, δ, yX2_take, 1, none, cX2_take, 5) 2 71 :=
  seq (p := 2) (q := 3) (r := 71) (p_iload_n 3 dX2_take_2) (seq (p := 3) (q := 4) (r := 71) (p_aload_n 1 dX2_take_3) (seq (p := 4) (q := 7) (r := 71) (p_get [(2, 0)] (alL1 fl_X2_19_2) dX2_take_4) (seq (p := 7) (q := 10) (r := 71) (p_icmp_ge 71 dX2_take_7 (by decide)) (seq (p := 10) (q := 11) (r := 71) (p_aload_n 0 dX2_take_10) (seq (p := 11) (q := 14) (r := 71) (p_get [(2, 1)] (alL1 fl_X2_9_2) dX2_take_11) (seq (p := 14) (q := 15) (r := 71) (p_aload_n 2 dX2_take_14) (seq (p := 15) (q := 16) (r := 71) (p_iload_n 3 dX2_take_15) (seq (p := 16) (q := 17) (r := 71) (p_iald dX2_take_16) (seq (p := 17) (q := 18) (r := 71) (p_aload_n 1 dX2_take_17) (seq (p := 18) (q := 21) (r := 71) (p_get [(2, 1)] (alL1 fl_X2_9_2) dX2_take_18) (seq (p := 21) (q := 22) (r := 71) (p_iload_n 3 dX2_take_21) (seq (p := 22) (q := 23) (r := 71) (p_iald dX2_take_22) (seq (p := 23) (q := 24) (r := 71) (p_iast dX2_take_23) (seq (p := 24) (q := 25) (r := 71) (p_iconst 0 dX2_take_24) (seq (p := 25) (q := 27) (r := 71) (p_istore 4 dX2_take_25 (Nat.le_of_ble_eq_true rfl)) (seq (p := 27) (q := 65) (r := 71) (blk (seq (p := 27) (q := 27) (r := 65) (er [true, true, true, true, true]) (seq (p := 27) (q := 65) (r := 65) (lp (B_X2_take_L27 l δ)) done))) (seq (p := 65) (q := 68) (r := 71) (p_iinc 3 1 dX2_take_65 (Nat.le_of_ble_eq_true rfl)) (seq (p := 68) (q := 68) (r := 71) (er [true, true, true, true, false]) (seq (p := 68) (q := 71) (r := 71) (p_goto 2 dX2_take_68 (by decide)) done)))))))))))))))))))
noncomputable def B_X2_take_L2 (l : Launch) (δ : Dl) : Seg (l, δ, yX2_take, 1, none, cX2_take, 5) 2 71 := C_X2_take_L2 l δ
theorem L_X2_take_2 {l : Launch} {δ : Dl} {st : Stk} {L : Lc} {s : St} : (B_X2_take_L2 l δ).1 st L s = (C_X2_take_L2 l δ).1 st L s := nrfl rfl
noncomputable def B_X2_take (l : Launch) (δ : Dl) : Seg (l, δ, yX2_take, 1, none, cX2_take, 5) 0 72 :=
  seq (p := 0) (q := 1) (r := 72) (p_iconst 0 dX2_take_0) (seq (p := 1) (q := 2) (r := 72) (p_istore_n 3 dX2_take_1 (Nat.le_of_ble_eq_true rfl)) (seq (p := 2) (q := 71) (r := 72) (blk (seq (p := 2) (q := 2) (r := 71) (er [true, true, true, true, false]) (seq (p := 2) (q := 71) (r := 71) (lp (B_X2_take_L2 l δ)) done))) (seq (p := 71) (q := 72) (r := 72) (p_return dX2_take_71 rfl) done)))
noncomputable def M_X2_take (l : Launch) (δ : Dl) : Mth l δ yX2_take cX2_take 5 none 1 := mk (B_X2_take l δ) (by decide)
theorem N_X2_take {l : Launch} {δ : Dl} {o : Nat} {a1 : Option Nat} {a2 : Option Nat} {s : St} : (M_X2_take l δ).1 [.inr (.inr (some o)), .inr (.inr a1), .inr (.inr a2)] s = bres ((B_X2_take l δ).1 [] [some (.inr (.inr (some o))), some (.inr (.inr a1)), some (.inr (.inr a2)), none, none] s) := (mk_eq (hy := by decide) rfl).trans (nrfl rfl)
theorem dX8_sign_0 : decode cX8_sign 0 = .ok (.aload_n 1, 1) := by decide +kernel
theorem dX8_sign_1 : decode cX8_sign 1 = .ok (.bipush 45, 2) := by decide +kernel
theorem dX8_sign_3 : decode cX8_sign 3 = .ok (.invokevirtual 31, 3) := by decide +kernel
theorem dX8_sign_6 : decode cX8_sign 6 = .ok (.return_, 1) := by decide +kernel
noncomputable def B_X8_sign (l : Launch) (δ : Dl) : Seg (l, δ, yX8_sign, 1, none, cX8_sign, 2) 0 7 :=
  seq (p := 0) (q := 1) (r := 7) (p_aload_n 1 dX8_sign_0) (seq (p := 1) (q := 3) (r := 7) (p_bipush 45 dX8_sign_1 (by decide)) (seq (p := 3) (q := 6) (r := 7) (p_callG 2 _ (ok_V 11 cv_X8_31 rfl (M_X12_put l δ) (Nat.le_of_ble_eq_true rfl) dX8_sign_3) (Nat.le_of_ble_eq_true rfl)) (seq (p := 6) (q := 7) (r := 7) (p_return dX8_sign_6 rfl) done)))
noncomputable def M_X8_sign (l : Launch) (δ : Dl) : Mth l δ yX8_sign cX8_sign 2 none 1 := mk (B_X8_sign l δ) (by decide)
theorem N_X8_sign {l : Launch} {δ : Dl} {o : Nat} {a1 : Option Nat} {s : St} : (M_X8_sign l δ).1 [.inr (.inr (some o)), .inr (.inr a1)] s = bres ((B_X8_sign l δ).1 [] [some (.inr (.inr (some o))), some (.inr (.inr a1))] s) := (mk_eq (hy := by decide) rfl).trans (nrfl rfl)
theorem dX9_sign_0 : decode cX9_sign 0 = .ok (.aload_n 1, 1) := by decide +kernel
theorem dX9_sign_1 : decode cX9_sign 1 = .ok (.aload_n 0, 1) := by decide +kernel
theorem dX9_sign_2 : decode cX9_sign 2 = .ok (.getfield 13, 3) := by decide +kernel
theorem dX9_sign_5 : decode cX9_sign 5 = .ok (.ifCond .eq 8, 3) := by decide +kernel
theorem dX9_sign_8 : decode cX9_sign 8 = .ok (.bipush 64, 2) := by decide +kernel
theorem dX9_sign_10 : decode cX9_sign 10 = .ok (.goto 5, 3) := by decide +kernel
theorem dX9_sign_13 : decode cX9_sign 13 = .ok (.bipush 63, 2) := by decide +kernel
theorem dX9_sign_15 : decode cX9_sign 15 = .ok (.invokevirtual 49, 3) := by decide +kernel
theorem dX9_sign_18 : decode cX9_sign 18 = .ok (.aload_n 1, 1) := by decide +kernel
theorem dX9_sign_19 : decode cX9_sign 19 = .ok (.aload_n 0, 1) := by decide +kernel
theorem dX9_sign_20 : decode cX9_sign 20 = .ok (.getfield 7, 3) := by decide +kernel
theorem dX9_sign_23 : decode cX9_sign 23 = .ok (.invokevirtual 55, 3) := by decide +kernel
theorem dX9_sign_26 : decode cX9_sign 26 = .ok (.return_, 1) := by decide +kernel
noncomputable def B_X9_sign (l : Launch) (δ : Dl) : Seg (l, δ, yX9_sign, 2, none, cX9_sign, 2) 0 27 :=
  seq (p := 0) (q := 1) (r := 27) (p_aload_n 1 dX9_sign_0) (seq (p := 1) (q := 2) (r := 27) (p_aload_n 0 dX9_sign_1) (seq (p := 2) (q := 5) (r := 27) (p_get [(8, 2)] (alL1 fl_X9_13_8) dX9_sign_2) (seq (p := 5) (q := 15) (r := 27) (blk (seq (p := 5) (q := 13) (r := 15) (blk (seq (p := 5) (q := 8) (r := 13) (p_if_eq 13 dX9_sign_5 (by decide)) (seq (p := 8) (q := 10) (r := 13) (p_bipush 64 dX9_sign_8 (by decide)) (seq (p := 10) (q := 13) (r := 13) (p_goto 15 dX9_sign_10 (by decide)) done)))) (seq (p := 13) (q := 15) (r := 15) (p_bipush 63 dX9_sign_13 (by decide)) done))) (seq (p := 15) (q := 18) (r := 27) (p_callG 2 _ (ok_V 11 cv_X9_49 rfl (M_X12_put l δ) (Nat.le_of_ble_eq_true rfl) dX9_sign_15) (Nat.le_of_ble_eq_true rfl)) (seq (p := 18) (q := 19) (r := 27) (p_aload_n 1 dX9_sign_18) (seq (p := 19) (q := 20) (r := 27) (p_aload_n 0 dX9_sign_19) (seq (p := 20) (q := 23) (r := 27) (p_get [(8, 1)] (alL1 fl_X9_7_8) dX9_sign_20) (seq (p := 23) (q := 26) (r := 27) (p_callG 2 _ (ok_V 11 cv_X9_55 rfl (M_X12_variable l δ) (Nat.le_of_ble_eq_true rfl) dX9_sign_23) (Nat.le_of_ble_eq_true rfl)) (seq (p := 26) (q := 27) (r := 27) (p_return dX9_sign_26 rfl) done)))))))))
noncomputable def M_X9_sign (l : Launch) (δ : Dl) : Mth l δ yX9_sign cX9_sign 2 none 2 := mk (B_X9_sign l δ) (by decide)
theorem N_X9_sign {l : Launch} {δ : Dl} {o : Nat} {a1 : Option Nat} {s : St} : (M_X9_sign l δ).1 [.inr (.inr (some o)), .inr (.inr a1)] s = bres ((B_X9_sign l δ).1 [] [some (.inr (.inr (some o))), some (.inr (.inr a1))] s) := (mk_eq (hy := by decide) rfl).trans (nrfl rfl)
abbrev T_wri (l : Launch) (δ : Dl) (n : Nat) : Type := Mth l δ yX6_write cX6_write 2 none (3 + n) × Mth l δ yX8_write cX8_write 2 none (3 + n) × Mth l δ yX10_write cX10_write 3 none (3 + n) × Mth l δ yX5_writeWithin cX5_writeWithin 2 none (3 + n) × Mth l δ yX10_writeWithin cX10_writeWithin 2 none (3 + n)
theorem dX6_write_0 : decode cX6_write 0 = .ok (.aload_n 1, 1) := by decide +kernel
theorem dX6_write_1 : decode cX6_write 1 = .ok (.aload_n 0, 1) := by decide +kernel
theorem dX6_write_2 : decode cX6_write 2 = .ok (.getfield 7, 3) := by decide +kernel
theorem dX6_write_5 : decode cX6_write 5 = .ok (.invokevirtual 39, 3) := by decide +kernel
theorem dX6_write_8 : decode cX6_write 8 = .ok (.aload_n 0, 1) := by decide +kernel
theorem dX6_write_9 : decode cX6_write 9 = .ok (.getfield 13, 3) := by decide +kernel
theorem dX6_write_12 : decode cX6_write 12 = .ok (.ifCond .le 11, 3) := by decide +kernel
theorem dX6_write_15 : decode cX6_write 15 = .ok (.aload_n 1, 1) := by decide +kernel
theorem dX6_write_16 : decode cX6_write 16 = .ok (.aload_n 0, 1) := by decide +kernel
theorem dX6_write_17 : decode cX6_write 17 = .ok (.getfield 13, 3) := by decide +kernel
theorem dX6_write_20 : decode cX6_write 20 = .ok (.invokevirtual 45, 3) := by decide +kernel
theorem dX6_write_23 : decode cX6_write 23 = .ok (.aload_n 0, 1) := by decide +kernel
theorem dX6_write_24 : decode cX6_write 24 = .ok (.getfield 17, 3) := by decide +kernel
theorem dX6_write_27 : decode cX6_write 27 = .ok (.ifCond .le 11, 3) := by decide +kernel
theorem dX6_write_30 : decode cX6_write 30 = .ok (.aload_n 1, 1) := by decide +kernel
theorem dX6_write_31 : decode cX6_write 31 = .ok (.aload_n 0, 1) := by decide +kernel
theorem dX6_write_32 : decode cX6_write 32 = .ok (.getfield 17, 3) := by decide +kernel
theorem dX6_write_35 : decode cX6_write 35 = .ok (.invokevirtual 45, 3) := by decide +kernel
theorem dX6_write_38 : decode cX6_write 38 = .ok (.return_, 1) := by decide +kernel
noncomputable def B_X6_write (l : Launch) (δ : Dl) (n : Nat) (r : T_wri l δ n) : Seg (l, δ, yX6_write, 3 + (n + 1), none, cX6_write, 2) 0 39 :=
  seq (p := 0) (q := 1) (r := 39) (p_aload_n 1 dX6_write_0) (seq (p := 1) (q := 2) (r := 39) (p_aload_n 0 dX6_write_1) (seq (p := 2) (q := 5) (r := 39) (p_get [(5, 0)] (alL1 fl_X6_7_5) dX6_write_2) (seq (p := 5) (q := 8) (r := 39) (p_callG 2 _ (ok_V 11 cv_X6_39 rfl (M_X12_put l δ) (Nat.lt_of_lt_of_le (show 0 < 3 from (Nat.le_of_ble_eq_true rfl)) (Nat.le_add_right _ _)) dX6_write_5) (Nat.le_of_ble_eq_true rfl)) (seq (p := 8) (q := 9) (r := 39) (p_aload_n 0 dX6_write_8) (seq (p := 9) (q := 12) (r := 39) (p_get [(5, 1)] (alL1 fl_X6_13_5) dX6_write_9) (seq (p := 12) (q := 23) (r := 39) (blk (seq (p := 12) (q := 15) (r := 23) (p_if_le 23 dX6_write_12 (by decide)) (seq (p := 15) (q := 16) (r := 23) (p_aload_n 1 dX6_write_15) (seq (p := 16) (q := 17) (r := 23) (p_aload_n 0 dX6_write_16) (seq (p := 17) (q := 20) (r := 23) (p_get [(5, 1)] (alL1 fl_X6_13_5) dX6_write_17) (seq (p := 20) (q := 23) (r := 23) (p_callG 2 _ (ok_V 11 cv_X6_45 rfl (M_X12_variable l δ) (Nat.lt_of_lt_of_le (show 1 < 3 from (Nat.le_of_ble_eq_true rfl)) (Nat.le_add_right _ _)) dX6_write_20) (Nat.le_of_ble_eq_true rfl)) done)))))) (seq (p := 23) (q := 24) (r := 39) (p_aload_n 0 dX6_write_23) (seq (p := 24) (q := 27) (r := 39) (p_get [(5, 2)] (alL1 fl_X6_17_5) dX6_write_24) (seq (p := 27) (q := 38) (r := 39) (blk (seq (p := 27) (q := 30) (r := 38) (p_if_le 38 dX6_write_27 (by decide)) (seq (p := 30) (q := 31) (r := 38) (p_aload_n 1 dX6_write_30) (seq (p := 31) (q := 32) (r := 38) (p_aload_n 0 dX6_write_31) (seq (p := 32) (q := 35) (r := 38) (p_get [(5, 2)] (alL1 fl_X6_17_5) dX6_write_32) (seq (p := 35) (q := 38) (r := 38) (p_callG 2 _ (ok_V 11 cv_X6_45 rfl (M_X12_variable l δ) (Nat.lt_of_lt_of_le (show 1 < 3 from (Nat.le_of_ble_eq_true rfl)) (Nat.le_add_right _ _)) dX6_write_35) (Nat.le_of_ble_eq_true rfl)) done)))))) (seq (p := 38) (q := 39) (r := 39) (p_return dX6_write_38 rfl) done))))))))))
theorem dX8_write_0 : decode cX8_write 0 = .ok (.aload_n 0, 1) := by decide +kernel
theorem dX8_write_1 : decode cX8_write 1 = .ok (.aload_n 1, 1) := by decide +kernel
theorem dX8_write_2 : decode cX8_write 2 = .ok (.invokevirtual 37, 3) := by decide +kernel
theorem dX8_write_5 : decode cX8_write 5 = .ok (.aload_n 0, 1) := by decide +kernel
theorem dX8_write_6 : decode cX8_write 6 = .ok (.getfield 7, 3) := by decide +kernel
theorem dX8_write_9 : decode cX8_write 9 = .ok (.aload_n 1, 1) := by decide +kernel
theorem dX8_write_10 : decode cX8_write 10 = .ok (.invokevirtual 41, 3) := by decide +kernel
theorem dX8_write_13 : decode cX8_write 13 = .ok (.return_, 1) := by decide +kernel
noncomputable def B_X8_write (l : Launch) (δ : Dl) (n : Nat) (r : T_wri l δ n) : Seg (l, δ, yX8_write, 3 + (n + 1), none, cX8_write, 2) 0 14 :=
  seq (p := 0) (q := 1) (r := 14) (p_aload_n 0 dX8_write_0) (seq (p := 1) (q := 2) (r := 14) (p_aload_n 1 dX8_write_1) (seq (p := 2) (q := 5) (r := 14) (p_callG 2 _ (ok_alt (ok_U 8 cu_X8_37_8 rfl (M_X9_sign l δ) (Nat.lt_of_lt_of_le (show 2 < 3 from (Nat.le_of_ble_eq_true rfl)) (Nat.le_add_right _ _)) dX8_write_2) (ok_U 7 cu_X8_37_7 rfl (M_X8_sign l δ) (Nat.lt_of_lt_of_le (show 1 < 3 from (Nat.le_of_ble_eq_true rfl)) (Nat.le_add_right _ _)) dX8_write_2)) (Nat.le_of_ble_eq_true rfl)) (seq (p := 5) (q := 6) (r := 14) (p_aload_n 0 dX8_write_5) (seq (p := 6) (q := 9) (r := 14) (p_get [(7, 0), (8, 0)] (alL2 fl_X8_7_7 fl_X8_7_8) dX8_write_6) (seq (p := 9) (q := 10) (r := 14) (p_aload_n 1 dX8_write_9) (seq (p := 10) (q := 13) (r := 14) (p_callG 2 _ (ok_alt (ok_U 8 cu_X8_41_8 rfl (r.2.2.2.1) (Nat.lt_succ_self _) dX8_write_10) (ok_alt (ok_U 7 cu_X8_41_7 rfl (r.2.2.2.1) (Nat.lt_succ_self _) dX8_write_10) (ok_alt (ok_U 9 cu_X8_41_9 rfl (r.2.2.2.2) (Nat.lt_succ_self _) dX8_write_10) (ok_U 5 cu_X8_41_5 rfl (r.2.2.2.1) (Nat.lt_succ_self _) dX8_write_10)))) (Nat.le_of_ble_eq_true rfl)) (seq (p := 13) (q := 14) (r := 14) (p_return dX8_write_13 rfl) done)))))))
theorem dX10_write_0 : decode cX10_write 0 = .ok (.iconst 0, 1) := by decide +kernel
theorem dX10_write_1 : decode cX10_write 1 = .ok (.istore_n 2, 1) := by decide +kernel
theorem dX10_write_2 : decode cX10_write 2 = .ok (.iload_n 2, 1) := by decide +kernel
theorem dX10_write_3 : decode cX10_write 3 = .ok (.aload_n 0, 1) := by decide +kernel
theorem dX10_write_4 : decode cX10_write 4 = .ok (.getfield 7, 3) := by decide +kernel
theorem dX10_write_7 : decode cX10_write 7 = .ok (.invokeinterface 17 1, 5) := by decide +kernel
theorem dX10_write_12 : decode cX10_write 12 = .ok (.if_icmp .ge 38, 3) := by decide +kernel
theorem dX10_write_15 : decode cX10_write 15 = .ok (.iload_n 2, 1) := by decide +kernel
theorem dX10_write_16 : decode cX10_write 16 = .ok (.ifCond .le 11, 3) := by decide +kernel
theorem dX10_write_19 : decode cX10_write 19 = .ok (.aload_n 1, 1) := by decide +kernel
theorem dX10_write_20 : decode cX10_write 20 = .ok (.aload_n 0, 1) := by decide +kernel
theorem dX10_write_21 : decode cX10_write 21 = .ok (.getfield 13, 3) := by decide +kernel
theorem dX10_write_24 : decode cX10_write 24 = .ok (.invokevirtual 48, 3) := by decide +kernel
theorem dX10_write_27 : decode cX10_write 27 = .ok (.aload_n 0, 1) := by decide +kernel
theorem dX10_write_28 : decode cX10_write 28 = .ok (.getfield 7, 3) := by decide +kernel
theorem dX10_write_31 : decode cX10_write 31 = .ok (.iload_n 2, 1) := by decide +kernel
theorem dX10_write_32 : decode cX10_write 32 = .ok (.invokeinterface 23 2, 5) := by decide +kernel
theorem dX10_write_37 : decode cX10_write 37 = .ok (.checkcast 2, 3) := by decide +kernel
theorem dX10_write_40 : decode cX10_write 40 = .ok (.aload_n 1, 1) := by decide +kernel
theorem dX10_write_41 : decode cX10_write 41 = .ok (.invokevirtual 54, 3) := by decide +kernel
theorem dX10_write_44 : decode cX10_write 44 = .ok (.iinc 2 1, 3) := by decide +kernel
theorem dX10_write_47 : decode cX10_write 47 = .ok (.goto (-45), 3) := by decide +kernel
theorem dX10_write_50 : decode cX10_write 50 = .ok (.return_, 1) := by decide +kernel
noncomputable def C_X10_write_L2 (l : Launch) (δ : Dl) (n : Nat) (r : T_wri l δ n) : Seg (l, δ, yX10_write, 3 + (n + 1), none, cX10_write, 3) 2 50 :=
  seq (p := 2) (q := 3) (r := 50) (p_iload_n 2 dX10_write_2) (seq (p := 3) (q := 4) (r := 50) (p_aload_n 0 dX10_write_3) (seq (p := 4) (q := 7) (r := 50) (p_get [(9, 0)] (alL1 fl_X10_7_9) dX10_write_4) (seq (p := 7) (q := 12) (r := 50) (p_callG 1 _ (ok_F 16 cf_X10_17 rfl (M_J2_size l δ) (Nat.lt_of_lt_of_le (show 0 < 3 from (Nat.le_of_ble_eq_true rfl)) (Nat.le_add_right _ _)) dX10_write_7) (Nat.le_of_ble_eq_true rfl)) (seq (p := 12) (q := 15) (r := 50) (p_icmp_ge 50 dX10_write_12 (by decide)) (seq (p := 15) (q := 16) (r := 50) (p_iload_n 2 dX10_write_15) (seq (p := 16) (q := 27) (r := 50) (blk (seq (p := 16) (q := 19) (r := 27) (p_if_le 27 dX10_write_16 (by decide)) (seq (p := 19) (q := 20) (r := 27) (p_aload_n 1 dX10_write_19) (seq (p := 20) (q := 21) (r := 27) (p_aload_n 0 dX10_write_20) (seq (p := 21) (q := 24) (r := 27) (p_get [(9, 1)] (alL1 fl_X10_13_9) dX10_write_21) (seq (p := 24) (q := 27) (r := 27) (p_callG 2 _ (ok_V 11 cv_X10_48 rfl (M_X12_put l δ) (Nat.lt_of_lt_of_le (show 0 < 3 from (Nat.le_of_ble_eq_true rfl)) (Nat.le_add_right _ _)) dX10_write_24) (Nat.le_of_ble_eq_true rfl)) done)))))) (seq (p := 27) (q := 28) (r := 50) (p_aload_n 0 dX10_write_27) (seq (p := 28) (q := 31) (r := 50) (p_get [(9, 0)] (alL1 fl_X10_7_9) dX10_write_28) (seq (p := 31) (q := 32) (r := 50) (p_iload_n 2 dX10_write_31) (seq (p := 32) (q := 37) (r := 50) (p_callG 2 _ (ok_F 16 cf_X10_23 rfl (M_J2_get l δ) (Nat.lt_of_lt_of_le (show 2 < 3 from (Nat.le_of_ble_eq_true rfl)) (Nat.le_add_right _ _)) dX10_write_32) (Nat.le_of_ble_eq_true rfl)) (seq (p := 37) (q := 40) (r := 50) (p_cast [5, 7, 8, 9] ky_X10_2 dX10_write_37) (seq (p := 40) (q := 41) (r := 50) (p_aload_n 1 dX10_write_40) (seq (p := 41) (q := 44) (r := 50) (p_callG 2 _ (ok_alt (ok_U 8 cu_X10_54_8 rfl (r.2.2.2.1) (Nat.lt_succ_self _) dX10_write_41) (ok_alt (ok_U 7 cu_X10_54_7 rfl (r.2.2.2.1) (Nat.lt_succ_self _) dX10_write_41) (ok_alt (ok_U 9 cu_X10_54_9 rfl (r.2.2.2.2) (Nat.lt_succ_self _) dX10_write_41) (ok_U 5 cu_X10_54_5 rfl (r.2.2.2.1) (Nat.lt_succ_self _) dX10_write_41)))) (Nat.le_of_ble_eq_true rfl)) (seq (p := 44) (q := 47) (r := 50) (p_iinc 2 1 dX10_write_44 (Nat.le_of_ble_eq_true rfl)) (seq (p := 47) (q := 47) (r := 50) (er [true, true, true]) (seq (p := 47) (q := 50) (r := 50) (p_goto 2 dX10_write_47 (by decide)) done))))))))))))))))
noncomputable def B_X10_write_L2 (l : Launch) (δ : Dl) (n : Nat) (r : T_wri l δ n) : Seg (l, δ, yX10_write, 3 + (n + 1), none, cX10_write, 3) 2 50 := C_X10_write_L2 l δ n r
theorem L_X10_write_2 {l : Launch} {δ : Dl} {n : Nat} {r : T_wri l δ n} {st : Stk} {L : Lc} {s : St} : (B_X10_write_L2 l δ n r).1 st L s = (C_X10_write_L2 l δ n r).1 st L s := nrfl rfl
noncomputable def B_X10_write (l : Launch) (δ : Dl) (n : Nat) (r : T_wri l δ n) : Seg (l, δ, yX10_write, 3 + (n + 1), none, cX10_write, 3) 0 51 :=
  seq (p := 0) (q := 1) (r := 51) (p_iconst 0 dX10_write_0) (seq (p := 1) (q := 2) (r := 51) (p_istore_n 2 dX10_write_1 (Nat.le_of_ble_eq_true rfl)) (seq (p := 2) (q := 50) (r := 51) (blk (seq (p := 2) (q := 2) (r := 50) (er [true, true, true]) (seq (p := 2) (q := 50) (r := 50) (lp (B_X10_write_L2 l δ n r)) done))) (seq (p := 50) (q := 51) (r := 51) (p_return dX10_write_50 rfl) done)))
theorem dX5_writeWithin_0 : decode cX5_writeWithin 0 = .ok (.aload_n 0, 1) := by decide +kernel
theorem dX5_writeWithin_1 : decode cX5_writeWithin 1 = .ok (.aload_n 1, 1) := by decide +kernel
theorem dX5_writeWithin_2 : decode cX5_writeWithin 2 = .ok (.invokevirtual 7, 3) := by decide +kernel
theorem dX5_writeWithin_5 : decode cX5_writeWithin 5 = .ok (.return_, 1) := by decide +kernel
noncomputable def B_X5_writeWithin (l : Launch) (δ : Dl) (n : Nat) (r : T_wri l δ n) : Seg (l, δ, yX5_writeWithin, 3 + (n + 1), none, cX5_writeWithin, 2) 0 6 :=
  seq (p := 0) (q := 1) (r := 6) (p_aload_n 0 dX5_writeWithin_0) (seq (p := 1) (q := 2) (r := 6) (p_aload_n 1 dX5_writeWithin_1) (seq (p := 2) (q := 5) (r := 6) (p_callG 2 _ (ok_alt (ok_U 8 cu_X5_7_8 rfl (r.2.1) (Nat.lt_succ_self _) dX5_writeWithin_2) (ok_alt (ok_U 7 cu_X5_7_7 rfl (r.2.1) (Nat.lt_succ_self _) dX5_writeWithin_2) (ok_alt (ok_U 9 cu_X5_7_9 rfl (r.2.2.1) (Nat.lt_succ_self _) dX5_writeWithin_2) (ok_U 5 cu_X5_7_5 rfl (r.1) (Nat.lt_succ_self _) dX5_writeWithin_2)))) (Nat.le_of_ble_eq_true rfl)) (seq (p := 5) (q := 6) (r := 6) (p_return dX5_writeWithin_5 rfl) done)))
theorem dX10_writeWithin_0 : decode cX10_writeWithin 0 = .ok (.aload_n 1, 1) := by decide +kernel
theorem dX10_writeWithin_1 : decode cX10_writeWithin 1 = .ok (.bipush 40, 2) := by decide +kernel
theorem dX10_writeWithin_3 : decode cX10_writeWithin 3 = .ok (.invokevirtual 48, 3) := by decide +kernel
theorem dX10_writeWithin_6 : decode cX10_writeWithin 6 = .ok (.aload_n 0, 1) := by decide +kernel
theorem dX10_writeWithin_7 : decode cX10_writeWithin 7 = .ok (.aload_n 1, 1) := by decide +kernel
theorem dX10_writeWithin_8 : decode cX10_writeWithin 8 = .ok (.invokevirtual 58, 3) := by decide +kernel
theorem dX10_writeWithin_11 : decode cX10_writeWithin 11 = .ok (.aload_n 1, 1) := by decide +kernel
theorem dX10_writeWithin_12 : decode cX10_writeWithin 12 = .ok (.bipush 41, 2) := by decide +kernel
theorem dX10_writeWithin_14 : decode cX10_writeWithin 14 = .ok (.invokevirtual 48, 3) := by decide +kernel
theorem dX10_writeWithin_17 : decode cX10_writeWithin 17 = .ok (.return_, 1) := by decide +kernel
noncomputable def B_X10_writeWithin (l : Launch) (δ : Dl) (n : Nat) (r : T_wri l δ n) : Seg (l, δ, yX10_writeWithin, 3 + (n + 1), none, cX10_writeWithin, 2) 0 18 :=
  seq (p := 0) (q := 1) (r := 18) (p_aload_n 1 dX10_writeWithin_0) (seq (p := 1) (q := 3) (r := 18) (p_bipush 40 dX10_writeWithin_1 (by decide)) (seq (p := 3) (q := 6) (r := 18) (p_callG 2 _ (ok_V 11 cv_X10_48 rfl (M_X12_put l δ) (Nat.lt_of_lt_of_le (show 0 < 3 from (Nat.le_of_ble_eq_true rfl)) (Nat.le_add_right _ _)) dX10_writeWithin_3) (Nat.le_of_ble_eq_true rfl)) (seq (p := 6) (q := 7) (r := 18) (p_aload_n 0 dX10_writeWithin_6) (seq (p := 7) (q := 8) (r := 18) (p_aload_n 1 dX10_writeWithin_7) (seq (p := 8) (q := 11) (r := 18) (p_callG 2 _ (ok_V 9 cv_X10_58 rfl (r.2.2.1) (Nat.lt_succ_self _) dX10_writeWithin_8) (Nat.le_of_ble_eq_true rfl)) (seq (p := 11) (q := 12) (r := 18) (p_aload_n 1 dX10_writeWithin_11) (seq (p := 12) (q := 14) (r := 18) (p_bipush 41 dX10_writeWithin_12 (by decide)) (seq (p := 14) (q := 17) (r := 18) (p_callG 2 _ (ok_V 11 cv_X10_48 rfl (M_X12_put l δ) (Nat.lt_of_lt_of_le (show 0 < 3 from (Nat.le_of_ble_eq_true rfl)) (Nat.le_add_right _ _)) dX10_writeWithin_14) (Nat.le_of_ble_eq_true rfl)) (seq (p := 17) (q := 18) (r := 18) (p_return dX10_writeWithin_17 rfl) done)))))))))
noncomputable def R_wri (l : Launch) (δ : Dl) : (n : Nat) → T_wri l δ n
  | 0 => (M_no, M_no, M_no, M_no, M_no)
  | n + 1 => (mk (B_X6_write l δ n (R_wri l δ n)) (by decide), mk (B_X8_write l δ n (R_wri l δ n)) (by decide), mk (B_X10_write l δ n (R_wri l δ n)) (by decide), mk (B_X5_writeWithin l δ n (R_wri l δ n)) (by decide), mk (B_X10_writeWithin l δ n (R_wri l δ n)) (by decide))
theorem N_X6_write {l : Launch} {δ : Dl} {n : Nat} {o : Nat} {a1 : Option Nat} {s : St} : ((R_wri l δ (n + 1)).1).1 [.inr (.inr (some o)), .inr (.inr a1)] s = bres ((B_X6_write l δ n (R_wri l δ n)).1 [] [some (.inr (.inr (some o))), some (.inr (.inr a1))] s) := (mk_eq (hy := by decide) rfl).trans (nrfl rfl)
theorem N_X8_write {l : Launch} {δ : Dl} {n : Nat} {o : Nat} {a1 : Option Nat} {s : St} : ((R_wri l δ (n + 1)).2.1).1 [.inr (.inr (some o)), .inr (.inr a1)] s = bres ((B_X8_write l δ n (R_wri l δ n)).1 [] [some (.inr (.inr (some o))), some (.inr (.inr a1))] s) := (mk_eq (hy := by decide) rfl).trans (nrfl rfl)
theorem N_X10_write {l : Launch} {δ : Dl} {n : Nat} {o : Nat} {a1 : Option Nat} {s : St} : ((R_wri l δ (n + 1)).2.2.1).1 [.inr (.inr (some o)), .inr (.inr a1)] s = bres ((B_X10_write l δ n (R_wri l δ n)).1 [] [some (.inr (.inr (some o))), some (.inr (.inr a1)), none] s) := (mk_eq (hy := by decide) rfl).trans (nrfl rfl)
theorem N_X5_writeWithin {l : Launch} {δ : Dl} {n : Nat} {o : Nat} {a1 : Option Nat} {s : St} : ((R_wri l δ (n + 1)).2.2.2.1).1 [.inr (.inr (some o)), .inr (.inr a1)] s = bres ((B_X5_writeWithin l δ n (R_wri l δ n)).1 [] [some (.inr (.inr (some o))), some (.inr (.inr a1))] s) := (mk_eq (hy := by decide) rfl).trans (nrfl rfl)
theorem N_X10_writeWithin {l : Launch} {δ : Dl} {n : Nat} {o : Nat} {a1 : Option Nat} {s : St} : ((R_wri l δ (n + 1)).2.2.2.2).1 [.inr (.inr (some o)), .inr (.inr a1)] s = bres ((B_X10_writeWithin l δ n (R_wri l δ n)).1 [] [some (.inr (.inr (some o))), some (.inr (.inr a1))] s) := (mk_eq (hy := by decide) rfl).trans (nrfl rfl)
theorem dX0_textOf_0 : decode cX0_textOf 0 = .ok (.new 142, 3) := by decide +kernel
theorem dX0_textOf_3 : decode cX0_textOf 3 = .ok (.dup, 1) := by decide +kernel
theorem dX0_textOf_4 : decode cX0_textOf 4 = .ok (.invokespecial 144, 3) := by decide +kernel
theorem dX0_textOf_7 : decode cX0_textOf 7 = .ok (.astore_n 1, 1) := by decide +kernel
theorem dX0_textOf_8 : decode cX0_textOf 8 = .ok (.aload_n 0, 1) := by decide +kernel
theorem dX0_textOf_9 : decode cX0_textOf 9 = .ok (.aload_n 1, 1) := by decide +kernel
theorem dX0_textOf_10 : decode cX0_textOf 10 = .ok (.invokevirtual 145, 3) := by decide +kernel
theorem dX0_textOf_13 : decode cX0_textOf 13 = .ok (.aload_n 1, 1) := by decide +kernel
theorem dX0_textOf_14 : decode cX0_textOf 14 = .ok (.getfield 151, 3) := by decide +kernel
theorem dX0_textOf_17 : decode cX0_textOf 17 = .ok (.newarray .byte, 2) := by decide +kernel
theorem dX0_textOf_19 : decode cX0_textOf 19 = .ok (.astore_n 2, 1) := by decide +kernel
theorem dX0_textOf_20 : decode cX0_textOf 20 = .ok (.aload_n 1, 1) := by decide +kernel
theorem dX0_textOf_21 : decode cX0_textOf 21 = .ok (.getfield 152, 3) := by decide +kernel
theorem dX0_textOf_24 : decode cX0_textOf 24 = .ok (.iconst 0, 1) := by decide +kernel
theorem dX0_textOf_25 : decode cX0_textOf 25 = .ok (.aload_n 2, 1) := by decide +kernel
theorem dX0_textOf_26 : decode cX0_textOf 26 = .ok (.iconst 0, 1) := by decide +kernel
theorem dX0_textOf_27 : decode cX0_textOf 27 = .ok (.aload_n 1, 1) := by decide +kernel
theorem dX0_textOf_28 : decode cX0_textOf 28 = .ok (.getfield 151, 3) := by decide +kernel
theorem dX0_textOf_31 : decode cX0_textOf 31 = .ok (.invokestatic 155, 3) := by decide +kernel
theorem dX0_textOf_34 : decode cX0_textOf 34 = .ok (.aload_n 2, 1) := by decide +kernel
theorem dX0_textOf_35 : decode cX0_textOf 35 = .ok (.areturn, 1) := by decide +kernel
noncomputable def B_X0_textOf (l : Launch) (δ : Dl) : Seg (l, δ, yX0_textOf, 84, (some (.array FieldType.byte)), cX0_textOf, 3) 0 36 :=
  seq (p := 0) (q := 3) (r := 36) (p_new 11 ck11 tyX12 tyX12_ok f0_11 f0_11_ok (okc q745) (okc q746) (okc q110) dX0_textOf_0) (seq (p := 3) (q := 4) (r := 36) (p_dup dX0_textOf_3) (seq (p := 4) (q := 7) (r := 36) (p_callG 1 _ (ok_I ci_X0_144 (M_X12_init l δ) (Nat.le_of_ble_eq_true rfl) dX0_textOf_4) (Nat.le_of_ble_eq_true rfl)) (seq (p := 7) (q := 8) (r := 36) (p_astore_n 1 dX0_textOf_7 (Nat.le_of_ble_eq_true rfl)) (seq (p := 8) (q := 9) (r := 36) (p_aload_n 0 dX0_textOf_8) (seq (p := 9) (q := 10) (r := 36) (p_aload_n 1 dX0_textOf_9) (seq (p := 10) (q := 13) (r := 36) (p_callG 2 _ (ok_alt (ok_U 8 cu_X0_145_8 rfl ((R_wri l δ 80).2.1) (Nat.le_of_ble_eq_true rfl) dX0_textOf_10) (ok_alt (ok_U 7 cu_X0_145_7 rfl ((R_wri l δ 80).2.1) (Nat.le_of_ble_eq_true rfl) dX0_textOf_10) (ok_alt (ok_U 9 cu_X0_145_9 rfl ((R_wri l δ 80).2.2.1) (Nat.le_of_ble_eq_true rfl) dX0_textOf_10) (ok_U 5 cu_X0_145_5 rfl ((R_wri l δ 80).1) (Nat.le_of_ble_eq_true rfl) dX0_textOf_10)))) (Nat.le_of_ble_eq_true rfl)) (seq (p := 13) (q := 14) (r := 36) (p_aload_n 1 dX0_textOf_13) (seq (p := 14) (q := 17) (r := 36) (p_get [(11, 1)] (alL1 fl_X0_151_11) dX0_textOf_14) (seq (p := 17) (q := 19) (r := 36) (p_newa 1 (Nat.le_of_ble_eq_true rfl) dX0_textOf_17) (seq (p := 19) (q := 20) (r := 36) (p_astore_n 2 dX0_textOf_19 (Nat.le_of_ble_eq_true rfl)) (seq (p := 20) (q := 21) (r := 36) (p_aload_n 1 dX0_textOf_20) (seq (p := 21) (q := 24) (r := 36) (p_get [(11, 0)] (alL1 fl_X0_152_11) dX0_textOf_21) (seq (p := 24) (q := 25) (r := 36) (p_iconst 0 dX0_textOf_24) (seq (p := 25) (q := 26) (r := 36) (p_aload_n 2 dX0_textOf_25) (seq (p := 26) (q := 27) (r := 36) (p_iconst 0 dX0_textOf_26) (seq (p := 27) (q := 28) (r := 36) (p_aload_n 1 dX0_textOf_27) (seq (p := 28) (q := 31) (r := 36) (p_get [(11, 1)] (alL1 fl_X0_151_11) dX0_textOf_28) (seq (p := 31) (q := 34) (r := 36) (p_copyB (Nat.le_of_ble_eq_true rfl) (okc q808) (okc q651) (okc q650) (okc q105) dX0_textOf_31) (seq (p := 34) (q := 35) (r := 36) (p_aload_n 2 dX0_textOf_34) (seq (p := 35) (q := 36) (r := 36) (p_areturn dX0_textOf_35 rfl (Or.inr ⟨_, rfl⟩)) done))))))))))))))))))))
noncomputable def M_X0_textOf (l : Launch) (δ : Dl) : Mth l δ yX0_textOf cX0_textOf 3 (some (.array FieldType.byte)) 84 := mk (B_X0_textOf l δ) (by decide)
theorem N_X0_textOf {l : Launch} {δ : Dl} {a1 : Option Nat} {s : St} : (M_X0_textOf l δ).1 [.inr (.inr a1)] s = bres ((B_X0_textOf l δ).1 [] [some (.inr (.inr a1)), none, none] s) := (mk_eq (hy := by decide) rfl).trans (nrfl rfl)
abbrev T_dep (l : Launch) (δ : Dl) (n : Nat) : Type := Mth l δ yX6_depth cX6_depth 1 (some .int) (3 + n) × Mth l δ yX8_depth cX8_depth 1 (some .int) (3 + n) × Mth l δ yX9_depth cX9_depth 1 (some .int) (3 + n) × Mth l δ yX10_depth cX10_depth 3 (some .int) (3 + n)
theorem dX6_depth_0 : decode cX6_depth 0 = .ok (.iconst 0, 1) := by decide +kernel
theorem dX6_depth_1 : decode cX6_depth 1 = .ok (.ireturn, 1) := by decide +kernel
noncomputable def B_X6_depth (l : Launch) (δ : Dl) (n : Nat) (r : T_dep l δ n) : Seg (l, δ, yX6_depth, 3 + (n + 1), (some .int), cX6_depth, 1) 0 2 :=
  seq (p := 0) (q := 1) (r := 2) (p_iconst 0 dX6_depth_0) (seq (p := 1) (q := 2) (r := 2) (p_ireturn dX6_depth_1 rfl) done)
theorem dX8_depth_0 : decode cX8_depth 0 = .ok (.aload_n 0, 1) := by decide +kernel
theorem dX8_depth_1 : decode cX8_depth 1 = .ok (.getfield 7, 3) := by decide +kernel
theorem dX8_depth_4 : decode cX8_depth 4 = .ok (.invokevirtual 19, 3) := by decide +kernel
theorem dX8_depth_7 : decode cX8_depth 7 = .ok (.ireturn, 1) := by decide +kernel
noncomputable def B_X8_depth (l : Launch) (δ : Dl) (n : Nat) (r : T_dep l δ n) : Seg (l, δ, yX8_depth, 3 + (n + 1), (some .int), cX8_depth, 1) 0 8 :=
  seq (p := 0) (q := 1) (r := 8) (p_aload_n 0 dX8_depth_0) (seq (p := 1) (q := 4) (r := 8) (p_get [(7, 0), (8, 0)] (alL2 fl_X8_7_7 fl_X8_7_8) dX8_depth_1) (seq (p := 4) (q := 7) (r := 8) (p_callG 1 _ (ok_alt (ok_U 8 cu_X8_19_8 rfl (r.2.2.1) (Nat.lt_succ_self _) dX8_depth_4) (ok_alt (ok_U 7 cu_X8_19_7 rfl (r.2.1) (Nat.lt_succ_self _) dX8_depth_4) (ok_alt (ok_U 9 cu_X8_19_9 rfl (r.2.2.2) (Nat.lt_succ_self _) dX8_depth_4) (ok_U 5 cu_X8_19_5 rfl (r.1) (Nat.lt_succ_self _) dX8_depth_4)))) (Nat.le_of_ble_eq_true rfl)) (seq (p := 7) (q := 8) (r := 8) (p_ireturn dX8_depth_7 rfl) done)))
theorem dX9_depth_0 : decode cX9_depth 0 = .ok (.iconst 1, 1) := by decide +kernel
theorem dX9_depth_1 : decode cX9_depth 1 = .ok (.aload_n 0, 1) := by decide +kernel
theorem dX9_depth_2 : decode cX9_depth 2 = .ok (.invokespecial 40, 3) := by decide +kernel
theorem dX9_depth_5 : decode cX9_depth 5 = .ok (.iadd, 1) := by decide +kernel
theorem dX9_depth_6 : decode cX9_depth 6 = .ok (.ireturn, 1) := by decide +kernel
noncomputable def B_X9_depth (l : Launch) (δ : Dl) (n : Nat) (r : T_dep l δ n) : Seg (l, δ, yX9_depth, 3 + (n + 1), (some .int), cX9_depth, 1) 0 7 :=
  seq (p := 0) (q := 1) (r := 7) (p_iconst 1 dX9_depth_0) (seq (p := 1) (q := 2) (r := 7) (p_aload_n 0 dX9_depth_1) (seq (p := 2) (q := 5) (r := 7) (p_callG 1 _ (ok_SU 8 csu_X9_40 rfl (r.2.1) (Nat.lt_succ_self _) dX9_depth_2) (Nat.le_of_ble_eq_true rfl)) (seq (p := 5) (q := 6) (r := 7) (p_iadd dX9_depth_5) (seq (p := 6) (q := 7) (r := 7) (p_ireturn dX9_depth_6 rfl) done))))
theorem dX10_depth_0 : decode cX10_depth 0 = .ok (.iconst 0, 1) := by decide +kernel
theorem dX10_depth_1 : decode cX10_depth 1 = .ok (.istore_n 1, 1) := by decide +kernel
theorem dX10_depth_2 : decode cX10_depth 2 = .ok (.iconst 0, 1) := by decide +kernel
theorem dX10_depth_3 : decode cX10_depth 3 = .ok (.istore_n 2, 1) := by decide +kernel
theorem dX10_depth_4 : decode cX10_depth 4 = .ok (.iload_n 2, 1) := by decide +kernel
theorem dX10_depth_5 : decode cX10_depth 5 = .ok (.aload_n 0, 1) := by decide +kernel
theorem dX10_depth_6 : decode cX10_depth 6 = .ok (.getfield 7, 3) := by decide +kernel
theorem dX10_depth_9 : decode cX10_depth 9 = .ok (.invokeinterface 17 1, 5) := by decide +kernel
theorem dX10_depth_14 : decode cX10_depth 14 = .ok (.if_icmp .ge 30, 3) := by decide +kernel
theorem dX10_depth_17 : decode cX10_depth 17 = .ok (.iload_n 1, 1) := by decide +kernel
theorem dX10_depth_18 : decode cX10_depth 18 = .ok (.aload_n 0, 1) := by decide +kernel
theorem dX10_depth_19 : decode cX10_depth 19 = .ok (.getfield 7, 3) := by decide +kernel
theorem dX10_depth_22 : decode cX10_depth 22 = .ok (.iload_n 2, 1) := by decide +kernel
theorem dX10_depth_23 : decode cX10_depth 23 = .ok (.invokeinterface 23 2, 5) := by decide +kernel
theorem dX10_depth_28 : decode cX10_depth 28 = .ok (.checkcast 2, 3) := by decide +kernel
theorem dX10_depth_31 : decode cX10_depth 31 = .ok (.invokevirtual 33, 3) := by decide +kernel
theorem dX10_depth_34 : decode cX10_depth 34 = .ok (.invokestatic 36, 3) := by decide +kernel
theorem dX10_depth_37 : decode cX10_depth 37 = .ok (.istore_n 1, 1) := by decide +kernel
theorem dX10_depth_38 : decode cX10_depth 38 = .ok (.iinc 2 1, 3) := by decide +kernel
theorem dX10_depth_41 : decode cX10_depth 41 = .ok (.goto (-37), 3) := by decide +kernel
theorem dX10_depth_44 : decode cX10_depth 44 = .ok (.iload_n 1, 1) := by decide +kernel
theorem dX10_depth_45 : decode cX10_depth 45 = .ok (.ireturn, 1) := by decide +kernel
noncomputable def C_X10_depth_L4 (l : Launch) (δ : Dl) (n : Nat) (r : T_dep l δ n) : Seg (l, δ, yX10_depth, 3 + (n + 1), (some .int), cX10_depth, 3) 4 44 :=
  seq (p := 4) (q := 5) (r := 44) (p_iload_n 2 dX10_depth_4) (seq (p := 5) (q := 6) (r := 44) (p_aload_n 0 dX10_depth_5) (seq (p := 6) (q := 9) (r := 44) (p_get [(9, 0)] (alL1 fl_X10_7_9) dX10_depth_6) (seq (p := 9) (q := 14) (r := 44) (p_callG 1 _ (ok_F 16 cf_X10_17 rfl (M_J2_size l δ) (Nat.lt_of_lt_of_le (show 0 < 3 from (Nat.le_of_ble_eq_true rfl)) (Nat.le_add_right _ _)) dX10_depth_9) (Nat.le_of_ble_eq_true rfl)) (seq (p := 14) (q := 17) (r := 44) (p_icmp_ge 44 dX10_depth_14 (by decide)) (seq (p := 17) (q := 18) (r := 44) (p_iload_n 1 dX10_depth_17) (seq (p := 18) (q := 19) (r := 44) (p_aload_n 0 dX10_depth_18) (seq (p := 19) (q := 22) (r := 44) (p_get [(9, 0)] (alL1 fl_X10_7_9) dX10_depth_19) (seq (p := 22) (q := 23) (r := 44) (p_iload_n 2 dX10_depth_22) (seq (p := 23) (q := 28) (r := 44) (p_callG 2 _ (ok_F 16 cf_X10_23 rfl (M_J2_get l δ) (Nat.lt_of_lt_of_le (show 2 < 3 from (Nat.le_of_ble_eq_true rfl)) (Nat.le_add_right _ _)) dX10_depth_23) (Nat.le_of_ble_eq_true rfl)) (seq (p := 28) (q := 31) (r := 44) (p_cast [5, 7, 8, 9] ky_X10_2 dX10_depth_28) (seq (p := 31) (q := 34) (r := 44) (p_callG 1 _ (ok_alt (ok_U 8 cu_X10_33_8 rfl (r.2.2.1) (Nat.lt_succ_self _) dX10_depth_31) (ok_alt (ok_U 7 cu_X10_33_7 rfl (r.2.1) (Nat.lt_succ_self _) dX10_depth_31) (ok_alt (ok_U 9 cu_X10_33_9 rfl (r.2.2.2) (Nat.lt_succ_self _) dX10_depth_31) (ok_U 5 cu_X10_33_5 rfl (r.1) (Nat.lt_succ_self _) dX10_depth_31)))) (Nat.le_of_ble_eq_true rfl)) (seq (p := 34) (q := 37) (r := 44) (p_mmax (Nat.le_trans (show 1 ≤ 3 from (Nat.le_of_ble_eq_true rfl)) (Nat.le_add_right _ _)) (okc q738) (okc q610) (okc q103) (okc q611) dX10_depth_34) (seq (p := 37) (q := 38) (r := 44) (p_istore_n 1 dX10_depth_37 (Nat.le_of_ble_eq_true rfl)) (seq (p := 38) (q := 41) (r := 44) (p_iinc 2 1 dX10_depth_38 (Nat.le_of_ble_eq_true rfl)) (seq (p := 41) (q := 41) (r := 44) (er [true, true, true]) (seq (p := 41) (q := 44) (r := 44) (p_goto 4 dX10_depth_41 (by decide)) done))))))))))))))))
noncomputable def B_X10_depth_L4 (l : Launch) (δ : Dl) (n : Nat) (r : T_dep l δ n) : Seg (l, δ, yX10_depth, 3 + (n + 1), (some .int), cX10_depth, 3) 4 44 := C_X10_depth_L4 l δ n r
theorem L_X10_depth_4 {l : Launch} {δ : Dl} {n : Nat} {r : T_dep l δ n} {st : Stk} {L : Lc} {s : St} : (B_X10_depth_L4 l δ n r).1 st L s = (C_X10_depth_L4 l δ n r).1 st L s := nrfl rfl
noncomputable def B_X10_depth (l : Launch) (δ : Dl) (n : Nat) (r : T_dep l δ n) : Seg (l, δ, yX10_depth, 3 + (n + 1), (some .int), cX10_depth, 3) 0 46 :=
  seq (p := 0) (q := 1) (r := 46) (p_iconst 0 dX10_depth_0) (seq (p := 1) (q := 2) (r := 46) (p_istore_n 1 dX10_depth_1 (Nat.le_of_ble_eq_true rfl)) (seq (p := 2) (q := 3) (r := 46) (p_iconst 0 dX10_depth_2) (seq (p := 3) (q := 4) (r := 46) (p_istore_n 2 dX10_depth_3 (Nat.le_of_ble_eq_true rfl)) (seq (p := 4) (q := 44) (r := 46) (blk (seq (p := 4) (q := 4) (r := 44) (er [true, true, true]) (seq (p := 4) (q := 44) (r := 44) (lp (B_X10_depth_L4 l δ n r)) done))) (seq (p := 44) (q := 45) (r := 46) (p_iload_n 1 dX10_depth_44) (seq (p := 45) (q := 46) (r := 46) (p_ireturn dX10_depth_45 rfl) done))))))
noncomputable def R_dep (l : Launch) (δ : Dl) : (n : Nat) → T_dep l δ n
  | 0 => (M_no, M_no, M_no, M_no)
  | n + 1 => (mk (B_X6_depth l δ n (R_dep l δ n)) (by decide), mk (B_X8_depth l δ n (R_dep l δ n)) (by decide), mk (B_X9_depth l δ n (R_dep l δ n)) (by decide), mk (B_X10_depth l δ n (R_dep l δ n)) (by decide))
theorem N_X6_depth {l : Launch} {δ : Dl} {n : Nat} {o : Nat} {s : St} : ((R_dep l δ (n + 1)).1).1 [.inr (.inr (some o))] s = bres ((B_X6_depth l δ n (R_dep l δ n)).1 [] [some (.inr (.inr (some o)))] s) := (mk_eq (hy := by decide) rfl).trans (nrfl rfl)
theorem N_X8_depth {l : Launch} {δ : Dl} {n : Nat} {o : Nat} {s : St} : ((R_dep l δ (n + 1)).2.1).1 [.inr (.inr (some o))] s = bres ((B_X8_depth l δ n (R_dep l δ n)).1 [] [some (.inr (.inr (some o)))] s) := (mk_eq (hy := by decide) rfl).trans (nrfl rfl)
theorem N_X9_depth {l : Launch} {δ : Dl} {n : Nat} {o : Nat} {s : St} : ((R_dep l δ (n + 1)).2.2.1).1 [.inr (.inr (some o))] s = bres ((B_X9_depth l δ n (R_dep l δ n)).1 [] [some (.inr (.inr (some o)))] s) := (mk_eq (hy := by decide) rfl).trans (nrfl rfl)
theorem N_X10_depth {l : Launch} {δ : Dl} {n : Nat} {o : Nat} {s : St} : ((R_dep l δ (n + 1)).2.2.2).1 [.inr (.inr (some o))] s = bres ((B_X10_depth l δ n (R_dep l δ n)).1 [] [some (.inr (.inr (some o))), none, none] s) := (mk_eq (hy := by decide) rfl).trans (nrfl rfl)
abbrev T_nod (l : Launch) (δ : Dl) (n : Nat) : Type := Mth l δ yX5_nodes cX5_nodes 1 (some .int) (3 + n) × Mth l δ yX8_nodes cX8_nodes 1 (some .int) (3 + n) × Mth l δ yX10_nodes cX10_nodes 3 (some .int) (3 + n)
theorem dX5_nodes_0 : decode cX5_nodes 0 = .ok (.iconst 1, 1) := by decide +kernel
theorem dX5_nodes_1 : decode cX5_nodes 1 = .ok (.ireturn, 1) := by decide +kernel
noncomputable def B_X5_nodes (l : Launch) (δ : Dl) (n : Nat) (r : T_nod l δ n) : Seg (l, δ, yX5_nodes, 3 + (n + 1), (some .int), cX5_nodes, 1) 0 2 :=
  seq (p := 0) (q := 1) (r := 2) (p_iconst 1 dX5_nodes_0) (seq (p := 1) (q := 2) (r := 2) (p_ireturn dX5_nodes_1 rfl) done)
theorem dX8_nodes_0 : decode cX8_nodes 0 = .ok (.aload_n 0, 1) := by decide +kernel
theorem dX8_nodes_1 : decode cX8_nodes 1 = .ok (.invokespecial 28, 3) := by decide +kernel
theorem dX8_nodes_4 : decode cX8_nodes 4 = .ok (.aload_n 0, 1) := by decide +kernel
theorem dX8_nodes_5 : decode cX8_nodes 5 = .ok (.getfield 7, 3) := by decide +kernel
theorem dX8_nodes_8 : decode cX8_nodes 8 = .ok (.invokevirtual 28, 3) := by decide +kernel
theorem dX8_nodes_11 : decode cX8_nodes 11 = .ok (.iadd, 1) := by decide +kernel
theorem dX8_nodes_12 : decode cX8_nodes 12 = .ok (.ireturn, 1) := by decide +kernel
noncomputable def B_X8_nodes (l : Launch) (δ : Dl) (n : Nat) (r : T_nod l δ n) : Seg (l, δ, yX8_nodes, 3 + (n + 1), (some .int), cX8_nodes, 1) 0 13 :=
  seq (p := 0) (q := 1) (r := 13) (p_aload_n 0 dX8_nodes_0) (seq (p := 1) (q := 4) (r := 13) (p_callG 1 _ (ok_alt (ok_SU 7 csu_X8_28 rfl (r.1) (Nat.lt_succ_self _) dX8_nodes_1) (ok_SU 8 csu_X8_28 rfl (r.1) (Nat.lt_succ_self _) dX8_nodes_1)) (Nat.le_of_ble_eq_true rfl)) (seq (p := 4) (q := 5) (r := 13) (p_aload_n 0 dX8_nodes_4) (seq (p := 5) (q := 8) (r := 13) (p_get [(7, 0), (8, 0)] (alL2 fl_X8_7_7 fl_X8_7_8) dX8_nodes_5) (seq (p := 8) (q := 11) (r := 13) (p_callG 1 _ (ok_alt (ok_U 8 cu_X8_28_8 rfl (r.2.1) (Nat.lt_succ_self _) dX8_nodes_8) (ok_alt (ok_U 7 cu_X8_28_7 rfl (r.2.1) (Nat.lt_succ_self _) dX8_nodes_8) (ok_alt (ok_U 9 cu_X8_28_9 rfl (r.2.2) (Nat.lt_succ_self _) dX8_nodes_8) (ok_U 5 cu_X8_28_5 rfl (r.1) (Nat.lt_succ_self _) dX8_nodes_8)))) (Nat.le_of_ble_eq_true rfl)) (seq (p := 11) (q := 12) (r := 13) (p_iadd dX8_nodes_11) (seq (p := 12) (q := 13) (r := 13) (p_ireturn dX8_nodes_12 rfl) done))))))
theorem dX10_nodes_0 : decode cX10_nodes 0 = .ok (.aload_n 0, 1) := by decide +kernel
theorem dX10_nodes_1 : decode cX10_nodes 1 = .ok (.invokespecial 42, 3) := by decide +kernel
theorem dX10_nodes_4 : decode cX10_nodes 4 = .ok (.istore_n 1, 1) := by decide +kernel
theorem dX10_nodes_5 : decode cX10_nodes 5 = .ok (.iconst 0, 1) := by decide +kernel
theorem dX10_nodes_6 : decode cX10_nodes 6 = .ok (.istore_n 2, 1) := by decide +kernel
theorem dX10_nodes_7 : decode cX10_nodes 7 = .ok (.iload_n 2, 1) := by decide +kernel
theorem dX10_nodes_8 : decode cX10_nodes 8 = .ok (.aload_n 0, 1) := by decide +kernel
theorem dX10_nodes_9 : decode cX10_nodes 9 = .ok (.getfield 7, 3) := by decide +kernel
theorem dX10_nodes_12 : decode cX10_nodes 12 = .ok (.invokeinterface 17 1, 5) := by decide +kernel
theorem dX10_nodes_17 : decode cX10_nodes 17 = .ok (.if_icmp .ge 28, 3) := by decide +kernel
theorem dX10_nodes_20 : decode cX10_nodes 20 = .ok (.iload_n 1, 1) := by decide +kernel
theorem dX10_nodes_21 : decode cX10_nodes 21 = .ok (.aload_n 0, 1) := by decide +kernel
theorem dX10_nodes_22 : decode cX10_nodes 22 = .ok (.getfield 7, 3) := by decide +kernel
theorem dX10_nodes_25 : decode cX10_nodes 25 = .ok (.iload_n 2, 1) := by decide +kernel
theorem dX10_nodes_26 : decode cX10_nodes 26 = .ok (.invokeinterface 23 2, 5) := by decide +kernel
theorem dX10_nodes_31 : decode cX10_nodes 31 = .ok (.checkcast 2, 3) := by decide +kernel
theorem dX10_nodes_34 : decode cX10_nodes 34 = .ok (.invokevirtual 42, 3) := by decide +kernel
theorem dX10_nodes_37 : decode cX10_nodes 37 = .ok (.iadd, 1) := by decide +kernel
theorem dX10_nodes_38 : decode cX10_nodes 38 = .ok (.istore_n 1, 1) := by decide +kernel
theorem dX10_nodes_39 : decode cX10_nodes 39 = .ok (.iinc 2 1, 3) := by decide +kernel
theorem dX10_nodes_42 : decode cX10_nodes 42 = .ok (.goto (-35), 3) := by decide +kernel
theorem dX10_nodes_45 : decode cX10_nodes 45 = .ok (.iload_n 1, 1) := by decide +kernel
theorem dX10_nodes_46 : decode cX10_nodes 46 = .ok (.ireturn, 1) := by decide +kernel
noncomputable def C_X10_nodes_L7 (l : Launch) (δ : Dl) (n : Nat) (r : T_nod l δ n) : Seg (l, δ, yX10_nodes, 3 + (n + 1), (some .int), cX10_nodes, 3) 7 45 :=
  seq (p := 7) (q := 8) (r := 45) (p_iload_n 2 dX10_nodes_7) (seq (p := 8) (q := 9) (r := 45) (p_aload_n 0 dX10_nodes_8) (seq (p := 9) (q := 12) (r := 45) (p_get [(9, 0)] (alL1 fl_X10_7_9) dX10_nodes_9) (seq (p := 12) (q := 17) (r := 45) (p_callG 1 _ (ok_F 16 cf_X10_17 rfl (M_J2_size l δ) (Nat.lt_of_lt_of_le (show 0 < 3 from (Nat.le_of_ble_eq_true rfl)) (Nat.le_add_right _ _)) dX10_nodes_12) (Nat.le_of_ble_eq_true rfl)) (seq (p := 17) (q := 20) (r := 45) (p_icmp_ge 45 dX10_nodes_17 (by decide)) (seq (p := 20) (q := 21) (r := 45) (p_iload_n 1 dX10_nodes_20) (seq (p := 21) (q := 22) (r := 45) (p_aload_n 0 dX10_nodes_21) (seq (p := 22) (q := 25) (r := 45) (p_get [(9, 0)] (alL1 fl_X10_7_9) dX10_nodes_22) (seq (p := 25) (q := 26) (r := 45) (p_iload_n 2 dX10_nodes_25) (seq (p := 26) (q := 31) (r := 45) (p_callG 2 _ (ok_F 16 cf_X10_23 rfl (M_J2_get l δ) (Nat.lt_of_lt_of_le (show 2 < 3 from (Nat.le_of_ble_eq_true rfl)) (Nat.le_add_right _ _)) dX10_nodes_26) (Nat.le_of_ble_eq_true rfl)) (seq (p := 31) (q := 34) (r := 45) (p_cast [5, 7, 8, 9] ky_X10_2 dX10_nodes_31) (seq (p := 34) (q := 37) (r := 45) (p_callG 1 _ (ok_alt (ok_U 8 cu_X10_42_8 rfl (r.2.1) (Nat.lt_succ_self _) dX10_nodes_34) (ok_alt (ok_U 7 cu_X10_42_7 rfl (r.2.1) (Nat.lt_succ_self _) dX10_nodes_34) (ok_alt (ok_U 9 cu_X10_42_9 rfl (r.2.2) (Nat.lt_succ_self _) dX10_nodes_34) (ok_U 5 cu_X10_42_5 rfl (r.1) (Nat.lt_succ_self _) dX10_nodes_34)))) (Nat.le_of_ble_eq_true rfl)) (seq (p := 37) (q := 38) (r := 45) (p_iadd dX10_nodes_37) (seq (p := 38) (q := 39) (r := 45) (p_istore_n 1 dX10_nodes_38 (Nat.le_of_ble_eq_true rfl)) (seq (p := 39) (q := 42) (r := 45) (p_iinc 2 1 dX10_nodes_39 (Nat.le_of_ble_eq_true rfl)) (seq (p := 42) (q := 42) (r := 45) (er [true, true, true]) (seq (p := 42) (q := 45) (r := 45) (p_goto 7 dX10_nodes_42 (by decide)) done))))))))))))))))
noncomputable def B_X10_nodes_L7 (l : Launch) (δ : Dl) (n : Nat) (r : T_nod l δ n) : Seg (l, δ, yX10_nodes, 3 + (n + 1), (some .int), cX10_nodes, 3) 7 45 := C_X10_nodes_L7 l δ n r
theorem L_X10_nodes_7 {l : Launch} {δ : Dl} {n : Nat} {r : T_nod l δ n} {st : Stk} {L : Lc} {s : St} : (B_X10_nodes_L7 l δ n r).1 st L s = (C_X10_nodes_L7 l δ n r).1 st L s := nrfl rfl
noncomputable def B_X10_nodes (l : Launch) (δ : Dl) (n : Nat) (r : T_nod l δ n) : Seg (l, δ, yX10_nodes, 3 + (n + 1), (some .int), cX10_nodes, 3) 0 47 :=
  seq (p := 0) (q := 1) (r := 47) (p_aload_n 0 dX10_nodes_0) (seq (p := 1) (q := 4) (r := 47) (p_callG 1 _ (ok_SU 9 csu_X10_42 rfl (r.1) (Nat.lt_succ_self _) dX10_nodes_1) (Nat.le_of_ble_eq_true rfl)) (seq (p := 4) (q := 5) (r := 47) (p_istore_n 1 dX10_nodes_4 (Nat.le_of_ble_eq_true rfl)) (seq (p := 5) (q := 6) (r := 47) (p_iconst 0 dX10_nodes_5) (seq (p := 6) (q := 7) (r := 47) (p_istore_n 2 dX10_nodes_6 (Nat.le_of_ble_eq_true rfl)) (seq (p := 7) (q := 45) (r := 47) (blk (seq (p := 7) (q := 7) (r := 45) (er [true, true, true]) (seq (p := 7) (q := 45) (r := 45) (lp (B_X10_nodes_L7 l δ n r)) done))) (seq (p := 45) (q := 46) (r := 47) (p_iload_n 1 dX10_nodes_45) (seq (p := 46) (q := 47) (r := 47) (p_ireturn dX10_nodes_46 rfl) done)))))))
noncomputable def R_nod (l : Launch) (δ : Dl) : (n : Nat) → T_nod l δ n
  | 0 => (M_no, M_no, M_no)
  | n + 1 => (mk (B_X5_nodes l δ n (R_nod l δ n)) (by decide), mk (B_X8_nodes l δ n (R_nod l δ n)) (by decide), mk (B_X10_nodes l δ n (R_nod l δ n)) (by decide))
theorem N_X5_nodes {l : Launch} {δ : Dl} {n : Nat} {o : Nat} {s : St} : ((R_nod l δ (n + 1)).1).1 [.inr (.inr (some o))] s = bres ((B_X5_nodes l δ n (R_nod l δ n)).1 [] [some (.inr (.inr (some o)))] s) := (mk_eq (hy := by decide) rfl).trans (nrfl rfl)
theorem N_X8_nodes {l : Launch} {δ : Dl} {n : Nat} {o : Nat} {s : St} : ((R_nod l δ (n + 1)).2.1).1 [.inr (.inr (some o))] s = bres ((B_X8_nodes l δ n (R_nod l δ n)).1 [] [some (.inr (.inr (some o)))] s) := (mk_eq (hy := by decide) rfl).trans (nrfl rfl)
theorem N_X10_nodes {l : Launch} {δ : Dl} {n : Nat} {o : Nat} {s : St} : ((R_nod l δ (n + 1)).2.2).1 [.inr (.inr (some o))] s = bres ((B_X10_nodes l δ n (R_nod l δ n)).1 [] [some (.inr (.inr (some o))), none, none] s) := (mk_eq (hy := by decide) rfl).trans (nrfl rfl)
theorem dX11_init_0 : decode cX11_init 0 = .ok (.aload_n 0, 1) := by decide +kernel
theorem dX11_init_1 : decode cX11_init 1 = .ok (.invokespecial 1, 3) := by decide +kernel
theorem dX11_init_4 : decode cX11_init 4 = .ok (.aload_n 0, 1) := by decide +kernel
theorem dX11_init_5 : decode cX11_init 5 = .ok (.aload_n 1, 1) := by decide +kernel
theorem dX11_init_6 : decode cX11_init 6 = .ok (.putfield 7, 3) := by decide +kernel
theorem dX11_init_9 : decode cX11_init 9 = .ok (.aload_n 0, 1) := by decide +kernel
theorem dX11_init_10 : decode cX11_init 10 = .ok (.aload_n 1, 1) := by decide +kernel
theorem dX11_init_11 : decode cX11_init 11 = .ok (.invokevirtual 13, 3) := by decide +kernel
theorem dX11_init_14 : decode cX11_init 14 = .ok (.putfield 19, 3) := by decide +kernel
theorem dX11_init_17 : decode cX11_init 17 = .ok (.aload_n 0, 1) := by decide +kernel
theorem dX11_init_18 : decode cX11_init 18 = .ok (.aload_n 1, 1) := by decide +kernel
theorem dX11_init_19 : decode cX11_init 19 = .ok (.invokevirtual 22, 3) := by decide +kernel
theorem dX11_init_22 : decode cX11_init 22 = .ok (.putfield 25, 3) := by decide +kernel
theorem dX11_init_25 : decode cX11_init 25 = .ok (.aload_n 0, 1) := by decide +kernel
theorem dX11_init_26 : decode cX11_init 26 = .ok (.aload_n 1, 1) := by decide +kernel
theorem dX11_init_27 : decode cX11_init 27 = .ok (.invokestatic 27, 3) := by decide +kernel
theorem dX11_init_30 : decode cX11_init 30 = .ok (.putfield 33, 3) := by decide +kernel
theorem dX11_init_33 : decode cX11_init 33 = .ok (.return_, 1) := by decide +kernel
noncomputable def B_X11_init (l : Launch) (δ : Dl) : Seg (l, δ, yX11_init, 85, none, cX11_init, 2) 0 34 :=
  seq (p := 0) (q := 1) (r := 34) (p_aload_n 0 dX11_init_0) (seq (p := 1) (q := 4) (r := 34) (p_objI (Nat.le_of_ble_eq_true rfl) (okc q721) (okc q122) (okc q123) dX11_init_1) (seq (p := 4) (q := 5) (r := 34) (p_aload_n 0 dX11_init_4) (seq (p := 5) (q := 6) (r := 34) (p_aload_n 1 dX11_init_5) (seq (p := 6) (q := 9) (r := 34) (p_putF [(10, 0)] (.object "TwoWorlds$Formula") (alF1 ff_X11_7_10) rfl dX11_init_6) (seq (p := 9) (q := 10) (r := 34) (p_aload_n 0 dX11_init_9) (seq (p := 10) (q := 11) (r := 34) (p_aload_n 1 dX11_init_10) (seq (p := 11) (q := 14) (r := 34) (p_callG 1 _ (ok_alt (ok_U 8 cu_X11_13_8 rfl ((R_dep l δ 64).2.2.1) (Nat.le_of_ble_eq_true rfl) dX11_init_11) (ok_alt (ok_U 7 cu_X11_13_7 rfl ((R_dep l δ 64).2.1) (Nat.le_of_ble_eq_true rfl) dX11_init_11) (ok_alt (ok_U 9 cu_X11_13_9 rfl ((R_dep l δ 64).2.2.2) (Nat.le_of_ble_eq_true rfl) dX11_init_11) (ok_U 5 cu_X11_13_5 rfl ((R_dep l δ 64).1) (Nat.le_of_ble_eq_true rfl) dX11_init_11)))) (Nat.le_of_ble_eq_true rfl)) (seq (p := 14) (q := 17) (r := 34) (p_putF [(10, 1)] .int (alF1 ff_X11_19_10) rfl dX11_init_14) (seq (p := 17) (q := 18) (r := 34) (p_aload_n 0 dX11_init_17) (seq (p := 18) (q := 19) (r := 34) (p_aload_n 1 dX11_init_18) (seq (p := 19) (q := 22) (r := 34) (p_callG 1 _ (ok_alt (ok_U 8 cu_X11_22_8 rfl ((R_nod l δ 64).2.1) (Nat.le_of_ble_eq_true rfl) dX11_init_19) (ok_alt (ok_U 7 cu_X11_22_7 rfl ((R_nod l δ 64).2.1) (Nat.le_of_ble_eq_true rfl) dX11_init_19) (ok_alt (ok_U 9 cu_X11_22_9 rfl ((R_nod l δ 64).2.2) (Nat.le_of_ble_eq_true rfl) dX11_init_19) (ok_U 5 cu_X11_22_5 rfl ((R_nod l δ 64).1) (Nat.le_of_ble_eq_true rfl) dX11_init_19)))) (Nat.le_of_ble_eq_true rfl)) (seq (p := 22) (q := 25) (r := 34) (p_putF [(10, 2)] .int (alF1 ff_X11_25_10) rfl dX11_init_22) (seq (p := 25) (q := 26) (r := 34) (p_aload_n 0 dX11_init_25) (seq (p := 26) (q := 27) (r := 34) (p_aload_n 1 dX11_init_26) (seq (p := 27) (q := 30) (r := 34) (p_callG 1 _ (ok_SN csn_X11_27 (M_X0_textOf l δ) (Nat.le_of_ble_eq_true rfl) dX11_init_27) (Nat.le_of_ble_eq_true rfl)) (seq (p := 30) (q := 33) (r := 34) (p_putF [(10, 3)] (.array .byte) (alF1 ff_X11_33_10) rfl dX11_init_30) (seq (p := 33) (q := 34) (r := 34) (p_return dX11_init_33 rfl) done)))))))))))))))))
noncomputable def M_X11_init (l : Launch) (δ : Dl) : Mth l δ yX11_init cX11_init 2 none 85 := mk (B_X11_init l δ) (by decide)
theorem N_X11_init {l : Launch} {δ : Dl} {o : Nat} {a1 : Option Nat} {s : St} : (M_X11_init l δ).1 [.inr (.inr (some o)), .inr (.inr a1)] s = bres ((B_X11_init l δ).1 [] [some (.inr (.inr (some o))), some (.inr (.inr a1))] s) := (mk_eq (hy := by decide) rfl).trans (nrfl rfl)
theorem dX11_isLike_0 : decode cX11_isLike 0 = .ok (.aload_n 0, 1) := by decide +kernel
theorem dX11_isLike_1 : decode cX11_isLike 1 = .ok (.getfield 33, 3) := by decide +kernel
theorem dX11_isLike_4 : decode cX11_isLike 4 = .ok (.arraylength, 1) := by decide +kernel
theorem dX11_isLike_5 : decode cX11_isLike 5 = .ok (.aload_n 1, 1) := by decide +kernel
theorem dX11_isLike_6 : decode cX11_isLike 6 = .ok (.getfield 33, 3) := by decide +kernel
theorem dX11_isLike_9 : decode cX11_isLike 9 = .ok (.arraylength, 1) := by decide +kernel
theorem dX11_isLike_10 : decode cX11_isLike 10 = .ok (.if_icmp .ne 7, 3) := by decide +kernel
theorem dX11_isLike_13 : decode cX11_isLike 13 = .ok (.iconst 1, 1) := by decide +kernel
theorem dX11_isLike_14 : decode cX11_isLike 14 = .ok (.goto 4, 3) := by decide +kernel
theorem dX11_isLike_17 : decode cX11_isLike 17 = .ok (.iconst 0, 1) := by decide +kernel
theorem dX11_isLike_18 : decode cX11_isLike 18 = .ok (.istore_n 2, 1) := by decide +kernel
theorem dX11_isLike_19 : decode cX11_isLike 19 = .ok (.iconst 0, 1) := by decide +kernel
theorem dX11_isLike_20 : decode cX11_isLike 20 = .ok (.istore_n 3, 1) := by decide +kernel
theorem dX11_isLike_21 : decode cX11_isLike 21 = .ok (.iload_n 3, 1) := by decide +kernel
theorem dX11_isLike_22 : decode cX11_isLike 22 = .ok (.aload_n 0, 1) := by decide +kernel
theorem dX11_isLike_23 : decode cX11_isLike 23 = .ok (.getfield 33, 3) := by decide +kernel
theorem dX11_isLike_26 : decode cX11_isLike 26 = .ok (.arraylength, 1) := by decide +kernel
theorem dX11_isLike_27 : decode cX11_isLike 27 = .ok (.if_icmp .ge 34, 3) := by decide +kernel
theorem dX11_isLike_30 : decode cX11_isLike 30 = .ok (.iload_n 2, 1) := by decide +kernel
theorem dX11_isLike_31 : decode cX11_isLike 31 = .ok (.ifCond .eq 30, 3) := by decide +kernel
theorem dX11_isLike_34 : decode cX11_isLike 34 = .ok (.aload_n 0, 1) := by decide +kernel
theorem dX11_isLike_35 : decode cX11_isLike 35 = .ok (.getfield 33, 3) := by decide +kernel
theorem dX11_isLike_38 : decode cX11_isLike 38 = .ok (.iload_n 3, 1) := by decide +kernel
theorem dX11_isLike_39 : decode cX11_isLike 39 = .ok (.baload, 1) := by decide +kernel
theorem dX11_isLike_40 : decode cX11_isLike 40 = .ok (.aload_n 1, 1) := by decide +kernel
theorem dX11_isLike_41 : decode cX11_isLike 41 = .ok (.getfield 33, 3) := by decide +kernel
theorem dX11_isLike_44 : decode cX11_isLike 44 = .ok (.iload_n 3, 1) := by decide +kernel
theorem dX11_isLike_45 : decode cX11_isLike 45 = .ok (.baload, 1) := by decide +kernel
theorem dX11_isLike_46 : decode cX11_isLike 46 = .ok (.if_icmp .ne 7, 3) := by decide +kernel
theorem dX11_isLike_49 : decode cX11_isLike 49 = .ok (.iconst 1, 1) := by decide +kernel
theorem dX11_isLike_50 : decode cX11_isLike 50 = .ok (.goto 4, 3) := by decide +kernel
theorem dX11_isLike_53 : decode cX11_isLike 53 = .ok (.iconst 0, 1) := by decide +kernel
theorem dX11_isLike_54 : decode cX11_isLike 54 = .ok (.istore_n 2, 1) := by decide +kernel
theorem dX11_isLike_55 : decode cX11_isLike 55 = .ok (.iinc 3 1, 3) := by decide +kernel
theorem dX11_isLike_58 : decode cX11_isLike 58 = .ok (.goto (-37), 3) := by decide +kernel
theorem dX11_isLike_61 : decode cX11_isLike 61 = .ok (.iload_n 2, 1) := by decide +kernel
theorem dX11_isLike_62 : decode cX11_isLike 62 = .ok (.ireturn, 1) := by decide +kernel
noncomputable def C_X11_isLike_L21 (l : Launch) (δ : Dl) : Seg (l, δ, yX11_isLike, 0, (some .boolean), cX11_isLike, 4) 21 61 :=
  seq (p := 21) (q := 22) (r := 61) (p_iload_n 3 dX11_isLike_21) (seq (p := 22) (q := 23) (r := 61) (p_aload_n 0 dX11_isLike_22) (seq (p := 23) (q := 26) (r := 61) (p_get [(10, 3)] (alL1 fl_X11_33_10) dX11_isLike_23) (seq (p := 26) (q := 27) (r := 61) (p_alen dX11_isLike_26) (seq (p := 27) (q := 30) (r := 61) (p_icmp_ge 61 dX11_isLike_27 (by decide)) (seq (p := 30) (q := 31) (r := 61) (p_iload_n 2 dX11_isLike_30) (seq (p := 31) (q := 34) (r := 61) (p_if_eq 61 dX11_isLike_31 (by decide)) (seq (p := 34) (q := 35) (r := 61) (p_aload_n 0 dX11_isLike_34) (seq (p := 35) (q := 38) (r := 61) (p_get [(10, 3)] (alL1 fl_X11_33_10) dX11_isLike_35) (seq (p := 38) (q := 39) (r := 61) (p_iload_n 3 dX11_isLike_38) (seq (p := 39) (q := 40) (r := 61) (p_bald dX11_isLike_39) (seq (p := 40) (q := 41) (r := 61) (p_aload_n 1 dX11_isLike_40) (seq (p := 41) (q := 44) (r := 61) (p_get [(10, 3)] (alL1 fl_X11_33_10) dX11_isLike_41) (seq (p := 44) (q := 45) (r := 61) (p_iload_n 3 dX11_isLike_44) (seq (p := 45) (q := 46) (r := 61) (p_bald dX11_isLike_45) (seq (p := 46) (q := 54) (r := 61) (blk (seq (p := 46) (q := 53) (r := 54) (blk (seq (p := 46) (q := 49) (r := 53) (p_icmp_ne 53 dX11_isLike_46 (by decide)) (seq (p := 49) (q := 50) (r := 53) (p_iconst 1 dX11_isLike_49) (seq (p := 50) (q := 53) (r := 53) (p_goto 54 dX11_isLike_50 (by decide)) done)))) (seq (p := 53) (q := 54) (r := 54) (p_iconst 0 dX11_isLike_53) done))) (seq (p := 54) (q := 55) (r := 61) (p_istore_n 2 dX11_isLike_54 (Nat.le_of_ble_eq_true rfl)) (seq (p := 55) (q := 58) (r := 61) (p_iinc 3 1 dX11_isLike_55 (Nat.le_of_ble_eq_true rfl)) (seq (p := 58) (q := 58) (r := 61) (er [true, true, true, true]) (seq (p := 58) (q := 61) (r := 61) (p_goto 21 dX11_isLike_58 (by decide)) done)))))))))))))))))))
noncomputable def B_X11_isLike_L21 (l : Launch) (δ : Dl) : Seg (l, δ, yX11_isLike, 0, (some .boolean), cX11_isLike, 4) 21 61 := C_X11_isLike_L21 l δ
theorem L_X11_isLike_21 {l : Launch} {δ : Dl} {st : Stk} {L : Lc} {s : St} : (B_X11_isLike_L21 l δ).1 st L s = (C_X11_isLike_L21 l δ).1 st L s := nrfl rfl
noncomputable def B_X11_isLike (l : Launch) (δ : Dl) : Seg (l, δ, yX11_isLike, 0, (some .boolean), cX11_isLike, 4) 0 63 :=
  seq (p := 0) (q := 1) (r := 63) (p_aload_n 0 dX11_isLike_0) (seq (p := 1) (q := 4) (r := 63) (p_get [(10, 3)] (alL1 fl_X11_33_10) dX11_isLike_1) (seq (p := 4) (q := 5) (r := 63) (p_alen dX11_isLike_4) (seq (p := 5) (q := 6) (r := 63) (p_aload_n 1 dX11_isLike_5) (seq (p := 6) (q := 9) (r := 63) (p_get [(10, 3)] (alL1 fl_X11_33_10) dX11_isLike_6) (seq (p := 9) (q := 10) (r := 63) (p_alen dX11_isLike_9) (seq (p := 10) (q := 18) (r := 63) (blk (seq (p := 10) (q := 17) (r := 18) (blk (seq (p := 10) (q := 13) (r := 17) (p_icmp_ne 17 dX11_isLike_10 (by decide)) (seq (p := 13) (q := 14) (r := 17) (p_iconst 1 dX11_isLike_13) (seq (p := 14) (q := 17) (r := 17) (p_goto 18 dX11_isLike_14 (by decide)) done)))) (seq (p := 17) (q := 18) (r := 18) (p_iconst 0 dX11_isLike_17) done))) (seq (p := 18) (q := 19) (r := 63) (p_istore_n 2 dX11_isLike_18 (Nat.le_of_ble_eq_true rfl)) (seq (p := 19) (q := 20) (r := 63) (p_iconst 0 dX11_isLike_19) (seq (p := 20) (q := 21) (r := 63) (p_istore_n 3 dX11_isLike_20 (Nat.le_of_ble_eq_true rfl)) (seq (p := 21) (q := 61) (r := 63) (blk (seq (p := 21) (q := 21) (r := 61) (er [true, true, true, true]) (seq (p := 21) (q := 61) (r := 61) (lp (B_X11_isLike_L21 l δ)) done))) (seq (p := 61) (q := 62) (r := 63) (p_iload_n 2 dX11_isLike_61) (seq (p := 62) (q := 63) (r := 63) (p_zreturn dX11_isLike_62 rfl) done))))))))))))
noncomputable def M_X11_isLike (l : Launch) (δ : Dl) : Mth l δ yX11_isLike cX11_isLike 4 (some .boolean) 0 := mk (B_X11_isLike l δ) (by decide)
theorem N_X11_isLike {l : Launch} {δ : Dl} {o : Nat} {a1 : Option Nat} {s : St} : (M_X11_isLike l δ).1 [.inr (.inr (some o)), .inr (.inr a1)] s = bres ((B_X11_isLike l δ).1 [] [some (.inr (.inr (some o))), some (.inr (.inr a1)), none, none] s) := (mk_eq (hy := by decide) rfl).trans (nrfl rfl)
theorem dX15_init_0 : decode cX15_init 0 = .ok (.aload_n 0, 1) := by decide +kernel
theorem dX15_init_1 : decode cX15_init 1 = .ok (.invokespecial 3, 3) := by decide +kernel
theorem dX15_init_4 : decode cX15_init 4 = .ok (.aload_n 0, 1) := by decide +kernel
theorem dX15_init_5 : decode cX15_init 5 = .ok (.aload_n 1, 1) := by decide +kernel
theorem dX15_init_6 : decode cX15_init 6 = .ok (.putfield 9, 3) := by decide +kernel
theorem dX15_init_9 : decode cX15_init 9 = .ok (.aload_n 0, 1) := by decide +kernel
theorem dX15_init_10 : decode cX15_init 10 = .ok (.aload_n 2, 1) := by decide +kernel
theorem dX15_init_11 : decode cX15_init 11 = .ok (.putfield 15, 3) := by decide +kernel
theorem dX15_init_14 : decode cX15_init 14 = .ok (.aload_n 0, 1) := by decide +kernel
theorem dX15_init_15 : decode cX15_init 15 = .ok (.iload_n 3, 1) := by decide +kernel
theorem dX15_init_16 : decode cX15_init 16 = .ok (.putfield 18, 3) := by decide +kernel
theorem dX15_init_19 : decode cX15_init 19 = .ok (.aload_n 0, 1) := by decide +kernel
theorem dX15_init_20 : decode cX15_init 20 = .ok (.iload 4, 2) := by decide +kernel
theorem dX15_init_22 : decode cX15_init 22 = .ok (.putfield 22, 3) := by decide +kernel
theorem dX15_init_25 : decode cX15_init 25 = .ok (.aload_n 0, 1) := by decide +kernel
theorem dX15_init_26 : decode cX15_init 26 = .ok (.iload 4, 2) := by decide +kernel
theorem dX15_init_28 : decode cX15_init 28 = .ok (.newarray .int, 2) := by decide +kernel
theorem dX15_init_30 : decode cX15_init 30 = .ok (.putfield 25, 3) := by decide +kernel
theorem dX15_init_33 : decode cX15_init 33 = .ok (.return_, 1) := by decide +kernel
noncomputable def B_X15_init (l : Launch) (δ : Dl) : Seg (l, δ, yX15_init, 1, none, cX15_init, 5) 0 34 :=
  seq (p := 0) (q := 1) (r := 34) (p_aload_n 0 dX15_init_0) (seq (p := 1) (q := 4) (r := 34) (p_objI (Nat.le_of_ble_eq_true rfl) (okc q996) (okc q122) (okc q123) dX15_init_1) (seq (p := 4) (q := 5) (r := 34) (p_aload_n 0 dX15_init_4) (seq (p := 5) (q := 6) (r := 34) (p_aload_n 1 dX15_init_5) (seq (p := 6) (q := 9) (r := 34) (p_putF [(14, 0), (15, 0)] (.object "TwoWorlds$World") (alF2 ff_X15_9_14 ff_X15_9_15) rfl dX15_init_6) (seq (p := 9) (q := 10) (r := 34) (p_aload_n 0 dX15_init_9) (seq (p := 10) (q := 11) (r := 34) (p_aload_n 2 dX15_init_10) (seq (p := 11) (q := 14) (r := 34) (p_putF [(14, 1), (15, 1)] (.object "TwoWorlds$World") (alF2 ff_X15_15_14 ff_X15_15_15) rfl dX15_init_11) (seq (p := 14) (q := 15) (r := 34) (p_aload_n 0 dX15_init_14) (seq (p := 15) (q := 16) (r := 34) (p_iload_n 3 dX15_init_15) (seq (p := 16) (q := 19) (r := 34) (p_putF [(14, 2), (15, 2)] .int (alF2 ff_X15_18_14 ff_X15_18_15) rfl dX15_init_16) (seq (p := 19) (q := 20) (r := 34) (p_aload_n 0 dX15_init_19) (seq (p := 20) (q := 22) (r := 34) (p_iload 4 dX15_init_20) (seq (p := 22) (q := 25) (r := 34) (p_putF [(14, 3), (15, 3)] .int (alF2 ff_X15_22_14 ff_X15_22_15) rfl dX15_init_22) (seq (p := 25) (q := 26) (r := 34) (p_aload_n 0 dX15_init_25) (seq (p := 26) (q := 28) (r := 34) (p_iload 4 dX15_init_26) (seq (p := 28) (q := 30) (r := 34) (p_newa 0 (Nat.le_of_ble_eq_true rfl) dX15_init_28) (seq (p := 30) (q := 33) (r := 34) (p_put [(14, 4), (15, 4)] (.array .int) (alP2 fp_X15_25_14 fp_X15_25_15) dX15_init_30) (seq (p := 33) (q := 34) (r := 34) (p_return dX15_init_33 rfl) done))))))))))))))))))
noncomputable def M_X15_init (l : Launch) (δ : Dl) : Mth l δ yX15_init cX15_init 5 none 1 := mk (B_X15_init l δ) (by decide)
theorem N_X15_init {l : Launch} {δ : Dl} {o : Nat} {a1 : Option Nat} {a2 : Option Nat} {a3 : Int} {a4 : Int} {s : St} : (M_X15_init l δ).1 [.inr (.inr (some o)), .inr (.inr a1), .inr (.inr a2), .inl a3, .inl a4] s = bres ((B_X15_init l δ).1 [] [some (.inr (.inr (some o))), some (.inr (.inr a1)), some (.inr (.inr a2)), some (.inl a3), some (.inl a4)] s) := (mk_eq (hy := by decide) rfl).trans (nrfl rfl)
theorem dX17_init_0 : decode cX17_init 0 = .ok (.aload_n 0, 1) := by decide +kernel
theorem dX17_init_1 : decode cX17_init 1 = .ok (.aload_n 1, 1) := by decide +kernel
theorem dX17_init_2 : decode cX17_init 2 = .ok (.aload_n 2, 1) := by decide +kernel
theorem dX17_init_3 : decode cX17_init 3 = .ok (.aload_n 1, 1) := by decide +kernel
theorem dX17_init_4 : decode cX17_init 4 = .ok (.getfield 3, 3) := by decide +kernel
theorem dX17_init_7 : decode cX17_init 7 = .ok (.aload_n 1, 1) := by decide +kernel
theorem dX17_init_8 : decode cX17_init 8 = .ok (.getfield 3, 3) := by decide +kernel
theorem dX17_init_11 : decode cX17_init 11 = .ok (.imul, 1) := by decide +kernel
theorem dX17_init_12 : decode cX17_init 12 = .ok (.aload_n 1, 1) := by decide +kernel
theorem dX17_init_13 : decode cX17_init 13 = .ok (.getfield 3, 3) := by decide +kernel
theorem dX17_init_16 : decode cX17_init 16 = .ok (.aload_n 1, 1) := by decide +kernel
theorem dX17_init_17 : decode cX17_init 17 = .ok (.getfield 3, 3) := by decide +kernel
theorem dX17_init_20 : decode cX17_init 20 = .ok (.imul, 1) := by decide +kernel
theorem dX17_init_21 : decode cX17_init 21 = .ok (.aload_n 2, 1) := by decide +kernel
theorem dX17_init_22 : decode cX17_init 22 = .ok (.getfield 3, 3) := by decide +kernel
theorem dX17_init_25 : decode cX17_init 25 = .ok (.aload_n 2, 1) := by decide +kernel
theorem dX17_init_26 : decode cX17_init 26 = .ok (.getfield 3, 3) := by decide +kernel
theorem dX17_init_29 : decode cX17_init 29 = .ok (.imul, 1) := by decide +kernel
theorem dX17_init_30 : decode cX17_init 30 = .ok (.iadd, 1) := by decide +kernel
theorem dX17_init_31 : decode cX17_init 31 = .ok (.invokespecial 9, 3) := by decide +kernel
theorem dX17_init_34 : decode cX17_init 34 = .ok (.aload_n 0, 1) := by decide +kernel
theorem dX17_init_35 : decode cX17_init 35 = .ok (.sipush 288, 3) := by decide +kernel
theorem dX17_init_38 : decode cX17_init 38 = .ok (.newarray .long, 2) := by decide +kernel
theorem dX17_init_40 : decode cX17_init 40 = .ok (.putfield 15, 3) := by decide +kernel
theorem dX17_init_43 : decode cX17_init 43 = .ok (.return_, 1) := by decide +kernel
noncomputable def B_X17_init (l : Launch) (δ : Dl) : Seg (l, δ, yX17_init, 2, none, cX17_init, 3) 0 44 :=
  seq (p := 0) (q := 1) (r := 44) (p_aload_n 0 dX17_init_0) (seq (p := 1) (q := 2) (r := 44) (p_aload_n 1 dX17_init_1) (seq (p := 2) (q := 3) (r := 44) (p_aload_n 2 dX17_init_2) (seq (p := 3) (q := 4) (r := 44) (p_aload_n 1 dX17_init_3) (seq (p := 4) (q := 7) (r := 44) (p_get [(2, 0)] (alL1 fl_X17_3_2) dX17_init_4) (seq (p := 7) (q := 8) (r := 44) (p_aload_n 1 dX17_init_7) (seq (p := 8) (q := 11) (r := 44) (p_get [(2, 0)] (alL1 fl_X17_3_2) dX17_init_8) (seq (p := 11) (q := 12) (r := 44) (p_imul dX17_init_11) (seq (p := 12) (q := 13) (r := 44) (p_aload_n 1 dX17_init_12) (seq (p := 13) (q := 16) (r := 44) (p_get [(2, 0)] (alL1 fl_X17_3_2) dX17_init_13) (seq (p := 16) (q := 17) (r := 44) (p_aload_n 1 dX17_init_16) (seq (p := 17) (q := 20) (r := 44) (p_get [(2, 0)] (alL1 fl_X17_3_2) dX17_init_17) (seq (p := 20) (q := 21) (r := 44) (p_imul dX17_init_20) (seq (p := 21) (q := 22) (r := 44) (p_aload_n 2 dX17_init_21) (seq (p := 22) (q := 25) (r := 44) (p_get [(2, 0)] (alL1 fl_X17_3_2) dX17_init_22) (seq (p := 25) (q := 26) (r := 44) (p_aload_n 2 dX17_init_25) (seq (p := 26) (q := 29) (r := 44) (p_get [(2, 0)] (alL1 fl_X17_3_2) dX17_init_26) (seq (p := 29) (q := 30) (r := 44) (p_imul dX17_init_29) (seq (p := 30) (q := 31) (r := 44) (p_iadd dX17_init_30) (seq (p := 31) (q := 34) (r := 44) (p_callG 5 _ (ok_I ci_X17_9 (M_X15_init l δ) (Nat.le_of_ble_eq_true rfl) dX17_init_31) (Nat.le_of_ble_eq_true rfl)) (seq (p := 34) (q := 35) (r := 44) (p_aload_n 0 dX17_init_34) (seq (p := 35) (q := 38) (r := 44) (p_sipush 288 dX17_init_35 (by decide)) (seq (p := 38) (q := 40) (r := 44) (p_newa 3 (Nat.le_of_ble_eq_true rfl) dX17_init_38) (seq (p := 40) (q := 43) (r := 44) (p_putF [(15, 7)] (.array .long) (alF1 ff_X17_15_15) rfl dX17_init_40) (seq (p := 43) (q := 44) (r := 44) (p_return dX17_init_43 rfl) done))))))))))))))))))))))))
noncomputable def M_X17_init (l : Launch) (δ : Dl) : Mth l δ yX17_init cX17_init 3 none 2 := mk (B_X17_init l δ) (by decide)
theorem N_X17_init {l : Launch} {δ : Dl} {o : Nat} {a1 : Option Nat} {a2 : Option Nat} {s : St} : (M_X17_init l δ).1 [.inr (.inr (some o)), .inr (.inr a1), .inr (.inr a2)] s = bres ((B_X17_init l δ).1 [] [some (.inr (.inr (some o))), some (.inr (.inr a1)), some (.inr (.inr a2))] s) := (mk_eq (hy := by decide) rfl).trans (nrfl rfl)
theorem dX15_of_0 : decode cX15_of 0 = .ok (.iload_n 1, 1) := by decide +kernel
theorem dX15_of_1 : decode cX15_of 1 = .ok (.aload_n 0, 1) := by decide +kernel
theorem dX15_of_2 : decode cX15_of 2 = .ok (.getfield 18, 3) := by decide +kernel
theorem dX15_of_5 : decode cX15_of 5 = .ok (.if_icmp .ge 10, 3) := by decide +kernel
theorem dX15_of_8 : decode cX15_of 8 = .ok (.aload_n 0, 1) := by decide +kernel
theorem dX15_of_9 : decode cX15_of 9 = .ok (.getfield 9, 3) := by decide +kernel
theorem dX15_of_12 : decode cX15_of 12 = .ok (.goto 7, 3) := by decide +kernel
theorem dX15_of_15 : decode cX15_of 15 = .ok (.aload_n 0, 1) := by decide +kernel
theorem dX15_of_16 : decode cX15_of 16 = .ok (.getfield 15, 3) := by decide +kernel
theorem dX15_of_19 : decode cX15_of 19 = .ok (.areturn, 1) := by decide +kernel
noncomputable def B_X15_of (l : Launch) (δ : Dl) : Seg (l, δ, yX15_of, 0, (some (.object "TwoWorlds$World")), cX15_of, 2) 0 20 :=
  seq (p := 0) (q := 1) (r := 20) (p_iload_n 1 dX15_of_0) (seq (p := 1) (q := 2) (r := 20) (p_aload_n 0 dX15_of_1) (seq (p := 2) (q := 5) (r := 20) (p_get [(14, 2), (15, 2)] (alL2 fl_X15_18_14 fl_X15_18_15) dX15_of_2) (seq (p := 5) (q := 19) (r := 20) (blk (seq (p := 5) (q := 15) (r := 19) (blk (seq (p := 5) (q := 8) (r := 15) (p_icmp_ge 15 dX15_of_5 (by decide)) (seq (p := 8) (q := 9) (r := 15) (p_aload_n 0 dX15_of_8) (seq (p := 9) (q := 12) (r := 15) (p_get [(14, 0), (15, 0)] (alL2 fl_X15_9_14 fl_X15_9_15) dX15_of_9) (seq (p := 12) (q := 15) (r := 15) (p_goto 19 dX15_of_12 (by decide)) done))))) (seq (p := 15) (q := 16) (r := 19) (p_aload_n 0 dX15_of_15) (seq (p := 16) (q := 19) (r := 19) (p_get [(14, 1), (15, 1)] (alL2 fl_X15_15_14 fl_X15_15_15) dX15_of_16) done)))) (seq (p := 19) (q := 20) (r := 20) (p_areturn dX15_of_19 rfl (Or.inl ⟨_, rfl⟩)) done))))
noncomputable def M_X15_of (l : Launch) (δ : Dl) : Mth l δ yX15_of cX15_of 2 (some (.object "TwoWorlds$World")) 0 := mk (B_X15_of l δ) (by decide)
theorem N_X15_of {l : Launch} {δ : Dl} {o : Nat} {a1 : Int} {s : St} : (M_X15_of l δ).1 [.inr (.inr (some o)), .inl a1] s = bres ((B_X15_of l δ).1 [] [some (.inr (.inr (some o))), some (.inl a1)] s) := (mk_eq (hy := by decide) rfl).trans (nrfl rfl)
theorem dX17_place_0 : decode cX17_place 0 = .ok (.iload_n 1, 1) := by decide +kernel
theorem dX17_place_1 : decode cX17_place 1 = .ok (.aload_n 0, 1) := by decide +kernel
theorem dX17_place_2 : decode cX17_place 2 = .ok (.getfield 21, 3) := by decide +kernel
theorem dX17_place_5 : decode cX17_place 5 = .ok (.if_icmp .ge 17, 3) := by decide +kernel
theorem dX17_place_8 : decode cX17_place 8 = .ok (.aload_n 0, 1) := by decide +kernel
theorem dX17_place_9 : decode cX17_place 9 = .ok (.getfield 24, 3) := by decide +kernel
theorem dX17_place_12 : decode cX17_place 12 = .ok (.getfield 3, 3) := by decide +kernel
theorem dX17_place_15 : decode cX17_place 15 = .ok (.iload_n 2, 1) := by decide +kernel
theorem dX17_place_16 : decode cX17_place 16 = .ok (.imul, 1) := by decide +kernel
theorem dX17_place_17 : decode cX17_place 17 = .ok (.iload_n 3, 1) := by decide +kernel
theorem dX17_place_18 : decode cX17_place 18 = .ok (.iadd, 1) := by decide +kernel
theorem dX17_place_19 : decode cX17_place 19 = .ok (.goto 19, 3) := by decide +kernel
theorem dX17_place_22 : decode cX17_place 22 = .ok (.aload_n 0, 1) := by decide +kernel
theorem dX17_place_23 : decode cX17_place 23 = .ok (.getfield 21, 3) := by decide +kernel
theorem dX17_place_26 : decode cX17_place 26 = .ok (.aload_n 0, 1) := by decide +kernel
theorem dX17_place_27 : decode cX17_place 27 = .ok (.getfield 28, 3) := by decide +kernel
theorem dX17_place_30 : decode cX17_place 30 = .ok (.getfield 3, 3) := by decide +kernel
theorem dX17_place_33 : decode cX17_place 33 = .ok (.iload_n 2, 1) := by decide +kernel
theorem dX17_place_34 : decode cX17_place 34 = .ok (.imul, 1) := by decide +kernel
theorem dX17_place_35 : decode cX17_place 35 = .ok (.iadd, 1) := by decide +kernel
theorem dX17_place_36 : decode cX17_place 36 = .ok (.iload_n 3, 1) := by decide +kernel
theorem dX17_place_37 : decode cX17_place 37 = .ok (.iadd, 1) := by decide +kernel
theorem dX17_place_38 : decode cX17_place 38 = .ok (.ireturn, 1) := by decide +kernel
noncomputable def B_X17_place (l : Launch) (δ : Dl) : Seg (l, δ, yX17_place, 0, (some .int), cX17_place, 4) 0 39 :=
  seq (p := 0) (q := 1) (r := 39) (p_iload_n 1 dX17_place_0) (seq (p := 1) (q := 2) (r := 39) (p_aload_n 0 dX17_place_1) (seq (p := 2) (q := 5) (r := 39) (p_get [(14, 2), (15, 2)] (alL2 fl_X17_21_14 fl_X17_21_15) dX17_place_2) (seq (p := 5) (q := 38) (r := 39) (blk (seq (p := 5) (q := 22) (r := 38) (blk (seq (p := 5) (q := 8) (r := 22) (p_icmp_ge 22 dX17_place_5 (by decide)) (seq (p := 8) (q := 9) (r := 22) (p_aload_n 0 dX17_place_8) (seq (p := 9) (q := 12) (r := 22) (p_get [(14, 0), (15, 0)] (alL2 fl_X17_24_14 fl_X17_24_15) dX17_place_9) (seq (p := 12) (q := 15) (r := 22) (p_get [(2, 0)] (alL1 fl_X17_3_2) dX17_place_12) (seq (p := 15) (q := 16) (r := 22) (p_iload_n 2 dX17_place_15) (seq (p := 16) (q := 17) (r := 22) (p_imul dX17_place_16) (seq (p := 17) (q := 18) (r := 22) (p_iload_n 3 dX17_place_17) (seq (p := 18) (q := 19) (r := 22) (p_iadd dX17_place_18) (seq (p := 19) (q := 22) (r := 22) (p_goto 38 dX17_place_19 (by decide)) done)))))))))) (seq (p := 22) (q := 23) (r := 38) (p_aload_n 0 dX17_place_22) (seq (p := 23) (q := 26) (r := 38) (p_get [(14, 2), (15, 2)] (alL2 fl_X17_21_14 fl_X17_21_15) dX17_place_23) (seq (p := 26) (q := 27) (r := 38) (p_aload_n 0 dX17_place_26) (seq (p := 27) (q := 30) (r := 38) (p_get [(14, 1), (15, 1)] (alL2 fl_X17_28_14 fl_X17_28_15) dX17_place_27) (seq (p := 30) (q := 33) (r := 38) (p_get [(2, 0)] (alL1 fl_X17_3_2) dX17_place_30) (seq (p := 33) (q := 34) (r := 38) (p_iload_n 2 dX17_place_33) (seq (p := 34) (q := 35) (r := 38) (p_imul dX17_place_34) (seq (p := 35) (q := 36) (r := 38) (p_iadd dX17_place_35) (seq (p := 36) (q := 37) (r := 38) (p_iload_n 3 dX17_place_36) (seq (p := 37) (q := 38) (r := 38) (p_iadd dX17_place_37) done)))))))))))) (seq (p := 38) (q := 39) (r := 39) (p_ireturn dX17_place_38 rfl) done))))
noncomputable def M_X17_place (l : Launch) (δ : Dl) : Mth l δ yX17_place cX17_place 4 (some .int) 0 := mk (B_X17_place l δ) (by decide)
theorem N_X17_place {l : Launch} {δ : Dl} {o : Nat} {a1 : Int} {a2 : Int} {a3 : Int} {s : St} : (M_X17_place l δ).1 [.inr (.inr (some o)), .inl a1, .inl a2, .inl a3] s = bres ((B_X17_place l δ).1 [] [some (.inr (.inr (some o))), some (.inl a1), some (.inl a2), some (.inl a3)] s) := (mk_eq (hy := by decide) rfl).trans (nrfl rfl)
theorem dX17_x_0 : decode cX17_x 0 = .ok (.iload_n 1, 1) := by decide +kernel
theorem dX17_x_1 : decode cX17_x 1 = .ok (.aload_n 0, 1) := by decide +kernel
theorem dX17_x_2 : decode cX17_x 2 = .ok (.getfield 21, 3) := by decide +kernel
theorem dX17_x_5 : decode cX17_x 5 = .ok (.if_icmp .ge 15, 3) := by decide +kernel
theorem dX17_x_8 : decode cX17_x 8 = .ok (.iload_n 1, 1) := by decide +kernel
theorem dX17_x_9 : decode cX17_x 9 = .ok (.aload_n 0, 1) := by decide +kernel
theorem dX17_x_10 : decode cX17_x 10 = .ok (.getfield 24, 3) := by decide +kernel
theorem dX17_x_13 : decode cX17_x 13 = .ok (.getfield 3, 3) := by decide +kernel
theorem dX17_x_16 : decode cX17_x 16 = .ok (.idiv, 1) := by decide +kernel
theorem dX17_x_17 : decode cX17_x 17 = .ok (.goto 17, 3) := by decide +kernel
theorem dX17_x_20 : decode cX17_x 20 = .ok (.iload_n 1, 1) := by decide +kernel
theorem dX17_x_21 : decode cX17_x 21 = .ok (.aload_n 0, 1) := by decide +kernel
theorem dX17_x_22 : decode cX17_x 22 = .ok (.getfield 21, 3) := by decide +kernel
theorem dX17_x_25 : decode cX17_x 25 = .ok (.isub, 1) := by decide +kernel
theorem dX17_x_26 : decode cX17_x 26 = .ok (.aload_n 0, 1) := by decide +kernel
theorem dX17_x_27 : decode cX17_x 27 = .ok (.getfield 28, 3) := by decide +kernel
theorem dX17_x_30 : decode cX17_x 30 = .ok (.getfield 3, 3) := by decide +kernel
theorem dX17_x_33 : decode cX17_x 33 = .ok (.idiv, 1) := by decide +kernel
theorem dX17_x_34 : decode cX17_x 34 = .ok (.ireturn, 1) := by decide +kernel
noncomputable def B_X17_x (l : Launch) (δ : Dl) : Seg (l, δ, yX17_x, 0, (some .int), cX17_x, 2) 0 35 :=
  seq (p := 0) (q := 1) (r := 35) (p_iload_n 1 dX17_x_0) (seq (p := 1) (q := 2) (r := 35) (p_aload_n 0 dX17_x_1) (seq (p := 2) (q := 5) (r := 35) (p_get [(14, 2), (15, 2)] (alL2 fl_X17_21_14 fl_X17_21_15) dX17_x_2) (seq (p := 5) (q := 34) (r := 35) (blk (seq (p := 5) (q := 20) (r := 34) (blk (seq (p := 5) (q := 8) (r := 20) (p_icmp_ge 20 dX17_x_5 (by decide)) (seq (p := 8) (q := 9) (r := 20) (p_iload_n 1 dX17_x_8) (seq (p := 9) (q := 10) (r := 20) (p_aload_n 0 dX17_x_9) (seq (p := 10) (q := 13) (r := 20) (p_get [(14, 0), (15, 0)] (alL2 fl_X17_24_14 fl_X17_24_15) dX17_x_10) (seq (p := 13) (q := 16) (r := 20) (p_get [(2, 0)] (alL1 fl_X17_3_2) dX17_x_13) (seq (p := 16) (q := 17) (r := 20) (p_idiv dX17_x_16) (seq (p := 17) (q := 20) (r := 20) (p_goto 34 dX17_x_17 (by decide)) done)))))))) (seq (p := 20) (q := 21) (r := 34) (p_iload_n 1 dX17_x_20) (seq (p := 21) (q := 22) (r := 34) (p_aload_n 0 dX17_x_21) (seq (p := 22) (q := 25) (r := 34) (p_get [(14, 2), (15, 2)] (alL2 fl_X17_21_14 fl_X17_21_15) dX17_x_22) (seq (p := 25) (q := 26) (r := 34) (p_isub dX17_x_25) (seq (p := 26) (q := 27) (r := 34) (p_aload_n 0 dX17_x_26) (seq (p := 27) (q := 30) (r := 34) (p_get [(14, 1), (15, 1)] (alL2 fl_X17_28_14 fl_X17_28_15) dX17_x_27) (seq (p := 30) (q := 33) (r := 34) (p_get [(2, 0)] (alL1 fl_X17_3_2) dX17_x_30) (seq (p := 33) (q := 34) (r := 34) (p_idiv dX17_x_33) done)))))))))) (seq (p := 34) (q := 35) (r := 35) (p_ireturn dX17_x_34 rfl) done))))
noncomputable def M_X17_x (l : Launch) (δ : Dl) : Mth l δ yX17_x cX17_x 2 (some .int) 0 := mk (B_X17_x l δ) (by decide)
theorem N_X17_x {l : Launch} {δ : Dl} {o : Nat} {a1 : Int} {s : St} : (M_X17_x l δ).1 [.inr (.inr (some o)), .inl a1] s = bres ((B_X17_x l δ).1 [] [some (.inr (.inr (some o))), some (.inl a1)] s) := (mk_eq (hy := by decide) rfl).trans (nrfl rfl)
theorem dX17_y_0 : decode cX17_y 0 = .ok (.iload_n 1, 1) := by decide +kernel
theorem dX17_y_1 : decode cX17_y 1 = .ok (.aload_n 0, 1) := by decide +kernel
theorem dX17_y_2 : decode cX17_y 2 = .ok (.getfield 21, 3) := by decide +kernel
theorem dX17_y_5 : decode cX17_y 5 = .ok (.if_icmp .ge 15, 3) := by decide +kernel
theorem dX17_y_8 : decode cX17_y 8 = .ok (.iload_n 1, 1) := by decide +kernel
theorem dX17_y_9 : decode cX17_y 9 = .ok (.aload_n 0, 1) := by decide +kernel
theorem dX17_y_10 : decode cX17_y 10 = .ok (.getfield 24, 3) := by decide +kernel
theorem dX17_y_13 : decode cX17_y 13 = .ok (.getfield 3, 3) := by decide +kernel
theorem dX17_y_16 : decode cX17_y 16 = .ok (.irem, 1) := by decide +kernel
theorem dX17_y_17 : decode cX17_y 17 = .ok (.goto 17, 3) := by decide +kernel
theorem dX17_y_20 : decode cX17_y 20 = .ok (.iload_n 1, 1) := by decide +kernel
theorem dX17_y_21 : decode cX17_y 21 = .ok (.aload_n 0, 1) := by decide +kernel
theorem dX17_y_22 : decode cX17_y 22 = .ok (.getfield 21, 3) := by decide +kernel
theorem dX17_y_25 : decode cX17_y 25 = .ok (.isub, 1) := by decide +kernel
theorem dX17_y_26 : decode cX17_y 26 = .ok (.aload_n 0, 1) := by decide +kernel
theorem dX17_y_27 : decode cX17_y 27 = .ok (.getfield 28, 3) := by decide +kernel
theorem dX17_y_30 : decode cX17_y 30 = .ok (.getfield 3, 3) := by decide +kernel
theorem dX17_y_33 : decode cX17_y 33 = .ok (.irem, 1) := by decide +kernel
theorem dX17_y_34 : decode cX17_y 34 = .ok (.ireturn, 1) := by decide +kernel
noncomputable def B_X17_y (l : Launch) (δ : Dl) : Seg (l, δ, yX17_y, 0, (some .int), cX17_y, 2) 0 35 :=
  seq (p := 0) (q := 1) (r := 35) (p_iload_n 1 dX17_y_0) (seq (p := 1) (q := 2) (r := 35) (p_aload_n 0 dX17_y_1) (seq (p := 2) (q := 5) (r := 35) (p_get [(14, 2), (15, 2)] (alL2 fl_X17_21_14 fl_X17_21_15) dX17_y_2) (seq (p := 5) (q := 34) (r := 35) (blk (seq (p := 5) (q := 20) (r := 34) (blk (seq (p := 5) (q := 8) (r := 20) (p_icmp_ge 20 dX17_y_5 (by decide)) (seq (p := 8) (q := 9) (r := 20) (p_iload_n 1 dX17_y_8) (seq (p := 9) (q := 10) (r := 20) (p_aload_n 0 dX17_y_9) (seq (p := 10) (q := 13) (r := 20) (p_get [(14, 0), (15, 0)] (alL2 fl_X17_24_14 fl_X17_24_15) dX17_y_10) (seq (p := 13) (q := 16) (r := 20) (p_get [(2, 0)] (alL1 fl_X17_3_2) dX17_y_13) (seq (p := 16) (q := 17) (r := 20) (p_irem dX17_y_16) (seq (p := 17) (q := 20) (r := 20) (p_goto 34 dX17_y_17 (by decide)) done)))))))) (seq (p := 20) (q := 21) (r := 34) (p_iload_n 1 dX17_y_20) (seq (p := 21) (q := 22) (r := 34) (p_aload_n 0 dX17_y_21) (seq (p := 22) (q := 25) (r := 34) (p_get [(14, 2), (15, 2)] (alL2 fl_X17_21_14 fl_X17_21_15) dX17_y_22) (seq (p := 25) (q := 26) (r := 34) (p_isub dX17_y_25) (seq (p := 26) (q := 27) (r := 34) (p_aload_n 0 dX17_y_26) (seq (p := 27) (q := 30) (r := 34) (p_get [(14, 1), (15, 1)] (alL2 fl_X17_28_14 fl_X17_28_15) dX17_y_27) (seq (p := 30) (q := 33) (r := 34) (p_get [(2, 0)] (alL1 fl_X17_3_2) dX17_y_30) (seq (p := 33) (q := 34) (r := 34) (p_irem dX17_y_33) done)))))))))) (seq (p := 34) (q := 35) (r := 35) (p_ireturn dX17_y_34 rfl) done))))
noncomputable def M_X17_y (l : Launch) (δ : Dl) : Mth l δ yX17_y cX17_y 2 (some .int) 0 := mk (B_X17_y l δ) (by decide)
theorem N_X17_y {l : Launch} {δ : Dl} {o : Nat} {a1 : Int} {s : St} : (M_X17_y l δ).1 [.inr (.inr (some o)), .inl a1] s = bres ((B_X17_y l δ).1 [] [some (.inr (.inr (some o))), some (.inl a1)] s) := (mk_eq (hy := by decide) rfl).trans (nrfl rfl)
theorem dX17_prepare_0 : decode cX17_prepare 0 = .ok (.iconst 0, 1) := by decide +kernel
theorem dX17_prepare_1 : decode cX17_prepare 1 = .ok (.istore_n 1, 1) := by decide +kernel
theorem dX17_prepare_2 : decode cX17_prepare 2 = .ok (.iload_n 1, 1) := by decide +kernel
theorem dX17_prepare_3 : decode cX17_prepare 3 = .ok (.aload_n 0, 1) := by decide +kernel
theorem dX17_prepare_4 : decode cX17_prepare 4 = .ok (.getfield 15, 3) := by decide +kernel
theorem dX17_prepare_7 : decode cX17_prepare 7 = .ok (.arraylength, 1) := by decide +kernel
theorem dX17_prepare_8 : decode cX17_prepare 8 = .ok (.if_icmp .ge 16, 3) := by decide +kernel
theorem dX17_prepare_11 : decode cX17_prepare 11 = .ok (.aload_n 0, 1) := by decide +kernel
theorem dX17_prepare_12 : decode cX17_prepare 12 = .ok (.getfield 15, 3) := by decide +kernel
theorem dX17_prepare_15 : decode cX17_prepare 15 = .ok (.iload_n 1, 1) := by decide +kernel
theorem dX17_prepare_16 : decode cX17_prepare 16 = .ok (.lconst 0, 1) := by decide +kernel
theorem dX17_prepare_17 : decode cX17_prepare 17 = .ok (.lastore, 1) := by decide +kernel
theorem dX17_prepare_18 : decode cX17_prepare 18 = .ok (.iinc 1 1, 3) := by decide +kernel
theorem dX17_prepare_21 : decode cX17_prepare 21 = .ok (.goto (-19), 3) := by decide +kernel
theorem dX17_prepare_24 : decode cX17_prepare 24 = .ok (.iconst 0, 1) := by decide +kernel
theorem dX17_prepare_25 : decode cX17_prepare 25 = .ok (.istore_n 1, 1) := by decide +kernel
theorem dX17_prepare_26 : decode cX17_prepare 26 = .ok (.iload_n 1, 1) := by decide +kernel
theorem dX17_prepare_27 : decode cX17_prepare 27 = .ok (.aload_n 0, 1) := by decide +kernel
theorem dX17_prepare_28 : decode cX17_prepare 28 = .ok (.getfield 50, 3) := by decide +kernel
theorem dX17_prepare_31 : decode cX17_prepare 31 = .ok (.if_icmp .ge 112, 3) := by decide +kernel
theorem dX17_prepare_34 : decode cX17_prepare 34 = .ok (.iconst 0, 1) := by decide +kernel
theorem dX17_prepare_35 : decode cX17_prepare 35 = .ok (.istore_n 2, 1) := by decide +kernel
theorem dX17_prepare_36 : decode cX17_prepare 36 = .ok (.iload_n 2, 1) := by decide +kernel
theorem dX17_prepare_37 : decode cX17_prepare 37 = .ok (.aload_n 0, 1) := by decide +kernel
theorem dX17_prepare_38 : decode cX17_prepare 38 = .ok (.iload_n 1, 1) := by decide +kernel
theorem dX17_prepare_39 : decode cX17_prepare 39 = .ok (.invokevirtual 31, 3) := by decide +kernel
theorem dX17_prepare_42 : decode cX17_prepare 42 = .ok (.getfield 3, 3) := by decide +kernel
theorem dX17_prepare_45 : decode cX17_prepare 45 = .ok (.if_icmp .ge 92, 3) := by decide +kernel
theorem dX17_prepare_48 : decode cX17_prepare 48 = .ok (.aload_n 0, 1) := by decide +kernel
theorem dX17_prepare_49 : decode cX17_prepare 49 = .ok (.getfield 53, 3) := by decide +kernel
theorem dX17_prepare_52 : decode cX17_prepare 52 = .ok (.aload_n 0, 1) := by decide +kernel
theorem dX17_prepare_53 : decode cX17_prepare 53 = .ok (.iload_n 1, 1) := by decide +kernel
theorem dX17_prepare_54 : decode cX17_prepare 54 = .ok (.iload_n 2, 1) := by decide +kernel
theorem dX17_prepare_55 : decode cX17_prepare 55 = .ok (.aload_n 0, 1) := by decide +kernel
theorem dX17_prepare_56 : decode cX17_prepare 56 = .ok (.iload_n 1, 1) := by decide +kernel
theorem dX17_prepare_57 : decode cX17_prepare 57 = .ok (.invokevirtual 43, 3) := by decide +kernel
theorem dX17_prepare_60 : decode cX17_prepare 60 = .ok (.invokevirtual 57, 3) := by decide +kernel
theorem dX17_prepare_63 : decode cX17_prepare 63 = .ok (.iaload, 1) := by decide +kernel
theorem dX17_prepare_64 : decode cX17_prepare 64 = .ok (.istore_n 3, 1) := by decide +kernel
theorem dX17_prepare_65 : decode cX17_prepare 65 = .ok (.aload_n 0, 1) := by decide +kernel
theorem dX17_prepare_66 : decode cX17_prepare 66 = .ok (.getfield 53, 3) := by decide +kernel
theorem dX17_prepare_69 : decode cX17_prepare 69 = .ok (.aload_n 0, 1) := by decide +kernel
theorem dX17_prepare_70 : decode cX17_prepare 70 = .ok (.iload_n 1, 1) := by decide +kernel
theorem dX17_prepare_71 : decode cX17_prepare 71 = .ok (.aload_n 0, 1) := by decide +kernel
theorem dX17_prepare_72 : decode cX17_prepare 72 = .ok (.iload_n 1, 1) := by decide +kernel
theorem dX17_prepare_73 : decode cX17_prepare 73 = .ok (.invokevirtual 35, 3) := by decide +kernel
theorem dX17_prepare_76 : decode cX17_prepare 76 = .ok (.iload_n 2, 1) := by decide +kernel
theorem dX17_prepare_77 : decode cX17_prepare 77 = .ok (.invokevirtual 57, 3) := by decide +kernel
theorem dX17_prepare_80 : decode cX17_prepare 80 = .ok (.iaload, 1) := by decide +kernel
theorem dX17_prepare_81 : decode cX17_prepare 81 = .ok (.istore 4, 2) := by decide +kernel
theorem dX17_prepare_83 : decode cX17_prepare 83 = .ok (.aload_n 0, 1) := by decide +kernel
theorem dX17_prepare_84 : decode cX17_prepare 84 = .ok (.getfield 15, 3) := by decide +kernel
theorem dX17_prepare_87 : decode cX17_prepare 87 = .ok (.iconst 4, 1) := by decide +kernel
theorem dX17_prepare_88 : decode cX17_prepare 88 = .ok (.iload_n 1, 1) := by decide +kernel
theorem dX17_prepare_89 : decode cX17_prepare 89 = .ok (.imul, 1) := by decide +kernel
theorem dX17_prepare_90 : decode cX17_prepare 90 = .ok (.iload_n 3, 1) := by decide +kernel
theorem dX17_prepare_91 : decode cX17_prepare 91 = .ok (.bipush 64, 2) := by decide +kernel
theorem dX17_prepare_93 : decode cX17_prepare 93 = .ok (.idiv, 1) := by decide +kernel
theorem dX17_prepare_94 : decode cX17_prepare 94 = .ok (.iadd, 1) := by decide +kernel
theorem dX17_prepare_95 : decode cX17_prepare 95 = .ok (.dup2, 1) := by decide +kernel
theorem dX17_prepare_96 : decode cX17_prepare 96 = .ok (.laload, 1) := by decide +kernel
theorem dX17_prepare_97 : decode cX17_prepare 97 = .ok (.lconst 1, 1) := by decide +kernel
theorem dX17_prepare_98 : decode cX17_prepare 98 = .ok (.iload_n 3, 1) := by decide +kernel
theorem dX17_prepare_99 : decode cX17_prepare 99 = .ok (.bipush 64, 2) := by decide +kernel
theorem dX17_prepare_101 : decode cX17_prepare 101 = .ok (.irem, 1) := by decide +kernel
theorem dX17_prepare_102 : decode cX17_prepare 102 = .ok (.lshl, 1) := by decide +kernel
theorem dX17_prepare_103 : decode cX17_prepare 103 = .ok (.lor, 1) := by decide +kernel
theorem dX17_prepare_104 : decode cX17_prepare 104 = .ok (.lastore, 1) := by decide +kernel
theorem dX17_prepare_105 : decode cX17_prepare 105 = .ok (.aload_n 0, 1) := by decide +kernel
theorem dX17_prepare_106 : decode cX17_prepare 106 = .ok (.getfield 15, 3) := by decide +kernel
theorem dX17_prepare_109 : decode cX17_prepare 109 = .ok (.iconst 4, 1) := by decide +kernel
theorem dX17_prepare_110 : decode cX17_prepare 110 = .ok (.iload_n 1, 1) := by decide +kernel
theorem dX17_prepare_111 : decode cX17_prepare 111 = .ok (.imul, 1) := by decide +kernel
theorem dX17_prepare_112 : decode cX17_prepare 112 = .ok (.iconst 2, 1) := by decide +kernel
theorem dX17_prepare_113 : decode cX17_prepare 113 = .ok (.iadd, 1) := by decide +kernel
theorem dX17_prepare_114 : decode cX17_prepare 114 = .ok (.iload 4, 2) := by decide +kernel
theorem dX17_prepare_116 : decode cX17_prepare 116 = .ok (.bipush 64, 2) := by decide +kernel
theorem dX17_prepare_118 : decode cX17_prepare 118 = .ok (.idiv, 1) := by decide +kernel
theorem dX17_prepare_119 : decode cX17_prepare 119 = .ok (.iadd, 1) := by decide +kernel
theorem dX17_prepare_120 : decode cX17_prepare 120 = .ok (.dup2, 1) := by decide +kernel
theorem dX17_prepare_121 : decode cX17_prepare 121 = .ok (.laload, 1) := by decide +kernel
theorem dX17_prepare_122 : decode cX17_prepare 122 = .ok (.lconst 1, 1) := by decide +kernel
theorem dX17_prepare_123 : decode cX17_prepare 123 = .ok (.iload 4, 2) := by decide +kernel
theorem dX17_prepare_125 : decode cX17_prepare 125 = .ok (.bipush 64, 2) := by decide +kernel
theorem dX17_prepare_127 : decode cX17_prepare 127 = .ok (.irem, 1) := by decide +kernel
theorem dX17_prepare_128 : decode cX17_prepare 128 = .ok (.lshl, 1) := by decide +kernel
theorem dX17_prepare_129 : decode cX17_prepare 129 = .ok (.lor, 1) := by decide +kernel
theorem dX17_prepare_130 : decode cX17_prepare 130 = .ok (.lastore, 1) := by decide +kernel
theorem dX17_prepare_131 : decode cX17_prepare 131 = .ok (.iinc 2 1, 3) := by decide +kernel
theorem dX17_prepare_134 : decode cX17_prepare 134 = .ok (.goto (-98), 3) := by decide +kernel
theorem dX17_prepare_137 : decode cX17_prepare 137 = .ok (.iinc 1 1, 3) := by decide +kernel
theorem dX17_prepare_140 : decode cX17_prepare 140 = .ok (.goto (-114), 3) := by decide +kernel
theorem dX17_prepare_143 : decode cX17_prepare 143 = .ok (.return_, 1) := by decide +kernel
noncomputable def C_X17_prepare_L2 (l : Launch) (δ : Dl) : Seg (l, δ, yX17_prepare, 1, none, cX17_prepare, 5) 2 24 :=
  seq (p := 2) (q := 3) (r := 24) (p_iload_n 1 dX17_prepare_2) (seq (p := 3) (q := 4) (r := 24) (p_aload_n 0 dX17_prepare_3) (seq (p := 4) (q := 7) (r := 24) (p_get [(15, 7)] (alL1 fl_X17_15_15) dX17_prepare_4) (seq (p := 7) (q := 8) (r := 24) (p_alen dX17_prepare_7) (seq (p := 8) (q := 11) (r := 24) (p_icmp_ge 24 dX17_prepare_8 (by decide)) (seq (p := 11) (q := 12) (r := 24) (p_aload_n 0 dX17_prepare_11) (seq (p := 12) (q := 15) (r := 24) (p_get [(15, 7)] (alL1 fl_X17_15_15) dX17_prepare_12) (seq (p := 15) (q := 16) (r := 24) (p_iload_n 1 dX17_prepare_15) (seq (p := 16) (q := 17) (r := 24) (p_lconst0 dX17_prepare_16) (seq (p := 17) (q := 18) (r := 24) (p_last dX17_prepare_17) (seq (p := 18) (q := 21) (r := 24) (p_iinc 1 1 dX17_prepare_18 (Nat.le_of_ble_eq_true rfl)) (seq (p := 21) (q := 21) (r := 24) (er [true, true, false, false, false]) (seq (p := 21) (q := 24) (r := 24) (p_goto 2 dX17_prepare_21 (by decide)) done))))))))))))
noncomputable def B_X17_prepare_L2 (l : Launch) (δ : Dl) : Seg (l, δ, yX17_prepare, 1, none, cX17_prepare, 5) 2 24 := C_X17_prepare_L2 l δ
theorem L_X17_prepare_2 {l : Launch} {δ : Dl} {st : Stk} {L : Lc} {s : St} : (B_X17_prepare_L2 l δ).1 st L s = (C_X17_prepare_L2 l δ).1 st L s := nrfl rfl
noncomputable def C_X17_prepare_L36 (l : Launch) (δ : Dl) : Seg (l, δ, yX17_prepare, 1, none, cX17_prepare, 5) 36 137 :=
  seq (p := 36) (q := 37) (r := 137) (p_iload_n 2 dX17_prepare_36) (seq (p := 37) (q := 38) (r := 137) (p_aload_n 0 dX17_prepare_37) (seq (p := 38) (q := 39) (r := 137) (p_iload_n 1 dX17_prepare_38) (seq (p := 39) (q := 42) (r := 137) (p_callG 2 _ (ok_U 15 cu_X17_31_15 rfl (M_X15_of l δ) (Nat.le_of_ble_eq_true rfl) dX17_prepare_39) (Nat.le_of_ble_eq_true rfl)) (seq (p := 42) (q := 45) (r := 137) (p_get [(2, 0)] (alL1 fl_X17_3_2) dX17_prepare_42) (seq (p := 45) (q := 48) (r := 137) (p_icmp_ge 137 dX17_prepare_45 (by decide)) (seq (p := 48) (q := 49) (r := 137) (p_aload_n 0 dX17_prepare_48) (seq (p := 49) (q := 52) (r := 137) (p_get [(14, 4), (15, 4)] (alL2 fl_X17_53_14 fl_X17_53_15) dX17_prepare_49) (seq (p := 52) (q := 53) (r := 137) (p_aload_n 0 dX17_prepare_52) (seq (p := 53) (q := 54) (r := 137) (p_iload_n 1 dX17_prepare_53) (seq (p := 54) (q := 55) (r := 137) (p_iload_n 2 dX17_prepare_54) (seq (p := 55) (q := 56) (r := 137) (p_aload_n 0 dX17_prepare_55) (seq (p := 56) (q := 57) (r := 137) (p_iload_n 1 dX17_prepare_56) (seq (p := 57) (q := 60) (r := 137) (p_callG 2 _ (ok_V 15 cv_X17_43 rfl (M_X17_y l δ) (Nat.le_of_ble_eq_true rfl) dX17_prepare_57) (Nat.le_of_ble_eq_true rfl)) (seq (p := 60) (q := 63) (r := 137) (p_callG 4 _ (ok_V 15 cv_X17_57 rfl (M_X17_place l δ) (Nat.le_of_ble_eq_true rfl) dX17_prepare_60) (Nat.le_of_ble_eq_true rfl)) (seq (p := 63) (q := 64) (r := 137) (p_iald dX17_prepare_63) (seq (p := 64) (q := 65) (r := 137) (p_istore_n 3 dX17_prepare_64 (Nat.le_of_ble_eq_true rfl)) (seq (p := 65) (q := 66) (r := 137) (p_aload_n 0 dX17_prepare_65) (seq (p := 66) (q := 69) (r := 137) (p_get [(14, 4), (15, 4)] (alL2 fl_X17_53_14 fl_X17_53_15) dX17_prepare_66) (seq (p := 69) (q := 70) (r := 137) (p_aload_n 0 dX17_prepare_69) (seq (p := 70) (q := 71) (r := 137) (p_iload_n 1 dX17_prepare_70) (seq (p := 71) (q := 72) (r := 137) (p_aload_n 0 dX17_prepare_71) (seq (p := 72) (q := 73) (r := 137) (p_iload_n 1 dX17_prepare_72) (seq (p := 73) (q := 76) (r := 137) (p_callG 2 _ (ok_V 15 cv_X17_35 rfl (M_X17_x l δ) (Nat.le_of_ble_eq_true rfl) dX17_prepare_73) (Nat.le_of_ble_eq_true rfl)) (seq (p := 76) (q := 77) (r := 137) (p_iload_n 2 dX17_prepare_76) (seq (p := 77) (q := 80) (r := 137) (p_callG 4 _ (ok_V 15 cv_X17_57 rfl (M_X17_place l δ) (Nat.le_of_ble_eq_true rfl) dX17_prepare_77) (Nat.le_of_ble_eq_true rfl)) (seq (p := 80) (q := 81) (r := 137) (p_iald dX17_prepare_80) (seq (p := 81) (q := 83) (r := 137) (p_istore 4 dX17_prepare_81 (Nat.le_of_ble_eq_true rfl)) (seq (p := 83) (q := 84) (r := 137) (p_aload_n 0 dX17_prepare_83) (seq (p := 84) (q := 87) (r := 137) (p_get [(15, 7)] (alL1 fl_X17_15_15) dX17_prepare_84) (seq (p := 87) (q := 88) (r := 137) (p_iconst 4 dX17_prepare_87) (seq (p := 88) (q := 89) (r := 137) (p_iload_n 1 dX17_prepare_88) (seq (p := 89) (q := 90) (r := 137) (p_imul dX17_prepare_89) (seq (p := 90) (q := 91) (r := 137) (p_iload_n 3 dX17_prepare_90) (seq (p := 91) (q := 93) (r := 137) (p_bipush 64 dX17_prepare_91 (by decide)) (seq (p := 93) (q := 94) (r := 137) (p_idiv dX17_prepare_93) (seq (p := 94) (q := 95) (r := 137) (p_iadd dX17_prepare_94) (seq (p := 95) (q := 96) (r := 137) (p_dup2 dX17_prepare_95) (seq (p := 96) (q := 97) (r := 137) (p_lald dX17_prepare_96) (seq (p := 97) (q := 98) (r := 137) (p_lconst1 dX17_prepare_97) (seq (p := 98) (q := 99) (r := 137) (p_iload_n 3 dX17_prepare_98) (seq (p := 99) (q := 101) (r := 137) (p_bipush 64 dX17_prepare_99 (by decide)) (seq (p := 101) (q := 102) (r := 137) (p_irem dX17_prepare_101) (seq (p := 102) (q := 103) (r := 137) (p_lshl dX17_prepare_102) (seq (p := 103) (q := 104) (r := 137) (p_lor dX17_prepare_103) (seq (p := 104) (q := 105) (r := 137) (p_last dX17_prepare_104) (seq (p := 105) (q := 106) (r := 137) (p_aload_n 0 dX17_prepare_105) (seq (p := 106) (q := 109) (r := 137) (p_get [(15, 7)] (alL1 fl_X17_15_15) dX17_prepare_106) (seq (p := 109) (q := 110) (r := 137) (p_iconst 4 dX17_prepare_109) (seq (p := 110) (q := 111) (r := 137) (p_iload_n 1 dX17_prepare_110) (seq (p := 111) (q := 112) (r := 137) (p_imul dX17_prepare_111) (seq (p := 112) (q := 113) (r := 137) (p_iconst 2 dX17_prepare_112) (seq (p := 113) (q := 114) (r := 137) (p_iadd dX17_prepare_113) (seq (p := 114) (q := 116) (r := 137) (p_iload 4 dX17_prepare_114) (seq (p := 116) (q := 118) (r := 137) (p_bipush 64 dX17_prepare_116 (by decide)) (seq (p := 118) (q := 119) (r := 137) (p_idiv dX17_prepare_118) (seq (p := 119) (q := 120) (r := 137) (p_iadd dX17_prepare_119) (seq (p := 120) (q := 121) (r := 137) (p_dup2 dX17_prepare_120) (seq (p := 121) (q := 122) (r := 137) (p_lald dX17_prepare_121) (seq (p := 122) (q := 123) (r := 137) (p_lconst1 dX17_prepare_122) (seq (p := 123) (q := 125) (r := 137) (p_iload 4 dX17_prepare_123) (seq (p := 125) (q := 127) (r := 137) (p_bipush 64 dX17_prepare_125 (by decide)) (seq (p := 127) (q := 128) (r := 137) (p_irem dX17_prepare_127) (seq (p := 128) (q := 129) (r := 137) (p_lshl dX17_prepare_128) (seq (p := 129) (q := 130) (r := 137) (p_lor dX17_prepare_129) (seq (p := 130) (q := 131) (r := 137) (p_last dX17_prepare_130) (seq (p := 131) (q := 134) (r := 137) (p_iinc 2 1 dX17_prepare_131 (Nat.le_of_ble_eq_true rfl)) (seq (p := 134) (q := 134) (r := 137) (er [true, true, true, false, false]) (seq (p := 134) (q := 137) (r := 137) (p_goto 36 dX17_prepare_134 (by decide)) done))))))))))))))))))))))))))))))))))))))))))))))))))))))))))))))))))))
noncomputable def B_X17_prepare_L36 (l : Launch) (δ : Dl) : Seg (l, δ, yX17_prepare, 1, none, cX17_prepare, 5) 36 137 := C_X17_prepare_L36 l δ
theorem L_X17_prepare_36 {l : Launch} {δ : Dl} {st : Stk} {L : Lc} {s : St} : (B_X17_prepare_L36 l δ).1 st L s = (C_X17_prepare_L36 l δ).1 st L s := nrfl rfl
noncomputable def C_X17_prepare_L26 (l : Launch) (δ : Dl) : Seg (l, δ, yX17_prepare, 1, none, cX17_prepare, 5) 26 143 :=
  seq (p := 26) (q := 27) (r := 143) (p_iload_n 1 dX17_prepare_26) (seq (p := 27) (q := 28) (r := 143) (p_aload_n 0 dX17_prepare_27) (seq (p := 28) (q := 31) (r := 143) (p_get [(14, 3), (15, 3)] (alL2 fl_X17_50_14 fl_X17_50_15) dX17_prepare_28) (seq (p := 31) (q := 34) (r := 143) (p_icmp_ge 143 dX17_prepare_31 (by decide)) (seq (p := 34) (q := 35) (r := 143) (p_iconst 0 dX17_prepare_34) (seq (p := 35) (q := 36) (r := 143) (p_istore_n 2 dX17_prepare_35 (Nat.le_of_ble_eq_true rfl)) (seq (p := 36) (q := 137) (r := 143) (blk (seq (p := 36) (q := 36) (r := 137) (er [true, true, true, false, false]) (seq (p := 36) (q := 137) (r := 137) (lp (B_X17_prepare_L36 l δ)) done))) (seq (p := 137) (q := 140) (r := 143) (p_iinc 1 1 dX17_prepare_137 (Nat.le_of_ble_eq_true rfl)) (seq (p := 140) (q := 140) (r := 143) (er [true, true, false, false, false]) (seq (p := 140) (q := 143) (r := 143) (p_goto 26 dX17_prepare_140 (by decide)) done)))))))))
noncomputable def B_X17_prepare_L26 (l : Launch) (δ : Dl) : Seg (l, δ, yX17_prepare, 1, none, cX17_prepare, 5) 26 143 := C_X17_prepare_L26 l δ
theorem L_X17_prepare_26 {l : Launch} {δ : Dl} {st : Stk} {L : Lc} {s : St} : (B_X17_prepare_L26 l δ).1 st L s = (C_X17_prepare_L26 l δ).1 st L s := nrfl rfl
noncomputable def B_X17_prepare (l : Launch) (δ : Dl) : Seg (l, δ, yX17_prepare, 1, none, cX17_prepare, 5) 0 144 :=
  seq (p := 0) (q := 1) (r := 144) (p_iconst 0 dX17_prepare_0) (seq (p := 1) (q := 2) (r := 144) (p_istore_n 1 dX17_prepare_1 (Nat.le_of_ble_eq_true rfl)) (seq (p := 2) (q := 24) (r := 144) (blk (seq (p := 2) (q := 2) (r := 24) (er [true, true, false, false, false]) (seq (p := 2) (q := 24) (r := 24) (lp (B_X17_prepare_L2 l δ)) done))) (seq (p := 24) (q := 25) (r := 144) (p_iconst 0 dX17_prepare_24) (seq (p := 25) (q := 26) (r := 144) (p_istore_n 1 dX17_prepare_25 (Nat.le_of_ble_eq_true rfl)) (seq (p := 26) (q := 143) (r := 144) (blk (seq (p := 26) (q := 26) (r := 143) (er [true, true, false, false, false]) (seq (p := 26) (q := 143) (r := 143) (lp (B_X17_prepare_L26 l δ)) done))) (seq (p := 143) (q := 144) (r := 144) (p_return dX17_prepare_143 rfl) done))))))
noncomputable def M_X17_prepare (l : Launch) (δ : Dl) : Mth l δ yX17_prepare cX17_prepare 5 none 1 := mk (B_X17_prepare l δ) (by decide)
theorem N_X17_prepare {l : Launch} {δ : Dl} {o : Nat} {s : St} : (M_X17_prepare l δ).1 [.inr (.inr (some o))] s = bres ((B_X17_prepare l δ).1 [] [some (.inr (.inr (some o))), none, none, none, none] s) := (mk_eq (hy := by decide) rfl).trans (nrfl rfl)
theorem dX15_isOneAlike_0 : decode cX15_isOneAlike 0 = .ok (.aload_n 0, 1) := by decide +kernel
theorem dX15_isOneAlike_1 : decode cX15_isOneAlike 1 = .ok (.getfield 29, 3) := by decide +kernel
theorem dX15_isOneAlike_4 : decode cX15_isOneAlike 4 = .ok (.iload_n 1, 1) := by decide +kernel
theorem dX15_isOneAlike_5 : decode cX15_isOneAlike 5 = .ok (.iaload, 1) := by decide +kernel
theorem dX15_isOneAlike_6 : decode cX15_isOneAlike 6 = .ok (.aload_n 2, 1) := by decide +kernel
theorem dX15_isOneAlike_7 : decode cX15_isOneAlike 7 = .ok (.getfield 29, 3) := by decide +kernel
theorem dX15_isOneAlike_10 : decode cX15_isOneAlike 10 = .ok (.iload_n 3, 1) := by decide +kernel
theorem dX15_isOneAlike_11 : decode cX15_isOneAlike 11 = .ok (.iaload, 1) := by decide +kernel
theorem dX15_isOneAlike_12 : decode cX15_isOneAlike 12 = .ok (.if_icmp .ne 22, 3) := by decide +kernel
theorem dX15_isOneAlike_15 : decode cX15_isOneAlike 15 = .ok (.aload_n 0, 1) := by decide +kernel
theorem dX15_isOneAlike_16 : decode cX15_isOneAlike 16 = .ok (.iload_n 1, 1) := by decide +kernel
theorem dX15_isOneAlike_17 : decode cX15_isOneAlike 17 = .ok (.iload_n 1, 1) := by decide +kernel
theorem dX15_isOneAlike_18 : decode cX15_isOneAlike 18 = .ok (.invokevirtual 34, 3) := by decide +kernel
theorem dX15_isOneAlike_21 : decode cX15_isOneAlike 21 = .ok (.aload_n 2, 1) := by decide +kernel
theorem dX15_isOneAlike_22 : decode cX15_isOneAlike 22 = .ok (.iload_n 3, 1) := by decide +kernel
theorem dX15_isOneAlike_23 : decode cX15_isOneAlike 23 = .ok (.iload_n 3, 1) := by decide +kernel
theorem dX15_isOneAlike_24 : decode cX15_isOneAlike 24 = .ok (.invokevirtual 34, 3) := by decide +kernel
theorem dX15_isOneAlike_27 : decode cX15_isOneAlike 27 = .ok (.if_icmp .ne 7, 3) := by decide +kernel
theorem dX15_isOneAlike_30 : decode cX15_isOneAlike 30 = .ok (.iconst 1, 1) := by decide +kernel
theorem dX15_isOneAlike_31 : decode cX15_isOneAlike 31 = .ok (.goto 4, 3) := by decide +kernel
theorem dX15_isOneAlike_34 : decode cX15_isOneAlike 34 = .ok (.iconst 0, 1) := by decide +kernel
theorem dX15_isOneAlike_35 : decode cX15_isOneAlike 35 = .ok (.ireturn, 1) := by decide +kernel
noncomputable def B_X15_isOneAlike (l : Launch) (δ : Dl) : Seg (l, δ, yX15_isOneAlike, 1, (some .boolean), cX15_isOneAlike, 4) 0 36 :=
  seq (p := 0) (q := 1) (r := 36) (p_aload_n 0 dX15_isOneAlike_0) (seq (p := 1) (q := 4) (r := 36) (p_get [(2, 1)] (alL1 fl_X15_29_2) dX15_isOneAlike_1) (seq (p := 4) (q := 5) (r := 36) (p_iload_n 1 dX15_isOneAlike_4) (seq (p := 5) (q := 6) (r := 36) (p_iald dX15_isOneAlike_5) (seq (p := 6) (q := 7) (r := 36) (p_aload_n 2 dX15_isOneAlike_6) (seq (p := 7) (q := 10) (r := 36) (p_get [(2, 1)] (alL1 fl_X15_29_2) dX15_isOneAlike_7) (seq (p := 10) (q := 11) (r := 36) (p_iload_n 3 dX15_isOneAlike_10) (seq (p := 11) (q := 12) (r := 36) (p_iald dX15_isOneAlike_11) (seq (p := 12) (q := 35) (r := 36) (blk (seq (p := 12) (q := 34) (r := 35) (blk (seq (p := 12) (q := 15) (r := 34) (p_icmp_ne 34 dX15_isOneAlike_12 (by decide)) (seq (p := 15) (q := 16) (r := 34) (p_aload_n 0 dX15_isOneAlike_15) (seq (p := 16) (q := 17) (r := 34) (p_iload_n 1 dX15_isOneAlike_16) (seq (p := 17) (q := 18) (r := 34) (p_iload_n 1 dX15_isOneAlike_17) (seq (p := 18) (q := 21) (r := 34) (p_callG 3 _ (ok_V 2 cv_X15_34 rfl (M_X2_isTied l δ) (Nat.le_of_ble_eq_true rfl) dX15_isOneAlike_18) (Nat.le_of_ble_eq_true rfl)) (seq (p := 21) (q := 22) (r := 34) (p_aload_n 2 dX15_isOneAlike_21) (seq (p := 22) (q := 23) (r := 34) (p_iload_n 3 dX15_isOneAlike_22) (seq (p := 23) (q := 24) (r := 34) (p_iload_n 3 dX15_isOneAlike_23) (seq (p := 24) (q := 27) (r := 34) (p_callG 3 _ (ok_V 2 cv_X15_34 rfl (M_X2_isTied l δ) (Nat.le_of_ble_eq_true rfl) dX15_isOneAlike_24) (Nat.le_of_ble_eq_true rfl)) (seq (p := 27) (q := 30) (r := 34) (p_icmp_ne 34 dX15_isOneAlike_27 (by decide)) (seq (p := 30) (q := 31) (r := 34) (p_iconst 1 dX15_isOneAlike_30) (seq (p := 31) (q := 34) (r := 34) (p_goto 35 dX15_isOneAlike_31 (by decide)) done))))))))))))) (seq (p := 34) (q := 35) (r := 35) (p_iconst 0 dX15_isOneAlike_34) done))) (seq (p := 35) (q := 36) (r := 36) (p_zreturn dX15_isOneAlike_35 rfl) done)))))))))
noncomputable def M_X15_isOneAlike (l : Launch) (δ : Dl) : Mth l δ yX15_isOneAlike cX15_isOneAlike 4 (some .boolean) 1 := mk (B_X15_isOneAlike l δ) (by decide)
theorem N_X15_isOneAlike {l : Launch} {δ : Dl} {a1 : Option Nat} {a2 : Int} {a3 : Option Nat} {a4 : Int} {s : St} : (M_X15_isOneAlike l δ).1 [.inr (.inr a1), .inl a2, .inr (.inr a3), .inl a4] s = bres ((B_X15_isOneAlike l δ).1 [] [some (.inr (.inr a1)), some (.inl a2), some (.inr (.inr a3)), some (.inl a4)] s) := (mk_eq (hy := by decide) rfl).trans (nrfl rfl)
theorem dX17_isAlike_0 : decode cX17_isAlike 0 = .ok (.aload_n 0, 1) := by decide +kernel
theorem dX17_isAlike_1 : decode cX17_isAlike 1 = .ok (.iload_n 1, 1) := by decide +kernel
theorem dX17_isAlike_2 : decode cX17_isAlike 2 = .ok (.invokevirtual 31, 3) := by decide +kernel
theorem dX17_isAlike_5 : decode cX17_isAlike 5 = .ok (.astore_n 3, 1) := by decide +kernel
theorem dX17_isAlike_6 : decode cX17_isAlike 6 = .ok (.aload_n 0, 1) := by decide +kernel
theorem dX17_isAlike_7 : decode cX17_isAlike 7 = .ok (.iload_n 2, 1) := by decide +kernel
theorem dX17_isAlike_8 : decode cX17_isAlike 8 = .ok (.invokevirtual 31, 3) := by decide +kernel
theorem dX17_isAlike_11 : decode cX17_isAlike 11 = .ok (.astore 4, 2) := by decide +kernel
theorem dX17_isAlike_13 : decode cX17_isAlike 13 = .ok (.aload_n 3, 1) := by decide +kernel
theorem dX17_isAlike_14 : decode cX17_isAlike 14 = .ok (.aload_n 0, 1) := by decide +kernel
theorem dX17_isAlike_15 : decode cX17_isAlike 15 = .ok (.iload_n 1, 1) := by decide +kernel
theorem dX17_isAlike_16 : decode cX17_isAlike 16 = .ok (.invokevirtual 35, 3) := by decide +kernel
theorem dX17_isAlike_19 : decode cX17_isAlike 19 = .ok (.aload 4, 2) := by decide +kernel
theorem dX17_isAlike_21 : decode cX17_isAlike 21 = .ok (.aload_n 0, 1) := by decide +kernel
theorem dX17_isAlike_22 : decode cX17_isAlike 22 = .ok (.iload_n 2, 1) := by decide +kernel
theorem dX17_isAlike_23 : decode cX17_isAlike 23 = .ok (.invokevirtual 35, 3) := by decide +kernel
theorem dX17_isAlike_26 : decode cX17_isAlike 26 = .ok (.invokestatic 39, 3) := by decide +kernel
theorem dX17_isAlike_29 : decode cX17_isAlike 29 = .ok (.ifCond .eq 26, 3) := by decide +kernel
theorem dX17_isAlike_32 : decode cX17_isAlike 32 = .ok (.aload_n 3, 1) := by decide +kernel
theorem dX17_isAlike_33 : decode cX17_isAlike 33 = .ok (.aload_n 0, 1) := by decide +kernel
theorem dX17_isAlike_34 : decode cX17_isAlike 34 = .ok (.iload_n 1, 1) := by decide +kernel
theorem dX17_isAlike_35 : decode cX17_isAlike 35 = .ok (.invokevirtual 43, 3) := by decide +kernel
theorem dX17_isAlike_38 : decode cX17_isAlike 38 = .ok (.aload 4, 2) := by decide +kernel
theorem dX17_isAlike_40 : decode cX17_isAlike 40 = .ok (.aload_n 0, 1) := by decide +kernel
theorem dX17_isAlike_41 : decode cX17_isAlike 41 = .ok (.iload_n 2, 1) := by decide +kernel
theorem dX17_isAlike_42 : decode cX17_isAlike 42 = .ok (.invokevirtual 43, 3) := by decide +kernel
theorem dX17_isAlike_45 : decode cX17_isAlike 45 = .ok (.invokestatic 39, 3) := by decide +kernel
theorem dX17_isAlike_48 : decode cX17_isAlike 48 = .ok (.ifCond .eq 7, 3) := by decide +kernel
theorem dX17_isAlike_51 : decode cX17_isAlike 51 = .ok (.iconst 1, 1) := by decide +kernel
theorem dX17_isAlike_52 : decode cX17_isAlike 52 = .ok (.goto 4, 3) := by decide +kernel
theorem dX17_isAlike_55 : decode cX17_isAlike 55 = .ok (.iconst 0, 1) := by decide +kernel
theorem dX17_isAlike_56 : decode cX17_isAlike 56 = .ok (.istore 5, 2) := by decide +kernel
theorem dX17_isAlike_58 : decode cX17_isAlike 58 = .ok (.iload 5, 2) := by decide +kernel
theorem dX17_isAlike_60 : decode cX17_isAlike 60 = .ok (.ifCond .eq 110, 3) := by decide +kernel
theorem dX17_isAlike_63 : decode cX17_isAlike 63 = .ok (.aload_n 0, 1) := by decide +kernel
theorem dX17_isAlike_64 : decode cX17_isAlike 64 = .ok (.iload_n 1, 1) := by decide +kernel
theorem dX17_isAlike_65 : decode cX17_isAlike 65 = .ok (.invokevirtual 35, 3) := by decide +kernel
theorem dX17_isAlike_68 : decode cX17_isAlike 68 = .ok (.aload_n 0, 1) := by decide +kernel
theorem dX17_isAlike_69 : decode cX17_isAlike 69 = .ok (.iload_n 1, 1) := by decide +kernel
theorem dX17_isAlike_70 : decode cX17_isAlike 70 = .ok (.invokevirtual 43, 3) := by decide +kernel
theorem dX17_isAlike_73 : decode cX17_isAlike 73 = .ok (.if_icmp .ne 7, 3) := by decide +kernel
theorem dX17_isAlike_76 : decode cX17_isAlike 76 = .ok (.iconst 1, 1) := by decide +kernel
theorem dX17_isAlike_77 : decode cX17_isAlike 77 = .ok (.goto 4, 3) := by decide +kernel
theorem dX17_isAlike_80 : decode cX17_isAlike 80 = .ok (.iconst 0, 1) := by decide +kernel
theorem dX17_isAlike_81 : decode cX17_isAlike 81 = .ok (.aload_n 0, 1) := by decide +kernel
theorem dX17_isAlike_82 : decode cX17_isAlike 82 = .ok (.iload_n 2, 1) := by decide +kernel
theorem dX17_isAlike_83 : decode cX17_isAlike 83 = .ok (.invokevirtual 35, 3) := by decide +kernel
theorem dX17_isAlike_86 : decode cX17_isAlike 86 = .ok (.aload_n 0, 1) := by decide +kernel
theorem dX17_isAlike_87 : decode cX17_isAlike 87 = .ok (.iload_n 2, 1) := by decide +kernel
theorem dX17_isAlike_88 : decode cX17_isAlike 88 = .ok (.invokevirtual 43, 3) := by decide +kernel
theorem dX17_isAlike_91 : decode cX17_isAlike 91 = .ok (.if_icmp .ne 7, 3) := by decide +kernel
theorem dX17_isAlike_94 : decode cX17_isAlike 94 = .ok (.iconst 1, 1) := by decide +kernel
theorem dX17_isAlike_95 : decode cX17_isAlike 95 = .ok (.goto 4, 3) := by decide +kernel
theorem dX17_isAlike_98 : decode cX17_isAlike 98 = .ok (.iconst 0, 1) := by decide +kernel
theorem dX17_isAlike_99 : decode cX17_isAlike 99 = .ok (.if_icmp .ne 71, 3) := by decide +kernel
theorem dX17_isAlike_102 : decode cX17_isAlike 102 = .ok (.aload_n 3, 1) := by decide +kernel
theorem dX17_isAlike_103 : decode cX17_isAlike 103 = .ok (.aload_n 0, 1) := by decide +kernel
theorem dX17_isAlike_104 : decode cX17_isAlike 104 = .ok (.iload_n 1, 1) := by decide +kernel
theorem dX17_isAlike_105 : decode cX17_isAlike 105 = .ok (.invokevirtual 35, 3) := by decide +kernel
theorem dX17_isAlike_108 : decode cX17_isAlike 108 = .ok (.aload_n 0, 1) := by decide +kernel
theorem dX17_isAlike_109 : decode cX17_isAlike 109 = .ok (.iload_n 1, 1) := by decide +kernel
theorem dX17_isAlike_110 : decode cX17_isAlike 110 = .ok (.invokevirtual 43, 3) := by decide +kernel
theorem dX17_isAlike_113 : decode cX17_isAlike 113 = .ok (.invokevirtual 46, 3) := by decide +kernel
theorem dX17_isAlike_116 : decode cX17_isAlike 116 = .ok (.aload 4, 2) := by decide +kernel
theorem dX17_isAlike_118 : decode cX17_isAlike 118 = .ok (.aload_n 0, 1) := by decide +kernel
theorem dX17_isAlike_119 : decode cX17_isAlike 119 = .ok (.iload_n 2, 1) := by decide +kernel
theorem dX17_isAlike_120 : decode cX17_isAlike 120 = .ok (.invokevirtual 35, 3) := by decide +kernel
theorem dX17_isAlike_123 : decode cX17_isAlike 123 = .ok (.aload_n 0, 1) := by decide +kernel
theorem dX17_isAlike_124 : decode cX17_isAlike 124 = .ok (.iload_n 2, 1) := by decide +kernel
theorem dX17_isAlike_125 : decode cX17_isAlike 125 = .ok (.invokevirtual 43, 3) := by decide +kernel
theorem dX17_isAlike_128 : decode cX17_isAlike 128 = .ok (.invokevirtual 46, 3) := by decide +kernel
theorem dX17_isAlike_131 : decode cX17_isAlike 131 = .ok (.if_icmp .ne 39, 3) := by decide +kernel
theorem dX17_isAlike_134 : decode cX17_isAlike 134 = .ok (.aload_n 3, 1) := by decide +kernel
theorem dX17_isAlike_135 : decode cX17_isAlike 135 = .ok (.aload_n 0, 1) := by decide +kernel
theorem dX17_isAlike_136 : decode cX17_isAlike 136 = .ok (.iload_n 1, 1) := by decide +kernel
theorem dX17_isAlike_137 : decode cX17_isAlike 137 = .ok (.invokevirtual 43, 3) := by decide +kernel
theorem dX17_isAlike_140 : decode cX17_isAlike 140 = .ok (.aload_n 0, 1) := by decide +kernel
theorem dX17_isAlike_141 : decode cX17_isAlike 141 = .ok (.iload_n 1, 1) := by decide +kernel
theorem dX17_isAlike_142 : decode cX17_isAlike 142 = .ok (.invokevirtual 35, 3) := by decide +kernel
theorem dX17_isAlike_145 : decode cX17_isAlike 145 = .ok (.invokevirtual 46, 3) := by decide +kernel
theorem dX17_isAlike_148 : decode cX17_isAlike 148 = .ok (.aload 4, 2) := by decide +kernel
theorem dX17_isAlike_150 : decode cX17_isAlike 150 = .ok (.aload_n 0, 1) := by decide +kernel
theorem dX17_isAlike_151 : decode cX17_isAlike 151 = .ok (.iload_n 2, 1) := by decide +kernel
theorem dX17_isAlike_152 : decode cX17_isAlike 152 = .ok (.invokevirtual 43, 3) := by decide +kernel
theorem dX17_isAlike_155 : decode cX17_isAlike 155 = .ok (.aload_n 0, 1) := by decide +kernel
theorem dX17_isAlike_156 : decode cX17_isAlike 156 = .ok (.iload_n 2, 1) := by decide +kernel
theorem dX17_isAlike_157 : decode cX17_isAlike 157 = .ok (.invokevirtual 35, 3) := by decide +kernel
theorem dX17_isAlike_160 : decode cX17_isAlike 160 = .ok (.invokevirtual 46, 3) := by decide +kernel
theorem dX17_isAlike_163 : decode cX17_isAlike 163 = .ok (.if_icmp .ne 7, 3) := by decide +kernel
theorem dX17_isAlike_166 : decode cX17_isAlike 166 = .ok (.iconst 1, 1) := by decide +kernel
theorem dX17_isAlike_167 : decode cX17_isAlike 167 = .ok (.goto 4, 3) := by decide +kernel
theorem dX17_isAlike_170 : decode cX17_isAlike 170 = .ok (.iconst 0, 1) := by decide +kernel
theorem dX17_isAlike_171 : decode cX17_isAlike 171 = .ok (.ireturn, 1) := by decide +kernel
noncomputable def B_X17_isAlike (l : Launch) (δ : Dl) : Seg (l, δ, yX17_isAlike, 2, (some .boolean), cX17_isAlike, 6) 0 172 :=
  seq (p := 0) (q := 1) (r := 172) (p_aload_n 0 dX17_isAlike_0) (seq (p := 1) (q := 2) (r := 172) (p_iload_n 1 dX17_isAlike_1) (seq (p := 2) (q := 5) (r := 172) (p_callG 2 _ (ok_U 15 cu_X17_31_15 rfl (M_X15_of l δ) (Nat.le_of_ble_eq_true rfl) dX17_isAlike_2) (Nat.le_of_ble_eq_true rfl)) (seq (p := 5) (q := 6) (r := 172) (p_astore_n 3 dX17_isAlike_5 (Nat.le_of_ble_eq_true rfl)) (seq (p := 6) (q := 7) (r := 172) (p_aload_n 0 dX17_isAlike_6) (seq (p := 7) (q := 8) (r := 172) (p_iload_n 2 dX17_isAlike_7) (seq (p := 8) (q := 11) (r := 172) (p_callG 2 _ (ok_U 15 cu_X17_31_15 rfl (M_X15_of l δ) (Nat.le_of_ble_eq_true rfl) dX17_isAlike_8) (Nat.le_of_ble_eq_true rfl)) (seq (p := 11) (q := 13) (r := 172) (p_astore 4 dX17_isAlike_11 (Nat.le_of_ble_eq_true rfl)) (seq (p := 13) (q := 14) (r := 172) (p_aload_n 3 dX17_isAlike_13) (seq (p := 14) (q := 15) (r := 172) (p_aload_n 0 dX17_isAlike_14) (seq (p := 15) (q := 16) (r := 172) (p_iload_n 1 dX17_isAlike_15) (seq (p := 16) (q := 19) (r := 172) (p_callG 2 _ (ok_V 15 cv_X17_35 rfl (M_X17_x l δ) (Nat.le_of_ble_eq_true rfl) dX17_isAlike_16) (Nat.le_of_ble_eq_true rfl)) (seq (p := 19) (q := 21) (r := 172) (p_aload 4 dX17_isAlike_19) (seq (p := 21) (q := 22) (r := 172) (p_aload_n 0 dX17_isAlike_21) (seq (p := 22) (q := 23) (r := 172) (p_iload_n 2 dX17_isAlike_22) (seq (p := 23) (q := 26) (r := 172) (p_callG 2 _ (ok_V 15 cv_X17_35 rfl (M_X17_x l δ) (Nat.le_of_ble_eq_true rfl) dX17_isAlike_23) (Nat.le_of_ble_eq_true rfl)) (seq (p := 26) (q := 29) (r := 172) (p_callG 4 _ (ok_SI csi_X17_39 (M_X15_isOneAlike l δ) (Nat.le_of_ble_eq_true rfl) dX17_isAlike_26) (Nat.le_of_ble_eq_true rfl)) (seq (p := 29) (q := 56) (r := 172) (blk (seq (p := 29) (q := 55) (r := 56) (blk (seq (p := 29) (q := 32) (r := 55) (p_if_eq 55 dX17_isAlike_29 (by decide)) (seq (p := 32) (q := 33) (r := 55) (p_aload_n 3 dX17_isAlike_32) (seq (p := 33) (q := 34) (r := 55) (p_aload_n 0 dX17_isAlike_33) (seq (p := 34) (q := 35) (r := 55) (p_iload_n 1 dX17_isAlike_34) (seq (p := 35) (q := 38) (r := 55) (p_callG 2 _ (ok_V 15 cv_X17_43 rfl (M_X17_y l δ) (Nat.le_of_ble_eq_true rfl) dX17_isAlike_35) (Nat.le_of_ble_eq_true rfl)) (seq (p := 38) (q := 40) (r := 55) (p_aload 4 dX17_isAlike_38) (seq (p := 40) (q := 41) (r := 55) (p_aload_n 0 dX17_isAlike_40) (seq (p := 41) (q := 42) (r := 55) (p_iload_n 2 dX17_isAlike_41) (seq (p := 42) (q := 45) (r := 55) (p_callG 2 _ (ok_V 15 cv_X17_43 rfl (M_X17_y l δ) (Nat.le_of_ble_eq_true rfl) dX17_isAlike_42) (Nat.le_of_ble_eq_true rfl)) (seq (p := 45) (q := 48) (r := 55) (p_callG 4 _ (ok_SI csi_X17_39 (M_X15_isOneAlike l δ) (Nat.le_of_ble_eq_true rfl) dX17_isAlike_45) (Nat.le_of_ble_eq_true rfl)) (seq (p := 48) (q := 51) (r := 55) (p_if_eq 55 dX17_isAlike_48 (by decide)) (seq (p := 51) (q := 52) (r := 55) (p_iconst 1 dX17_isAlike_51) (seq (p := 52) (q := 55) (r := 55) (p_goto 56 dX17_isAlike_52 (by decide)) done)))))))))))))) (seq (p := 55) (q := 56) (r := 56) (p_iconst 0 dX17_isAlike_55) done))) (seq (p := 56) (q := 58) (r := 172) (p_istore 5 dX17_isAlike_56 (Nat.le_of_ble_eq_true rfl)) (seq (p := 58) (q := 60) (r := 172) (p_iload 5 dX17_isAlike_58) (seq (p := 60) (q := 171) (r := 172) (blk (seq (p := 60) (q := 170) (r := 171) (blk (seq (p := 60) (q := 63) (r := 170) (p_if_eq 170 dX17_isAlike_60 (by decide)) (seq (p := 63) (q := 64) (r := 170) (p_aload_n 0 dX17_isAlike_63) (seq (p := 64) (q := 65) (r := 170) (p_iload_n 1 dX17_isAlike_64) (seq (p := 65) (q := 68) (r := 170) (p_callG 2 _ (ok_V 15 cv_X17_35 rfl (M_X17_x l δ) (Nat.le_of_ble_eq_true rfl) dX17_isAlike_65) (Nat.le_of_ble_eq_true rfl)) (seq (p := 68) (q := 69) (r := 170) (p_aload_n 0 dX17_isAlike_68) (seq (p := 69) (q := 70) (r := 170) (p_iload_n 1 dX17_isAlike_69) (seq (p := 70) (q := 73) (r := 170) (p_callG 2 _ (ok_V 15 cv_X17_43 rfl (M_X17_y l δ) (Nat.le_of_ble_eq_true rfl) dX17_isAlike_70) (Nat.le_of_ble_eq_true rfl)) (seq (p := 73) (q := 81) (r := 170) (blk (seq (p := 73) (q := 80) (r := 81) (blk (seq (p := 73) (q := 76) (r := 80) (p_icmp_ne 80 dX17_isAlike_73 (by decide)) (seq (p := 76) (q := 77) (r := 80) (p_iconst 1 dX17_isAlike_76) (seq (p := 77) (q := 80) (r := 80) (p_goto 81 dX17_isAlike_77 (by decide)) done)))) (seq (p := 80) (q := 81) (r := 81) (p_iconst 0 dX17_isAlike_80) done))) (seq (p := 81) (q := 82) (r := 170) (p_aload_n 0 dX17_isAlike_81) (seq (p := 82) (q := 83) (r := 170) (p_iload_n 2 dX17_isAlike_82) (seq (p := 83) (q := 86) (r := 170) (p_callG 2 _ (ok_V 15 cv_X17_35 rfl (M_X17_x l δ) (Nat.le_of_ble_eq_true rfl) dX17_isAlike_83) (Nat.le_of_ble_eq_true rfl)) (seq (p := 86) (q := 87) (r := 170) (p_aload_n 0 dX17_isAlike_86) (seq (p := 87) (q := 88) (r := 170) (p_iload_n 2 dX17_isAlike_87) (seq (p := 88) (q := 91) (r := 170) (p_callG 2 _ (ok_V 15 cv_X17_43 rfl (M_X17_y l δ) (Nat.le_of_ble_eq_true rfl) dX17_isAlike_88) (Nat.le_of_ble_eq_true rfl)) (seq (p := 91) (q := 99) (r := 170) (blk (seq (p := 91) (q := 98) (r := 99) (blk (seq (p := 91) (q := 94) (r := 98) (p_icmp_ne 98 dX17_isAlike_91 (by decide)) (seq (p := 94) (q := 95) (r := 98) (p_iconst 1 dX17_isAlike_94) (seq (p := 95) (q := 98) (r := 98) (p_goto 99 dX17_isAlike_95 (by decide)) done)))) (seq (p := 98) (q := 99) (r := 99) (p_iconst 0 dX17_isAlike_98) done))) (seq (p := 99) (q := 102) (r := 170) (p_icmp_ne 170 dX17_isAlike_99 (by decide)) (seq (p := 102) (q := 103) (r := 170) (p_aload_n 3 dX17_isAlike_102) (seq (p := 103) (q := 104) (r := 170) (p_aload_n 0 dX17_isAlike_103) (seq (p := 104) (q := 105) (r := 170) (p_iload_n 1 dX17_isAlike_104) (seq (p := 105) (q := 108) (r := 170) (p_callG 2 _ (ok_V 15 cv_X17_35 rfl (M_X17_x l δ) (Nat.le_of_ble_eq_true rfl) dX17_isAlike_105) (Nat.le_of_ble_eq_true rfl)) (seq (p := 108) (q := 109) (r := 170) (p_aload_n 0 dX17_isAlike_108) (seq (p := 109) (q := 110) (r := 170) (p_iload_n 1 dX17_isAlike_109) (seq (p := 110) (q := 113) (r := 170) (p_callG 2 _ (ok_V 15 cv_X17_43 rfl (M_X17_y l δ) (Nat.le_of_ble_eq_true rfl) dX17_isAlike_110) (Nat.le_of_ble_eq_true rfl)) (seq (p := 113) (q := 116) (r := 170) (p_callG 3 _ (ok_V 2 cv_X17_46 rfl (M_X2_isTied l δ) (Nat.le_of_ble_eq_true rfl) dX17_isAlike_113) (Nat.le_of_ble_eq_true rfl)) (seq (p := 116) (q := 118) (r := 170) (p_aload 4 dX17_isAlike_116) (seq (p := 118) (q := 119) (r := 170) (p_aload_n 0 dX17_isAlike_118) (seq (p := 119) (q := 120) (r := 170) (p_iload_n 2 dX17_isAlike_119) (seq (p := 120) (q := 123) (r := 170) (p_callG 2 _ (ok_V 15 cv_X17_35 rfl (M_X17_x l δ) (Nat.le_of_ble_eq_true rfl) dX17_isAlike_120) (Nat.le_of_ble_eq_true rfl)) (seq (p := 123) (q := 124) (r := 170) (p_aload_n 0 dX17_isAlike_123) (seq (p := 124) (q := 125) (r := 170) (p_iload_n 2 dX17_isAlike_124) (seq (p := 125) (q := 128) (r := 170) (p_callG 2 _ (ok_V 15 cv_X17_43 rfl (M_X17_y l δ) (Nat.le_of_ble_eq_true rfl) dX17_isAlike_125) (Nat.le_of_ble_eq_true rfl)) (seq (p := 128) (q := 131) (r := 170) (p_callG 3 _ (ok_V 2 cv_X17_46 rfl (M_X2_isTied l δ) (Nat.le_of_ble_eq_true rfl) dX17_isAlike_128) (Nat.le_of_ble_eq_true rfl)) (seq (p := 131) (q := 134) (r := 170) (p_icmp_ne 170 dX17_isAlike_131 (by decide)) (seq (p := 134) (q := 135) (r := 170) (p_aload_n 3 dX17_isAlike_134) (seq (p := 135) (q := 136) (r := 170) (p_aload_n 0 dX17_isAlike_135) (seq (p := 136) (q := 137) (r := 170) (p_iload_n 1 dX17_isAlike_136) (seq (p := 137) (q := 140) (r := 170) (p_callG 2 _ (ok_V 15 cv_X17_43 rfl (M_X17_y l δ) (Nat.le_of_ble_eq_true rfl) dX17_isAlike_137) (Nat.le_of_ble_eq_true rfl)) (seq (p := 140) (q := 141) (r := 170) (p_aload_n 0 dX17_isAlike_140) (seq (p := 141) (q := 142) (r := 170) (p_iload_n 1 dX17_isAlike_141) (seq (p := 142) (q := 145) (r := 170) (p_callG 2 _ (ok_V 15 cv_X17_35 rfl (M_X17_x l δ) (Nat.le_of_ble_eq_true rfl) dX17_isAlike_142) (Nat.le_of_ble_eq_true rfl)) (seq (p := 145) (q := 148) (r := 170) (p_callG 3 _ (ok_V 2 cv_X17_46 rfl (M_X2_isTied l δ) (Nat.le_of_ble_eq_true rfl) dX17_isAlike_145) (Nat.le_of_ble_eq_true rfl)) (seq (p := 148) (q := 150) (r := 170) (p_aload 4 dX17_isAlike_148) (seq (p := 150) (q := 151) (r := 170) (p_aload_n 0 dX17_isAlike_150) (seq (p := 151) (q := 152) (r := 170) (p_iload_n 2 dX17_isAlike_151) (seq (p := 152) (q := 155) (r := 170) (p_callG 2 _ (ok_V 15 cv_X17_43 rfl (M_X17_y l δ) (Nat.le_of_ble_eq_true rfl) dX17_isAlike_152) (Nat.le_of_ble_eq_true rfl)) (seq (p := 155) (q := 156) (r := 170) (p_aload_n 0 dX17_isAlike_155) (seq (p := 156) (q := 157) (r := 170) (p_iload_n 2 dX17_isAlike_156) (seq (p := 157) (q := 160) (r := 170) (p_callG 2 _ (ok_V 15 cv_X17_35 rfl (M_X17_x l δ) (Nat.le_of_ble_eq_true rfl) dX17_isAlike_157) (Nat.le_of_ble_eq_true rfl)) (seq (p := 160) (q := 163) (r := 170) (p_callG 3 _ (ok_V 2 cv_X17_46 rfl (M_X2_isTied l δ) (Nat.le_of_ble_eq_true rfl) dX17_isAlike_160) (Nat.le_of_ble_eq_true rfl)) (seq (p := 163) (q := 166) (r := 170) (p_icmp_ne 170 dX17_isAlike_163 (by decide)) (seq (p := 166) (q := 167) (r := 170) (p_iconst 1 dX17_isAlike_166) (seq (p := 167) (q := 170) (r := 170) (p_goto 171 dX17_isAlike_167 (by decide)) done))))))))))))))))))))))))))))))))))))))))))))))))))))) (seq (p := 170) (q := 171) (r := 171) (p_iconst 0 dX17_isAlike_170) done))) (seq (p := 171) (q := 172) (r := 172) (p_zreturn dX17_isAlike_171 rfl) done)))))))))))))))))))))
noncomputable def M_X17_isAlike (l : Launch) (δ : Dl) : Mth l δ yX17_isAlike cX17_isAlike 6 (some .boolean) 2 := mk (B_X17_isAlike l δ) (by decide)
theorem N_X17_isAlike {l : Launch} {δ : Dl} {o : Nat} {a1 : Int} {a2 : Int} {s : St} : (M_X17_isAlike l δ).1 [.inr (.inr (some o)), .inl a1, .inl a2] s = bres ((B_X17_isAlike l δ).1 [] [some (.inr (.inr (some o))), some (.inl a1), some (.inl a2), none, none, none] s) := (mk_eq (hy := by decide) rfl).trans (nrfl rfl)
theorem dX17_stays_0 : decode cX17_stays 0 = .ok (.iconst 1, 1) := by decide +kernel
theorem dX17_stays_1 : decode cX17_stays 1 = .ok (.istore_n 3, 1) := by decide +kernel
theorem dX17_stays_2 : decode cX17_stays 2 = .ok (.iconst 0, 1) := by decide +kernel
theorem dX17_stays_3 : decode cX17_stays 3 = .ok (.istore 4, 2) := by decide +kernel
theorem dX17_stays_5 : decode cX17_stays 5 = .ok (.iload 4, 2) := by decide +kernel
theorem dX17_stays_7 : decode cX17_stays 7 = .ok (.iconst 4, 1) := by decide +kernel
theorem dX17_stays_8 : decode cX17_stays 8 = .ok (.if_icmp .ge 45, 3) := by decide +kernel
theorem dX17_stays_11 : decode cX17_stays 11 = .ok (.iload_n 3, 1) := by decide +kernel
theorem dX17_stays_12 : decode cX17_stays 12 = .ok (.ifCond .eq 41, 3) := by decide +kernel
theorem dX17_stays_15 : decode cX17_stays 15 = .ok (.aload_n 0, 1) := by decide +kernel
theorem dX17_stays_16 : decode cX17_stays 16 = .ok (.getfield 15, 3) := by decide +kernel
theorem dX17_stays_19 : decode cX17_stays 19 = .ok (.iconst 4, 1) := by decide +kernel
theorem dX17_stays_20 : decode cX17_stays 20 = .ok (.iload_n 1, 1) := by decide +kernel
theorem dX17_stays_21 : decode cX17_stays 21 = .ok (.imul, 1) := by decide +kernel
theorem dX17_stays_22 : decode cX17_stays 22 = .ok (.iload 4, 2) := by decide +kernel
theorem dX17_stays_24 : decode cX17_stays 24 = .ok (.iadd, 1) := by decide +kernel
theorem dX17_stays_25 : decode cX17_stays 25 = .ok (.laload, 1) := by decide +kernel
theorem dX17_stays_26 : decode cX17_stays 26 = .ok (.aload_n 0, 1) := by decide +kernel
theorem dX17_stays_27 : decode cX17_stays 27 = .ok (.getfield 15, 3) := by decide +kernel
theorem dX17_stays_30 : decode cX17_stays 30 = .ok (.iconst 4, 1) := by decide +kernel
theorem dX17_stays_31 : decode cX17_stays 31 = .ok (.iload_n 2, 1) := by decide +kernel
theorem dX17_stays_32 : decode cX17_stays 32 = .ok (.imul, 1) := by decide +kernel
theorem dX17_stays_33 : decode cX17_stays 33 = .ok (.iload 4, 2) := by decide +kernel
theorem dX17_stays_35 : decode cX17_stays 35 = .ok (.iadd, 1) := by decide +kernel
theorem dX17_stays_36 : decode cX17_stays 36 = .ok (.laload, 1) := by decide +kernel
theorem dX17_stays_37 : decode cX17_stays 37 = .ok (.lcmp, 1) := by decide +kernel
theorem dX17_stays_38 : decode cX17_stays 38 = .ok (.ifCond .ne 7, 3) := by decide +kernel
theorem dX17_stays_41 : decode cX17_stays 41 = .ok (.iconst 1, 1) := by decide +kernel
theorem dX17_stays_42 : decode cX17_stays 42 = .ok (.goto 4, 3) := by decide +kernel
theorem dX17_stays_45 : decode cX17_stays 45 = .ok (.iconst 0, 1) := by decide +kernel
theorem dX17_stays_46 : decode cX17_stays 46 = .ok (.istore_n 3, 1) := by decide +kernel
theorem dX17_stays_47 : decode cX17_stays 47 = .ok (.iinc 4 1, 3) := by decide +kernel
theorem dX17_stays_50 : decode cX17_stays 50 = .ok (.goto (-45), 3) := by decide +kernel
theorem dX17_stays_53 : decode cX17_stays 53 = .ok (.iload_n 3, 1) := by decide +kernel
theorem dX17_stays_54 : decode cX17_stays 54 = .ok (.ireturn, 1) := by decide +kernel
noncomputable def C_X17_stays_L5 (l : Launch) (δ : Dl) : Seg (l, δ, yX17_stays, 0, (some .boolean), cX17_stays, 5) 5 53 :=
  seq (p := 5) (q := 7) (r := 53) (p_iload 4 dX17_stays_5) (seq (p := 7) (q := 8) (r := 53) (p_iconst 4 dX17_stays_7) (seq (p := 8) (q := 11) (r := 53) (p_icmp_ge 53 dX17_stays_8 (by decide)) (seq (p := 11) (q := 12) (r := 53) (p_iload_n 3 dX17_stays_11) (seq (p := 12) (q := 15) (r := 53) (p_if_eq 53 dX17_stays_12 (by decide)) (seq (p := 15) (q := 16) (r := 53) (p_aload_n 0 dX17_stays_15) (seq (p := 16) (q := 19) (r := 53) (p_get [(15, 7)] (alL1 fl_X17_15_15) dX17_stays_16) (seq (p := 19) (q := 20) (r := 53) (p_iconst 4 dX17_stays_19) (seq (p := 20) (q := 21) (r := 53) (p_iload_n 1 dX17_stays_20) (seq (p := 21) (q := 22) (r := 53) (p_imul dX17_stays_21) (seq (p := 22) (q := 24) (r := 53) (p_iload 4 dX17_stays_22) (seq (p := 24) (q := 25) (r := 53) (p_iadd dX17_stays_24) (seq (p := 25) (q := 26) (r := 53) (p_lald dX17_stays_25) (seq (p := 26) (q := 27) (r := 53) (p_aload_n 0 dX17_stays_26) (seq (p := 27) (q := 30) (r := 53) (p_get [(15, 7)] (alL1 fl_X17_15_15) dX17_stays_27) (seq (p := 30) (q := 31) (r := 53) (p_iconst 4 dX17_stays_30) (seq (p := 31) (q := 32) (r := 53) (p_iload_n 2 dX17_stays_31) (seq (p := 32) (q := 33) (r := 53) (p_imul dX17_stays_32) (seq (p := 33) (q := 35) (r := 53) (p_iload 4 dX17_stays_33) (seq (p := 35) (q := 36) (r := 53) (p_iadd dX17_stays_35) (seq (p := 36) (q := 37) (r := 53) (p_lald dX17_stays_36) (seq (p := 37) (q := 38) (r := 53) (p_lcmp dX17_stays_37) (seq (p := 38) (q := 46) (r := 53) (blk (seq (p := 38) (q := 45) (r := 46) (blk (seq (p := 38) (q := 41) (r := 45) (p_if_ne 45 dX17_stays_38 (by decide)) (seq (p := 41) (q := 42) (r := 45) (p_iconst 1 dX17_stays_41) (seq (p := 42) (q := 45) (r := 45) (p_goto 46 dX17_stays_42 (by decide)) done)))) (seq (p := 45) (q := 46) (r := 46) (p_iconst 0 dX17_stays_45) done))) (seq (p := 46) (q := 47) (r := 53) (p_istore_n 3 dX17_stays_46 (Nat.le_of_ble_eq_true rfl)) (seq (p := 47) (q := 50) (r := 53) (p_iinc 4 1 dX17_stays_47 (Nat.le_of_ble_eq_true rfl)) (seq (p := 50) (q := 50) (r := 53) (er [true, true, true, true, true]) (seq (p := 50) (q := 53) (r := 53) (p_goto 5 dX17_stays_50 (by decide)) done))))))))))))))))))))))))))
noncomputable def B_X17_stays_L5 (l : Launch) (δ : Dl) : Seg (l, δ, yX17_stays, 0, (some .boolean), cX17_stays, 5) 5 53 := C_X17_stays_L5 l δ
theorem L_X17_stays_5 {l : Launch} {δ : Dl} {st : Stk} {L : Lc} {s : St} : (B_X17_stays_L5 l δ).1 st L s = (C_X17_stays_L5 l δ).1 st L s := nrfl rfl
noncomputable def B_X17_stays (l : Launch) (δ : Dl) : Seg (l, δ, yX17_stays, 0, (some .boolean), cX17_stays, 5) 0 55 :=
  seq (p := 0) (q := 1) (r := 55) (p_iconst 1 dX17_stays_0) (seq (p := 1) (q := 2) (r := 55) (p_istore_n 3 dX17_stays_1 (Nat.le_of_ble_eq_true rfl)) (seq (p := 2) (q := 3) (r := 55) (p_iconst 0 dX17_stays_2) (seq (p := 3) (q := 5) (r := 55) (p_istore 4 dX17_stays_3 (Nat.le_of_ble_eq_true rfl)) (seq (p := 5) (q := 53) (r := 55) (blk (seq (p := 5) (q := 5) (r := 53) (er [true, true, true, true, true]) (seq (p := 5) (q := 53) (r := 53) (lp (B_X17_stays_L5 l δ)) done))) (seq (p := 53) (q := 54) (r := 55) (p_iload_n 3 dX17_stays_53) (seq (p := 54) (q := 55) (r := 55) (p_zreturn dX17_stays_54 rfl) done))))))
noncomputable def M_X17_stays (l : Launch) (δ : Dl) : Mth l δ yX17_stays cX17_stays 5 (some .boolean) 0 := mk (B_X17_stays l δ) (by decide)
theorem N_X17_stays {l : Launch} {δ : Dl} {o : Nat} {a1 : Int} {a2 : Int} {s : St} : (M_X17_stays l δ).1 [.inr (.inr (some o)), .inl a1, .inl a2] s = bres ((B_X17_stays l δ).1 [] [some (.inr (.inr (some o))), some (.inl a1), some (.inl a2), none, none] s) := (mk_eq (hy := by decide) rfl).trans (nrfl rfl)

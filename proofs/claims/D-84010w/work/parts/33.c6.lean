/-! PRINTED: the component, 216 to 220 -/
set_option maxRecDepth 100000
theorem dX12_let_0 : decode cX12_let 0 = .ok (.new 34, 3) := by decide +kernel
theorem dX12_let_3 : decode cX12_let 3 = .ok (.dup, 1) := by decide +kernel
theorem dX12_let_4 : decode cX12_let 4 = .ok (.iconst 0, 1) := by decide +kernel
theorem dX12_let_5 : decode cX12_let 5 = .ok (.aload_n 0, 1) := by decide +kernel
theorem dX12_let_6 : decode cX12_let 6 = .ok (.getfield 91, 3) := by decide +kernel
theorem dX12_let_9 : decode cX12_let 9 = .ok (.invokespecial 231, 3) := by decide +kernel
theorem dX12_let_12 : decode cX12_let 12 = .ok (.astore_n 1, 1) := by decide +kernel
theorem dX12_let_13 : decode cX12_let 13 = .ok (.aload_n 0, 1) := by decide +kernel
theorem dX12_let_14 : decode cX12_let 14 = .ok (.invokevirtual 234, 3) := by decide +kernel
theorem dX12_let_17 : decode cX12_let 17 = .ok (.ifCond .eq 14, 3) := by decide +kernel
theorem dX12_let_20 : decode cX12_let 20 = .ok (.aload_n 0, 1) := by decide +kernel
theorem dX12_let_21 : decode cX12_let 21 = .ok (.aload_n 0, 1) := by decide +kernel
theorem dX12_let_22 : decode cX12_let 22 = .ok (.getfield 91, 3) := by decide +kernel
theorem dX12_let_25 : decode cX12_let 25 = .ok (.invokevirtual 204, 3) := by decide +kernel
theorem dX12_let_28 : decode cX12_let 28 = .ok (.ifCond .ne 5, 3) := by decide +kernel
theorem dX12_let_31 : decode cX12_let 31 = .ok (.aconst_null, 1) := by decide +kernel
theorem dX12_let_32 : decode cX12_let 32 = .ok (.areturn, 1) := by decide +kernel
theorem dX12_let_33 : decode cX12_let 33 = .ok (.iconst 5, 1) := by decide +kernel
theorem dX12_let_34 : decode cX12_let 34 = .ok (.newarray .long, 2) := by decide +kernel
theorem dX12_let_36 : decode cX12_let 36 = .ok (.astore_n 2, 1) := by decide +kernel
theorem dX12_let_37 : decode cX12_let 37 = .ok (.bipush 6, 2) := by decide +kernel
theorem dX12_let_39 : decode cX12_let 39 = .ok (.anewarray 34, 3) := by decide +kernel
theorem dX12_let_42 : decode cX12_let 42 = .ok (.astore_n 3, 1) := by decide +kernel
theorem dX12_let_43 : decode cX12_let 43 = .ok (.iconst 0, 1) := by decide +kernel
theorem dX12_let_44 : decode cX12_let 44 = .ok (.istore 4, 2) := by decide +kernel
theorem dX12_let_46 : decode cX12_let 46 = .ok (.aload_n 0, 1) := by decide +kernel
theorem dX12_let_47 : decode cX12_let 47 = .ok (.invokevirtual 150, 3) := by decide +kernel
theorem dX12_let_50 : decode cX12_let 50 = .ok (.aload_n 0, 1) := by decide +kernel
theorem dX12_let_51 : decode cX12_let 51 = .ok (.getfield 97, 3) := by decide +kernel
theorem dX12_let_54 : decode cX12_let 54 = .ok (.iconst 1, 1) := by decide +kernel
theorem dX12_let_55 : decode cX12_let 55 = .ok (.if_icmp .eq 13, 3) := by decide +kernel
theorem dX12_let_58 : decode cX12_let 58 = .ok (.aload_n 0, 1) := by decide +kernel
theorem dX12_let_59 : decode cX12_let 59 = .ok (.iconst 1, 1) := by decide +kernel
theorem dX12_let_60 : decode cX12_let 60 = .ok (.aload_n 0, 1) := by decide +kernel
theorem dX12_let_61 : decode cX12_let 61 = .ok (.getfield 91, 3) := by decide +kernel
theorem dX12_let_64 : decode cX12_let 64 = .ok (.invokevirtual 140, 3) := by decide +kernel
theorem dX12_let_67 : decode cX12_let 67 = .ok (.areturn, 1) := by decide +kernel
theorem dX12_let_68 : decode cX12_let 68 = .ok (.iconst 0, 1) := by decide +kernel
theorem dX12_let_69 : decode cX12_let 69 = .ok (.istore 5, 2) := by decide +kernel
theorem dX12_let_71 : decode cX12_let 71 = .ok (.iload 5, 2) := by decide +kernel
theorem dX12_let_73 : decode cX12_let 73 = .ok (.iload 4, 2) := by decide +kernel
theorem dX12_let_75 : decode cX12_let 75 = .ok (.if_icmp .ge 31, 3) := by decide +kernel
theorem dX12_let_78 : decode cX12_let 78 = .ok (.aload_n 2, 1) := by decide +kernel
theorem dX12_let_79 : decode cX12_let 79 = .ok (.iload 5, 2) := by decide +kernel
theorem dX12_let_81 : decode cX12_let 81 = .ok (.laload, 1) := by decide +kernel
theorem dX12_let_82 : decode cX12_let 82 = .ok (.aload_n 0, 1) := by decide +kernel
theorem dX12_let_83 : decode cX12_let 83 = .ok (.getfield 84, 3) := by decide +kernel
theorem dX12_let_86 : decode cX12_let 86 = .ok (.lcmp, 1) := by decide +kernel
theorem dX12_let_87 : decode cX12_let 87 = .ok (.ifCond .ne 13, 3) := by decide +kernel
theorem dX12_let_90 : decode cX12_let 90 = .ok (.aload_n 0, 1) := by decide +kernel
theorem dX12_let_91 : decode cX12_let 91 = .ok (.iconst 2, 1) := by decide +kernel
theorem dX12_let_92 : decode cX12_let 92 = .ok (.aload_n 0, 1) := by decide +kernel
theorem dX12_let_93 : decode cX12_let 93 = .ok (.getfield 91, 3) := by decide +kernel
theorem dX12_let_96 : decode cX12_let 96 = .ok (.invokevirtual 140, 3) := by decide +kernel
theorem dX12_let_99 : decode cX12_let 99 = .ok (.pop, 1) := by decide +kernel
theorem dX12_let_100 : decode cX12_let 100 = .ok (.iinc 5 1, 3) := by decide +kernel
theorem dX12_let_103 : decode cX12_let 103 = .ok (.goto (-32), 3) := by decide +kernel
theorem dX12_let_106 : decode cX12_let 106 = .ok (.iload 4, 2) := by decide +kernel
theorem dX12_let_108 : decode cX12_let 108 = .ok (.iconst 5, 1) := by decide +kernel
theorem dX12_let_109 : decode cX12_let 109 = .ok (.if_icmp .ne 13, 3) := by decide +kernel
theorem dX12_let_112 : decode cX12_let 112 = .ok (.aload_n 0, 1) := by decide +kernel
theorem dX12_let_113 : decode cX12_let 113 = .ok (.iconst 4, 1) := by decide +kernel
theorem dX12_let_114 : decode cX12_let 114 = .ok (.aload_n 0, 1) := by decide +kernel
theorem dX12_let_115 : decode cX12_let 115 = .ok (.getfield 91, 3) := by decide +kernel
theorem dX12_let_118 : decode cX12_let 118 = .ok (.invokevirtual 140, 3) := by decide +kernel
theorem dX12_let_121 : decode cX12_let 121 = .ok (.pop, 1) := by decide +kernel
theorem dX12_let_122 : decode cX12_let 122 = .ok (.aload_n 0, 1) := by decide +kernel
theorem dX12_let_123 : decode cX12_let 123 = .ok (.invokevirtual 147, 3) := by decide +kernel
theorem dX12_let_126 : decode cX12_let 126 = .ok (.ifCond .ne 5, 3) := by decide +kernel
theorem dX12_let_129 : decode cX12_let 129 = .ok (.aconst_null, 1) := by decide +kernel
theorem dX12_let_130 : decode cX12_let 130 = .ok (.areturn, 1) := by decide +kernel
theorem dX12_let_131 : decode cX12_let 131 = .ok (.aload_n 0, 1) := by decide +kernel
theorem dX12_let_132 : decode cX12_let 132 = .ok (.getfield 91, 3) := by decide +kernel
theorem dX12_let_135 : decode cX12_let 135 = .ok (.istore 5, 2) := by decide +kernel
theorem dX12_let_137 : decode cX12_let 137 = .ok (.aload_n 2, 1) := by decide +kernel
theorem dX12_let_138 : decode cX12_let 138 = .ok (.iload 4, 2) := by decide +kernel
theorem dX12_let_140 : decode cX12_let 140 = .ok (.aload_n 0, 1) := by decide +kernel
theorem dX12_let_141 : decode cX12_let 141 = .ok (.getfield 84, 3) := by decide +kernel
theorem dX12_let_144 : decode cX12_let 144 = .ok (.lastore, 1) := by decide +kernel
theorem dX12_let_145 : decode cX12_let 145 = .ok (.aload_n 0, 1) := by decide +kernel
theorem dX12_let_146 : decode cX12_let 146 = .ok (.invokevirtual 150, 3) := by decide +kernel
theorem dX12_let_149 : decode cX12_let 149 = .ok (.aload_n 0, 1) := by decide +kernel
theorem dX12_let_150 : decode cX12_let 150 = .ok (.iconst 0, 1) := by decide +kernel
theorem dX12_let_151 : decode cX12_let 151 = .ok (.iconst 1, 1) := by decide +kernel
theorem dX12_let_152 : decode cX12_let 152 = .ok (.invokevirtual 194, 3) := by decide +kernel
theorem dX12_let_155 : decode cX12_let 155 = .ok (.astore 6, 2) := by decide +kernel
theorem dX12_let_157 : decode cX12_let 157 = .ok (.aload_n 0, 1) := by decide +kernel
theorem dX12_let_158 : decode cX12_let 158 = .ok (.ldc 198, 2) := by decide +kernel
theorem dX12_let_160 : decode cX12_let 160 = .ok (.invokevirtual 188, 3) := by decide +kernel
theorem dX12_let_163 : decode cX12_let 163 = .ok (.ifCond .ne 5, 3) := by decide +kernel
theorem dX12_let_166 : decode cX12_let 166 = .ok (.aconst_null, 1) := by decide +kernel
theorem dX12_let_167 : decode cX12_let 167 = .ok (.areturn, 1) := by decide +kernel
theorem dX12_let_168 : decode cX12_let 168 = .ok (.aload_n 3, 1) := by decide +kernel
theorem dX12_let_169 : decode cX12_let 169 = .ok (.iload 4, 2) := by decide +kernel
theorem dX12_let_171 : decode cX12_let 171 = .ok (.aload_n 0, 1) := by decide +kernel
theorem dX12_let_172 : decode cX12_let 172 = .ok (.invokevirtual 200, 3) := by decide +kernel
theorem dX12_let_175 : decode cX12_let 175 = .ok (.aastore, 1) := by decide +kernel
theorem dX12_let_176 : decode cX12_let 176 = .ok (.aload_n 3, 1) := by decide +kernel
theorem dX12_let_177 : decode cX12_let 177 = .ok (.iload 4, 2) := by decide +kernel
theorem dX12_let_179 : decode cX12_let 179 = .ok (.aaload, 1) := by decide +kernel
theorem dX12_let_180 : decode cX12_let 180 = .ok (.ifnonnull 5, 3) := by decide +kernel
theorem dX12_let_183 : decode cX12_let 183 = .ok (.aconst_null, 1) := by decide +kernel
theorem dX12_let_184 : decode cX12_let 184 = .ok (.areturn, 1) := by decide +kernel
theorem dX12_let_185 : decode cX12_let 185 = .ok (.aload 6, 2) := by decide +kernel
theorem dX12_let_187 : decode cX12_let 187 = .ok (.arraylength, 1) := by decide +kernel
theorem dX12_let_188 : decode cX12_let 188 = .ok (.ifCond .le 18, 3) := by decide +kernel
theorem dX12_let_191 : decode cX12_let 191 = .ok (.aload_n 3, 1) := by decide +kernel
theorem dX12_let_192 : decode cX12_let 192 = .ok (.iload 4, 2) := by decide +kernel
theorem dX12_let_194 : decode cX12_let 194 = .ok (.aload 6, 2) := by decide +kernel
theorem dX12_let_196 : decode cX12_let 196 = .ok (.aload_n 3, 1) := by decide +kernel
theorem dX12_let_197 : decode cX12_let 197 = .ok (.iload 4, 2) := by decide +kernel
theorem dX12_let_199 : decode cX12_let 199 = .ok (.aaload, 1) := by decide +kernel
theorem dX12_let_200 : decode cX12_let 200 = .ok (.iload 5, 2) := by decide +kernel
theorem dX12_let_202 : decode cX12_let 202 = .ok (.invokestatic 243, 3) := by decide +kernel
theorem dX12_let_205 : decode cX12_let 205 = .ok (.aastore, 1) := by decide +kernel
theorem dX12_let_206 : decode cX12_let 206 = .ok (.iinc 4 1, 3) := by decide +kernel
theorem dX12_let_209 : decode cX12_let 209 = .ok (.aload_n 0, 1) := by decide +kernel
theorem dX12_let_210 : decode cX12_let 210 = .ok (.ldc 246, 2) := by decide +kernel
theorem dX12_let_212 : decode cX12_let 212 = .ok (.invokevirtual 153, 3) := by decide +kernel
theorem dX12_let_215 : decode cX12_let 215 = .ok (.ifCond .ne (-169), 3) := by decide +kernel
theorem dX12_let_218 : decode cX12_let 218 = .ok (.aload_n 0, 1) := by decide +kernel
theorem dX12_let_219 : decode cX12_let 219 = .ok (.ldc 248, 2) := by decide +kernel
theorem dX12_let_221 : decode cX12_let 221 = .ok (.invokevirtual 250, 3) := by decide +kernel
theorem dX12_let_224 : decode cX12_let 224 = .ok (.ifCond .ne 5, 3) := by decide +kernel
theorem dX12_let_227 : decode cX12_let 227 = .ok (.aconst_null, 1) := by decide +kernel
theorem dX12_let_228 : decode cX12_let 228 = .ok (.areturn, 1) := by decide +kernel
theorem dX12_let_229 : decode cX12_let 229 = .ok (.aload_n 3, 1) := by decide +kernel
theorem dX12_let_230 : decode cX12_let 230 = .ok (.iload 4, 2) := by decide +kernel
theorem dX12_let_232 : decode cX12_let 232 = .ok (.aload_n 0, 1) := by decide +kernel
theorem dX12_let_233 : decode cX12_let 233 = .ok (.invokevirtual 200, 3) := by decide +kernel
theorem dX12_let_236 : decode cX12_let 236 = .ok (.aastore, 1) := by decide +kernel
theorem dX12_let_237 : decode cX12_let 237 = .ok (.aload_n 0, 1) := by decide +kernel
theorem dX12_let_238 : decode cX12_let 238 = .ok (.dup, 1) := by decide +kernel
theorem dX12_let_239 : decode cX12_let 239 = .ok (.getfield 164, 3) := by decide +kernel
theorem dX12_let_242 : decode cX12_let 242 = .ok (.iconst 1, 1) := by decide +kernel
theorem dX12_let_243 : decode cX12_let 243 = .ok (.isub, 1) := by decide +kernel
theorem dX12_let_244 : decode cX12_let 244 = .ok (.putfield 164, 3) := by decide +kernel
theorem dX12_let_247 : decode cX12_let 247 = .ok (.aload_n 3, 1) := by decide +kernel
theorem dX12_let_248 : decode cX12_let 248 = .ok (.iload 4, 2) := by decide +kernel
theorem dX12_let_250 : decode cX12_let 250 = .ok (.aaload, 1) := by decide +kernel
theorem dX12_let_251 : decode cX12_let 251 = .ok (.ifnonnull 5, 3) := by decide +kernel
theorem dX12_let_254 : decode cX12_let 254 = .ok (.aconst_null, 1) := by decide +kernel
theorem dX12_let_255 : decode cX12_let 255 = .ok (.areturn, 1) := by decide +kernel
theorem dX12_let_256 : decode cX12_let 256 = .ok (.aload_n 1, 1) := by decide +kernel
theorem dX12_let_257 : decode cX12_let 257 = .ok (.iload 4, 2) := by decide +kernel
theorem dX12_let_259 : decode cX12_let 259 = .ok (.newarray .long, 2) := by decide +kernel
theorem dX12_let_261 : decode cX12_let 261 = .ok (.putfield 237, 3) := by decide +kernel
theorem dX12_let_264 : decode cX12_let 264 = .ok (.aload_n 2, 1) := by decide +kernel
theorem dX12_let_265 : decode cX12_let 265 = .ok (.iconst 0, 1) := by decide +kernel
theorem dX12_let_266 : decode cX12_let 266 = .ok (.aload_n 1, 1) := by decide +kernel
theorem dX12_let_267 : decode cX12_let 267 = .ok (.getfield 237, 3) := by decide +kernel
theorem dX12_let_270 : decode cX12_let 270 = .ok (.iconst 0, 1) := by decide +kernel
theorem dX12_let_271 : decode cX12_let 271 = .ok (.iload 4, 2) := by decide +kernel
theorem dX12_let_273 : decode cX12_let 273 = .ok (.invokestatic 208, 3) := by decide +kernel
theorem dX12_let_276 : decode cX12_let 276 = .ok (.aload_n 1, 1) := by decide +kernel
theorem dX12_let_277 : decode cX12_let 277 = .ok (.iload 4, 2) := by decide +kernel
theorem dX12_let_279 : decode cX12_let 279 = .ok (.iconst 1, 1) := by decide +kernel
theorem dX12_let_280 : decode cX12_let 280 = .ok (.iadd, 1) := by decide +kernel
theorem dX12_let_281 : decode cX12_let 281 = .ok (.anewarray 34, 3) := by decide +kernel
theorem dX12_let_284 : decode cX12_let 284 = .ok (.putfield 240, 3) := by decide +kernel
theorem dX12_let_287 : decode cX12_let 287 = .ok (.aload_n 3, 1) := by decide +kernel
theorem dX12_let_288 : decode cX12_let 288 = .ok (.iconst 0, 1) := by decide +kernel
theorem dX12_let_289 : decode cX12_let 289 = .ok (.aload_n 1, 1) := by decide +kernel
theorem dX12_let_290 : decode cX12_let 290 = .ok (.getfield 240, 3) := by decide +kernel
theorem dX12_let_293 : decode cX12_let 293 = .ok (.iconst 0, 1) := by decide +kernel
theorem dX12_let_294 : decode cX12_let 294 = .ok (.iload 4, 2) := by decide +kernel
theorem dX12_let_296 : decode cX12_let 296 = .ok (.iconst 1, 1) := by decide +kernel
theorem dX12_let_297 : decode cX12_let 297 = .ok (.iadd, 1) := by decide +kernel
theorem dX12_let_298 : decode cX12_let 298 = .ok (.invokestatic 208, 3) := by decide +kernel
theorem dX12_let_301 : decode cX12_let 301 = .ok (.aload_n 1, 1) := by decide +kernel
theorem dX12_let_302 : decode cX12_let 302 = .ok (.areturn, 1) := by decide +kernel
theorem mw_X12_let : MW yX12_let (Cond.code yX12_let cX12_let 7 (Option.some (Jvm.ClassFile.FieldType.object "LazyForge$Raw"))) cX12_let 7 (Option.some (Jvm.ClassFile.FieldType.object "LazyForge$Raw")) 0 := ⟨rfl, ⟨(lw_all_tbl q890), rfl, (lw_all_tbl q180)⟩, rfl, ⟨by decide, by decide⟩, by decide +kernel⟩
theorem dX12_lambda_0 : decode cX12_lambda 0 = .ok (.new 34, 3) := by decide +kernel
theorem dX12_lambda_3 : decode cX12_lambda 3 = .ok (.dup, 1) := by decide +kernel
theorem dX12_lambda_4 : decode cX12_lambda 4 = .ok (.iconst 1, 1) := by decide +kernel
theorem dX12_lambda_5 : decode cX12_lambda 5 = .ok (.aload_n 0, 1) := by decide +kernel
theorem dX12_lambda_6 : decode cX12_lambda 6 = .ok (.getfield 91, 3) := by decide +kernel
theorem dX12_lambda_9 : decode cX12_lambda 9 = .ok (.invokespecial 231, 3) := by decide +kernel
theorem dX12_lambda_12 : decode cX12_lambda 12 = .ok (.astore_n 1, 1) := by decide +kernel
theorem dX12_lambda_13 : decode cX12_lambda 13 = .ok (.aload_n 0, 1) := by decide +kernel
theorem dX12_lambda_14 : decode cX12_lambda 14 = .ok (.invokevirtual 234, 3) := by decide +kernel
theorem dX12_lambda_17 : decode cX12_lambda 17 = .ok (.ifCond .eq 14, 3) := by decide +kernel
theorem dX12_lambda_20 : decode cX12_lambda 20 = .ok (.aload_n 0, 1) := by decide +kernel
theorem dX12_lambda_21 : decode cX12_lambda 21 = .ok (.aload_n 0, 1) := by decide +kernel
theorem dX12_lambda_22 : decode cX12_lambda 22 = .ok (.getfield 91, 3) := by decide +kernel
theorem dX12_lambda_25 : decode cX12_lambda 25 = .ok (.invokevirtual 204, 3) := by decide +kernel
theorem dX12_lambda_28 : decode cX12_lambda 28 = .ok (.ifCond .ne 5, 3) := by decide +kernel
theorem dX12_lambda_31 : decode cX12_lambda 31 = .ok (.aconst_null, 1) := by decide +kernel
theorem dX12_lambda_32 : decode cX12_lambda 32 = .ok (.areturn, 1) := by decide +kernel
theorem dX12_lambda_33 : decode cX12_lambda 33 = .ok (.aload_n 0, 1) := by decide +kernel
theorem dX12_lambda_34 : decode cX12_lambda 34 = .ok (.invokevirtual 150, 3) := by decide +kernel
theorem dX12_lambda_37 : decode cX12_lambda 37 = .ok (.aload_n 1, 1) := by decide +kernel
theorem dX12_lambda_38 : decode cX12_lambda 38 = .ok (.aload_n 0, 1) := by decide +kernel
theorem dX12_lambda_39 : decode cX12_lambda 39 = .ok (.iconst 1, 1) := by decide +kernel
theorem dX12_lambda_40 : decode cX12_lambda 40 = .ok (.iconst 0, 1) := by decide +kernel
theorem dX12_lambda_41 : decode cX12_lambda 41 = .ok (.invokevirtual 194, 3) := by decide +kernel
theorem dX12_lambda_44 : decode cX12_lambda 44 = .ok (.putfield 237, 3) := by decide +kernel
theorem dX12_lambda_47 : decode cX12_lambda 47 = .ok (.aload_n 0, 1) := by decide +kernel
theorem dX12_lambda_48 : decode cX12_lambda 48 = .ok (.ldc 238, 2) := by decide +kernel
theorem dX12_lambda_50 : decode cX12_lambda 50 = .ok (.invokevirtual 188, 3) := by decide +kernel
theorem dX12_lambda_53 : decode cX12_lambda 53 = .ok (.ifCond .ne 5, 3) := by decide +kernel
theorem dX12_lambda_56 : decode cX12_lambda 56 = .ok (.aconst_null, 1) := by decide +kernel
theorem dX12_lambda_57 : decode cX12_lambda 57 = .ok (.areturn, 1) := by decide +kernel
theorem dX12_lambda_58 : decode cX12_lambda 58 = .ok (.aload_n 0, 1) := by decide +kernel
theorem dX12_lambda_59 : decode cX12_lambda 59 = .ok (.invokevirtual 200, 3) := by decide +kernel
theorem dX12_lambda_62 : decode cX12_lambda 62 = .ok (.astore_n 2, 1) := by decide +kernel
theorem dX12_lambda_63 : decode cX12_lambda 63 = .ok (.aload_n 0, 1) := by decide +kernel
theorem dX12_lambda_64 : decode cX12_lambda 64 = .ok (.dup, 1) := by decide +kernel
theorem dX12_lambda_65 : decode cX12_lambda 65 = .ok (.getfield 164, 3) := by decide +kernel
theorem dX12_lambda_68 : decode cX12_lambda 68 = .ok (.iconst 1, 1) := by decide +kernel
theorem dX12_lambda_69 : decode cX12_lambda 69 = .ok (.isub, 1) := by decide +kernel
theorem dX12_lambda_70 : decode cX12_lambda 70 = .ok (.putfield 164, 3) := by decide +kernel
theorem dX12_lambda_73 : decode cX12_lambda 73 = .ok (.aload_n 2, 1) := by decide +kernel
theorem dX12_lambda_74 : decode cX12_lambda 74 = .ok (.ifnonnull 5, 3) := by decide +kernel
theorem dX12_lambda_77 : decode cX12_lambda 77 = .ok (.aconst_null, 1) := by decide +kernel
theorem dX12_lambda_78 : decode cX12_lambda 78 = .ok (.areturn, 1) := by decide +kernel
theorem dX12_lambda_79 : decode cX12_lambda 79 = .ok (.aload_n 1, 1) := by decide +kernel
theorem dX12_lambda_80 : decode cX12_lambda 80 = .ok (.iconst 1, 1) := by decide +kernel
theorem dX12_lambda_81 : decode cX12_lambda 81 = .ok (.anewarray 34, 3) := by decide +kernel
theorem dX12_lambda_84 : decode cX12_lambda 84 = .ok (.dup, 1) := by decide +kernel
theorem dX12_lambda_85 : decode cX12_lambda 85 = .ok (.iconst 0, 1) := by decide +kernel
theorem dX12_lambda_86 : decode cX12_lambda 86 = .ok (.aload_n 2, 1) := by decide +kernel
theorem dX12_lambda_87 : decode cX12_lambda 87 = .ok (.aastore, 1) := by decide +kernel
theorem dX12_lambda_88 : decode cX12_lambda 88 = .ok (.putfield 240, 3) := by decide +kernel
theorem dX12_lambda_91 : decode cX12_lambda 91 = .ok (.aload_n 1, 1) := by decide +kernel
theorem dX12_lambda_92 : decode cX12_lambda 92 = .ok (.areturn, 1) := by decide +kernel
theorem mw_X12_lambda : MW yX12_lambda (Cond.code yX12_lambda cX12_lambda 3 (Option.some (Jvm.ClassFile.FieldType.object "LazyForge$Raw"))) cX12_lambda 3 (Option.some (Jvm.ClassFile.FieldType.object "LazyForge$Raw")) 0 := ⟨rfl, ⟨(lw_all_tbl q969), rfl, (lw_all_tbl q180)⟩, rfl, ⟨by decide, by decide⟩, by decide +kernel⟩
theorem dX12_made_0 : decode cX12_made 0 = .ok (.new 34, 3) := by decide +kernel
theorem dX12_made_3 : decode cX12_made 3 = .ok (.dup, 1) := by decide +kernel
theorem dX12_made_4 : decode cX12_made 4 = .ok (.iconst 5, 1) := by decide +kernel
theorem dX12_made_5 : decode cX12_made 5 = .ok (.aload_n 0, 1) := by decide +kernel
theorem dX12_made_6 : decode cX12_made 6 = .ok (.getfield 91, 3) := by decide +kernel
theorem dX12_made_9 : decode cX12_made 9 = .ok (.invokespecial 231, 3) := by decide +kernel
theorem dX12_made_12 : decode cX12_made 12 = .ok (.astore_n 2, 1) := by decide +kernel
theorem dX12_made_13 : decode cX12_made 13 = .ok (.aload_n 2, 1) := by decide +kernel
theorem dX12_made_14 : decode cX12_made 14 = .ok (.iload_n 1, 1) := by decide +kernel
theorem dX12_made_15 : decode cX12_made 15 = .ok (.putfield 277, 3) := by decide +kernel
theorem dX12_made_18 : decode cX12_made 18 = .ok (.aload_n 0, 1) := by decide +kernel
theorem dX12_made_19 : decode cX12_made 19 = .ok (.invokevirtual 150, 3) := by decide +kernel
theorem dX12_made_22 : decode cX12_made 22 = .ok (.aload_n 2, 1) := by decide +kernel
theorem dX12_made_23 : decode cX12_made 23 = .ok (.aload_n 0, 1) := by decide +kernel
theorem dX12_made_24 : decode cX12_made 24 = .ok (.getfield 19, 3) := by decide +kernel
theorem dX12_made_27 : decode cX12_made 27 = .ok (.iload_n 1, 1) := by decide +kernel
theorem dX12_made_28 : decode cX12_made 28 = .ok (.iaload, 1) := by decide +kernel
theorem dX12_made_29 : decode cX12_made 29 = .ok (.anewarray 34, 3) := by decide +kernel
theorem dX12_made_32 : decode cX12_made 32 = .ok (.putfield 240, 3) := by decide +kernel
theorem dX12_made_35 : decode cX12_made 35 = .ok (.iconst 0, 1) := by decide +kernel
theorem dX12_made_36 : decode cX12_made 36 = .ok (.istore_n 3, 1) := by decide +kernel
theorem dX12_made_37 : decode cX12_made 37 = .ok (.iload_n 3, 1) := by decide +kernel
theorem dX12_made_38 : decode cX12_made 38 = .ok (.aload_n 2, 1) := by decide +kernel
theorem dX12_made_39 : decode cX12_made 39 = .ok (.getfield 240, 3) := by decide +kernel
theorem dX12_made_42 : decode cX12_made 42 = .ok (.arraylength, 1) := by decide +kernel
theorem dX12_made_43 : decode cX12_made 43 = .ok (.if_icmp .ge 61, 3) := by decide +kernel
theorem dX12_made_46 : decode cX12_made 46 = .ok (.iload_n 3, 1) := by decide +kernel
theorem dX12_made_47 : decode cX12_made 47 = .ok (.ifCond .ne 30, 3) := by decide +kernel
theorem dX12_made_50 : decode cX12_made 50 = .ok (.aload_n 0, 1) := by decide +kernel
theorem dX12_made_51 : decode cX12_made 51 = .ok (.invokevirtual 319, 3) := by decide +kernel
theorem dX12_made_54 : decode cX12_made 54 = .ok (.ifCond .eq 23, 3) := by decide +kernel
theorem dX12_made_57 : decode cX12_made 57 = .ok (.aload_n 0, 1) := by decide +kernel
theorem dX12_made_58 : decode cX12_made 58 = .ok (.invokevirtual 323, 3) := by decide +kernel
theorem dX12_made_61 : decode cX12_made 61 = .ok (.ifCond .eq 14, 3) := by decide +kernel
theorem dX12_made_64 : decode cX12_made 64 = .ok (.aload_n 0, 1) := by decide +kernel
theorem dX12_made_65 : decode cX12_made 65 = .ok (.aload_n 0, 1) := by decide +kernel
theorem dX12_made_66 : decode cX12_made 66 = .ok (.getfield 91, 3) := by decide +kernel
theorem dX12_made_69 : decode cX12_made 69 = .ok (.invokevirtual 204, 3) := by decide +kernel
theorem dX12_made_72 : decode cX12_made 72 = .ok (.ifCond .ne 5, 3) := by decide +kernel
theorem dX12_made_75 : decode cX12_made 75 = .ok (.aconst_null, 1) := by decide +kernel
theorem dX12_made_76 : decode cX12_made 76 = .ok (.areturn, 1) := by decide +kernel
theorem dX12_made_77 : decode cX12_made 77 = .ok (.aload_n 2, 1) := by decide +kernel
theorem dX12_made_78 : decode cX12_made 78 = .ok (.getfield 240, 3) := by decide +kernel
theorem dX12_made_81 : decode cX12_made 81 = .ok (.iload_n 3, 1) := by decide +kernel
theorem dX12_made_82 : decode cX12_made 82 = .ok (.aload_n 0, 1) := by decide +kernel
theorem dX12_made_83 : decode cX12_made 83 = .ok (.invokevirtual 316, 3) := by decide +kernel
theorem dX12_made_86 : decode cX12_made 86 = .ok (.aastore, 1) := by decide +kernel
theorem dX12_made_87 : decode cX12_made 87 = .ok (.aload_n 2, 1) := by decide +kernel
theorem dX12_made_88 : decode cX12_made 88 = .ok (.getfield 240, 3) := by decide +kernel
theorem dX12_made_91 : decode cX12_made 91 = .ok (.iload_n 3, 1) := by decide +kernel
theorem dX12_made_92 : decode cX12_made 92 = .ok (.aaload, 1) := by decide +kernel
theorem dX12_made_93 : decode cX12_made 93 = .ok (.ifnonnull 5, 3) := by decide +kernel
theorem dX12_made_96 : decode cX12_made 96 = .ok (.aconst_null, 1) := by decide +kernel
theorem dX12_made_97 : decode cX12_made 97 = .ok (.areturn, 1) := by decide +kernel
theorem dX12_made_98 : decode cX12_made 98 = .ok (.iinc 3 1, 3) := by decide +kernel
theorem dX12_made_101 : decode cX12_made 101 = .ok (.goto (-64), 3) := by decide +kernel
theorem dX12_made_104 : decode cX12_made 104 = .ok (.aload_n 2, 1) := by decide +kernel
theorem dX12_made_105 : decode cX12_made 105 = .ok (.areturn, 1) := by decide +kernel
theorem mw_X12_made : MW yX12_made (Cond.code yX12_made cX12_made 4 (Option.some (Jvm.ClassFile.FieldType.object "LazyForge$Raw"))) cX12_made 4 (Option.some (Jvm.ClassFile.FieldType.object "LazyForge$Raw")) 1 := ⟨rfl, ⟨(lw_all_tbl q990), rfl, (lw_all_tbl q180)⟩, rfl, ⟨by decide, by decide⟩, by decide +kernel⟩
theorem dX12_application_0 : decode cX12_application 0 = .ok (.aload_n 0, 1) := by decide +kernel
theorem dX12_application_1 : decode cX12_application 1 = .ok (.getfield 97, 3) := by decide +kernel
theorem dX12_application_4 : decode cX12_application 4 = .ok (.iconst 2, 1) := by decide +kernel
theorem dX12_application_5 : decode cX12_application 5 = .ok (.if_icmp .ne 42, 3) := by decide +kernel
theorem dX12_application_8 : decode cX12_application 8 = .ok (.aload_n 0, 1) := by decide +kernel
theorem dX12_application_9 : decode cX12_application 9 = .ok (.aload_n 0, 1) := by decide +kernel
theorem dX12_application_10 : decode cX12_application 10 = .ok (.getfield 84, 3) := by decide +kernel
theorem dX12_application_13 : decode cX12_application 13 = .ok (.invokevirtual 180, 3) := by decide +kernel
theorem dX12_application_16 : decode cX12_application 16 = .ok (.istore_n 1, 1) := by decide +kernel
theorem dX12_application_17 : decode cX12_application 17 = .ok (.iload_n 1, 1) := by decide +kernel
theorem dX12_application_18 : decode cX12_application 18 = .ok (.iconst (-1), 1) := by decide +kernel
theorem dX12_application_19 : decode cX12_application 19 = .ok (.if_icmp .ne 13, 3) := by decide +kernel
theorem dX12_application_22 : decode cX12_application 22 = .ok (.aload_n 0, 1) := by decide +kernel
theorem dX12_application_23 : decode cX12_application 23 = .ok (.iconst 3, 1) := by decide +kernel
theorem dX12_application_24 : decode cX12_application 24 = .ok (.aload_n 0, 1) := by decide +kernel
theorem dX12_application_25 : decode cX12_application 25 = .ok (.getfield 91, 3) := by decide +kernel
theorem dX12_application_28 : decode cX12_application 28 = .ok (.invokevirtual 140, 3) := by decide +kernel
theorem dX12_application_31 : decode cX12_application 31 = .ok (.areturn, 1) := by decide +kernel
theorem dX12_application_32 : decode cX12_application 32 = .ok (.aload_n 0, 1) := by decide +kernel
theorem dX12_application_33 : decode cX12_application 33 = .ok (.getfield 19, 3) := by decide +kernel
theorem dX12_application_36 : decode cX12_application 36 = .ok (.iload_n 1, 1) := by decide +kernel
theorem dX12_application_37 : decode cX12_application 37 = .ok (.iaload, 1) := by decide +kernel
theorem dX12_application_38 : decode cX12_application 38 = .ok (.ifCond .le 9, 3) := by decide +kernel
theorem dX12_application_41 : decode cX12_application 41 = .ok (.aload_n 0, 1) := by decide +kernel
theorem dX12_application_42 : decode cX12_application 42 = .ok (.iload_n 1, 1) := by decide +kernel
theorem dX12_application_43 : decode cX12_application 43 = .ok (.invokevirtual 312, 3) := by decide +kernel
theorem dX12_application_46 : decode cX12_application 46 = .ok (.areturn, 1) := by decide +kernel
theorem dX12_application_47 : decode cX12_application 47 = .ok (.aload_n 0, 1) := by decide +kernel
theorem dX12_application_48 : decode cX12_application 48 = .ok (.invokevirtual 316, 3) := by decide +kernel
theorem dX12_application_51 : decode cX12_application 51 = .ok (.astore_n 1, 1) := by decide +kernel
theorem dX12_application_52 : decode cX12_application 52 = .ok (.aload_n 1, 1) := by decide +kernel
theorem dX12_application_53 : decode cX12_application 53 = .ok (.ifnull 10, 3) := by decide +kernel
theorem dX12_application_56 : decode cX12_application 56 = .ok (.aload_n 0, 1) := by decide +kernel
theorem dX12_application_57 : decode cX12_application 57 = .ok (.invokevirtual 319, 3) := by decide +kernel
theorem dX12_application_60 : decode cX12_application 60 = .ok (.ifCond .ne 5, 3) := by decide +kernel
theorem dX12_application_63 : decode cX12_application 63 = .ok (.aload_n 1, 1) := by decide +kernel
theorem dX12_application_64 : decode cX12_application 64 = .ok (.areturn, 1) := by decide +kernel
theorem dX12_application_65 : decode cX12_application 65 = .ok (.bipush 6, 2) := by decide +kernel
theorem dX12_application_67 : decode cX12_application 67 = .ok (.anewarray 34, 3) := by decide +kernel
theorem dX12_application_70 : decode cX12_application 70 = .ok (.astore_n 2, 1) := by decide +kernel
theorem dX12_application_71 : decode cX12_application 71 = .ok (.aload_n 2, 1) := by decide +kernel
theorem dX12_application_72 : decode cX12_application 72 = .ok (.iconst 0, 1) := by decide +kernel
theorem dX12_application_73 : decode cX12_application 73 = .ok (.aload_n 1, 1) := by decide +kernel
theorem dX12_application_74 : decode cX12_application 74 = .ok (.aastore, 1) := by decide +kernel
theorem dX12_application_75 : decode cX12_application 75 = .ok (.iconst 1, 1) := by decide +kernel
theorem dX12_application_76 : decode cX12_application 76 = .ok (.istore_n 3, 1) := by decide +kernel
theorem dX12_application_77 : decode cX12_application 77 = .ok (.new 34, 3) := by decide +kernel
theorem dX12_application_80 : decode cX12_application 80 = .ok (.dup, 1) := by decide +kernel
theorem dX12_application_81 : decode cX12_application 81 = .ok (.iconst 4, 1) := by decide +kernel
theorem dX12_application_82 : decode cX12_application 82 = .ok (.aload_n 1, 1) := by decide +kernel
theorem dX12_application_83 : decode cX12_application 83 = .ok (.getfield 322, 3) := by decide +kernel
theorem dX12_application_86 : decode cX12_application 86 = .ok (.invokespecial 231, 3) := by decide +kernel
theorem dX12_application_89 : decode cX12_application 89 = .ok (.astore 4, 2) := by decide +kernel
theorem dX12_application_91 : decode cX12_application 91 = .ok (.aload_n 0, 1) := by decide +kernel
theorem dX12_application_92 : decode cX12_application 92 = .ok (.invokevirtual 147, 3) := by decide +kernel
theorem dX12_application_95 : decode cX12_application 95 = .ok (.ifCond .eq 71, 3) := by decide +kernel
theorem dX12_application_98 : decode cX12_application 98 = .ok (.aload_n 0, 1) := by decide +kernel
theorem dX12_application_99 : decode cX12_application 99 = .ok (.invokevirtual 319, 3) := by decide +kernel
theorem dX12_application_102 : decode cX12_application 102 = .ok (.ifCond .eq 64, 3) := by decide +kernel
theorem dX12_application_105 : decode cX12_application 105 = .ok (.aload_n 0, 1) := by decide +kernel
theorem dX12_application_106 : decode cX12_application 106 = .ok (.invokevirtual 323, 3) := by decide +kernel
theorem dX12_application_109 : decode cX12_application 109 = .ok (.ifCond .eq 19, 3) := by decide +kernel
theorem dX12_application_112 : decode cX12_application 112 = .ok (.iload_n 3, 1) := by decide +kernel
theorem dX12_application_113 : decode cX12_application 113 = .ok (.iconst 1, 1) := by decide +kernel
theorem dX12_application_114 : decode cX12_application 114 = .ok (.if_icmp .ne 16, 3) := by decide +kernel
theorem dX12_application_117 : decode cX12_application 117 = .ok (.aload_n 0, 1) := by decide +kernel
theorem dX12_application_118 : decode cX12_application 118 = .ok (.aload_n 0, 1) := by decide +kernel
theorem dX12_application_119 : decode cX12_application 119 = .ok (.getfield 91, 3) := by decide +kernel
theorem dX12_application_122 : decode cX12_application 122 = .ok (.invokevirtual 204, 3) := by decide +kernel
theorem dX12_application_125 : decode cX12_application 125 = .ok (.ifCond .ne 5, 3) := by decide +kernel
theorem dX12_application_128 : decode cX12_application 128 = .ok (.aconst_null, 1) := by decide +kernel
theorem dX12_application_129 : decode cX12_application 129 = .ok (.areturn, 1) := by decide +kernel
theorem dX12_application_130 : decode cX12_application 130 = .ok (.iload_n 3, 1) := by decide +kernel
theorem dX12_application_131 : decode cX12_application 131 = .ok (.iconst 5, 1) := by decide +kernel
theorem dX12_application_132 : decode cX12_application 132 = .ok (.if_icmp .le 13, 3) := by decide +kernel
theorem dX12_application_135 : decode cX12_application 135 = .ok (.aload_n 0, 1) := by decide +kernel
theorem dX12_application_136 : decode cX12_application 136 = .ok (.iconst 4, 1) := by decide +kernel
theorem dX12_application_137 : decode cX12_application 137 = .ok (.aload_n 0, 1) := by decide +kernel
theorem dX12_application_138 : decode cX12_application 138 = .ok (.getfield 91, 3) := by decide +kernel
theorem dX12_application_141 : decode cX12_application 141 = .ok (.invokevirtual 140, 3) := by decide +kernel
theorem dX12_application_144 : decode cX12_application 144 = .ok (.areturn, 1) := by decide +kernel
theorem dX12_application_145 : decode cX12_application 145 = .ok (.aload_n 2, 1) := by decide +kernel
theorem dX12_application_146 : decode cX12_application 146 = .ok (.iload_n 3, 1) := by decide +kernel
theorem dX12_application_147 : decode cX12_application 147 = .ok (.aload_n 0, 1) := by decide +kernel
theorem dX12_application_148 : decode cX12_application 148 = .ok (.invokevirtual 316, 3) := by decide +kernel
theorem dX12_application_151 : decode cX12_application 151 = .ok (.aastore, 1) := by decide +kernel
theorem dX12_application_152 : decode cX12_application 152 = .ok (.aload_n 2, 1) := by decide +kernel
theorem dX12_application_153 : decode cX12_application 153 = .ok (.iload_n 3, 1) := by decide +kernel
theorem dX12_application_154 : decode cX12_application 154 = .ok (.aaload, 1) := by decide +kernel
theorem dX12_application_155 : decode cX12_application 155 = .ok (.ifnonnull 5, 3) := by decide +kernel
theorem dX12_application_158 : decode cX12_application 158 = .ok (.aconst_null, 1) := by decide +kernel
theorem dX12_application_159 : decode cX12_application 159 = .ok (.areturn, 1) := by decide +kernel
theorem dX12_application_160 : decode cX12_application 160 = .ok (.iinc 3 1, 3) := by decide +kernel
theorem dX12_application_163 : decode cX12_application 163 = .ok (.goto (-72), 3) := by decide +kernel
theorem dX12_application_166 : decode cX12_application 166 = .ok (.aload 4, 2) := by decide +kernel
theorem dX12_application_168 : decode cX12_application 168 = .ok (.iload_n 3, 1) := by decide +kernel
theorem dX12_application_169 : decode cX12_application 169 = .ok (.anewarray 34, 3) := by decide +kernel
theorem dX12_application_172 : decode cX12_application 172 = .ok (.putfield 240, 3) := by decide +kernel
theorem dX12_application_175 : decode cX12_application 175 = .ok (.aload_n 2, 1) := by decide +kernel
theorem dX12_application_176 : decode cX12_application 176 = .ok (.iconst 0, 1) := by decide +kernel
theorem dX12_application_177 : decode cX12_application 177 = .ok (.aload 4, 2) := by decide +kernel
theorem dX12_application_179 : decode cX12_application 179 = .ok (.getfield 240, 3) := by decide +kernel
theorem dX12_application_182 : decode cX12_application 182 = .ok (.iconst 0, 1) := by decide +kernel
theorem dX12_application_183 : decode cX12_application 183 = .ok (.iload_n 3, 1) := by decide +kernel
theorem dX12_application_184 : decode cX12_application 184 = .ok (.invokestatic 208, 3) := by decide +kernel
theorem dX12_application_187 : decode cX12_application 187 = .ok (.aload 4, 2) := by decide +kernel
theorem dX12_application_189 : decode cX12_application 189 = .ok (.areturn, 1) := by decide +kernel
theorem mw_X12_application : MW yX12_application (Cond.code yX12_application cX12_application 5 (Option.some (Jvm.ClassFile.FieldType.object "LazyForge$Raw"))) cX12_application 5 (Option.some (Jvm.ClassFile.FieldType.object "LazyForge$Raw")) 0 := ⟨rfl, ⟨(lw_all_tbl q986), rfl, (lw_all_tbl q180)⟩, rfl, ⟨by decide, by decide⟩, by decide +kernel⟩
theorem dX12_product_0 : decode cX12_product 0 = .ok (.aload_n 0, 1) := by decide +kernel
theorem dX12_product_1 : decode cX12_product 1 = .ok (.invokevirtual 300, 3) := by decide +kernel
theorem dX12_product_4 : decode cX12_product 4 = .ok (.astore_n 1, 1) := by decide +kernel
theorem dX12_product_5 : decode cX12_product 5 = .ok (.aload_n 1, 1) := by decide +kernel
theorem dX12_product_6 : decode cX12_product 6 = .ok (.ifnull 110, 3) := by decide +kernel
theorem dX12_product_9 : decode cX12_product 9 = .ok (.aload_n 0, 1) := by decide +kernel
theorem dX12_product_10 : decode cX12_product 10 = .ok (.ldc_w 303, 3) := by decide +kernel
theorem dX12_product_13 : decode cX12_product 13 = .ok (.invokevirtual 153, 3) := by decide +kernel
theorem dX12_product_16 : decode cX12_product 16 = .ok (.ifCond .ne 23, 3) := by decide +kernel
theorem dX12_product_19 : decode cX12_product 19 = .ok (.aload_n 0, 1) := by decide +kernel
theorem dX12_product_20 : decode cX12_product 20 = .ok (.ldc_w 305, 3) := by decide +kernel
theorem dX12_product_23 : decode cX12_product 23 = .ok (.invokevirtual 153, 3) := by decide +kernel
theorem dX12_product_26 : decode cX12_product 26 = .ok (.ifCond .ne 13, 3) := by decide +kernel
theorem dX12_product_29 : decode cX12_product 29 = .ok (.aload_n 0, 1) := by decide +kernel
theorem dX12_product_30 : decode cX12_product 30 = .ok (.ldc_w 307, 3) := by decide +kernel
theorem dX12_product_33 : decode cX12_product 33 = .ok (.invokevirtual 153, 3) := by decide +kernel
theorem dX12_product_36 : decode cX12_product 36 = .ok (.ifCond .eq 80, 3) := by decide +kernel
theorem dX12_product_39 : decode cX12_product 39 = .ok (.aload_n 0, 1) := by decide +kernel
theorem dX12_product_40 : decode cX12_product 40 = .ok (.ldc_w 303, 3) := by decide +kernel
theorem dX12_product_43 : decode cX12_product 43 = .ok (.invokevirtual 153, 3) := by decide +kernel
theorem dX12_product_46 : decode cX12_product 46 = .ok (.ifCond .eq 7, 3) := by decide +kernel
theorem dX12_product_49 : decode cX12_product 49 = .ok (.iconst 2, 1) := by decide +kernel
theorem dX12_product_50 : decode cX12_product 50 = .ok (.goto 18, 3) := by decide +kernel
theorem dX12_product_53 : decode cX12_product 53 = .ok (.aload_n 0, 1) := by decide +kernel
theorem dX12_product_54 : decode cX12_product 54 = .ok (.ldc_w 305, 3) := by decide +kernel
theorem dX12_product_57 : decode cX12_product 57 = .ok (.invokevirtual 153, 3) := by decide +kernel
theorem dX12_product_60 : decode cX12_product 60 = .ok (.ifCond .eq 7, 3) := by decide +kernel
theorem dX12_product_63 : decode cX12_product 63 = .ok (.iconst 3, 1) := by decide +kernel
theorem dX12_product_64 : decode cX12_product 64 = .ok (.goto 4, 3) := by decide +kernel
theorem dX12_product_67 : decode cX12_product 67 = .ok (.iconst 4, 1) := by decide +kernel
theorem dX12_product_68 : decode cX12_product 68 = .ok (.istore_n 2, 1) := by decide +kernel
theorem dX12_product_69 : decode cX12_product 69 = .ok (.aload_n 0, 1) := by decide +kernel
theorem dX12_product_70 : decode cX12_product 70 = .ok (.getfield 91, 3) := by decide +kernel
theorem dX12_product_73 : decode cX12_product 73 = .ok (.istore_n 3, 1) := by decide +kernel
theorem dX12_product_74 : decode cX12_product 74 = .ok (.aload_n 0, 1) := by decide +kernel
theorem dX12_product_75 : decode cX12_product 75 = .ok (.iload_n 3, 1) := by decide +kernel
theorem dX12_product_76 : decode cX12_product 76 = .ok (.invokevirtual 204, 3) := by decide +kernel
theorem dX12_product_79 : decode cX12_product 79 = .ok (.ifCond .ne 5, 3) := by decide +kernel
theorem dX12_product_82 : decode cX12_product 82 = .ok (.aconst_null, 1) := by decide +kernel
theorem dX12_product_83 : decode cX12_product 83 = .ok (.areturn, 1) := by decide +kernel
theorem dX12_product_84 : decode cX12_product 84 = .ok (.aload_n 0, 1) := by decide +kernel
theorem dX12_product_85 : decode cX12_product 85 = .ok (.invokevirtual 150, 3) := by decide +kernel
theorem dX12_product_88 : decode cX12_product 88 = .ok (.aload_n 0, 1) := by decide +kernel
theorem dX12_product_89 : decode cX12_product 89 = .ok (.invokevirtual 300, 3) := by decide +kernel
theorem dX12_product_92 : decode cX12_product 92 = .ok (.astore 4, 2) := by decide +kernel
theorem dX12_product_94 : decode cX12_product 94 = .ok (.aload 4, 2) := by decide +kernel
theorem dX12_product_96 : decode cX12_product 96 = .ok (.ifnonnull 7, 3) := by decide +kernel
theorem dX12_product_99 : decode cX12_product 99 = .ok (.aconst_null, 1) := by decide +kernel
theorem dX12_product_100 : decode cX12_product 100 = .ok (.goto 12, 3) := by decide +kernel
theorem dX12_product_103 : decode cX12_product 103 = .ok (.aload_n 0, 1) := by decide +kernel
theorem dX12_product_104 : decode cX12_product 104 = .ok (.iload_n 2, 1) := by decide +kernel
theorem dX12_product_105 : decode cX12_product 105 = .ok (.iload_n 3, 1) := by decide +kernel
theorem dX12_product_106 : decode cX12_product 106 = .ok (.aload_n 1, 1) := by decide +kernel
theorem dX12_product_107 : decode cX12_product 107 = .ok (.aload 4, 2) := by decide +kernel
theorem dX12_product_109 : decode cX12_product 109 = .ok (.invokevirtual 289, 3) := by decide +kernel
theorem dX12_product_112 : decode cX12_product 112 = .ok (.astore_n 1, 1) := by decide +kernel
theorem dX12_product_113 : decode cX12_product 113 = .ok (.goto (-108), 3) := by decide +kernel
theorem dX12_product_116 : decode cX12_product 116 = .ok (.aload_n 1, 1) := by decide +kernel
theorem dX12_product_117 : decode cX12_product 117 = .ok (.areturn, 1) := by decide +kernel
theorem mw_X12_product : MW yX12_product (Cond.code yX12_product cX12_product 5 (Option.some (Jvm.ClassFile.FieldType.object "LazyForge$Raw"))) cX12_product 5 (Option.some (Jvm.ClassFile.FieldType.object "LazyForge$Raw")) 0 := ⟨rfl, ⟨(lw_all_tbl q982), rfl, (lw_all_tbl q180)⟩, rfl, ⟨by decide, by decide⟩, by decide +kernel⟩
theorem dX12_sum_0 : decode cX12_sum 0 = .ok (.aload_n 0, 1) := by decide +kernel
theorem dX12_sum_1 : decode cX12_sum 1 = .ok (.invokevirtual 293, 3) := by decide +kernel
theorem dX12_sum_4 : decode cX12_sum 4 = .ok (.astore_n 1, 1) := by decide +kernel
theorem dX12_sum_5 : decode cX12_sum 5 = .ok (.aload_n 1, 1) := by decide +kernel
theorem dX12_sum_6 : decode cX12_sum 6 = .ok (.ifnull 86, 3) := by decide +kernel
theorem dX12_sum_9 : decode cX12_sum 9 = .ok (.aload_n 0, 1) := by decide +kernel
theorem dX12_sum_10 : decode cX12_sum 10 = .ok (.ldc_w 296, 3) := by decide +kernel
theorem dX12_sum_13 : decode cX12_sum 13 = .ok (.invokevirtual 153, 3) := by decide +kernel
theorem dX12_sum_16 : decode cX12_sum 16 = .ok (.ifCond .ne 13, 3) := by decide +kernel
theorem dX12_sum_19 : decode cX12_sum 19 = .ok (.aload_n 0, 1) := by decide +kernel
theorem dX12_sum_20 : decode cX12_sum 20 = .ok (.ldc_w 298, 3) := by decide +kernel
theorem dX12_sum_23 : decode cX12_sum 23 = .ok (.invokevirtual 153, 3) := by decide +kernel
theorem dX12_sum_26 : decode cX12_sum 26 = .ok (.ifCond .eq 66, 3) := by decide +kernel
theorem dX12_sum_29 : decode cX12_sum 29 = .ok (.aload_n 0, 1) := by decide +kernel
theorem dX12_sum_30 : decode cX12_sum 30 = .ok (.ldc_w 296, 3) := by decide +kernel
theorem dX12_sum_33 : decode cX12_sum 33 = .ok (.invokevirtual 153, 3) := by decide +kernel
theorem dX12_sum_36 : decode cX12_sum 36 = .ok (.ifCond .eq 7, 3) := by decide +kernel
theorem dX12_sum_39 : decode cX12_sum 39 = .ok (.iconst 0, 1) := by decide +kernel
theorem dX12_sum_40 : decode cX12_sum 40 = .ok (.goto 4, 3) := by decide +kernel
theorem dX12_sum_43 : decode cX12_sum 43 = .ok (.iconst 1, 1) := by decide +kernel
theorem dX12_sum_44 : decode cX12_sum 44 = .ok (.istore_n 2, 1) := by decide +kernel
theorem dX12_sum_45 : decode cX12_sum 45 = .ok (.aload_n 0, 1) := by decide +kernel
theorem dX12_sum_46 : decode cX12_sum 46 = .ok (.getfield 91, 3) := by decide +kernel
theorem dX12_sum_49 : decode cX12_sum 49 = .ok (.istore_n 3, 1) := by decide +kernel
theorem dX12_sum_50 : decode cX12_sum 50 = .ok (.aload_n 0, 1) := by decide +kernel
theorem dX12_sum_51 : decode cX12_sum 51 = .ok (.iload_n 3, 1) := by decide +kernel
theorem dX12_sum_52 : decode cX12_sum 52 = .ok (.invokevirtual 204, 3) := by decide +kernel
theorem dX12_sum_55 : decode cX12_sum 55 = .ok (.ifCond .ne 5, 3) := by decide +kernel
theorem dX12_sum_58 : decode cX12_sum 58 = .ok (.aconst_null, 1) := by decide +kernel
theorem dX12_sum_59 : decode cX12_sum 59 = .ok (.areturn, 1) := by decide +kernel
theorem dX12_sum_60 : decode cX12_sum 60 = .ok (.aload_n 0, 1) := by decide +kernel
theorem dX12_sum_61 : decode cX12_sum 61 = .ok (.invokevirtual 150, 3) := by decide +kernel
theorem dX12_sum_64 : decode cX12_sum 64 = .ok (.aload_n 0, 1) := by decide +kernel
theorem dX12_sum_65 : decode cX12_sum 65 = .ok (.invokevirtual 293, 3) := by decide +kernel
theorem dX12_sum_68 : decode cX12_sum 68 = .ok (.astore 4, 2) := by decide +kernel
theorem dX12_sum_70 : decode cX12_sum 70 = .ok (.aload 4, 2) := by decide +kernel
theorem dX12_sum_72 : decode cX12_sum 72 = .ok (.ifnonnull 7, 3) := by decide +kernel
theorem dX12_sum_75 : decode cX12_sum 75 = .ok (.aconst_null, 1) := by decide +kernel
theorem dX12_sum_76 : decode cX12_sum 76 = .ok (.goto 12, 3) := by decide +kernel
theorem dX12_sum_79 : decode cX12_sum 79 = .ok (.aload_n 0, 1) := by decide +kernel
theorem dX12_sum_80 : decode cX12_sum 80 = .ok (.iload_n 2, 1) := by decide +kernel
theorem dX12_sum_81 : decode cX12_sum 81 = .ok (.iload_n 3, 1) := by decide +kernel
theorem dX12_sum_82 : decode cX12_sum 82 = .ok (.aload_n 1, 1) := by decide +kernel
theorem dX12_sum_83 : decode cX12_sum 83 = .ok (.aload 4, 2) := by decide +kernel
theorem dX12_sum_85 : decode cX12_sum 85 = .ok (.invokevirtual 289, 3) := by decide +kernel
theorem dX12_sum_88 : decode cX12_sum 88 = .ok (.astore_n 1, 1) := by decide +kernel
theorem dX12_sum_89 : decode cX12_sum 89 = .ok (.goto (-84), 3) := by decide +kernel
theorem dX12_sum_92 : decode cX12_sum 92 = .ok (.aload_n 1, 1) := by decide +kernel
theorem dX12_sum_93 : decode cX12_sum 93 = .ok (.areturn, 1) := by decide +kernel
theorem mw_X12_sum : MW yX12_sum (Cond.code yX12_sum cX12_sum 5 (Option.some (Jvm.ClassFile.FieldType.object "LazyForge$Raw"))) cX12_sum 5 (Option.some (Jvm.ClassFile.FieldType.object "LazyForge$Raw")) 0 := ⟨rfl, ⟨(lw_all_tbl q978), rfl, (lw_all_tbl q180)⟩, rfl, ⟨by decide, by decide⟩, by decide +kernel⟩
theorem dX12_comparison_0 : decode cX12_comparison 0 = .ok (.aload_n 0, 1) := by decide +kernel
theorem dX12_comparison_1 : decode cX12_comparison 1 = .ok (.invokevirtual 280, 3) := by decide +kernel
theorem dX12_comparison_4 : decode cX12_comparison 4 = .ok (.astore_n 1, 1) := by decide +kernel
theorem dX12_comparison_5 : decode cX12_comparison 5 = .ok (.aload_n 1, 1) := by decide +kernel
theorem dX12_comparison_6 : decode cX12_comparison 6 = .ok (.ifnonnull 7, 3) := by decide +kernel
theorem dX12_comparison_9 : decode cX12_comparison 9 = .ok (.iconst (-1), 1) := by decide +kernel
theorem dX12_comparison_10 : decode cX12_comparison 10 = .ok (.goto 48, 3) := by decide +kernel
theorem dX12_comparison_13 : decode cX12_comparison 13 = .ok (.aload_n 0, 1) := by decide +kernel
theorem dX12_comparison_14 : decode cX12_comparison 14 = .ok (.ldc_w 283, 3) := by decide +kernel
theorem dX12_comparison_17 : decode cX12_comparison 17 = .ok (.invokevirtual 153, 3) := by decide +kernel
theorem dX12_comparison_20 : decode cX12_comparison 20 = .ok (.ifCond .eq 7, 3) := by decide +kernel
theorem dX12_comparison_23 : decode cX12_comparison 23 = .ok (.iconst 5, 1) := by decide +kernel
theorem dX12_comparison_24 : decode cX12_comparison 24 = .ok (.goto 34, 3) := by decide +kernel
theorem dX12_comparison_27 : decode cX12_comparison 27 = .ok (.aload_n 0, 1) := by decide +kernel
theorem dX12_comparison_28 : decode cX12_comparison 28 = .ok (.ldc_w 285, 3) := by decide +kernel
theorem dX12_comparison_31 : decode cX12_comparison 31 = .ok (.invokevirtual 153, 3) := by decide +kernel
theorem dX12_comparison_34 : decode cX12_comparison 34 = .ok (.ifCond .eq 8, 3) := by decide +kernel
theorem dX12_comparison_37 : decode cX12_comparison 37 = .ok (.bipush 6, 2) := by decide +kernel
theorem dX12_comparison_39 : decode cX12_comparison 39 = .ok (.goto 19, 3) := by decide +kernel
theorem dX12_comparison_42 : decode cX12_comparison 42 = .ok (.aload_n 0, 1) := by decide +kernel
theorem dX12_comparison_43 : decode cX12_comparison 43 = .ok (.ldc_w 287, 3) := by decide +kernel
theorem dX12_comparison_46 : decode cX12_comparison 46 = .ok (.invokevirtual 153, 3) := by decide +kernel
theorem dX12_comparison_49 : decode cX12_comparison 49 = .ok (.ifCond .eq 8, 3) := by decide +kernel
theorem dX12_comparison_52 : decode cX12_comparison 52 = .ok (.bipush 7, 2) := by decide +kernel
theorem dX12_comparison_54 : decode cX12_comparison 54 = .ok (.goto 4, 3) := by decide +kernel
theorem dX12_comparison_57 : decode cX12_comparison 57 = .ok (.iconst (-1), 1) := by decide +kernel
theorem dX12_comparison_58 : decode cX12_comparison 58 = .ok (.istore_n 2, 1) := by decide +kernel
theorem dX12_comparison_59 : decode cX12_comparison 59 = .ok (.iload_n 2, 1) := by decide +kernel
theorem dX12_comparison_60 : decode cX12_comparison 60 = .ok (.iconst (-1), 1) := by decide +kernel
theorem dX12_comparison_61 : decode cX12_comparison 61 = .ok (.if_icmp .ne 5, 3) := by decide +kernel
theorem dX12_comparison_64 : decode cX12_comparison 64 = .ok (.aload_n 1, 1) := by decide +kernel
theorem dX12_comparison_65 : decode cX12_comparison 65 = .ok (.areturn, 1) := by decide +kernel
theorem dX12_comparison_66 : decode cX12_comparison 66 = .ok (.aload_n 0, 1) := by decide +kernel
theorem dX12_comparison_67 : decode cX12_comparison 67 = .ok (.getfield 91, 3) := by decide +kernel
theorem dX12_comparison_70 : decode cX12_comparison 70 = .ok (.istore_n 3, 1) := by decide +kernel
theorem dX12_comparison_71 : decode cX12_comparison 71 = .ok (.aload_n 0, 1) := by decide +kernel
theorem dX12_comparison_72 : decode cX12_comparison 72 = .ok (.iload_n 3, 1) := by decide +kernel
theorem dX12_comparison_73 : decode cX12_comparison 73 = .ok (.invokevirtual 204, 3) := by decide +kernel
theorem dX12_comparison_76 : decode cX12_comparison 76 = .ok (.ifCond .ne 5, 3) := by decide +kernel
theorem dX12_comparison_79 : decode cX12_comparison 79 = .ok (.aconst_null, 1) := by decide +kernel
theorem dX12_comparison_80 : decode cX12_comparison 80 = .ok (.areturn, 1) := by decide +kernel
theorem dX12_comparison_81 : decode cX12_comparison 81 = .ok (.aload_n 0, 1) := by decide +kernel
theorem dX12_comparison_82 : decode cX12_comparison 82 = .ok (.invokevirtual 150, 3) := by decide +kernel
theorem dX12_comparison_85 : decode cX12_comparison 85 = .ok (.aload_n 0, 1) := by decide +kernel
theorem dX12_comparison_86 : decode cX12_comparison 86 = .ok (.invokevirtual 280, 3) := by decide +kernel
theorem dX12_comparison_89 : decode cX12_comparison 89 = .ok (.astore 4, 2) := by decide +kernel
theorem dX12_comparison_91 : decode cX12_comparison 91 = .ok (.aload 4, 2) := by decide +kernel
theorem dX12_comparison_93 : decode cX12_comparison 93 = .ok (.ifnonnull 7, 3) := by decide +kernel
theorem dX12_comparison_96 : decode cX12_comparison 96 = .ok (.aconst_null, 1) := by decide +kernel
theorem dX12_comparison_97 : decode cX12_comparison 97 = .ok (.goto 12, 3) := by decide +kernel
theorem dX12_comparison_100 : decode cX12_comparison 100 = .ok (.aload_n 0, 1) := by decide +kernel
theorem dX12_comparison_101 : decode cX12_comparison 101 = .ok (.iload_n 2, 1) := by decide +kernel
theorem dX12_comparison_102 : decode cX12_comparison 102 = .ok (.iload_n 3, 1) := by decide +kernel
theorem dX12_comparison_103 : decode cX12_comparison 103 = .ok (.aload_n 1, 1) := by decide +kernel
theorem dX12_comparison_104 : decode cX12_comparison 104 = .ok (.aload 4, 2) := by decide +kernel
theorem dX12_comparison_106 : decode cX12_comparison 106 = .ok (.invokevirtual 289, 3) := by decide +kernel
theorem dX12_comparison_109 : decode cX12_comparison 109 = .ok (.areturn, 1) := by decide +kernel
theorem mw_X12_comparison : MW yX12_comparison (Cond.code yX12_comparison cX12_comparison 5 (Option.some (Jvm.ClassFile.FieldType.object "LazyForge$Raw"))) cX12_comparison 5 (Option.some (Jvm.ClassFile.FieldType.object "LazyForge$Raw")) 0 := ⟨rfl, ⟨(lw_all_tbl q974), rfl, (lw_all_tbl q180)⟩, rfl, ⟨by decide, by decide⟩, by decide +kernel⟩
theorem dX12_choice_0 : decode cX12_choice 0 = .ok (.new 34, 3) := by decide +kernel
theorem dX12_choice_3 : decode cX12_choice 3 = .ok (.dup, 1) := by decide +kernel
theorem dX12_choice_4 : decode cX12_choice 4 = .ok (.iconst 2, 1) := by decide +kernel
theorem dX12_choice_5 : decode cX12_choice 5 = .ok (.aload_n 0, 1) := by decide +kernel
theorem dX12_choice_6 : decode cX12_choice 6 = .ok (.getfield 91, 3) := by decide +kernel
theorem dX12_choice_9 : decode cX12_choice 9 = .ok (.invokespecial 231, 3) := by decide +kernel
theorem dX12_choice_12 : decode cX12_choice 12 = .ok (.astore_n 1, 1) := by decide +kernel
theorem dX12_choice_13 : decode cX12_choice 13 = .ok (.aload_n 0, 1) := by decide +kernel
theorem dX12_choice_14 : decode cX12_choice 14 = .ok (.invokevirtual 234, 3) := by decide +kernel
theorem dX12_choice_17 : decode cX12_choice 17 = .ok (.ifCond .eq 14, 3) := by decide +kernel
theorem dX12_choice_20 : decode cX12_choice 20 = .ok (.aload_n 0, 1) := by decide +kernel
theorem dX12_choice_21 : decode cX12_choice 21 = .ok (.aload_n 0, 1) := by decide +kernel
theorem dX12_choice_22 : decode cX12_choice 22 = .ok (.getfield 91, 3) := by decide +kernel
theorem dX12_choice_25 : decode cX12_choice 25 = .ok (.invokevirtual 204, 3) := by decide +kernel
theorem dX12_choice_28 : decode cX12_choice 28 = .ok (.ifCond .ne 5, 3) := by decide +kernel
theorem dX12_choice_31 : decode cX12_choice 31 = .ok (.aconst_null, 1) := by decide +kernel
theorem dX12_choice_32 : decode cX12_choice 32 = .ok (.areturn, 1) := by decide +kernel
theorem dX12_choice_33 : decode cX12_choice 33 = .ok (.aload_n 0, 1) := by decide +kernel
theorem dX12_choice_34 : decode cX12_choice 34 = .ok (.invokevirtual 150, 3) := by decide +kernel
theorem dX12_choice_37 : decode cX12_choice 37 = .ok (.aload_n 0, 1) := by decide +kernel
theorem dX12_choice_38 : decode cX12_choice 38 = .ok (.invokevirtual 200, 3) := by decide +kernel
theorem dX12_choice_41 : decode cX12_choice 41 = .ok (.astore_n 2, 1) := by decide +kernel
theorem dX12_choice_42 : decode cX12_choice 42 = .ok (.aload_n 2, 1) := by decide +kernel
theorem dX12_choice_43 : decode cX12_choice 43 = .ok (.ifnull 21, 3) := by decide +kernel
theorem dX12_choice_46 : decode cX12_choice 46 = .ok (.aload_n 0, 1) := by decide +kernel
theorem dX12_choice_47 : decode cX12_choice 47 = .ok (.ldc 253, 2) := by decide +kernel
theorem dX12_choice_49 : decode cX12_choice 49 = .ok (.invokevirtual 250, 3) := by decide +kernel
theorem dX12_choice_52 : decode cX12_choice 52 = .ok (.ifCond .eq 12, 3) := by decide +kernel
theorem dX12_choice_55 : decode cX12_choice 55 = .ok (.aload_n 0, 1) := by decide +kernel
theorem dX12_choice_56 : decode cX12_choice 56 = .ok (.ldc 255, 2) := by decide +kernel
theorem dX12_choice_58 : decode cX12_choice 58 = .ok (.invokevirtual 188, 3) := by decide +kernel
theorem dX12_choice_61 : decode cX12_choice 61 = .ok (.ifCond .ne 5, 3) := by decide +kernel
theorem dX12_choice_64 : decode cX12_choice 64 = .ok (.aconst_null, 1) := by decide +kernel
theorem dX12_choice_65 : decode cX12_choice 65 = .ok (.areturn, 1) := by decide +kernel
theorem dX12_choice_66 : decode cX12_choice 66 = .ok (.bipush 9, 2) := by decide +kernel
theorem dX12_choice_68 : decode cX12_choice 68 = .ok (.anewarray 34, 3) := by decide +kernel
theorem dX12_choice_71 : decode cX12_choice 71 = .ok (.astore_n 3, 1) := by decide +kernel
theorem dX12_choice_72 : decode cX12_choice 72 = .ok (.aload_n 1, 1) := by decide +kernel
theorem dX12_choice_73 : decode cX12_choice 73 = .ok (.bipush 8, 2) := by decide +kernel
theorem dX12_choice_75 : decode cX12_choice 75 = .ok (.newarray .int, 2) := by decide +kernel
theorem dX12_choice_77 : decode cX12_choice 77 = .ok (.putfield 257, 3) := by decide +kernel
theorem dX12_choice_80 : decode cX12_choice 80 = .ok (.aload_n 1, 1) := by decide +kernel
theorem dX12_choice_81 : decode cX12_choice 81 = .ok (.bipush 8, 2) := by decide +kernel
theorem dX12_choice_83 : decode cX12_choice 83 = .ok (.newarray .int, 2) := by decide +kernel
theorem dX12_choice_85 : decode cX12_choice 85 = .ok (.putfield 260, 3) := by decide +kernel
theorem dX12_choice_88 : decode cX12_choice 88 = .ok (.aload_n 1, 1) := by decide +kernel
theorem dX12_choice_89 : decode cX12_choice 89 = .ok (.bipush 8, 2) := by decide +kernel
theorem dX12_choice_91 : decode cX12_choice 91 = .ok (.anewarray 29, 3) := by decide +kernel
theorem dX12_choice_94 : decode cX12_choice 94 = .ok (.putfield 263, 3) := by decide +kernel
theorem dX12_choice_97 : decode cX12_choice 97 = .ok (.aload_n 3, 1) := by decide +kernel
theorem dX12_choice_98 : decode cX12_choice 98 = .ok (.iconst 0, 1) := by decide +kernel
theorem dX12_choice_99 : decode cX12_choice 99 = .ok (.aload_n 2, 1) := by decide +kernel
theorem dX12_choice_100 : decode cX12_choice 100 = .ok (.aastore, 1) := by decide +kernel
theorem dX12_choice_101 : decode cX12_choice 101 = .ok (.iconst 0, 1) := by decide +kernel
theorem dX12_choice_102 : decode cX12_choice 102 = .ok (.istore 4, 2) := by decide +kernel
theorem dX12_choice_104 : decode cX12_choice 104 = .ok (.iconst 1, 1) := by decide +kernel
theorem dX12_choice_105 : decode cX12_choice 105 = .ok (.istore 5, 2) := by decide +kernel
theorem dX12_choice_107 : decode cX12_choice 107 = .ok (.iload 5, 2) := by decide +kernel
theorem dX12_choice_109 : decode cX12_choice 109 = .ok (.ifCond .eq 140, 3) := by decide +kernel
theorem dX12_choice_112 : decode cX12_choice 112 = .ok (.iload 4, 2) := by decide +kernel
theorem dX12_choice_114 : decode cX12_choice 114 = .ok (.bipush 8, 2) := by decide +kernel
theorem dX12_choice_116 : decode cX12_choice 116 = .ok (.if_icmp .ne 67, 3) := by decide +kernel
theorem dX12_choice_119 : decode cX12_choice 119 = .ok (.aload_n 0, 1) := by decide +kernel
theorem dX12_choice_120 : decode cX12_choice 120 = .ok (.aload_n 0, 1) := by decide +kernel
theorem dX12_choice_121 : decode cX12_choice 121 = .ok (.getfield 97, 3) := by decide +kernel
theorem dX12_choice_124 : decode cX12_choice 124 = .ok (.iconst 2, 1) := by decide +kernel
theorem dX12_choice_125 : decode cX12_choice 125 = .ok (.if_icmp .ne 19, 3) := by decide +kernel
theorem dX12_choice_128 : decode cX12_choice 128 = .ok (.aload_n 0, 1) := by decide +kernel
theorem dX12_choice_129 : decode cX12_choice 129 = .ok (.aload_n 0, 1) := by decide +kernel
theorem dX12_choice_130 : decode cX12_choice 130 = .ok (.getfield 84, 3) := by decide +kernel
theorem dX12_choice_133 : decode cX12_choice 133 = .ok (.invokevirtual 180, 3) := by decide +kernel
theorem dX12_choice_136 : decode cX12_choice 136 = .ok (.iconst (-1), 1) := by decide +kernel
theorem dX12_choice_137 : decode cX12_choice 137 = .ok (.if_icmp .ne 7, 3) := by decide +kernel
theorem dX12_choice_140 : decode cX12_choice 140 = .ok (.iconst 3, 1) := by decide +kernel
theorem dX12_choice_141 : decode cX12_choice 141 = .ok (.goto 34, 3) := by decide +kernel
theorem dX12_choice_144 : decode cX12_choice 144 = .ok (.aload_n 0, 1) := by decide +kernel
theorem dX12_choice_145 : decode cX12_choice 145 = .ok (.getfield 97, 3) := by decide +kernel
theorem dX12_choice_148 : decode cX12_choice 148 = .ok (.iconst 2, 1) := by decide +kernel
theorem dX12_choice_149 : decode cX12_choice 149 = .ok (.if_icmp .eq 21, 3) := by decide +kernel
theorem dX12_choice_152 : decode cX12_choice 152 = .ok (.aload_n 0, 1) := by decide +kernel
theorem dX12_choice_153 : decode cX12_choice 153 = .ok (.getfield 97, 3) := by decide +kernel
theorem dX12_choice_156 : decode cX12_choice 156 = .ok (.iconst 4, 1) := by decide +kernel
theorem dX12_choice_157 : decode cX12_choice 157 = .ok (.if_icmp .eq 13, 3) := by decide +kernel
theorem dX12_choice_160 : decode cX12_choice 160 = .ok (.aload_n 0, 1) := by decide +kernel
theorem dX12_choice_161 : decode cX12_choice 161 = .ok (.ldc_w 266, 3) := by decide +kernel
theorem dX12_choice_164 : decode cX12_choice 164 = .ok (.invokevirtual 153, 3) := by decide +kernel
theorem dX12_choice_167 : decode cX12_choice 167 = .ok (.ifCond .eq 7, 3) := by decide +kernel
theorem dX12_choice_170 : decode cX12_choice 170 = .ok (.iconst 4, 1) := by decide +kernel
theorem dX12_choice_171 : decode cX12_choice 171 = .ok (.goto 4, 3) := by decide +kernel
theorem dX12_choice_174 : decode cX12_choice 174 = .ok (.iconst 1, 1) := by decide +kernel
theorem dX12_choice_175 : decode cX12_choice 175 = .ok (.aload_n 0, 1) := by decide +kernel
theorem dX12_choice_176 : decode cX12_choice 176 = .ok (.getfield 91, 3) := by decide +kernel
theorem dX12_choice_179 : decode cX12_choice 179 = .ok (.invokevirtual 140, 3) := by decide +kernel
theorem dX12_choice_182 : decode cX12_choice 182 = .ok (.areturn, 1) := by decide +kernel
theorem dX12_choice_183 : decode cX12_choice 183 = .ok (.aload_n 0, 1) := by decide +kernel
theorem dX12_choice_184 : decode cX12_choice 184 = .ok (.aload_n 1, 1) := by decide +kernel
theorem dX12_choice_185 : decode cX12_choice 185 = .ok (.iload 4, 2) := by decide +kernel
theorem dX12_choice_187 : decode cX12_choice 187 = .ok (.invokevirtual 268, 3) := by decide +kernel
theorem dX12_choice_190 : decode cX12_choice 190 = .ok (.ifCond .eq 13, 3) := by decide +kernel
theorem dX12_choice_193 : decode cX12_choice 193 = .ok (.aload_n 0, 1) := by decide +kernel
theorem dX12_choice_194 : decode cX12_choice 194 = .ok (.ldc_w 272, 3) := by decide +kernel
theorem dX12_choice_197 : decode cX12_choice 197 = .ok (.invokevirtual 188, 3) := by decide +kernel
theorem dX12_choice_200 : decode cX12_choice 200 = .ok (.ifCond .ne 5, 3) := by decide +kernel
theorem dX12_choice_203 : decode cX12_choice 203 = .ok (.aconst_null, 1) := by decide +kernel
theorem dX12_choice_204 : decode cX12_choice 204 = .ok (.areturn, 1) := by decide +kernel
theorem dX12_choice_205 : decode cX12_choice 205 = .ok (.aload_n 3, 1) := by decide +kernel
theorem dX12_choice_206 : decode cX12_choice 206 = .ok (.iload 4, 2) := by decide +kernel
theorem dX12_choice_208 : decode cX12_choice 208 = .ok (.iconst 1, 1) := by decide +kernel
theorem dX12_choice_209 : decode cX12_choice 209 = .ok (.iadd, 1) := by decide +kernel
theorem dX12_choice_210 : decode cX12_choice 210 = .ok (.aload_n 0, 1) := by decide +kernel
theorem dX12_choice_211 : decode cX12_choice 211 = .ok (.invokevirtual 200, 3) := by decide +kernel
theorem dX12_choice_214 : decode cX12_choice 214 = .ok (.aastore, 1) := by decide +kernel
theorem dX12_choice_215 : decode cX12_choice 215 = .ok (.aload_n 3, 1) := by decide +kernel
theorem dX12_choice_216 : decode cX12_choice 216 = .ok (.iload 4, 2) := by decide +kernel
theorem dX12_choice_218 : decode cX12_choice 218 = .ok (.iconst 1, 1) := by decide +kernel
theorem dX12_choice_219 : decode cX12_choice 219 = .ok (.iadd, 1) := by decide +kernel
theorem dX12_choice_220 : decode cX12_choice 220 = .ok (.aaload, 1) := by decide +kernel
theorem dX12_choice_221 : decode cX12_choice 221 = .ok (.ifnonnull 5, 3) := by decide +kernel
theorem dX12_choice_224 : decode cX12_choice 224 = .ok (.aconst_null, 1) := by decide +kernel
theorem dX12_choice_225 : decode cX12_choice 225 = .ok (.areturn, 1) := by decide +kernel
theorem dX12_choice_226 : decode cX12_choice 226 = .ok (.iinc 4 1, 3) := by decide +kernel
theorem dX12_choice_229 : decode cX12_choice 229 = .ok (.aload_n 0, 1) := by decide +kernel
theorem dX12_choice_230 : decode cX12_choice 230 = .ok (.ldc 186, 2) := by decide +kernel
theorem dX12_choice_232 : decode cX12_choice 232 = .ok (.invokevirtual 153, 3) := by decide +kernel
theorem dX12_choice_235 : decode cX12_choice 235 = .ok (.istore 5, 2) := by decide +kernel
theorem dX12_choice_237 : decode cX12_choice 237 = .ok (.iload 5, 2) := by decide +kernel
theorem dX12_choice_239 : decode cX12_choice 239 = .ok (.ifCond .eq (-132), 3) := by decide +kernel
theorem dX12_choice_242 : decode cX12_choice 242 = .ok (.aload_n 0, 1) := by decide +kernel
theorem dX12_choice_243 : decode cX12_choice 243 = .ok (.invokevirtual 150, 3) := by decide +kernel
theorem dX12_choice_246 : decode cX12_choice 246 = .ok (.goto (-139), 3) := by decide +kernel
theorem dX12_choice_249 : decode cX12_choice 249 = .ok (.aload_n 0, 1) := by decide +kernel
theorem dX12_choice_250 : decode cX12_choice 250 = .ok (.ldc_w 274, 3) := by decide +kernel
theorem dX12_choice_253 : decode cX12_choice 253 = .ok (.invokevirtual 188, 3) := by decide +kernel
theorem dX12_choice_256 : decode cX12_choice 256 = .ok (.ifCond .ne 5, 3) := by decide +kernel
theorem dX12_choice_259 : decode cX12_choice 259 = .ok (.aconst_null, 1) := by decide +kernel
theorem dX12_choice_260 : decode cX12_choice 260 = .ok (.areturn, 1) := by decide +kernel
theorem dX12_choice_261 : decode cX12_choice 261 = .ok (.aload_n 0, 1) := by decide +kernel
theorem dX12_choice_262 : decode cX12_choice 262 = .ok (.dup, 1) := by decide +kernel
theorem dX12_choice_263 : decode cX12_choice 263 = .ok (.getfield 164, 3) := by decide +kernel
theorem dX12_choice_266 : decode cX12_choice 266 = .ok (.iconst 1, 1) := by decide +kernel
theorem dX12_choice_267 : decode cX12_choice 267 = .ok (.isub, 1) := by decide +kernel
theorem dX12_choice_268 : decode cX12_choice 268 = .ok (.putfield 164, 3) := by decide +kernel
theorem dX12_choice_271 : decode cX12_choice 271 = .ok (.aload_n 1, 1) := by decide +kernel
theorem dX12_choice_272 : decode cX12_choice 272 = .ok (.iload 4, 2) := by decide +kernel
theorem dX12_choice_274 : decode cX12_choice 274 = .ok (.putfield 276, 3) := by decide +kernel
theorem dX12_choice_277 : decode cX12_choice 277 = .ok (.aload_n 1, 1) := by decide +kernel
theorem dX12_choice_278 : decode cX12_choice 278 = .ok (.iload 4, 2) := by decide +kernel
theorem dX12_choice_280 : decode cX12_choice 280 = .ok (.iconst 1, 1) := by decide +kernel
theorem dX12_choice_281 : decode cX12_choice 281 = .ok (.iadd, 1) := by decide +kernel
theorem dX12_choice_282 : decode cX12_choice 282 = .ok (.anewarray 34, 3) := by decide +kernel
theorem dX12_choice_285 : decode cX12_choice 285 = .ok (.putfield 240, 3) := by decide +kernel
theorem dX12_choice_288 : decode cX12_choice 288 = .ok (.aload_n 3, 1) := by decide +kernel
theorem dX12_choice_289 : decode cX12_choice 289 = .ok (.iconst 0, 1) := by decide +kernel
theorem dX12_choice_290 : decode cX12_choice 290 = .ok (.aload_n 1, 1) := by decide +kernel
theorem dX12_choice_291 : decode cX12_choice 291 = .ok (.getfield 240, 3) := by decide +kernel
theorem dX12_choice_294 : decode cX12_choice 294 = .ok (.iconst 0, 1) := by decide +kernel
theorem dX12_choice_295 : decode cX12_choice 295 = .ok (.iload 4, 2) := by decide +kernel
theorem dX12_choice_297 : decode cX12_choice 297 = .ok (.iconst 1, 1) := by decide +kernel
theorem dX12_choice_298 : decode cX12_choice 298 = .ok (.iadd, 1) := by decide +kernel
theorem dX12_choice_299 : decode cX12_choice 299 = .ok (.invokestatic 208, 3) := by decide +kernel
theorem dX12_choice_302 : decode cX12_choice 302 = .ok (.aload_n 1, 1) := by decide +kernel
theorem dX12_choice_303 : decode cX12_choice 303 = .ok (.areturn, 1) := by decide +kernel
theorem mw_X12_choice : MW yX12_choice (Cond.code yX12_choice cX12_choice 6 (Option.some (Jvm.ClassFile.FieldType.object "LazyForge$Raw"))) cX12_choice 6 (Option.some (Jvm.ClassFile.FieldType.object "LazyForge$Raw")) 0 := ⟨rfl, ⟨(lw_all_tbl q955), rfl, (lw_all_tbl q180)⟩, rfl, ⟨by decide, by decide⟩, by decide +kernel⟩
theorem dX12_e_0 : decode cX12_e 0 = .ok (.aload_n 0, 1) := by decide +kernel
theorem dX12_e_1 : decode cX12_e 1 = .ok (.invokevirtual 147, 3) := by decide +kernel
theorem dX12_e_4 : decode cX12_e 4 = .ok (.ifCond .ne 5, 3) := by decide +kernel
theorem dX12_e_7 : decode cX12_e 7 = .ok (.aconst_null, 1) := by decide +kernel
theorem dX12_e_8 : decode cX12_e 8 = .ok (.areturn, 1) := by decide +kernel
theorem dX12_e_9 : decode cX12_e 9 = .ok (.aload_n 0, 1) := by decide +kernel
theorem dX12_e_10 : decode cX12_e 10 = .ok (.ldc 214, 2) := by decide +kernel
theorem dX12_e_12 : decode cX12_e 12 = .ok (.invokevirtual 161, 3) := by decide +kernel
theorem dX12_e_15 : decode cX12_e 15 = .ok (.ifCond .eq 8, 3) := by decide +kernel
theorem dX12_e_18 : decode cX12_e 18 = .ok (.aload_n 0, 1) := by decide +kernel
theorem dX12_e_19 : decode cX12_e 19 = .ok (.invokevirtual 216, 3) := by decide +kernel
theorem dX12_e_22 : decode cX12_e 22 = .ok (.areturn, 1) := by decide +kernel
theorem dX12_e_23 : decode cX12_e 23 = .ok (.aload_n 0, 1) := by decide +kernel
theorem dX12_e_24 : decode cX12_e 24 = .ok (.ldc 218, 2) := by decide +kernel
theorem dX12_e_26 : decode cX12_e 26 = .ok (.invokevirtual 161, 3) := by decide +kernel
theorem dX12_e_29 : decode cX12_e 29 = .ok (.ifCond .eq 8, 3) := by decide +kernel
theorem dX12_e_32 : decode cX12_e 32 = .ok (.aload_n 0, 1) := by decide +kernel
theorem dX12_e_33 : decode cX12_e 33 = .ok (.invokevirtual 220, 3) := by decide +kernel
theorem dX12_e_36 : decode cX12_e 36 = .ok (.areturn, 1) := by decide +kernel
theorem dX12_e_37 : decode cX12_e 37 = .ok (.aload_n 0, 1) := by decide +kernel
theorem dX12_e_38 : decode cX12_e 38 = .ok (.ldc 223, 2) := by decide +kernel
theorem dX12_e_40 : decode cX12_e 40 = .ok (.invokevirtual 153, 3) := by decide +kernel
theorem dX12_e_43 : decode cX12_e 43 = .ok (.ifCond .eq 10, 3) := by decide +kernel
theorem dX12_e_46 : decode cX12_e 46 = .ok (.aload_n 0, 1) := by decide +kernel
theorem dX12_e_47 : decode cX12_e 47 = .ok (.invokevirtual 225, 3) := by decide +kernel
theorem dX12_e_50 : decode cX12_e 50 = .ok (.goto 7, 3) := by decide +kernel
theorem dX12_e_53 : decode cX12_e 53 = .ok (.aload_n 0, 1) := by decide +kernel
theorem dX12_e_54 : decode cX12_e 54 = .ok (.invokevirtual 228, 3) := by decide +kernel
theorem dX12_e_57 : decode cX12_e 57 = .ok (.areturn, 1) := by decide +kernel
theorem mw_X12_e : MW yX12_e (Cond.code yX12_e cX12_e 1 (Option.some (Jvm.ClassFile.FieldType.object "LazyForge$Raw"))) cX12_e 1 (Option.some (Jvm.ClassFile.FieldType.object "LazyForge$Raw")) 0 := ⟨rfl, ⟨(lw_all_tbl q885), rfl, (lw_all_tbl q180)⟩, rfl, ⟨by decide, by decide⟩, by decide +kernel⟩
theorem dX12_atom_0 : decode cX12_atom 0 = .ok (.aload_n 0, 1) := by decide +kernel
theorem dX12_atom_1 : decode cX12_atom 1 = .ok (.getfield 97, 3) := by decide +kernel
theorem dX12_atom_4 : decode cX12_atom 4 = .ok (.iconst 1, 1) := by decide +kernel
theorem dX12_atom_5 : decode cX12_atom 5 = .ok (.if_icmp .eq 21, 3) := by decide +kernel
theorem dX12_atom_8 : decode cX12_atom 8 = .ok (.aload_n 0, 1) := by decide +kernel
theorem dX12_atom_9 : decode cX12_atom 9 = .ok (.getfield 97, 3) := by decide +kernel
theorem dX12_atom_12 : decode cX12_atom 12 = .ok (.iconst 4, 1) := by decide +kernel
theorem dX12_atom_13 : decode cX12_atom 13 = .ok (.if_icmp .eq 13, 3) := by decide +kernel
theorem dX12_atom_16 : decode cX12_atom 16 = .ok (.aload_n 0, 1) := by decide +kernel
theorem dX12_atom_17 : decode cX12_atom 17 = .ok (.ldc_w 311, 3) := by decide +kernel
theorem dX12_atom_20 : decode cX12_atom 20 = .ok (.invokevirtual 161, 3) := by decide +kernel
theorem dX12_atom_23 : decode cX12_atom 23 = .ok (.ifCond .eq 78, 3) := by decide +kernel
theorem dX12_atom_26 : decode cX12_atom 26 = .ok (.new 34, 3) := by decide +kernel
theorem dX12_atom_29 : decode cX12_atom 29 = .ok (.dup, 1) := by decide +kernel
theorem dX12_atom_30 : decode cX12_atom 30 = .ok (.aload_n 0, 1) := by decide +kernel
theorem dX12_atom_31 : decode cX12_atom 31 = .ok (.getfield 97, 3) := by decide +kernel
theorem dX12_atom_34 : decode cX12_atom 34 = .ok (.iconst 1, 1) := by decide +kernel
theorem dX12_atom_35 : decode cX12_atom 35 = .ok (.if_icmp .ne 8, 3) := by decide +kernel
theorem dX12_atom_38 : decode cX12_atom 38 = .ok (.bipush 6, 2) := by decide +kernel
theorem dX12_atom_40 : decode cX12_atom 40 = .ok (.goto 18, 3) := by decide +kernel
theorem dX12_atom_43 : decode cX12_atom 43 = .ok (.aload_n 0, 1) := by decide +kernel
theorem dX12_atom_44 : decode cX12_atom 44 = .ok (.getfield 97, 3) := by decide +kernel
theorem dX12_atom_47 : decode cX12_atom 47 = .ok (.iconst 4, 1) := by decide +kernel
theorem dX12_atom_48 : decode cX12_atom 48 = .ok (.if_icmp .ne 8, 3) := by decide +kernel
theorem dX12_atom_51 : decode cX12_atom 51 = .ok (.bipush 7, 2) := by decide +kernel
theorem dX12_atom_53 : decode cX12_atom 53 = .ok (.goto 5, 3) := by decide +kernel
theorem dX12_atom_56 : decode cX12_atom 56 = .ok (.bipush 8, 2) := by decide +kernel
theorem dX12_atom_58 : decode cX12_atom 58 = .ok (.aload_n 0, 1) := by decide +kernel
theorem dX12_atom_59 : decode cX12_atom 59 = .ok (.getfield 91, 3) := by decide +kernel
theorem dX12_atom_62 : decode cX12_atom 62 = .ok (.invokespecial 231, 3) := by decide +kernel
theorem dX12_atom_65 : decode cX12_atom 65 = .ok (.astore_n 1, 1) := by decide +kernel
theorem dX12_atom_66 : decode cX12_atom 66 = .ok (.aload_n 1, 1) := by decide +kernel
theorem dX12_atom_67 : decode cX12_atom 67 = .ok (.aload_n 0, 1) := by decide +kernel
theorem dX12_atom_68 : decode cX12_atom 68 = .ok (.getfield 84, 3) := by decide +kernel
theorem dX12_atom_71 : decode cX12_atom 71 = .ok (.putfield 326, 3) := by decide +kernel
theorem dX12_atom_74 : decode cX12_atom 74 = .ok (.aload_n 1, 1) := by decide +kernel
theorem dX12_atom_75 : decode cX12_atom 75 = .ok (.aload_n 0, 1) := by decide +kernel
theorem dX12_atom_76 : decode cX12_atom 76 = .ok (.getfield 131, 3) := by decide +kernel
theorem dX12_atom_79 : decode cX12_atom 79 = .ok (.putfield 276, 3) := by decide +kernel
theorem dX12_atom_82 : decode cX12_atom 82 = .ok (.aload_n 0, 1) := by decide +kernel
theorem dX12_atom_83 : decode cX12_atom 83 = .ok (.aload_n 0, 1) := by decide +kernel
theorem dX12_atom_84 : decode cX12_atom 84 = .ok (.getfield 91, 3) := by decide +kernel
theorem dX12_atom_87 : decode cX12_atom 87 = .ok (.invokevirtual 204, 3) := by decide +kernel
theorem dX12_atom_90 : decode cX12_atom 90 = .ok (.ifCond .ne 5, 3) := by decide +kernel
theorem dX12_atom_93 : decode cX12_atom 93 = .ok (.aconst_null, 1) := by decide +kernel
theorem dX12_atom_94 : decode cX12_atom 94 = .ok (.areturn, 1) := by decide +kernel
theorem dX12_atom_95 : decode cX12_atom 95 = .ok (.aload_n 0, 1) := by decide +kernel
theorem dX12_atom_96 : decode cX12_atom 96 = .ok (.invokevirtual 150, 3) := by decide +kernel
theorem dX12_atom_99 : decode cX12_atom 99 = .ok (.aload_n 1, 1) := by decide +kernel
theorem dX12_atom_100 : decode cX12_atom 100 = .ok (.areturn, 1) := by decide +kernel
theorem dX12_atom_101 : decode cX12_atom 101 = .ok (.aload_n 0, 1) := by decide +kernel
theorem dX12_atom_102 : decode cX12_atom 102 = .ok (.getfield 97, 3) := by decide +kernel
theorem dX12_atom_105 : decode cX12_atom 105 = .ok (.iconst 2, 1) := by decide +kernel
theorem dX12_atom_106 : decode cX12_atom 106 = .ok (.if_icmp .ne 91, 3) := by decide +kernel
theorem dX12_atom_109 : decode cX12_atom 109 = .ok (.aload_n 0, 1) := by decide +kernel
theorem dX12_atom_110 : decode cX12_atom 110 = .ok (.aload_n 0, 1) := by decide +kernel
theorem dX12_atom_111 : decode cX12_atom 111 = .ok (.getfield 84, 3) := by decide +kernel
theorem dX12_atom_114 : decode cX12_atom 114 = .ok (.invokevirtual 180, 3) := by decide +kernel
theorem dX12_atom_117 : decode cX12_atom 117 = .ok (.istore_n 1, 1) := by decide +kernel
theorem dX12_atom_118 : decode cX12_atom 118 = .ok (.iload_n 1, 1) := by decide +kernel
theorem dX12_atom_119 : decode cX12_atom 119 = .ok (.iconst (-1), 1) := by decide +kernel
theorem dX12_atom_120 : decode cX12_atom 120 = .ok (.if_icmp .ne 13, 3) := by decide +kernel
theorem dX12_atom_123 : decode cX12_atom 123 = .ok (.aload_n 0, 1) := by decide +kernel
theorem dX12_atom_124 : decode cX12_atom 124 = .ok (.iconst 3, 1) := by decide +kernel
theorem dX12_atom_125 : decode cX12_atom 125 = .ok (.aload_n 0, 1) := by decide +kernel
theorem dX12_atom_126 : decode cX12_atom 126 = .ok (.getfield 91, 3) := by decide +kernel
theorem dX12_atom_129 : decode cX12_atom 129 = .ok (.invokevirtual 140, 3) := by decide +kernel
theorem dX12_atom_132 : decode cX12_atom 132 = .ok (.areturn, 1) := by decide +kernel
theorem dX12_atom_133 : decode cX12_atom 133 = .ok (.aload_n 0, 1) := by decide +kernel
theorem dX12_atom_134 : decode cX12_atom 134 = .ok (.getfield 19, 3) := by decide +kernel
theorem dX12_atom_137 : decode cX12_atom 137 = .ok (.iload_n 1, 1) := by decide +kernel
theorem dX12_atom_138 : decode cX12_atom 138 = .ok (.iaload, 1) := by decide +kernel
theorem dX12_atom_139 : decode cX12_atom 139 = .ok (.ifCond .le 13, 3) := by decide +kernel
theorem dX12_atom_142 : decode cX12_atom 142 = .ok (.aload_n 0, 1) := by decide +kernel
theorem dX12_atom_143 : decode cX12_atom 143 = .ok (.iconst 1, 1) := by decide +kernel
theorem dX12_atom_144 : decode cX12_atom 144 = .ok (.aload_n 0, 1) := by decide +kernel
theorem dX12_atom_145 : decode cX12_atom 145 = .ok (.getfield 91, 3) := by decide +kernel
theorem dX12_atom_148 : decode cX12_atom 148 = .ok (.invokevirtual 140, 3) := by decide +kernel
theorem dX12_atom_151 : decode cX12_atom 151 = .ok (.areturn, 1) := by decide +kernel
theorem dX12_atom_152 : decode cX12_atom 152 = .ok (.new 34, 3) := by decide +kernel
theorem dX12_atom_155 : decode cX12_atom 155 = .ok (.dup, 1) := by decide +kernel
theorem dX12_atom_156 : decode cX12_atom 156 = .ok (.iconst 5, 1) := by decide +kernel
theorem dX12_atom_157 : decode cX12_atom 157 = .ok (.aload_n 0, 1) := by decide +kernel
theorem dX12_atom_158 : decode cX12_atom 158 = .ok (.getfield 91, 3) := by decide +kernel
theorem dX12_atom_161 : decode cX12_atom 161 = .ok (.invokespecial 231, 3) := by decide +kernel
theorem dX12_atom_164 : decode cX12_atom 164 = .ok (.astore_n 2, 1) := by decide +kernel
theorem dX12_atom_165 : decode cX12_atom 165 = .ok (.aload_n 2, 1) := by decide +kernel
theorem dX12_atom_166 : decode cX12_atom 166 = .ok (.iload_n 1, 1) := by decide +kernel
theorem dX12_atom_167 : decode cX12_atom 167 = .ok (.putfield 277, 3) := by decide +kernel
theorem dX12_atom_170 : decode cX12_atom 170 = .ok (.aload_n 2, 1) := by decide +kernel
theorem dX12_atom_171 : decode cX12_atom 171 = .ok (.iconst 0, 1) := by decide +kernel
theorem dX12_atom_172 : decode cX12_atom 172 = .ok (.anewarray 34, 3) := by decide +kernel
theorem dX12_atom_175 : decode cX12_atom 175 = .ok (.putfield 240, 3) := by decide +kernel
theorem dX12_atom_178 : decode cX12_atom 178 = .ok (.aload_n 0, 1) := by decide +kernel
theorem dX12_atom_179 : decode cX12_atom 179 = .ok (.aload_n 0, 1) := by decide +kernel
theorem dX12_atom_180 : decode cX12_atom 180 = .ok (.getfield 91, 3) := by decide +kernel
theorem dX12_atom_183 : decode cX12_atom 183 = .ok (.invokevirtual 204, 3) := by decide +kernel
theorem dX12_atom_186 : decode cX12_atom 186 = .ok (.ifCond .ne 5, 3) := by decide +kernel
theorem dX12_atom_189 : decode cX12_atom 189 = .ok (.aconst_null, 1) := by decide +kernel
theorem dX12_atom_190 : decode cX12_atom 190 = .ok (.areturn, 1) := by decide +kernel
theorem dX12_atom_191 : decode cX12_atom 191 = .ok (.aload_n 0, 1) := by decide +kernel
theorem dX12_atom_192 : decode cX12_atom 192 = .ok (.invokevirtual 150, 3) := by decide +kernel
theorem dX12_atom_195 : decode cX12_atom 195 = .ok (.aload_n 2, 1) := by decide +kernel
theorem dX12_atom_196 : decode cX12_atom 196 = .ok (.areturn, 1) := by decide +kernel
theorem dX12_atom_197 : decode cX12_atom 197 = .ok (.aload_n 0, 1) := by decide +kernel
theorem dX12_atom_198 : decode cX12_atom 198 = .ok (.ldc_w 309, 3) := by decide +kernel
theorem dX12_atom_201 : decode cX12_atom 201 = .ok (.invokevirtual 153, 3) := by decide +kernel
theorem dX12_atom_204 : decode cX12_atom 204 = .ok (.ifCond .ne 13, 3) := by decide +kernel
theorem dX12_atom_207 : decode cX12_atom 207 = .ok (.aload_n 0, 1) := by decide +kernel
theorem dX12_atom_208 : decode cX12_atom 208 = .ok (.iconst 1, 1) := by decide +kernel
theorem dX12_atom_209 : decode cX12_atom 209 = .ok (.aload_n 0, 1) := by decide +kernel
theorem dX12_atom_210 : decode cX12_atom 210 = .ok (.getfield 91, 3) := by decide +kernel
theorem dX12_atom_213 : decode cX12_atom 213 = .ok (.invokevirtual 140, 3) := by decide +kernel
theorem dX12_atom_216 : decode cX12_atom 216 = .ok (.areturn, 1) := by decide +kernel
theorem dX12_atom_217 : decode cX12_atom 217 = .ok (.aload_n 0, 1) := by decide +kernel
theorem dX12_atom_218 : decode cX12_atom 218 = .ok (.invokevirtual 234, 3) := by decide +kernel
theorem dX12_atom_221 : decode cX12_atom 221 = .ok (.ifCond .ne 5, 3) := by decide +kernel
theorem dX12_atom_224 : decode cX12_atom 224 = .ok (.aconst_null, 1) := by decide +kernel
theorem dX12_atom_225 : decode cX12_atom 225 = .ok (.areturn, 1) := by decide +kernel
theorem dX12_atom_226 : decode cX12_atom 226 = .ok (.aload_n 0, 1) := by decide +kernel
theorem dX12_atom_227 : decode cX12_atom 227 = .ok (.invokevirtual 150, 3) := by decide +kernel
theorem dX12_atom_230 : decode cX12_atom 230 = .ok (.aload_n 0, 1) := by decide +kernel
theorem dX12_atom_231 : decode cX12_atom 231 = .ok (.invokevirtual 200, 3) := by decide +kernel
theorem dX12_atom_234 : decode cX12_atom 234 = .ok (.astore_n 1, 1) := by decide +kernel
theorem dX12_atom_235 : decode cX12_atom 235 = .ok (.aload_n 0, 1) := by decide +kernel
theorem dX12_atom_236 : decode cX12_atom 236 = .ok (.dup, 1) := by decide +kernel
theorem dX12_atom_237 : decode cX12_atom 237 = .ok (.getfield 164, 3) := by decide +kernel
theorem dX12_atom_240 : decode cX12_atom 240 = .ok (.iconst 1, 1) := by decide +kernel
theorem dX12_atom_241 : decode cX12_atom 241 = .ok (.isub, 1) := by decide +kernel
theorem dX12_atom_242 : decode cX12_atom 242 = .ok (.putfield 164, 3) := by decide +kernel
theorem dX12_atom_245 : decode cX12_atom 245 = .ok (.aload_n 1, 1) := by decide +kernel
theorem dX12_atom_246 : decode cX12_atom 246 = .ok (.ifnull 13, 3) := by decide +kernel
theorem dX12_atom_249 : decode cX12_atom 249 = .ok (.aload_n 0, 1) := by decide +kernel
theorem dX12_atom_250 : decode cX12_atom 250 = .ok (.ldc_w 329, 3) := by decide +kernel
theorem dX12_atom_253 : decode cX12_atom 253 = .ok (.invokevirtual 188, 3) := by decide +kernel
theorem dX12_atom_256 : decode cX12_atom 256 = .ok (.ifCond .ne 7, 3) := by decide +kernel
theorem dX12_atom_259 : decode cX12_atom 259 = .ok (.aconst_null, 1) := by decide +kernel
theorem dX12_atom_260 : decode cX12_atom 260 = .ok (.goto 4, 3) := by decide +kernel
theorem dX12_atom_263 : decode cX12_atom 263 = .ok (.aload_n 1, 1) := by decide +kernel
theorem dX12_atom_264 : decode cX12_atom 264 = .ok (.areturn, 1) := by decide +kernel
theorem mw_X12_atom : MW yX12_atom (Cond.code yX12_atom cX12_atom 3 (Option.some (Jvm.ClassFile.FieldType.object "LazyForge$Raw"))) cX12_atom 3 (Option.some (Jvm.ClassFile.FieldType.object "LazyForge$Raw")) 0 := ⟨rfl, ⟨(lw_all_tbl q1004), rfl, (lw_all_tbl q180)⟩, rfl, ⟨by decide, by decide⟩, by decide +kernel⟩
def GR_rd (g : gC) (ts : TS) (d : Nat) (rc : Rc) : Prop := (∀ (l0 : Int), SF g yX12_application (Cond.code yX12_application cX12_application 5 (Option.some (Jvm.ClassFile.FieldType.object "LazyForge$Raw"))) (Option.some (Jvm.ClassFile.FieldType.object "LazyForge$Raw")) d [vA g l0] (fun h => (h, ts)) (rc 0 l0 0 0 0 0)) ∧ (∀ (l0 : Int), SF g yX12_atom (Cond.code yX12_atom cX12_atom 3 (Option.some (Jvm.ClassFile.FieldType.object "LazyForge$Raw"))) (Option.some (Jvm.ClassFile.FieldType.object "LazyForge$Raw")) d [vA g l0] (fun h => (h, ts)) (rc 1 l0 0 0 0 0)) ∧ (∀ (l0 : Int), SF g yX12_choice (Cond.code yX12_choice cX12_choice 6 (Option.some (Jvm.ClassFile.FieldType.object "LazyForge$Raw"))) (Option.some (Jvm.ClassFile.FieldType.object "LazyForge$Raw")) d [vA g l0] (fun h => (h, ts)) (rc 2 l0 0 0 0 0)) ∧ (∀ (l0 : Int), SF g yX12_comparison (Cond.code yX12_comparison cX12_comparison 5 (Option.some (Jvm.ClassFile.FieldType.object "LazyForge$Raw"))) (Option.some (Jvm.ClassFile.FieldType.object "LazyForge$Raw")) d [vA g l0] (fun h => (h, ts)) (rc 3 l0 0 0 0 0)) ∧ (∀ (l0 : Int), SF g yX12_e (Cond.code yX12_e cX12_e 1 (Option.some (Jvm.ClassFile.FieldType.object "LazyForge$Raw"))) (Option.some (Jvm.ClassFile.FieldType.object "LazyForge$Raw")) d [vA g l0] (fun h => (h, ts)) (rc 4 l0 0 0 0 0)) ∧ (∀ (l0 : Int), SF g yX12_lambda (Cond.code yX12_lambda cX12_lambda 3 (Option.some (Jvm.ClassFile.FieldType.object "LazyForge$Raw"))) (Option.some (Jvm.ClassFile.FieldType.object "LazyForge$Raw")) d [vA g l0] (fun h => (h, ts)) (rc 5 l0 0 0 0 0)) ∧ (∀ (l0 : Int), SF g yX12_let (Cond.code yX12_let cX12_let 7 (Option.some (Jvm.ClassFile.FieldType.object "LazyForge$Raw"))) (Option.some (Jvm.ClassFile.FieldType.object "LazyForge$Raw")) d [vA g l0] (fun h => (h, ts)) (rc 6 l0 0 0 0 0)) ∧ (∀ (l0 : Int) (l1 : Int), R32 l1 → SF g yX12_made (Cond.code yX12_made cX12_made 4 (Option.some (Jvm.ClassFile.FieldType.object "LazyForge$Raw"))) (Option.some (Jvm.ClassFile.FieldType.object "LazyForge$Raw")) d [vA g l0, vI l1] (fun h => (h, ts)) (rc 7 l0 l1 0 0 0)) ∧ (∀ (l0 : Int), SF g yX12_product (Cond.code yX12_product cX12_product 5 (Option.some (Jvm.ClassFile.FieldType.object "LazyForge$Raw"))) (Option.some (Jvm.ClassFile.FieldType.object "LazyForge$Raw")) d [vA g l0] (fun h => (h, ts)) (rc 8 l0 0 0 0 0)) ∧ (∀ (l0 : Int), SF g yX12_sum (Cond.code yX12_sum cX12_sum 5 (Option.some (Jvm.ClassFile.FieldType.object "LazyForge$Raw"))) (Option.some (Jvm.ClassFile.FieldType.object "LazyForge$Raw")) d [vA g l0] (fun h => (h, ts)) (rc 9 l0 0 0 0 0))
theorem gr_rd_0 {g : gC} {ts : TS} {d : Nat} {rc : Rc} (h : GR_rd g ts d rc) : (∀ (l0 : Int), SF g yX12_application (Cond.code yX12_application cX12_application 5 (Option.some (Jvm.ClassFile.FieldType.object "LazyForge$Raw"))) (Option.some (Jvm.ClassFile.FieldType.object "LazyForge$Raw")) d [vA g l0] (fun h => (h, ts)) (rc 0 l0 0 0 0 0)) := h.1
theorem gr_rd_1 {g : gC} {ts : TS} {d : Nat} {rc : Rc} (h : GR_rd g ts d rc) : (∀ (l0 : Int), SF g yX12_atom (Cond.code yX12_atom cX12_atom 3 (Option.some (Jvm.ClassFile.FieldType.object "LazyForge$Raw"))) (Option.some (Jvm.ClassFile.FieldType.object "LazyForge$Raw")) d [vA g l0] (fun h => (h, ts)) (rc 1 l0 0 0 0 0)) := h.2.1
theorem gr_rd_2 {g : gC} {ts : TS} {d : Nat} {rc : Rc} (h : GR_rd g ts d rc) : (∀ (l0 : Int), SF g yX12_choice (Cond.code yX12_choice cX12_choice 6 (Option.some (Jvm.ClassFile.FieldType.object "LazyForge$Raw"))) (Option.some (Jvm.ClassFile.FieldType.object "LazyForge$Raw")) d [vA g l0] (fun h => (h, ts)) (rc 2 l0 0 0 0 0)) := h.2.2.1
theorem gr_rd_3 {g : gC} {ts : TS} {d : Nat} {rc : Rc} (h : GR_rd g ts d rc) : (∀ (l0 : Int), SF g yX12_comparison (Cond.code yX12_comparison cX12_comparison 5 (Option.some (Jvm.ClassFile.FieldType.object "LazyForge$Raw"))) (Option.some (Jvm.ClassFile.FieldType.object "LazyForge$Raw")) d [vA g l0] (fun h => (h, ts)) (rc 3 l0 0 0 0 0)) := h.2.2.2.1
theorem gr_rd_4 {g : gC} {ts : TS} {d : Nat} {rc : Rc} (h : GR_rd g ts d rc) : (∀ (l0 : Int), SF g yX12_e (Cond.code yX12_e cX12_e 1 (Option.some (Jvm.ClassFile.FieldType.object "LazyForge$Raw"))) (Option.some (Jvm.ClassFile.FieldType.object "LazyForge$Raw")) d [vA g l0] (fun h => (h, ts)) (rc 4 l0 0 0 0 0)) := h.2.2.2.2.1
theorem gr_rd_5 {g : gC} {ts : TS} {d : Nat} {rc : Rc} (h : GR_rd g ts d rc) : (∀ (l0 : Int), SF g yX12_lambda (Cond.code yX12_lambda cX12_lambda 3 (Option.some (Jvm.ClassFile.FieldType.object "LazyForge$Raw"))) (Option.some (Jvm.ClassFile.FieldType.object "LazyForge$Raw")) d [vA g l0] (fun h => (h, ts)) (rc 5 l0 0 0 0 0)) := h.2.2.2.2.2.1
theorem gr_rd_6 {g : gC} {ts : TS} {d : Nat} {rc : Rc} (h : GR_rd g ts d rc) : (∀ (l0 : Int), SF g yX12_let (Cond.code yX12_let cX12_let 7 (Option.some (Jvm.ClassFile.FieldType.object "LazyForge$Raw"))) (Option.some (Jvm.ClassFile.FieldType.object "LazyForge$Raw")) d [vA g l0] (fun h => (h, ts)) (rc 6 l0 0 0 0 0)) := h.2.2.2.2.2.2.1
theorem gr_rd_7 {g : gC} {ts : TS} {d : Nat} {rc : Rc} (h : GR_rd g ts d rc) : (∀ (l0 : Int) (l1 : Int), R32 l1 → SF g yX12_made (Cond.code yX12_made cX12_made 4 (Option.some (Jvm.ClassFile.FieldType.object "LazyForge$Raw"))) (Option.some (Jvm.ClassFile.FieldType.object "LazyForge$Raw")) d [vA g l0, vI l1] (fun h => (h, ts)) (rc 7 l0 l1 0 0 0)) := h.2.2.2.2.2.2.2.1
theorem gr_rd_8 {g : gC} {ts : TS} {d : Nat} {rc : Rc} (h : GR_rd g ts d rc) : (∀ (l0 : Int), SF g yX12_product (Cond.code yX12_product cX12_product 5 (Option.some (Jvm.ClassFile.FieldType.object "LazyForge$Raw"))) (Option.some (Jvm.ClassFile.FieldType.object "LazyForge$Raw")) d [vA g l0] (fun h => (h, ts)) (rc 8 l0 0 0 0 0)) := h.2.2.2.2.2.2.2.2.1
theorem gr_rd_9 {g : gC} {ts : TS} {d : Nat} {rc : Rc} (h : GR_rd g ts d rc) : (∀ (l0 : Int), SF g yX12_sum (Cond.code yX12_sum cX12_sum 5 (Option.some (Jvm.ClassFile.FieldType.object "LazyForge$Raw"))) (Option.some (Jvm.ClassFile.FieldType.object "LazyForge$Raw")) d [vA g l0] (fun h => (h, ts)) (rc 9 l0 0 0 0 0)) := h.2.2.2.2.2.2.2.2.2
abbrev okb_X12_let_71 (x : Int × Int × Int × Int × Int × Int) : Prop := 0 < x.2.1 ∧ 0 < x.2.2.1 ∧ 0 < x.2.2.2.1 ∧ R32 x.2.2.2.2.1 ∧ R32 x.2.2.2.2.2
abbrev lvb_X12_let_71 (Γ : Gm) (x : Int × Int × Int × Int × Int × Int) : List (Nat × Value) := [(0, vA (mg Γ) x.1), (1, vA (mg Γ) x.2.1), (2, vA (mg Γ) x.2.2.1), (3, vA (mg Γ) x.2.2.2.1), (4, vI x.2.2.2.2.1), (5, vI x.2.2.2.2.2)]
noncomputable def b_X12_let_100 (rc : Rc) {A : Type} (k_106 : Int → Int → Int → Int → Int → Mo CH A) (l0 : Int) (l1 : Int) (l2 : Int) (l3 : Int) (l4 : Int) (l5 : Int) : Mo CH ((Int × Int × Int × Int × Int × Int) ⊕ A) :=
  pr (.inl (l0, l1, l2, l3, l4, (w32 (l5 + 1))))
theorem sb_X12_let_100 {Γ : Gm} {ts : TS} {d : Nat} {rc : Rc} (hr : GR_rd (mg Γ) ts (d + 8) rc) (o : Ok Γ "LazyForge$Reader" cX12_let 7 (Option.some (Jvm.ClassFile.FieldType.object "LazyForge$Raw")) (d + 9)) {A : Type} {K : A → CH → Prop}  (k_106 : Int → Int → Int → Int → Int → Mo CH A) (hk_106 : ∀ (l0 : Int) (l1 : Int) (l2 : Int) (l3 : Int) (l4 : Int), 0 < l1 → 0 < l2 → 0 < l3 → R32 l4 → Sx Γ (fun h => (h, ts)) K 106 [(0, vA (mg Γ) l0), (1, vA (mg Γ) l1), (2, vA (mg Γ) l2), (3, vA (mg Γ) l3), (4, vI l4)] [] (k_106 l0 l1 l2 l3 l4)) (l0 : Int) (l1 : Int) (l2 : Int) (l3 : Int) (l4 : Int) (l5 : Int) (hl1 : 0 < l1) (hl2 : 0 < l2) (hl3 : 0 < l3) (hl4 : R32 l4) (hl5 : R32 l5) : Sx Γ (fun h => (h, ts)) (KL Γ (fun h => (h, ts)) okb_X12_let_71 K 71 (lvb_X12_let_71 Γ) []) 100 [(0, vA (mg Γ) l0), (1, vA (mg Γ) l1), (2, vA (mg Γ) l2), (3, vA (mg Γ) l3), (4, vI l4), (5, vI l5)] [] (b_X12_let_100 rc k_106 l0 l1 l2 l3 l4 l5) := by
  unfold b_X12_let_100
  refine r_iinc (j := 5) o dX12_let_100 rfl rfl [(0, vA (mg Γ) l0), (1, vA (mg Γ) l1), (2, vA (mg Γ) l2), (3, vA (mg Γ) l3), (4, vI l4)] [0, 1, 2, 3, 4] rfl ⟨(Nat.ne_of_beq_eq_false rfl), (fun _ => (vA_cat (mg Γ) l0)), ⟨(Nat.ne_of_beq_eq_false rfl), (fun _ => (vA_cat (mg Γ) l1)), ⟨(Nat.ne_of_beq_eq_false rfl), (fun _ => (vA_cat (mg Γ) l2)), ⟨(Nat.ne_of_beq_eq_false rfl), (fun _ => (vA_cat (mg Γ) l3)), ⟨(Nat.ne_of_beq_eq_false rfl), (fun _ => rfl), trivial⟩⟩⟩⟩⟩ ?_
  refine s_goto (tgt := 71) o dX12_let_103 (by decide) ?_
  refine r_to [(0, vA (mg Γ) l0), (1, vA (mg Γ) l1), (2, vA (mg Γ) l2), (3, vA (mg Γ) l3), (4, vI l4), (5, vI (w32 (l5 + 1)))] [1, 2, 3, 4, 5, 0] rfl ?_
  exact s_back (⟨hl1, hl2, hl3, hl4, (w32_R _)⟩) rfl
noncomputable def b_X12_let_71b (rc : Rc) {A : Type} (k_106 : Int → Int → Int → Int → Int → Mo CH A) (l0 : Int) (l1 : Int) (l2 : Int) (l3 : Int) (l4 : Int) (l5 : Int) : Mo CH ((Int × Int × Int × Int × Int × Int) ⊕ A) :=
  if l4 ≤ l5 then
    lo (k_106 l0 l1 l2 l3 l4)
  else
    bnd (ald 1 l2 l5) fun v1 =>
    bnd (gf [112] 8 l0) fun v2 =>
    if ¬ v1 = v2 then
      b_X12_let_100 rc k_106 l0 l1 l2 l3 l4 l5
    else
      bnd (gf [112] 5 l0) fun v3 =>
      bnd (isk 112 l0) fun _ =>
      bnd (c_X12_fail l0 2 v3) fun v4 =>
      b_X12_let_100 rc k_106 l0 l1 l2 l3 l4 l5
theorem sb_X12_let_71b {Γ : Gm} {ts : TS} {d : Nat} {rc : Rc} (hr : GR_rd (mg Γ) ts (d + 8) rc) (o : Ok Γ "LazyForge$Reader" cX12_let 7 (Option.some (Jvm.ClassFile.FieldType.object "LazyForge$Raw")) (d + 9)) {A : Type} {K : A → CH → Prop} (k_106 : Int → Int → Int → Int → Int → Mo CH A) (hk_106 : ∀ (l0 : Int) (l1 : Int) (l2 : Int) (l3 : Int) (l4 : Int), 0 < l1 → 0 < l2 → 0 < l3 → R32 l4 → Sx Γ (fun h => (h, ts)) K 106 [(0, vA (mg Γ) l0), (1, vA (mg Γ) l1), (2, vA (mg Γ) l2), (3, vA (mg Γ) l3), (4, vI l4)] [] (k_106 l0 l1 l2 l3 l4)) (l0 : Int) (l1 : Int) (l2 : Int) (l3 : Int) (l4 : Int) (l5 : Int) (hl1 : 0 < l1) (hl2 : 0 < l2) (hl3 : 0 < l3) (hl4 : R32 l4) (hl5 : R32 l5) : Sx Γ (fun h => (h, ts)) (KL Γ (fun h => (h, ts)) okb_X12_let_71 K 71 (lvb_X12_let_71 Γ) []) 71 [(0, vA (mg Γ) l0), (1, vA (mg Γ) l1), (2, vA (mg Γ) l2), (3, vA (mg Γ) l3), (4, vI l4), (5, vI l5)] [] (b_X12_let_71b rc k_106 l0 l1 l2 l3 l4 l5) := by
  unfold b_X12_let_71b
  refine s_iload o dX12_let_71 5 rfl ?_
  refine s_iload o dX12_let_73 4 rfl ?_
  refine s_icmp_ge (tgt := 106) o dX12_let_75 (by decide) hl5 hl4 ?_ ?_
  · refine r_to [(0, vA (mg Γ) l0), (1, vA (mg Γ) l1), (2, vA (mg Γ) l2), (3, vA (mg Γ) l3), (4, vI l4)] [0, 1, 2, 3, 4] rfl ?_
    exact s_lo (hk_106 l0 l1 l2 l3 l4 hl1 hl2 hl3 hl4)
  · refine s_aload_n o dX12_let_78 rfl 2 rfl ?_
    refine s_iload o dX12_let_79 5 rfl ?_
    refine r_lald o hl5 dX12_let_81 (fun v1 hv1 => ?_)
    refine s_aload_n o dX12_let_82 rfl 0 rfl ?_
    refine r_getf vJ rfl o cf_X12_word (Or.inl (lw_all_tbl q661)) dX12_let_83 (fun v2 hv2 => ?_)
    refine s_lcmp_ne (tgt := 100) o dX12_let_86 dX12_let_87 (by decide) hv1 hv2 ?_ ?_
    · exact sb_X12_let_100 hr o k_106 hk_106 l0 l1 l2 l3 l4 l5 hl1 hl2 hl3 hl4 hl5
    · refine s_aload_n o dX12_let_90 rfl 0 rfl ?_
      refine s_iconst o dX12_let_91 ?_
      refine s_aload_n o dX12_let_92 rfl 0 rfl ?_
      refine r_getf vI rfl o cf_X12_place (Or.inl (lw_all_tbl q658)) dX12_let_93 (fun v3 hv3 => ?_)
      refine s_cvC (d := d + 8) (As := [vI 2, vI v3]) (st := []) (c := 12) o (sc_X12_fail (mg Γ) (d + 8) ts l0 2 v3 (r32 rfl) hv3) mw_X12_fail rfl (Or.inl (lw_all_tbl q846)) rfl (lw_all_tbl qs9) (lw_all_tbl q848) wt_0 rfl dX12_let_96 rfl (rs := fun r => [vA (mg Γ) r]) (fun _ => rfl) (fun v4 hv4 => ?_)
      refine s_pop o dX12_let_99 (vA_cat (mg Γ) v4) ?_
      exact sb_X12_let_100 hr o k_106 hk_106 l0 l1 l2 l3 l4 l5 hl1 hl2 hl3 hl4 hl5
noncomputable def b_X12_let_71 (rc : Rc) {A : Type} (k_106 : Int → Int → Int → Int → Int → Mo CH A) (l0 : Int) (l1 : Int) (l2 : Int) (l3 : Int) (l4 : Int) (l5 : Int) : Mo CH A := Loop (fun x => b_X12_let_71b rc k_106 x.1 x.2.1 x.2.2.1 x.2.2.2.1 x.2.2.2.2.1 x.2.2.2.2.2) (l0, l1, l2, l3, l4, l5)
theorem sb_X12_let_71 {Γ : Gm} {ts : TS} {d : Nat} {rc : Rc} (hr : GR_rd (mg Γ) ts (d + 8) rc) (o : Ok Γ "LazyForge$Reader" cX12_let 7 (Option.some (Jvm.ClassFile.FieldType.object "LazyForge$Raw")) (d + 9)) {A : Type} {K : A → CH → Prop} (k_106 : Int → Int → Int → Int → Int → Mo CH A) (hk_106 : ∀ (l0 : Int) (l1 : Int) (l2 : Int) (l3 : Int) (l4 : Int), 0 < l1 → 0 < l2 → 0 < l3 → R32 l4 → Sx Γ (fun h => (h, ts)) K 106 [(0, vA (mg Γ) l0), (1, vA (mg Γ) l1), (2, vA (mg Γ) l2), (3, vA (mg Γ) l3), (4, vI l4)] [] (k_106 l0 l1 l2 l3 l4)) (l0 : Int) (l1 : Int) (l2 : Int) (l3 : Int) (l4 : Int) (l5 : Int) (hl1 : 0 < l1) (hl2 : 0 < l2) (hl3 : 0 < l3) (hl4 : R32 l4) (hl5 : R32 l5) : Sx Γ (fun h => (h, ts)) K 71 [(0, vA (mg Γ) l0), (1, vA (mg Γ) l1), (2, vA (mg Γ) l2), (3, vA (mg Γ) l3), (4, vI l4), (5, vI l5)] [] (b_X12_let_71 rc k_106 l0 l1 l2 l3 l4 l5) :=
  s_loop okb_X12_let_71 (lvb_X12_let_71 Γ) (fun x hx => sb_X12_let_71b hr o k_106 hk_106 x.1 x.2.1 x.2.2.1 x.2.2.2.1 x.2.2.2.2.1 x.2.2.2.2.2 hx.1 hx.2.1 hx.2.2.1 hx.2.2.2.1 hx.2.2.2.2) (x := (l0, l1, l2, l3, l4, l5)) ⟨hl1, hl2, hl3, hl4, hl5⟩
abbrev okb_X12_let_46 (x : Int × Int × Int × Int × Int) : Prop := 0 < x.2.1 ∧ 0 < x.2.2.1 ∧ 0 < x.2.2.2.1 ∧ R32 x.2.2.2.2
abbrev lvb_X12_let_46 (Γ : Gm) (x : Int × Int × Int × Int × Int) : List (Nat × Value) := [(0, vA (mg Γ) x.1), (1, vA (mg Γ) x.2.1), (2, vA (mg Γ) x.2.2.1), (3, vA (mg Γ) x.2.2.2.1), (4, vI x.2.2.2.2)]
noncomputable def b_X12_let_206 (rc : Rc) {A : Type} (k_58 : Int → Mo CH A) (k_129 : Mo CH A) (k_166 : Mo CH A) (k_183 : Mo CH A) (k_218 : Int → Int → Int → Int → Int → Mo CH A) (l0 : Int) (l1 : Int) (l2 : Int) (l3 : Int) (l4 : Int) : Mo CH ((Int × Int × Int × Int × Int) ⊕ A) :=
  bnd (isk 112 l0) fun _ =>
  bnd (c_X12_isSign l0 (-10)) fun v1 =>
  if ¬ v1 = 0 then
    pr (.inl (l0, l1, l2, l3, (w32 (l4 + 1))))
  else
    lo (k_218 l0 l1 l2 l3 (w32 (l4 + 1)))
theorem sb_X12_let_206 {Γ : Gm} {ts : TS} {d : Nat} {rc : Rc} (hr : GR_rd (mg Γ) ts (d + 8) rc) (o : Ok Γ "LazyForge$Reader" cX12_let 7 (Option.some (Jvm.ClassFile.FieldType.object "LazyForge$Raw")) (d + 9)) {A : Type} {K : A → CH → Prop}  (k_58 : Int → Mo CH A) (k_129 : Mo CH A) (k_166 : Mo CH A) (k_183 : Mo CH A) (k_218 : Int → Int → Int → Int → Int → Mo CH A) (hk_58 : ∀ (l0 : Int), Sx Γ (fun h => (h, ts)) K 58 [(0, vA (mg Γ) l0)] [] (k_58 l0)) (hk_129 : Sx Γ (fun h => (h, ts)) K 129 [] [] (k_129)) (hk_166 : Sx Γ (fun h => (h, ts)) K 166 [] [] (k_166)) (hk_183 : Sx Γ (fun h => (h, ts)) K 183 [] [] (k_183)) (hk_218 : ∀ (l0 : Int) (l1 : Int) (l2 : Int) (l3 : Int) (l4 : Int), 0 < l1 → 0 < l2 → 0 < l3 → R32 l4 → Sx Γ (fun h => (h, ts)) K 218 [(0, vA (mg Γ) l0), (1, vA (mg Γ) l1), (2, vA (mg Γ) l2), (3, vA (mg Γ) l3), (4, vI l4)] [] (k_218 l0 l1 l2 l3 l4)) (l0 : Int) (l1 : Int) (l2 : Int) (l3 : Int) (l4 : Int) (hl1 : 0 < l1) (hl2 : 0 < l2) (hl3 : 0 < l3) (hl4 : R32 l4) : Sx Γ (fun h => (h, ts)) (KL Γ (fun h => (h, ts)) okb_X12_let_46 K 46 (lvb_X12_let_46 Γ) []) 206 [(0, vA (mg Γ) l0), (1, vA (mg Γ) l1), (2, vA (mg Γ) l2), (3, vA (mg Γ) l3), (4, vI l4)] [] (b_X12_let_206 rc k_58 k_129 k_166 k_183 k_218 l0 l1 l2 l3 l4) := by
  unfold b_X12_let_206
  refine r_iinc (j := 4) o dX12_let_206 rfl rfl [(0, vA (mg Γ) l0), (1, vA (mg Γ) l1), (2, vA (mg Γ) l2), (3, vA (mg Γ) l3)] [0, 1, 2, 3] rfl ⟨(Nat.ne_of_beq_eq_false rfl), (fun _ => (vA_cat (mg Γ) l0)), ⟨(Nat.ne_of_beq_eq_false rfl), (fun _ => (vA_cat (mg Γ) l1)), ⟨(Nat.ne_of_beq_eq_false rfl), (fun _ => (vA_cat (mg Γ) l2)), ⟨(Nat.ne_of_beq_eq_false rfl), (fun _ => (vA_cat (mg Γ) l3)), trivial⟩⟩⟩⟩ ?_
  refine s_aload_n o dX12_let_209 rfl 1 rfl ?_
  refine s_ldcS (tx := ",") (k := 10) o (by decide +kernel) rfl (by decide) dX12_let_210 ?_
  refine s_cvC (d := d + 8) (As := [vA (mg Γ) (-10)]) (st := []) (c := 12) o (sc_X12_isSign (mg Γ) (d + 3) ts l0 (-10)) mw_X12_isSign rfl (Or.inl (lw_all_tbl q859)) rfl (lw_all_tbl qs12) (lw_all_tbl q861) wt_0 rfl dX12_let_212 rfl (rs := fun r => [vI r]) (fun _ => rfl) (fun v1 hv1 => ?_)
  refine s_if_ne (tgt := 46) o dX12_let_215 (by decide) (rZ (hv1 _ rfl)) ?_ ?_
  · refine r_to [(0, vA (mg Γ) l0), (1, vA (mg Γ) l1), (2, vA (mg Γ) l2), (3, vA (mg Γ) l3), (4, vI (w32 (l4 + 1)))] [1, 2, 3, 4, 0] rfl ?_
    exact s_back (⟨hl1, hl2, hl3, (w32_R _)⟩) rfl
  · refine r_to [(0, vA (mg Γ) l0), (1, vA (mg Γ) l1), (2, vA (mg Γ) l2), (3, vA (mg Γ) l3), (4, vI (w32 (l4 + 1)))] [1, 2, 3, 4, 0] rfl ?_
    exact s_lo (hk_218 l0 l1 l2 l3 (w32 (l4 + 1)) hl1 hl2 hl3 (w32_R _))
noncomputable def b_X12_let_122 (rc : Rc) {A : Type} (k_58 : Int → Mo CH A) (k_129 : Mo CH A) (k_166 : Mo CH A) (k_183 : Mo CH A) (k_218 : Int → Int → Int → Int → Int → Mo CH A) (l0 : Int) (l1 : Int) (l2 : Int) (l3 : Int) (l4 : Int) : Mo CH ((Int × Int × Int × Int × Int) ⊕ A) :=
  bnd (isk 112 l0) fun _ =>
  bnd (c_X12_isGood l0) fun v1 =>
  if ¬ v1 = 0 then
    bnd (gf [112] 5 l0) fun v2 =>
    bnd (gf [112] 8 l0) fun v3 =>
    bnd (ast 1 l2 l4 v3) fun _ =>
    bnd (isk 112 l0) fun _ =>
    bnd (c_X12_next l0) fun _ =>
    bnd (isk 112 l0) fun _ =>
    bnd (c_X12_row l0 0 1) fun v4 =>
    bnd (isk 112 l0) fun _ =>
    bnd (c_X12_needSign l0 (-8)) fun v5 =>
    if ¬ v5 = 0 then
      bnd (isk 112 l0) fun _ =>
      bnd (rc 4 l0 0 0 0 0) fun v6 =>
      bnd (asq 6 l3 l4 v6) fun _ =>
      bnd (ald 6 l3 l4) fun v7 =>
      if ¬ v7 = 0 then
        bnd (aln v4) fun v8 =>
        if v8 ≤ 0 then
          b_X12_let_206 rc k_58 k_129 k_166 k_183 k_218 l0 l1 l2 l3 l4
        else
          bnd (ald 6 l3 l4) fun v9 =>
          bnd (c_X12_function_2 v4 v9 v2) fun v10 =>
          bnd (asq 6 l3 l4 v10) fun _ =>
          b_X12_let_206 rc k_58 k_129 k_166 k_183 k_218 l0 l1 l2 l3 l4
      else
        lo k_183
    else
      lo k_166
  else
    lo k_129
theorem sb_X12_let_122 {Γ : Gm} {ts : TS} {d : Nat} {rc : Rc} (hr : GR_rd (mg Γ) ts (d + 8) rc) (o : Ok Γ "LazyForge$Reader" cX12_let 7 (Option.some (Jvm.ClassFile.FieldType.object "LazyForge$Raw")) (d + 9)) {A : Type} {K : A → CH → Prop}  (k_58 : Int → Mo CH A) (k_129 : Mo CH A) (k_166 : Mo CH A) (k_183 : Mo CH A) (k_218 : Int → Int → Int → Int → Int → Mo CH A) (hk_58 : ∀ (l0 : Int), Sx Γ (fun h => (h, ts)) K 58 [(0, vA (mg Γ) l0)] [] (k_58 l0)) (hk_129 : Sx Γ (fun h => (h, ts)) K 129 [] [] (k_129)) (hk_166 : Sx Γ (fun h => (h, ts)) K 166 [] [] (k_166)) (hk_183 : Sx Γ (fun h => (h, ts)) K 183 [] [] (k_183)) (hk_218 : ∀ (l0 : Int) (l1 : Int) (l2 : Int) (l3 : Int) (l4 : Int), 0 < l1 → 0 < l2 → 0 < l3 → R32 l4 → Sx Γ (fun h => (h, ts)) K 218 [(0, vA (mg Γ) l0), (1, vA (mg Γ) l1), (2, vA (mg Γ) l2), (3, vA (mg Γ) l3), (4, vI l4)] [] (k_218 l0 l1 l2 l3 l4)) (l0 : Int) (l1 : Int) (l2 : Int) (l3 : Int) (l4 : Int) (hl1 : 0 < l1) (hl2 : 0 < l2) (hl3 : 0 < l3) (hl4 : R32 l4) : Sx Γ (fun h => (h, ts)) (KL Γ (fun h => (h, ts)) okb_X12_let_46 K 46 (lvb_X12_let_46 Γ) []) 122 [(0, vA (mg Γ) l0), (1, vA (mg Γ) l1), (2, vA (mg Γ) l2), (3, vA (mg Γ) l3), (4, vI l4)] [] (b_X12_let_122 rc k_58 k_129 k_166 k_183 k_218 l0 l1 l2 l3 l4) := by
  unfold b_X12_let_122
  refine s_aload_n o dX12_let_122 rfl 0 rfl ?_
  refine s_cvC (d := d + 8) (As := []) (st := []) (c := 12) o (sc_X12_isGood (mg Γ) (d + 8) ts l0) mw_X12_isGood rfl (Or.inl (lw_all_tbl q833)) rfl (lw_all_tbl qs6) (lw_all_tbl q835) wt_0 rfl dX12_let_123 rfl (rs := fun r => [vI r]) (fun _ => rfl) (fun v1 hv1 => ?_)
  refine s_if_ne (tgt := 131) o dX12_let_126 (by decide) (rZ (hv1 _ rfl)) ?_ ?_
  · refine s_aload_n o dX12_let_131 rfl 0 rfl ?_
    refine r_getf vI rfl o cf_X12_place (Or.inl (lw_all_tbl q658)) dX12_let_132 (fun v2 hv2 => ?_)
    refine r_istore o dX12_let_135 rfl ⟨(Nat.ne_of_beq_eq_false rfl), (fun _ => (vA_cat (mg Γ) l0)), ⟨(Nat.ne_of_beq_eq_false rfl), (fun _ => (vA_cat (mg Γ) l1)), ⟨(Nat.ne_of_beq_eq_false rfl), (fun _ => (vA_cat (mg Γ) l2)), ⟨(Nat.ne_of_beq_eq_false rfl), (fun _ => (vA_cat (mg Γ) l3)), ⟨(Nat.ne_of_beq_eq_false rfl), (fun _ => rfl), trivial⟩⟩⟩⟩⟩ ?_
    refine s_aload_n o dX12_let_137 rfl 3 rfl ?_
    refine s_iload o dX12_let_138 5 rfl ?_
    refine s_aload_n o dX12_let_140 rfl 1 rfl ?_
    refine r_getf vJ rfl o cf_X12_word (Or.inl (lw_all_tbl q661)) dX12_let_141 (fun v3 hv3 => ?_)
    refine r_last o hl4 hv3 dX12_let_144 ?_
    refine s_aload_n o dX12_let_145 rfl 1 rfl ?_
    refine s_cvC (d := d + 8) (As := []) (st := []) (c := 12) o (sc_X12_next (mg Γ) (d + 3) ts l0) mw_X12_next rfl (Or.inl (lw_all_tbl q743)) rfl (lw_all_tbl qs2) (lw_all_tbl q745) wt_0 rfl dX12_let_146 rfl (rs := fun _ => []) (fun _ => rfl) (fun _ _ => ?_)
    refine s_aload_n o dX12_let_149 rfl 1 rfl ?_
    refine s_iconst o dX12_let_150 ?_
    refine s_iconst o dX12_let_151 ?_
    refine s_cvC (d := d + 8) (As := [vI 0, vI 1]) (st := []) (c := 12) o (sc_X12_row (mg Γ) (d + 2) ts l0 0 1 (r32 rfl) (Or.inr rfl)) mw_X12_row rfl (Or.inl (lw_all_tbl q872)) rfl (lw_all_tbl qs15) (lw_all_tbl q874) wt_0 rfl dX12_let_152 rfl (rs := fun r => [vA (mg Γ) r]) (fun _ => rfl) (fun v4 hv4 => ?_)
    refine r_astore o dX12_let_155 rfl ⟨(Nat.ne_of_beq_eq_false rfl), (fun _ => rfl), ⟨(Nat.ne_of_beq_eq_false rfl), (fun _ => (vA_cat (mg Γ) l0)), ⟨(Nat.ne_of_beq_eq_false rfl), (fun _ => (vA_cat (mg Γ) l1)), ⟨(Nat.ne_of_beq_eq_false rfl), (fun _ => (vA_cat (mg Γ) l2)), ⟨(Nat.ne_of_beq_eq_false rfl), (fun _ => (vA_cat (mg Γ) l3)), ⟨(Nat.ne_of_beq_eq_false rfl), (fun _ => rfl), trivial⟩⟩⟩⟩⟩⟩ ?_
    refine s_aload_n o dX12_let_157 rfl 2 rfl ?_
    refine s_ldcS (tx := "=") (k := 8) o (by decide +kernel) rfl (by decide) dX12_let_158 ?_
    refine s_cvC (d := d + 8) (As := [vA (mg Γ) (-8)]) (st := []) (c := 12) o (sc_X12_needSign (mg Γ) (d + 1) ts l0 (-8)) mw_X12_needSign rfl (Or.inl (lw_all_tbl q864)) rfl (lw_all_tbl qs13) (lw_all_tbl q866) wt_0 rfl dX12_let_160 rfl (rs := fun r => [vI r]) (fun _ => rfl) (fun v5 hv5 => ?_)
    refine s_if_ne (tgt := 168) o dX12_let_163 (by decide) (rZ (hv5 _ rfl)) ?_ ?_
    · refine s_aload_n o dX12_let_168 rfl 5 rfl ?_
      refine s_iload o dX12_let_169 6 rfl ?_
      refine s_aload_n o dX12_let_171 rfl 2 rfl ?_
      refine s_cvC (d := d + 8) (As := []) (st := [vI l4, vA (mg Γ) l3]) (c := 12) o (gr_rd_4 hr l0) mw_X12_e rfl (Or.inl (lw_all_tbl q882)) rfl (lw_all_tbl qs17) (lw_all_tbl q884) (wt_I (wt_A wt_0)) rfl dX12_let_172 rfl (rs := fun r => [vA (mg Γ) r, vI l4, vA (mg Γ) l3]) (fun _ => rfl) (fun v6 hv6 => ?_)
      refine s_aast (kd := 6) o (by decide) (as_6 o) (Or.inl ⟨_, rfl⟩) hl4 dX12_let_175 ?_
      refine s_aload_n o dX12_let_176 rfl 5 rfl ?_
      refine s_iload o dX12_let_177 6 rfl ?_
      refine r_aald (kd := 6) o (by decide) rfl hl4 dX12_let_179 (fun v7 => ?_)
      refine s_ifnonnull (tgt := 185) o dX12_let_180 (by decide) ?_ ?_
      · refine s_aload o dX12_let_185 0 rfl ?_
        refine s_alen o dX12_let_187 (fun v8 hv8 => ?_)
        refine s_if_le (tgt := 206) o dX12_let_188 (by decide) (rN hv8) ?_ ?_
        · refine r_to [(0, vA (mg Γ) l0), (1, vA (mg Γ) l1), (2, vA (mg Γ) l2), (3, vA (mg Γ) l3), (4, vI l4)] [2, 3, 4, 5, 6] rfl ?_
          exact sb_X12_let_206 hr o k_58 k_129 k_166 k_183 k_218 hk_58 hk_129 hk_166 hk_183 hk_218 l0 l1 l2 l3 l4 hl1 hl2 hl3 hl4
        · refine s_aload_n o dX12_let_191 rfl 5 rfl ?_
          refine s_iload o dX12_let_192 6 rfl ?_
          refine s_aload o dX12_let_194 0 rfl ?_
          refine s_aload_n o dX12_let_196 rfl 5 rfl ?_
          refine s_iload o dX12_let_197 6 rfl ?_
          refine r_aald (kd := 6) o (by decide) rfl hl4 dX12_let_199 (fun v9 => ?_)
          refine s_iload o dX12_let_200 1 rfl ?_
          refine s_cs (d := d + 8) (As := [vA (mg Γ) v4, vA (mg Γ) v9, vI v2]) (st := [vI l4, vA (mg Γ) l3]) o (sc_X12_function_2 (mg Γ) (d + 6) ts v4 v9 v2 hv2) mw_X12_function_2 rfl (Or.inl (lw_all_tbl q942)) (lw_all_tbl q943) (wt_I (wt_A wt_0)) rfl dX12_let_202 rfl (rs := fun r => [vA (mg Γ) r, vI l4, vA (mg Γ) l3]) (fun _ => rfl) (fun v10 hv10 => ?_)
          refine s_aast (kd := 6) o (by decide) (as_6 o) (Or.inl ⟨_, rfl⟩) hl4 dX12_let_205 ?_
          refine r_to [(0, vA (mg Γ) l0), (1, vA (mg Γ) l1), (2, vA (mg Γ) l2), (3, vA (mg Γ) l3), (4, vI l4)] [2, 3, 4, 5, 6] rfl ?_
          exact sb_X12_let_206 hr o k_58 k_129 k_166 k_183 k_218 hk_58 hk_129 hk_166 hk_183 hk_218 l0 l1 l2 l3 l4 hl1 hl2 hl3 hl4
      · refine r_to [] [] rfl ?_
        exact s_lo hk_183
    · refine r_to [] [] rfl ?_
      exact s_lo hk_166
  · refine r_to [] [] rfl ?_
    exact s_lo hk_129
noncomputable def b_X12_let_46b (rc : Rc) {A : Type} (k_58 : Int → Mo CH A) (k_129 : Mo CH A) (k_166 : Mo CH A) (k_183 : Mo CH A) (k_218 : Int → Int → Int → Int → Int → Mo CH A) (l0 : Int) (l1 : Int) (l2 : Int) (l3 : Int) (l4 : Int) : Mo CH ((Int × Int × Int × Int × Int) ⊕ A) :=
  bnd (isk 112 l0) fun _ =>
  bnd (c_X12_next l0) fun _ =>
  bnd (gf [112] 4 l0) fun v1 =>
  if v1 = 1 then
    b_X12_let_71 rc
      (fun v2 v3 v4 v5 v6 => if ¬ v6 = 5 then
      b_X12_let_122 rc k_58 k_129 k_166 k_183 k_218 v2 v3 v4 v5 v6
    else
      bnd (gf [112] 5 v2) fun v7 =>
      bnd (isk 112 v2) fun _ =>
      bnd (c_X12_fail v2 4 v7) fun v8 =>
      b_X12_let_122 rc k_58 k_129 k_166 k_183 k_218 v2 v3 v4 v5 v6) l0 l1 l2 l3 l4 0
  else
    lo (k_58 l0)
theorem sb_X12_let_46b {Γ : Gm} {ts : TS} {d : Nat} {rc : Rc} (hr : GR_rd (mg Γ) ts (d + 8) rc) (o : Ok Γ "LazyForge$Reader" cX12_let 7 (Option.some (Jvm.ClassFile.FieldType.object "LazyForge$Raw")) (d + 9)) {A : Type} {K : A → CH → Prop} (k_58 : Int → Mo CH A) (k_129 : Mo CH A) (k_166 : Mo CH A) (k_183 : Mo CH A) (k_218 : Int → Int → Int → Int → Int → Mo CH A) (hk_58 : ∀ (l0 : Int), Sx Γ (fun h => (h, ts)) K 58 [(0, vA (mg Γ) l0)] [] (k_58 l0)) (hk_129 : Sx Γ (fun h => (h, ts)) K 129 [] [] (k_129)) (hk_166 : Sx Γ (fun h => (h, ts)) K 166 [] [] (k_166)) (hk_183 : Sx Γ (fun h => (h, ts)) K 183 [] [] (k_183)) (hk_218 : ∀ (l0 : Int) (l1 : Int) (l2 : Int) (l3 : Int) (l4 : Int), 0 < l1 → 0 < l2 → 0 < l3 → R32 l4 → Sx Γ (fun h => (h, ts)) K 218 [(0, vA (mg Γ) l0), (1, vA (mg Γ) l1), (2, vA (mg Γ) l2), (3, vA (mg Γ) l3), (4, vI l4)] [] (k_218 l0 l1 l2 l3 l4)) (l0 : Int) (l1 : Int) (l2 : Int) (l3 : Int) (l4 : Int) (hl1 : 0 < l1) (hl2 : 0 < l2) (hl3 : 0 < l3) (hl4 : R32 l4) : Sx Γ (fun h => (h, ts)) (KL Γ (fun h => (h, ts)) okb_X12_let_46 K 46 (lvb_X12_let_46 Γ) []) 46 [(0, vA (mg Γ) l0), (1, vA (mg Γ) l1), (2, vA (mg Γ) l2), (3, vA (mg Γ) l3), (4, vI l4)] [] (b_X12_let_46b rc k_58 k_129 k_166 k_183 k_218 l0 l1 l2 l3 l4) := by
  unfold b_X12_let_46b
  refine s_aload_n o dX12_let_46 rfl 0 rfl ?_
  refine s_cvC (d := d + 8) (As := []) (st := []) (c := 12) o (sc_X12_next (mg Γ) (d + 3) ts l0) mw_X12_next rfl (Or.inl (lw_all_tbl q743)) rfl (lw_all_tbl qs2) (lw_all_tbl q745) wt_0 rfl dX12_let_47 rfl (rs := fun _ => []) (fun _ => rfl) (fun _ _ => ?_)
  refine s_aload_n o dX12_let_50 rfl 0 rfl ?_
  refine r_getf vI rfl o cf_X12_sort (Or.inl (lw_all_tbl q657)) dX12_let_51 (fun v1 hv1 => ?_)
  refine s_iconst o dX12_let_54 ?_
  refine s_icmp_eq (tgt := 68) o dX12_let_55 (by decide) hv1 (r32 rfl) ?_ ?_
  · refine s_iconst o dX12_let_68 ?_
    refine r_istore o dX12_let_69 rfl ⟨(Nat.ne_of_beq_eq_false rfl), (fun _ => (vA_cat (mg Γ) l0)), ⟨(Nat.ne_of_beq_eq_false rfl), (fun _ => (vA_cat (mg Γ) l1)), ⟨(Nat.ne_of_beq_eq_false rfl), (fun _ => (vA_cat (mg Γ) l2)), ⟨(Nat.ne_of_beq_eq_false rfl), (fun _ => (vA_cat (mg Γ) l3)), ⟨(Nat.ne_of_beq_eq_false rfl), (fun _ => rfl), trivial⟩⟩⟩⟩⟩ ?_
    refine r_to [(0, vA (mg Γ) l0), (1, vA (mg Γ) l1), (2, vA (mg Γ) l2), (3, vA (mg Γ) l3), (4, vI l4), (5, vI 0)] [1, 2, 3, 4, 5, 0] rfl ?_
    refine sb_X12_let_71 hr o _ ?_ l0 l1 l2 l3 l4 0 hl1 hl2 hl3 hl4 (r32 rfl)
    · intro v2 v3 v4 v5 v6 hv3 hv4 hv5 hv6
      refine s_iload o dX12_let_106 4 rfl ?_
      refine s_iconst o dX12_let_108 ?_
      refine s_icmp_ne (tgt := 122) o dX12_let_109 (by decide) hv6 (r32 rfl) ?_ ?_
      · exact sb_X12_let_122 hr o k_58 k_129 k_166 k_183 k_218 hk_58 hk_129 hk_166 hk_183 hk_218 v2 v3 v4 v5 v6 hv3 hv4 hv5 hv6
      · refine s_aload_n o dX12_let_112 rfl 0 rfl ?_
        refine s_iconst o dX12_let_113 ?_
        refine s_aload_n o dX12_let_114 rfl 0 rfl ?_
        refine r_getf vI rfl o cf_X12_place (Or.inl (lw_all_tbl q658)) dX12_let_115 (fun v7 hv7 => ?_)
        refine s_cvC (d := d + 8) (As := [vI 4, vI v7]) (st := []) (c := 12) o (sc_X12_fail (mg Γ) (d + 8) ts v2 4 v7 (r32 rfl) hv7) mw_X12_fail rfl (Or.inl (lw_all_tbl q846)) rfl (lw_all_tbl qs9) (lw_all_tbl q848) wt_0 rfl dX12_let_118 rfl (rs := fun r => [vA (mg Γ) r]) (fun _ => rfl) (fun v8 hv8 => ?_)
        refine s_pop o dX12_let_121 (vA_cat (mg Γ) v8) ?_
        exact sb_X12_let_122 hr o k_58 k_129 k_166 k_183 k_218 hk_58 hk_129 hk_166 hk_183 hk_218 v2 v3 v4 v5 v6 hv3 hv4 hv5 hv6
  · refine r_to [(0, vA (mg Γ) l0)] [0] rfl ?_
    exact s_lo (hk_58 l0)
noncomputable def b_X12_let_46 (rc : Rc) {A : Type} (k_58 : Int → Mo CH A) (k_129 : Mo CH A) (k_166 : Mo CH A) (k_183 : Mo CH A) (k_218 : Int → Int → Int → Int → Int → Mo CH A) (l0 : Int) (l1 : Int) (l2 : Int) (l3 : Int) (l4 : Int) : Mo CH A := Loop (fun x => b_X12_let_46b rc k_58 k_129 k_166 k_183 k_218 x.1 x.2.1 x.2.2.1 x.2.2.2.1 x.2.2.2.2) (l0, l1, l2, l3, l4)
theorem sb_X12_let_46 {Γ : Gm} {ts : TS} {d : Nat} {rc : Rc} (hr : GR_rd (mg Γ) ts (d + 8) rc) (o : Ok Γ "LazyForge$Reader" cX12_let 7 (Option.some (Jvm.ClassFile.FieldType.object "LazyForge$Raw")) (d + 9)) {A : Type} {K : A → CH → Prop} (k_58 : Int → Mo CH A) (k_129 : Mo CH A) (k_166 : Mo CH A) (k_183 : Mo CH A) (k_218 : Int → Int → Int → Int → Int → Mo CH A) (hk_58 : ∀ (l0 : Int), Sx Γ (fun h => (h, ts)) K 58 [(0, vA (mg Γ) l0)] [] (k_58 l0)) (hk_129 : Sx Γ (fun h => (h, ts)) K 129 [] [] (k_129)) (hk_166 : Sx Γ (fun h => (h, ts)) K 166 [] [] (k_166)) (hk_183 : Sx Γ (fun h => (h, ts)) K 183 [] [] (k_183)) (hk_218 : ∀ (l0 : Int) (l1 : Int) (l2 : Int) (l3 : Int) (l4 : Int), 0 < l1 → 0 < l2 → 0 < l3 → R32 l4 → Sx Γ (fun h => (h, ts)) K 218 [(0, vA (mg Γ) l0), (1, vA (mg Γ) l1), (2, vA (mg Γ) l2), (3, vA (mg Γ) l3), (4, vI l4)] [] (k_218 l0 l1 l2 l3 l4)) (l0 : Int) (l1 : Int) (l2 : Int) (l3 : Int) (l4 : Int) (hl1 : 0 < l1) (hl2 : 0 < l2) (hl3 : 0 < l3) (hl4 : R32 l4) : Sx Γ (fun h => (h, ts)) K 46 [(0, vA (mg Γ) l0), (1, vA (mg Γ) l1), (2, vA (mg Γ) l2), (3, vA (mg Γ) l3), (4, vI l4)] [] (b_X12_let_46 rc k_58 k_129 k_166 k_183 k_218 l0 l1 l2 l3 l4) :=
  s_loop okb_X12_let_46 (lvb_X12_let_46 Γ) (fun x hx => sb_X12_let_46b hr o k_58 k_129 k_166 k_183 k_218 hk_58 hk_129 hk_166 hk_183 hk_218 x.1 x.2.1 x.2.2.1 x.2.2.2.1 x.2.2.2.2 hx.1 hx.2.1 hx.2.2.1 hx.2.2.2) (x := (l0, l1, l2, l3, l4)) ⟨hl1, hl2, hl3, hl4⟩
noncomputable def b_X12_let (rc : Rc) (l0 : Int) : Mo CH Int :=
  bnd (newo 13) fun v1 =>
  bnd (gf [112] 5 l0) fun v2 =>
  bnd (c_X13_init v1 0 v2) fun _ =>
  bnd (isk 112 l0) fun _ =>
  bnd (c_X12_opens l0) fun v3 =>
  if v3 = 0 then
    pr 0
  else
    bnd (gf [112] 5 l0) fun v4 =>
    bnd (isk 112 l0) fun _ =>
    bnd (c_X12_part l0 v4) fun v5 =>
    if ¬ v5 = 0 then
      bnd (newa 1 5) fun v6 =>
      bnd (newa 6 6) fun v7 =>
      b_X12_let_46 rc
        (fun v8 => bnd (gf [112] 5 v8) fun v9 =>
      bnd (isk 112 v8) fun _ =>
      bnd (c_X12_fail v8 1 v9) fun v10 =>
      pr v10)
        (pr 0)
        (pr 0)
        (pr 0)
        (fun v11 v12 v13 v14 v15 => bnd (isk 112 v11) fun _ =>
      bnd (c_X12_needKey v11 (-11)) fun v16 =>
      if ¬ v16 = 0 then
        bnd (isk 112 v11) fun _ =>
        bnd (rc 4 v11 0 0 0 0) fun v17 =>
        bnd (asq 6 v14 v15 v17) fun _ =>
        bnd (gf [112] 11 v11) fun v18 =>
        bnd (pf [112] 11 v11 (w32 (v18 - 1))) fun _ =>
        bnd (ald 6 v14 v15) fun v19 =>
        if ¬ v19 = 0 then
          bnd (newa 1 v15) fun v20 =>
          bnd (pf [113] 5 v12 v20) fun _ =>
          bnd (gf [113] 5 v12) fun v21 =>
          bnd (acp 1 v13 0 v21 0 v15) fun _ =>
          bnd (newa 6 (w32 (v15 + 1))) fun v22 =>
          bnd (pf [113] 6 v12 v22) fun _ =>
          bnd (gf [113] 6 v12) fun v23 =>
          bnd (acp 6 v14 0 v23 0 (w32 (v15 + 1))) fun _ =>
          pr v12
        else
          pr 0
      else
        pr 0) l0 v1 v6 v7 0
    else
      pr 0
theorem sb_X12_let (g : gC) (d : Nat) (ts : TS) (rc : Rc) (hr : GR_rd g ts (d + 8) rc) (l0 : Int) : SF g yX12_let (Cond.code yX12_let cX12_let 7 (Option.some (Jvm.ClassFile.FieldType.object "LazyForge$Raw"))) (Option.some (Jvm.ClassFile.FieldType.object "LazyForge$Raw")) (d + 9) [vA g l0] (fun h => (h, ts)) (b_X12_let rc l0) := by
  refine SF.of (lv := [(0, vA g l0)]) (by decide) (wt_A wt_0) rfl (by simp only [la_A, la_I, la_J, la_0]) (fun Γ hg hnm o => ?_)
  subst hg
  have o : Ok Γ "LazyForge$Reader" cX12_let 7 (Option.some (Jvm.ClassFile.FieldType.object "LazyForge$Raw")) (d + 9) := o
  unfold b_X12_let
  refine s_new o mk_13 (lw_all_tbl q594) dX12_let_0 (fun v1 hv1 => ?_)
  refine s_dup o dX12_let_3 (vA_cat (mg Γ) v1) ?_
  refine s_iconst o dX12_let_4 ?_
  refine s_aload_n o dX12_let_5 rfl 0 rfl ?_
  refine r_getf vI rfl o cf_X12_place (Or.inl (lw_all_tbl q658)) dX12_let_6 (fun v2 hv2 => ?_)
  refine s_ci (d := d + 8) (As := [vI 0, vI v2]) (st := [vA (mg Γ) v1]) o (sc_X13_init (mg Γ) (d + 7) ts v1 0 v2 hv1 (r32 rfl) hv2) mw_X13_init rfl (Or.inl (lw_all_tbl q892)) (lw_all_tbl q893) rfl hv1 (wt_A wt_0) rfl dX12_let_9 rfl (fun _ => ?_)
  refine r_astore_n o dX12_let_12 rfl rfl ⟨(Nat.ne_of_beq_eq_false rfl), (fun _ => (vA_cat (mg Γ) l0)), trivial⟩ ?_
  refine s_aload_n o dX12_let_13 rfl 1 rfl ?_
  refine s_cvC (d := d + 8) (As := []) (st := []) (c := 12) o (sc_X12_opens (mg Γ) (d + 7) ts l0) mw_X12_opens rfl (Or.inl (lw_all_tbl q938)) rfl (lw_all_tbl qs19) (lw_all_tbl q940) wt_0 rfl dX12_let_14 rfl (rs := fun r => [vI r]) (fun _ => rfl) (fun v3 hv3 => ?_)
  refine s_if_eq (tgt := 31) o dX12_let_17 (by decide) (rZ (hv3 _ rfl)) ?_ ?_
  · refine s_null o dX12_let_31 ?_
    exact s_aret o rfl (Or.inl ⟨_, rfl⟩) dX12_let_32 (fun _ hh => hh)
  · refine s_aload_n o dX12_let_20 rfl 1 rfl ?_
    refine s_aload_n o dX12_let_21 rfl 1 rfl ?_
    refine r_getf vI rfl o cf_X12_place (Or.inl (lw_all_tbl q658)) dX12_let_22 (fun v4 hv4 => ?_)
    refine s_cvC (d := d + 8) (As := [vI v4]) (st := []) (c := 12) o (sc_X12_part (mg Γ) (d + 7) ts l0 v4 hv4) mw_X12_part rfl (Or.inl (lw_all_tbl q876)) rfl (lw_all_tbl qs16) (lw_all_tbl q878) wt_0 rfl dX12_let_25 rfl (rs := fun r => [vI r]) (fun _ => rfl) (fun v5 hv5 => ?_)
    refine s_if_ne (tgt := 33) o dX12_let_28 (by decide) (rZ (hv5 _ rfl)) ?_ ?_
    · refine s_iconst o dX12_let_33 ?_
      refine s_newa (kd := 1) o (by decide) rfl (by decide) (o.ra (by decide)) (lw_all_tbl q438) (r32 rfl) dX12_let_34 (fun v6 hv6 => ?_)
      refine r_astore_n o dX12_let_36 rfl rfl ⟨(Nat.ne_of_beq_eq_false rfl), (fun _ => (vA_cat (mg Γ) v1)), ⟨(Nat.ne_of_beq_eq_false rfl), (fun _ => (vA_cat (mg Γ) l0)), trivial⟩⟩ ?_
      refine s_bipush o dX12_let_37 rfl ?_
      refine s_anew (kd := 6) o (by decide) (Or.inl rfl) (lw_all_tbl q594) ao_6 (r32 rfl) dX12_let_39 (fun v7 hv7 => ?_)
      refine r_astore_n o dX12_let_42 rfl rfl ⟨(Nat.ne_of_beq_eq_false rfl), (fun _ => (vA_cat (mg Γ) v6)), ⟨(Nat.ne_of_beq_eq_false rfl), (fun _ => (vA_cat (mg Γ) v1)), ⟨(Nat.ne_of_beq_eq_false rfl), (fun _ => (vA_cat (mg Γ) l0)), trivial⟩⟩⟩ ?_
      refine s_iconst o dX12_let_43 ?_
      refine r_istore o dX12_let_44 rfl ⟨(Nat.ne_of_beq_eq_false rfl), (fun _ => (vA_cat (mg Γ) v7)), ⟨(Nat.ne_of_beq_eq_false rfl), (fun _ => (vA_cat (mg Γ) v6)), ⟨(Nat.ne_of_beq_eq_false rfl), (fun _ => (vA_cat (mg Γ) v1)), ⟨(Nat.ne_of_beq_eq_false rfl), (fun _ => (vA_cat (mg Γ) l0)), trivial⟩⟩⟩⟩ ?_
      refine r_to [(0, vA (mg Γ) l0), (1, vA (mg Γ) v1), (2, vA (mg Γ) v6), (3, vA (mg Γ) v7), (4, vI 0)] [4, 3, 2, 1, 0] rfl ?_
      refine sb_X12_let_46 hr o _ _ _ _ _ ?_ ?_ ?_ ?_ ?_ l0 v1 v6 v7 0 hv1 hv6 hv7 (r32 rfl)
      · intro v8
        refine s_aload_n o dX12_let_58 rfl 0 rfl ?_
        refine s_iconst o dX12_let_59 ?_
        refine s_aload_n o dX12_let_60 rfl 0 rfl ?_
        refine r_getf vI rfl o cf_X12_place (Or.inl (lw_all_tbl q658)) dX12_let_61 (fun v9 hv9 => ?_)
        refine s_cvC (d := d + 8) (As := [vI 1, vI v9]) (st := []) (c := 12) o (sc_X12_fail (mg Γ) (d + 8) ts v8 1 v9 (r32 rfl) hv9) mw_X12_fail rfl (Or.inl (lw_all_tbl q846)) rfl (lw_all_tbl qs9) (lw_all_tbl q848) wt_0 rfl dX12_let_64 rfl (rs := fun r => [vA (mg Γ) r]) (fun _ => rfl) (fun v10 hv10 => ?_)
        exact s_aret o rfl (Or.inl ⟨_, rfl⟩) dX12_let_67 (fun _ hh => hh)
      · refine s_null o dX12_let_129 ?_
        exact s_aret o rfl (Or.inl ⟨_, rfl⟩) dX12_let_130 (fun _ hh => hh)
      · refine s_null o dX12_let_166 ?_
        exact s_aret o rfl (Or.inl ⟨_, rfl⟩) dX12_let_167 (fun _ hh => hh)
      · refine s_null o dX12_let_183 ?_
        exact s_aret o rfl (Or.inl ⟨_, rfl⟩) dX12_let_184 (fun _ hh => hh)
      · intro v11 v12 v13 v14 v15 hv12 hv13 hv14 hv15
        refine s_aload_n o dX12_let_218 rfl 0 rfl ?_
        refine s_ldcS (tx := "in") (k := 11) o (by decide +kernel) rfl (by decide) dX12_let_219 ?_
        refine s_cvC (d := d + 8) (As := [vA (mg Γ) (-11)]) (st := []) (c := 12) o (sc_X12_needKey (mg Γ) (d + 1) ts v11 (-11)) mw_X12_needKey rfl (Or.inl (lw_all_tbl q947)) rfl (lw_all_tbl qs20) (lw_all_tbl q949) wt_0 rfl dX12_let_221 rfl (rs := fun r => [vI r]) (fun _ => rfl) (fun v16 hv16 => ?_)
        refine s_if_ne (tgt := 229) o dX12_let_224 (by decide) (rZ (hv16 _ rfl)) ?_ ?_
        · refine s_aload_n o dX12_let_229 rfl 3 rfl ?_
          refine s_iload o dX12_let_230 4 rfl ?_
          refine s_aload_n o dX12_let_232 rfl 0 rfl ?_
          refine s_cvC (d := d + 8) (As := []) (st := [vI v15, vA (mg Γ) v14]) (c := 12) o (gr_rd_4 hr v11) mw_X12_e rfl (Or.inl (lw_all_tbl q882)) rfl (lw_all_tbl qs17) (lw_all_tbl q884) (wt_I (wt_A wt_0)) rfl dX12_let_233 rfl (rs := fun r => [vA (mg Γ) r, vI v15, vA (mg Γ) v14]) (fun _ => rfl) (fun v17 hv17 => ?_)
          refine s_aast (kd := 6) o (by decide) (as_6 o) (Or.inl ⟨_, rfl⟩) hv15 dX12_let_236 ?_
          refine s_aload_n o dX12_let_237 rfl 0 rfl ?_
          refine s_dup o dX12_let_238 (vA_cat (mg Γ) v11) ?_
          refine r_getf vI rfl o cf_X12_open (Or.inl (lw_all_tbl q666)) dX12_let_239 (fun v18 hv18 => ?_)
          refine s_iconst o dX12_let_242 ?_
          refine s_isub o dX12_let_243 ?_
          refine r_putf vI rfl o cf_X12_open (Or.inl (lw_all_tbl q666)) dX12_let_244 (Or.inl rfl) (w32_R _) ty_int ?_
          refine s_aload_n o dX12_let_247 rfl 3 rfl ?_
          refine s_iload o dX12_let_248 4 rfl ?_
          refine r_aald (kd := 6) o (by decide) rfl hv15 dX12_let_250 (fun v19 => ?_)
          refine s_ifnonnull (tgt := 256) o dX12_let_251 (by decide) ?_ ?_
          · refine s_aload_n o dX12_let_256 rfl 1 rfl ?_
            refine s_iload o dX12_let_257 4 rfl ?_
            refine s_newa (kd := 1) o (by decide) rfl (by decide) (o.ra (by decide)) (lw_all_tbl q438) hv15 dX12_let_259 (fun v20 hv20 => ?_)
            refine r_putf (vA (mg Γ)) rfl o cf_X13_names (Or.inr (Or.inl ⟨_, q908⟩)) dX12_let_261 (Or.inl rfl) trivial (ty_array _) ?_
            refine s_aload_n o dX12_let_264 rfl 2 rfl ?_
            refine s_iconst o dX12_let_265 ?_
            refine s_aload_n o dX12_let_266 rfl 1 rfl ?_
            refine r_getf (vA (mg Γ)) rfl o cf_X13_names (Or.inr (Or.inl ⟨_, q908⟩)) dX12_let_267 (fun v21 hv21 => ?_)
            refine s_iconst o dX12_let_270 ?_
            refine s_iload o dX12_let_271 4 rfl ?_
            refine s_acp (kd := 1) (d := d + 8) o (by decide) (fun q => absurd q (by decide)) (lw_all_tbl q880) (r32 rfl) (r32 rfl) hv15 wt_0 rfl dX12_let_273 (lw_all_tbl q481) (lw_all_tbl q480) (lw_all_tbl q179) ?_
            refine s_aload_n o dX12_let_276 rfl 1 rfl ?_
            refine s_iload o dX12_let_277 4 rfl ?_
            refine s_iconst o dX12_let_279 ?_
            refine s_iadd o dX12_let_280 ?_
            refine s_anew (kd := 6) o (by decide) (Or.inl rfl) (lw_all_tbl q594) ao_6 (w32_R _) dX12_let_281 (fun v22 hv22 => ?_)
            refine r_putf (vA (mg Γ)) rfl o cf_X13_kids (Or.inr (Or.inl ⟨_, q910⟩)) dX12_let_284 (Or.inl rfl) trivial (ty_array _) ?_
            refine s_aload_n o dX12_let_287 rfl 3 rfl ?_
            refine s_iconst o dX12_let_288 ?_
            refine s_aload_n o dX12_let_289 rfl 1 rfl ?_
            refine r_getf (vA (mg Γ)) rfl o cf_X13_kids (Or.inr (Or.inl ⟨_, q910⟩)) dX12_let_290 (fun v23 hv23 => ?_)
            refine s_iconst o dX12_let_293 ?_
            refine s_iload o dX12_let_294 4 rfl ?_
            refine s_iconst o dX12_let_296 ?_
            refine s_iadd o dX12_let_297 ?_
            refine s_acp (kd := 6) (d := d + 8) o (by decide) (fun _ => as_6 o) (lw_all_tbl q880) (r32 rfl) (r32 rfl) (w32_R _) wt_0 rfl dX12_let_298 (lw_all_tbl q481) (lw_all_tbl q480) (lw_all_tbl q179) ?_
            refine s_aload_n o dX12_let_301 rfl 1 rfl ?_
            exact s_aret o rfl (Or.inl ⟨_, rfl⟩) dX12_let_302 (fun _ hh => hh)
          · refine s_null o dX12_let_254 ?_
            exact s_aret o rfl (Or.inl ⟨_, rfl⟩) dX12_let_255 (fun _ hh => hh)
        · refine s_null o dX12_let_227 ?_
          exact s_aret o rfl (Or.inl ⟨_, rfl⟩) dX12_let_228 (fun _ hh => hh)
    · refine s_null o dX12_let_31 ?_
      exact s_aret o rfl (Or.inl ⟨_, rfl⟩) dX12_let_32 (fun _ hh => hh)
noncomputable def b_X12_lambda (rc : Rc) (l0 : Int) : Mo CH Int :=
  bnd (newo 13) fun v1 =>
  bnd (gf [112] 5 l0) fun v2 =>
  bnd (c_X13_init v1 1 v2) fun _ =>
  bnd (isk 112 l0) fun _ =>
  bnd (c_X12_opens l0) fun v3 =>
  if v3 = 0 then
    pr 0
  else
    bnd (gf [112] 5 l0) fun v4 =>
    bnd (isk 112 l0) fun _ =>
    bnd (c_X12_part l0 v4) fun v5 =>
    if ¬ v5 = 0 then
      bnd (isk 112 l0) fun _ =>
      bnd (c_X12_next l0) fun _ =>
      bnd (isk 112 l0) fun _ =>
      bnd (c_X12_row l0 1 0) fun v6 =>
      bnd (pf [113] 5 v1 v6) fun _ =>
      bnd (isk 112 l0) fun _ =>
      bnd (c_X12_needSign l0 (-19)) fun v7 =>
      if ¬ v7 = 0 then
        bnd (isk 112 l0) fun _ =>
        bnd (rc 4 l0 0 0 0 0) fun v8 =>
        bnd (gf [112] 11 l0) fun v9 =>
        bnd (pf [112] 11 l0 (w32 (v9 - 1))) fun _ =>
        if ¬ v8 = 0 then
          bnd (newa 6 1) fun v10 =>
          bnd (asq 6 v10 0 v8) fun _ =>
          bnd (pf [113] 6 v1 v10) fun _ =>
          pr v1
        else
          pr 0
      else
        pr 0
    else
      pr 0
theorem sb_X12_lambda (g : gC) (d : Nat) (ts : TS) (rc : Rc) (hr : GR_rd g ts (d + 8) rc) (l0 : Int) : SF g yX12_lambda (Cond.code yX12_lambda cX12_lambda 3 (Option.some (Jvm.ClassFile.FieldType.object "LazyForge$Raw"))) (Option.some (Jvm.ClassFile.FieldType.object "LazyForge$Raw")) (d + 9) [vA g l0] (fun h => (h, ts)) (b_X12_lambda rc l0) := by
  refine SF.of (lv := [(0, vA g l0)]) (by decide) (wt_A wt_0) rfl (by simp only [la_A, la_I, la_J, la_0]) (fun Γ hg hnm o => ?_)
  subst hg
  have o : Ok Γ "LazyForge$Reader" cX12_lambda 3 (Option.some (Jvm.ClassFile.FieldType.object "LazyForge$Raw")) (d + 9) := o
  unfold b_X12_lambda
  refine s_new o mk_13 (lw_all_tbl q594) dX12_lambda_0 (fun v1 hv1 => ?_)
  refine s_dup o dX12_lambda_3 (vA_cat (mg Γ) v1) ?_
  refine s_iconst o dX12_lambda_4 ?_
  refine s_aload_n o dX12_lambda_5 rfl 0 rfl ?_
  refine r_getf vI rfl o cf_X12_place (Or.inl (lw_all_tbl q658)) dX12_lambda_6 (fun v2 hv2 => ?_)
  refine s_ci (d := d + 8) (As := [vI 1, vI v2]) (st := [vA (mg Γ) v1]) o (sc_X13_init (mg Γ) (d + 7) ts v1 1 v2 hv1 (r32 rfl) hv2) mw_X13_init rfl (Or.inl (lw_all_tbl q892)) (lw_all_tbl q893) rfl hv1 (wt_A wt_0) rfl dX12_lambda_9 rfl (fun _ => ?_)
  refine r_astore_n o dX12_lambda_12 rfl rfl ⟨(Nat.ne_of_beq_eq_false rfl), (fun _ => (vA_cat (mg Γ) l0)), trivial⟩ ?_
  refine s_aload_n o dX12_lambda_13 rfl 1 rfl ?_
  refine s_cvC (d := d + 8) (As := []) (st := []) (c := 12) o (sc_X12_opens (mg Γ) (d + 7) ts l0) mw_X12_opens rfl (Or.inl (lw_all_tbl q938)) rfl (lw_all_tbl qs19) (lw_all_tbl q940) wt_0 rfl dX12_lambda_14 rfl (rs := fun r => [vI r]) (fun _ => rfl) (fun v3 hv3 => ?_)
  refine s_if_eq (tgt := 31) o dX12_lambda_17 (by decide) (rZ (hv3 _ rfl)) ?_ ?_
  · refine s_null o dX12_lambda_31 ?_
    exact s_aret o rfl (Or.inl ⟨_, rfl⟩) dX12_lambda_32 (fun _ hh => hh)
  · refine s_aload_n o dX12_lambda_20 rfl 1 rfl ?_
    refine s_aload_n o dX12_lambda_21 rfl 1 rfl ?_
    refine r_getf vI rfl o cf_X12_place (Or.inl (lw_all_tbl q658)) dX12_lambda_22 (fun v4 hv4 => ?_)
    refine s_cvC (d := d + 8) (As := [vI v4]) (st := []) (c := 12) o (sc_X12_part (mg Γ) (d + 7) ts l0 v4 hv4) mw_X12_part rfl (Or.inl (lw_all_tbl q876)) rfl (lw_all_tbl qs16) (lw_all_tbl q878) wt_0 rfl dX12_lambda_25 rfl (rs := fun r => [vI r]) (fun _ => rfl) (fun v5 hv5 => ?_)
    refine s_if_ne (tgt := 33) o dX12_lambda_28 (by decide) (rZ (hv5 _ rfl)) ?_ ?_
    · refine s_aload_n o dX12_lambda_33 rfl 1 rfl ?_
      refine s_cvC (d := d + 8) (As := []) (st := []) (c := 12) o (sc_X12_next (mg Γ) (d + 3) ts l0) mw_X12_next rfl (Or.inl (lw_all_tbl q743)) rfl (lw_all_tbl qs2) (lw_all_tbl q745) wt_0 rfl dX12_lambda_34 rfl (rs := fun _ => []) (fun _ => rfl) (fun _ _ => ?_)
      refine s_aload_n o dX12_lambda_37 rfl 0 rfl ?_
      refine s_aload_n o dX12_lambda_38 rfl 1 rfl ?_
      refine s_iconst o dX12_lambda_39 ?_
      refine s_iconst o dX12_lambda_40 ?_
      refine s_cvC (d := d + 8) (As := [vI 1, vI 0]) (st := [vA (mg Γ) v1]) (c := 12) o (sc_X12_row (mg Γ) (d + 2) ts l0 1 0 (r32 rfl) (Or.inl rfl)) mw_X12_row rfl (Or.inl (lw_all_tbl q872)) rfl (lw_all_tbl qs15) (lw_all_tbl q874) (wt_A wt_0) rfl dX12_lambda_41 rfl (rs := fun r => [vA (mg Γ) r, vA (mg Γ) v1]) (fun _ => rfl) (fun v6 hv6 => ?_)
      refine r_putf (vA (mg Γ)) rfl o cf_X13_names (Or.inr (Or.inl ⟨_, q908⟩)) dX12_lambda_44 (Or.inl rfl) trivial (ty_array _) ?_
      refine s_aload_n o dX12_lambda_47 rfl 1 rfl ?_
      refine s_ldcS (tx := ".") (k := 19) o (by decide +kernel) rfl (by decide) dX12_lambda_48 ?_
      refine s_cvC (d := d + 8) (As := [vA (mg Γ) (-19)]) (st := []) (c := 12) o (sc_X12_needSign (mg Γ) (d + 1) ts l0 (-19)) mw_X12_needSign rfl (Or.inl (lw_all_tbl q864)) rfl (lw_all_tbl qs13) (lw_all_tbl q866) wt_0 rfl dX12_lambda_50 rfl (rs := fun r => [vI r]) (fun _ => rfl) (fun v7 hv7 => ?_)
      refine s_if_ne (tgt := 58) o dX12_lambda_53 (by decide) (rZ (hv7 _ rfl)) ?_ ?_
      · refine s_aload_n o dX12_lambda_58 rfl 1 rfl ?_
        refine s_cvC (d := d + 8) (As := []) (st := []) (c := 12) o (gr_rd_4 hr l0) mw_X12_e rfl (Or.inl (lw_all_tbl q882)) rfl (lw_all_tbl qs17) (lw_all_tbl q884) wt_0 rfl dX12_lambda_59 rfl (rs := fun r => [vA (mg Γ) r]) (fun _ => rfl) (fun v8 hv8 => ?_)
        refine r_astore_n o dX12_lambda_62 rfl rfl ⟨(Nat.ne_of_beq_eq_false rfl), (fun _ => (vA_cat (mg Γ) v1)), ⟨(Nat.ne_of_beq_eq_false rfl), (fun _ => (vA_cat (mg Γ) l0)), trivial⟩⟩ ?_
        refine s_aload_n o dX12_lambda_63 rfl 2 rfl ?_
        refine s_dup o dX12_lambda_64 (vA_cat (mg Γ) l0) ?_
        refine r_getf vI rfl o cf_X12_open (Or.inl (lw_all_tbl q666)) dX12_lambda_65 (fun v9 hv9 => ?_)
        refine s_iconst o dX12_lambda_68 ?_
        refine s_isub o dX12_lambda_69 ?_
        refine r_putf vI rfl o cf_X12_open (Or.inl (lw_all_tbl q666)) dX12_lambda_70 (Or.inl rfl) (w32_R _) ty_int ?_
        refine s_aload_n o dX12_lambda_73 rfl 0 rfl ?_
        refine s_ifnonnull (tgt := 79) o dX12_lambda_74 (by decide) ?_ ?_
        · refine s_aload_n o dX12_lambda_79 rfl 1 rfl ?_
          refine s_iconst o dX12_lambda_80 ?_
          refine s_anew (kd := 6) o (by decide) (Or.inl rfl) (lw_all_tbl q594) ao_6 (r32 rfl) dX12_lambda_81 (fun v10 hv10 => ?_)
          refine s_dup o dX12_lambda_84 (vA_cat (mg Γ) v10) ?_
          refine s_iconst o dX12_lambda_85 ?_
          refine s_aload_n o dX12_lambda_86 rfl 0 rfl ?_
          refine s_aast (kd := 6) o (by decide) (as_6 o) (Or.inl ⟨_, rfl⟩) (r32 rfl) dX12_lambda_87 ?_
          refine r_putf (vA (mg Γ)) rfl o cf_X13_kids (Or.inr (Or.inl ⟨_, q910⟩)) dX12_lambda_88 (Or.inl rfl) trivial (ty_array _) ?_
          refine s_aload_n o dX12_lambda_91 rfl 1 rfl ?_
          exact s_aret o rfl (Or.inl ⟨_, rfl⟩) dX12_lambda_92 (fun _ hh => hh)
        · refine s_null o dX12_lambda_77 ?_
          exact s_aret o rfl (Or.inl ⟨_, rfl⟩) dX12_lambda_78 (fun _ hh => hh)
      · refine s_null o dX12_lambda_56 ?_
        exact s_aret o rfl (Or.inl ⟨_, rfl⟩) dX12_lambda_57 (fun _ hh => hh)
    · refine s_null o dX12_lambda_31 ?_
      exact s_aret o rfl (Or.inl ⟨_, rfl⟩) dX12_lambda_32 (fun _ hh => hh)
abbrev okb_X12_made_37 (x : Int × Int × Int) : Prop := 0 < x.2.1 ∧ R32 x.2.2
abbrev lvb_X12_made_37 (Γ : Gm) (x : Int × Int × Int) : List (Nat × Value) := [(0, vA (mg Γ) x.1), (2, vA (mg Γ) x.2.1), (3, vI x.2.2)]
noncomputable def b_X12_made_77 (rc : Rc) {A : Type} (k_75 : Mo CH A) (k_96 : Mo CH A) (k_104 : Int → Mo CH A) (l0 : Int) (l2 : Int) (l3 : Int) : Mo CH ((Int × Int × Int) ⊕ A) :=
  bnd (gf [113] 6 l2) fun v1 =>
  bnd (isk 112 l0) fun _ =>
  bnd (rc 1 l0 0 0 0 0) fun v2 =>
  bnd (asq 6 v1 l3 v2) fun _ =>
  bnd (gf [113] 6 l2) fun v3 =>
  bnd (ald 6 v3 l3) fun v4 =>
  if ¬ v4 = 0 then
    pr (.inl (l0, l2, (w32 (l3 + 1))))
  else
    lo k_96
theorem sb_X12_made_77 {Γ : Gm} {ts : TS} {d : Nat} {rc : Rc} (hr : GR_rd (mg Γ) ts (d + 8) rc) (o : Ok Γ "LazyForge$Reader" cX12_made 4 (Option.some (Jvm.ClassFile.FieldType.object "LazyForge$Raw")) (d + 9)) {A : Type} {K : A → CH → Prop}  (k_75 : Mo CH A) (k_96 : Mo CH A) (k_104 : Int → Mo CH A) (hk_75 : Sx Γ (fun h => (h, ts)) K 75 [] [] (k_75)) (hk_96 : Sx Γ (fun h => (h, ts)) K 96 [] [] (k_96)) (hk_104 : ∀ (l2 : Int), 0 < l2 → Sx Γ (fun h => (h, ts)) K 104 [(2, vA (mg Γ) l2)] [] (k_104 l2)) (l0 : Int) (l2 : Int) (l3 : Int) (hl2 : 0 < l2) (hl3 : R32 l3) : Sx Γ (fun h => (h, ts)) (KL Γ (fun h => (h, ts)) okb_X12_made_37 K 37 (lvb_X12_made_37 Γ) []) 77 [(0, vA (mg Γ) l0), (2, vA (mg Γ) l2), (3, vI l3)] [] (b_X12_made_77 rc k_75 k_96 k_104 l0 l2 l3) := by
  unfold b_X12_made_77
  refine s_aload_n o dX12_made_77 rfl 1 rfl ?_
  refine r_getf (vA (mg Γ)) rfl o cf_X13_kids (Or.inr (Or.inl ⟨_, q910⟩)) dX12_made_78 (fun v1 hv1 => ?_)
  refine s_iload_n o dX12_made_81 rfl 2 rfl ?_
  refine s_aload_n o dX12_made_82 rfl 0 rfl ?_
  refine s_cvC (d := d + 8) (As := []) (st := [vI l3, vA (mg Γ) v1]) (c := 12) o (gr_rd_1 hr l0) mw_X12_atom rfl (Or.inl (lw_all_tbl q1001)) rfl (lw_all_tbl qs31) (lw_all_tbl q1003) (wt_I (wt_A wt_0)) rfl dX12_made_83 rfl (rs := fun r => [vA (mg Γ) r, vI l3, vA (mg Γ) v1]) (fun _ => rfl) (fun v2 hv2 => ?_)
  refine s_aast (kd := 6) o (by decide) (as_6 o) (Or.inl ⟨_, rfl⟩) hl3 dX12_made_86 ?_
  refine s_aload_n o dX12_made_87 rfl 1 rfl ?_
  refine r_getf (vA (mg Γ)) rfl o cf_X13_kids (Or.inr (Or.inl ⟨_, q910⟩)) dX12_made_88 (fun v3 hv3 => ?_)
  refine s_iload_n o dX12_made_91 rfl 2 rfl ?_
  refine r_aald (kd := 6) o (by decide) rfl hl3 dX12_made_92 (fun v4 => ?_)
  refine s_ifnonnull (tgt := 98) o dX12_made_93 (by decide) ?_ ?_
  · refine r_iinc (j := 2) o dX12_made_98 rfl rfl [(0, vA (mg Γ) l0), (2, vA (mg Γ) l2)] [0, 1] rfl ⟨(Nat.ne_of_beq_eq_false rfl), (fun _ => (vA_cat (mg Γ) l0)), ⟨(Nat.ne_of_beq_eq_false rfl), (fun _ => (vA_cat (mg Γ) l2)), trivial⟩⟩ ?_
    refine s_goto (tgt := 37) o dX12_made_101 (by decide) ?_
    refine r_to [(0, vA (mg Γ) l0), (2, vA (mg Γ) l2), (3, vI (w32 (l3 + 1)))] [1, 2, 0] rfl ?_
    exact s_back (⟨hl2, (w32_R _)⟩) rfl
  · refine r_to [] [] rfl ?_
    exact s_lo hk_96
noncomputable def b_X12_made_37b (rc : Rc) {A : Type} (k_75 : Mo CH A) (k_96 : Mo CH A) (k_104 : Int → Mo CH A) (l0 : Int) (l2 : Int) (l3 : Int) : Mo CH ((Int × Int × Int) ⊕ A) :=
  bnd (gf [113] 6 l2) fun v1 =>
  bnd (aln v1) fun v2 =>
  if v2 ≤ l3 then
    lo (k_104 l2)
  else
    if ¬ l3 = 0 then
      b_X12_made_77 rc k_75 k_96 k_104 l0 l2 l3
    else
      bnd (isk 112 l0) fun _ =>
      bnd (c_X12_isAtom l0) fun v3 =>
      if v3 = 0 then
        b_X12_made_77 rc k_75 k_96 k_104 l0 l2 l3
      else
        bnd (isk 112 l0) fun _ =>
        bnd (c_X12_mayBegin l0) fun v4 =>
        if v4 = 0 then
          lo k_75
        else
          bnd (gf [112] 5 l0) fun v5 =>
          bnd (isk 112 l0) fun _ =>
          bnd (c_X12_part l0 v5) fun v6 =>
          if ¬ v6 = 0 then
            b_X12_made_77 rc k_75 k_96 k_104 l0 l2 l3
          else
            lo k_75
theorem sb_X12_made_37b {Γ : Gm} {ts : TS} {d : Nat} {rc : Rc} (hr : GR_rd (mg Γ) ts (d + 8) rc) (o : Ok Γ "LazyForge$Reader" cX12_made 4 (Option.some (Jvm.ClassFile.FieldType.object "LazyForge$Raw")) (d + 9)) {A : Type} {K : A → CH → Prop} (k_75 : Mo CH A) (k_96 : Mo CH A) (k_104 : Int → Mo CH A) (hk_75 : Sx Γ (fun h => (h, ts)) K 75 [] [] (k_75)) (hk_96 : Sx Γ (fun h => (h, ts)) K 96 [] [] (k_96)) (hk_104 : ∀ (l2 : Int), 0 < l2 → Sx Γ (fun h => (h, ts)) K 104 [(2, vA (mg Γ) l2)] [] (k_104 l2)) (l0 : Int) (l2 : Int) (l3 : Int) (hl2 : 0 < l2) (hl3 : R32 l3) : Sx Γ (fun h => (h, ts)) (KL Γ (fun h => (h, ts)) okb_X12_made_37 K 37 (lvb_X12_made_37 Γ) []) 37 [(0, vA (mg Γ) l0), (2, vA (mg Γ) l2), (3, vI l3)] [] (b_X12_made_37b rc k_75 k_96 k_104 l0 l2 l3) := by
  unfold b_X12_made_37b
  refine s_iload_n o dX12_made_37 rfl 2 rfl ?_
  refine s_aload_n o dX12_made_38 rfl 1 rfl ?_
  refine r_getf (vA (mg Γ)) rfl o cf_X13_kids (Or.inr (Or.inl ⟨_, q910⟩)) dX12_made_39 (fun v1 hv1 => ?_)
  refine s_alen o dX12_made_42 (fun v2 hv2 => ?_)
  refine s_icmp_ge (tgt := 104) o dX12_made_43 (by decide) hl3 (rN hv2) ?_ ?_
  · refine r_to [(2, vA (mg Γ) l2)] [1] rfl ?_
    exact s_lo (hk_104 l2 hl2)
  · refine s_iload_n o dX12_made_46 rfl 2 rfl ?_
    refine s_if_ne (tgt := 77) o dX12_made_47 (by decide) hl3 ?_ ?_
    · exact sb_X12_made_77 hr o k_75 k_96 k_104 hk_75 hk_96 hk_104 l0 l2 l3 hl2 hl3
    · refine s_aload_n o dX12_made_50 rfl 0 rfl ?_
      refine s_cvC (d := d + 8) (As := []) (st := []) (c := 12) o (sc_X12_isAtom (mg Γ) (d + 2) ts l0) mw_X12_isAtom rfl (Or.inl (lw_all_tbl q991)) rfl (lw_all_tbl qs29) (lw_all_tbl q993) wt_0 rfl dX12_made_51 rfl (rs := fun r => [vI r]) (fun _ => rfl) (fun v3 hv3 => ?_)
      refine s_if_eq (tgt := 77) o dX12_made_54 (by decide) (rZ (hv3 _ rfl)) ?_ ?_
      · exact sb_X12_made_77 hr o k_75 k_96 k_104 hk_75 hk_96 hk_104 l0 l2 l3 hl2 hl3
      · refine s_aload_n o dX12_made_57 rfl 0 rfl ?_
        refine s_cvC (d := d + 8) (As := []) (st := []) (c := 12) o (sc_X12_mayBegin (mg Γ) (d + 2) ts l0) mw_X12_mayBegin rfl (Or.inl (lw_all_tbl q997)) rfl (lw_all_tbl qs30) (lw_all_tbl q999) wt_0 rfl dX12_made_58 rfl (rs := fun r => [vI r]) (fun _ => rfl) (fun v4 hv4 => ?_)
        refine s_if_eq (tgt := 75) o dX12_made_61 (by decide) (rZ (hv4 _ rfl)) ?_ ?_
        · refine r_to [] [] rfl ?_
          exact s_lo hk_75
        · refine s_aload_n o dX12_made_64 rfl 0 rfl ?_
          refine s_aload_n o dX12_made_65 rfl 0 rfl ?_
          refine r_getf vI rfl o cf_X12_place (Or.inl (lw_all_tbl q658)) dX12_made_66 (fun v5 hv5 => ?_)
          refine s_cvC (d := d + 8) (As := [vI v5]) (st := []) (c := 12) o (sc_X12_part (mg Γ) (d + 7) ts l0 v5 hv5) mw_X12_part rfl (Or.inl (lw_all_tbl q876)) rfl (lw_all_tbl qs16) (lw_all_tbl q878) wt_0 rfl dX12_made_69 rfl (rs := fun r => [vI r]) (fun _ => rfl) (fun v6 hv6 => ?_)
          refine s_if_ne (tgt := 77) o dX12_made_72 (by decide) (rZ (hv6 _ rfl)) ?_ ?_
          · exact sb_X12_made_77 hr o k_75 k_96 k_104 hk_75 hk_96 hk_104 l0 l2 l3 hl2 hl3
          · refine r_to [] [] rfl ?_
            exact s_lo hk_75
noncomputable def b_X12_made_37 (rc : Rc) {A : Type} (k_75 : Mo CH A) (k_96 : Mo CH A) (k_104 : Int → Mo CH A) (l0 : Int) (l2 : Int) (l3 : Int) : Mo CH A := Loop (fun x => b_X12_made_37b rc k_75 k_96 k_104 x.1 x.2.1 x.2.2) (l0, l2, l3)
theorem sb_X12_made_37 {Γ : Gm} {ts : TS} {d : Nat} {rc : Rc} (hr : GR_rd (mg Γ) ts (d + 8) rc) (o : Ok Γ "LazyForge$Reader" cX12_made 4 (Option.some (Jvm.ClassFile.FieldType.object "LazyForge$Raw")) (d + 9)) {A : Type} {K : A → CH → Prop} (k_75 : Mo CH A) (k_96 : Mo CH A) (k_104 : Int → Mo CH A) (hk_75 : Sx Γ (fun h => (h, ts)) K 75 [] [] (k_75)) (hk_96 : Sx Γ (fun h => (h, ts)) K 96 [] [] (k_96)) (hk_104 : ∀ (l2 : Int), 0 < l2 → Sx Γ (fun h => (h, ts)) K 104 [(2, vA (mg Γ) l2)] [] (k_104 l2)) (l0 : Int) (l2 : Int) (l3 : Int) (hl2 : 0 < l2) (hl3 : R32 l3) : Sx Γ (fun h => (h, ts)) K 37 [(0, vA (mg Γ) l0), (2, vA (mg Γ) l2), (3, vI l3)] [] (b_X12_made_37 rc k_75 k_96 k_104 l0 l2 l3) :=
  s_loop okb_X12_made_37 (lvb_X12_made_37 Γ) (fun x hx => sb_X12_made_37b hr o k_75 k_96 k_104 hk_75 hk_96 hk_104 x.1 x.2.1 x.2.2 hx.1 hx.2) (x := (l0, l2, l3)) ⟨hl2, hl3⟩
noncomputable def b_X12_made (rc : Rc) (l0 : Int) (l1 : Int) : Mo CH Int :=
  bnd (newo 13) fun v1 =>
  bnd (gf [112] 5 l0) fun v2 =>
  bnd (c_X13_init v1 5 v2) fun _ =>
  bnd (pf [113] 2 v1 l1) fun _ =>
  bnd (isk 112 l0) fun _ =>
  bnd (c_X12_next l0) fun _ =>
  bnd (gf [112] 14 l0) fun v3 =>
  bnd (ald 0 v3 l1) fun v4 =>
  bnd (newa 6 v4) fun v5 =>
  bnd (pf [113] 6 v1 v5) fun _ =>
  b_X12_made_37 rc
    (pr 0)
    (pr 0)
    (fun v6 => pr v6) l0 v1 0
theorem sb_X12_made (g : gC) (d : Nat) (ts : TS) (rc : Rc) (hr : GR_rd g ts (d + 8) rc) (l0 : Int) (l1 : Int) (hl1 : R32 l1) : SF g yX12_made (Cond.code yX12_made cX12_made 4 (Option.some (Jvm.ClassFile.FieldType.object "LazyForge$Raw"))) (Option.some (Jvm.ClassFile.FieldType.object "LazyForge$Raw")) (d + 9) [vA g l0, vI l1] (fun h => (h, ts)) (b_X12_made rc l0 l1) := by
  refine SF.of (lv := [(0, vA g l0), (1, vI l1)]) (by decide) (wt_A (wt_I wt_0)) rfl (by simp only [la_A, la_I, la_J, la_0]) (fun Γ hg hnm o => ?_)
  subst hg
  have o : Ok Γ "LazyForge$Reader" cX12_made 4 (Option.some (Jvm.ClassFile.FieldType.object "LazyForge$Raw")) (d + 9) := o
  unfold b_X12_made
  refine s_new o mk_13 (lw_all_tbl q594) dX12_made_0 (fun v1 hv1 => ?_)
  refine s_dup o dX12_made_3 (vA_cat (mg Γ) v1) ?_
  refine s_iconst o dX12_made_4 ?_
  refine s_aload_n o dX12_made_5 rfl 0 rfl ?_
  refine r_getf vI rfl o cf_X12_place (Or.inl (lw_all_tbl q658)) dX12_made_6 (fun v2 hv2 => ?_)
  refine s_ci (d := d + 8) (As := [vI 5, vI v2]) (st := [vA (mg Γ) v1]) o (sc_X13_init (mg Γ) (d + 7) ts v1 5 v2 hv1 (r32 rfl) hv2) mw_X13_init rfl (Or.inl (lw_all_tbl q892)) (lw_all_tbl q893) rfl hv1 (wt_A wt_0) rfl dX12_made_9 rfl (fun _ => ?_)
  refine r_astore_n o dX12_made_12 rfl rfl ⟨(Nat.ne_of_beq_eq_false rfl), (fun _ => (vA_cat (mg Γ) l0)), ⟨(Nat.ne_of_beq_eq_false rfl), (fun _ => rfl), trivial⟩⟩ ?_
  refine s_aload_n o dX12_made_13 rfl 0 rfl ?_
  refine s_iload_n o dX12_made_14 rfl 2 rfl ?_
  refine r_putf vI rfl o cf_X13_op (Or.inr (Or.inl ⟨_, q902⟩)) dX12_made_15 (Or.inl rfl) hl1 ty_int ?_
  refine s_aload_n o dX12_made_18 rfl 1 rfl ?_
  refine s_cvC (d := d + 8) (As := []) (st := []) (c := 12) o (sc_X12_next (mg Γ) (d + 3) ts l0) mw_X12_next rfl (Or.inl (lw_all_tbl q743)) rfl (lw_all_tbl qs2) (lw_all_tbl q745) wt_0 rfl dX12_made_19 rfl (rs := fun _ => []) (fun _ => rfl) (fun _ _ => ?_)
  refine s_aload_n o dX12_made_22 rfl 0 rfl ?_
  refine s_aload_n o dX12_made_23 rfl 1 rfl ?_
  refine r_getf (vA (mg Γ)) rfl o cf_X12_fields (Or.inl (lw_all_tbl q671)) dX12_made_24 (fun v3 hv3 => ?_)
  refine s_iload_n o dX12_made_27 rfl 2 rfl ?_
  refine r_iald o hl1 dX12_made_28 (fun v4 hv4 => ?_)
  refine s_anew (kd := 6) o (by decide) (Or.inl rfl) (lw_all_tbl q594) ao_6 hv4 dX12_made_29 (fun v5 hv5 => ?_)
  refine r_putf (vA (mg Γ)) rfl o cf_X13_kids (Or.inr (Or.inl ⟨_, q910⟩)) dX12_made_32 (Or.inl rfl) trivial (ty_array _) ?_
  refine s_iconst o dX12_made_35 ?_
  refine r_istore_n o dX12_made_36 rfl rfl ⟨(Nat.ne_of_beq_eq_false rfl), (fun _ => (vA_cat (mg Γ) v1)), ⟨(Nat.ne_of_beq_eq_false rfl), (fun _ => (vA_cat (mg Γ) l0)), ⟨(Nat.ne_of_beq_eq_false rfl), (fun _ => rfl), trivial⟩⟩⟩ ?_
  refine r_to [(0, vA (mg Γ) l0), (2, vA (mg Γ) v1), (3, vI 0)] [2, 1, 0] rfl ?_
  refine sb_X12_made_37 hr o _ _ _ ?_ ?_ ?_ l0 v1 0 hv1 (r32 rfl)
  · refine s_null o dX12_made_75 ?_
    exact s_aret o rfl (Or.inl ⟨_, rfl⟩) dX12_made_76 (fun _ hh => hh)
  · refine s_null o dX12_made_96 ?_
    exact s_aret o rfl (Or.inl ⟨_, rfl⟩) dX12_made_97 (fun _ hh => hh)
  · intro v6 hv6
    refine s_aload_n o dX12_made_104 rfl 0 rfl ?_
    exact s_aret o rfl (Or.inl ⟨_, rfl⟩) dX12_made_105 (fun _ hh => hh)
abbrev okb_X12_application_91 (x : Int × Int × Int × Int) : Prop := 0 < x.2.1 ∧ R32 x.2.2.1 ∧ 0 < x.2.2.2
abbrev lvb_X12_application_91 (Γ : Gm) (x : Int × Int × Int × Int) : List (Nat × Value) := [(0, vA (mg Γ) x.1), (2, vA (mg Γ) x.2.1), (3, vI x.2.2.1), (4, vA (mg Γ) x.2.2.2)]
noncomputable def b_X12_application_130 (rc : Rc) {A : Type} (k_128 : Mo CH A) (k_135 : Int → Mo CH A) (k_158 : Mo CH A) (k_166 : Int → Int → Int → Mo CH A) (l0 : Int) (l2 : Int) (l3 : Int) (l4 : Int) : Mo CH ((Int × Int × Int × Int) ⊕ A) :=
  if l3 ≤ 5 then
    bnd (isk 112 l0) fun _ =>
    bnd (rc 1 l0 0 0 0 0) fun v1 =>
    bnd (asq 6 l2 l3 v1) fun _ =>
    bnd (ald 6 l2 l3) fun v2 =>
    if ¬ v2 = 0 then
      pr (.inl (l0, l2, (w32 (l3 + 1)), l4))
    else
      lo k_158
  else
    lo (k_135 l0)
theorem sb_X12_application_130 {Γ : Gm} {ts : TS} {d : Nat} {rc : Rc} (hr : GR_rd (mg Γ) ts (d + 8) rc) (o : Ok Γ "LazyForge$Reader" cX12_application 5 (Option.some (Jvm.ClassFile.FieldType.object "LazyForge$Raw")) (d + 9)) {A : Type} {K : A → CH → Prop}  (k_128 : Mo CH A) (k_135 : Int → Mo CH A) (k_158 : Mo CH A) (k_166 : Int → Int → Int → Mo CH A) (hk_128 : Sx Γ (fun h => (h, ts)) K 128 [] [] (k_128)) (hk_135 : ∀ (l0 : Int), Sx Γ (fun h => (h, ts)) K 135 [(0, vA (mg Γ) l0)] [] (k_135 l0)) (hk_158 : Sx Γ (fun h => (h, ts)) K 158 [] [] (k_158)) (hk_166 : ∀ (l2 : Int) (l3 : Int) (l4 : Int), 0 < l2 → R32 l3 → 0 < l4 → Sx Γ (fun h => (h, ts)) K 166 [(2, vA (mg Γ) l2), (3, vI l3), (4, vA (mg Γ) l4)] [] (k_166 l2 l3 l4)) (l0 : Int) (l2 : Int) (l3 : Int) (l4 : Int) (hl2 : 0 < l2) (hl3 : R32 l3) (hl4 : 0 < l4) : Sx Γ (fun h => (h, ts)) (KL Γ (fun h => (h, ts)) okb_X12_application_91 K 91 (lvb_X12_application_91 Γ) []) 130 [(0, vA (mg Γ) l0), (2, vA (mg Γ) l2), (3, vI l3), (4, vA (mg Γ) l4)] [] (b_X12_application_130 rc k_128 k_135 k_158 k_166 l0 l2 l3 l4) := by
  unfold b_X12_application_130
  refine s_iload_n o dX12_application_130 rfl 2 rfl ?_
  refine s_iconst o dX12_application_131 ?_
  refine s_icmp_le (tgt := 145) o dX12_application_132 (by decide) hl3 (r32 rfl) ?_ ?_
  · refine s_aload_n o dX12_application_145 rfl 1 rfl ?_
    refine s_iload_n o dX12_application_146 rfl 2 rfl ?_
    refine s_aload_n o dX12_application_147 rfl 0 rfl ?_
    refine s_cvC (d := d + 8) (As := []) (st := [vI l3, vA (mg Γ) l2]) (c := 12) o (gr_rd_1 hr l0) mw_X12_atom rfl (Or.inl (lw_all_tbl q1001)) rfl (lw_all_tbl qs31) (lw_all_tbl q1003) (wt_I (wt_A wt_0)) rfl dX12_application_148 rfl (rs := fun r => [vA (mg Γ) r, vI l3, vA (mg Γ) l2]) (fun _ => rfl) (fun v1 hv1 => ?_)
    refine s_aast (kd := 6) o (by decide) (as_6 o) (Or.inl ⟨_, rfl⟩) hl3 dX12_application_151 ?_
    refine s_aload_n o dX12_application_152 rfl 1 rfl ?_
    refine s_iload_n o dX12_application_153 rfl 2 rfl ?_
    refine r_aald (kd := 6) o (by decide) rfl hl3 dX12_application_154 (fun v2 => ?_)
    refine s_ifnonnull (tgt := 160) o dX12_application_155 (by decide) ?_ ?_
    · refine r_iinc (j := 2) o dX12_application_160 rfl rfl [(0, vA (mg Γ) l0), (2, vA (mg Γ) l2), (4, vA (mg Γ) l4)] [0, 1, 3] rfl ⟨(Nat.ne_of_beq_eq_false rfl), (fun _ => (vA_cat (mg Γ) l0)), ⟨(Nat.ne_of_beq_eq_false rfl), (fun _ => (vA_cat (mg Γ) l2)), ⟨(Nat.ne_of_beq_eq_false rfl), (fun _ => (vA_cat (mg Γ) l4)), trivial⟩⟩⟩ ?_
      refine s_goto (tgt := 91) o dX12_application_163 (by decide) ?_
      refine r_to [(0, vA (mg Γ) l0), (2, vA (mg Γ) l2), (3, vI (w32 (l3 + 1))), (4, vA (mg Γ) l4)] [1, 2, 0, 3] rfl ?_
      exact s_back (⟨hl2, (w32_R _), hl4⟩) rfl
    · refine r_to [] [] rfl ?_
      exact s_lo hk_158
  · refine r_to [(0, vA (mg Γ) l0)] [0] rfl ?_
    exact s_lo (hk_135 l0)
noncomputable def b_X12_application_91b (rc : Rc) {A : Type} (k_128 : Mo CH A) (k_135 : Int → Mo CH A) (k_158 : Mo CH A) (k_166 : Int → Int → Int → Mo CH A) (l0 : Int) (l2 : Int) (l3 : Int) (l4 : Int) : Mo CH ((Int × Int × Int × Int) ⊕ A) :=
  bnd (isk 112 l0) fun _ =>
  bnd (c_X12_isGood l0) fun v1 =>
  if v1 = 0 then
    lo (k_166 l2 l3 l4)
  else
    bnd (isk 112 l0) fun _ =>
    bnd (c_X12_isAtom l0) fun v2 =>
    if v2 = 0 then
      lo (k_166 l2 l3 l4)
    else
      bnd (isk 112 l0) fun _ =>
      bnd (c_X12_mayBegin l0) fun v3 =>
      if v3 = 0 then
        lo k_128
      else
        if ¬ l3 = 1 then
          b_X12_application_130 rc k_128 k_135 k_158 k_166 l0 l2 l3 l4
        else
          bnd (gf [112] 5 l0) fun v4 =>
          bnd (isk 112 l0) fun _ =>
          bnd (c_X12_part l0 v4) fun v5 =>
          if ¬ v5 = 0 then
            b_X12_application_130 rc k_128 k_135 k_158 k_166 l0 l2 l3 l4
          else
            lo k_128
theorem sb_X12_application_91b {Γ : Gm} {ts : TS} {d : Nat} {rc : Rc} (hr : GR_rd (mg Γ) ts (d + 8) rc) (o : Ok Γ "LazyForge$Reader" cX12_application 5 (Option.some (Jvm.ClassFile.FieldType.object "LazyForge$Raw")) (d + 9)) {A : Type} {K : A → CH → Prop} (k_128 : Mo CH A) (k_135 : Int → Mo CH A) (k_158 : Mo CH A) (k_166 : Int → Int → Int → Mo CH A) (hk_128 : Sx Γ (fun h => (h, ts)) K 128 [] [] (k_128)) (hk_135 : ∀ (l0 : Int), Sx Γ (fun h => (h, ts)) K 135 [(0, vA (mg Γ) l0)] [] (k_135 l0)) (hk_158 : Sx Γ (fun h => (h, ts)) K 158 [] [] (k_158)) (hk_166 : ∀ (l2 : Int) (l3 : Int) (l4 : Int), 0 < l2 → R32 l3 → 0 < l4 → Sx Γ (fun h => (h, ts)) K 166 [(2, vA (mg Γ) l2), (3, vI l3), (4, vA (mg Γ) l4)] [] (k_166 l2 l3 l4)) (l0 : Int) (l2 : Int) (l3 : Int) (l4 : Int) (hl2 : 0 < l2) (hl3 : R32 l3) (hl4 : 0 < l4) : Sx Γ (fun h => (h, ts)) (KL Γ (fun h => (h, ts)) okb_X12_application_91 K 91 (lvb_X12_application_91 Γ) []) 91 [(0, vA (mg Γ) l0), (2, vA (mg Γ) l2), (3, vI l3), (4, vA (mg Γ) l4)] [] (b_X12_application_91b rc k_128 k_135 k_158 k_166 l0 l2 l3 l4) := by
  unfold b_X12_application_91b
  refine s_aload_n o dX12_application_91 rfl 0 rfl ?_
  refine s_cvC (d := d + 8) (As := []) (st := []) (c := 12) o (sc_X12_isGood (mg Γ) (d + 8) ts l0) mw_X12_isGood rfl (Or.inl (lw_all_tbl q833)) rfl (lw_all_tbl qs6) (lw_all_tbl q835) wt_0 rfl dX12_application_92 rfl (rs := fun r => [vI r]) (fun _ => rfl) (fun v1 hv1 => ?_)
  refine s_if_eq (tgt := 166) o dX12_application_95 (by decide) (rZ (hv1 _ rfl)) ?_ ?_
  · refine r_to [(2, vA (mg Γ) l2), (3, vI l3), (4, vA (mg Γ) l4)] [1, 2, 3] rfl ?_
    exact s_lo (hk_166 l2 l3 l4 hl2 hl3 hl4)
  · refine s_aload_n o dX12_application_98 rfl 0 rfl ?_
    refine s_cvC (d := d + 8) (As := []) (st := []) (c := 12) o (sc_X12_isAtom (mg Γ) (d + 2) ts l0) mw_X12_isAtom rfl (Or.inl (lw_all_tbl q991)) rfl (lw_all_tbl qs29) (lw_all_tbl q993) wt_0 rfl dX12_application_99 rfl (rs := fun r => [vI r]) (fun _ => rfl) (fun v2 hv2 => ?_)
    refine s_if_eq (tgt := 166) o dX12_application_102 (by decide) (rZ (hv2 _ rfl)) ?_ ?_
    · refine r_to [(2, vA (mg Γ) l2), (3, vI l3), (4, vA (mg Γ) l4)] [1, 2, 3] rfl ?_
      exact s_lo (hk_166 l2 l3 l4 hl2 hl3 hl4)
    · refine s_aload_n o dX12_application_105 rfl 0 rfl ?_
      refine s_cvC (d := d + 8) (As := []) (st := []) (c := 12) o (sc_X12_mayBegin (mg Γ) (d + 2) ts l0) mw_X12_mayBegin rfl (Or.inl (lw_all_tbl q997)) rfl (lw_all_tbl qs30) (lw_all_tbl q999) wt_0 rfl dX12_application_106 rfl (rs := fun r => [vI r]) (fun _ => rfl) (fun v3 hv3 => ?_)
      refine s_if_eq (tgt := 128) o dX12_application_109 (by decide) (rZ (hv3 _ rfl)) ?_ ?_
      · refine r_to [] [] rfl ?_
        exact s_lo hk_128
      · refine s_iload_n o dX12_application_112 rfl 2 rfl ?_
        refine s_iconst o dX12_application_113 ?_
        refine s_icmp_ne (tgt := 130) o dX12_application_114 (by decide) hl3 (r32 rfl) ?_ ?_
        · exact sb_X12_application_130 hr o k_128 k_135 k_158 k_166 hk_128 hk_135 hk_158 hk_166 l0 l2 l3 l4 hl2 hl3 hl4
        · refine s_aload_n o dX12_application_117 rfl 0 rfl ?_
          refine s_aload_n o dX12_application_118 rfl 0 rfl ?_
          refine r_getf vI rfl o cf_X12_place (Or.inl (lw_all_tbl q658)) dX12_application_119 (fun v4 hv4 => ?_)
          refine s_cvC (d := d + 8) (As := [vI v4]) (st := []) (c := 12) o (sc_X12_part (mg Γ) (d + 7) ts l0 v4 hv4) mw_X12_part rfl (Or.inl (lw_all_tbl q876)) rfl (lw_all_tbl qs16) (lw_all_tbl q878) wt_0 rfl dX12_application_122 rfl (rs := fun r => [vI r]) (fun _ => rfl) (fun v5 hv5 => ?_)
          refine s_if_ne (tgt := 130) o dX12_application_125 (by decide) (rZ (hv5 _ rfl)) ?_ ?_
          · exact sb_X12_application_130 hr o k_128 k_135 k_158 k_166 hk_128 hk_135 hk_158 hk_166 l0 l2 l3 l4 hl2 hl3 hl4
          · refine r_to [] [] rfl ?_
            exact s_lo hk_128
noncomputable def b_X12_application_91 (rc : Rc) {A : Type} (k_128 : Mo CH A) (k_135 : Int → Mo CH A) (k_158 : Mo CH A) (k_166 : Int → Int → Int → Mo CH A) (l0 : Int) (l2 : Int) (l3 : Int) (l4 : Int) : Mo CH A := Loop (fun x => b_X12_application_91b rc k_128 k_135 k_158 k_166 x.1 x.2.1 x.2.2.1 x.2.2.2) (l0, l2, l3, l4)
theorem sb_X12_application_91 {Γ : Gm} {ts : TS} {d : Nat} {rc : Rc} (hr : GR_rd (mg Γ) ts (d + 8) rc) (o : Ok Γ "LazyForge$Reader" cX12_application 5 (Option.some (Jvm.ClassFile.FieldType.object "LazyForge$Raw")) (d + 9)) {A : Type} {K : A → CH → Prop} (k_128 : Mo CH A) (k_135 : Int → Mo CH A) (k_158 : Mo CH A) (k_166 : Int → Int → Int → Mo CH A) (hk_128 : Sx Γ (fun h => (h, ts)) K 128 [] [] (k_128)) (hk_135 : ∀ (l0 : Int), Sx Γ (fun h => (h, ts)) K 135 [(0, vA (mg Γ) l0)] [] (k_135 l0)) (hk_158 : Sx Γ (fun h => (h, ts)) K 158 [] [] (k_158)) (hk_166 : ∀ (l2 : Int) (l3 : Int) (l4 : Int), 0 < l2 → R32 l3 → 0 < l4 → Sx Γ (fun h => (h, ts)) K 166 [(2, vA (mg Γ) l2), (3, vI l3), (4, vA (mg Γ) l4)] [] (k_166 l2 l3 l4)) (l0 : Int) (l2 : Int) (l3 : Int) (l4 : Int) (hl2 : 0 < l2) (hl3 : R32 l3) (hl4 : 0 < l4) : Sx Γ (fun h => (h, ts)) K 91 [(0, vA (mg Γ) l0), (2, vA (mg Γ) l2), (3, vI l3), (4, vA (mg Γ) l4)] [] (b_X12_application_91 rc k_128 k_135 k_158 k_166 l0 l2 l3 l4) :=
  s_loop okb_X12_application_91 (lvb_X12_application_91 Γ) (fun x hx => sb_X12_application_91b hr o k_128 k_135 k_158 k_166 hk_128 hk_135 hk_158 hk_166 x.1 x.2.1 x.2.2.1 x.2.2.2 hx.1 hx.2.1 hx.2.2) (x := (l0, l2, l3, l4)) ⟨hl2, hl3, hl4⟩
noncomputable def b_X12_application_47 (rc : Rc)  (l0 : Int) : Mo CH Int :=
  bnd (isk 112 l0) fun _ =>
  bnd (rc 1 l0 0 0 0 0) fun v1 =>
  if v1 = 0 then
    pr v1
  else
    bnd (isk 112 l0) fun _ =>
    bnd (c_X12_isAtom l0) fun v2 =>
    if ¬ v2 = 0 then
      bnd (newa 6 6) fun v3 =>
      bnd (asq 6 v3 0 v1) fun _ =>
      bnd (newo 13) fun v4 =>
      bnd (gf [113] 1 v1) fun v5 =>
      bnd (c_X13_init v4 4 v5) fun _ =>
      b_X12_application_91 rc
        (pr 0)
        (fun v6 => bnd (gf [112] 5 v6) fun v7 =>
      bnd (isk 112 v6) fun _ =>
      bnd (c_X12_fail v6 4 v7) fun v8 =>
      pr v8)
        (pr 0)
        (fun v9 v10 v11 => bnd (newa 6 v10) fun v12 =>
      bnd (pf [113] 6 v11 v12) fun _ =>
      bnd (gf [113] 6 v11) fun v13 =>
      bnd (acp 6 v9 0 v13 0 v10) fun _ =>
      pr v11) l0 v3 1 v4
    else
      pr v1
theorem sb_X12_application_47 {Γ : Gm} {ts : TS} {d : Nat} {rc : Rc} (hr : GR_rd (mg Γ) ts (d + 8) rc) (o : Ok Γ "LazyForge$Reader" cX12_application 5 (Option.some (Jvm.ClassFile.FieldType.object "LazyForge$Raw")) (d + 9))   (l0 : Int) : Sx Γ (fun h => (h, ts)) (fun a s => mt Γ = (0, a, ((s, ts) : Wd))) 47 [(0, vA (mg Γ) l0)] [] (b_X12_application_47 rc l0) := by
  unfold b_X12_application_47
  refine s_aload_n o dX12_application_47 rfl 0 rfl ?_
  refine s_cvC (d := d + 8) (As := []) (st := []) (c := 12) o (gr_rd_1 hr l0) mw_X12_atom rfl (Or.inl (lw_all_tbl q1001)) rfl (lw_all_tbl qs31) (lw_all_tbl q1003) wt_0 rfl dX12_application_48 rfl (rs := fun r => [vA (mg Γ) r]) (fun _ => rfl) (fun v1 hv1 => ?_)
  refine r_astore_n o dX12_application_51 rfl rfl ⟨(Nat.ne_of_beq_eq_false rfl), (fun _ => (vA_cat (mg Γ) l0)), trivial⟩ ?_
  refine s_aload_n o dX12_application_52 rfl 0 rfl ?_
  refine s_ifnull (tgt := 63) o dX12_application_53 (by decide) ?_ ?_
  · refine s_aload_n o dX12_application_63 rfl 0 rfl ?_
    exact s_aret o rfl (Or.inl ⟨_, rfl⟩) dX12_application_64 (fun _ hh => hh)
  · refine s_aload_n o dX12_application_56 rfl 1 rfl ?_
    refine s_cvC (d := d + 8) (As := []) (st := []) (c := 12) o (sc_X12_isAtom (mg Γ) (d + 2) ts l0) mw_X12_isAtom rfl (Or.inl (lw_all_tbl q991)) rfl (lw_all_tbl qs29) (lw_all_tbl q993) wt_0 rfl dX12_application_57 rfl (rs := fun r => [vI r]) (fun _ => rfl) (fun v2 hv2 => ?_)
    refine s_if_ne (tgt := 65) o dX12_application_60 (by decide) (rZ (hv2 _ rfl)) ?_ ?_
    · refine s_bipush o dX12_application_65 rfl ?_
      refine s_anew (kd := 6) o (by decide) (Or.inl rfl) (lw_all_tbl q594) ao_6 (r32 rfl) dX12_application_67 (fun v3 hv3 => ?_)
      refine r_astore_n o dX12_application_70 rfl rfl ⟨(Nat.ne_of_beq_eq_false rfl), (fun _ => (vA_cat (mg Γ) v1)), ⟨(Nat.ne_of_beq_eq_false rfl), (fun _ => (vA_cat (mg Γ) l0)), trivial⟩⟩ ?_
      refine s_aload_n o dX12_application_71 rfl 0 rfl ?_
      refine s_iconst o dX12_application_72 ?_
      refine s_aload_n o dX12_application_73 rfl 1 rfl ?_
      refine s_aast (kd := 6) o (by decide) (as_6 o) (Or.inl ⟨_, rfl⟩) (r32 rfl) dX12_application_74 ?_
      refine s_iconst o dX12_application_75 ?_
      refine r_istore_n o dX12_application_76 rfl rfl ⟨(Nat.ne_of_beq_eq_false rfl), (fun _ => (vA_cat (mg Γ) v3)), ⟨(Nat.ne_of_beq_eq_false rfl), (fun _ => (vA_cat (mg Γ) v1)), ⟨(Nat.ne_of_beq_eq_false rfl), (fun _ => (vA_cat (mg Γ) l0)), trivial⟩⟩⟩ ?_
      refine s_new o mk_13 (lw_all_tbl q594) dX12_application_77 (fun v4 hv4 => ?_)
      refine s_dup o dX12_application_80 (vA_cat (mg Γ) v4) ?_
      refine s_iconst o dX12_application_81 ?_
      refine s_aload_n o dX12_application_82 rfl 2 rfl ?_
      refine r_getf vI rfl o cf_X13_place (Or.inr (Or.inl ⟨_, q900⟩)) dX12_application_83 (fun v5 hv5 => ?_)
      refine s_ci (d := d + 8) (As := [vI 4, vI v5]) (st := [vA (mg Γ) v4]) o (sc_X13_init (mg Γ) (d + 7) ts v4 4 v5 hv4 (r32 rfl) hv5) mw_X13_init rfl (Or.inl (lw_all_tbl q892)) (lw_all_tbl q893) rfl hv4 (wt_A wt_0) rfl dX12_application_86 rfl (fun _ => ?_)
      refine r_astore o dX12_application_89 rfl ⟨(Nat.ne_of_beq_eq_false rfl), (fun _ => rfl), ⟨(Nat.ne_of_beq_eq_false rfl), (fun _ => (vA_cat (mg Γ) v3)), ⟨(Nat.ne_of_beq_eq_false rfl), (fun _ => (vA_cat (mg Γ) v1)), ⟨(Nat.ne_of_beq_eq_false rfl), (fun _ => (vA_cat (mg Γ) l0)), trivial⟩⟩⟩⟩ ?_
      refine r_to [(0, vA (mg Γ) l0), (2, vA (mg Γ) v3), (3, vI 1), (4, vA (mg Γ) v4)] [4, 2, 1, 0] rfl ?_
      refine sb_X12_application_91 hr o _ _ _ _ ?_ ?_ ?_ ?_ l0 v3 1 v4 hv3 (r32 rfl) hv4
      · refine s_null o dX12_application_128 ?_
        exact s_aret o rfl (Or.inl ⟨_, rfl⟩) dX12_application_129 (fun _ hh => hh)
      · intro v6
        refine s_aload_n o dX12_application_135 rfl 0 rfl ?_
        refine s_iconst o dX12_application_136 ?_
        refine s_aload_n o dX12_application_137 rfl 0 rfl ?_
        refine r_getf vI rfl o cf_X12_place (Or.inl (lw_all_tbl q658)) dX12_application_138 (fun v7 hv7 => ?_)
        refine s_cvC (d := d + 8) (As := [vI 4, vI v7]) (st := []) (c := 12) o (sc_X12_fail (mg Γ) (d + 8) ts v6 4 v7 (r32 rfl) hv7) mw_X12_fail rfl (Or.inl (lw_all_tbl q846)) rfl (lw_all_tbl qs9) (lw_all_tbl q848) wt_0 rfl dX12_application_141 rfl (rs := fun r => [vA (mg Γ) r]) (fun _ => rfl) (fun v8 hv8 => ?_)
        exact s_aret o rfl (Or.inl ⟨_, rfl⟩) dX12_application_144 (fun _ hh => hh)
      · refine s_null o dX12_application_158 ?_
        exact s_aret o rfl (Or.inl ⟨_, rfl⟩) dX12_application_159 (fun _ hh => hh)
      · intro v9 v10 v11 hv9 hv10 hv11
        refine s_aload o dX12_application_166 2 rfl ?_
        refine s_iload_n o dX12_application_168 rfl 1 rfl ?_
        refine s_anew (kd := 6) o (by decide) (Or.inl rfl) (lw_all_tbl q594) ao_6 hv10 dX12_application_169 (fun v12 hv12 => ?_)
        refine r_putf (vA (mg Γ)) rfl o cf_X13_kids (Or.inr (Or.inl ⟨_, q910⟩)) dX12_application_172 (Or.inl rfl) trivial (ty_array _) ?_
        refine s_aload_n o dX12_application_175 rfl 0 rfl ?_
        refine s_iconst o dX12_application_176 ?_
        refine s_aload o dX12_application_177 2 rfl ?_
        refine r_getf (vA (mg Γ)) rfl o cf_X13_kids (Or.inr (Or.inl ⟨_, q910⟩)) dX12_application_179 (fun v13 hv13 => ?_)
        refine s_iconst o dX12_application_182 ?_
        refine s_iload_n o dX12_application_183 rfl 1 rfl ?_
        refine s_acp (kd := 6) (d := d + 8) o (by decide) (fun _ => as_6 o) (lw_all_tbl q880) (r32 rfl) (r32 rfl) hv10 wt_0 rfl dX12_application_184 (lw_all_tbl q481) (lw_all_tbl q480) (lw_all_tbl q179) ?_
        refine s_aload o dX12_application_187 2 rfl ?_
        exact s_aret o rfl (Or.inl ⟨_, rfl⟩) dX12_application_189 (fun _ hh => hh)
    · refine s_aload_n o dX12_application_63 rfl 0 rfl ?_
      exact s_aret o rfl (Or.inl ⟨_, rfl⟩) dX12_application_64 (fun _ hh => hh)
noncomputable def b_X12_application (rc : Rc) (l0 : Int) : Mo CH Int :=
  bnd (gf [112] 4 l0) fun v1 =>
  if ¬ v1 = 2 then
    b_X12_application_47 rc l0
  else
    bnd (gf [112] 8 l0) fun v2 =>
    bnd (isk 112 l0) fun _ =>
    bnd (c_X12_constructor l0 v2) fun v3 =>
    if ¬ v3 = (-1) then
      bnd (gf [112] 14 l0) fun v4 =>
      bnd (ald 0 v4 v3) fun v5 =>
      if v5 ≤ 0 then
        b_X12_application_47 rc l0
      else
        bnd (isk 112 l0) fun _ =>
        bnd (rc 7 l0 v3 0 0 0) fun v6 =>
        pr v6
    else
      bnd (gf [112] 5 l0) fun v7 =>
      bnd (isk 112 l0) fun _ =>
      bnd (c_X12_fail l0 3 v7) fun v8 =>
      pr v8
theorem sb_X12_application (g : gC) (d : Nat) (ts : TS) (rc : Rc) (hr : GR_rd g ts (d + 8) rc) (l0 : Int) : SF g yX12_application (Cond.code yX12_application cX12_application 5 (Option.some (Jvm.ClassFile.FieldType.object "LazyForge$Raw"))) (Option.some (Jvm.ClassFile.FieldType.object "LazyForge$Raw")) (d + 9) [vA g l0] (fun h => (h, ts)) (b_X12_application rc l0) := by
  refine SF.of (lv := [(0, vA g l0)]) (by decide) (wt_A wt_0) rfl (by simp only [la_A, la_I, la_J, la_0]) (fun Γ hg hnm o => ?_)
  subst hg
  have o : Ok Γ "LazyForge$Reader" cX12_application 5 (Option.some (Jvm.ClassFile.FieldType.object "LazyForge$Raw")) (d + 9) := o
  unfold b_X12_application
  refine s_aload_n o dX12_application_0 rfl 0 rfl ?_
  refine r_getf vI rfl o cf_X12_sort (Or.inl (lw_all_tbl q657)) dX12_application_1 (fun v1 hv1 => ?_)
  refine s_iconst o dX12_application_4 ?_
  refine s_icmp_ne (tgt := 47) o dX12_application_5 (by decide) hv1 (r32 rfl) ?_ ?_
  · exact sb_X12_application_47 hr o l0
  · refine s_aload_n o dX12_application_8 rfl 0 rfl ?_
    refine s_aload_n o dX12_application_9 rfl 0 rfl ?_
    refine r_getf vJ rfl o cf_X12_word (Or.inl (lw_all_tbl q661)) dX12_application_10 (fun v2 hv2 => ?_)
    refine s_cvC (d := d + 8) (As := [vJ v2]) (st := []) (c := 12) o (sc_X12_constructor (mg Γ) (d + 8) ts l0 v2 hv2) mw_X12_constructor rfl (Or.inl (lw_all_tbl q850)) rfl (lw_all_tbl qs10) (lw_all_tbl q852) wt_0 rfl dX12_application_13 rfl (rs := fun r => [vI r]) (fun _ => rfl) (fun v3 hv3 => ?_)
    refine r_istore_n o dX12_application_16 rfl rfl ⟨(Nat.ne_of_beq_eq_false rfl), (fun _ => (vA_cat (mg Γ) l0)), trivial⟩ ?_
    refine s_iload_n o dX12_application_17 rfl 0 rfl ?_
    refine s_iconst o dX12_application_18 ?_
    refine s_icmp_ne (tgt := 32) o dX12_application_19 (by decide) (hv3 _ rfl) (r32 rfl) ?_ ?_
    · refine s_aload_n o dX12_application_32 rfl 1 rfl ?_
      refine r_getf (vA (mg Γ)) rfl o cf_X12_fields (Or.inl (lw_all_tbl q671)) dX12_application_33 (fun v4 hv4 => ?_)
      refine s_iload_n o dX12_application_36 rfl 0 rfl ?_
      refine r_iald o (hv3 _ rfl) dX12_application_37 (fun v5 hv5 => ?_)
      refine s_if_le (tgt := 47) o dX12_application_38 (by decide) hv5 ?_ ?_
      · refine r_to [(0, vA (mg Γ) l0)] [1] rfl ?_
        exact sb_X12_application_47 hr o l0
      · refine s_aload_n o dX12_application_41 rfl 1 rfl ?_
        refine s_iload_n o dX12_application_42 rfl 0 rfl ?_
        refine s_cvC (d := d + 8) (As := [vI v3]) (st := []) (c := 12) o (gr_rd_7 hr l0 v3 (hv3 _ rfl)) mw_X12_made rfl (Or.inl (lw_all_tbl q987)) rfl (lw_all_tbl qs28) (lw_all_tbl q989) wt_0 rfl dX12_application_43 rfl (rs := fun r => [vA (mg Γ) r]) (fun _ => rfl) (fun v6 hv6 => ?_)
        exact s_aret o rfl (Or.inl ⟨_, rfl⟩) dX12_application_46 (fun _ hh => hh)
    · refine s_aload_n o dX12_application_22 rfl 1 rfl ?_
      refine s_iconst o dX12_application_23 ?_
      refine s_aload_n o dX12_application_24 rfl 1 rfl ?_
      refine r_getf vI rfl o cf_X12_place (Or.inl (lw_all_tbl q658)) dX12_application_25 (fun v7 hv7 => ?_)
      refine s_cvC (d := d + 8) (As := [vI 3, vI v7]) (st := []) (c := 12) o (sc_X12_fail (mg Γ) (d + 8) ts l0 3 v7 (r32 rfl) hv7) mw_X12_fail rfl (Or.inl (lw_all_tbl q846)) rfl (lw_all_tbl qs9) (lw_all_tbl q848) wt_0 rfl dX12_application_28 rfl (rs := fun r => [vA (mg Γ) r]) (fun _ => rfl) (fun v8 hv8 => ?_)
      exact s_aret o rfl (Or.inl ⟨_, rfl⟩) dX12_application_31 (fun _ hh => hh)
abbrev okb_X12_product_5 (x : Int × Int) : Prop := True
abbrev lvb_X12_product_5 (Γ : Gm) (x : Int × Int) : List (Nat × Value) := [(0, vA (mg Γ) x.1), (1, vA (mg Γ) x.2)]
noncomputable def b_X12_product_112 (rc : Rc) {A : Type} (k_82 : Mo CH A) (k_116 : Int → Mo CH A) (l0 : Int) (k0 : Int) : Mo CH ((Int × Int) ⊕ A) :=
  pr (.inl (l0, k0))
theorem sb_X12_product_112 {Γ : Gm} {ts : TS} {d : Nat} {rc : Rc} (hr : GR_rd (mg Γ) ts (d + 8) rc) (o : Ok Γ "LazyForge$Reader" cX12_product 5 (Option.some (Jvm.ClassFile.FieldType.object "LazyForge$Raw")) (d + 9)) {A : Type} {K : A → CH → Prop}  (k_82 : Mo CH A) (k_116 : Int → Mo CH A) (hk_82 : Sx Γ (fun h => (h, ts)) K 82 [] [] (k_82)) (hk_116 : ∀ (l1 : Int), Sx Γ (fun h => (h, ts)) K 116 [(1, vA (mg Γ) l1)] [] (k_116 l1)) (l0 : Int) (k0 : Int) : Sx Γ (fun h => (h, ts)) (KL Γ (fun h => (h, ts)) okb_X12_product_5 K 5 (lvb_X12_product_5 Γ) []) 112 [(0, vA (mg Γ) l0)] [vA (mg Γ) k0] (b_X12_product_112 rc k_82 k_116 l0 k0) := by
  unfold b_X12_product_112
  refine r_astore_n o dX12_product_112 rfl rfl ⟨(Nat.ne_of_beq_eq_false rfl), (fun _ => (vA_cat (mg Γ) l0)), trivial⟩ ?_
  refine s_goto (tgt := 5) o dX12_product_113 (by decide) ?_
  refine r_to [(0, vA (mg Γ) l0), (1, vA (mg Γ) k0)] [1, 0] rfl ?_
  exact s_back trivial rfl
noncomputable def b_X12_product_68 (rc : Rc) {A : Type} (k_82 : Mo CH A) (k_116 : Int → Mo CH A) (l0 : Int) (l1 : Int) (k0 : Int) : Mo CH ((Int × Int) ⊕ A) :=
  bnd (gf [112] 5 l0) fun v1 =>
  bnd (isk 112 l0) fun _ =>
  bnd (c_X12_part l0 v1) fun v2 =>
  if ¬ v2 = 0 then
    bnd (isk 112 l0) fun _ =>
    bnd (c_X12_next l0) fun _ =>
    bnd (isk 112 l0) fun _ =>
    bnd (rc 0 l0 0 0 0 0) fun v3 =>
    if ¬ v3 = 0 then
      bnd (isk 112 l0) fun _ =>
      bnd (c_X12_two l0 k0 v1 l1 v3) fun v4 =>
      b_X12_product_112 rc k_82 k_116 l0 v4
    else
      b_X12_product_112 rc k_82 k_116 l0 0
  else
    lo k_82
theorem sb_X12_product_68 {Γ : Gm} {ts : TS} {d : Nat} {rc : Rc} (hr : GR_rd (mg Γ) ts (d + 8) rc) (o : Ok Γ "LazyForge$Reader" cX12_product 5 (Option.some (Jvm.ClassFile.FieldType.object "LazyForge$Raw")) (d + 9)) {A : Type} {K : A → CH → Prop}  (k_82 : Mo CH A) (k_116 : Int → Mo CH A) (hk_82 : Sx Γ (fun h => (h, ts)) K 82 [] [] (k_82)) (hk_116 : ∀ (l1 : Int), Sx Γ (fun h => (h, ts)) K 116 [(1, vA (mg Γ) l1)] [] (k_116 l1)) (l0 : Int) (l1 : Int) (k0 : Int) (hk0 : R32 k0) : Sx Γ (fun h => (h, ts)) (KL Γ (fun h => (h, ts)) okb_X12_product_5 K 5 (lvb_X12_product_5 Γ) []) 68 [(0, vA (mg Γ) l0), (1, vA (mg Γ) l1)] [vI k0] (b_X12_product_68 rc k_82 k_116 l0 l1 k0) := by
  unfold b_X12_product_68
  refine r_istore_n o dX12_product_68 rfl rfl ⟨(Nat.ne_of_beq_eq_false rfl), (fun _ => (vA_cat (mg Γ) l0)), ⟨(Nat.ne_of_beq_eq_false rfl), (fun _ => (vA_cat (mg Γ) l1)), trivial⟩⟩ ?_
  refine s_aload_n o dX12_product_69 rfl 1 rfl ?_
  refine r_getf vI rfl o cf_X12_place (Or.inl (lw_all_tbl q658)) dX12_product_70 (fun v1 hv1 => ?_)
  refine r_istore_n o dX12_product_73 rfl rfl ⟨(Nat.ne_of_beq_eq_false rfl), (fun _ => rfl), ⟨(Nat.ne_of_beq_eq_false rfl), (fun _ => (vA_cat (mg Γ) l0)), ⟨(Nat.ne_of_beq_eq_false rfl), (fun _ => (vA_cat (mg Γ) l1)), trivial⟩⟩⟩ ?_
  refine s_aload_n o dX12_product_74 rfl 2 rfl ?_
  refine s_iload_n o dX12_product_75 rfl 0 rfl ?_
  refine s_cvC (d := d + 8) (As := [vI v1]) (st := []) (c := 12) o (sc_X12_part (mg Γ) (d + 7) ts l0 v1 hv1) mw_X12_part rfl (Or.inl (lw_all_tbl q876)) rfl (lw_all_tbl qs16) (lw_all_tbl q878) wt_0 rfl dX12_product_76 rfl (rs := fun r => [vI r]) (fun _ => rfl) (fun v2 hv2 => ?_)
  refine s_if_ne (tgt := 84) o dX12_product_79 (by decide) (rZ (hv2 _ rfl)) ?_ ?_
  · refine s_aload_n o dX12_product_84 rfl 2 rfl ?_
    refine s_cvC (d := d + 8) (As := []) (st := []) (c := 12) o (sc_X12_next (mg Γ) (d + 3) ts l0) mw_X12_next rfl (Or.inl (lw_all_tbl q743)) rfl (lw_all_tbl qs2) (lw_all_tbl q745) wt_0 rfl dX12_product_85 rfl (rs := fun _ => []) (fun _ => rfl) (fun _ _ => ?_)
    refine s_aload_n o dX12_product_88 rfl 2 rfl ?_
    refine s_cvC (d := d + 8) (As := []) (st := []) (c := 12) o (gr_rd_0 hr l0) mw_X12_application rfl (Or.inl (lw_all_tbl q983)) rfl (lw_all_tbl qs27) (lw_all_tbl q985) wt_0 rfl dX12_product_89 rfl (rs := fun r => [vA (mg Γ) r]) (fun _ => rfl) (fun v3 hv3 => ?_)
    refine r_astore o dX12_product_92 rfl ⟨(Nat.ne_of_beq_eq_false rfl), (fun _ => rfl), ⟨(Nat.ne_of_beq_eq_false rfl), (fun _ => rfl), ⟨(Nat.ne_of_beq_eq_false rfl), (fun _ => (vA_cat (mg Γ) l0)), ⟨(Nat.ne_of_beq_eq_false rfl), (fun _ => (vA_cat (mg Γ) l1)), trivial⟩⟩⟩⟩ ?_
    refine s_aload o dX12_product_94 0 rfl ?_
    refine s_ifnonnull (tgt := 103) o dX12_product_96 (by decide) ?_ ?_
    · refine s_aload_n o dX12_product_103 rfl 3 rfl ?_
      refine s_iload_n o dX12_product_104 rfl 2 rfl ?_
      refine s_iload_n o dX12_product_105 rfl 1 rfl ?_
      refine s_aload_n o dX12_product_106 rfl 4 rfl ?_
      refine s_aload o dX12_product_107 0 rfl ?_
      refine s_cvC (d := d + 8) (As := [vI k0, vI v1, vA (mg Γ) l1, vA (mg Γ) v3]) (st := []) (c := 12) o (sc_X12_two (mg Γ) (d + 6) ts l0 k0 v1 l1 v3 hk0 hv1) mw_X12_two rfl (Or.inl (lw_all_tbl q1009)) rfl (lw_all_tbl qs32) (lw_all_tbl q1011) wt_0 rfl dX12_product_109 rfl (rs := fun r => [vA (mg Γ) r]) (fun _ => rfl) (fun v4 hv4 => ?_)
      refine r_to [(0, vA (mg Γ) l0)] [3] rfl ?_
      exact sb_X12_product_112 hr o k_82 k_116 hk_82 hk_116 l0 v4
    · refine s_null o dX12_product_99 ?_
      refine s_goto (tgt := 112) o dX12_product_100 (by decide) ?_
      refine r_to [(0, vA (mg Γ) l0)] [3] rfl ?_
      exact sb_X12_product_112 hr o k_82 k_116 hk_82 hk_116 l0 0
  · refine r_to [] [] rfl ?_
    exact s_lo hk_82
noncomputable def b_X12_product_39 (rc : Rc) {A : Type} (k_82 : Mo CH A) (k_116 : Int → Mo CH A) (l0 : Int) (l1 : Int) : Mo CH ((Int × Int) ⊕ A) :=
  bnd (isk 112 l0) fun _ =>
  bnd (c_X12_isSign l0 (-23)) fun v1 =>
  if v1 = 0 then
    bnd (isk 112 l0) fun _ =>
    bnd (c_X12_isSign l0 (-24)) fun v2 =>
    if v2 = 0 then
      b_X12_product_68 rc k_82 k_116 l0 l1 4
    else
      b_X12_product_68 rc k_82 k_116 l0 l1 3
  else
    b_X12_product_68 rc k_82 k_116 l0 l1 2
theorem sb_X12_product_39 {Γ : Gm} {ts : TS} {d : Nat} {rc : Rc} (hr : GR_rd (mg Γ) ts (d + 8) rc) (o : Ok Γ "LazyForge$Reader" cX12_product 5 (Option.some (Jvm.ClassFile.FieldType.object "LazyForge$Raw")) (d + 9)) {A : Type} {K : A → CH → Prop}  (k_82 : Mo CH A) (k_116 : Int → Mo CH A) (hk_82 : Sx Γ (fun h => (h, ts)) K 82 [] [] (k_82)) (hk_116 : ∀ (l1 : Int), Sx Γ (fun h => (h, ts)) K 116 [(1, vA (mg Γ) l1)] [] (k_116 l1)) (l0 : Int) (l1 : Int) : Sx Γ (fun h => (h, ts)) (KL Γ (fun h => (h, ts)) okb_X12_product_5 K 5 (lvb_X12_product_5 Γ) []) 39 [(0, vA (mg Γ) l0), (1, vA (mg Γ) l1)] [] (b_X12_product_39 rc k_82 k_116 l0 l1) := by
  unfold b_X12_product_39
  refine s_aload_n o dX12_product_39 rfl 0 rfl ?_
  refine s_ldcwS (tx := "*") (k := 23) o (by decide +kernel) rfl (by decide) dX12_product_40 ?_
  refine s_cvC (d := d + 8) (As := [vA (mg Γ) (-23)]) (st := []) (c := 12) o (sc_X12_isSign (mg Γ) (d + 3) ts l0 (-23)) mw_X12_isSign rfl (Or.inl (lw_all_tbl q859)) rfl (lw_all_tbl qs12) (lw_all_tbl q861) wt_0 rfl dX12_product_43 rfl (rs := fun r => [vI r]) (fun _ => rfl) (fun v1 hv1 => ?_)
  refine s_if_eq (tgt := 53) o dX12_product_46 (by decide) (rZ (hv1 _ rfl)) ?_ ?_
  · refine s_aload_n o dX12_product_53 rfl 0 rfl ?_
    refine s_ldcwS (tx := "/") (k := 24) o (by decide +kernel) rfl (by decide) dX12_product_54 ?_
    refine s_cvC (d := d + 8) (As := [vA (mg Γ) (-24)]) (st := []) (c := 12) o (sc_X12_isSign (mg Γ) (d + 3) ts l0 (-24)) mw_X12_isSign rfl (Or.inl (lw_all_tbl q859)) rfl (lw_all_tbl qs12) (lw_all_tbl q861) wt_0 rfl dX12_product_57 rfl (rs := fun r => [vI r]) (fun _ => rfl) (fun v2 hv2 => ?_)
    refine s_if_eq (tgt := 67) o dX12_product_60 (by decide) (rZ (hv2 _ rfl)) ?_ ?_
    · refine s_iconst o dX12_product_67 ?_
      exact sb_X12_product_68 hr o k_82 k_116 hk_82 hk_116 l0 l1 4 (r32 rfl)
    · refine s_iconst o dX12_product_63 ?_
      refine s_goto (tgt := 68) o dX12_product_64 (by decide) ?_
      exact sb_X12_product_68 hr o k_82 k_116 hk_82 hk_116 l0 l1 3 (r32 rfl)
  · refine s_iconst o dX12_product_49 ?_
    refine s_goto (tgt := 68) o dX12_product_50 (by decide) ?_
    exact sb_X12_product_68 hr o k_82 k_116 hk_82 hk_116 l0 l1 2 (r32 rfl)
noncomputable def b_X12_product_5b (rc : Rc) {A : Type} (k_82 : Mo CH A) (k_116 : Int → Mo CH A) (l0 : Int) (l1 : Int) : Mo CH ((Int × Int) ⊕ A) :=
  if l1 = 0 then
    lo (k_116 l1)
  else
    bnd (isk 112 l0) fun _ =>
    bnd (c_X12_isSign l0 (-23)) fun v1 =>
    if ¬ v1 = 0 then
      b_X12_product_39 rc k_82 k_116 l0 l1
    else
      bnd (isk 112 l0) fun _ =>
      bnd (c_X12_isSign l0 (-24)) fun v2 =>
      if ¬ v2 = 0 then
        b_X12_product_39 rc k_82 k_116 l0 l1
      else
        bnd (isk 112 l0) fun _ =>
        bnd (c_X12_isSign l0 (-25)) fun v3 =>
        if v3 = 0 then
          lo (k_116 l1)
        else
          b_X12_product_39 rc k_82 k_116 l0 l1
theorem sb_X12_product_5b {Γ : Gm} {ts : TS} {d : Nat} {rc : Rc} (hr : GR_rd (mg Γ) ts (d + 8) rc) (o : Ok Γ "LazyForge$Reader" cX12_product 5 (Option.some (Jvm.ClassFile.FieldType.object "LazyForge$Raw")) (d + 9)) {A : Type} {K : A → CH → Prop} (k_82 : Mo CH A) (k_116 : Int → Mo CH A) (hk_82 : Sx Γ (fun h => (h, ts)) K 82 [] [] (k_82)) (hk_116 : ∀ (l1 : Int), Sx Γ (fun h => (h, ts)) K 116 [(1, vA (mg Γ) l1)] [] (k_116 l1)) (l0 : Int) (l1 : Int) : Sx Γ (fun h => (h, ts)) (KL Γ (fun h => (h, ts)) okb_X12_product_5 K 5 (lvb_X12_product_5 Γ) []) 5 [(0, vA (mg Γ) l0), (1, vA (mg Γ) l1)] [] (b_X12_product_5b rc k_82 k_116 l0 l1) := by
  unfold b_X12_product_5b
  refine s_aload_n o dX12_product_5 rfl 1 rfl ?_
  refine s_ifnull (tgt := 116) o dX12_product_6 (by decide) ?_ ?_
  · refine r_to [(1, vA (mg Γ) l1)] [1] rfl ?_
    exact s_lo (hk_116 l1)
  · refine s_aload_n o dX12_product_9 rfl 0 rfl ?_
    refine s_ldcwS (tx := "*") (k := 23) o (by decide +kernel) rfl (by decide) dX12_product_10 ?_
    refine s_cvC (d := d + 8) (As := [vA (mg Γ) (-23)]) (st := []) (c := 12) o (sc_X12_isSign (mg Γ) (d + 3) ts l0 (-23)) mw_X12_isSign rfl (Or.inl (lw_all_tbl q859)) rfl (lw_all_tbl qs12) (lw_all_tbl q861) wt_0 rfl dX12_product_13 rfl (rs := fun r => [vI r]) (fun _ => rfl) (fun v1 hv1 => ?_)
    refine s_if_ne (tgt := 39) o dX12_product_16 (by decide) (rZ (hv1 _ rfl)) ?_ ?_
    · exact sb_X12_product_39 hr o k_82 k_116 hk_82 hk_116 l0 l1
    · refine s_aload_n o dX12_product_19 rfl 0 rfl ?_
      refine s_ldcwS (tx := "/") (k := 24) o (by decide +kernel) rfl (by decide) dX12_product_20 ?_
      refine s_cvC (d := d + 8) (As := [vA (mg Γ) (-24)]) (st := []) (c := 12) o (sc_X12_isSign (mg Γ) (d + 3) ts l0 (-24)) mw_X12_isSign rfl (Or.inl (lw_all_tbl q859)) rfl (lw_all_tbl qs12) (lw_all_tbl q861) wt_0 rfl dX12_product_23 rfl (rs := fun r => [vI r]) (fun _ => rfl) (fun v2 hv2 => ?_)
      refine s_if_ne (tgt := 39) o dX12_product_26 (by decide) (rZ (hv2 _ rfl)) ?_ ?_
      · exact sb_X12_product_39 hr o k_82 k_116 hk_82 hk_116 l0 l1
      · refine s_aload_n o dX12_product_29 rfl 0 rfl ?_
        refine s_ldcwS (tx := "%") (k := 25) o (by decide +kernel) rfl (by decide) dX12_product_30 ?_
        refine s_cvC (d := d + 8) (As := [vA (mg Γ) (-25)]) (st := []) (c := 12) o (sc_X12_isSign (mg Γ) (d + 3) ts l0 (-25)) mw_X12_isSign rfl (Or.inl (lw_all_tbl q859)) rfl (lw_all_tbl qs12) (lw_all_tbl q861) wt_0 rfl dX12_product_33 rfl (rs := fun r => [vI r]) (fun _ => rfl) (fun v3 hv3 => ?_)
        refine s_if_eq (tgt := 116) o dX12_product_36 (by decide) (rZ (hv3 _ rfl)) ?_ ?_
        · refine r_to [(1, vA (mg Γ) l1)] [1] rfl ?_
          exact s_lo (hk_116 l1)
        · exact sb_X12_product_39 hr o k_82 k_116 hk_82 hk_116 l0 l1
noncomputable def b_X12_product_5 (rc : Rc) {A : Type} (k_82 : Mo CH A) (k_116 : Int → Mo CH A) (l0 : Int) (l1 : Int) : Mo CH A := Loop (fun x => b_X12_product_5b rc k_82 k_116 x.1 x.2) (l0, l1)
theorem sb_X12_product_5 {Γ : Gm} {ts : TS} {d : Nat} {rc : Rc} (hr : GR_rd (mg Γ) ts (d + 8) rc) (o : Ok Γ "LazyForge$Reader" cX12_product 5 (Option.some (Jvm.ClassFile.FieldType.object "LazyForge$Raw")) (d + 9)) {A : Type} {K : A → CH → Prop} (k_82 : Mo CH A) (k_116 : Int → Mo CH A) (hk_82 : Sx Γ (fun h => (h, ts)) K 82 [] [] (k_82)) (hk_116 : ∀ (l1 : Int), Sx Γ (fun h => (h, ts)) K 116 [(1, vA (mg Γ) l1)] [] (k_116 l1)) (l0 : Int) (l1 : Int) : Sx Γ (fun h => (h, ts)) K 5 [(0, vA (mg Γ) l0), (1, vA (mg Γ) l1)] [] (b_X12_product_5 rc k_82 k_116 l0 l1) :=
  s_loop okb_X12_product_5 (lvb_X12_product_5 Γ) (fun x hx => sb_X12_product_5b hr o k_82 k_116 hk_82 hk_116 x.1 x.2) (x := (l0, l1)) trivial
noncomputable def b_X12_product (rc : Rc) (l0 : Int) : Mo CH Int :=
  bnd (isk 112 l0) fun _ =>
  bnd (rc 0 l0 0 0 0 0) fun v1 =>
  b_X12_product_5 rc
    (pr 0)
    (fun v2 => pr v2) l0 v1
theorem sb_X12_product (g : gC) (d : Nat) (ts : TS) (rc : Rc) (hr : GR_rd g ts (d + 8) rc) (l0 : Int) : SF g yX12_product (Cond.code yX12_product cX12_product 5 (Option.some (Jvm.ClassFile.FieldType.object "LazyForge$Raw"))) (Option.some (Jvm.ClassFile.FieldType.object "LazyForge$Raw")) (d + 9) [vA g l0] (fun h => (h, ts)) (b_X12_product rc l0) := by
  refine SF.of (lv := [(0, vA g l0)]) (by decide) (wt_A wt_0) rfl (by simp only [la_A, la_I, la_J, la_0]) (fun Γ hg hnm o => ?_)
  subst hg
  have o : Ok Γ "LazyForge$Reader" cX12_product 5 (Option.some (Jvm.ClassFile.FieldType.object "LazyForge$Raw")) (d + 9) := o
  unfold b_X12_product
  refine s_aload_n o dX12_product_0 rfl 0 rfl ?_
  refine s_cvC (d := d + 8) (As := []) (st := []) (c := 12) o (gr_rd_0 hr l0) mw_X12_application rfl (Or.inl (lw_all_tbl q983)) rfl (lw_all_tbl qs27) (lw_all_tbl q985) wt_0 rfl dX12_product_1 rfl (rs := fun r => [vA (mg Γ) r]) (fun _ => rfl) (fun v1 hv1 => ?_)
  refine r_astore_n o dX12_product_4 rfl rfl ⟨(Nat.ne_of_beq_eq_false rfl), (fun _ => (vA_cat (mg Γ) l0)), trivial⟩ ?_
  refine r_to [(0, vA (mg Γ) l0), (1, vA (mg Γ) v1)] [1, 0] rfl ?_
  refine sb_X12_product_5 hr o _ _ ?_ ?_ l0 v1
  · refine s_null o dX12_product_82 ?_
    exact s_aret o rfl (Or.inl ⟨_, rfl⟩) dX12_product_83 (fun _ hh => hh)
  · intro v2
    refine s_aload_n o dX12_product_116 rfl 0 rfl ?_
    exact s_aret o rfl (Or.inl ⟨_, rfl⟩) dX12_product_117 (fun _ hh => hh)
abbrev okb_X12_sum_5 (x : Int × Int) : Prop := True
abbrev lvb_X12_sum_5 (Γ : Gm) (x : Int × Int) : List (Nat × Value) := [(0, vA (mg Γ) x.1), (1, vA (mg Γ) x.2)]
noncomputable def b_X12_sum_88 (rc : Rc) {A : Type} (k_58 : Mo CH A) (k_92 : Int → Mo CH A) (l0 : Int) (k0 : Int) : Mo CH ((Int × Int) ⊕ A) :=
  pr (.inl (l0, k0))
theorem sb_X12_sum_88 {Γ : Gm} {ts : TS} {d : Nat} {rc : Rc} (hr : GR_rd (mg Γ) ts (d + 8) rc) (o : Ok Γ "LazyForge$Reader" cX12_sum 5 (Option.some (Jvm.ClassFile.FieldType.object "LazyForge$Raw")) (d + 9)) {A : Type} {K : A → CH → Prop}  (k_58 : Mo CH A) (k_92 : Int → Mo CH A) (hk_58 : Sx Γ (fun h => (h, ts)) K 58 [] [] (k_58)) (hk_92 : ∀ (l1 : Int), Sx Γ (fun h => (h, ts)) K 92 [(1, vA (mg Γ) l1)] [] (k_92 l1)) (l0 : Int) (k0 : Int) : Sx Γ (fun h => (h, ts)) (KL Γ (fun h => (h, ts)) okb_X12_sum_5 K 5 (lvb_X12_sum_5 Γ) []) 88 [(0, vA (mg Γ) l0)] [vA (mg Γ) k0] (b_X12_sum_88 rc k_58 k_92 l0 k0) := by
  unfold b_X12_sum_88
  refine r_astore_n o dX12_sum_88 rfl rfl ⟨(Nat.ne_of_beq_eq_false rfl), (fun _ => (vA_cat (mg Γ) l0)), trivial⟩ ?_
  refine s_goto (tgt := 5) o dX12_sum_89 (by decide) ?_
  refine r_to [(0, vA (mg Γ) l0), (1, vA (mg Γ) k0)] [1, 0] rfl ?_
  exact s_back trivial rfl
noncomputable def b_X12_sum_44 (rc : Rc) {A : Type} (k_58 : Mo CH A) (k_92 : Int → Mo CH A) (l0 : Int) (l1 : Int) (k0 : Int) : Mo CH ((Int × Int) ⊕ A) :=
  bnd (gf [112] 5 l0) fun v1 =>
  bnd (isk 112 l0) fun _ =>
  bnd (c_X12_part l0 v1) fun v2 =>
  if ¬ v2 = 0 then
    bnd (isk 112 l0) fun _ =>
    bnd (c_X12_next l0) fun _ =>
    bnd (isk 112 l0) fun _ =>
    bnd (rc 8 l0 0 0 0 0) fun v3 =>
    if ¬ v3 = 0 then
      bnd (isk 112 l0) fun _ =>
      bnd (c_X12_two l0 k0 v1 l1 v3) fun v4 =>
      b_X12_sum_88 rc k_58 k_92 l0 v4
    else
      b_X12_sum_88 rc k_58 k_92 l0 0
  else
    lo k_58
theorem sb_X12_sum_44 {Γ : Gm} {ts : TS} {d : Nat} {rc : Rc} (hr : GR_rd (mg Γ) ts (d + 8) rc) (o : Ok Γ "LazyForge$Reader" cX12_sum 5 (Option.some (Jvm.ClassFile.FieldType.object "LazyForge$Raw")) (d + 9)) {A : Type} {K : A → CH → Prop}  (k_58 : Mo CH A) (k_92 : Int → Mo CH A) (hk_58 : Sx Γ (fun h => (h, ts)) K 58 [] [] (k_58)) (hk_92 : ∀ (l1 : Int), Sx Γ (fun h => (h, ts)) K 92 [(1, vA (mg Γ) l1)] [] (k_92 l1)) (l0 : Int) (l1 : Int) (k0 : Int) (hk0 : rg .boolean k0) : Sx Γ (fun h => (h, ts)) (KL Γ (fun h => (h, ts)) okb_X12_sum_5 K 5 (lvb_X12_sum_5 Γ) []) 44 [(0, vA (mg Γ) l0), (1, vA (mg Γ) l1)] [vI k0] (b_X12_sum_44 rc k_58 k_92 l0 l1 k0) := by
  unfold b_X12_sum_44
  refine r_istore_n o dX12_sum_44 rfl rfl ⟨(Nat.ne_of_beq_eq_false rfl), (fun _ => (vA_cat (mg Γ) l0)), ⟨(Nat.ne_of_beq_eq_false rfl), (fun _ => (vA_cat (mg Γ) l1)), trivial⟩⟩ ?_
  refine s_aload_n o dX12_sum_45 rfl 1 rfl ?_
  refine r_getf vI rfl o cf_X12_place (Or.inl (lw_all_tbl q658)) dX12_sum_46 (fun v1 hv1 => ?_)
  refine r_istore_n o dX12_sum_49 rfl rfl ⟨(Nat.ne_of_beq_eq_false rfl), (fun _ => rfl), ⟨(Nat.ne_of_beq_eq_false rfl), (fun _ => (vA_cat (mg Γ) l0)), ⟨(Nat.ne_of_beq_eq_false rfl), (fun _ => (vA_cat (mg Γ) l1)), trivial⟩⟩⟩ ?_
  refine s_aload_n o dX12_sum_50 rfl 2 rfl ?_
  refine s_iload_n o dX12_sum_51 rfl 0 rfl ?_
  refine s_cvC (d := d + 8) (As := [vI v1]) (st := []) (c := 12) o (sc_X12_part (mg Γ) (d + 7) ts l0 v1 hv1) mw_X12_part rfl (Or.inl (lw_all_tbl q876)) rfl (lw_all_tbl qs16) (lw_all_tbl q878) wt_0 rfl dX12_sum_52 rfl (rs := fun r => [vI r]) (fun _ => rfl) (fun v2 hv2 => ?_)
  refine s_if_ne (tgt := 60) o dX12_sum_55 (by decide) (rZ (hv2 _ rfl)) ?_ ?_
  · refine s_aload_n o dX12_sum_60 rfl 2 rfl ?_
    refine s_cvC (d := d + 8) (As := []) (st := []) (c := 12) o (sc_X12_next (mg Γ) (d + 3) ts l0) mw_X12_next rfl (Or.inl (lw_all_tbl q743)) rfl (lw_all_tbl qs2) (lw_all_tbl q745) wt_0 rfl dX12_sum_61 rfl (rs := fun _ => []) (fun _ => rfl) (fun _ _ => ?_)
    refine s_aload_n o dX12_sum_64 rfl 2 rfl ?_
    refine s_cvC (d := d + 8) (As := []) (st := []) (c := 12) o (gr_rd_8 hr l0) mw_X12_product rfl (Or.inl (lw_all_tbl q979)) rfl (lw_all_tbl qs26) (lw_all_tbl q981) wt_0 rfl dX12_sum_65 rfl (rs := fun r => [vA (mg Γ) r]) (fun _ => rfl) (fun v3 hv3 => ?_)
    refine r_astore o dX12_sum_68 rfl ⟨(Nat.ne_of_beq_eq_false rfl), (fun _ => rfl), ⟨(Nat.ne_of_beq_eq_false rfl), (fun _ => rfl), ⟨(Nat.ne_of_beq_eq_false rfl), (fun _ => (vA_cat (mg Γ) l0)), ⟨(Nat.ne_of_beq_eq_false rfl), (fun _ => (vA_cat (mg Γ) l1)), trivial⟩⟩⟩⟩ ?_
    refine s_aload o dX12_sum_70 0 rfl ?_
    refine s_ifnonnull (tgt := 79) o dX12_sum_72 (by decide) ?_ ?_
    · refine s_aload_n o dX12_sum_79 rfl 3 rfl ?_
      refine s_iload_n o dX12_sum_80 rfl 2 rfl ?_
      refine s_iload_n o dX12_sum_81 rfl 1 rfl ?_
      refine s_aload_n o dX12_sum_82 rfl 4 rfl ?_
      refine s_aload o dX12_sum_83 0 rfl ?_
      refine s_cvC (d := d + 8) (As := [vI k0, vI v1, vA (mg Γ) l1, vA (mg Γ) v3]) (st := []) (c := 12) o (sc_X12_two (mg Γ) (d + 6) ts l0 k0 v1 l1 v3 (rZ hk0) hv1) mw_X12_two rfl (Or.inl (lw_all_tbl q1009)) rfl (lw_all_tbl qs32) (lw_all_tbl q1011) wt_0 rfl dX12_sum_85 rfl (rs := fun r => [vA (mg Γ) r]) (fun _ => rfl) (fun v4 hv4 => ?_)
      refine r_to [(0, vA (mg Γ) l0)] [3] rfl ?_
      exact sb_X12_sum_88 hr o k_58 k_92 hk_58 hk_92 l0 v4
    · refine s_null o dX12_sum_75 ?_
      refine s_goto (tgt := 88) o dX12_sum_76 (by decide) ?_
      refine r_to [(0, vA (mg Γ) l0)] [3] rfl ?_
      exact sb_X12_sum_88 hr o k_58 k_92 hk_58 hk_92 l0 0
  · refine r_to [] [] rfl ?_
    exact s_lo hk_58
noncomputable def b_X12_sum_29 (rc : Rc) {A : Type} (k_58 : Mo CH A) (k_92 : Int → Mo CH A) (l0 : Int) (l1 : Int) : Mo CH ((Int × Int) ⊕ A) :=
  bnd (isk 112 l0) fun _ =>
  bnd (c_X12_isSign l0 (-26)) fun v1 =>
  if v1 = 0 then
    b_X12_sum_44 rc k_58 k_92 l0 l1 1
  else
    b_X12_sum_44 rc k_58 k_92 l0 l1 0
theorem sb_X12_sum_29 {Γ : Gm} {ts : TS} {d : Nat} {rc : Rc} (hr : GR_rd (mg Γ) ts (d + 8) rc) (o : Ok Γ "LazyForge$Reader" cX12_sum 5 (Option.some (Jvm.ClassFile.FieldType.object "LazyForge$Raw")) (d + 9)) {A : Type} {K : A → CH → Prop}  (k_58 : Mo CH A) (k_92 : Int → Mo CH A) (hk_58 : Sx Γ (fun h => (h, ts)) K 58 [] [] (k_58)) (hk_92 : ∀ (l1 : Int), Sx Γ (fun h => (h, ts)) K 92 [(1, vA (mg Γ) l1)] [] (k_92 l1)) (l0 : Int) (l1 : Int) : Sx Γ (fun h => (h, ts)) (KL Γ (fun h => (h, ts)) okb_X12_sum_5 K 5 (lvb_X12_sum_5 Γ) []) 29 [(0, vA (mg Γ) l0), (1, vA (mg Γ) l1)] [] (b_X12_sum_29 rc k_58 k_92 l0 l1) := by
  unfold b_X12_sum_29
  refine s_aload_n o dX12_sum_29 rfl 0 rfl ?_
  refine s_ldcwS (tx := "+") (k := 26) o (by decide +kernel) rfl (by decide) dX12_sum_30 ?_
  refine s_cvC (d := d + 8) (As := [vA (mg Γ) (-26)]) (st := []) (c := 12) o (sc_X12_isSign (mg Γ) (d + 3) ts l0 (-26)) mw_X12_isSign rfl (Or.inl (lw_all_tbl q859)) rfl (lw_all_tbl qs12) (lw_all_tbl q861) wt_0 rfl dX12_sum_33 rfl (rs := fun r => [vI r]) (fun _ => rfl) (fun v1 hv1 => ?_)
  refine s_if_eq (tgt := 43) o dX12_sum_36 (by decide) (rZ (hv1 _ rfl)) ?_ ?_
  · refine s_iconst o dX12_sum_43 ?_
    exact sb_X12_sum_44 hr o k_58 k_92 hk_58 hk_92 l0 l1 1 (Or.inr rfl)
  · refine s_iconst o dX12_sum_39 ?_
    refine s_goto (tgt := 44) o dX12_sum_40 (by decide) ?_
    exact sb_X12_sum_44 hr o k_58 k_92 hk_58 hk_92 l0 l1 0 (Or.inl rfl)
noncomputable def b_X12_sum_5b (rc : Rc) {A : Type} (k_58 : Mo CH A) (k_92 : Int → Mo CH A) (l0 : Int) (l1 : Int) : Mo CH ((Int × Int) ⊕ A) :=
  if l1 = 0 then
    lo (k_92 l1)
  else
    bnd (isk 112 l0) fun _ =>
    bnd (c_X12_isSign l0 (-26)) fun v1 =>
    if ¬ v1 = 0 then
      b_X12_sum_29 rc k_58 k_92 l0 l1
    else
      bnd (isk 112 l0) fun _ =>
      bnd (c_X12_isSign l0 (-27)) fun v2 =>
      if v2 = 0 then
        lo (k_92 l1)
      else
        b_X12_sum_29 rc k_58 k_92 l0 l1
theorem sb_X12_sum_5b {Γ : Gm} {ts : TS} {d : Nat} {rc : Rc} (hr : GR_rd (mg Γ) ts (d + 8) rc) (o : Ok Γ "LazyForge$Reader" cX12_sum 5 (Option.some (Jvm.ClassFile.FieldType.object "LazyForge$Raw")) (d + 9)) {A : Type} {K : A → CH → Prop} (k_58 : Mo CH A) (k_92 : Int → Mo CH A) (hk_58 : Sx Γ (fun h => (h, ts)) K 58 [] [] (k_58)) (hk_92 : ∀ (l1 : Int), Sx Γ (fun h => (h, ts)) K 92 [(1, vA (mg Γ) l1)] [] (k_92 l1)) (l0 : Int) (l1 : Int) : Sx Γ (fun h => (h, ts)) (KL Γ (fun h => (h, ts)) okb_X12_sum_5 K 5 (lvb_X12_sum_5 Γ) []) 5 [(0, vA (mg Γ) l0), (1, vA (mg Γ) l1)] [] (b_X12_sum_5b rc k_58 k_92 l0 l1) := by
  unfold b_X12_sum_5b
  refine s_aload_n o dX12_sum_5 rfl 1 rfl ?_
  refine s_ifnull (tgt := 92) o dX12_sum_6 (by decide) ?_ ?_
  · refine r_to [(1, vA (mg Γ) l1)] [1] rfl ?_
    exact s_lo (hk_92 l1)
  · refine s_aload_n o dX12_sum_9 rfl 0 rfl ?_
    refine s_ldcwS (tx := "+") (k := 26) o (by decide +kernel) rfl (by decide) dX12_sum_10 ?_
    refine s_cvC (d := d + 8) (As := [vA (mg Γ) (-26)]) (st := []) (c := 12) o (sc_X12_isSign (mg Γ) (d + 3) ts l0 (-26)) mw_X12_isSign rfl (Or.inl (lw_all_tbl q859)) rfl (lw_all_tbl qs12) (lw_all_tbl q861) wt_0 rfl dX12_sum_13 rfl (rs := fun r => [vI r]) (fun _ => rfl) (fun v1 hv1 => ?_)
    refine s_if_ne (tgt := 29) o dX12_sum_16 (by decide) (rZ (hv1 _ rfl)) ?_ ?_
    · exact sb_X12_sum_29 hr o k_58 k_92 hk_58 hk_92 l0 l1
    · refine s_aload_n o dX12_sum_19 rfl 0 rfl ?_
      refine s_ldcwS (tx := "-") (k := 27) o (by decide +kernel) rfl (by decide) dX12_sum_20 ?_
      refine s_cvC (d := d + 8) (As := [vA (mg Γ) (-27)]) (st := []) (c := 12) o (sc_X12_isSign (mg Γ) (d + 3) ts l0 (-27)) mw_X12_isSign rfl (Or.inl (lw_all_tbl q859)) rfl (lw_all_tbl qs12) (lw_all_tbl q861) wt_0 rfl dX12_sum_23 rfl (rs := fun r => [vI r]) (fun _ => rfl) (fun v2 hv2 => ?_)
      refine s_if_eq (tgt := 92) o dX12_sum_26 (by decide) (rZ (hv2 _ rfl)) ?_ ?_
      · refine r_to [(1, vA (mg Γ) l1)] [1] rfl ?_
        exact s_lo (hk_92 l1)
      · exact sb_X12_sum_29 hr o k_58 k_92 hk_58 hk_92 l0 l1
noncomputable def b_X12_sum_5 (rc : Rc) {A : Type} (k_58 : Mo CH A) (k_92 : Int → Mo CH A) (l0 : Int) (l1 : Int) : Mo CH A := Loop (fun x => b_X12_sum_5b rc k_58 k_92 x.1 x.2) (l0, l1)
theorem sb_X12_sum_5 {Γ : Gm} {ts : TS} {d : Nat} {rc : Rc} (hr : GR_rd (mg Γ) ts (d + 8) rc) (o : Ok Γ "LazyForge$Reader" cX12_sum 5 (Option.some (Jvm.ClassFile.FieldType.object "LazyForge$Raw")) (d + 9)) {A : Type} {K : A → CH → Prop} (k_58 : Mo CH A) (k_92 : Int → Mo CH A) (hk_58 : Sx Γ (fun h => (h, ts)) K 58 [] [] (k_58)) (hk_92 : ∀ (l1 : Int), Sx Γ (fun h => (h, ts)) K 92 [(1, vA (mg Γ) l1)] [] (k_92 l1)) (l0 : Int) (l1 : Int) : Sx Γ (fun h => (h, ts)) K 5 [(0, vA (mg Γ) l0), (1, vA (mg Γ) l1)] [] (b_X12_sum_5 rc k_58 k_92 l0 l1) :=
  s_loop okb_X12_sum_5 (lvb_X12_sum_5 Γ) (fun x hx => sb_X12_sum_5b hr o k_58 k_92 hk_58 hk_92 x.1 x.2) (x := (l0, l1)) trivial
noncomputable def b_X12_sum (rc : Rc) (l0 : Int) : Mo CH Int :=
  bnd (isk 112 l0) fun _ =>
  bnd (rc 8 l0 0 0 0 0) fun v1 =>
  b_X12_sum_5 rc
    (pr 0)
    (fun v2 => pr v2) l0 v1
theorem sb_X12_sum (g : gC) (d : Nat) (ts : TS) (rc : Rc) (hr : GR_rd g ts (d + 8) rc) (l0 : Int) : SF g yX12_sum (Cond.code yX12_sum cX12_sum 5 (Option.some (Jvm.ClassFile.FieldType.object "LazyForge$Raw"))) (Option.some (Jvm.ClassFile.FieldType.object "LazyForge$Raw")) (d + 9) [vA g l0] (fun h => (h, ts)) (b_X12_sum rc l0) := by
  refine SF.of (lv := [(0, vA g l0)]) (by decide) (wt_A wt_0) rfl (by simp only [la_A, la_I, la_J, la_0]) (fun Γ hg hnm o => ?_)
  subst hg
  have o : Ok Γ "LazyForge$Reader" cX12_sum 5 (Option.some (Jvm.ClassFile.FieldType.object "LazyForge$Raw")) (d + 9) := o
  unfold b_X12_sum
  refine s_aload_n o dX12_sum_0 rfl 0 rfl ?_
  refine s_cvC (d := d + 8) (As := []) (st := []) (c := 12) o (gr_rd_8 hr l0) mw_X12_product rfl (Or.inl (lw_all_tbl q979)) rfl (lw_all_tbl qs26) (lw_all_tbl q981) wt_0 rfl dX12_sum_1 rfl (rs := fun r => [vA (mg Γ) r]) (fun _ => rfl) (fun v1 hv1 => ?_)
  refine r_astore_n o dX12_sum_4 rfl rfl ⟨(Nat.ne_of_beq_eq_false rfl), (fun _ => (vA_cat (mg Γ) l0)), trivial⟩ ?_
  refine r_to [(0, vA (mg Γ) l0), (1, vA (mg Γ) v1)] [1, 0] rfl ?_
  refine sb_X12_sum_5 hr o _ _ ?_ ?_ l0 v1
  · refine s_null o dX12_sum_58 ?_
    exact s_aret o rfl (Or.inl ⟨_, rfl⟩) dX12_sum_59 (fun _ hh => hh)
  · intro v2
    refine s_aload_n o dX12_sum_92 rfl 0 rfl ?_
    exact s_aret o rfl (Or.inl ⟨_, rfl⟩) dX12_sum_93 (fun _ hh => hh)
noncomputable def b_X12_comparison_58 (rc : Rc)  (l0 : Int) (l1 : Int) (k0 : Int) : Mo CH Int :=
  if ¬ k0 = (-1) then
    bnd (gf [112] 5 l0) fun v1 =>
    bnd (isk 112 l0) fun _ =>
    bnd (c_X12_part l0 v1) fun v2 =>
    if ¬ v2 = 0 then
      bnd (isk 112 l0) fun _ =>
      bnd (c_X12_next l0) fun _ =>
      bnd (isk 112 l0) fun _ =>
      bnd (rc 9 l0 0 0 0 0) fun v3 =>
      if ¬ v3 = 0 then
        bnd (isk 112 l0) fun _ =>
        bnd (c_X12_two l0 k0 v1 l1 v3) fun v4 =>
        pr v4
      else
        pr 0
    else
      pr 0
  else
    pr l1
theorem sb_X12_comparison_58 {Γ : Gm} {ts : TS} {d : Nat} {rc : Rc} (hr : GR_rd (mg Γ) ts (d + 8) rc) (o : Ok Γ "LazyForge$Reader" cX12_comparison 5 (Option.some (Jvm.ClassFile.FieldType.object "LazyForge$Raw")) (d + 9))   (l0 : Int) (l1 : Int) (k0 : Int) (hk0 : R32 k0) : Sx Γ (fun h => (h, ts)) (fun a s => mt Γ = (0, a, ((s, ts) : Wd))) 58 [(0, vA (mg Γ) l0), (1, vA (mg Γ) l1)] [vI k0] (b_X12_comparison_58 rc l0 l1 k0) := by
  unfold b_X12_comparison_58
  refine r_istore_n o dX12_comparison_58 rfl rfl ⟨(Nat.ne_of_beq_eq_false rfl), (fun _ => (vA_cat (mg Γ) l0)), ⟨(Nat.ne_of_beq_eq_false rfl), (fun _ => (vA_cat (mg Γ) l1)), trivial⟩⟩ ?_
  refine s_iload_n o dX12_comparison_59 rfl 0 rfl ?_
  refine s_iconst o dX12_comparison_60 ?_
  refine s_icmp_ne (tgt := 66) o dX12_comparison_61 (by decide) hk0 (r32 rfl) ?_ ?_
  · refine s_aload_n o dX12_comparison_66 rfl 1 rfl ?_
    refine r_getf vI rfl o cf_X12_place (Or.inl (lw_all_tbl q658)) dX12_comparison_67 (fun v1 hv1 => ?_)
    refine r_istore_n o dX12_comparison_70 rfl rfl ⟨(Nat.ne_of_beq_eq_false rfl), (fun _ => rfl), ⟨(Nat.ne_of_beq_eq_false rfl), (fun _ => (vA_cat (mg Γ) l0)), ⟨(Nat.ne_of_beq_eq_false rfl), (fun _ => (vA_cat (mg Γ) l1)), trivial⟩⟩⟩ ?_
    refine s_aload_n o dX12_comparison_71 rfl 2 rfl ?_
    refine s_iload_n o dX12_comparison_72 rfl 0 rfl ?_
    refine s_cvC (d := d + 8) (As := [vI v1]) (st := []) (c := 12) o (sc_X12_part (mg Γ) (d + 7) ts l0 v1 hv1) mw_X12_part rfl (Or.inl (lw_all_tbl q876)) rfl (lw_all_tbl qs16) (lw_all_tbl q878) wt_0 rfl dX12_comparison_73 rfl (rs := fun r => [vI r]) (fun _ => rfl) (fun v2 hv2 => ?_)
    refine s_if_ne (tgt := 81) o dX12_comparison_76 (by decide) (rZ (hv2 _ rfl)) ?_ ?_
    · refine s_aload_n o dX12_comparison_81 rfl 2 rfl ?_
      refine s_cvC (d := d + 8) (As := []) (st := []) (c := 12) o (sc_X12_next (mg Γ) (d + 3) ts l0) mw_X12_next rfl (Or.inl (lw_all_tbl q743)) rfl (lw_all_tbl qs2) (lw_all_tbl q745) wt_0 rfl dX12_comparison_82 rfl (rs := fun _ => []) (fun _ => rfl) (fun _ _ => ?_)
      refine s_aload_n o dX12_comparison_85 rfl 2 rfl ?_
      refine s_cvC (d := d + 8) (As := []) (st := []) (c := 12) o (gr_rd_9 hr l0) mw_X12_sum rfl (Or.inl (lw_all_tbl q975)) rfl (lw_all_tbl qs25) (lw_all_tbl q977) wt_0 rfl dX12_comparison_86 rfl (rs := fun r => [vA (mg Γ) r]) (fun _ => rfl) (fun v3 hv3 => ?_)
      refine r_astore o dX12_comparison_89 rfl ⟨(Nat.ne_of_beq_eq_false rfl), (fun _ => rfl), ⟨(Nat.ne_of_beq_eq_false rfl), (fun _ => rfl), ⟨(Nat.ne_of_beq_eq_false rfl), (fun _ => (vA_cat (mg Γ) l0)), ⟨(Nat.ne_of_beq_eq_false rfl), (fun _ => (vA_cat (mg Γ) l1)), trivial⟩⟩⟩⟩ ?_
      refine s_aload o dX12_comparison_91 0 rfl ?_
      refine s_ifnonnull (tgt := 100) o dX12_comparison_93 (by decide) ?_ ?_
      · refine s_aload_n o dX12_comparison_100 rfl 3 rfl ?_
        refine s_iload_n o dX12_comparison_101 rfl 2 rfl ?_
        refine s_iload_n o dX12_comparison_102 rfl 1 rfl ?_
        refine s_aload_n o dX12_comparison_103 rfl 4 rfl ?_
        refine s_aload o dX12_comparison_104 0 rfl ?_
        refine s_cvC (d := d + 8) (As := [vI k0, vI v1, vA (mg Γ) l1, vA (mg Γ) v3]) (st := []) (c := 12) o (sc_X12_two (mg Γ) (d + 6) ts l0 k0 v1 l1 v3 hk0 hv1) mw_X12_two rfl (Or.inl (lw_all_tbl q1009)) rfl (lw_all_tbl qs32) (lw_all_tbl q1011) wt_0 rfl dX12_comparison_106 rfl (rs := fun r => [vA (mg Γ) r]) (fun _ => rfl) (fun v4 hv4 => ?_)
        exact s_aret o rfl (Or.inl ⟨_, rfl⟩) dX12_comparison_109 (fun _ hh => hh)
      · refine s_null o dX12_comparison_96 ?_
        refine s_goto (tgt := 109) o dX12_comparison_97 (by decide) ?_
        exact s_aret o rfl (Or.inl ⟨_, rfl⟩) dX12_comparison_109 (fun _ hh => hh)
    · refine s_null o dX12_comparison_79 ?_
      exact s_aret o rfl (Or.inl ⟨_, rfl⟩) dX12_comparison_80 (fun _ hh => hh)
  · refine s_aload_n o dX12_comparison_64 rfl 2 rfl ?_
    exact s_aret o rfl (Or.inl ⟨_, rfl⟩) dX12_comparison_65 (fun _ hh => hh)
noncomputable def b_X12_comparison (rc : Rc) (l0 : Int) : Mo CH Int :=
  bnd (isk 112 l0) fun _ =>
  bnd (rc 9 l0 0 0 0 0) fun v1 =>
  if ¬ v1 = 0 then
    bnd (isk 112 l0) fun _ =>
    bnd (c_X12_isSign l0 (-28)) fun v2 =>
    if v2 = 0 then
      bnd (isk 112 l0) fun _ =>
      bnd (c_X12_isSign l0 (-29)) fun v3 =>
      if v3 = 0 then
        bnd (isk 112 l0) fun _ =>
        bnd (c_X12_isSign l0 (-30)) fun v4 =>
        if v4 = 0 then
          b_X12_comparison_58 rc l0 v1 (-1)
        else
          b_X12_comparison_58 rc l0 v1 7
      else
        b_X12_comparison_58 rc l0 v1 6
    else
      b_X12_comparison_58 rc l0 v1 5
  else
    b_X12_comparison_58 rc l0 v1 (-1)
theorem sb_X12_comparison (g : gC) (d : Nat) (ts : TS) (rc : Rc) (hr : GR_rd g ts (d + 8) rc) (l0 : Int) : SF g yX12_comparison (Cond.code yX12_comparison cX12_comparison 5 (Option.some (Jvm.ClassFile.FieldType.object "LazyForge$Raw"))) (Option.some (Jvm.ClassFile.FieldType.object "LazyForge$Raw")) (d + 9) [vA g l0] (fun h => (h, ts)) (b_X12_comparison rc l0) := by
  refine SF.of (lv := [(0, vA g l0)]) (by decide) (wt_A wt_0) rfl (by simp only [la_A, la_I, la_J, la_0]) (fun Γ hg hnm o => ?_)
  subst hg
  have o : Ok Γ "LazyForge$Reader" cX12_comparison 5 (Option.some (Jvm.ClassFile.FieldType.object "LazyForge$Raw")) (d + 9) := o
  unfold b_X12_comparison
  refine s_aload_n o dX12_comparison_0 rfl 0 rfl ?_
  refine s_cvC (d := d + 8) (As := []) (st := []) (c := 12) o (gr_rd_9 hr l0) mw_X12_sum rfl (Or.inl (lw_all_tbl q975)) rfl (lw_all_tbl qs25) (lw_all_tbl q977) wt_0 rfl dX12_comparison_1 rfl (rs := fun r => [vA (mg Γ) r]) (fun _ => rfl) (fun v1 hv1 => ?_)
  refine r_astore_n o dX12_comparison_4 rfl rfl ⟨(Nat.ne_of_beq_eq_false rfl), (fun _ => (vA_cat (mg Γ) l0)), trivial⟩ ?_
  refine s_aload_n o dX12_comparison_5 rfl 0 rfl ?_
  refine s_ifnonnull (tgt := 13) o dX12_comparison_6 (by decide) ?_ ?_
  · refine s_aload_n o dX12_comparison_13 rfl 1 rfl ?_
    refine s_ldcwS (tx := "==") (k := 28) o (by decide +kernel) rfl (by decide) dX12_comparison_14 ?_
    refine s_cvC (d := d + 8) (As := [vA (mg Γ) (-28)]) (st := []) (c := 12) o (sc_X12_isSign (mg Γ) (d + 3) ts l0 (-28)) mw_X12_isSign rfl (Or.inl (lw_all_tbl q859)) rfl (lw_all_tbl qs12) (lw_all_tbl q861) wt_0 rfl dX12_comparison_17 rfl (rs := fun r => [vI r]) (fun _ => rfl) (fun v2 hv2 => ?_)
    refine s_if_eq (tgt := 27) o dX12_comparison_20 (by decide) (rZ (hv2 _ rfl)) ?_ ?_
    · refine s_aload_n o dX12_comparison_27 rfl 1 rfl ?_
      refine s_ldcwS (tx := "<") (k := 29) o (by decide +kernel) rfl (by decide) dX12_comparison_28 ?_
      refine s_cvC (d := d + 8) (As := [vA (mg Γ) (-29)]) (st := []) (c := 12) o (sc_X12_isSign (mg Γ) (d + 3) ts l0 (-29)) mw_X12_isSign rfl (Or.inl (lw_all_tbl q859)) rfl (lw_all_tbl qs12) (lw_all_tbl q861) wt_0 rfl dX12_comparison_31 rfl (rs := fun r => [vI r]) (fun _ => rfl) (fun v3 hv3 => ?_)
      refine s_if_eq (tgt := 42) o dX12_comparison_34 (by decide) (rZ (hv3 _ rfl)) ?_ ?_
      · refine s_aload_n o dX12_comparison_42 rfl 1 rfl ?_
        refine s_ldcwS (tx := "<=") (k := 30) o (by decide +kernel) rfl (by decide) dX12_comparison_43 ?_
        refine s_cvC (d := d + 8) (As := [vA (mg Γ) (-30)]) (st := []) (c := 12) o (sc_X12_isSign (mg Γ) (d + 3) ts l0 (-30)) mw_X12_isSign rfl (Or.inl (lw_all_tbl q859)) rfl (lw_all_tbl qs12) (lw_all_tbl q861) wt_0 rfl dX12_comparison_46 rfl (rs := fun r => [vI r]) (fun _ => rfl) (fun v4 hv4 => ?_)
        refine s_if_eq (tgt := 57) o dX12_comparison_49 (by decide) (rZ (hv4 _ rfl)) ?_ ?_
        · refine s_iconst o dX12_comparison_57 ?_
          refine r_to [(0, vA (mg Γ) l0), (1, vA (mg Γ) v1)] [1, 0] rfl ?_
          exact sb_X12_comparison_58 hr o l0 v1 (-1) (r32 rfl)
        · refine s_bipush o dX12_comparison_52 rfl ?_
          refine s_goto (tgt := 58) o dX12_comparison_54 (by decide) ?_
          refine r_to [(0, vA (mg Γ) l0), (1, vA (mg Γ) v1)] [1, 0] rfl ?_
          exact sb_X12_comparison_58 hr o l0 v1 7 (r32 rfl)
      · refine s_bipush o dX12_comparison_37 rfl ?_
        refine s_goto (tgt := 58) o dX12_comparison_39 (by decide) ?_
        refine r_to [(0, vA (mg Γ) l0), (1, vA (mg Γ) v1)] [1, 0] rfl ?_
        exact sb_X12_comparison_58 hr o l0 v1 6 (r32 rfl)
    · refine s_iconst o dX12_comparison_23 ?_
      refine s_goto (tgt := 58) o dX12_comparison_24 (by decide) ?_
      refine r_to [(0, vA (mg Γ) l0), (1, vA (mg Γ) v1)] [1, 0] rfl ?_
      exact sb_X12_comparison_58 hr o l0 v1 5 (r32 rfl)
  · refine s_iconst o dX12_comparison_9 ?_
    refine s_goto (tgt := 58) o dX12_comparison_10 (by decide) ?_
    refine r_to [(0, vA (mg Γ) l0), (1, vA (mg Γ) v1)] [1, 0] rfl ?_
    exact sb_X12_comparison_58 hr o l0 v1 (-1) (r32 rfl)
abbrev okb_X12_choice_107 (x : Int × Int × Int × Int × Int) : Prop := 0 < x.2.1 ∧ 0 < x.2.2.1 ∧ R32 x.2.2.2.1 ∧ rg .boolean x.2.2.2.2
abbrev lvb_X12_choice_107 (Γ : Gm) (x : Int × Int × Int × Int × Int) : List (Nat × Value) := [(0, vA (mg Γ) x.1), (1, vA (mg Γ) x.2.1), (3, vA (mg Γ) x.2.2.1), (4, vI x.2.2.2.1), (5, vI x.2.2.2.2)]
noncomputable def b_X12_choice_107b (rc : Rc) {A : Type} (k_119 : Int → Mo CH A) (k_203 : Mo CH A) (k_224 : Mo CH A) (k_249 : Int → Int → Int → Int → Mo CH A) (l0 : Int) (l1 : Int) (l3 : Int) (l4 : Int) (l5 : Int) : Mo CH ((Int × Int × Int × Int × Int) ⊕ A) :=
  if l5 = 0 then
    lo (k_249 l0 l1 l3 l4)
  else
    if ¬ l4 = 8 then
      bnd (isk 112 l0) fun _ =>
      bnd (c_X12_pattern l0 l1 l4) fun v1 =>
      if v1 = 0 then
        lo k_203
      else
        bnd (isk 112 l0) fun _ =>
        bnd (c_X12_needSign l0 (-16)) fun v2 =>
        if ¬ v2 = 0 then
          bnd (isk 112 l0) fun _ =>
          bnd (rc 4 l0 0 0 0 0) fun v3 =>
          bnd (asq 6 l3 (w32 (l4 + 1)) v3) fun _ =>
          bnd (ald 6 l3 (w32 (l4 + 1))) fun v4 =>
          if ¬ v4 = 0 then
            bnd (isk 112 l0) fun _ =>
            bnd (c_X12_isSign l0 (-7)) fun v5 =>
            if v5 = 0 then
              pr (.inl (l0, l1, l3, (w32 (l4 + 1)), v5))
            else
              bnd (isk 112 l0) fun _ =>
              bnd (c_X12_next l0) fun _ =>
              pr (.inl (l0, l1, l3, (w32 (l4 + 1)), v5))
          else
            lo k_224
        else
          lo k_203
    else
      lo (k_119 l0)
theorem sb_X12_choice_107b {Γ : Gm} {ts : TS} {d : Nat} {rc : Rc} (hr : GR_rd (mg Γ) ts (d + 8) rc) (o : Ok Γ "LazyForge$Reader" cX12_choice 6 (Option.some (Jvm.ClassFile.FieldType.object "LazyForge$Raw")) (d + 9)) {A : Type} {K : A → CH → Prop} (k_119 : Int → Mo CH A) (k_203 : Mo CH A) (k_224 : Mo CH A) (k_249 : Int → Int → Int → Int → Mo CH A) (hk_119 : ∀ (l0 : Int), Sx Γ (fun h => (h, ts)) K 119 [(0, vA (mg Γ) l0)] [] (k_119 l0)) (hk_203 : Sx Γ (fun h => (h, ts)) K 203 [] [] (k_203)) (hk_224 : Sx Γ (fun h => (h, ts)) K 224 [] [] (k_224)) (hk_249 : ∀ (l0 : Int) (l1 : Int) (l3 : Int) (l4 : Int), 0 < l1 → 0 < l3 → R32 l4 → Sx Γ (fun h => (h, ts)) K 249 [(0, vA (mg Γ) l0), (1, vA (mg Γ) l1), (3, vA (mg Γ) l3), (4, vI l4)] [] (k_249 l0 l1 l3 l4)) (l0 : Int) (l1 : Int) (l3 : Int) (l4 : Int) (l5 : Int) (hl1 : 0 < l1) (hl3 : 0 < l3) (hl4 : R32 l4) (hl5 : rg .boolean l5) : Sx Γ (fun h => (h, ts)) (KL Γ (fun h => (h, ts)) okb_X12_choice_107 K 107 (lvb_X12_choice_107 Γ) []) 107 [(0, vA (mg Γ) l0), (1, vA (mg Γ) l1), (3, vA (mg Γ) l3), (4, vI l4), (5, vI l5)] [] (b_X12_choice_107b rc k_119 k_203 k_224 k_249 l0 l1 l3 l4 l5) := by
  unfold b_X12_choice_107b
  refine s_iload o dX12_choice_107 4 rfl ?_
  refine s_if_eq (tgt := 249) o dX12_choice_109 (by decide) (rZ hl5) ?_ ?_
  · refine r_to [(0, vA (mg Γ) l0), (1, vA (mg Γ) l1), (3, vA (mg Γ) l3), (4, vI l4)] [0, 1, 2, 3] rfl ?_
    exact s_lo (hk_249 l0 l1 l3 l4 hl1 hl3 hl4)
  · refine s_iload o dX12_choice_112 3 rfl ?_
    refine s_bipush o dX12_choice_114 rfl ?_
    refine s_icmp_ne (tgt := 183) o dX12_choice_116 (by decide) hl4 (r32 rfl) ?_ ?_
    · refine s_aload_n o dX12_choice_183 rfl 0 rfl ?_
      refine s_aload_n o dX12_choice_184 rfl 1 rfl ?_
      refine s_iload o dX12_choice_185 3 rfl ?_
      refine s_cvC (d := d + 8) (As := [vA (mg Γ) l1, vI l4]) (st := []) (c := 12) o (sc_X12_pattern (mg Γ) (d + 2) ts l0 l1 l4 hl4) mw_X12_pattern rfl (Or.inl (lw_all_tbl q959)) rfl (lw_all_tbl qs22) (lw_all_tbl q961) wt_0 rfl dX12_choice_187 rfl (rs := fun r => [vI r]) (fun _ => rfl) (fun v1 hv1 => ?_)
      refine s_if_eq (tgt := 203) o dX12_choice_190 (by decide) (rZ (hv1 _ rfl)) ?_ ?_
      · refine r_to [] [] rfl ?_
        exact s_lo hk_203
      · refine s_aload_n o dX12_choice_193 rfl 0 rfl ?_
        refine s_ldcwS (tx := "->") (k := 16) o (by decide +kernel) rfl (by decide) dX12_choice_194 ?_
        refine s_cvC (d := d + 8) (As := [vA (mg Γ) (-16)]) (st := []) (c := 12) o (sc_X12_needSign (mg Γ) (d + 1) ts l0 (-16)) mw_X12_needSign rfl (Or.inl (lw_all_tbl q864)) rfl (lw_all_tbl qs13) (lw_all_tbl q866) wt_0 rfl dX12_choice_197 rfl (rs := fun r => [vI r]) (fun _ => rfl) (fun v2 hv2 => ?_)
        refine s_if_ne (tgt := 205) o dX12_choice_200 (by decide) (rZ (hv2 _ rfl)) ?_ ?_
        · refine s_aload_n o dX12_choice_205 rfl 2 rfl ?_
          refine s_iload o dX12_choice_206 3 rfl ?_
          refine s_iconst o dX12_choice_208 ?_
          refine s_iadd o dX12_choice_209 ?_
          refine s_aload_n o dX12_choice_210 rfl 0 rfl ?_
          refine s_cvC (d := d + 8) (As := []) (st := [vI (w32 (l4 + 1)), vA (mg Γ) l3]) (c := 12) o (gr_rd_4 hr l0) mw_X12_e rfl (Or.inl (lw_all_tbl q882)) rfl (lw_all_tbl qs17) (lw_all_tbl q884) (wt_I (wt_A wt_0)) rfl dX12_choice_211 rfl (rs := fun r => [vA (mg Γ) r, vI (w32 (l4 + 1)), vA (mg Γ) l3]) (fun _ => rfl) (fun v3 hv3 => ?_)
          refine s_aast (kd := 6) o (by decide) (as_6 o) (Or.inl ⟨_, rfl⟩) (w32_R _) dX12_choice_214 ?_
          refine s_aload_n o dX12_choice_215 rfl 2 rfl ?_
          refine s_iload o dX12_choice_216 3 rfl ?_
          refine s_iconst o dX12_choice_218 ?_
          refine s_iadd o dX12_choice_219 ?_
          refine r_aald (kd := 6) o (by decide) rfl (w32_R _) dX12_choice_220 (fun v4 => ?_)
          refine s_ifnonnull (tgt := 226) o dX12_choice_221 (by decide) ?_ ?_
          · refine r_iinc (j := 3) o dX12_choice_226 rfl rfl [(0, vA (mg Γ) l0), (1, vA (mg Γ) l1), (3, vA (mg Γ) l3), (5, vI l5)] [0, 1, 2, 4] rfl ⟨(Nat.ne_of_beq_eq_false rfl), (fun _ => (vA_cat (mg Γ) l0)), ⟨(Nat.ne_of_beq_eq_false rfl), (fun _ => (vA_cat (mg Γ) l1)), ⟨(Nat.ne_of_beq_eq_false rfl), (fun _ => (vA_cat (mg Γ) l3)), ⟨(Nat.ne_of_beq_eq_false rfl), (fun _ => rfl), trivial⟩⟩⟩⟩ ?_
            refine s_aload_n o dX12_choice_229 rfl 1 rfl ?_
            refine s_ldcS (tx := ";") (k := 7) o (by decide +kernel) rfl (by decide) dX12_choice_230 ?_
            refine s_cvC (d := d + 8) (As := [vA (mg Γ) (-7)]) (st := []) (c := 12) o (sc_X12_isSign (mg Γ) (d + 3) ts l0 (-7)) mw_X12_isSign rfl (Or.inl (lw_all_tbl q859)) rfl (lw_all_tbl qs12) (lw_all_tbl q861) wt_0 rfl dX12_choice_232 rfl (rs := fun r => [vI r]) (fun _ => rfl) (fun v5 hv5 => ?_)
            refine r_istoreP o dX12_choice_235 rfl [(4, vI (w32 (l4 + 1))), (0, vA (mg Γ) l0), (1, vA (mg Γ) l1), (3, vA (mg Γ) l3)] [0, 1, 2, 3] rfl ⟨(Nat.ne_of_beq_eq_false rfl), (fun _ => rfl), ⟨(Nat.ne_of_beq_eq_false rfl), (fun _ => (vA_cat (mg Γ) l0)), ⟨(Nat.ne_of_beq_eq_false rfl), (fun _ => (vA_cat (mg Γ) l1)), ⟨(Nat.ne_of_beq_eq_false rfl), (fun _ => (vA_cat (mg Γ) l3)), trivial⟩⟩⟩⟩ ?_
            refine s_iload o dX12_choice_237 0 rfl ?_
            refine s_if_eq (tgt := 107) o dX12_choice_239 (by decide) (rZ (hv5 _ rfl)) ?_ ?_
            · refine r_to [(0, vA (mg Γ) l0), (1, vA (mg Γ) l1), (3, vA (mg Γ) l3), (4, vI (w32 (l4 + 1))), (5, vI v5)] [2, 3, 4, 1, 0] rfl ?_
              exact s_back (⟨hl1, hl3, (w32_R _), (hv5 _ rfl)⟩) rfl
            · refine s_aload_n o dX12_choice_242 rfl 2 rfl ?_
              refine s_cvC (d := d + 8) (As := []) (st := []) (c := 12) o (sc_X12_next (mg Γ) (d + 3) ts l0) mw_X12_next rfl (Or.inl (lw_all_tbl q743)) rfl (lw_all_tbl qs2) (lw_all_tbl q745) wt_0 rfl dX12_choice_243 rfl (rs := fun _ => []) (fun _ => rfl) (fun _ _ => ?_)
              refine s_goto (tgt := 107) o dX12_choice_246 (by decide) ?_
              refine r_to [(0, vA (mg Γ) l0), (1, vA (mg Γ) l1), (3, vA (mg Γ) l3), (4, vI (w32 (l4 + 1))), (5, vI v5)] [2, 3, 4, 1, 0] rfl ?_
              exact s_back (⟨hl1, hl3, (w32_R _), (hv5 _ rfl)⟩) rfl
          · refine r_to [] [] rfl ?_
            exact s_lo hk_224
        · refine r_to [] [] rfl ?_
          exact s_lo hk_203
    · refine r_to [(0, vA (mg Γ) l0)] [0] rfl ?_
      exact s_lo (hk_119 l0)
noncomputable def b_X12_choice_107 (rc : Rc) {A : Type} (k_119 : Int → Mo CH A) (k_203 : Mo CH A) (k_224 : Mo CH A) (k_249 : Int → Int → Int → Int → Mo CH A) (l0 : Int) (l1 : Int) (l3 : Int) (l4 : Int) (l5 : Int) : Mo CH A := Loop (fun x => b_X12_choice_107b rc k_119 k_203 k_224 k_249 x.1 x.2.1 x.2.2.1 x.2.2.2.1 x.2.2.2.2) (l0, l1, l3, l4, l5)
theorem sb_X12_choice_107 {Γ : Gm} {ts : TS} {d : Nat} {rc : Rc} (hr : GR_rd (mg Γ) ts (d + 8) rc) (o : Ok Γ "LazyForge$Reader" cX12_choice 6 (Option.some (Jvm.ClassFile.FieldType.object "LazyForge$Raw")) (d + 9)) {A : Type} {K : A → CH → Prop} (k_119 : Int → Mo CH A) (k_203 : Mo CH A) (k_224 : Mo CH A) (k_249 : Int → Int → Int → Int → Mo CH A) (hk_119 : ∀ (l0 : Int), Sx Γ (fun h => (h, ts)) K 119 [(0, vA (mg Γ) l0)] [] (k_119 l0)) (hk_203 : Sx Γ (fun h => (h, ts)) K 203 [] [] (k_203)) (hk_224 : Sx Γ (fun h => (h, ts)) K 224 [] [] (k_224)) (hk_249 : ∀ (l0 : Int) (l1 : Int) (l3 : Int) (l4 : Int), 0 < l1 → 0 < l3 → R32 l4 → Sx Γ (fun h => (h, ts)) K 249 [(0, vA (mg Γ) l0), (1, vA (mg Γ) l1), (3, vA (mg Γ) l3), (4, vI l4)] [] (k_249 l0 l1 l3 l4)) (l0 : Int) (l1 : Int) (l3 : Int) (l4 : Int) (l5 : Int) (hl1 : 0 < l1) (hl3 : 0 < l3) (hl4 : R32 l4) (hl5 : rg .boolean l5) : Sx Γ (fun h => (h, ts)) K 107 [(0, vA (mg Γ) l0), (1, vA (mg Γ) l1), (3, vA (mg Γ) l3), (4, vI l4), (5, vI l5)] [] (b_X12_choice_107 rc k_119 k_203 k_224 k_249 l0 l1 l3 l4 l5) :=
  s_loop okb_X12_choice_107 (lvb_X12_choice_107 Γ) (fun x hx => sb_X12_choice_107b hr o k_119 k_203 k_224 k_249 hk_119 hk_203 hk_224 hk_249 x.1 x.2.1 x.2.2.1 x.2.2.2.1 x.2.2.2.2 hx.1 hx.2.1 hx.2.2.1 hx.2.2.2) (x := (l0, l1, l3, l4, l5)) ⟨hl1, hl3, hl4, hl5⟩
noncomputable def b_X12_choice_175 (rc : Rc)  (l0 : Int) (k0 : Int) (k1 : Int) : Mo CH Int :=
  bnd (gf [112] 5 l0) fun v1 =>
  bnd (isk 112 k1) fun _ =>
  bnd (c_X12_fail k1 k0 v1) fun v2 =>
  pr v2
theorem sb_X12_choice_175 {Γ : Gm} {ts : TS} {d : Nat} {rc : Rc} (hr : GR_rd (mg Γ) ts (d + 8) rc) (o : Ok Γ "LazyForge$Reader" cX12_choice 6 (Option.some (Jvm.ClassFile.FieldType.object "LazyForge$Raw")) (d + 9))   (l0 : Int) (k0 : Int) (k1 : Int) (hk0 : R32 k0) : Sx Γ (fun h => (h, ts)) (fun a s => mt Γ = (0, a, ((s, ts) : Wd))) 175 [(0, vA (mg Γ) l0)] [vI k0, vA (mg Γ) k1] (b_X12_choice_175 rc l0 k0 k1) := by
  unfold b_X12_choice_175
  refine s_aload_n o dX12_choice_175 rfl 0 rfl ?_
  refine r_getf vI rfl o cf_X12_place (Or.inl (lw_all_tbl q658)) dX12_choice_176 (fun v1 hv1 => ?_)
  refine s_cvC (d := d + 8) (As := [vI k0, vI v1]) (st := []) (c := 12) o (sc_X12_fail (mg Γ) (d + 8) ts k1 k0 v1 hk0 hv1) mw_X12_fail rfl (Or.inl (lw_all_tbl q846)) rfl (lw_all_tbl qs9) (lw_all_tbl q848) wt_0 rfl dX12_choice_179 rfl (rs := fun r => [vA (mg Γ) r]) (fun _ => rfl) (fun v2 hv2 => ?_)
  exact s_aret o rfl (Or.inl ⟨_, rfl⟩) dX12_choice_182 (fun _ hh => hh)
noncomputable def b_X12_choice_170 (rc : Rc)  (l0 : Int) (k0 : Int) : Mo CH Int :=
  b_X12_choice_175 rc l0 4 k0
theorem sb_X12_choice_170 {Γ : Gm} {ts : TS} {d : Nat} {rc : Rc} (hr : GR_rd (mg Γ) ts (d + 8) rc) (o : Ok Γ "LazyForge$Reader" cX12_choice 6 (Option.some (Jvm.ClassFile.FieldType.object "LazyForge$Raw")) (d + 9))   (l0 : Int) (k0 : Int) : Sx Γ (fun h => (h, ts)) (fun a s => mt Γ = (0, a, ((s, ts) : Wd))) 170 [(0, vA (mg Γ) l0)] [vA (mg Γ) k0] (b_X12_choice_170 rc l0 k0) := by
  unfold b_X12_choice_170
  refine s_iconst o dX12_choice_170 ?_
  refine s_goto (tgt := 175) o dX12_choice_171 (by decide) ?_
  exact sb_X12_choice_175 hr o l0 4 k0 (r32 rfl)
noncomputable def b_X12_choice_144 (rc : Rc)  (l0 : Int) (k0 : Int) : Mo CH Int :=
  bnd (gf [112] 4 l0) fun v1 =>
  if v1 = 2 then
    b_X12_choice_170 rc l0 k0
  else
    bnd (gf [112] 4 l0) fun v2 =>
    if v2 = 4 then
      b_X12_choice_170 rc l0 k0
    else
      bnd (isk 112 l0) fun _ =>
      bnd (c_X12_isSign l0 (-15)) fun v3 =>
      if v3 = 0 then
        b_X12_choice_175 rc l0 1 k0
      else
        b_X12_choice_170 rc l0 k0
theorem sb_X12_choice_144 {Γ : Gm} {ts : TS} {d : Nat} {rc : Rc} (hr : GR_rd (mg Γ) ts (d + 8) rc) (o : Ok Γ "LazyForge$Reader" cX12_choice 6 (Option.some (Jvm.ClassFile.FieldType.object "LazyForge$Raw")) (d + 9))   (l0 : Int) (k0 : Int) : Sx Γ (fun h => (h, ts)) (fun a s => mt Γ = (0, a, ((s, ts) : Wd))) 144 [(0, vA (mg Γ) l0)] [vA (mg Γ) k0] (b_X12_choice_144 rc l0 k0) := by
  unfold b_X12_choice_144
  refine s_aload_n o dX12_choice_144 rfl 0 rfl ?_
  refine r_getf vI rfl o cf_X12_sort (Or.inl (lw_all_tbl q657)) dX12_choice_145 (fun v1 hv1 => ?_)
  refine s_iconst o dX12_choice_148 ?_
  refine s_icmp_eq (tgt := 170) o dX12_choice_149 (by decide) hv1 (r32 rfl) ?_ ?_
  · exact sb_X12_choice_170 hr o l0 k0
  · refine s_aload_n o dX12_choice_152 rfl 0 rfl ?_
    refine r_getf vI rfl o cf_X12_sort (Or.inl (lw_all_tbl q657)) dX12_choice_153 (fun v2 hv2 => ?_)
    refine s_iconst o dX12_choice_156 ?_
    refine s_icmp_eq (tgt := 170) o dX12_choice_157 (by decide) hv2 (r32 rfl) ?_ ?_
    · exact sb_X12_choice_170 hr o l0 k0
    · refine s_aload_n o dX12_choice_160 rfl 0 rfl ?_
      refine s_ldcwS (tx := "_") (k := 15) o (by decide +kernel) rfl (by decide) dX12_choice_161 ?_
      refine s_cvC (d := d + 8) (As := [vA (mg Γ) (-15)]) (st := [vA (mg Γ) k0]) (c := 12) o (sc_X12_isSign (mg Γ) (d + 3) ts l0 (-15)) mw_X12_isSign rfl (Or.inl (lw_all_tbl q859)) rfl (lw_all_tbl qs12) (lw_all_tbl q861) (wt_A wt_0) rfl dX12_choice_164 rfl (rs := fun r => [vI r, vA (mg Γ) k0]) (fun _ => rfl) (fun v3 hv3 => ?_)
      refine s_if_eq (tgt := 174) o dX12_choice_167 (by decide) (rZ (hv3 _ rfl)) ?_ ?_
      · refine s_iconst o dX12_choice_174 ?_
        exact sb_X12_choice_175 hr o l0 1 k0 (r32 rfl)
      · exact sb_X12_choice_170 hr o l0 k0
noncomputable def b_X12_choice (rc : Rc) (l0 : Int) : Mo CH Int :=
  bnd (newo 13) fun v1 =>
  bnd (gf [112] 5 l0) fun v2 =>
  bnd (c_X13_init v1 2 v2) fun _ =>
  bnd (isk 112 l0) fun _ =>
  bnd (c_X12_opens l0) fun v3 =>
  if v3 = 0 then
    pr 0
  else
    bnd (gf [112] 5 l0) fun v4 =>
    bnd (isk 112 l0) fun _ =>
    bnd (c_X12_part l0 v4) fun v5 =>
    if ¬ v5 = 0 then
      bnd (isk 112 l0) fun _ =>
      bnd (c_X12_next l0) fun _ =>
      bnd (isk 112 l0) fun _ =>
      bnd (rc 4 l0 0 0 0 0) fun v6 =>
      if v6 = 0 then
        pr 0
      else
        bnd (isk 112 l0) fun _ =>
        bnd (c_X12_needKey l0 (-13)) fun v7 =>
        if v7 = 0 then
          pr 0
        else
          bnd (isk 112 l0) fun _ =>
          bnd (c_X12_needSign l0 (-14)) fun v8 =>
          if ¬ v8 = 0 then
            bnd (newa 6 9) fun v9 =>
            bnd (newa 0 8) fun v10 =>
            bnd (pf [113] 7 v1 v10) fun _ =>
            bnd (newa 0 8) fun v11 =>
            bnd (pf [113] 8 v1 v11) fun _ =>
            bnd (newa 8 8) fun v12 =>
            bnd (pf [113] 9 v1 v12) fun _ =>
            bnd (asq 6 v9 0 v6) fun _ =>
            b_X12_choice_107 rc
              (fun v13 => bnd (gf [112] 4 v13) fun v14 =>
            if ¬ v14 = 2 then
              b_X12_choice_144 rc v13 v13
            else
              bnd (gf [112] 8 v13) fun v15 =>
              bnd (isk 112 v13) fun _ =>
              bnd (c_X12_constructor v13 v15) fun v16 =>
              if ¬ v16 = (-1) then
                b_X12_choice_144 rc v13 v13
              else
                b_X12_choice_175 rc v13 3 v13)
              (pr 0)
              (pr 0)
              (fun v17 v18 v19 v20 => bnd (isk 112 v17) fun _ =>
            bnd (c_X12_needSign v17 (-17)) fun v21 =>
            if ¬ v21 = 0 then
              bnd (gf [112] 11 v17) fun v22 =>
              bnd (pf [112] 11 v17 (w32 (v22 - 1))) fun _ =>
              bnd (pf [113] 3 v18 v20) fun _ =>
              bnd (newa 6 (w32 (v20 + 1))) fun v23 =>
              bnd (pf [113] 6 v18 v23) fun _ =>
              bnd (gf [113] 6 v18) fun v24 =>
              bnd (acp 6 v19 0 v24 0 (w32 (v20 + 1))) fun _ =>
              pr v18
            else
              pr 0) l0 v1 v9 0 1
          else
            pr 0
    else
      pr 0
theorem sb_X12_choice (g : gC) (d : Nat) (ts : TS) (rc : Rc) (hr : GR_rd g ts (d + 8) rc) (l0 : Int) : SF g yX12_choice (Cond.code yX12_choice cX12_choice 6 (Option.some (Jvm.ClassFile.FieldType.object "LazyForge$Raw"))) (Option.some (Jvm.ClassFile.FieldType.object "LazyForge$Raw")) (d + 9) [vA g l0] (fun h => (h, ts)) (b_X12_choice rc l0) := by
  refine SF.of (lv := [(0, vA g l0)]) (by decide) (wt_A wt_0) rfl (by simp only [la_A, la_I, la_J, la_0]) (fun Γ hg hnm o => ?_)
  subst hg
  have o : Ok Γ "LazyForge$Reader" cX12_choice 6 (Option.some (Jvm.ClassFile.FieldType.object "LazyForge$Raw")) (d + 9) := o
  unfold b_X12_choice
  refine s_new o mk_13 (lw_all_tbl q594) dX12_choice_0 (fun v1 hv1 => ?_)
  refine s_dup o dX12_choice_3 (vA_cat (mg Γ) v1) ?_
  refine s_iconst o dX12_choice_4 ?_
  refine s_aload_n o dX12_choice_5 rfl 0 rfl ?_
  refine r_getf vI rfl o cf_X12_place (Or.inl (lw_all_tbl q658)) dX12_choice_6 (fun v2 hv2 => ?_)
  refine s_ci (d := d + 8) (As := [vI 2, vI v2]) (st := [vA (mg Γ) v1]) o (sc_X13_init (mg Γ) (d + 7) ts v1 2 v2 hv1 (r32 rfl) hv2) mw_X13_init rfl (Or.inl (lw_all_tbl q892)) (lw_all_tbl q893) rfl hv1 (wt_A wt_0) rfl dX12_choice_9 rfl (fun _ => ?_)
  refine r_astore_n o dX12_choice_12 rfl rfl ⟨(Nat.ne_of_beq_eq_false rfl), (fun _ => (vA_cat (mg Γ) l0)), trivial⟩ ?_
  refine s_aload_n o dX12_choice_13 rfl 1 rfl ?_
  refine s_cvC (d := d + 8) (As := []) (st := []) (c := 12) o (sc_X12_opens (mg Γ) (d + 7) ts l0) mw_X12_opens rfl (Or.inl (lw_all_tbl q938)) rfl (lw_all_tbl qs19) (lw_all_tbl q940) wt_0 rfl dX12_choice_14 rfl (rs := fun r => [vI r]) (fun _ => rfl) (fun v3 hv3 => ?_)
  refine s_if_eq (tgt := 31) o dX12_choice_17 (by decide) (rZ (hv3 _ rfl)) ?_ ?_
  · refine s_null o dX12_choice_31 ?_
    exact s_aret o rfl (Or.inl ⟨_, rfl⟩) dX12_choice_32 (fun _ hh => hh)
  · refine s_aload_n o dX12_choice_20 rfl 1 rfl ?_
    refine s_aload_n o dX12_choice_21 rfl 1 rfl ?_
    refine r_getf vI rfl o cf_X12_place (Or.inl (lw_all_tbl q658)) dX12_choice_22 (fun v4 hv4 => ?_)
    refine s_cvC (d := d + 8) (As := [vI v4]) (st := []) (c := 12) o (sc_X12_part (mg Γ) (d + 7) ts l0 v4 hv4) mw_X12_part rfl (Or.inl (lw_all_tbl q876)) rfl (lw_all_tbl qs16) (lw_all_tbl q878) wt_0 rfl dX12_choice_25 rfl (rs := fun r => [vI r]) (fun _ => rfl) (fun v5 hv5 => ?_)
    refine s_if_ne (tgt := 33) o dX12_choice_28 (by decide) (rZ (hv5 _ rfl)) ?_ ?_
    · refine s_aload_n o dX12_choice_33 rfl 1 rfl ?_
      refine s_cvC (d := d + 8) (As := []) (st := []) (c := 12) o (sc_X12_next (mg Γ) (d + 3) ts l0) mw_X12_next rfl (Or.inl (lw_all_tbl q743)) rfl (lw_all_tbl qs2) (lw_all_tbl q745) wt_0 rfl dX12_choice_34 rfl (rs := fun _ => []) (fun _ => rfl) (fun _ _ => ?_)
      refine s_aload_n o dX12_choice_37 rfl 1 rfl ?_
      refine s_cvC (d := d + 8) (As := []) (st := []) (c := 12) o (gr_rd_4 hr l0) mw_X12_e rfl (Or.inl (lw_all_tbl q882)) rfl (lw_all_tbl qs17) (lw_all_tbl q884) wt_0 rfl dX12_choice_38 rfl (rs := fun r => [vA (mg Γ) r]) (fun _ => rfl) (fun v6 hv6 => ?_)
      refine r_astore_n o dX12_choice_41 rfl rfl ⟨(Nat.ne_of_beq_eq_false rfl), (fun _ => (vA_cat (mg Γ) v1)), ⟨(Nat.ne_of_beq_eq_false rfl), (fun _ => (vA_cat (mg Γ) l0)), trivial⟩⟩ ?_
      refine s_aload_n o dX12_choice_42 rfl 0 rfl ?_
      refine s_ifnull (tgt := 64) o dX12_choice_43 (by decide) ?_ ?_
      · refine s_null o dX12_choice_64 ?_
        exact s_aret o rfl (Or.inl ⟨_, rfl⟩) dX12_choice_65 (fun _ hh => hh)
      · refine s_aload_n o dX12_choice_46 rfl 2 rfl ?_
        refine s_ldcS (tx := "of") (k := 13) o (by decide +kernel) rfl (by decide) dX12_choice_47 ?_
        refine s_cvC (d := d + 8) (As := [vA (mg Γ) (-13)]) (st := []) (c := 12) o (sc_X12_needKey (mg Γ) (d + 1) ts l0 (-13)) mw_X12_needKey rfl (Or.inl (lw_all_tbl q947)) rfl (lw_all_tbl qs20) (lw_all_tbl q949) wt_0 rfl dX12_choice_49 rfl (rs := fun r => [vI r]) (fun _ => rfl) (fun v7 hv7 => ?_)
        refine s_if_eq (tgt := 64) o dX12_choice_52 (by decide) (rZ (hv7 _ rfl)) ?_ ?_
        · refine s_null o dX12_choice_64 ?_
          exact s_aret o rfl (Or.inl ⟨_, rfl⟩) dX12_choice_65 (fun _ hh => hh)
        · refine s_aload_n o dX12_choice_55 rfl 2 rfl ?_
          refine s_ldcS (tx := "{") (k := 14) o (by decide +kernel) rfl (by decide) dX12_choice_56 ?_
          refine s_cvC (d := d + 8) (As := [vA (mg Γ) (-14)]) (st := []) (c := 12) o (sc_X12_needSign (mg Γ) (d + 1) ts l0 (-14)) mw_X12_needSign rfl (Or.inl (lw_all_tbl q864)) rfl (lw_all_tbl qs13) (lw_all_tbl q866) wt_0 rfl dX12_choice_58 rfl (rs := fun r => [vI r]) (fun _ => rfl) (fun v8 hv8 => ?_)
          refine s_if_ne (tgt := 66) o dX12_choice_61 (by decide) (rZ (hv8 _ rfl)) ?_ ?_
          · refine s_bipush o dX12_choice_66 rfl ?_
            refine s_anew (kd := 6) o (by decide) (Or.inl rfl) (lw_all_tbl q594) ao_6 (r32 rfl) dX12_choice_68 (fun v9 hv9 => ?_)
            refine r_astore_n o dX12_choice_71 rfl rfl ⟨(Nat.ne_of_beq_eq_false rfl), (fun _ => (vA_cat (mg Γ) v6)), ⟨(Nat.ne_of_beq_eq_false rfl), (fun _ => (vA_cat (mg Γ) v1)), ⟨(Nat.ne_of_beq_eq_false rfl), (fun _ => (vA_cat (mg Γ) l0)), trivial⟩⟩⟩ ?_
            refine s_aload_n o dX12_choice_72 rfl 2 rfl ?_
            refine s_bipush o dX12_choice_73 rfl ?_
            refine s_newa (kd := 0) o (by decide) rfl (by decide) (o.ra (by decide)) (lw_all_tbl q439) (r32 rfl) dX12_choice_75 (fun v10 hv10 => ?_)
            refine r_putf (vA (mg Γ)) rfl o cf_X13_patterns (Or.inr (Or.inl ⟨_, q912⟩)) dX12_choice_77 (Or.inl rfl) trivial (ty_array _) ?_
            refine s_aload_n o dX12_choice_80 rfl 2 rfl ?_
            refine s_bipush o dX12_choice_81 rfl ?_
            refine s_newa (kd := 0) o (by decide) rfl (by decide) (o.ra (by decide)) (lw_all_tbl q439) (r32 rfl) dX12_choice_83 (fun v11 hv11 => ?_)
            refine r_putf (vA (mg Γ)) rfl o cf_X13_numbers (Or.inr (Or.inl ⟨_, q914⟩)) dX12_choice_85 (Or.inl rfl) trivial (ty_array _) ?_
            refine s_aload_n o dX12_choice_88 rfl 2 rfl ?_
            refine s_bipush o dX12_choice_89 rfl ?_
            refine s_anew (kd := 8) o (by decide) (Or.inr ⟨_, rfl, by decide +kernel⟩) (lw_all_tbl q592) ao_8 (r32 rfl) dX12_choice_91 (fun v12 hv12 => ?_)
            refine r_putf (vA (mg Γ)) rfl o cf_X13_bound (Or.inr (Or.inl ⟨_, q916⟩)) dX12_choice_94 (Or.inl rfl) trivial (ty_array _) ?_
            refine s_aload_n o dX12_choice_97 rfl 0 rfl ?_
            refine s_iconst o dX12_choice_98 ?_
            refine s_aload_n o dX12_choice_99 rfl 1 rfl ?_
            refine s_aast (kd := 6) o (by decide) (as_6 o) (Or.inl ⟨_, rfl⟩) (r32 rfl) dX12_choice_100 ?_
            refine s_iconst o dX12_choice_101 ?_
            refine r_istore o dX12_choice_102 rfl ⟨(Nat.ne_of_beq_eq_false rfl), (fun _ => (vA_cat (mg Γ) v9)), ⟨(Nat.ne_of_beq_eq_false rfl), (fun _ => (vA_cat (mg Γ) v6)), ⟨(Nat.ne_of_beq_eq_false rfl), (fun _ => (vA_cat (mg Γ) v1)), ⟨(Nat.ne_of_beq_eq_false rfl), (fun _ => (vA_cat (mg Γ) l0)), trivial⟩⟩⟩⟩ ?_
            refine s_iconst o dX12_choice_104 ?_
            refine r_istore o dX12_choice_105 rfl ⟨(Nat.ne_of_beq_eq_false rfl), (fun _ => rfl), ⟨(Nat.ne_of_beq_eq_false rfl), (fun _ => (vA_cat (mg Γ) v9)), ⟨(Nat.ne_of_beq_eq_false rfl), (fun _ => (vA_cat (mg Γ) v6)), ⟨(Nat.ne_of_beq_eq_false rfl), (fun _ => (vA_cat (mg Γ) v1)), ⟨(Nat.ne_of_beq_eq_false rfl), (fun _ => (vA_cat (mg Γ) l0)), trivial⟩⟩⟩⟩⟩ ?_
            refine r_to [(0, vA (mg Γ) l0), (1, vA (mg Γ) v1), (3, vA (mg Γ) v9), (4, vI 0), (5, vI 1)] [5, 4, 2, 1, 0] rfl ?_
            refine sb_X12_choice_107 hr o _ _ _ _ ?_ ?_ ?_ ?_ l0 v1 v9 0 1 hv1 hv9 (r32 rfl) (Or.inr rfl)
            · intro v13
              refine s_aload_n o dX12_choice_119 rfl 0 rfl ?_
              refine s_aload_n o dX12_choice_120 rfl 0 rfl ?_
              refine r_getf vI rfl o cf_X12_sort (Or.inl (lw_all_tbl q657)) dX12_choice_121 (fun v14 hv14 => ?_)
              refine s_iconst o dX12_choice_124 ?_
              refine s_icmp_ne (tgt := 144) o dX12_choice_125 (by decide) hv14 (r32 rfl) ?_ ?_
              · exact sb_X12_choice_144 hr o v13 v13
              · refine s_aload_n o dX12_choice_128 rfl 0 rfl ?_
                refine s_aload_n o dX12_choice_129 rfl 0 rfl ?_
                refine r_getf vJ rfl o cf_X12_word (Or.inl (lw_all_tbl q661)) dX12_choice_130 (fun v15 hv15 => ?_)
                refine s_cvC (d := d + 8) (As := [vJ v15]) (st := [vA (mg Γ) v13]) (c := 12) o (sc_X12_constructor (mg Γ) (d + 8) ts v13 v15 hv15) mw_X12_constructor rfl (Or.inl (lw_all_tbl q850)) rfl (lw_all_tbl qs10) (lw_all_tbl q852) (wt_A wt_0) rfl dX12_choice_133 rfl (rs := fun r => [vI r, vA (mg Γ) v13]) (fun _ => rfl) (fun v16 hv16 => ?_)
                refine s_iconst o dX12_choice_136 ?_
                refine s_icmp_ne (tgt := 144) o dX12_choice_137 (by decide) (hv16 _ rfl) (r32 rfl) ?_ ?_
                · exact sb_X12_choice_144 hr o v13 v13
                · refine s_iconst o dX12_choice_140 ?_
                  refine s_goto (tgt := 175) o dX12_choice_141 (by decide) ?_
                  exact sb_X12_choice_175 hr o v13 3 v13 (r32 rfl)
            · refine s_null o dX12_choice_203 ?_
              exact s_aret o rfl (Or.inl ⟨_, rfl⟩) dX12_choice_204 (fun _ hh => hh)
            · refine s_null o dX12_choice_224 ?_
              exact s_aret o rfl (Or.inl ⟨_, rfl⟩) dX12_choice_225 (fun _ hh => hh)
            · intro v17 v18 v19 v20 hv18 hv19 hv20
              refine s_aload_n o dX12_choice_249 rfl 0 rfl ?_
              refine s_ldcwS (tx := "}") (k := 17) o (by decide +kernel) rfl (by decide) dX12_choice_250 ?_
              refine s_cvC (d := d + 8) (As := [vA (mg Γ) (-17)]) (st := []) (c := 12) o (sc_X12_needSign (mg Γ) (d + 1) ts v17 (-17)) mw_X12_needSign rfl (Or.inl (lw_all_tbl q864)) rfl (lw_all_tbl qs13) (lw_all_tbl q866) wt_0 rfl dX12_choice_253 rfl (rs := fun r => [vI r]) (fun _ => rfl) (fun v21 hv21 => ?_)
              refine s_if_ne (tgt := 261) o dX12_choice_256 (by decide) (rZ (hv21 _ rfl)) ?_ ?_
              · refine s_aload_n o dX12_choice_261 rfl 0 rfl ?_
                refine s_dup o dX12_choice_262 (vA_cat (mg Γ) v17) ?_
                refine r_getf vI rfl o cf_X12_open (Or.inl (lw_all_tbl q666)) dX12_choice_263 (fun v22 hv22 => ?_)
                refine s_iconst o dX12_choice_266 ?_
                refine s_isub o dX12_choice_267 ?_
                refine r_putf vI rfl o cf_X12_open (Or.inl (lw_all_tbl q666)) dX12_choice_268 (Or.inl rfl) (w32_R _) ty_int ?_
                refine s_aload_n o dX12_choice_271 rfl 1 rfl ?_
                refine s_iload o dX12_choice_272 3 rfl ?_
                refine r_putf vI rfl o cf_X13_number (Or.inr (Or.inl ⟨_, q904⟩)) dX12_choice_274 (Or.inl rfl) hv20 ty_int ?_
                refine s_aload_n o dX12_choice_277 rfl 1 rfl ?_
                refine s_iload o dX12_choice_278 3 rfl ?_
                refine s_iconst o dX12_choice_280 ?_
                refine s_iadd o dX12_choice_281 ?_
                refine s_anew (kd := 6) o (by decide) (Or.inl rfl) (lw_all_tbl q594) ao_6 (w32_R _) dX12_choice_282 (fun v23 hv23 => ?_)
                refine r_putf (vA (mg Γ)) rfl o cf_X13_kids (Or.inr (Or.inl ⟨_, q910⟩)) dX12_choice_285 (Or.inl rfl) trivial (ty_array _) ?_
                refine s_aload_n o dX12_choice_288 rfl 2 rfl ?_
                refine s_iconst o dX12_choice_289 ?_
                refine s_aload_n o dX12_choice_290 rfl 1 rfl ?_
                refine r_getf (vA (mg Γ)) rfl o cf_X13_kids (Or.inr (Or.inl ⟨_, q910⟩)) dX12_choice_291 (fun v24 hv24 => ?_)
                refine s_iconst o dX12_choice_294 ?_
                refine s_iload o dX12_choice_295 3 rfl ?_
                refine s_iconst o dX12_choice_297 ?_
                refine s_iadd o dX12_choice_298 ?_
                refine s_acp (kd := 6) (d := d + 8) o (by decide) (fun _ => as_6 o) (lw_all_tbl q880) (r32 rfl) (r32 rfl) (w32_R _) wt_0 rfl dX12_choice_299 (lw_all_tbl q481) (lw_all_tbl q480) (lw_all_tbl q179) ?_
                refine s_aload_n o dX12_choice_302 rfl 1 rfl ?_
                exact s_aret o rfl (Or.inl ⟨_, rfl⟩) dX12_choice_303 (fun _ hh => hh)
              · refine s_null o dX12_choice_259 ?_
                exact s_aret o rfl (Or.inl ⟨_, rfl⟩) dX12_choice_260 (fun _ hh => hh)
          · refine s_null o dX12_choice_64 ?_
            exact s_aret o rfl (Or.inl ⟨_, rfl⟩) dX12_choice_65 (fun _ hh => hh)
    · refine s_null o dX12_choice_31 ?_
      exact s_aret o rfl (Or.inl ⟨_, rfl⟩) dX12_choice_32 (fun _ hh => hh)
noncomputable def b_X12_e (rc : Rc) (l0 : Int) : Mo CH Int :=
  bnd (isk 112 l0) fun _ =>
  bnd (c_X12_isGood l0) fun v1 =>
  if ¬ v1 = 0 then
    bnd (isk 112 l0) fun _ =>
    bnd (c_X12_isKeyword l0 (-9)) fun v2 =>
    if v2 = 0 then
      bnd (isk 112 l0) fun _ =>
      bnd (c_X12_isKeyword l0 (-12)) fun v3 =>
      if v3 = 0 then
        bnd (isk 112 l0) fun _ =>
        bnd (c_X12_isSign l0 (-18)) fun v4 =>
        if v4 = 0 then
          bnd (isk 112 l0) fun _ =>
          bnd (rc 3 l0 0 0 0 0) fun v5 =>
          pr v5
        else
          bnd (isk 112 l0) fun _ =>
          bnd (rc 5 l0 0 0 0 0) fun v6 =>
          pr v6
      else
        bnd (isk 112 l0) fun _ =>
        bnd (rc 2 l0 0 0 0 0) fun v7 =>
        pr v7
    else
      bnd (isk 112 l0) fun _ =>
      bnd (rc 6 l0 0 0 0 0) fun v8 =>
      pr v8
  else
    pr 0
theorem sb_X12_e (g : gC) (d : Nat) (ts : TS) (rc : Rc) (hr : GR_rd g ts (d + 8) rc) (l0 : Int) : SF g yX12_e (Cond.code yX12_e cX12_e 1 (Option.some (Jvm.ClassFile.FieldType.object "LazyForge$Raw"))) (Option.some (Jvm.ClassFile.FieldType.object "LazyForge$Raw")) (d + 9) [vA g l0] (fun h => (h, ts)) (b_X12_e rc l0) := by
  refine SF.of (lv := [(0, vA g l0)]) (by decide) (wt_A wt_0) rfl (by simp only [la_A, la_I, la_J, la_0]) (fun Γ hg hnm o => ?_)
  subst hg
  have o : Ok Γ "LazyForge$Reader" cX12_e 1 (Option.some (Jvm.ClassFile.FieldType.object "LazyForge$Raw")) (d + 9) := o
  unfold b_X12_e
  refine s_aload_n o dX12_e_0 rfl 0 rfl ?_
  refine s_cvC (d := d + 8) (As := []) (st := []) (c := 12) o (sc_X12_isGood (mg Γ) (d + 8) ts l0) mw_X12_isGood rfl (Or.inl (lw_all_tbl q833)) rfl (lw_all_tbl qs6) (lw_all_tbl q835) wt_0 rfl dX12_e_1 rfl (rs := fun r => [vI r]) (fun _ => rfl) (fun v1 hv1 => ?_)
  refine s_if_ne (tgt := 9) o dX12_e_4 (by decide) (rZ (hv1 _ rfl)) ?_ ?_
  · refine s_aload_n o dX12_e_9 rfl 0 rfl ?_
    refine s_ldcS (tx := "let") (k := 9) o (by decide +kernel) rfl (by decide) dX12_e_10 ?_
    refine s_cvC (d := d + 8) (As := [vA (mg Γ) (-9)]) (st := []) (c := 12) o (sc_X12_isKeyword (mg Γ) (d + 3) ts l0 (-9)) mw_X12_isKeyword rfl (Or.inl (lw_all_tbl q838)) rfl (lw_all_tbl qs7) (lw_all_tbl q840) wt_0 rfl dX12_e_12 rfl (rs := fun r => [vI r]) (fun _ => rfl) (fun v2 hv2 => ?_)
    refine s_if_eq (tgt := 23) o dX12_e_15 (by decide) (rZ (hv2 _ rfl)) ?_ ?_
    · refine s_aload_n o dX12_e_23 rfl 0 rfl ?_
      refine s_ldcS (tx := "case") (k := 12) o (by decide +kernel) rfl (by decide) dX12_e_24 ?_
      refine s_cvC (d := d + 8) (As := [vA (mg Γ) (-12)]) (st := []) (c := 12) o (sc_X12_isKeyword (mg Γ) (d + 3) ts l0 (-12)) mw_X12_isKeyword rfl (Or.inl (lw_all_tbl q838)) rfl (lw_all_tbl qs7) (lw_all_tbl q840) wt_0 rfl dX12_e_26 rfl (rs := fun r => [vI r]) (fun _ => rfl) (fun v3 hv3 => ?_)
      refine s_if_eq (tgt := 37) o dX12_e_29 (by decide) (rZ (hv3 _ rfl)) ?_ ?_
      · refine s_aload_n o dX12_e_37 rfl 0 rfl ?_
        refine s_ldcS (tx := "\\") (k := 18) o (by decide +kernel) rfl (by decide) dX12_e_38 ?_
        refine s_cvC (d := d + 8) (As := [vA (mg Γ) (-18)]) (st := []) (c := 12) o (sc_X12_isSign (mg Γ) (d + 3) ts l0 (-18)) mw_X12_isSign rfl (Or.inl (lw_all_tbl q859)) rfl (lw_all_tbl qs12) (lw_all_tbl q861) wt_0 rfl dX12_e_40 rfl (rs := fun r => [vI r]) (fun _ => rfl) (fun v4 hv4 => ?_)
        refine s_if_eq (tgt := 53) o dX12_e_43 (by decide) (rZ (hv4 _ rfl)) ?_ ?_
        · refine s_aload_n o dX12_e_53 rfl 0 rfl ?_
          refine s_cvC (d := d + 8) (As := []) (st := []) (c := 12) o (gr_rd_3 hr l0) mw_X12_comparison rfl (Or.inl (lw_all_tbl q971)) rfl (lw_all_tbl qs24) (lw_all_tbl q973) wt_0 rfl dX12_e_54 rfl (rs := fun r => [vA (mg Γ) r]) (fun _ => rfl) (fun v5 hv5 => ?_)
          exact s_aret o rfl (Or.inl ⟨_, rfl⟩) dX12_e_57 (fun _ hh => hh)
        · refine s_aload_n o dX12_e_46 rfl 0 rfl ?_
          refine s_cvC (d := d + 8) (As := []) (st := []) (c := 12) o (gr_rd_5 hr l0) mw_X12_lambda rfl (Or.inl (lw_all_tbl q966)) rfl (lw_all_tbl qs23) (lw_all_tbl q968) wt_0 rfl dX12_e_47 rfl (rs := fun r => [vA (mg Γ) r]) (fun _ => rfl) (fun v6 hv6 => ?_)
          refine s_goto (tgt := 57) o dX12_e_50 (by decide) ?_
          exact s_aret o rfl (Or.inl ⟨_, rfl⟩) dX12_e_57 (fun _ hh => hh)
      · refine s_aload_n o dX12_e_32 rfl 0 rfl ?_
        refine s_cvC (d := d + 8) (As := []) (st := []) (c := 12) o (gr_rd_2 hr l0) mw_X12_choice rfl (Or.inl (lw_all_tbl q952)) rfl (lw_all_tbl qs21) (lw_all_tbl q954) wt_0 rfl dX12_e_33 rfl (rs := fun r => [vA (mg Γ) r]) (fun _ => rfl) (fun v7 hv7 => ?_)
        exact s_aret o rfl (Or.inl ⟨_, rfl⟩) dX12_e_36 (fun _ hh => hh)
    · refine s_aload_n o dX12_e_18 rfl 0 rfl ?_
      refine s_cvC (d := d + 8) (As := []) (st := []) (c := 12) o (gr_rd_6 hr l0) mw_X12_let rfl (Or.inl (lw_all_tbl q887)) rfl (lw_all_tbl qs18) (lw_all_tbl q889) wt_0 rfl dX12_e_19 rfl (rs := fun r => [vA (mg Γ) r]) (fun _ => rfl) (fun v8 hv8 => ?_)
      exact s_aret o rfl (Or.inl ⟨_, rfl⟩) dX12_e_22 (fun _ hh => hh)
  · refine s_null o dX12_e_7 ?_
    exact s_aret o rfl (Or.inl ⟨_, rfl⟩) dX12_e_8 (fun _ hh => hh)
noncomputable def b_X12_atom_58 (rc : Rc)  (l0 : Int) (k0 : Int) (k1 : Int) (k2 : Int) : Mo CH Int :=
  bnd (gf [112] 5 l0) fun v1 =>
  bnd (c_X13_init k1 k0 v1) fun _ =>
  bnd (gf [112] 8 l0) fun v2 =>
  bnd (pf [113] 4 k2 v2) fun _ =>
  bnd (gf [112] 6 l0) fun v3 =>
  bnd (pf [113] 3 k2 v3) fun _ =>
  bnd (gf [112] 5 l0) fun v4 =>
  bnd (isk 112 l0) fun _ =>
  bnd (c_X12_part l0 v4) fun v5 =>
  if ¬ v5 = 0 then
    bnd (isk 112 l0) fun _ =>
    bnd (c_X12_next l0) fun _ =>
    pr k2
  else
    pr 0
theorem sb_X12_atom_58 {Γ : Gm} {ts : TS} {d : Nat} {rc : Rc} (hr : GR_rd (mg Γ) ts (d + 8) rc) (o : Ok Γ "LazyForge$Reader" cX12_atom 3 (Option.some (Jvm.ClassFile.FieldType.object "LazyForge$Raw")) (d + 9))   (l0 : Int) (k0 : Int) (k1 : Int) (k2 : Int) (hk0 : R32 k0) (hk1 : 0 < k1) (hk2 : 0 < k2) : Sx Γ (fun h => (h, ts)) (fun a s => mt Γ = (0, a, ((s, ts) : Wd))) 58 [(0, vA (mg Γ) l0)] [vI k0, vA (mg Γ) k1, vA (mg Γ) k2] (b_X12_atom_58 rc l0 k0 k1 k2) := by
  unfold b_X12_atom_58
  refine s_aload_n o dX12_atom_58 rfl 0 rfl ?_
  refine r_getf vI rfl o cf_X12_place (Or.inl (lw_all_tbl q658)) dX12_atom_59 (fun v1 hv1 => ?_)
  refine s_ci (d := d + 8) (As := [vI k0, vI v1]) (st := [vA (mg Γ) k2]) o (sc_X13_init (mg Γ) (d + 7) ts k1 k0 v1 hk1 hk0 hv1) mw_X13_init rfl (Or.inl (lw_all_tbl q892)) (lw_all_tbl q893) rfl hk1 (wt_A wt_0) rfl dX12_atom_62 rfl (fun _ => ?_)
  refine r_astore_n o dX12_atom_65 rfl rfl ⟨(Nat.ne_of_beq_eq_false rfl), (fun _ => (vA_cat (mg Γ) l0)), trivial⟩ ?_
  refine s_aload_n o dX12_atom_66 rfl 0 rfl ?_
  refine s_aload_n o dX12_atom_67 rfl 1 rfl ?_
  refine r_getf vJ rfl o cf_X12_word (Or.inl (lw_all_tbl q661)) dX12_atom_68 (fun v2 hv2 => ?_)
  refine r_putf vJ rfl o cf_X13_name (Or.inr (Or.inl ⟨_, q906⟩)) dX12_atom_71 (Or.inl rfl) hv2 ty_long ?_
  refine s_aload_n o dX12_atom_74 rfl 0 rfl ?_
  refine s_aload_n o dX12_atom_75 rfl 1 rfl ?_
  refine r_getf vI rfl o cf_X12_number (Or.inl (lw_all_tbl q659)) dX12_atom_76 (fun v3 hv3 => ?_)
  refine r_putf vI rfl o cf_X13_number (Or.inr (Or.inl ⟨_, q904⟩)) dX12_atom_79 (Or.inl rfl) hv3 ty_int ?_
  refine s_aload_n o dX12_atom_82 rfl 1 rfl ?_
  refine s_aload_n o dX12_atom_83 rfl 1 rfl ?_
  refine r_getf vI rfl o cf_X12_place (Or.inl (lw_all_tbl q658)) dX12_atom_84 (fun v4 hv4 => ?_)
  refine s_cvC (d := d + 8) (As := [vI v4]) (st := []) (c := 12) o (sc_X12_part (mg Γ) (d + 7) ts l0 v4 hv4) mw_X12_part rfl (Or.inl (lw_all_tbl q876)) rfl (lw_all_tbl qs16) (lw_all_tbl q878) wt_0 rfl dX12_atom_87 rfl (rs := fun r => [vI r]) (fun _ => rfl) (fun v5 hv5 => ?_)
  refine s_if_ne (tgt := 95) o dX12_atom_90 (by decide) (rZ (hv5 _ rfl)) ?_ ?_
  · refine s_aload_n o dX12_atom_95 rfl 1 rfl ?_
    refine s_cvC (d := d + 8) (As := []) (st := []) (c := 12) o (sc_X12_next (mg Γ) (d + 3) ts l0) mw_X12_next rfl (Or.inl (lw_all_tbl q743)) rfl (lw_all_tbl qs2) (lw_all_tbl q745) wt_0 rfl dX12_atom_96 rfl (rs := fun _ => []) (fun _ => rfl) (fun _ _ => ?_)
    refine s_aload_n o dX12_atom_99 rfl 0 rfl ?_
    exact s_aret o rfl (Or.inl ⟨_, rfl⟩) dX12_atom_100 (fun _ hh => hh)
  · refine s_null o dX12_atom_93 ?_
    exact s_aret o rfl (Or.inl ⟨_, rfl⟩) dX12_atom_94 (fun _ hh => hh)
noncomputable def b_X12_atom_26 (rc : Rc)  (l0 : Int) : Mo CH Int :=
  bnd (newo 13) fun v1 =>
  bnd (gf [112] 4 l0) fun v2 =>
  if ¬ v2 = 1 then
    bnd (gf [112] 4 l0) fun v3 =>
    if ¬ v3 = 4 then
      b_X12_atom_58 rc l0 8 v1 v1
    else
      b_X12_atom_58 rc l0 7 v1 v1
  else
    b_X12_atom_58 rc l0 6 v1 v1
theorem sb_X12_atom_26 {Γ : Gm} {ts : TS} {d : Nat} {rc : Rc} (hr : GR_rd (mg Γ) ts (d + 8) rc) (o : Ok Γ "LazyForge$Reader" cX12_atom 3 (Option.some (Jvm.ClassFile.FieldType.object "LazyForge$Raw")) (d + 9))   (l0 : Int) : Sx Γ (fun h => (h, ts)) (fun a s => mt Γ = (0, a, ((s, ts) : Wd))) 26 [(0, vA (mg Γ) l0)] [] (b_X12_atom_26 rc l0) := by
  unfold b_X12_atom_26
  refine s_new o mk_13 (lw_all_tbl q594) dX12_atom_26 (fun v1 hv1 => ?_)
  refine s_dup o dX12_atom_29 (vA_cat (mg Γ) v1) ?_
  refine s_aload_n o dX12_atom_30 rfl 0 rfl ?_
  refine r_getf vI rfl o cf_X12_sort (Or.inl (lw_all_tbl q657)) dX12_atom_31 (fun v2 hv2 => ?_)
  refine s_iconst o dX12_atom_34 ?_
  refine s_icmp_ne (tgt := 43) o dX12_atom_35 (by decide) hv2 (r32 rfl) ?_ ?_
  · refine s_aload_n o dX12_atom_43 rfl 0 rfl ?_
    refine r_getf vI rfl o cf_X12_sort (Or.inl (lw_all_tbl q657)) dX12_atom_44 (fun v3 hv3 => ?_)
    refine s_iconst o dX12_atom_47 ?_
    refine s_icmp_ne (tgt := 56) o dX12_atom_48 (by decide) hv3 (r32 rfl) ?_ ?_
    · refine s_bipush o dX12_atom_56 rfl ?_
      exact sb_X12_atom_58 hr o l0 8 v1 v1 (r32 rfl) hv1 hv1
    · refine s_bipush o dX12_atom_51 rfl ?_
      refine s_goto (tgt := 58) o dX12_atom_53 (by decide) ?_
      exact sb_X12_atom_58 hr o l0 7 v1 v1 (r32 rfl) hv1 hv1
  · refine s_bipush o dX12_atom_38 rfl ?_
    refine s_goto (tgt := 58) o dX12_atom_40 (by decide) ?_
    exact sb_X12_atom_58 hr o l0 6 v1 v1 (r32 rfl) hv1 hv1
noncomputable def b_X12_atom_259 (rc : Rc)  : Mo CH Int :=
  pr 0
theorem sb_X12_atom_259 {Γ : Gm} {ts : TS} {d : Nat} {rc : Rc} (hr : GR_rd (mg Γ) ts (d + 8) rc) (o : Ok Γ "LazyForge$Reader" cX12_atom 3 (Option.some (Jvm.ClassFile.FieldType.object "LazyForge$Raw")) (d + 9))   : Sx Γ (fun h => (h, ts)) (fun a s => mt Γ = (0, a, ((s, ts) : Wd))) 259 [] [] (b_X12_atom_259 rc) := by
  unfold b_X12_atom_259
  refine s_null o dX12_atom_259 ?_
  refine s_goto (tgt := 264) o dX12_atom_260 (by decide) ?_
  exact s_aret o rfl (Or.inl ⟨_, rfl⟩) dX12_atom_264 (fun _ hh => hh)
noncomputable def b_X12_atom (rc : Rc) (l0 : Int) : Mo CH Int :=
  bnd (gf [112] 4 l0) fun v1 =>
  if v1 = 1 then
    b_X12_atom_26 rc l0
  else
    bnd (gf [112] 4 l0) fun v2 =>
    if v2 = 4 then
      b_X12_atom_26 rc l0
    else
      bnd (isk 112 l0) fun _ =>
      bnd (c_X12_isKeyword l0 (-21)) fun v3 =>
      if v3 = 0 then
        bnd (gf [112] 4 l0) fun v4 =>
        if ¬ v4 = 2 then
          bnd (isk 112 l0) fun _ =>
          bnd (c_X12_isSign l0 (-20)) fun v5 =>
          if ¬ v5 = 0 then
            bnd (isk 112 l0) fun _ =>
            bnd (c_X12_opens l0) fun v6 =>
            if ¬ v6 = 0 then
              bnd (isk 112 l0) fun _ =>
              bnd (c_X12_next l0) fun _ =>
              bnd (isk 112 l0) fun _ =>
              bnd (rc 4 l0 0 0 0 0) fun v7 =>
              bnd (gf [112] 11 l0) fun v8 =>
              bnd (pf [112] 11 l0 (w32 (v8 - 1))) fun _ =>
              if v7 = 0 then
                b_X12_atom_259 rc
              else
                bnd (isk 112 l0) fun _ =>
                bnd (c_X12_needSign l0 (-22)) fun v9 =>
                if ¬ v9 = 0 then
                  pr v7
                else
                  b_X12_atom_259 rc
            else
              pr 0
          else
            bnd (gf [112] 5 l0) fun v10 =>
            bnd (isk 112 l0) fun _ =>
            bnd (c_X12_fail l0 1 v10) fun v11 =>
            pr v11
        else
          bnd (gf [112] 8 l0) fun v12 =>
          bnd (isk 112 l0) fun _ =>
          bnd (c_X12_constructor l0 v12) fun v13 =>
          if ¬ v13 = (-1) then
            bnd (gf [112] 14 l0) fun v14 =>
            bnd (ald 0 v14 v13) fun v15 =>
            if v15 ≤ 0 then
              bnd (newo 13) fun v16 =>
              bnd (gf [112] 5 l0) fun v17 =>
              bnd (c_X13_init v16 5 v17) fun _ =>
              bnd (pf [113] 2 v16 v13) fun _ =>
              bnd (newa 6 0) fun v18 =>
              bnd (pf [113] 6 v16 v18) fun _ =>
              bnd (gf [112] 5 l0) fun v19 =>
              bnd (isk 112 l0) fun _ =>
              bnd (c_X12_part l0 v19) fun v20 =>
              if ¬ v20 = 0 then
                bnd (isk 112 l0) fun _ =>
                bnd (c_X12_next l0) fun _ =>
                pr v16
              else
                pr 0
            else
              bnd (gf [112] 5 l0) fun v21 =>
              bnd (isk 112 l0) fun _ =>
              bnd (c_X12_fail l0 1 v21) fun v22 =>
              pr v22
          else
            bnd (gf [112] 5 l0) fun v23 =>
            bnd (isk 112 l0) fun _ =>
            bnd (c_X12_fail l0 3 v23) fun v24 =>
            pr v24
      else
        b_X12_atom_26 rc l0
theorem sb_X12_atom (g : gC) (d : Nat) (ts : TS) (rc : Rc) (hr : GR_rd g ts (d + 8) rc) (l0 : Int) : SF g yX12_atom (Cond.code yX12_atom cX12_atom 3 (Option.some (Jvm.ClassFile.FieldType.object "LazyForge$Raw"))) (Option.some (Jvm.ClassFile.FieldType.object "LazyForge$Raw")) (d + 9) [vA g l0] (fun h => (h, ts)) (b_X12_atom rc l0) := by
  refine SF.of (lv := [(0, vA g l0)]) (by decide) (wt_A wt_0) rfl (by simp only [la_A, la_I, la_J, la_0]) (fun Γ hg hnm o => ?_)
  subst hg
  have o : Ok Γ "LazyForge$Reader" cX12_atom 3 (Option.some (Jvm.ClassFile.FieldType.object "LazyForge$Raw")) (d + 9) := o
  unfold b_X12_atom
  refine s_aload_n o dX12_atom_0 rfl 0 rfl ?_
  refine r_getf vI rfl o cf_X12_sort (Or.inl (lw_all_tbl q657)) dX12_atom_1 (fun v1 hv1 => ?_)
  refine s_iconst o dX12_atom_4 ?_
  refine s_icmp_eq (tgt := 26) o dX12_atom_5 (by decide) hv1 (r32 rfl) ?_ ?_
  · exact sb_X12_atom_26 hr o l0
  · refine s_aload_n o dX12_atom_8 rfl 0 rfl ?_
    refine r_getf vI rfl o cf_X12_sort (Or.inl (lw_all_tbl q657)) dX12_atom_9 (fun v2 hv2 => ?_)
    refine s_iconst o dX12_atom_12 ?_
    refine s_icmp_eq (tgt := 26) o dX12_atom_13 (by decide) hv2 (r32 rfl) ?_ ?_
    · exact sb_X12_atom_26 hr o l0
    · refine s_aload_n o dX12_atom_16 rfl 0 rfl ?_
      refine s_ldcwS (tx := "fail") (k := 21) o (by decide +kernel) rfl (by decide) dX12_atom_17 ?_
      refine s_cvC (d := d + 8) (As := [vA (mg Γ) (-21)]) (st := []) (c := 12) o (sc_X12_isKeyword (mg Γ) (d + 3) ts l0 (-21)) mw_X12_isKeyword rfl (Or.inl (lw_all_tbl q838)) rfl (lw_all_tbl qs7) (lw_all_tbl q840) wt_0 rfl dX12_atom_20 rfl (rs := fun r => [vI r]) (fun _ => rfl) (fun v3 hv3 => ?_)
      refine s_if_eq (tgt := 101) o dX12_atom_23 (by decide) (rZ (hv3 _ rfl)) ?_ ?_
      · refine s_aload_n o dX12_atom_101 rfl 0 rfl ?_
        refine r_getf vI rfl o cf_X12_sort (Or.inl (lw_all_tbl q657)) dX12_atom_102 (fun v4 hv4 => ?_)
        refine s_iconst o dX12_atom_105 ?_
        refine s_icmp_ne (tgt := 197) o dX12_atom_106 (by decide) hv4 (r32 rfl) ?_ ?_
        · refine s_aload_n o dX12_atom_197 rfl 0 rfl ?_
          refine s_ldcwS (tx := "(") (k := 20) o (by decide +kernel) rfl (by decide) dX12_atom_198 ?_
          refine s_cvC (d := d + 8) (As := [vA (mg Γ) (-20)]) (st := []) (c := 12) o (sc_X12_isSign (mg Γ) (d + 3) ts l0 (-20)) mw_X12_isSign rfl (Or.inl (lw_all_tbl q859)) rfl (lw_all_tbl qs12) (lw_all_tbl q861) wt_0 rfl dX12_atom_201 rfl (rs := fun r => [vI r]) (fun _ => rfl) (fun v5 hv5 => ?_)
          refine s_if_ne (tgt := 217) o dX12_atom_204 (by decide) (rZ (hv5 _ rfl)) ?_ ?_
          · refine s_aload_n o dX12_atom_217 rfl 0 rfl ?_
            refine s_cvC (d := d + 8) (As := []) (st := []) (c := 12) o (sc_X12_opens (mg Γ) (d + 7) ts l0) mw_X12_opens rfl (Or.inl (lw_all_tbl q938)) rfl (lw_all_tbl qs19) (lw_all_tbl q940) wt_0 rfl dX12_atom_218 rfl (rs := fun r => [vI r]) (fun _ => rfl) (fun v6 hv6 => ?_)
            refine s_if_ne (tgt := 226) o dX12_atom_221 (by decide) (rZ (hv6 _ rfl)) ?_ ?_
            · refine s_aload_n o dX12_atom_226 rfl 0 rfl ?_
              refine s_cvC (d := d + 8) (As := []) (st := []) (c := 12) o (sc_X12_next (mg Γ) (d + 3) ts l0) mw_X12_next rfl (Or.inl (lw_all_tbl q743)) rfl (lw_all_tbl qs2) (lw_all_tbl q745) wt_0 rfl dX12_atom_227 rfl (rs := fun _ => []) (fun _ => rfl) (fun _ _ => ?_)
              refine s_aload_n o dX12_atom_230 rfl 0 rfl ?_
              refine s_cvC (d := d + 8) (As := []) (st := []) (c := 12) o (gr_rd_4 hr l0) mw_X12_e rfl (Or.inl (lw_all_tbl q882)) rfl (lw_all_tbl qs17) (lw_all_tbl q884) wt_0 rfl dX12_atom_231 rfl (rs := fun r => [vA (mg Γ) r]) (fun _ => rfl) (fun v7 hv7 => ?_)
              refine r_astore_n o dX12_atom_234 rfl rfl ⟨(Nat.ne_of_beq_eq_false rfl), (fun _ => (vA_cat (mg Γ) l0)), trivial⟩ ?_
              refine s_aload_n o dX12_atom_235 rfl 1 rfl ?_
              refine s_dup o dX12_atom_236 (vA_cat (mg Γ) l0) ?_
              refine r_getf vI rfl o cf_X12_open (Or.inl (lw_all_tbl q666)) dX12_atom_237 (fun v8 hv8 => ?_)
              refine s_iconst o dX12_atom_240 ?_
              refine s_isub o dX12_atom_241 ?_
              refine r_putf vI rfl o cf_X12_open (Or.inl (lw_all_tbl q666)) dX12_atom_242 (Or.inl rfl) (w32_R _) ty_int ?_
              refine s_aload_n o dX12_atom_245 rfl 0 rfl ?_
              refine s_ifnull (tgt := 259) o dX12_atom_246 (by decide) ?_ ?_
              · refine r_to [] [] rfl ?_
                exact sb_X12_atom_259 hr o
              · refine s_aload_n o dX12_atom_249 rfl 1 rfl ?_
                refine s_ldcwS (tx := ")") (k := 22) o (by decide +kernel) rfl (by decide) dX12_atom_250 ?_
                refine s_cvC (d := d + 8) (As := [vA (mg Γ) (-22)]) (st := []) (c := 12) o (sc_X12_needSign (mg Γ) (d + 1) ts l0 (-22)) mw_X12_needSign rfl (Or.inl (lw_all_tbl q864)) rfl (lw_all_tbl qs13) (lw_all_tbl q866) wt_0 rfl dX12_atom_253 rfl (rs := fun r => [vI r]) (fun _ => rfl) (fun v9 hv9 => ?_)
                refine s_if_ne (tgt := 263) o dX12_atom_256 (by decide) (rZ (hv9 _ rfl)) ?_ ?_
                · refine s_aload_n o dX12_atom_263 rfl 0 rfl ?_
                  exact s_aret o rfl (Or.inl ⟨_, rfl⟩) dX12_atom_264 (fun _ hh => hh)
                · refine r_to [] [] rfl ?_
                  exact sb_X12_atom_259 hr o
            · refine s_null o dX12_atom_224 ?_
              exact s_aret o rfl (Or.inl ⟨_, rfl⟩) dX12_atom_225 (fun _ hh => hh)
          · refine s_aload_n o dX12_atom_207 rfl 0 rfl ?_
            refine s_iconst o dX12_atom_208 ?_
            refine s_aload_n o dX12_atom_209 rfl 0 rfl ?_
            refine r_getf vI rfl o cf_X12_place (Or.inl (lw_all_tbl q658)) dX12_atom_210 (fun v10 hv10 => ?_)
            refine s_cvC (d := d + 8) (As := [vI 1, vI v10]) (st := []) (c := 12) o (sc_X12_fail (mg Γ) (d + 8) ts l0 1 v10 (r32 rfl) hv10) mw_X12_fail rfl (Or.inl (lw_all_tbl q846)) rfl (lw_all_tbl qs9) (lw_all_tbl q848) wt_0 rfl dX12_atom_213 rfl (rs := fun r => [vA (mg Γ) r]) (fun _ => rfl) (fun v11 hv11 => ?_)
            exact s_aret o rfl (Or.inl ⟨_, rfl⟩) dX12_atom_216 (fun _ hh => hh)
        · refine s_aload_n o dX12_atom_109 rfl 0 rfl ?_
          refine s_aload_n o dX12_atom_110 rfl 0 rfl ?_
          refine r_getf vJ rfl o cf_X12_word (Or.inl (lw_all_tbl q661)) dX12_atom_111 (fun v12 hv12 => ?_)
          refine s_cvC (d := d + 8) (As := [vJ v12]) (st := []) (c := 12) o (sc_X12_constructor (mg Γ) (d + 8) ts l0 v12 hv12) mw_X12_constructor rfl (Or.inl (lw_all_tbl q850)) rfl (lw_all_tbl qs10) (lw_all_tbl q852) wt_0 rfl dX12_atom_114 rfl (rs := fun r => [vI r]) (fun _ => rfl) (fun v13 hv13 => ?_)
          refine r_istore_n o dX12_atom_117 rfl rfl ⟨(Nat.ne_of_beq_eq_false rfl), (fun _ => (vA_cat (mg Γ) l0)), trivial⟩ ?_
          refine s_iload_n o dX12_atom_118 rfl 0 rfl ?_
          refine s_iconst o dX12_atom_119 ?_
          refine s_icmp_ne (tgt := 133) o dX12_atom_120 (by decide) (hv13 _ rfl) (r32 rfl) ?_ ?_
          · refine s_aload_n o dX12_atom_133 rfl 1 rfl ?_
            refine r_getf (vA (mg Γ)) rfl o cf_X12_fields (Or.inl (lw_all_tbl q671)) dX12_atom_134 (fun v14 hv14 => ?_)
            refine s_iload_n o dX12_atom_137 rfl 0 rfl ?_
            refine r_iald o (hv13 _ rfl) dX12_atom_138 (fun v15 hv15 => ?_)
            refine s_if_le (tgt := 152) o dX12_atom_139 (by decide) hv15 ?_ ?_
            · refine s_new o mk_13 (lw_all_tbl q594) dX12_atom_152 (fun v16 hv16 => ?_)
              refine s_dup o dX12_atom_155 (vA_cat (mg Γ) v16) ?_
              refine s_iconst o dX12_atom_156 ?_
              refine s_aload_n o dX12_atom_157 rfl 1 rfl ?_
              refine r_getf vI rfl o cf_X12_place (Or.inl (lw_all_tbl q658)) dX12_atom_158 (fun v17 hv17 => ?_)
              refine s_ci (d := d + 8) (As := [vI 5, vI v17]) (st := [vA (mg Γ) v16]) o (sc_X13_init (mg Γ) (d + 7) ts v16 5 v17 hv16 (r32 rfl) hv17) mw_X13_init rfl (Or.inl (lw_all_tbl q892)) (lw_all_tbl q893) rfl hv16 (wt_A wt_0) rfl dX12_atom_161 rfl (fun _ => ?_)
              refine r_astore_n o dX12_atom_164 rfl rfl ⟨(Nat.ne_of_beq_eq_false rfl), (fun _ => rfl), ⟨(Nat.ne_of_beq_eq_false rfl), (fun _ => (vA_cat (mg Γ) l0)), trivial⟩⟩ ?_
              refine s_aload_n o dX12_atom_165 rfl 0 rfl ?_
              refine s_iload_n o dX12_atom_166 rfl 1 rfl ?_
              refine r_putf vI rfl o cf_X13_op (Or.inr (Or.inl ⟨_, q902⟩)) dX12_atom_167 (Or.inl rfl) (hv13 _ rfl) ty_int ?_
              refine s_aload_n o dX12_atom_170 rfl 0 rfl ?_
              refine s_iconst o dX12_atom_171 ?_
              refine s_anew (kd := 6) o (by decide) (Or.inl rfl) (lw_all_tbl q594) ao_6 (r32 rfl) dX12_atom_172 (fun v18 hv18 => ?_)
              refine r_putf (vA (mg Γ)) rfl o cf_X13_kids (Or.inr (Or.inl ⟨_, q910⟩)) dX12_atom_175 (Or.inl rfl) trivial (ty_array _) ?_
              refine s_aload_n o dX12_atom_178 rfl 2 rfl ?_
              refine s_aload_n o dX12_atom_179 rfl 2 rfl ?_
              refine r_getf vI rfl o cf_X12_place (Or.inl (lw_all_tbl q658)) dX12_atom_180 (fun v19 hv19 => ?_)
              refine s_cvC (d := d + 8) (As := [vI v19]) (st := []) (c := 12) o (sc_X12_part (mg Γ) (d + 7) ts l0 v19 hv19) mw_X12_part rfl (Or.inl (lw_all_tbl q876)) rfl (lw_all_tbl qs16) (lw_all_tbl q878) wt_0 rfl dX12_atom_183 rfl (rs := fun r => [vI r]) (fun _ => rfl) (fun v20 hv20 => ?_)
              refine s_if_ne (tgt := 191) o dX12_atom_186 (by decide) (rZ (hv20 _ rfl)) ?_ ?_
              · refine s_aload_n o dX12_atom_191 rfl 2 rfl ?_
                refine s_cvC (d := d + 8) (As := []) (st := []) (c := 12) o (sc_X12_next (mg Γ) (d + 3) ts l0) mw_X12_next rfl (Or.inl (lw_all_tbl q743)) rfl (lw_all_tbl qs2) (lw_all_tbl q745) wt_0 rfl dX12_atom_192 rfl (rs := fun _ => []) (fun _ => rfl) (fun _ _ => ?_)
                refine s_aload_n o dX12_atom_195 rfl 0 rfl ?_
                exact s_aret o rfl (Or.inl ⟨_, rfl⟩) dX12_atom_196 (fun _ hh => hh)
              · refine s_null o dX12_atom_189 ?_
                exact s_aret o rfl (Or.inl ⟨_, rfl⟩) dX12_atom_190 (fun _ hh => hh)
            · refine s_aload_n o dX12_atom_142 rfl 1 rfl ?_
              refine s_iconst o dX12_atom_143 ?_
              refine s_aload_n o dX12_atom_144 rfl 1 rfl ?_
              refine r_getf vI rfl o cf_X12_place (Or.inl (lw_all_tbl q658)) dX12_atom_145 (fun v21 hv21 => ?_)
              refine s_cvC (d := d + 8) (As := [vI 1, vI v21]) (st := []) (c := 12) o (sc_X12_fail (mg Γ) (d + 8) ts l0 1 v21 (r32 rfl) hv21) mw_X12_fail rfl (Or.inl (lw_all_tbl q846)) rfl (lw_all_tbl qs9) (lw_all_tbl q848) wt_0 rfl dX12_atom_148 rfl (rs := fun r => [vA (mg Γ) r]) (fun _ => rfl) (fun v22 hv22 => ?_)
              exact s_aret o rfl (Or.inl ⟨_, rfl⟩) dX12_atom_151 (fun _ hh => hh)
          · refine s_aload_n o dX12_atom_123 rfl 1 rfl ?_
            refine s_iconst o dX12_atom_124 ?_
            refine s_aload_n o dX12_atom_125 rfl 1 rfl ?_
            refine r_getf vI rfl o cf_X12_place (Or.inl (lw_all_tbl q658)) dX12_atom_126 (fun v23 hv23 => ?_)
            refine s_cvC (d := d + 8) (As := [vI 3, vI v23]) (st := []) (c := 12) o (sc_X12_fail (mg Γ) (d + 8) ts l0 3 v23 (r32 rfl) hv23) mw_X12_fail rfl (Or.inl (lw_all_tbl q846)) rfl (lw_all_tbl qs9) (lw_all_tbl q848) wt_0 rfl dX12_atom_129 rfl (rs := fun r => [vA (mg Γ) r]) (fun _ => rfl) (fun v24 hv24 => ?_)
            exact s_aret o rfl (Or.inl ⟨_, rfl⟩) dX12_atom_132 (fun _ hh => hh)
      · exact sb_X12_atom_26 hr o l0
noncomputable def G_rd (rc : Rc) : Rc := fun j a0 a1 a2 a3 a4 => match j with
  | 0 => b_X12_application rc a0
  | 1 => b_X12_atom rc a0
  | 2 => b_X12_choice rc a0
  | 3 => b_X12_comparison rc a0
  | 4 => b_X12_e rc a0
  | 5 => b_X12_lambda rc a0
  | 6 => b_X12_let rc a0
  | 7 => b_X12_made rc a0 a1
  | 8 => b_X12_product rc a0
  | 9 => b_X12_sum rc a0
  | _ => no
noncomputable def R_rd : Nat → Rc
  | 0 => fun _ _ _ _ _ _ => no
  | n + 1 => G_rd (R_rd n)
theorem G_rd_ok (g : gC) (ts : TS) (d : Nat) (rc : Rc) (hr : GR_rd g ts (d + 8) rc) : GR_rd g ts (d + 9) (G_rd rc) := ⟨(fun l0 => sb_X12_application g d ts rc hr l0), (fun l0 => sb_X12_atom g d ts rc hr l0), (fun l0 => sb_X12_choice g d ts rc hr l0), (fun l0 => sb_X12_comparison g d ts rc hr l0), (fun l0 => sb_X12_e g d ts rc hr l0), (fun l0 => sb_X12_lambda g d ts rc hr l0), (fun l0 => sb_X12_let g d ts rc hr l0), (fun l0 l1 hl1 => sb_X12_made g d ts rc hr l0 l1 hl1), (fun l0 => sb_X12_product g d ts rc hr l0), (fun l0 => sb_X12_sum g d ts rc hr l0)⟩
theorem R_rd_ok (g : gC) (ts : TS) : ∀ n d, GR_rd g ts (d + 8 + n) (R_rd n)
  | 0, d => ⟨(fun _ _ _ _ e => by cases e), (fun _ _ _ _ e => by cases e), (fun _ _ _ _ e => by cases e), (fun _ _ _ _ e => by cases e), (fun _ _ _ _ e => by cases e), (fun _ _ _ _ e => by cases e), (fun _ _ _ _ e => by cases e), (fun _ _ _ _ _ _ e => by cases e), (fun _ _ _ _ e => by cases e), (fun _ _ _ _ e => by cases e)⟩
  | n + 1, d => by
    have h := R_rd_ok g ts n d
    rw [show d + 8 + n = (d + n) + 8 by omega] at h
    have h := G_rd_ok g ts _ _ h
    rw [show d + 8 + (n + 1) = (d + n) + 9 by omega]
    exact h
noncomputable def c_X12_application (l0 : Int) : Mo CH Int := R_rd 600 0 l0 0 0 0 0
theorem sc_X12_application (g : gC) (d : Nat) (ts : TS) (l0 : Int) : SF g yX12_application (Cond.code yX12_application cX12_application 5 (Option.some (Jvm.ClassFile.FieldType.object "LazyForge$Raw"))) (Option.some (Jvm.ClassFile.FieldType.object "LazyForge$Raw")) (d + 608) [vA g l0] (fun h => (h, ts)) (c_X12_application l0) := by
  have h := R_rd_ok g ts 600 d
  rw [Nat.add_assoc] at h
  exact gr_rd_0 h l0
noncomputable def c_X12_atom (l0 : Int) : Mo CH Int := R_rd 600 1 l0 0 0 0 0
theorem sc_X12_atom (g : gC) (d : Nat) (ts : TS) (l0 : Int) : SF g yX12_atom (Cond.code yX12_atom cX12_atom 3 (Option.some (Jvm.ClassFile.FieldType.object "LazyForge$Raw"))) (Option.some (Jvm.ClassFile.FieldType.object "LazyForge$Raw")) (d + 608) [vA g l0] (fun h => (h, ts)) (c_X12_atom l0) := by
  have h := R_rd_ok g ts 600 d
  rw [Nat.add_assoc] at h
  exact gr_rd_1 h l0
noncomputable def c_X12_choice (l0 : Int) : Mo CH Int := R_rd 600 2 l0 0 0 0 0
theorem sc_X12_choice (g : gC) (d : Nat) (ts : TS) (l0 : Int) : SF g yX12_choice (Cond.code yX12_choice cX12_choice 6 (Option.some (Jvm.ClassFile.FieldType.object "LazyForge$Raw"))) (Option.some (Jvm.ClassFile.FieldType.object "LazyForge$Raw")) (d + 608) [vA g l0] (fun h => (h, ts)) (c_X12_choice l0) := by
  have h := R_rd_ok g ts 600 d
  rw [Nat.add_assoc] at h
  exact gr_rd_2 h l0
noncomputable def c_X12_comparison (l0 : Int) : Mo CH Int := R_rd 600 3 l0 0 0 0 0
theorem sc_X12_comparison (g : gC) (d : Nat) (ts : TS) (l0 : Int) : SF g yX12_comparison (Cond.code yX12_comparison cX12_comparison 5 (Option.some (Jvm.ClassFile.FieldType.object "LazyForge$Raw"))) (Option.some (Jvm.ClassFile.FieldType.object "LazyForge$Raw")) (d + 608) [vA g l0] (fun h => (h, ts)) (c_X12_comparison l0) := by
  have h := R_rd_ok g ts 600 d
  rw [Nat.add_assoc] at h
  exact gr_rd_3 h l0
noncomputable def c_X12_e (l0 : Int) : Mo CH Int := R_rd 600 4 l0 0 0 0 0
theorem sc_X12_e (g : gC) (d : Nat) (ts : TS) (l0 : Int) : SF g yX12_e (Cond.code yX12_e cX12_e 1 (Option.some (Jvm.ClassFile.FieldType.object "LazyForge$Raw"))) (Option.some (Jvm.ClassFile.FieldType.object "LazyForge$Raw")) (d + 608) [vA g l0] (fun h => (h, ts)) (c_X12_e l0) := by
  have h := R_rd_ok g ts 600 d
  rw [Nat.add_assoc] at h
  exact gr_rd_4 h l0
noncomputable def c_X12_lambda (l0 : Int) : Mo CH Int := R_rd 600 5 l0 0 0 0 0
theorem sc_X12_lambda (g : gC) (d : Nat) (ts : TS) (l0 : Int) : SF g yX12_lambda (Cond.code yX12_lambda cX12_lambda 3 (Option.some (Jvm.ClassFile.FieldType.object "LazyForge$Raw"))) (Option.some (Jvm.ClassFile.FieldType.object "LazyForge$Raw")) (d + 608) [vA g l0] (fun h => (h, ts)) (c_X12_lambda l0) := by
  have h := R_rd_ok g ts 600 d
  rw [Nat.add_assoc] at h
  exact gr_rd_5 h l0
noncomputable def c_X12_let (l0 : Int) : Mo CH Int := R_rd 600 6 l0 0 0 0 0
theorem sc_X12_let (g : gC) (d : Nat) (ts : TS) (l0 : Int) : SF g yX12_let (Cond.code yX12_let cX12_let 7 (Option.some (Jvm.ClassFile.FieldType.object "LazyForge$Raw"))) (Option.some (Jvm.ClassFile.FieldType.object "LazyForge$Raw")) (d + 608) [vA g l0] (fun h => (h, ts)) (c_X12_let l0) := by
  have h := R_rd_ok g ts 600 d
  rw [Nat.add_assoc] at h
  exact gr_rd_6 h l0
noncomputable def c_X12_made (l0 : Int) (l1 : Int) : Mo CH Int := R_rd 600 7 l0 l1 0 0 0
theorem sc_X12_made (g : gC) (d : Nat) (ts : TS) (l0 : Int) (l1 : Int) (hl1 : R32 l1) : SF g yX12_made (Cond.code yX12_made cX12_made 4 (Option.some (Jvm.ClassFile.FieldType.object "LazyForge$Raw"))) (Option.some (Jvm.ClassFile.FieldType.object "LazyForge$Raw")) (d + 608) [vA g l0, vI l1] (fun h => (h, ts)) (c_X12_made l0 l1) := by
  have h := R_rd_ok g ts 600 d
  rw [Nat.add_assoc] at h
  exact gr_rd_7 h l0 l1 hl1
noncomputable def c_X12_product (l0 : Int) : Mo CH Int := R_rd 600 8 l0 0 0 0 0
theorem sc_X12_product (g : gC) (d : Nat) (ts : TS) (l0 : Int) : SF g yX12_product (Cond.code yX12_product cX12_product 5 (Option.some (Jvm.ClassFile.FieldType.object "LazyForge$Raw"))) (Option.some (Jvm.ClassFile.FieldType.object "LazyForge$Raw")) (d + 608) [vA g l0] (fun h => (h, ts)) (c_X12_product l0) := by
  have h := R_rd_ok g ts 600 d
  rw [Nat.add_assoc] at h
  exact gr_rd_8 h l0
noncomputable def c_X12_sum (l0 : Int) : Mo CH Int := R_rd 600 9 l0 0 0 0 0
theorem sc_X12_sum (g : gC) (d : Nat) (ts : TS) (l0 : Int) : SF g yX12_sum (Cond.code yX12_sum cX12_sum 5 (Option.some (Jvm.ClassFile.FieldType.object "LazyForge$Raw"))) (Option.some (Jvm.ClassFile.FieldType.object "LazyForge$Raw")) (d + 608) [vA g l0] (fun h => (h, ts)) (c_X12_sum l0) := by
  have h := R_rd_ok g ts 600 d
  rw [Nat.add_assoc] at h
  exact gr_rd_9 h l0
theorem dX12_function_0 : decode cX12_function 0 = .ok (.aload_n 0, 1) := by decide +kernel
theorem dX12_function_1 : decode cX12_function 1 = .ok (.getfield 97, 3) := by decide +kernel
theorem dX12_function_4 : decode cX12_function 4 = .ok (.iconst 1, 1) := by decide +kernel
theorem dX12_function_5 : decode cX12_function 5 = .ok (.if_icmp .eq 14, 3) := by decide +kernel
theorem dX12_function_8 : decode cX12_function 8 = .ok (.aload_n 0, 1) := by decide +kernel
theorem dX12_function_9 : decode cX12_function 9 = .ok (.iconst 1, 1) := by decide +kernel
theorem dX12_function_10 : decode cX12_function 10 = .ok (.aload_n 0, 1) := by decide +kernel
theorem dX12_function_11 : decode cX12_function 11 = .ok (.getfield 91, 3) := by decide +kernel
theorem dX12_function_14 : decode cX12_function 14 = .ok (.invokevirtual 140, 3) := by decide +kernel
theorem dX12_function_17 : decode cX12_function 17 = .ok (.pop, 1) := by decide +kernel
theorem dX12_function_18 : decode cX12_function 18 = .ok (.return_, 1) := by decide +kernel
theorem dX12_function_19 : decode cX12_function 19 = .ok (.iconst 0, 1) := by decide +kernel
theorem dX12_function_20 : decode cX12_function 20 = .ok (.istore_n 1, 1) := by decide +kernel
theorem dX12_function_21 : decode cX12_function 21 = .ok (.iload_n 1, 1) := by decide +kernel
theorem dX12_function_22 : decode cX12_function 22 = .ok (.aload_n 0, 1) := by decide +kernel
theorem dX12_function_23 : decode cX12_function 23 = .ok (.getfield 191, 3) := by decide +kernel
theorem dX12_function_26 : decode cX12_function 26 = .ok (.if_icmp .ge 33, 3) := by decide +kernel
theorem dX12_function_29 : decode cX12_function 29 = .ok (.aload_n 0, 1) := by decide +kernel
theorem dX12_function_30 : decode cX12_function 30 = .ok (.getfield 23, 3) := by decide +kernel
theorem dX12_function_33 : decode cX12_function 33 = .ok (.iload_n 1, 1) := by decide +kernel
theorem dX12_function_34 : decode cX12_function 34 = .ok (.laload, 1) := by decide +kernel
theorem dX12_function_35 : decode cX12_function 35 = .ok (.aload_n 0, 1) := by decide +kernel
theorem dX12_function_36 : decode cX12_function 36 = .ok (.getfield 84, 3) := by decide +kernel
theorem dX12_function_39 : decode cX12_function 39 = .ok (.lcmp, 1) := by decide +kernel
theorem dX12_function_40 : decode cX12_function 40 = .ok (.ifCond .ne 13, 3) := by decide +kernel
theorem dX12_function_43 : decode cX12_function 43 = .ok (.aload_n 0, 1) := by decide +kernel
theorem dX12_function_44 : decode cX12_function 44 = .ok (.iconst 2, 1) := by decide +kernel
theorem dX12_function_45 : decode cX12_function 45 = .ok (.aload_n 0, 1) := by decide +kernel
theorem dX12_function_46 : decode cX12_function 46 = .ok (.getfield 91, 3) := by decide +kernel
theorem dX12_function_49 : decode cX12_function 49 = .ok (.invokevirtual 140, 3) := by decide +kernel
theorem dX12_function_52 : decode cX12_function 52 = .ok (.pop, 1) := by decide +kernel
theorem dX12_function_53 : decode cX12_function 53 = .ok (.iinc 1 1, 3) := by decide +kernel
theorem dX12_function_56 : decode cX12_function 56 = .ok (.goto (-35), 3) := by decide +kernel
theorem dX12_function_59 : decode cX12_function 59 = .ok (.aload_n 0, 1) := by decide +kernel
theorem dX12_function_60 : decode cX12_function 60 = .ok (.getfield 191, 3) := by decide +kernel
theorem dX12_function_63 : decode cX12_function 63 = .ok (.bipush 30, 2) := by decide +kernel
theorem dX12_function_65 : decode cX12_function 65 = .ok (.if_icmp .ne 13, 3) := by decide +kernel
theorem dX12_function_68 : decode cX12_function 68 = .ok (.aload_n 0, 1) := by decide +kernel
theorem dX12_function_69 : decode cX12_function 69 = .ok (.iconst 4, 1) := by decide +kernel
theorem dX12_function_70 : decode cX12_function 70 = .ok (.aload_n 0, 1) := by decide +kernel
theorem dX12_function_71 : decode cX12_function 71 = .ok (.getfield 91, 3) := by decide +kernel
theorem dX12_function_74 : decode cX12_function 74 = .ok (.invokevirtual 140, 3) := by decide +kernel
theorem dX12_function_77 : decode cX12_function 77 = .ok (.pop, 1) := by decide +kernel
theorem dX12_function_78 : decode cX12_function 78 = .ok (.aload_n 0, 1) := by decide +kernel
theorem dX12_function_79 : decode cX12_function 79 = .ok (.invokevirtual 147, 3) := by decide +kernel
theorem dX12_function_82 : decode cX12_function 82 = .ok (.ifCond .ne 4, 3) := by decide +kernel
theorem dX12_function_85 : decode cX12_function 85 = .ok (.return_, 1) := by decide +kernel
theorem dX12_function_86 : decode cX12_function 86 = .ok (.aload_n 0, 1) := by decide +kernel
theorem dX12_function_87 : decode cX12_function 87 = .ok (.getfield 23, 3) := by decide +kernel
theorem dX12_function_90 : decode cX12_function 90 = .ok (.aload_n 0, 1) := by decide +kernel
theorem dX12_function_91 : decode cX12_function 91 = .ok (.getfield 191, 3) := by decide +kernel
theorem dX12_function_94 : decode cX12_function 94 = .ok (.aload_n 0, 1) := by decide +kernel
theorem dX12_function_95 : decode cX12_function 95 = .ok (.getfield 84, 3) := by decide +kernel
theorem dX12_function_98 : decode cX12_function 98 = .ok (.lastore, 1) := by decide +kernel
theorem dX12_function_99 : decode cX12_function 99 = .ok (.aload_n 0, 1) := by decide +kernel
theorem dX12_function_100 : decode cX12_function 100 = .ok (.getfield 26, 3) := by decide +kernel
theorem dX12_function_103 : decode cX12_function 103 = .ok (.aload_n 0, 1) := by decide +kernel
theorem dX12_function_104 : decode cX12_function 104 = .ok (.getfield 191, 3) := by decide +kernel
theorem dX12_function_107 : decode cX12_function 107 = .ok (.aload_n 0, 1) := by decide +kernel
theorem dX12_function_108 : decode cX12_function 108 = .ok (.getfield 91, 3) := by decide +kernel
theorem dX12_function_111 : decode cX12_function 111 = .ok (.iastore, 1) := by decide +kernel
theorem dX12_function_112 : decode cX12_function 112 = .ok (.aload_n 0, 1) := by decide +kernel
theorem dX12_function_113 : decode cX12_function 113 = .ok (.invokevirtual 150, 3) := by decide +kernel
theorem dX12_function_116 : decode cX12_function 116 = .ok (.aload_n 0, 1) := by decide +kernel
theorem dX12_function_117 : decode cX12_function 117 = .ok (.getfield 30, 3) := by decide +kernel
theorem dX12_function_120 : decode cX12_function 120 = .ok (.aload_n 0, 1) := by decide +kernel
theorem dX12_function_121 : decode cX12_function 121 = .ok (.getfield 191, 3) := by decide +kernel
theorem dX12_function_124 : decode cX12_function 124 = .ok (.aload_n 0, 1) := by decide +kernel
theorem dX12_function_125 : decode cX12_function 125 = .ok (.iconst 0, 1) := by decide +kernel
theorem dX12_function_126 : decode cX12_function 126 = .ok (.iconst 0, 1) := by decide +kernel
theorem dX12_function_127 : decode cX12_function 127 = .ok (.invokevirtual 194, 3) := by decide +kernel
theorem dX12_function_130 : decode cX12_function 130 = .ok (.aastore, 1) := by decide +kernel
theorem dX12_function_131 : decode cX12_function 131 = .ok (.aload_n 0, 1) := by decide +kernel
theorem dX12_function_132 : decode cX12_function 132 = .ok (.ldc 198, 2) := by decide +kernel
theorem dX12_function_134 : decode cX12_function 134 = .ok (.invokevirtual 188, 3) := by decide +kernel
theorem dX12_function_137 : decode cX12_function 137 = .ok (.ifCond .ne 4, 3) := by decide +kernel
theorem dX12_function_140 : decode cX12_function 140 = .ok (.return_, 1) := by decide +kernel
theorem dX12_function_141 : decode cX12_function 141 = .ok (.aload_n 0, 1) := by decide +kernel
theorem dX12_function_142 : decode cX12_function 142 = .ok (.getfield 36, 3) := by decide +kernel
theorem dX12_function_145 : decode cX12_function 145 = .ok (.aload_n 0, 1) := by decide +kernel
theorem dX12_function_146 : decode cX12_function 146 = .ok (.getfield 191, 3) := by decide +kernel
theorem dX12_function_149 : decode cX12_function 149 = .ok (.aload_n 0, 1) := by decide +kernel
theorem dX12_function_150 : decode cX12_function 150 = .ok (.invokevirtual 200, 3) := by decide +kernel
theorem dX12_function_153 : decode cX12_function 153 = .ok (.aastore, 1) := by decide +kernel
theorem dX12_function_154 : decode cX12_function 154 = .ok (.aload_n 0, 1) := by decide +kernel
theorem dX12_function_155 : decode cX12_function 155 = .ok (.dup, 1) := by decide +kernel
theorem dX12_function_156 : decode cX12_function 156 = .ok (.getfield 191, 3) := by decide +kernel
theorem dX12_function_159 : decode cX12_function 159 = .ok (.iconst 1, 1) := by decide +kernel
theorem dX12_function_160 : decode cX12_function 160 = .ok (.iadd, 1) := by decide +kernel
theorem dX12_function_161 : decode cX12_function 161 = .ok (.putfield 191, 3) := by decide +kernel
theorem dX12_function_164 : decode cX12_function 164 = .ok (.aload_n 0, 1) := by decide +kernel
theorem dX12_function_165 : decode cX12_function 165 = .ok (.ldc 186, 2) := by decide +kernel
theorem dX12_function_167 : decode cX12_function 167 = .ok (.invokevirtual 188, 3) := by decide +kernel
theorem dX12_function_170 : decode cX12_function 170 = .ok (.pop, 1) := by decide +kernel
theorem dX12_function_171 : decode cX12_function 171 = .ok (.return_, 1) := by decide +kernel
theorem mw_X12_function : MW yX12_function (Cond.code yX12_function cX12_function 2 (Option.none : Option Jvm.ClassFile.FieldType)) cX12_function 2 (Option.none : Option Jvm.ClassFile.FieldType) 0 := ⟨rfl, ⟨(lw_all_tbl q871), rfl, (lw_all_tbl q180)⟩, rfl, ⟨by decide, by decide⟩, by decide +kernel⟩
abbrev okc_X12_function_21 (x : Int × Int) : Prop := R32 x.2
abbrev lvc_X12_function_21 (Γ : Gm) (x : Int × Int) : List (Nat × Value) := [(0, vA (mg Γ) x.1), (1, vI x.2)]
noncomputable def c_X12_function_53 {A : Type} (k_59 : Int → Mo CH A) (l0 : Int) (l1 : Int) : Mo CH ((Int × Int) ⊕ A) :=
  pr (.inl (l0, (w32 (l1 + 1))))
theorem sc_X12_function_53 {Γ : Gm} {ts : TS} {d : Nat} (o : Ok Γ "LazyForge$Reader" cX12_function 2 (Option.none : Option Jvm.ClassFile.FieldType) (d + 609)) {A : Type} {K : A → CH → Prop}  (k_59 : Int → Mo CH A) (hk_59 : ∀ (l0 : Int), Sx Γ (fun h => (h, ts)) K 59 [(0, vA (mg Γ) l0)] [] (k_59 l0)) (l0 : Int) (l1 : Int) (hl1 : R32 l1) : Sx Γ (fun h => (h, ts)) (KL Γ (fun h => (h, ts)) okc_X12_function_21 K 21 (lvc_X12_function_21 Γ) []) 53 [(0, vA (mg Γ) l0), (1, vI l1)] [] (c_X12_function_53 k_59 l0 l1) := by
  unfold c_X12_function_53
  refine r_iinc (j := 1) o dX12_function_53 rfl rfl [(0, vA (mg Γ) l0)] [0] rfl ⟨(Nat.ne_of_beq_eq_false rfl), (fun _ => (vA_cat (mg Γ) l0)), trivial⟩ ?_
  refine s_goto (tgt := 21) o dX12_function_56 (by decide) ?_
  refine r_to [(0, vA (mg Γ) l0), (1, vI (w32 (l1 + 1)))] [1, 0] rfl ?_
  exact s_back (w32_R _) rfl
noncomputable def c_X12_function_21b {A : Type} (k_59 : Int → Mo CH A) (l0 : Int) (l1 : Int) : Mo CH ((Int × Int) ⊕ A) :=
  bnd (gf [112] 20 l0) fun v1 =>
  if v1 ≤ l1 then
    lo (k_59 l0)
  else
    bnd (gf [112] 16 l0) fun v2 =>
    bnd (ald 1 v2 l1) fun v3 =>
    bnd (gf [112] 8 l0) fun v4 =>
    if ¬ v3 = v4 then
      c_X12_function_53 k_59 l0 l1
    else
      bnd (gf [112] 5 l0) fun v5 =>
      bnd (isk 112 l0) fun _ =>
      bnd (c_X12_fail l0 2 v5) fun v6 =>
      c_X12_function_53 k_59 l0 l1
theorem sc_X12_function_21b {Γ : Gm} {ts : TS} {d : Nat} (o : Ok Γ "LazyForge$Reader" cX12_function 2 (Option.none : Option Jvm.ClassFile.FieldType) (d + 609)) {A : Type} {K : A → CH → Prop} (k_59 : Int → Mo CH A) (hk_59 : ∀ (l0 : Int), Sx Γ (fun h => (h, ts)) K 59 [(0, vA (mg Γ) l0)] [] (k_59 l0)) (l0 : Int) (l1 : Int) (hl1 : R32 l1) : Sx Γ (fun h => (h, ts)) (KL Γ (fun h => (h, ts)) okc_X12_function_21 K 21 (lvc_X12_function_21 Γ) []) 21 [(0, vA (mg Γ) l0), (1, vI l1)] [] (c_X12_function_21b k_59 l0 l1) := by
  unfold c_X12_function_21b
  refine s_iload_n o dX12_function_21 rfl 1 rfl ?_
  refine s_aload_n o dX12_function_22 rfl 0 rfl ?_
  refine r_getf vI rfl o cf_X12_functions (Or.inl (lw_all_tbl q684)) dX12_function_23 (fun v1 hv1 => ?_)
  refine s_icmp_ge (tgt := 59) o dX12_function_26 (by decide) hl1 hv1 ?_ ?_
  · refine r_to [(0, vA (mg Γ) l0)] [0] rfl ?_
    exact s_lo (hk_59 l0)
  · refine s_aload_n o dX12_function_29 rfl 0 rfl ?_
    refine r_getf (vA (mg Γ)) rfl o cf_X12_names (Or.inl (lw_all_tbl q675)) dX12_function_30 (fun v2 hv2 => ?_)
    refine s_iload_n o dX12_function_33 rfl 1 rfl ?_
    refine r_lald o hl1 dX12_function_34 (fun v3 hv3 => ?_)
    refine s_aload_n o dX12_function_35 rfl 0 rfl ?_
    refine r_getf vJ rfl o cf_X12_word (Or.inl (lw_all_tbl q661)) dX12_function_36 (fun v4 hv4 => ?_)
    refine s_lcmp_ne (tgt := 53) o dX12_function_39 dX12_function_40 (by decide) hv3 hv4 ?_ ?_
    · exact sc_X12_function_53 o k_59 hk_59 l0 l1 hl1
    · refine s_aload_n o dX12_function_43 rfl 0 rfl ?_
      refine s_iconst o dX12_function_44 ?_
      refine s_aload_n o dX12_function_45 rfl 0 rfl ?_
      refine r_getf vI rfl o cf_X12_place (Or.inl (lw_all_tbl q658)) dX12_function_46 (fun v5 hv5 => ?_)
      refine s_cvC (d := d + 608) (As := [vI 2, vI v5]) (st := []) (c := 12) o (sc_X12_fail (mg Γ) (d + 608) ts l0 2 v5 (r32 rfl) hv5) mw_X12_fail rfl (Or.inl (lw_all_tbl q846)) rfl (lw_all_tbl qs9) (lw_all_tbl q848) wt_0 rfl dX12_function_49 rfl (rs := fun r => [vA (mg Γ) r]) (fun _ => rfl) (fun v6 hv6 => ?_)
      refine s_pop o dX12_function_52 (vA_cat (mg Γ) v6) ?_
      exact sc_X12_function_53 o k_59 hk_59 l0 l1 hl1
noncomputable def c_X12_function_21 {A : Type} (k_59 : Int → Mo CH A) (l0 : Int) (l1 : Int) : Mo CH A := Loop (fun x => c_X12_function_21b k_59 x.1 x.2) (l0, l1)
theorem sc_X12_function_21 {Γ : Gm} {ts : TS} {d : Nat} (o : Ok Γ "LazyForge$Reader" cX12_function 2 (Option.none : Option Jvm.ClassFile.FieldType) (d + 609)) {A : Type} {K : A → CH → Prop} (k_59 : Int → Mo CH A) (hk_59 : ∀ (l0 : Int), Sx Γ (fun h => (h, ts)) K 59 [(0, vA (mg Γ) l0)] [] (k_59 l0)) (l0 : Int) (l1 : Int) (hl1 : R32 l1) : Sx Γ (fun h => (h, ts)) K 21 [(0, vA (mg Γ) l0), (1, vI l1)] [] (c_X12_function_21 k_59 l0 l1) :=
  s_loop okc_X12_function_21 (lvc_X12_function_21 Γ) (fun x hx => sc_X12_function_21b o k_59 hk_59 x.1 x.2 hx) (x := (l0, l1)) hl1
noncomputable def c_X12_function_78  (l0 : Int) : Mo CH Int :=
  bnd (isk 112 l0) fun _ =>
  bnd (c_X12_isGood l0) fun v1 =>
  if ¬ v1 = 0 then
    bnd (gf [112] 16 l0) fun v2 =>
    bnd (gf [112] 20 l0) fun v3 =>
    bnd (gf [112] 8 l0) fun v4 =>
    bnd (ast 1 v2 v3 v4) fun _ =>
    bnd (gf [112] 17 l0) fun v5 =>
    bnd (gf [112] 20 l0) fun v6 =>
    bnd (gf [112] 5 l0) fun v7 =>
    bnd (ast 0 v5 v6 v7) fun _ =>
    bnd (isk 112 l0) fun _ =>
    bnd (c_X12_next l0) fun _ =>
    bnd (gf [112] 18 l0) fun v8 =>
    bnd (gf [112] 20 l0) fun v9 =>
    bnd (isk 112 l0) fun _ =>
    bnd (c_X12_row l0 0 0) fun v10 =>
    bnd (asq 8 v8 v9 v10) fun _ =>
    bnd (isk 112 l0) fun _ =>
    bnd (c_X12_needSign l0 (-8)) fun v12 =>
    if ¬ v12 = 0 then
      bnd (gf [112] 19 l0) fun v13 =>
      bnd (gf [112] 20 l0) fun v14 =>
      bnd (isk 112 l0) fun _ =>
      bnd (c_X12_e l0) fun v15 =>
      bnd (asq 6 v13 v14 v15) fun _ =>
      bnd (gf [112] 20 l0) fun v16 =>
      bnd (pf [112] 20 l0 (w32 (v16 + 1))) fun _ =>
      bnd (isk 112 l0) fun _ =>
      bnd (c_X12_needSign l0 (-7)) fun v17 =>
      pr 0
    else
      pr 0
  else
    pr 0
theorem sc_X12_function_78 {Γ : Gm} {ts : TS} {d : Nat} (o : Ok Γ "LazyForge$Reader" cX12_function 2 (Option.none : Option Jvm.ClassFile.FieldType) (d + 609))   (l0 : Int) : Sx Γ (fun h => (h, ts)) (fun a s => mt Γ = (0, a, ((s, ts) : Wd))) 78 [(0, vA (mg Γ) l0)] [] (c_X12_function_78 l0) := by
  unfold c_X12_function_78
  refine s_aload_n o dX12_function_78 rfl 0 rfl ?_
  refine s_cvC (d := d + 608) (As := []) (st := []) (c := 12) o (sc_X12_isGood (mg Γ) (d + 608) ts l0) mw_X12_isGood rfl (Or.inl (lw_all_tbl q833)) rfl (lw_all_tbl qs6) (lw_all_tbl q835) wt_0 rfl dX12_function_79 rfl (rs := fun r => [vI r]) (fun _ => rfl) (fun v1 hv1 => ?_)
  refine s_if_ne (tgt := 86) o dX12_function_82 (by decide) (rZ (hv1 _ rfl)) ?_ ?_
  · refine s_aload_n o dX12_function_86 rfl 0 rfl ?_
    refine r_getf (vA (mg Γ)) rfl o cf_X12_names (Or.inl (lw_all_tbl q675)) dX12_function_87 (fun v2 hv2 => ?_)
    refine s_aload_n o dX12_function_90 rfl 0 rfl ?_
    refine r_getf vI rfl o cf_X12_functions (Or.inl (lw_all_tbl q684)) dX12_function_91 (fun v3 hv3 => ?_)
    refine s_aload_n o dX12_function_94 rfl 0 rfl ?_
    refine r_getf vJ rfl o cf_X12_word (Or.inl (lw_all_tbl q661)) dX12_function_95 (fun v4 hv4 => ?_)
    refine r_last o hv3 hv4 dX12_function_98 ?_
    refine s_aload_n o dX12_function_99 rfl 0 rfl ?_
    refine r_getf (vA (mg Γ)) rfl o cf_X12_places (Or.inl (lw_all_tbl q677)) dX12_function_100 (fun v5 hv5 => ?_)
    refine s_aload_n o dX12_function_103 rfl 0 rfl ?_
    refine r_getf vI rfl o cf_X12_functions (Or.inl (lw_all_tbl q684)) dX12_function_104 (fun v6 hv6 => ?_)
    refine s_aload_n o dX12_function_107 rfl 0 rfl ?_
    refine r_getf vI rfl o cf_X12_place (Or.inl (lw_all_tbl q658)) dX12_function_108 (fun v7 hv7 => ?_)
    refine r_iast o hv6 hv7 dX12_function_111 ?_
    refine s_aload_n o dX12_function_112 rfl 0 rfl ?_
    refine s_cvC (d := d + 608) (As := []) (st := []) (c := 12) o (sc_X12_next (mg Γ) (d + 603) ts l0) mw_X12_next rfl (Or.inl (lw_all_tbl q743)) rfl (lw_all_tbl qs2) (lw_all_tbl q745) wt_0 rfl dX12_function_113 rfl (rs := fun _ => []) (fun _ => rfl) (fun _ _ => ?_)
    refine s_aload_n o dX12_function_116 rfl 0 rfl ?_
    refine r_getf (vA (mg Γ)) rfl o cf_X12_parameters (Or.inl (lw_all_tbl q679)) dX12_function_117 (fun v8 hv8 => ?_)
    refine s_aload_n o dX12_function_120 rfl 0 rfl ?_
    refine r_getf vI rfl o cf_X12_functions (Or.inl (lw_all_tbl q684)) dX12_function_121 (fun v9 hv9 => ?_)
    refine s_aload_n o dX12_function_124 rfl 0 rfl ?_
    refine s_iconst o dX12_function_125 ?_
    refine s_iconst o dX12_function_126 ?_
    refine s_cvC (d := d + 608) (As := [vI 0, vI 0]) (st := [vI v9, vA (mg Γ) v8]) (c := 12) o (sc_X12_row (mg Γ) (d + 602) ts l0 0 0 (r32 rfl) (Or.inl rfl)) mw_X12_row rfl (Or.inl (lw_all_tbl q872)) rfl (lw_all_tbl qs15) (lw_all_tbl q874) (wt_I (wt_A wt_0)) rfl dX12_function_127 rfl (rs := fun r => [vA (mg Γ) r, vI v9, vA (mg Γ) v8]) (fun _ => rfl) (fun v10 hv10 => ?_)
    refine s_aast (kd := 8) o (by decide) (as_8 o) (Or.inr rfl) hv9 dX12_function_130 ?_
    refine s_aload_n o dX12_function_131 rfl 0 rfl ?_
    refine s_ldcS (tx := "=") (k := 8) o (by decide +kernel) rfl (by decide) dX12_function_132 ?_
    refine s_cvC (d := d + 608) (As := [vA (mg Γ) (-8)]) (st := []) (c := 12) o (sc_X12_needSign (mg Γ) (d + 601) ts l0 (-8)) mw_X12_needSign rfl (Or.inl (lw_all_tbl q864)) rfl (lw_all_tbl qs13) (lw_all_tbl q866) wt_0 rfl dX12_function_134 rfl (rs := fun r => [vI r]) (fun _ => rfl) (fun v12 hv12 => ?_)
    refine s_if_ne (tgt := 141) o dX12_function_137 (by decide) (rZ (hv12 _ rfl)) ?_ ?_
    · refine s_aload_n o dX12_function_141 rfl 0 rfl ?_
      refine r_getf (vA (mg Γ)) rfl o cf_X12_bodies (Or.inl (lw_all_tbl q681)) dX12_function_142 (fun v13 hv13 => ?_)
      refine s_aload_n o dX12_function_145 rfl 0 rfl ?_
      refine r_getf vI rfl o cf_X12_functions (Or.inl (lw_all_tbl q684)) dX12_function_146 (fun v14 hv14 => ?_)
      refine s_aload_n o dX12_function_149 rfl 0 rfl ?_
      refine s_cvC (d := d + 608) (As := []) (st := [vI v14, vA (mg Γ) v13]) (c := 12) o (sc_X12_e (mg Γ) d ts l0) mw_X12_e rfl (Or.inl (lw_all_tbl q882)) rfl (lw_all_tbl qs17) (lw_all_tbl q884) (wt_I (wt_A wt_0)) rfl dX12_function_150 rfl (rs := fun r => [vA (mg Γ) r, vI v14, vA (mg Γ) v13]) (fun _ => rfl) (fun v15 hv15 => ?_)
      refine s_aast (kd := 6) o (by decide) (as_6 o) (Or.inl ⟨_, rfl⟩) hv14 dX12_function_153 ?_
      refine s_aload_n o dX12_function_154 rfl 0 rfl ?_
      refine s_dup o dX12_function_155 (vA_cat (mg Γ) l0) ?_
      refine r_getf vI rfl o cf_X12_functions (Or.inl (lw_all_tbl q684)) dX12_function_156 (fun v16 hv16 => ?_)
      refine s_iconst o dX12_function_159 ?_
      refine s_iadd o dX12_function_160 ?_
      refine r_putf vI rfl o cf_X12_functions (Or.inl (lw_all_tbl q684)) dX12_function_161 (Or.inl rfl) (w32_R _) ty_int ?_
      refine s_aload_n o dX12_function_164 rfl 0 rfl ?_
      refine s_ldcS (tx := ";") (k := 7) o (by decide +kernel) rfl (by decide) dX12_function_165 ?_
      refine s_cvC (d := d + 608) (As := [vA (mg Γ) (-7)]) (st := []) (c := 12) o (sc_X12_needSign (mg Γ) (d + 601) ts l0 (-7)) mw_X12_needSign rfl (Or.inl (lw_all_tbl q864)) rfl (lw_all_tbl qs13) (lw_all_tbl q866) wt_0 rfl dX12_function_167 rfl (rs := fun r => [vI r]) (fun _ => rfl) (fun v17 hv17 => ?_)
      refine s_pop o dX12_function_170 rfl ?_
      exact s_vret o rfl dX12_function_171 (fun _ hh => hh)
    · exact s_vret o rfl dX12_function_140 (fun _ hh => hh)
  · exact s_vret o rfl dX12_function_85 (fun _ hh => hh)
noncomputable def c_X12_function (l0 : Int) : Mo CH Int :=
  bnd (gf [112] 4 l0) fun v1 =>
  if v1 = 1 then
    c_X12_function_21
      (fun v2 => bnd (gf [112] 20 v2) fun v3 =>
    if ¬ v3 = 30 then
      c_X12_function_78 v2
    else
      bnd (gf [112] 5 v2) fun v4 =>
      bnd (isk 112 v2) fun _ =>
      bnd (c_X12_fail v2 4 v4) fun v5 =>
      c_X12_function_78 v2) l0 0
  else
    bnd (gf [112] 5 l0) fun v6 =>
    bnd (isk 112 l0) fun _ =>
    bnd (c_X12_fail l0 1 v6) fun v7 =>
    pr 0
theorem sc_X12_function (g : gC) (d : Nat) (ts : TS) (l0 : Int) : SF g yX12_function (Cond.code yX12_function cX12_function 2 (Option.none : Option Jvm.ClassFile.FieldType)) (Option.none : Option Jvm.ClassFile.FieldType) (d + 609) [vA g l0] (fun h => (h, ts)) (c_X12_function l0) := by
  refine SF.of (lv := [(0, vA g l0)]) (by decide) (wt_A wt_0) rfl (by simp only [la_A, la_I, la_J, la_0]) (fun Γ hg hnm o => ?_)
  subst hg
  have o : Ok Γ "LazyForge$Reader" cX12_function 2 (Option.none : Option Jvm.ClassFile.FieldType) (d + 609) := o
  unfold c_X12_function
  refine s_aload_n o dX12_function_0 rfl 0 rfl ?_
  refine r_getf vI rfl o cf_X12_sort (Or.inl (lw_all_tbl q657)) dX12_function_1 (fun v1 hv1 => ?_)
  refine s_iconst o dX12_function_4 ?_
  refine s_icmp_eq (tgt := 19) o dX12_function_5 (by decide) hv1 (r32 rfl) ?_ ?_
  · refine s_iconst o dX12_function_19 ?_
    refine r_istore_n o dX12_function_20 rfl rfl ⟨(Nat.ne_of_beq_eq_false rfl), (fun _ => (vA_cat (mg Γ) l0)), trivial⟩ ?_
    refine r_to [(0, vA (mg Γ) l0), (1, vI 0)] [1, 0] rfl ?_
    refine sc_X12_function_21 o _ ?_ l0 0 (r32 rfl)
    · intro v2
      refine s_aload_n o dX12_function_59 rfl 0 rfl ?_
      refine r_getf vI rfl o cf_X12_functions (Or.inl (lw_all_tbl q684)) dX12_function_60 (fun v3 hv3 => ?_)
      refine s_bipush o dX12_function_63 rfl ?_
      refine s_icmp_ne (tgt := 78) o dX12_function_65 (by decide) hv3 (r32 rfl) ?_ ?_
      · exact sc_X12_function_78 o v2
      · refine s_aload_n o dX12_function_68 rfl 0 rfl ?_
        refine s_iconst o dX12_function_69 ?_
        refine s_aload_n o dX12_function_70 rfl 0 rfl ?_
        refine r_getf vI rfl o cf_X12_place (Or.inl (lw_all_tbl q658)) dX12_function_71 (fun v4 hv4 => ?_)
        refine s_cvC (d := d + 608) (As := [vI 4, vI v4]) (st := []) (c := 12) o (sc_X12_fail (mg Γ) (d + 608) ts v2 4 v4 (r32 rfl) hv4) mw_X12_fail rfl (Or.inl (lw_all_tbl q846)) rfl (lw_all_tbl qs9) (lw_all_tbl q848) wt_0 rfl dX12_function_74 rfl (rs := fun r => [vA (mg Γ) r]) (fun _ => rfl) (fun v5 hv5 => ?_)
        refine s_pop o dX12_function_77 (vA_cat (mg Γ) v5) ?_
        exact sc_X12_function_78 o v2
  · refine s_aload_n o dX12_function_8 rfl 0 rfl ?_
    refine s_iconst o dX12_function_9 ?_
    refine s_aload_n o dX12_function_10 rfl 0 rfl ?_
    refine r_getf vI rfl o cf_X12_place (Or.inl (lw_all_tbl q658)) dX12_function_11 (fun v6 hv6 => ?_)
    refine s_cvC (d := d + 608) (As := [vI 1, vI v6]) (st := []) (c := 12) o (sc_X12_fail (mg Γ) (d + 608) ts l0 1 v6 (r32 rfl) hv6) mw_X12_fail rfl (Or.inl (lw_all_tbl q846)) rfl (lw_all_tbl qs9) (lw_all_tbl q848) wt_0 rfl dX12_function_14 rfl (rs := fun r => [vA (mg Γ) r]) (fun _ => rfl) (fun v7 hv7 => ?_)
    refine s_pop o dX12_function_17 (vA_cat (mg Γ) v7) ?_
    exact s_vret o rfl dX12_function_18 (fun _ hh => hh)
theorem dX12_newConstructor_0 : decode cX12_newConstructor 0 = .ok (.aload_n 0, 1) := by decide +kernel
theorem dX12_newConstructor_1 : decode cX12_newConstructor 1 = .ok (.getfield 15, 3) := by decide +kernel
theorem dX12_newConstructor_4 : decode cX12_newConstructor 4 = .ok (.aload_n 0, 1) := by decide +kernel
theorem dX12_newConstructor_5 : decode cX12_newConstructor 5 = .ok (.getfield 66, 3) := by decide +kernel
theorem dX12_newConstructor_8 : decode cX12_newConstructor 8 = .ok (.lload_n 1, 1) := by decide +kernel
theorem dX12_newConstructor_9 : decode cX12_newConstructor 9 = .ok (.lastore, 1) := by decide +kernel
theorem dX12_newConstructor_10 : decode cX12_newConstructor 10 = .ok (.aload_n 0, 1) := by decide +kernel
theorem dX12_newConstructor_11 : decode cX12_newConstructor 11 = .ok (.getfield 19, 3) := by decide +kernel
theorem dX12_newConstructor_14 : decode cX12_newConstructor 14 = .ok (.aload_n 0, 1) := by decide +kernel
theorem dX12_newConstructor_15 : decode cX12_newConstructor 15 = .ok (.getfield 66, 3) := by decide +kernel
theorem dX12_newConstructor_18 : decode cX12_newConstructor 18 = .ok (.iload_n 3, 1) := by decide +kernel
theorem dX12_newConstructor_19 : decode cX12_newConstructor 19 = .ok (.iastore, 1) := by decide +kernel
theorem dX12_newConstructor_20 : decode cX12_newConstructor 20 = .ok (.aload_n 0, 1) := by decide +kernel
theorem dX12_newConstructor_21 : decode cX12_newConstructor 21 = .ok (.dup, 1) := by decide +kernel
theorem dX12_newConstructor_22 : decode cX12_newConstructor 22 = .ok (.getfield 66, 3) := by decide +kernel
theorem dX12_newConstructor_25 : decode cX12_newConstructor 25 = .ok (.iconst 1, 1) := by decide +kernel
theorem dX12_newConstructor_26 : decode cX12_newConstructor 26 = .ok (.iadd, 1) := by decide +kernel
theorem dX12_newConstructor_27 : decode cX12_newConstructor 27 = .ok (.putfield 66, 3) := by decide +kernel
theorem dX12_newConstructor_30 : decode cX12_newConstructor 30 = .ok (.return_, 1) := by decide +kernel
theorem mw_X12_newConstructor : MW yX12_newConstructor (Cond.code yX12_newConstructor cX12_newConstructor 4 (Option.none : Option Jvm.ClassFile.FieldType)) cX12_newConstructor 4 (Option.none : Option Jvm.ClassFile.FieldType) 2 := ⟨rfl, ⟨(lw_all_tbl q651), rfl, (lw_all_tbl q180)⟩, rfl, ⟨by decide, by decide⟩, by decide +kernel⟩
noncomputable def c_X12_newConstructor (l0 : Int) (l1 : Int) (l3 : Int) : Mo CH Int :=
  bnd (gf [112] 13 l0) fun v1 =>
  bnd (gf [112] 15 l0) fun v2 =>
  bnd (ast 1 v1 v2 l1) fun _ =>
  bnd (gf [112] 14 l0) fun v3 =>
  bnd (gf [112] 15 l0) fun v4 =>
  bnd (ast 0 v3 v4 l3) fun _ =>
  bnd (gf [112] 15 l0) fun v5 =>
  bnd (pf [112] 15 l0 (w32 (v5 + 1))) fun _ =>
  pr 0
theorem sc_X12_newConstructor (g : gC) (d : Nat) (ts : TS) (l0 : Int) (l1 : Int) (l3 : Int) (hl1 : R64 l1) (hl3 : R32 l3) : SF g yX12_newConstructor (Cond.code yX12_newConstructor cX12_newConstructor 4 (Option.none : Option Jvm.ClassFile.FieldType)) (Option.none : Option Jvm.ClassFile.FieldType) (d + 0) [vA g l0, vJ l1, vI l3] (fun h => (h, ts)) (c_X12_newConstructor l0 l1 l3) := by
  refine SF.of (lv := [(0, vA g l0), (1, vJ l1), (3, vI l3)]) (by decide) (wt_A (wt_J (wt_I wt_0))) rfl (by simp only [la_A, la_I, la_J, la_0]) (fun Γ hg hnm o => ?_)
  subst hg
  have o : Ok Γ "LazyForge$Reader" cX12_newConstructor 4 (Option.none : Option Jvm.ClassFile.FieldType) (d + 0) := o
  unfold c_X12_newConstructor
  refine s_aload_n o dX12_newConstructor_0 rfl 0 rfl ?_
  refine r_getf (vA (mg Γ)) rfl o cf_X12_constructors (Or.inl (lw_all_tbl q669)) dX12_newConstructor_1 (fun v1 hv1 => ?_)
  refine s_aload_n o dX12_newConstructor_4 rfl 0 rfl ?_
  refine r_getf vI rfl o cf_X12_constructorCount (Or.inl (lw_all_tbl q673)) dX12_newConstructor_5 (fun v2 hv2 => ?_)
  refine s_lload_n o dX12_newConstructor_8 rfl 1 rfl ?_
  refine r_last o hv2 hl1 dX12_newConstructor_9 ?_
  refine s_aload_n o dX12_newConstructor_10 rfl 0 rfl ?_
  refine r_getf (vA (mg Γ)) rfl o cf_X12_fields (Or.inl (lw_all_tbl q671)) dX12_newConstructor_11 (fun v3 hv3 => ?_)
  refine s_aload_n o dX12_newConstructor_14 rfl 0 rfl ?_
  refine r_getf vI rfl o cf_X12_constructorCount (Or.inl (lw_all_tbl q673)) dX12_newConstructor_15 (fun v4 hv4 => ?_)
  refine s_iload_n o dX12_newConstructor_18 rfl 2 rfl ?_
  refine r_iast o hv4 hl3 dX12_newConstructor_19 ?_
  refine s_aload_n o dX12_newConstructor_20 rfl 0 rfl ?_
  refine s_dup o dX12_newConstructor_21 (vA_cat (mg Γ) l0) ?_
  refine r_getf vI rfl o cf_X12_constructorCount (Or.inl (lw_all_tbl q673)) dX12_newConstructor_22 (fun v5 hv5 => ?_)
  refine s_iconst o dX12_newConstructor_25 ?_
  refine s_iadd o dX12_newConstructor_26 ?_
  refine r_putf vI rfl o cf_X12_constructorCount (Or.inl (lw_all_tbl q673)) dX12_newConstructor_27 (Or.inl rfl) (w32_R _) ty_int ?_
  exact s_vret o rfl dX12_newConstructor_30 (fun _ hh => hh)
theorem dX12_data_0 : decode cX12_data 0 = .ok (.aload_n 0, 1) := by decide +kernel
theorem dX12_data_1 : decode cX12_data 1 = .ok (.invokevirtual 150, 3) := by decide +kernel
theorem dX12_data_4 : decode cX12_data 4 = .ok (.aload_n 0, 1) := by decide +kernel
theorem dX12_data_5 : decode cX12_data 5 = .ok (.getfield 97, 3) := by decide +kernel
theorem dX12_data_8 : decode cX12_data 8 = .ok (.iconst 2, 1) := by decide +kernel
theorem dX12_data_9 : decode cX12_data 9 = .ok (.if_icmp .eq 14, 3) := by decide +kernel
theorem dX12_data_12 : decode cX12_data 12 = .ok (.aload_n 0, 1) := by decide +kernel
theorem dX12_data_13 : decode cX12_data 13 = .ok (.iconst 1, 1) := by decide +kernel
theorem dX12_data_14 : decode cX12_data 14 = .ok (.aload_n 0, 1) := by decide +kernel
theorem dX12_data_15 : decode cX12_data 15 = .ok (.getfield 91, 3) := by decide +kernel
theorem dX12_data_18 : decode cX12_data 18 = .ok (.invokevirtual 140, 3) := by decide +kernel
theorem dX12_data_21 : decode cX12_data 21 = .ok (.pop, 1) := by decide +kernel
theorem dX12_data_22 : decode cX12_data 22 = .ok (.return_, 1) := by decide +kernel
theorem dX12_data_23 : decode cX12_data 23 = .ok (.aload_n 0, 1) := by decide +kernel
theorem dX12_data_24 : decode cX12_data 24 = .ok (.aload_n 0, 1) := by decide +kernel
theorem dX12_data_25 : decode cX12_data 25 = .ok (.getfield 84, 3) := by decide +kernel
theorem dX12_data_28 : decode cX12_data 28 = .ok (.invokevirtual 180, 3) := by decide +kernel
theorem dX12_data_31 : decode cX12_data 31 = .ok (.iconst (-1), 1) := by decide +kernel
theorem dX12_data_32 : decode cX12_data 32 = .ok (.if_icmp .eq 13, 3) := by decide +kernel
theorem dX12_data_35 : decode cX12_data 35 = .ok (.aload_n 0, 1) := by decide +kernel
theorem dX12_data_36 : decode cX12_data 36 = .ok (.iconst 2, 1) := by decide +kernel
theorem dX12_data_37 : decode cX12_data 37 = .ok (.aload_n 0, 1) := by decide +kernel
theorem dX12_data_38 : decode cX12_data 38 = .ok (.getfield 91, 3) := by decide +kernel
theorem dX12_data_41 : decode cX12_data 41 = .ok (.invokevirtual 140, 3) := by decide +kernel
theorem dX12_data_44 : decode cX12_data 44 = .ok (.pop, 1) := by decide +kernel
theorem dX12_data_45 : decode cX12_data 45 = .ok (.aload_n 0, 1) := by decide +kernel
theorem dX12_data_46 : decode cX12_data 46 = .ok (.getfield 66, 3) := by decide +kernel
theorem dX12_data_49 : decode cX12_data 49 = .ok (.bipush 30, 2) := by decide +kernel
theorem dX12_data_51 : decode cX12_data 51 = .ok (.if_icmp .ne 13, 3) := by decide +kernel
theorem dX12_data_54 : decode cX12_data 54 = .ok (.aload_n 0, 1) := by decide +kernel
theorem dX12_data_55 : decode cX12_data 55 = .ok (.iconst 4, 1) := by decide +kernel
theorem dX12_data_56 : decode cX12_data 56 = .ok (.aload_n 0, 1) := by decide +kernel
theorem dX12_data_57 : decode cX12_data 57 = .ok (.getfield 91, 3) := by decide +kernel
theorem dX12_data_60 : decode cX12_data 60 = .ok (.invokevirtual 140, 3) := by decide +kernel
theorem dX12_data_63 : decode cX12_data 63 = .ok (.pop, 1) := by decide +kernel
theorem dX12_data_64 : decode cX12_data 64 = .ok (.aload_n 0, 1) := by decide +kernel
theorem dX12_data_65 : decode cX12_data 65 = .ok (.getfield 84, 3) := by decide +kernel
theorem dX12_data_68 : decode cX12_data 68 = .ok (.lstore_n 1, 1) := by decide +kernel
theorem dX12_data_69 : decode cX12_data 69 = .ok (.aload_n 0, 1) := by decide +kernel
theorem dX12_data_70 : decode cX12_data 70 = .ok (.aload_n 0, 1) := by decide +kernel
theorem dX12_data_71 : decode cX12_data 71 = .ok (.invokevirtual 147, 3) := by decide +kernel
theorem dX12_data_74 : decode cX12_data 74 = .ok (.invokevirtual 157, 3) := by decide +kernel
theorem dX12_data_77 : decode cX12_data 77 = .ok (.ifCond .eq 31, 3) := by decide +kernel
theorem dX12_data_80 : decode cX12_data 80 = .ok (.aload_n 0, 1) := by decide +kernel
theorem dX12_data_81 : decode cX12_data 81 = .ok (.aload_n 0, 1) := by decide +kernel
theorem dX12_data_82 : decode cX12_data 82 = .ok (.getfield 97, 3) := by decide +kernel
theorem dX12_data_85 : decode cX12_data 85 = .ok (.iconst 4, 1) := by decide +kernel
theorem dX12_data_86 : decode cX12_data 86 = .ok (.if_icmp .ne 15, 3) := by decide +kernel
theorem dX12_data_89 : decode cX12_data 89 = .ok (.aload_n 0, 1) := by decide +kernel
theorem dX12_data_90 : decode cX12_data 90 = .ok (.getfield 131, 3) := by decide +kernel
theorem dX12_data_93 : decode cX12_data 93 = .ok (.iconst 4, 1) := by decide +kernel
theorem dX12_data_94 : decode cX12_data 94 = .ok (.if_icmp .gt 7, 3) := by decide +kernel
theorem dX12_data_97 : decode cX12_data 97 = .ok (.iconst 1, 1) := by decide +kernel
theorem dX12_data_98 : decode cX12_data 98 = .ok (.goto 4, 3) := by decide +kernel
theorem dX12_data_101 : decode cX12_data 101 = .ok (.iconst 0, 1) := by decide +kernel
theorem dX12_data_102 : decode cX12_data 102 = .ok (.invokevirtual 157, 3) := by decide +kernel
theorem dX12_data_105 : decode cX12_data 105 = .ok (.ifCond .ne 4, 3) := by decide +kernel
theorem dX12_data_108 : decode cX12_data 108 = .ok (.return_, 1) := by decide +kernel
theorem dX12_data_109 : decode cX12_data 109 = .ok (.aload_n 0, 1) := by decide +kernel
theorem dX12_data_110 : decode cX12_data 110 = .ok (.lload_n 1, 1) := by decide +kernel
theorem dX12_data_111 : decode cX12_data 111 = .ok (.aload_n 0, 1) := by decide +kernel
theorem dX12_data_112 : decode cX12_data 112 = .ok (.getfield 144, 3) := by decide +kernel
theorem dX12_data_115 : decode cX12_data 115 = .ok (.invokevirtual 60, 3) := by decide +kernel
theorem dX12_data_118 : decode cX12_data 118 = .ok (.aload_n 0, 1) := by decide +kernel
theorem dX12_data_119 : decode cX12_data 119 = .ok (.ldc 184, 2) := by decide +kernel
theorem dX12_data_121 : decode cX12_data 121 = .ok (.invokevirtual 153, 3) := by decide +kernel
theorem dX12_data_124 : decode cX12_data 124 = .ok (.ifCond .ne (-124), 3) := by decide +kernel
theorem dX12_data_127 : decode cX12_data 127 = .ok (.aload_n 0, 1) := by decide +kernel
theorem dX12_data_128 : decode cX12_data 128 = .ok (.ldc 186, 2) := by decide +kernel
theorem dX12_data_130 : decode cX12_data 130 = .ok (.invokevirtual 188, 3) := by decide +kernel
theorem dX12_data_133 : decode cX12_data 133 = .ok (.pop, 1) := by decide +kernel
theorem dX12_data_134 : decode cX12_data 134 = .ok (.return_, 1) := by decide +kernel
theorem mw_X12_data : MW yX12_data (Cond.code yX12_data cX12_data 3 (Option.none : Option Jvm.ClassFile.FieldType)) cX12_data 3 (Option.none : Option Jvm.ClassFile.FieldType) 0 := ⟨rfl, ⟨(lw_all_tbl q845), rfl, (lw_all_tbl q180)⟩, rfl, ⟨by decide, by decide⟩, by decide +kernel⟩
abbrev okc_X12_data_0 (x : Int) : Prop := True
abbrev lvc_X12_data_0 (Γ : Gm) (x : Int) : List (Nat × Value) := [(0, vA (mg Γ) x)]
noncomputable def c_X12_data_102 {A : Type} (k_12 : Int → Mo CH A) (k_108 : Mo CH A) (k_127 : Int → Mo CH A) (l0 : Int) (l1 : Int) (k0 : Int) (k1 : Int) : Mo CH ((Int) ⊕ A) :=
  bnd (isk 112 k1) fun _ =>
  bnd (c_X12_need k1 k0) fun v1 =>
  if ¬ v1 = 0 then
    bnd (gf [112] 21 l0) fun v2 =>
    bnd (isk 112 l0) fun _ =>
    bnd (c_X12_newConstructor l0 l1 v2) fun _ =>
    bnd (isk 112 l0) fun _ =>
    bnd (c_X12_isSign l0 (-6)) fun v3 =>
    if ¬ v3 = 0 then
      pr (.inl l0)
    else
      lo (k_127 l0)
  else
    lo k_108
theorem sc_X12_data_102 {Γ : Gm} {ts : TS} {d : Nat} (o : Ok Γ "LazyForge$Reader" cX12_data 3 (Option.none : Option Jvm.ClassFile.FieldType) (d + 8)) {A : Type} {K : A → CH → Prop}  (k_12 : Int → Mo CH A) (k_108 : Mo CH A) (k_127 : Int → Mo CH A) (hk_12 : ∀ (l0 : Int), Sx Γ (fun h => (h, ts)) K 12 [(0, vA (mg Γ) l0)] [] (k_12 l0)) (hk_108 : Sx Γ (fun h => (h, ts)) K 108 [] [] (k_108)) (hk_127 : ∀ (l0 : Int), Sx Γ (fun h => (h, ts)) K 127 [(0, vA (mg Γ) l0)] [] (k_127 l0)) (l0 : Int) (l1 : Int) (k0 : Int) (k1 : Int) (hl1 : R64 l1) (hk0 : rg .boolean k0) : Sx Γ (fun h => (h, ts)) (KL Γ (fun h => (h, ts)) okc_X12_data_0 K 0 (lvc_X12_data_0 Γ) []) 102 [(0, vA (mg Γ) l0), (1, vJ l1)] [vI k0, vA (mg Γ) k1] (c_X12_data_102 k_12 k_108 k_127 l0 l1 k0 k1) := by
  unfold c_X12_data_102
  refine s_cvC (d := d + 7) (As := [vI k0]) (st := []) (c := 12) o (sc_X12_need (mg Γ) (d + 1) ts k1 k0 hk0) mw_X12_need rfl (Or.inl (lw_all_tbl q854)) rfl (lw_all_tbl qs11) (lw_all_tbl q856) wt_0 rfl dX12_data_102 rfl (rs := fun r => [vI r]) (fun _ => rfl) (fun v1 hv1 => ?_)
  refine s_if_ne (tgt := 109) o dX12_data_105 (by decide) (rZ (hv1 _ rfl)) ?_ ?_
  · refine s_aload_n o dX12_data_109 rfl 0 rfl ?_
    refine s_lload_n o dX12_data_110 rfl 1 rfl ?_
    refine s_aload_n o dX12_data_111 rfl 0 rfl ?_
    refine r_getf vI rfl o cf_X12_previous (Or.inl (lw_all_tbl q685)) dX12_data_112 (fun v2 hv2 => ?_)
    refine s_cvC (d := d + 7) (As := [vJ l1, vI v2]) (st := []) (c := 12) o (sc_X12_newConstructor (mg Γ) (d + 7) ts l0 l1 v2 hl1 hv2) mw_X12_newConstructor rfl (Or.inl (lw_all_tbl q648)) rfl (lw_all_tbl qs1) (lw_all_tbl q650) wt_0 rfl dX12_data_115 rfl (rs := fun _ => []) (fun _ => rfl) (fun _ _ => ?_)
    refine s_aload_n o dX12_data_118 rfl 0 rfl ?_
    refine s_ldcS (tx := "|") (k := 6) o (by decide +kernel) rfl (by decide) dX12_data_119 ?_
    refine s_cvC (d := d + 7) (As := [vA (mg Γ) (-6)]) (st := []) (c := 12) o (sc_X12_isSign (mg Γ) (d + 2) ts l0 (-6)) mw_X12_isSign rfl (Or.inl (lw_all_tbl q859)) rfl (lw_all_tbl qs12) (lw_all_tbl q861) wt_0 rfl dX12_data_121 rfl (rs := fun r => [vI r]) (fun _ => rfl) (fun v3 hv3 => ?_)
    refine s_if_ne (tgt := 0) o dX12_data_124 (by decide) (rZ (hv3 _ rfl)) ?_ ?_
    · refine r_to [(0, vA (mg Γ) l0)] [0] rfl ?_
      exact s_back trivial rfl
    · refine r_to [(0, vA (mg Γ) l0)] [0] rfl ?_
      exact s_lo (hk_127 l0)
  · refine r_to [] [] rfl ?_
    exact s_lo hk_108
noncomputable def c_X12_data_101 {A : Type} (k_12 : Int → Mo CH A) (k_108 : Mo CH A) (k_127 : Int → Mo CH A) (l0 : Int) (l1 : Int) (k0 : Int) : Mo CH ((Int) ⊕ A) :=
  c_X12_data_102 k_12 k_108 k_127 l0 l1 0 k0
theorem sc_X12_data_101 {Γ : Gm} {ts : TS} {d : Nat} (o : Ok Γ "LazyForge$Reader" cX12_data 3 (Option.none : Option Jvm.ClassFile.FieldType) (d + 8)) {A : Type} {K : A → CH → Prop}  (k_12 : Int → Mo CH A) (k_108 : Mo CH A) (k_127 : Int → Mo CH A) (hk_12 : ∀ (l0 : Int), Sx Γ (fun h => (h, ts)) K 12 [(0, vA (mg Γ) l0)] [] (k_12 l0)) (hk_108 : Sx Γ (fun h => (h, ts)) K 108 [] [] (k_108)) (hk_127 : ∀ (l0 : Int), Sx Γ (fun h => (h, ts)) K 127 [(0, vA (mg Γ) l0)] [] (k_127 l0)) (l0 : Int) (l1 : Int) (k0 : Int) (hl1 : R64 l1) : Sx Γ (fun h => (h, ts)) (KL Γ (fun h => (h, ts)) okc_X12_data_0 K 0 (lvc_X12_data_0 Γ) []) 101 [(0, vA (mg Γ) l0), (1, vJ l1)] [vA (mg Γ) k0] (c_X12_data_101 k_12 k_108 k_127 l0 l1 k0) := by
  unfold c_X12_data_101
  refine s_iconst o dX12_data_101 ?_
  exact sc_X12_data_102 o k_12 k_108 k_127 hk_12 hk_108 hk_127 l0 l1 0 k0 hl1 (Or.inl rfl)
noncomputable def c_X12_data_64 {A : Type} (k_12 : Int → Mo CH A) (k_108 : Mo CH A) (k_127 : Int → Mo CH A) (l0 : Int) : Mo CH ((Int) ⊕ A) :=
  bnd (gf [112] 8 l0) fun v1 =>
  bnd (isk 112 l0) fun _ =>
  bnd (c_X12_isGood l0) fun v2 =>
  bnd (isk 112 l0) fun _ =>
  bnd (c_X12_need l0 v2) fun v3 =>
  if v3 = 0 then
    lo k_108
  else
    bnd (gf [112] 4 l0) fun v4 =>
    if ¬ v4 = 4 then
      c_X12_data_101 k_12 k_108 k_127 l0 v1 l0
    else
      bnd (gf [112] 6 l0) fun v5 =>
      if 4 < v5 then
        c_X12_data_101 k_12 k_108 k_127 l0 v1 l0
      else
        c_X12_data_102 k_12 k_108 k_127 l0 v1 1 l0
theorem sc_X12_data_64 {Γ : Gm} {ts : TS} {d : Nat} (o : Ok Γ "LazyForge$Reader" cX12_data 3 (Option.none : Option Jvm.ClassFile.FieldType) (d + 8)) {A : Type} {K : A → CH → Prop}  (k_12 : Int → Mo CH A) (k_108 : Mo CH A) (k_127 : Int → Mo CH A) (hk_12 : ∀ (l0 : Int), Sx Γ (fun h => (h, ts)) K 12 [(0, vA (mg Γ) l0)] [] (k_12 l0)) (hk_108 : Sx Γ (fun h => (h, ts)) K 108 [] [] (k_108)) (hk_127 : ∀ (l0 : Int), Sx Γ (fun h => (h, ts)) K 127 [(0, vA (mg Γ) l0)] [] (k_127 l0)) (l0 : Int) : Sx Γ (fun h => (h, ts)) (KL Γ (fun h => (h, ts)) okc_X12_data_0 K 0 (lvc_X12_data_0 Γ) []) 64 [(0, vA (mg Γ) l0)] [] (c_X12_data_64 k_12 k_108 k_127 l0) := by
  unfold c_X12_data_64
  refine s_aload_n o dX12_data_64 rfl 0 rfl ?_
  refine r_getf vJ rfl o cf_X12_word (Or.inl (lw_all_tbl q661)) dX12_data_65 (fun v1 hv1 => ?_)
  refine r_lstore_n o dX12_data_68 rfl rfl ⟨(Nat.ne_of_beq_eq_false rfl), (Nat.ne_of_beq_eq_false rfl), (fun _ => (vA_cat (mg Γ) l0)), trivial⟩ ?_
  refine s_aload_n o dX12_data_69 rfl 1 rfl ?_
  refine s_aload_n o dX12_data_70 rfl 1 rfl ?_
  refine s_cvC (d := d + 7) (As := []) (st := [vA (mg Γ) l0]) (c := 12) o (sc_X12_isGood (mg Γ) (d + 7) ts l0) mw_X12_isGood rfl (Or.inl (lw_all_tbl q833)) rfl (lw_all_tbl qs6) (lw_all_tbl q835) (wt_A wt_0) rfl dX12_data_71 rfl (rs := fun r => [vI r, vA (mg Γ) l0]) (fun _ => rfl) (fun v2 hv2 => ?_)
  refine s_cvC (d := d + 7) (As := [vI v2]) (st := []) (c := 12) o (sc_X12_need (mg Γ) (d + 1) ts l0 v2 (hv2 _ rfl)) mw_X12_need rfl (Or.inl (lw_all_tbl q854)) rfl (lw_all_tbl qs11) (lw_all_tbl q856) wt_0 rfl dX12_data_74 rfl (rs := fun r => [vI r]) (fun _ => rfl) (fun v3 hv3 => ?_)
  refine s_if_eq (tgt := 108) o dX12_data_77 (by decide) (rZ (hv3 _ rfl)) ?_ ?_
  · refine r_to [] [] rfl ?_
    exact s_lo hk_108
  · refine s_aload_n o dX12_data_80 rfl 1 rfl ?_
    refine s_aload_n o dX12_data_81 rfl 1 rfl ?_
    refine r_getf vI rfl o cf_X12_sort (Or.inl (lw_all_tbl q657)) dX12_data_82 (fun v4 hv4 => ?_)
    refine s_iconst o dX12_data_85 ?_
    refine s_icmp_ne (tgt := 101) o dX12_data_86 (by decide) hv4 (r32 rfl) ?_ ?_
    · refine r_to [(0, vA (mg Γ) l0), (1, vJ v1)] [1, 0] rfl ?_
      exact sc_X12_data_101 o k_12 k_108 k_127 hk_12 hk_108 hk_127 l0 v1 l0 hv1
    · refine s_aload_n o dX12_data_89 rfl 1 rfl ?_
      refine r_getf vI rfl o cf_X12_number (Or.inl (lw_all_tbl q659)) dX12_data_90 (fun v5 hv5 => ?_)
      refine s_iconst o dX12_data_93 ?_
      refine s_icmp_gt (tgt := 101) o dX12_data_94 (by decide) hv5 (r32 rfl) ?_ ?_
      · refine r_to [(0, vA (mg Γ) l0), (1, vJ v1)] [1, 0] rfl ?_
        exact sc_X12_data_101 o k_12 k_108 k_127 hk_12 hk_108 hk_127 l0 v1 l0 hv1
      · refine s_iconst o dX12_data_97 ?_
        refine s_goto (tgt := 102) o dX12_data_98 (by decide) ?_
        refine r_to [(0, vA (mg Γ) l0), (1, vJ v1)] [1, 0] rfl ?_
        exact sc_X12_data_102 o k_12 k_108 k_127 hk_12 hk_108 hk_127 l0 v1 1 l0 hv1 (Or.inr rfl)
noncomputable def c_X12_data_45 {A : Type} (k_12 : Int → Mo CH A) (k_108 : Mo CH A) (k_127 : Int → Mo CH A) (l0 : Int) : Mo CH ((Int) ⊕ A) :=
  bnd (gf [112] 15 l0) fun v1 =>
  if ¬ v1 = 30 then
    c_X12_data_64 k_12 k_108 k_127 l0
  else
    bnd (gf [112] 5 l0) fun v2 =>
    bnd (isk 112 l0) fun _ =>
    bnd (c_X12_fail l0 4 v2) fun v3 =>
    c_X12_data_64 k_12 k_108 k_127 l0
theorem sc_X12_data_45 {Γ : Gm} {ts : TS} {d : Nat} (o : Ok Γ "LazyForge$Reader" cX12_data 3 (Option.none : Option Jvm.ClassFile.FieldType) (d + 8)) {A : Type} {K : A → CH → Prop}  (k_12 : Int → Mo CH A) (k_108 : Mo CH A) (k_127 : Int → Mo CH A) (hk_12 : ∀ (l0 : Int), Sx Γ (fun h => (h, ts)) K 12 [(0, vA (mg Γ) l0)] [] (k_12 l0)) (hk_108 : Sx Γ (fun h => (h, ts)) K 108 [] [] (k_108)) (hk_127 : ∀ (l0 : Int), Sx Γ (fun h => (h, ts)) K 127 [(0, vA (mg Γ) l0)] [] (k_127 l0)) (l0 : Int) : Sx Γ (fun h => (h, ts)) (KL Γ (fun h => (h, ts)) okc_X12_data_0 K 0 (lvc_X12_data_0 Γ) []) 45 [(0, vA (mg Γ) l0)] [] (c_X12_data_45 k_12 k_108 k_127 l0) := by
  unfold c_X12_data_45
  refine s_aload_n o dX12_data_45 rfl 0 rfl ?_
  refine r_getf vI rfl o cf_X12_constructorCount (Or.inl (lw_all_tbl q673)) dX12_data_46 (fun v1 hv1 => ?_)
  refine s_bipush o dX12_data_49 rfl ?_
  refine s_icmp_ne (tgt := 64) o dX12_data_51 (by decide) hv1 (r32 rfl) ?_ ?_
  · exact sc_X12_data_64 o k_12 k_108 k_127 hk_12 hk_108 hk_127 l0
  · refine s_aload_n o dX12_data_54 rfl 0 rfl ?_
    refine s_iconst o dX12_data_55 ?_
    refine s_aload_n o dX12_data_56 rfl 0 rfl ?_
    refine r_getf vI rfl o cf_X12_place (Or.inl (lw_all_tbl q658)) dX12_data_57 (fun v2 hv2 => ?_)
    refine s_cvC (d := d + 7) (As := [vI 4, vI v2]) (st := []) (c := 12) o (sc_X12_fail (mg Γ) (d + 7) ts l0 4 v2 (r32 rfl) hv2) mw_X12_fail rfl (Or.inl (lw_all_tbl q846)) rfl (lw_all_tbl qs9) (lw_all_tbl q848) wt_0 rfl dX12_data_60 rfl (rs := fun r => [vA (mg Γ) r]) (fun _ => rfl) (fun v3 hv3 => ?_)
    refine s_pop o dX12_data_63 (vA_cat (mg Γ) v3) ?_
    exact sc_X12_data_64 o k_12 k_108 k_127 hk_12 hk_108 hk_127 l0
noncomputable def c_X12_data_0b {A : Type} (k_12 : Int → Mo CH A) (k_108 : Mo CH A) (k_127 : Int → Mo CH A) (l0 : Int) : Mo CH ((Int) ⊕ A) :=
  bnd (isk 112 l0) fun _ =>
  bnd (c_X12_next l0) fun _ =>
  bnd (gf [112] 4 l0) fun v1 =>
  if v1 = 2 then
    bnd (gf [112] 8 l0) fun v2 =>
    bnd (isk 112 l0) fun _ =>
    bnd (c_X12_constructor l0 v2) fun v3 =>
    if v3 = (-1) then
      c_X12_data_45 k_12 k_108 k_127 l0
    else
      bnd (gf [112] 5 l0) fun v4 =>
      bnd (isk 112 l0) fun _ =>
      bnd (c_X12_fail l0 2 v4) fun v5 =>
      c_X12_data_45 k_12 k_108 k_127 l0
  else
    lo (k_12 l0)
theorem sc_X12_data_0b {Γ : Gm} {ts : TS} {d : Nat} (o : Ok Γ "LazyForge$Reader" cX12_data 3 (Option.none : Option Jvm.ClassFile.FieldType) (d + 8)) {A : Type} {K : A → CH → Prop} (k_12 : Int → Mo CH A) (k_108 : Mo CH A) (k_127 : Int → Mo CH A) (hk_12 : ∀ (l0 : Int), Sx Γ (fun h => (h, ts)) K 12 [(0, vA (mg Γ) l0)] [] (k_12 l0)) (hk_108 : Sx Γ (fun h => (h, ts)) K 108 [] [] (k_108)) (hk_127 : ∀ (l0 : Int), Sx Γ (fun h => (h, ts)) K 127 [(0, vA (mg Γ) l0)] [] (k_127 l0)) (l0 : Int) : Sx Γ (fun h => (h, ts)) (KL Γ (fun h => (h, ts)) okc_X12_data_0 K 0 (lvc_X12_data_0 Γ) []) 0 [(0, vA (mg Γ) l0)] [] (c_X12_data_0b k_12 k_108 k_127 l0) := by
  unfold c_X12_data_0b
  refine s_aload_n o dX12_data_0 rfl 0 rfl ?_
  refine s_cvC (d := d + 7) (As := []) (st := []) (c := 12) o (sc_X12_next (mg Γ) (d + 2) ts l0) mw_X12_next rfl (Or.inl (lw_all_tbl q743)) rfl (lw_all_tbl qs2) (lw_all_tbl q745) wt_0 rfl dX12_data_1 rfl (rs := fun _ => []) (fun _ => rfl) (fun _ _ => ?_)
  refine s_aload_n o dX12_data_4 rfl 0 rfl ?_
  refine r_getf vI rfl o cf_X12_sort (Or.inl (lw_all_tbl q657)) dX12_data_5 (fun v1 hv1 => ?_)
  refine s_iconst o dX12_data_8 ?_
  refine s_icmp_eq (tgt := 23) o dX12_data_9 (by decide) hv1 (r32 rfl) ?_ ?_
  · refine s_aload_n o dX12_data_23 rfl 0 rfl ?_
    refine s_aload_n o dX12_data_24 rfl 0 rfl ?_
    refine r_getf vJ rfl o cf_X12_word (Or.inl (lw_all_tbl q661)) dX12_data_25 (fun v2 hv2 => ?_)
    refine s_cvC (d := d + 7) (As := [vJ v2]) (st := []) (c := 12) o (sc_X12_constructor (mg Γ) (d + 7) ts l0 v2 hv2) mw_X12_constructor rfl (Or.inl (lw_all_tbl q850)) rfl (lw_all_tbl qs10) (lw_all_tbl q852) wt_0 rfl dX12_data_28 rfl (rs := fun r => [vI r]) (fun _ => rfl) (fun v3 hv3 => ?_)
    refine s_iconst o dX12_data_31 ?_
    refine s_icmp_eq (tgt := 45) o dX12_data_32 (by decide) (hv3 _ rfl) (r32 rfl) ?_ ?_
    · exact sc_X12_data_45 o k_12 k_108 k_127 hk_12 hk_108 hk_127 l0
    · refine s_aload_n o dX12_data_35 rfl 0 rfl ?_
      refine s_iconst o dX12_data_36 ?_
      refine s_aload_n o dX12_data_37 rfl 0 rfl ?_
      refine r_getf vI rfl o cf_X12_place (Or.inl (lw_all_tbl q658)) dX12_data_38 (fun v4 hv4 => ?_)
      refine s_cvC (d := d + 7) (As := [vI 2, vI v4]) (st := []) (c := 12) o (sc_X12_fail (mg Γ) (d + 7) ts l0 2 v4 (r32 rfl) hv4) mw_X12_fail rfl (Or.inl (lw_all_tbl q846)) rfl (lw_all_tbl qs9) (lw_all_tbl q848) wt_0 rfl dX12_data_41 rfl (rs := fun r => [vA (mg Γ) r]) (fun _ => rfl) (fun v5 hv5 => ?_)
      refine s_pop o dX12_data_44 (vA_cat (mg Γ) v5) ?_
      exact sc_X12_data_45 o k_12 k_108 k_127 hk_12 hk_108 hk_127 l0
  · exact s_lo (hk_12 l0)
noncomputable def c_X12_data_0 {A : Type} (k_12 : Int → Mo CH A) (k_108 : Mo CH A) (k_127 : Int → Mo CH A) (l0 : Int) : Mo CH A := Loop (fun x => c_X12_data_0b k_12 k_108 k_127 x) l0
theorem sc_X12_data_0 {Γ : Gm} {ts : TS} {d : Nat} (o : Ok Γ "LazyForge$Reader" cX12_data 3 (Option.none : Option Jvm.ClassFile.FieldType) (d + 8)) {A : Type} {K : A → CH → Prop} (k_12 : Int → Mo CH A) (k_108 : Mo CH A) (k_127 : Int → Mo CH A) (hk_12 : ∀ (l0 : Int), Sx Γ (fun h => (h, ts)) K 12 [(0, vA (mg Γ) l0)] [] (k_12 l0)) (hk_108 : Sx Γ (fun h => (h, ts)) K 108 [] [] (k_108)) (hk_127 : ∀ (l0 : Int), Sx Γ (fun h => (h, ts)) K 127 [(0, vA (mg Γ) l0)] [] (k_127 l0)) (l0 : Int) : Sx Γ (fun h => (h, ts)) K 0 [(0, vA (mg Γ) l0)] [] (c_X12_data_0 k_12 k_108 k_127 l0) :=
  s_loop okc_X12_data_0 (lvc_X12_data_0 Γ) (fun x hx => sc_X12_data_0b o k_12 k_108 k_127 hk_12 hk_108 hk_127 x) (x := l0) trivial
noncomputable def c_X12_data (l0 : Int) : Mo CH Int :=
  c_X12_data_0
    (fun v1 => bnd (gf [112] 5 v1) fun v2 =>
  bnd (isk 112 v1) fun _ =>
  bnd (c_X12_fail v1 1 v2) fun v3 =>
  pr 0)
    (pr 0)
    (fun v4 => bnd (isk 112 v4) fun _ =>
  bnd (c_X12_needSign v4 (-7)) fun v5 =>
  pr 0) l0
theorem sc_X12_data (g : gC) (d : Nat) (ts : TS) (l0 : Int) : SF g yX12_data (Cond.code yX12_data cX12_data 3 (Option.none : Option Jvm.ClassFile.FieldType)) (Option.none : Option Jvm.ClassFile.FieldType) (d + 8) [vA g l0] (fun h => (h, ts)) (c_X12_data l0) := by
  refine SF.of (lv := [(0, vA g l0)]) (by decide) (wt_A wt_0) rfl (by simp only [la_A, la_I, la_J, la_0]) (fun Γ hg hnm o => ?_)
  subst hg
  have o : Ok Γ "LazyForge$Reader" cX12_data 3 (Option.none : Option Jvm.ClassFile.FieldType) (d + 8) := o
  unfold c_X12_data
  refine sc_X12_data_0 o _ _ _ ?_ ?_ ?_ l0
  · intro v1
    refine s_aload_n o dX12_data_12 rfl 0 rfl ?_
    refine s_iconst o dX12_data_13 ?_
    refine s_aload_n o dX12_data_14 rfl 0 rfl ?_
    refine r_getf vI rfl o cf_X12_place (Or.inl (lw_all_tbl q658)) dX12_data_15 (fun v2 hv2 => ?_)
    refine s_cvC (d := d + 7) (As := [vI 1, vI v2]) (st := []) (c := 12) o (sc_X12_fail (mg Γ) (d + 7) ts v1 1 v2 (r32 rfl) hv2) mw_X12_fail rfl (Or.inl (lw_all_tbl q846)) rfl (lw_all_tbl qs9) (lw_all_tbl q848) wt_0 rfl dX12_data_18 rfl (rs := fun r => [vA (mg Γ) r]) (fun _ => rfl) (fun v3 hv3 => ?_)
    refine s_pop o dX12_data_21 (vA_cat (mg Γ) v3) ?_
    exact s_vret o rfl dX12_data_22 (fun _ hh => hh)
  · exact s_vret o rfl dX12_data_108 (fun _ hh => hh)
  · intro v4
    refine s_aload_n o dX12_data_127 rfl 0 rfl ?_
    refine s_ldcS (tx := ";") (k := 7) o (by decide +kernel) rfl (by decide) dX12_data_128 ?_
    refine s_cvC (d := d + 7) (As := [vA (mg Γ) (-7)]) (st := []) (c := 12) o (sc_X12_needSign (mg Γ) d ts v4 (-7)) mw_X12_needSign rfl (Or.inl (lw_all_tbl q864)) rfl (lw_all_tbl qs13) (lw_all_tbl q866) wt_0 rfl dX12_data_130 rfl (rs := fun r => [vI r]) (fun _ => rfl) (fun v5 hv5 => ?_)
    refine s_pop o dX12_data_133 rfl ?_
    exact s_vret o rfl dX12_data_134 (fun _ hh => hh)
theorem dX12_read_0 : decode cX12_read 0 = .ok (.aload_n 0, 1) := by decide +kernel
theorem dX12_read_1 : decode cX12_read 1 = .ok (.invokevirtual 150, 3) := by decide +kernel
theorem dX12_read_4 : decode cX12_read 4 = .ok (.aload_n 0, 1) := by decide +kernel
theorem dX12_read_5 : decode cX12_read 5 = .ok (.invokevirtual 147, 3) := by decide +kernel
theorem dX12_read_8 : decode cX12_read 8 = .ok (.ifCond .eq 19, 3) := by decide +kernel
theorem dX12_read_11 : decode cX12_read 11 = .ok (.aload_n 0, 1) := by decide +kernel
theorem dX12_read_12 : decode cX12_read 12 = .ok (.ldc 173, 2) := by decide +kernel
theorem dX12_read_14 : decode cX12_read 14 = .ok (.invokevirtual 161, 3) := by decide +kernel
theorem dX12_read_17 : decode cX12_read 17 = .ok (.ifCond .eq 10, 3) := by decide +kernel
theorem dX12_read_20 : decode cX12_read 20 = .ok (.aload_n 0, 1) := by decide +kernel
theorem dX12_read_21 : decode cX12_read 21 = .ok (.invokevirtual 175, 3) := by decide +kernel
theorem dX12_read_24 : decode cX12_read 24 = .ok (.goto (-20), 3) := by decide +kernel
theorem dX12_read_27 : decode cX12_read 27 = .ok (.aload_n 0, 1) := by decide +kernel
theorem dX12_read_28 : decode cX12_read 28 = .ok (.invokevirtual 177, 3) := by decide +kernel
theorem dX12_read_31 : decode cX12_read 31 = .ok (.aload_n 0, 1) := by decide +kernel
theorem dX12_read_32 : decode cX12_read 32 = .ok (.invokevirtual 147, 3) := by decide +kernel
theorem dX12_read_35 : decode cX12_read 35 = .ok (.ifCond .eq 10, 3) := by decide +kernel
theorem dX12_read_38 : decode cX12_read 38 = .ok (.aload_n 0, 1) := by decide +kernel
theorem dX12_read_39 : decode cX12_read 39 = .ok (.getfield 97, 3) := by decide +kernel
theorem dX12_read_42 : decode cX12_read 42 = .ok (.ifCond .ne (-15), 3) := by decide +kernel
theorem dX12_read_45 : decode cX12_read 45 = .ok (.aload_n 0, 1) := by decide +kernel
theorem dX12_read_46 : decode cX12_read 46 = .ok (.invokevirtual 147, 3) := by decide +kernel
theorem dX12_read_49 : decode cX12_read 49 = .ok (.ireturn, 1) := by decide +kernel
theorem mw_X12_read : MW yX12_read (Cond.code yX12_read cX12_read 1 (Option.some Jvm.ClassFile.FieldType.boolean)) cX12_read 1 (Option.some Jvm.ClassFile.FieldType.boolean) 0 := ⟨rfl, ⟨(lw_all_tbl q742), rfl, (lw_all_tbl q180)⟩, rfl, ⟨by decide, by decide⟩, by decide +kernel⟩
abbrev okc_X12_read_27 (x : Int) : Prop := True
abbrev lvc_X12_read_27 (Γ : Gm) (x : Int) : List (Nat × Value) := [(0, vA (mg Γ) x)]
noncomputable def c_X12_read_27b {A : Type} (k_45 : Int → Mo CH A) (l0 : Int) : Mo CH ((Int) ⊕ A) :=
  bnd (isk 112 l0) fun _ =>
  bnd (c_X12_function l0) fun _ =>
  bnd (isk 112 l0) fun _ =>
  bnd (c_X12_isGood l0) fun v1 =>
  if v1 = 0 then
    lo (k_45 l0)
  else
    bnd (gf [112] 4 l0) fun v2 =>
    if ¬ v2 = 0 then
      pr (.inl l0)
    else
      lo (k_45 l0)
theorem sc_X12_read_27b {Γ : Gm} {ts : TS} {d : Nat} (o : Ok Γ "LazyForge$Reader" cX12_read 1 (Option.some Jvm.ClassFile.FieldType.boolean) (d + 610)) {A : Type} {K : A → CH → Prop} (k_45 : Int → Mo CH A) (hk_45 : ∀ (l0 : Int), Sx Γ (fun h => (h, ts)) K 45 [(0, vA (mg Γ) l0)] [] (k_45 l0)) (l0 : Int) : Sx Γ (fun h => (h, ts)) (KL Γ (fun h => (h, ts)) okc_X12_read_27 K 27 (lvc_X12_read_27 Γ) []) 27 [(0, vA (mg Γ) l0)] [] (c_X12_read_27b k_45 l0) := by
  unfold c_X12_read_27b
  refine s_aload_n o dX12_read_27 rfl 0 rfl ?_
  refine s_cvC (d := d + 609) (As := []) (st := []) (c := 12) o (sc_X12_function (mg Γ) d ts l0) mw_X12_function rfl (Or.inl (lw_all_tbl q868)) rfl (lw_all_tbl qs14) (lw_all_tbl q870) wt_0 rfl dX12_read_28 rfl (rs := fun _ => []) (fun _ => rfl) (fun _ _ => ?_)
  refine s_aload_n o dX12_read_31 rfl 0 rfl ?_
  refine s_cvC (d := d + 609) (As := []) (st := []) (c := 12) o (sc_X12_isGood (mg Γ) (d + 609) ts l0) mw_X12_isGood rfl (Or.inl (lw_all_tbl q833)) rfl (lw_all_tbl qs6) (lw_all_tbl q835) wt_0 rfl dX12_read_32 rfl (rs := fun r => [vI r]) (fun _ => rfl) (fun v1 hv1 => ?_)
  refine s_if_eq (tgt := 45) o dX12_read_35 (by decide) (rZ (hv1 _ rfl)) ?_ ?_
  · exact s_lo (hk_45 l0)
  · refine s_aload_n o dX12_read_38 rfl 0 rfl ?_
    refine r_getf vI rfl o cf_X12_sort (Or.inl (lw_all_tbl q657)) dX12_read_39 (fun v2 hv2 => ?_)
    refine s_if_ne (tgt := 27) o dX12_read_42 (by decide) hv2 ?_ ?_
    · exact s_back trivial rfl
    · exact s_lo (hk_45 l0)
noncomputable def c_X12_read_27 {A : Type} (k_45 : Int → Mo CH A) (l0 : Int) : Mo CH A := Loop (fun x => c_X12_read_27b k_45 x) l0
theorem sc_X12_read_27 {Γ : Gm} {ts : TS} {d : Nat} (o : Ok Γ "LazyForge$Reader" cX12_read 1 (Option.some Jvm.ClassFile.FieldType.boolean) (d + 610)) {A : Type} {K : A → CH → Prop} (k_45 : Int → Mo CH A) (hk_45 : ∀ (l0 : Int), Sx Γ (fun h => (h, ts)) K 45 [(0, vA (mg Γ) l0)] [] (k_45 l0)) (l0 : Int) : Sx Γ (fun h => (h, ts)) K 27 [(0, vA (mg Γ) l0)] [] (c_X12_read_27 k_45 l0) :=
  s_loop okc_X12_read_27 (lvc_X12_read_27 Γ) (fun x hx => sc_X12_read_27b o k_45 hk_45 x) (x := l0) trivial
abbrev okc_X12_read_4 (x : Int) : Prop := True
abbrev lvc_X12_read_4 (Γ : Gm) (x : Int) : List (Nat × Value) := [(0, vA (mg Γ) x)]
noncomputable def c_X12_read_4b {A : Type} (k_27 : Int → Mo CH A) (l0 : Int) : Mo CH ((Int) ⊕ A) :=
  bnd (isk 112 l0) fun _ =>
  bnd (c_X12_isGood l0) fun v1 =>
  if v1 = 0 then
    lo (k_27 l0)
  else
    bnd (isk 112 l0) fun _ =>
    bnd (c_X12_isKeyword l0 (-5)) fun v2 =>
    if v2 = 0 then
      lo (k_27 l0)
    else
      bnd (isk 112 l0) fun _ =>
      bnd (c_X12_data l0) fun _ =>
      pr (.inl l0)
theorem sc_X12_read_4b {Γ : Gm} {ts : TS} {d : Nat} (o : Ok Γ "LazyForge$Reader" cX12_read 1 (Option.some Jvm.ClassFile.FieldType.boolean) (d + 610)) {A : Type} {K : A → CH → Prop} (k_27 : Int → Mo CH A) (hk_27 : ∀ (l0 : Int), Sx Γ (fun h => (h, ts)) K 27 [(0, vA (mg Γ) l0)] [] (k_27 l0)) (l0 : Int) : Sx Γ (fun h => (h, ts)) (KL Γ (fun h => (h, ts)) okc_X12_read_4 K 4 (lvc_X12_read_4 Γ) []) 4 [(0, vA (mg Γ) l0)] [] (c_X12_read_4b k_27 l0) := by
  unfold c_X12_read_4b
  refine s_aload_n o dX12_read_4 rfl 0 rfl ?_
  refine s_cvC (d := d + 609) (As := []) (st := []) (c := 12) o (sc_X12_isGood (mg Γ) (d + 609) ts l0) mw_X12_isGood rfl (Or.inl (lw_all_tbl q833)) rfl (lw_all_tbl qs6) (lw_all_tbl q835) wt_0 rfl dX12_read_5 rfl (rs := fun r => [vI r]) (fun _ => rfl) (fun v1 hv1 => ?_)
  refine s_if_eq (tgt := 27) o dX12_read_8 (by decide) (rZ (hv1 _ rfl)) ?_ ?_
  · exact s_lo (hk_27 l0)
  · refine s_aload_n o dX12_read_11 rfl 0 rfl ?_
    refine s_ldcS (tx := "data") (k := 5) o (by decide +kernel) rfl (by decide) dX12_read_12 ?_
    refine s_cvC (d := d + 609) (As := [vA (mg Γ) (-5)]) (st := []) (c := 12) o (sc_X12_isKeyword (mg Γ) (d + 604) ts l0 (-5)) mw_X12_isKeyword rfl (Or.inl (lw_all_tbl q838)) rfl (lw_all_tbl qs7) (lw_all_tbl q840) wt_0 rfl dX12_read_14 rfl (rs := fun r => [vI r]) (fun _ => rfl) (fun v2 hv2 => ?_)
    refine s_if_eq (tgt := 27) o dX12_read_17 (by decide) (rZ (hv2 _ rfl)) ?_ ?_
    · exact s_lo (hk_27 l0)
    · refine s_aload_n o dX12_read_20 rfl 0 rfl ?_
      refine s_cvC (d := d + 609) (As := []) (st := []) (c := 12) o (sc_X12_data (mg Γ) (d + 601) ts l0) mw_X12_data rfl (Or.inl (lw_all_tbl q842)) rfl (lw_all_tbl qs8) (lw_all_tbl q844) wt_0 rfl dX12_read_21 rfl (rs := fun _ => []) (fun _ => rfl) (fun _ _ => ?_)
      refine s_goto (tgt := 4) o dX12_read_24 (by decide) ?_
      exact s_back trivial rfl
noncomputable def c_X12_read_4 {A : Type} (k_27 : Int → Mo CH A) (l0 : Int) : Mo CH A := Loop (fun x => c_X12_read_4b k_27 x) l0
theorem sc_X12_read_4 {Γ : Gm} {ts : TS} {d : Nat} (o : Ok Γ "LazyForge$Reader" cX12_read 1 (Option.some Jvm.ClassFile.FieldType.boolean) (d + 610)) {A : Type} {K : A → CH → Prop} (k_27 : Int → Mo CH A) (hk_27 : ∀ (l0 : Int), Sx Γ (fun h => (h, ts)) K 27 [(0, vA (mg Γ) l0)] [] (k_27 l0)) (l0 : Int) : Sx Γ (fun h => (h, ts)) K 4 [(0, vA (mg Γ) l0)] [] (c_X12_read_4 k_27 l0) :=
  s_loop okc_X12_read_4 (lvc_X12_read_4 Γ) (fun x hx => sc_X12_read_4b o k_27 hk_27 x) (x := l0) trivial
noncomputable def c_X12_read_27p  (l0 : Int) : Mo CH Int :=
  c_X12_read_27
    (fun v1 => bnd (isk 112 v1) fun _ =>
  bnd (c_X12_isGood v1) fun v2 =>
  pr v2) l0
theorem sc_X12_read_27p {Γ : Gm} {ts : TS} {d : Nat} (o : Ok Γ "LazyForge$Reader" cX12_read 1 (Option.some Jvm.ClassFile.FieldType.boolean) (d + 610))   (l0 : Int) : Sx Γ (fun h => (h, ts)) (fun a s => mt Γ = (0, a, ((s, ts) : Wd))) 27 [(0, vA (mg Γ) l0)] [] (c_X12_read_27p l0) := by
  unfold c_X12_read_27p
  refine sc_X12_read_27 o _ ?_ l0
  · intro v1
    refine s_aload_n o dX12_read_45 rfl 0 rfl ?_
    refine s_cvC (d := d + 609) (As := []) (st := []) (c := 12) o (sc_X12_isGood (mg Γ) (d + 609) ts v1) mw_X12_isGood rfl (Or.inl (lw_all_tbl q833)) rfl (lw_all_tbl qs6) (lw_all_tbl q835) wt_0 rfl dX12_read_46 rfl (rs := fun r => [vI r]) (fun _ => rfl) (fun v2 hv2 => ?_)
    exact s_iret o rfl i_boolean (hv2 _ rfl) dX12_read_49 (fun _ hh => hh)
noncomputable def c_X12_read (l0 : Int) : Mo CH Int :=
  bnd (isk 112 l0) fun _ =>
  bnd (c_X12_next l0) fun _ =>
  c_X12_read_4
    (fun v1 => c_X12_read_27p v1) l0
theorem sc_X12_read (g : gC) (d : Nat) (ts : TS) (l0 : Int) : SF g yX12_read (Cond.code yX12_read cX12_read 1 (Option.some Jvm.ClassFile.FieldType.boolean)) (Option.some Jvm.ClassFile.FieldType.boolean) (d + 610) [vA g l0] (fun h => (h, ts)) (c_X12_read l0) := by
  refine SF.of (lv := [(0, vA g l0)]) (by decide) (wt_A wt_0) rfl (by simp only [la_A, la_I, la_J, la_0]) (fun Γ hg hnm o => ?_)
  subst hg
  have o : Ok Γ "LazyForge$Reader" cX12_read 1 (Option.some Jvm.ClassFile.FieldType.boolean) (d + 610) := o
  unfold c_X12_read
  refine s_aload_n o dX12_read_0 rfl 0 rfl ?_
  refine s_cvC (d := d + 609) (As := []) (st := []) (c := 12) o (sc_X12_next (mg Γ) (d + 604) ts l0) mw_X12_next rfl (Or.inl (lw_all_tbl q743)) rfl (lw_all_tbl qs2) (lw_all_tbl q745) wt_0 rfl dX12_read_1 rfl (rs := fun _ => []) (fun _ => rfl) (fun _ _ => ?_)
  refine sc_X12_read_4 o _ ?_ l0
  · intro v1
    exact sc_X12_read_27p o v1

/-! PRINTED: the loop of the law -/
set_option maxRecDepth 100000
theorem mww_X0_put : MWW yX0_put (Cond.codeWith yX0_put cX0_put 4 (Option.some Jvm.ClassFile.FieldType.int) [(0, 9, 12, 13), (0, 9, 15, 15)]) cX0_put 4 (Option.some Jvm.ClassFile.FieldType.int) [(0, 9, 12, 13), (0, 9, 15, 15)] 3 := ⟨rfl, ⟨(lw_all_tbl q484), rfl, (lw_all_tbl q162)⟩, rfl, ⟨by decide, by decide⟩, by decide +kernel⟩
theorem mww_X0_end : MWW yX0_end (Cond.codeWith yX0_end cX0_end 3 (Option.some Jvm.ClassFile.FieldType.int) [(0, 5, 8, 13)]) cX0_end 3 (Option.some Jvm.ClassFile.FieldType.int) [(0, 5, 8, 13)] 2 := ⟨rfl, ⟨(lw_all_tbl q574), rfl, (lw_all_tbl q162)⟩, rfl, ⟨by decide, by decide⟩, by decide +kernel⟩
theorem mww_X0_program : MWW yX0_program (Cond.codeWith yX0_program cX0_program 3 (Option.some Jvm.ClassFile.FieldType.int) [(0, 8, 11, 15)]) cX0_program 3 (Option.some Jvm.ClassFile.FieldType.int) [(0, 8, 11, 15)] 2 := ⟨rfl, ⟨(lw_all_tbl q581), rfl, (lw_all_tbl q162)⟩, rfl, ⟨by decide, by decide⟩, by decide +kernel⟩
theorem mww_X0_fault : MWW yX0_fault (Cond.codeWith yX0_fault cX0_fault 4 (Option.some Jvm.ClassFile.FieldType.int) [(0, 9, 12, 13)]) cX0_fault 4 (Option.some Jvm.ClassFile.FieldType.int) [(0, 9, 12, 13)] 3 := ⟨rfl, ⟨(lw_all_tbl q1896), rfl, (lw_all_tbl q162)⟩, rfl, ⟨by decide, by decide⟩, by decide +kernel⟩
theorem mww_X0_write : MWW yX0_write (Cond.codeWith yX0_write cX0_write 3 (Option.some Jvm.ClassFile.FieldType.int) [(0, 8, 11, 31)]) cX0_write 3 (Option.some Jvm.ClassFile.FieldType.int) [(0, 8, 11, 31)] 2 := ⟨rfl, ⟨(lw_all_tbl q1903), rfl, (lw_all_tbl q162)⟩, rfl, ⟨by decide, by decide⟩, by decide +kernel⟩
theorem mww_X0_letter : MWW yX0_letter (Cond.codeWith yX0_letter cX0_letter 4 (Option.some Jvm.ClassFile.FieldType.int) [(0, 9, 12, 36)]) cX0_letter 4 (Option.some Jvm.ClassFile.FieldType.int) [(0, 9, 12, 36)] 3 := ⟨rfl, ⟨(lw_all_tbl q2060), rfl, (lw_all_tbl q162)⟩, rfl, ⟨by decide, by decide⟩, by decide +kernel⟩
theorem mww_X0_function : MWW yX0_function (Cond.codeWith yX0_function cX0_function 5 (Option.some Jvm.ClassFile.FieldType.int) [(0, 10, 13, 31), (0, 10, 17, 36), (0, 10, 21, 13)]) cX0_function 5 (Option.some Jvm.ClassFile.FieldType.int) [(0, 10, 13, 31), (0, 10, 17, 36), (0, 10, 21, 13)] 4 := ⟨rfl, ⟨(lw_all_tbl q2114), rfl, (lw_all_tbl q162)⟩, rfl, ⟨by decide, by decide⟩, by decide +kernel⟩
theorem mww_X0_needs : MWW yX0_needs (Cond.codeWith yX0_needs cX0_needs 5 (Option.some Jvm.ClassFile.FieldType.int) [(0, 17, 20, 31), (0, 17, 24, 36)]) cX0_needs 5 (Option.some Jvm.ClassFile.FieldType.int) [(0, 17, 20, 31), (0, 17, 24, 36)] 4 := ⟨rfl, ⟨(lw_all_tbl q2126), rfl, (lw_all_tbl q162)⟩, rfl, ⟨by decide, by decide⟩, by decide +kernel⟩
theorem mww_X0_bit : MWW yX0_bit (Cond.codeWith yX0_bit cX0_bit 5 (Option.some Jvm.ClassFile.FieldType.int) [(0, 10, 13, 31), (0, 10, 17, 36), (0, 10, 21, 13)]) cX0_bit 5 (Option.some Jvm.ClassFile.FieldType.int) [(0, 10, 13, 31), (0, 10, 17, 36), (0, 10, 21, 13)] 4 := ⟨rfl, ⟨(lw_all_tbl q2137), rfl, (lw_all_tbl q162)⟩, rfl, ⟨by decide, by decide⟩, by decide +kernel⟩
theorem mww_X0_run : MWW yX0_run (Cond.codeWith yX0_run cX0_run 5 (Option.some Jvm.ClassFile.FieldType.int) [(0, 10, 13, 31), (0, 10, 17, 13), (0, 10, 21, 15)]) cX0_run 5 (Option.some Jvm.ClassFile.FieldType.int) [(0, 10, 13, 31), (0, 10, 17, 13), (0, 10, 21, 15)] 4 := ⟨rfl, ⟨(lw_all_tbl q2144), rfl, (lw_all_tbl q162)⟩, rfl, ⟨by decide, by decide⟩, by decide +kernel⟩
theorem mww_X0_result : MWW yX0_result (Cond.codeWith yX0_result cX0_result 4 (Option.some Jvm.ClassFile.FieldType.int) [(0, 9, 12, 13)]) cX0_result 4 (Option.some Jvm.ClassFile.FieldType.int) [(0, 9, 12, 13)] 3 := ⟨rfl, ⟨(lw_all_tbl q2468), rfl, (lw_all_tbl q162)⟩, rfl, ⟨by decide, by decide⟩, by decide +kernel⟩
theorem mww_X0_number : MWW yX0_number (Cond.codeWith yX0_number cX0_number 4 (Option.some Jvm.ClassFile.FieldType.int) [(0, 9, 12, 36)]) cX0_number 4 (Option.some Jvm.ClassFile.FieldType.int) [(0, 9, 12, 36)] 3 := ⟨rfl, ⟨(lw_all_tbl q2475), rfl, (lw_all_tbl q162)⟩, rfl, ⟨by decide, by decide⟩, by decide +kernel⟩
theorem mww_X0_called : MWW yX0_called (Cond.codeWith yX0_called cX0_called 4 (Option.some Jvm.ClassFile.FieldType.int) [(0, 9, 12, 31), (0, 9, 15, 36)]) cX0_called 4 (Option.some Jvm.ClassFile.FieldType.int) [(0, 9, 12, 31), (0, 9, 15, 36)] 3 := ⟨rfl, ⟨(lw_all_tbl q2482), rfl, (lw_all_tbl q162)⟩, rfl, ⟨by decide, by decide⟩, by decide +kernel⟩
theorem mww_X0_about : MWW yX0_about (Cond.codeWith yX0_about cX0_about 4 (Option.some Jvm.ClassFile.FieldType.int) [(0, 9, 12, 13)]) cX0_about 4 (Option.some Jvm.ClassFile.FieldType.int) [(0, 9, 12, 13)] 3 := ⟨rfl, ⟨(lw_all_tbl q2489), rfl, (lw_all_tbl q162)⟩, rfl, ⟨by decide, by decide⟩, by decide +kernel⟩
theorem dL_law_0 : decode cL_law 0 = .ok (.new 8, 3) := by decide +kernel
theorem dL_law_3 : decode cL_law 3 = .ok (.dup, 1) := by decide +kernel
theorem dL_law_4 : decode cL_law 4 = .ok (.invokespecial 65, 3) := by decide +kernel
theorem dL_law_7 : decode cL_law 7 = .ok (.astore_n 1, 1) := by decide +kernel
theorem dL_law_8 : decode cL_law 8 = .ok (.new 66, 3) := by decide +kernel
theorem dL_law_11 : decode cL_law 11 = .ok (.dup, 1) := by decide +kernel
theorem dL_law_12 : decode cL_law 12 = .ok (.invokespecial 68, 3) := by decide +kernel
theorem dL_law_15 : decode cL_law 15 = .ok (.astore_n 2, 1) := by decide +kernel
theorem dL_law_16 : decode cL_law 16 = .ok (.iconst 1, 1) := by decide +kernel
theorem dL_law_17 : decode cL_law 17 = .ok (.newarray .long, 2) := by decide +kernel
theorem dL_law_19 : decode cL_law 19 = .ok (.astore_n 3, 1) := by decide +kernel
theorem dL_law_20 : decode cL_law 20 = .ok (.iconst 0, 1) := by decide +kernel
theorem dL_law_21 : decode cL_law 21 = .ok (.istore 4, 2) := by decide +kernel
theorem dL_law_23 : decode cL_law 23 = .ok (.iload 4, 2) := by decide +kernel
theorem dL_law_25 : decode cL_law 25 = .ok (.aload_n 0, 1) := by decide +kernel
theorem dL_law_26 : decode cL_law 26 = .ok (.arraylength, 1) := by decide +kernel
theorem dL_law_27 : decode cL_law 27 = .ok (.iconst 3, 1) := by decide +kernel
theorem dL_law_28 : decode cL_law 28 = .ok (.isub, 1) := by decide +kernel
theorem dL_law_29 : decode cL_law 29 = .ok (.if_icmp .gt 913, 3) := by decide +kernel
theorem dL_law_32 : decode cL_law 32 = .ok (.aload_n 0, 1) := by decide +kernel
theorem dL_law_33 : decode cL_law 33 = .ok (.iload 4, 2) := by decide +kernel
theorem dL_law_35 : decode cL_law 35 = .ok (.iaload, 1) := by decide +kernel
theorem dL_law_36 : decode cL_law 36 = .ok (.bipush 15, 2) := by decide +kernel
theorem dL_law_38 : decode cL_law 38 = .ok (.iand, 1) := by decide +kernel
theorem dL_law_39 : decode cL_law 39 = .ok (.tableswitch 897 0 14 #[73, 129, 165, 178, 222, 278, 322, 378, 446, 521, 589, 673, 729, 785, 841], 73) := by decide +kernel
theorem dL_law_112 : decode cL_law 112 = .ok (.aload_n 1, 1) := by decide +kernel
theorem dL_law_113 : decode cL_law 113 = .ok (.aload_n 0, 1) := by decide +kernel
theorem dL_law_114 : decode cL_law 114 = .ok (.iload 4, 2) := by decide +kernel
theorem dL_law_116 : decode cL_law 116 = .ok (.iconst 1, 1) := by decide +kernel
theorem dL_law_117 : decode cL_law 117 = .ok (.iadd, 1) := by decide +kernel
theorem dL_law_118 : decode cL_law 118 = .ok (.iaload, 1) := by decide +kernel
theorem dL_law_119 : decode cL_law 119 = .ok (.aload_n 3, 1) := by decide +kernel
theorem dL_law_120 : decode cL_law 120 = .ok (.invokestatic 69, 3) := by decide +kernel
theorem dL_law_123 : decode cL_law 123 = .ok (.istore 5, 2) := by decide +kernel
theorem dL_law_125 : decode cL_law 125 = .ok (.aload_n 2, 1) := by decide +kernel
theorem dL_law_126 : decode cL_law 126 = .ok (.aload_n 0, 1) := by decide +kernel
theorem dL_law_127 : decode cL_law 127 = .ok (.iload 4, 2) := by decide +kernel
theorem dL_law_129 : decode cL_law 129 = .ok (.iconst 1, 1) := by decide +kernel
theorem dL_law_130 : decode cL_law 130 = .ok (.iadd, 1) := by decide +kernel
theorem dL_law_131 : decode cL_law 131 = .ok (.iaload, 1) := by decide +kernel
theorem dL_law_132 : decode cL_law 132 = .ok (.invokevirtual 74, 3) := by decide +kernel
theorem dL_law_135 : decode cL_law 135 = .ok (.istore 6, 2) := by decide +kernel
theorem dL_law_137 : decode cL_law 137 = .ok (.aload_n 2, 1) := by decide +kernel
theorem dL_law_138 : decode cL_law 138 = .ok (.invokevirtual 75, 3) := by decide +kernel
theorem dL_law_141 : decode cL_law 141 = .ok (.iload 5, 2) := by decide +kernel
theorem dL_law_143 : decode cL_law 143 = .ok (.if_icmp .eq 5, 3) := by decide +kernel
theorem dL_law_146 : decode cL_law 146 = .ok (.iconst 0, 1) := by decide +kernel
theorem dL_law_147 : decode cL_law 147 = .ok (.ireturn, 1) := by decide +kernel
theorem dL_law_148 : decode cL_law 148 = .ok (.iload 5, 2) := by decide +kernel
theorem dL_law_150 : decode cL_law 150 = .ok (.ifCond .ne 15, 3) := by decide +kernel
theorem dL_law_153 : decode cL_law 153 = .ok (.aload_n 3, 1) := by decide +kernel
theorem dL_law_154 : decode cL_law 154 = .ok (.iconst 0, 1) := by decide +kernel
theorem dL_law_155 : decode cL_law 155 = .ok (.laload, 1) := by decide +kernel
theorem dL_law_156 : decode cL_law 156 = .ok (.iload 6, 2) := by decide +kernel
theorem dL_law_158 : decode cL_law 158 = .ok (.i2l, 1) := by decide +kernel
theorem dL_law_159 : decode cL_law 159 = .ok (.lcmp, 1) := by decide +kernel
theorem dL_law_160 : decode cL_law 160 = .ok (.ifCond .eq 5, 3) := by decide +kernel
theorem dL_law_163 : decode cL_law 163 = .ok (.iconst 0, 1) := by decide +kernel
theorem dL_law_164 : decode cL_law 164 = .ok (.ireturn, 1) := by decide +kernel
theorem dL_law_165 : decode cL_law 165 = .ok (.goto 771, 3) := by decide +kernel
theorem dL_law_168 : decode cL_law 168 = .ok (.aload_n 1, 1) := by decide +kernel
theorem dL_law_169 : decode cL_law 169 = .ok (.aload_n 0, 1) := by decide +kernel
theorem dL_law_170 : decode cL_law 170 = .ok (.iload 4, 2) := by decide +kernel
theorem dL_law_172 : decode cL_law 172 = .ok (.iconst 1, 1) := by decide +kernel
theorem dL_law_173 : decode cL_law 173 = .ok (.iadd, 1) := by decide +kernel
theorem dL_law_174 : decode cL_law 174 = .ok (.iaload, 1) := by decide +kernel
theorem dL_law_175 : decode cL_law 175 = .ok (.invokestatic 78, 3) := by decide +kernel
theorem dL_law_178 : decode cL_law 178 = .ok (.istore 5, 2) := by decide +kernel
theorem dL_law_180 : decode cL_law 180 = .ok (.aload_n 2, 1) := by decide +kernel
theorem dL_law_181 : decode cL_law 181 = .ok (.aload_n 0, 1) := by decide +kernel
theorem dL_law_182 : decode cL_law 182 = .ok (.iload 4, 2) := by decide +kernel
theorem dL_law_184 : decode cL_law 184 = .ok (.iconst 1, 1) := by decide +kernel
theorem dL_law_185 : decode cL_law 185 = .ok (.iadd, 1) := by decide +kernel
theorem dL_law_186 : decode cL_law 186 = .ok (.iaload, 1) := by decide +kernel
theorem dL_law_187 : decode cL_law 187 = .ok (.invokevirtual 81, 3) := by decide +kernel
theorem dL_law_190 : decode cL_law 190 = .ok (.aload_n 2, 1) := by decide +kernel
theorem dL_law_191 : decode cL_law 191 = .ok (.invokevirtual 75, 3) := by decide +kernel
theorem dL_law_194 : decode cL_law 194 = .ok (.iload 5, 2) := by decide +kernel
theorem dL_law_196 : decode cL_law 196 = .ok (.if_icmp .eq 5, 3) := by decide +kernel
theorem dL_law_199 : decode cL_law 199 = .ok (.iconst 0, 1) := by decide +kernel
theorem dL_law_200 : decode cL_law 200 = .ok (.ireturn, 1) := by decide +kernel
theorem dL_law_201 : decode cL_law 201 = .ok (.goto 735, 3) := by decide +kernel
theorem dL_law_204 : decode cL_law 204 = .ok (.aload_n 1, 1) := by decide +kernel
theorem dL_law_205 : decode cL_law 205 = .ok (.invokevirtual 82, 3) := by decide +kernel
theorem dL_law_208 : decode cL_law 208 = .ok (.aload_n 2, 1) := by decide +kernel
theorem dL_law_209 : decode cL_law 209 = .ok (.invokevirtual 85, 3) := by decide +kernel
theorem dL_law_212 : decode cL_law 212 = .ok (.if_icmp .eq 724, 3) := by decide +kernel
theorem dL_law_215 : decode cL_law 215 = .ok (.iconst 0, 1) := by decide +kernel
theorem dL_law_216 : decode cL_law 216 = .ok (.ireturn, 1) := by decide +kernel
theorem dL_law_217 : decode cL_law 217 = .ok (.aload_n 1, 1) := by decide +kernel
theorem dL_law_218 : decode cL_law 218 = .ok (.aload_n 3, 1) := by decide +kernel
theorem dL_law_219 : decode cL_law 219 = .ok (.invokestatic 86, 3) := by decide +kernel
theorem dL_law_222 : decode cL_law 222 = .ok (.istore 5, 2) := by decide +kernel
theorem dL_law_224 : decode cL_law 224 = .ok (.aload_n 2, 1) := by decide +kernel
theorem dL_law_225 : decode cL_law 225 = .ok (.invokevirtual 89, 3) := by decide +kernel
theorem dL_law_228 : decode cL_law 228 = .ok (.istore 6, 2) := by decide +kernel
theorem dL_law_230 : decode cL_law 230 = .ok (.aload_n 2, 1) := by decide +kernel
theorem dL_law_231 : decode cL_law 231 = .ok (.invokevirtual 75, 3) := by decide +kernel
theorem dL_law_234 : decode cL_law 234 = .ok (.iload 5, 2) := by decide +kernel
theorem dL_law_236 : decode cL_law 236 = .ok (.if_icmp .eq 5, 3) := by decide +kernel
theorem dL_law_239 : decode cL_law 239 = .ok (.iconst 0, 1) := by decide +kernel
theorem dL_law_240 : decode cL_law 240 = .ok (.ireturn, 1) := by decide +kernel
theorem dL_law_241 : decode cL_law 241 = .ok (.iload 5, 2) := by decide +kernel
theorem dL_law_243 : decode cL_law 243 = .ok (.ifCond .ne 15, 3) := by decide +kernel
theorem dL_law_246 : decode cL_law 246 = .ok (.aload_n 3, 1) := by decide +kernel
theorem dL_law_247 : decode cL_law 247 = .ok (.iconst 0, 1) := by decide +kernel
theorem dL_law_248 : decode cL_law 248 = .ok (.laload, 1) := by decide +kernel
theorem dL_law_249 : decode cL_law 249 = .ok (.iload 6, 2) := by decide +kernel
theorem dL_law_251 : decode cL_law 251 = .ok (.i2l, 1) := by decide +kernel
theorem dL_law_252 : decode cL_law 252 = .ok (.lcmp, 1) := by decide +kernel
theorem dL_law_253 : decode cL_law 253 = .ok (.ifCond .eq 5, 3) := by decide +kernel
theorem dL_law_256 : decode cL_law 256 = .ok (.iconst 0, 1) := by decide +kernel
theorem dL_law_257 : decode cL_law 257 = .ok (.ireturn, 1) := by decide +kernel
theorem dL_law_258 : decode cL_law 258 = .ok (.goto 678, 3) := by decide +kernel
theorem dL_law_261 : decode cL_law 261 = .ok (.aload_n 1, 1) := by decide +kernel
theorem dL_law_262 : decode cL_law 262 = .ok (.aload_n 0, 1) := by decide +kernel
theorem dL_law_263 : decode cL_law 263 = .ok (.iload 4, 2) := by decide +kernel
theorem dL_law_265 : decode cL_law 265 = .ok (.iconst 1, 1) := by decide +kernel
theorem dL_law_266 : decode cL_law 266 = .ok (.iadd, 1) := by decide +kernel
theorem dL_law_267 : decode cL_law 267 = .ok (.iaload, 1) := by decide +kernel
theorem dL_law_268 : decode cL_law 268 = .ok (.aload_n 3, 1) := by decide +kernel
theorem dL_law_269 : decode cL_law 269 = .ok (.invokestatic 90, 3) := by decide +kernel
theorem dL_law_272 : decode cL_law 272 = .ok (.istore 5, 2) := by decide +kernel
theorem dL_law_274 : decode cL_law 274 = .ok (.aload_n 2, 1) := by decide +kernel
theorem dL_law_275 : decode cL_law 275 = .ok (.aload_n 0, 1) := by decide +kernel
theorem dL_law_276 : decode cL_law 276 = .ok (.iload 4, 2) := by decide +kernel
theorem dL_law_278 : decode cL_law 278 = .ok (.iconst 1, 1) := by decide +kernel
theorem dL_law_279 : decode cL_law 279 = .ok (.iadd, 1) := by decide +kernel
theorem dL_law_280 : decode cL_law 280 = .ok (.iaload, 1) := by decide +kernel
theorem dL_law_281 : decode cL_law 281 = .ok (.invokevirtual 92, 3) := by decide +kernel
theorem dL_law_284 : decode cL_law 284 = .ok (.istore 6, 2) := by decide +kernel
theorem dL_law_286 : decode cL_law 286 = .ok (.aload_n 2, 1) := by decide +kernel
theorem dL_law_287 : decode cL_law 287 = .ok (.invokevirtual 75, 3) := by decide +kernel
theorem dL_law_290 : decode cL_law 290 = .ok (.iload 5, 2) := by decide +kernel
theorem dL_law_292 : decode cL_law 292 = .ok (.if_icmp .eq 5, 3) := by decide +kernel
theorem dL_law_295 : decode cL_law 295 = .ok (.iconst 0, 1) := by decide +kernel
theorem dL_law_296 : decode cL_law 296 = .ok (.ireturn, 1) := by decide +kernel
theorem dL_law_297 : decode cL_law 297 = .ok (.iload 5, 2) := by decide +kernel
theorem dL_law_299 : decode cL_law 299 = .ok (.ifCond .ne 15, 3) := by decide +kernel
theorem dL_law_302 : decode cL_law 302 = .ok (.aload_n 3, 1) := by decide +kernel
theorem dL_law_303 : decode cL_law 303 = .ok (.iconst 0, 1) := by decide +kernel
theorem dL_law_304 : decode cL_law 304 = .ok (.laload, 1) := by decide +kernel
theorem dL_law_305 : decode cL_law 305 = .ok (.iload 6, 2) := by decide +kernel
theorem dL_law_307 : decode cL_law 307 = .ok (.i2l, 1) := by decide +kernel
theorem dL_law_308 : decode cL_law 308 = .ok (.lcmp, 1) := by decide +kernel
theorem dL_law_309 : decode cL_law 309 = .ok (.ifCond .eq 5, 3) := by decide +kernel
theorem dL_law_312 : decode cL_law 312 = .ok (.iconst 0, 1) := by decide +kernel
theorem dL_law_313 : decode cL_law 313 = .ok (.ireturn, 1) := by decide +kernel
theorem dL_law_314 : decode cL_law 314 = .ok (.goto 622, 3) := by decide +kernel
theorem dL_law_317 : decode cL_law 317 = .ok (.aload_n 1, 1) := by decide +kernel
theorem dL_law_318 : decode cL_law 318 = .ok (.aload_n 3, 1) := by decide +kernel
theorem dL_law_319 : decode cL_law 319 = .ok (.invokestatic 93, 3) := by decide +kernel
theorem dL_law_322 : decode cL_law 322 = .ok (.istore 5, 2) := by decide +kernel
theorem dL_law_324 : decode cL_law 324 = .ok (.aload_n 2, 1) := by decide +kernel
theorem dL_law_325 : decode cL_law 325 = .ok (.invokevirtual 95, 3) := by decide +kernel
theorem dL_law_328 : decode cL_law 328 = .ok (.istore 6, 2) := by decide +kernel
theorem dL_law_330 : decode cL_law 330 = .ok (.aload_n 2, 1) := by decide +kernel
theorem dL_law_331 : decode cL_law 331 = .ok (.invokevirtual 75, 3) := by decide +kernel
theorem dL_law_334 : decode cL_law 334 = .ok (.iload 5, 2) := by decide +kernel
theorem dL_law_336 : decode cL_law 336 = .ok (.if_icmp .eq 5, 3) := by decide +kernel
theorem dL_law_339 : decode cL_law 339 = .ok (.iconst 0, 1) := by decide +kernel
theorem dL_law_340 : decode cL_law 340 = .ok (.ireturn, 1) := by decide +kernel
theorem dL_law_341 : decode cL_law 341 = .ok (.iload 5, 2) := by decide +kernel
theorem dL_law_343 : decode cL_law 343 = .ok (.ifCond .ne 15, 3) := by decide +kernel
theorem dL_law_346 : decode cL_law 346 = .ok (.aload_n 3, 1) := by decide +kernel
theorem dL_law_347 : decode cL_law 347 = .ok (.iconst 0, 1) := by decide +kernel
theorem dL_law_348 : decode cL_law 348 = .ok (.laload, 1) := by decide +kernel
theorem dL_law_349 : decode cL_law 349 = .ok (.iload 6, 2) := by decide +kernel
theorem dL_law_351 : decode cL_law 351 = .ok (.i2l, 1) := by decide +kernel
theorem dL_law_352 : decode cL_law 352 = .ok (.lcmp, 1) := by decide +kernel
theorem dL_law_353 : decode cL_law 353 = .ok (.ifCond .eq 5, 3) := by decide +kernel
theorem dL_law_356 : decode cL_law 356 = .ok (.iconst 0, 1) := by decide +kernel
theorem dL_law_357 : decode cL_law 357 = .ok (.ireturn, 1) := by decide +kernel
theorem dL_law_358 : decode cL_law 358 = .ok (.goto 578, 3) := by decide +kernel
theorem dL_law_361 : decode cL_law 361 = .ok (.aload_n 1, 1) := by decide +kernel
theorem dL_law_362 : decode cL_law 362 = .ok (.aload_n 0, 1) := by decide +kernel
theorem dL_law_363 : decode cL_law 363 = .ok (.iload 4, 2) := by decide +kernel
theorem dL_law_365 : decode cL_law 365 = .ok (.iconst 1, 1) := by decide +kernel
theorem dL_law_366 : decode cL_law 366 = .ok (.iadd, 1) := by decide +kernel
theorem dL_law_367 : decode cL_law 367 = .ok (.iaload, 1) := by decide +kernel
theorem dL_law_368 : decode cL_law 368 = .ok (.aload_n 3, 1) := by decide +kernel
theorem dL_law_369 : decode cL_law 369 = .ok (.invokestatic 96, 3) := by decide +kernel
theorem dL_law_372 : decode cL_law 372 = .ok (.istore 5, 2) := by decide +kernel
theorem dL_law_374 : decode cL_law 374 = .ok (.aload_n 2, 1) := by decide +kernel
theorem dL_law_375 : decode cL_law 375 = .ok (.aload_n 0, 1) := by decide +kernel
theorem dL_law_376 : decode cL_law 376 = .ok (.iload 4, 2) := by decide +kernel
theorem dL_law_378 : decode cL_law 378 = .ok (.iconst 1, 1) := by decide +kernel
theorem dL_law_379 : decode cL_law 379 = .ok (.iadd, 1) := by decide +kernel
theorem dL_law_380 : decode cL_law 380 = .ok (.iaload, 1) := by decide +kernel
theorem dL_law_381 : decode cL_law 381 = .ok (.invokevirtual 98, 3) := by decide +kernel
theorem dL_law_384 : decode cL_law 384 = .ok (.istore 6, 2) := by decide +kernel
theorem dL_law_386 : decode cL_law 386 = .ok (.aload_n 2, 1) := by decide +kernel
theorem dL_law_387 : decode cL_law 387 = .ok (.invokevirtual 75, 3) := by decide +kernel
theorem dL_law_390 : decode cL_law 390 = .ok (.iload 5, 2) := by decide +kernel
theorem dL_law_392 : decode cL_law 392 = .ok (.if_icmp .eq 5, 3) := by decide +kernel
theorem dL_law_395 : decode cL_law 395 = .ok (.iconst 0, 1) := by decide +kernel
theorem dL_law_396 : decode cL_law 396 = .ok (.ireturn, 1) := by decide +kernel
theorem dL_law_397 : decode cL_law 397 = .ok (.iload 5, 2) := by decide +kernel
theorem dL_law_399 : decode cL_law 399 = .ok (.ifCond .ne 15, 3) := by decide +kernel
theorem dL_law_402 : decode cL_law 402 = .ok (.aload_n 3, 1) := by decide +kernel
theorem dL_law_403 : decode cL_law 403 = .ok (.iconst 0, 1) := by decide +kernel
theorem dL_law_404 : decode cL_law 404 = .ok (.laload, 1) := by decide +kernel
theorem dL_law_405 : decode cL_law 405 = .ok (.iload 6, 2) := by decide +kernel
theorem dL_law_407 : decode cL_law 407 = .ok (.i2l, 1) := by decide +kernel
theorem dL_law_408 : decode cL_law 408 = .ok (.lcmp, 1) := by decide +kernel
theorem dL_law_409 : decode cL_law 409 = .ok (.ifCond .eq 5, 3) := by decide +kernel
theorem dL_law_412 : decode cL_law 412 = .ok (.iconst 0, 1) := by decide +kernel
theorem dL_law_413 : decode cL_law 413 = .ok (.ireturn, 1) := by decide +kernel
theorem dL_law_414 : decode cL_law 414 = .ok (.goto 522, 3) := by decide +kernel
theorem dL_law_417 : decode cL_law 417 = .ok (.aload_n 1, 1) := by decide +kernel
theorem dL_law_418 : decode cL_law 418 = .ok (.aload_n 0, 1) := by decide +kernel
theorem dL_law_419 : decode cL_law 419 = .ok (.iload 4, 2) := by decide +kernel
theorem dL_law_421 : decode cL_law 421 = .ok (.iconst 1, 1) := by decide +kernel
theorem dL_law_422 : decode cL_law 422 = .ok (.iadd, 1) := by decide +kernel
theorem dL_law_423 : decode cL_law 423 = .ok (.iaload, 1) := by decide +kernel
theorem dL_law_424 : decode cL_law 424 = .ok (.aload_n 0, 1) := by decide +kernel
theorem dL_law_425 : decode cL_law 425 = .ok (.iload 4, 2) := by decide +kernel
theorem dL_law_427 : decode cL_law 427 = .ok (.iconst 2, 1) := by decide +kernel
theorem dL_law_428 : decode cL_law 428 = .ok (.iadd, 1) := by decide +kernel
theorem dL_law_429 : decode cL_law 429 = .ok (.iaload, 1) := by decide +kernel
theorem dL_law_430 : decode cL_law 430 = .ok (.aload_n 3, 1) := by decide +kernel
theorem dL_law_431 : decode cL_law 431 = .ok (.invokestatic 99, 3) := by decide +kernel
theorem dL_law_434 : decode cL_law 434 = .ok (.istore 5, 2) := by decide +kernel
theorem dL_law_436 : decode cL_law 436 = .ok (.aload_n 2, 1) := by decide +kernel
theorem dL_law_437 : decode cL_law 437 = .ok (.aload_n 0, 1) := by decide +kernel
theorem dL_law_438 : decode cL_law 438 = .ok (.iload 4, 2) := by decide +kernel
theorem dL_law_440 : decode cL_law 440 = .ok (.iconst 1, 1) := by decide +kernel
theorem dL_law_441 : decode cL_law 441 = .ok (.iadd, 1) := by decide +kernel
theorem dL_law_442 : decode cL_law 442 = .ok (.iaload, 1) := by decide +kernel
theorem dL_law_443 : decode cL_law 443 = .ok (.aload_n 0, 1) := by decide +kernel
theorem dL_law_444 : decode cL_law 444 = .ok (.iload 4, 2) := by decide +kernel
theorem dL_law_446 : decode cL_law 446 = .ok (.iconst 2, 1) := by decide +kernel
theorem dL_law_447 : decode cL_law 447 = .ok (.iadd, 1) := by decide +kernel
theorem dL_law_448 : decode cL_law 448 = .ok (.iaload, 1) := by decide +kernel
theorem dL_law_449 : decode cL_law 449 = .ok (.invokevirtual 102, 3) := by decide +kernel
theorem dL_law_452 : decode cL_law 452 = .ok (.istore 6, 2) := by decide +kernel
theorem dL_law_454 : decode cL_law 454 = .ok (.aload_n 2, 1) := by decide +kernel
theorem dL_law_455 : decode cL_law 455 = .ok (.invokevirtual 75, 3) := by decide +kernel
theorem dL_law_458 : decode cL_law 458 = .ok (.iload 5, 2) := by decide +kernel
theorem dL_law_460 : decode cL_law 460 = .ok (.if_icmp .eq 5, 3) := by decide +kernel
theorem dL_law_463 : decode cL_law 463 = .ok (.iconst 0, 1) := by decide +kernel
theorem dL_law_464 : decode cL_law 464 = .ok (.ireturn, 1) := by decide +kernel
theorem dL_law_465 : decode cL_law 465 = .ok (.iload 5, 2) := by decide +kernel
theorem dL_law_467 : decode cL_law 467 = .ok (.ifCond .ne 15, 3) := by decide +kernel
theorem dL_law_470 : decode cL_law 470 = .ok (.aload_n 3, 1) := by decide +kernel
theorem dL_law_471 : decode cL_law 471 = .ok (.iconst 0, 1) := by decide +kernel
theorem dL_law_472 : decode cL_law 472 = .ok (.laload, 1) := by decide +kernel
theorem dL_law_473 : decode cL_law 473 = .ok (.iload 6, 2) := by decide +kernel
theorem dL_law_475 : decode cL_law 475 = .ok (.i2l, 1) := by decide +kernel
theorem dL_law_476 : decode cL_law 476 = .ok (.lcmp, 1) := by decide +kernel
theorem dL_law_477 : decode cL_law 477 = .ok (.ifCond .eq 5, 3) := by decide +kernel
theorem dL_law_480 : decode cL_law 480 = .ok (.iconst 0, 1) := by decide +kernel
theorem dL_law_481 : decode cL_law 481 = .ok (.ireturn, 1) := by decide +kernel
theorem dL_law_482 : decode cL_law 482 = .ok (.goto 454, 3) := by decide +kernel
theorem dL_law_485 : decode cL_law 485 = .ok (.aload_n 1, 1) := by decide +kernel
theorem dL_law_486 : decode cL_law 486 = .ok (.aload_n 0, 1) := by decide +kernel
theorem dL_law_487 : decode cL_law 487 = .ok (.iload 4, 2) := by decide +kernel
theorem dL_law_489 : decode cL_law 489 = .ok (.iconst 1, 1) := by decide +kernel
theorem dL_law_490 : decode cL_law 490 = .ok (.iadd, 1) := by decide +kernel
theorem dL_law_491 : decode cL_law 491 = .ok (.iaload, 1) := by decide +kernel
theorem dL_law_492 : decode cL_law 492 = .ok (.aload_n 0, 1) := by decide +kernel
theorem dL_law_493 : decode cL_law 493 = .ok (.iload 4, 2) := by decide +kernel
theorem dL_law_495 : decode cL_law 495 = .ok (.iconst 2, 1) := by decide +kernel
theorem dL_law_496 : decode cL_law 496 = .ok (.iadd, 1) := by decide +kernel
theorem dL_law_497 : decode cL_law 497 = .ok (.iaload, 1) := by decide +kernel
theorem dL_law_498 : decode cL_law 498 = .ok (.aload_n 3, 1) := by decide +kernel
theorem dL_law_499 : decode cL_law 499 = .ok (.invokestatic 103, 3) := by decide +kernel
theorem dL_law_502 : decode cL_law 502 = .ok (.istore 5, 2) := by decide +kernel
theorem dL_law_504 : decode cL_law 504 = .ok (.aload_n 2, 1) := by decide +kernel
theorem dL_law_505 : decode cL_law 505 = .ok (.aload_n 0, 1) := by decide +kernel
theorem dL_law_506 : decode cL_law 506 = .ok (.iload 4, 2) := by decide +kernel
theorem dL_law_508 : decode cL_law 508 = .ok (.iconst 1, 1) := by decide +kernel
theorem dL_law_509 : decode cL_law 509 = .ok (.iadd, 1) := by decide +kernel
theorem dL_law_510 : decode cL_law 510 = .ok (.iaload, 1) := by decide +kernel
theorem dL_law_511 : decode cL_law 511 = .ok (.aload_n 0, 1) := by decide +kernel
theorem dL_law_512 : decode cL_law 512 = .ok (.iload 4, 2) := by decide +kernel
theorem dL_law_514 : decode cL_law 514 = .ok (.iconst 2, 1) := by decide +kernel
theorem dL_law_515 : decode cL_law 515 = .ok (.iadd, 1) := by decide +kernel
theorem dL_law_516 : decode cL_law 516 = .ok (.iaload, 1) := by decide +kernel
theorem dL_law_517 : decode cL_law 517 = .ok (.invokevirtual 105, 3) := by decide +kernel
theorem dL_law_520 : decode cL_law 520 = .ok (.istore 6, 2) := by decide +kernel
theorem dL_law_522 : decode cL_law 522 = .ok (.aload_n 2, 1) := by decide +kernel
theorem dL_law_523 : decode cL_law 523 = .ok (.invokevirtual 75, 3) := by decide +kernel
theorem dL_law_526 : decode cL_law 526 = .ok (.iload 5, 2) := by decide +kernel
theorem dL_law_528 : decode cL_law 528 = .ok (.if_icmp .eq 5, 3) := by decide +kernel
theorem dL_law_531 : decode cL_law 531 = .ok (.iconst 0, 1) := by decide +kernel
theorem dL_law_532 : decode cL_law 532 = .ok (.ireturn, 1) := by decide +kernel
theorem dL_law_533 : decode cL_law 533 = .ok (.iload 5, 2) := by decide +kernel
theorem dL_law_535 : decode cL_law 535 = .ok (.ifCond .ne 22, 3) := by decide +kernel
theorem dL_law_538 : decode cL_law 538 = .ok (.aload_n 3, 1) := by decide +kernel
theorem dL_law_539 : decode cL_law 539 = .ok (.iconst 0, 1) := by decide +kernel
theorem dL_law_540 : decode cL_law 540 = .ok (.laload, 1) := by decide +kernel
theorem dL_law_541 : decode cL_law 541 = .ok (.iload 6, 2) := by decide +kernel
theorem dL_law_543 : decode cL_law 543 = .ok (.ifCond .eq 7, 3) := by decide +kernel
theorem dL_law_546 : decode cL_law 546 = .ok (.lconst 1, 1) := by decide +kernel
theorem dL_law_547 : decode cL_law 547 = .ok (.goto 4, 3) := by decide +kernel
theorem dL_law_550 : decode cL_law 550 = .ok (.lconst 0, 1) := by decide +kernel
theorem dL_law_551 : decode cL_law 551 = .ok (.lcmp, 1) := by decide +kernel
theorem dL_law_552 : decode cL_law 552 = .ok (.ifCond .eq 5, 3) := by decide +kernel
theorem dL_law_555 : decode cL_law 555 = .ok (.iconst 0, 1) := by decide +kernel
theorem dL_law_556 : decode cL_law 556 = .ok (.ireturn, 1) := by decide +kernel
theorem dL_law_557 : decode cL_law 557 = .ok (.goto 379, 3) := by decide +kernel
theorem dL_law_560 : decode cL_law 560 = .ok (.aload_n 1, 1) := by decide +kernel
theorem dL_law_561 : decode cL_law 561 = .ok (.aload_n 0, 1) := by decide +kernel
theorem dL_law_562 : decode cL_law 562 = .ok (.iload 4, 2) := by decide +kernel
theorem dL_law_564 : decode cL_law 564 = .ok (.iconst 1, 1) := by decide +kernel
theorem dL_law_565 : decode cL_law 565 = .ok (.iadd, 1) := by decide +kernel
theorem dL_law_566 : decode cL_law 566 = .ok (.iaload, 1) := by decide +kernel
theorem dL_law_567 : decode cL_law 567 = .ok (.aload_n 0, 1) := by decide +kernel
theorem dL_law_568 : decode cL_law 568 = .ok (.iload 4, 2) := by decide +kernel
theorem dL_law_570 : decode cL_law 570 = .ok (.iconst 2, 1) := by decide +kernel
theorem dL_law_571 : decode cL_law 571 = .ok (.iadd, 1) := by decide +kernel
theorem dL_law_572 : decode cL_law 572 = .ok (.iaload, 1) := by decide +kernel
theorem dL_law_573 : decode cL_law 573 = .ok (.aload_n 3, 1) := by decide +kernel
theorem dL_law_574 : decode cL_law 574 = .ok (.invokestatic 106, 3) := by decide +kernel
theorem dL_law_577 : decode cL_law 577 = .ok (.istore 5, 2) := by decide +kernel
theorem dL_law_579 : decode cL_law 579 = .ok (.aload_n 2, 1) := by decide +kernel
theorem dL_law_580 : decode cL_law 580 = .ok (.aload_n 0, 1) := by decide +kernel
theorem dL_law_581 : decode cL_law 581 = .ok (.iload 4, 2) := by decide +kernel
theorem dL_law_583 : decode cL_law 583 = .ok (.iconst 1, 1) := by decide +kernel
theorem dL_law_584 : decode cL_law 584 = .ok (.iadd, 1) := by decide +kernel
theorem dL_law_585 : decode cL_law 585 = .ok (.iaload, 1) := by decide +kernel
theorem dL_law_586 : decode cL_law 586 = .ok (.aload_n 0, 1) := by decide +kernel
theorem dL_law_587 : decode cL_law 587 = .ok (.iload 4, 2) := by decide +kernel
theorem dL_law_589 : decode cL_law 589 = .ok (.iconst 2, 1) := by decide +kernel
theorem dL_law_590 : decode cL_law 590 = .ok (.iadd, 1) := by decide +kernel
theorem dL_law_591 : decode cL_law 591 = .ok (.iaload, 1) := by decide +kernel
theorem dL_law_592 : decode cL_law 592 = .ok (.invokevirtual 108, 3) := by decide +kernel
theorem dL_law_595 : decode cL_law 595 = .ok (.istore 6, 2) := by decide +kernel
theorem dL_law_597 : decode cL_law 597 = .ok (.aload_n 2, 1) := by decide +kernel
theorem dL_law_598 : decode cL_law 598 = .ok (.invokevirtual 75, 3) := by decide +kernel
theorem dL_law_601 : decode cL_law 601 = .ok (.iload 5, 2) := by decide +kernel
theorem dL_law_603 : decode cL_law 603 = .ok (.if_icmp .eq 5, 3) := by decide +kernel
theorem dL_law_606 : decode cL_law 606 = .ok (.iconst 0, 1) := by decide +kernel
theorem dL_law_607 : decode cL_law 607 = .ok (.ireturn, 1) := by decide +kernel
theorem dL_law_608 : decode cL_law 608 = .ok (.iload 5, 2) := by decide +kernel
theorem dL_law_610 : decode cL_law 610 = .ok (.ifCond .ne 15, 3) := by decide +kernel
theorem dL_law_613 : decode cL_law 613 = .ok (.aload_n 3, 1) := by decide +kernel
theorem dL_law_614 : decode cL_law 614 = .ok (.iconst 0, 1) := by decide +kernel
theorem dL_law_615 : decode cL_law 615 = .ok (.laload, 1) := by decide +kernel
theorem dL_law_616 : decode cL_law 616 = .ok (.iload 6, 2) := by decide +kernel
theorem dL_law_618 : decode cL_law 618 = .ok (.i2l, 1) := by decide +kernel
theorem dL_law_619 : decode cL_law 619 = .ok (.lcmp, 1) := by decide +kernel
theorem dL_law_620 : decode cL_law 620 = .ok (.ifCond .eq 5, 3) := by decide +kernel
theorem dL_law_623 : decode cL_law 623 = .ok (.iconst 0, 1) := by decide +kernel
theorem dL_law_624 : decode cL_law 624 = .ok (.ireturn, 1) := by decide +kernel
theorem dL_law_625 : decode cL_law 625 = .ok (.goto 311, 3) := by decide +kernel
theorem dL_law_628 : decode cL_law 628 = .ok (.aload_n 1, 1) := by decide +kernel
theorem dL_law_629 : decode cL_law 629 = .ok (.aload_n 0, 1) := by decide +kernel
theorem dL_law_630 : decode cL_law 630 = .ok (.iload 4, 2) := by decide +kernel
theorem dL_law_632 : decode cL_law 632 = .ok (.iconst 1, 1) := by decide +kernel
theorem dL_law_633 : decode cL_law 633 = .ok (.iadd, 1) := by decide +kernel
theorem dL_law_634 : decode cL_law 634 = .ok (.iaload, 1) := by decide +kernel
theorem dL_law_635 : decode cL_law 635 = .ok (.ifCond .eq 7, 3) := by decide +kernel
theorem dL_law_638 : decode cL_law 638 = .ok (.iconst 1, 1) := by decide +kernel
theorem dL_law_639 : decode cL_law 639 = .ok (.goto 4, 3) := by decide +kernel
theorem dL_law_642 : decode cL_law 642 = .ok (.iconst 0, 1) := by decide +kernel
theorem dL_law_643 : decode cL_law 643 = .ok (.aload_n 0, 1) := by decide +kernel
theorem dL_law_644 : decode cL_law 644 = .ok (.iload 4, 2) := by decide +kernel
theorem dL_law_646 : decode cL_law 646 = .ok (.iconst 2, 1) := by decide +kernel
theorem dL_law_647 : decode cL_law 647 = .ok (.iadd, 1) := by decide +kernel
theorem dL_law_648 : decode cL_law 648 = .ok (.iaload, 1) := by decide +kernel
theorem dL_law_649 : decode cL_law 649 = .ok (.aload_n 3, 1) := by decide +kernel
theorem dL_law_650 : decode cL_law 650 = .ok (.invokestatic 109, 3) := by decide +kernel
theorem dL_law_653 : decode cL_law 653 = .ok (.istore 5, 2) := by decide +kernel
theorem dL_law_655 : decode cL_law 655 = .ok (.aload_n 2, 1) := by decide +kernel
theorem dL_law_656 : decode cL_law 656 = .ok (.aload_n 0, 1) := by decide +kernel
theorem dL_law_657 : decode cL_law 657 = .ok (.iload 4, 2) := by decide +kernel
theorem dL_law_659 : decode cL_law 659 = .ok (.iconst 1, 1) := by decide +kernel
theorem dL_law_660 : decode cL_law 660 = .ok (.iadd, 1) := by decide +kernel
theorem dL_law_661 : decode cL_law 661 = .ok (.iaload, 1) := by decide +kernel
theorem dL_law_662 : decode cL_law 662 = .ok (.ifCond .eq 7, 3) := by decide +kernel
theorem dL_law_665 : decode cL_law 665 = .ok (.iconst 1, 1) := by decide +kernel
theorem dL_law_666 : decode cL_law 666 = .ok (.goto 4, 3) := by decide +kernel
theorem dL_law_669 : decode cL_law 669 = .ok (.iconst 0, 1) := by decide +kernel
theorem dL_law_670 : decode cL_law 670 = .ok (.aload_n 0, 1) := by decide +kernel
theorem dL_law_671 : decode cL_law 671 = .ok (.iload 4, 2) := by decide +kernel
theorem dL_law_673 : decode cL_law 673 = .ok (.iconst 2, 1) := by decide +kernel
theorem dL_law_674 : decode cL_law 674 = .ok (.iadd, 1) := by decide +kernel
theorem dL_law_675 : decode cL_law 675 = .ok (.iaload, 1) := by decide +kernel
theorem dL_law_676 : decode cL_law 676 = .ok (.invokevirtual 112, 3) := by decide +kernel
theorem dL_law_679 : decode cL_law 679 = .ok (.istore 6, 2) := by decide +kernel
theorem dL_law_681 : decode cL_law 681 = .ok (.aload_n 2, 1) := by decide +kernel
theorem dL_law_682 : decode cL_law 682 = .ok (.invokevirtual 75, 3) := by decide +kernel
theorem dL_law_685 : decode cL_law 685 = .ok (.iload 5, 2) := by decide +kernel
theorem dL_law_687 : decode cL_law 687 = .ok (.if_icmp .eq 5, 3) := by decide +kernel
theorem dL_law_690 : decode cL_law 690 = .ok (.iconst 0, 1) := by decide +kernel
theorem dL_law_691 : decode cL_law 691 = .ok (.ireturn, 1) := by decide +kernel
theorem dL_law_692 : decode cL_law 692 = .ok (.iload 5, 2) := by decide +kernel
theorem dL_law_694 : decode cL_law 694 = .ok (.ifCond .ne 15, 3) := by decide +kernel
theorem dL_law_697 : decode cL_law 697 = .ok (.aload_n 3, 1) := by decide +kernel
theorem dL_law_698 : decode cL_law 698 = .ok (.iconst 0, 1) := by decide +kernel
theorem dL_law_699 : decode cL_law 699 = .ok (.laload, 1) := by decide +kernel
theorem dL_law_700 : decode cL_law 700 = .ok (.iload 6, 2) := by decide +kernel
theorem dL_law_702 : decode cL_law 702 = .ok (.i2l, 1) := by decide +kernel
theorem dL_law_703 : decode cL_law 703 = .ok (.lcmp, 1) := by decide +kernel
theorem dL_law_704 : decode cL_law 704 = .ok (.ifCond .eq 5, 3) := by decide +kernel
theorem dL_law_707 : decode cL_law 707 = .ok (.iconst 0, 1) := by decide +kernel
theorem dL_law_708 : decode cL_law 708 = .ok (.ireturn, 1) := by decide +kernel
theorem dL_law_709 : decode cL_law 709 = .ok (.goto 227, 3) := by decide +kernel
theorem dL_law_712 : decode cL_law 712 = .ok (.aload_n 1, 1) := by decide +kernel
theorem dL_law_713 : decode cL_law 713 = .ok (.aload_n 0, 1) := by decide +kernel
theorem dL_law_714 : decode cL_law 714 = .ok (.iload 4, 2) := by decide +kernel
theorem dL_law_716 : decode cL_law 716 = .ok (.iconst 1, 1) := by decide +kernel
theorem dL_law_717 : decode cL_law 717 = .ok (.iadd, 1) := by decide +kernel
theorem dL_law_718 : decode cL_law 718 = .ok (.iaload, 1) := by decide +kernel
theorem dL_law_719 : decode cL_law 719 = .ok (.aload_n 3, 1) := by decide +kernel
theorem dL_law_720 : decode cL_law 720 = .ok (.invokestatic 113, 3) := by decide +kernel
theorem dL_law_723 : decode cL_law 723 = .ok (.istore 5, 2) := by decide +kernel
theorem dL_law_725 : decode cL_law 725 = .ok (.aload_n 2, 1) := by decide +kernel
theorem dL_law_726 : decode cL_law 726 = .ok (.aload_n 0, 1) := by decide +kernel
theorem dL_law_727 : decode cL_law 727 = .ok (.iload 4, 2) := by decide +kernel
theorem dL_law_729 : decode cL_law 729 = .ok (.iconst 1, 1) := by decide +kernel
theorem dL_law_730 : decode cL_law 730 = .ok (.iadd, 1) := by decide +kernel
theorem dL_law_731 : decode cL_law 731 = .ok (.iaload, 1) := by decide +kernel
theorem dL_law_732 : decode cL_law 732 = .ok (.invokevirtual 115, 3) := by decide +kernel
theorem dL_law_735 : decode cL_law 735 = .ok (.istore 6, 2) := by decide +kernel
theorem dL_law_737 : decode cL_law 737 = .ok (.aload_n 2, 1) := by decide +kernel
theorem dL_law_738 : decode cL_law 738 = .ok (.invokevirtual 75, 3) := by decide +kernel
theorem dL_law_741 : decode cL_law 741 = .ok (.iload 5, 2) := by decide +kernel
theorem dL_law_743 : decode cL_law 743 = .ok (.if_icmp .eq 5, 3) := by decide +kernel
theorem dL_law_746 : decode cL_law 746 = .ok (.iconst 0, 1) := by decide +kernel
theorem dL_law_747 : decode cL_law 747 = .ok (.ireturn, 1) := by decide +kernel
theorem dL_law_748 : decode cL_law 748 = .ok (.iload 5, 2) := by decide +kernel
theorem dL_law_750 : decode cL_law 750 = .ok (.ifCond .ne 15, 3) := by decide +kernel
theorem dL_law_753 : decode cL_law 753 = .ok (.aload_n 3, 1) := by decide +kernel
theorem dL_law_754 : decode cL_law 754 = .ok (.iconst 0, 1) := by decide +kernel
theorem dL_law_755 : decode cL_law 755 = .ok (.laload, 1) := by decide +kernel
theorem dL_law_756 : decode cL_law 756 = .ok (.iload 6, 2) := by decide +kernel
theorem dL_law_758 : decode cL_law 758 = .ok (.i2l, 1) := by decide +kernel
theorem dL_law_759 : decode cL_law 759 = .ok (.lcmp, 1) := by decide +kernel
theorem dL_law_760 : decode cL_law 760 = .ok (.ifCond .eq 5, 3) := by decide +kernel
theorem dL_law_763 : decode cL_law 763 = .ok (.iconst 0, 1) := by decide +kernel
theorem dL_law_764 : decode cL_law 764 = .ok (.ireturn, 1) := by decide +kernel
theorem dL_law_765 : decode cL_law 765 = .ok (.goto 171, 3) := by decide +kernel
theorem dL_law_768 : decode cL_law 768 = .ok (.aload_n 1, 1) := by decide +kernel
theorem dL_law_769 : decode cL_law 769 = .ok (.aload_n 0, 1) := by decide +kernel
theorem dL_law_770 : decode cL_law 770 = .ok (.iload 4, 2) := by decide +kernel
theorem dL_law_772 : decode cL_law 772 = .ok (.iconst 1, 1) := by decide +kernel
theorem dL_law_773 : decode cL_law 773 = .ok (.iadd, 1) := by decide +kernel
theorem dL_law_774 : decode cL_law 774 = .ok (.iaload, 1) := by decide +kernel
theorem dL_law_775 : decode cL_law 775 = .ok (.aload_n 3, 1) := by decide +kernel
theorem dL_law_776 : decode cL_law 776 = .ok (.invokestatic 116, 3) := by decide +kernel
theorem dL_law_779 : decode cL_law 779 = .ok (.istore 5, 2) := by decide +kernel
theorem dL_law_781 : decode cL_law 781 = .ok (.aload_n 2, 1) := by decide +kernel
theorem dL_law_782 : decode cL_law 782 = .ok (.aload_n 0, 1) := by decide +kernel
theorem dL_law_783 : decode cL_law 783 = .ok (.iload 4, 2) := by decide +kernel
theorem dL_law_785 : decode cL_law 785 = .ok (.iconst 1, 1) := by decide +kernel
theorem dL_law_786 : decode cL_law 786 = .ok (.iadd, 1) := by decide +kernel
theorem dL_law_787 : decode cL_law 787 = .ok (.iaload, 1) := by decide +kernel
theorem dL_law_788 : decode cL_law 788 = .ok (.invokevirtual 118, 3) := by decide +kernel
theorem dL_law_791 : decode cL_law 791 = .ok (.istore 6, 2) := by decide +kernel
theorem dL_law_793 : decode cL_law 793 = .ok (.aload_n 2, 1) := by decide +kernel
theorem dL_law_794 : decode cL_law 794 = .ok (.invokevirtual 75, 3) := by decide +kernel
theorem dL_law_797 : decode cL_law 797 = .ok (.iload 5, 2) := by decide +kernel
theorem dL_law_799 : decode cL_law 799 = .ok (.if_icmp .eq 5, 3) := by decide +kernel
theorem dL_law_802 : decode cL_law 802 = .ok (.iconst 0, 1) := by decide +kernel
theorem dL_law_803 : decode cL_law 803 = .ok (.ireturn, 1) := by decide +kernel
theorem dL_law_804 : decode cL_law 804 = .ok (.iload 5, 2) := by decide +kernel
theorem dL_law_806 : decode cL_law 806 = .ok (.ifCond .ne 15, 3) := by decide +kernel
theorem dL_law_809 : decode cL_law 809 = .ok (.aload_n 3, 1) := by decide +kernel
theorem dL_law_810 : decode cL_law 810 = .ok (.iconst 0, 1) := by decide +kernel
theorem dL_law_811 : decode cL_law 811 = .ok (.laload, 1) := by decide +kernel
theorem dL_law_812 : decode cL_law 812 = .ok (.iload 6, 2) := by decide +kernel
theorem dL_law_814 : decode cL_law 814 = .ok (.i2l, 1) := by decide +kernel
theorem dL_law_815 : decode cL_law 815 = .ok (.lcmp, 1) := by decide +kernel
theorem dL_law_816 : decode cL_law 816 = .ok (.ifCond .eq 5, 3) := by decide +kernel
theorem dL_law_819 : decode cL_law 819 = .ok (.iconst 0, 1) := by decide +kernel
theorem dL_law_820 : decode cL_law 820 = .ok (.ireturn, 1) := by decide +kernel
theorem dL_law_821 : decode cL_law 821 = .ok (.goto 115, 3) := by decide +kernel
theorem dL_law_824 : decode cL_law 824 = .ok (.aload_n 1, 1) := by decide +kernel
theorem dL_law_825 : decode cL_law 825 = .ok (.aload_n 0, 1) := by decide +kernel
theorem dL_law_826 : decode cL_law 826 = .ok (.iload 4, 2) := by decide +kernel
theorem dL_law_828 : decode cL_law 828 = .ok (.iconst 1, 1) := by decide +kernel
theorem dL_law_829 : decode cL_law 829 = .ok (.iadd, 1) := by decide +kernel
theorem dL_law_830 : decode cL_law 830 = .ok (.iaload, 1) := by decide +kernel
theorem dL_law_831 : decode cL_law 831 = .ok (.aload_n 3, 1) := by decide +kernel
theorem dL_law_832 : decode cL_law 832 = .ok (.invokestatic 119, 3) := by decide +kernel
theorem dL_law_835 : decode cL_law 835 = .ok (.istore 5, 2) := by decide +kernel
theorem dL_law_837 : decode cL_law 837 = .ok (.aload_n 2, 1) := by decide +kernel
theorem dL_law_838 : decode cL_law 838 = .ok (.aload_n 0, 1) := by decide +kernel
theorem dL_law_839 : decode cL_law 839 = .ok (.iload 4, 2) := by decide +kernel
theorem dL_law_841 : decode cL_law 841 = .ok (.iconst 1, 1) := by decide +kernel
theorem dL_law_842 : decode cL_law 842 = .ok (.iadd, 1) := by decide +kernel
theorem dL_law_843 : decode cL_law 843 = .ok (.iaload, 1) := by decide +kernel
theorem dL_law_844 : decode cL_law 844 = .ok (.invokevirtual 121, 3) := by decide +kernel
theorem dL_law_847 : decode cL_law 847 = .ok (.istore 6, 2) := by decide +kernel
theorem dL_law_849 : decode cL_law 849 = .ok (.aload_n 2, 1) := by decide +kernel
theorem dL_law_850 : decode cL_law 850 = .ok (.invokevirtual 75, 3) := by decide +kernel
theorem dL_law_853 : decode cL_law 853 = .ok (.iload 5, 2) := by decide +kernel
theorem dL_law_855 : decode cL_law 855 = .ok (.if_icmp .eq 5, 3) := by decide +kernel
theorem dL_law_858 : decode cL_law 858 = .ok (.iconst 0, 1) := by decide +kernel
theorem dL_law_859 : decode cL_law 859 = .ok (.ireturn, 1) := by decide +kernel
theorem dL_law_860 : decode cL_law 860 = .ok (.iload 5, 2) := by decide +kernel
theorem dL_law_862 : decode cL_law 862 = .ok (.ifCond .ne 15, 3) := by decide +kernel
theorem dL_law_865 : decode cL_law 865 = .ok (.aload_n 3, 1) := by decide +kernel
theorem dL_law_866 : decode cL_law 866 = .ok (.iconst 0, 1) := by decide +kernel
theorem dL_law_867 : decode cL_law 867 = .ok (.laload, 1) := by decide +kernel
theorem dL_law_868 : decode cL_law 868 = .ok (.iload 6, 2) := by decide +kernel
theorem dL_law_870 : decode cL_law 870 = .ok (.i2l, 1) := by decide +kernel
theorem dL_law_871 : decode cL_law 871 = .ok (.lcmp, 1) := by decide +kernel
theorem dL_law_872 : decode cL_law 872 = .ok (.ifCond .eq 5, 3) := by decide +kernel
theorem dL_law_875 : decode cL_law 875 = .ok (.iconst 0, 1) := by decide +kernel
theorem dL_law_876 : decode cL_law 876 = .ok (.ireturn, 1) := by decide +kernel
theorem dL_law_877 : decode cL_law 877 = .ok (.goto 59, 3) := by decide +kernel
theorem dL_law_880 : decode cL_law 880 = .ok (.aload_n 1, 1) := by decide +kernel
theorem dL_law_881 : decode cL_law 881 = .ok (.aload_n 0, 1) := by decide +kernel
theorem dL_law_882 : decode cL_law 882 = .ok (.iload 4, 2) := by decide +kernel
theorem dL_law_884 : decode cL_law 884 = .ok (.iconst 1, 1) := by decide +kernel
theorem dL_law_885 : decode cL_law 885 = .ok (.iadd, 1) := by decide +kernel
theorem dL_law_886 : decode cL_law 886 = .ok (.iaload, 1) := by decide +kernel
theorem dL_law_887 : decode cL_law 887 = .ok (.aload_n 3, 1) := by decide +kernel
theorem dL_law_888 : decode cL_law 888 = .ok (.invokestatic 122, 3) := by decide +kernel
theorem dL_law_891 : decode cL_law 891 = .ok (.istore 5, 2) := by decide +kernel
theorem dL_law_893 : decode cL_law 893 = .ok (.aload_n 2, 1) := by decide +kernel
theorem dL_law_894 : decode cL_law 894 = .ok (.aload_n 0, 1) := by decide +kernel
theorem dL_law_895 : decode cL_law 895 = .ok (.iload 4, 2) := by decide +kernel
theorem dL_law_897 : decode cL_law 897 = .ok (.iconst 1, 1) := by decide +kernel
theorem dL_law_898 : decode cL_law 898 = .ok (.iadd, 1) := by decide +kernel
theorem dL_law_899 : decode cL_law 899 = .ok (.iaload, 1) := by decide +kernel
theorem dL_law_900 : decode cL_law 900 = .ok (.invokevirtual 124, 3) := by decide +kernel
theorem dL_law_903 : decode cL_law 903 = .ok (.istore 6, 2) := by decide +kernel
theorem dL_law_905 : decode cL_law 905 = .ok (.aload_n 2, 1) := by decide +kernel
theorem dL_law_906 : decode cL_law 906 = .ok (.invokevirtual 75, 3) := by decide +kernel
theorem dL_law_909 : decode cL_law 909 = .ok (.iload 5, 2) := by decide +kernel
theorem dL_law_911 : decode cL_law 911 = .ok (.if_icmp .eq 5, 3) := by decide +kernel
theorem dL_law_914 : decode cL_law 914 = .ok (.iconst 0, 1) := by decide +kernel
theorem dL_law_915 : decode cL_law 915 = .ok (.ireturn, 1) := by decide +kernel
theorem dL_law_916 : decode cL_law 916 = .ok (.iload 5, 2) := by decide +kernel
theorem dL_law_918 : decode cL_law 918 = .ok (.ifCond .ne 15, 3) := by decide +kernel
theorem dL_law_921 : decode cL_law 921 = .ok (.aload_n 3, 1) := by decide +kernel
theorem dL_law_922 : decode cL_law 922 = .ok (.iconst 0, 1) := by decide +kernel
theorem dL_law_923 : decode cL_law 923 = .ok (.laload, 1) := by decide +kernel
theorem dL_law_924 : decode cL_law 924 = .ok (.iload 6, 2) := by decide +kernel
theorem dL_law_926 : decode cL_law 926 = .ok (.i2l, 1) := by decide +kernel
theorem dL_law_927 : decode cL_law 927 = .ok (.lcmp, 1) := by decide +kernel
theorem dL_law_928 : decode cL_law 928 = .ok (.ifCond .eq 5, 3) := by decide +kernel
theorem dL_law_931 : decode cL_law 931 = .ok (.iconst 0, 1) := by decide +kernel
theorem dL_law_932 : decode cL_law 932 = .ok (.ireturn, 1) := by decide +kernel
theorem dL_law_933 : decode cL_law 933 = .ok (.goto 3, 3) := by decide +kernel
theorem dL_law_936 : decode cL_law 936 = .ok (.iinc 4 3, 3) := by decide +kernel
theorem dL_law_939 : decode cL_law 939 = .ok (.goto (-916), 3) := by decide +kernel
theorem dL_law_942 : decode cL_law 942 = .ok (.iconst 1, 1) := by decide +kernel
theorem dL_law_943 : decode cL_law 943 = .ok (.ireturn, 1) := by decide +kernel
abbrev okf_law_23 (x : Int) : Prop := R32 x
abbrev lvf_law_23 (Γ : Gm) (x : Int) : List (Nat × Value) := [(0, vA (mg Γ) (-250)), (1, vA (mg Γ) 1), (2, vA (mg Γ) 21), (3, vA (mg Γ) 99), (4, vI x)]
noncomputable def f_law_936 (scr : Int → Int) (sl : Int) {A : Type} (k_146 : Mo Wd A) (k_163 : Mo Wd A) (k_199 : Mo Wd A) (k_215 : Mo Wd A) (k_239 : Mo Wd A) (k_256 : Mo Wd A) (k_295 : Mo Wd A) (k_312 : Mo Wd A) (k_339 : Mo Wd A) (k_356 : Mo Wd A) (k_395 : Mo Wd A) (k_412 : Mo Wd A) (k_463 : Mo Wd A) (k_480 : Mo Wd A) (k_531 : Mo Wd A) (k_555 : Mo Wd A) (k_606 : Mo Wd A) (k_623 : Mo Wd A) (k_690 : Mo Wd A) (k_707 : Mo Wd A) (k_746 : Mo Wd A) (k_763 : Mo Wd A) (k_802 : Mo Wd A) (k_819 : Mo Wd A) (k_858 : Mo Wd A) (k_875 : Mo Wd A) (k_914 : Mo Wd A) (k_931 : Mo Wd A) (k_942 : Mo Wd A) (l4 : Int) : Mo Wd ((Int) ⊕ A) :=
  pr (.inl (w32 (l4 + 3)))
theorem sf_law_936 {Γ : Gm} {scr : Int → Int} {sl : Int} {d : Nat} (hS : SCR Γ scr sl) (o : Ok Γ "LazyForgeLaw" cL_law 7 (Option.some Jvm.ClassFile.FieldType.boolean) (d + 614)) {A : Type} {K : A → Wd → Prop}  (k_146 : Mo Wd A) (k_163 : Mo Wd A) (k_199 : Mo Wd A) (k_215 : Mo Wd A) (k_239 : Mo Wd A) (k_256 : Mo Wd A) (k_295 : Mo Wd A) (k_312 : Mo Wd A) (k_339 : Mo Wd A) (k_356 : Mo Wd A) (k_395 : Mo Wd A) (k_412 : Mo Wd A) (k_463 : Mo Wd A) (k_480 : Mo Wd A) (k_531 : Mo Wd A) (k_555 : Mo Wd A) (k_606 : Mo Wd A) (k_623 : Mo Wd A) (k_690 : Mo Wd A) (k_707 : Mo Wd A) (k_746 : Mo Wd A) (k_763 : Mo Wd A) (k_802 : Mo Wd A) (k_819 : Mo Wd A) (k_858 : Mo Wd A) (k_875 : Mo Wd A) (k_914 : Mo Wd A) (k_931 : Mo Wd A) (k_942 : Mo Wd A) (hk_146 : Sx Γ (fun (w : Wd) => w) K 146 [] [] (k_146)) (hk_163 : Sx Γ (fun (w : Wd) => w) K 163 [] [] (k_163)) (hk_199 : Sx Γ (fun (w : Wd) => w) K 199 [] [] (k_199)) (hk_215 : Sx Γ (fun (w : Wd) => w) K 215 [] [] (k_215)) (hk_239 : Sx Γ (fun (w : Wd) => w) K 239 [] [] (k_239)) (hk_256 : Sx Γ (fun (w : Wd) => w) K 256 [] [] (k_256)) (hk_295 : Sx Γ (fun (w : Wd) => w) K 295 [] [] (k_295)) (hk_312 : Sx Γ (fun (w : Wd) => w) K 312 [] [] (k_312)) (hk_339 : Sx Γ (fun (w : Wd) => w) K 339 [] [] (k_339)) (hk_356 : Sx Γ (fun (w : Wd) => w) K 356 [] [] (k_356)) (hk_395 : Sx Γ (fun (w : Wd) => w) K 395 [] [] (k_395)) (hk_412 : Sx Γ (fun (w : Wd) => w) K 412 [] [] (k_412)) (hk_463 : Sx Γ (fun (w : Wd) => w) K 463 [] [] (k_463)) (hk_480 : Sx Γ (fun (w : Wd) => w) K 480 [] [] (k_480)) (hk_531 : Sx Γ (fun (w : Wd) => w) K 531 [] [] (k_531)) (hk_555 : Sx Γ (fun (w : Wd) => w) K 555 [] [] (k_555)) (hk_606 : Sx Γ (fun (w : Wd) => w) K 606 [] [] (k_606)) (hk_623 : Sx Γ (fun (w : Wd) => w) K 623 [] [] (k_623)) (hk_690 : Sx Γ (fun (w : Wd) => w) K 690 [] [] (k_690)) (hk_707 : Sx Γ (fun (w : Wd) => w) K 707 [] [] (k_707)) (hk_746 : Sx Γ (fun (w : Wd) => w) K 746 [] [] (k_746)) (hk_763 : Sx Γ (fun (w : Wd) => w) K 763 [] [] (k_763)) (hk_802 : Sx Γ (fun (w : Wd) => w) K 802 [] [] (k_802)) (hk_819 : Sx Γ (fun (w : Wd) => w) K 819 [] [] (k_819)) (hk_858 : Sx Γ (fun (w : Wd) => w) K 858 [] [] (k_858)) (hk_875 : Sx Γ (fun (w : Wd) => w) K 875 [] [] (k_875)) (hk_914 : Sx Γ (fun (w : Wd) => w) K 914 [] [] (k_914)) (hk_931 : Sx Γ (fun (w : Wd) => w) K 931 [] [] (k_931)) (hk_942 : Sx Γ (fun (w : Wd) => w) K 942 [] [] (k_942)) (l4 : Int) (hl4 : R32 l4) : Sx Γ (fun (w : Wd) => w) (KL Γ (fun (w : Wd) => w) okf_law_23 K 23 (lvf_law_23 Γ) []) 936 [(0, vA (mg Γ) (-250)), (1, vA (mg Γ) 1), (2, vA (mg Γ) 21), (3, vA (mg Γ) 99), (4, vI l4)] [] (f_law_936 scr sl k_146 k_163 k_199 k_215 k_239 k_256 k_295 k_312 k_339 k_356 k_395 k_412 k_463 k_480 k_531 k_555 k_606 k_623 k_690 k_707 k_746 k_763 k_802 k_819 k_858 k_875 k_914 k_931 k_942 l4) := by
  unfold f_law_936
  refine r_iinc (j := 4) o dL_law_936 rfl rfl [(0, vA (mg Γ) (-250)), (1, vA (mg Γ) 1), (2, vA (mg Γ) 21), (3, vA (mg Γ) 99)] [0, 1, 2, 3] rfl ⟨(Nat.ne_of_beq_eq_false rfl), (fun _ => (vA_cat (mg Γ) (-250))), ⟨(Nat.ne_of_beq_eq_false rfl), (fun _ => (vA_cat (mg Γ) 1)), ⟨(Nat.ne_of_beq_eq_false rfl), (fun _ => (vA_cat (mg Γ) 21)), ⟨(Nat.ne_of_beq_eq_false rfl), (fun _ => (vA_cat (mg Γ) 99)), trivial⟩⟩⟩⟩ ?_
  refine s_goto (tgt := 23) o dL_law_939 (by decide) ?_
  refine r_to [(0, vA (mg Γ) (-250)), (1, vA (mg Γ) 1), (2, vA (mg Γ) 21), (3, vA (mg Γ) 99), (4, vI (w32 (l4 + 3)))] [1, 2, 3, 4, 0] rfl ?_
  exact s_back (w32_R _) rfl
noncomputable def f_law_165 (scr : Int → Int) (sl : Int) {A : Type} (k_146 : Mo Wd A) (k_163 : Mo Wd A) (k_199 : Mo Wd A) (k_215 : Mo Wd A) (k_239 : Mo Wd A) (k_256 : Mo Wd A) (k_295 : Mo Wd A) (k_312 : Mo Wd A) (k_339 : Mo Wd A) (k_356 : Mo Wd A) (k_395 : Mo Wd A) (k_412 : Mo Wd A) (k_463 : Mo Wd A) (k_480 : Mo Wd A) (k_531 : Mo Wd A) (k_555 : Mo Wd A) (k_606 : Mo Wd A) (k_623 : Mo Wd A) (k_690 : Mo Wd A) (k_707 : Mo Wd A) (k_746 : Mo Wd A) (k_763 : Mo Wd A) (k_802 : Mo Wd A) (k_819 : Mo Wd A) (k_858 : Mo Wd A) (k_875 : Mo Wd A) (k_914 : Mo Wd A) (k_931 : Mo Wd A) (k_942 : Mo Wd A) (l4 : Int) : Mo Wd ((Int) ⊕ A) :=
  f_law_936 scr sl k_146 k_163 k_199 k_215 k_239 k_256 k_295 k_312 k_339 k_356 k_395 k_412 k_463 k_480 k_531 k_555 k_606 k_623 k_690 k_707 k_746 k_763 k_802 k_819 k_858 k_875 k_914 k_931 k_942 l4
theorem sf_law_165 {Γ : Gm} {scr : Int → Int} {sl : Int} {d : Nat} (hS : SCR Γ scr sl) (o : Ok Γ "LazyForgeLaw" cL_law 7 (Option.some Jvm.ClassFile.FieldType.boolean) (d + 614)) {A : Type} {K : A → Wd → Prop}  (k_146 : Mo Wd A) (k_163 : Mo Wd A) (k_199 : Mo Wd A) (k_215 : Mo Wd A) (k_239 : Mo Wd A) (k_256 : Mo Wd A) (k_295 : Mo Wd A) (k_312 : Mo Wd A) (k_339 : Mo Wd A) (k_356 : Mo Wd A) (k_395 : Mo Wd A) (k_412 : Mo Wd A) (k_463 : Mo Wd A) (k_480 : Mo Wd A) (k_531 : Mo Wd A) (k_555 : Mo Wd A) (k_606 : Mo Wd A) (k_623 : Mo Wd A) (k_690 : Mo Wd A) (k_707 : Mo Wd A) (k_746 : Mo Wd A) (k_763 : Mo Wd A) (k_802 : Mo Wd A) (k_819 : Mo Wd A) (k_858 : Mo Wd A) (k_875 : Mo Wd A) (k_914 : Mo Wd A) (k_931 : Mo Wd A) (k_942 : Mo Wd A) (hk_146 : Sx Γ (fun (w : Wd) => w) K 146 [] [] (k_146)) (hk_163 : Sx Γ (fun (w : Wd) => w) K 163 [] [] (k_163)) (hk_199 : Sx Γ (fun (w : Wd) => w) K 199 [] [] (k_199)) (hk_215 : Sx Γ (fun (w : Wd) => w) K 215 [] [] (k_215)) (hk_239 : Sx Γ (fun (w : Wd) => w) K 239 [] [] (k_239)) (hk_256 : Sx Γ (fun (w : Wd) => w) K 256 [] [] (k_256)) (hk_295 : Sx Γ (fun (w : Wd) => w) K 295 [] [] (k_295)) (hk_312 : Sx Γ (fun (w : Wd) => w) K 312 [] [] (k_312)) (hk_339 : Sx Γ (fun (w : Wd) => w) K 339 [] [] (k_339)) (hk_356 : Sx Γ (fun (w : Wd) => w) K 356 [] [] (k_356)) (hk_395 : Sx Γ (fun (w : Wd) => w) K 395 [] [] (k_395)) (hk_412 : Sx Γ (fun (w : Wd) => w) K 412 [] [] (k_412)) (hk_463 : Sx Γ (fun (w : Wd) => w) K 463 [] [] (k_463)) (hk_480 : Sx Γ (fun (w : Wd) => w) K 480 [] [] (k_480)) (hk_531 : Sx Γ (fun (w : Wd) => w) K 531 [] [] (k_531)) (hk_555 : Sx Γ (fun (w : Wd) => w) K 555 [] [] (k_555)) (hk_606 : Sx Γ (fun (w : Wd) => w) K 606 [] [] (k_606)) (hk_623 : Sx Γ (fun (w : Wd) => w) K 623 [] [] (k_623)) (hk_690 : Sx Γ (fun (w : Wd) => w) K 690 [] [] (k_690)) (hk_707 : Sx Γ (fun (w : Wd) => w) K 707 [] [] (k_707)) (hk_746 : Sx Γ (fun (w : Wd) => w) K 746 [] [] (k_746)) (hk_763 : Sx Γ (fun (w : Wd) => w) K 763 [] [] (k_763)) (hk_802 : Sx Γ (fun (w : Wd) => w) K 802 [] [] (k_802)) (hk_819 : Sx Γ (fun (w : Wd) => w) K 819 [] [] (k_819)) (hk_858 : Sx Γ (fun (w : Wd) => w) K 858 [] [] (k_858)) (hk_875 : Sx Γ (fun (w : Wd) => w) K 875 [] [] (k_875)) (hk_914 : Sx Γ (fun (w : Wd) => w) K 914 [] [] (k_914)) (hk_931 : Sx Γ (fun (w : Wd) => w) K 931 [] [] (k_931)) (hk_942 : Sx Γ (fun (w : Wd) => w) K 942 [] [] (k_942)) (l4 : Int) (hl4 : R32 l4) : Sx Γ (fun (w : Wd) => w) (KL Γ (fun (w : Wd) => w) okf_law_23 K 23 (lvf_law_23 Γ) []) 165 [(0, vA (mg Γ) (-250)), (1, vA (mg Γ) 1), (2, vA (mg Γ) 21), (3, vA (mg Γ) 99), (4, vI l4)] [] (f_law_165 scr sl k_146 k_163 k_199 k_215 k_239 k_256 k_295 k_312 k_339 k_356 k_395 k_412 k_463 k_480 k_531 k_555 k_606 k_623 k_690 k_707 k_746 k_763 k_802 k_819 k_858 k_875 k_914 k_931 k_942 l4) := by
  unfold f_law_165
  refine s_goto (tgt := 936) o dL_law_165 (by decide) ?_
  exact sf_law_936 hS o k_146 k_163 k_199 k_215 k_239 k_256 k_295 k_312 k_339 k_356 k_395 k_412 k_463 k_480 k_531 k_555 k_606 k_623 k_690 k_707 k_746 k_763 k_802 k_819 k_858 k_875 k_914 k_931 k_942 hk_146 hk_163 hk_199 hk_215 hk_239 hk_256 hk_295 hk_312 hk_339 hk_356 hk_395 hk_412 hk_463 hk_480 hk_531 hk_555 hk_606 hk_623 hk_690 hk_707 hk_746 hk_763 hk_802 hk_819 hk_858 hk_875 hk_914 hk_931 hk_942 l4 hl4
noncomputable def f_law_258 (scr : Int → Int) (sl : Int) {A : Type} (k_146 : Mo Wd A) (k_163 : Mo Wd A) (k_199 : Mo Wd A) (k_215 : Mo Wd A) (k_239 : Mo Wd A) (k_256 : Mo Wd A) (k_295 : Mo Wd A) (k_312 : Mo Wd A) (k_339 : Mo Wd A) (k_356 : Mo Wd A) (k_395 : Mo Wd A) (k_412 : Mo Wd A) (k_463 : Mo Wd A) (k_480 : Mo Wd A) (k_531 : Mo Wd A) (k_555 : Mo Wd A) (k_606 : Mo Wd A) (k_623 : Mo Wd A) (k_690 : Mo Wd A) (k_707 : Mo Wd A) (k_746 : Mo Wd A) (k_763 : Mo Wd A) (k_802 : Mo Wd A) (k_819 : Mo Wd A) (k_858 : Mo Wd A) (k_875 : Mo Wd A) (k_914 : Mo Wd A) (k_931 : Mo Wd A) (k_942 : Mo Wd A) (l4 : Int) : Mo Wd ((Int) ⊕ A) :=
  f_law_936 scr sl k_146 k_163 k_199 k_215 k_239 k_256 k_295 k_312 k_339 k_356 k_395 k_412 k_463 k_480 k_531 k_555 k_606 k_623 k_690 k_707 k_746 k_763 k_802 k_819 k_858 k_875 k_914 k_931 k_942 l4
theorem sf_law_258 {Γ : Gm} {scr : Int → Int} {sl : Int} {d : Nat} (hS : SCR Γ scr sl) (o : Ok Γ "LazyForgeLaw" cL_law 7 (Option.some Jvm.ClassFile.FieldType.boolean) (d + 614)) {A : Type} {K : A → Wd → Prop}  (k_146 : Mo Wd A) (k_163 : Mo Wd A) (k_199 : Mo Wd A) (k_215 : Mo Wd A) (k_239 : Mo Wd A) (k_256 : Mo Wd A) (k_295 : Mo Wd A) (k_312 : Mo Wd A) (k_339 : Mo Wd A) (k_356 : Mo Wd A) (k_395 : Mo Wd A) (k_412 : Mo Wd A) (k_463 : Mo Wd A) (k_480 : Mo Wd A) (k_531 : Mo Wd A) (k_555 : Mo Wd A) (k_606 : Mo Wd A) (k_623 : Mo Wd A) (k_690 : Mo Wd A) (k_707 : Mo Wd A) (k_746 : Mo Wd A) (k_763 : Mo Wd A) (k_802 : Mo Wd A) (k_819 : Mo Wd A) (k_858 : Mo Wd A) (k_875 : Mo Wd A) (k_914 : Mo Wd A) (k_931 : Mo Wd A) (k_942 : Mo Wd A) (hk_146 : Sx Γ (fun (w : Wd) => w) K 146 [] [] (k_146)) (hk_163 : Sx Γ (fun (w : Wd) => w) K 163 [] [] (k_163)) (hk_199 : Sx Γ (fun (w : Wd) => w) K 199 [] [] (k_199)) (hk_215 : Sx Γ (fun (w : Wd) => w) K 215 [] [] (k_215)) (hk_239 : Sx Γ (fun (w : Wd) => w) K 239 [] [] (k_239)) (hk_256 : Sx Γ (fun (w : Wd) => w) K 256 [] [] (k_256)) (hk_295 : Sx Γ (fun (w : Wd) => w) K 295 [] [] (k_295)) (hk_312 : Sx Γ (fun (w : Wd) => w) K 312 [] [] (k_312)) (hk_339 : Sx Γ (fun (w : Wd) => w) K 339 [] [] (k_339)) (hk_356 : Sx Γ (fun (w : Wd) => w) K 356 [] [] (k_356)) (hk_395 : Sx Γ (fun (w : Wd) => w) K 395 [] [] (k_395)) (hk_412 : Sx Γ (fun (w : Wd) => w) K 412 [] [] (k_412)) (hk_463 : Sx Γ (fun (w : Wd) => w) K 463 [] [] (k_463)) (hk_480 : Sx Γ (fun (w : Wd) => w) K 480 [] [] (k_480)) (hk_531 : Sx Γ (fun (w : Wd) => w) K 531 [] [] (k_531)) (hk_555 : Sx Γ (fun (w : Wd) => w) K 555 [] [] (k_555)) (hk_606 : Sx Γ (fun (w : Wd) => w) K 606 [] [] (k_606)) (hk_623 : Sx Γ (fun (w : Wd) => w) K 623 [] [] (k_623)) (hk_690 : Sx Γ (fun (w : Wd) => w) K 690 [] [] (k_690)) (hk_707 : Sx Γ (fun (w : Wd) => w) K 707 [] [] (k_707)) (hk_746 : Sx Γ (fun (w : Wd) => w) K 746 [] [] (k_746)) (hk_763 : Sx Γ (fun (w : Wd) => w) K 763 [] [] (k_763)) (hk_802 : Sx Γ (fun (w : Wd) => w) K 802 [] [] (k_802)) (hk_819 : Sx Γ (fun (w : Wd) => w) K 819 [] [] (k_819)) (hk_858 : Sx Γ (fun (w : Wd) => w) K 858 [] [] (k_858)) (hk_875 : Sx Γ (fun (w : Wd) => w) K 875 [] [] (k_875)) (hk_914 : Sx Γ (fun (w : Wd) => w) K 914 [] [] (k_914)) (hk_931 : Sx Γ (fun (w : Wd) => w) K 931 [] [] (k_931)) (hk_942 : Sx Γ (fun (w : Wd) => w) K 942 [] [] (k_942)) (l4 : Int) (hl4 : R32 l4) : Sx Γ (fun (w : Wd) => w) (KL Γ (fun (w : Wd) => w) okf_law_23 K 23 (lvf_law_23 Γ) []) 258 [(0, vA (mg Γ) (-250)), (1, vA (mg Γ) 1), (2, vA (mg Γ) 21), (3, vA (mg Γ) 99), (4, vI l4)] [] (f_law_258 scr sl k_146 k_163 k_199 k_215 k_239 k_256 k_295 k_312 k_339 k_356 k_395 k_412 k_463 k_480 k_531 k_555 k_606 k_623 k_690 k_707 k_746 k_763 k_802 k_819 k_858 k_875 k_914 k_931 k_942 l4) := by
  unfold f_law_258
  refine s_goto (tgt := 936) o dL_law_258 (by decide) ?_
  exact sf_law_936 hS o k_146 k_163 k_199 k_215 k_239 k_256 k_295 k_312 k_339 k_356 k_395 k_412 k_463 k_480 k_531 k_555 k_606 k_623 k_690 k_707 k_746 k_763 k_802 k_819 k_858 k_875 k_914 k_931 k_942 hk_146 hk_163 hk_199 hk_215 hk_239 hk_256 hk_295 hk_312 hk_339 hk_356 hk_395 hk_412 hk_463 hk_480 hk_531 hk_555 hk_606 hk_623 hk_690 hk_707 hk_746 hk_763 hk_802 hk_819 hk_858 hk_875 hk_914 hk_931 hk_942 l4 hl4
noncomputable def f_law_314 (scr : Int → Int) (sl : Int) {A : Type} (k_146 : Mo Wd A) (k_163 : Mo Wd A) (k_199 : Mo Wd A) (k_215 : Mo Wd A) (k_239 : Mo Wd A) (k_256 : Mo Wd A) (k_295 : Mo Wd A) (k_312 : Mo Wd A) (k_339 : Mo Wd A) (k_356 : Mo Wd A) (k_395 : Mo Wd A) (k_412 : Mo Wd A) (k_463 : Mo Wd A) (k_480 : Mo Wd A) (k_531 : Mo Wd A) (k_555 : Mo Wd A) (k_606 : Mo Wd A) (k_623 : Mo Wd A) (k_690 : Mo Wd A) (k_707 : Mo Wd A) (k_746 : Mo Wd A) (k_763 : Mo Wd A) (k_802 : Mo Wd A) (k_819 : Mo Wd A) (k_858 : Mo Wd A) (k_875 : Mo Wd A) (k_914 : Mo Wd A) (k_931 : Mo Wd A) (k_942 : Mo Wd A) (l4 : Int) : Mo Wd ((Int) ⊕ A) :=
  f_law_936 scr sl k_146 k_163 k_199 k_215 k_239 k_256 k_295 k_312 k_339 k_356 k_395 k_412 k_463 k_480 k_531 k_555 k_606 k_623 k_690 k_707 k_746 k_763 k_802 k_819 k_858 k_875 k_914 k_931 k_942 l4
theorem sf_law_314 {Γ : Gm} {scr : Int → Int} {sl : Int} {d : Nat} (hS : SCR Γ scr sl) (o : Ok Γ "LazyForgeLaw" cL_law 7 (Option.some Jvm.ClassFile.FieldType.boolean) (d + 614)) {A : Type} {K : A → Wd → Prop}  (k_146 : Mo Wd A) (k_163 : Mo Wd A) (k_199 : Mo Wd A) (k_215 : Mo Wd A) (k_239 : Mo Wd A) (k_256 : Mo Wd A) (k_295 : Mo Wd A) (k_312 : Mo Wd A) (k_339 : Mo Wd A) (k_356 : Mo Wd A) (k_395 : Mo Wd A) (k_412 : Mo Wd A) (k_463 : Mo Wd A) (k_480 : Mo Wd A) (k_531 : Mo Wd A) (k_555 : Mo Wd A) (k_606 : Mo Wd A) (k_623 : Mo Wd A) (k_690 : Mo Wd A) (k_707 : Mo Wd A) (k_746 : Mo Wd A) (k_763 : Mo Wd A) (k_802 : Mo Wd A) (k_819 : Mo Wd A) (k_858 : Mo Wd A) (k_875 : Mo Wd A) (k_914 : Mo Wd A) (k_931 : Mo Wd A) (k_942 : Mo Wd A) (hk_146 : Sx Γ (fun (w : Wd) => w) K 146 [] [] (k_146)) (hk_163 : Sx Γ (fun (w : Wd) => w) K 163 [] [] (k_163)) (hk_199 : Sx Γ (fun (w : Wd) => w) K 199 [] [] (k_199)) (hk_215 : Sx Γ (fun (w : Wd) => w) K 215 [] [] (k_215)) (hk_239 : Sx Γ (fun (w : Wd) => w) K 239 [] [] (k_239)) (hk_256 : Sx Γ (fun (w : Wd) => w) K 256 [] [] (k_256)) (hk_295 : Sx Γ (fun (w : Wd) => w) K 295 [] [] (k_295)) (hk_312 : Sx Γ (fun (w : Wd) => w) K 312 [] [] (k_312)) (hk_339 : Sx Γ (fun (w : Wd) => w) K 339 [] [] (k_339)) (hk_356 : Sx Γ (fun (w : Wd) => w) K 356 [] [] (k_356)) (hk_395 : Sx Γ (fun (w : Wd) => w) K 395 [] [] (k_395)) (hk_412 : Sx Γ (fun (w : Wd) => w) K 412 [] [] (k_412)) (hk_463 : Sx Γ (fun (w : Wd) => w) K 463 [] [] (k_463)) (hk_480 : Sx Γ (fun (w : Wd) => w) K 480 [] [] (k_480)) (hk_531 : Sx Γ (fun (w : Wd) => w) K 531 [] [] (k_531)) (hk_555 : Sx Γ (fun (w : Wd) => w) K 555 [] [] (k_555)) (hk_606 : Sx Γ (fun (w : Wd) => w) K 606 [] [] (k_606)) (hk_623 : Sx Γ (fun (w : Wd) => w) K 623 [] [] (k_623)) (hk_690 : Sx Γ (fun (w : Wd) => w) K 690 [] [] (k_690)) (hk_707 : Sx Γ (fun (w : Wd) => w) K 707 [] [] (k_707)) (hk_746 : Sx Γ (fun (w : Wd) => w) K 746 [] [] (k_746)) (hk_763 : Sx Γ (fun (w : Wd) => w) K 763 [] [] (k_763)) (hk_802 : Sx Γ (fun (w : Wd) => w) K 802 [] [] (k_802)) (hk_819 : Sx Γ (fun (w : Wd) => w) K 819 [] [] (k_819)) (hk_858 : Sx Γ (fun (w : Wd) => w) K 858 [] [] (k_858)) (hk_875 : Sx Γ (fun (w : Wd) => w) K 875 [] [] (k_875)) (hk_914 : Sx Γ (fun (w : Wd) => w) K 914 [] [] (k_914)) (hk_931 : Sx Γ (fun (w : Wd) => w) K 931 [] [] (k_931)) (hk_942 : Sx Γ (fun (w : Wd) => w) K 942 [] [] (k_942)) (l4 : Int) (hl4 : R32 l4) : Sx Γ (fun (w : Wd) => w) (KL Γ (fun (w : Wd) => w) okf_law_23 K 23 (lvf_law_23 Γ) []) 314 [(0, vA (mg Γ) (-250)), (1, vA (mg Γ) 1), (2, vA (mg Γ) 21), (3, vA (mg Γ) 99), (4, vI l4)] [] (f_law_314 scr sl k_146 k_163 k_199 k_215 k_239 k_256 k_295 k_312 k_339 k_356 k_395 k_412 k_463 k_480 k_531 k_555 k_606 k_623 k_690 k_707 k_746 k_763 k_802 k_819 k_858 k_875 k_914 k_931 k_942 l4) := by
  unfold f_law_314
  refine s_goto (tgt := 936) o dL_law_314 (by decide) ?_
  exact sf_law_936 hS o k_146 k_163 k_199 k_215 k_239 k_256 k_295 k_312 k_339 k_356 k_395 k_412 k_463 k_480 k_531 k_555 k_606 k_623 k_690 k_707 k_746 k_763 k_802 k_819 k_858 k_875 k_914 k_931 k_942 hk_146 hk_163 hk_199 hk_215 hk_239 hk_256 hk_295 hk_312 hk_339 hk_356 hk_395 hk_412 hk_463 hk_480 hk_531 hk_555 hk_606 hk_623 hk_690 hk_707 hk_746 hk_763 hk_802 hk_819 hk_858 hk_875 hk_914 hk_931 hk_942 l4 hl4
noncomputable def f_law_358 (scr : Int → Int) (sl : Int) {A : Type} (k_146 : Mo Wd A) (k_163 : Mo Wd A) (k_199 : Mo Wd A) (k_215 : Mo Wd A) (k_239 : Mo Wd A) (k_256 : Mo Wd A) (k_295 : Mo Wd A) (k_312 : Mo Wd A) (k_339 : Mo Wd A) (k_356 : Mo Wd A) (k_395 : Mo Wd A) (k_412 : Mo Wd A) (k_463 : Mo Wd A) (k_480 : Mo Wd A) (k_531 : Mo Wd A) (k_555 : Mo Wd A) (k_606 : Mo Wd A) (k_623 : Mo Wd A) (k_690 : Mo Wd A) (k_707 : Mo Wd A) (k_746 : Mo Wd A) (k_763 : Mo Wd A) (k_802 : Mo Wd A) (k_819 : Mo Wd A) (k_858 : Mo Wd A) (k_875 : Mo Wd A) (k_914 : Mo Wd A) (k_931 : Mo Wd A) (k_942 : Mo Wd A) (l4 : Int) : Mo Wd ((Int) ⊕ A) :=
  f_law_936 scr sl k_146 k_163 k_199 k_215 k_239 k_256 k_295 k_312 k_339 k_356 k_395 k_412 k_463 k_480 k_531 k_555 k_606 k_623 k_690 k_707 k_746 k_763 k_802 k_819 k_858 k_875 k_914 k_931 k_942 l4
theorem sf_law_358 {Γ : Gm} {scr : Int → Int} {sl : Int} {d : Nat} (hS : SCR Γ scr sl) (o : Ok Γ "LazyForgeLaw" cL_law 7 (Option.some Jvm.ClassFile.FieldType.boolean) (d + 614)) {A : Type} {K : A → Wd → Prop}  (k_146 : Mo Wd A) (k_163 : Mo Wd A) (k_199 : Mo Wd A) (k_215 : Mo Wd A) (k_239 : Mo Wd A) (k_256 : Mo Wd A) (k_295 : Mo Wd A) (k_312 : Mo Wd A) (k_339 : Mo Wd A) (k_356 : Mo Wd A) (k_395 : Mo Wd A) (k_412 : Mo Wd A) (k_463 : Mo Wd A) (k_480 : Mo Wd A) (k_531 : Mo Wd A) (k_555 : Mo Wd A) (k_606 : Mo Wd A) (k_623 : Mo Wd A) (k_690 : Mo Wd A) (k_707 : Mo Wd A) (k_746 : Mo Wd A) (k_763 : Mo Wd A) (k_802 : Mo Wd A) (k_819 : Mo Wd A) (k_858 : Mo Wd A) (k_875 : Mo Wd A) (k_914 : Mo Wd A) (k_931 : Mo Wd A) (k_942 : Mo Wd A) (hk_146 : Sx Γ (fun (w : Wd) => w) K 146 [] [] (k_146)) (hk_163 : Sx Γ (fun (w : Wd) => w) K 163 [] [] (k_163)) (hk_199 : Sx Γ (fun (w : Wd) => w) K 199 [] [] (k_199)) (hk_215 : Sx Γ (fun (w : Wd) => w) K 215 [] [] (k_215)) (hk_239 : Sx Γ (fun (w : Wd) => w) K 239 [] [] (k_239)) (hk_256 : Sx Γ (fun (w : Wd) => w) K 256 [] [] (k_256)) (hk_295 : Sx Γ (fun (w : Wd) => w) K 295 [] [] (k_295)) (hk_312 : Sx Γ (fun (w : Wd) => w) K 312 [] [] (k_312)) (hk_339 : Sx Γ (fun (w : Wd) => w) K 339 [] [] (k_339)) (hk_356 : Sx Γ (fun (w : Wd) => w) K 356 [] [] (k_356)) (hk_395 : Sx Γ (fun (w : Wd) => w) K 395 [] [] (k_395)) (hk_412 : Sx Γ (fun (w : Wd) => w) K 412 [] [] (k_412)) (hk_463 : Sx Γ (fun (w : Wd) => w) K 463 [] [] (k_463)) (hk_480 : Sx Γ (fun (w : Wd) => w) K 480 [] [] (k_480)) (hk_531 : Sx Γ (fun (w : Wd) => w) K 531 [] [] (k_531)) (hk_555 : Sx Γ (fun (w : Wd) => w) K 555 [] [] (k_555)) (hk_606 : Sx Γ (fun (w : Wd) => w) K 606 [] [] (k_606)) (hk_623 : Sx Γ (fun (w : Wd) => w) K 623 [] [] (k_623)) (hk_690 : Sx Γ (fun (w : Wd) => w) K 690 [] [] (k_690)) (hk_707 : Sx Γ (fun (w : Wd) => w) K 707 [] [] (k_707)) (hk_746 : Sx Γ (fun (w : Wd) => w) K 746 [] [] (k_746)) (hk_763 : Sx Γ (fun (w : Wd) => w) K 763 [] [] (k_763)) (hk_802 : Sx Γ (fun (w : Wd) => w) K 802 [] [] (k_802)) (hk_819 : Sx Γ (fun (w : Wd) => w) K 819 [] [] (k_819)) (hk_858 : Sx Γ (fun (w : Wd) => w) K 858 [] [] (k_858)) (hk_875 : Sx Γ (fun (w : Wd) => w) K 875 [] [] (k_875)) (hk_914 : Sx Γ (fun (w : Wd) => w) K 914 [] [] (k_914)) (hk_931 : Sx Γ (fun (w : Wd) => w) K 931 [] [] (k_931)) (hk_942 : Sx Γ (fun (w : Wd) => w) K 942 [] [] (k_942)) (l4 : Int) (hl4 : R32 l4) : Sx Γ (fun (w : Wd) => w) (KL Γ (fun (w : Wd) => w) okf_law_23 K 23 (lvf_law_23 Γ) []) 358 [(0, vA (mg Γ) (-250)), (1, vA (mg Γ) 1), (2, vA (mg Γ) 21), (3, vA (mg Γ) 99), (4, vI l4)] [] (f_law_358 scr sl k_146 k_163 k_199 k_215 k_239 k_256 k_295 k_312 k_339 k_356 k_395 k_412 k_463 k_480 k_531 k_555 k_606 k_623 k_690 k_707 k_746 k_763 k_802 k_819 k_858 k_875 k_914 k_931 k_942 l4) := by
  unfold f_law_358
  refine s_goto (tgt := 936) o dL_law_358 (by decide) ?_
  exact sf_law_936 hS o k_146 k_163 k_199 k_215 k_239 k_256 k_295 k_312 k_339 k_356 k_395 k_412 k_463 k_480 k_531 k_555 k_606 k_623 k_690 k_707 k_746 k_763 k_802 k_819 k_858 k_875 k_914 k_931 k_942 hk_146 hk_163 hk_199 hk_215 hk_239 hk_256 hk_295 hk_312 hk_339 hk_356 hk_395 hk_412 hk_463 hk_480 hk_531 hk_555 hk_606 hk_623 hk_690 hk_707 hk_746 hk_763 hk_802 hk_819 hk_858 hk_875 hk_914 hk_931 hk_942 l4 hl4
noncomputable def f_law_414 (scr : Int → Int) (sl : Int) {A : Type} (k_146 : Mo Wd A) (k_163 : Mo Wd A) (k_199 : Mo Wd A) (k_215 : Mo Wd A) (k_239 : Mo Wd A) (k_256 : Mo Wd A) (k_295 : Mo Wd A) (k_312 : Mo Wd A) (k_339 : Mo Wd A) (k_356 : Mo Wd A) (k_395 : Mo Wd A) (k_412 : Mo Wd A) (k_463 : Mo Wd A) (k_480 : Mo Wd A) (k_531 : Mo Wd A) (k_555 : Mo Wd A) (k_606 : Mo Wd A) (k_623 : Mo Wd A) (k_690 : Mo Wd A) (k_707 : Mo Wd A) (k_746 : Mo Wd A) (k_763 : Mo Wd A) (k_802 : Mo Wd A) (k_819 : Mo Wd A) (k_858 : Mo Wd A) (k_875 : Mo Wd A) (k_914 : Mo Wd A) (k_931 : Mo Wd A) (k_942 : Mo Wd A) (l4 : Int) : Mo Wd ((Int) ⊕ A) :=
  f_law_936 scr sl k_146 k_163 k_199 k_215 k_239 k_256 k_295 k_312 k_339 k_356 k_395 k_412 k_463 k_480 k_531 k_555 k_606 k_623 k_690 k_707 k_746 k_763 k_802 k_819 k_858 k_875 k_914 k_931 k_942 l4
theorem sf_law_414 {Γ : Gm} {scr : Int → Int} {sl : Int} {d : Nat} (hS : SCR Γ scr sl) (o : Ok Γ "LazyForgeLaw" cL_law 7 (Option.some Jvm.ClassFile.FieldType.boolean) (d + 614)) {A : Type} {K : A → Wd → Prop}  (k_146 : Mo Wd A) (k_163 : Mo Wd A) (k_199 : Mo Wd A) (k_215 : Mo Wd A) (k_239 : Mo Wd A) (k_256 : Mo Wd A) (k_295 : Mo Wd A) (k_312 : Mo Wd A) (k_339 : Mo Wd A) (k_356 : Mo Wd A) (k_395 : Mo Wd A) (k_412 : Mo Wd A) (k_463 : Mo Wd A) (k_480 : Mo Wd A) (k_531 : Mo Wd A) (k_555 : Mo Wd A) (k_606 : Mo Wd A) (k_623 : Mo Wd A) (k_690 : Mo Wd A) (k_707 : Mo Wd A) (k_746 : Mo Wd A) (k_763 : Mo Wd A) (k_802 : Mo Wd A) (k_819 : Mo Wd A) (k_858 : Mo Wd A) (k_875 : Mo Wd A) (k_914 : Mo Wd A) (k_931 : Mo Wd A) (k_942 : Mo Wd A) (hk_146 : Sx Γ (fun (w : Wd) => w) K 146 [] [] (k_146)) (hk_163 : Sx Γ (fun (w : Wd) => w) K 163 [] [] (k_163)) (hk_199 : Sx Γ (fun (w : Wd) => w) K 199 [] [] (k_199)) (hk_215 : Sx Γ (fun (w : Wd) => w) K 215 [] [] (k_215)) (hk_239 : Sx Γ (fun (w : Wd) => w) K 239 [] [] (k_239)) (hk_256 : Sx Γ (fun (w : Wd) => w) K 256 [] [] (k_256)) (hk_295 : Sx Γ (fun (w : Wd) => w) K 295 [] [] (k_295)) (hk_312 : Sx Γ (fun (w : Wd) => w) K 312 [] [] (k_312)) (hk_339 : Sx Γ (fun (w : Wd) => w) K 339 [] [] (k_339)) (hk_356 : Sx Γ (fun (w : Wd) => w) K 356 [] [] (k_356)) (hk_395 : Sx Γ (fun (w : Wd) => w) K 395 [] [] (k_395)) (hk_412 : Sx Γ (fun (w : Wd) => w) K 412 [] [] (k_412)) (hk_463 : Sx Γ (fun (w : Wd) => w) K 463 [] [] (k_463)) (hk_480 : Sx Γ (fun (w : Wd) => w) K 480 [] [] (k_480)) (hk_531 : Sx Γ (fun (w : Wd) => w) K 531 [] [] (k_531)) (hk_555 : Sx Γ (fun (w : Wd) => w) K 555 [] [] (k_555)) (hk_606 : Sx Γ (fun (w : Wd) => w) K 606 [] [] (k_606)) (hk_623 : Sx Γ (fun (w : Wd) => w) K 623 [] [] (k_623)) (hk_690 : Sx Γ (fun (w : Wd) => w) K 690 [] [] (k_690)) (hk_707 : Sx Γ (fun (w : Wd) => w) K 707 [] [] (k_707)) (hk_746 : Sx Γ (fun (w : Wd) => w) K 746 [] [] (k_746)) (hk_763 : Sx Γ (fun (w : Wd) => w) K 763 [] [] (k_763)) (hk_802 : Sx Γ (fun (w : Wd) => w) K 802 [] [] (k_802)) (hk_819 : Sx Γ (fun (w : Wd) => w) K 819 [] [] (k_819)) (hk_858 : Sx Γ (fun (w : Wd) => w) K 858 [] [] (k_858)) (hk_875 : Sx Γ (fun (w : Wd) => w) K 875 [] [] (k_875)) (hk_914 : Sx Γ (fun (w : Wd) => w) K 914 [] [] (k_914)) (hk_931 : Sx Γ (fun (w : Wd) => w) K 931 [] [] (k_931)) (hk_942 : Sx Γ (fun (w : Wd) => w) K 942 [] [] (k_942)) (l4 : Int) (hl4 : R32 l4) : Sx Γ (fun (w : Wd) => w) (KL Γ (fun (w : Wd) => w) okf_law_23 K 23 (lvf_law_23 Γ) []) 414 [(0, vA (mg Γ) (-250)), (1, vA (mg Γ) 1), (2, vA (mg Γ) 21), (3, vA (mg Γ) 99), (4, vI l4)] [] (f_law_414 scr sl k_146 k_163 k_199 k_215 k_239 k_256 k_295 k_312 k_339 k_356 k_395 k_412 k_463 k_480 k_531 k_555 k_606 k_623 k_690 k_707 k_746 k_763 k_802 k_819 k_858 k_875 k_914 k_931 k_942 l4) := by
  unfold f_law_414
  refine s_goto (tgt := 936) o dL_law_414 (by decide) ?_
  exact sf_law_936 hS o k_146 k_163 k_199 k_215 k_239 k_256 k_295 k_312 k_339 k_356 k_395 k_412 k_463 k_480 k_531 k_555 k_606 k_623 k_690 k_707 k_746 k_763 k_802 k_819 k_858 k_875 k_914 k_931 k_942 hk_146 hk_163 hk_199 hk_215 hk_239 hk_256 hk_295 hk_312 hk_339 hk_356 hk_395 hk_412 hk_463 hk_480 hk_531 hk_555 hk_606 hk_623 hk_690 hk_707 hk_746 hk_763 hk_802 hk_819 hk_858 hk_875 hk_914 hk_931 hk_942 l4 hl4
noncomputable def f_law_482 (scr : Int → Int) (sl : Int) {A : Type} (k_146 : Mo Wd A) (k_163 : Mo Wd A) (k_199 : Mo Wd A) (k_215 : Mo Wd A) (k_239 : Mo Wd A) (k_256 : Mo Wd A) (k_295 : Mo Wd A) (k_312 : Mo Wd A) (k_339 : Mo Wd A) (k_356 : Mo Wd A) (k_395 : Mo Wd A) (k_412 : Mo Wd A) (k_463 : Mo Wd A) (k_480 : Mo Wd A) (k_531 : Mo Wd A) (k_555 : Mo Wd A) (k_606 : Mo Wd A) (k_623 : Mo Wd A) (k_690 : Mo Wd A) (k_707 : Mo Wd A) (k_746 : Mo Wd A) (k_763 : Mo Wd A) (k_802 : Mo Wd A) (k_819 : Mo Wd A) (k_858 : Mo Wd A) (k_875 : Mo Wd A) (k_914 : Mo Wd A) (k_931 : Mo Wd A) (k_942 : Mo Wd A) (l4 : Int) : Mo Wd ((Int) ⊕ A) :=
  f_law_936 scr sl k_146 k_163 k_199 k_215 k_239 k_256 k_295 k_312 k_339 k_356 k_395 k_412 k_463 k_480 k_531 k_555 k_606 k_623 k_690 k_707 k_746 k_763 k_802 k_819 k_858 k_875 k_914 k_931 k_942 l4
theorem sf_law_482 {Γ : Gm} {scr : Int → Int} {sl : Int} {d : Nat} (hS : SCR Γ scr sl) (o : Ok Γ "LazyForgeLaw" cL_law 7 (Option.some Jvm.ClassFile.FieldType.boolean) (d + 614)) {A : Type} {K : A → Wd → Prop}  (k_146 : Mo Wd A) (k_163 : Mo Wd A) (k_199 : Mo Wd A) (k_215 : Mo Wd A) (k_239 : Mo Wd A) (k_256 : Mo Wd A) (k_295 : Mo Wd A) (k_312 : Mo Wd A) (k_339 : Mo Wd A) (k_356 : Mo Wd A) (k_395 : Mo Wd A) (k_412 : Mo Wd A) (k_463 : Mo Wd A) (k_480 : Mo Wd A) (k_531 : Mo Wd A) (k_555 : Mo Wd A) (k_606 : Mo Wd A) (k_623 : Mo Wd A) (k_690 : Mo Wd A) (k_707 : Mo Wd A) (k_746 : Mo Wd A) (k_763 : Mo Wd A) (k_802 : Mo Wd A) (k_819 : Mo Wd A) (k_858 : Mo Wd A) (k_875 : Mo Wd A) (k_914 : Mo Wd A) (k_931 : Mo Wd A) (k_942 : Mo Wd A) (hk_146 : Sx Γ (fun (w : Wd) => w) K 146 [] [] (k_146)) (hk_163 : Sx Γ (fun (w : Wd) => w) K 163 [] [] (k_163)) (hk_199 : Sx Γ (fun (w : Wd) => w) K 199 [] [] (k_199)) (hk_215 : Sx Γ (fun (w : Wd) => w) K 215 [] [] (k_215)) (hk_239 : Sx Γ (fun (w : Wd) => w) K 239 [] [] (k_239)) (hk_256 : Sx Γ (fun (w : Wd) => w) K 256 [] [] (k_256)) (hk_295 : Sx Γ (fun (w : Wd) => w) K 295 [] [] (k_295)) (hk_312 : Sx Γ (fun (w : Wd) => w) K 312 [] [] (k_312)) (hk_339 : Sx Γ (fun (w : Wd) => w) K 339 [] [] (k_339)) (hk_356 : Sx Γ (fun (w : Wd) => w) K 356 [] [] (k_356)) (hk_395 : Sx Γ (fun (w : Wd) => w) K 395 [] [] (k_395)) (hk_412 : Sx Γ (fun (w : Wd) => w) K 412 [] [] (k_412)) (hk_463 : Sx Γ (fun (w : Wd) => w) K 463 [] [] (k_463)) (hk_480 : Sx Γ (fun (w : Wd) => w) K 480 [] [] (k_480)) (hk_531 : Sx Γ (fun (w : Wd) => w) K 531 [] [] (k_531)) (hk_555 : Sx Γ (fun (w : Wd) => w) K 555 [] [] (k_555)) (hk_606 : Sx Γ (fun (w : Wd) => w) K 606 [] [] (k_606)) (hk_623 : Sx Γ (fun (w : Wd) => w) K 623 [] [] (k_623)) (hk_690 : Sx Γ (fun (w : Wd) => w) K 690 [] [] (k_690)) (hk_707 : Sx Γ (fun (w : Wd) => w) K 707 [] [] (k_707)) (hk_746 : Sx Γ (fun (w : Wd) => w) K 746 [] [] (k_746)) (hk_763 : Sx Γ (fun (w : Wd) => w) K 763 [] [] (k_763)) (hk_802 : Sx Γ (fun (w : Wd) => w) K 802 [] [] (k_802)) (hk_819 : Sx Γ (fun (w : Wd) => w) K 819 [] [] (k_819)) (hk_858 : Sx Γ (fun (w : Wd) => w) K 858 [] [] (k_858)) (hk_875 : Sx Γ (fun (w : Wd) => w) K 875 [] [] (k_875)) (hk_914 : Sx Γ (fun (w : Wd) => w) K 914 [] [] (k_914)) (hk_931 : Sx Γ (fun (w : Wd) => w) K 931 [] [] (k_931)) (hk_942 : Sx Γ (fun (w : Wd) => w) K 942 [] [] (k_942)) (l4 : Int) (hl4 : R32 l4) : Sx Γ (fun (w : Wd) => w) (KL Γ (fun (w : Wd) => w) okf_law_23 K 23 (lvf_law_23 Γ) []) 482 [(0, vA (mg Γ) (-250)), (1, vA (mg Γ) 1), (2, vA (mg Γ) 21), (3, vA (mg Γ) 99), (4, vI l4)] [] (f_law_482 scr sl k_146 k_163 k_199 k_215 k_239 k_256 k_295 k_312 k_339 k_356 k_395 k_412 k_463 k_480 k_531 k_555 k_606 k_623 k_690 k_707 k_746 k_763 k_802 k_819 k_858 k_875 k_914 k_931 k_942 l4) := by
  unfold f_law_482
  refine s_goto (tgt := 936) o dL_law_482 (by decide) ?_
  exact sf_law_936 hS o k_146 k_163 k_199 k_215 k_239 k_256 k_295 k_312 k_339 k_356 k_395 k_412 k_463 k_480 k_531 k_555 k_606 k_623 k_690 k_707 k_746 k_763 k_802 k_819 k_858 k_875 k_914 k_931 k_942 hk_146 hk_163 hk_199 hk_215 hk_239 hk_256 hk_295 hk_312 hk_339 hk_356 hk_395 hk_412 hk_463 hk_480 hk_531 hk_555 hk_606 hk_623 hk_690 hk_707 hk_746 hk_763 hk_802 hk_819 hk_858 hk_875 hk_914 hk_931 hk_942 l4 hl4
noncomputable def f_law_557 (scr : Int → Int) (sl : Int) {A : Type} (k_146 : Mo Wd A) (k_163 : Mo Wd A) (k_199 : Mo Wd A) (k_215 : Mo Wd A) (k_239 : Mo Wd A) (k_256 : Mo Wd A) (k_295 : Mo Wd A) (k_312 : Mo Wd A) (k_339 : Mo Wd A) (k_356 : Mo Wd A) (k_395 : Mo Wd A) (k_412 : Mo Wd A) (k_463 : Mo Wd A) (k_480 : Mo Wd A) (k_531 : Mo Wd A) (k_555 : Mo Wd A) (k_606 : Mo Wd A) (k_623 : Mo Wd A) (k_690 : Mo Wd A) (k_707 : Mo Wd A) (k_746 : Mo Wd A) (k_763 : Mo Wd A) (k_802 : Mo Wd A) (k_819 : Mo Wd A) (k_858 : Mo Wd A) (k_875 : Mo Wd A) (k_914 : Mo Wd A) (k_931 : Mo Wd A) (k_942 : Mo Wd A) (l4 : Int) : Mo Wd ((Int) ⊕ A) :=
  f_law_936 scr sl k_146 k_163 k_199 k_215 k_239 k_256 k_295 k_312 k_339 k_356 k_395 k_412 k_463 k_480 k_531 k_555 k_606 k_623 k_690 k_707 k_746 k_763 k_802 k_819 k_858 k_875 k_914 k_931 k_942 l4
theorem sf_law_557 {Γ : Gm} {scr : Int → Int} {sl : Int} {d : Nat} (hS : SCR Γ scr sl) (o : Ok Γ "LazyForgeLaw" cL_law 7 (Option.some Jvm.ClassFile.FieldType.boolean) (d + 614)) {A : Type} {K : A → Wd → Prop}  (k_146 : Mo Wd A) (k_163 : Mo Wd A) (k_199 : Mo Wd A) (k_215 : Mo Wd A) (k_239 : Mo Wd A) (k_256 : Mo Wd A) (k_295 : Mo Wd A) (k_312 : Mo Wd A) (k_339 : Mo Wd A) (k_356 : Mo Wd A) (k_395 : Mo Wd A) (k_412 : Mo Wd A) (k_463 : Mo Wd A) (k_480 : Mo Wd A) (k_531 : Mo Wd A) (k_555 : Mo Wd A) (k_606 : Mo Wd A) (k_623 : Mo Wd A) (k_690 : Mo Wd A) (k_707 : Mo Wd A) (k_746 : Mo Wd A) (k_763 : Mo Wd A) (k_802 : Mo Wd A) (k_819 : Mo Wd A) (k_858 : Mo Wd A) (k_875 : Mo Wd A) (k_914 : Mo Wd A) (k_931 : Mo Wd A) (k_942 : Mo Wd A) (hk_146 : Sx Γ (fun (w : Wd) => w) K 146 [] [] (k_146)) (hk_163 : Sx Γ (fun (w : Wd) => w) K 163 [] [] (k_163)) (hk_199 : Sx Γ (fun (w : Wd) => w) K 199 [] [] (k_199)) (hk_215 : Sx Γ (fun (w : Wd) => w) K 215 [] [] (k_215)) (hk_239 : Sx Γ (fun (w : Wd) => w) K 239 [] [] (k_239)) (hk_256 : Sx Γ (fun (w : Wd) => w) K 256 [] [] (k_256)) (hk_295 : Sx Γ (fun (w : Wd) => w) K 295 [] [] (k_295)) (hk_312 : Sx Γ (fun (w : Wd) => w) K 312 [] [] (k_312)) (hk_339 : Sx Γ (fun (w : Wd) => w) K 339 [] [] (k_339)) (hk_356 : Sx Γ (fun (w : Wd) => w) K 356 [] [] (k_356)) (hk_395 : Sx Γ (fun (w : Wd) => w) K 395 [] [] (k_395)) (hk_412 : Sx Γ (fun (w : Wd) => w) K 412 [] [] (k_412)) (hk_463 : Sx Γ (fun (w : Wd) => w) K 463 [] [] (k_463)) (hk_480 : Sx Γ (fun (w : Wd) => w) K 480 [] [] (k_480)) (hk_531 : Sx Γ (fun (w : Wd) => w) K 531 [] [] (k_531)) (hk_555 : Sx Γ (fun (w : Wd) => w) K 555 [] [] (k_555)) (hk_606 : Sx Γ (fun (w : Wd) => w) K 606 [] [] (k_606)) (hk_623 : Sx Γ (fun (w : Wd) => w) K 623 [] [] (k_623)) (hk_690 : Sx Γ (fun (w : Wd) => w) K 690 [] [] (k_690)) (hk_707 : Sx Γ (fun (w : Wd) => w) K 707 [] [] (k_707)) (hk_746 : Sx Γ (fun (w : Wd) => w) K 746 [] [] (k_746)) (hk_763 : Sx Γ (fun (w : Wd) => w) K 763 [] [] (k_763)) (hk_802 : Sx Γ (fun (w : Wd) => w) K 802 [] [] (k_802)) (hk_819 : Sx Γ (fun (w : Wd) => w) K 819 [] [] (k_819)) (hk_858 : Sx Γ (fun (w : Wd) => w) K 858 [] [] (k_858)) (hk_875 : Sx Γ (fun (w : Wd) => w) K 875 [] [] (k_875)) (hk_914 : Sx Γ (fun (w : Wd) => w) K 914 [] [] (k_914)) (hk_931 : Sx Γ (fun (w : Wd) => w) K 931 [] [] (k_931)) (hk_942 : Sx Γ (fun (w : Wd) => w) K 942 [] [] (k_942)) (l4 : Int) (hl4 : R32 l4) : Sx Γ (fun (w : Wd) => w) (KL Γ (fun (w : Wd) => w) okf_law_23 K 23 (lvf_law_23 Γ) []) 557 [(0, vA (mg Γ) (-250)), (1, vA (mg Γ) 1), (2, vA (mg Γ) 21), (3, vA (mg Γ) 99), (4, vI l4)] [] (f_law_557 scr sl k_146 k_163 k_199 k_215 k_239 k_256 k_295 k_312 k_339 k_356 k_395 k_412 k_463 k_480 k_531 k_555 k_606 k_623 k_690 k_707 k_746 k_763 k_802 k_819 k_858 k_875 k_914 k_931 k_942 l4) := by
  unfold f_law_557
  refine s_goto (tgt := 936) o dL_law_557 (by decide) ?_
  exact sf_law_936 hS o k_146 k_163 k_199 k_215 k_239 k_256 k_295 k_312 k_339 k_356 k_395 k_412 k_463 k_480 k_531 k_555 k_606 k_623 k_690 k_707 k_746 k_763 k_802 k_819 k_858 k_875 k_914 k_931 k_942 hk_146 hk_163 hk_199 hk_215 hk_239 hk_256 hk_295 hk_312 hk_339 hk_356 hk_395 hk_412 hk_463 hk_480 hk_531 hk_555 hk_606 hk_623 hk_690 hk_707 hk_746 hk_763 hk_802 hk_819 hk_858 hk_875 hk_914 hk_931 hk_942 l4 hl4
noncomputable def f_law_551 (scr : Int → Int) (sl : Int) {A : Type} (k_146 : Mo Wd A) (k_163 : Mo Wd A) (k_199 : Mo Wd A) (k_215 : Mo Wd A) (k_239 : Mo Wd A) (k_256 : Mo Wd A) (k_295 : Mo Wd A) (k_312 : Mo Wd A) (k_339 : Mo Wd A) (k_356 : Mo Wd A) (k_395 : Mo Wd A) (k_412 : Mo Wd A) (k_463 : Mo Wd A) (k_480 : Mo Wd A) (k_531 : Mo Wd A) (k_555 : Mo Wd A) (k_606 : Mo Wd A) (k_623 : Mo Wd A) (k_690 : Mo Wd A) (k_707 : Mo Wd A) (k_746 : Mo Wd A) (k_763 : Mo Wd A) (k_802 : Mo Wd A) (k_819 : Mo Wd A) (k_858 : Mo Wd A) (k_875 : Mo Wd A) (k_914 : Mo Wd A) (k_931 : Mo Wd A) (k_942 : Mo Wd A) (l4 : Int) (k0 : Int) (k1 : Int) : Mo Wd ((Int) ⊕ A) :=
  if k1 = k0 then
    f_law_557 scr sl k_146 k_163 k_199 k_215 k_239 k_256 k_295 k_312 k_339 k_356 k_395 k_412 k_463 k_480 k_531 k_555 k_606 k_623 k_690 k_707 k_746 k_763 k_802 k_819 k_858 k_875 k_914 k_931 k_942 l4
  else
    lo k_555
theorem sf_law_551 {Γ : Gm} {scr : Int → Int} {sl : Int} {d : Nat} (hS : SCR Γ scr sl) (o : Ok Γ "LazyForgeLaw" cL_law 7 (Option.some Jvm.ClassFile.FieldType.boolean) (d + 614)) {A : Type} {K : A → Wd → Prop}  (k_146 : Mo Wd A) (k_163 : Mo Wd A) (k_199 : Mo Wd A) (k_215 : Mo Wd A) (k_239 : Mo Wd A) (k_256 : Mo Wd A) (k_295 : Mo Wd A) (k_312 : Mo Wd A) (k_339 : Mo Wd A) (k_356 : Mo Wd A) (k_395 : Mo Wd A) (k_412 : Mo Wd A) (k_463 : Mo Wd A) (k_480 : Mo Wd A) (k_531 : Mo Wd A) (k_555 : Mo Wd A) (k_606 : Mo Wd A) (k_623 : Mo Wd A) (k_690 : Mo Wd A) (k_707 : Mo Wd A) (k_746 : Mo Wd A) (k_763 : Mo Wd A) (k_802 : Mo Wd A) (k_819 : Mo Wd A) (k_858 : Mo Wd A) (k_875 : Mo Wd A) (k_914 : Mo Wd A) (k_931 : Mo Wd A) (k_942 : Mo Wd A) (hk_146 : Sx Γ (fun (w : Wd) => w) K 146 [] [] (k_146)) (hk_163 : Sx Γ (fun (w : Wd) => w) K 163 [] [] (k_163)) (hk_199 : Sx Γ (fun (w : Wd) => w) K 199 [] [] (k_199)) (hk_215 : Sx Γ (fun (w : Wd) => w) K 215 [] [] (k_215)) (hk_239 : Sx Γ (fun (w : Wd) => w) K 239 [] [] (k_239)) (hk_256 : Sx Γ (fun (w : Wd) => w) K 256 [] [] (k_256)) (hk_295 : Sx Γ (fun (w : Wd) => w) K 295 [] [] (k_295)) (hk_312 : Sx Γ (fun (w : Wd) => w) K 312 [] [] (k_312)) (hk_339 : Sx Γ (fun (w : Wd) => w) K 339 [] [] (k_339)) (hk_356 : Sx Γ (fun (w : Wd) => w) K 356 [] [] (k_356)) (hk_395 : Sx Γ (fun (w : Wd) => w) K 395 [] [] (k_395)) (hk_412 : Sx Γ (fun (w : Wd) => w) K 412 [] [] (k_412)) (hk_463 : Sx Γ (fun (w : Wd) => w) K 463 [] [] (k_463)) (hk_480 : Sx Γ (fun (w : Wd) => w) K 480 [] [] (k_480)) (hk_531 : Sx Γ (fun (w : Wd) => w) K 531 [] [] (k_531)) (hk_555 : Sx Γ (fun (w : Wd) => w) K 555 [] [] (k_555)) (hk_606 : Sx Γ (fun (w : Wd) => w) K 606 [] [] (k_606)) (hk_623 : Sx Γ (fun (w : Wd) => w) K 623 [] [] (k_623)) (hk_690 : Sx Γ (fun (w : Wd) => w) K 690 [] [] (k_690)) (hk_707 : Sx Γ (fun (w : Wd) => w) K 707 [] [] (k_707)) (hk_746 : Sx Γ (fun (w : Wd) => w) K 746 [] [] (k_746)) (hk_763 : Sx Γ (fun (w : Wd) => w) K 763 [] [] (k_763)) (hk_802 : Sx Γ (fun (w : Wd) => w) K 802 [] [] (k_802)) (hk_819 : Sx Γ (fun (w : Wd) => w) K 819 [] [] (k_819)) (hk_858 : Sx Γ (fun (w : Wd) => w) K 858 [] [] (k_858)) (hk_875 : Sx Γ (fun (w : Wd) => w) K 875 [] [] (k_875)) (hk_914 : Sx Γ (fun (w : Wd) => w) K 914 [] [] (k_914)) (hk_931 : Sx Γ (fun (w : Wd) => w) K 931 [] [] (k_931)) (hk_942 : Sx Γ (fun (w : Wd) => w) K 942 [] [] (k_942)) (l4 : Int) (k0 : Int) (k1 : Int) (hl4 : R32 l4) (hk0 : R64 k0) (hk1 : R64 k1) : Sx Γ (fun (w : Wd) => w) (KL Γ (fun (w : Wd) => w) okf_law_23 K 23 (lvf_law_23 Γ) []) 551 [(0, vA (mg Γ) (-250)), (1, vA (mg Γ) 1), (2, vA (mg Γ) 21), (3, vA (mg Γ) 99), (4, vI l4)] [vJ k0, vJ k1] (f_law_551 scr sl k_146 k_163 k_199 k_215 k_239 k_256 k_295 k_312 k_339 k_356 k_395 k_412 k_463 k_480 k_531 k_555 k_606 k_623 k_690 k_707 k_746 k_763 k_802 k_819 k_858 k_875 k_914 k_931 k_942 l4 k0 k1) := by
  unfold f_law_551
  refine s_lcmp_eq (tgt := 557) o dL_law_551 dL_law_552 (by decide) hk1 hk0 ?_ ?_
  · exact sf_law_557 hS o k_146 k_163 k_199 k_215 k_239 k_256 k_295 k_312 k_339 k_356 k_395 k_412 k_463 k_480 k_531 k_555 k_606 k_623 k_690 k_707 k_746 k_763 k_802 k_819 k_858 k_875 k_914 k_931 k_942 hk_146 hk_163 hk_199 hk_215 hk_239 hk_256 hk_295 hk_312 hk_339 hk_356 hk_395 hk_412 hk_463 hk_480 hk_531 hk_555 hk_606 hk_623 hk_690 hk_707 hk_746 hk_763 hk_802 hk_819 hk_858 hk_875 hk_914 hk_931 hk_942 l4 hl4
  · refine r_to [] [] rfl ?_
    exact s_lo hk_555
noncomputable def f_law_625 (scr : Int → Int) (sl : Int) {A : Type} (k_146 : Mo Wd A) (k_163 : Mo Wd A) (k_199 : Mo Wd A) (k_215 : Mo Wd A) (k_239 : Mo Wd A) (k_256 : Mo Wd A) (k_295 : Mo Wd A) (k_312 : Mo Wd A) (k_339 : Mo Wd A) (k_356 : Mo Wd A) (k_395 : Mo Wd A) (k_412 : Mo Wd A) (k_463 : Mo Wd A) (k_480 : Mo Wd A) (k_531 : Mo Wd A) (k_555 : Mo Wd A) (k_606 : Mo Wd A) (k_623 : Mo Wd A) (k_690 : Mo Wd A) (k_707 : Mo Wd A) (k_746 : Mo Wd A) (k_763 : Mo Wd A) (k_802 : Mo Wd A) (k_819 : Mo Wd A) (k_858 : Mo Wd A) (k_875 : Mo Wd A) (k_914 : Mo Wd A) (k_931 : Mo Wd A) (k_942 : Mo Wd A) (l4 : Int) : Mo Wd ((Int) ⊕ A) :=
  f_law_936 scr sl k_146 k_163 k_199 k_215 k_239 k_256 k_295 k_312 k_339 k_356 k_395 k_412 k_463 k_480 k_531 k_555 k_606 k_623 k_690 k_707 k_746 k_763 k_802 k_819 k_858 k_875 k_914 k_931 k_942 l4
theorem sf_law_625 {Γ : Gm} {scr : Int → Int} {sl : Int} {d : Nat} (hS : SCR Γ scr sl) (o : Ok Γ "LazyForgeLaw" cL_law 7 (Option.some Jvm.ClassFile.FieldType.boolean) (d + 614)) {A : Type} {K : A → Wd → Prop}  (k_146 : Mo Wd A) (k_163 : Mo Wd A) (k_199 : Mo Wd A) (k_215 : Mo Wd A) (k_239 : Mo Wd A) (k_256 : Mo Wd A) (k_295 : Mo Wd A) (k_312 : Mo Wd A) (k_339 : Mo Wd A) (k_356 : Mo Wd A) (k_395 : Mo Wd A) (k_412 : Mo Wd A) (k_463 : Mo Wd A) (k_480 : Mo Wd A) (k_531 : Mo Wd A) (k_555 : Mo Wd A) (k_606 : Mo Wd A) (k_623 : Mo Wd A) (k_690 : Mo Wd A) (k_707 : Mo Wd A) (k_746 : Mo Wd A) (k_763 : Mo Wd A) (k_802 : Mo Wd A) (k_819 : Mo Wd A) (k_858 : Mo Wd A) (k_875 : Mo Wd A) (k_914 : Mo Wd A) (k_931 : Mo Wd A) (k_942 : Mo Wd A) (hk_146 : Sx Γ (fun (w : Wd) => w) K 146 [] [] (k_146)) (hk_163 : Sx Γ (fun (w : Wd) => w) K 163 [] [] (k_163)) (hk_199 : Sx Γ (fun (w : Wd) => w) K 199 [] [] (k_199)) (hk_215 : Sx Γ (fun (w : Wd) => w) K 215 [] [] (k_215)) (hk_239 : Sx Γ (fun (w : Wd) => w) K 239 [] [] (k_239)) (hk_256 : Sx Γ (fun (w : Wd) => w) K 256 [] [] (k_256)) (hk_295 : Sx Γ (fun (w : Wd) => w) K 295 [] [] (k_295)) (hk_312 : Sx Γ (fun (w : Wd) => w) K 312 [] [] (k_312)) (hk_339 : Sx Γ (fun (w : Wd) => w) K 339 [] [] (k_339)) (hk_356 : Sx Γ (fun (w : Wd) => w) K 356 [] [] (k_356)) (hk_395 : Sx Γ (fun (w : Wd) => w) K 395 [] [] (k_395)) (hk_412 : Sx Γ (fun (w : Wd) => w) K 412 [] [] (k_412)) (hk_463 : Sx Γ (fun (w : Wd) => w) K 463 [] [] (k_463)) (hk_480 : Sx Γ (fun (w : Wd) => w) K 480 [] [] (k_480)) (hk_531 : Sx Γ (fun (w : Wd) => w) K 531 [] [] (k_531)) (hk_555 : Sx Γ (fun (w : Wd) => w) K 555 [] [] (k_555)) (hk_606 : Sx Γ (fun (w : Wd) => w) K 606 [] [] (k_606)) (hk_623 : Sx Γ (fun (w : Wd) => w) K 623 [] [] (k_623)) (hk_690 : Sx Γ (fun (w : Wd) => w) K 690 [] [] (k_690)) (hk_707 : Sx Γ (fun (w : Wd) => w) K 707 [] [] (k_707)) (hk_746 : Sx Γ (fun (w : Wd) => w) K 746 [] [] (k_746)) (hk_763 : Sx Γ (fun (w : Wd) => w) K 763 [] [] (k_763)) (hk_802 : Sx Γ (fun (w : Wd) => w) K 802 [] [] (k_802)) (hk_819 : Sx Γ (fun (w : Wd) => w) K 819 [] [] (k_819)) (hk_858 : Sx Γ (fun (w : Wd) => w) K 858 [] [] (k_858)) (hk_875 : Sx Γ (fun (w : Wd) => w) K 875 [] [] (k_875)) (hk_914 : Sx Γ (fun (w : Wd) => w) K 914 [] [] (k_914)) (hk_931 : Sx Γ (fun (w : Wd) => w) K 931 [] [] (k_931)) (hk_942 : Sx Γ (fun (w : Wd) => w) K 942 [] [] (k_942)) (l4 : Int) (hl4 : R32 l4) : Sx Γ (fun (w : Wd) => w) (KL Γ (fun (w : Wd) => w) okf_law_23 K 23 (lvf_law_23 Γ) []) 625 [(0, vA (mg Γ) (-250)), (1, vA (mg Γ) 1), (2, vA (mg Γ) 21), (3, vA (mg Γ) 99), (4, vI l4)] [] (f_law_625 scr sl k_146 k_163 k_199 k_215 k_239 k_256 k_295 k_312 k_339 k_356 k_395 k_412 k_463 k_480 k_531 k_555 k_606 k_623 k_690 k_707 k_746 k_763 k_802 k_819 k_858 k_875 k_914 k_931 k_942 l4) := by
  unfold f_law_625
  refine s_goto (tgt := 936) o dL_law_625 (by decide) ?_
  exact sf_law_936 hS o k_146 k_163 k_199 k_215 k_239 k_256 k_295 k_312 k_339 k_356 k_395 k_412 k_463 k_480 k_531 k_555 k_606 k_623 k_690 k_707 k_746 k_763 k_802 k_819 k_858 k_875 k_914 k_931 k_942 hk_146 hk_163 hk_199 hk_215 hk_239 hk_256 hk_295 hk_312 hk_339 hk_356 hk_395 hk_412 hk_463 hk_480 hk_531 hk_555 hk_606 hk_623 hk_690 hk_707 hk_746 hk_763 hk_802 hk_819 hk_858 hk_875 hk_914 hk_931 hk_942 l4 hl4
noncomputable def f_law_709 (scr : Int → Int) (sl : Int) {A : Type} (k_146 : Mo Wd A) (k_163 : Mo Wd A) (k_199 : Mo Wd A) (k_215 : Mo Wd A) (k_239 : Mo Wd A) (k_256 : Mo Wd A) (k_295 : Mo Wd A) (k_312 : Mo Wd A) (k_339 : Mo Wd A) (k_356 : Mo Wd A) (k_395 : Mo Wd A) (k_412 : Mo Wd A) (k_463 : Mo Wd A) (k_480 : Mo Wd A) (k_531 : Mo Wd A) (k_555 : Mo Wd A) (k_606 : Mo Wd A) (k_623 : Mo Wd A) (k_690 : Mo Wd A) (k_707 : Mo Wd A) (k_746 : Mo Wd A) (k_763 : Mo Wd A) (k_802 : Mo Wd A) (k_819 : Mo Wd A) (k_858 : Mo Wd A) (k_875 : Mo Wd A) (k_914 : Mo Wd A) (k_931 : Mo Wd A) (k_942 : Mo Wd A) (l4 : Int) : Mo Wd ((Int) ⊕ A) :=
  f_law_936 scr sl k_146 k_163 k_199 k_215 k_239 k_256 k_295 k_312 k_339 k_356 k_395 k_412 k_463 k_480 k_531 k_555 k_606 k_623 k_690 k_707 k_746 k_763 k_802 k_819 k_858 k_875 k_914 k_931 k_942 l4
theorem sf_law_709 {Γ : Gm} {scr : Int → Int} {sl : Int} {d : Nat} (hS : SCR Γ scr sl) (o : Ok Γ "LazyForgeLaw" cL_law 7 (Option.some Jvm.ClassFile.FieldType.boolean) (d + 614)) {A : Type} {K : A → Wd → Prop}  (k_146 : Mo Wd A) (k_163 : Mo Wd A) (k_199 : Mo Wd A) (k_215 : Mo Wd A) (k_239 : Mo Wd A) (k_256 : Mo Wd A) (k_295 : Mo Wd A) (k_312 : Mo Wd A) (k_339 : Mo Wd A) (k_356 : Mo Wd A) (k_395 : Mo Wd A) (k_412 : Mo Wd A) (k_463 : Mo Wd A) (k_480 : Mo Wd A) (k_531 : Mo Wd A) (k_555 : Mo Wd A) (k_606 : Mo Wd A) (k_623 : Mo Wd A) (k_690 : Mo Wd A) (k_707 : Mo Wd A) (k_746 : Mo Wd A) (k_763 : Mo Wd A) (k_802 : Mo Wd A) (k_819 : Mo Wd A) (k_858 : Mo Wd A) (k_875 : Mo Wd A) (k_914 : Mo Wd A) (k_931 : Mo Wd A) (k_942 : Mo Wd A) (hk_146 : Sx Γ (fun (w : Wd) => w) K 146 [] [] (k_146)) (hk_163 : Sx Γ (fun (w : Wd) => w) K 163 [] [] (k_163)) (hk_199 : Sx Γ (fun (w : Wd) => w) K 199 [] [] (k_199)) (hk_215 : Sx Γ (fun (w : Wd) => w) K 215 [] [] (k_215)) (hk_239 : Sx Γ (fun (w : Wd) => w) K 239 [] [] (k_239)) (hk_256 : Sx Γ (fun (w : Wd) => w) K 256 [] [] (k_256)) (hk_295 : Sx Γ (fun (w : Wd) => w) K 295 [] [] (k_295)) (hk_312 : Sx Γ (fun (w : Wd) => w) K 312 [] [] (k_312)) (hk_339 : Sx Γ (fun (w : Wd) => w) K 339 [] [] (k_339)) (hk_356 : Sx Γ (fun (w : Wd) => w) K 356 [] [] (k_356)) (hk_395 : Sx Γ (fun (w : Wd) => w) K 395 [] [] (k_395)) (hk_412 : Sx Γ (fun (w : Wd) => w) K 412 [] [] (k_412)) (hk_463 : Sx Γ (fun (w : Wd) => w) K 463 [] [] (k_463)) (hk_480 : Sx Γ (fun (w : Wd) => w) K 480 [] [] (k_480)) (hk_531 : Sx Γ (fun (w : Wd) => w) K 531 [] [] (k_531)) (hk_555 : Sx Γ (fun (w : Wd) => w) K 555 [] [] (k_555)) (hk_606 : Sx Γ (fun (w : Wd) => w) K 606 [] [] (k_606)) (hk_623 : Sx Γ (fun (w : Wd) => w) K 623 [] [] (k_623)) (hk_690 : Sx Γ (fun (w : Wd) => w) K 690 [] [] (k_690)) (hk_707 : Sx Γ (fun (w : Wd) => w) K 707 [] [] (k_707)) (hk_746 : Sx Γ (fun (w : Wd) => w) K 746 [] [] (k_746)) (hk_763 : Sx Γ (fun (w : Wd) => w) K 763 [] [] (k_763)) (hk_802 : Sx Γ (fun (w : Wd) => w) K 802 [] [] (k_802)) (hk_819 : Sx Γ (fun (w : Wd) => w) K 819 [] [] (k_819)) (hk_858 : Sx Γ (fun (w : Wd) => w) K 858 [] [] (k_858)) (hk_875 : Sx Γ (fun (w : Wd) => w) K 875 [] [] (k_875)) (hk_914 : Sx Γ (fun (w : Wd) => w) K 914 [] [] (k_914)) (hk_931 : Sx Γ (fun (w : Wd) => w) K 931 [] [] (k_931)) (hk_942 : Sx Γ (fun (w : Wd) => w) K 942 [] [] (k_942)) (l4 : Int) (hl4 : R32 l4) : Sx Γ (fun (w : Wd) => w) (KL Γ (fun (w : Wd) => w) okf_law_23 K 23 (lvf_law_23 Γ) []) 709 [(0, vA (mg Γ) (-250)), (1, vA (mg Γ) 1), (2, vA (mg Γ) 21), (3, vA (mg Γ) 99), (4, vI l4)] [] (f_law_709 scr sl k_146 k_163 k_199 k_215 k_239 k_256 k_295 k_312 k_339 k_356 k_395 k_412 k_463 k_480 k_531 k_555 k_606 k_623 k_690 k_707 k_746 k_763 k_802 k_819 k_858 k_875 k_914 k_931 k_942 l4) := by
  unfold f_law_709
  refine s_goto (tgt := 936) o dL_law_709 (by decide) ?_
  exact sf_law_936 hS o k_146 k_163 k_199 k_215 k_239 k_256 k_295 k_312 k_339 k_356 k_395 k_412 k_463 k_480 k_531 k_555 k_606 k_623 k_690 k_707 k_746 k_763 k_802 k_819 k_858 k_875 k_914 k_931 k_942 hk_146 hk_163 hk_199 hk_215 hk_239 hk_256 hk_295 hk_312 hk_339 hk_356 hk_395 hk_412 hk_463 hk_480 hk_531 hk_555 hk_606 hk_623 hk_690 hk_707 hk_746 hk_763 hk_802 hk_819 hk_858 hk_875 hk_914 hk_931 hk_942 l4 hl4
noncomputable def f_law_670 (scr : Int → Int) (sl : Int) {A : Type} (k_146 : Mo Wd A) (k_163 : Mo Wd A) (k_199 : Mo Wd A) (k_215 : Mo Wd A) (k_239 : Mo Wd A) (k_256 : Mo Wd A) (k_295 : Mo Wd A) (k_312 : Mo Wd A) (k_339 : Mo Wd A) (k_356 : Mo Wd A) (k_395 : Mo Wd A) (k_412 : Mo Wd A) (k_463 : Mo Wd A) (k_480 : Mo Wd A) (k_531 : Mo Wd A) (k_555 : Mo Wd A) (k_606 : Mo Wd A) (k_623 : Mo Wd A) (k_690 : Mo Wd A) (k_707 : Mo Wd A) (k_746 : Mo Wd A) (k_763 : Mo Wd A) (k_802 : Mo Wd A) (k_819 : Mo Wd A) (k_858 : Mo Wd A) (k_875 : Mo Wd A) (k_914 : Mo Wd A) (k_931 : Mo Wd A) (k_942 : Mo Wd A) (l4 : Int) (l5 : Int) (k0 : Int) : Mo Wd ((Int) ⊕ A) :=
  bnd (rdS scr sl (w32 (l4 + 2))) fun v1 =>
  bnd (liftT (t_run k0 v1)) fun v2 =>
  bnd (liftT (t_thrown)) fun v3 =>
  if v3 = l5 then
    if ¬ l5 = 0 then
      f_law_709 scr sl k_146 k_163 k_199 k_215 k_239 k_256 k_295 k_312 k_339 k_356 k_395 k_412 k_463 k_480 k_531 k_555 k_606 k_623 k_690 k_707 k_746 k_763 k_802 k_819 k_858 k_875 k_914 k_931 k_942 l4
    else
      bnd (liftC (ald 1 99 0)) fun v4 =>
      if v4 = v2 then
        f_law_709 scr sl k_146 k_163 k_199 k_215 k_239 k_256 k_295 k_312 k_339 k_356 k_395 k_412 k_463 k_480 k_531 k_555 k_606 k_623 k_690 k_707 k_746 k_763 k_802 k_819 k_858 k_875 k_914 k_931 k_942 l4
      else
        lo k_707
  else
    lo k_690
theorem sf_law_670 {Γ : Gm} {scr : Int → Int} {sl : Int} {d : Nat} (hS : SCR Γ scr sl) (o : Ok Γ "LazyForgeLaw" cL_law 7 (Option.some Jvm.ClassFile.FieldType.boolean) (d + 614)) {A : Type} {K : A → Wd → Prop}  (k_146 : Mo Wd A) (k_163 : Mo Wd A) (k_199 : Mo Wd A) (k_215 : Mo Wd A) (k_239 : Mo Wd A) (k_256 : Mo Wd A) (k_295 : Mo Wd A) (k_312 : Mo Wd A) (k_339 : Mo Wd A) (k_356 : Mo Wd A) (k_395 : Mo Wd A) (k_412 : Mo Wd A) (k_463 : Mo Wd A) (k_480 : Mo Wd A) (k_531 : Mo Wd A) (k_555 : Mo Wd A) (k_606 : Mo Wd A) (k_623 : Mo Wd A) (k_690 : Mo Wd A) (k_707 : Mo Wd A) (k_746 : Mo Wd A) (k_763 : Mo Wd A) (k_802 : Mo Wd A) (k_819 : Mo Wd A) (k_858 : Mo Wd A) (k_875 : Mo Wd A) (k_914 : Mo Wd A) (k_931 : Mo Wd A) (k_942 : Mo Wd A) (hk_146 : Sx Γ (fun (w : Wd) => w) K 146 [] [] (k_146)) (hk_163 : Sx Γ (fun (w : Wd) => w) K 163 [] [] (k_163)) (hk_199 : Sx Γ (fun (w : Wd) => w) K 199 [] [] (k_199)) (hk_215 : Sx Γ (fun (w : Wd) => w) K 215 [] [] (k_215)) (hk_239 : Sx Γ (fun (w : Wd) => w) K 239 [] [] (k_239)) (hk_256 : Sx Γ (fun (w : Wd) => w) K 256 [] [] (k_256)) (hk_295 : Sx Γ (fun (w : Wd) => w) K 295 [] [] (k_295)) (hk_312 : Sx Γ (fun (w : Wd) => w) K 312 [] [] (k_312)) (hk_339 : Sx Γ (fun (w : Wd) => w) K 339 [] [] (k_339)) (hk_356 : Sx Γ (fun (w : Wd) => w) K 356 [] [] (k_356)) (hk_395 : Sx Γ (fun (w : Wd) => w) K 395 [] [] (k_395)) (hk_412 : Sx Γ (fun (w : Wd) => w) K 412 [] [] (k_412)) (hk_463 : Sx Γ (fun (w : Wd) => w) K 463 [] [] (k_463)) (hk_480 : Sx Γ (fun (w : Wd) => w) K 480 [] [] (k_480)) (hk_531 : Sx Γ (fun (w : Wd) => w) K 531 [] [] (k_531)) (hk_555 : Sx Γ (fun (w : Wd) => w) K 555 [] [] (k_555)) (hk_606 : Sx Γ (fun (w : Wd) => w) K 606 [] [] (k_606)) (hk_623 : Sx Γ (fun (w : Wd) => w) K 623 [] [] (k_623)) (hk_690 : Sx Γ (fun (w : Wd) => w) K 690 [] [] (k_690)) (hk_707 : Sx Γ (fun (w : Wd) => w) K 707 [] [] (k_707)) (hk_746 : Sx Γ (fun (w : Wd) => w) K 746 [] [] (k_746)) (hk_763 : Sx Γ (fun (w : Wd) => w) K 763 [] [] (k_763)) (hk_802 : Sx Γ (fun (w : Wd) => w) K 802 [] [] (k_802)) (hk_819 : Sx Γ (fun (w : Wd) => w) K 819 [] [] (k_819)) (hk_858 : Sx Γ (fun (w : Wd) => w) K 858 [] [] (k_858)) (hk_875 : Sx Γ (fun (w : Wd) => w) K 875 [] [] (k_875)) (hk_914 : Sx Γ (fun (w : Wd) => w) K 914 [] [] (k_914)) (hk_931 : Sx Γ (fun (w : Wd) => w) K 931 [] [] (k_931)) (hk_942 : Sx Γ (fun (w : Wd) => w) K 942 [] [] (k_942)) (l4 : Int) (l5 : Int) (k0 : Int) (hl4 : R32 l4) (hl5 : R32 l5) (hk0 : rg .boolean k0) : Sx Γ (fun (w : Wd) => w) (KL Γ (fun (w : Wd) => w) okf_law_23 K 23 (lvf_law_23 Γ) []) 670 [(0, vA (mg Γ) (-250)), (1, vA (mg Γ) 1), (2, vA (mg Γ) 21), (3, vA (mg Γ) 99), (4, vI l4), (5, vI l5)] [vI k0, vA (mg Γ) 21] (f_law_670 scr sl k_146 k_163 k_199 k_215 k_239 k_256 k_295 k_312 k_339 k_356 k_395 k_412 k_463 k_480 k_531 k_555 k_606 k_623 k_690 k_707 k_746 k_763 k_802 k_819 k_858 k_875 k_914 k_931 k_942 l4 l5 k0) := by
  unfold f_law_670
  refine s_aload_n o dL_law_670 rfl 0 rfl ?_
  refine s_iload o dL_law_671 4 rfl ?_
  refine s_iconst o dL_law_673 ?_
  refine s_iadd o dL_law_674 ?_
  refine s_sld o hS (w32_R _) dL_law_675 (fun v1 hv1 => ?_)
  refine s_T (P := fun v => ∀ ty, (Option.some Jvm.ClassFile.FieldType.int) = some ty → rg ty v) (st' := fun r => [vI r]) (fun h hT m kk => s_cv (d := d + 613) (C := "LazyForgeModel") (As := [vI k0, vI v1]) (st := []) o (st_run (mg Γ) (d + 604) h hT k0 v1 hk0 hv1) mw_X11_run rfl (Or.inl (lw_all_tbl q3229)) (lw_all_tbl q3231) (lw_all_tbl q3230) (fun t => rc_t o hT t) wt_0 rfl dL_law_676 rfl (rs := fun r => [vI r]) (fun _ => rfl) kk) (fun v2 hv2 => ?_)
  refine r_istore o dL_law_679 rfl ⟨(Nat.ne_of_beq_eq_false rfl), (fun _ => (vA_cat (mg Γ) (-250))), ⟨(Nat.ne_of_beq_eq_false rfl), (fun _ => (vA_cat (mg Γ) 1)), ⟨(Nat.ne_of_beq_eq_false rfl), (fun _ => (vA_cat (mg Γ) 21)), ⟨(Nat.ne_of_beq_eq_false rfl), (fun _ => (vA_cat (mg Γ) 99)), ⟨(Nat.ne_of_beq_eq_false rfl), (fun _ => rfl), ⟨(Nat.ne_of_beq_eq_false rfl), (fun _ => rfl), trivial⟩⟩⟩⟩⟩⟩ ?_
  refine s_aload_n o dL_law_681 rfl 3 rfl ?_
  refine s_T (P := fun v => ∀ ty, (Option.some Jvm.ClassFile.FieldType.int) = some ty → rg ty v) (st' := fun r => [vI r]) (fun h hT m kk => s_cv (d := d + 613) (C := "LazyForgeModel") (As := []) (st := []) o (st_thrown (mg Γ) (d + 613) h hT) mw_X11_thrown rfl (Or.inl (lw_all_tbl q2913)) (lw_all_tbl q2915) (lw_all_tbl q2914) (fun t => rc_t o hT t) wt_0 rfl dL_law_682 rfl (rs := fun r => [vI r]) (fun _ => rfl) kk) (fun v3 hv3 => ?_)
  refine s_iload o dL_law_685 6 rfl ?_
  refine s_icmp_eq (tgt := 692) o dL_law_687 (by decide) (hv3 _ rfl) hl5 ?_ ?_
  · refine s_iload o dL_law_692 6 rfl ?_
    refine s_if_ne (tgt := 709) o dL_law_694 (by decide) hl5 ?_ ?_
    · refine r_to [(0, vA (mg Γ) (-250)), (1, vA (mg Γ) 1), (2, vA (mg Γ) 21), (3, vA (mg Γ) 99), (4, vI l4)] [1, 2, 3, 4, 5] rfl ?_
      exact sf_law_709 hS o k_146 k_163 k_199 k_215 k_239 k_256 k_295 k_312 k_339 k_356 k_395 k_412 k_463 k_480 k_531 k_555 k_606 k_623 k_690 k_707 k_746 k_763 k_802 k_819 k_858 k_875 k_914 k_931 k_942 hk_146 hk_163 hk_199 hk_215 hk_239 hk_256 hk_295 hk_312 hk_339 hk_356 hk_395 hk_412 hk_463 hk_480 hk_531 hk_555 hk_606 hk_623 hk_690 hk_707 hk_746 hk_763 hk_802 hk_819 hk_858 hk_875 hk_914 hk_931 hk_942 l4 hl4
    · refine s_aload_n o dL_law_697 rfl 4 rfl ?_
      refine s_iconst o dL_law_698 ?_
      refine s_C (P := R64) (st' := fun v => [vJ v]) (fun ts m kk => r_lald o (r32 rfl) dL_law_699 kk) (fun v4 hv4 => ?_)
      refine s_iload o dL_law_700 0 rfl ?_
      refine s_i2l o dL_law_702 (hv2 _ rfl) ?_
      refine s_lcmp_eq (tgt := 709) o dL_law_703 dL_law_704 (by decide) hv4 (rL (hv2 _ rfl)) ?_ ?_
      · refine r_to [(0, vA (mg Γ) (-250)), (1, vA (mg Γ) 1), (2, vA (mg Γ) 21), (3, vA (mg Γ) 99), (4, vI l4)] [1, 2, 3, 4, 5] rfl ?_
        exact sf_law_709 hS o k_146 k_163 k_199 k_215 k_239 k_256 k_295 k_312 k_339 k_356 k_395 k_412 k_463 k_480 k_531 k_555 k_606 k_623 k_690 k_707 k_746 k_763 k_802 k_819 k_858 k_875 k_914 k_931 k_942 hk_146 hk_163 hk_199 hk_215 hk_239 hk_256 hk_295 hk_312 hk_339 hk_356 hk_395 hk_412 hk_463 hk_480 hk_531 hk_555 hk_606 hk_623 hk_690 hk_707 hk_746 hk_763 hk_802 hk_819 hk_858 hk_875 hk_914 hk_931 hk_942 l4 hl4
      · refine r_to [] [] rfl ?_
        exact s_lo hk_707
  · refine r_to [] [] rfl ?_
    exact s_lo hk_690
noncomputable def f_law_643 (scr : Int → Int) (sl : Int) {A : Type} (k_146 : Mo Wd A) (k_163 : Mo Wd A) (k_199 : Mo Wd A) (k_215 : Mo Wd A) (k_239 : Mo Wd A) (k_256 : Mo Wd A) (k_295 : Mo Wd A) (k_312 : Mo Wd A) (k_339 : Mo Wd A) (k_356 : Mo Wd A) (k_395 : Mo Wd A) (k_412 : Mo Wd A) (k_463 : Mo Wd A) (k_480 : Mo Wd A) (k_531 : Mo Wd A) (k_555 : Mo Wd A) (k_606 : Mo Wd A) (k_623 : Mo Wd A) (k_690 : Mo Wd A) (k_707 : Mo Wd A) (k_746 : Mo Wd A) (k_763 : Mo Wd A) (k_802 : Mo Wd A) (k_819 : Mo Wd A) (k_858 : Mo Wd A) (k_875 : Mo Wd A) (k_914 : Mo Wd A) (k_931 : Mo Wd A) (k_942 : Mo Wd A) (l4 : Int) (k0 : Int) : Mo Wd ((Int) ⊕ A) :=
  bnd (rdS scr sl (w32 (l4 + 2))) fun v1 =>
  bnd (liftC (c_X0_run 1 k0 v1 99)) fun v2 =>
  bnd (rdS scr sl (w32 (l4 + 1))) fun v3 =>
  if v3 = 0 then
    f_law_670 scr sl k_146 k_163 k_199 k_215 k_239 k_256 k_295 k_312 k_339 k_356 k_395 k_412 k_463 k_480 k_531 k_555 k_606 k_623 k_690 k_707 k_746 k_763 k_802 k_819 k_858 k_875 k_914 k_931 k_942 l4 v2 0
  else
    f_law_670 scr sl k_146 k_163 k_199 k_215 k_239 k_256 k_295 k_312 k_339 k_356 k_395 k_412 k_463 k_480 k_531 k_555 k_606 k_623 k_690 k_707 k_746 k_763 k_802 k_819 k_858 k_875 k_914 k_931 k_942 l4 v2 1
theorem sf_law_643 {Γ : Gm} {scr : Int → Int} {sl : Int} {d : Nat} (hS : SCR Γ scr sl) (o : Ok Γ "LazyForgeLaw" cL_law 7 (Option.some Jvm.ClassFile.FieldType.boolean) (d + 614)) {A : Type} {K : A → Wd → Prop}  (k_146 : Mo Wd A) (k_163 : Mo Wd A) (k_199 : Mo Wd A) (k_215 : Mo Wd A) (k_239 : Mo Wd A) (k_256 : Mo Wd A) (k_295 : Mo Wd A) (k_312 : Mo Wd A) (k_339 : Mo Wd A) (k_356 : Mo Wd A) (k_395 : Mo Wd A) (k_412 : Mo Wd A) (k_463 : Mo Wd A) (k_480 : Mo Wd A) (k_531 : Mo Wd A) (k_555 : Mo Wd A) (k_606 : Mo Wd A) (k_623 : Mo Wd A) (k_690 : Mo Wd A) (k_707 : Mo Wd A) (k_746 : Mo Wd A) (k_763 : Mo Wd A) (k_802 : Mo Wd A) (k_819 : Mo Wd A) (k_858 : Mo Wd A) (k_875 : Mo Wd A) (k_914 : Mo Wd A) (k_931 : Mo Wd A) (k_942 : Mo Wd A) (hk_146 : Sx Γ (fun (w : Wd) => w) K 146 [] [] (k_146)) (hk_163 : Sx Γ (fun (w : Wd) => w) K 163 [] [] (k_163)) (hk_199 : Sx Γ (fun (w : Wd) => w) K 199 [] [] (k_199)) (hk_215 : Sx Γ (fun (w : Wd) => w) K 215 [] [] (k_215)) (hk_239 : Sx Γ (fun (w : Wd) => w) K 239 [] [] (k_239)) (hk_256 : Sx Γ (fun (w : Wd) => w) K 256 [] [] (k_256)) (hk_295 : Sx Γ (fun (w : Wd) => w) K 295 [] [] (k_295)) (hk_312 : Sx Γ (fun (w : Wd) => w) K 312 [] [] (k_312)) (hk_339 : Sx Γ (fun (w : Wd) => w) K 339 [] [] (k_339)) (hk_356 : Sx Γ (fun (w : Wd) => w) K 356 [] [] (k_356)) (hk_395 : Sx Γ (fun (w : Wd) => w) K 395 [] [] (k_395)) (hk_412 : Sx Γ (fun (w : Wd) => w) K 412 [] [] (k_412)) (hk_463 : Sx Γ (fun (w : Wd) => w) K 463 [] [] (k_463)) (hk_480 : Sx Γ (fun (w : Wd) => w) K 480 [] [] (k_480)) (hk_531 : Sx Γ (fun (w : Wd) => w) K 531 [] [] (k_531)) (hk_555 : Sx Γ (fun (w : Wd) => w) K 555 [] [] (k_555)) (hk_606 : Sx Γ (fun (w : Wd) => w) K 606 [] [] (k_606)) (hk_623 : Sx Γ (fun (w : Wd) => w) K 623 [] [] (k_623)) (hk_690 : Sx Γ (fun (w : Wd) => w) K 690 [] [] (k_690)) (hk_707 : Sx Γ (fun (w : Wd) => w) K 707 [] [] (k_707)) (hk_746 : Sx Γ (fun (w : Wd) => w) K 746 [] [] (k_746)) (hk_763 : Sx Γ (fun (w : Wd) => w) K 763 [] [] (k_763)) (hk_802 : Sx Γ (fun (w : Wd) => w) K 802 [] [] (k_802)) (hk_819 : Sx Γ (fun (w : Wd) => w) K 819 [] [] (k_819)) (hk_858 : Sx Γ (fun (w : Wd) => w) K 858 [] [] (k_858)) (hk_875 : Sx Γ (fun (w : Wd) => w) K 875 [] [] (k_875)) (hk_914 : Sx Γ (fun (w : Wd) => w) K 914 [] [] (k_914)) (hk_931 : Sx Γ (fun (w : Wd) => w) K 931 [] [] (k_931)) (hk_942 : Sx Γ (fun (w : Wd) => w) K 942 [] [] (k_942)) (l4 : Int) (k0 : Int) (hl4 : R32 l4) (hk0 : rg .boolean k0) : Sx Γ (fun (w : Wd) => w) (KL Γ (fun (w : Wd) => w) okf_law_23 K 23 (lvf_law_23 Γ) []) 643 [(0, vA (mg Γ) (-250)), (1, vA (mg Γ) 1), (2, vA (mg Γ) 21), (3, vA (mg Γ) 99), (4, vI l4)] [vI k0, vA (mg Γ) 1] (f_law_643 scr sl k_146 k_163 k_199 k_215 k_239 k_256 k_295 k_312 k_339 k_356 k_395 k_412 k_463 k_480 k_531 k_555 k_606 k_623 k_690 k_707 k_746 k_763 k_802 k_819 k_858 k_875 k_914 k_931 k_942 l4 k0) := by
  unfold f_law_643
  refine s_aload_n o dL_law_643 rfl 0 rfl ?_
  refine s_iload o dL_law_644 4 rfl ?_
  refine s_iconst o dL_law_646 ?_
  refine s_iadd o dL_law_647 ?_
  refine s_sld o hS (w32_R _) dL_law_648 (fun v1 hv1 => ?_)
  refine s_aload_n o dL_law_649 rfl 3 rfl ?_
  refine s_C (P := fun v => ∀ ty, (Option.some Jvm.ClassFile.FieldType.int) = some ty → rg ty v) (st' := fun r => [vI r]) (fun ts m kk => s_csW (d := d + 613) (As := [vA (mg Γ) 1, vI k0, vI v1, vA (mg Γ) 99]) (st := []) o (sc_X0_run (mg Γ) (d + 403) ts 1 k0 v1 99 hk0 hv1) mww_X0_run rfl (lw_all_tbl q2142) (lw_all_tbl q2143) wt_0 rfl dL_law_650 rfl (rs := fun r => [vI r]) (fun _ => rfl) kk) (fun v2 hv2 => ?_)
  refine r_istore o dL_law_653 rfl ⟨(Nat.ne_of_beq_eq_false rfl), (fun _ => (vA_cat (mg Γ) (-250))), ⟨(Nat.ne_of_beq_eq_false rfl), (fun _ => (vA_cat (mg Γ) 1)), ⟨(Nat.ne_of_beq_eq_false rfl), (fun _ => (vA_cat (mg Γ) 21)), ⟨(Nat.ne_of_beq_eq_false rfl), (fun _ => (vA_cat (mg Γ) 99)), ⟨(Nat.ne_of_beq_eq_false rfl), (fun _ => rfl), trivial⟩⟩⟩⟩⟩ ?_
  refine s_aload_n o dL_law_655 rfl 3 rfl ?_
  refine s_aload_n o dL_law_656 rfl 1 rfl ?_
  refine s_iload o dL_law_657 5 rfl ?_
  refine s_iconst o dL_law_659 ?_
  refine s_iadd o dL_law_660 ?_
  refine s_sld o hS (w32_R _) dL_law_661 (fun v3 hv3 => ?_)
  refine s_if_eq (tgt := 669) o dL_law_662 (by decide) hv3 ?_ ?_
  · refine s_iconst o dL_law_669 ?_
    refine r_to [(0, vA (mg Γ) (-250)), (1, vA (mg Γ) 1), (2, vA (mg Γ) 21), (3, vA (mg Γ) 99), (4, vI l4), (5, vI v2)] [1, 2, 3, 4, 5, 0] rfl ?_
    exact sf_law_670 hS o k_146 k_163 k_199 k_215 k_239 k_256 k_295 k_312 k_339 k_356 k_395 k_412 k_463 k_480 k_531 k_555 k_606 k_623 k_690 k_707 k_746 k_763 k_802 k_819 k_858 k_875 k_914 k_931 k_942 hk_146 hk_163 hk_199 hk_215 hk_239 hk_256 hk_295 hk_312 hk_339 hk_356 hk_395 hk_412 hk_463 hk_480 hk_531 hk_555 hk_606 hk_623 hk_690 hk_707 hk_746 hk_763 hk_802 hk_819 hk_858 hk_875 hk_914 hk_931 hk_942 l4 v2 0 hl4 (hv2 _ rfl) (Or.inl rfl)
  · refine s_iconst o dL_law_665 ?_
    refine s_goto (tgt := 670) o dL_law_666 (by decide) ?_
    refine r_to [(0, vA (mg Γ) (-250)), (1, vA (mg Γ) 1), (2, vA (mg Γ) 21), (3, vA (mg Γ) 99), (4, vI l4), (5, vI v2)] [1, 2, 3, 4, 5, 0] rfl ?_
    exact sf_law_670 hS o k_146 k_163 k_199 k_215 k_239 k_256 k_295 k_312 k_339 k_356 k_395 k_412 k_463 k_480 k_531 k_555 k_606 k_623 k_690 k_707 k_746 k_763 k_802 k_819 k_858 k_875 k_914 k_931 k_942 hk_146 hk_163 hk_199 hk_215 hk_239 hk_256 hk_295 hk_312 hk_339 hk_356 hk_395 hk_412 hk_463 hk_480 hk_531 hk_555 hk_606 hk_623 hk_690 hk_707 hk_746 hk_763 hk_802 hk_819 hk_858 hk_875 hk_914 hk_931 hk_942 l4 v2 1 hl4 (hv2 _ rfl) (Or.inr rfl)
noncomputable def f_law_765 (scr : Int → Int) (sl : Int) {A : Type} (k_146 : Mo Wd A) (k_163 : Mo Wd A) (k_199 : Mo Wd A) (k_215 : Mo Wd A) (k_239 : Mo Wd A) (k_256 : Mo Wd A) (k_295 : Mo Wd A) (k_312 : Mo Wd A) (k_339 : Mo Wd A) (k_356 : Mo Wd A) (k_395 : Mo Wd A) (k_412 : Mo Wd A) (k_463 : Mo Wd A) (k_480 : Mo Wd A) (k_531 : Mo Wd A) (k_555 : Mo Wd A) (k_606 : Mo Wd A) (k_623 : Mo Wd A) (k_690 : Mo Wd A) (k_707 : Mo Wd A) (k_746 : Mo Wd A) (k_763 : Mo Wd A) (k_802 : Mo Wd A) (k_819 : Mo Wd A) (k_858 : Mo Wd A) (k_875 : Mo Wd A) (k_914 : Mo Wd A) (k_931 : Mo Wd A) (k_942 : Mo Wd A) (l4 : Int) : Mo Wd ((Int) ⊕ A) :=
  f_law_936 scr sl k_146 k_163 k_199 k_215 k_239 k_256 k_295 k_312 k_339 k_356 k_395 k_412 k_463 k_480 k_531 k_555 k_606 k_623 k_690 k_707 k_746 k_763 k_802 k_819 k_858 k_875 k_914 k_931 k_942 l4
theorem sf_law_765 {Γ : Gm} {scr : Int → Int} {sl : Int} {d : Nat} (hS : SCR Γ scr sl) (o : Ok Γ "LazyForgeLaw" cL_law 7 (Option.some Jvm.ClassFile.FieldType.boolean) (d + 614)) {A : Type} {K : A → Wd → Prop}  (k_146 : Mo Wd A) (k_163 : Mo Wd A) (k_199 : Mo Wd A) (k_215 : Mo Wd A) (k_239 : Mo Wd A) (k_256 : Mo Wd A) (k_295 : Mo Wd A) (k_312 : Mo Wd A) (k_339 : Mo Wd A) (k_356 : Mo Wd A) (k_395 : Mo Wd A) (k_412 : Mo Wd A) (k_463 : Mo Wd A) (k_480 : Mo Wd A) (k_531 : Mo Wd A) (k_555 : Mo Wd A) (k_606 : Mo Wd A) (k_623 : Mo Wd A) (k_690 : Mo Wd A) (k_707 : Mo Wd A) (k_746 : Mo Wd A) (k_763 : Mo Wd A) (k_802 : Mo Wd A) (k_819 : Mo Wd A) (k_858 : Mo Wd A) (k_875 : Mo Wd A) (k_914 : Mo Wd A) (k_931 : Mo Wd A) (k_942 : Mo Wd A) (hk_146 : Sx Γ (fun (w : Wd) => w) K 146 [] [] (k_146)) (hk_163 : Sx Γ (fun (w : Wd) => w) K 163 [] [] (k_163)) (hk_199 : Sx Γ (fun (w : Wd) => w) K 199 [] [] (k_199)) (hk_215 : Sx Γ (fun (w : Wd) => w) K 215 [] [] (k_215)) (hk_239 : Sx Γ (fun (w : Wd) => w) K 239 [] [] (k_239)) (hk_256 : Sx Γ (fun (w : Wd) => w) K 256 [] [] (k_256)) (hk_295 : Sx Γ (fun (w : Wd) => w) K 295 [] [] (k_295)) (hk_312 : Sx Γ (fun (w : Wd) => w) K 312 [] [] (k_312)) (hk_339 : Sx Γ (fun (w : Wd) => w) K 339 [] [] (k_339)) (hk_356 : Sx Γ (fun (w : Wd) => w) K 356 [] [] (k_356)) (hk_395 : Sx Γ (fun (w : Wd) => w) K 395 [] [] (k_395)) (hk_412 : Sx Γ (fun (w : Wd) => w) K 412 [] [] (k_412)) (hk_463 : Sx Γ (fun (w : Wd) => w) K 463 [] [] (k_463)) (hk_480 : Sx Γ (fun (w : Wd) => w) K 480 [] [] (k_480)) (hk_531 : Sx Γ (fun (w : Wd) => w) K 531 [] [] (k_531)) (hk_555 : Sx Γ (fun (w : Wd) => w) K 555 [] [] (k_555)) (hk_606 : Sx Γ (fun (w : Wd) => w) K 606 [] [] (k_606)) (hk_623 : Sx Γ (fun (w : Wd) => w) K 623 [] [] (k_623)) (hk_690 : Sx Γ (fun (w : Wd) => w) K 690 [] [] (k_690)) (hk_707 : Sx Γ (fun (w : Wd) => w) K 707 [] [] (k_707)) (hk_746 : Sx Γ (fun (w : Wd) => w) K 746 [] [] (k_746)) (hk_763 : Sx Γ (fun (w : Wd) => w) K 763 [] [] (k_763)) (hk_802 : Sx Γ (fun (w : Wd) => w) K 802 [] [] (k_802)) (hk_819 : Sx Γ (fun (w : Wd) => w) K 819 [] [] (k_819)) (hk_858 : Sx Γ (fun (w : Wd) => w) K 858 [] [] (k_858)) (hk_875 : Sx Γ (fun (w : Wd) => w) K 875 [] [] (k_875)) (hk_914 : Sx Γ (fun (w : Wd) => w) K 914 [] [] (k_914)) (hk_931 : Sx Γ (fun (w : Wd) => w) K 931 [] [] (k_931)) (hk_942 : Sx Γ (fun (w : Wd) => w) K 942 [] [] (k_942)) (l4 : Int) (hl4 : R32 l4) : Sx Γ (fun (w : Wd) => w) (KL Γ (fun (w : Wd) => w) okf_law_23 K 23 (lvf_law_23 Γ) []) 765 [(0, vA (mg Γ) (-250)), (1, vA (mg Γ) 1), (2, vA (mg Γ) 21), (3, vA (mg Γ) 99), (4, vI l4)] [] (f_law_765 scr sl k_146 k_163 k_199 k_215 k_239 k_256 k_295 k_312 k_339 k_356 k_395 k_412 k_463 k_480 k_531 k_555 k_606 k_623 k_690 k_707 k_746 k_763 k_802 k_819 k_858 k_875 k_914 k_931 k_942 l4) := by
  unfold f_law_765
  refine s_goto (tgt := 936) o dL_law_765 (by decide) ?_
  exact sf_law_936 hS o k_146 k_163 k_199 k_215 k_239 k_256 k_295 k_312 k_339 k_356 k_395 k_412 k_463 k_480 k_531 k_555 k_606 k_623 k_690 k_707 k_746 k_763 k_802 k_819 k_858 k_875 k_914 k_931 k_942 hk_146 hk_163 hk_199 hk_215 hk_239 hk_256 hk_295 hk_312 hk_339 hk_356 hk_395 hk_412 hk_463 hk_480 hk_531 hk_555 hk_606 hk_623 hk_690 hk_707 hk_746 hk_763 hk_802 hk_819 hk_858 hk_875 hk_914 hk_931 hk_942 l4 hl4
noncomputable def f_law_821 (scr : Int → Int) (sl : Int) {A : Type} (k_146 : Mo Wd A) (k_163 : Mo Wd A) (k_199 : Mo Wd A) (k_215 : Mo Wd A) (k_239 : Mo Wd A) (k_256 : Mo Wd A) (k_295 : Mo Wd A) (k_312 : Mo Wd A) (k_339 : Mo Wd A) (k_356 : Mo Wd A) (k_395 : Mo Wd A) (k_412 : Mo Wd A) (k_463 : Mo Wd A) (k_480 : Mo Wd A) (k_531 : Mo Wd A) (k_555 : Mo Wd A) (k_606 : Mo Wd A) (k_623 : Mo Wd A) (k_690 : Mo Wd A) (k_707 : Mo Wd A) (k_746 : Mo Wd A) (k_763 : Mo Wd A) (k_802 : Mo Wd A) (k_819 : Mo Wd A) (k_858 : Mo Wd A) (k_875 : Mo Wd A) (k_914 : Mo Wd A) (k_931 : Mo Wd A) (k_942 : Mo Wd A) (l4 : Int) : Mo Wd ((Int) ⊕ A) :=
  f_law_936 scr sl k_146 k_163 k_199 k_215 k_239 k_256 k_295 k_312 k_339 k_356 k_395 k_412 k_463 k_480 k_531 k_555 k_606 k_623 k_690 k_707 k_746 k_763 k_802 k_819 k_858 k_875 k_914 k_931 k_942 l4
theorem sf_law_821 {Γ : Gm} {scr : Int → Int} {sl : Int} {d : Nat} (hS : SCR Γ scr sl) (o : Ok Γ "LazyForgeLaw" cL_law 7 (Option.some Jvm.ClassFile.FieldType.boolean) (d + 614)) {A : Type} {K : A → Wd → Prop}  (k_146 : Mo Wd A) (k_163 : Mo Wd A) (k_199 : Mo Wd A) (k_215 : Mo Wd A) (k_239 : Mo Wd A) (k_256 : Mo Wd A) (k_295 : Mo Wd A) (k_312 : Mo Wd A) (k_339 : Mo Wd A) (k_356 : Mo Wd A) (k_395 : Mo Wd A) (k_412 : Mo Wd A) (k_463 : Mo Wd A) (k_480 : Mo Wd A) (k_531 : Mo Wd A) (k_555 : Mo Wd A) (k_606 : Mo Wd A) (k_623 : Mo Wd A) (k_690 : Mo Wd A) (k_707 : Mo Wd A) (k_746 : Mo Wd A) (k_763 : Mo Wd A) (k_802 : Mo Wd A) (k_819 : Mo Wd A) (k_858 : Mo Wd A) (k_875 : Mo Wd A) (k_914 : Mo Wd A) (k_931 : Mo Wd A) (k_942 : Mo Wd A) (hk_146 : Sx Γ (fun (w : Wd) => w) K 146 [] [] (k_146)) (hk_163 : Sx Γ (fun (w : Wd) => w) K 163 [] [] (k_163)) (hk_199 : Sx Γ (fun (w : Wd) => w) K 199 [] [] (k_199)) (hk_215 : Sx Γ (fun (w : Wd) => w) K 215 [] [] (k_215)) (hk_239 : Sx Γ (fun (w : Wd) => w) K 239 [] [] (k_239)) (hk_256 : Sx Γ (fun (w : Wd) => w) K 256 [] [] (k_256)) (hk_295 : Sx Γ (fun (w : Wd) => w) K 295 [] [] (k_295)) (hk_312 : Sx Γ (fun (w : Wd) => w) K 312 [] [] (k_312)) (hk_339 : Sx Γ (fun (w : Wd) => w) K 339 [] [] (k_339)) (hk_356 : Sx Γ (fun (w : Wd) => w) K 356 [] [] (k_356)) (hk_395 : Sx Γ (fun (w : Wd) => w) K 395 [] [] (k_395)) (hk_412 : Sx Γ (fun (w : Wd) => w) K 412 [] [] (k_412)) (hk_463 : Sx Γ (fun (w : Wd) => w) K 463 [] [] (k_463)) (hk_480 : Sx Γ (fun (w : Wd) => w) K 480 [] [] (k_480)) (hk_531 : Sx Γ (fun (w : Wd) => w) K 531 [] [] (k_531)) (hk_555 : Sx Γ (fun (w : Wd) => w) K 555 [] [] (k_555)) (hk_606 : Sx Γ (fun (w : Wd) => w) K 606 [] [] (k_606)) (hk_623 : Sx Γ (fun (w : Wd) => w) K 623 [] [] (k_623)) (hk_690 : Sx Γ (fun (w : Wd) => w) K 690 [] [] (k_690)) (hk_707 : Sx Γ (fun (w : Wd) => w) K 707 [] [] (k_707)) (hk_746 : Sx Γ (fun (w : Wd) => w) K 746 [] [] (k_746)) (hk_763 : Sx Γ (fun (w : Wd) => w) K 763 [] [] (k_763)) (hk_802 : Sx Γ (fun (w : Wd) => w) K 802 [] [] (k_802)) (hk_819 : Sx Γ (fun (w : Wd) => w) K 819 [] [] (k_819)) (hk_858 : Sx Γ (fun (w : Wd) => w) K 858 [] [] (k_858)) (hk_875 : Sx Γ (fun (w : Wd) => w) K 875 [] [] (k_875)) (hk_914 : Sx Γ (fun (w : Wd) => w) K 914 [] [] (k_914)) (hk_931 : Sx Γ (fun (w : Wd) => w) K 931 [] [] (k_931)) (hk_942 : Sx Γ (fun (w : Wd) => w) K 942 [] [] (k_942)) (l4 : Int) (hl4 : R32 l4) : Sx Γ (fun (w : Wd) => w) (KL Γ (fun (w : Wd) => w) okf_law_23 K 23 (lvf_law_23 Γ) []) 821 [(0, vA (mg Γ) (-250)), (1, vA (mg Γ) 1), (2, vA (mg Γ) 21), (3, vA (mg Γ) 99), (4, vI l4)] [] (f_law_821 scr sl k_146 k_163 k_199 k_215 k_239 k_256 k_295 k_312 k_339 k_356 k_395 k_412 k_463 k_480 k_531 k_555 k_606 k_623 k_690 k_707 k_746 k_763 k_802 k_819 k_858 k_875 k_914 k_931 k_942 l4) := by
  unfold f_law_821
  refine s_goto (tgt := 936) o dL_law_821 (by decide) ?_
  exact sf_law_936 hS o k_146 k_163 k_199 k_215 k_239 k_256 k_295 k_312 k_339 k_356 k_395 k_412 k_463 k_480 k_531 k_555 k_606 k_623 k_690 k_707 k_746 k_763 k_802 k_819 k_858 k_875 k_914 k_931 k_942 hk_146 hk_163 hk_199 hk_215 hk_239 hk_256 hk_295 hk_312 hk_339 hk_356 hk_395 hk_412 hk_463 hk_480 hk_531 hk_555 hk_606 hk_623 hk_690 hk_707 hk_746 hk_763 hk_802 hk_819 hk_858 hk_875 hk_914 hk_931 hk_942 l4 hl4
noncomputable def f_law_877 (scr : Int → Int) (sl : Int) {A : Type} (k_146 : Mo Wd A) (k_163 : Mo Wd A) (k_199 : Mo Wd A) (k_215 : Mo Wd A) (k_239 : Mo Wd A) (k_256 : Mo Wd A) (k_295 : Mo Wd A) (k_312 : Mo Wd A) (k_339 : Mo Wd A) (k_356 : Mo Wd A) (k_395 : Mo Wd A) (k_412 : Mo Wd A) (k_463 : Mo Wd A) (k_480 : Mo Wd A) (k_531 : Mo Wd A) (k_555 : Mo Wd A) (k_606 : Mo Wd A) (k_623 : Mo Wd A) (k_690 : Mo Wd A) (k_707 : Mo Wd A) (k_746 : Mo Wd A) (k_763 : Mo Wd A) (k_802 : Mo Wd A) (k_819 : Mo Wd A) (k_858 : Mo Wd A) (k_875 : Mo Wd A) (k_914 : Mo Wd A) (k_931 : Mo Wd A) (k_942 : Mo Wd A) (l4 : Int) : Mo Wd ((Int) ⊕ A) :=
  f_law_936 scr sl k_146 k_163 k_199 k_215 k_239 k_256 k_295 k_312 k_339 k_356 k_395 k_412 k_463 k_480 k_531 k_555 k_606 k_623 k_690 k_707 k_746 k_763 k_802 k_819 k_858 k_875 k_914 k_931 k_942 l4
theorem sf_law_877 {Γ : Gm} {scr : Int → Int} {sl : Int} {d : Nat} (hS : SCR Γ scr sl) (o : Ok Γ "LazyForgeLaw" cL_law 7 (Option.some Jvm.ClassFile.FieldType.boolean) (d + 614)) {A : Type} {K : A → Wd → Prop}  (k_146 : Mo Wd A) (k_163 : Mo Wd A) (k_199 : Mo Wd A) (k_215 : Mo Wd A) (k_239 : Mo Wd A) (k_256 : Mo Wd A) (k_295 : Mo Wd A) (k_312 : Mo Wd A) (k_339 : Mo Wd A) (k_356 : Mo Wd A) (k_395 : Mo Wd A) (k_412 : Mo Wd A) (k_463 : Mo Wd A) (k_480 : Mo Wd A) (k_531 : Mo Wd A) (k_555 : Mo Wd A) (k_606 : Mo Wd A) (k_623 : Mo Wd A) (k_690 : Mo Wd A) (k_707 : Mo Wd A) (k_746 : Mo Wd A) (k_763 : Mo Wd A) (k_802 : Mo Wd A) (k_819 : Mo Wd A) (k_858 : Mo Wd A) (k_875 : Mo Wd A) (k_914 : Mo Wd A) (k_931 : Mo Wd A) (k_942 : Mo Wd A) (hk_146 : Sx Γ (fun (w : Wd) => w) K 146 [] [] (k_146)) (hk_163 : Sx Γ (fun (w : Wd) => w) K 163 [] [] (k_163)) (hk_199 : Sx Γ (fun (w : Wd) => w) K 199 [] [] (k_199)) (hk_215 : Sx Γ (fun (w : Wd) => w) K 215 [] [] (k_215)) (hk_239 : Sx Γ (fun (w : Wd) => w) K 239 [] [] (k_239)) (hk_256 : Sx Γ (fun (w : Wd) => w) K 256 [] [] (k_256)) (hk_295 : Sx Γ (fun (w : Wd) => w) K 295 [] [] (k_295)) (hk_312 : Sx Γ (fun (w : Wd) => w) K 312 [] [] (k_312)) (hk_339 : Sx Γ (fun (w : Wd) => w) K 339 [] [] (k_339)) (hk_356 : Sx Γ (fun (w : Wd) => w) K 356 [] [] (k_356)) (hk_395 : Sx Γ (fun (w : Wd) => w) K 395 [] [] (k_395)) (hk_412 : Sx Γ (fun (w : Wd) => w) K 412 [] [] (k_412)) (hk_463 : Sx Γ (fun (w : Wd) => w) K 463 [] [] (k_463)) (hk_480 : Sx Γ (fun (w : Wd) => w) K 480 [] [] (k_480)) (hk_531 : Sx Γ (fun (w : Wd) => w) K 531 [] [] (k_531)) (hk_555 : Sx Γ (fun (w : Wd) => w) K 555 [] [] (k_555)) (hk_606 : Sx Γ (fun (w : Wd) => w) K 606 [] [] (k_606)) (hk_623 : Sx Γ (fun (w : Wd) => w) K 623 [] [] (k_623)) (hk_690 : Sx Γ (fun (w : Wd) => w) K 690 [] [] (k_690)) (hk_707 : Sx Γ (fun (w : Wd) => w) K 707 [] [] (k_707)) (hk_746 : Sx Γ (fun (w : Wd) => w) K 746 [] [] (k_746)) (hk_763 : Sx Γ (fun (w : Wd) => w) K 763 [] [] (k_763)) (hk_802 : Sx Γ (fun (w : Wd) => w) K 802 [] [] (k_802)) (hk_819 : Sx Γ (fun (w : Wd) => w) K 819 [] [] (k_819)) (hk_858 : Sx Γ (fun (w : Wd) => w) K 858 [] [] (k_858)) (hk_875 : Sx Γ (fun (w : Wd) => w) K 875 [] [] (k_875)) (hk_914 : Sx Γ (fun (w : Wd) => w) K 914 [] [] (k_914)) (hk_931 : Sx Γ (fun (w : Wd) => w) K 931 [] [] (k_931)) (hk_942 : Sx Γ (fun (w : Wd) => w) K 942 [] [] (k_942)) (l4 : Int) (hl4 : R32 l4) : Sx Γ (fun (w : Wd) => w) (KL Γ (fun (w : Wd) => w) okf_law_23 K 23 (lvf_law_23 Γ) []) 877 [(0, vA (mg Γ) (-250)), (1, vA (mg Γ) 1), (2, vA (mg Γ) 21), (3, vA (mg Γ) 99), (4, vI l4)] [] (f_law_877 scr sl k_146 k_163 k_199 k_215 k_239 k_256 k_295 k_312 k_339 k_356 k_395 k_412 k_463 k_480 k_531 k_555 k_606 k_623 k_690 k_707 k_746 k_763 k_802 k_819 k_858 k_875 k_914 k_931 k_942 l4) := by
  unfold f_law_877
  refine s_goto (tgt := 936) o dL_law_877 (by decide) ?_
  exact sf_law_936 hS o k_146 k_163 k_199 k_215 k_239 k_256 k_295 k_312 k_339 k_356 k_395 k_412 k_463 k_480 k_531 k_555 k_606 k_623 k_690 k_707 k_746 k_763 k_802 k_819 k_858 k_875 k_914 k_931 k_942 hk_146 hk_163 hk_199 hk_215 hk_239 hk_256 hk_295 hk_312 hk_339 hk_356 hk_395 hk_412 hk_463 hk_480 hk_531 hk_555 hk_606 hk_623 hk_690 hk_707 hk_746 hk_763 hk_802 hk_819 hk_858 hk_875 hk_914 hk_931 hk_942 l4 hl4
noncomputable def f_law_933 (scr : Int → Int) (sl : Int) {A : Type} (k_146 : Mo Wd A) (k_163 : Mo Wd A) (k_199 : Mo Wd A) (k_215 : Mo Wd A) (k_239 : Mo Wd A) (k_256 : Mo Wd A) (k_295 : Mo Wd A) (k_312 : Mo Wd A) (k_339 : Mo Wd A) (k_356 : Mo Wd A) (k_395 : Mo Wd A) (k_412 : Mo Wd A) (k_463 : Mo Wd A) (k_480 : Mo Wd A) (k_531 : Mo Wd A) (k_555 : Mo Wd A) (k_606 : Mo Wd A) (k_623 : Mo Wd A) (k_690 : Mo Wd A) (k_707 : Mo Wd A) (k_746 : Mo Wd A) (k_763 : Mo Wd A) (k_802 : Mo Wd A) (k_819 : Mo Wd A) (k_858 : Mo Wd A) (k_875 : Mo Wd A) (k_914 : Mo Wd A) (k_931 : Mo Wd A) (k_942 : Mo Wd A) (l4 : Int) : Mo Wd ((Int) ⊕ A) :=
  f_law_936 scr sl k_146 k_163 k_199 k_215 k_239 k_256 k_295 k_312 k_339 k_356 k_395 k_412 k_463 k_480 k_531 k_555 k_606 k_623 k_690 k_707 k_746 k_763 k_802 k_819 k_858 k_875 k_914 k_931 k_942 l4
theorem sf_law_933 {Γ : Gm} {scr : Int → Int} {sl : Int} {d : Nat} (hS : SCR Γ scr sl) (o : Ok Γ "LazyForgeLaw" cL_law 7 (Option.some Jvm.ClassFile.FieldType.boolean) (d + 614)) {A : Type} {K : A → Wd → Prop}  (k_146 : Mo Wd A) (k_163 : Mo Wd A) (k_199 : Mo Wd A) (k_215 : Mo Wd A) (k_239 : Mo Wd A) (k_256 : Mo Wd A) (k_295 : Mo Wd A) (k_312 : Mo Wd A) (k_339 : Mo Wd A) (k_356 : Mo Wd A) (k_395 : Mo Wd A) (k_412 : Mo Wd A) (k_463 : Mo Wd A) (k_480 : Mo Wd A) (k_531 : Mo Wd A) (k_555 : Mo Wd A) (k_606 : Mo Wd A) (k_623 : Mo Wd A) (k_690 : Mo Wd A) (k_707 : Mo Wd A) (k_746 : Mo Wd A) (k_763 : Mo Wd A) (k_802 : Mo Wd A) (k_819 : Mo Wd A) (k_858 : Mo Wd A) (k_875 : Mo Wd A) (k_914 : Mo Wd A) (k_931 : Mo Wd A) (k_942 : Mo Wd A) (hk_146 : Sx Γ (fun (w : Wd) => w) K 146 [] [] (k_146)) (hk_163 : Sx Γ (fun (w : Wd) => w) K 163 [] [] (k_163)) (hk_199 : Sx Γ (fun (w : Wd) => w) K 199 [] [] (k_199)) (hk_215 : Sx Γ (fun (w : Wd) => w) K 215 [] [] (k_215)) (hk_239 : Sx Γ (fun (w : Wd) => w) K 239 [] [] (k_239)) (hk_256 : Sx Γ (fun (w : Wd) => w) K 256 [] [] (k_256)) (hk_295 : Sx Γ (fun (w : Wd) => w) K 295 [] [] (k_295)) (hk_312 : Sx Γ (fun (w : Wd) => w) K 312 [] [] (k_312)) (hk_339 : Sx Γ (fun (w : Wd) => w) K 339 [] [] (k_339)) (hk_356 : Sx Γ (fun (w : Wd) => w) K 356 [] [] (k_356)) (hk_395 : Sx Γ (fun (w : Wd) => w) K 395 [] [] (k_395)) (hk_412 : Sx Γ (fun (w : Wd) => w) K 412 [] [] (k_412)) (hk_463 : Sx Γ (fun (w : Wd) => w) K 463 [] [] (k_463)) (hk_480 : Sx Γ (fun (w : Wd) => w) K 480 [] [] (k_480)) (hk_531 : Sx Γ (fun (w : Wd) => w) K 531 [] [] (k_531)) (hk_555 : Sx Γ (fun (w : Wd) => w) K 555 [] [] (k_555)) (hk_606 : Sx Γ (fun (w : Wd) => w) K 606 [] [] (k_606)) (hk_623 : Sx Γ (fun (w : Wd) => w) K 623 [] [] (k_623)) (hk_690 : Sx Γ (fun (w : Wd) => w) K 690 [] [] (k_690)) (hk_707 : Sx Γ (fun (w : Wd) => w) K 707 [] [] (k_707)) (hk_746 : Sx Γ (fun (w : Wd) => w) K 746 [] [] (k_746)) (hk_763 : Sx Γ (fun (w : Wd) => w) K 763 [] [] (k_763)) (hk_802 : Sx Γ (fun (w : Wd) => w) K 802 [] [] (k_802)) (hk_819 : Sx Γ (fun (w : Wd) => w) K 819 [] [] (k_819)) (hk_858 : Sx Γ (fun (w : Wd) => w) K 858 [] [] (k_858)) (hk_875 : Sx Γ (fun (w : Wd) => w) K 875 [] [] (k_875)) (hk_914 : Sx Γ (fun (w : Wd) => w) K 914 [] [] (k_914)) (hk_931 : Sx Γ (fun (w : Wd) => w) K 931 [] [] (k_931)) (hk_942 : Sx Γ (fun (w : Wd) => w) K 942 [] [] (k_942)) (l4 : Int) (hl4 : R32 l4) : Sx Γ (fun (w : Wd) => w) (KL Γ (fun (w : Wd) => w) okf_law_23 K 23 (lvf_law_23 Γ) []) 933 [(0, vA (mg Γ) (-250)), (1, vA (mg Γ) 1), (2, vA (mg Γ) 21), (3, vA (mg Γ) 99), (4, vI l4)] [] (f_law_933 scr sl k_146 k_163 k_199 k_215 k_239 k_256 k_295 k_312 k_339 k_356 k_395 k_412 k_463 k_480 k_531 k_555 k_606 k_623 k_690 k_707 k_746 k_763 k_802 k_819 k_858 k_875 k_914 k_931 k_942 l4) := by
  unfold f_law_933
  refine s_goto (tgt := 936) o dL_law_933 (by decide) ?_
  exact sf_law_936 hS o k_146 k_163 k_199 k_215 k_239 k_256 k_295 k_312 k_339 k_356 k_395 k_412 k_463 k_480 k_531 k_555 k_606 k_623 k_690 k_707 k_746 k_763 k_802 k_819 k_858 k_875 k_914 k_931 k_942 hk_146 hk_163 hk_199 hk_215 hk_239 hk_256 hk_295 hk_312 hk_339 hk_356 hk_395 hk_412 hk_463 hk_480 hk_531 hk_555 hk_606 hk_623 hk_690 hk_707 hk_746 hk_763 hk_802 hk_819 hk_858 hk_875 hk_914 hk_931 hk_942 l4 hl4
noncomputable def f_law_23b (scr : Int → Int) (sl : Int) {A : Type} (k_146 : Mo Wd A) (k_163 : Mo Wd A) (k_199 : Mo Wd A) (k_215 : Mo Wd A) (k_239 : Mo Wd A) (k_256 : Mo Wd A) (k_295 : Mo Wd A) (k_312 : Mo Wd A) (k_339 : Mo Wd A) (k_356 : Mo Wd A) (k_395 : Mo Wd A) (k_412 : Mo Wd A) (k_463 : Mo Wd A) (k_480 : Mo Wd A) (k_531 : Mo Wd A) (k_555 : Mo Wd A) (k_606 : Mo Wd A) (k_623 : Mo Wd A) (k_690 : Mo Wd A) (k_707 : Mo Wd A) (k_746 : Mo Wd A) (k_763 : Mo Wd A) (k_802 : Mo Wd A) (k_819 : Mo Wd A) (k_858 : Mo Wd A) (k_875 : Mo Wd A) (k_914 : Mo Wd A) (k_931 : Mo Wd A) (k_942 : Mo Wd A) (l4 : Int) : Mo Wd ((Int) ⊕ A) :=
  if (w32 (sl - 3)) < l4 then
    lo k_942
  else
    bnd (rdS scr sl l4) fun v1 =>
    if (iand v1 15) = 0 then
      bnd (rdS scr sl (w32 (l4 + 1))) fun v3 =>
      bnd (liftC (c_X0_put 1 v3 99)) fun v4 =>
      bnd (rdS scr sl (w32 (l4 + 1))) fun v5 =>
      bnd (liftT (t_put v5)) fun v6 =>
      bnd (liftT (t_thrown)) fun v7 =>
      if v7 = v4 then
        if ¬ v4 = 0 then
          f_law_165 scr sl k_146 k_163 k_199 k_215 k_239 k_256 k_295 k_312 k_339 k_356 k_395 k_412 k_463 k_480 k_531 k_555 k_606 k_623 k_690 k_707 k_746 k_763 k_802 k_819 k_858 k_875 k_914 k_931 k_942 l4
        else
          bnd (liftC (ald 1 99 0)) fun v8 =>
          if v8 = v6 then
            f_law_165 scr sl k_146 k_163 k_199 k_215 k_239 k_256 k_295 k_312 k_339 k_356 k_395 k_412 k_463 k_480 k_531 k_555 k_606 k_623 k_690 k_707 k_746 k_763 k_802 k_819 k_858 k_875 k_914 k_931 k_942 l4
          else
            lo k_163
      else
        lo k_146
    else
      if (iand v1 15) = 1 then
        bnd (rdS scr sl (w32 (l4 + 1))) fun v10 =>
        bnd (liftC (c_X0_end 1 v10)) fun v11 =>
        bnd (rdS scr sl (w32 (l4 + 1))) fun v12 =>
        bnd (liftT (t_end v12)) fun _ =>
        bnd (liftT (t_thrown)) fun v14 =>
        if v14 = v11 then
          f_law_936 scr sl k_146 k_163 k_199 k_215 k_239 k_256 k_295 k_312 k_339 k_356 k_395 k_412 k_463 k_480 k_531 k_555 k_606 k_623 k_690 k_707 k_746 k_763 k_802 k_819 k_858 k_875 k_914 k_931 k_942 l4
        else
          lo k_199
      else
        if (iand v1 15) = 2 then
          bnd (liftC (bnd (isk 101 1) fun _ => c_X1_take 1)) fun v16 =>
          bnd (liftT (t_take)) fun v17 =>
          if v16 = v17 then
            f_law_936 scr sl k_146 k_163 k_199 k_215 k_239 k_256 k_295 k_312 k_339 k_356 k_395 k_412 k_463 k_480 k_531 k_555 k_606 k_623 k_690 k_707 k_746 k_763 k_802 k_819 k_858 k_875 k_914 k_931 k_942 l4
          else
            lo k_215
        else
          if (iand v1 15) = 3 then
            bnd (liftC (c_X0_program 1 99)) fun v19 =>
            bnd (liftT (t_program)) fun v20 =>
            bnd (liftT (t_thrown)) fun v21 =>
            if v21 = v19 then
              if ¬ v19 = 0 then
                f_law_258 scr sl k_146 k_163 k_199 k_215 k_239 k_256 k_295 k_312 k_339 k_356 k_395 k_412 k_463 k_480 k_531 k_555 k_606 k_623 k_690 k_707 k_746 k_763 k_802 k_819 k_858 k_875 k_914 k_931 k_942 l4
              else
                bnd (liftC (ald 1 99 0)) fun v22 =>
                if v22 = v20 then
                  f_law_258 scr sl k_146 k_163 k_199 k_215 k_239 k_256 k_295 k_312 k_339 k_356 k_395 k_412 k_463 k_480 k_531 k_555 k_606 k_623 k_690 k_707 k_746 k_763 k_802 k_819 k_858 k_875 k_914 k_931 k_942 l4
                else
                  lo k_256
            else
              lo k_239
          else
            if (iand v1 15) = 4 then
              bnd (rdS scr sl (w32 (l4 + 1))) fun v24 =>
              bnd (liftC (c_X0_fault 1 v24 99)) fun v25 =>
              bnd (rdS scr sl (w32 (l4 + 1))) fun v26 =>
              bnd (liftT (t_fault v26)) fun v27 =>
              bnd (liftT (t_thrown)) fun v28 =>
              if v28 = v25 then
                if ¬ v25 = 0 then
                  f_law_314 scr sl k_146 k_163 k_199 k_215 k_239 k_256 k_295 k_312 k_339 k_356 k_395 k_412 k_463 k_480 k_531 k_555 k_606 k_623 k_690 k_707 k_746 k_763 k_802 k_819 k_858 k_875 k_914 k_931 k_942 l4
                else
                  bnd (liftC (ald 1 99 0)) fun v29 =>
                  if v29 = v27 then
                    f_law_314 scr sl k_146 k_163 k_199 k_215 k_239 k_256 k_295 k_312 k_339 k_356 k_395 k_412 k_463 k_480 k_531 k_555 k_606 k_623 k_690 k_707 k_746 k_763 k_802 k_819 k_858 k_875 k_914 k_931 k_942 l4
                  else
                    lo k_312
              else
                lo k_295
            else
              if (iand v1 15) = 5 then
                bnd (liftC (c_X0_write 1 99)) fun v31 =>
                bnd (liftT (t_write)) fun v32 =>
                bnd (liftT (t_thrown)) fun v33 =>
                if v33 = v31 then
                  if ¬ v31 = 0 then
                    f_law_358 scr sl k_146 k_163 k_199 k_215 k_239 k_256 k_295 k_312 k_339 k_356 k_395 k_412 k_463 k_480 k_531 k_555 k_606 k_623 k_690 k_707 k_746 k_763 k_802 k_819 k_858 k_875 k_914 k_931 k_942 l4
                  else
                    bnd (liftC (ald 1 99 0)) fun v34 =>
                    if v34 = v32 then
                      f_law_358 scr sl k_146 k_163 k_199 k_215 k_239 k_256 k_295 k_312 k_339 k_356 k_395 k_412 k_463 k_480 k_531 k_555 k_606 k_623 k_690 k_707 k_746 k_763 k_802 k_819 k_858 k_875 k_914 k_931 k_942 l4
                    else
                      lo k_356
                else
                  lo k_339
              else
                if (iand v1 15) = 6 then
                  bnd (rdS scr sl (w32 (l4 + 1))) fun v36 =>
                  bnd (liftC (c_X0_letter 1 v36 99)) fun v37 =>
                  bnd (rdS scr sl (w32 (l4 + 1))) fun v38 =>
                  bnd (liftT (t_letter v38)) fun v39 =>
                  bnd (liftT (t_thrown)) fun v40 =>
                  if v40 = v37 then
                    if ¬ v37 = 0 then
                      f_law_414 scr sl k_146 k_163 k_199 k_215 k_239 k_256 k_295 k_312 k_339 k_356 k_395 k_412 k_463 k_480 k_531 k_555 k_606 k_623 k_690 k_707 k_746 k_763 k_802 k_819 k_858 k_875 k_914 k_931 k_942 l4
                    else
                      bnd (liftC (ald 1 99 0)) fun v41 =>
                      if v41 = v39 then
                        f_law_414 scr sl k_146 k_163 k_199 k_215 k_239 k_256 k_295 k_312 k_339 k_356 k_395 k_412 k_463 k_480 k_531 k_555 k_606 k_623 k_690 k_707 k_746 k_763 k_802 k_819 k_858 k_875 k_914 k_931 k_942 l4
                      else
                        lo k_412
                  else
                    lo k_395
                else
                  if (iand v1 15) = 7 then
                    bnd (rdS scr sl (w32 (l4 + 1))) fun v43 =>
                    bnd (rdS scr sl (w32 (l4 + 2))) fun v44 =>
                    bnd (liftC (c_X0_function 1 v43 v44 99)) fun v45 =>
                    bnd (rdS scr sl (w32 (l4 + 1))) fun v46 =>
                    bnd (rdS scr sl (w32 (l4 + 2))) fun v47 =>
                    bnd (liftT (t_function v46 v47)) fun v48 =>
                    bnd (liftT (t_thrown)) fun v49 =>
                    if v49 = v45 then
                      if ¬ v45 = 0 then
                        f_law_482 scr sl k_146 k_163 k_199 k_215 k_239 k_256 k_295 k_312 k_339 k_356 k_395 k_412 k_463 k_480 k_531 k_555 k_606 k_623 k_690 k_707 k_746 k_763 k_802 k_819 k_858 k_875 k_914 k_931 k_942 l4
                      else
                        bnd (liftC (ald 1 99 0)) fun v50 =>
                        if v50 = v48 then
                          f_law_482 scr sl k_146 k_163 k_199 k_215 k_239 k_256 k_295 k_312 k_339 k_356 k_395 k_412 k_463 k_480 k_531 k_555 k_606 k_623 k_690 k_707 k_746 k_763 k_802 k_819 k_858 k_875 k_914 k_931 k_942 l4
                        else
                          lo k_480
                    else
                      lo k_463
                  else
                    if (iand v1 15) = 8 then
                      bnd (rdS scr sl (w32 (l4 + 1))) fun v52 =>
                      bnd (rdS scr sl (w32 (l4 + 2))) fun v53 =>
                      bnd (liftC (c_X0_needs 1 v52 v53 99)) fun v54 =>
                      bnd (rdS scr sl (w32 (l4 + 1))) fun v55 =>
                      bnd (rdS scr sl (w32 (l4 + 2))) fun v56 =>
                      bnd (liftT (t_needs v55 v56)) fun v57 =>
                      bnd (liftT (t_thrown)) fun v58 =>
                      if v58 = v54 then
                        if ¬ v54 = 0 then
                          f_law_557 scr sl k_146 k_163 k_199 k_215 k_239 k_256 k_295 k_312 k_339 k_356 k_395 k_412 k_463 k_480 k_531 k_555 k_606 k_623 k_690 k_707 k_746 k_763 k_802 k_819 k_858 k_875 k_914 k_931 k_942 l4
                        else
                          bnd (liftC (ald 1 99 0)) fun v59 =>
                          if v57 = 0 then
                            f_law_551 scr sl k_146 k_163 k_199 k_215 k_239 k_256 k_295 k_312 k_339 k_356 k_395 k_412 k_463 k_480 k_531 k_555 k_606 k_623 k_690 k_707 k_746 k_763 k_802 k_819 k_858 k_875 k_914 k_931 k_942 l4 0 v59
                          else
                            f_law_551 scr sl k_146 k_163 k_199 k_215 k_239 k_256 k_295 k_312 k_339 k_356 k_395 k_412 k_463 k_480 k_531 k_555 k_606 k_623 k_690 k_707 k_746 k_763 k_802 k_819 k_858 k_875 k_914 k_931 k_942 l4 1 v59
                      else
                        lo k_531
                    else
                      if (iand v1 15) = 9 then
                        bnd (rdS scr sl (w32 (l4 + 1))) fun v61 =>
                        bnd (rdS scr sl (w32 (l4 + 2))) fun v62 =>
                        bnd (liftC (c_X0_bit 1 v61 v62 99)) fun v63 =>
                        bnd (rdS scr sl (w32 (l4 + 1))) fun v64 =>
                        bnd (rdS scr sl (w32 (l4 + 2))) fun v65 =>
                        bnd (liftT (t_bit v64 v65)) fun v66 =>
                        bnd (liftT (t_thrown)) fun v67 =>
                        if v67 = v63 then
                          if ¬ v63 = 0 then
                            f_law_625 scr sl k_146 k_163 k_199 k_215 k_239 k_256 k_295 k_312 k_339 k_356 k_395 k_412 k_463 k_480 k_531 k_555 k_606 k_623 k_690 k_707 k_746 k_763 k_802 k_819 k_858 k_875 k_914 k_931 k_942 l4
                          else
                            bnd (liftC (ald 1 99 0)) fun v68 =>
                            if v68 = v66 then
                              f_law_625 scr sl k_146 k_163 k_199 k_215 k_239 k_256 k_295 k_312 k_339 k_356 k_395 k_412 k_463 k_480 k_531 k_555 k_606 k_623 k_690 k_707 k_746 k_763 k_802 k_819 k_858 k_875 k_914 k_931 k_942 l4
                            else
                              lo k_623
                        else
                          lo k_606
                      else
                        if (iand v1 15) = 10 then
                          bnd (rdS scr sl (w32 (l4 + 1))) fun v70 =>
                          if v70 = 0 then
                            f_law_643 scr sl k_146 k_163 k_199 k_215 k_239 k_256 k_295 k_312 k_339 k_356 k_395 k_412 k_463 k_480 k_531 k_555 k_606 k_623 k_690 k_707 k_746 k_763 k_802 k_819 k_858 k_875 k_914 k_931 k_942 l4 0
                          else
                            f_law_643 scr sl k_146 k_163 k_199 k_215 k_239 k_256 k_295 k_312 k_339 k_356 k_395 k_412 k_463 k_480 k_531 k_555 k_606 k_623 k_690 k_707 k_746 k_763 k_802 k_819 k_858 k_875 k_914 k_931 k_942 l4 1
                        else
                          if (iand v1 15) = 11 then
                            bnd (rdS scr sl (w32 (l4 + 1))) fun v72 =>
                            bnd (liftC (c_X0_result 1 v72 99)) fun v73 =>
                            bnd (rdS scr sl (w32 (l4 + 1))) fun v74 =>
                            bnd (liftT (t_result v74)) fun v75 =>
                            bnd (liftT (t_thrown)) fun v76 =>
                            if v76 = v73 then
                              if ¬ v73 = 0 then
                                f_law_765 scr sl k_146 k_163 k_199 k_215 k_239 k_256 k_295 k_312 k_339 k_356 k_395 k_412 k_463 k_480 k_531 k_555 k_606 k_623 k_690 k_707 k_746 k_763 k_802 k_819 k_858 k_875 k_914 k_931 k_942 l4
                              else
                                bnd (liftC (ald 1 99 0)) fun v77 =>
                                if v77 = v75 then
                                  f_law_765 scr sl k_146 k_163 k_199 k_215 k_239 k_256 k_295 k_312 k_339 k_356 k_395 k_412 k_463 k_480 k_531 k_555 k_606 k_623 k_690 k_707 k_746 k_763 k_802 k_819 k_858 k_875 k_914 k_931 k_942 l4
                                else
                                  lo k_763
                            else
                              lo k_746
                          else
                            if (iand v1 15) = 12 then
                              bnd (rdS scr sl (w32 (l4 + 1))) fun v79 =>
                              bnd (liftC (c_X0_number 1 v79 99)) fun v80 =>
                              bnd (rdS scr sl (w32 (l4 + 1))) fun v81 =>
                              bnd (liftT (t_number v81)) fun v82 =>
                              bnd (liftT (t_thrown)) fun v83 =>
                              if v83 = v80 then
                                if ¬ v80 = 0 then
                                  f_law_821 scr sl k_146 k_163 k_199 k_215 k_239 k_256 k_295 k_312 k_339 k_356 k_395 k_412 k_463 k_480 k_531 k_555 k_606 k_623 k_690 k_707 k_746 k_763 k_802 k_819 k_858 k_875 k_914 k_931 k_942 l4
                                else
                                  bnd (liftC (ald 1 99 0)) fun v84 =>
                                  if v84 = v82 then
                                    f_law_821 scr sl k_146 k_163 k_199 k_215 k_239 k_256 k_295 k_312 k_339 k_356 k_395 k_412 k_463 k_480 k_531 k_555 k_606 k_623 k_690 k_707 k_746 k_763 k_802 k_819 k_858 k_875 k_914 k_931 k_942 l4
                                  else
                                    lo k_819
                              else
                                lo k_802
                            else
                              if (iand v1 15) = 13 then
                                bnd (rdS scr sl (w32 (l4 + 1))) fun v86 =>
                                bnd (liftC (c_X0_called 1 v86 99)) fun v87 =>
                                bnd (rdS scr sl (w32 (l4 + 1))) fun v88 =>
                                bnd (liftT (t_called v88)) fun v89 =>
                                bnd (liftT (t_thrown)) fun v90 =>
                                if v90 = v87 then
                                  if ¬ v87 = 0 then
                                    f_law_877 scr sl k_146 k_163 k_199 k_215 k_239 k_256 k_295 k_312 k_339 k_356 k_395 k_412 k_463 k_480 k_531 k_555 k_606 k_623 k_690 k_707 k_746 k_763 k_802 k_819 k_858 k_875 k_914 k_931 k_942 l4
                                  else
                                    bnd (liftC (ald 1 99 0)) fun v91 =>
                                    if v91 = v89 then
                                      f_law_877 scr sl k_146 k_163 k_199 k_215 k_239 k_256 k_295 k_312 k_339 k_356 k_395 k_412 k_463 k_480 k_531 k_555 k_606 k_623 k_690 k_707 k_746 k_763 k_802 k_819 k_858 k_875 k_914 k_931 k_942 l4
                                    else
                                      lo k_875
                                else
                                  lo k_858
                              else
                                if (iand v1 15) = 14 then
                                  bnd (rdS scr sl (w32 (l4 + 1))) fun v93 =>
                                  bnd (liftC (c_X0_about 1 v93 99)) fun v94 =>
                                  bnd (rdS scr sl (w32 (l4 + 1))) fun v95 =>
                                  bnd (liftT (t_about v95)) fun v96 =>
                                  bnd (liftT (t_thrown)) fun v97 =>
                                  if v97 = v94 then
                                    if ¬ v94 = 0 then
                                      f_law_933 scr sl k_146 k_163 k_199 k_215 k_239 k_256 k_295 k_312 k_339 k_356 k_395 k_412 k_463 k_480 k_531 k_555 k_606 k_623 k_690 k_707 k_746 k_763 k_802 k_819 k_858 k_875 k_914 k_931 k_942 l4
                                    else
                                      bnd (liftC (ald 1 99 0)) fun v98 =>
                                      if v98 = v96 then
                                        f_law_933 scr sl k_146 k_163 k_199 k_215 k_239 k_256 k_295 k_312 k_339 k_356 k_395 k_412 k_463 k_480 k_531 k_555 k_606 k_623 k_690 k_707 k_746 k_763 k_802 k_819 k_858 k_875 k_914 k_931 k_942 l4
                                      else
                                        lo k_931
                                  else
                                    lo k_914
                                else
                                  f_law_936 scr sl k_146 k_163 k_199 k_215 k_239 k_256 k_295 k_312 k_339 k_356 k_395 k_412 k_463 k_480 k_531 k_555 k_606 k_623 k_690 k_707 k_746 k_763 k_802 k_819 k_858 k_875 k_914 k_931 k_942 l4
theorem sf_law_23b {Γ : Gm} {scr : Int → Int} {sl : Int} {d : Nat} (hS : SCR Γ scr sl) (o : Ok Γ "LazyForgeLaw" cL_law 7 (Option.some Jvm.ClassFile.FieldType.boolean) (d + 614)) {A : Type} {K : A → Wd → Prop} (k_146 : Mo Wd A) (k_163 : Mo Wd A) (k_199 : Mo Wd A) (k_215 : Mo Wd A) (k_239 : Mo Wd A) (k_256 : Mo Wd A) (k_295 : Mo Wd A) (k_312 : Mo Wd A) (k_339 : Mo Wd A) (k_356 : Mo Wd A) (k_395 : Mo Wd A) (k_412 : Mo Wd A) (k_463 : Mo Wd A) (k_480 : Mo Wd A) (k_531 : Mo Wd A) (k_555 : Mo Wd A) (k_606 : Mo Wd A) (k_623 : Mo Wd A) (k_690 : Mo Wd A) (k_707 : Mo Wd A) (k_746 : Mo Wd A) (k_763 : Mo Wd A) (k_802 : Mo Wd A) (k_819 : Mo Wd A) (k_858 : Mo Wd A) (k_875 : Mo Wd A) (k_914 : Mo Wd A) (k_931 : Mo Wd A) (k_942 : Mo Wd A) (hk_146 : Sx Γ (fun (w : Wd) => w) K 146 [] [] (k_146)) (hk_163 : Sx Γ (fun (w : Wd) => w) K 163 [] [] (k_163)) (hk_199 : Sx Γ (fun (w : Wd) => w) K 199 [] [] (k_199)) (hk_215 : Sx Γ (fun (w : Wd) => w) K 215 [] [] (k_215)) (hk_239 : Sx Γ (fun (w : Wd) => w) K 239 [] [] (k_239)) (hk_256 : Sx Γ (fun (w : Wd) => w) K 256 [] [] (k_256)) (hk_295 : Sx Γ (fun (w : Wd) => w) K 295 [] [] (k_295)) (hk_312 : Sx Γ (fun (w : Wd) => w) K 312 [] [] (k_312)) (hk_339 : Sx Γ (fun (w : Wd) => w) K 339 [] [] (k_339)) (hk_356 : Sx Γ (fun (w : Wd) => w) K 356 [] [] (k_356)) (hk_395 : Sx Γ (fun (w : Wd) => w) K 395 [] [] (k_395)) (hk_412 : Sx Γ (fun (w : Wd) => w) K 412 [] [] (k_412)) (hk_463 : Sx Γ (fun (w : Wd) => w) K 463 [] [] (k_463)) (hk_480 : Sx Γ (fun (w : Wd) => w) K 480 [] [] (k_480)) (hk_531 : Sx Γ (fun (w : Wd) => w) K 531 [] [] (k_531)) (hk_555 : Sx Γ (fun (w : Wd) => w) K 555 [] [] (k_555)) (hk_606 : Sx Γ (fun (w : Wd) => w) K 606 [] [] (k_606)) (hk_623 : Sx Γ (fun (w : Wd) => w) K 623 [] [] (k_623)) (hk_690 : Sx Γ (fun (w : Wd) => w) K 690 [] [] (k_690)) (hk_707 : Sx Γ (fun (w : Wd) => w) K 707 [] [] (k_707)) (hk_746 : Sx Γ (fun (w : Wd) => w) K 746 [] [] (k_746)) (hk_763 : Sx Γ (fun (w : Wd) => w) K 763 [] [] (k_763)) (hk_802 : Sx Γ (fun (w : Wd) => w) K 802 [] [] (k_802)) (hk_819 : Sx Γ (fun (w : Wd) => w) K 819 [] [] (k_819)) (hk_858 : Sx Γ (fun (w : Wd) => w) K 858 [] [] (k_858)) (hk_875 : Sx Γ (fun (w : Wd) => w) K 875 [] [] (k_875)) (hk_914 : Sx Γ (fun (w : Wd) => w) K 914 [] [] (k_914)) (hk_931 : Sx Γ (fun (w : Wd) => w) K 931 [] [] (k_931)) (hk_942 : Sx Γ (fun (w : Wd) => w) K 942 [] [] (k_942)) (l4 : Int) (hl4 : R32 l4) : Sx Γ (fun (w : Wd) => w) (KL Γ (fun (w : Wd) => w) okf_law_23 K 23 (lvf_law_23 Γ) []) 23 [(0, vA (mg Γ) (-250)), (1, vA (mg Γ) 1), (2, vA (mg Γ) 21), (3, vA (mg Γ) 99), (4, vI l4)] [] (f_law_23b scr sl k_146 k_163 k_199 k_215 k_239 k_256 k_295 k_312 k_339 k_356 k_395 k_412 k_463 k_480 k_531 k_555 k_606 k_623 k_690 k_707 k_746 k_763 k_802 k_819 k_858 k_875 k_914 k_931 k_942 l4) := by
  unfold f_law_23b
  refine s_iload o dL_law_23 4 rfl ?_
  refine s_aload_n o dL_law_25 rfl 0 rfl ?_
  refine s_sln o hS dL_law_26 ?_
  refine s_iconst o dL_law_27 ?_
  refine s_isub o dL_law_28 ?_
  refine s_icmp_gt (tgt := 942) o dL_law_29 (by decide) hl4 (w32_R _) ?_ ?_
  · refine r_to [] [] rfl ?_
    exact s_lo hk_942
  · refine s_aload_n o dL_law_32 rfl 0 rfl ?_
    refine s_iload o dL_law_33 4 rfl ?_
    refine s_sld o hS hl4 dL_law_35 (fun v1 hv1 => ?_)
    refine s_bipush o dL_law_36 rfl ?_
    refine s_iand o dL_law_38 ?_
    refine s_case (P := True) (fun e1 => ?_) (fun e1 => ?_)
    · refine s_tabE o e1 dL_law_39 (r32 rfl) rfl rfl (tgt := 112) (by decide) ?_
      refine s_aload_n o dL_law_112 rfl 1 rfl ?_
      refine s_aload_n o dL_law_113 rfl 0 rfl ?_
      refine s_iload o dL_law_114 4 rfl ?_
      refine s_iconst o dL_law_116 ?_
      refine s_iadd o dL_law_117 ?_
      refine s_sld o hS (w32_R _) dL_law_118 (fun v3 hv3 => ?_)
      refine s_aload_n o dL_law_119 rfl 3 rfl ?_
      refine s_C (P := fun v => ∀ ty, (Option.some Jvm.ClassFile.FieldType.int) = some ty → rg ty v) (st' := fun r => [vI r]) (fun ts m kk => s_csW (d := d + 613) (As := [vA (mg Γ) 1, vI v3, vA (mg Γ) 99]) (st := []) o (sc_X0_put (mg Γ) (d + 604) ts 1 v3 99 hv3) mww_X0_put rfl (lw_all_tbl q482) (lw_all_tbl q483) wt_0 rfl dL_law_120 rfl (rs := fun r => [vI r]) (fun _ => rfl) kk) (fun v4 hv4 => ?_)
      refine r_istore o dL_law_123 rfl ⟨(Nat.ne_of_beq_eq_false rfl), (fun _ => (vA_cat (mg Γ) (-250))), ⟨(Nat.ne_of_beq_eq_false rfl), (fun _ => (vA_cat (mg Γ) 1)), ⟨(Nat.ne_of_beq_eq_false rfl), (fun _ => (vA_cat (mg Γ) 21)), ⟨(Nat.ne_of_beq_eq_false rfl), (fun _ => (vA_cat (mg Γ) 99)), ⟨(Nat.ne_of_beq_eq_false rfl), (fun _ => rfl), trivial⟩⟩⟩⟩⟩ ?_
      refine s_aload_n o dL_law_125 rfl 3 rfl ?_
      refine s_aload_n o dL_law_126 rfl 1 rfl ?_
      refine s_iload o dL_law_127 5 rfl ?_
      refine s_iconst o dL_law_129 ?_
      refine s_iadd o dL_law_130 ?_
      refine s_sld o hS (w32_R _) dL_law_131 (fun v5 hv5 => ?_)
      refine s_T (P := fun v => ∀ ty, (Option.some Jvm.ClassFile.FieldType.int) = some ty → rg ty v) (st' := fun r => [vI r]) (fun h hT m kk => s_cv (d := d + 613) (C := "LazyForgeModel") (As := [vI v5]) (st := []) o (st_put (mg Γ) (d + 613) h hT v5 hv5) mw_X11_put rfl (Or.inl (lw_all_tbl q3352)) (lw_all_tbl q3354) (lw_all_tbl q3353) (fun t => rc_t o hT t) wt_0 rfl dL_law_132 rfl (rs := fun r => [vI r]) (fun _ => rfl) kk) (fun v6 hv6 => ?_)
      refine r_istore o dL_law_135 rfl ⟨(Nat.ne_of_beq_eq_false rfl), (fun _ => rfl), ⟨(Nat.ne_of_beq_eq_false rfl), (fun _ => (vA_cat (mg Γ) (-250))), ⟨(Nat.ne_of_beq_eq_false rfl), (fun _ => (vA_cat (mg Γ) 1)), ⟨(Nat.ne_of_beq_eq_false rfl), (fun _ => (vA_cat (mg Γ) 21)), ⟨(Nat.ne_of_beq_eq_false rfl), (fun _ => (vA_cat (mg Γ) 99)), ⟨(Nat.ne_of_beq_eq_false rfl), (fun _ => rfl), trivial⟩⟩⟩⟩⟩⟩ ?_
      refine s_aload_n o dL_law_137 rfl 4 rfl ?_
      refine s_T (P := fun v => ∀ ty, (Option.some Jvm.ClassFile.FieldType.int) = some ty → rg ty v) (st' := fun r => [vI r]) (fun h hT m kk => s_cv (d := d + 613) (C := "LazyForgeModel") (As := []) (st := []) o (st_thrown (mg Γ) (d + 613) h hT) mw_X11_thrown rfl (Or.inl (lw_all_tbl q2913)) (lw_all_tbl q2915) (lw_all_tbl q2914) (fun t => rc_t o hT t) wt_0 rfl dL_law_138 rfl (rs := fun r => [vI r]) (fun _ => rfl) kk) (fun v7 hv7 => ?_)
      refine s_iload o dL_law_141 1 rfl ?_
      refine s_icmp_eq (tgt := 148) o dL_law_143 (by decide) (hv7 _ rfl) (hv4 _ rfl) ?_ ?_
      · refine s_iload o dL_law_148 1 rfl ?_
        refine s_if_ne (tgt := 165) o dL_law_150 (by decide) (hv4 _ rfl) ?_ ?_
        · refine r_to [(0, vA (mg Γ) (-250)), (1, vA (mg Γ) 1), (2, vA (mg Γ) 21), (3, vA (mg Γ) 99), (4, vI l4)] [2, 3, 4, 5, 6] rfl ?_
          exact sf_law_165 hS o k_146 k_163 k_199 k_215 k_239 k_256 k_295 k_312 k_339 k_356 k_395 k_412 k_463 k_480 k_531 k_555 k_606 k_623 k_690 k_707 k_746 k_763 k_802 k_819 k_858 k_875 k_914 k_931 k_942 hk_146 hk_163 hk_199 hk_215 hk_239 hk_256 hk_295 hk_312 hk_339 hk_356 hk_395 hk_412 hk_463 hk_480 hk_531 hk_555 hk_606 hk_623 hk_690 hk_707 hk_746 hk_763 hk_802 hk_819 hk_858 hk_875 hk_914 hk_931 hk_942 l4 hl4
        · refine s_aload_n o dL_law_153 rfl 5 rfl ?_
          refine s_iconst o dL_law_154 ?_
          refine s_C (P := R64) (st' := fun v => [vJ v]) (fun ts m kk => r_lald o (r32 rfl) dL_law_155 kk) (fun v8 hv8 => ?_)
          refine s_iload o dL_law_156 0 rfl ?_
          refine s_i2l o dL_law_158 (hv6 _ rfl) ?_
          refine s_lcmp_eq (tgt := 165) o dL_law_159 dL_law_160 (by decide) hv8 (rL (hv6 _ rfl)) ?_ ?_
          · refine r_to [(0, vA (mg Γ) (-250)), (1, vA (mg Γ) 1), (2, vA (mg Γ) 21), (3, vA (mg Γ) 99), (4, vI l4)] [2, 3, 4, 5, 6] rfl ?_
            exact sf_law_165 hS o k_146 k_163 k_199 k_215 k_239 k_256 k_295 k_312 k_339 k_356 k_395 k_412 k_463 k_480 k_531 k_555 k_606 k_623 k_690 k_707 k_746 k_763 k_802 k_819 k_858 k_875 k_914 k_931 k_942 hk_146 hk_163 hk_199 hk_215 hk_239 hk_256 hk_295 hk_312 hk_339 hk_356 hk_395 hk_412 hk_463 hk_480 hk_531 hk_555 hk_606 hk_623 hk_690 hk_707 hk_746 hk_763 hk_802 hk_819 hk_858 hk_875 hk_914 hk_931 hk_942 l4 hl4
          · refine r_to [] [] rfl ?_
            exact s_lo hk_163
      · refine r_to [] [] rfl ?_
        exact s_lo hk_146
    · refine s_case (P := True) (fun e8 => ?_) (fun e8 => ?_)
      · refine s_tabE o e8 dL_law_39 (r32 rfl) rfl rfl (tgt := 168) (by decide) ?_
        refine s_aload_n o dL_law_168 rfl 1 rfl ?_
        refine s_aload_n o dL_law_169 rfl 0 rfl ?_
        refine s_iload o dL_law_170 4 rfl ?_
        refine s_iconst o dL_law_172 ?_
        refine s_iadd o dL_law_173 ?_
        refine s_sld o hS (w32_R _) dL_law_174 (fun v10 hv10 => ?_)
        refine s_C (P := fun v => ∀ ty, (Option.some Jvm.ClassFile.FieldType.int) = some ty → rg ty v) (st' := fun r => [vI r]) (fun ts m kk => s_csW (d := d + 613) (As := [vA (mg Γ) 1, vI v10]) (st := []) o (sc_X0_end (mg Γ) (d + 604) ts 1 v10 hv10) mww_X0_end rfl (lw_all_tbl q572) (lw_all_tbl q573) wt_0 rfl dL_law_175 rfl (rs := fun r => [vI r]) (fun _ => rfl) kk) (fun v11 hv11 => ?_)
        refine r_istore o dL_law_178 rfl ⟨(Nat.ne_of_beq_eq_false rfl), (fun _ => (vA_cat (mg Γ) (-250))), ⟨(Nat.ne_of_beq_eq_false rfl), (fun _ => (vA_cat (mg Γ) 1)), ⟨(Nat.ne_of_beq_eq_false rfl), (fun _ => (vA_cat (mg Γ) 21)), ⟨(Nat.ne_of_beq_eq_false rfl), (fun _ => (vA_cat (mg Γ) 99)), ⟨(Nat.ne_of_beq_eq_false rfl), (fun _ => rfl), trivial⟩⟩⟩⟩⟩ ?_
        refine s_aload_n o dL_law_180 rfl 3 rfl ?_
        refine s_aload_n o dL_law_181 rfl 1 rfl ?_
        refine s_iload o dL_law_182 5 rfl ?_
        refine s_iconst o dL_law_184 ?_
        refine s_iadd o dL_law_185 ?_
        refine s_sld o hS (w32_R _) dL_law_186 (fun v12 hv12 => ?_)
        refine s_T (P := fun v => ∀ ty, (Option.none : Option Jvm.ClassFile.FieldType) = some ty → rg ty v) (st' := fun _ => []) (fun h hT m kk => s_cv (d := d + 613) (C := "LazyForgeModel") (As := [vI v12]) (st := []) o (st_end (mg Γ) (d + 613) h hT v12 hv12) mw_X11_end rfl (Or.inl (lw_all_tbl q3356)) (lw_all_tbl q3358) (lw_all_tbl q3357) (fun t => rc_t o hT t) wt_0 rfl dL_law_187 rfl (rs := fun _ => []) (fun _ => rfl) kk) (fun _ hv13 => ?_)
        refine s_aload_n o dL_law_190 rfl 3 rfl ?_
        refine s_T (P := fun v => ∀ ty, (Option.some Jvm.ClassFile.FieldType.int) = some ty → rg ty v) (st' := fun r => [vI r]) (fun h hT m kk => s_cv (d := d + 613) (C := "LazyForgeModel") (As := []) (st := []) o (st_thrown (mg Γ) (d + 613) h hT) mw_X11_thrown rfl (Or.inl (lw_all_tbl q2913)) (lw_all_tbl q2915) (lw_all_tbl q2914) (fun t => rc_t o hT t) wt_0 rfl dL_law_191 rfl (rs := fun r => [vI r]) (fun _ => rfl) kk) (fun v14 hv14 => ?_)
        refine s_iload o dL_law_194 0 rfl ?_
        refine s_icmp_eq (tgt := 201) o dL_law_196 (by decide) (hv14 _ rfl) (hv11 _ rfl) ?_ ?_
        · refine s_goto (tgt := 936) o dL_law_201 (by decide) ?_
          refine r_to [(0, vA (mg Γ) (-250)), (1, vA (mg Γ) 1), (2, vA (mg Γ) 21), (3, vA (mg Γ) 99), (4, vI l4)] [1, 2, 3, 4, 5] rfl ?_
          exact sf_law_936 hS o k_146 k_163 k_199 k_215 k_239 k_256 k_295 k_312 k_339 k_356 k_395 k_412 k_463 k_480 k_531 k_555 k_606 k_623 k_690 k_707 k_746 k_763 k_802 k_819 k_858 k_875 k_914 k_931 k_942 hk_146 hk_163 hk_199 hk_215 hk_239 hk_256 hk_295 hk_312 hk_339 hk_356 hk_395 hk_412 hk_463 hk_480 hk_531 hk_555 hk_606 hk_623 hk_690 hk_707 hk_746 hk_763 hk_802 hk_819 hk_858 hk_875 hk_914 hk_931 hk_942 l4 hl4
        · refine r_to [] [] rfl ?_
          exact s_lo hk_199
      · refine s_case (P := True) (fun e14 => ?_) (fun e14 => ?_)
        · refine s_tabE o e14 dL_law_39 (r32 rfl) rfl rfl (tgt := 204) (by decide) ?_
          refine s_aload_n o dL_law_204 rfl 1 rfl ?_
          refine s_C (P := fun v => ∀ ty, (Option.some Jvm.ClassFile.FieldType.int) = some ty → rg ty v) (st' := fun r => [vI r]) (fun ts m kk => by
    rw [bnd_assoc]
    exact s_cvC (d := d + 613) (As := []) (st := []) (c := 1) o (sc_X1_take (mg Γ) (d + 612) ts 1) mw_X1_take rfl (Or.inl (lw_all_tbl q475)) rfl (lw_all_tbl q477) (lw_all_tbl q476) wt_0 rfl dL_law_205 rfl (rs := fun r => [vI r]) (fun _ => rfl) kk) (fun v16 hv16 => ?_)
          refine s_aload_n o dL_law_208 rfl 2 rfl ?_
          refine s_T (P := fun v => ∀ ty, (Option.some Jvm.ClassFile.FieldType.int) = some ty → rg ty v) (st' := fun r => [vI r, vI v16]) (fun h hT m kk => s_cv (d := d + 613) (C := "LazyForgeModel") (As := []) (st := [vI v16]) o (st_take (mg Γ) (d + 613) h hT) mw_X11_take rfl (Or.inl (lw_all_tbl q3360)) (lw_all_tbl q3362) (lw_all_tbl q3361) (fun t => rc_t o hT t) (wt_I wt_0) rfl dL_law_209 rfl (rs := fun r => [vI r, vI v16]) (fun _ => rfl) kk) (fun v17 hv17 => ?_)
          refine s_icmp_eq (tgt := 936) o dL_law_212 (by decide) (hv16 _ rfl) (hv17 _ rfl) ?_ ?_
          · exact sf_law_936 hS o k_146 k_163 k_199 k_215 k_239 k_256 k_295 k_312 k_339 k_356 k_395 k_412 k_463 k_480 k_531 k_555 k_606 k_623 k_690 k_707 k_746 k_763 k_802 k_819 k_858 k_875 k_914 k_931 k_942 hk_146 hk_163 hk_199 hk_215 hk_239 hk_256 hk_295 hk_312 hk_339 hk_356 hk_395 hk_412 hk_463 hk_480 hk_531 hk_555 hk_606 hk_623 hk_690 hk_707 hk_746 hk_763 hk_802 hk_819 hk_858 hk_875 hk_914 hk_931 hk_942 l4 hl4
          · refine r_to [] [] rfl ?_
            exact s_lo hk_215
        · refine s_case (P := True) (fun e17 => ?_) (fun e17 => ?_)
          · refine s_tabE o e17 dL_law_39 (r32 rfl) rfl rfl (tgt := 217) (by decide) ?_
            refine s_aload_n o dL_law_217 rfl 1 rfl ?_
            refine s_aload_n o dL_law_218 rfl 3 rfl ?_
            refine s_C (P := fun v => ∀ ty, (Option.some Jvm.ClassFile.FieldType.int) = some ty → rg ty v) (st' := fun r => [vI r]) (fun ts m kk => s_csW (d := d + 613) (As := [vA (mg Γ) 1, vA (mg Γ) 99]) (st := []) o (sc_X0_program (mg Γ) (d + 1) ts 1 99) mww_X0_program rfl (lw_all_tbl q579) (lw_all_tbl q580) wt_0 rfl dL_law_219 rfl (rs := fun r => [vI r]) (fun _ => rfl) kk) (fun v19 hv19 => ?_)
            refine r_istore o dL_law_222 rfl ⟨(Nat.ne_of_beq_eq_false rfl), (fun _ => (vA_cat (mg Γ) (-250))), ⟨(Nat.ne_of_beq_eq_false rfl), (fun _ => (vA_cat (mg Γ) 1)), ⟨(Nat.ne_of_beq_eq_false rfl), (fun _ => (vA_cat (mg Γ) 21)), ⟨(Nat.ne_of_beq_eq_false rfl), (fun _ => (vA_cat (mg Γ) 99)), ⟨(Nat.ne_of_beq_eq_false rfl), (fun _ => rfl), trivial⟩⟩⟩⟩⟩ ?_
            refine s_aload_n o dL_law_224 rfl 3 rfl ?_
            refine s_T (P := fun v => ∀ ty, (Option.some Jvm.ClassFile.FieldType.int) = some ty → rg ty v) (st' := fun r => [vI r]) (fun h hT m kk => s_cv (d := d + 613) (C := "LazyForgeModel") (As := []) (st := []) o (st_program (mg Γ) (d + 601) h hT) mw_X11_program rfl (Or.inl (lw_all_tbl q2917)) (lw_all_tbl q2919) (lw_all_tbl q2918) (fun t => rc_t o hT t) wt_0 rfl dL_law_225 rfl (rs := fun r => [vI r]) (fun _ => rfl) kk) (fun v20 hv20 => ?_)
            refine r_istore o dL_law_228 rfl ⟨(Nat.ne_of_beq_eq_false rfl), (fun _ => rfl), ⟨(Nat.ne_of_beq_eq_false rfl), (fun _ => (vA_cat (mg Γ) (-250))), ⟨(Nat.ne_of_beq_eq_false rfl), (fun _ => (vA_cat (mg Γ) 1)), ⟨(Nat.ne_of_beq_eq_false rfl), (fun _ => (vA_cat (mg Γ) 21)), ⟨(Nat.ne_of_beq_eq_false rfl), (fun _ => (vA_cat (mg Γ) 99)), ⟨(Nat.ne_of_beq_eq_false rfl), (fun _ => rfl), trivial⟩⟩⟩⟩⟩⟩ ?_
            refine s_aload_n o dL_law_230 rfl 4 rfl ?_
            refine s_T (P := fun v => ∀ ty, (Option.some Jvm.ClassFile.FieldType.int) = some ty → rg ty v) (st' := fun r => [vI r]) (fun h hT m kk => s_cv (d := d + 613) (C := "LazyForgeModel") (As := []) (st := []) o (st_thrown (mg Γ) (d + 613) h hT) mw_X11_thrown rfl (Or.inl (lw_all_tbl q2913)) (lw_all_tbl q2915) (lw_all_tbl q2914) (fun t => rc_t o hT t) wt_0 rfl dL_law_231 rfl (rs := fun r => [vI r]) (fun _ => rfl) kk) (fun v21 hv21 => ?_)
            refine s_iload o dL_law_234 1 rfl ?_
            refine s_icmp_eq (tgt := 241) o dL_law_236 (by decide) (hv21 _ rfl) (hv19 _ rfl) ?_ ?_
            · refine s_iload o dL_law_241 1 rfl ?_
              refine s_if_ne (tgt := 258) o dL_law_243 (by decide) (hv19 _ rfl) ?_ ?_
              · refine r_to [(0, vA (mg Γ) (-250)), (1, vA (mg Γ) 1), (2, vA (mg Γ) 21), (3, vA (mg Γ) 99), (4, vI l4)] [2, 3, 4, 5, 6] rfl ?_
                exact sf_law_258 hS o k_146 k_163 k_199 k_215 k_239 k_256 k_295 k_312 k_339 k_356 k_395 k_412 k_463 k_480 k_531 k_555 k_606 k_623 k_690 k_707 k_746 k_763 k_802 k_819 k_858 k_875 k_914 k_931 k_942 hk_146 hk_163 hk_199 hk_215 hk_239 hk_256 hk_295 hk_312 hk_339 hk_356 hk_395 hk_412 hk_463 hk_480 hk_531 hk_555 hk_606 hk_623 hk_690 hk_707 hk_746 hk_763 hk_802 hk_819 hk_858 hk_875 hk_914 hk_931 hk_942 l4 hl4
              · refine s_aload_n o dL_law_246 rfl 5 rfl ?_
                refine s_iconst o dL_law_247 ?_
                refine s_C (P := R64) (st' := fun v => [vJ v]) (fun ts m kk => r_lald o (r32 rfl) dL_law_248 kk) (fun v22 hv22 => ?_)
                refine s_iload o dL_law_249 0 rfl ?_
                refine s_i2l o dL_law_251 (hv20 _ rfl) ?_
                refine s_lcmp_eq (tgt := 258) o dL_law_252 dL_law_253 (by decide) hv22 (rL (hv20 _ rfl)) ?_ ?_
                · refine r_to [(0, vA (mg Γ) (-250)), (1, vA (mg Γ) 1), (2, vA (mg Γ) 21), (3, vA (mg Γ) 99), (4, vI l4)] [2, 3, 4, 5, 6] rfl ?_
                  exact sf_law_258 hS o k_146 k_163 k_199 k_215 k_239 k_256 k_295 k_312 k_339 k_356 k_395 k_412 k_463 k_480 k_531 k_555 k_606 k_623 k_690 k_707 k_746 k_763 k_802 k_819 k_858 k_875 k_914 k_931 k_942 hk_146 hk_163 hk_199 hk_215 hk_239 hk_256 hk_295 hk_312 hk_339 hk_356 hk_395 hk_412 hk_463 hk_480 hk_531 hk_555 hk_606 hk_623 hk_690 hk_707 hk_746 hk_763 hk_802 hk_819 hk_858 hk_875 hk_914 hk_931 hk_942 l4 hl4
                · refine r_to [] [] rfl ?_
                  exact s_lo hk_256
            · refine r_to [] [] rfl ?_
              exact s_lo hk_239
          · refine s_case (P := True) (fun e22 => ?_) (fun e22 => ?_)
            · refine s_tabE o e22 dL_law_39 (r32 rfl) rfl rfl (tgt := 261) (by decide) ?_
              refine s_aload_n o dL_law_261 rfl 1 rfl ?_
              refine s_aload_n o dL_law_262 rfl 0 rfl ?_
              refine s_iload o dL_law_263 4 rfl ?_
              refine s_iconst o dL_law_265 ?_
              refine s_iadd o dL_law_266 ?_
              refine s_sld o hS (w32_R _) dL_law_267 (fun v24 hv24 => ?_)
              refine s_aload_n o dL_law_268 rfl 3 rfl ?_
              refine s_C (P := fun v => ∀ ty, (Option.some Jvm.ClassFile.FieldType.int) = some ty → rg ty v) (st' := fun r => [vI r]) (fun ts m kk => s_csW (d := d + 613) (As := [vA (mg Γ) 1, vI v24, vA (mg Γ) 99]) (st := []) o (sc_X0_fault (mg Γ) (d + 604) ts 1 v24 99 hv24) mww_X0_fault rfl (lw_all_tbl q1894) (lw_all_tbl q1895) wt_0 rfl dL_law_269 rfl (rs := fun r => [vI r]) (fun _ => rfl) kk) (fun v25 hv25 => ?_)
              refine r_istore o dL_law_272 rfl ⟨(Nat.ne_of_beq_eq_false rfl), (fun _ => (vA_cat (mg Γ) (-250))), ⟨(Nat.ne_of_beq_eq_false rfl), (fun _ => (vA_cat (mg Γ) 1)), ⟨(Nat.ne_of_beq_eq_false rfl), (fun _ => (vA_cat (mg Γ) 21)), ⟨(Nat.ne_of_beq_eq_false rfl), (fun _ => (vA_cat (mg Γ) 99)), ⟨(Nat.ne_of_beq_eq_false rfl), (fun _ => rfl), trivial⟩⟩⟩⟩⟩ ?_
              refine s_aload_n o dL_law_274 rfl 3 rfl ?_
              refine s_aload_n o dL_law_275 rfl 1 rfl ?_
              refine s_iload o dL_law_276 5 rfl ?_
              refine s_iconst o dL_law_278 ?_
              refine s_iadd o dL_law_279 ?_
              refine s_sld o hS (w32_R _) dL_law_280 (fun v26 hv26 => ?_)
              refine s_T (P := fun v => ∀ ty, (Option.some Jvm.ClassFile.FieldType.int) = some ty → rg ty v) (st' := fun r => [vI r]) (fun h hT m kk => s_cv (d := d + 613) (C := "LazyForgeModel") (As := [vI v26]) (st := []) o (st_fault (mg Γ) (d + 613) h hT v26 hv26) mw_X11_fault rfl (Or.inl (lw_all_tbl q3364)) (lw_all_tbl q3366) (lw_all_tbl q3365) (fun t => rc_t o hT t) wt_0 rfl dL_law_281 rfl (rs := fun r => [vI r]) (fun _ => rfl) kk) (fun v27 hv27 => ?_)
              refine r_istore o dL_law_284 rfl ⟨(Nat.ne_of_beq_eq_false rfl), (fun _ => rfl), ⟨(Nat.ne_of_beq_eq_false rfl), (fun _ => (vA_cat (mg Γ) (-250))), ⟨(Nat.ne_of_beq_eq_false rfl), (fun _ => (vA_cat (mg Γ) 1)), ⟨(Nat.ne_of_beq_eq_false rfl), (fun _ => (vA_cat (mg Γ) 21)), ⟨(Nat.ne_of_beq_eq_false rfl), (fun _ => (vA_cat (mg Γ) 99)), ⟨(Nat.ne_of_beq_eq_false rfl), (fun _ => rfl), trivial⟩⟩⟩⟩⟩⟩ ?_
              refine s_aload_n o dL_law_286 rfl 4 rfl ?_
              refine s_T (P := fun v => ∀ ty, (Option.some Jvm.ClassFile.FieldType.int) = some ty → rg ty v) (st' := fun r => [vI r]) (fun h hT m kk => s_cv (d := d + 613) (C := "LazyForgeModel") (As := []) (st := []) o (st_thrown (mg Γ) (d + 613) h hT) mw_X11_thrown rfl (Or.inl (lw_all_tbl q2913)) (lw_all_tbl q2915) (lw_all_tbl q2914) (fun t => rc_t o hT t) wt_0 rfl dL_law_287 rfl (rs := fun r => [vI r]) (fun _ => rfl) kk) (fun v28 hv28 => ?_)
              refine s_iload o dL_law_290 1 rfl ?_
              refine s_icmp_eq (tgt := 297) o dL_law_292 (by decide) (hv28 _ rfl) (hv25 _ rfl) ?_ ?_
              · refine s_iload o dL_law_297 1 rfl ?_
                refine s_if_ne (tgt := 314) o dL_law_299 (by decide) (hv25 _ rfl) ?_ ?_
                · refine r_to [(0, vA (mg Γ) (-250)), (1, vA (mg Γ) 1), (2, vA (mg Γ) 21), (3, vA (mg Γ) 99), (4, vI l4)] [2, 3, 4, 5, 6] rfl ?_
                  exact sf_law_314 hS o k_146 k_163 k_199 k_215 k_239 k_256 k_295 k_312 k_339 k_356 k_395 k_412 k_463 k_480 k_531 k_555 k_606 k_623 k_690 k_707 k_746 k_763 k_802 k_819 k_858 k_875 k_914 k_931 k_942 hk_146 hk_163 hk_199 hk_215 hk_239 hk_256 hk_295 hk_312 hk_339 hk_356 hk_395 hk_412 hk_463 hk_480 hk_531 hk_555 hk_606 hk_623 hk_690 hk_707 hk_746 hk_763 hk_802 hk_819 hk_858 hk_875 hk_914 hk_931 hk_942 l4 hl4
                · refine s_aload_n o dL_law_302 rfl 5 rfl ?_
                  refine s_iconst o dL_law_303 ?_
                  refine s_C (P := R64) (st' := fun v => [vJ v]) (fun ts m kk => r_lald o (r32 rfl) dL_law_304 kk) (fun v29 hv29 => ?_)
                  refine s_iload o dL_law_305 0 rfl ?_
                  refine s_i2l o dL_law_307 (hv27 _ rfl) ?_
                  refine s_lcmp_eq (tgt := 314) o dL_law_308 dL_law_309 (by decide) hv29 (rL (hv27 _ rfl)) ?_ ?_
                  · refine r_to [(0, vA (mg Γ) (-250)), (1, vA (mg Γ) 1), (2, vA (mg Γ) 21), (3, vA (mg Γ) 99), (4, vI l4)] [2, 3, 4, 5, 6] rfl ?_
                    exact sf_law_314 hS o k_146 k_163 k_199 k_215 k_239 k_256 k_295 k_312 k_339 k_356 k_395 k_412 k_463 k_480 k_531 k_555 k_606 k_623 k_690 k_707 k_746 k_763 k_802 k_819 k_858 k_875 k_914 k_931 k_942 hk_146 hk_163 hk_199 hk_215 hk_239 hk_256 hk_295 hk_312 hk_339 hk_356 hk_395 hk_412 hk_463 hk_480 hk_531 hk_555 hk_606 hk_623 hk_690 hk_707 hk_746 hk_763 hk_802 hk_819 hk_858 hk_875 hk_914 hk_931 hk_942 l4 hl4
                  · refine r_to [] [] rfl ?_
                    exact s_lo hk_312
              · refine r_to [] [] rfl ?_
                exact s_lo hk_295
            · refine s_case (P := True) (fun e29 => ?_) (fun e29 => ?_)
              · refine s_tabE o e29 dL_law_39 (r32 rfl) rfl rfl (tgt := 317) (by decide) ?_
                refine s_aload_n o dL_law_317 rfl 1 rfl ?_
                refine s_aload_n o dL_law_318 rfl 3 rfl ?_
                refine s_C (P := fun v => ∀ ty, (Option.some Jvm.ClassFile.FieldType.int) = some ty → rg ty v) (st' := fun r => [vI r]) (fun ts m kk => s_csW (d := d + 613) (As := [vA (mg Γ) 1, vA (mg Γ) 99]) (st := []) o (sc_X0_write (mg Γ) (d + 404) ts 1 99) mww_X0_write rfl (lw_all_tbl q1901) (lw_all_tbl q1902) wt_0 rfl dL_law_319 rfl (rs := fun r => [vI r]) (fun _ => rfl) kk) (fun v31 hv31 => ?_)
                refine r_istore o dL_law_322 rfl ⟨(Nat.ne_of_beq_eq_false rfl), (fun _ => (vA_cat (mg Γ) (-250))), ⟨(Nat.ne_of_beq_eq_false rfl), (fun _ => (vA_cat (mg Γ) 1)), ⟨(Nat.ne_of_beq_eq_false rfl), (fun _ => (vA_cat (mg Γ) 21)), ⟨(Nat.ne_of_beq_eq_false rfl), (fun _ => (vA_cat (mg Γ) 99)), ⟨(Nat.ne_of_beq_eq_false rfl), (fun _ => rfl), trivial⟩⟩⟩⟩⟩ ?_
                refine s_aload_n o dL_law_324 rfl 3 rfl ?_
                refine s_T (P := fun v => ∀ ty, (Option.some Jvm.ClassFile.FieldType.int) = some ty → rg ty v) (st' := fun r => [vI r]) (fun h hT m kk => s_cv (d := d + 613) (C := "LazyForgeModel") (As := []) (st := []) o (st_write (mg Γ) (d + 607) h hT) mw_X11_write rfl (Or.inl (lw_all_tbl q3368)) (lw_all_tbl q3370) (lw_all_tbl q3369) (fun t => rc_t o hT t) wt_0 rfl dL_law_325 rfl (rs := fun r => [vI r]) (fun _ => rfl) kk) (fun v32 hv32 => ?_)
                refine r_istore o dL_law_328 rfl ⟨(Nat.ne_of_beq_eq_false rfl), (fun _ => rfl), ⟨(Nat.ne_of_beq_eq_false rfl), (fun _ => (vA_cat (mg Γ) (-250))), ⟨(Nat.ne_of_beq_eq_false rfl), (fun _ => (vA_cat (mg Γ) 1)), ⟨(Nat.ne_of_beq_eq_false rfl), (fun _ => (vA_cat (mg Γ) 21)), ⟨(Nat.ne_of_beq_eq_false rfl), (fun _ => (vA_cat (mg Γ) 99)), ⟨(Nat.ne_of_beq_eq_false rfl), (fun _ => rfl), trivial⟩⟩⟩⟩⟩⟩ ?_
                refine s_aload_n o dL_law_330 rfl 4 rfl ?_
                refine s_T (P := fun v => ∀ ty, (Option.some Jvm.ClassFile.FieldType.int) = some ty → rg ty v) (st' := fun r => [vI r]) (fun h hT m kk => s_cv (d := d + 613) (C := "LazyForgeModel") (As := []) (st := []) o (st_thrown (mg Γ) (d + 613) h hT) mw_X11_thrown rfl (Or.inl (lw_all_tbl q2913)) (lw_all_tbl q2915) (lw_all_tbl q2914) (fun t => rc_t o hT t) wt_0 rfl dL_law_331 rfl (rs := fun r => [vI r]) (fun _ => rfl) kk) (fun v33 hv33 => ?_)
                refine s_iload o dL_law_334 1 rfl ?_
                refine s_icmp_eq (tgt := 341) o dL_law_336 (by decide) (hv33 _ rfl) (hv31 _ rfl) ?_ ?_
                · refine s_iload o dL_law_341 1 rfl ?_
                  refine s_if_ne (tgt := 358) o dL_law_343 (by decide) (hv31 _ rfl) ?_ ?_
                  · refine r_to [(0, vA (mg Γ) (-250)), (1, vA (mg Γ) 1), (2, vA (mg Γ) 21), (3, vA (mg Γ) 99), (4, vI l4)] [2, 3, 4, 5, 6] rfl ?_
                    exact sf_law_358 hS o k_146 k_163 k_199 k_215 k_239 k_256 k_295 k_312 k_339 k_356 k_395 k_412 k_463 k_480 k_531 k_555 k_606 k_623 k_690 k_707 k_746 k_763 k_802 k_819 k_858 k_875 k_914 k_931 k_942 hk_146 hk_163 hk_199 hk_215 hk_239 hk_256 hk_295 hk_312 hk_339 hk_356 hk_395 hk_412 hk_463 hk_480 hk_531 hk_555 hk_606 hk_623 hk_690 hk_707 hk_746 hk_763 hk_802 hk_819 hk_858 hk_875 hk_914 hk_931 hk_942 l4 hl4
                  · refine s_aload_n o dL_law_346 rfl 5 rfl ?_
                    refine s_iconst o dL_law_347 ?_
                    refine s_C (P := R64) (st' := fun v => [vJ v]) (fun ts m kk => r_lald o (r32 rfl) dL_law_348 kk) (fun v34 hv34 => ?_)
                    refine s_iload o dL_law_349 0 rfl ?_
                    refine s_i2l o dL_law_351 (hv32 _ rfl) ?_
                    refine s_lcmp_eq (tgt := 358) o dL_law_352 dL_law_353 (by decide) hv34 (rL (hv32 _ rfl)) ?_ ?_
                    · refine r_to [(0, vA (mg Γ) (-250)), (1, vA (mg Γ) 1), (2, vA (mg Γ) 21), (3, vA (mg Γ) 99), (4, vI l4)] [2, 3, 4, 5, 6] rfl ?_
                      exact sf_law_358 hS o k_146 k_163 k_199 k_215 k_239 k_256 k_295 k_312 k_339 k_356 k_395 k_412 k_463 k_480 k_531 k_555 k_606 k_623 k_690 k_707 k_746 k_763 k_802 k_819 k_858 k_875 k_914 k_931 k_942 hk_146 hk_163 hk_199 hk_215 hk_239 hk_256 hk_295 hk_312 hk_339 hk_356 hk_395 hk_412 hk_463 hk_480 hk_531 hk_555 hk_606 hk_623 hk_690 hk_707 hk_746 hk_763 hk_802 hk_819 hk_858 hk_875 hk_914 hk_931 hk_942 l4 hl4
                    · refine r_to [] [] rfl ?_
                      exact s_lo hk_356
                · refine r_to [] [] rfl ?_
                  exact s_lo hk_339
              · refine s_case (P := True) (fun e34 => ?_) (fun e34 => ?_)
                · refine s_tabE o e34 dL_law_39 (r32 rfl) rfl rfl (tgt := 361) (by decide) ?_
                  refine s_aload_n o dL_law_361 rfl 1 rfl ?_
                  refine s_aload_n o dL_law_362 rfl 0 rfl ?_
                  refine s_iload o dL_law_363 4 rfl ?_
                  refine s_iconst o dL_law_365 ?_
                  refine s_iadd o dL_law_366 ?_
                  refine s_sld o hS (w32_R _) dL_law_367 (fun v36 hv36 => ?_)
                  refine s_aload_n o dL_law_368 rfl 3 rfl ?_
                  refine s_C (P := fun v => ∀ ty, (Option.some Jvm.ClassFile.FieldType.int) = some ty → rg ty v) (st' := fun r => [vI r]) (fun ts m kk => s_csW (d := d + 613) (As := [vA (mg Γ) 1, vI v36, vA (mg Γ) 99]) (st := []) o (sc_X0_letter (mg Γ) (d + 604) ts 1 v36 99 hv36) mww_X0_letter rfl (lw_all_tbl q2058) (lw_all_tbl q2059) wt_0 rfl dL_law_369 rfl (rs := fun r => [vI r]) (fun _ => rfl) kk) (fun v37 hv37 => ?_)
                  refine r_istore o dL_law_372 rfl ⟨(Nat.ne_of_beq_eq_false rfl), (fun _ => (vA_cat (mg Γ) (-250))), ⟨(Nat.ne_of_beq_eq_false rfl), (fun _ => (vA_cat (mg Γ) 1)), ⟨(Nat.ne_of_beq_eq_false rfl), (fun _ => (vA_cat (mg Γ) 21)), ⟨(Nat.ne_of_beq_eq_false rfl), (fun _ => (vA_cat (mg Γ) 99)), ⟨(Nat.ne_of_beq_eq_false rfl), (fun _ => rfl), trivial⟩⟩⟩⟩⟩ ?_
                  refine s_aload_n o dL_law_374 rfl 3 rfl ?_
                  refine s_aload_n o dL_law_375 rfl 1 rfl ?_
                  refine s_iload o dL_law_376 5 rfl ?_
                  refine s_iconst o dL_law_378 ?_
                  refine s_iadd o dL_law_379 ?_
                  refine s_sld o hS (w32_R _) dL_law_380 (fun v38 hv38 => ?_)
                  refine s_T (P := fun v => ∀ ty, (Option.some Jvm.ClassFile.FieldType.int) = some ty → rg ty v) (st' := fun r => [vI r]) (fun h hT m kk => s_cv (d := d + 613) (C := "LazyForgeModel") (As := [vI v38]) (st := []) o (st_letter (mg Γ) (d + 613) h hT v38 hv38) mw_X11_letter rfl (Or.inl (lw_all_tbl q3412)) (lw_all_tbl q3414) (lw_all_tbl q3413) (fun t => rc_t o hT t) wt_0 rfl dL_law_381 rfl (rs := fun r => [vI r]) (fun _ => rfl) kk) (fun v39 hv39 => ?_)
                  refine r_istore o dL_law_384 rfl ⟨(Nat.ne_of_beq_eq_false rfl), (fun _ => rfl), ⟨(Nat.ne_of_beq_eq_false rfl), (fun _ => (vA_cat (mg Γ) (-250))), ⟨(Nat.ne_of_beq_eq_false rfl), (fun _ => (vA_cat (mg Γ) 1)), ⟨(Nat.ne_of_beq_eq_false rfl), (fun _ => (vA_cat (mg Γ) 21)), ⟨(Nat.ne_of_beq_eq_false rfl), (fun _ => (vA_cat (mg Γ) 99)), ⟨(Nat.ne_of_beq_eq_false rfl), (fun _ => rfl), trivial⟩⟩⟩⟩⟩⟩ ?_
                  refine s_aload_n o dL_law_386 rfl 4 rfl ?_
                  refine s_T (P := fun v => ∀ ty, (Option.some Jvm.ClassFile.FieldType.int) = some ty → rg ty v) (st' := fun r => [vI r]) (fun h hT m kk => s_cv (d := d + 613) (C := "LazyForgeModel") (As := []) (st := []) o (st_thrown (mg Γ) (d + 613) h hT) mw_X11_thrown rfl (Or.inl (lw_all_tbl q2913)) (lw_all_tbl q2915) (lw_all_tbl q2914) (fun t => rc_t o hT t) wt_0 rfl dL_law_387 rfl (rs := fun r => [vI r]) (fun _ => rfl) kk) (fun v40 hv40 => ?_)
                  refine s_iload o dL_law_390 1 rfl ?_
                  refine s_icmp_eq (tgt := 397) o dL_law_392 (by decide) (hv40 _ rfl) (hv37 _ rfl) ?_ ?_
                  · refine s_iload o dL_law_397 1 rfl ?_
                    refine s_if_ne (tgt := 414) o dL_law_399 (by decide) (hv37 _ rfl) ?_ ?_
                    · refine r_to [(0, vA (mg Γ) (-250)), (1, vA (mg Γ) 1), (2, vA (mg Γ) 21), (3, vA (mg Γ) 99), (4, vI l4)] [2, 3, 4, 5, 6] rfl ?_
                      exact sf_law_414 hS o k_146 k_163 k_199 k_215 k_239 k_256 k_295 k_312 k_339 k_356 k_395 k_412 k_463 k_480 k_531 k_555 k_606 k_623 k_690 k_707 k_746 k_763 k_802 k_819 k_858 k_875 k_914 k_931 k_942 hk_146 hk_163 hk_199 hk_215 hk_239 hk_256 hk_295 hk_312 hk_339 hk_356 hk_395 hk_412 hk_463 hk_480 hk_531 hk_555 hk_606 hk_623 hk_690 hk_707 hk_746 hk_763 hk_802 hk_819 hk_858 hk_875 hk_914 hk_931 hk_942 l4 hl4
                    · refine s_aload_n o dL_law_402 rfl 5 rfl ?_
                      refine s_iconst o dL_law_403 ?_
                      refine s_C (P := R64) (st' := fun v => [vJ v]) (fun ts m kk => r_lald o (r32 rfl) dL_law_404 kk) (fun v41 hv41 => ?_)
                      refine s_iload o dL_law_405 0 rfl ?_
                      refine s_i2l o dL_law_407 (hv39 _ rfl) ?_
                      refine s_lcmp_eq (tgt := 414) o dL_law_408 dL_law_409 (by decide) hv41 (rL (hv39 _ rfl)) ?_ ?_
                      · refine r_to [(0, vA (mg Γ) (-250)), (1, vA (mg Γ) 1), (2, vA (mg Γ) 21), (3, vA (mg Γ) 99), (4, vI l4)] [2, 3, 4, 5, 6] rfl ?_
                        exact sf_law_414 hS o k_146 k_163 k_199 k_215 k_239 k_256 k_295 k_312 k_339 k_356 k_395 k_412 k_463 k_480 k_531 k_555 k_606 k_623 k_690 k_707 k_746 k_763 k_802 k_819 k_858 k_875 k_914 k_931 k_942 hk_146 hk_163 hk_199 hk_215 hk_239 hk_256 hk_295 hk_312 hk_339 hk_356 hk_395 hk_412 hk_463 hk_480 hk_531 hk_555 hk_606 hk_623 hk_690 hk_707 hk_746 hk_763 hk_802 hk_819 hk_858 hk_875 hk_914 hk_931 hk_942 l4 hl4
                      · refine r_to [] [] rfl ?_
                        exact s_lo hk_412
                  · refine r_to [] [] rfl ?_
                    exact s_lo hk_395
                · refine s_case (P := True) (fun e41 => ?_) (fun e41 => ?_)
                  · refine s_tabE o e41 dL_law_39 (r32 rfl) rfl rfl (tgt := 417) (by decide) ?_
                    refine s_aload_n o dL_law_417 rfl 1 rfl ?_
                    refine s_aload_n o dL_law_418 rfl 0 rfl ?_
                    refine s_iload o dL_law_419 4 rfl ?_
                    refine s_iconst o dL_law_421 ?_
                    refine s_iadd o dL_law_422 ?_
                    refine s_sld o hS (w32_R _) dL_law_423 (fun v43 hv43 => ?_)
                    refine s_aload_n o dL_law_424 rfl 0 rfl ?_
                    refine s_iload o dL_law_425 4 rfl ?_
                    refine s_iconst o dL_law_427 ?_
                    refine s_iadd o dL_law_428 ?_
                    refine s_sld o hS (w32_R _) dL_law_429 (fun v44 hv44 => ?_)
                    refine s_aload_n o dL_law_430 rfl 3 rfl ?_
                    refine s_C (P := fun v => ∀ ty, (Option.some Jvm.ClassFile.FieldType.int) = some ty → rg ty v) (st' := fun r => [vI r]) (fun ts m kk => s_csW (d := d + 613) (As := [vA (mg Γ) 1, vI v43, vI v44, vA (mg Γ) 99]) (st := []) o (sc_X0_function (mg Γ) (d + 602) ts 1 v43 v44 99 hv43 hv44) mww_X0_function rfl (lw_all_tbl q2112) (lw_all_tbl q2113) wt_0 rfl dL_law_431 rfl (rs := fun r => [vI r]) (fun _ => rfl) kk) (fun v45 hv45 => ?_)
                    refine r_istore o dL_law_434 rfl ⟨(Nat.ne_of_beq_eq_false rfl), (fun _ => (vA_cat (mg Γ) (-250))), ⟨(Nat.ne_of_beq_eq_false rfl), (fun _ => (vA_cat (mg Γ) 1)), ⟨(Nat.ne_of_beq_eq_false rfl), (fun _ => (vA_cat (mg Γ) 21)), ⟨(Nat.ne_of_beq_eq_false rfl), (fun _ => (vA_cat (mg Γ) 99)), ⟨(Nat.ne_of_beq_eq_false rfl), (fun _ => rfl), trivial⟩⟩⟩⟩⟩ ?_
                    refine s_aload_n o dL_law_436 rfl 3 rfl ?_
                    refine s_aload_n o dL_law_437 rfl 1 rfl ?_
                    refine s_iload o dL_law_438 5 rfl ?_
                    refine s_iconst o dL_law_440 ?_
                    refine s_iadd o dL_law_441 ?_
                    refine s_sld o hS (w32_R _) dL_law_442 (fun v46 hv46 => ?_)
                    refine s_aload_n o dL_law_443 rfl 1 rfl ?_
                    refine s_iload o dL_law_444 5 rfl ?_
                    refine s_iconst o dL_law_446 ?_
                    refine s_iadd o dL_law_447 ?_
                    refine s_sld o hS (w32_R _) dL_law_448 (fun v47 hv47 => ?_)
                    refine s_T (P := fun v => ∀ ty, (Option.some Jvm.ClassFile.FieldType.int) = some ty → rg ty v) (st' := fun r => [vI r]) (fun h hT m kk => s_cv (d := d + 613) (C := "LazyForgeModel") (As := [vI v46, vI v47]) (st := []) o (st_function (mg Γ) (d + 612) h hT v46 v47 hv46 hv47) mw_X11_function rfl (Or.inl (lw_all_tbl q3416)) (lw_all_tbl q3418) (lw_all_tbl q3417) (fun t => rc_t o hT t) wt_0 rfl dL_law_449 rfl (rs := fun r => [vI r]) (fun _ => rfl) kk) (fun v48 hv48 => ?_)
                    refine r_istore o dL_law_452 rfl ⟨(Nat.ne_of_beq_eq_false rfl), (fun _ => rfl), ⟨(Nat.ne_of_beq_eq_false rfl), (fun _ => (vA_cat (mg Γ) (-250))), ⟨(Nat.ne_of_beq_eq_false rfl), (fun _ => (vA_cat (mg Γ) 1)), ⟨(Nat.ne_of_beq_eq_false rfl), (fun _ => (vA_cat (mg Γ) 21)), ⟨(Nat.ne_of_beq_eq_false rfl), (fun _ => (vA_cat (mg Γ) 99)), ⟨(Nat.ne_of_beq_eq_false rfl), (fun _ => rfl), trivial⟩⟩⟩⟩⟩⟩ ?_
                    refine s_aload_n o dL_law_454 rfl 4 rfl ?_
                    refine s_T (P := fun v => ∀ ty, (Option.some Jvm.ClassFile.FieldType.int) = some ty → rg ty v) (st' := fun r => [vI r]) (fun h hT m kk => s_cv (d := d + 613) (C := "LazyForgeModel") (As := []) (st := []) o (st_thrown (mg Γ) (d + 613) h hT) mw_X11_thrown rfl (Or.inl (lw_all_tbl q2913)) (lw_all_tbl q2915) (lw_all_tbl q2914) (fun t => rc_t o hT t) wt_0 rfl dL_law_455 rfl (rs := fun r => [vI r]) (fun _ => rfl) kk) (fun v49 hv49 => ?_)
                    refine s_iload o dL_law_458 1 rfl ?_
                    refine s_icmp_eq (tgt := 465) o dL_law_460 (by decide) (hv49 _ rfl) (hv45 _ rfl) ?_ ?_
                    · refine s_iload o dL_law_465 1 rfl ?_
                      refine s_if_ne (tgt := 482) o dL_law_467 (by decide) (hv45 _ rfl) ?_ ?_
                      · refine r_to [(0, vA (mg Γ) (-250)), (1, vA (mg Γ) 1), (2, vA (mg Γ) 21), (3, vA (mg Γ) 99), (4, vI l4)] [2, 3, 4, 5, 6] rfl ?_
                        exact sf_law_482 hS o k_146 k_163 k_199 k_215 k_239 k_256 k_295 k_312 k_339 k_356 k_395 k_412 k_463 k_480 k_531 k_555 k_606 k_623 k_690 k_707 k_746 k_763 k_802 k_819 k_858 k_875 k_914 k_931 k_942 hk_146 hk_163 hk_199 hk_215 hk_239 hk_256 hk_295 hk_312 hk_339 hk_356 hk_395 hk_412 hk_463 hk_480 hk_531 hk_555 hk_606 hk_623 hk_690 hk_707 hk_746 hk_763 hk_802 hk_819 hk_858 hk_875 hk_914 hk_931 hk_942 l4 hl4
                      · refine s_aload_n o dL_law_470 rfl 5 rfl ?_
                        refine s_iconst o dL_law_471 ?_
                        refine s_C (P := R64) (st' := fun v => [vJ v]) (fun ts m kk => r_lald o (r32 rfl) dL_law_472 kk) (fun v50 hv50 => ?_)
                        refine s_iload o dL_law_473 0 rfl ?_
                        refine s_i2l o dL_law_475 (hv48 _ rfl) ?_
                        refine s_lcmp_eq (tgt := 482) o dL_law_476 dL_law_477 (by decide) hv50 (rL (hv48 _ rfl)) ?_ ?_
                        · refine r_to [(0, vA (mg Γ) (-250)), (1, vA (mg Γ) 1), (2, vA (mg Γ) 21), (3, vA (mg Γ) 99), (4, vI l4)] [2, 3, 4, 5, 6] rfl ?_
                          exact sf_law_482 hS o k_146 k_163 k_199 k_215 k_239 k_256 k_295 k_312 k_339 k_356 k_395 k_412 k_463 k_480 k_531 k_555 k_606 k_623 k_690 k_707 k_746 k_763 k_802 k_819 k_858 k_875 k_914 k_931 k_942 hk_146 hk_163 hk_199 hk_215 hk_239 hk_256 hk_295 hk_312 hk_339 hk_356 hk_395 hk_412 hk_463 hk_480 hk_531 hk_555 hk_606 hk_623 hk_690 hk_707 hk_746 hk_763 hk_802 hk_819 hk_858 hk_875 hk_914 hk_931 hk_942 l4 hl4
                        · refine r_to [] [] rfl ?_
                          exact s_lo hk_480
                    · refine r_to [] [] rfl ?_
                      exact s_lo hk_463
                  · refine s_case (P := True) (fun e50 => ?_) (fun e50 => ?_)
                    · refine s_tabE o e50 dL_law_39 (r32 rfl) rfl rfl (tgt := 485) (by decide) ?_
                      refine s_aload_n o dL_law_485 rfl 1 rfl ?_
                      refine s_aload_n o dL_law_486 rfl 0 rfl ?_
                      refine s_iload o dL_law_487 4 rfl ?_
                      refine s_iconst o dL_law_489 ?_
                      refine s_iadd o dL_law_490 ?_
                      refine s_sld o hS (w32_R _) dL_law_491 (fun v52 hv52 => ?_)
                      refine s_aload_n o dL_law_492 rfl 0 rfl ?_
                      refine s_iload o dL_law_493 4 rfl ?_
                      refine s_iconst o dL_law_495 ?_
                      refine s_iadd o dL_law_496 ?_
                      refine s_sld o hS (w32_R _) dL_law_497 (fun v53 hv53 => ?_)
                      refine s_aload_n o dL_law_498 rfl 3 rfl ?_
                      refine s_C (P := fun v => ∀ ty, (Option.some Jvm.ClassFile.FieldType.int) = some ty → rg ty v) (st' := fun r => [vI r]) (fun ts m kk => s_csW (d := d + 613) (As := [vA (mg Γ) 1, vI v52, vI v53, vA (mg Γ) 99]) (st := []) o (sc_X0_needs (mg Γ) (d + 602) ts 1 v52 v53 99 hv52 hv53) mww_X0_needs rfl (lw_all_tbl q2124) (lw_all_tbl q2125) wt_0 rfl dL_law_499 rfl (rs := fun r => [vI r]) (fun _ => rfl) kk) (fun v54 hv54 => ?_)
                      refine r_istore o dL_law_502 rfl ⟨(Nat.ne_of_beq_eq_false rfl), (fun _ => (vA_cat (mg Γ) (-250))), ⟨(Nat.ne_of_beq_eq_false rfl), (fun _ => (vA_cat (mg Γ) 1)), ⟨(Nat.ne_of_beq_eq_false rfl), (fun _ => (vA_cat (mg Γ) 21)), ⟨(Nat.ne_of_beq_eq_false rfl), (fun _ => (vA_cat (mg Γ) 99)), ⟨(Nat.ne_of_beq_eq_false rfl), (fun _ => rfl), trivial⟩⟩⟩⟩⟩ ?_
                      refine s_aload_n o dL_law_504 rfl 3 rfl ?_
                      refine s_aload_n o dL_law_505 rfl 1 rfl ?_
                      refine s_iload o dL_law_506 5 rfl ?_
                      refine s_iconst o dL_law_508 ?_
                      refine s_iadd o dL_law_509 ?_
                      refine s_sld o hS (w32_R _) dL_law_510 (fun v55 hv55 => ?_)
                      refine s_aload_n o dL_law_511 rfl 1 rfl ?_
                      refine s_iload o dL_law_512 5 rfl ?_
                      refine s_iconst o dL_law_514 ?_
                      refine s_iadd o dL_law_515 ?_
                      refine s_sld o hS (w32_R _) dL_law_516 (fun v56 hv56 => ?_)
                      refine s_T (P := fun v => ∀ ty, (Option.some Jvm.ClassFile.FieldType.boolean) = some ty → rg ty v) (st' := fun r => [vI r]) (fun h hT m kk => s_cv (d := d + 613) (C := "LazyForgeModel") (As := [vI v55, vI v56]) (st := []) o (st_needs (mg Γ) (d + 612) h hT v55 v56 hv55 hv56) mw_X11_needs rfl (Or.inl (lw_all_tbl q3424)) (lw_all_tbl q3426) (lw_all_tbl q3425) (fun t => rc_t o hT t) wt_0 rfl dL_law_517 rfl (rs := fun r => [vI r]) (fun _ => rfl) kk) (fun v57 hv57 => ?_)
                      refine r_istore o dL_law_520 rfl ⟨(Nat.ne_of_beq_eq_false rfl), (fun _ => rfl), ⟨(Nat.ne_of_beq_eq_false rfl), (fun _ => (vA_cat (mg Γ) (-250))), ⟨(Nat.ne_of_beq_eq_false rfl), (fun _ => (vA_cat (mg Γ) 1)), ⟨(Nat.ne_of_beq_eq_false rfl), (fun _ => (vA_cat (mg Γ) 21)), ⟨(Nat.ne_of_beq_eq_false rfl), (fun _ => (vA_cat (mg Γ) 99)), ⟨(Nat.ne_of_beq_eq_false rfl), (fun _ => rfl), trivial⟩⟩⟩⟩⟩⟩ ?_
                      refine s_aload_n o dL_law_522 rfl 4 rfl ?_
                      refine s_T (P := fun v => ∀ ty, (Option.some Jvm.ClassFile.FieldType.int) = some ty → rg ty v) (st' := fun r => [vI r]) (fun h hT m kk => s_cv (d := d + 613) (C := "LazyForgeModel") (As := []) (st := []) o (st_thrown (mg Γ) (d + 613) h hT) mw_X11_thrown rfl (Or.inl (lw_all_tbl q2913)) (lw_all_tbl q2915) (lw_all_tbl q2914) (fun t => rc_t o hT t) wt_0 rfl dL_law_523 rfl (rs := fun r => [vI r]) (fun _ => rfl) kk) (fun v58 hv58 => ?_)
                      refine s_iload o dL_law_526 1 rfl ?_
                      refine s_icmp_eq (tgt := 533) o dL_law_528 (by decide) (hv58 _ rfl) (hv54 _ rfl) ?_ ?_
                      · refine s_iload o dL_law_533 1 rfl ?_
                        refine s_if_ne (tgt := 557) o dL_law_535 (by decide) (hv54 _ rfl) ?_ ?_
                        · refine r_to [(0, vA (mg Γ) (-250)), (1, vA (mg Γ) 1), (2, vA (mg Γ) 21), (3, vA (mg Γ) 99), (4, vI l4)] [2, 3, 4, 5, 6] rfl ?_
                          exact sf_law_557 hS o k_146 k_163 k_199 k_215 k_239 k_256 k_295 k_312 k_339 k_356 k_395 k_412 k_463 k_480 k_531 k_555 k_606 k_623 k_690 k_707 k_746 k_763 k_802 k_819 k_858 k_875 k_914 k_931 k_942 hk_146 hk_163 hk_199 hk_215 hk_239 hk_256 hk_295 hk_312 hk_339 hk_356 hk_395 hk_412 hk_463 hk_480 hk_531 hk_555 hk_606 hk_623 hk_690 hk_707 hk_746 hk_763 hk_802 hk_819 hk_858 hk_875 hk_914 hk_931 hk_942 l4 hl4
                        · refine s_aload_n o dL_law_538 rfl 5 rfl ?_
                          refine s_iconst o dL_law_539 ?_
                          refine s_C (P := R64) (st' := fun v => [vJ v]) (fun ts m kk => r_lald o (r32 rfl) dL_law_540 kk) (fun v59 hv59 => ?_)
                          refine s_iload o dL_law_541 0 rfl ?_
                          refine s_if_eq (tgt := 550) o dL_law_543 (by decide) (rZ (hv57 _ rfl)) ?_ ?_
                          · refine s_lconst (x := 0) o dL_law_550 rfl ?_
                            refine r_to [(0, vA (mg Γ) (-250)), (1, vA (mg Γ) 1), (2, vA (mg Γ) 21), (3, vA (mg Γ) 99), (4, vI l4)] [2, 3, 4, 5, 6] rfl ?_
                            exact sf_law_551 hS o k_146 k_163 k_199 k_215 k_239 k_256 k_295 k_312 k_339 k_356 k_395 k_412 k_463 k_480 k_531 k_555 k_606 k_623 k_690 k_707 k_746 k_763 k_802 k_819 k_858 k_875 k_914 k_931 k_942 hk_146 hk_163 hk_199 hk_215 hk_239 hk_256 hk_295 hk_312 hk_339 hk_356 hk_395 hk_412 hk_463 hk_480 hk_531 hk_555 hk_606 hk_623 hk_690 hk_707 hk_746 hk_763 hk_802 hk_819 hk_858 hk_875 hk_914 hk_931 hk_942 l4 0 v59 hl4 (r64 rfl) hv59
                          · refine s_lconst (x := 1) o dL_law_546 rfl ?_
                            refine s_goto (tgt := 551) o dL_law_547 (by decide) ?_
                            refine r_to [(0, vA (mg Γ) (-250)), (1, vA (mg Γ) 1), (2, vA (mg Γ) 21), (3, vA (mg Γ) 99), (4, vI l4)] [2, 3, 4, 5, 6] rfl ?_
                            exact sf_law_551 hS o k_146 k_163 k_199 k_215 k_239 k_256 k_295 k_312 k_339 k_356 k_395 k_412 k_463 k_480 k_531 k_555 k_606 k_623 k_690 k_707 k_746 k_763 k_802 k_819 k_858 k_875 k_914 k_931 k_942 hk_146 hk_163 hk_199 hk_215 hk_239 hk_256 hk_295 hk_312 hk_339 hk_356 hk_395 hk_412 hk_463 hk_480 hk_531 hk_555 hk_606 hk_623 hk_690 hk_707 hk_746 hk_763 hk_802 hk_819 hk_858 hk_875 hk_914 hk_931 hk_942 l4 1 v59 hl4 (r64 rfl) hv59
                      · refine r_to [] [] rfl ?_
                        exact s_lo hk_531
                    · refine s_case (P := True) (fun e59 => ?_) (fun e59 => ?_)
                      · refine s_tabE o e59 dL_law_39 (r32 rfl) rfl rfl (tgt := 560) (by decide) ?_
                        refine s_aload_n o dL_law_560 rfl 1 rfl ?_
                        refine s_aload_n o dL_law_561 rfl 0 rfl ?_
                        refine s_iload o dL_law_562 4 rfl ?_
                        refine s_iconst o dL_law_564 ?_
                        refine s_iadd o dL_law_565 ?_
                        refine s_sld o hS (w32_R _) dL_law_566 (fun v61 hv61 => ?_)
                        refine s_aload_n o dL_law_567 rfl 0 rfl ?_
                        refine s_iload o dL_law_568 4 rfl ?_
                        refine s_iconst o dL_law_570 ?_
                        refine s_iadd o dL_law_571 ?_
                        refine s_sld o hS (w32_R _) dL_law_572 (fun v62 hv62 => ?_)
                        refine s_aload_n o dL_law_573 rfl 3 rfl ?_
                        refine s_C (P := fun v => ∀ ty, (Option.some Jvm.ClassFile.FieldType.int) = some ty → rg ty v) (st' := fun r => [vI r]) (fun ts m kk => s_csW (d := d + 613) (As := [vA (mg Γ) 1, vI v61, vI v62, vA (mg Γ) 99]) (st := []) o (sc_X0_bit (mg Γ) (d + 602) ts 1 v61 v62 99 hv61 hv62) mww_X0_bit rfl (lw_all_tbl q2135) (lw_all_tbl q2136) wt_0 rfl dL_law_574 rfl (rs := fun r => [vI r]) (fun _ => rfl) kk) (fun v63 hv63 => ?_)
                        refine r_istore o dL_law_577 rfl ⟨(Nat.ne_of_beq_eq_false rfl), (fun _ => (vA_cat (mg Γ) (-250))), ⟨(Nat.ne_of_beq_eq_false rfl), (fun _ => (vA_cat (mg Γ) 1)), ⟨(Nat.ne_of_beq_eq_false rfl), (fun _ => (vA_cat (mg Γ) 21)), ⟨(Nat.ne_of_beq_eq_false rfl), (fun _ => (vA_cat (mg Γ) 99)), ⟨(Nat.ne_of_beq_eq_false rfl), (fun _ => rfl), trivial⟩⟩⟩⟩⟩ ?_
                        refine s_aload_n o dL_law_579 rfl 3 rfl ?_
                        refine s_aload_n o dL_law_580 rfl 1 rfl ?_
                        refine s_iload o dL_law_581 5 rfl ?_
                        refine s_iconst o dL_law_583 ?_
                        refine s_iadd o dL_law_584 ?_
                        refine s_sld o hS (w32_R _) dL_law_585 (fun v64 hv64 => ?_)
                        refine s_aload_n o dL_law_586 rfl 1 rfl ?_
                        refine s_iload o dL_law_587 5 rfl ?_
                        refine s_iconst o dL_law_589 ?_
                        refine s_iadd o dL_law_590 ?_
                        refine s_sld o hS (w32_R _) dL_law_591 (fun v65 hv65 => ?_)
                        refine s_T (P := fun v => ∀ ty, (Option.some Jvm.ClassFile.FieldType.int) = some ty → rg ty v) (st' := fun r => [vI r]) (fun h hT m kk => s_cv (d := d + 613) (C := "LazyForgeModel") (As := [vI v64, vI v65]) (st := []) o (st_bit (mg Γ) (d + 612) h hT v64 v65 hv64 hv65) mw_X11_bit rfl (Or.inl (lw_all_tbl q3428)) (lw_all_tbl q3430) (lw_all_tbl q3429) (fun t => rc_t o hT t) wt_0 rfl dL_law_592 rfl (rs := fun r => [vI r]) (fun _ => rfl) kk) (fun v66 hv66 => ?_)
                        refine r_istore o dL_law_595 rfl ⟨(Nat.ne_of_beq_eq_false rfl), (fun _ => rfl), ⟨(Nat.ne_of_beq_eq_false rfl), (fun _ => (vA_cat (mg Γ) (-250))), ⟨(Nat.ne_of_beq_eq_false rfl), (fun _ => (vA_cat (mg Γ) 1)), ⟨(Nat.ne_of_beq_eq_false rfl), (fun _ => (vA_cat (mg Γ) 21)), ⟨(Nat.ne_of_beq_eq_false rfl), (fun _ => (vA_cat (mg Γ) 99)), ⟨(Nat.ne_of_beq_eq_false rfl), (fun _ => rfl), trivial⟩⟩⟩⟩⟩⟩ ?_
                        refine s_aload_n o dL_law_597 rfl 4 rfl ?_
                        refine s_T (P := fun v => ∀ ty, (Option.some Jvm.ClassFile.FieldType.int) = some ty → rg ty v) (st' := fun r => [vI r]) (fun h hT m kk => s_cv (d := d + 613) (C := "LazyForgeModel") (As := []) (st := []) o (st_thrown (mg Γ) (d + 613) h hT) mw_X11_thrown rfl (Or.inl (lw_all_tbl q2913)) (lw_all_tbl q2915) (lw_all_tbl q2914) (fun t => rc_t o hT t) wt_0 rfl dL_law_598 rfl (rs := fun r => [vI r]) (fun _ => rfl) kk) (fun v67 hv67 => ?_)
                        refine s_iload o dL_law_601 1 rfl ?_
                        refine s_icmp_eq (tgt := 608) o dL_law_603 (by decide) (hv67 _ rfl) (hv63 _ rfl) ?_ ?_
                        · refine s_iload o dL_law_608 1 rfl ?_
                          refine s_if_ne (tgt := 625) o dL_law_610 (by decide) (hv63 _ rfl) ?_ ?_
                          · refine r_to [(0, vA (mg Γ) (-250)), (1, vA (mg Γ) 1), (2, vA (mg Γ) 21), (3, vA (mg Γ) 99), (4, vI l4)] [2, 3, 4, 5, 6] rfl ?_
                            exact sf_law_625 hS o k_146 k_163 k_199 k_215 k_239 k_256 k_295 k_312 k_339 k_356 k_395 k_412 k_463 k_480 k_531 k_555 k_606 k_623 k_690 k_707 k_746 k_763 k_802 k_819 k_858 k_875 k_914 k_931 k_942 hk_146 hk_163 hk_199 hk_215 hk_239 hk_256 hk_295 hk_312 hk_339 hk_356 hk_395 hk_412 hk_463 hk_480 hk_531 hk_555 hk_606 hk_623 hk_690 hk_707 hk_746 hk_763 hk_802 hk_819 hk_858 hk_875 hk_914 hk_931 hk_942 l4 hl4
                          · refine s_aload_n o dL_law_613 rfl 5 rfl ?_
                            refine s_iconst o dL_law_614 ?_
                            refine s_C (P := R64) (st' := fun v => [vJ v]) (fun ts m kk => r_lald o (r32 rfl) dL_law_615 kk) (fun v68 hv68 => ?_)
                            refine s_iload o dL_law_616 0 rfl ?_
                            refine s_i2l o dL_law_618 (hv66 _ rfl) ?_
                            refine s_lcmp_eq (tgt := 625) o dL_law_619 dL_law_620 (by decide) hv68 (rL (hv66 _ rfl)) ?_ ?_
                            · refine r_to [(0, vA (mg Γ) (-250)), (1, vA (mg Γ) 1), (2, vA (mg Γ) 21), (3, vA (mg Γ) 99), (4, vI l4)] [2, 3, 4, 5, 6] rfl ?_
                              exact sf_law_625 hS o k_146 k_163 k_199 k_215 k_239 k_256 k_295 k_312 k_339 k_356 k_395 k_412 k_463 k_480 k_531 k_555 k_606 k_623 k_690 k_707 k_746 k_763 k_802 k_819 k_858 k_875 k_914 k_931 k_942 hk_146 hk_163 hk_199 hk_215 hk_239 hk_256 hk_295 hk_312 hk_339 hk_356 hk_395 hk_412 hk_463 hk_480 hk_531 hk_555 hk_606 hk_623 hk_690 hk_707 hk_746 hk_763 hk_802 hk_819 hk_858 hk_875 hk_914 hk_931 hk_942 l4 hl4
                            · refine r_to [] [] rfl ?_
                              exact s_lo hk_623
                        · refine r_to [] [] rfl ?_
                          exact s_lo hk_606
                      · refine s_case (P := True) (fun e68 => ?_) (fun e68 => ?_)
                        · refine s_tabE o e68 dL_law_39 (r32 rfl) rfl rfl (tgt := 628) (by decide) ?_
                          refine s_aload_n o dL_law_628 rfl 1 rfl ?_
                          refine s_aload_n o dL_law_629 rfl 0 rfl ?_
                          refine s_iload o dL_law_630 4 rfl ?_
                          refine s_iconst o dL_law_632 ?_
                          refine s_iadd o dL_law_633 ?_
                          refine s_sld o hS (w32_R _) dL_law_634 (fun v70 hv70 => ?_)
                          refine s_if_eq (tgt := 642) o dL_law_635 (by decide) hv70 ?_ ?_
                          · refine s_iconst o dL_law_642 ?_
                            exact sf_law_643 hS o k_146 k_163 k_199 k_215 k_239 k_256 k_295 k_312 k_339 k_356 k_395 k_412 k_463 k_480 k_531 k_555 k_606 k_623 k_690 k_707 k_746 k_763 k_802 k_819 k_858 k_875 k_914 k_931 k_942 hk_146 hk_163 hk_199 hk_215 hk_239 hk_256 hk_295 hk_312 hk_339 hk_356 hk_395 hk_412 hk_463 hk_480 hk_531 hk_555 hk_606 hk_623 hk_690 hk_707 hk_746 hk_763 hk_802 hk_819 hk_858 hk_875 hk_914 hk_931 hk_942 l4 0 hl4 (Or.inl rfl)
                          · refine s_iconst o dL_law_638 ?_
                            refine s_goto (tgt := 643) o dL_law_639 (by decide) ?_
                            exact sf_law_643 hS o k_146 k_163 k_199 k_215 k_239 k_256 k_295 k_312 k_339 k_356 k_395 k_412 k_463 k_480 k_531 k_555 k_606 k_623 k_690 k_707 k_746 k_763 k_802 k_819 k_858 k_875 k_914 k_931 k_942 hk_146 hk_163 hk_199 hk_215 hk_239 hk_256 hk_295 hk_312 hk_339 hk_356 hk_395 hk_412 hk_463 hk_480 hk_531 hk_555 hk_606 hk_623 hk_690 hk_707 hk_746 hk_763 hk_802 hk_819 hk_858 hk_875 hk_914 hk_931 hk_942 l4 1 hl4 (Or.inr rfl)
                        · refine s_case (P := True) (fun e70 => ?_) (fun e70 => ?_)
                          · refine s_tabE o e70 dL_law_39 (r32 rfl) rfl rfl (tgt := 712) (by decide) ?_
                            refine s_aload_n o dL_law_712 rfl 1 rfl ?_
                            refine s_aload_n o dL_law_713 rfl 0 rfl ?_
                            refine s_iload o dL_law_714 4 rfl ?_
                            refine s_iconst o dL_law_716 ?_
                            refine s_iadd o dL_law_717 ?_
                            refine s_sld o hS (w32_R _) dL_law_718 (fun v72 hv72 => ?_)
                            refine s_aload_n o dL_law_719 rfl 3 rfl ?_
                            refine s_C (P := fun v => ∀ ty, (Option.some Jvm.ClassFile.FieldType.int) = some ty → rg ty v) (st' := fun r => [vI r]) (fun ts m kk => s_csW (d := d + 613) (As := [vA (mg Γ) 1, vI v72, vA (mg Γ) 99]) (st := []) o (sc_X0_result (mg Γ) (d + 604) ts 1 v72 99 hv72) mww_X0_result rfl (lw_all_tbl q2466) (lw_all_tbl q2467) wt_0 rfl dL_law_720 rfl (rs := fun r => [vI r]) (fun _ => rfl) kk) (fun v73 hv73 => ?_)
                            refine r_istore o dL_law_723 rfl ⟨(Nat.ne_of_beq_eq_false rfl), (fun _ => (vA_cat (mg Γ) (-250))), ⟨(Nat.ne_of_beq_eq_false rfl), (fun _ => (vA_cat (mg Γ) 1)), ⟨(Nat.ne_of_beq_eq_false rfl), (fun _ => (vA_cat (mg Γ) 21)), ⟨(Nat.ne_of_beq_eq_false rfl), (fun _ => (vA_cat (mg Γ) 99)), ⟨(Nat.ne_of_beq_eq_false rfl), (fun _ => rfl), trivial⟩⟩⟩⟩⟩ ?_
                            refine s_aload_n o dL_law_725 rfl 3 rfl ?_
                            refine s_aload_n o dL_law_726 rfl 1 rfl ?_
                            refine s_iload o dL_law_727 5 rfl ?_
                            refine s_iconst o dL_law_729 ?_
                            refine s_iadd o dL_law_730 ?_
                            refine s_sld o hS (w32_R _) dL_law_731 (fun v74 hv74 => ?_)
                            refine s_T (P := fun v => ∀ ty, (Option.some Jvm.ClassFile.FieldType.int) = some ty → rg ty v) (st' := fun r => [vI r]) (fun h hT m kk => s_cv (d := d + 613) (C := "LazyForgeModel") (As := [vI v74]) (st := []) o (st_result (mg Γ) (d + 613) h hT v74 hv74) mw_X11_result rfl (Or.inl (lw_all_tbl q3432)) (lw_all_tbl q3434) (lw_all_tbl q3433) (fun t => rc_t o hT t) wt_0 rfl dL_law_732 rfl (rs := fun r => [vI r]) (fun _ => rfl) kk) (fun v75 hv75 => ?_)
                            refine r_istore o dL_law_735 rfl ⟨(Nat.ne_of_beq_eq_false rfl), (fun _ => rfl), ⟨(Nat.ne_of_beq_eq_false rfl), (fun _ => (vA_cat (mg Γ) (-250))), ⟨(Nat.ne_of_beq_eq_false rfl), (fun _ => (vA_cat (mg Γ) 1)), ⟨(Nat.ne_of_beq_eq_false rfl), (fun _ => (vA_cat (mg Γ) 21)), ⟨(Nat.ne_of_beq_eq_false rfl), (fun _ => (vA_cat (mg Γ) 99)), ⟨(Nat.ne_of_beq_eq_false rfl), (fun _ => rfl), trivial⟩⟩⟩⟩⟩⟩ ?_
                            refine s_aload_n o dL_law_737 rfl 4 rfl ?_
                            refine s_T (P := fun v => ∀ ty, (Option.some Jvm.ClassFile.FieldType.int) = some ty → rg ty v) (st' := fun r => [vI r]) (fun h hT m kk => s_cv (d := d + 613) (C := "LazyForgeModel") (As := []) (st := []) o (st_thrown (mg Γ) (d + 613) h hT) mw_X11_thrown rfl (Or.inl (lw_all_tbl q2913)) (lw_all_tbl q2915) (lw_all_tbl q2914) (fun t => rc_t o hT t) wt_0 rfl dL_law_738 rfl (rs := fun r => [vI r]) (fun _ => rfl) kk) (fun v76 hv76 => ?_)
                            refine s_iload o dL_law_741 1 rfl ?_
                            refine s_icmp_eq (tgt := 748) o dL_law_743 (by decide) (hv76 _ rfl) (hv73 _ rfl) ?_ ?_
                            · refine s_iload o dL_law_748 1 rfl ?_
                              refine s_if_ne (tgt := 765) o dL_law_750 (by decide) (hv73 _ rfl) ?_ ?_
                              · refine r_to [(0, vA (mg Γ) (-250)), (1, vA (mg Γ) 1), (2, vA (mg Γ) 21), (3, vA (mg Γ) 99), (4, vI l4)] [2, 3, 4, 5, 6] rfl ?_
                                exact sf_law_765 hS o k_146 k_163 k_199 k_215 k_239 k_256 k_295 k_312 k_339 k_356 k_395 k_412 k_463 k_480 k_531 k_555 k_606 k_623 k_690 k_707 k_746 k_763 k_802 k_819 k_858 k_875 k_914 k_931 k_942 hk_146 hk_163 hk_199 hk_215 hk_239 hk_256 hk_295 hk_312 hk_339 hk_356 hk_395 hk_412 hk_463 hk_480 hk_531 hk_555 hk_606 hk_623 hk_690 hk_707 hk_746 hk_763 hk_802 hk_819 hk_858 hk_875 hk_914 hk_931 hk_942 l4 hl4
                              · refine s_aload_n o dL_law_753 rfl 5 rfl ?_
                                refine s_iconst o dL_law_754 ?_
                                refine s_C (P := R64) (st' := fun v => [vJ v]) (fun ts m kk => r_lald o (r32 rfl) dL_law_755 kk) (fun v77 hv77 => ?_)
                                refine s_iload o dL_law_756 0 rfl ?_
                                refine s_i2l o dL_law_758 (hv75 _ rfl) ?_
                                refine s_lcmp_eq (tgt := 765) o dL_law_759 dL_law_760 (by decide) hv77 (rL (hv75 _ rfl)) ?_ ?_
                                · refine r_to [(0, vA (mg Γ) (-250)), (1, vA (mg Γ) 1), (2, vA (mg Γ) 21), (3, vA (mg Γ) 99), (4, vI l4)] [2, 3, 4, 5, 6] rfl ?_
                                  exact sf_law_765 hS o k_146 k_163 k_199 k_215 k_239 k_256 k_295 k_312 k_339 k_356 k_395 k_412 k_463 k_480 k_531 k_555 k_606 k_623 k_690 k_707 k_746 k_763 k_802 k_819 k_858 k_875 k_914 k_931 k_942 hk_146 hk_163 hk_199 hk_215 hk_239 hk_256 hk_295 hk_312 hk_339 hk_356 hk_395 hk_412 hk_463 hk_480 hk_531 hk_555 hk_606 hk_623 hk_690 hk_707 hk_746 hk_763 hk_802 hk_819 hk_858 hk_875 hk_914 hk_931 hk_942 l4 hl4
                                · refine r_to [] [] rfl ?_
                                  exact s_lo hk_763
                            · refine r_to [] [] rfl ?_
                              exact s_lo hk_746
                          · refine s_case (P := True) (fun e77 => ?_) (fun e77 => ?_)
                            · refine s_tabE o e77 dL_law_39 (r32 rfl) rfl rfl (tgt := 768) (by decide) ?_
                              refine s_aload_n o dL_law_768 rfl 1 rfl ?_
                              refine s_aload_n o dL_law_769 rfl 0 rfl ?_
                              refine s_iload o dL_law_770 4 rfl ?_
                              refine s_iconst o dL_law_772 ?_
                              refine s_iadd o dL_law_773 ?_
                              refine s_sld o hS (w32_R _) dL_law_774 (fun v79 hv79 => ?_)
                              refine s_aload_n o dL_law_775 rfl 3 rfl ?_
                              refine s_C (P := fun v => ∀ ty, (Option.some Jvm.ClassFile.FieldType.int) = some ty → rg ty v) (st' := fun r => [vI r]) (fun ts m kk => s_csW (d := d + 613) (As := [vA (mg Γ) 1, vI v79, vA (mg Γ) 99]) (st := []) o (sc_X0_number (mg Γ) (d + 604) ts 1 v79 99 hv79) mww_X0_number rfl (lw_all_tbl q2473) (lw_all_tbl q2474) wt_0 rfl dL_law_776 rfl (rs := fun r => [vI r]) (fun _ => rfl) kk) (fun v80 hv80 => ?_)
                              refine r_istore o dL_law_779 rfl ⟨(Nat.ne_of_beq_eq_false rfl), (fun _ => (vA_cat (mg Γ) (-250))), ⟨(Nat.ne_of_beq_eq_false rfl), (fun _ => (vA_cat (mg Γ) 1)), ⟨(Nat.ne_of_beq_eq_false rfl), (fun _ => (vA_cat (mg Γ) 21)), ⟨(Nat.ne_of_beq_eq_false rfl), (fun _ => (vA_cat (mg Γ) 99)), ⟨(Nat.ne_of_beq_eq_false rfl), (fun _ => rfl), trivial⟩⟩⟩⟩⟩ ?_
                              refine s_aload_n o dL_law_781 rfl 3 rfl ?_
                              refine s_aload_n o dL_law_782 rfl 1 rfl ?_
                              refine s_iload o dL_law_783 5 rfl ?_
                              refine s_iconst o dL_law_785 ?_
                              refine s_iadd o dL_law_786 ?_
                              refine s_sld o hS (w32_R _) dL_law_787 (fun v81 hv81 => ?_)
                              refine s_T (P := fun v => ∀ ty, (Option.some Jvm.ClassFile.FieldType.int) = some ty → rg ty v) (st' := fun r => [vI r]) (fun h hT m kk => s_cv (d := d + 613) (C := "LazyForgeModel") (As := [vI v81]) (st := []) o (st_number (mg Γ) (d + 613) h hT v81 hv81) mw_X11_number rfl (Or.inl (lw_all_tbl q3436)) (lw_all_tbl q3438) (lw_all_tbl q3437) (fun t => rc_t o hT t) wt_0 rfl dL_law_788 rfl (rs := fun r => [vI r]) (fun _ => rfl) kk) (fun v82 hv82 => ?_)
                              refine r_istore o dL_law_791 rfl ⟨(Nat.ne_of_beq_eq_false rfl), (fun _ => rfl), ⟨(Nat.ne_of_beq_eq_false rfl), (fun _ => (vA_cat (mg Γ) (-250))), ⟨(Nat.ne_of_beq_eq_false rfl), (fun _ => (vA_cat (mg Γ) 1)), ⟨(Nat.ne_of_beq_eq_false rfl), (fun _ => (vA_cat (mg Γ) 21)), ⟨(Nat.ne_of_beq_eq_false rfl), (fun _ => (vA_cat (mg Γ) 99)), ⟨(Nat.ne_of_beq_eq_false rfl), (fun _ => rfl), trivial⟩⟩⟩⟩⟩⟩ ?_
                              refine s_aload_n o dL_law_793 rfl 4 rfl ?_
                              refine s_T (P := fun v => ∀ ty, (Option.some Jvm.ClassFile.FieldType.int) = some ty → rg ty v) (st' := fun r => [vI r]) (fun h hT m kk => s_cv (d := d + 613) (C := "LazyForgeModel") (As := []) (st := []) o (st_thrown (mg Γ) (d + 613) h hT) mw_X11_thrown rfl (Or.inl (lw_all_tbl q2913)) (lw_all_tbl q2915) (lw_all_tbl q2914) (fun t => rc_t o hT t) wt_0 rfl dL_law_794 rfl (rs := fun r => [vI r]) (fun _ => rfl) kk) (fun v83 hv83 => ?_)
                              refine s_iload o dL_law_797 1 rfl ?_
                              refine s_icmp_eq (tgt := 804) o dL_law_799 (by decide) (hv83 _ rfl) (hv80 _ rfl) ?_ ?_
                              · refine s_iload o dL_law_804 1 rfl ?_
                                refine s_if_ne (tgt := 821) o dL_law_806 (by decide) (hv80 _ rfl) ?_ ?_
                                · refine r_to [(0, vA (mg Γ) (-250)), (1, vA (mg Γ) 1), (2, vA (mg Γ) 21), (3, vA (mg Γ) 99), (4, vI l4)] [2, 3, 4, 5, 6] rfl ?_
                                  exact sf_law_821 hS o k_146 k_163 k_199 k_215 k_239 k_256 k_295 k_312 k_339 k_356 k_395 k_412 k_463 k_480 k_531 k_555 k_606 k_623 k_690 k_707 k_746 k_763 k_802 k_819 k_858 k_875 k_914 k_931 k_942 hk_146 hk_163 hk_199 hk_215 hk_239 hk_256 hk_295 hk_312 hk_339 hk_356 hk_395 hk_412 hk_463 hk_480 hk_531 hk_555 hk_606 hk_623 hk_690 hk_707 hk_746 hk_763 hk_802 hk_819 hk_858 hk_875 hk_914 hk_931 hk_942 l4 hl4
                                · refine s_aload_n o dL_law_809 rfl 5 rfl ?_
                                  refine s_iconst o dL_law_810 ?_
                                  refine s_C (P := R64) (st' := fun v => [vJ v]) (fun ts m kk => r_lald o (r32 rfl) dL_law_811 kk) (fun v84 hv84 => ?_)
                                  refine s_iload o dL_law_812 0 rfl ?_
                                  refine s_i2l o dL_law_814 (hv82 _ rfl) ?_
                                  refine s_lcmp_eq (tgt := 821) o dL_law_815 dL_law_816 (by decide) hv84 (rL (hv82 _ rfl)) ?_ ?_
                                  · refine r_to [(0, vA (mg Γ) (-250)), (1, vA (mg Γ) 1), (2, vA (mg Γ) 21), (3, vA (mg Γ) 99), (4, vI l4)] [2, 3, 4, 5, 6] rfl ?_
                                    exact sf_law_821 hS o k_146 k_163 k_199 k_215 k_239 k_256 k_295 k_312 k_339 k_356 k_395 k_412 k_463 k_480 k_531 k_555 k_606 k_623 k_690 k_707 k_746 k_763 k_802 k_819 k_858 k_875 k_914 k_931 k_942 hk_146 hk_163 hk_199 hk_215 hk_239 hk_256 hk_295 hk_312 hk_339 hk_356 hk_395 hk_412 hk_463 hk_480 hk_531 hk_555 hk_606 hk_623 hk_690 hk_707 hk_746 hk_763 hk_802 hk_819 hk_858 hk_875 hk_914 hk_931 hk_942 l4 hl4
                                  · refine r_to [] [] rfl ?_
                                    exact s_lo hk_819
                              · refine r_to [] [] rfl ?_
                                exact s_lo hk_802
                            · refine s_case (P := True) (fun e84 => ?_) (fun e84 => ?_)
                              · refine s_tabE o e84 dL_law_39 (r32 rfl) rfl rfl (tgt := 824) (by decide) ?_
                                refine s_aload_n o dL_law_824 rfl 1 rfl ?_
                                refine s_aload_n o dL_law_825 rfl 0 rfl ?_
                                refine s_iload o dL_law_826 4 rfl ?_
                                refine s_iconst o dL_law_828 ?_
                                refine s_iadd o dL_law_829 ?_
                                refine s_sld o hS (w32_R _) dL_law_830 (fun v86 hv86 => ?_)
                                refine s_aload_n o dL_law_831 rfl 3 rfl ?_
                                refine s_C (P := fun v => ∀ ty, (Option.some Jvm.ClassFile.FieldType.int) = some ty → rg ty v) (st' := fun r => [vI r]) (fun ts m kk => s_csW (d := d + 613) (As := [vA (mg Γ) 1, vI v86, vA (mg Γ) 99]) (st := []) o (sc_X0_called (mg Γ) (d + 602) ts 1 v86 99 hv86) mww_X0_called rfl (lw_all_tbl q2480) (lw_all_tbl q2481) wt_0 rfl dL_law_832 rfl (rs := fun r => [vI r]) (fun _ => rfl) kk) (fun v87 hv87 => ?_)
                                refine r_istore o dL_law_835 rfl ⟨(Nat.ne_of_beq_eq_false rfl), (fun _ => (vA_cat (mg Γ) (-250))), ⟨(Nat.ne_of_beq_eq_false rfl), (fun _ => (vA_cat (mg Γ) 1)), ⟨(Nat.ne_of_beq_eq_false rfl), (fun _ => (vA_cat (mg Γ) 21)), ⟨(Nat.ne_of_beq_eq_false rfl), (fun _ => (vA_cat (mg Γ) 99)), ⟨(Nat.ne_of_beq_eq_false rfl), (fun _ => rfl), trivial⟩⟩⟩⟩⟩ ?_
                                refine s_aload_n o dL_law_837 rfl 3 rfl ?_
                                refine s_aload_n o dL_law_838 rfl 1 rfl ?_
                                refine s_iload o dL_law_839 5 rfl ?_
                                refine s_iconst o dL_law_841 ?_
                                refine s_iadd o dL_law_842 ?_
                                refine s_sld o hS (w32_R _) dL_law_843 (fun v88 hv88 => ?_)
                                refine s_T (P := fun v => ∀ ty, (Option.some Jvm.ClassFile.FieldType.int) = some ty → rg ty v) (st' := fun r => [vI r]) (fun h hT m kk => s_cv (d := d + 613) (C := "LazyForgeModel") (As := [vI v88]) (st := []) o (st_called (mg Γ) (d + 612) h hT v88 hv88) mw_X11_called rfl (Or.inl (lw_all_tbl q3440)) (lw_all_tbl q3442) (lw_all_tbl q3441) (fun t => rc_t o hT t) wt_0 rfl dL_law_844 rfl (rs := fun r => [vI r]) (fun _ => rfl) kk) (fun v89 hv89 => ?_)
                                refine r_istore o dL_law_847 rfl ⟨(Nat.ne_of_beq_eq_false rfl), (fun _ => rfl), ⟨(Nat.ne_of_beq_eq_false rfl), (fun _ => (vA_cat (mg Γ) (-250))), ⟨(Nat.ne_of_beq_eq_false rfl), (fun _ => (vA_cat (mg Γ) 1)), ⟨(Nat.ne_of_beq_eq_false rfl), (fun _ => (vA_cat (mg Γ) 21)), ⟨(Nat.ne_of_beq_eq_false rfl), (fun _ => (vA_cat (mg Γ) 99)), ⟨(Nat.ne_of_beq_eq_false rfl), (fun _ => rfl), trivial⟩⟩⟩⟩⟩⟩ ?_
                                refine s_aload_n o dL_law_849 rfl 4 rfl ?_
                                refine s_T (P := fun v => ∀ ty, (Option.some Jvm.ClassFile.FieldType.int) = some ty → rg ty v) (st' := fun r => [vI r]) (fun h hT m kk => s_cv (d := d + 613) (C := "LazyForgeModel") (As := []) (st := []) o (st_thrown (mg Γ) (d + 613) h hT) mw_X11_thrown rfl (Or.inl (lw_all_tbl q2913)) (lw_all_tbl q2915) (lw_all_tbl q2914) (fun t => rc_t o hT t) wt_0 rfl dL_law_850 rfl (rs := fun r => [vI r]) (fun _ => rfl) kk) (fun v90 hv90 => ?_)
                                refine s_iload o dL_law_853 1 rfl ?_
                                refine s_icmp_eq (tgt := 860) o dL_law_855 (by decide) (hv90 _ rfl) (hv87 _ rfl) ?_ ?_
                                · refine s_iload o dL_law_860 1 rfl ?_
                                  refine s_if_ne (tgt := 877) o dL_law_862 (by decide) (hv87 _ rfl) ?_ ?_
                                  · refine r_to [(0, vA (mg Γ) (-250)), (1, vA (mg Γ) 1), (2, vA (mg Γ) 21), (3, vA (mg Γ) 99), (4, vI l4)] [2, 3, 4, 5, 6] rfl ?_
                                    exact sf_law_877 hS o k_146 k_163 k_199 k_215 k_239 k_256 k_295 k_312 k_339 k_356 k_395 k_412 k_463 k_480 k_531 k_555 k_606 k_623 k_690 k_707 k_746 k_763 k_802 k_819 k_858 k_875 k_914 k_931 k_942 hk_146 hk_163 hk_199 hk_215 hk_239 hk_256 hk_295 hk_312 hk_339 hk_356 hk_395 hk_412 hk_463 hk_480 hk_531 hk_555 hk_606 hk_623 hk_690 hk_707 hk_746 hk_763 hk_802 hk_819 hk_858 hk_875 hk_914 hk_931 hk_942 l4 hl4
                                  · refine s_aload_n o dL_law_865 rfl 5 rfl ?_
                                    refine s_iconst o dL_law_866 ?_
                                    refine s_C (P := R64) (st' := fun v => [vJ v]) (fun ts m kk => r_lald o (r32 rfl) dL_law_867 kk) (fun v91 hv91 => ?_)
                                    refine s_iload o dL_law_868 0 rfl ?_
                                    refine s_i2l o dL_law_870 (hv89 _ rfl) ?_
                                    refine s_lcmp_eq (tgt := 877) o dL_law_871 dL_law_872 (by decide) hv91 (rL (hv89 _ rfl)) ?_ ?_
                                    · refine r_to [(0, vA (mg Γ) (-250)), (1, vA (mg Γ) 1), (2, vA (mg Γ) 21), (3, vA (mg Γ) 99), (4, vI l4)] [2, 3, 4, 5, 6] rfl ?_
                                      exact sf_law_877 hS o k_146 k_163 k_199 k_215 k_239 k_256 k_295 k_312 k_339 k_356 k_395 k_412 k_463 k_480 k_531 k_555 k_606 k_623 k_690 k_707 k_746 k_763 k_802 k_819 k_858 k_875 k_914 k_931 k_942 hk_146 hk_163 hk_199 hk_215 hk_239 hk_256 hk_295 hk_312 hk_339 hk_356 hk_395 hk_412 hk_463 hk_480 hk_531 hk_555 hk_606 hk_623 hk_690 hk_707 hk_746 hk_763 hk_802 hk_819 hk_858 hk_875 hk_914 hk_931 hk_942 l4 hl4
                                    · refine r_to [] [] rfl ?_
                                      exact s_lo hk_875
                                · refine r_to [] [] rfl ?_
                                  exact s_lo hk_858
                              · refine s_case (P := True) (fun e91 => ?_) (fun e91 => ?_)
                                · refine s_tabE o e91 dL_law_39 (r32 rfl) rfl rfl (tgt := 880) (by decide) ?_
                                  refine s_aload_n o dL_law_880 rfl 1 rfl ?_
                                  refine s_aload_n o dL_law_881 rfl 0 rfl ?_
                                  refine s_iload o dL_law_882 4 rfl ?_
                                  refine s_iconst o dL_law_884 ?_
                                  refine s_iadd o dL_law_885 ?_
                                  refine s_sld o hS (w32_R _) dL_law_886 (fun v93 hv93 => ?_)
                                  refine s_aload_n o dL_law_887 rfl 3 rfl ?_
                                  refine s_C (P := fun v => ∀ ty, (Option.some Jvm.ClassFile.FieldType.int) = some ty → rg ty v) (st' := fun r => [vI r]) (fun ts m kk => s_csW (d := d + 613) (As := [vA (mg Γ) 1, vI v93, vA (mg Γ) 99]) (st := []) o (sc_X0_about (mg Γ) (d + 604) ts 1 v93 99 hv93) mww_X0_about rfl (lw_all_tbl q2487) (lw_all_tbl q2488) wt_0 rfl dL_law_888 rfl (rs := fun r => [vI r]) (fun _ => rfl) kk) (fun v94 hv94 => ?_)
                                  refine r_istore o dL_law_891 rfl ⟨(Nat.ne_of_beq_eq_false rfl), (fun _ => (vA_cat (mg Γ) (-250))), ⟨(Nat.ne_of_beq_eq_false rfl), (fun _ => (vA_cat (mg Γ) 1)), ⟨(Nat.ne_of_beq_eq_false rfl), (fun _ => (vA_cat (mg Γ) 21)), ⟨(Nat.ne_of_beq_eq_false rfl), (fun _ => (vA_cat (mg Γ) 99)), ⟨(Nat.ne_of_beq_eq_false rfl), (fun _ => rfl), trivial⟩⟩⟩⟩⟩ ?_
                                  refine s_aload_n o dL_law_893 rfl 3 rfl ?_
                                  refine s_aload_n o dL_law_894 rfl 1 rfl ?_
                                  refine s_iload o dL_law_895 5 rfl ?_
                                  refine s_iconst o dL_law_897 ?_
                                  refine s_iadd o dL_law_898 ?_
                                  refine s_sld o hS (w32_R _) dL_law_899 (fun v95 hv95 => ?_)
                                  refine s_T (P := fun v => ∀ ty, (Option.some Jvm.ClassFile.FieldType.int) = some ty → rg ty v) (st' := fun r => [vI r]) (fun h hT m kk => s_cv (d := d + 613) (C := "LazyForgeModel") (As := [vI v95]) (st := []) o (st_about (mg Γ) (d + 613) h hT v95 hv95) mw_X11_about rfl (Or.inl (lw_all_tbl q3444)) (lw_all_tbl q3446) (lw_all_tbl q3445) (fun t => rc_t o hT t) wt_0 rfl dL_law_900 rfl (rs := fun r => [vI r]) (fun _ => rfl) kk) (fun v96 hv96 => ?_)
                                  refine r_istore o dL_law_903 rfl ⟨(Nat.ne_of_beq_eq_false rfl), (fun _ => rfl), ⟨(Nat.ne_of_beq_eq_false rfl), (fun _ => (vA_cat (mg Γ) (-250))), ⟨(Nat.ne_of_beq_eq_false rfl), (fun _ => (vA_cat (mg Γ) 1)), ⟨(Nat.ne_of_beq_eq_false rfl), (fun _ => (vA_cat (mg Γ) 21)), ⟨(Nat.ne_of_beq_eq_false rfl), (fun _ => (vA_cat (mg Γ) 99)), ⟨(Nat.ne_of_beq_eq_false rfl), (fun _ => rfl), trivial⟩⟩⟩⟩⟩⟩ ?_
                                  refine s_aload_n o dL_law_905 rfl 4 rfl ?_
                                  refine s_T (P := fun v => ∀ ty, (Option.some Jvm.ClassFile.FieldType.int) = some ty → rg ty v) (st' := fun r => [vI r]) (fun h hT m kk => s_cv (d := d + 613) (C := "LazyForgeModel") (As := []) (st := []) o (st_thrown (mg Γ) (d + 613) h hT) mw_X11_thrown rfl (Or.inl (lw_all_tbl q2913)) (lw_all_tbl q2915) (lw_all_tbl q2914) (fun t => rc_t o hT t) wt_0 rfl dL_law_906 rfl (rs := fun r => [vI r]) (fun _ => rfl) kk) (fun v97 hv97 => ?_)
                                  refine s_iload o dL_law_909 1 rfl ?_
                                  refine s_icmp_eq (tgt := 916) o dL_law_911 (by decide) (hv97 _ rfl) (hv94 _ rfl) ?_ ?_
                                  · refine s_iload o dL_law_916 1 rfl ?_
                                    refine s_if_ne (tgt := 933) o dL_law_918 (by decide) (hv94 _ rfl) ?_ ?_
                                    · refine r_to [(0, vA (mg Γ) (-250)), (1, vA (mg Γ) 1), (2, vA (mg Γ) 21), (3, vA (mg Γ) 99), (4, vI l4)] [2, 3, 4, 5, 6] rfl ?_
                                      exact sf_law_933 hS o k_146 k_163 k_199 k_215 k_239 k_256 k_295 k_312 k_339 k_356 k_395 k_412 k_463 k_480 k_531 k_555 k_606 k_623 k_690 k_707 k_746 k_763 k_802 k_819 k_858 k_875 k_914 k_931 k_942 hk_146 hk_163 hk_199 hk_215 hk_239 hk_256 hk_295 hk_312 hk_339 hk_356 hk_395 hk_412 hk_463 hk_480 hk_531 hk_555 hk_606 hk_623 hk_690 hk_707 hk_746 hk_763 hk_802 hk_819 hk_858 hk_875 hk_914 hk_931 hk_942 l4 hl4
                                    · refine s_aload_n o dL_law_921 rfl 5 rfl ?_
                                      refine s_iconst o dL_law_922 ?_
                                      refine s_C (P := R64) (st' := fun v => [vJ v]) (fun ts m kk => r_lald o (r32 rfl) dL_law_923 kk) (fun v98 hv98 => ?_)
                                      refine s_iload o dL_law_924 0 rfl ?_
                                      refine s_i2l o dL_law_926 (hv96 _ rfl) ?_
                                      refine s_lcmp_eq (tgt := 933) o dL_law_927 dL_law_928 (by decide) hv98 (rL (hv96 _ rfl)) ?_ ?_
                                      · refine r_to [(0, vA (mg Γ) (-250)), (1, vA (mg Γ) 1), (2, vA (mg Γ) 21), (3, vA (mg Γ) 99), (4, vI l4)] [2, 3, 4, 5, 6] rfl ?_
                                        exact sf_law_933 hS o k_146 k_163 k_199 k_215 k_239 k_256 k_295 k_312 k_339 k_356 k_395 k_412 k_463 k_480 k_531 k_555 k_606 k_623 k_690 k_707 k_746 k_763 k_802 k_819 k_858 k_875 k_914 k_931 k_942 hk_146 hk_163 hk_199 hk_215 hk_239 hk_256 hk_295 hk_312 hk_339 hk_356 hk_395 hk_412 hk_463 hk_480 hk_531 hk_555 hk_606 hk_623 hk_690 hk_707 hk_746 hk_763 hk_802 hk_819 hk_858 hk_875 hk_914 hk_931 hk_942 l4 hl4
                                      · refine r_to [] [] rfl ?_
                                        exact s_lo hk_931
                                  · refine r_to [] [] rfl ?_
                                    exact s_lo hk_914
                                · refine s_tabOut o dL_law_39 (iand_R _ _) (by omega) (tgt := 936) (by decide) ?_
                                  exact sf_law_936 hS o k_146 k_163 k_199 k_215 k_239 k_256 k_295 k_312 k_339 k_356 k_395 k_412 k_463 k_480 k_531 k_555 k_606 k_623 k_690 k_707 k_746 k_763 k_802 k_819 k_858 k_875 k_914 k_931 k_942 hk_146 hk_163 hk_199 hk_215 hk_239 hk_256 hk_295 hk_312 hk_339 hk_356 hk_395 hk_412 hk_463 hk_480 hk_531 hk_555 hk_606 hk_623 hk_690 hk_707 hk_746 hk_763 hk_802 hk_819 hk_858 hk_875 hk_914 hk_931 hk_942 l4 hl4
noncomputable def f_law_23 (scr : Int → Int) (sl : Int) {A : Type} (k_146 : Mo Wd A) (k_163 : Mo Wd A) (k_199 : Mo Wd A) (k_215 : Mo Wd A) (k_239 : Mo Wd A) (k_256 : Mo Wd A) (k_295 : Mo Wd A) (k_312 : Mo Wd A) (k_339 : Mo Wd A) (k_356 : Mo Wd A) (k_395 : Mo Wd A) (k_412 : Mo Wd A) (k_463 : Mo Wd A) (k_480 : Mo Wd A) (k_531 : Mo Wd A) (k_555 : Mo Wd A) (k_606 : Mo Wd A) (k_623 : Mo Wd A) (k_690 : Mo Wd A) (k_707 : Mo Wd A) (k_746 : Mo Wd A) (k_763 : Mo Wd A) (k_802 : Mo Wd A) (k_819 : Mo Wd A) (k_858 : Mo Wd A) (k_875 : Mo Wd A) (k_914 : Mo Wd A) (k_931 : Mo Wd A) (k_942 : Mo Wd A) (l4 : Int) : Mo Wd A := Loop (fun x => f_law_23b scr sl k_146 k_163 k_199 k_215 k_239 k_256 k_295 k_312 k_339 k_356 k_395 k_412 k_463 k_480 k_531 k_555 k_606 k_623 k_690 k_707 k_746 k_763 k_802 k_819 k_858 k_875 k_914 k_931 k_942 x) l4
theorem sf_law_23 {Γ : Gm} {scr : Int → Int} {sl : Int} {d : Nat} (hS : SCR Γ scr sl) (o : Ok Γ "LazyForgeLaw" cL_law 7 (Option.some Jvm.ClassFile.FieldType.boolean) (d + 614)) {A : Type} {K : A → Wd → Prop} (k_146 : Mo Wd A) (k_163 : Mo Wd A) (k_199 : Mo Wd A) (k_215 : Mo Wd A) (k_239 : Mo Wd A) (k_256 : Mo Wd A) (k_295 : Mo Wd A) (k_312 : Mo Wd A) (k_339 : Mo Wd A) (k_356 : Mo Wd A) (k_395 : Mo Wd A) (k_412 : Mo Wd A) (k_463 : Mo Wd A) (k_480 : Mo Wd A) (k_531 : Mo Wd A) (k_555 : Mo Wd A) (k_606 : Mo Wd A) (k_623 : Mo Wd A) (k_690 : Mo Wd A) (k_707 : Mo Wd A) (k_746 : Mo Wd A) (k_763 : Mo Wd A) (k_802 : Mo Wd A) (k_819 : Mo Wd A) (k_858 : Mo Wd A) (k_875 : Mo Wd A) (k_914 : Mo Wd A) (k_931 : Mo Wd A) (k_942 : Mo Wd A) (hk_146 : Sx Γ (fun (w : Wd) => w) K 146 [] [] (k_146)) (hk_163 : Sx Γ (fun (w : Wd) => w) K 163 [] [] (k_163)) (hk_199 : Sx Γ (fun (w : Wd) => w) K 199 [] [] (k_199)) (hk_215 : Sx Γ (fun (w : Wd) => w) K 215 [] [] (k_215)) (hk_239 : Sx Γ (fun (w : Wd) => w) K 239 [] [] (k_239)) (hk_256 : Sx Γ (fun (w : Wd) => w) K 256 [] [] (k_256)) (hk_295 : Sx Γ (fun (w : Wd) => w) K 295 [] [] (k_295)) (hk_312 : Sx Γ (fun (w : Wd) => w) K 312 [] [] (k_312)) (hk_339 : Sx Γ (fun (w : Wd) => w) K 339 [] [] (k_339)) (hk_356 : Sx Γ (fun (w : Wd) => w) K 356 [] [] (k_356)) (hk_395 : Sx Γ (fun (w : Wd) => w) K 395 [] [] (k_395)) (hk_412 : Sx Γ (fun (w : Wd) => w) K 412 [] [] (k_412)) (hk_463 : Sx Γ (fun (w : Wd) => w) K 463 [] [] (k_463)) (hk_480 : Sx Γ (fun (w : Wd) => w) K 480 [] [] (k_480)) (hk_531 : Sx Γ (fun (w : Wd) => w) K 531 [] [] (k_531)) (hk_555 : Sx Γ (fun (w : Wd) => w) K 555 [] [] (k_555)) (hk_606 : Sx Γ (fun (w : Wd) => w) K 606 [] [] (k_606)) (hk_623 : Sx Γ (fun (w : Wd) => w) K 623 [] [] (k_623)) (hk_690 : Sx Γ (fun (w : Wd) => w) K 690 [] [] (k_690)) (hk_707 : Sx Γ (fun (w : Wd) => w) K 707 [] [] (k_707)) (hk_746 : Sx Γ (fun (w : Wd) => w) K 746 [] [] (k_746)) (hk_763 : Sx Γ (fun (w : Wd) => w) K 763 [] [] (k_763)) (hk_802 : Sx Γ (fun (w : Wd) => w) K 802 [] [] (k_802)) (hk_819 : Sx Γ (fun (w : Wd) => w) K 819 [] [] (k_819)) (hk_858 : Sx Γ (fun (w : Wd) => w) K 858 [] [] (k_858)) (hk_875 : Sx Γ (fun (w : Wd) => w) K 875 [] [] (k_875)) (hk_914 : Sx Γ (fun (w : Wd) => w) K 914 [] [] (k_914)) (hk_931 : Sx Γ (fun (w : Wd) => w) K 931 [] [] (k_931)) (hk_942 : Sx Γ (fun (w : Wd) => w) K 942 [] [] (k_942)) (l4 : Int) (hl4 : R32 l4) : Sx Γ (fun (w : Wd) => w) K 23 [(0, vA (mg Γ) (-250)), (1, vA (mg Γ) 1), (2, vA (mg Γ) 21), (3, vA (mg Γ) 99), (4, vI l4)] [] (f_law_23 scr sl k_146 k_163 k_199 k_215 k_239 k_256 k_295 k_312 k_339 k_356 k_395 k_412 k_463 k_480 k_531 k_555 k_606 k_623 k_690 k_707 k_746 k_763 k_802 k_819 k_858 k_875 k_914 k_931 k_942 l4) :=
  s_loop okf_law_23 (lvf_law_23 Γ) (fun x hx => sf_law_23b hS o k_146 k_163 k_199 k_215 k_239 k_256 k_295 k_312 k_339 k_356 k_395 k_412 k_463 k_480 k_531 k_555 k_606 k_623 k_690 k_707 k_746 k_763 k_802 k_819 k_858 k_875 k_914 k_931 k_942 hk_146 hk_163 hk_199 hk_215 hk_239 hk_256 hk_295 hk_312 hk_339 hk_356 hk_395 hk_412 hk_463 hk_480 hk_531 hk_555 hk_606 hk_623 hk_690 hk_707 hk_746 hk_763 hk_802 hk_819 hk_858 hk_875 hk_914 hk_931 hk_942 x hx) (x := l4) hl4
noncomputable def f_law (scr : Int → Int) (sl : Int) : Mo Wd Int :=
  f_law_23 scr sl
    (pr 0)
    (pr 0)
    (pr 0)
    (pr 0)
    (pr 0)
    (pr 0)
    (pr 0)
    (pr 0)
    (pr 0)
    (pr 0)
    (pr 0)
    (pr 0)
    (pr 0)
    (pr 0)
    (pr 0)
    (pr 0)
    (pr 0)
    (pr 0)
    (pr 0)
    (pr 0)
    (pr 0)
    (pr 0)
    (pr 0)
    (pr 0)
    (pr 0)
    (pr 0)
    (pr 0)
    (pr 0)
    (pr 1) 0
theorem sf_law {Γ : Gm} {scr : Int → Int} {sl : Int} {d : Nat} (hS : SCR Γ scr sl) (o : Ok Γ "LazyForgeLaw" cL_law 7 (Option.some Jvm.ClassFile.FieldType.boolean) (d + 614)) : Sx Γ (fun (w : Wd) => w) (fun a (s : Wd) => mt Γ = (0, a, s)) 20 [(0, vA (mg Γ) (-250)), (1, vA (mg Γ) 1), (2, vA (mg Γ) 21), (3, vA (mg Γ) 99)] [] (f_law scr sl) := by
  unfold f_law
  refine s_iconst o dL_law_20 ?_
  refine r_istore o dL_law_21 rfl ⟨(Nat.ne_of_beq_eq_false rfl), (fun _ => (vA_cat (mg Γ) (-250))), ⟨(Nat.ne_of_beq_eq_false rfl), (fun _ => (vA_cat (mg Γ) 1)), ⟨(Nat.ne_of_beq_eq_false rfl), (fun _ => (vA_cat (mg Γ) 21)), ⟨(Nat.ne_of_beq_eq_false rfl), (fun _ => (vA_cat (mg Γ) 99)), trivial⟩⟩⟩⟩ ?_
  refine r_to [(0, vA (mg Γ) (-250)), (1, vA (mg Γ) 1), (2, vA (mg Γ) 21), (3, vA (mg Γ) 99), (4, vI 0)] [1, 2, 3, 4, 0] rfl ?_
  refine sf_law_23 hS o _ _ _ _ _ _ _ _ _ _ _ _ _ _ _ _ _ _ _ _ _ _ _ _ _ _ _ _ _ ?_ ?_ ?_ ?_ ?_ ?_ ?_ ?_ ?_ ?_ ?_ ?_ ?_ ?_ ?_ ?_ ?_ ?_ ?_ ?_ ?_ ?_ ?_ ?_ ?_ ?_ ?_ ?_ ?_ 0 (r32 rfl)
  · refine s_iconst o dL_law_146 ?_
    exact s_iret o rfl i_boolean (Or.inl rfl) dL_law_147 (fun _ hh => hh)
  · refine s_iconst o dL_law_163 ?_
    exact s_iret o rfl i_boolean (Or.inl rfl) dL_law_164 (fun _ hh => hh)
  · refine s_iconst o dL_law_199 ?_
    exact s_iret o rfl i_boolean (Or.inl rfl) dL_law_200 (fun _ hh => hh)
  · refine s_iconst o dL_law_215 ?_
    exact s_iret o rfl i_boolean (Or.inl rfl) dL_law_216 (fun _ hh => hh)
  · refine s_iconst o dL_law_239 ?_
    exact s_iret o rfl i_boolean (Or.inl rfl) dL_law_240 (fun _ hh => hh)
  · refine s_iconst o dL_law_256 ?_
    exact s_iret o rfl i_boolean (Or.inl rfl) dL_law_257 (fun _ hh => hh)
  · refine s_iconst o dL_law_295 ?_
    exact s_iret o rfl i_boolean (Or.inl rfl) dL_law_296 (fun _ hh => hh)
  · refine s_iconst o dL_law_312 ?_
    exact s_iret o rfl i_boolean (Or.inl rfl) dL_law_313 (fun _ hh => hh)
  · refine s_iconst o dL_law_339 ?_
    exact s_iret o rfl i_boolean (Or.inl rfl) dL_law_340 (fun _ hh => hh)
  · refine s_iconst o dL_law_356 ?_
    exact s_iret o rfl i_boolean (Or.inl rfl) dL_law_357 (fun _ hh => hh)
  · refine s_iconst o dL_law_395 ?_
    exact s_iret o rfl i_boolean (Or.inl rfl) dL_law_396 (fun _ hh => hh)
  · refine s_iconst o dL_law_412 ?_
    exact s_iret o rfl i_boolean (Or.inl rfl) dL_law_413 (fun _ hh => hh)
  · refine s_iconst o dL_law_463 ?_
    exact s_iret o rfl i_boolean (Or.inl rfl) dL_law_464 (fun _ hh => hh)
  · refine s_iconst o dL_law_480 ?_
    exact s_iret o rfl i_boolean (Or.inl rfl) dL_law_481 (fun _ hh => hh)
  · refine s_iconst o dL_law_531 ?_
    exact s_iret o rfl i_boolean (Or.inl rfl) dL_law_532 (fun _ hh => hh)
  · refine s_iconst o dL_law_555 ?_
    exact s_iret o rfl i_boolean (Or.inl rfl) dL_law_556 (fun _ hh => hh)
  · refine s_iconst o dL_law_606 ?_
    exact s_iret o rfl i_boolean (Or.inl rfl) dL_law_607 (fun _ hh => hh)
  · refine s_iconst o dL_law_623 ?_
    exact s_iret o rfl i_boolean (Or.inl rfl) dL_law_624 (fun _ hh => hh)
  · refine s_iconst o dL_law_690 ?_
    exact s_iret o rfl i_boolean (Or.inl rfl) dL_law_691 (fun _ hh => hh)
  · refine s_iconst o dL_law_707 ?_
    exact s_iret o rfl i_boolean (Or.inl rfl) dL_law_708 (fun _ hh => hh)
  · refine s_iconst o dL_law_746 ?_
    exact s_iret o rfl i_boolean (Or.inl rfl) dL_law_747 (fun _ hh => hh)
  · refine s_iconst o dL_law_763 ?_
    exact s_iret o rfl i_boolean (Or.inl rfl) dL_law_764 (fun _ hh => hh)
  · refine s_iconst o dL_law_802 ?_
    exact s_iret o rfl i_boolean (Or.inl rfl) dL_law_803 (fun _ hh => hh)
  · refine s_iconst o dL_law_819 ?_
    exact s_iret o rfl i_boolean (Or.inl rfl) dL_law_820 (fun _ hh => hh)
  · refine s_iconst o dL_law_858 ?_
    exact s_iret o rfl i_boolean (Or.inl rfl) dL_law_859 (fun _ hh => hh)
  · refine s_iconst o dL_law_875 ?_
    exact s_iret o rfl i_boolean (Or.inl rfl) dL_law_876 (fun _ hh => hh)
  · refine s_iconst o dL_law_914 ?_
    exact s_iret o rfl i_boolean (Or.inl rfl) dL_law_915 (fun _ hh => hh)
  · refine s_iconst o dL_law_931 ?_
    exact s_iret o rfl i_boolean (Or.inl rfl) dL_law_932 (fun _ hh => hh)
  · refine s_iconst o dL_law_942 ?_
    exact s_iret o rfl i_boolean (Or.inr rfl) dL_law_943 (fun _ hh => hh)

/-! PRINTED: the component, 185 to 215 -/
set_option maxRecDepth 100000
theorem dX14_resolve_0 : decode cX14_resolve 0 = .ok (.iconst 0, 1) := by decide +kernel
theorem dX14_resolve_1 : decode cX14_resolve 1 = .ok (.istore_n 1, 1) := by decide +kernel
theorem dX14_resolve_2 : decode cX14_resolve 2 = .ok (.iload_n 1, 1) := by decide +kernel
theorem dX14_resolve_3 : decode cX14_resolve 3 = .ok (.aload_n 0, 1) := by decide +kernel
theorem dX14_resolve_4 : decode cX14_resolve 4 = .ok (.getfield 39, 3) := by decide +kernel
theorem dX14_resolve_7 : decode cX14_resolve 7 = .ok (.getfield 55, 3) := by decide +kernel
theorem dX14_resolve_10 : decode cX14_resolve 10 = .ok (.if_icmp .ge 66, 3) := by decide +kernel
theorem dX14_resolve_13 : decode cX14_resolve 13 = .ok (.new 60, 3) := by decide +kernel
theorem dX14_resolve_16 : decode cX14_resolve 16 = .ok (.dup, 1) := by decide +kernel
theorem dX14_resolve_17 : decode cX14_resolve 17 = .ok (.iload_n 1, 1) := by decide +kernel
theorem dX14_resolve_18 : decode cX14_resolve 18 = .ok (.aload_n 0, 1) := by decide +kernel
theorem dX14_resolve_19 : decode cX14_resolve 19 = .ok (.getfield 39, 3) := by decide +kernel
theorem dX14_resolve_22 : decode cX14_resolve 22 = .ok (.getfield 62, 3) := by decide +kernel
theorem dX14_resolve_25 : decode cX14_resolve 25 = .ok (.iload_n 1, 1) := by decide +kernel
theorem dX14_resolve_26 : decode cX14_resolve 26 = .ok (.iaload, 1) := by decide +kernel
theorem dX14_resolve_27 : decode cX14_resolve 27 = .ok (.aconst_null, 1) := by decide +kernel
theorem dX14_resolve_28 : decode cX14_resolve 28 = .ok (.invokespecial 66, 3) := by decide +kernel
theorem dX14_resolve_31 : decode cX14_resolve 31 = .ok (.astore_n 2, 1) := by decide +kernel
theorem dX14_resolve_32 : decode cX14_resolve 32 = .ok (.aload_n 0, 1) := by decide +kernel
theorem dX14_resolve_33 : decode cX14_resolve 33 = .ok (.getfield 12, 3) := by decide +kernel
theorem dX14_resolve_36 : decode cX14_resolve 36 = .ok (.getfield 69, 3) := by decide +kernel
theorem dX14_resolve_39 : decode cX14_resolve 39 = .ok (.aload_n 2, 1) := by decide +kernel
theorem dX14_resolve_40 : decode cX14_resolve 40 = .ok (.invokevirtual 71, 3) := by decide +kernel
theorem dX14_resolve_43 : decode cX14_resolve 43 = .ok (.pop, 1) := by decide +kernel
theorem dX14_resolve_44 : decode cX14_resolve 44 = .ok (.aload_n 0, 1) := by decide +kernel
theorem dX14_resolve_45 : decode cX14_resolve 45 = .ok (.getfield 39, 3) := by decide +kernel
theorem dX14_resolve_48 : decode cX14_resolve 48 = .ok (.getfield 75, 3) := by decide +kernel
theorem dX14_resolve_51 : decode cX14_resolve 51 = .ok (.iload_n 1, 1) := by decide +kernel
theorem dX14_resolve_52 : decode cX14_resolve 52 = .ok (.laload, 1) := by decide +kernel
theorem dX14_resolve_53 : decode cX14_resolve 53 = .ok (.ldc 76, 2) := by decide +kernel
theorem dX14_resolve_55 : decode cX14_resolve 55 = .ok (.invokestatic 78, 3) := by decide +kernel
theorem dX14_resolve_58 : decode cX14_resolve 58 = .ok (.lcmp, 1) := by decide +kernel
theorem dX14_resolve_59 : decode cX14_resolve 59 = .ok (.ifCond .ne 11, 3) := by decide +kernel
theorem dX14_resolve_62 : decode cX14_resolve 62 = .ok (.aload_n 0, 1) := by decide +kernel
theorem dX14_resolve_63 : decode cX14_resolve 63 = .ok (.getfield 12, 3) := by decide +kernel
theorem dX14_resolve_66 : decode cX14_resolve 66 = .ok (.iload_n 1, 1) := by decide +kernel
theorem dX14_resolve_67 : decode cX14_resolve 67 = .ok (.putfield 82, 3) := by decide +kernel
theorem dX14_resolve_70 : decode cX14_resolve 70 = .ok (.iinc 1 1, 3) := by decide +kernel
theorem dX14_resolve_73 : decode cX14_resolve 73 = .ok (.goto (-71), 3) := by decide +kernel
theorem dX14_resolve_76 : decode cX14_resolve 76 = .ok (.iconst 0, 1) := by decide +kernel
theorem dX14_resolve_77 : decode cX14_resolve 77 = .ok (.istore_n 1, 1) := by decide +kernel
theorem dX14_resolve_78 : decode cX14_resolve 78 = .ok (.iload_n 1, 1) := by decide +kernel
theorem dX14_resolve_79 : decode cX14_resolve 79 = .ok (.aload_n 0, 1) := by decide +kernel
theorem dX14_resolve_80 : decode cX14_resolve 80 = .ok (.getfield 39, 3) := by decide +kernel
theorem dX14_resolve_83 : decode cX14_resolve 83 = .ok (.getfield 55, 3) := by decide +kernel
theorem dX14_resolve_86 : decode cX14_resolve 86 = .ok (.if_icmp .ge 52, 3) := by decide +kernel
theorem dX14_resolve_89 : decode cX14_resolve 89 = .ok (.aload_n 0, 1) := by decide +kernel
theorem dX14_resolve_90 : decode cX14_resolve 90 = .ok (.getfield 52, 3) := by decide +kernel
theorem dX14_resolve_93 : decode cX14_resolve 93 = .ok (.ifCond .ne 45, 3) := by decide +kernel
theorem dX14_resolve_96 : decode cX14_resolve 96 = .ok (.aload_n 0, 1) := by decide +kernel
theorem dX14_resolve_97 : decode cX14_resolve 97 = .ok (.aload_n 0, 1) := by decide +kernel
theorem dX14_resolve_98 : decode cX14_resolve 98 = .ok (.getfield 12, 3) := by decide +kernel
theorem dX14_resolve_101 : decode cX14_resolve 101 = .ok (.getfield 69, 3) := by decide +kernel
theorem dX14_resolve_104 : decode cX14_resolve 104 = .ok (.iload_n 1, 1) := by decide +kernel
theorem dX14_resolve_105 : decode cX14_resolve 105 = .ok (.invokevirtual 84, 3) := by decide +kernel
theorem dX14_resolve_108 : decode cX14_resolve 108 = .ok (.checkcast 60, 3) := by decide +kernel
theorem dX14_resolve_111 : decode cX14_resolve 111 = .ok (.aload_n 0, 1) := by decide +kernel
theorem dX14_resolve_112 : decode cX14_resolve 112 = .ok (.getfield 39, 3) := by decide +kernel
theorem dX14_resolve_115 : decode cX14_resolve 115 = .ok (.getfield 88, 3) := by decide +kernel
theorem dX14_resolve_118 : decode cX14_resolve 118 = .ok (.iload_n 1, 1) := by decide +kernel
theorem dX14_resolve_119 : decode cX14_resolve 119 = .ok (.aaload, 1) := by decide +kernel
theorem dX14_resolve_120 : decode cX14_resolve 120 = .ok (.aload_n 0, 1) := by decide +kernel
theorem dX14_resolve_121 : decode cX14_resolve 121 = .ok (.getfield 39, 3) := by decide +kernel
theorem dX14_resolve_124 : decode cX14_resolve 124 = .ok (.getfield 92, 3) := by decide +kernel
theorem dX14_resolve_127 : decode cX14_resolve 127 = .ok (.iload_n 1, 1) := by decide +kernel
theorem dX14_resolve_128 : decode cX14_resolve 128 = .ok (.aaload, 1) := by decide +kernel
theorem dX14_resolve_129 : decode cX14_resolve 129 = .ok (.invokevirtual 96, 3) := by decide +kernel
theorem dX14_resolve_132 : decode cX14_resolve 132 = .ok (.iinc 1 1, 3) := by decide +kernel
theorem dX14_resolve_135 : decode cX14_resolve 135 = .ok (.goto (-57), 3) := by decide +kernel
theorem dX14_resolve_138 : decode cX14_resolve 138 = .ok (.aload_n 0, 1) := by decide +kernel
theorem dX14_resolve_139 : decode cX14_resolve 139 = .ok (.getfield 52, 3) := by decide +kernel
theorem dX14_resolve_142 : decode cX14_resolve 142 = .ok (.ifCond .eq 5, 3) := by decide +kernel
theorem dX14_resolve_145 : decode cX14_resolve 145 = .ok (.aconst_null, 1) := by decide +kernel
theorem dX14_resolve_146 : decode cX14_resolve 146 = .ok (.areturn, 1) := by decide +kernel
theorem dX14_resolve_147 : decode cX14_resolve 147 = .ok (.iconst 0, 1) := by decide +kernel
theorem dX14_resolve_148 : decode cX14_resolve 148 = .ok (.istore_n 1, 1) := by decide +kernel
theorem dX14_resolve_149 : decode cX14_resolve 149 = .ok (.iload_n 1, 1) := by decide +kernel
theorem dX14_resolve_150 : decode cX14_resolve 150 = .ok (.aload_n 0, 1) := by decide +kernel
theorem dX14_resolve_151 : decode cX14_resolve 151 = .ok (.getfield 12, 3) := by decide +kernel
theorem dX14_resolve_154 : decode cX14_resolve 154 = .ok (.getfield 69, 3) := by decide +kernel
theorem dX14_resolve_157 : decode cX14_resolve 157 = .ok (.invokevirtual 100, 3) := by decide +kernel
theorem dX14_resolve_160 : decode cX14_resolve 160 = .ok (.if_icmp .ge 55, 3) := by decide +kernel
theorem dX14_resolve_163 : decode cX14_resolve 163 = .ok (.aload_n 0, 1) := by decide +kernel
theorem dX14_resolve_164 : decode cX14_resolve 164 = .ok (.getfield 12, 3) := by decide +kernel
theorem dX14_resolve_167 : decode cX14_resolve 167 = .ok (.getfield 69, 3) := by decide +kernel
theorem dX14_resolve_170 : decode cX14_resolve 170 = .ok (.iload_n 1, 1) := by decide +kernel
theorem dX14_resolve_171 : decode cX14_resolve 171 = .ok (.invokevirtual 84, 3) := by decide +kernel
theorem dX14_resolve_174 : decode cX14_resolve 174 = .ok (.checkcast 60, 3) := by decide +kernel
theorem dX14_resolve_177 : decode cX14_resolve 177 = .ok (.invokevirtual 104, 3) := by decide +kernel
theorem dX14_resolve_180 : decode cX14_resolve 180 = .ok (.bipush 8, 2) := by decide +kernel
theorem dX14_resolve_182 : decode cX14_resolve 182 = .ok (.if_icmp .le 27, 3) := by decide +kernel
theorem dX14_resolve_185 : decode cX14_resolve 185 = .ok (.aload_n 0, 1) := by decide +kernel
theorem dX14_resolve_186 : decode cX14_resolve 186 = .ok (.bipush 6, 2) := by decide +kernel
theorem dX14_resolve_188 : decode cX14_resolve 188 = .ok (.aload_n 0, 1) := by decide +kernel
theorem dX14_resolve_189 : decode cX14_resolve 189 = .ok (.getfield 12, 3) := by decide +kernel
theorem dX14_resolve_192 : decode cX14_resolve 192 = .ok (.getfield 69, 3) := by decide +kernel
theorem dX14_resolve_195 : decode cX14_resolve 195 = .ok (.iload_n 1, 1) := by decide +kernel
theorem dX14_resolve_196 : decode cX14_resolve 196 = .ok (.invokevirtual 84, 3) := by decide +kernel
theorem dX14_resolve_199 : decode cX14_resolve 199 = .ok (.checkcast 60, 3) := by decide +kernel
theorem dX14_resolve_202 : decode cX14_resolve 202 = .ok (.getfield 106, 3) := by decide +kernel
theorem dX14_resolve_205 : decode cX14_resolve 205 = .ok (.invokevirtual 107, 3) := by decide +kernel
theorem dX14_resolve_208 : decode cX14_resolve 208 = .ok (.pop, 1) := by decide +kernel
theorem dX14_resolve_209 : decode cX14_resolve 209 = .ok (.iinc 1 1, 3) := by decide +kernel
theorem dX14_resolve_212 : decode cX14_resolve 212 = .ok (.goto (-63), 3) := by decide +kernel
theorem dX14_resolve_215 : decode cX14_resolve 215 = .ok (.aload_n 0, 1) := by decide +kernel
theorem dX14_resolve_216 : decode cX14_resolve 216 = .ok (.getfield 12, 3) := by decide +kernel
theorem dX14_resolve_219 : decode cX14_resolve 219 = .ok (.getfield 82, 3) := by decide +kernel
theorem dX14_resolve_222 : decode cX14_resolve 222 = .ok (.iconst (-1), 1) := by decide +kernel
theorem dX14_resolve_223 : decode cX14_resolve 223 = .ok (.if_icmp .eq 29, 3) := by decide +kernel
theorem dX14_resolve_226 : decode cX14_resolve 226 = .ok (.aload_n 0, 1) := by decide +kernel
theorem dX14_resolve_227 : decode cX14_resolve 227 = .ok (.getfield 12, 3) := by decide +kernel
theorem dX14_resolve_230 : decode cX14_resolve 230 = .ok (.getfield 69, 3) := by decide +kernel
theorem dX14_resolve_233 : decode cX14_resolve 233 = .ok (.aload_n 0, 1) := by decide +kernel
theorem dX14_resolve_234 : decode cX14_resolve 234 = .ok (.getfield 12, 3) := by decide +kernel
theorem dX14_resolve_237 : decode cX14_resolve 237 = .ok (.getfield 82, 3) := by decide +kernel
theorem dX14_resolve_240 : decode cX14_resolve 240 = .ok (.invokevirtual 84, 3) := by decide +kernel
theorem dX14_resolve_243 : decode cX14_resolve 243 = .ok (.checkcast 60, 3) := by decide +kernel
theorem dX14_resolve_246 : decode cX14_resolve 246 = .ok (.invokevirtual 104, 3) := by decide +kernel
theorem dX14_resolve_249 : decode cX14_resolve 249 = .ok (.ifCond .le 11, 3) := by decide +kernel
theorem dX14_resolve_252 : decode cX14_resolve 252 = .ok (.aload_n 0, 1) := by decide +kernel
theorem dX14_resolve_253 : decode cX14_resolve 253 = .ok (.bipush 7, 2) := by decide +kernel
theorem dX14_resolve_255 : decode cX14_resolve 255 = .ok (.iconst 0, 1) := by decide +kernel
theorem dX14_resolve_256 : decode cX14_resolve 256 = .ok (.invokevirtual 107, 3) := by decide +kernel
theorem dX14_resolve_259 : decode cX14_resolve 259 = .ok (.pop, 1) := by decide +kernel
theorem dX14_resolve_260 : decode cX14_resolve 260 = .ok (.iconst 0, 1) := by decide +kernel
theorem dX14_resolve_261 : decode cX14_resolve 261 = .ok (.istore_n 1, 1) := by decide +kernel
theorem dX14_resolve_262 : decode cX14_resolve 262 = .ok (.iload_n 1, 1) := by decide +kernel
theorem dX14_resolve_263 : decode cX14_resolve 263 = .ok (.aload_n 0, 1) := by decide +kernel
theorem dX14_resolve_264 : decode cX14_resolve 264 = .ok (.getfield 12, 3) := by decide +kernel
theorem dX14_resolve_267 : decode cX14_resolve 267 = .ok (.getfield 69, 3) := by decide +kernel
theorem dX14_resolve_270 : decode cX14_resolve 270 = .ok (.invokevirtual 100, 3) := by decide +kernel
theorem dX14_resolve_273 : decode cX14_resolve 273 = .ok (.if_icmp .ge 60, 3) := by decide +kernel
theorem dX14_resolve_276 : decode cX14_resolve 276 = .ok (.aload_n 0, 1) := by decide +kernel
theorem dX14_resolve_277 : decode cX14_resolve 277 = .ok (.getfield 12, 3) := by decide +kernel
theorem dX14_resolve_280 : decode cX14_resolve 280 = .ok (.getfield 69, 3) := by decide +kernel
theorem dX14_resolve_283 : decode cX14_resolve 283 = .ok (.iload_n 1, 1) := by decide +kernel
theorem dX14_resolve_284 : decode cX14_resolve 284 = .ok (.invokevirtual 84, 3) := by decide +kernel
theorem dX14_resolve_287 : decode cX14_resolve 287 = .ok (.checkcast 60, 3) := by decide +kernel
theorem dX14_resolve_290 : decode cX14_resolve 290 = .ok (.astore_n 2, 1) := by decide +kernel
theorem dX14_resolve_291 : decode cX14_resolve 291 = .ok (.aload_n 2, 1) := by decide +kernel
theorem dX14_resolve_292 : decode cX14_resolve 292 = .ok (.invokevirtual 111, 3) := by decide +kernel
theorem dX14_resolve_295 : decode cX14_resolve 295 = .ok (.aload_n 2, 1) := by decide +kernel
theorem dX14_resolve_296 : decode cX14_resolve 296 = .ok (.getfield 114, 3) := by decide +kernel
theorem dX14_resolve_299 : decode cX14_resolve 299 = .ok (.getfield 118, 3) := by decide +kernel
theorem dX14_resolve_302 : decode cX14_resolve 302 = .ok (.bipush 40, 2) := by decide +kernel
theorem dX14_resolve_304 : decode cX14_resolve 304 = .ok (.if_icmp .gt 12, 3) := by decide +kernel
theorem dX14_resolve_307 : decode cX14_resolve 307 = .ok (.aload_n 2, 1) := by decide +kernel
theorem dX14_resolve_308 : decode cX14_resolve 308 = .ok (.invokevirtual 123, 3) := by decide +kernel
theorem dX14_resolve_311 : decode cX14_resolve 311 = .ok (.bipush 40, 2) := by decide +kernel
theorem dX14_resolve_313 : decode cX14_resolve 313 = .ok (.if_icmp .le 14, 3) := by decide +kernel
theorem dX14_resolve_316 : decode cX14_resolve 316 = .ok (.aload_n 0, 1) := by decide +kernel
theorem dX14_resolve_317 : decode cX14_resolve 317 = .ok (.bipush 8, 2) := by decide +kernel
theorem dX14_resolve_319 : decode cX14_resolve 319 = .ok (.aload_n 2, 1) := by decide +kernel
theorem dX14_resolve_320 : decode cX14_resolve 320 = .ok (.getfield 106, 3) := by decide +kernel
theorem dX14_resolve_323 : decode cX14_resolve 323 = .ok (.invokevirtual 107, 3) := by decide +kernel
theorem dX14_resolve_326 : decode cX14_resolve 326 = .ok (.pop, 1) := by decide +kernel
theorem dX14_resolve_327 : decode cX14_resolve 327 = .ok (.iinc 1 1, 3) := by decide +kernel
theorem dX14_resolve_330 : decode cX14_resolve 330 = .ok (.goto (-68), 3) := by decide +kernel
theorem dX14_resolve_333 : decode cX14_resolve 333 = .ok (.iconst 0, 1) := by decide +kernel
theorem dX14_resolve_334 : decode cX14_resolve 334 = .ok (.istore_n 1, 1) := by decide +kernel
theorem dX14_resolve_335 : decode cX14_resolve 335 = .ok (.iload_n 1, 1) := by decide +kernel
theorem dX14_resolve_336 : decode cX14_resolve 336 = .ok (.aload_n 0, 1) := by decide +kernel
theorem dX14_resolve_337 : decode cX14_resolve 337 = .ok (.getfield 31, 3) := by decide +kernel
theorem dX14_resolve_340 : decode cX14_resolve 340 = .ok (.invokevirtual 100, 3) := by decide +kernel
theorem dX14_resolve_343 : decode cX14_resolve 343 = .ok (.if_icmp .ge 23, 3) := by decide +kernel
theorem dX14_resolve_346 : decode cX14_resolve 346 = .ok (.aload_n 0, 1) := by decide +kernel
theorem dX14_resolve_347 : decode cX14_resolve 347 = .ok (.getfield 31, 3) := by decide +kernel
theorem dX14_resolve_350 : decode cX14_resolve 350 = .ok (.iload_n 1, 1) := by decide +kernel
theorem dX14_resolve_351 : decode cX14_resolve 351 = .ok (.invokevirtual 84, 3) := by decide +kernel
theorem dX14_resolve_354 : decode cX14_resolve 354 = .ok (.checkcast 125, 3) := by decide +kernel
theorem dX14_resolve_357 : decode cX14_resolve 357 = .ok (.invokevirtual 127, 3) := by decide +kernel
theorem dX14_resolve_360 : decode cX14_resolve 360 = .ok (.iinc 1 1, 3) := by decide +kernel
theorem dX14_resolve_363 : decode cX14_resolve 363 = .ok (.goto (-28), 3) := by decide +kernel
theorem dX14_resolve_366 : decode cX14_resolve 366 = .ok (.aload_n 0, 1) := by decide +kernel
theorem dX14_resolve_367 : decode cX14_resolve 367 = .ok (.getfield 12, 3) := by decide +kernel
theorem dX14_resolve_370 : decode cX14_resolve 370 = .ok (.aload_n 0, 1) := by decide +kernel
theorem dX14_resolve_371 : decode cX14_resolve 371 = .ok (.getfield 39, 3) := by decide +kernel
theorem dX14_resolve_374 : decode cX14_resolve 374 = .ok (.getfield 130, 3) := by decide +kernel
theorem dX14_resolve_377 : decode cX14_resolve 377 = .ok (.putfield 133, 3) := by decide +kernel
theorem dX14_resolve_380 : decode cX14_resolve 380 = .ok (.aload_n 0, 1) := by decide +kernel
theorem dX14_resolve_381 : decode cX14_resolve 381 = .ok (.getfield 12, 3) := by decide +kernel
theorem dX14_resolve_384 : decode cX14_resolve 384 = .ok (.aload_n 0, 1) := by decide +kernel
theorem dX14_resolve_385 : decode cX14_resolve 385 = .ok (.getfield 39, 3) := by decide +kernel
theorem dX14_resolve_388 : decode cX14_resolve 388 = .ok (.getfield 134, 3) := by decide +kernel
theorem dX14_resolve_391 : decode cX14_resolve 391 = .ok (.putfield 137, 3) := by decide +kernel
theorem dX14_resolve_394 : decode cX14_resolve 394 = .ok (.aload_n 0, 1) := by decide +kernel
theorem dX14_resolve_395 : decode cX14_resolve 395 = .ok (.getfield 12, 3) := by decide +kernel
theorem dX14_resolve_398 : decode cX14_resolve 398 = .ok (.aload_n 0, 1) := by decide +kernel
theorem dX14_resolve_399 : decode cX14_resolve 399 = .ok (.getfield 39, 3) := by decide +kernel
theorem dX14_resolve_402 : decode cX14_resolve 402 = .ok (.getfield 138, 3) := by decide +kernel
theorem dX14_resolve_405 : decode cX14_resolve 405 = .ok (.putfield 141, 3) := by decide +kernel
theorem dX14_resolve_408 : decode cX14_resolve 408 = .ok (.aload_n 0, 1) := by decide +kernel
theorem dX14_resolve_409 : decode cX14_resolve 409 = .ok (.getfield 12, 3) := by decide +kernel
theorem dX14_resolve_412 : decode cX14_resolve 412 = .ok (.aload_n 0, 1) := by decide +kernel
theorem dX14_resolve_413 : decode cX14_resolve 413 = .ok (.getfield 39, 3) := by decide +kernel
theorem dX14_resolve_416 : decode cX14_resolve 416 = .ok (.getfield 142, 3) := by decide +kernel
theorem dX14_resolve_419 : decode cX14_resolve 419 = .ok (.putfield 145, 3) := by decide +kernel
theorem dX14_resolve_422 : decode cX14_resolve 422 = .ok (.aload_n 0, 1) := by decide +kernel
theorem dX14_resolve_423 : decode cX14_resolve 423 = .ok (.getfield 52, 3) := by decide +kernel
theorem dX14_resolve_426 : decode cX14_resolve 426 = .ok (.ifCond .ne 10, 3) := by decide +kernel
theorem dX14_resolve_429 : decode cX14_resolve 429 = .ok (.aload_n 0, 1) := by decide +kernel
theorem dX14_resolve_430 : decode cX14_resolve 430 = .ok (.getfield 12, 3) := by decide +kernel
theorem dX14_resolve_433 : decode cX14_resolve 433 = .ok (.goto 4, 3) := by decide +kernel
theorem dX14_resolve_436 : decode cX14_resolve 436 = .ok (.aconst_null, 1) := by decide +kernel
theorem dX14_resolve_437 : decode cX14_resolve 437 = .ok (.areturn, 1) := by decide +kernel
theorem mw_X14_resolve : MW yX14_resolve (Cond.code yX14_resolve cX14_resolve 3 (Option.some (Jvm.ClassFile.FieldType.object "LazyForge$Program"))) cX14_resolve 3 (Option.some (Jvm.ClassFile.FieldType.object "LazyForge$Program")) 0 := ⟨rfl, ⟨(lw_all_tbl q1134), rfl, (lw_all_tbl q188)⟩, rfl, ⟨by decide, by decide⟩, by decide +kernel⟩
abbrev okc_X14_resolve_335 (x : Int × Int) : Prop := R32 x.2
abbrev lvc_X14_resolve_335 (Γ : Gm) (x : Int × Int) : List (Nat × Value) := [(0, vA (mg Γ) x.1), (1, vI x.2)]
noncomputable def c_X14_resolve_335b {A : Type} (k_366 : Int → Mo CH A) (l0 : Int) (l1 : Int) : Mo CH ((Int × Int) ⊕ A) :=
  bnd (gf [114] 5 l0) fun v1 =>
  bnd (isk 127 v1) fun _ =>
  bnd (c_J13_size v1) fun v2 =>
  if v2 ≤ l1 then
    lo (k_366 l0)
  else
    bnd (gf [114] 5 l0) fun v3 =>
    bnd (isk 127 v3) fun _ =>
    bnd (c_J13_get v3 l1) fun v4 =>
    bnd (ckk [120] v4) fun _ =>
    bnd (isk 120 v4) fun _ =>
    bnd (c_X20_settle v4) fun _ =>
    pr (.inl (l0, (w32 (l1 + 1))))
theorem sc_X14_resolve_335b {Γ : Gm} {ts : TS} {d : Nat} (o : Ok Γ "LazyForge$Resolver" cX14_resolve 3 (Option.some (Jvm.ClassFile.FieldType.object "LazyForge$Program")) (d + 610)) {A : Type} {K : A → CH → Prop} (k_366 : Int → Mo CH A) (hk_366 : ∀ (l0 : Int), Sx Γ (fun h => (h, ts)) K 366 [(0, vA (mg Γ) l0)] [] (k_366 l0)) (l0 : Int) (l1 : Int) (hl1 : R32 l1) : Sx Γ (fun h => (h, ts)) (KL Γ (fun h => (h, ts)) okc_X14_resolve_335 K 335 (lvc_X14_resolve_335 Γ) []) 335 [(0, vA (mg Γ) l0), (1, vI l1)] [] (c_X14_resolve_335b k_366 l0 l1) := by
  unfold c_X14_resolve_335b
  refine s_iload_n o dX14_resolve_335 rfl 1 rfl ?_
  refine s_aload_n o dX14_resolve_336 rfl 0 rfl ?_
  refine r_getf (vA (mg Γ)) rfl o cf_X14_uses (Or.inl (lw_all_tbl q1109)) dX14_resolve_337 (fun v1 hv1 => ?_)
  refine s_cvC (d := d + 609) (As := []) (st := [vI l1]) (c := 27) o (sc_J13_size (mg Γ) (d + 609) ts v1) mw_J13_size rfl (Or.inl (lw_all_tbl q1357)) rfl (lw_all_tbl q1359) (lw_all_tbl q1358) (wt_I wt_0) rfl dX14_resolve_340 rfl (rs := fun r => [vI r, vI l1]) (fun _ => rfl) (fun v2 hv2 => ?_)
  refine s_icmp_ge (tgt := 366) o dX14_resolve_343 (by decide) hl1 (hv2 _ rfl) ?_ ?_
  · refine r_to [(0, vA (mg Γ) l0)] [0] rfl ?_
    exact s_lo (hk_366 l0)
  · refine s_aload_n o dX14_resolve_346 rfl 0 rfl ?_
    refine r_getf (vA (mg Γ)) rfl o cf_X14_uses (Or.inl (lw_all_tbl q1109)) dX14_resolve_347 (fun v3 hv3 => ?_)
    refine s_iload_n o dX14_resolve_350 rfl 1 rfl ?_
    refine s_cvC (d := d + 609) (As := [vI l1]) (st := []) (c := 27) o (sc_J13_get (mg Γ) (d + 607) ts v3 l1 hl1) mw_J13_get rfl (Or.inl (lw_all_tbl q1266)) rfl (lw_all_tbl q1268) (lw_all_tbl q1267) wt_0 rfl dX14_resolve_351 rfl (rs := fun r => [vA (mg Γ) r]) (fun _ => rfl) (fun v4 hv4 => ?_)
    refine s_cast o (cs_X20 o) (lw_all_tbl q1438) dX14_resolve_354 ?_
    refine s_cvC (d := d + 609) (As := []) (st := []) (c := 20) o (sc_X20_settle (mg Γ) (d + 605) ts v4) mw_X20_settle rfl (Or.inl (lw_all_tbl q1619)) rfl (lw_all_tbl q1621) (lw_all_tbl q1620) wt_0 rfl dX14_resolve_357 rfl (rs := fun _ => []) (fun _ => rfl) (fun _ _ => ?_)
    refine r_iinc (j := 1) o dX14_resolve_360 rfl rfl [(0, vA (mg Γ) l0)] [0] rfl ⟨(Nat.ne_of_beq_eq_false rfl), (fun _ => (vA_cat (mg Γ) l0)), trivial⟩ ?_
    refine s_goto (tgt := 335) o dX14_resolve_363 (by decide) ?_
    refine r_to [(0, vA (mg Γ) l0), (1, vI (w32 (l1 + 1)))] [1, 0] rfl ?_
    exact s_back (w32_R _) rfl
noncomputable def c_X14_resolve_335 {A : Type} (k_366 : Int → Mo CH A) (l0 : Int) (l1 : Int) : Mo CH A := Loop (fun x => c_X14_resolve_335b k_366 x.1 x.2) (l0, l1)
theorem sc_X14_resolve_335 {Γ : Gm} {ts : TS} {d : Nat} (o : Ok Γ "LazyForge$Resolver" cX14_resolve 3 (Option.some (Jvm.ClassFile.FieldType.object "LazyForge$Program")) (d + 610)) {A : Type} {K : A → CH → Prop} (k_366 : Int → Mo CH A) (hk_366 : ∀ (l0 : Int), Sx Γ (fun h => (h, ts)) K 366 [(0, vA (mg Γ) l0)] [] (k_366 l0)) (l0 : Int) (l1 : Int) (hl1 : R32 l1) : Sx Γ (fun h => (h, ts)) K 335 [(0, vA (mg Γ) l0), (1, vI l1)] [] (c_X14_resolve_335 k_366 l0 l1) :=
  s_loop okc_X14_resolve_335 (lvc_X14_resolve_335 Γ) (fun x hx => sc_X14_resolve_335b o k_366 hk_366 x.1 x.2 hx) (x := (l0, l1)) hl1
abbrev okc_X14_resolve_78 (x : Int × Int) : Prop := R32 x.2
abbrev lvc_X14_resolve_78 (Γ : Gm) (x : Int × Int) : List (Nat × Value) := [(0, vA (mg Γ) x.1), (1, vI x.2)]
noncomputable def c_X14_resolve_78b {A : Type} (k_138 : Int → Mo CH A) (l0 : Int) (l1 : Int) : Mo CH ((Int × Int) ⊕ A) :=
  bnd (gf [114] 0 l0) fun v1 =>
  bnd (gf [112] 20 v1) fun v2 =>
  if v2 ≤ l1 then
    lo (k_138 l0)
  else
    bnd (gf [114] 6 l0) fun v3 =>
    if ¬ v3 = 0 then
      lo (k_138 l0)
    else
      bnd (gf [114] 1 l0) fun v4 =>
      bnd (gf [115] 0 v4) fun v5 =>
      bnd (isk 127 v5) fun _ =>
      bnd (c_J13_get v5 l1) fun v6 =>
      bnd (ckk [116] v6) fun _ =>
      bnd (gf [114] 0 l0) fun v7 =>
      bnd (gf [112] 18 v7) fun v8 =>
      bnd (ald 8 v8 l1) fun v9 =>
      bnd (gf [114] 0 l0) fun v10 =>
      bnd (gf [112] 19 v10) fun v11 =>
      bnd (ald 6 v11 l1) fun v12 =>
      bnd (isk 114 l0) fun _ =>
      bnd (c_X14_enter l0 v6 v9 v12) fun _ =>
      pr (.inl (l0, (w32 (l1 + 1))))
theorem sc_X14_resolve_78b {Γ : Gm} {ts : TS} {d : Nat} (o : Ok Γ "LazyForge$Resolver" cX14_resolve 3 (Option.some (Jvm.ClassFile.FieldType.object "LazyForge$Program")) (d + 610)) {A : Type} {K : A → CH → Prop} (k_138 : Int → Mo CH A) (hk_138 : ∀ (l0 : Int), Sx Γ (fun h => (h, ts)) K 138 [(0, vA (mg Γ) l0)] [] (k_138 l0)) (l0 : Int) (l1 : Int) (hl1 : R32 l1) : Sx Γ (fun h => (h, ts)) (KL Γ (fun h => (h, ts)) okc_X14_resolve_78 K 78 (lvc_X14_resolve_78 Γ) []) 78 [(0, vA (mg Γ) l0), (1, vI l1)] [] (c_X14_resolve_78b k_138 l0 l1) := by
  unfold c_X14_resolve_78b
  refine s_iload_n o dX14_resolve_78 rfl 1 rfl ?_
  refine s_aload_n o dX14_resolve_79 rfl 0 rfl ?_
  refine r_getf (vA (mg Γ)) rfl o cf_X14_text (Or.inl (lw_all_tbl q1104)) dX14_resolve_80 (fun v1 hv1 => ?_)
  refine r_getf vI rfl o cf_X12_functions (Or.inr (Or.inl ⟨_, q683⟩)) dX14_resolve_83 (fun v2 hv2 => ?_)
  refine s_icmp_ge (tgt := 138) o dX14_resolve_86 (by decide) hl1 hv2 ?_ ?_
  · refine r_to [(0, vA (mg Γ) l0)] [0] rfl ?_
    exact s_lo (hk_138 l0)
  · refine s_aload_n o dX14_resolve_89 rfl 0 rfl ?_
    refine r_getf vI rfl o cf_X14_kind (Or.inl (lw_all_tbl q1110)) dX14_resolve_90 (fun v3 hv3 => ?_)
    refine s_if_ne (tgt := 138) o dX14_resolve_93 (by decide) hv3 ?_ ?_
    · refine r_to [(0, vA (mg Γ) l0)] [0] rfl ?_
      exact s_lo (hk_138 l0)
    · refine s_aload_n o dX14_resolve_96 rfl 0 rfl ?_
      refine s_aload_n o dX14_resolve_97 rfl 0 rfl ?_
      refine r_getf (vA (mg Γ)) rfl o cf_X14_program (Or.inl (lw_all_tbl q1105)) dX14_resolve_98 (fun v4 hv4 => ?_)
      refine r_getf (vA (mg Γ)) rfl o cf_X15_functions (Or.inr (Or.inl ⟨_, q1057⟩)) dX14_resolve_101 (fun v5 hv5 => ?_)
      refine s_iload_n o dX14_resolve_104 rfl 1 rfl ?_
      refine s_cvC (d := d + 609) (As := [vI l1]) (st := [vA (mg Γ) l0]) (c := 27) o (sc_J13_get (mg Γ) (d + 607) ts v5 l1 hl1) mw_J13_get rfl (Or.inl (lw_all_tbl q1266)) rfl (lw_all_tbl q1268) (lw_all_tbl q1267) (wt_A wt_0) rfl dX14_resolve_105 rfl (rs := fun r => [vA (mg Γ) r, vA (mg Γ) l0]) (fun _ => rfl) (fun v6 hv6 => ?_)
      refine s_cast o (cs_X16 o) (lw_all_tbl q1135) dX14_resolve_108 ?_
      refine s_aload_n o dX14_resolve_111 rfl 0 rfl ?_
      refine r_getf (vA (mg Γ)) rfl o cf_X14_text (Or.inl (lw_all_tbl q1104)) dX14_resolve_112 (fun v7 hv7 => ?_)
      refine r_getf (vA (mg Γ)) rfl o cf_X12_parameters (Or.inr (Or.inl ⟨_, q680⟩)) dX14_resolve_115 (fun v8 hv8 => ?_)
      refine s_iload_n o dX14_resolve_118 rfl 1 rfl ?_
      refine r_aald (kd := 8) o (by decide) rfl hl1 dX14_resolve_119 (fun v9 => ?_)
      refine s_aload_n o dX14_resolve_120 rfl 0 rfl ?_
      refine r_getf (vA (mg Γ)) rfl o cf_X14_text (Or.inl (lw_all_tbl q1104)) dX14_resolve_121 (fun v10 hv10 => ?_)
      refine r_getf (vA (mg Γ)) rfl o cf_X12_bodies (Or.inr (Or.inl ⟨_, q682⟩)) dX14_resolve_124 (fun v11 hv11 => ?_)
      refine s_iload_n o dX14_resolve_127 rfl 1 rfl ?_
      refine r_aald (kd := 6) o (by decide) rfl hl1 dX14_resolve_128 (fun v12 => ?_)
      refine s_cvC (d := d + 609) (As := [vA (mg Γ) v6, vA (mg Γ) v9, vA (mg Γ) v12]) (st := []) (c := 14) o (sc_X14_enter (mg Γ) d ts l0 v6 v9 v12) mw_X14_enter rfl (Or.inl (lw_all_tbl q1278)) rfl (lw_all_tbl qs36) (lw_all_tbl q1280) wt_0 rfl dX14_resolve_129 rfl (rs := fun _ => []) (fun _ => rfl) (fun _ _ => ?_)
      refine r_iinc (j := 1) o dX14_resolve_132 rfl rfl [(0, vA (mg Γ) l0)] [0] rfl ⟨(Nat.ne_of_beq_eq_false rfl), (fun _ => (vA_cat (mg Γ) l0)), trivial⟩ ?_
      refine s_goto (tgt := 78) o dX14_resolve_135 (by decide) ?_
      refine r_to [(0, vA (mg Γ) l0), (1, vI (w32 (l1 + 1)))] [1, 0] rfl ?_
      exact s_back (w32_R _) rfl
noncomputable def c_X14_resolve_78 {A : Type} (k_138 : Int → Mo CH A) (l0 : Int) (l1 : Int) : Mo CH A := Loop (fun x => c_X14_resolve_78b k_138 x.1 x.2) (l0, l1)
theorem sc_X14_resolve_78 {Γ : Gm} {ts : TS} {d : Nat} (o : Ok Γ "LazyForge$Resolver" cX14_resolve 3 (Option.some (Jvm.ClassFile.FieldType.object "LazyForge$Program")) (d + 610)) {A : Type} {K : A → CH → Prop} (k_138 : Int → Mo CH A) (hk_138 : ∀ (l0 : Int), Sx Γ (fun h => (h, ts)) K 138 [(0, vA (mg Γ) l0)] [] (k_138 l0)) (l0 : Int) (l1 : Int) (hl1 : R32 l1) : Sx Γ (fun h => (h, ts)) K 78 [(0, vA (mg Γ) l0), (1, vI l1)] [] (c_X14_resolve_78 k_138 l0 l1) :=
  s_loop okc_X14_resolve_78 (lvc_X14_resolve_78 Γ) (fun x hx => sc_X14_resolve_78b o k_138 hk_138 x.1 x.2 hx) (x := (l0, l1)) hl1
abbrev okc_X14_resolve_149 (x : Int × Int) : Prop := R32 x.2
abbrev lvc_X14_resolve_149 (Γ : Gm) (x : Int × Int) : List (Nat × Value) := [(0, vA (mg Γ) x.1), (1, vI x.2)]
noncomputable def c_X14_resolve_209 {A : Type} (k_215 : Int → Mo CH A) (l0 : Int) (l1 : Int) : Mo CH ((Int × Int) ⊕ A) :=
  pr (.inl (l0, (w32 (l1 + 1))))
theorem sc_X14_resolve_209 {Γ : Gm} {ts : TS} {d : Nat} (o : Ok Γ "LazyForge$Resolver" cX14_resolve 3 (Option.some (Jvm.ClassFile.FieldType.object "LazyForge$Program")) (d + 610)) {A : Type} {K : A → CH → Prop}  (k_215 : Int → Mo CH A) (hk_215 : ∀ (l0 : Int), Sx Γ (fun h => (h, ts)) K 215 [(0, vA (mg Γ) l0)] [] (k_215 l0)) (l0 : Int) (l1 : Int) (hl1 : R32 l1) : Sx Γ (fun h => (h, ts)) (KL Γ (fun h => (h, ts)) okc_X14_resolve_149 K 149 (lvc_X14_resolve_149 Γ) []) 209 [(0, vA (mg Γ) l0), (1, vI l1)] [] (c_X14_resolve_209 k_215 l0 l1) := by
  unfold c_X14_resolve_209
  refine r_iinc (j := 1) o dX14_resolve_209 rfl rfl [(0, vA (mg Γ) l0)] [0] rfl ⟨(Nat.ne_of_beq_eq_false rfl), (fun _ => (vA_cat (mg Γ) l0)), trivial⟩ ?_
  refine s_goto (tgt := 149) o dX14_resolve_212 (by decide) ?_
  refine r_to [(0, vA (mg Γ) l0), (1, vI (w32 (l1 + 1)))] [1, 0] rfl ?_
  exact s_back (w32_R _) rfl
noncomputable def c_X14_resolve_149b {A : Type} (k_215 : Int → Mo CH A) (l0 : Int) (l1 : Int) : Mo CH ((Int × Int) ⊕ A) :=
  bnd (gf [114] 1 l0) fun v1 =>
  bnd (gf [115] 0 v1) fun v2 =>
  bnd (isk 127 v2) fun _ =>
  bnd (c_J13_size v2) fun v3 =>
  if v3 ≤ l1 then
    lo (k_215 l0)
  else
    bnd (gf [114] 1 l0) fun v4 =>
    bnd (gf [115] 0 v4) fun v5 =>
    bnd (isk 127 v5) fun _ =>
    bnd (c_J13_get v5 l1) fun v6 =>
    bnd (ckk [116] v6) fun _ =>
    bnd (isk 116 v6) fun _ =>
    bnd (c_X16_parameters v6) fun v7 =>
    if v7 ≤ 8 then
      c_X14_resolve_209 k_215 l0 l1
    else
      bnd (gf [114] 1 l0) fun v8 =>
      bnd (gf [115] 0 v8) fun v9 =>
      bnd (isk 127 v9) fun _ =>
      bnd (c_J13_get v9 l1) fun v10 =>
      bnd (ckk [116] v10) fun _ =>
      bnd (gf [116] 1 v10) fun v11 =>
      bnd (isk 114 l0) fun _ =>
      bnd (c_X14_fail l0 6 v11) fun v12 =>
      c_X14_resolve_209 k_215 l0 l1
theorem sc_X14_resolve_149b {Γ : Gm} {ts : TS} {d : Nat} (o : Ok Γ "LazyForge$Resolver" cX14_resolve 3 (Option.some (Jvm.ClassFile.FieldType.object "LazyForge$Program")) (d + 610)) {A : Type} {K : A → CH → Prop} (k_215 : Int → Mo CH A) (hk_215 : ∀ (l0 : Int), Sx Γ (fun h => (h, ts)) K 215 [(0, vA (mg Γ) l0)] [] (k_215 l0)) (l0 : Int) (l1 : Int) (hl1 : R32 l1) : Sx Γ (fun h => (h, ts)) (KL Γ (fun h => (h, ts)) okc_X14_resolve_149 K 149 (lvc_X14_resolve_149 Γ) []) 149 [(0, vA (mg Γ) l0), (1, vI l1)] [] (c_X14_resolve_149b k_215 l0 l1) := by
  unfold c_X14_resolve_149b
  refine s_iload_n o dX14_resolve_149 rfl 1 rfl ?_
  refine s_aload_n o dX14_resolve_150 rfl 0 rfl ?_
  refine r_getf (vA (mg Γ)) rfl o cf_X14_program (Or.inl (lw_all_tbl q1105)) dX14_resolve_151 (fun v1 hv1 => ?_)
  refine r_getf (vA (mg Γ)) rfl o cf_X15_functions (Or.inr (Or.inl ⟨_, q1057⟩)) dX14_resolve_154 (fun v2 hv2 => ?_)
  refine s_cvC (d := d + 609) (As := []) (st := [vI l1]) (c := 27) o (sc_J13_size (mg Γ) (d + 609) ts v2) mw_J13_size rfl (Or.inl (lw_all_tbl q1357)) rfl (lw_all_tbl q1359) (lw_all_tbl q1358) (wt_I wt_0) rfl dX14_resolve_157 rfl (rs := fun r => [vI r, vI l1]) (fun _ => rfl) (fun v3 hv3 => ?_)
  refine s_icmp_ge (tgt := 215) o dX14_resolve_160 (by decide) hl1 (hv3 _ rfl) ?_ ?_
  · refine r_to [(0, vA (mg Γ) l0)] [0] rfl ?_
    exact s_lo (hk_215 l0)
  · refine s_aload_n o dX14_resolve_163 rfl 0 rfl ?_
    refine r_getf (vA (mg Γ)) rfl o cf_X14_program (Or.inl (lw_all_tbl q1105)) dX14_resolve_164 (fun v4 hv4 => ?_)
    refine r_getf (vA (mg Γ)) rfl o cf_X15_functions (Or.inr (Or.inl ⟨_, q1057⟩)) dX14_resolve_167 (fun v5 hv5 => ?_)
    refine s_iload_n o dX14_resolve_170 rfl 1 rfl ?_
    refine s_cvC (d := d + 609) (As := [vI l1]) (st := []) (c := 27) o (sc_J13_get (mg Γ) (d + 607) ts v5 l1 hl1) mw_J13_get rfl (Or.inl (lw_all_tbl q1266)) rfl (lw_all_tbl q1268) (lw_all_tbl q1267) wt_0 rfl dX14_resolve_171 rfl (rs := fun r => [vA (mg Γ) r]) (fun _ => rfl) (fun v6 hv6 => ?_)
    refine s_cast o (cs_X16 o) (lw_all_tbl q1135) dX14_resolve_174 ?_
    refine s_cvC (d := d + 609) (As := []) (st := []) (c := 16) o (sc_X16_parameters (mg Γ) (d + 608) ts v6) mw_X16_parameters rfl (Or.inl (lw_all_tbl q1604)) rfl (lw_all_tbl q1606) (lw_all_tbl q1605) wt_0 rfl dX14_resolve_177 rfl (rs := fun r => [vI r]) (fun _ => rfl) (fun v7 hv7 => ?_)
    refine s_bipush o dX14_resolve_180 rfl ?_
    refine s_icmp_le (tgt := 209) o dX14_resolve_182 (by decide) (hv7 _ rfl) (r32 rfl) ?_ ?_
    · exact sc_X14_resolve_209 o k_215 hk_215 l0 l1 hl1
    · refine s_aload_n o dX14_resolve_185 rfl 0 rfl ?_
      refine s_bipush o dX14_resolve_186 rfl ?_
      refine s_aload_n o dX14_resolve_188 rfl 0 rfl ?_
      refine r_getf (vA (mg Γ)) rfl o cf_X14_program (Or.inl (lw_all_tbl q1105)) dX14_resolve_189 (fun v8 hv8 => ?_)
      refine r_getf (vA (mg Γ)) rfl o cf_X15_functions (Or.inr (Or.inl ⟨_, q1057⟩)) dX14_resolve_192 (fun v9 hv9 => ?_)
      refine s_iload_n o dX14_resolve_195 rfl 1 rfl ?_
      refine s_cvC (d := d + 609) (As := [vI l1]) (st := [vI 6, vA (mg Γ) l0]) (c := 27) o (sc_J13_get (mg Γ) (d + 607) ts v9 l1 hl1) mw_J13_get rfl (Or.inl (lw_all_tbl q1266)) rfl (lw_all_tbl q1268) (lw_all_tbl q1267) (wt_I (wt_A wt_0)) rfl dX14_resolve_196 rfl (rs := fun r => [vA (mg Γ) r, vI 6, vA (mg Γ) l0]) (fun _ => rfl) (fun v10 hv10 => ?_)
      refine s_cast o (cs_X16 o) (lw_all_tbl q1135) dX14_resolve_199 ?_
      refine r_getf vI rfl o cf_X16_place (Or.inr (Or.inl ⟨_, q1149⟩)) dX14_resolve_202 (fun v11 hv11 => ?_)
      refine s_cvC (d := d + 609) (As := [vI 6, vI v11]) (st := []) (c := 14) o (sc_X14_fail (mg Γ) (d + 609) ts l0 6 v11 (r32 rfl) hv11) mw_X14_fail rfl (Or.inl (lw_all_tbl q1584)) rfl (lw_all_tbl qs45) (lw_all_tbl q1586) wt_0 rfl dX14_resolve_205 rfl (rs := fun r => [vA (mg Γ) r]) (fun _ => rfl) (fun v12 hv12 => ?_)
      refine s_pop o dX14_resolve_208 (vA_cat (mg Γ) v12) ?_
      exact sc_X14_resolve_209 o k_215 hk_215 l0 l1 hl1
noncomputable def c_X14_resolve_149 {A : Type} (k_215 : Int → Mo CH A) (l0 : Int) (l1 : Int) : Mo CH A := Loop (fun x => c_X14_resolve_149b k_215 x.1 x.2) (l0, l1)
theorem sc_X14_resolve_149 {Γ : Gm} {ts : TS} {d : Nat} (o : Ok Γ "LazyForge$Resolver" cX14_resolve 3 (Option.some (Jvm.ClassFile.FieldType.object "LazyForge$Program")) (d + 610)) {A : Type} {K : A → CH → Prop} (k_215 : Int → Mo CH A) (hk_215 : ∀ (l0 : Int), Sx Γ (fun h => (h, ts)) K 215 [(0, vA (mg Γ) l0)] [] (k_215 l0)) (l0 : Int) (l1 : Int) (hl1 : R32 l1) : Sx Γ (fun h => (h, ts)) K 149 [(0, vA (mg Γ) l0), (1, vI l1)] [] (c_X14_resolve_149 k_215 l0 l1) :=
  s_loop okc_X14_resolve_149 (lvc_X14_resolve_149 Γ) (fun x hx => sc_X14_resolve_149b o k_215 hk_215 x.1 x.2 hx) (x := (l0, l1)) hl1
abbrev okc_X14_resolve_262 (x : Int × Int) : Prop := R32 x.2
abbrev lvc_X14_resolve_262 (Γ : Gm) (x : Int × Int) : List (Nat × Value) := [(0, vA (mg Γ) x.1), (1, vI x.2)]
noncomputable def c_X14_resolve_327 {A : Type} (k_333 : Int → Mo CH A) (l0 : Int) (l1 : Int) : Mo CH ((Int × Int) ⊕ A) :=
  pr (.inl (l0, (w32 (l1 + 1))))
theorem sc_X14_resolve_327 {Γ : Gm} {ts : TS} {d : Nat} (o : Ok Γ "LazyForge$Resolver" cX14_resolve 3 (Option.some (Jvm.ClassFile.FieldType.object "LazyForge$Program")) (d + 610)) {A : Type} {K : A → CH → Prop}  (k_333 : Int → Mo CH A) (hk_333 : ∀ (l0 : Int), Sx Γ (fun h => (h, ts)) K 333 [(0, vA (mg Γ) l0)] [] (k_333 l0)) (l0 : Int) (l1 : Int) (hl1 : R32 l1) : Sx Γ (fun h => (h, ts)) (KL Γ (fun h => (h, ts)) okc_X14_resolve_262 K 262 (lvc_X14_resolve_262 Γ) []) 327 [(0, vA (mg Γ) l0), (1, vI l1)] [] (c_X14_resolve_327 k_333 l0 l1) := by
  unfold c_X14_resolve_327
  refine r_iinc (j := 1) o dX14_resolve_327 rfl rfl [(0, vA (mg Γ) l0)] [0] rfl ⟨(Nat.ne_of_beq_eq_false rfl), (fun _ => (vA_cat (mg Γ) l0)), trivial⟩ ?_
  refine s_goto (tgt := 262) o dX14_resolve_330 (by decide) ?_
  refine r_to [(0, vA (mg Γ) l0), (1, vI (w32 (l1 + 1)))] [1, 0] rfl ?_
  exact s_back (w32_R _) rfl
noncomputable def c_X14_resolve_316 {A : Type} (k_333 : Int → Mo CH A) (l0 : Int) (l1 : Int) (l2 : Int) : Mo CH ((Int × Int) ⊕ A) :=
  bnd (gf [116] 1 l2) fun v1 =>
  bnd (isk 114 l0) fun _ =>
  bnd (c_X14_fail l0 8 v1) fun v2 =>
  c_X14_resolve_327 k_333 l0 l1
theorem sc_X14_resolve_316 {Γ : Gm} {ts : TS} {d : Nat} (o : Ok Γ "LazyForge$Resolver" cX14_resolve 3 (Option.some (Jvm.ClassFile.FieldType.object "LazyForge$Program")) (d + 610)) {A : Type} {K : A → CH → Prop}  (k_333 : Int → Mo CH A) (hk_333 : ∀ (l0 : Int), Sx Γ (fun h => (h, ts)) K 333 [(0, vA (mg Γ) l0)] [] (k_333 l0)) (l0 : Int) (l1 : Int) (l2 : Int) (hl1 : R32 l1) : Sx Γ (fun h => (h, ts)) (KL Γ (fun h => (h, ts)) okc_X14_resolve_262 K 262 (lvc_X14_resolve_262 Γ) []) 316 [(0, vA (mg Γ) l0), (1, vI l1), (2, vA (mg Γ) l2)] [] (c_X14_resolve_316 k_333 l0 l1 l2) := by
  unfold c_X14_resolve_316
  refine s_aload_n o dX14_resolve_316 rfl 0 rfl ?_
  refine s_bipush o dX14_resolve_317 rfl ?_
  refine s_aload_n o dX14_resolve_319 rfl 2 rfl ?_
  refine r_getf vI rfl o cf_X16_place (Or.inr (Or.inl ⟨_, q1149⟩)) dX14_resolve_320 (fun v1 hv1 => ?_)
  refine s_cvC (d := d + 609) (As := [vI 8, vI v1]) (st := []) (c := 14) o (sc_X14_fail (mg Γ) (d + 609) ts l0 8 v1 (r32 rfl) hv1) mw_X14_fail rfl (Or.inl (lw_all_tbl q1584)) rfl (lw_all_tbl qs45) (lw_all_tbl q1586) wt_0 rfl dX14_resolve_323 rfl (rs := fun r => [vA (mg Γ) r]) (fun _ => rfl) (fun v2 hv2 => ?_)
  refine s_pop o dX14_resolve_326 (vA_cat (mg Γ) v2) ?_
  refine r_to [(0, vA (mg Γ) l0), (1, vI l1)] [0, 1] rfl ?_
  exact sc_X14_resolve_327 o k_333 hk_333 l0 l1 hl1
noncomputable def c_X14_resolve_262b {A : Type} (k_333 : Int → Mo CH A) (l0 : Int) (l1 : Int) : Mo CH ((Int × Int) ⊕ A) :=
  bnd (gf [114] 1 l0) fun v1 =>
  bnd (gf [115] 0 v1) fun v2 =>
  bnd (isk 127 v2) fun _ =>
  bnd (c_J13_size v2) fun v3 =>
  if v3 ≤ l1 then
    lo (k_333 l0)
  else
    bnd (gf [114] 1 l0) fun v4 =>
    bnd (gf [115] 0 v4) fun v5 =>
    bnd (isk 127 v5) fun _ =>
    bnd (c_J13_get v5 l1) fun v6 =>
    bnd (ckk [116] v6) fun _ =>
    bnd (isk 116 v6) fun _ =>
    bnd (c_X16_count v6) fun _ =>
    bnd (gf [116] 6 v6) fun v7 =>
    bnd (gf [106, 107, 108, 109, 110, 118, 119, 120, 121, 122, 123, 124, 125, 126] 1 v7) fun v8 =>
    if 40 < v8 then
      c_X14_resolve_316 k_333 l0 l1 v6
    else
      bnd (isk 116 v6) fun _ =>
      bnd (c_X16_variables v6) fun v9 =>
      if v9 ≤ 40 then
        c_X14_resolve_327 k_333 l0 l1
      else
        c_X14_resolve_316 k_333 l0 l1 v6
theorem sc_X14_resolve_262b {Γ : Gm} {ts : TS} {d : Nat} (o : Ok Γ "LazyForge$Resolver" cX14_resolve 3 (Option.some (Jvm.ClassFile.FieldType.object "LazyForge$Program")) (d + 610)) {A : Type} {K : A → CH → Prop} (k_333 : Int → Mo CH A) (hk_333 : ∀ (l0 : Int), Sx Γ (fun h => (h, ts)) K 333 [(0, vA (mg Γ) l0)] [] (k_333 l0)) (l0 : Int) (l1 : Int) (hl1 : R32 l1) : Sx Γ (fun h => (h, ts)) (KL Γ (fun h => (h, ts)) okc_X14_resolve_262 K 262 (lvc_X14_resolve_262 Γ) []) 262 [(0, vA (mg Γ) l0), (1, vI l1)] [] (c_X14_resolve_262b k_333 l0 l1) := by
  unfold c_X14_resolve_262b
  refine s_iload_n o dX14_resolve_262 rfl 1 rfl ?_
  refine s_aload_n o dX14_resolve_263 rfl 0 rfl ?_
  refine r_getf (vA (mg Γ)) rfl o cf_X14_program (Or.inl (lw_all_tbl q1105)) dX14_resolve_264 (fun v1 hv1 => ?_)
  refine r_getf (vA (mg Γ)) rfl o cf_X15_functions (Or.inr (Or.inl ⟨_, q1057⟩)) dX14_resolve_267 (fun v2 hv2 => ?_)
  refine s_cvC (d := d + 609) (As := []) (st := [vI l1]) (c := 27) o (sc_J13_size (mg Γ) (d + 609) ts v2) mw_J13_size rfl (Or.inl (lw_all_tbl q1357)) rfl (lw_all_tbl q1359) (lw_all_tbl q1358) (wt_I wt_0) rfl dX14_resolve_270 rfl (rs := fun r => [vI r, vI l1]) (fun _ => rfl) (fun v3 hv3 => ?_)
  refine s_icmp_ge (tgt := 333) o dX14_resolve_273 (by decide) hl1 (hv3 _ rfl) ?_ ?_
  · refine r_to [(0, vA (mg Γ) l0)] [0] rfl ?_
    exact s_lo (hk_333 l0)
  · refine s_aload_n o dX14_resolve_276 rfl 0 rfl ?_
    refine r_getf (vA (mg Γ)) rfl o cf_X14_program (Or.inl (lw_all_tbl q1105)) dX14_resolve_277 (fun v4 hv4 => ?_)
    refine r_getf (vA (mg Γ)) rfl o cf_X15_functions (Or.inr (Or.inl ⟨_, q1057⟩)) dX14_resolve_280 (fun v5 hv5 => ?_)
    refine s_iload_n o dX14_resolve_283 rfl 1 rfl ?_
    refine s_cvC (d := d + 609) (As := [vI l1]) (st := []) (c := 27) o (sc_J13_get (mg Γ) (d + 607) ts v5 l1 hl1) mw_J13_get rfl (Or.inl (lw_all_tbl q1266)) rfl (lw_all_tbl q1268) (lw_all_tbl q1267) wt_0 rfl dX14_resolve_284 rfl (rs := fun r => [vA (mg Γ) r]) (fun _ => rfl) (fun v6 hv6 => ?_)
    refine s_cast o (cs_X16 o) (lw_all_tbl q1135) dX14_resolve_287 ?_
    refine r_astore_n o dX14_resolve_290 rfl rfl ⟨(Nat.ne_of_beq_eq_false rfl), (fun _ => (vA_cat (mg Γ) l0)), ⟨(Nat.ne_of_beq_eq_false rfl), (fun _ => rfl), trivial⟩⟩ ?_
    refine s_aload_n o dX14_resolve_291 rfl 0 rfl ?_
    refine s_cvC (d := d + 609) (As := []) (st := []) (c := 16) o (sc_X16_count (mg Γ) (d + 606) ts v6) mw_X16_count rfl (Or.inl (lw_all_tbl q1609)) rfl (lw_all_tbl q1611) (lw_all_tbl q1610) wt_0 rfl dX14_resolve_292 rfl (rs := fun _ => []) (fun _ => rfl) (fun _ _ => ?_)
    refine s_aload_n o dX14_resolve_295 rfl 0 rfl ?_
    refine r_getf (vA (mg Γ)) rfl o cf_X16_body (Or.inr (Or.inl ⟨_, q1158⟩)) dX14_resolve_296 (fun v7 hv7 => ?_)
    refine r_getf vI rfl o cf_X4_high (Or.inr (Or.inl ⟨_, q258⟩)) dX14_resolve_299 (fun v8 hv8 => ?_)
    refine s_bipush o dX14_resolve_302 rfl ?_
    refine s_icmp_gt (tgt := 316) o dX14_resolve_304 (by decide) hv8 (r32 rfl) ?_ ?_
    · refine r_to [(0, vA (mg Γ) l0), (1, vI l1), (2, vA (mg Γ) v6)] [1, 2, 0] rfl ?_
      exact sc_X14_resolve_316 o k_333 hk_333 l0 l1 v6 hl1
    · refine s_aload_n o dX14_resolve_307 rfl 0 rfl ?_
      refine s_cvC (d := d + 609) (As := []) (st := []) (c := 16) o (sc_X16_variables (mg Γ) (d + 607) ts v6) mw_X16_variables rfl (Or.inl (lw_all_tbl q1615)) rfl (lw_all_tbl q1617) (lw_all_tbl q1616) wt_0 rfl dX14_resolve_308 rfl (rs := fun r => [vI r]) (fun _ => rfl) (fun v9 hv9 => ?_)
      refine s_bipush o dX14_resolve_311 rfl ?_
      refine s_icmp_le (tgt := 327) o dX14_resolve_313 (by decide) (hv9 _ rfl) (r32 rfl) ?_ ?_
      · refine r_to [(0, vA (mg Γ) l0), (1, vI l1)] [1, 2] rfl ?_
        exact sc_X14_resolve_327 o k_333 hk_333 l0 l1 hl1
      · refine r_to [(0, vA (mg Γ) l0), (1, vI l1), (2, vA (mg Γ) v6)] [1, 2, 0] rfl ?_
        exact sc_X14_resolve_316 o k_333 hk_333 l0 l1 v6 hl1
noncomputable def c_X14_resolve_262 {A : Type} (k_333 : Int → Mo CH A) (l0 : Int) (l1 : Int) : Mo CH A := Loop (fun x => c_X14_resolve_262b k_333 x.1 x.2) (l0, l1)
theorem sc_X14_resolve_262 {Γ : Gm} {ts : TS} {d : Nat} (o : Ok Γ "LazyForge$Resolver" cX14_resolve 3 (Option.some (Jvm.ClassFile.FieldType.object "LazyForge$Program")) (d + 610)) {A : Type} {K : A → CH → Prop} (k_333 : Int → Mo CH A) (hk_333 : ∀ (l0 : Int), Sx Γ (fun h => (h, ts)) K 333 [(0, vA (mg Γ) l0)] [] (k_333 l0)) (l0 : Int) (l1 : Int) (hl1 : R32 l1) : Sx Γ (fun h => (h, ts)) K 262 [(0, vA (mg Γ) l0), (1, vI l1)] [] (c_X14_resolve_262 k_333 l0 l1) :=
  s_loop okc_X14_resolve_262 (lvc_X14_resolve_262 Γ) (fun x hx => sc_X14_resolve_262b o k_333 hk_333 x.1 x.2 hx) (x := (l0, l1)) hl1
abbrev okc_X14_resolve_2 (x : Int × Int) : Prop := R32 x.2
abbrev lvc_X14_resolve_2 (Γ : Gm) (x : Int × Int) : List (Nat × Value) := [(0, vA (mg Γ) x.1), (1, vI x.2)]
noncomputable def c_X14_resolve_70 {A : Type} (k_76 : Int → Mo CH A) (l0 : Int) (l1 : Int) : Mo CH ((Int × Int) ⊕ A) :=
  pr (.inl (l0, (w32 (l1 + 1))))
theorem sc_X14_resolve_70 {Γ : Gm} {ts : TS} {d : Nat} (o : Ok Γ "LazyForge$Resolver" cX14_resolve 3 (Option.some (Jvm.ClassFile.FieldType.object "LazyForge$Program")) (d + 610)) {A : Type} {K : A → CH → Prop}  (k_76 : Int → Mo CH A) (hk_76 : ∀ (l0 : Int), Sx Γ (fun h => (h, ts)) K 76 [(0, vA (mg Γ) l0)] [] (k_76 l0)) (l0 : Int) (l1 : Int) (hl1 : R32 l1) : Sx Γ (fun h => (h, ts)) (KL Γ (fun h => (h, ts)) okc_X14_resolve_2 K 2 (lvc_X14_resolve_2 Γ) []) 70 [(0, vA (mg Γ) l0), (1, vI l1)] [] (c_X14_resolve_70 k_76 l0 l1) := by
  unfold c_X14_resolve_70
  refine r_iinc (j := 1) o dX14_resolve_70 rfl rfl [(0, vA (mg Γ) l0)] [0] rfl ⟨(Nat.ne_of_beq_eq_false rfl), (fun _ => (vA_cat (mg Γ) l0)), trivial⟩ ?_
  refine s_goto (tgt := 2) o dX14_resolve_73 (by decide) ?_
  refine r_to [(0, vA (mg Γ) l0), (1, vI (w32 (l1 + 1)))] [1, 0] rfl ?_
  exact s_back (w32_R _) rfl
noncomputable def c_X14_resolve_2b {A : Type} (k_76 : Int → Mo CH A) (l0 : Int) (l1 : Int) : Mo CH ((Int × Int) ⊕ A) :=
  bnd (gf [114] 0 l0) fun v1 =>
  bnd (gf [112] 20 v1) fun v2 =>
  if v2 ≤ l1 then
    lo (k_76 l0)
  else
    bnd (newo 16) fun v3 =>
    bnd (gf [114] 0 l0) fun v4 =>
    bnd (gf [112] 17 v4) fun v5 =>
    bnd (ald 0 v5 l1) fun v6 =>
    bnd (c_X16_init v3 l1 v6 0) fun _ =>
    bnd (gf [114] 1 l0) fun v7 =>
    bnd (gf [115] 0 v7) fun v8 =>
    bnd (isk 127 v8) fun _ =>
    bnd (c_J13_add v8 v3) fun v9 =>
    bnd (gf [114] 0 l0) fun v10 =>
    bnd (gf [112] 16 v10) fun v11 =>
    bnd (ald 1 v11 l1) fun v12 =>
    bnd (c_X12_wordOf (-31)) fun v13 =>
    if ¬ v12 = v13 then
      c_X14_resolve_70 k_76 l0 l1
    else
      bnd (gf [114] 1 l0) fun v14 =>
      bnd (pf [115] 3 v14 l1) fun _ =>
      c_X14_resolve_70 k_76 l0 l1
theorem sc_X14_resolve_2b {Γ : Gm} {ts : TS} {d : Nat} (o : Ok Γ "LazyForge$Resolver" cX14_resolve 3 (Option.some (Jvm.ClassFile.FieldType.object "LazyForge$Program")) (d + 610)) {A : Type} {K : A → CH → Prop} (k_76 : Int → Mo CH A) (hk_76 : ∀ (l0 : Int), Sx Γ (fun h => (h, ts)) K 76 [(0, vA (mg Γ) l0)] [] (k_76 l0)) (l0 : Int) (l1 : Int) (hl1 : R32 l1) : Sx Γ (fun h => (h, ts)) (KL Γ (fun h => (h, ts)) okc_X14_resolve_2 K 2 (lvc_X14_resolve_2 Γ) []) 2 [(0, vA (mg Γ) l0), (1, vI l1)] [] (c_X14_resolve_2b k_76 l0 l1) := by
  unfold c_X14_resolve_2b
  refine s_iload_n o dX14_resolve_2 rfl 1 rfl ?_
  refine s_aload_n o dX14_resolve_3 rfl 0 rfl ?_
  refine r_getf (vA (mg Γ)) rfl o cf_X14_text (Or.inl (lw_all_tbl q1104)) dX14_resolve_4 (fun v1 hv1 => ?_)
  refine r_getf vI rfl o cf_X12_functions (Or.inr (Or.inl ⟨_, q683⟩)) dX14_resolve_7 (fun v2 hv2 => ?_)
  refine s_icmp_ge (tgt := 76) o dX14_resolve_10 (by decide) hl1 hv2 ?_ ?_
  · refine r_to [(0, vA (mg Γ) l0)] [0] rfl ?_
    exact s_lo (hk_76 l0)
  · refine s_new o mk_16 (lw_all_tbl q1135) dX14_resolve_13 (fun v3 hv3 => ?_)
    refine s_dup o dX14_resolve_16 (vA_cat (mg Γ) v3) ?_
    refine s_iload_n o dX14_resolve_17 rfl 1 rfl ?_
    refine s_aload_n o dX14_resolve_18 rfl 0 rfl ?_
    refine r_getf (vA (mg Γ)) rfl o cf_X14_text (Or.inl (lw_all_tbl q1104)) dX14_resolve_19 (fun v4 hv4 => ?_)
    refine r_getf (vA (mg Γ)) rfl o cf_X12_places (Or.inr (Or.inl ⟨_, q678⟩)) dX14_resolve_22 (fun v5 hv5 => ?_)
    refine s_iload_n o dX14_resolve_25 rfl 1 rfl ?_
    refine r_iald o hl1 dX14_resolve_26 (fun v6 hv6 => ?_)
    refine s_null o dX14_resolve_27 ?_
    refine s_ci (d := d + 609) (As := [vI l1, vI v6, vA (mg Γ) 0]) (st := [vA (mg Γ) v3]) o (sc_X16_init (mg Γ) (d + 605) ts v3 l1 v6 0 hv3 hl1 hv6) mw_X16_init rfl (Or.inl (lw_all_tbl q1137)) (lw_all_tbl q1138) rfl hv3 (wt_A wt_0) rfl dX14_resolve_28 rfl (fun _ => ?_)
    refine r_astore_n o dX14_resolve_31 rfl rfl ⟨(Nat.ne_of_beq_eq_false rfl), (fun _ => (vA_cat (mg Γ) l0)), ⟨(Nat.ne_of_beq_eq_false rfl), (fun _ => rfl), trivial⟩⟩ ?_
    refine s_aload_n o dX14_resolve_32 rfl 1 rfl ?_
    refine r_getf (vA (mg Γ)) rfl o cf_X14_program (Or.inl (lw_all_tbl q1105)) dX14_resolve_33 (fun v7 hv7 => ?_)
    refine r_getf (vA (mg Γ)) rfl o cf_X15_functions (Or.inr (Or.inl ⟨_, q1057⟩)) dX14_resolve_36 (fun v8 hv8 => ?_)
    refine s_aload_n o dX14_resolve_39 rfl 0 rfl ?_
    refine s_cvC (d := d + 609) (As := [vA (mg Γ) v3]) (st := []) (c := 27) o (sc_J13_add (mg Γ) (d + 603) ts v8 v3) mw_J13_add rfl (Or.inl (lw_all_tbl q1193)) rfl (lw_all_tbl q1195) (lw_all_tbl q1194) wt_0 rfl dX14_resolve_40 rfl (rs := fun r => [vI r]) (fun _ => rfl) (fun v9 hv9 => ?_)
    refine s_pop o dX14_resolve_43 rfl ?_
    refine s_aload_n o dX14_resolve_44 rfl 1 rfl ?_
    refine r_getf (vA (mg Γ)) rfl o cf_X14_text (Or.inl (lw_all_tbl q1104)) dX14_resolve_45 (fun v10 hv10 => ?_)
    refine r_getf (vA (mg Γ)) rfl o cf_X12_names (Or.inr (Or.inl ⟨_, q676⟩)) dX14_resolve_48 (fun v11 hv11 => ?_)
    refine s_iload_n o dX14_resolve_51 rfl 2 rfl ?_
    refine r_lald o hl1 dX14_resolve_52 (fun v12 hv12 => ?_)
    refine s_ldcS (tx := "main") (k := 31) o (by decide +kernel) rfl (by decide) dX14_resolve_53 ?_
    refine s_cs (d := d + 609) (As := [vA (mg Γ) (-31)]) (st := [vJ v12]) o (sc_X12_wordOf (mg Γ) (d + 605) ts (-31)) mw_X12_wordOf rfl (Or.inr ⟨_, q1265⟩) (lw_all_tbl q598) (wt_J wt_0) rfl dX14_resolve_55 rfl (rs := fun r => [vJ r, vJ v12]) (fun _ => rfl) (fun v13 hv13 => ?_)
    refine s_lcmp_ne (tgt := 70) o dX14_resolve_58 dX14_resolve_59 (by decide) hv12 (hv13 _ rfl) ?_ ?_
    · refine r_to [(0, vA (mg Γ) l0), (1, vI l1)] [1, 2] rfl ?_
      exact sc_X14_resolve_70 o k_76 hk_76 l0 l1 hl1
    · refine s_aload_n o dX14_resolve_62 rfl 1 rfl ?_
      refine r_getf (vA (mg Γ)) rfl o cf_X14_program (Or.inl (lw_all_tbl q1105)) dX14_resolve_63 (fun v14 hv14 => ?_)
      refine s_iload_n o dX14_resolve_66 rfl 2 rfl ?_
      refine r_putf vI rfl o cf_X15_main (Or.inr (Or.inl ⟨_, q1069⟩)) dX14_resolve_67 (Or.inl rfl) hl1 ty_int ?_
      refine r_to [(0, vA (mg Γ) l0), (1, vI l1)] [1, 2] rfl ?_
      exact sc_X14_resolve_70 o k_76 hk_76 l0 l1 hl1
noncomputable def c_X14_resolve_2 {A : Type} (k_76 : Int → Mo CH A) (l0 : Int) (l1 : Int) : Mo CH A := Loop (fun x => c_X14_resolve_2b k_76 x.1 x.2) (l0, l1)
theorem sc_X14_resolve_2 {Γ : Gm} {ts : TS} {d : Nat} (o : Ok Γ "LazyForge$Resolver" cX14_resolve 3 (Option.some (Jvm.ClassFile.FieldType.object "LazyForge$Program")) (d + 610)) {A : Type} {K : A → CH → Prop} (k_76 : Int → Mo CH A) (hk_76 : ∀ (l0 : Int), Sx Γ (fun h => (h, ts)) K 76 [(0, vA (mg Γ) l0)] [] (k_76 l0)) (l0 : Int) (l1 : Int) (hl1 : R32 l1) : Sx Γ (fun h => (h, ts)) K 2 [(0, vA (mg Γ) l0), (1, vI l1)] [] (c_X14_resolve_2 k_76 l0 l1) :=
  s_loop okc_X14_resolve_2 (lvc_X14_resolve_2 Γ) (fun x hx => sc_X14_resolve_2b o k_76 hk_76 x.1 x.2 hx) (x := (l0, l1)) hl1
noncomputable def c_X14_resolve_260  (l0 : Int) : Mo CH Int :=
  c_X14_resolve_262
    (fun v1 => c_X14_resolve_335
    (fun v2 => bnd (gf [114] 1 v2) fun v3 =>
  bnd (gf [114] 0 v2) fun v4 =>
  bnd (gf [112] 12 v4) fun v5 =>
  bnd (pf [115] 4 v3 v5) fun _ =>
  bnd (gf [114] 1 v2) fun v6 =>
  bnd (gf [114] 0 v2) fun v7 =>
  bnd (gf [112] 13 v7) fun v8 =>
  bnd (pf [115] 5 v6 v8) fun _ =>
  bnd (gf [114] 1 v2) fun v9 =>
  bnd (gf [114] 0 v2) fun v10 =>
  bnd (gf [112] 14 v10) fun v11 =>
  bnd (pf [115] 6 v9 v11) fun _ =>
  bnd (gf [114] 1 v2) fun v12 =>
  bnd (gf [114] 0 v2) fun v13 =>
  bnd (gf [112] 15 v13) fun v14 =>
  bnd (pf [115] 7 v12 v14) fun _ =>
  bnd (gf [114] 6 v2) fun v15 =>
  if ¬ v15 = 0 then
    pr 0
  else
    bnd (gf [114] 1 v2) fun v16 =>
    pr v16) v1 0) l0 0
theorem sc_X14_resolve_260 {Γ : Gm} {ts : TS} {d : Nat} (o : Ok Γ "LazyForge$Resolver" cX14_resolve 3 (Option.some (Jvm.ClassFile.FieldType.object "LazyForge$Program")) (d + 610))   (l0 : Int) : Sx Γ (fun h => (h, ts)) (fun a s => mt Γ = (0, a, ((s, ts) : Wd))) 260 [(0, vA (mg Γ) l0)] [] (c_X14_resolve_260 l0) := by
  unfold c_X14_resolve_260
  refine s_iconst o dX14_resolve_260 ?_
  refine r_istore_n o dX14_resolve_261 rfl rfl ⟨(Nat.ne_of_beq_eq_false rfl), (fun _ => (vA_cat (mg Γ) l0)), trivial⟩ ?_
  refine r_to [(0, vA (mg Γ) l0), (1, vI 0)] [1, 0] rfl ?_
  refine sc_X14_resolve_262 o _ ?_ l0 0 (r32 rfl)
  · intro v1
    refine s_iconst o dX14_resolve_333 ?_
    refine r_istore_n o dX14_resolve_334 rfl rfl ⟨(Nat.ne_of_beq_eq_false rfl), (fun _ => (vA_cat (mg Γ) v1)), trivial⟩ ?_
    refine r_to [(0, vA (mg Γ) v1), (1, vI 0)] [1, 0] rfl ?_
    refine sc_X14_resolve_335 o _ ?_ v1 0 (r32 rfl)
    · intro v2
      refine s_aload_n o dX14_resolve_366 rfl 0 rfl ?_
      refine r_getf (vA (mg Γ)) rfl o cf_X14_program (Or.inl (lw_all_tbl q1105)) dX14_resolve_367 (fun v3 hv3 => ?_)
      refine s_aload_n o dX14_resolve_370 rfl 0 rfl ?_
      refine r_getf (vA (mg Γ)) rfl o cf_X14_text (Or.inl (lw_all_tbl q1104)) dX14_resolve_371 (fun v4 hv4 => ?_)
      refine r_getf vI rfl o cf_X12_parts (Or.inr (Or.inl ⟨_, q667⟩)) dX14_resolve_374 (fun v5 hv5 => ?_)
      refine r_putf vI rfl o cf_X15_parts (Or.inr (Or.inl ⟨_, q1072⟩)) dX14_resolve_377 (Or.inl rfl) hv5 ty_int ?_
      refine s_aload_n o dX14_resolve_380 rfl 0 rfl ?_
      refine r_getf (vA (mg Γ)) rfl o cf_X14_program (Or.inl (lw_all_tbl q1105)) dX14_resolve_381 (fun v6 hv6 => ?_)
      refine s_aload_n o dX14_resolve_384 rfl 0 rfl ?_
      refine r_getf (vA (mg Γ)) rfl o cf_X14_text (Or.inl (lw_all_tbl q1104)) dX14_resolve_385 (fun v7 hv7 => ?_)
      refine r_getf (vA (mg Γ)) rfl o cf_X12_constructors (Or.inr (Or.inl ⟨_, q670⟩)) dX14_resolve_388 (fun v8 hv8 => ?_)
      refine r_putf (vA (mg Γ)) rfl o cf_X15_constructors (Or.inr (Or.inl ⟨_, q1074⟩)) dX14_resolve_391 (Or.inl rfl) trivial (ty_array _) ?_
      refine s_aload_n o dX14_resolve_394 rfl 0 rfl ?_
      refine r_getf (vA (mg Γ)) rfl o cf_X14_program (Or.inl (lw_all_tbl q1105)) dX14_resolve_395 (fun v9 hv9 => ?_)
      refine s_aload_n o dX14_resolve_398 rfl 0 rfl ?_
      refine r_getf (vA (mg Γ)) rfl o cf_X14_text (Or.inl (lw_all_tbl q1104)) dX14_resolve_399 (fun v10 hv10 => ?_)
      refine r_getf (vA (mg Γ)) rfl o cf_X12_fields (Or.inr (Or.inl ⟨_, q672⟩)) dX14_resolve_402 (fun v11 hv11 => ?_)
      refine r_putf (vA (mg Γ)) rfl o cf_X15_fields (Or.inr (Or.inl ⟨_, q1076⟩)) dX14_resolve_405 (Or.inl rfl) trivial (ty_array _) ?_
      refine s_aload_n o dX14_resolve_408 rfl 0 rfl ?_
      refine r_getf (vA (mg Γ)) rfl o cf_X14_program (Or.inl (lw_all_tbl q1105)) dX14_resolve_409 (fun v12 hv12 => ?_)
      refine s_aload_n o dX14_resolve_412 rfl 0 rfl ?_
      refine r_getf (vA (mg Γ)) rfl o cf_X14_text (Or.inl (lw_all_tbl q1104)) dX14_resolve_413 (fun v13 hv13 => ?_)
      refine r_getf vI rfl o cf_X12_constructorCount (Or.inr (Or.inl ⟨_, q674⟩)) dX14_resolve_416 (fun v14 hv14 => ?_)
      refine r_putf vI rfl o cf_X15_constructorCount (Or.inr (Or.inl ⟨_, q1079⟩)) dX14_resolve_419 (Or.inl rfl) hv14 ty_int ?_
      refine s_aload_n o dX14_resolve_422 rfl 0 rfl ?_
      refine r_getf vI rfl o cf_X14_kind (Or.inl (lw_all_tbl q1110)) dX14_resolve_423 (fun v15 hv15 => ?_)
      refine s_if_ne (tgt := 436) o dX14_resolve_426 (by decide) hv15 ?_ ?_
      · refine s_null o dX14_resolve_436 ?_
        exact s_aret o rfl (Or.inl ⟨_, rfl⟩) dX14_resolve_437 (fun _ hh => hh)
      · refine s_aload_n o dX14_resolve_429 rfl 0 rfl ?_
        refine r_getf (vA (mg Γ)) rfl o cf_X14_program (Or.inl (lw_all_tbl q1105)) dX14_resolve_430 (fun v16 hv16 => ?_)
        refine s_goto (tgt := 437) o dX14_resolve_433 (by decide) ?_
        exact s_aret o rfl (Or.inl ⟨_, rfl⟩) dX14_resolve_437 (fun _ hh => hh)
noncomputable def c_X14_resolve_252  (l0 : Int) : Mo CH Int :=
  bnd (isk 114 l0) fun _ =>
  bnd (c_X14_fail l0 7 0) fun v1 =>
  c_X14_resolve_260 l0
theorem sc_X14_resolve_252 {Γ : Gm} {ts : TS} {d : Nat} (o : Ok Γ "LazyForge$Resolver" cX14_resolve 3 (Option.some (Jvm.ClassFile.FieldType.object "LazyForge$Program")) (d + 610))   (l0 : Int) : Sx Γ (fun h => (h, ts)) (fun a s => mt Γ = (0, a, ((s, ts) : Wd))) 252 [(0, vA (mg Γ) l0)] [] (c_X14_resolve_252 l0) := by
  unfold c_X14_resolve_252
  refine s_aload_n o dX14_resolve_252 rfl 0 rfl ?_
  refine s_bipush o dX14_resolve_253 rfl ?_
  refine s_iconst o dX14_resolve_255 ?_
  refine s_cvC (d := d + 609) (As := [vI 7, vI 0]) (st := []) (c := 14) o (sc_X14_fail (mg Γ) (d + 609) ts l0 7 0 (r32 rfl) (r32 rfl)) mw_X14_fail rfl (Or.inl (lw_all_tbl q1584)) rfl (lw_all_tbl qs45) (lw_all_tbl q1586) wt_0 rfl dX14_resolve_256 rfl (rs := fun r => [vA (mg Γ) r]) (fun _ => rfl) (fun v1 hv1 => ?_)
  refine s_pop o dX14_resolve_259 (vA_cat (mg Γ) v1) ?_
  exact sc_X14_resolve_260 o l0
noncomputable def c_X14_resolve (l0 : Int) : Mo CH Int :=
  c_X14_resolve_2
    (fun v1 => c_X14_resolve_78
    (fun v2 => bnd (gf [114] 6 v2) fun v3 =>
  if v3 = 0 then
    c_X14_resolve_149
      (fun v4 => bnd (gf [114] 1 v4) fun v5 =>
    bnd (gf [115] 3 v5) fun v6 =>
    if v6 = (-1) then
      c_X14_resolve_252 v4
    else
      bnd (gf [114] 1 v4) fun v7 =>
      bnd (gf [115] 0 v7) fun v8 =>
      bnd (gf [114] 1 v4) fun v9 =>
      bnd (gf [115] 3 v9) fun v10 =>
      bnd (isk 127 v8) fun _ =>
      bnd (c_J13_get v8 v10) fun v11 =>
      bnd (ckk [116] v11) fun _ =>
      bnd (isk 116 v11) fun _ =>
      bnd (c_X16_parameters v11) fun v12 =>
      if v12 ≤ 0 then
        c_X14_resolve_260 v4
      else
        c_X14_resolve_252 v4) v2 0
  else
    pr 0) v1 0) l0 0
theorem sc_X14_resolve (g : gC) (d : Nat) (ts : TS) (l0 : Int) : SF g yX14_resolve (Cond.code yX14_resolve cX14_resolve 3 (Option.some (Jvm.ClassFile.FieldType.object "LazyForge$Program"))) (Option.some (Jvm.ClassFile.FieldType.object "LazyForge$Program")) (d + 610) [vA g l0] (fun h => (h, ts)) (c_X14_resolve l0) := by
  refine SF.of (lv := [(0, vA g l0)]) (by decide) (wt_A wt_0) rfl (by simp only [la_A, la_I, la_J, la_0]) (fun Γ hg hnm o => ?_)
  subst hg
  have o : Ok Γ "LazyForge$Resolver" cX14_resolve 3 (Option.some (Jvm.ClassFile.FieldType.object "LazyForge$Program")) (d + 610) := o
  unfold c_X14_resolve
  refine s_iconst o dX14_resolve_0 ?_
  refine r_istore_n o dX14_resolve_1 rfl rfl ⟨(Nat.ne_of_beq_eq_false rfl), (fun _ => (vA_cat (mg Γ) l0)), trivial⟩ ?_
  refine r_to [(0, vA (mg Γ) l0), (1, vI 0)] [1, 0] rfl ?_
  refine sc_X14_resolve_2 o _ ?_ l0 0 (r32 rfl)
  · intro v1
    refine s_iconst o dX14_resolve_76 ?_
    refine r_istore_n o dX14_resolve_77 rfl rfl ⟨(Nat.ne_of_beq_eq_false rfl), (fun _ => (vA_cat (mg Γ) v1)), trivial⟩ ?_
    refine r_to [(0, vA (mg Γ) v1), (1, vI 0)] [1, 0] rfl ?_
    refine sc_X14_resolve_78 o _ ?_ v1 0 (r32 rfl)
    · intro v2
      refine s_aload_n o dX14_resolve_138 rfl 0 rfl ?_
      refine r_getf vI rfl o cf_X14_kind (Or.inl (lw_all_tbl q1110)) dX14_resolve_139 (fun v3 hv3 => ?_)
      refine s_if_eq (tgt := 147) o dX14_resolve_142 (by decide) hv3 ?_ ?_
      · refine s_iconst o dX14_resolve_147 ?_
        refine r_istore_n o dX14_resolve_148 rfl rfl ⟨(Nat.ne_of_beq_eq_false rfl), (fun _ => (vA_cat (mg Γ) v2)), trivial⟩ ?_
        refine r_to [(0, vA (mg Γ) v2), (1, vI 0)] [1, 0] rfl ?_
        refine sc_X14_resolve_149 o _ ?_ v2 0 (r32 rfl)
        · intro v4
          refine s_aload_n o dX14_resolve_215 rfl 0 rfl ?_
          refine r_getf (vA (mg Γ)) rfl o cf_X14_program (Or.inl (lw_all_tbl q1105)) dX14_resolve_216 (fun v5 hv5 => ?_)
          refine r_getf vI rfl o cf_X15_main (Or.inr (Or.inl ⟨_, q1069⟩)) dX14_resolve_219 (fun v6 hv6 => ?_)
          refine s_iconst o dX14_resolve_222 ?_
          refine s_icmp_eq (tgt := 252) o dX14_resolve_223 (by decide) hv6 (r32 rfl) ?_ ?_
          · exact sc_X14_resolve_252 o v4
          · refine s_aload_n o dX14_resolve_226 rfl 0 rfl ?_
            refine r_getf (vA (mg Γ)) rfl o cf_X14_program (Or.inl (lw_all_tbl q1105)) dX14_resolve_227 (fun v7 hv7 => ?_)
            refine r_getf (vA (mg Γ)) rfl o cf_X15_functions (Or.inr (Or.inl ⟨_, q1057⟩)) dX14_resolve_230 (fun v8 hv8 => ?_)
            refine s_aload_n o dX14_resolve_233 rfl 0 rfl ?_
            refine r_getf (vA (mg Γ)) rfl o cf_X14_program (Or.inl (lw_all_tbl q1105)) dX14_resolve_234 (fun v9 hv9 => ?_)
            refine r_getf vI rfl o cf_X15_main (Or.inr (Or.inl ⟨_, q1069⟩)) dX14_resolve_237 (fun v10 hv10 => ?_)
            refine s_cvC (d := d + 609) (As := [vI v10]) (st := []) (c := 27) o (sc_J13_get (mg Γ) (d + 607) ts v8 v10 hv10) mw_J13_get rfl (Or.inl (lw_all_tbl q1266)) rfl (lw_all_tbl q1268) (lw_all_tbl q1267) wt_0 rfl dX14_resolve_240 rfl (rs := fun r => [vA (mg Γ) r]) (fun _ => rfl) (fun v11 hv11 => ?_)
            refine s_cast o (cs_X16 o) (lw_all_tbl q1135) dX14_resolve_243 ?_
            refine s_cvC (d := d + 609) (As := []) (st := []) (c := 16) o (sc_X16_parameters (mg Γ) (d + 608) ts v11) mw_X16_parameters rfl (Or.inl (lw_all_tbl q1604)) rfl (lw_all_tbl q1606) (lw_all_tbl q1605) wt_0 rfl dX14_resolve_246 rfl (rs := fun r => [vI r]) (fun _ => rfl) (fun v12 hv12 => ?_)
            refine s_if_le (tgt := 260) o dX14_resolve_249 (by decide) (hv12 _ rfl) ?_ ?_
            · exact sc_X14_resolve_260 o v4
            · exact sc_X14_resolve_252 o v4
      · refine s_null o dX14_resolve_145 ?_
        exact s_aret o rfl (Or.inl ⟨_, rfl⟩) dX14_resolve_146 (fun _ hh => hh)
theorem dX14_init_0 : decode cX14_init 0 = .ok (.aload_n 0, 1) := by decide +kernel
theorem dX14_init_1 : decode cX14_init 1 = .ok (.invokespecial 3, 3) := by decide +kernel
theorem dX14_init_4 : decode cX14_init 4 = .ok (.aload_n 0, 1) := by decide +kernel
theorem dX14_init_5 : decode cX14_init 5 = .ok (.new 9, 3) := by decide +kernel
theorem dX14_init_8 : decode cX14_init 8 = .ok (.dup, 1) := by decide +kernel
theorem dX14_init_9 : decode cX14_init 9 = .ok (.invokespecial 11, 3) := by decide +kernel
theorem dX14_init_12 : decode cX14_init 12 = .ok (.putfield 12, 3) := by decide +kernel
theorem dX14_init_15 : decode cX14_init 15 = .ok (.aload_n 0, 1) := by decide +kernel
theorem dX14_init_16 : decode cX14_init 16 = .ok (.bipush 64, 2) := by decide +kernel
theorem dX14_init_18 : decode cX14_init 18 = .ok (.newarray .long, 2) := by decide +kernel
theorem dX14_init_20 : decode cX14_init 20 = .ok (.putfield 18, 3) := by decide +kernel
theorem dX14_init_23 : decode cX14_init 23 = .ok (.aload_n 0, 1) := by decide +kernel
theorem dX14_init_24 : decode cX14_init 24 = .ok (.bipush 64, 2) := by decide +kernel
theorem dX14_init_26 : decode cX14_init 26 = .ok (.anewarray 22, 3) := by decide +kernel
theorem dX14_init_29 : decode cX14_init 29 = .ok (.putfield 24, 3) := by decide +kernel
theorem dX14_init_32 : decode cX14_init 32 = .ok (.aload_n 0, 1) := by decide +kernel
theorem dX14_init_33 : decode cX14_init 33 = .ok (.new 28, 3) := by decide +kernel
theorem dX14_init_36 : decode cX14_init 36 = .ok (.dup, 1) := by decide +kernel
theorem dX14_init_37 : decode cX14_init 37 = .ok (.invokespecial 30, 3) := by decide +kernel
theorem dX14_init_40 : decode cX14_init 40 = .ok (.putfield 31, 3) := by decide +kernel
theorem dX14_init_43 : decode cX14_init 43 = .ok (.aload_n 0, 1) := by decide +kernel
theorem dX14_init_44 : decode cX14_init 44 = .ok (.iconst (-1), 1) := by decide +kernel
theorem dX14_init_45 : decode cX14_init 45 = .ok (.putfield 35, 3) := by decide +kernel
theorem dX14_init_48 : decode cX14_init 48 = .ok (.aload_n 0, 1) := by decide +kernel
theorem dX14_init_49 : decode cX14_init 49 = .ok (.aload_n 1, 1) := by decide +kernel
theorem dX14_init_50 : decode cX14_init 50 = .ok (.putfield 39, 3) := by decide +kernel
theorem dX14_init_53 : decode cX14_init 53 = .ok (.return_, 1) := by decide +kernel
theorem mw_X14_init : MW yX14_init (Cond.code yX14_init cX14_init 2 (Option.none : Option Jvm.ClassFile.FieldType)) cX14_init 2 (Option.none : Option Jvm.ClassFile.FieldType) 1 := ⟨rfl, ⟨(lw_all_tbl q1022), rfl, (lw_all_tbl q188)⟩, rfl, ⟨by decide, by decide⟩, by decide +kernel⟩
noncomputable def c_X14_init (l0 : Int) (l1 : Int) : Mo CH Int :=
  bnd (newo 15) fun v1 =>
  bnd (c_X15_init v1) fun _ =>
  bnd (pf [114] 1 l0 v1) fun _ =>
  bnd (newa 1 64) fun v2 =>
  bnd (pf [114] 2 l0 v2) fun _ =>
  bnd (newa 7 64) fun v3 =>
  bnd (pf [114] 3 l0 v3) fun _ =>
  bnd (newo 27) fun v4 =>
  bnd (c_J13_init v4) fun _ =>
  bnd (pf [114] 5 l0 v4) fun _ =>
  bnd (pf [114] 7 l0 (-1)) fun _ =>
  bnd (pf [114] 0 l0 l1) fun _ =>
  pr 0
theorem sc_X14_init (g : gC) (d : Nat) (ts : TS) (l0 : Int) (l1 : Int) (hl0 : 0 < l0) : SF g yX14_init (Cond.code yX14_init cX14_init 2 (Option.none : Option Jvm.ClassFile.FieldType)) (Option.none : Option Jvm.ClassFile.FieldType) (d + 5) [vA g l0, vA g l1] (fun h => (h, ts)) (c_X14_init l0 l1) := by
  refine SF.of (lv := [(0, vA g l0), (1, vA g l1)]) (by decide) (wt_A (wt_A wt_0)) rfl (by simp only [la_A, la_I, la_J, la_0]) (fun Γ hg hnm o => ?_)
  subst hg
  have o : Ok Γ "LazyForge$Resolver" cX14_init 2 (Option.none : Option Jvm.ClassFile.FieldType) (d + 5) := o
  have hnm : (xMe (mx Γ)).name = "<init>" := hnm
  unfold c_X14_init
  refine s_aload_n o dX14_init_0 rfl 0 rfl ?_
  refine s_obj (d := d + 4) o (lw_all_tbl q1023) hl0 wt_0 rfl dX14_init_1 (lw_all_tbl q216) (lw_all_tbl q217) ?_
  refine s_aload_n o dX14_init_4 rfl 0 rfl ?_
  refine s_new o mk_15 (lw_all_tbl q1024) dX14_init_5 (fun v1 hv1 => ?_)
  refine s_dup o dX14_init_8 (vA_cat (mg Γ) v1) ?_
  refine s_ci (d := d + 4) (As := []) (st := [vA (mg Γ) v1, vA (mg Γ) l0]) o (sc_X15_init (mg Γ) d ts v1 hv1) mw_X15_init rfl (Or.inr ⟨_, q1026⟩) (lw_all_tbl q1027) rfl hv1 (wt_A (wt_A wt_0)) rfl dX14_init_9 rfl (fun _ => ?_)
  refine r_putf (vA (mg Γ)) rfl o cf_X14_program (Or.inl (lw_all_tbl q1105)) dX14_init_12 (Or.inr ⟨hnm, rfl, (lw_all_tbl q1105)⟩) trivial (ty_object _) ?_
  refine s_aload_n o dX14_init_15 rfl 0 rfl ?_
  refine s_bipush o dX14_init_16 rfl ?_
  refine s_newa (kd := 1) o (by decide) rfl (by decide) (o.ra (by decide)) (lw_all_tbl q438) (r32 rfl) dX14_init_18 (fun v2 hv2 => ?_)
  refine r_putf (vA (mg Γ)) rfl o cf_X14_names (Or.inl (lw_all_tbl q1106)) dX14_init_20 (Or.inl rfl) trivial (ty_array _) ?_
  refine s_aload_n o dX14_init_23 rfl 0 rfl ?_
  refine s_bipush o dX14_init_24 rfl ?_
  refine s_anew (kd := 7) o (by decide) (Or.inl rfl) (lw_all_tbl q1100) ao_7 (r32 rfl) dX14_init_26 (fun v3 hv3 => ?_)
  refine r_putf (vA (mg Γ)) rfl o cf_X14_variables (Or.inl (lw_all_tbl q1107)) dX14_init_29 (Or.inl rfl) trivial (ty_array _) ?_
  refine s_aload_n o dX14_init_32 rfl 0 rfl ?_
  refine s_new o mk_27 (lw_all_tbl q1102) dX14_init_33 (fun v4 hv4 => ?_)
  refine s_dup o dX14_init_36 (vA_cat (mg Γ) v4) ?_
  refine s_ci (d := d + 4) (As := []) (st := [vA (mg Γ) v4, vA (mg Γ) l0]) o (sc_J13_init (mg Γ) (d + 1) ts v4 hv4) mw_J13_init rfl (Or.inl (lw_all_tbl q1103)) (lw_all_tbl q1033) rfl hv4 (wt_A (wt_A wt_0)) rfl dX14_init_37 rfl (fun _ => ?_)
  refine r_putf (vA (mg Γ)) rfl o cf_X14_uses (Or.inl (lw_all_tbl q1109)) dX14_init_40 (Or.inr ⟨hnm, rfl, (lw_all_tbl q1109)⟩) trivial (ty_object _) ?_
  refine s_aload_n o dX14_init_43 rfl 0 rfl ?_
  refine s_iconst o dX14_init_44 ?_
  refine r_putf vI rfl o cf_X14_place (Or.inl (lw_all_tbl q1112)) dX14_init_45 (Or.inl rfl) (r32 rfl) ty_int ?_
  refine s_aload_n o dX14_init_48 rfl 0 rfl ?_
  refine s_aload_n o dX14_init_49 rfl 1 rfl ?_
  refine r_putf (vA (mg Γ)) rfl o cf_X14_text (Or.inl (lw_all_tbl q1104)) dX14_init_50 (Or.inr ⟨hnm, rfl, (lw_all_tbl q1104)⟩) trivial (ty_object _) ?_
  exact s_vret o rfl dX14_init_53 (fun _ hh => hh)
theorem dX13_init_0 : decode cX13_init 0 = .ok (.aload_n 0, 1) := by decide +kernel
theorem dX13_init_1 : decode cX13_init 1 = .ok (.invokespecial 1, 3) := by decide +kernel
theorem dX13_init_4 : decode cX13_init 4 = .ok (.aload_n 0, 1) := by decide +kernel
theorem dX13_init_5 : decode cX13_init 5 = .ok (.iload_n 1, 1) := by decide +kernel
theorem dX13_init_6 : decode cX13_init 6 = .ok (.putfield 7, 3) := by decide +kernel
theorem dX13_init_9 : decode cX13_init 9 = .ok (.aload_n 0, 1) := by decide +kernel
theorem dX13_init_10 : decode cX13_init 10 = .ok (.iload_n 2, 1) := by decide +kernel
theorem dX13_init_11 : decode cX13_init 11 = .ok (.putfield 13, 3) := by decide +kernel
theorem dX13_init_14 : decode cX13_init 14 = .ok (.return_, 1) := by decide +kernel
theorem mw_X13_init : MW yX13_init (Cond.code yX13_init cX13_init 3 (Option.none : Option Jvm.ClassFile.FieldType)) cX13_init 3 (Option.none : Option Jvm.ClassFile.FieldType) 2 := ⟨rfl, ⟨(lw_all_tbl q894), rfl, (lw_all_tbl q187)⟩, rfl, ⟨by decide, by decide⟩, by decide +kernel⟩
noncomputable def c_X13_init (l0 : Int) (l1 : Int) (l2 : Int) : Mo CH Int :=
  bnd (pf [113] 0 l0 l1) fun _ =>
  bnd (pf [113] 1 l0 l2) fun _ =>
  pr 0
theorem sc_X13_init (g : gC) (d : Nat) (ts : TS) (l0 : Int) (l1 : Int) (l2 : Int) (hl0 : 0 < l0) (hl1 : R32 l1) (hl2 : R32 l2) : SF g yX13_init (Cond.code yX13_init cX13_init 3 (Option.none : Option Jvm.ClassFile.FieldType)) (Option.none : Option Jvm.ClassFile.FieldType) (d + 1) [vA g l0, vI l1, vI l2] (fun h => (h, ts)) (c_X13_init l0 l1 l2) := by
  refine SF.of (lv := [(0, vA g l0), (1, vI l1), (2, vI l2)]) (by decide) (wt_A (wt_I (wt_I wt_0))) rfl (by simp only [la_A, la_I, la_J, la_0]) (fun Γ hg hnm o => ?_)
  subst hg
  have o : Ok Γ "LazyForge$Raw" cX13_init 3 (Option.none : Option Jvm.ClassFile.FieldType) (d + 1) := o
  have hnm : (xMe (mx Γ)).name = "<init>" := hnm
  unfold c_X13_init
  refine s_aload_n o dX13_init_0 rfl 0 rfl ?_
  refine s_obj (d := d + 0) o (lw_all_tbl q895) hl0 wt_0 rfl dX13_init_1 (lw_all_tbl q216) (lw_all_tbl q217) ?_
  refine s_aload_n o dX13_init_4 rfl 0 rfl ?_
  refine s_iload_n o dX13_init_5 rfl 1 rfl ?_
  refine r_putf vI rfl o cf_X13_kind (Or.inl (lw_all_tbl q896)) dX13_init_6 (Or.inr ⟨hnm, rfl, (lw_all_tbl q896)⟩) hl1 ty_int ?_
  refine s_aload_n o dX13_init_9 rfl 0 rfl ?_
  refine s_iload_n o dX13_init_10 rfl 2 rfl ?_
  refine r_putf vI rfl o cf_X13_place (Or.inl (lw_all_tbl q898)) dX13_init_11 (Or.inr ⟨hnm, rfl, (lw_all_tbl q898)⟩) hl2 ty_int ?_
  exact s_vret o rfl dX13_init_14 (fun _ hh => hh)
theorem dX12_two_0 : decode cX12_two 0 = .ok (.new 34, 3) := by decide +kernel
theorem dX12_two_3 : decode cX12_two 3 = .ok (.dup, 1) := by decide +kernel
theorem dX12_two_4 : decode cX12_two 4 = .ok (.iconst 3, 1) := by decide +kernel
theorem dX12_two_5 : decode cX12_two 5 = .ok (.iload_n 2, 1) := by decide +kernel
theorem dX12_two_6 : decode cX12_two 6 = .ok (.invokespecial 231, 3) := by decide +kernel
theorem dX12_two_9 : decode cX12_two 9 = .ok (.astore 5, 2) := by decide +kernel
theorem dX12_two_11 : decode cX12_two 11 = .ok (.aload 5, 2) := by decide +kernel
theorem dX12_two_13 : decode cX12_two 13 = .ok (.iload_n 1, 1) := by decide +kernel
theorem dX12_two_14 : decode cX12_two 14 = .ok (.putfield 277, 3) := by decide +kernel
theorem dX12_two_17 : decode cX12_two 17 = .ok (.aload 5, 2) := by decide +kernel
theorem dX12_two_19 : decode cX12_two 19 = .ok (.iconst 2, 1) := by decide +kernel
theorem dX12_two_20 : decode cX12_two 20 = .ok (.anewarray 34, 3) := by decide +kernel
theorem dX12_two_23 : decode cX12_two 23 = .ok (.dup, 1) := by decide +kernel
theorem dX12_two_24 : decode cX12_two 24 = .ok (.iconst 0, 1) := by decide +kernel
theorem dX12_two_25 : decode cX12_two 25 = .ok (.aload_n 3, 1) := by decide +kernel
theorem dX12_two_26 : decode cX12_two 26 = .ok (.aastore, 1) := by decide +kernel
theorem dX12_two_27 : decode cX12_two 27 = .ok (.dup, 1) := by decide +kernel
theorem dX12_two_28 : decode cX12_two 28 = .ok (.iconst 1, 1) := by decide +kernel
theorem dX12_two_29 : decode cX12_two 29 = .ok (.aload 4, 2) := by decide +kernel
theorem dX12_two_31 : decode cX12_two 31 = .ok (.aastore, 1) := by decide +kernel
theorem dX12_two_32 : decode cX12_two 32 = .ok (.putfield 240, 3) := by decide +kernel
theorem dX12_two_35 : decode cX12_two 35 = .ok (.aload 5, 2) := by decide +kernel
theorem dX12_two_37 : decode cX12_two 37 = .ok (.areturn, 1) := by decide +kernel
theorem mw_X12_two : MW yX12_two (Cond.code yX12_two cX12_two 6 (Option.some (Jvm.ClassFile.FieldType.object "LazyForge$Raw"))) cX12_two 6 (Option.some (Jvm.ClassFile.FieldType.object "LazyForge$Raw")) 4 := ⟨rfl, ⟨(lw_all_tbl q1012), rfl, (lw_all_tbl q180)⟩, rfl, ⟨by decide, by decide⟩, by decide +kernel⟩
noncomputable def c_X12_two (l0 : Int) (l1 : Int) (l2 : Int) (l3 : Int) (l4 : Int) : Mo CH Int :=
  bnd (newo 13) fun v1 =>
  bnd (c_X13_init v1 3 l2) fun _ =>
  bnd (pf [113] 2 v1 l1) fun _ =>
  bnd (newa 6 2) fun v2 =>
  bnd (asq 6 v2 0 l3) fun _ =>
  bnd (asq 6 v2 1 l4) fun _ =>
  bnd (pf [113] 6 v1 v2) fun _ =>
  pr v1
theorem sc_X12_two (g : gC) (d : Nat) (ts : TS) (l0 : Int) (l1 : Int) (l2 : Int) (l3 : Int) (l4 : Int) (hl1 : R32 l1) (hl2 : R32 l2) : SF g yX12_two (Cond.code yX12_two cX12_two 6 (Option.some (Jvm.ClassFile.FieldType.object "LazyForge$Raw"))) (Option.some (Jvm.ClassFile.FieldType.object "LazyForge$Raw")) (d + 2) [vA g l0, vI l1, vI l2, vA g l3, vA g l4] (fun h => (h, ts)) (c_X12_two l0 l1 l2 l3 l4) := by
  refine SF.of (lv := [(0, vA g l0), (1, vI l1), (2, vI l2), (3, vA g l3), (4, vA g l4)]) (by decide) (wt_A (wt_I (wt_I (wt_A (wt_A wt_0))))) rfl (by simp only [la_A, la_I, la_J, la_0]) (fun Γ hg hnm o => ?_)
  subst hg
  have o : Ok Γ "LazyForge$Reader" cX12_two 6 (Option.some (Jvm.ClassFile.FieldType.object "LazyForge$Raw")) (d + 2) := o
  unfold c_X12_two
  refine s_new o mk_13 (lw_all_tbl q594) dX12_two_0 (fun v1 hv1 => ?_)
  refine s_dup o dX12_two_3 (vA_cat (mg Γ) v1) ?_
  refine s_iconst o dX12_two_4 ?_
  refine s_iload_n o dX12_two_5 rfl 2 rfl ?_
  refine s_ci (d := d + 1) (As := [vI 3, vI l2]) (st := [vA (mg Γ) v1]) o (sc_X13_init (mg Γ) d ts v1 3 l2 hv1 (r32 rfl) hl2) mw_X13_init rfl (Or.inl (lw_all_tbl q892)) (lw_all_tbl q893) rfl hv1 (wt_A wt_0) rfl dX12_two_6 rfl (fun _ => ?_)
  refine r_astore o dX12_two_9 rfl ⟨(Nat.ne_of_beq_eq_false rfl), (fun _ => (vA_cat (mg Γ) l0)), ⟨(Nat.ne_of_beq_eq_false rfl), (fun _ => rfl), ⟨(Nat.ne_of_beq_eq_false rfl), (fun _ => rfl), ⟨(Nat.ne_of_beq_eq_false rfl), (fun _ => (vA_cat (mg Γ) l3)), ⟨(Nat.ne_of_beq_eq_false rfl), (fun _ => (vA_cat (mg Γ) l4)), trivial⟩⟩⟩⟩⟩ ?_
  refine s_aload o dX12_two_11 0 rfl ?_
  refine s_iload_n o dX12_two_13 rfl 2 rfl ?_
  refine r_putf vI rfl o cf_X13_op (Or.inr (Or.inl ⟨_, q902⟩)) dX12_two_14 (Or.inl rfl) hl1 ty_int ?_
  refine s_aload o dX12_two_17 0 rfl ?_
  refine s_iconst o dX12_two_19 ?_
  refine s_anew (kd := 6) o (by decide) (Or.inl rfl) (lw_all_tbl q594) ao_6 (r32 rfl) dX12_two_20 (fun v2 hv2 => ?_)
  refine s_dup o dX12_two_23 (vA_cat (mg Γ) v2) ?_
  refine s_iconst o dX12_two_24 ?_
  refine s_aload_n o dX12_two_25 rfl 4 rfl ?_
  refine s_aast (kd := 6) o (by decide) (as_6 o) (Or.inl ⟨_, rfl⟩) (r32 rfl) dX12_two_26 ?_
  refine s_dup o dX12_two_27 (vA_cat (mg Γ) v2) ?_
  refine s_iconst o dX12_two_28 ?_
  refine s_aload o dX12_two_29 5 rfl ?_
  refine s_aast (kd := 6) o (by decide) (as_6 o) (Or.inl ⟨_, rfl⟩) (r32 rfl) dX12_two_31 ?_
  refine r_putf (vA (mg Γ)) rfl o cf_X13_kids (Or.inr (Or.inl ⟨_, q910⟩)) dX12_two_32 (Or.inl rfl) trivial (ty_array _) ?_
  refine s_aload o dX12_two_35 0 rfl ?_
  exact s_aret o rfl (Or.inl ⟨_, rfl⟩) dX12_two_37 (fun _ hh => hh)
theorem dX12_constructor_0 : decode cX12_constructor 0 = .ok (.iconst 0, 1) := by decide +kernel
theorem dX12_constructor_1 : decode cX12_constructor 1 = .ok (.istore_n 3, 1) := by decide +kernel
theorem dX12_constructor_2 : decode cX12_constructor 2 = .ok (.iload_n 3, 1) := by decide +kernel
theorem dX12_constructor_3 : decode cX12_constructor 3 = .ok (.aload_n 0, 1) := by decide +kernel
theorem dX12_constructor_4 : decode cX12_constructor 4 = .ok (.getfield 66, 3) := by decide +kernel
theorem dX12_constructor_7 : decode cX12_constructor 7 = .ok (.if_icmp .ge 22, 3) := by decide +kernel
theorem dX12_constructor_10 : decode cX12_constructor 10 = .ok (.aload_n 0, 1) := by decide +kernel
theorem dX12_constructor_11 : decode cX12_constructor 11 = .ok (.getfield 15, 3) := by decide +kernel
theorem dX12_constructor_14 : decode cX12_constructor 14 = .ok (.iload_n 3, 1) := by decide +kernel
theorem dX12_constructor_15 : decode cX12_constructor 15 = .ok (.laload, 1) := by decide +kernel
theorem dX12_constructor_16 : decode cX12_constructor 16 = .ok (.lload_n 1, 1) := by decide +kernel
theorem dX12_constructor_17 : decode cX12_constructor 17 = .ok (.lcmp, 1) := by decide +kernel
theorem dX12_constructor_18 : decode cX12_constructor 18 = .ok (.ifCond .ne 5, 3) := by decide +kernel
theorem dX12_constructor_21 : decode cX12_constructor 21 = .ok (.iload_n 3, 1) := by decide +kernel
theorem dX12_constructor_22 : decode cX12_constructor 22 = .ok (.ireturn, 1) := by decide +kernel
theorem dX12_constructor_23 : decode cX12_constructor 23 = .ok (.iinc 3 1, 3) := by decide +kernel
theorem dX12_constructor_26 : decode cX12_constructor 26 = .ok (.goto (-24), 3) := by decide +kernel
theorem dX12_constructor_29 : decode cX12_constructor 29 = .ok (.iconst (-1), 1) := by decide +kernel
theorem dX12_constructor_30 : decode cX12_constructor 30 = .ok (.ireturn, 1) := by decide +kernel
theorem mw_X12_constructor : MW yX12_constructor (Cond.code yX12_constructor cX12_constructor 4 (Option.some Jvm.ClassFile.FieldType.int)) cX12_constructor 4 (Option.some Jvm.ClassFile.FieldType.int) 1 := ⟨rfl, ⟨(lw_all_tbl q853), rfl, (lw_all_tbl q180)⟩, rfl, ⟨by decide, by decide⟩, by decide +kernel⟩
abbrev okc_X12_constructor_2 (x : Int × Int × Int) : Prop := R64 x.2.1 ∧ R32 x.2.2
abbrev lvc_X12_constructor_2 (Γ : Gm) (x : Int × Int × Int) : List (Nat × Value) := [(0, vA (mg Γ) x.1), (1, vJ x.2.1), (3, vI x.2.2)]
noncomputable def c_X12_constructor_2b {A : Type} (k_21 : Int → Mo CH A) (k_29 : Mo CH A) (l0 : Int) (l1 : Int) (l3 : Int) : Mo CH ((Int × Int × Int) ⊕ A) :=
  bnd (gf [112] 15 l0) fun v1 =>
  if v1 ≤ l3 then
    lo k_29
  else
    bnd (gf [112] 13 l0) fun v2 =>
    bnd (ald 1 v2 l3) fun v3 =>
    if ¬ v3 = l1 then
      pr (.inl (l0, l1, (w32 (l3 + 1))))
    else
      lo (k_21 l3)
theorem sc_X12_constructor_2b {Γ : Gm} {ts : TS} {d : Nat} (o : Ok Γ "LazyForge$Reader" cX12_constructor 4 (Option.some Jvm.ClassFile.FieldType.int) (d + 0)) {A : Type} {K : A → CH → Prop} (k_21 : Int → Mo CH A) (k_29 : Mo CH A) (hk_21 : ∀ (l3 : Int), R32 l3 → Sx Γ (fun h => (h, ts)) K 21 [(3, vI l3)] [] (k_21 l3)) (hk_29 : Sx Γ (fun h => (h, ts)) K 29 [] [] (k_29)) (l0 : Int) (l1 : Int) (l3 : Int) (hl1 : R64 l1) (hl3 : R32 l3) : Sx Γ (fun h => (h, ts)) (KL Γ (fun h => (h, ts)) okc_X12_constructor_2 K 2 (lvc_X12_constructor_2 Γ) []) 2 [(0, vA (mg Γ) l0), (1, vJ l1), (3, vI l3)] [] (c_X12_constructor_2b k_21 k_29 l0 l1 l3) := by
  unfold c_X12_constructor_2b
  refine s_iload_n o dX12_constructor_2 rfl 2 rfl ?_
  refine s_aload_n o dX12_constructor_3 rfl 0 rfl ?_
  refine r_getf vI rfl o cf_X12_constructorCount (Or.inl (lw_all_tbl q673)) dX12_constructor_4 (fun v1 hv1 => ?_)
  refine s_icmp_ge (tgt := 29) o dX12_constructor_7 (by decide) hl3 hv1 ?_ ?_
  · refine r_to [] [] rfl ?_
    exact s_lo hk_29
  · refine s_aload_n o dX12_constructor_10 rfl 0 rfl ?_
    refine r_getf (vA (mg Γ)) rfl o cf_X12_constructors (Or.inl (lw_all_tbl q669)) dX12_constructor_11 (fun v2 hv2 => ?_)
    refine s_iload_n o dX12_constructor_14 rfl 2 rfl ?_
    refine r_lald o hl3 dX12_constructor_15 (fun v3 hv3 => ?_)
    refine s_lload_n o dX12_constructor_16 rfl 1 rfl ?_
    refine s_lcmp_ne (tgt := 23) o dX12_constructor_17 dX12_constructor_18 (by decide) hv3 hl1 ?_ ?_
    · refine r_iinc (j := 2) o dX12_constructor_23 rfl rfl [(0, vA (mg Γ) l0), (1, vJ l1)] [0, 1] rfl ⟨(Nat.ne_of_beq_eq_false rfl), (fun _ => (vA_cat (mg Γ) l0)), ⟨(Nat.ne_of_beq_eq_false rfl), (fun e => absurd e (Nat.ne_of_beq_eq_false rfl)), trivial⟩⟩ ?_
      refine s_goto (tgt := 2) o dX12_constructor_26 (by decide) ?_
      refine r_to [(0, vA (mg Γ) l0), (1, vJ l1), (3, vI (w32 (l3 + 1)))] [1, 2, 0] rfl ?_
      exact s_back (⟨hl1, (w32_R _)⟩) rfl
    · refine r_to [(3, vI l3)] [2] rfl ?_
      exact s_lo (hk_21 l3 hl3)
noncomputable def c_X12_constructor_2 {A : Type} (k_21 : Int → Mo CH A) (k_29 : Mo CH A) (l0 : Int) (l1 : Int) (l3 : Int) : Mo CH A := Loop (fun x => c_X12_constructor_2b k_21 k_29 x.1 x.2.1 x.2.2) (l0, l1, l3)
theorem sc_X12_constructor_2 {Γ : Gm} {ts : TS} {d : Nat} (o : Ok Γ "LazyForge$Reader" cX12_constructor 4 (Option.some Jvm.ClassFile.FieldType.int) (d + 0)) {A : Type} {K : A → CH → Prop} (k_21 : Int → Mo CH A) (k_29 : Mo CH A) (hk_21 : ∀ (l3 : Int), R32 l3 → Sx Γ (fun h => (h, ts)) K 21 [(3, vI l3)] [] (k_21 l3)) (hk_29 : Sx Γ (fun h => (h, ts)) K 29 [] [] (k_29)) (l0 : Int) (l1 : Int) (l3 : Int) (hl1 : R64 l1) (hl3 : R32 l3) : Sx Γ (fun h => (h, ts)) K 2 [(0, vA (mg Γ) l0), (1, vJ l1), (3, vI l3)] [] (c_X12_constructor_2 k_21 k_29 l0 l1 l3) :=
  s_loop okc_X12_constructor_2 (lvc_X12_constructor_2 Γ) (fun x hx => sc_X12_constructor_2b o k_21 k_29 hk_21 hk_29 x.1 x.2.1 x.2.2 hx.1 hx.2) (x := (l0, l1, l3)) ⟨hl1, hl3⟩
noncomputable def c_X12_constructor (l0 : Int) (l1 : Int) : Mo CH Int :=
  c_X12_constructor_2
    (fun v1 => pr v1)
    (pr (-1)) l0 l1 0
theorem sc_X12_constructor (g : gC) (d : Nat) (ts : TS) (l0 : Int) (l1 : Int) (hl1 : R64 l1) : SF g yX12_constructor (Cond.code yX12_constructor cX12_constructor 4 (Option.some Jvm.ClassFile.FieldType.int)) (Option.some Jvm.ClassFile.FieldType.int) (d + 0) [vA g l0, vJ l1] (fun h => (h, ts)) (c_X12_constructor l0 l1) := by
  refine SF.of (lv := [(0, vA g l0), (1, vJ l1)]) (by decide) (wt_A (wt_J wt_0)) rfl (by simp only [la_A, la_I, la_J, la_0]) (fun Γ hg hnm o => ?_)
  subst hg
  have o : Ok Γ "LazyForge$Reader" cX12_constructor 4 (Option.some Jvm.ClassFile.FieldType.int) (d + 0) := o
  unfold c_X12_constructor
  refine s_iconst o dX12_constructor_0 ?_
  refine r_istore_n o dX12_constructor_1 rfl rfl ⟨(Nat.ne_of_beq_eq_false rfl), (fun _ => (vA_cat (mg Γ) l0)), ⟨(Nat.ne_of_beq_eq_false rfl), (fun e => absurd e (Nat.ne_of_beq_eq_false rfl)), trivial⟩⟩ ?_
  refine r_to [(0, vA (mg Γ) l0), (1, vJ l1), (3, vI 0)] [1, 2, 0] rfl ?_
  refine sc_X12_constructor_2 o _ _ ?_ ?_ l0 l1 0 hl1 (r32 rfl)
  · intro v1 hv1
    refine s_iload_n o dX12_constructor_21 rfl 0 rfl ?_
    exact s_iret o rfl i_int hv1 dX12_constructor_22 (fun _ hh => hh)
  · refine s_iconst o dX12_constructor_29 ?_
    exact s_iret o rfl i_int (r32 rfl) dX12_constructor_30 (fun _ hh => hh)
theorem dX12_fail_0 : decode cX12_fail 0 = .ok (.aload_n 0, 1) := by decide +kernel
theorem dX12_fail_1 : decode cX12_fail 1 = .ok (.getfield 69, 3) := by decide +kernel
theorem dX12_fail_4 : decode cX12_fail 4 = .ok (.ifCond .ne 13, 3) := by decide +kernel
theorem dX12_fail_7 : decode cX12_fail 7 = .ok (.aload_n 0, 1) := by decide +kernel
theorem dX12_fail_8 : decode cX12_fail 8 = .ok (.iload_n 1, 1) := by decide +kernel
theorem dX12_fail_9 : decode cX12_fail 9 = .ok (.putfield 69, 3) := by decide +kernel
theorem dX12_fail_12 : decode cX12_fail 12 = .ok (.aload_n 0, 1) := by decide +kernel
theorem dX12_fail_13 : decode cX12_fail 13 = .ok (.iload_n 2, 1) := by decide +kernel
theorem dX12_fail_14 : decode cX12_fail 14 = .ok (.putfield 9, 3) := by decide +kernel
theorem dX12_fail_17 : decode cX12_fail 17 = .ok (.aconst_null, 1) := by decide +kernel
theorem dX12_fail_18 : decode cX12_fail 18 = .ok (.areturn, 1) := by decide +kernel
theorem mw_X12_fail : MW yX12_fail (Cond.code yX12_fail cX12_fail 3 (Option.some (Jvm.ClassFile.FieldType.object "LazyForge$Raw"))) cX12_fail 3 (Option.some (Jvm.ClassFile.FieldType.object "LazyForge$Raw")) 2 := ⟨rfl, ⟨(lw_all_tbl q849), rfl, (lw_all_tbl q180)⟩, rfl, ⟨by decide, by decide⟩, by decide +kernel⟩
noncomputable def c_X12_fail (l0 : Int) (l1 : Int) (l2 : Int) : Mo CH Int :=
  bnd (gf [112] 9 l0) fun v1 =>
  if ¬ v1 = 0 then
    pr 0
  else
    bnd (pf [112] 9 l0 l1) fun _ =>
    bnd (pf [112] 10 l0 l2) fun _ =>
    pr 0
theorem sc_X12_fail (g : gC) (d : Nat) (ts : TS) (l0 : Int) (l1 : Int) (l2 : Int) (hl1 : R32 l1) (hl2 : R32 l2) : SF g yX12_fail (Cond.code yX12_fail cX12_fail 3 (Option.some (Jvm.ClassFile.FieldType.object "LazyForge$Raw"))) (Option.some (Jvm.ClassFile.FieldType.object "LazyForge$Raw")) (d + 0) [vA g l0, vI l1, vI l2] (fun h => (h, ts)) (c_X12_fail l0 l1 l2) := by
  refine SF.of (lv := [(0, vA g l0), (1, vI l1), (2, vI l2)]) (by decide) (wt_A (wt_I (wt_I wt_0))) rfl (by simp only [la_A, la_I, la_J, la_0]) (fun Γ hg hnm o => ?_)
  subst hg
  have o : Ok Γ "LazyForge$Reader" cX12_fail 3 (Option.some (Jvm.ClassFile.FieldType.object "LazyForge$Raw")) (d + 0) := o
  unfold c_X12_fail
  refine s_aload_n o dX12_fail_0 rfl 0 rfl ?_
  refine r_getf vI rfl o cf_X12_kind (Or.inl (lw_all_tbl q662)) dX12_fail_1 (fun v1 hv1 => ?_)
  refine s_if_ne (tgt := 17) o dX12_fail_4 (by decide) hv1 ?_ ?_
  · refine s_null o dX12_fail_17 ?_
    exact s_aret o rfl (Or.inl ⟨_, rfl⟩) dX12_fail_18 (fun _ hh => hh)
  · refine s_aload_n o dX12_fail_7 rfl 0 rfl ?_
    refine s_iload_n o dX12_fail_8 rfl 1 rfl ?_
    refine r_putf vI rfl o cf_X12_kind (Or.inl (lw_all_tbl q662)) dX12_fail_9 (Or.inl rfl) hl1 ty_int ?_
    refine s_aload_n o dX12_fail_12 rfl 0 rfl ?_
    refine s_iload_n o dX12_fail_13 rfl 2 rfl ?_
    refine r_putf vI rfl o cf_X12_faultPlace (Or.inl (lw_all_tbl q664)) dX12_fail_14 (Or.inl rfl) hl2 ty_int ?_
    refine s_null o dX12_fail_17 ?_
    exact s_aret o rfl (Or.inl ⟨_, rfl⟩) dX12_fail_18 (fun _ hh => hh)
theorem dX12_isSign_0 : decode cX12_isSign 0 = .ok (.aload_n 0, 1) := by decide +kernel
theorem dX12_isSign_1 : decode cX12_isSign 1 = .ok (.getfield 97, 3) := by decide +kernel
theorem dX12_isSign_4 : decode cX12_isSign 4 = .ok (.iconst 5, 1) := by decide +kernel
theorem dX12_isSign_5 : decode cX12_isSign 5 = .ok (.if_icmp .ne 19, 3) := by decide +kernel
theorem dX12_isSign_8 : decode cX12_isSign 8 = .ok (.aload_n 0, 1) := by decide +kernel
theorem dX12_isSign_9 : decode cX12_isSign 9 = .ok (.getfield 94, 3) := by decide +kernel
theorem dX12_isSign_12 : decode cX12_isSign 12 = .ok (.aload_n 1, 1) := by decide +kernel
theorem dX12_isSign_13 : decode cX12_isSign 13 = .ok (.invokestatic 56, 3) := by decide +kernel
theorem dX12_isSign_16 : decode cX12_isSign 16 = .ok (.l2i, 1) := by decide +kernel
theorem dX12_isSign_17 : decode cX12_isSign 17 = .ok (.if_icmp .ne 7, 3) := by decide +kernel
theorem dX12_isSign_20 : decode cX12_isSign 20 = .ok (.iconst 1, 1) := by decide +kernel
theorem dX12_isSign_21 : decode cX12_isSign 21 = .ok (.goto 4, 3) := by decide +kernel
theorem dX12_isSign_24 : decode cX12_isSign 24 = .ok (.iconst 0, 1) := by decide +kernel
theorem dX12_isSign_25 : decode cX12_isSign 25 = .ok (.ireturn, 1) := by decide +kernel
theorem mw_X12_isSign : MW yX12_isSign (Cond.code yX12_isSign cX12_isSign 2 (Option.some Jvm.ClassFile.FieldType.boolean)) cX12_isSign 2 (Option.some Jvm.ClassFile.FieldType.boolean) 1 := ⟨rfl, ⟨(lw_all_tbl q862), rfl, (lw_all_tbl q180)⟩, rfl, ⟨by decide, by decide⟩, by decide +kernel⟩
noncomputable def c_X12_isSign (l0 : Int) (l1 : Int) : Mo CH Int :=
  bnd (gf [112] 4 l0) fun v1 =>
  if ¬ v1 = 5 then
    pr 0
  else
    bnd (gf [112] 7 l0) fun v2 =>
    bnd (c_X12_wordOf l1) fun v3 =>
    if ¬ v2 = (l2i v3) then
      pr 0
    else
      pr 1
theorem sc_X12_isSign (g : gC) (d : Nat) (ts : TS) (l0 : Int) (l1 : Int) : SF g yX12_isSign (Cond.code yX12_isSign cX12_isSign 2 (Option.some Jvm.ClassFile.FieldType.boolean)) (Option.some Jvm.ClassFile.FieldType.boolean) (d + 5) [vA g l0, vA g l1] (fun h => (h, ts)) (c_X12_isSign l0 l1) := by
  refine SF.of (lv := [(0, vA g l0), (1, vA g l1)]) (by decide) (wt_A (wt_A wt_0)) rfl (by simp only [la_A, la_I, la_J, la_0]) (fun Γ hg hnm o => ?_)
  subst hg
  have o : Ok Γ "LazyForge$Reader" cX12_isSign 2 (Option.some Jvm.ClassFile.FieldType.boolean) (d + 5) := o
  unfold c_X12_isSign
  refine s_aload_n o dX12_isSign_0 rfl 0 rfl ?_
  refine r_getf vI rfl o cf_X12_sort (Or.inl (lw_all_tbl q657)) dX12_isSign_1 (fun v1 hv1 => ?_)
  refine s_iconst o dX12_isSign_4 ?_
  refine s_icmp_ne (tgt := 24) o dX12_isSign_5 (by decide) hv1 (r32 rfl) ?_ ?_
  · refine s_iconst o dX12_isSign_24 ?_
    exact s_iret o rfl i_boolean (Or.inl rfl) dX12_isSign_25 (fun _ hh => hh)
  · refine s_aload_n o dX12_isSign_8 rfl 0 rfl ?_
    refine r_getf vI rfl o cf_X12_mark (Or.inl (lw_all_tbl q660)) dX12_isSign_9 (fun v2 hv2 => ?_)
    refine s_aload_n o dX12_isSign_12 rfl 1 rfl ?_
    refine s_cs (d := d + 4) (As := [vA (mg Γ) l1]) (st := [vI v2]) o (sc_X12_wordOf (mg Γ) d ts l1) mw_X12_wordOf rfl (Or.inl (lw_all_tbl q597)) (lw_all_tbl q598) (wt_I wt_0) rfl dX12_isSign_13 rfl (rs := fun r => [vJ r, vI v2]) (fun _ => rfl) (fun v3 hv3 => ?_)
    refine s_l2i o dX12_isSign_16 ?_
    refine s_icmp_ne (tgt := 24) o dX12_isSign_17 (by decide) hv2 (l2i_R _) ?_ ?_
    · refine s_iconst o dX12_isSign_24 ?_
      exact s_iret o rfl i_boolean (Or.inl rfl) dX12_isSign_25 (fun _ hh => hh)
    · refine s_iconst o dX12_isSign_20 ?_
      refine s_goto (tgt := 25) o dX12_isSign_21 (by decide) ?_
      exact s_iret o rfl i_boolean (Or.inr rfl) dX12_isSign_25 (fun _ hh => hh)
theorem dX12_isGood_0 : decode cX12_isGood 0 = .ok (.aload_n 0, 1) := by decide +kernel
theorem dX12_isGood_1 : decode cX12_isGood 1 = .ok (.getfield 69, 3) := by decide +kernel
theorem dX12_isGood_4 : decode cX12_isGood 4 = .ok (.ifCond .ne 7, 3) := by decide +kernel
theorem dX12_isGood_7 : decode cX12_isGood 7 = .ok (.iconst 1, 1) := by decide +kernel
theorem dX12_isGood_8 : decode cX12_isGood 8 = .ok (.goto 4, 3) := by decide +kernel
theorem dX12_isGood_11 : decode cX12_isGood 11 = .ok (.iconst 0, 1) := by decide +kernel
theorem dX12_isGood_12 : decode cX12_isGood 12 = .ok (.ireturn, 1) := by decide +kernel
theorem mw_X12_isGood : MW yX12_isGood (Cond.code yX12_isGood cX12_isGood 1 (Option.some Jvm.ClassFile.FieldType.boolean)) cX12_isGood 1 (Option.some Jvm.ClassFile.FieldType.boolean) 0 := ⟨rfl, ⟨(lw_all_tbl q836), rfl, (lw_all_tbl q180)⟩, rfl, ⟨by decide, by decide⟩, by decide +kernel⟩
noncomputable def c_X12_isGood (l0 : Int) : Mo CH Int :=
  bnd (gf [112] 9 l0) fun v1 =>
  if ¬ v1 = 0 then
    pr 0
  else
    pr 1
theorem sc_X12_isGood (g : gC) (d : Nat) (ts : TS) (l0 : Int) : SF g yX12_isGood (Cond.code yX12_isGood cX12_isGood 1 (Option.some Jvm.ClassFile.FieldType.boolean)) (Option.some Jvm.ClassFile.FieldType.boolean) (d + 0) [vA g l0] (fun h => (h, ts)) (c_X12_isGood l0) := by
  refine SF.of (lv := [(0, vA g l0)]) (by decide) (wt_A wt_0) rfl (by simp only [la_A, la_I, la_J, la_0]) (fun Γ hg hnm o => ?_)
  subst hg
  have o : Ok Γ "LazyForge$Reader" cX12_isGood 1 (Option.some Jvm.ClassFile.FieldType.boolean) (d + 0) := o
  unfold c_X12_isGood
  refine s_aload_n o dX12_isGood_0 rfl 0 rfl ?_
  refine r_getf vI rfl o cf_X12_kind (Or.inl (lw_all_tbl q662)) dX12_isGood_1 (fun v1 hv1 => ?_)
  refine s_if_ne (tgt := 11) o dX12_isGood_4 (by decide) hv1 ?_ ?_
  · refine s_iconst o dX12_isGood_11 ?_
    exact s_iret o rfl i_boolean (Or.inl rfl) dX12_isGood_12 (fun _ hh => hh)
  · refine s_iconst o dX12_isGood_7 ?_
    refine s_goto (tgt := 12) o dX12_isGood_8 (by decide) ?_
    exact s_iret o rfl i_boolean (Or.inr rfl) dX12_isGood_12 (fun _ hh => hh)
theorem dX12_isKeyword_0 : decode cX12_isKeyword 0 = .ok (.aload_n 0, 1) := by decide +kernel
theorem dX12_isKeyword_1 : decode cX12_isKeyword 1 = .ok (.getfield 97, 3) := by decide +kernel
theorem dX12_isKeyword_4 : decode cX12_isKeyword 4 = .ok (.iconst 3, 1) := by decide +kernel
theorem dX12_isKeyword_5 : decode cX12_isKeyword 5 = .ok (.if_icmp .ne 19, 3) := by decide +kernel
theorem dX12_isKeyword_8 : decode cX12_isKeyword 8 = .ok (.aload_n 0, 1) := by decide +kernel
theorem dX12_isKeyword_9 : decode cX12_isKeyword 9 = .ok (.getfield 84, 3) := by decide +kernel
theorem dX12_isKeyword_12 : decode cX12_isKeyword 12 = .ok (.aload_n 1, 1) := by decide +kernel
theorem dX12_isKeyword_13 : decode cX12_isKeyword 13 = .ok (.invokestatic 56, 3) := by decide +kernel
theorem dX12_isKeyword_16 : decode cX12_isKeyword 16 = .ok (.lcmp, 1) := by decide +kernel
theorem dX12_isKeyword_17 : decode cX12_isKeyword 17 = .ok (.ifCond .ne 7, 3) := by decide +kernel
theorem dX12_isKeyword_20 : decode cX12_isKeyword 20 = .ok (.iconst 1, 1) := by decide +kernel
theorem dX12_isKeyword_21 : decode cX12_isKeyword 21 = .ok (.goto 4, 3) := by decide +kernel
theorem dX12_isKeyword_24 : decode cX12_isKeyword 24 = .ok (.iconst 0, 1) := by decide +kernel
theorem dX12_isKeyword_25 : decode cX12_isKeyword 25 = .ok (.ireturn, 1) := by decide +kernel
theorem mw_X12_isKeyword : MW yX12_isKeyword (Cond.code yX12_isKeyword cX12_isKeyword 2 (Option.some Jvm.ClassFile.FieldType.boolean)) cX12_isKeyword 2 (Option.some Jvm.ClassFile.FieldType.boolean) 1 := ⟨rfl, ⟨(lw_all_tbl q841), rfl, (lw_all_tbl q180)⟩, rfl, ⟨by decide, by decide⟩, by decide +kernel⟩
noncomputable def c_X12_isKeyword (l0 : Int) (l1 : Int) : Mo CH Int :=
  bnd (gf [112] 4 l0) fun v1 =>
  if ¬ v1 = 3 then
    pr 0
  else
    bnd (gf [112] 8 l0) fun v2 =>
    bnd (c_X12_wordOf l1) fun v3 =>
    if ¬ v2 = v3 then
      pr 0
    else
      pr 1
theorem sc_X12_isKeyword (g : gC) (d : Nat) (ts : TS) (l0 : Int) (l1 : Int) : SF g yX12_isKeyword (Cond.code yX12_isKeyword cX12_isKeyword 2 (Option.some Jvm.ClassFile.FieldType.boolean)) (Option.some Jvm.ClassFile.FieldType.boolean) (d + 5) [vA g l0, vA g l1] (fun h => (h, ts)) (c_X12_isKeyword l0 l1) := by
  refine SF.of (lv := [(0, vA g l0), (1, vA g l1)]) (by decide) (wt_A (wt_A wt_0)) rfl (by simp only [la_A, la_I, la_J, la_0]) (fun Γ hg hnm o => ?_)
  subst hg
  have o : Ok Γ "LazyForge$Reader" cX12_isKeyword 2 (Option.some Jvm.ClassFile.FieldType.boolean) (d + 5) := o
  unfold c_X12_isKeyword
  refine s_aload_n o dX12_isKeyword_0 rfl 0 rfl ?_
  refine r_getf vI rfl o cf_X12_sort (Or.inl (lw_all_tbl q657)) dX12_isKeyword_1 (fun v1 hv1 => ?_)
  refine s_iconst o dX12_isKeyword_4 ?_
  refine s_icmp_ne (tgt := 24) o dX12_isKeyword_5 (by decide) hv1 (r32 rfl) ?_ ?_
  · refine s_iconst o dX12_isKeyword_24 ?_
    exact s_iret o rfl i_boolean (Or.inl rfl) dX12_isKeyword_25 (fun _ hh => hh)
  · refine s_aload_n o dX12_isKeyword_8 rfl 0 rfl ?_
    refine r_getf vJ rfl o cf_X12_word (Or.inl (lw_all_tbl q661)) dX12_isKeyword_9 (fun v2 hv2 => ?_)
    refine s_aload_n o dX12_isKeyword_12 rfl 1 rfl ?_
    refine s_cs (d := d + 4) (As := [vA (mg Γ) l1]) (st := [vJ v2]) o (sc_X12_wordOf (mg Γ) d ts l1) mw_X12_wordOf rfl (Or.inl (lw_all_tbl q597)) (lw_all_tbl q598) (wt_J wt_0) rfl dX12_isKeyword_13 rfl (rs := fun r => [vJ r, vJ v2]) (fun _ => rfl) (fun v3 hv3 => ?_)
    refine s_lcmp_ne (tgt := 24) o dX12_isKeyword_16 dX12_isKeyword_17 (by decide) hv2 (hv3 _ rfl) ?_ ?_
    · refine s_iconst o dX12_isKeyword_24 ?_
      exact s_iret o rfl i_boolean (Or.inl rfl) dX12_isKeyword_25 (fun _ hh => hh)
    · refine s_iconst o dX12_isKeyword_20 ?_
      refine s_goto (tgt := 25) o dX12_isKeyword_21 (by decide) ?_
      exact s_iret o rfl i_boolean (Or.inr rfl) dX12_isKeyword_25 (fun _ hh => hh)
theorem dX12_isDigit_0 : decode cX12_isDigit 0 = .ok (.iload_n 0, 1) := by decide +kernel
theorem dX12_isDigit_1 : decode cX12_isDigit 1 = .ok (.bipush 48, 2) := by decide +kernel
theorem dX12_isDigit_3 : decode cX12_isDigit 3 = .ok (.if_icmp .lt 13, 3) := by decide +kernel
theorem dX12_isDigit_6 : decode cX12_isDigit 6 = .ok (.iload_n 0, 1) := by decide +kernel
theorem dX12_isDigit_7 : decode cX12_isDigit 7 = .ok (.bipush 57, 2) := by decide +kernel
theorem dX12_isDigit_9 : decode cX12_isDigit 9 = .ok (.if_icmp .gt 7, 3) := by decide +kernel
theorem dX12_isDigit_12 : decode cX12_isDigit 12 = .ok (.iconst 1, 1) := by decide +kernel
theorem dX12_isDigit_13 : decode cX12_isDigit 13 = .ok (.goto 4, 3) := by decide +kernel
theorem dX12_isDigit_16 : decode cX12_isDigit 16 = .ok (.iconst 0, 1) := by decide +kernel
theorem dX12_isDigit_17 : decode cX12_isDigit 17 = .ok (.ireturn, 1) := by decide +kernel
theorem mw_X12_isDigit : MW yX12_isDigit (Cond.code yX12_isDigit cX12_isDigit 1 (Option.some Jvm.ClassFile.FieldType.boolean)) cX12_isDigit 1 (Option.some Jvm.ClassFile.FieldType.boolean) 1 := ⟨rfl, ⟨(lw_all_tbl q755), rfl, (lw_all_tbl q180)⟩, rfl, ⟨by decide, by decide⟩, by decide +kernel⟩
noncomputable def c_X12_isDigit (l0 : Int) : Mo CH Int :=
  if l0 < 48 then
    pr 0
  else
    if 57 < l0 then
      pr 0
    else
      pr 1
theorem sc_X12_isDigit (g : gC) (d : Nat) (ts : TS) (l0 : Int) (hl0 : rg .char l0) : SF g yX12_isDigit (Cond.code yX12_isDigit cX12_isDigit 1 (Option.some Jvm.ClassFile.FieldType.boolean)) (Option.some Jvm.ClassFile.FieldType.boolean) (d + 0) [vI l0] (fun h => (h, ts)) (c_X12_isDigit l0) := by
  refine SF.of (lv := [(0, vI l0)]) (by decide) (wt_I wt_0) rfl (by simp only [la_A, la_I, la_J, la_0]) (fun Γ hg hnm o => ?_)
  subst hg
  have o : Ok Γ "LazyForge$Reader" cX12_isDigit 1 (Option.some Jvm.ClassFile.FieldType.boolean) (d + 0) := o
  unfold c_X12_isDigit
  refine s_iload_n o dX12_isDigit_0 rfl 0 rfl ?_
  refine s_bipush o dX12_isDigit_1 rfl ?_
  refine s_icmp_lt (tgt := 16) o dX12_isDigit_3 (by decide) (rC hl0) (r32 rfl) ?_ ?_
  · refine s_iconst o dX12_isDigit_16 ?_
    exact s_iret o rfl i_boolean (Or.inl rfl) dX12_isDigit_17 (fun _ hh => hh)
  · refine s_iload_n o dX12_isDigit_6 rfl 0 rfl ?_
    refine s_bipush o dX12_isDigit_7 rfl ?_
    refine s_icmp_gt (tgt := 16) o dX12_isDigit_9 (by decide) (rC hl0) (r32 rfl) ?_ ?_
    · refine s_iconst o dX12_isDigit_16 ?_
      exact s_iret o rfl i_boolean (Or.inl rfl) dX12_isDigit_17 (fun _ hh => hh)
    · refine s_iconst o dX12_isDigit_12 ?_
      refine s_goto (tgt := 17) o dX12_isDigit_13 (by decide) ?_
      exact s_iret o rfl i_boolean (Or.inr rfl) dX12_isDigit_17 (fun _ hh => hh)
theorem dX12_digits_0 : decode cX12_digits 0 = .ok (.lconst 0, 1) := by decide +kernel
theorem dX12_digits_1 : decode cX12_digits 1 = .ok (.lstore_n 1, 1) := by decide +kernel
theorem dX12_digits_2 : decode cX12_digits 2 = .ok (.aload_n 0, 1) := by decide +kernel
theorem dX12_digits_3 : decode cX12_digits 3 = .ok (.getfield 88, 3) := by decide +kernel
theorem dX12_digits_6 : decode cX12_digits 6 = .ok (.aload_n 0, 1) := by decide +kernel
theorem dX12_digits_7 : decode cX12_digits 7 = .ok (.getfield 51, 3) := by decide +kernel
theorem dX12_digits_10 : decode cX12_digits 10 = .ok (.if_icmp .ge 72, 3) := by decide +kernel
theorem dX12_digits_13 : decode cX12_digits 13 = .ok (.aload_n 0, 1) := by decide +kernel
theorem dX12_digits_14 : decode cX12_digits 14 = .ok (.getfield 47, 3) := by decide +kernel
theorem dX12_digits_17 : decode cX12_digits 17 = .ok (.aload_n 0, 1) := by decide +kernel
theorem dX12_digits_18 : decode cX12_digits 18 = .ok (.getfield 88, 3) := by decide +kernel
theorem dX12_digits_21 : decode cX12_digits 21 = .ok (.caload, 1) := by decide +kernel
theorem dX12_digits_22 : decode cX12_digits 22 = .ok (.invokestatic 107, 3) := by decide +kernel
theorem dX12_digits_25 : decode cX12_digits 25 = .ok (.ifCond .eq 57, 3) := by decide +kernel
theorem dX12_digits_28 : decode cX12_digits 28 = .ok (.aload_n 0, 1) := by decide +kernel
theorem dX12_digits_29 : decode cX12_digits 29 = .ok (.getfield 88, 3) := by decide +kernel
theorem dX12_digits_32 : decode cX12_digits 32 = .ok (.aload_n 0, 1) := by decide +kernel
theorem dX12_digits_33 : decode cX12_digits 33 = .ok (.getfield 91, 3) := by decide +kernel
theorem dX12_digits_36 : decode cX12_digits 36 = .ok (.isub, 1) := by decide +kernel
theorem dX12_digits_37 : decode cX12_digits 37 = .ok (.bipush 10, 2) := by decide +kernel
theorem dX12_digits_39 : decode cX12_digits 39 = .ok (.if_icmp .ge 26, 3) := by decide +kernel
theorem dX12_digits_42 : decode cX12_digits 42 = .ok (.ldc2_w 121, 3) := by decide +kernel
theorem dX12_digits_45 : decode cX12_digits 45 = .ok (.lload_n 1, 1) := by decide +kernel
theorem dX12_digits_46 : decode cX12_digits 46 = .ok (.lmul, 1) := by decide +kernel
theorem dX12_digits_47 : decode cX12_digits 47 = .ok (.aload_n 0, 1) := by decide +kernel
theorem dX12_digits_48 : decode cX12_digits 48 = .ok (.getfield 47, 3) := by decide +kernel
theorem dX12_digits_51 : decode cX12_digits 51 = .ok (.aload_n 0, 1) := by decide +kernel
theorem dX12_digits_52 : decode cX12_digits 52 = .ok (.getfield 88, 3) := by decide +kernel
theorem dX12_digits_55 : decode cX12_digits 55 = .ok (.caload, 1) := by decide +kernel
theorem dX12_digits_56 : decode cX12_digits 56 = .ok (.i2l, 1) := by decide +kernel
theorem dX12_digits_57 : decode cX12_digits 57 = .ok (.ladd, 1) := by decide +kernel
theorem dX12_digits_58 : decode cX12_digits 58 = .ok (.ldc2_w 123, 3) := by decide +kernel
theorem dX12_digits_61 : decode cX12_digits 61 = .ok (.lsub, 1) := by decide +kernel
theorem dX12_digits_62 : decode cX12_digits 62 = .ok (.goto 6, 3) := by decide +kernel
theorem dX12_digits_65 : decode cX12_digits 65 = .ok (.ldc2_w 127, 3) := by decide +kernel
theorem dX12_digits_68 : decode cX12_digits 68 = .ok (.lstore_n 1, 1) := by decide +kernel
theorem dX12_digits_69 : decode cX12_digits 69 = .ok (.aload_n 0, 1) := by decide +kernel
theorem dX12_digits_70 : decode cX12_digits 70 = .ok (.dup, 1) := by decide +kernel
theorem dX12_digits_71 : decode cX12_digits 71 = .ok (.getfield 88, 3) := by decide +kernel
theorem dX12_digits_74 : decode cX12_digits 74 = .ok (.iconst 1, 1) := by decide +kernel
theorem dX12_digits_75 : decode cX12_digits 75 = .ok (.iadd, 1) := by decide +kernel
theorem dX12_digits_76 : decode cX12_digits 76 = .ok (.putfield 88, 3) := by decide +kernel
theorem dX12_digits_79 : decode cX12_digits 79 = .ok (.goto (-77), 3) := by decide +kernel
theorem dX12_digits_82 : decode cX12_digits 82 = .ok (.aload_n 0, 1) := by decide +kernel
theorem dX12_digits_83 : decode cX12_digits 83 = .ok (.getfield 88, 3) := by decide +kernel
theorem dX12_digits_86 : decode cX12_digits 86 = .ok (.aload_n 0, 1) := by decide +kernel
theorem dX12_digits_87 : decode cX12_digits 87 = .ok (.getfield 91, 3) := by decide +kernel
theorem dX12_digits_90 : decode cX12_digits 90 = .ok (.isub, 1) := by decide +kernel
theorem dX12_digits_91 : decode cX12_digits 91 = .ok (.bipush 10, 2) := by decide +kernel
theorem dX12_digits_93 : decode cX12_digits 93 = .ok (.if_icmp .gt 15, 3) := by decide +kernel
theorem dX12_digits_96 : decode cX12_digits 96 = .ok (.lload_n 1, 1) := by decide +kernel
theorem dX12_digits_97 : decode cX12_digits 97 = .ok (.ldc2_w 129, 3) := by decide +kernel
theorem dX12_digits_100 : decode cX12_digits 100 = .ok (.lcmp, 1) := by decide +kernel
theorem dX12_digits_101 : decode cX12_digits 101 = .ok (.ifCond .ge 7, 3) := by decide +kernel
theorem dX12_digits_104 : decode cX12_digits 104 = .ok (.iconst 1, 1) := by decide +kernel
theorem dX12_digits_105 : decode cX12_digits 105 = .ok (.goto 4, 3) := by decide +kernel
theorem dX12_digits_108 : decode cX12_digits 108 = .ok (.iconst 0, 1) := by decide +kernel
theorem dX12_digits_109 : decode cX12_digits 109 = .ok (.istore_n 3, 1) := by decide +kernel
theorem dX12_digits_110 : decode cX12_digits 110 = .ok (.aload_n 0, 1) := by decide +kernel
theorem dX12_digits_111 : decode cX12_digits 111 = .ok (.iload_n 3, 1) := by decide +kernel
theorem dX12_digits_112 : decode cX12_digits 112 = .ok (.ifCond .eq 7, 3) := by decide +kernel
theorem dX12_digits_115 : decode cX12_digits 115 = .ok (.iconst 4, 1) := by decide +kernel
theorem dX12_digits_116 : decode cX12_digits 116 = .ok (.goto 5, 3) := by decide +kernel
theorem dX12_digits_119 : decode cX12_digits 119 = .ok (.bipush 6, 2) := by decide +kernel
theorem dX12_digits_121 : decode cX12_digits 121 = .ok (.putfield 97, 3) := by decide +kernel
theorem dX12_digits_124 : decode cX12_digits 124 = .ok (.aload_n 0, 1) := by decide +kernel
theorem dX12_digits_125 : decode cX12_digits 125 = .ok (.iload_n 3, 1) := by decide +kernel
theorem dX12_digits_126 : decode cX12_digits 126 = .ok (.ifCond .eq 8, 3) := by decide +kernel
theorem dX12_digits_129 : decode cX12_digits 129 = .ok (.lload_n 1, 1) := by decide +kernel
theorem dX12_digits_130 : decode cX12_digits 130 = .ok (.l2i, 1) := by decide +kernel
theorem dX12_digits_131 : decode cX12_digits 131 = .ok (.goto 4, 3) := by decide +kernel
theorem dX12_digits_134 : decode cX12_digits 134 = .ok (.iconst 0, 1) := by decide +kernel
theorem dX12_digits_135 : decode cX12_digits 135 = .ok (.putfield 131, 3) := by decide +kernel
theorem dX12_digits_138 : decode cX12_digits 138 = .ok (.return_, 1) := by decide +kernel
theorem mw_X12_digits : MW yX12_digits (Cond.code yX12_digits cX12_digits 4 (Option.none : Option Jvm.ClassFile.FieldType)) cX12_digits 4 (Option.none : Option Jvm.ClassFile.FieldType) 0 := ⟨rfl, ⟨(lw_all_tbl q764), rfl, (lw_all_tbl q180)⟩, rfl, ⟨by decide, by decide⟩, by decide +kernel⟩
abbrev okc_X12_digits_2 (x : Int × Int) : Prop := R64 x.2
abbrev lvc_X12_digits_2 (Γ : Gm) (x : Int × Int) : List (Nat × Value) := [(0, vA (mg Γ) x.1), (1, vJ x.2)]
noncomputable def c_X12_digits_68 {A : Type} (k_82 : Int → Int → Mo CH A) (l0 : Int) (k0 : Int) : Mo CH ((Int × Int) ⊕ A) :=
  bnd (gf [112] 3 l0) fun v1 =>
  bnd (pf [112] 3 l0 (w32 (v1 + 1))) fun _ =>
  pr (.inl (l0, k0))
theorem sc_X12_digits_68 {Γ : Gm} {ts : TS} {d : Nat} (o : Ok Γ "LazyForge$Reader" cX12_digits 4 (Option.none : Option Jvm.ClassFile.FieldType) (d + 1)) {A : Type} {K : A → CH → Prop}  (k_82 : Int → Int → Mo CH A) (hk_82 : ∀ (l0 : Int) (l1 : Int), R64 l1 → Sx Γ (fun h => (h, ts)) K 82 [(0, vA (mg Γ) l0), (1, vJ l1)] [] (k_82 l0 l1)) (l0 : Int) (k0 : Int) (hk0 : R64 k0) : Sx Γ (fun h => (h, ts)) (KL Γ (fun h => (h, ts)) okc_X12_digits_2 K 2 (lvc_X12_digits_2 Γ) []) 68 [(0, vA (mg Γ) l0)] [vJ k0] (c_X12_digits_68 k_82 l0 k0) := by
  unfold c_X12_digits_68
  refine r_lstore_n o dX12_digits_68 rfl rfl ⟨(Nat.ne_of_beq_eq_false rfl), (Nat.ne_of_beq_eq_false rfl), (fun _ => (vA_cat (mg Γ) l0)), trivial⟩ ?_
  refine s_aload_n o dX12_digits_69 rfl 1 rfl ?_
  refine s_dup o dX12_digits_70 (vA_cat (mg Γ) l0) ?_
  refine r_getf vI rfl o cf_X12_at (Or.inl (lw_all_tbl q656)) dX12_digits_71 (fun v1 hv1 => ?_)
  refine s_iconst o dX12_digits_74 ?_
  refine s_iadd o dX12_digits_75 ?_
  refine r_putf vI rfl o cf_X12_at (Or.inl (lw_all_tbl q656)) dX12_digits_76 (Or.inl rfl) (w32_R _) ty_int ?_
  refine s_goto (tgt := 2) o dX12_digits_79 (by decide) ?_
  refine r_to [(0, vA (mg Γ) l0), (1, vJ k0)] [1, 0] rfl ?_
  exact s_back hk0 rfl
noncomputable def c_X12_digits_2b {A : Type} (k_82 : Int → Int → Mo CH A) (l0 : Int) (l1 : Int) : Mo CH ((Int × Int) ⊕ A) :=
  bnd (gf [112] 3 l0) fun v1 =>
  bnd (gf [112] 2 l0) fun v2 =>
  if v2 ≤ v1 then
    lo (k_82 l0 l1)
  else
    bnd (gf [112] 1 l0) fun v3 =>
    bnd (gf [112] 3 l0) fun v4 =>
    bnd (ald 2 v3 v4) fun v5 =>
    bnd (c_X12_isDigit v5) fun v6 =>
    if v6 = 0 then
      lo (k_82 l0 l1)
    else
      bnd (gf [112] 3 l0) fun v7 =>
      bnd (gf [112] 5 l0) fun v8 =>
      if 10 ≤ (w32 (v7 - v8)) then
        c_X12_digits_68 k_82 l0 9223372036854775807
      else
        bnd (gf [112] 1 l0) fun v9 =>
        bnd (gf [112] 3 l0) fun v10 =>
        bnd (ald 2 v9 v10) fun v11 =>
        c_X12_digits_68 k_82 l0 (w64 ((w64 ((w64 (10 * l1)) + v11)) - 48))
theorem sc_X12_digits_2b {Γ : Gm} {ts : TS} {d : Nat} (o : Ok Γ "LazyForge$Reader" cX12_digits 4 (Option.none : Option Jvm.ClassFile.FieldType) (d + 1)) {A : Type} {K : A → CH → Prop} (k_82 : Int → Int → Mo CH A) (hk_82 : ∀ (l0 : Int) (l1 : Int), R64 l1 → Sx Γ (fun h => (h, ts)) K 82 [(0, vA (mg Γ) l0), (1, vJ l1)] [] (k_82 l0 l1)) (l0 : Int) (l1 : Int) (hl1 : R64 l1) : Sx Γ (fun h => (h, ts)) (KL Γ (fun h => (h, ts)) okc_X12_digits_2 K 2 (lvc_X12_digits_2 Γ) []) 2 [(0, vA (mg Γ) l0), (1, vJ l1)] [] (c_X12_digits_2b k_82 l0 l1) := by
  unfold c_X12_digits_2b
  refine s_aload_n o dX12_digits_2 rfl 0 rfl ?_
  refine r_getf vI rfl o cf_X12_at (Or.inl (lw_all_tbl q656)) dX12_digits_3 (fun v1 hv1 => ?_)
  refine s_aload_n o dX12_digits_6 rfl 0 rfl ?_
  refine r_getf vI rfl o cf_X12_size (Or.inl (lw_all_tbl q655)) dX12_digits_7 (fun v2 hv2 => ?_)
  refine s_icmp_ge (tgt := 82) o dX12_digits_10 (by decide) hv1 hv2 ?_ ?_
  · exact s_lo (hk_82 l0 l1 hl1)
  · refine s_aload_n o dX12_digits_13 rfl 0 rfl ?_
    refine r_getf (vA (mg Γ)) rfl o cf_X12_text (Or.inl (lw_all_tbl q654)) dX12_digits_14 (fun v3 hv3 => ?_)
    refine s_aload_n o dX12_digits_17 rfl 0 rfl ?_
    refine r_getf vI rfl o cf_X12_at (Or.inl (lw_all_tbl q656)) dX12_digits_18 (fun v4 hv4 => ?_)
    refine r_cald o hv4 dX12_digits_21 (fun v5 hv5 => ?_)
    refine s_cs (d := d + 0) (As := [vI v5]) (st := []) o (sc_X12_isDigit (mg Γ) d ts v5 hv5) mw_X12_isDigit rfl (Or.inl (lw_all_tbl q753)) (lw_all_tbl q754) wt_0 rfl dX12_digits_22 rfl (rs := fun r => [vI r]) (fun _ => rfl) (fun v6 hv6 => ?_)
    refine s_if_eq (tgt := 82) o dX12_digits_25 (by decide) (rZ (hv6 _ rfl)) ?_ ?_
    · exact s_lo (hk_82 l0 l1 hl1)
    · refine s_aload_n o dX12_digits_28 rfl 0 rfl ?_
      refine r_getf vI rfl o cf_X12_at (Or.inl (lw_all_tbl q656)) dX12_digits_29 (fun v7 hv7 => ?_)
      refine s_aload_n o dX12_digits_32 rfl 0 rfl ?_
      refine r_getf vI rfl o cf_X12_place (Or.inl (lw_all_tbl q658)) dX12_digits_33 (fun v8 hv8 => ?_)
      refine s_isub o dX12_digits_36 ?_
      refine s_bipush o dX12_digits_37 rfl ?_
      refine s_icmp_ge (tgt := 65) o dX12_digits_39 (by decide) (w32_R _) (r32 rfl) ?_ ?_
      · refine s_ldc2 (n := 9223372036854775807) o dX12_digits_65 (lw_all_tbl q767) rfl ?_
        refine r_to [(0, vA (mg Γ) l0)] [0] rfl ?_
        exact sc_X12_digits_68 o k_82 hk_82 l0 9223372036854775807 (r64 rfl)
      · refine s_ldc2 (n := 10) o dX12_digits_42 (lw_all_tbl q765) rfl ?_
        refine s_lload_n o dX12_digits_45 rfl 1 rfl ?_
        refine s_lmul o dX12_digits_46 ?_
        refine s_aload_n o dX12_digits_47 rfl 0 rfl ?_
        refine r_getf (vA (mg Γ)) rfl o cf_X12_text (Or.inl (lw_all_tbl q654)) dX12_digits_48 (fun v9 hv9 => ?_)
        refine s_aload_n o dX12_digits_51 rfl 0 rfl ?_
        refine r_getf vI rfl o cf_X12_at (Or.inl (lw_all_tbl q656)) dX12_digits_52 (fun v10 hv10 => ?_)
        refine r_cald o hv10 dX12_digits_55 (fun v11 hv11 => ?_)
        refine s_i2l o dX12_digits_56 (rC hv11) ?_
        refine s_ladd o dX12_digits_57 ?_
        refine s_ldc2 (n := 48) o dX12_digits_58 (lw_all_tbl q766) rfl ?_
        refine s_lsub o dX12_digits_61 ?_
        refine s_goto (tgt := 68) o dX12_digits_62 (by decide) ?_
        refine r_to [(0, vA (mg Γ) l0)] [0] rfl ?_
        exact sc_X12_digits_68 o k_82 hk_82 l0 (w64 ((w64 ((w64 (10 * l1)) + v11)) - 48)) (w64_R _)
noncomputable def c_X12_digits_2 {A : Type} (k_82 : Int → Int → Mo CH A) (l0 : Int) (l1 : Int) : Mo CH A := Loop (fun x => c_X12_digits_2b k_82 x.1 x.2) (l0, l1)
theorem sc_X12_digits_2 {Γ : Gm} {ts : TS} {d : Nat} (o : Ok Γ "LazyForge$Reader" cX12_digits 4 (Option.none : Option Jvm.ClassFile.FieldType) (d + 1)) {A : Type} {K : A → CH → Prop} (k_82 : Int → Int → Mo CH A) (hk_82 : ∀ (l0 : Int) (l1 : Int), R64 l1 → Sx Γ (fun h => (h, ts)) K 82 [(0, vA (mg Γ) l0), (1, vJ l1)] [] (k_82 l0 l1)) (l0 : Int) (l1 : Int) (hl1 : R64 l1) : Sx Γ (fun h => (h, ts)) K 2 [(0, vA (mg Γ) l0), (1, vJ l1)] [] (c_X12_digits_2 k_82 l0 l1) :=
  s_loop okc_X12_digits_2 (lvc_X12_digits_2 Γ) (fun x hx => sc_X12_digits_2b o k_82 hk_82 x.1 x.2 hx) (x := (l0, l1)) hl1
noncomputable def c_X12_digits_135  (k0 : Int) (k1 : Int) : Mo CH Int :=
  bnd (pf [112] 6 k1 k0) fun _ =>
  pr 0
theorem sc_X12_digits_135 {Γ : Gm} {ts : TS} {d : Nat} (o : Ok Γ "LazyForge$Reader" cX12_digits 4 (Option.none : Option Jvm.ClassFile.FieldType) (d + 1))   (k0 : Int) (k1 : Int) (hk0 : R32 k0) : Sx Γ (fun h => (h, ts)) (fun a s => mt Γ = (0, a, ((s, ts) : Wd))) 135 [] [vI k0, vA (mg Γ) k1] (c_X12_digits_135 k0 k1) := by
  unfold c_X12_digits_135
  refine r_putf vI rfl o cf_X12_number (Or.inl (lw_all_tbl q659)) dX12_digits_135 (Or.inl rfl) hk0 ty_int ?_
  exact s_vret o rfl dX12_digits_138 (fun _ hh => hh)
noncomputable def c_X12_digits_121  (l0 : Int) (l1 : Int) (l3 : Int) (k0 : Int) (k1 : Int) : Mo CH Int :=
  bnd (pf [112] 4 k1 k0) fun _ =>
  if l3 = 0 then
    c_X12_digits_135 0 l0
  else
    c_X12_digits_135 (l2i l1) l0
theorem sc_X12_digits_121 {Γ : Gm} {ts : TS} {d : Nat} (o : Ok Γ "LazyForge$Reader" cX12_digits 4 (Option.none : Option Jvm.ClassFile.FieldType) (d + 1))   (l0 : Int) (l1 : Int) (l3 : Int) (k0 : Int) (k1 : Int) (hl1 : R64 l1) (hl3 : rg .boolean l3) (hk0 : R32 k0) : Sx Γ (fun h => (h, ts)) (fun a s => mt Γ = (0, a, ((s, ts) : Wd))) 121 [(0, vA (mg Γ) l0), (1, vJ l1), (3, vI l3)] [vI k0, vA (mg Γ) k1] (c_X12_digits_121 l0 l1 l3 k0 k1) := by
  unfold c_X12_digits_121
  refine r_putf vI rfl o cf_X12_sort (Or.inl (lw_all_tbl q657)) dX12_digits_121 (Or.inl rfl) hk0 ty_int ?_
  refine s_aload_n o dX12_digits_124 rfl 0 rfl ?_
  refine s_iload_n o dX12_digits_125 rfl 2 rfl ?_
  refine s_if_eq (tgt := 134) o dX12_digits_126 (by decide) (rZ hl3) ?_ ?_
  · refine s_iconst o dX12_digits_134 ?_
    refine r_to [] [] rfl ?_
    exact sc_X12_digits_135 o 0 l0 (r32 rfl)
  · refine s_lload_n o dX12_digits_129 rfl 1 rfl ?_
    refine s_l2i o dX12_digits_130 ?_
    refine s_goto (tgt := 135) o dX12_digits_131 (by decide) ?_
    refine r_to [] [] rfl ?_
    exact sc_X12_digits_135 o (l2i l1) l0 (l2i_R _)
noncomputable def c_X12_digits_109  (l0 : Int) (l1 : Int) (k0 : Int) : Mo CH Int :=
  if k0 = 0 then
    c_X12_digits_121 l0 l1 k0 6 l0
  else
    c_X12_digits_121 l0 l1 k0 4 l0
theorem sc_X12_digits_109 {Γ : Gm} {ts : TS} {d : Nat} (o : Ok Γ "LazyForge$Reader" cX12_digits 4 (Option.none : Option Jvm.ClassFile.FieldType) (d + 1))   (l0 : Int) (l1 : Int) (k0 : Int) (hl1 : R64 l1) (hk0 : rg .boolean k0) : Sx Γ (fun h => (h, ts)) (fun a s => mt Γ = (0, a, ((s, ts) : Wd))) 109 [(0, vA (mg Γ) l0), (1, vJ l1)] [vI k0] (c_X12_digits_109 l0 l1 k0) := by
  unfold c_X12_digits_109
  refine r_istore_n o dX12_digits_109 rfl rfl ⟨(Nat.ne_of_beq_eq_false rfl), (fun _ => (vA_cat (mg Γ) l0)), ⟨(Nat.ne_of_beq_eq_false rfl), (fun e => absurd e (Nat.ne_of_beq_eq_false rfl)), trivial⟩⟩ ?_
  refine s_aload_n o dX12_digits_110 rfl 1 rfl ?_
  refine s_iload_n o dX12_digits_111 rfl 0 rfl ?_
  refine s_if_eq (tgt := 119) o dX12_digits_112 (by decide) (rZ hk0) ?_ ?_
  · refine s_bipush o dX12_digits_119 rfl ?_
    refine r_to [(0, vA (mg Γ) l0), (1, vJ l1), (3, vI k0)] [1, 2, 0] rfl ?_
    exact sc_X12_digits_121 o l0 l1 k0 6 l0 hl1 hk0 (r32 rfl)
  · refine s_iconst o dX12_digits_115 ?_
    refine s_goto (tgt := 121) o dX12_digits_116 (by decide) ?_
    refine r_to [(0, vA (mg Γ) l0), (1, vJ l1), (3, vI k0)] [1, 2, 0] rfl ?_
    exact sc_X12_digits_121 o l0 l1 k0 4 l0 hl1 hk0 (r32 rfl)
noncomputable def c_X12_digits_108  (l0 : Int) (l1 : Int) : Mo CH Int :=
  c_X12_digits_109 l0 l1 0
theorem sc_X12_digits_108 {Γ : Gm} {ts : TS} {d : Nat} (o : Ok Γ "LazyForge$Reader" cX12_digits 4 (Option.none : Option Jvm.ClassFile.FieldType) (d + 1))   (l0 : Int) (l1 : Int) (hl1 : R64 l1) : Sx Γ (fun h => (h, ts)) (fun a s => mt Γ = (0, a, ((s, ts) : Wd))) 108 [(0, vA (mg Γ) l0), (1, vJ l1)] [] (c_X12_digits_108 l0 l1) := by
  unfold c_X12_digits_108
  refine s_iconst o dX12_digits_108 ?_
  exact sc_X12_digits_109 o l0 l1 0 hl1 (Or.inl rfl)
noncomputable def c_X12_digits (l0 : Int) : Mo CH Int :=
  c_X12_digits_2
    (fun v1 v2 => bnd (gf [112] 3 v1) fun v3 =>
  bnd (gf [112] 5 v1) fun v4 =>
  if 10 < (w32 (v3 - v4)) then
    c_X12_digits_108 v1 v2
  else
    if 2147483648 ≤ v2 then
      c_X12_digits_108 v1 v2
    else
      c_X12_digits_109 v1 v2 1) l0 0
theorem sc_X12_digits (g : gC) (d : Nat) (ts : TS) (l0 : Int) : SF g yX12_digits (Cond.code yX12_digits cX12_digits 4 (Option.none : Option Jvm.ClassFile.FieldType)) (Option.none : Option Jvm.ClassFile.FieldType) (d + 1) [vA g l0] (fun h => (h, ts)) (c_X12_digits l0) := by
  refine SF.of (lv := [(0, vA g l0)]) (by decide) (wt_A wt_0) rfl (by simp only [la_A, la_I, la_J, la_0]) (fun Γ hg hnm o => ?_)
  subst hg
  have o : Ok Γ "LazyForge$Reader" cX12_digits 4 (Option.none : Option Jvm.ClassFile.FieldType) (d + 1) := o
  unfold c_X12_digits
  refine s_lconst (x := 0) o dX12_digits_0 rfl ?_
  refine r_lstore_n o dX12_digits_1 rfl rfl ⟨(Nat.ne_of_beq_eq_false rfl), (Nat.ne_of_beq_eq_false rfl), (fun _ => (vA_cat (mg Γ) l0)), trivial⟩ ?_
  refine r_to [(0, vA (mg Γ) l0), (1, vJ 0)] [1, 0] rfl ?_
  refine sc_X12_digits_2 o _ ?_ l0 0 (r64 rfl)
  · intro v1 v2 hv2
    refine s_aload_n o dX12_digits_82 rfl 0 rfl ?_
    refine r_getf vI rfl o cf_X12_at (Or.inl (lw_all_tbl q656)) dX12_digits_83 (fun v3 hv3 => ?_)
    refine s_aload_n o dX12_digits_86 rfl 0 rfl ?_
    refine r_getf vI rfl o cf_X12_place (Or.inl (lw_all_tbl q658)) dX12_digits_87 (fun v4 hv4 => ?_)
    refine s_isub o dX12_digits_90 ?_
    refine s_bipush o dX12_digits_91 rfl ?_
    refine s_icmp_gt (tgt := 108) o dX12_digits_93 (by decide) (w32_R _) (r32 rfl) ?_ ?_
    · exact sc_X12_digits_108 o v1 v2 hv2
    · refine s_lload_n o dX12_digits_96 rfl 1 rfl ?_
      refine s_ldc2 (n := 2147483648) o dX12_digits_97 (lw_all_tbl q768) rfl ?_
      refine s_lcmp_ge (tgt := 108) o dX12_digits_100 dX12_digits_101 (by decide) hv2 (r64 rfl) ?_ ?_
      · exact sc_X12_digits_108 o v1 v2 hv2
      · refine s_iconst o dX12_digits_104 ?_
        refine s_goto (tgt := 109) o dX12_digits_105 (by decide) ?_
        exact sc_X12_digits_109 o v1 v2 1 hv2 (Or.inr rfl)
theorem dX12_isBig_0 : decode cX12_isBig 0 = .ok (.iload_n 0, 1) := by decide +kernel
theorem dX12_isBig_1 : decode cX12_isBig 1 = .ok (.bipush 65, 2) := by decide +kernel
theorem dX12_isBig_3 : decode cX12_isBig 3 = .ok (.if_icmp .lt 13, 3) := by decide +kernel
theorem dX12_isBig_6 : decode cX12_isBig 6 = .ok (.iload_n 0, 1) := by decide +kernel
theorem dX12_isBig_7 : decode cX12_isBig 7 = .ok (.bipush 90, 2) := by decide +kernel
theorem dX12_isBig_9 : decode cX12_isBig 9 = .ok (.if_icmp .gt 7, 3) := by decide +kernel
theorem dX12_isBig_12 : decode cX12_isBig 12 = .ok (.iconst 1, 1) := by decide +kernel
theorem dX12_isBig_13 : decode cX12_isBig 13 = .ok (.goto 4, 3) := by decide +kernel
theorem dX12_isBig_16 : decode cX12_isBig 16 = .ok (.iconst 0, 1) := by decide +kernel
theorem dX12_isBig_17 : decode cX12_isBig 17 = .ok (.ireturn, 1) := by decide +kernel
theorem mw_X12_isBig : MW yX12_isBig (Cond.code yX12_isBig cX12_isBig 1 (Option.some Jvm.ClassFile.FieldType.boolean)) cX12_isBig 1 (Option.some Jvm.ClassFile.FieldType.boolean) 1 := ⟨rfl, ⟨(lw_all_tbl q752), rfl, (lw_all_tbl q180)⟩, rfl, ⟨by decide, by decide⟩, by decide +kernel⟩
noncomputable def c_X12_isBig (l0 : Int) : Mo CH Int :=
  if l0 < 65 then
    pr 0
  else
    if 90 < l0 then
      pr 0
    else
      pr 1
theorem sc_X12_isBig (g : gC) (d : Nat) (ts : TS) (l0 : Int) (hl0 : rg .char l0) : SF g yX12_isBig (Cond.code yX12_isBig cX12_isBig 1 (Option.some Jvm.ClassFile.FieldType.boolean)) (Option.some Jvm.ClassFile.FieldType.boolean) (d + 0) [vI l0] (fun h => (h, ts)) (c_X12_isBig l0) := by
  refine SF.of (lv := [(0, vI l0)]) (by decide) (wt_I wt_0) rfl (by simp only [la_A, la_I, la_J, la_0]) (fun Γ hg hnm o => ?_)
  subst hg
  have o : Ok Γ "LazyForge$Reader" cX12_isBig 1 (Option.some Jvm.ClassFile.FieldType.boolean) (d + 0) := o
  unfold c_X12_isBig
  refine s_iload_n o dX12_isBig_0 rfl 0 rfl ?_
  refine s_bipush o dX12_isBig_1 rfl ?_
  refine s_icmp_lt (tgt := 16) o dX12_isBig_3 (by decide) (rC hl0) (r32 rfl) ?_ ?_
  · refine s_iconst o dX12_isBig_16 ?_
    exact s_iret o rfl i_boolean (Or.inl rfl) dX12_isBig_17 (fun _ hh => hh)
  · refine s_iload_n o dX12_isBig_6 rfl 0 rfl ?_
    refine s_bipush o dX12_isBig_7 rfl ?_
    refine s_icmp_gt (tgt := 16) o dX12_isBig_9 (by decide) (rC hl0) (r32 rfl) ?_ ?_
    · refine s_iconst o dX12_isBig_16 ?_
      exact s_iret o rfl i_boolean (Or.inl rfl) dX12_isBig_17 (fun _ hh => hh)
    · refine s_iconst o dX12_isBig_12 ?_
      refine s_goto (tgt := 17) o dX12_isBig_13 (by decide) ?_
      exact s_iret o rfl i_boolean (Or.inr rfl) dX12_isBig_17 (fun _ hh => hh)
theorem dX12_isKey_0 : decode cX12_isKey 0 = .ok (.lconst 0, 1) := by decide +kernel
theorem dX12_isKey_1 : decode cX12_isKey 1 = .ok (.lstore_n 1, 1) := by decide +kernel
theorem dX12_isKey_2 : decode cX12_isKey 2 = .ok (.iconst 0, 1) := by decide +kernel
theorem dX12_isKey_3 : decode cX12_isKey 3 = .ok (.istore_n 3, 1) := by decide +kernel
theorem dX12_isKey_4 : decode cX12_isKey 4 = .ok (.iload_n 3, 1) := by decide +kernel
theorem dX12_isKey_5 : decode cX12_isKey 5 = .ok (.ldc 82, 2) := by decide +kernel
theorem dX12_isKey_7 : decode cX12_isKey 7 = .ok (.invokevirtual 72, 3) := by decide +kernel
theorem dX12_isKey_10 : decode cX12_isKey 10 = .ok (.if_icmp .ge 59, 3) := by decide +kernel
theorem dX12_isKey_13 : decode cX12_isKey 13 = .ok (.ldc 82, 2) := by decide +kernel
theorem dX12_isKey_15 : decode cX12_isKey 15 = .ok (.iload_n 3, 1) := by decide +kernel
theorem dX12_isKey_16 : decode cX12_isKey 16 = .ok (.invokevirtual 78, 3) := by decide +kernel
theorem dX12_isKey_19 : decode cX12_isKey 19 = .ok (.bipush 32, 2) := by decide +kernel
theorem dX12_isKey_21 : decode cX12_isKey 21 = .ok (.if_icmp .ne 14, 3) := by decide +kernel
theorem dX12_isKey_24 : decode cX12_isKey 24 = .ok (.lload_n 1, 1) := by decide +kernel
theorem dX12_isKey_25 : decode cX12_isKey 25 = .ok (.aload_n 0, 1) := by decide +kernel
theorem dX12_isKey_26 : decode cX12_isKey 26 = .ok (.getfield 84, 3) := by decide +kernel
theorem dX12_isKey_29 : decode cX12_isKey 29 = .ok (.lcmp, 1) := by decide +kernel
theorem dX12_isKey_30 : decode cX12_isKey 30 = .ok (.ifCond .ne 5, 3) := by decide +kernel
theorem dX12_isKey_33 : decode cX12_isKey 33 = .ok (.iconst 1, 1) := by decide +kernel
theorem dX12_isKey_34 : decode cX12_isKey 34 = .ok (.ireturn, 1) := by decide +kernel
theorem dX12_isKey_35 : decode cX12_isKey 35 = .ok (.ldc 82, 2) := by decide +kernel
theorem dX12_isKey_37 : decode cX12_isKey 37 = .ok (.iload_n 3, 1) := by decide +kernel
theorem dX12_isKey_38 : decode cX12_isKey 38 = .ok (.invokevirtual 78, 3) := by decide +kernel
theorem dX12_isKey_41 : decode cX12_isKey 41 = .ok (.bipush 32, 2) := by decide +kernel
theorem dX12_isKey_43 : decode cX12_isKey 43 = .ok (.if_icmp .ne 7, 3) := by decide +kernel
theorem dX12_isKey_46 : decode cX12_isKey 46 = .ok (.lconst 0, 1) := by decide +kernel
theorem dX12_isKey_47 : decode cX12_isKey 47 = .ok (.goto 15, 3) := by decide +kernel
theorem dX12_isKey_50 : decode cX12_isKey 50 = .ok (.lload_n 1, 1) := by decide +kernel
theorem dX12_isKey_51 : decode cX12_isKey 51 = .ok (.bipush 8, 2) := by decide +kernel
theorem dX12_isKey_53 : decode cX12_isKey 53 = .ok (.lshl, 1) := by decide +kernel
theorem dX12_isKey_54 : decode cX12_isKey 54 = .ok (.ldc 82, 2) := by decide +kernel
theorem dX12_isKey_56 : decode cX12_isKey 56 = .ok (.iload_n 3, 1) := by decide +kernel
theorem dX12_isKey_57 : decode cX12_isKey 57 = .ok (.invokevirtual 78, 3) := by decide +kernel
theorem dX12_isKey_60 : decode cX12_isKey 60 = .ok (.i2l, 1) := by decide +kernel
theorem dX12_isKey_61 : decode cX12_isKey 61 = .ok (.lor, 1) := by decide +kernel
theorem dX12_isKey_62 : decode cX12_isKey 62 = .ok (.lstore_n 1, 1) := by decide +kernel
theorem dX12_isKey_63 : decode cX12_isKey 63 = .ok (.iinc 3 1, 3) := by decide +kernel
theorem dX12_isKey_66 : decode cX12_isKey 66 = .ok (.goto (-62), 3) := by decide +kernel
theorem dX12_isKey_69 : decode cX12_isKey 69 = .ok (.iconst 0, 1) := by decide +kernel
theorem dX12_isKey_70 : decode cX12_isKey 70 = .ok (.ireturn, 1) := by decide +kernel
theorem mw_X12_isKey : MW yX12_isKey (Cond.code yX12_isKey cX12_isKey 4 (Option.some Jvm.ClassFile.FieldType.boolean)) cX12_isKey 4 (Option.some Jvm.ClassFile.FieldType.boolean) 0 := ⟨rfl, ⟨(lw_all_tbl q759), rfl, (lw_all_tbl q180)⟩, rfl, ⟨by decide, by decide⟩, by decide +kernel⟩
abbrev okc_X12_isKey_4 (x : Int × Int × Int) : Prop := R64 x.2.1 ∧ R32 x.2.2
abbrev lvc_X12_isKey_4 (Γ : Gm) (x : Int × Int × Int) : List (Nat × Value) := [(0, vA (mg Γ) x.1), (1, vJ x.2.1), (3, vI x.2.2)]
noncomputable def c_X12_isKey_62 {A : Type} (k_33 : Mo CH A) (k_69 : Mo CH A) (l0 : Int) (l3 : Int) (k0 : Int) : Mo CH ((Int × Int × Int) ⊕ A) :=
  pr (.inl (l0, k0, (w32 (l3 + 1))))
theorem sc_X12_isKey_62 {Γ : Gm} {ts : TS} {d : Nat} (o : Ok Γ "LazyForge$Reader" cX12_isKey 4 (Option.some Jvm.ClassFile.FieldType.boolean) (d + 4)) {A : Type} {K : A → CH → Prop}  (k_33 : Mo CH A) (k_69 : Mo CH A) (hk_33 : Sx Γ (fun h => (h, ts)) K 33 [] [] (k_33)) (hk_69 : Sx Γ (fun h => (h, ts)) K 69 [] [] (k_69)) (l0 : Int) (l3 : Int) (k0 : Int) (hl3 : R32 l3) (hk0 : R64 k0) : Sx Γ (fun h => (h, ts)) (KL Γ (fun h => (h, ts)) okc_X12_isKey_4 K 4 (lvc_X12_isKey_4 Γ) []) 62 [(0, vA (mg Γ) l0), (3, vI l3)] [vJ k0] (c_X12_isKey_62 k_33 k_69 l0 l3 k0) := by
  unfold c_X12_isKey_62
  refine r_lstore_n o dX12_isKey_62 rfl rfl ⟨(Nat.ne_of_beq_eq_false rfl), (Nat.ne_of_beq_eq_false rfl), (fun _ => (vA_cat (mg Γ) l0)), ⟨(Nat.ne_of_beq_eq_false rfl), (Nat.ne_of_beq_eq_false rfl), (fun _ => rfl), trivial⟩⟩ ?_
  refine r_iinc (j := 2) o dX12_isKey_63 rfl rfl [(1, vJ k0), (0, vA (mg Γ) l0)] [0, 1] rfl ⟨(Nat.ne_of_beq_eq_false rfl), (fun e => absurd e (Nat.ne_of_beq_eq_false rfl)), ⟨(Nat.ne_of_beq_eq_false rfl), (fun _ => (vA_cat (mg Γ) l0)), trivial⟩⟩ ?_
  refine s_goto (tgt := 4) o dX12_isKey_66 (by decide) ?_
  refine r_to [(0, vA (mg Γ) l0), (1, vJ k0), (3, vI (w32 (l3 + 1)))] [2, 1, 0] rfl ?_
  exact s_back (⟨hk0, (w32_R _)⟩) rfl
noncomputable def c_X12_isKey_35 {A : Type} (k_33 : Mo CH A) (k_69 : Mo CH A) (l0 : Int) (l1 : Int) (l3 : Int) : Mo CH ((Int × Int × Int) ⊕ A) :=
  bnd (iss (-3)) fun _ =>
  bnd (c_J5_charAt (-3) l3) fun v1 =>
  if ¬ v1 = 32 then
    bnd (iss (-3)) fun _ =>
    bnd (c_J5_charAt (-3) l3) fun v2 =>
    c_X12_isKey_62 k_33 k_69 l0 l3 (lor (lshl l1 8) v2)
  else
    c_X12_isKey_62 k_33 k_69 l0 l3 0
theorem sc_X12_isKey_35 {Γ : Gm} {ts : TS} {d : Nat} (o : Ok Γ "LazyForge$Reader" cX12_isKey 4 (Option.some Jvm.ClassFile.FieldType.boolean) (d + 4)) {A : Type} {K : A → CH → Prop}  (k_33 : Mo CH A) (k_69 : Mo CH A) (hk_33 : Sx Γ (fun h => (h, ts)) K 33 [] [] (k_33)) (hk_69 : Sx Γ (fun h => (h, ts)) K 69 [] [] (k_69)) (l0 : Int) (l1 : Int) (l3 : Int) (hl1 : R64 l1) (hl3 : R32 l3) : Sx Γ (fun h => (h, ts)) (KL Γ (fun h => (h, ts)) okc_X12_isKey_4 K 4 (lvc_X12_isKey_4 Γ) []) 35 [(0, vA (mg Γ) l0), (1, vJ l1), (3, vI l3)] [] (c_X12_isKey_35 k_33 k_69 l0 l1 l3) := by
  unfold c_X12_isKey_35
  refine s_ldcS (tx := "data let in case of fail ") (k := 3) o (by decide +kernel) rfl (by decide) dX12_isKey_35 ?_
  refine s_iload_n o dX12_isKey_37 rfl 2 rfl ?_
  refine s_cvS (d := d + 3) (As := [vI l3]) (st := []) o (sc_J5_charAt (mg Γ) d ts (-3) l3 hl3) mw_J5_charAt rfl (Or.inl (lw_all_tbl q610)) (lw_all_tbl q612) (lw_all_tbl q611) wt_0 rfl dX12_isKey_38 rfl (rs := fun r => [vI r]) (fun _ => rfl) (fun v1 hv1 => ?_)
  refine s_bipush o dX12_isKey_41 rfl ?_
  refine s_icmp_ne (tgt := 50) o dX12_isKey_43 (by decide) (rC (hv1 _ rfl)) (r32 rfl) ?_ ?_
  · refine s_lload_n o dX12_isKey_50 rfl 1 rfl ?_
    refine s_bipush o dX12_isKey_51 rfl ?_
    refine s_lshl o dX12_isKey_53 ?_
    refine s_ldcS (tx := "data let in case of fail ") (k := 3) o (by decide +kernel) rfl (by decide) dX12_isKey_54 ?_
    refine s_iload_n o dX12_isKey_56 rfl 2 rfl ?_
    refine s_cvS (d := d + 3) (As := [vI l3]) (st := [vJ (lshl l1 8)]) o (sc_J5_charAt (mg Γ) d ts (-3) l3 hl3) mw_J5_charAt rfl (Or.inl (lw_all_tbl q610)) (lw_all_tbl q612) (lw_all_tbl q611) (wt_J wt_0) rfl dX12_isKey_57 rfl (rs := fun r => [vI r, vJ (lshl l1 8)]) (fun _ => rfl) (fun v2 hv2 => ?_)
    refine s_i2l o dX12_isKey_60 (rC (hv2 _ rfl)) ?_
    refine s_lor o dX12_isKey_61 ?_
    refine r_to [(0, vA (mg Γ) l0), (3, vI l3)] [0, 2] rfl ?_
    exact sc_X12_isKey_62 o k_33 k_69 hk_33 hk_69 l0 l3 (lor (lshl l1 8) v2) hl3 (lor_R _ _)
  · refine s_lconst (x := 0) o dX12_isKey_46 rfl ?_
    refine s_goto (tgt := 62) o dX12_isKey_47 (by decide) ?_
    refine r_to [(0, vA (mg Γ) l0), (3, vI l3)] [0, 2] rfl ?_
    exact sc_X12_isKey_62 o k_33 k_69 hk_33 hk_69 l0 l3 0 hl3 (r64 rfl)
noncomputable def c_X12_isKey_4b {A : Type} (k_33 : Mo CH A) (k_69 : Mo CH A) (l0 : Int) (l1 : Int) (l3 : Int) : Mo CH ((Int × Int × Int) ⊕ A) :=
  bnd (iss (-3)) fun _ =>
  bnd (c_J5_length (-3)) fun v1 =>
  if v1 ≤ l3 then
    lo k_69
  else
    bnd (iss (-3)) fun _ =>
    bnd (c_J5_charAt (-3) l3) fun v2 =>
    if ¬ v2 = 32 then
      c_X12_isKey_35 k_33 k_69 l0 l1 l3
    else
      bnd (gf [112] 8 l0) fun v3 =>
      if ¬ l1 = v3 then
        c_X12_isKey_35 k_33 k_69 l0 l1 l3
      else
        lo k_33
theorem sc_X12_isKey_4b {Γ : Gm} {ts : TS} {d : Nat} (o : Ok Γ "LazyForge$Reader" cX12_isKey 4 (Option.some Jvm.ClassFile.FieldType.boolean) (d + 4)) {A : Type} {K : A → CH → Prop} (k_33 : Mo CH A) (k_69 : Mo CH A) (hk_33 : Sx Γ (fun h => (h, ts)) K 33 [] [] (k_33)) (hk_69 : Sx Γ (fun h => (h, ts)) K 69 [] [] (k_69)) (l0 : Int) (l1 : Int) (l3 : Int) (hl1 : R64 l1) (hl3 : R32 l3) : Sx Γ (fun h => (h, ts)) (KL Γ (fun h => (h, ts)) okc_X12_isKey_4 K 4 (lvc_X12_isKey_4 Γ) []) 4 [(0, vA (mg Γ) l0), (1, vJ l1), (3, vI l3)] [] (c_X12_isKey_4b k_33 k_69 l0 l1 l3) := by
  unfold c_X12_isKey_4b
  refine s_iload_n o dX12_isKey_4 rfl 2 rfl ?_
  refine s_ldcS (tx := "data let in case of fail ") (k := 3) o (by decide +kernel) rfl (by decide) dX12_isKey_5 ?_
  refine s_cvS (d := d + 3) (As := []) (st := [vI l3]) o (sc_J5_length (mg Γ) (d + 2) ts (-3)) mw_J5_length rfl (Or.inl (lw_all_tbl q600)) (lw_all_tbl q602) (lw_all_tbl q601) (wt_I wt_0) rfl dX12_isKey_7 rfl (rs := fun r => [vI r, vI l3]) (fun _ => rfl) (fun v1 hv1 => ?_)
  refine s_icmp_ge (tgt := 69) o dX12_isKey_10 (by decide) hl3 (hv1 _ rfl) ?_ ?_
  · refine r_to [] [] rfl ?_
    exact s_lo hk_69
  · refine s_ldcS (tx := "data let in case of fail ") (k := 3) o (by decide +kernel) rfl (by decide) dX12_isKey_13 ?_
    refine s_iload_n o dX12_isKey_15 rfl 2 rfl ?_
    refine s_cvS (d := d + 3) (As := [vI l3]) (st := []) o (sc_J5_charAt (mg Γ) d ts (-3) l3 hl3) mw_J5_charAt rfl (Or.inl (lw_all_tbl q610)) (lw_all_tbl q612) (lw_all_tbl q611) wt_0 rfl dX12_isKey_16 rfl (rs := fun r => [vI r]) (fun _ => rfl) (fun v2 hv2 => ?_)
    refine s_bipush o dX12_isKey_19 rfl ?_
    refine s_icmp_ne (tgt := 35) o dX12_isKey_21 (by decide) (rC (hv2 _ rfl)) (r32 rfl) ?_ ?_
    · exact sc_X12_isKey_35 o k_33 k_69 hk_33 hk_69 l0 l1 l3 hl1 hl3
    · refine s_lload_n o dX12_isKey_24 rfl 1 rfl ?_
      refine s_aload_n o dX12_isKey_25 rfl 0 rfl ?_
      refine r_getf vJ rfl o cf_X12_word (Or.inl (lw_all_tbl q661)) dX12_isKey_26 (fun v3 hv3 => ?_)
      refine s_lcmp_ne (tgt := 35) o dX12_isKey_29 dX12_isKey_30 (by decide) hl1 hv3 ?_ ?_
      · exact sc_X12_isKey_35 o k_33 k_69 hk_33 hk_69 l0 l1 l3 hl1 hl3
      · refine r_to [] [] rfl ?_
        exact s_lo hk_33
noncomputable def c_X12_isKey_4 {A : Type} (k_33 : Mo CH A) (k_69 : Mo CH A) (l0 : Int) (l1 : Int) (l3 : Int) : Mo CH A := Loop (fun x => c_X12_isKey_4b k_33 k_69 x.1 x.2.1 x.2.2) (l0, l1, l3)
theorem sc_X12_isKey_4 {Γ : Gm} {ts : TS} {d : Nat} (o : Ok Γ "LazyForge$Reader" cX12_isKey 4 (Option.some Jvm.ClassFile.FieldType.boolean) (d + 4)) {A : Type} {K : A → CH → Prop} (k_33 : Mo CH A) (k_69 : Mo CH A) (hk_33 : Sx Γ (fun h => (h, ts)) K 33 [] [] (k_33)) (hk_69 : Sx Γ (fun h => (h, ts)) K 69 [] [] (k_69)) (l0 : Int) (l1 : Int) (l3 : Int) (hl1 : R64 l1) (hl3 : R32 l3) : Sx Γ (fun h => (h, ts)) K 4 [(0, vA (mg Γ) l0), (1, vJ l1), (3, vI l3)] [] (c_X12_isKey_4 k_33 k_69 l0 l1 l3) :=
  s_loop okc_X12_isKey_4 (lvc_X12_isKey_4 Γ) (fun x hx => sc_X12_isKey_4b o k_33 k_69 hk_33 hk_69 x.1 x.2.1 x.2.2 hx.1 hx.2) (x := (l0, l1, l3)) ⟨hl1, hl3⟩
noncomputable def c_X12_isKey (l0 : Int) : Mo CH Int :=
  c_X12_isKey_4
    (pr 1)
    (pr 0) l0 0 0
theorem sc_X12_isKey (g : gC) (d : Nat) (ts : TS) (l0 : Int) : SF g yX12_isKey (Cond.code yX12_isKey cX12_isKey 4 (Option.some Jvm.ClassFile.FieldType.boolean)) (Option.some Jvm.ClassFile.FieldType.boolean) (d + 4) [vA g l0] (fun h => (h, ts)) (c_X12_isKey l0) := by
  refine SF.of (lv := [(0, vA g l0)]) (by decide) (wt_A wt_0) rfl (by simp only [la_A, la_I, la_J, la_0]) (fun Γ hg hnm o => ?_)
  subst hg
  have o : Ok Γ "LazyForge$Reader" cX12_isKey 4 (Option.some Jvm.ClassFile.FieldType.boolean) (d + 4) := o
  unfold c_X12_isKey
  refine s_lconst (x := 0) o dX12_isKey_0 rfl ?_
  refine r_lstore_n o dX12_isKey_1 rfl rfl ⟨(Nat.ne_of_beq_eq_false rfl), (Nat.ne_of_beq_eq_false rfl), (fun _ => (vA_cat (mg Γ) l0)), trivial⟩ ?_
  refine s_iconst o dX12_isKey_2 ?_
  refine r_istore_n o dX12_isKey_3 rfl rfl ⟨(Nat.ne_of_beq_eq_false rfl), (fun e => absurd e (Nat.ne_of_beq_eq_false rfl)), ⟨(Nat.ne_of_beq_eq_false rfl), (fun _ => (vA_cat (mg Γ) l0)), trivial⟩⟩ ?_
  refine r_to [(0, vA (mg Γ) l0), (1, vJ 0), (3, vI 0)] [2, 1, 0] rfl ?_
  refine sc_X12_isKey_4 o _ _ ?_ ?_ l0 0 0 (r64 rfl) (r32 rfl)
  · refine s_iconst o dX12_isKey_33 ?_
    exact s_iret o rfl i_boolean (Or.inr rfl) dX12_isKey_34 (fun _ hh => hh)
  · refine s_iconst o dX12_isKey_69 ?_
    exact s_iret o rfl i_boolean (Or.inl rfl) dX12_isKey_70 (fun _ hh => hh)
theorem dX12_isSmall_0 : decode cX12_isSmall 0 = .ok (.iload_n 0, 1) := by decide +kernel
theorem dX12_isSmall_1 : decode cX12_isSmall 1 = .ok (.bipush 97, 2) := by decide +kernel
theorem dX12_isSmall_3 : decode cX12_isSmall 3 = .ok (.if_icmp .lt 13, 3) := by decide +kernel
theorem dX12_isSmall_6 : decode cX12_isSmall 6 = .ok (.iload_n 0, 1) := by decide +kernel
theorem dX12_isSmall_7 : decode cX12_isSmall 7 = .ok (.bipush 122, 2) := by decide +kernel
theorem dX12_isSmall_9 : decode cX12_isSmall 9 = .ok (.if_icmp .gt 7, 3) := by decide +kernel
theorem dX12_isSmall_12 : decode cX12_isSmall 12 = .ok (.iconst 1, 1) := by decide +kernel
theorem dX12_isSmall_13 : decode cX12_isSmall 13 = .ok (.goto 4, 3) := by decide +kernel
theorem dX12_isSmall_16 : decode cX12_isSmall 16 = .ok (.iconst 0, 1) := by decide +kernel
theorem dX12_isSmall_17 : decode cX12_isSmall 17 = .ok (.ireturn, 1) := by decide +kernel
theorem mw_X12_isSmall : MW yX12_isSmall (Cond.code yX12_isSmall cX12_isSmall 1 (Option.some Jvm.ClassFile.FieldType.boolean)) cX12_isSmall 1 (Option.some Jvm.ClassFile.FieldType.boolean) 1 := ⟨rfl, ⟨(lw_all_tbl q749), rfl, (lw_all_tbl q180)⟩, rfl, ⟨by decide, by decide⟩, by decide +kernel⟩
noncomputable def c_X12_isSmall (l0 : Int) : Mo CH Int :=
  if l0 < 97 then
    pr 0
  else
    if 122 < l0 then
      pr 0
    else
      pr 1
theorem sc_X12_isSmall (g : gC) (d : Nat) (ts : TS) (l0 : Int) (hl0 : rg .char l0) : SF g yX12_isSmall (Cond.code yX12_isSmall cX12_isSmall 1 (Option.some Jvm.ClassFile.FieldType.boolean)) (Option.some Jvm.ClassFile.FieldType.boolean) (d + 0) [vI l0] (fun h => (h, ts)) (c_X12_isSmall l0) := by
  refine SF.of (lv := [(0, vI l0)]) (by decide) (wt_I wt_0) rfl (by simp only [la_A, la_I, la_J, la_0]) (fun Γ hg hnm o => ?_)
  subst hg
  have o : Ok Γ "LazyForge$Reader" cX12_isSmall 1 (Option.some Jvm.ClassFile.FieldType.boolean) (d + 0) := o
  unfold c_X12_isSmall
  refine s_iload_n o dX12_isSmall_0 rfl 0 rfl ?_
  refine s_bipush o dX12_isSmall_1 rfl ?_
  refine s_icmp_lt (tgt := 16) o dX12_isSmall_3 (by decide) (rC hl0) (r32 rfl) ?_ ?_
  · refine s_iconst o dX12_isSmall_16 ?_
    exact s_iret o rfl i_boolean (Or.inl rfl) dX12_isSmall_17 (fun _ hh => hh)
  · refine s_iload_n o dX12_isSmall_6 rfl 0 rfl ?_
    refine s_bipush o dX12_isSmall_7 rfl ?_
    refine s_icmp_gt (tgt := 16) o dX12_isSmall_9 (by decide) (rC hl0) (r32 rfl) ?_ ?_
    · refine s_iconst o dX12_isSmall_16 ?_
      exact s_iret o rfl i_boolean (Or.inl rfl) dX12_isSmall_17 (fun _ hh => hh)
    · refine s_iconst o dX12_isSmall_12 ?_
      refine s_goto (tgt := 17) o dX12_isSmall_13 (by decide) ?_
      exact s_iret o rfl i_boolean (Or.inr rfl) dX12_isSmall_17 (fun _ hh => hh)
theorem dJ6_canEncode_0 : decode cJ6_canEncode 0 = .ok (.iload_n 0, 1) := by decide +kernel
theorem dJ6_canEncode_1 : decode cJ6_canEncode 1 = .ok (.ifCond .lt 14, 3) := by decide +kernel
theorem dJ6_canEncode_4 : decode cJ6_canEncode 4 = .ok (.iload_n 0, 1) := by decide +kernel
theorem dJ6_canEncode_5 : decode cJ6_canEncode 5 = .ok (.sipush 255, 3) := by decide +kernel
theorem dJ6_canEncode_8 : decode cJ6_canEncode 8 = .ok (.if_icmp .gt 7, 3) := by decide +kernel
theorem dJ6_canEncode_11 : decode cJ6_canEncode 11 = .ok (.iconst 1, 1) := by decide +kernel
theorem dJ6_canEncode_12 : decode cJ6_canEncode 12 = .ok (.goto 4, 3) := by decide +kernel
theorem dJ6_canEncode_15 : decode cJ6_canEncode 15 = .ok (.iconst 0, 1) := by decide +kernel
theorem dJ6_canEncode_16 : decode cJ6_canEncode 16 = .ok (.ireturn, 1) := by decide +kernel
theorem mw_J6_canEncode : MW yJ6_canEncode (Cond.code yJ6_canEncode cJ6_canEncode 1 (Option.some Jvm.ClassFile.FieldType.boolean)) cJ6_canEncode 1 (Option.some Jvm.ClassFile.FieldType.boolean) 1 := ⟨rfl, ⟨(lw_all_tbl q788), rfl, (lw_all_tbl q182)⟩, rfl, ⟨by decide, by decide⟩, by decide +kernel⟩
noncomputable def c_J6_canEncode (l0 : Int) : Mo CH Int :=
  if l0 < 0 then
    pr 0
  else
    if 255 < l0 then
      pr 0
    else
      pr 1
theorem sc_J6_canEncode (g : gC) (d : Nat) (ts : TS) (l0 : Int) (hl0 : R32 l0) : SF g yJ6_canEncode (Cond.code yJ6_canEncode cJ6_canEncode 1 (Option.some Jvm.ClassFile.FieldType.boolean)) (Option.some Jvm.ClassFile.FieldType.boolean) (d + 0) [vI l0] (fun h => (h, ts)) (c_J6_canEncode l0) := by
  refine SF.of (lv := [(0, vI l0)]) (by decide) (wt_I wt_0) rfl (by simp only [la_A, la_I, la_J, la_0]) (fun Γ hg hnm o => ?_)
  subst hg
  have o : Ok Γ "java/lang/StringLatin1" cJ6_canEncode 1 (Option.some Jvm.ClassFile.FieldType.boolean) (d + 0) := o
  unfold c_J6_canEncode
  refine s_iload_n o dJ6_canEncode_0 rfl 0 rfl ?_
  refine s_if_lt (tgt := 15) o dJ6_canEncode_1 (by decide) hl0 ?_ ?_
  · refine s_iconst o dJ6_canEncode_15 ?_
    exact s_iret o rfl i_boolean (Or.inl rfl) dJ6_canEncode_16 (fun _ hh => hh)
  · refine s_iload_n o dJ6_canEncode_4 rfl 0 rfl ?_
    refine s_sipush o dJ6_canEncode_5 rfl ?_
    refine s_icmp_gt (tgt := 15) o dJ6_canEncode_8 (by decide) hl0 (r32 rfl) ?_ ?_
    · refine s_iconst o dJ6_canEncode_15 ?_
      exact s_iret o rfl i_boolean (Or.inl rfl) dJ6_canEncode_16 (fun _ hh => hh)
    · refine s_iconst o dJ6_canEncode_11 ?_
      refine s_goto (tgt := 16) o dJ6_canEncode_12 (by decide) ?_
      exact s_iret o rfl i_boolean (Or.inr rfl) dJ6_canEncode_16 (fun _ hh => hh)
theorem dJ6_indexOfChar_0 : decode cJ6_indexOfChar 0 = .ok (.iload_n 1, 1) := by decide +kernel
theorem dJ6_indexOfChar_1 : decode cJ6_indexOfChar 1 = .ok (.i2b, 1) := by decide +kernel
theorem dJ6_indexOfChar_2 : decode cJ6_indexOfChar 2 = .ok (.istore 4, 2) := by decide +kernel
theorem dJ6_indexOfChar_4 : decode cJ6_indexOfChar 4 = .ok (.iload_n 2, 1) := by decide +kernel
theorem dJ6_indexOfChar_5 : decode cJ6_indexOfChar 5 = .ok (.istore 5, 2) := by decide +kernel
theorem dJ6_indexOfChar_7 : decode cJ6_indexOfChar 7 = .ok (.iload 5, 2) := by decide +kernel
theorem dJ6_indexOfChar_9 : decode cJ6_indexOfChar 9 = .ok (.iload_n 3, 1) := by decide +kernel
theorem dJ6_indexOfChar_10 : decode cJ6_indexOfChar 10 = .ok (.if_icmp .ge 21, 3) := by decide +kernel
theorem dJ6_indexOfChar_13 : decode cJ6_indexOfChar 13 = .ok (.aload_n 0, 1) := by decide +kernel
theorem dJ6_indexOfChar_14 : decode cJ6_indexOfChar 14 = .ok (.iload 5, 2) := by decide +kernel
theorem dJ6_indexOfChar_16 : decode cJ6_indexOfChar 16 = .ok (.baload, 1) := by decide +kernel
theorem dJ6_indexOfChar_17 : decode cJ6_indexOfChar 17 = .ok (.iload 4, 2) := by decide +kernel
theorem dJ6_indexOfChar_19 : decode cJ6_indexOfChar 19 = .ok (.if_icmp .ne 6, 3) := by decide +kernel
theorem dJ6_indexOfChar_22 : decode cJ6_indexOfChar 22 = .ok (.iload 5, 2) := by decide +kernel
theorem dJ6_indexOfChar_24 : decode cJ6_indexOfChar 24 = .ok (.ireturn, 1) := by decide +kernel
theorem dJ6_indexOfChar_25 : decode cJ6_indexOfChar 25 = .ok (.iinc 5 1, 3) := by decide +kernel
theorem dJ6_indexOfChar_28 : decode cJ6_indexOfChar 28 = .ok (.goto (-21), 3) := by decide +kernel
theorem dJ6_indexOfChar_31 : decode cJ6_indexOfChar 31 = .ok (.iconst (-1), 1) := by decide +kernel
theorem dJ6_indexOfChar_32 : decode cJ6_indexOfChar 32 = .ok (.ireturn, 1) := by decide +kernel
theorem mw_J6_indexOfChar : MW yJ6_indexOfChar (Cond.code yJ6_indexOfChar cJ6_indexOfChar 6 (Option.some Jvm.ClassFile.FieldType.int)) cJ6_indexOfChar 6 (Option.some Jvm.ClassFile.FieldType.int) 4 := ⟨rfl, ⟨(lw_all_tbl q797), rfl, (lw_all_tbl q182)⟩, rfl, ⟨by decide, by decide⟩, by decide +kernel⟩
abbrev okc_J6_indexOfChar_7 (x : Int × Int × Int × Int) : Prop := R32 x.2.1 ∧ rg .byte x.2.2.1 ∧ R32 x.2.2.2
abbrev lvc_J6_indexOfChar_7 (Γ : Gm) (x : Int × Int × Int × Int) : List (Nat × Value) := [(0, vA (mg Γ) x.1), (3, vI x.2.1), (4, vI x.2.2.1), (5, vI x.2.2.2)]
noncomputable def c_J6_indexOfChar_7b {A : Type} (k_22 : Int → Mo CH A) (k_31 : Mo CH A) (l0 : Int) (l3 : Int) (l4 : Int) (l5 : Int) : Mo CH ((Int × Int × Int × Int) ⊕ A) :=
  if l3 ≤ l5 then
    lo k_31
  else
    bnd (bld l0 l5) fun v1 =>
    if ¬ v1 = l4 then
      pr (.inl (l0, l3, l4, (w32 (l5 + 1))))
    else
      lo (k_22 l5)
theorem sc_J6_indexOfChar_7b {Γ : Gm} {ts : TS} {d : Nat} (o : Ok Γ "java/lang/StringLatin1" cJ6_indexOfChar 6 (Option.some Jvm.ClassFile.FieldType.int) (d + 0)) {A : Type} {K : A → CH → Prop} (k_22 : Int → Mo CH A) (k_31 : Mo CH A) (hk_22 : ∀ (l5 : Int), R32 l5 → Sx Γ (fun h => (h, ts)) K 22 [(5, vI l5)] [] (k_22 l5)) (hk_31 : Sx Γ (fun h => (h, ts)) K 31 [] [] (k_31)) (l0 : Int) (l3 : Int) (l4 : Int) (l5 : Int) (hl3 : R32 l3) (hl4 : rg .byte l4) (hl5 : R32 l5) : Sx Γ (fun h => (h, ts)) (KL Γ (fun h => (h, ts)) okc_J6_indexOfChar_7 K 7 (lvc_J6_indexOfChar_7 Γ) []) 7 [(0, vA (mg Γ) l0), (3, vI l3), (4, vI l4), (5, vI l5)] [] (c_J6_indexOfChar_7b k_22 k_31 l0 l3 l4 l5) := by
  unfold c_J6_indexOfChar_7b
  refine s_iload o dJ6_indexOfChar_7 3 rfl ?_
  refine s_iload_n o dJ6_indexOfChar_9 rfl 1 rfl ?_
  refine s_icmp_ge (tgt := 31) o dJ6_indexOfChar_10 (by decide) hl5 hl3 ?_ ?_
  · refine r_to [] [] rfl ?_
    exact s_lo hk_31
  · refine s_aload_n o dJ6_indexOfChar_13 rfl 0 rfl ?_
    refine s_iload o dJ6_indexOfChar_14 3 rfl ?_
    refine s_bld o hl5 dJ6_indexOfChar_16 (fun v1 hv1 => ?_)
    refine s_iload o dJ6_indexOfChar_17 2 rfl ?_
    refine s_icmp_ne (tgt := 25) o dJ6_indexOfChar_19 (by decide) (rB hv1) (rB hl4) ?_ ?_
    · refine r_iinc (j := 3) o dJ6_indexOfChar_25 rfl rfl [(0, vA (mg Γ) l0), (3, vI l3), (4, vI l4)] [0, 1, 2] rfl ⟨(Nat.ne_of_beq_eq_false rfl), (fun _ => (vA_cat (mg Γ) l0)), ⟨(Nat.ne_of_beq_eq_false rfl), (fun _ => rfl), ⟨(Nat.ne_of_beq_eq_false rfl), (fun _ => rfl), trivial⟩⟩⟩ ?_
      refine s_goto (tgt := 7) o dJ6_indexOfChar_28 (by decide) ?_
      refine r_to [(0, vA (mg Γ) l0), (3, vI l3), (4, vI l4), (5, vI (w32 (l5 + 1)))] [1, 2, 3, 0] rfl ?_
      exact s_back (⟨hl3, hl4, (w32_R _)⟩) rfl
    · refine r_to [(5, vI l5)] [3] rfl ?_
      exact s_lo (hk_22 l5 hl5)
noncomputable def c_J6_indexOfChar_7 {A : Type} (k_22 : Int → Mo CH A) (k_31 : Mo CH A) (l0 : Int) (l3 : Int) (l4 : Int) (l5 : Int) : Mo CH A := Loop (fun x => c_J6_indexOfChar_7b k_22 k_31 x.1 x.2.1 x.2.2.1 x.2.2.2) (l0, l3, l4, l5)
theorem sc_J6_indexOfChar_7 {Γ : Gm} {ts : TS} {d : Nat} (o : Ok Γ "java/lang/StringLatin1" cJ6_indexOfChar 6 (Option.some Jvm.ClassFile.FieldType.int) (d + 0)) {A : Type} {K : A → CH → Prop} (k_22 : Int → Mo CH A) (k_31 : Mo CH A) (hk_22 : ∀ (l5 : Int), R32 l5 → Sx Γ (fun h => (h, ts)) K 22 [(5, vI l5)] [] (k_22 l5)) (hk_31 : Sx Γ (fun h => (h, ts)) K 31 [] [] (k_31)) (l0 : Int) (l3 : Int) (l4 : Int) (l5 : Int) (hl3 : R32 l3) (hl4 : rg .byte l4) (hl5 : R32 l5) : Sx Γ (fun h => (h, ts)) K 7 [(0, vA (mg Γ) l0), (3, vI l3), (4, vI l4), (5, vI l5)] [] (c_J6_indexOfChar_7 k_22 k_31 l0 l3 l4 l5) :=
  s_loop okc_J6_indexOfChar_7 (lvc_J6_indexOfChar_7 Γ) (fun x hx => sc_J6_indexOfChar_7b o k_22 k_31 hk_22 hk_31 x.1 x.2.1 x.2.2.1 x.2.2.2 hx.1 hx.2.1 hx.2.2) (x := (l0, l3, l4, l5)) ⟨hl3, hl4, hl5⟩
noncomputable def c_J6_indexOfChar (l0 : Int) (l1 : Int) (l2 : Int) (l3 : Int) : Mo CH Int :=
  c_J6_indexOfChar_7
    (fun v1 => pr v1)
    (pr (-1)) l0 l3 (i2b l1) l2
theorem sc_J6_indexOfChar (g : gC) (d : Nat) (ts : TS) (l0 : Int) (l1 : Int) (l2 : Int) (l3 : Int) (hl1 : R32 l1) (hl2 : R32 l2) (hl3 : R32 l3) : SF g yJ6_indexOfChar (Cond.code yJ6_indexOfChar cJ6_indexOfChar 6 (Option.some Jvm.ClassFile.FieldType.int)) (Option.some Jvm.ClassFile.FieldType.int) (d + 0) [vA g l0, vI l1, vI l2, vI l3] (fun h => (h, ts)) (c_J6_indexOfChar l0 l1 l2 l3) := by
  refine SF.of (lv := [(0, vA g l0), (1, vI l1), (2, vI l2), (3, vI l3)]) (by decide) (wt_A (wt_I (wt_I (wt_I wt_0)))) rfl (by simp only [la_A, la_I, la_J, la_0]) (fun Γ hg hnm o => ?_)
  subst hg
  have o : Ok Γ "java/lang/StringLatin1" cJ6_indexOfChar 6 (Option.some Jvm.ClassFile.FieldType.int) (d + 0) := o
  unfold c_J6_indexOfChar
  refine s_iload_n o dJ6_indexOfChar_0 rfl 1 rfl ?_
  refine s_i2b o dJ6_indexOfChar_1 ?_
  refine r_istore o dJ6_indexOfChar_2 rfl ⟨(Nat.ne_of_beq_eq_false rfl), (fun _ => (vA_cat (mg Γ) l0)), ⟨(Nat.ne_of_beq_eq_false rfl), (fun _ => rfl), ⟨(Nat.ne_of_beq_eq_false rfl), (fun _ => rfl), ⟨(Nat.ne_of_beq_eq_false rfl), (fun _ => rfl), trivial⟩⟩⟩⟩ ?_
  refine s_iload_n o dJ6_indexOfChar_4 rfl 3 rfl ?_
  refine r_istore o dJ6_indexOfChar_5 rfl ⟨(Nat.ne_of_beq_eq_false rfl), (fun _ => rfl), ⟨(Nat.ne_of_beq_eq_false rfl), (fun _ => (vA_cat (mg Γ) l0)), ⟨(Nat.ne_of_beq_eq_false rfl), (fun _ => rfl), ⟨(Nat.ne_of_beq_eq_false rfl), (fun _ => rfl), ⟨(Nat.ne_of_beq_eq_false rfl), (fun _ => rfl), trivial⟩⟩⟩⟩⟩ ?_
  refine r_to [(0, vA (mg Γ) l0), (3, vI l3), (4, vI (i2b l1)), (5, vI l2)] [2, 5, 1, 0] rfl ?_
  refine sc_J6_indexOfChar_7 o _ _ ?_ ?_ l0 l3 (i2b l1) l2 hl3 (i2b_B _) hl2
  · intro v1 hv1
    refine s_iload o dJ6_indexOfChar_22 0 rfl ?_
    exact s_iret o rfl i_int hv1 dJ6_indexOfChar_24 (fun _ hh => hh)
  · refine s_iconst o dJ6_indexOfChar_31 ?_
    exact s_iret o rfl i_int (r32 rfl) dJ6_indexOfChar_32 (fun _ hh => hh)
theorem dJ6_indexOf_0 : decode cJ6_indexOf 0 = .ok (.iload_n 1, 1) := by decide +kernel
theorem dJ6_indexOf_1 : decode cJ6_indexOf 1 = .ok (.invokestatic 88, 3) := by decide +kernel
theorem dJ6_indexOf_4 : decode cJ6_indexOf 4 = .ok (.ifCond .ne 5, 3) := by decide +kernel
theorem dJ6_indexOf_7 : decode cJ6_indexOf 7 = .ok (.iconst (-1), 1) := by decide +kernel
theorem dJ6_indexOf_8 : decode cJ6_indexOf 8 = .ok (.ireturn, 1) := by decide +kernel
theorem dJ6_indexOf_9 : decode cJ6_indexOf 9 = .ok (.iload_n 2, 1) := by decide +kernel
theorem dJ6_indexOf_10 : decode cJ6_indexOf 10 = .ok (.iconst 0, 1) := by decide +kernel
theorem dJ6_indexOf_11 : decode cJ6_indexOf 11 = .ok (.invokestatic 92, 3) := by decide +kernel
theorem dJ6_indexOf_14 : decode cJ6_indexOf 14 = .ok (.istore_n 2, 1) := by decide +kernel
theorem dJ6_indexOf_15 : decode cJ6_indexOf 15 = .ok (.iload_n 3, 1) := by decide +kernel
theorem dJ6_indexOf_16 : decode cJ6_indexOf 16 = .ok (.aload_n 0, 1) := by decide +kernel
theorem dJ6_indexOf_17 : decode cJ6_indexOf 17 = .ok (.arraylength, 1) := by decide +kernel
theorem dJ6_indexOf_18 : decode cJ6_indexOf 18 = .ok (.invokestatic 38, 3) := by decide +kernel
theorem dJ6_indexOf_21 : decode cJ6_indexOf 21 = .ok (.istore_n 3, 1) := by decide +kernel
theorem dJ6_indexOf_22 : decode cJ6_indexOf 22 = .ok (.iload_n 2, 1) := by decide +kernel
theorem dJ6_indexOf_23 : decode cJ6_indexOf 23 = .ok (.iload_n 3, 1) := by decide +kernel
theorem dJ6_indexOf_24 : decode cJ6_indexOf 24 = .ok (.if_icmp .lt 5, 3) := by decide +kernel
theorem dJ6_indexOf_27 : decode cJ6_indexOf 27 = .ok (.iconst (-1), 1) := by decide +kernel
theorem dJ6_indexOf_28 : decode cJ6_indexOf 28 = .ok (.ireturn, 1) := by decide +kernel
theorem dJ6_indexOf_29 : decode cJ6_indexOf 29 = .ok (.aload_n 0, 1) := by decide +kernel
theorem dJ6_indexOf_30 : decode cJ6_indexOf 30 = .ok (.iload_n 1, 1) := by decide +kernel
theorem dJ6_indexOf_31 : decode cJ6_indexOf 31 = .ok (.iload_n 2, 1) := by decide +kernel
theorem dJ6_indexOf_32 : decode cJ6_indexOf 32 = .ok (.iload_n 3, 1) := by decide +kernel
theorem dJ6_indexOf_33 : decode cJ6_indexOf 33 = .ok (.invokestatic 95, 3) := by decide +kernel
theorem dJ6_indexOf_36 : decode cJ6_indexOf 36 = .ok (.ireturn, 1) := by decide +kernel
theorem mw_J6_indexOf : MW yJ6_indexOf (Cond.code yJ6_indexOf cJ6_indexOf 4 (Option.some Jvm.ClassFile.FieldType.int)) cJ6_indexOf 4 (Option.some Jvm.ClassFile.FieldType.int) 4 := ⟨rfl, ⟨(lw_all_tbl q785), rfl, (lw_all_tbl q182)⟩, rfl, ⟨by decide, by decide⟩, by decide +kernel⟩
noncomputable def c_J6_indexOf (l0 : Int) (l1 : Int) (l2 : Int) (l3 : Int) : Mo CH Int :=
  bnd (c_J6_canEncode l1) fun v1 =>
  if ¬ v1 = 0 then
    bnd (c_J9_max l2 0) fun v2 =>
    bnd (bln l0) fun v3 =>
    bnd (c_J9_min l3 v3) fun v4 =>
    if v2 < v4 then
      bnd (c_J6_indexOfChar l0 l1 v2 v4) fun v5 =>
      pr v5
    else
      pr (-1)
  else
    pr (-1)
theorem sc_J6_indexOf (g : gC) (d : Nat) (ts : TS) (l0 : Int) (l1 : Int) (l2 : Int) (l3 : Int) (hl1 : R32 l1) (hl2 : R32 l2) (hl3 : R32 l3) : SF g yJ6_indexOf (Cond.code yJ6_indexOf cJ6_indexOf 4 (Option.some Jvm.ClassFile.FieldType.int)) (Option.some Jvm.ClassFile.FieldType.int) (d + 1) [vA g l0, vI l1, vI l2, vI l3] (fun h => (h, ts)) (c_J6_indexOf l0 l1 l2 l3) := by
  refine SF.of (lv := [(0, vA g l0), (1, vI l1), (2, vI l2), (3, vI l3)]) (by decide) (wt_A (wt_I (wt_I (wt_I wt_0)))) rfl (by simp only [la_A, la_I, la_J, la_0]) (fun Γ hg hnm o => ?_)
  subst hg
  have o : Ok Γ "java/lang/StringLatin1" cJ6_indexOf 4 (Option.some Jvm.ClassFile.FieldType.int) (d + 1) := o
  unfold c_J6_indexOf
  refine s_iload_n o dJ6_indexOf_0 rfl 1 rfl ?_
  refine s_cs (d := d + 0) (As := [vI l1]) (st := []) o (sc_J6_canEncode (mg Γ) d ts l1 hl1) mw_J6_canEncode rfl (Or.inl (lw_all_tbl q786)) (lw_all_tbl q787) wt_0 rfl dJ6_indexOf_1 rfl (rs := fun r => [vI r]) (fun _ => rfl) (fun v1 hv1 => ?_)
  refine s_if_ne (tgt := 9) o dJ6_indexOf_4 (by decide) (rZ (hv1 _ rfl)) ?_ ?_
  · refine s_iload_n o dJ6_indexOf_9 rfl 2 rfl ?_
    refine s_iconst o dJ6_indexOf_10 ?_
    refine s_cs (d := d + 0) (As := [vI l2, vI 0]) (st := []) o (sc_J9_max (mg Γ) d ts l2 0 hl2 (r32 rfl)) mw_J9_max rfl (Or.inl (lw_all_tbl q789)) (lw_all_tbl q790) wt_0 rfl dJ6_indexOf_11 rfl (rs := fun r => [vI r]) (fun _ => rfl) (fun v2 hv2 => ?_)
    refine r_istore_nP o dJ6_indexOf_14 rfl rfl [(0, vA (mg Γ) l0), (1, vI l1), (3, vI l3)] [0, 1, 3] rfl ⟨(Nat.ne_of_beq_eq_false rfl), (fun _ => (vA_cat (mg Γ) l0)), ⟨(Nat.ne_of_beq_eq_false rfl), (fun _ => rfl), ⟨(Nat.ne_of_beq_eq_false rfl), (fun _ => rfl), trivial⟩⟩⟩ ?_
    refine s_iload_n o dJ6_indexOf_15 rfl 3 rfl ?_
    refine s_aload_n o dJ6_indexOf_16 rfl 1 rfl ?_
    refine s_bln o dJ6_indexOf_17 (fun v3 hv3 => ?_)
    refine s_cs (d := d + 0) (As := [vI l3, vI v3]) (st := []) o (sc_J9_min (mg Γ) d ts l3 v3 hl3 (rN hv3)) mw_J9_min rfl (Or.inl (lw_all_tbl q792)) (lw_all_tbl q793) wt_0 rfl dJ6_indexOf_18 rfl (rs := fun r => [vI r]) (fun _ => rfl) (fun v4 hv4 => ?_)
    refine r_istore_nP o dJ6_indexOf_21 rfl rfl [(2, vI v2), (0, vA (mg Γ) l0), (1, vI l1)] [0, 1, 2] rfl ⟨(Nat.ne_of_beq_eq_false rfl), (fun _ => rfl), ⟨(Nat.ne_of_beq_eq_false rfl), (fun _ => (vA_cat (mg Γ) l0)), ⟨(Nat.ne_of_beq_eq_false rfl), (fun _ => rfl), trivial⟩⟩⟩ ?_
    refine s_iload_n o dJ6_indexOf_22 rfl 1 rfl ?_
    refine s_iload_n o dJ6_indexOf_23 rfl 0 rfl ?_
    refine s_icmp_lt (tgt := 29) o dJ6_indexOf_24 (by decide) (hv2 _ rfl) (hv4 _ rfl) ?_ ?_
    · refine s_aload_n o dJ6_indexOf_29 rfl 2 rfl ?_
      refine s_iload_n o dJ6_indexOf_30 rfl 3 rfl ?_
      refine s_iload_n o dJ6_indexOf_31 rfl 1 rfl ?_
      refine s_iload_n o dJ6_indexOf_32 rfl 0 rfl ?_
      refine s_cs (d := d + 0) (As := [vA (mg Γ) l0, vI l1, vI v2, vI v4]) (st := []) o (sc_J6_indexOfChar (mg Γ) d ts l0 l1 v2 v4 hl1 (hv2 _ rfl) (hv4 _ rfl)) mw_J6_indexOfChar rfl (Or.inl (lw_all_tbl q795)) (lw_all_tbl q796) wt_0 rfl dJ6_indexOf_33 rfl (rs := fun r => [vI r]) (fun _ => rfl) (fun v5 hv5 => ?_)
      exact s_iret o rfl i_int (hv5 _ rfl) dJ6_indexOf_36 (fun _ hh => hh)
    · refine s_iconst o dJ6_indexOf_27 ?_
      exact s_iret o rfl i_int (r32 rfl) dJ6_indexOf_28 (fun _ hh => hh)
  · refine s_iconst o dJ6_indexOf_7 ?_
    exact s_iret o rfl i_int (r32 rfl) dJ6_indexOf_8 (fun _ hh => hh)
theorem dJ5_indexOf_2_0 : decode cJ5_indexOf_2 0 = .ok (.aload_n 0, 1) := by decide +kernel
theorem dJ5_indexOf_2_1 : decode cJ5_indexOf_2 1 = .ok (.invokevirtual 492, 3) := by decide +kernel
theorem dJ5_indexOf_2_4 : decode cJ5_indexOf_2 4 = .ok (.ifCond .eq 19, 3) := by decide +kernel
theorem dJ5_indexOf_2_7 : decode cJ5_indexOf_2 7 = .ok (.aload_n 0, 1) := by decide +kernel
theorem dJ5_indexOf_2_8 : decode cJ5_indexOf_2 8 = .ok (.getfield 9, 3) := by decide +kernel
theorem dJ5_indexOf_2_11 : decode cJ5_indexOf_2 11 = .ok (.iload_n 1, 1) := by decide +kernel
theorem dJ5_indexOf_2_12 : decode cJ5_indexOf_2 12 = .ok (.iload_n 2, 1) := by decide +kernel
theorem dJ5_indexOf_2_13 : decode cJ5_indexOf_2 13 = .ok (.aload_n 0, 1) := by decide +kernel
theorem dJ5_indexOf_2_14 : decode cJ5_indexOf_2 14 = .ok (.invokevirtual 505, 3) := by decide +kernel
theorem dJ5_indexOf_2_17 : decode cJ5_indexOf_2 17 = .ok (.invokestatic 637, 3) := by decide +kernel
theorem dJ5_indexOf_2_20 : decode cJ5_indexOf_2 20 = .ok (.goto 16, 3) := by decide +kernel
theorem dJ5_indexOf_2_23 : decode cJ5_indexOf_2 23 = .ok (.aload_n 0, 1) := by decide +kernel
theorem dJ5_indexOf_2_24 : decode cJ5_indexOf_2 24 = .ok (.getfield 9, 3) := by decide +kernel
theorem dJ5_indexOf_2_27 : decode cJ5_indexOf_2 27 = .ok (.iload_n 1, 1) := by decide +kernel
theorem dJ5_indexOf_2_28 : decode cJ5_indexOf_2 28 = .ok (.iload_n 2, 1) := by decide +kernel
theorem dJ5_indexOf_2_29 : decode cJ5_indexOf_2 29 = .ok (.aload_n 0, 1) := by decide +kernel
theorem dJ5_indexOf_2_30 : decode cJ5_indexOf_2 30 = .ok (.invokevirtual 505, 3) := by decide +kernel
theorem dJ5_indexOf_2_33 : decode cJ5_indexOf_2 33 = .ok (.invokestatic 640, 3) := by decide +kernel
theorem dJ5_indexOf_2_36 : decode cJ5_indexOf_2 36 = .ok (.ireturn, 1) := by decide +kernel
theorem mw_J5_indexOf_2 : MW yJ5_indexOf_2 (Cond.code yJ5_indexOf_2 cJ5_indexOf_2 3 (Option.some Jvm.ClassFile.FieldType.int)) cJ5_indexOf_2 3 (Option.some Jvm.ClassFile.FieldType.int) 2 := ⟨rfl, ⟨(lw_all_tbl q781), rfl, (lw_all_tbl q181)⟩, rfl, ⟨by decide, by decide⟩, by decide +kernel⟩
noncomputable def c_J5_indexOf_2 (l0 : Int) (l1 : Int) (l2 : Int) : Mo CH Int :=
  bnd (iss l0) fun _ =>
  bnd (c_J5_isLatin1 l0) fun v1 =>
  if v1 = 0 then
    bnd (gsv l0) fun v2 =>
    bnd (iss l0) fun _ =>
    bnd (c_J5_length l0) fun v3 =>
    no
  else
    bnd (gsv l0) fun v4 =>
    bnd (iss l0) fun _ =>
    bnd (c_J5_length l0) fun v5 =>
    bnd (c_J6_indexOf v4 l1 l2 v5) fun v6 =>
    pr v6
theorem sc_J5_indexOf_2 (g : gC) (d : Nat) (ts : TS) (l0 : Int) (l1 : Int) (l2 : Int) (hl1 : R32 l1) (hl2 : R32 l2) : SF g yJ5_indexOf_2 (Cond.code yJ5_indexOf_2 cJ5_indexOf_2 3 (Option.some Jvm.ClassFile.FieldType.int)) (Option.some Jvm.ClassFile.FieldType.int) (d + 2) [vA g l0, vI l1, vI l2] (fun h => (h, ts)) (c_J5_indexOf_2 l0 l1 l2) := by
  refine SF.of (lv := [(0, vA g l0), (1, vI l1), (2, vI l2)]) (by decide) (wt_A (wt_I (wt_I wt_0))) rfl (by simp only [la_A, la_I, la_J, la_0]) (fun Γ hg hnm o => ?_)
  subst hg
  have o : Ok Γ "java/lang/String" cJ5_indexOf_2 3 (Option.some Jvm.ClassFile.FieldType.int) (d + 2) := o
  unfold c_J5_indexOf_2
  refine s_aload_n o dJ5_indexOf_2_0 rfl 0 rfl ?_
  refine s_cvS (d := d + 1) (As := []) (st := []) o (sc_J5_isLatin1 (mg Γ) (d + 1) ts l0) mw_J5_isLatin1 rfl (Or.inl (lw_all_tbl q614)) (lw_all_tbl q616) (lw_all_tbl q615) wt_0 rfl dJ5_indexOf_2_1 rfl (rs := fun r => [vI r]) (fun _ => rfl) (fun v1 hv1 => ?_)
  refine s_if_eq (tgt := 23) o dJ5_indexOf_2_4 (by decide) (rZ (hv1 _ rfl)) ?_ ?_
  · refine s_aload_n o dJ5_indexOf_2_23 rfl 0 rfl ?_
    refine s_gsv o (lw_all_tbl q3534) dJ5_indexOf_2_24 (fun v2 => ?_)
    refine s_iload_n o dJ5_indexOf_2_27 rfl 1 rfl ?_
    refine s_iload_n o dJ5_indexOf_2_28 rfl 2 rfl ?_
    refine s_aload_n o dJ5_indexOf_2_29 rfl 0 rfl ?_
    refine s_cvS (d := d + 1) (As := []) (st := [vI l2, vI l1, vA (mg Γ) v2]) o (sc_J5_length (mg Γ) d ts l0) mw_J5_length rfl (Or.inl (lw_all_tbl q782)) (lw_all_tbl q602) (lw_all_tbl q601) (wt_I (wt_I (wt_A wt_0))) rfl dJ5_indexOf_2_30 rfl (rs := fun r => [vI r, vI l2, vI l1, vA (mg Γ) v2]) (fun _ => rfl) (fun v3 hv3 => ?_)
    exact s_no
  · refine s_aload_n o dJ5_indexOf_2_7 rfl 0 rfl ?_
    refine s_gsv o (lw_all_tbl q3534) dJ5_indexOf_2_8 (fun v4 => ?_)
    refine s_iload_n o dJ5_indexOf_2_11 rfl 1 rfl ?_
    refine s_iload_n o dJ5_indexOf_2_12 rfl 2 rfl ?_
    refine s_aload_n o dJ5_indexOf_2_13 rfl 0 rfl ?_
    refine s_cvS (d := d + 1) (As := []) (st := [vI l2, vI l1, vA (mg Γ) v4]) o (sc_J5_length (mg Γ) d ts l0) mw_J5_length rfl (Or.inl (lw_all_tbl q782)) (lw_all_tbl q602) (lw_all_tbl q601) (wt_I (wt_I (wt_A wt_0))) rfl dJ5_indexOf_2_14 rfl (rs := fun r => [vI r, vI l2, vI l1, vA (mg Γ) v4]) (fun _ => rfl) (fun v5 hv5 => ?_)
    refine s_cs (d := d + 1) (As := [vA (mg Γ) v4, vI l1, vI l2, vI v5]) (st := []) o (sc_J6_indexOf (mg Γ) d ts v4 l1 l2 v5 hl1 hl2 (hv5 _ rfl)) mw_J6_indexOf rfl (Or.inl (lw_all_tbl q783)) (lw_all_tbl q784) wt_0 rfl dJ5_indexOf_2_17 rfl (rs := fun r => [vI r]) (fun _ => rfl) (fun v6 hv6 => ?_)
    refine s_goto (tgt := 36) o dJ5_indexOf_2_20 (by decide) ?_
    exact s_iret o rfl i_int (hv6 _ rfl) dJ5_indexOf_2_36 (fun _ hh => hh)
theorem dJ5_indexOf_0 : decode cJ5_indexOf 0 = .ok (.aload_n 0, 1) := by decide +kernel
theorem dJ5_indexOf_1 : decode cJ5_indexOf 1 = .ok (.iload_n 1, 1) := by decide +kernel
theorem dJ5_indexOf_2 : decode cJ5_indexOf 2 = .ok (.iconst 0, 1) := by decide +kernel
theorem dJ5_indexOf_3 : decode cJ5_indexOf 3 = .ok (.invokevirtual 633, 3) := by decide +kernel
theorem dJ5_indexOf_6 : decode cJ5_indexOf 6 = .ok (.ireturn, 1) := by decide +kernel
theorem mw_J5_indexOf : MW yJ5_indexOf (Cond.code yJ5_indexOf cJ5_indexOf 2 (Option.some Jvm.ClassFile.FieldType.int)) cJ5_indexOf 2 (Option.some Jvm.ClassFile.FieldType.int) 1 := ⟨rfl, ⟨(lw_all_tbl q777), rfl, (lw_all_tbl q181)⟩, rfl, ⟨by decide, by decide⟩, by decide +kernel⟩
noncomputable def c_J5_indexOf (l0 : Int) (l1 : Int) : Mo CH Int :=
  bnd (iss l0) fun _ =>
  bnd (c_J5_indexOf_2 l0 l1 0) fun v1 =>
  pr v1
theorem sc_J5_indexOf (g : gC) (d : Nat) (ts : TS) (l0 : Int) (l1 : Int) (hl1 : R32 l1) : SF g yJ5_indexOf (Cond.code yJ5_indexOf cJ5_indexOf 2 (Option.some Jvm.ClassFile.FieldType.int)) (Option.some Jvm.ClassFile.FieldType.int) (d + 3) [vA g l0, vI l1] (fun h => (h, ts)) (c_J5_indexOf l0 l1) := by
  refine SF.of (lv := [(0, vA g l0), (1, vI l1)]) (by decide) (wt_A (wt_I wt_0)) rfl (by simp only [la_A, la_I, la_J, la_0]) (fun Γ hg hnm o => ?_)
  subst hg
  have o : Ok Γ "java/lang/String" cJ5_indexOf 2 (Option.some Jvm.ClassFile.FieldType.int) (d + 3) := o
  unfold c_J5_indexOf
  refine s_aload_n o dJ5_indexOf_0 rfl 0 rfl ?_
  refine s_iload_n o dJ5_indexOf_1 rfl 1 rfl ?_
  refine s_iconst o dJ5_indexOf_2 ?_
  refine s_cvS (d := d + 2) (As := [vI l1, vI 0]) (st := []) o (sc_J5_indexOf_2 (mg Γ) d ts l0 l1 0 hl1 (r32 rfl)) mw_J5_indexOf_2 rfl (Or.inl (lw_all_tbl q778)) (lw_all_tbl q780) (lw_all_tbl q779) wt_0 rfl dJ5_indexOf_3 rfl (rs := fun r => [vI r]) (fun _ => rfl) (fun v1 hv1 => ?_)
  exact s_iret o rfl i_int (hv1 _ rfl) dJ5_indexOf_6 (fun _ hh => hh)
theorem dX12_sign_0 : decode cX12_sign 0 = .ok (.aload_n 0, 1) := by decide +kernel
theorem dX12_sign_1 : decode cX12_sign 1 = .ok (.getfield 88, 3) := by decide +kernel
theorem dX12_sign_4 : decode cX12_sign 4 = .ok (.iconst 1, 1) := by decide +kernel
theorem dX12_sign_5 : decode cX12_sign 5 = .ok (.iadd, 1) := by decide +kernel
theorem dX12_sign_6 : decode cX12_sign 6 = .ok (.aload_n 0, 1) := by decide +kernel
theorem dX12_sign_7 : decode cX12_sign 7 = .ok (.getfield 51, 3) := by decide +kernel
theorem dX12_sign_10 : decode cX12_sign 10 = .ok (.if_icmp .ge 17, 3) := by decide +kernel
theorem dX12_sign_13 : decode cX12_sign 13 = .ok (.aload_n 0, 1) := by decide +kernel
theorem dX12_sign_14 : decode cX12_sign 14 = .ok (.getfield 47, 3) := by decide +kernel
theorem dX12_sign_17 : decode cX12_sign 17 = .ok (.aload_n 0, 1) := by decide +kernel
theorem dX12_sign_18 : decode cX12_sign 18 = .ok (.getfield 88, 3) := by decide +kernel
theorem dX12_sign_21 : decode cX12_sign 21 = .ok (.iconst 1, 1) := by decide +kernel
theorem dX12_sign_22 : decode cX12_sign 22 = .ok (.iadd, 1) := by decide +kernel
theorem dX12_sign_23 : decode cX12_sign 23 = .ok (.caload, 1) := by decide +kernel
theorem dX12_sign_24 : decode cX12_sign 24 = .ok (.goto 5, 3) := by decide +kernel
theorem dX12_sign_27 : decode cX12_sign 27 = .ok (.bipush 32, 2) := by decide +kernel
theorem dX12_sign_29 : decode cX12_sign 29 = .ok (.istore_n 2, 1) := by decide +kernel
theorem dX12_sign_30 : decode cX12_sign 30 = .ok (.iload_n 1, 1) := by decide +kernel
theorem dX12_sign_31 : decode cX12_sign 31 = .ok (.bipush 45, 2) := by decide +kernel
theorem dX12_sign_33 : decode cX12_sign 33 = .ok (.if_icmp .ne 9, 3) := by decide +kernel
theorem dX12_sign_36 : decode cX12_sign 36 = .ok (.iload_n 2, 1) := by decide +kernel
theorem dX12_sign_37 : decode cX12_sign 37 = .ok (.bipush 62, 2) := by decide +kernel
theorem dX12_sign_39 : decode cX12_sign 39 = .ok (.if_icmp .eq 27, 3) := by decide +kernel
theorem dX12_sign_42 : decode cX12_sign 42 = .ok (.iload_n 1, 1) := by decide +kernel
theorem dX12_sign_43 : decode cX12_sign 43 = .ok (.bipush 60, 2) := by decide +kernel
theorem dX12_sign_45 : decode cX12_sign 45 = .ok (.if_icmp .ne 9, 3) := by decide +kernel
theorem dX12_sign_48 : decode cX12_sign 48 = .ok (.iload_n 2, 1) := by decide +kernel
theorem dX12_sign_49 : decode cX12_sign 49 = .ok (.bipush 61, 2) := by decide +kernel
theorem dX12_sign_51 : decode cX12_sign 51 = .ok (.if_icmp .eq 15, 3) := by decide +kernel
theorem dX12_sign_54 : decode cX12_sign 54 = .ok (.iload_n 1, 1) := by decide +kernel
theorem dX12_sign_55 : decode cX12_sign 55 = .ok (.bipush 61, 2) := by decide +kernel
theorem dX12_sign_57 : decode cX12_sign 57 = .ok (.if_icmp .ne 13, 3) := by decide +kernel
theorem dX12_sign_60 : decode cX12_sign 60 = .ok (.iload_n 2, 1) := by decide +kernel
theorem dX12_sign_61 : decode cX12_sign 61 = .ok (.bipush 61, 2) := by decide +kernel
theorem dX12_sign_63 : decode cX12_sign 63 = .ok (.if_icmp .ne 7, 3) := by decide +kernel
theorem dX12_sign_66 : decode cX12_sign 66 = .ok (.iconst 1, 1) := by decide +kernel
theorem dX12_sign_67 : decode cX12_sign 67 = .ok (.goto 4, 3) := by decide +kernel
theorem dX12_sign_70 : decode cX12_sign 70 = .ok (.iconst 0, 1) := by decide +kernel
theorem dX12_sign_71 : decode cX12_sign 71 = .ok (.istore_n 3, 1) := by decide +kernel
theorem dX12_sign_72 : decode cX12_sign 72 = .ok (.aload_n 0, 1) := by decide +kernel
theorem dX12_sign_73 : decode cX12_sign 73 = .ok (.ldc 134, 2) := by decide +kernel
theorem dX12_sign_75 : decode cX12_sign 75 = .ok (.iload_n 1, 1) := by decide +kernel
theorem dX12_sign_76 : decode cX12_sign 76 = .ok (.invokevirtual 136, 3) := by decide +kernel
theorem dX12_sign_79 : decode cX12_sign 79 = .ok (.ifCond .lt 7, 3) := by decide +kernel
theorem dX12_sign_82 : decode cX12_sign 82 = .ok (.iconst 5, 1) := by decide +kernel
theorem dX12_sign_83 : decode cX12_sign 83 = .ok (.goto 5, 3) := by decide +kernel
theorem dX12_sign_86 : decode cX12_sign 86 = .ok (.bipush 6, 2) := by decide +kernel
theorem dX12_sign_88 : decode cX12_sign 88 = .ok (.putfield 97, 3) := by decide +kernel
theorem dX12_sign_91 : decode cX12_sign 91 = .ok (.aload_n 0, 1) := by decide +kernel
theorem dX12_sign_92 : decode cX12_sign 92 = .ok (.dup, 1) := by decide +kernel
theorem dX12_sign_93 : decode cX12_sign 93 = .ok (.getfield 88, 3) := by decide +kernel
theorem dX12_sign_96 : decode cX12_sign 96 = .ok (.iload_n 3, 1) := by decide +kernel
theorem dX12_sign_97 : decode cX12_sign 97 = .ok (.ifCond .eq 7, 3) := by decide +kernel
theorem dX12_sign_100 : decode cX12_sign 100 = .ok (.iconst 2, 1) := by decide +kernel
theorem dX12_sign_101 : decode cX12_sign 101 = .ok (.goto 4, 3) := by decide +kernel
theorem dX12_sign_104 : decode cX12_sign 104 = .ok (.iconst 1, 1) := by decide +kernel
theorem dX12_sign_105 : decode cX12_sign 105 = .ok (.iadd, 1) := by decide +kernel
theorem dX12_sign_106 : decode cX12_sign 106 = .ok (.putfield 88, 3) := by decide +kernel
theorem dX12_sign_109 : decode cX12_sign 109 = .ok (.aload_n 0, 1) := by decide +kernel
theorem dX12_sign_110 : decode cX12_sign 110 = .ok (.iload_n 3, 1) := by decide +kernel
theorem dX12_sign_111 : decode cX12_sign 111 = .ok (.ifCond .eq 12, 3) := by decide +kernel
theorem dX12_sign_114 : decode cX12_sign 114 = .ok (.iload_n 1, 1) := by decide +kernel
theorem dX12_sign_115 : decode cX12_sign 115 = .ok (.bipush 8, 2) := by decide +kernel
theorem dX12_sign_117 : decode cX12_sign 117 = .ok (.ishl, 1) := by decide +kernel
theorem dX12_sign_118 : decode cX12_sign 118 = .ok (.iload_n 2, 1) := by decide +kernel
theorem dX12_sign_119 : decode cX12_sign 119 = .ok (.ior, 1) := by decide +kernel
theorem dX12_sign_120 : decode cX12_sign 120 = .ok (.goto 4, 3) := by decide +kernel
theorem dX12_sign_123 : decode cX12_sign 123 = .ok (.iload_n 1, 1) := by decide +kernel
theorem dX12_sign_124 : decode cX12_sign 124 = .ok (.putfield 94, 3) := by decide +kernel
theorem dX12_sign_127 : decode cX12_sign 127 = .ok (.return_, 1) := by decide +kernel
theorem mw_X12_sign : MW yX12_sign (Cond.code yX12_sign cX12_sign 4 (Option.none : Option Jvm.ClassFile.FieldType)) cX12_sign 4 (Option.none : Option Jvm.ClassFile.FieldType) 1 := ⟨rfl, ⟨(lw_all_tbl q772), rfl, (lw_all_tbl q180)⟩, rfl, ⟨by decide, by decide⟩, by decide +kernel⟩
noncomputable def c_X12_sign_124  (k0 : Int) (k1 : Int) : Mo CH Int :=
  bnd (pf [112] 7 k1 k0) fun _ =>
  pr 0
theorem sc_X12_sign_124 {Γ : Gm} {ts : TS} {d : Nat} (o : Ok Γ "LazyForge$Reader" cX12_sign 4 (Option.none : Option Jvm.ClassFile.FieldType) (d + 4))   (k0 : Int) (k1 : Int) (hk0 : R32 k0) : Sx Γ (fun h => (h, ts)) (fun a s => mt Γ = (0, a, ((s, ts) : Wd))) 124 [] [vI k0, vA (mg Γ) k1] (c_X12_sign_124 k0 k1) := by
  unfold c_X12_sign_124
  refine r_putf vI rfl o cf_X12_mark (Or.inl (lw_all_tbl q660)) dX12_sign_124 (Or.inl rfl) hk0 ty_int ?_
  exact s_vret o rfl dX12_sign_127 (fun _ hh => hh)
noncomputable def c_X12_sign_105  (l0 : Int) (l1 : Int) (l2 : Int) (l3 : Int) (k0 : Int) (k1 : Int) (k2 : Int) : Mo CH Int :=
  bnd (pf [112] 3 k2 (w32 (k1 + k0))) fun _ =>
  if l3 = 0 then
    c_X12_sign_124 l1 l0
  else
    c_X12_sign_124 (ior (ishl l1 8) l2) l0
theorem sc_X12_sign_105 {Γ : Gm} {ts : TS} {d : Nat} (o : Ok Γ "LazyForge$Reader" cX12_sign 4 (Option.none : Option Jvm.ClassFile.FieldType) (d + 4))   (l0 : Int) (l1 : Int) (l2 : Int) (l3 : Int) (k0 : Int) (k1 : Int) (k2 : Int) (hl1 : rg .char l1) (hl2 : rg .char l2) (hl3 : rg .boolean l3) (hk0 : R32 k0) (hk1 : R32 k1) : Sx Γ (fun h => (h, ts)) (fun a s => mt Γ = (0, a, ((s, ts) : Wd))) 105 [(0, vA (mg Γ) l0), (1, vI l1), (2, vI l2), (3, vI l3)] [vI k0, vI k1, vA (mg Γ) k2] (c_X12_sign_105 l0 l1 l2 l3 k0 k1 k2) := by
  unfold c_X12_sign_105
  refine s_iadd o dX12_sign_105 ?_
  refine r_putf vI rfl o cf_X12_at (Or.inl (lw_all_tbl q656)) dX12_sign_106 (Or.inl rfl) (w32_R _) ty_int ?_
  refine s_aload_n o dX12_sign_109 rfl 0 rfl ?_
  refine s_iload_n o dX12_sign_110 rfl 3 rfl ?_
  refine s_if_eq (tgt := 123) o dX12_sign_111 (by decide) (rZ hl3) ?_ ?_
  · refine s_iload_n o dX12_sign_123 rfl 1 rfl ?_
    refine r_to [] [] rfl ?_
    exact sc_X12_sign_124 o l1 l0 (rC hl1)
  · refine s_iload_n o dX12_sign_114 rfl 1 rfl ?_
    refine s_bipush o dX12_sign_115 rfl ?_
    refine s_ishl o dX12_sign_117 ?_
    refine s_iload_n o dX12_sign_118 rfl 2 rfl ?_
    refine s_ior o dX12_sign_119 ?_
    refine s_goto (tgt := 124) o dX12_sign_120 (by decide) ?_
    refine r_to [] [] rfl ?_
    exact sc_X12_sign_124 o (ior (ishl l1 8) l2) l0 (ior_R _ _)
noncomputable def c_X12_sign_88  (l0 : Int) (l1 : Int) (l2 : Int) (l3 : Int) (k0 : Int) (k1 : Int) : Mo CH Int :=
  bnd (pf [112] 4 k1 k0) fun _ =>
  bnd (gf [112] 3 l0) fun v1 =>
  if l3 = 0 then
    c_X12_sign_105 l0 l1 l2 l3 1 v1 l0
  else
    c_X12_sign_105 l0 l1 l2 l3 2 v1 l0
theorem sc_X12_sign_88 {Γ : Gm} {ts : TS} {d : Nat} (o : Ok Γ "LazyForge$Reader" cX12_sign 4 (Option.none : Option Jvm.ClassFile.FieldType) (d + 4))   (l0 : Int) (l1 : Int) (l2 : Int) (l3 : Int) (k0 : Int) (k1 : Int) (hl1 : rg .char l1) (hl2 : rg .char l2) (hl3 : rg .boolean l3) (hk0 : R32 k0) : Sx Γ (fun h => (h, ts)) (fun a s => mt Γ = (0, a, ((s, ts) : Wd))) 88 [(0, vA (mg Γ) l0), (1, vI l1), (2, vI l2), (3, vI l3)] [vI k0, vA (mg Γ) k1] (c_X12_sign_88 l0 l1 l2 l3 k0 k1) := by
  unfold c_X12_sign_88
  refine r_putf vI rfl o cf_X12_sort (Or.inl (lw_all_tbl q657)) dX12_sign_88 (Or.inl rfl) hk0 ty_int ?_
  refine s_aload_n o dX12_sign_91 rfl 0 rfl ?_
  refine s_dup o dX12_sign_92 (vA_cat (mg Γ) l0) ?_
  refine r_getf vI rfl o cf_X12_at (Or.inl (lw_all_tbl q656)) dX12_sign_93 (fun v1 hv1 => ?_)
  refine s_iload_n o dX12_sign_96 rfl 3 rfl ?_
  refine s_if_eq (tgt := 104) o dX12_sign_97 (by decide) (rZ hl3) ?_ ?_
  · refine s_iconst o dX12_sign_104 ?_
    exact sc_X12_sign_105 o l0 l1 l2 l3 1 v1 l0 hl1 hl2 hl3 (r32 rfl) hv1
  · refine s_iconst o dX12_sign_100 ?_
    refine s_goto (tgt := 105) o dX12_sign_101 (by decide) ?_
    exact sc_X12_sign_105 o l0 l1 l2 l3 2 v1 l0 hl1 hl2 hl3 (r32 rfl) hv1
noncomputable def c_X12_sign_71  (l0 : Int) (l1 : Int) (l2 : Int) (k0 : Int) : Mo CH Int :=
  bnd (iss (-4)) fun _ =>
  bnd (c_J5_indexOf (-4) l1) fun v1 =>
  if v1 < 0 then
    c_X12_sign_88 l0 l1 l2 k0 6 l0
  else
    c_X12_sign_88 l0 l1 l2 k0 5 l0
theorem sc_X12_sign_71 {Γ : Gm} {ts : TS} {d : Nat} (o : Ok Γ "LazyForge$Reader" cX12_sign 4 (Option.none : Option Jvm.ClassFile.FieldType) (d + 4))   (l0 : Int) (l1 : Int) (l2 : Int) (k0 : Int) (hl1 : rg .char l1) (hl2 : rg .char l2) (hk0 : rg .boolean k0) : Sx Γ (fun h => (h, ts)) (fun a s => mt Γ = (0, a, ((s, ts) : Wd))) 71 [(0, vA (mg Γ) l0), (1, vI l1), (2, vI l2)] [vI k0] (c_X12_sign_71 l0 l1 l2 k0) := by
  unfold c_X12_sign_71
  refine r_istore_n o dX12_sign_71 rfl rfl ⟨(Nat.ne_of_beq_eq_false rfl), (fun _ => (vA_cat (mg Γ) l0)), ⟨(Nat.ne_of_beq_eq_false rfl), (fun _ => rfl), ⟨(Nat.ne_of_beq_eq_false rfl), (fun _ => rfl), trivial⟩⟩⟩ ?_
  refine s_aload_n o dX12_sign_72 rfl 1 rfl ?_
  refine s_ldcS (tx := "(){}=;,\\._+-*/%<|") (k := 4) o (by decide +kernel) rfl (by decide) dX12_sign_73 ?_
  refine s_iload_n o dX12_sign_75 rfl 2 rfl ?_
  refine s_cvS (d := d + 3) (As := [vI l1]) (st := [vA (mg Γ) l0]) o (sc_J5_indexOf (mg Γ) d ts (-4) l1 (rC hl1)) mw_J5_indexOf rfl (Or.inl (lw_all_tbl q774)) (lw_all_tbl q776) (lw_all_tbl q775) (wt_A wt_0) rfl dX12_sign_76 rfl (rs := fun r => [vI r, vA (mg Γ) l0]) (fun _ => rfl) (fun v1 hv1 => ?_)
  refine s_if_lt (tgt := 86) o dX12_sign_79 (by decide) (hv1 _ rfl) ?_ ?_
  · refine s_bipush o dX12_sign_86 rfl ?_
    refine r_to [(0, vA (mg Γ) l0), (1, vI l1), (2, vI l2), (3, vI k0)] [1, 2, 3, 0] rfl ?_
    exact sc_X12_sign_88 o l0 l1 l2 k0 6 l0 hl1 hl2 hk0 (r32 rfl)
  · refine s_iconst o dX12_sign_82 ?_
    refine s_goto (tgt := 88) o dX12_sign_83 (by decide) ?_
    refine r_to [(0, vA (mg Γ) l0), (1, vI l1), (2, vI l2), (3, vI k0)] [1, 2, 3, 0] rfl ?_
    exact sc_X12_sign_88 o l0 l1 l2 k0 5 l0 hl1 hl2 hk0 (r32 rfl)
noncomputable def c_X12_sign_66  (l0 : Int) (l1 : Int) (l2 : Int) : Mo CH Int :=
  c_X12_sign_71 l0 l1 l2 1
theorem sc_X12_sign_66 {Γ : Gm} {ts : TS} {d : Nat} (o : Ok Γ "LazyForge$Reader" cX12_sign 4 (Option.none : Option Jvm.ClassFile.FieldType) (d + 4))   (l0 : Int) (l1 : Int) (l2 : Int) (hl1 : rg .char l1) (hl2 : rg .char l2) : Sx Γ (fun h => (h, ts)) (fun a s => mt Γ = (0, a, ((s, ts) : Wd))) 66 [(0, vA (mg Γ) l0), (1, vI l1), (2, vI l2)] [] (c_X12_sign_66 l0 l1 l2) := by
  unfold c_X12_sign_66
  refine s_iconst o dX12_sign_66 ?_
  refine s_goto (tgt := 71) o dX12_sign_67 (by decide) ?_
  exact sc_X12_sign_71 o l0 l1 l2 1 hl1 hl2 (Or.inr rfl)
noncomputable def c_X12_sign_70  (l0 : Int) (l1 : Int) (l2 : Int) : Mo CH Int :=
  c_X12_sign_71 l0 l1 l2 0
theorem sc_X12_sign_70 {Γ : Gm} {ts : TS} {d : Nat} (o : Ok Γ "LazyForge$Reader" cX12_sign 4 (Option.none : Option Jvm.ClassFile.FieldType) (d + 4))   (l0 : Int) (l1 : Int) (l2 : Int) (hl1 : rg .char l1) (hl2 : rg .char l2) : Sx Γ (fun h => (h, ts)) (fun a s => mt Γ = (0, a, ((s, ts) : Wd))) 70 [(0, vA (mg Γ) l0), (1, vI l1), (2, vI l2)] [] (c_X12_sign_70 l0 l1 l2) := by
  unfold c_X12_sign_70
  refine s_iconst o dX12_sign_70 ?_
  exact sc_X12_sign_71 o l0 l1 l2 0 hl1 hl2 (Or.inl rfl)
noncomputable def c_X12_sign_54  (l0 : Int) (l1 : Int) (l2 : Int) : Mo CH Int :=
  if ¬ l1 = 61 then
    c_X12_sign_70 l0 l1 l2
  else
    if ¬ l2 = 61 then
      c_X12_sign_70 l0 l1 l2
    else
      c_X12_sign_66 l0 l1 l2
theorem sc_X12_sign_54 {Γ : Gm} {ts : TS} {d : Nat} (o : Ok Γ "LazyForge$Reader" cX12_sign 4 (Option.none : Option Jvm.ClassFile.FieldType) (d + 4))   (l0 : Int) (l1 : Int) (l2 : Int) (hl1 : rg .char l1) (hl2 : rg .char l2) : Sx Γ (fun h => (h, ts)) (fun a s => mt Γ = (0, a, ((s, ts) : Wd))) 54 [(0, vA (mg Γ) l0), (1, vI l1), (2, vI l2)] [] (c_X12_sign_54 l0 l1 l2) := by
  unfold c_X12_sign_54
  refine s_iload_n o dX12_sign_54 rfl 1 rfl ?_
  refine s_bipush o dX12_sign_55 rfl ?_
  refine s_icmp_ne (tgt := 70) o dX12_sign_57 (by decide) (rC hl1) (r32 rfl) ?_ ?_
  · exact sc_X12_sign_70 o l0 l1 l2 hl1 hl2
  · refine s_iload_n o dX12_sign_60 rfl 2 rfl ?_
    refine s_bipush o dX12_sign_61 rfl ?_
    refine s_icmp_ne (tgt := 70) o dX12_sign_63 (by decide) (rC hl2) (r32 rfl) ?_ ?_
    · exact sc_X12_sign_70 o l0 l1 l2 hl1 hl2
    · exact sc_X12_sign_66 o l0 l1 l2 hl1 hl2
noncomputable def c_X12_sign_42  (l0 : Int) (l1 : Int) (l2 : Int) : Mo CH Int :=
  if ¬ l1 = 60 then
    c_X12_sign_54 l0 l1 l2
  else
    if l2 = 61 then
      c_X12_sign_66 l0 l1 l2
    else
      c_X12_sign_54 l0 l1 l2
theorem sc_X12_sign_42 {Γ : Gm} {ts : TS} {d : Nat} (o : Ok Γ "LazyForge$Reader" cX12_sign 4 (Option.none : Option Jvm.ClassFile.FieldType) (d + 4))   (l0 : Int) (l1 : Int) (l2 : Int) (hl1 : rg .char l1) (hl2 : rg .char l2) : Sx Γ (fun h => (h, ts)) (fun a s => mt Γ = (0, a, ((s, ts) : Wd))) 42 [(0, vA (mg Γ) l0), (1, vI l1), (2, vI l2)] [] (c_X12_sign_42 l0 l1 l2) := by
  unfold c_X12_sign_42
  refine s_iload_n o dX12_sign_42 rfl 1 rfl ?_
  refine s_bipush o dX12_sign_43 rfl ?_
  refine s_icmp_ne (tgt := 54) o dX12_sign_45 (by decide) (rC hl1) (r32 rfl) ?_ ?_
  · exact sc_X12_sign_54 o l0 l1 l2 hl1 hl2
  · refine s_iload_n o dX12_sign_48 rfl 2 rfl ?_
    refine s_bipush o dX12_sign_49 rfl ?_
    refine s_icmp_eq (tgt := 66) o dX12_sign_51 (by decide) (rC hl2) (r32 rfl) ?_ ?_
    · exact sc_X12_sign_66 o l0 l1 l2 hl1 hl2
    · exact sc_X12_sign_54 o l0 l1 l2 hl1 hl2
noncomputable def c_X12_sign_29  (l0 : Int) (l1 : Int) (k0 : Int) : Mo CH Int :=
  if ¬ l1 = 45 then
    c_X12_sign_42 l0 l1 k0
  else
    if k0 = 62 then
      c_X12_sign_66 l0 l1 k0
    else
      c_X12_sign_42 l0 l1 k0
theorem sc_X12_sign_29 {Γ : Gm} {ts : TS} {d : Nat} (o : Ok Γ "LazyForge$Reader" cX12_sign 4 (Option.none : Option Jvm.ClassFile.FieldType) (d + 4))   (l0 : Int) (l1 : Int) (k0 : Int) (hl1 : rg .char l1) (hk0 : rg .char k0) : Sx Γ (fun h => (h, ts)) (fun a s => mt Γ = (0, a, ((s, ts) : Wd))) 29 [(0, vA (mg Γ) l0), (1, vI l1)] [vI k0] (c_X12_sign_29 l0 l1 k0) := by
  unfold c_X12_sign_29
  refine r_istore_n o dX12_sign_29 rfl rfl ⟨(Nat.ne_of_beq_eq_false rfl), (fun _ => (vA_cat (mg Γ) l0)), ⟨(Nat.ne_of_beq_eq_false rfl), (fun _ => rfl), trivial⟩⟩ ?_
  refine s_iload_n o dX12_sign_30 rfl 2 rfl ?_
  refine s_bipush o dX12_sign_31 rfl ?_
  refine s_icmp_ne (tgt := 42) o dX12_sign_33 (by decide) (rC hl1) (r32 rfl) ?_ ?_
  · refine r_to [(0, vA (mg Γ) l0), (1, vI l1), (2, vI k0)] [1, 2, 0] rfl ?_
    exact sc_X12_sign_42 o l0 l1 k0 hl1 hk0
  · refine s_iload_n o dX12_sign_36 rfl 0 rfl ?_
    refine s_bipush o dX12_sign_37 rfl ?_
    refine s_icmp_eq (tgt := 66) o dX12_sign_39 (by decide) (rC hk0) (r32 rfl) ?_ ?_
    · refine r_to [(0, vA (mg Γ) l0), (1, vI l1), (2, vI k0)] [1, 2, 0] rfl ?_
      exact sc_X12_sign_66 o l0 l1 k0 hl1 hk0
    · refine r_to [(0, vA (mg Γ) l0), (1, vI l1), (2, vI k0)] [1, 2, 0] rfl ?_
      exact sc_X12_sign_42 o l0 l1 k0 hl1 hk0
noncomputable def c_X12_sign (l0 : Int) (l1 : Int) : Mo CH Int :=
  bnd (gf [112] 3 l0) fun v1 =>
  bnd (gf [112] 2 l0) fun v2 =>
  if v2 ≤ (w32 (v1 + 1)) then
    c_X12_sign_29 l0 l1 32
  else
    bnd (gf [112] 1 l0) fun v3 =>
    bnd (gf [112] 3 l0) fun v4 =>
    bnd (ald 2 v3 (w32 (v4 + 1))) fun v5 =>
    c_X12_sign_29 l0 l1 v5
theorem sc_X12_sign (g : gC) (d : Nat) (ts : TS) (l0 : Int) (l1 : Int) (hl1 : rg .char l1) : SF g yX12_sign (Cond.code yX12_sign cX12_sign 4 (Option.none : Option Jvm.ClassFile.FieldType)) (Option.none : Option Jvm.ClassFile.FieldType) (d + 4) [vA g l0, vI l1] (fun h => (h, ts)) (c_X12_sign l0 l1) := by
  refine SF.of (lv := [(0, vA g l0), (1, vI l1)]) (by decide) (wt_A (wt_I wt_0)) rfl (by simp only [la_A, la_I, la_J, la_0]) (fun Γ hg hnm o => ?_)
  subst hg
  have o : Ok Γ "LazyForge$Reader" cX12_sign 4 (Option.none : Option Jvm.ClassFile.FieldType) (d + 4) := o
  unfold c_X12_sign
  refine s_aload_n o dX12_sign_0 rfl 0 rfl ?_
  refine r_getf vI rfl o cf_X12_at (Or.inl (lw_all_tbl q656)) dX12_sign_1 (fun v1 hv1 => ?_)
  refine s_iconst o dX12_sign_4 ?_
  refine s_iadd o dX12_sign_5 ?_
  refine s_aload_n o dX12_sign_6 rfl 0 rfl ?_
  refine r_getf vI rfl o cf_X12_size (Or.inl (lw_all_tbl q655)) dX12_sign_7 (fun v2 hv2 => ?_)
  refine s_icmp_ge (tgt := 27) o dX12_sign_10 (by decide) (w32_R _) hv2 ?_ ?_
  · refine s_bipush o dX12_sign_27 rfl ?_
    exact sc_X12_sign_29 o l0 l1 32 hl1 (rCl rfl)
  · refine s_aload_n o dX12_sign_13 rfl 0 rfl ?_
    refine r_getf (vA (mg Γ)) rfl o cf_X12_text (Or.inl (lw_all_tbl q654)) dX12_sign_14 (fun v3 hv3 => ?_)
    refine s_aload_n o dX12_sign_17 rfl 0 rfl ?_
    refine r_getf vI rfl o cf_X12_at (Or.inl (lw_all_tbl q656)) dX12_sign_18 (fun v4 hv4 => ?_)
    refine s_iconst o dX12_sign_21 ?_
    refine s_iadd o dX12_sign_22 ?_
    refine r_cald o (w32_R _) dX12_sign_23 (fun v5 hv5 => ?_)
    refine s_goto (tgt := 29) o dX12_sign_24 (by decide) ?_
    exact sc_X12_sign_29 o l0 l1 v5 hl1 hv5
theorem dX12_next_0 : decode cX12_next 0 = .ok (.aload_n 0, 1) := by decide +kernel
theorem dX12_next_1 : decode cX12_next 1 = .ok (.getfield 88, 3) := by decide +kernel
theorem dX12_next_4 : decode cX12_next 4 = .ok (.aload_n 0, 1) := by decide +kernel
theorem dX12_next_5 : decode cX12_next 5 = .ok (.getfield 51, 3) := by decide +kernel
theorem dX12_next_8 : decode cX12_next 8 = .ok (.if_icmp .ge 110, 3) := by decide +kernel
theorem dX12_next_11 : decode cX12_next 11 = .ok (.aload_n 0, 1) := by decide +kernel
theorem dX12_next_12 : decode cX12_next 12 = .ok (.getfield 47, 3) := by decide +kernel
theorem dX12_next_15 : decode cX12_next 15 = .ok (.aload_n 0, 1) := by decide +kernel
theorem dX12_next_16 : decode cX12_next 16 = .ok (.getfield 88, 3) := by decide +kernel
theorem dX12_next_19 : decode cX12_next 19 = .ok (.caload, 1) := by decide +kernel
theorem dX12_next_20 : decode cX12_next 20 = .ok (.bipush 32, 2) := by decide +kernel
theorem dX12_next_22 : decode cX12_next 22 = .ok (.if_icmp .eq 31, 3) := by decide +kernel
theorem dX12_next_25 : decode cX12_next 25 = .ok (.aload_n 0, 1) := by decide +kernel
theorem dX12_next_26 : decode cX12_next 26 = .ok (.getfield 47, 3) := by decide +kernel
theorem dX12_next_29 : decode cX12_next 29 = .ok (.aload_n 0, 1) := by decide +kernel
theorem dX12_next_30 : decode cX12_next 30 = .ok (.getfield 88, 3) := by decide +kernel
theorem dX12_next_33 : decode cX12_next 33 = .ok (.caload, 1) := by decide +kernel
theorem dX12_next_34 : decode cX12_next 34 = .ok (.bipush 10, 2) := by decide +kernel
theorem dX12_next_36 : decode cX12_next 36 = .ok (.if_icmp .eq 17, 3) := by decide +kernel
theorem dX12_next_39 : decode cX12_next 39 = .ok (.aload_n 0, 1) := by decide +kernel
theorem dX12_next_40 : decode cX12_next 40 = .ok (.getfield 47, 3) := by decide +kernel
theorem dX12_next_43 : decode cX12_next 43 = .ok (.aload_n 0, 1) := by decide +kernel
theorem dX12_next_44 : decode cX12_next 44 = .ok (.getfield 88, 3) := by decide +kernel
theorem dX12_next_47 : decode cX12_next 47 = .ok (.caload, 1) := by decide +kernel
theorem dX12_next_48 : decode cX12_next 48 = .ok (.bipush 35, 2) := by decide +kernel
theorem dX12_next_50 : decode cX12_next 50 = .ok (.if_icmp .ne 68, 3) := by decide +kernel
theorem dX12_next_53 : decode cX12_next 53 = .ok (.aload_n 0, 1) := by decide +kernel
theorem dX12_next_54 : decode cX12_next 54 = .ok (.getfield 47, 3) := by decide +kernel
theorem dX12_next_57 : decode cX12_next 57 = .ok (.aload_n 0, 1) := by decide +kernel
theorem dX12_next_58 : decode cX12_next 58 = .ok (.getfield 88, 3) := by decide +kernel
theorem dX12_next_61 : decode cX12_next 61 = .ok (.caload, 1) := by decide +kernel
theorem dX12_next_62 : decode cX12_next 62 = .ok (.bipush 35, 2) := by decide +kernel
theorem dX12_next_64 : decode cX12_next 64 = .ok (.if_icmp .ne 41, 3) := by decide +kernel
theorem dX12_next_67 : decode cX12_next 67 = .ok (.aload_n 0, 1) := by decide +kernel
theorem dX12_next_68 : decode cX12_next 68 = .ok (.getfield 88, 3) := by decide +kernel
theorem dX12_next_71 : decode cX12_next 71 = .ok (.aload_n 0, 1) := by decide +kernel
theorem dX12_next_72 : decode cX12_next 72 = .ok (.getfield 51, 3) := by decide +kernel
theorem dX12_next_75 : decode cX12_next 75 = .ok (.if_icmp .ge (-75), 3) := by decide +kernel
theorem dX12_next_78 : decode cX12_next 78 = .ok (.aload_n 0, 1) := by decide +kernel
theorem dX12_next_79 : decode cX12_next 79 = .ok (.getfield 47, 3) := by decide +kernel
theorem dX12_next_82 : decode cX12_next 82 = .ok (.aload_n 0, 1) := by decide +kernel
theorem dX12_next_83 : decode cX12_next 83 = .ok (.getfield 88, 3) := by decide +kernel
theorem dX12_next_86 : decode cX12_next 86 = .ok (.caload, 1) := by decide +kernel
theorem dX12_next_87 : decode cX12_next 87 = .ok (.bipush 10, 2) := by decide +kernel
theorem dX12_next_89 : decode cX12_next 89 = .ok (.if_icmp .eq (-89), 3) := by decide +kernel
theorem dX12_next_92 : decode cX12_next 92 = .ok (.aload_n 0, 1) := by decide +kernel
theorem dX12_next_93 : decode cX12_next 93 = .ok (.dup, 1) := by decide +kernel
theorem dX12_next_94 : decode cX12_next 94 = .ok (.getfield 88, 3) := by decide +kernel
theorem dX12_next_97 : decode cX12_next 97 = .ok (.iconst 1, 1) := by decide +kernel
theorem dX12_next_98 : decode cX12_next 98 = .ok (.iadd, 1) := by decide +kernel
theorem dX12_next_99 : decode cX12_next 99 = .ok (.putfield 88, 3) := by decide +kernel
theorem dX12_next_102 : decode cX12_next 102 = .ok (.goto (-35), 3) := by decide +kernel
theorem dX12_next_105 : decode cX12_next 105 = .ok (.aload_n 0, 1) := by decide +kernel
theorem dX12_next_106 : decode cX12_next 106 = .ok (.dup, 1) := by decide +kernel
theorem dX12_next_107 : decode cX12_next 107 = .ok (.getfield 88, 3) := by decide +kernel
theorem dX12_next_110 : decode cX12_next 110 = .ok (.iconst 1, 1) := by decide +kernel
theorem dX12_next_111 : decode cX12_next 111 = .ok (.iadd, 1) := by decide +kernel
theorem dX12_next_112 : decode cX12_next 112 = .ok (.putfield 88, 3) := by decide +kernel
theorem dX12_next_115 : decode cX12_next 115 = .ok (.goto (-115), 3) := by decide +kernel
theorem dX12_next_118 : decode cX12_next 118 = .ok (.aload_n 0, 1) := by decide +kernel
theorem dX12_next_119 : decode cX12_next 119 = .ok (.aload_n 0, 1) := by decide +kernel
theorem dX12_next_120 : decode cX12_next 120 = .ok (.getfield 88, 3) := by decide +kernel
theorem dX12_next_123 : decode cX12_next 123 = .ok (.putfield 91, 3) := by decide +kernel
theorem dX12_next_126 : decode cX12_next 126 = .ok (.aload_n 0, 1) := by decide +kernel
theorem dX12_next_127 : decode cX12_next 127 = .ok (.lconst 0, 1) := by decide +kernel
theorem dX12_next_128 : decode cX12_next 128 = .ok (.putfield 84, 3) := by decide +kernel
theorem dX12_next_131 : decode cX12_next 131 = .ok (.aload_n 0, 1) := by decide +kernel
theorem dX12_next_132 : decode cX12_next 132 = .ok (.iconst 0, 1) := by decide +kernel
theorem dX12_next_133 : decode cX12_next 133 = .ok (.putfield 94, 3) := by decide +kernel
theorem dX12_next_136 : decode cX12_next 136 = .ok (.aload_n 0, 1) := by decide +kernel
theorem dX12_next_137 : decode cX12_next 137 = .ok (.getfield 88, 3) := by decide +kernel
theorem dX12_next_140 : decode cX12_next 140 = .ok (.aload_n 0, 1) := by decide +kernel
theorem dX12_next_141 : decode cX12_next 141 = .ok (.getfield 51, 3) := by decide +kernel
theorem dX12_next_144 : decode cX12_next 144 = .ok (.if_icmp .ne 9, 3) := by decide +kernel
theorem dX12_next_147 : decode cX12_next 147 = .ok (.aload_n 0, 1) := by decide +kernel
theorem dX12_next_148 : decode cX12_next 148 = .ok (.iconst 0, 1) := by decide +kernel
theorem dX12_next_149 : decode cX12_next 149 = .ok (.putfield 97, 3) := by decide +kernel
theorem dX12_next_152 : decode cX12_next 152 = .ok (.return_, 1) := by decide +kernel
theorem dX12_next_153 : decode cX12_next 153 = .ok (.aload_n 0, 1) := by decide +kernel
theorem dX12_next_154 : decode cX12_next 154 = .ok (.getfield 47, 3) := by decide +kernel
theorem dX12_next_157 : decode cX12_next 157 = .ok (.aload_n 0, 1) := by decide +kernel
theorem dX12_next_158 : decode cX12_next 158 = .ok (.getfield 88, 3) := by decide +kernel
theorem dX12_next_161 : decode cX12_next 161 = .ok (.caload, 1) := by decide +kernel
theorem dX12_next_162 : decode cX12_next 162 = .ok (.istore_n 1, 1) := by decide +kernel
theorem dX12_next_163 : decode cX12_next 163 = .ok (.iload_n 1, 1) := by decide +kernel
theorem dX12_next_164 : decode cX12_next 164 = .ok (.invokestatic 100, 3) := by decide +kernel
theorem dX12_next_167 : decode cX12_next 167 = .ok (.ifCond .ne 10, 3) := by decide +kernel
theorem dX12_next_170 : decode cX12_next 170 = .ok (.iload_n 1, 1) := by decide +kernel
theorem dX12_next_171 : decode cX12_next 171 = .ok (.invokestatic 104, 3) := by decide +kernel
theorem dX12_next_174 : decode cX12_next 174 = .ok (.ifCond .eq 144, 3) := by decide +kernel
theorem dX12_next_177 : decode cX12_next 177 = .ok (.aload_n 0, 1) := by decide +kernel
theorem dX12_next_178 : decode cX12_next 178 = .ok (.dup, 1) := by decide +kernel
theorem dX12_next_179 : decode cX12_next 179 = .ok (.getfield 88, 3) := by decide +kernel
theorem dX12_next_182 : decode cX12_next 182 = .ok (.iconst 1, 1) := by decide +kernel
theorem dX12_next_183 : decode cX12_next 183 = .ok (.iadd, 1) := by decide +kernel
theorem dX12_next_184 : decode cX12_next 184 = .ok (.putfield 88, 3) := by decide +kernel
theorem dX12_next_187 : decode cX12_next 187 = .ok (.aload_n 0, 1) := by decide +kernel
theorem dX12_next_188 : decode cX12_next 188 = .ok (.iload_n 1, 1) := by decide +kernel
theorem dX12_next_189 : decode cX12_next 189 = .ok (.i2l, 1) := by decide +kernel
theorem dX12_next_190 : decode cX12_next 190 = .ok (.putfield 84, 3) := by decide +kernel
theorem dX12_next_193 : decode cX12_next 193 = .ok (.aload_n 0, 1) := by decide +kernel
theorem dX12_next_194 : decode cX12_next 194 = .ok (.getfield 88, 3) := by decide +kernel
theorem dX12_next_197 : decode cX12_next 197 = .ok (.aload_n 0, 1) := by decide +kernel
theorem dX12_next_198 : decode cX12_next 198 = .ok (.getfield 51, 3) := by decide +kernel
theorem dX12_next_201 : decode cX12_next 201 = .ok (.if_icmp .ge 68, 3) := by decide +kernel
theorem dX12_next_204 : decode cX12_next 204 = .ok (.aload_n 0, 1) := by decide +kernel
theorem dX12_next_205 : decode cX12_next 205 = .ok (.getfield 47, 3) := by decide +kernel
theorem dX12_next_208 : decode cX12_next 208 = .ok (.aload_n 0, 1) := by decide +kernel
theorem dX12_next_209 : decode cX12_next 209 = .ok (.getfield 88, 3) := by decide +kernel
theorem dX12_next_212 : decode cX12_next 212 = .ok (.caload, 1) := by decide +kernel
theorem dX12_next_213 : decode cX12_next 213 = .ok (.invokestatic 100, 3) := by decide +kernel
theorem dX12_next_216 : decode cX12_next 216 = .ok (.ifCond .ne 18, 3) := by decide +kernel
theorem dX12_next_219 : decode cX12_next 219 = .ok (.aload_n 0, 1) := by decide +kernel
theorem dX12_next_220 : decode cX12_next 220 = .ok (.getfield 47, 3) := by decide +kernel
theorem dX12_next_223 : decode cX12_next 223 = .ok (.aload_n 0, 1) := by decide +kernel
theorem dX12_next_224 : decode cX12_next 224 = .ok (.getfield 88, 3) := by decide +kernel
theorem dX12_next_227 : decode cX12_next 227 = .ok (.caload, 1) := by decide +kernel
theorem dX12_next_228 : decode cX12_next 228 = .ok (.invokestatic 107, 3) := by decide +kernel
theorem dX12_next_231 : decode cX12_next 231 = .ok (.ifCond .eq 38, 3) := by decide +kernel
theorem dX12_next_234 : decode cX12_next 234 = .ok (.aload_n 0, 1) := by decide +kernel
theorem dX12_next_235 : decode cX12_next 235 = .ok (.aload_n 0, 1) := by decide +kernel
theorem dX12_next_236 : decode cX12_next 236 = .ok (.getfield 84, 3) := by decide +kernel
theorem dX12_next_239 : decode cX12_next 239 = .ok (.bipush 8, 2) := by decide +kernel
theorem dX12_next_241 : decode cX12_next 241 = .ok (.lshl, 1) := by decide +kernel
theorem dX12_next_242 : decode cX12_next 242 = .ok (.aload_n 0, 1) := by decide +kernel
theorem dX12_next_243 : decode cX12_next 243 = .ok (.getfield 47, 3) := by decide +kernel
theorem dX12_next_246 : decode cX12_next 246 = .ok (.aload_n 0, 1) := by decide +kernel
theorem dX12_next_247 : decode cX12_next 247 = .ok (.getfield 88, 3) := by decide +kernel
theorem dX12_next_250 : decode cX12_next 250 = .ok (.caload, 1) := by decide +kernel
theorem dX12_next_251 : decode cX12_next 251 = .ok (.i2l, 1) := by decide +kernel
theorem dX12_next_252 : decode cX12_next 252 = .ok (.lor, 1) := by decide +kernel
theorem dX12_next_253 : decode cX12_next 253 = .ok (.putfield 84, 3) := by decide +kernel
theorem dX12_next_256 : decode cX12_next 256 = .ok (.aload_n 0, 1) := by decide +kernel
theorem dX12_next_257 : decode cX12_next 257 = .ok (.dup, 1) := by decide +kernel
theorem dX12_next_258 : decode cX12_next 258 = .ok (.getfield 88, 3) := by decide +kernel
theorem dX12_next_261 : decode cX12_next 261 = .ok (.iconst 1, 1) := by decide +kernel
theorem dX12_next_262 : decode cX12_next 262 = .ok (.iadd, 1) := by decide +kernel
theorem dX12_next_263 : decode cX12_next 263 = .ok (.putfield 88, 3) := by decide +kernel
theorem dX12_next_266 : decode cX12_next 266 = .ok (.goto (-73), 3) := by decide +kernel
theorem dX12_next_269 : decode cX12_next 269 = .ok (.aload_n 0, 1) := by decide +kernel
theorem dX12_next_270 : decode cX12_next 270 = .ok (.aload_n 0, 1) := by decide +kernel
theorem dX12_next_271 : decode cX12_next 271 = .ok (.getfield 88, 3) := by decide +kernel
theorem dX12_next_274 : decode cX12_next 274 = .ok (.aload_n 0, 1) := by decide +kernel
theorem dX12_next_275 : decode cX12_next 275 = .ok (.getfield 91, 3) := by decide +kernel
theorem dX12_next_278 : decode cX12_next 278 = .ok (.isub, 1) := by decide +kernel
theorem dX12_next_279 : decode cX12_next 279 = .ok (.bipush 8, 2) := by decide +kernel
theorem dX12_next_281 : decode cX12_next 281 = .ok (.if_icmp .le 8, 3) := by decide +kernel
theorem dX12_next_284 : decode cX12_next 284 = .ok (.bipush 6, 2) := by decide +kernel
theorem dX12_next_286 : decode cX12_next 286 = .ok (.goto 26, 3) := by decide +kernel
theorem dX12_next_289 : decode cX12_next 289 = .ok (.iload_n 1, 1) := by decide +kernel
theorem dX12_next_290 : decode cX12_next 290 = .ok (.invokestatic 104, 3) := by decide +kernel
theorem dX12_next_293 : decode cX12_next 293 = .ok (.ifCond .eq 7, 3) := by decide +kernel
theorem dX12_next_296 : decode cX12_next 296 = .ok (.iconst 2, 1) := by decide +kernel
theorem dX12_next_297 : decode cX12_next 297 = .ok (.goto 15, 3) := by decide +kernel
theorem dX12_next_300 : decode cX12_next 300 = .ok (.aload_n 0, 1) := by decide +kernel
theorem dX12_next_301 : decode cX12_next 301 = .ok (.invokevirtual 110, 3) := by decide +kernel
theorem dX12_next_304 : decode cX12_next 304 = .ok (.ifCond .eq 7, 3) := by decide +kernel
theorem dX12_next_307 : decode cX12_next 307 = .ok (.iconst 3, 1) := by decide +kernel
theorem dX12_next_308 : decode cX12_next 308 = .ok (.goto 4, 3) := by decide +kernel
theorem dX12_next_311 : decode cX12_next 311 = .ok (.iconst 1, 1) := by decide +kernel
theorem dX12_next_312 : decode cX12_next 312 = .ok (.putfield 97, 3) := by decide +kernel
theorem dX12_next_315 : decode cX12_next 315 = .ok (.goto 22, 3) := by decide +kernel
theorem dX12_next_318 : decode cX12_next 318 = .ok (.iload_n 1, 1) := by decide +kernel
theorem dX12_next_319 : decode cX12_next 319 = .ok (.invokestatic 107, 3) := by decide +kernel
theorem dX12_next_322 : decode cX12_next 322 = .ok (.ifCond .eq 10, 3) := by decide +kernel
theorem dX12_next_325 : decode cX12_next 325 = .ok (.aload_n 0, 1) := by decide +kernel
theorem dX12_next_326 : decode cX12_next 326 = .ok (.invokevirtual 114, 3) := by decide +kernel
theorem dX12_next_329 : decode cX12_next 329 = .ok (.goto 8, 3) := by decide +kernel
theorem dX12_next_332 : decode cX12_next 332 = .ok (.aload_n 0, 1) := by decide +kernel
theorem dX12_next_333 : decode cX12_next 333 = .ok (.iload_n 1, 1) := by decide +kernel
theorem dX12_next_334 : decode cX12_next 334 = .ok (.invokevirtual 117, 3) := by decide +kernel
theorem dX12_next_337 : decode cX12_next 337 = .ok (.return_, 1) := by decide +kernel
theorem mw_X12_next : MW yX12_next (Cond.code yX12_next cX12_next 2 (Option.none : Option Jvm.ClassFile.FieldType)) cX12_next 2 (Option.none : Option Jvm.ClassFile.FieldType) 0 := ⟨rfl, ⟨(lw_all_tbl q746), rfl, (lw_all_tbl q180)⟩, rfl, ⟨by decide, by decide⟩, by decide +kernel⟩
abbrev okc_X12_next_67 (x : Int) : Prop := True
abbrev lvc_X12_next_67 (Γ : Gm) (x : Int) : List (Nat × Value) := [(0, vA (mg Γ) x)]
noncomputable def c_X12_next_67b {A : Type} (k_0 : Int → Mo CH A) (l0 : Int) : Mo CH ((Int) ⊕ A) :=
  bnd (gf [112] 3 l0) fun v1 =>
  bnd (gf [112] 2 l0) fun v2 =>
  if v2 ≤ v1 then
    lo (k_0 l0)
  else
    bnd (gf [112] 1 l0) fun v3 =>
    bnd (gf [112] 3 l0) fun v4 =>
    bnd (ald 2 v3 v4) fun v5 =>
    if v5 = 10 then
      lo (k_0 l0)
    else
      bnd (gf [112] 3 l0) fun v6 =>
      bnd (pf [112] 3 l0 (w32 (v6 + 1))) fun _ =>
      pr (.inl l0)
theorem sc_X12_next_67b {Γ : Gm} {ts : TS} {d : Nat} (o : Ok Γ "LazyForge$Reader" cX12_next 2 (Option.none : Option Jvm.ClassFile.FieldType) (d + 5)) {A : Type} {K : A → CH → Prop} (k_0 : Int → Mo CH A) (hk_0 : ∀ (l0 : Int), Sx Γ (fun h => (h, ts)) K 0 [(0, vA (mg Γ) l0)] [] (k_0 l0)) (l0 : Int) : Sx Γ (fun h => (h, ts)) (KL Γ (fun h => (h, ts)) okc_X12_next_67 K 67 (lvc_X12_next_67 Γ) []) 67 [(0, vA (mg Γ) l0)] [] (c_X12_next_67b k_0 l0) := by
  unfold c_X12_next_67b
  refine s_aload_n o dX12_next_67 rfl 0 rfl ?_
  refine r_getf vI rfl o cf_X12_at (Or.inl (lw_all_tbl q656)) dX12_next_68 (fun v1 hv1 => ?_)
  refine s_aload_n o dX12_next_71 rfl 0 rfl ?_
  refine r_getf vI rfl o cf_X12_size (Or.inl (lw_all_tbl q655)) dX12_next_72 (fun v2 hv2 => ?_)
  refine s_icmp_ge (tgt := 0) o dX12_next_75 (by decide) hv1 hv2 ?_ ?_
  · exact s_lo (hk_0 l0)
  · refine s_aload_n o dX12_next_78 rfl 0 rfl ?_
    refine r_getf (vA (mg Γ)) rfl o cf_X12_text (Or.inl (lw_all_tbl q654)) dX12_next_79 (fun v3 hv3 => ?_)
    refine s_aload_n o dX12_next_82 rfl 0 rfl ?_
    refine r_getf vI rfl o cf_X12_at (Or.inl (lw_all_tbl q656)) dX12_next_83 (fun v4 hv4 => ?_)
    refine r_cald o hv4 dX12_next_86 (fun v5 hv5 => ?_)
    refine s_bipush o dX12_next_87 rfl ?_
    refine s_icmp_eq (tgt := 0) o dX12_next_89 (by decide) (rC hv5) (r32 rfl) ?_ ?_
    · exact s_lo (hk_0 l0)
    · refine s_aload_n o dX12_next_92 rfl 0 rfl ?_
      refine s_dup o dX12_next_93 (vA_cat (mg Γ) l0) ?_
      refine r_getf vI rfl o cf_X12_at (Or.inl (lw_all_tbl q656)) dX12_next_94 (fun v6 hv6 => ?_)
      refine s_iconst o dX12_next_97 ?_
      refine s_iadd o dX12_next_98 ?_
      refine r_putf vI rfl o cf_X12_at (Or.inl (lw_all_tbl q656)) dX12_next_99 (Or.inl rfl) (w32_R _) ty_int ?_
      refine s_goto (tgt := 67) o dX12_next_102 (by decide) ?_
      exact s_back trivial rfl
noncomputable def c_X12_next_67 {A : Type} (k_0 : Int → Mo CH A) (l0 : Int) : Mo CH A := Loop (fun x => c_X12_next_67b k_0 x) l0
theorem sc_X12_next_67 {Γ : Gm} {ts : TS} {d : Nat} (o : Ok Γ "LazyForge$Reader" cX12_next 2 (Option.none : Option Jvm.ClassFile.FieldType) (d + 5)) {A : Type} {K : A → CH → Prop} (k_0 : Int → Mo CH A) (hk_0 : ∀ (l0 : Int), Sx Γ (fun h => (h, ts)) K 0 [(0, vA (mg Γ) l0)] [] (k_0 l0)) (l0 : Int) : Sx Γ (fun h => (h, ts)) K 67 [(0, vA (mg Γ) l0)] [] (c_X12_next_67 k_0 l0) :=
  s_loop okc_X12_next_67 (lvc_X12_next_67 Γ) (fun x hx => sc_X12_next_67b o k_0 hk_0 x) (x := l0) trivial
abbrev okc_X12_next_193 (x : Int × Int) : Prop := rg .char x.2
abbrev lvc_X12_next_193 (Γ : Gm) (x : Int × Int) : List (Nat × Value) := [(0, vA (mg Γ) x.1), (1, vI x.2)]
noncomputable def c_X12_next_234 {A : Type} (k_269 : Int → Int → Mo CH A) (l0 : Int) (l1 : Int) : Mo CH ((Int × Int) ⊕ A) :=
  bnd (gf [112] 8 l0) fun v1 =>
  bnd (gf [112] 1 l0) fun v2 =>
  bnd (gf [112] 3 l0) fun v3 =>
  bnd (ald 2 v2 v3) fun v4 =>
  bnd (pf [112] 8 l0 (lor (lshl v1 8) v4)) fun _ =>
  bnd (gf [112] 3 l0) fun v5 =>
  bnd (pf [112] 3 l0 (w32 (v5 + 1))) fun _ =>
  pr (.inl (l0, l1))
theorem sc_X12_next_234 {Γ : Gm} {ts : TS} {d : Nat} (o : Ok Γ "LazyForge$Reader" cX12_next 2 (Option.none : Option Jvm.ClassFile.FieldType) (d + 5)) {A : Type} {K : A → CH → Prop}  (k_269 : Int → Int → Mo CH A) (hk_269 : ∀ (l0 : Int) (l1 : Int), rg .char l1 → Sx Γ (fun h => (h, ts)) K 269 [(0, vA (mg Γ) l0), (1, vI l1)] [] (k_269 l0 l1)) (l0 : Int) (l1 : Int) (hl1 : rg .char l1) : Sx Γ (fun h => (h, ts)) (KL Γ (fun h => (h, ts)) okc_X12_next_193 K 193 (lvc_X12_next_193 Γ) []) 234 [(0, vA (mg Γ) l0), (1, vI l1)] [] (c_X12_next_234 k_269 l0 l1) := by
  unfold c_X12_next_234
  refine s_aload_n o dX12_next_234 rfl 0 rfl ?_
  refine s_aload_n o dX12_next_235 rfl 0 rfl ?_
  refine r_getf vJ rfl o cf_X12_word (Or.inl (lw_all_tbl q661)) dX12_next_236 (fun v1 hv1 => ?_)
  refine s_bipush o dX12_next_239 rfl ?_
  refine s_lshl o dX12_next_241 ?_
  refine s_aload_n o dX12_next_242 rfl 0 rfl ?_
  refine r_getf (vA (mg Γ)) rfl o cf_X12_text (Or.inl (lw_all_tbl q654)) dX12_next_243 (fun v2 hv2 => ?_)
  refine s_aload_n o dX12_next_246 rfl 0 rfl ?_
  refine r_getf vI rfl o cf_X12_at (Or.inl (lw_all_tbl q656)) dX12_next_247 (fun v3 hv3 => ?_)
  refine r_cald o hv3 dX12_next_250 (fun v4 hv4 => ?_)
  refine s_i2l o dX12_next_251 (rC hv4) ?_
  refine s_lor o dX12_next_252 ?_
  refine r_putf vJ rfl o cf_X12_word (Or.inl (lw_all_tbl q661)) dX12_next_253 (Or.inl rfl) (lor_R _ _) ty_long ?_
  refine s_aload_n o dX12_next_256 rfl 0 rfl ?_
  refine s_dup o dX12_next_257 (vA_cat (mg Γ) l0) ?_
  refine r_getf vI rfl o cf_X12_at (Or.inl (lw_all_tbl q656)) dX12_next_258 (fun v5 hv5 => ?_)
  refine s_iconst o dX12_next_261 ?_
  refine s_iadd o dX12_next_262 ?_
  refine r_putf vI rfl o cf_X12_at (Or.inl (lw_all_tbl q656)) dX12_next_263 (Or.inl rfl) (w32_R _) ty_int ?_
  refine s_goto (tgt := 193) o dX12_next_266 (by decide) ?_
  exact s_back hl1 rfl
noncomputable def c_X12_next_193b {A : Type} (k_269 : Int → Int → Mo CH A) (l0 : Int) (l1 : Int) : Mo CH ((Int × Int) ⊕ A) :=
  bnd (gf [112] 3 l0) fun v1 =>
  bnd (gf [112] 2 l0) fun v2 =>
  if v2 ≤ v1 then
    lo (k_269 l0 l1)
  else
    bnd (gf [112] 1 l0) fun v3 =>
    bnd (gf [112] 3 l0) fun v4 =>
    bnd (ald 2 v3 v4) fun v5 =>
    bnd (c_X12_isSmall v5) fun v6 =>
    if ¬ v6 = 0 then
      c_X12_next_234 k_269 l0 l1
    else
      bnd (gf [112] 1 l0) fun v7 =>
      bnd (gf [112] 3 l0) fun v8 =>
      bnd (ald 2 v7 v8) fun v9 =>
      bnd (c_X12_isDigit v9) fun v10 =>
      if v10 = 0 then
        lo (k_269 l0 l1)
      else
        c_X12_next_234 k_269 l0 l1
theorem sc_X12_next_193b {Γ : Gm} {ts : TS} {d : Nat} (o : Ok Γ "LazyForge$Reader" cX12_next 2 (Option.none : Option Jvm.ClassFile.FieldType) (d + 5)) {A : Type} {K : A → CH → Prop} (k_269 : Int → Int → Mo CH A) (hk_269 : ∀ (l0 : Int) (l1 : Int), rg .char l1 → Sx Γ (fun h => (h, ts)) K 269 [(0, vA (mg Γ) l0), (1, vI l1)] [] (k_269 l0 l1)) (l0 : Int) (l1 : Int) (hl1 : rg .char l1) : Sx Γ (fun h => (h, ts)) (KL Γ (fun h => (h, ts)) okc_X12_next_193 K 193 (lvc_X12_next_193 Γ) []) 193 [(0, vA (mg Γ) l0), (1, vI l1)] [] (c_X12_next_193b k_269 l0 l1) := by
  unfold c_X12_next_193b
  refine s_aload_n o dX12_next_193 rfl 0 rfl ?_
  refine r_getf vI rfl o cf_X12_at (Or.inl (lw_all_tbl q656)) dX12_next_194 (fun v1 hv1 => ?_)
  refine s_aload_n o dX12_next_197 rfl 0 rfl ?_
  refine r_getf vI rfl o cf_X12_size (Or.inl (lw_all_tbl q655)) dX12_next_198 (fun v2 hv2 => ?_)
  refine s_icmp_ge (tgt := 269) o dX12_next_201 (by decide) hv1 hv2 ?_ ?_
  · exact s_lo (hk_269 l0 l1 hl1)
  · refine s_aload_n o dX12_next_204 rfl 0 rfl ?_
    refine r_getf (vA (mg Γ)) rfl o cf_X12_text (Or.inl (lw_all_tbl q654)) dX12_next_205 (fun v3 hv3 => ?_)
    refine s_aload_n o dX12_next_208 rfl 0 rfl ?_
    refine r_getf vI rfl o cf_X12_at (Or.inl (lw_all_tbl q656)) dX12_next_209 (fun v4 hv4 => ?_)
    refine r_cald o hv4 dX12_next_212 (fun v5 hv5 => ?_)
    refine s_cs (d := d + 4) (As := [vI v5]) (st := []) o (sc_X12_isSmall (mg Γ) (d + 4) ts v5 hv5) mw_X12_isSmall rfl (Or.inl (lw_all_tbl q747)) (lw_all_tbl q748) wt_0 rfl dX12_next_213 rfl (rs := fun r => [vI r]) (fun _ => rfl) (fun v6 hv6 => ?_)
    refine s_if_ne (tgt := 234) o dX12_next_216 (by decide) (rZ (hv6 _ rfl)) ?_ ?_
    · exact sc_X12_next_234 o k_269 hk_269 l0 l1 hl1
    · refine s_aload_n o dX12_next_219 rfl 0 rfl ?_
      refine r_getf (vA (mg Γ)) rfl o cf_X12_text (Or.inl (lw_all_tbl q654)) dX12_next_220 (fun v7 hv7 => ?_)
      refine s_aload_n o dX12_next_223 rfl 0 rfl ?_
      refine r_getf vI rfl o cf_X12_at (Or.inl (lw_all_tbl q656)) dX12_next_224 (fun v8 hv8 => ?_)
      refine r_cald o hv8 dX12_next_227 (fun v9 hv9 => ?_)
      refine s_cs (d := d + 4) (As := [vI v9]) (st := []) o (sc_X12_isDigit (mg Γ) (d + 4) ts v9 hv9) mw_X12_isDigit rfl (Or.inl (lw_all_tbl q753)) (lw_all_tbl q754) wt_0 rfl dX12_next_228 rfl (rs := fun r => [vI r]) (fun _ => rfl) (fun v10 hv10 => ?_)
      refine s_if_eq (tgt := 269) o dX12_next_231 (by decide) (rZ (hv10 _ rfl)) ?_ ?_
      · exact s_lo (hk_269 l0 l1 hl1)
      · exact sc_X12_next_234 o k_269 hk_269 l0 l1 hl1
noncomputable def c_X12_next_193 {A : Type} (k_269 : Int → Int → Mo CH A) (l0 : Int) (l1 : Int) : Mo CH A := Loop (fun x => c_X12_next_193b k_269 x.1 x.2) (l0, l1)
theorem sc_X12_next_193 {Γ : Gm} {ts : TS} {d : Nat} (o : Ok Γ "LazyForge$Reader" cX12_next 2 (Option.none : Option Jvm.ClassFile.FieldType) (d + 5)) {A : Type} {K : A → CH → Prop} (k_269 : Int → Int → Mo CH A) (hk_269 : ∀ (l0 : Int) (l1 : Int), rg .char l1 → Sx Γ (fun h => (h, ts)) K 269 [(0, vA (mg Γ) l0), (1, vI l1)] [] (k_269 l0 l1)) (l0 : Int) (l1 : Int) (hl1 : rg .char l1) : Sx Γ (fun h => (h, ts)) K 193 [(0, vA (mg Γ) l0), (1, vI l1)] [] (c_X12_next_193 k_269 l0 l1) :=
  s_loop okc_X12_next_193 (lvc_X12_next_193 Γ) (fun x hx => sc_X12_next_193b o k_269 hk_269 x.1 x.2 hx) (x := (l0, l1)) hl1
abbrev okc_X12_next_0 (x : Int) : Prop := True
abbrev lvc_X12_next_0 (Γ : Gm) (x : Int) : List (Nat × Value) := [(0, vA (mg Γ) x)]
noncomputable def c_X12_next_53 {A : Type} (k_118 : Int → Mo CH A) (l0 : Int) : Mo CH ((Int) ⊕ A) :=
  bnd (gf [112] 1 l0) fun v1 =>
  bnd (gf [112] 3 l0) fun v2 =>
  bnd (ald 2 v1 v2) fun v3 =>
  if ¬ v3 = 35 then
    bnd (gf [112] 3 l0) fun v4 =>
    bnd (pf [112] 3 l0 (w32 (v4 + 1))) fun _ =>
    pr (.inl l0)
  else
    c_X12_next_67
      (fun v5 => pr (.inl v5)) l0
theorem sc_X12_next_53 {Γ : Gm} {ts : TS} {d : Nat} (o : Ok Γ "LazyForge$Reader" cX12_next 2 (Option.none : Option Jvm.ClassFile.FieldType) (d + 5)) {A : Type} {K : A → CH → Prop}  (k_118 : Int → Mo CH A) (hk_118 : ∀ (l0 : Int), Sx Γ (fun h => (h, ts)) K 118 [(0, vA (mg Γ) l0)] [] (k_118 l0)) (l0 : Int) : Sx Γ (fun h => (h, ts)) (KL Γ (fun h => (h, ts)) okc_X12_next_0 K 0 (lvc_X12_next_0 Γ) []) 53 [(0, vA (mg Γ) l0)] [] (c_X12_next_53 k_118 l0) := by
  unfold c_X12_next_53
  refine s_aload_n o dX12_next_53 rfl 0 rfl ?_
  refine r_getf (vA (mg Γ)) rfl o cf_X12_text (Or.inl (lw_all_tbl q654)) dX12_next_54 (fun v1 hv1 => ?_)
  refine s_aload_n o dX12_next_57 rfl 0 rfl ?_
  refine r_getf vI rfl o cf_X12_at (Or.inl (lw_all_tbl q656)) dX12_next_58 (fun v2 hv2 => ?_)
  refine r_cald o hv2 dX12_next_61 (fun v3 hv3 => ?_)
  refine s_bipush o dX12_next_62 rfl ?_
  refine s_icmp_ne (tgt := 105) o dX12_next_64 (by decide) (rC hv3) (r32 rfl) ?_ ?_
  · refine s_aload_n o dX12_next_105 rfl 0 rfl ?_
    refine s_dup o dX12_next_106 (vA_cat (mg Γ) l0) ?_
    refine r_getf vI rfl o cf_X12_at (Or.inl (lw_all_tbl q656)) dX12_next_107 (fun v4 hv4 => ?_)
    refine s_iconst o dX12_next_110 ?_
    refine s_iadd o dX12_next_111 ?_
    refine r_putf vI rfl o cf_X12_at (Or.inl (lw_all_tbl q656)) dX12_next_112 (Or.inl rfl) (w32_R _) ty_int ?_
    refine s_goto (tgt := 0) o dX12_next_115 (by decide) ?_
    exact s_back trivial rfl
  · refine sc_X12_next_67 o _ ?_ l0
    · intro v5
      exact s_back trivial rfl
noncomputable def c_X12_next_0b {A : Type} (k_118 : Int → Mo CH A) (l0 : Int) : Mo CH ((Int) ⊕ A) :=
  bnd (gf [112] 3 l0) fun v1 =>
  bnd (gf [112] 2 l0) fun v2 =>
  if v2 ≤ v1 then
    lo (k_118 l0)
  else
    bnd (gf [112] 1 l0) fun v3 =>
    bnd (gf [112] 3 l0) fun v4 =>
    bnd (ald 2 v3 v4) fun v5 =>
    if v5 = 32 then
      c_X12_next_53 k_118 l0
    else
      bnd (gf [112] 1 l0) fun v6 =>
      bnd (gf [112] 3 l0) fun v7 =>
      bnd (ald 2 v6 v7) fun v8 =>
      if v8 = 10 then
        c_X12_next_53 k_118 l0
      else
        bnd (gf [112] 1 l0) fun v9 =>
        bnd (gf [112] 3 l0) fun v10 =>
        bnd (ald 2 v9 v10) fun v11 =>
        if ¬ v11 = 35 then
          lo (k_118 l0)
        else
          c_X12_next_53 k_118 l0
theorem sc_X12_next_0b {Γ : Gm} {ts : TS} {d : Nat} (o : Ok Γ "LazyForge$Reader" cX12_next 2 (Option.none : Option Jvm.ClassFile.FieldType) (d + 5)) {A : Type} {K : A → CH → Prop} (k_118 : Int → Mo CH A) (hk_118 : ∀ (l0 : Int), Sx Γ (fun h => (h, ts)) K 118 [(0, vA (mg Γ) l0)] [] (k_118 l0)) (l0 : Int) : Sx Γ (fun h => (h, ts)) (KL Γ (fun h => (h, ts)) okc_X12_next_0 K 0 (lvc_X12_next_0 Γ) []) 0 [(0, vA (mg Γ) l0)] [] (c_X12_next_0b k_118 l0) := by
  unfold c_X12_next_0b
  refine s_aload_n o dX12_next_0 rfl 0 rfl ?_
  refine r_getf vI rfl o cf_X12_at (Or.inl (lw_all_tbl q656)) dX12_next_1 (fun v1 hv1 => ?_)
  refine s_aload_n o dX12_next_4 rfl 0 rfl ?_
  refine r_getf vI rfl o cf_X12_size (Or.inl (lw_all_tbl q655)) dX12_next_5 (fun v2 hv2 => ?_)
  refine s_icmp_ge (tgt := 118) o dX12_next_8 (by decide) hv1 hv2 ?_ ?_
  · exact s_lo (hk_118 l0)
  · refine s_aload_n o dX12_next_11 rfl 0 rfl ?_
    refine r_getf (vA (mg Γ)) rfl o cf_X12_text (Or.inl (lw_all_tbl q654)) dX12_next_12 (fun v3 hv3 => ?_)
    refine s_aload_n o dX12_next_15 rfl 0 rfl ?_
    refine r_getf vI rfl o cf_X12_at (Or.inl (lw_all_tbl q656)) dX12_next_16 (fun v4 hv4 => ?_)
    refine r_cald o hv4 dX12_next_19 (fun v5 hv5 => ?_)
    refine s_bipush o dX12_next_20 rfl ?_
    refine s_icmp_eq (tgt := 53) o dX12_next_22 (by decide) (rC hv5) (r32 rfl) ?_ ?_
    · exact sc_X12_next_53 o k_118 hk_118 l0
    · refine s_aload_n o dX12_next_25 rfl 0 rfl ?_
      refine r_getf (vA (mg Γ)) rfl o cf_X12_text (Or.inl (lw_all_tbl q654)) dX12_next_26 (fun v6 hv6 => ?_)
      refine s_aload_n o dX12_next_29 rfl 0 rfl ?_
      refine r_getf vI rfl o cf_X12_at (Or.inl (lw_all_tbl q656)) dX12_next_30 (fun v7 hv7 => ?_)
      refine r_cald o hv7 dX12_next_33 (fun v8 hv8 => ?_)
      refine s_bipush o dX12_next_34 rfl ?_
      refine s_icmp_eq (tgt := 53) o dX12_next_36 (by decide) (rC hv8) (r32 rfl) ?_ ?_
      · exact sc_X12_next_53 o k_118 hk_118 l0
      · refine s_aload_n o dX12_next_39 rfl 0 rfl ?_
        refine r_getf (vA (mg Γ)) rfl o cf_X12_text (Or.inl (lw_all_tbl q654)) dX12_next_40 (fun v9 hv9 => ?_)
        refine s_aload_n o dX12_next_43 rfl 0 rfl ?_
        refine r_getf vI rfl o cf_X12_at (Or.inl (lw_all_tbl q656)) dX12_next_44 (fun v10 hv10 => ?_)
        refine r_cald o hv10 dX12_next_47 (fun v11 hv11 => ?_)
        refine s_bipush o dX12_next_48 rfl ?_
        refine s_icmp_ne (tgt := 118) o dX12_next_50 (by decide) (rC hv11) (r32 rfl) ?_ ?_
        · exact s_lo (hk_118 l0)
        · exact sc_X12_next_53 o k_118 hk_118 l0
noncomputable def c_X12_next_0 {A : Type} (k_118 : Int → Mo CH A) (l0 : Int) : Mo CH A := Loop (fun x => c_X12_next_0b k_118 x) l0
theorem sc_X12_next_0 {Γ : Gm} {ts : TS} {d : Nat} (o : Ok Γ "LazyForge$Reader" cX12_next 2 (Option.none : Option Jvm.ClassFile.FieldType) (d + 5)) {A : Type} {K : A → CH → Prop} (k_118 : Int → Mo CH A) (hk_118 : ∀ (l0 : Int), Sx Γ (fun h => (h, ts)) K 118 [(0, vA (mg Γ) l0)] [] (k_118 l0)) (l0 : Int) : Sx Γ (fun h => (h, ts)) K 0 [(0, vA (mg Γ) l0)] [] (c_X12_next_0 k_118 l0) :=
  s_loop okc_X12_next_0 (lvc_X12_next_0 Γ) (fun x hx => sc_X12_next_0b o k_118 hk_118 x) (x := l0) trivial
noncomputable def c_X12_next_312  (k0 : Int) (k1 : Int) : Mo CH Int :=
  bnd (pf [112] 4 k1 k0) fun _ =>
  pr 0
theorem sc_X12_next_312 {Γ : Gm} {ts : TS} {d : Nat} (o : Ok Γ "LazyForge$Reader" cX12_next 2 (Option.none : Option Jvm.ClassFile.FieldType) (d + 5))   (k0 : Int) (k1 : Int) (hk0 : R32 k0) : Sx Γ (fun h => (h, ts)) (fun a s => mt Γ = (0, a, ((s, ts) : Wd))) 312 [] [vI k0, vA (mg Γ) k1] (c_X12_next_312 k0 k1) := by
  unfold c_X12_next_312
  refine r_putf vI rfl o cf_X12_sort (Or.inl (lw_all_tbl q657)) dX12_next_312 (Or.inl rfl) hk0 ty_int ?_
  refine s_goto (tgt := 337) o dX12_next_315 (by decide) ?_
  exact s_vret o rfl dX12_next_337 (fun _ hh => hh)
noncomputable def c_X12_next_177  (l0 : Int) (l1 : Int) : Mo CH Int :=
  bnd (gf [112] 3 l0) fun v1 =>
  bnd (pf [112] 3 l0 (w32 (v1 + 1))) fun _ =>
  bnd (pf [112] 8 l0 l1) fun _ =>
  c_X12_next_193
    (fun v2 v3 => bnd (gf [112] 3 v2) fun v4 =>
  bnd (gf [112] 5 v2) fun v5 =>
  if (w32 (v4 - v5)) ≤ 8 then
    bnd (c_X12_isBig v3) fun v6 =>
    if v6 = 0 then
      bnd (isk 112 v2) fun _ =>
      bnd (c_X12_isKey v2) fun v7 =>
      if v7 = 0 then
        c_X12_next_312 1 v2
      else
        c_X12_next_312 3 v2
    else
      c_X12_next_312 2 v2
  else
    c_X12_next_312 6 v2) l0 l1
theorem sc_X12_next_177 {Γ : Gm} {ts : TS} {d : Nat} (o : Ok Γ "LazyForge$Reader" cX12_next 2 (Option.none : Option Jvm.ClassFile.FieldType) (d + 5))   (l0 : Int) (l1 : Int) (hl1 : rg .char l1) : Sx Γ (fun h => (h, ts)) (fun a s => mt Γ = (0, a, ((s, ts) : Wd))) 177 [(0, vA (mg Γ) l0), (1, vI l1)] [] (c_X12_next_177 l0 l1) := by
  unfold c_X12_next_177
  refine s_aload_n o dX12_next_177 rfl 0 rfl ?_
  refine s_dup o dX12_next_178 (vA_cat (mg Γ) l0) ?_
  refine r_getf vI rfl o cf_X12_at (Or.inl (lw_all_tbl q656)) dX12_next_179 (fun v1 hv1 => ?_)
  refine s_iconst o dX12_next_182 ?_
  refine s_iadd o dX12_next_183 ?_
  refine r_putf vI rfl o cf_X12_at (Or.inl (lw_all_tbl q656)) dX12_next_184 (Or.inl rfl) (w32_R _) ty_int ?_
  refine s_aload_n o dX12_next_187 rfl 0 rfl ?_
  refine s_iload_n o dX12_next_188 rfl 1 rfl ?_
  refine s_i2l o dX12_next_189 (rC hl1) ?_
  refine r_putf vJ rfl o cf_X12_word (Or.inl (lw_all_tbl q661)) dX12_next_190 (Or.inl rfl) (rL (rC hl1)) ty_long ?_
  refine sc_X12_next_193 o _ ?_ l0 l1 hl1
  · intro v2 v3 hv3
    refine s_aload_n o dX12_next_269 rfl 0 rfl ?_
    refine s_aload_n o dX12_next_270 rfl 0 rfl ?_
    refine r_getf vI rfl o cf_X12_at (Or.inl (lw_all_tbl q656)) dX12_next_271 (fun v4 hv4 => ?_)
    refine s_aload_n o dX12_next_274 rfl 0 rfl ?_
    refine r_getf vI rfl o cf_X12_place (Or.inl (lw_all_tbl q658)) dX12_next_275 (fun v5 hv5 => ?_)
    refine s_isub o dX12_next_278 ?_
    refine s_bipush o dX12_next_279 rfl ?_
    refine s_icmp_le (tgt := 289) o dX12_next_281 (by decide) (w32_R _) (r32 rfl) ?_ ?_
    · refine s_iload_n o dX12_next_289 rfl 1 rfl ?_
      refine s_cs (d := d + 4) (As := [vI v3]) (st := [vA (mg Γ) v2]) o (sc_X12_isBig (mg Γ) (d + 4) ts v3 hv3) mw_X12_isBig rfl (Or.inl (lw_all_tbl q750)) (lw_all_tbl q751) (wt_A wt_0) rfl dX12_next_290 rfl (rs := fun r => [vI r, vA (mg Γ) v2]) (fun _ => rfl) (fun v6 hv6 => ?_)
      refine s_if_eq (tgt := 300) o dX12_next_293 (by decide) (rZ (hv6 _ rfl)) ?_ ?_
      · refine s_aload_n o dX12_next_300 rfl 0 rfl ?_
        refine s_cvC (d := d + 4) (As := []) (st := [vA (mg Γ) v2]) (c := 12) o (sc_X12_isKey (mg Γ) d ts v2) mw_X12_isKey rfl (Or.inl (lw_all_tbl q756)) rfl (lw_all_tbl qs3) (lw_all_tbl q758) (wt_A wt_0) rfl dX12_next_301 rfl (rs := fun r => [vI r, vA (mg Γ) v2]) (fun _ => rfl) (fun v7 hv7 => ?_)
        refine s_if_eq (tgt := 311) o dX12_next_304 (by decide) (rZ (hv7 _ rfl)) ?_ ?_
        · refine s_iconst o dX12_next_311 ?_
          refine r_to [] [] rfl ?_
          exact sc_X12_next_312 o 1 v2 (r32 rfl)
        · refine s_iconst o dX12_next_307 ?_
          refine s_goto (tgt := 312) o dX12_next_308 (by decide) ?_
          refine r_to [] [] rfl ?_
          exact sc_X12_next_312 o 3 v2 (r32 rfl)
      · refine s_iconst o dX12_next_296 ?_
        refine s_goto (tgt := 312) o dX12_next_297 (by decide) ?_
        refine r_to [] [] rfl ?_
        exact sc_X12_next_312 o 2 v2 (r32 rfl)
    · refine s_bipush o dX12_next_284 rfl ?_
      refine s_goto (tgt := 312) o dX12_next_286 (by decide) ?_
      refine r_to [] [] rfl ?_
      exact sc_X12_next_312 o 6 v2 (r32 rfl)
noncomputable def c_X12_next (l0 : Int) : Mo CH Int :=
  c_X12_next_0
    (fun v1 => bnd (gf [112] 3 v1) fun v2 =>
  bnd (pf [112] 5 v1 v2) fun _ =>
  bnd (pf [112] 8 v1 0) fun _ =>
  bnd (pf [112] 7 v1 0) fun _ =>
  bnd (gf [112] 3 v1) fun v3 =>
  bnd (gf [112] 2 v1) fun v4 =>
  if ¬ v3 = v4 then
    bnd (gf [112] 1 v1) fun v5 =>
    bnd (gf [112] 3 v1) fun v6 =>
    bnd (ald 2 v5 v6) fun v7 =>
    bnd (c_X12_isSmall v7) fun v8 =>
    if ¬ v8 = 0 then
      c_X12_next_177 v1 v7
    else
      bnd (c_X12_isBig v7) fun v9 =>
      if v9 = 0 then
        bnd (c_X12_isDigit v7) fun v10 =>
        if v10 = 0 then
          bnd (isk 112 v1) fun _ =>
          bnd (c_X12_sign v1 v7) fun _ =>
          pr 0
        else
          bnd (isk 112 v1) fun _ =>
          bnd (c_X12_digits v1) fun _ =>
          pr 0
      else
        c_X12_next_177 v1 v7
  else
    bnd (pf [112] 4 v1 0) fun _ =>
    pr 0) l0
theorem sc_X12_next (g : gC) (d : Nat) (ts : TS) (l0 : Int) : SF g yX12_next (Cond.code yX12_next cX12_next 2 (Option.none : Option Jvm.ClassFile.FieldType)) (Option.none : Option Jvm.ClassFile.FieldType) (d + 5) [vA g l0] (fun h => (h, ts)) (c_X12_next l0) := by
  refine SF.of (lv := [(0, vA g l0)]) (by decide) (wt_A wt_0) rfl (by simp only [la_A, la_I, la_J, la_0]) (fun Γ hg hnm o => ?_)
  subst hg
  have o : Ok Γ "LazyForge$Reader" cX12_next 2 (Option.none : Option Jvm.ClassFile.FieldType) (d + 5) := o
  unfold c_X12_next
  refine sc_X12_next_0 o _ ?_ l0
  · intro v1
    refine s_aload_n o dX12_next_118 rfl 0 rfl ?_
    refine s_aload_n o dX12_next_119 rfl 0 rfl ?_
    refine r_getf vI rfl o cf_X12_at (Or.inl (lw_all_tbl q656)) dX12_next_120 (fun v2 hv2 => ?_)
    refine r_putf vI rfl o cf_X12_place (Or.inl (lw_all_tbl q658)) dX12_next_123 (Or.inl rfl) hv2 ty_int ?_
    refine s_aload_n o dX12_next_126 rfl 0 rfl ?_
    refine s_lconst (x := 0) o dX12_next_127 rfl ?_
    refine r_putf vJ rfl o cf_X12_word (Or.inl (lw_all_tbl q661)) dX12_next_128 (Or.inl rfl) (r64 rfl) ty_long ?_
    refine s_aload_n o dX12_next_131 rfl 0 rfl ?_
    refine s_iconst o dX12_next_132 ?_
    refine r_putf vI rfl o cf_X12_mark (Or.inl (lw_all_tbl q660)) dX12_next_133 (Or.inl rfl) (r32 rfl) ty_int ?_
    refine s_aload_n o dX12_next_136 rfl 0 rfl ?_
    refine r_getf vI rfl o cf_X12_at (Or.inl (lw_all_tbl q656)) dX12_next_137 (fun v3 hv3 => ?_)
    refine s_aload_n o dX12_next_140 rfl 0 rfl ?_
    refine r_getf vI rfl o cf_X12_size (Or.inl (lw_all_tbl q655)) dX12_next_141 (fun v4 hv4 => ?_)
    refine s_icmp_ne (tgt := 153) o dX12_next_144 (by decide) hv3 hv4 ?_ ?_
    · refine s_aload_n o dX12_next_153 rfl 0 rfl ?_
      refine r_getf (vA (mg Γ)) rfl o cf_X12_text (Or.inl (lw_all_tbl q654)) dX12_next_154 (fun v5 hv5 => ?_)
      refine s_aload_n o dX12_next_157 rfl 0 rfl ?_
      refine r_getf vI rfl o cf_X12_at (Or.inl (lw_all_tbl q656)) dX12_next_158 (fun v6 hv6 => ?_)
      refine r_cald o hv6 dX12_next_161 (fun v7 hv7 => ?_)
      refine r_istore_n o dX12_next_162 rfl rfl ⟨(Nat.ne_of_beq_eq_false rfl), (fun _ => (vA_cat (mg Γ) v1)), trivial⟩ ?_
      refine s_iload_n o dX12_next_163 rfl 0 rfl ?_
      refine s_cs (d := d + 4) (As := [vI v7]) (st := []) o (sc_X12_isSmall (mg Γ) (d + 4) ts v7 hv7) mw_X12_isSmall rfl (Or.inl (lw_all_tbl q747)) (lw_all_tbl q748) wt_0 rfl dX12_next_164 rfl (rs := fun r => [vI r]) (fun _ => rfl) (fun v8 hv8 => ?_)
      refine s_if_ne (tgt := 177) o dX12_next_167 (by decide) (rZ (hv8 _ rfl)) ?_ ?_
      · refine r_to [(0, vA (mg Γ) v1), (1, vI v7)] [1, 0] rfl ?_
        exact sc_X12_next_177 o v1 v7 hv7
      · refine s_iload_n o dX12_next_170 rfl 0 rfl ?_
        refine s_cs (d := d + 4) (As := [vI v7]) (st := []) o (sc_X12_isBig (mg Γ) (d + 4) ts v7 hv7) mw_X12_isBig rfl (Or.inl (lw_all_tbl q750)) (lw_all_tbl q751) wt_0 rfl dX12_next_171 rfl (rs := fun r => [vI r]) (fun _ => rfl) (fun v9 hv9 => ?_)
        refine s_if_eq (tgt := 318) o dX12_next_174 (by decide) (rZ (hv9 _ rfl)) ?_ ?_
        · refine s_iload_n o dX12_next_318 rfl 0 rfl ?_
          refine s_cs (d := d + 4) (As := [vI v7]) (st := []) o (sc_X12_isDigit (mg Γ) (d + 4) ts v7 hv7) mw_X12_isDigit rfl (Or.inl (lw_all_tbl q753)) (lw_all_tbl q754) wt_0 rfl dX12_next_319 rfl (rs := fun r => [vI r]) (fun _ => rfl) (fun v10 hv10 => ?_)
          refine s_if_eq (tgt := 332) o dX12_next_322 (by decide) (rZ (hv10 _ rfl)) ?_ ?_
          · refine s_aload_n o dX12_next_332 rfl 1 rfl ?_
            refine s_iload_n o dX12_next_333 rfl 0 rfl ?_
            refine s_cvC (d := d + 4) (As := [vI v7]) (st := []) (c := 12) o (sc_X12_sign (mg Γ) d ts v1 v7 hv7) mw_X12_sign rfl (Or.inl (lw_all_tbl q769)) rfl (lw_all_tbl qs5) (lw_all_tbl q771) wt_0 rfl dX12_next_334 rfl (rs := fun _ => []) (fun _ => rfl) (fun _ _ => ?_)
            exact s_vret o rfl dX12_next_337 (fun _ hh => hh)
          · refine s_aload_n o dX12_next_325 rfl 1 rfl ?_
            refine s_cvC (d := d + 4) (As := []) (st := []) (c := 12) o (sc_X12_digits (mg Γ) (d + 3) ts v1) mw_X12_digits rfl (Or.inl (lw_all_tbl q761)) rfl (lw_all_tbl qs4) (lw_all_tbl q763) wt_0 rfl dX12_next_326 rfl (rs := fun _ => []) (fun _ => rfl) (fun _ _ => ?_)
            refine s_goto (tgt := 337) o dX12_next_329 (by decide) ?_
            exact s_vret o rfl dX12_next_337 (fun _ hh => hh)
        · refine r_to [(0, vA (mg Γ) v1), (1, vI v7)] [1, 0] rfl ?_
          exact sc_X12_next_177 o v1 v7 hv7
    · refine s_aload_n o dX12_next_147 rfl 0 rfl ?_
      refine s_iconst o dX12_next_148 ?_
      refine r_putf vI rfl o cf_X12_sort (Or.inl (lw_all_tbl q657)) dX12_next_149 (Or.inl rfl) (r32 rfl) ty_int ?_
      exact s_vret o rfl dX12_next_152 (fun _ hh => hh)
theorem dX12_need_0 : decode cX12_need 0 = .ok (.iload_n 1, 1) := by decide +kernel
theorem dX12_need_1 : decode cX12_need 1 = .ok (.ifCond .ne 13, 3) := by decide +kernel
theorem dX12_need_4 : decode cX12_need 4 = .ok (.aload_n 0, 1) := by decide +kernel
theorem dX12_need_5 : decode cX12_need 5 = .ok (.iconst 1, 1) := by decide +kernel
theorem dX12_need_6 : decode cX12_need 6 = .ok (.aload_n 0, 1) := by decide +kernel
theorem dX12_need_7 : decode cX12_need 7 = .ok (.getfield 91, 3) := by decide +kernel
theorem dX12_need_10 : decode cX12_need 10 = .ok (.invokevirtual 140, 3) := by decide +kernel
theorem dX12_need_13 : decode cX12_need 13 = .ok (.pop, 1) := by decide +kernel
theorem dX12_need_14 : decode cX12_need 14 = .ok (.aload_n 0, 1) := by decide +kernel
theorem dX12_need_15 : decode cX12_need 15 = .ok (.aload_n 0, 1) := by decide +kernel
theorem dX12_need_16 : decode cX12_need 16 = .ok (.getfield 131, 3) := by decide +kernel
theorem dX12_need_19 : decode cX12_need 19 = .ok (.putfield 144, 3) := by decide +kernel
theorem dX12_need_22 : decode cX12_need 22 = .ok (.aload_n 0, 1) := by decide +kernel
theorem dX12_need_23 : decode cX12_need 23 = .ok (.invokevirtual 147, 3) := by decide +kernel
theorem dX12_need_26 : decode cX12_need 26 = .ok (.ifCond .eq 7, 3) := by decide +kernel
theorem dX12_need_29 : decode cX12_need 29 = .ok (.aload_n 0, 1) := by decide +kernel
theorem dX12_need_30 : decode cX12_need 30 = .ok (.invokevirtual 150, 3) := by decide +kernel
theorem dX12_need_33 : decode cX12_need 33 = .ok (.aload_n 0, 1) := by decide +kernel
theorem dX12_need_34 : decode cX12_need 34 = .ok (.invokevirtual 147, 3) := by decide +kernel
theorem dX12_need_37 : decode cX12_need 37 = .ok (.ireturn, 1) := by decide +kernel
theorem mw_X12_need : MW yX12_need (Cond.code yX12_need cX12_need 2 (Option.some Jvm.ClassFile.FieldType.boolean)) cX12_need 2 (Option.some Jvm.ClassFile.FieldType.boolean) 1 := ⟨rfl, ⟨(lw_all_tbl q857), rfl, (lw_all_tbl q180)⟩, rfl, ⟨by decide, by decide⟩, by decide +kernel⟩
noncomputable def c_X12_need_33  (l0 : Int) : Mo CH Int :=
  bnd (isk 112 l0) fun _ =>
  bnd (c_X12_isGood l0) fun v1 =>
  pr v1
theorem sc_X12_need_33 {Γ : Gm} {ts : TS} {d : Nat} (o : Ok Γ "LazyForge$Reader" cX12_need 2 (Option.some Jvm.ClassFile.FieldType.boolean) (d + 6))   (l0 : Int) : Sx Γ (fun h => (h, ts)) (fun a s => mt Γ = (0, a, ((s, ts) : Wd))) 33 [(0, vA (mg Γ) l0)] [] (c_X12_need_33 l0) := by
  unfold c_X12_need_33
  refine s_aload_n o dX12_need_33 rfl 0 rfl ?_
  refine s_cvC (d := d + 5) (As := []) (st := []) (c := 12) o (sc_X12_isGood (mg Γ) (d + 5) ts l0) mw_X12_isGood rfl (Or.inl (lw_all_tbl q833)) rfl (lw_all_tbl qs6) (lw_all_tbl q835) wt_0 rfl dX12_need_34 rfl (rs := fun r => [vI r]) (fun _ => rfl) (fun v1 hv1 => ?_)
  exact s_iret o rfl i_boolean (hv1 _ rfl) dX12_need_37 (fun _ hh => hh)
noncomputable def c_X12_need_14  (l0 : Int) : Mo CH Int :=
  bnd (gf [112] 6 l0) fun v1 =>
  bnd (pf [112] 21 l0 v1) fun _ =>
  bnd (isk 112 l0) fun _ =>
  bnd (c_X12_isGood l0) fun v2 =>
  if v2 = 0 then
    c_X12_need_33 l0
  else
    bnd (isk 112 l0) fun _ =>
    bnd (c_X12_next l0) fun _ =>
    c_X12_need_33 l0
theorem sc_X12_need_14 {Γ : Gm} {ts : TS} {d : Nat} (o : Ok Γ "LazyForge$Reader" cX12_need 2 (Option.some Jvm.ClassFile.FieldType.boolean) (d + 6))   (l0 : Int) : Sx Γ (fun h => (h, ts)) (fun a s => mt Γ = (0, a, ((s, ts) : Wd))) 14 [(0, vA (mg Γ) l0)] [] (c_X12_need_14 l0) := by
  unfold c_X12_need_14
  refine s_aload_n o dX12_need_14 rfl 0 rfl ?_
  refine s_aload_n o dX12_need_15 rfl 0 rfl ?_
  refine r_getf vI rfl o cf_X12_number (Or.inl (lw_all_tbl q659)) dX12_need_16 (fun v1 hv1 => ?_)
  refine r_putf vI rfl o cf_X12_previous (Or.inl (lw_all_tbl q685)) dX12_need_19 (Or.inl rfl) hv1 ty_int ?_
  refine s_aload_n o dX12_need_22 rfl 0 rfl ?_
  refine s_cvC (d := d + 5) (As := []) (st := []) (c := 12) o (sc_X12_isGood (mg Γ) (d + 5) ts l0) mw_X12_isGood rfl (Or.inl (lw_all_tbl q833)) rfl (lw_all_tbl qs6) (lw_all_tbl q835) wt_0 rfl dX12_need_23 rfl (rs := fun r => [vI r]) (fun _ => rfl) (fun v2 hv2 => ?_)
  refine s_if_eq (tgt := 33) o dX12_need_26 (by decide) (rZ (hv2 _ rfl)) ?_ ?_
  · exact sc_X12_need_33 o l0
  · refine s_aload_n o dX12_need_29 rfl 0 rfl ?_
    refine s_cvC (d := d + 5) (As := []) (st := []) (c := 12) o (sc_X12_next (mg Γ) d ts l0) mw_X12_next rfl (Or.inl (lw_all_tbl q743)) rfl (lw_all_tbl qs2) (lw_all_tbl q745) wt_0 rfl dX12_need_30 rfl (rs := fun _ => []) (fun _ => rfl) (fun _ _ => ?_)
    exact sc_X12_need_33 o l0
noncomputable def c_X12_need (l0 : Int) (l1 : Int) : Mo CH Int :=
  if ¬ l1 = 0 then
    c_X12_need_14 l0
  else
    bnd (gf [112] 5 l0) fun v1 =>
    bnd (isk 112 l0) fun _ =>
    bnd (c_X12_fail l0 1 v1) fun v2 =>
    c_X12_need_14 l0
theorem sc_X12_need (g : gC) (d : Nat) (ts : TS) (l0 : Int) (l1 : Int) (hl1 : rg .boolean l1) : SF g yX12_need (Cond.code yX12_need cX12_need 2 (Option.some Jvm.ClassFile.FieldType.boolean)) (Option.some Jvm.ClassFile.FieldType.boolean) (d + 6) [vA g l0, vI l1] (fun h => (h, ts)) (c_X12_need l0 l1) := by
  refine SF.of (lv := [(0, vA g l0), (1, vI l1)]) (by decide) (wt_A (wt_I wt_0)) rfl (by simp only [la_A, la_I, la_J, la_0]) (fun Γ hg hnm o => ?_)
  subst hg
  have o : Ok Γ "LazyForge$Reader" cX12_need 2 (Option.some Jvm.ClassFile.FieldType.boolean) (d + 6) := o
  unfold c_X12_need
  refine s_iload_n o dX12_need_0 rfl 1 rfl ?_
  refine s_if_ne (tgt := 14) o dX12_need_1 (by decide) (rZ hl1) ?_ ?_
  · refine r_to [(0, vA (mg Γ) l0)] [0] rfl ?_
    exact sc_X12_need_14 o l0
  · refine s_aload_n o dX12_need_4 rfl 0 rfl ?_
    refine s_iconst o dX12_need_5 ?_
    refine s_aload_n o dX12_need_6 rfl 0 rfl ?_
    refine r_getf vI rfl o cf_X12_place (Or.inl (lw_all_tbl q658)) dX12_need_7 (fun v1 hv1 => ?_)
    refine s_cvC (d := d + 5) (As := [vI 1, vI v1]) (st := []) (c := 12) o (sc_X12_fail (mg Γ) (d + 5) ts l0 1 v1 (r32 rfl) hv1) mw_X12_fail rfl (Or.inl (lw_all_tbl q846)) rfl (lw_all_tbl qs9) (lw_all_tbl q848) wt_0 rfl dX12_need_10 rfl (rs := fun r => [vA (mg Γ) r]) (fun _ => rfl) (fun v2 hv2 => ?_)
    refine s_pop o dX12_need_13 (vA_cat (mg Γ) v2) ?_
    refine r_to [(0, vA (mg Γ) l0)] [0] rfl ?_
    exact sc_X12_need_14 o l0
theorem dX12_needKey_0 : decode cX12_needKey 0 = .ok (.aload_n 0, 1) := by decide +kernel
theorem dX12_needKey_1 : decode cX12_needKey 1 = .ok (.invokevirtual 147, 3) := by decide +kernel
theorem dX12_needKey_4 : decode cX12_needKey 4 = .ok (.ifCond .eq 19, 3) := by decide +kernel
theorem dX12_needKey_7 : decode cX12_needKey 7 = .ok (.aload_n 0, 1) := by decide +kernel
theorem dX12_needKey_8 : decode cX12_needKey 8 = .ok (.aload_n 0, 1) := by decide +kernel
theorem dX12_needKey_9 : decode cX12_needKey 9 = .ok (.aload_n 1, 1) := by decide +kernel
theorem dX12_needKey_10 : decode cX12_needKey 10 = .ok (.invokevirtual 161, 3) := by decide +kernel
theorem dX12_needKey_13 : decode cX12_needKey 13 = .ok (.invokevirtual 157, 3) := by decide +kernel
theorem dX12_needKey_16 : decode cX12_needKey 16 = .ok (.ifCond .eq 7, 3) := by decide +kernel
theorem dX12_needKey_19 : decode cX12_needKey 19 = .ok (.iconst 1, 1) := by decide +kernel
theorem dX12_needKey_20 : decode cX12_needKey 20 = .ok (.goto 4, 3) := by decide +kernel
theorem dX12_needKey_23 : decode cX12_needKey 23 = .ok (.iconst 0, 1) := by decide +kernel
theorem dX12_needKey_24 : decode cX12_needKey 24 = .ok (.ireturn, 1) := by decide +kernel
theorem mw_X12_needKey : MW yX12_needKey (Cond.code yX12_needKey cX12_needKey 2 (Option.some Jvm.ClassFile.FieldType.boolean)) cX12_needKey 2 (Option.some Jvm.ClassFile.FieldType.boolean) 1 := ⟨rfl, ⟨(lw_all_tbl q950), rfl, (lw_all_tbl q180)⟩, rfl, ⟨by decide, by decide⟩, by decide +kernel⟩
noncomputable def c_X12_needKey (l0 : Int) (l1 : Int) : Mo CH Int :=
  bnd (isk 112 l0) fun _ =>
  bnd (c_X12_isGood l0) fun v1 =>
  if v1 = 0 then
    pr 0
  else
    bnd (isk 112 l0) fun _ =>
    bnd (c_X12_isKeyword l0 l1) fun v2 =>
    bnd (isk 112 l0) fun _ =>
    bnd (c_X12_need l0 v2) fun v3 =>
    if v3 = 0 then
      pr 0
    else
      pr 1
theorem sc_X12_needKey (g : gC) (d : Nat) (ts : TS) (l0 : Int) (l1 : Int) : SF g yX12_needKey (Cond.code yX12_needKey cX12_needKey 2 (Option.some Jvm.ClassFile.FieldType.boolean)) (Option.some Jvm.ClassFile.FieldType.boolean) (d + 7) [vA g l0, vA g l1] (fun h => (h, ts)) (c_X12_needKey l0 l1) := by
  refine SF.of (lv := [(0, vA g l0), (1, vA g l1)]) (by decide) (wt_A (wt_A wt_0)) rfl (by simp only [la_A, la_I, la_J, la_0]) (fun Γ hg hnm o => ?_)
  subst hg
  have o : Ok Γ "LazyForge$Reader" cX12_needKey 2 (Option.some Jvm.ClassFile.FieldType.boolean) (d + 7) := o
  unfold c_X12_needKey
  refine s_aload_n o dX12_needKey_0 rfl 0 rfl ?_
  refine s_cvC (d := d + 6) (As := []) (st := []) (c := 12) o (sc_X12_isGood (mg Γ) (d + 6) ts l0) mw_X12_isGood rfl (Or.inl (lw_all_tbl q833)) rfl (lw_all_tbl qs6) (lw_all_tbl q835) wt_0 rfl dX12_needKey_1 rfl (rs := fun r => [vI r]) (fun _ => rfl) (fun v1 hv1 => ?_)
  refine s_if_eq (tgt := 23) o dX12_needKey_4 (by decide) (rZ (hv1 _ rfl)) ?_ ?_
  · refine s_iconst o dX12_needKey_23 ?_
    exact s_iret o rfl i_boolean (Or.inl rfl) dX12_needKey_24 (fun _ hh => hh)
  · refine s_aload_n o dX12_needKey_7 rfl 0 rfl ?_
    refine s_aload_n o dX12_needKey_8 rfl 0 rfl ?_
    refine s_aload_n o dX12_needKey_9 rfl 1 rfl ?_
    refine s_cvC (d := d + 6) (As := [vA (mg Γ) l1]) (st := [vA (mg Γ) l0]) (c := 12) o (sc_X12_isKeyword (mg Γ) (d + 1) ts l0 l1) mw_X12_isKeyword rfl (Or.inl (lw_all_tbl q838)) rfl (lw_all_tbl qs7) (lw_all_tbl q840) (wt_A wt_0) rfl dX12_needKey_10 rfl (rs := fun r => [vI r, vA (mg Γ) l0]) (fun _ => rfl) (fun v2 hv2 => ?_)
    refine s_cvC (d := d + 6) (As := [vI v2]) (st := []) (c := 12) o (sc_X12_need (mg Γ) d ts l0 v2 (hv2 _ rfl)) mw_X12_need rfl (Or.inl (lw_all_tbl q854)) rfl (lw_all_tbl qs11) (lw_all_tbl q856) wt_0 rfl dX12_needKey_13 rfl (rs := fun r => [vI r]) (fun _ => rfl) (fun v3 hv3 => ?_)
    refine s_if_eq (tgt := 23) o dX12_needKey_16 (by decide) (rZ (hv3 _ rfl)) ?_ ?_
    · refine s_iconst o dX12_needKey_23 ?_
      exact s_iret o rfl i_boolean (Or.inl rfl) dX12_needKey_24 (fun _ hh => hh)
    · refine s_iconst o dX12_needKey_19 ?_
      refine s_goto (tgt := 24) o dX12_needKey_20 (by decide) ?_
      exact s_iret o rfl i_boolean (Or.inr rfl) dX12_needKey_24 (fun _ hh => hh)
theorem dX12_needSign_0 : decode cX12_needSign 0 = .ok (.aload_n 0, 1) := by decide +kernel
theorem dX12_needSign_1 : decode cX12_needSign 1 = .ok (.invokevirtual 147, 3) := by decide +kernel
theorem dX12_needSign_4 : decode cX12_needSign 4 = .ok (.ifCond .eq 19, 3) := by decide +kernel
theorem dX12_needSign_7 : decode cX12_needSign 7 = .ok (.aload_n 0, 1) := by decide +kernel
theorem dX12_needSign_8 : decode cX12_needSign 8 = .ok (.aload_n 0, 1) := by decide +kernel
theorem dX12_needSign_9 : decode cX12_needSign 9 = .ok (.aload_n 1, 1) := by decide +kernel
theorem dX12_needSign_10 : decode cX12_needSign 10 = .ok (.invokevirtual 153, 3) := by decide +kernel
theorem dX12_needSign_13 : decode cX12_needSign 13 = .ok (.invokevirtual 157, 3) := by decide +kernel
theorem dX12_needSign_16 : decode cX12_needSign 16 = .ok (.ifCond .eq 7, 3) := by decide +kernel
theorem dX12_needSign_19 : decode cX12_needSign 19 = .ok (.iconst 1, 1) := by decide +kernel
theorem dX12_needSign_20 : decode cX12_needSign 20 = .ok (.goto 4, 3) := by decide +kernel
theorem dX12_needSign_23 : decode cX12_needSign 23 = .ok (.iconst 0, 1) := by decide +kernel
theorem dX12_needSign_24 : decode cX12_needSign 24 = .ok (.ireturn, 1) := by decide +kernel
theorem mw_X12_needSign : MW yX12_needSign (Cond.code yX12_needSign cX12_needSign 2 (Option.some Jvm.ClassFile.FieldType.boolean)) cX12_needSign 2 (Option.some Jvm.ClassFile.FieldType.boolean) 1 := ⟨rfl, ⟨(lw_all_tbl q867), rfl, (lw_all_tbl q180)⟩, rfl, ⟨by decide, by decide⟩, by decide +kernel⟩
noncomputable def c_X12_needSign (l0 : Int) (l1 : Int) : Mo CH Int :=
  bnd (isk 112 l0) fun _ =>
  bnd (c_X12_isGood l0) fun v1 =>
  if v1 = 0 then
    pr 0
  else
    bnd (isk 112 l0) fun _ =>
    bnd (c_X12_isSign l0 l1) fun v2 =>
    bnd (isk 112 l0) fun _ =>
    bnd (c_X12_need l0 v2) fun v3 =>
    if v3 = 0 then
      pr 0
    else
      pr 1
theorem sc_X12_needSign (g : gC) (d : Nat) (ts : TS) (l0 : Int) (l1 : Int) : SF g yX12_needSign (Cond.code yX12_needSign cX12_needSign 2 (Option.some Jvm.ClassFile.FieldType.boolean)) (Option.some Jvm.ClassFile.FieldType.boolean) (d + 7) [vA g l0, vA g l1] (fun h => (h, ts)) (c_X12_needSign l0 l1) := by
  refine SF.of (lv := [(0, vA g l0), (1, vA g l1)]) (by decide) (wt_A (wt_A wt_0)) rfl (by simp only [la_A, la_I, la_J, la_0]) (fun Γ hg hnm o => ?_)
  subst hg
  have o : Ok Γ "LazyForge$Reader" cX12_needSign 2 (Option.some Jvm.ClassFile.FieldType.boolean) (d + 7) := o
  unfold c_X12_needSign
  refine s_aload_n o dX12_needSign_0 rfl 0 rfl ?_
  refine s_cvC (d := d + 6) (As := []) (st := []) (c := 12) o (sc_X12_isGood (mg Γ) (d + 6) ts l0) mw_X12_isGood rfl (Or.inl (lw_all_tbl q833)) rfl (lw_all_tbl qs6) (lw_all_tbl q835) wt_0 rfl dX12_needSign_1 rfl (rs := fun r => [vI r]) (fun _ => rfl) (fun v1 hv1 => ?_)
  refine s_if_eq (tgt := 23) o dX12_needSign_4 (by decide) (rZ (hv1 _ rfl)) ?_ ?_
  · refine s_iconst o dX12_needSign_23 ?_
    exact s_iret o rfl i_boolean (Or.inl rfl) dX12_needSign_24 (fun _ hh => hh)
  · refine s_aload_n o dX12_needSign_7 rfl 0 rfl ?_
    refine s_aload_n o dX12_needSign_8 rfl 0 rfl ?_
    refine s_aload_n o dX12_needSign_9 rfl 1 rfl ?_
    refine s_cvC (d := d + 6) (As := [vA (mg Γ) l1]) (st := [vA (mg Γ) l0]) (c := 12) o (sc_X12_isSign (mg Γ) (d + 1) ts l0 l1) mw_X12_isSign rfl (Or.inl (lw_all_tbl q859)) rfl (lw_all_tbl qs12) (lw_all_tbl q861) (wt_A wt_0) rfl dX12_needSign_10 rfl (rs := fun r => [vI r, vA (mg Γ) l0]) (fun _ => rfl) (fun v2 hv2 => ?_)
    refine s_cvC (d := d + 6) (As := [vI v2]) (st := []) (c := 12) o (sc_X12_need (mg Γ) d ts l0 v2 (hv2 _ rfl)) mw_X12_need rfl (Or.inl (lw_all_tbl q854)) rfl (lw_all_tbl qs11) (lw_all_tbl q856) wt_0 rfl dX12_needSign_13 rfl (rs := fun r => [vI r]) (fun _ => rfl) (fun v3 hv3 => ?_)
    refine s_if_eq (tgt := 23) o dX12_needSign_16 (by decide) (rZ (hv3 _ rfl)) ?_ ?_
    · refine s_iconst o dX12_needSign_23 ?_
      exact s_iret o rfl i_boolean (Or.inl rfl) dX12_needSign_24 (fun _ hh => hh)
    · refine s_iconst o dX12_needSign_19 ?_
      refine s_goto (tgt := 24) o dX12_needSign_20 (by decide) ?_
      exact s_iret o rfl i_boolean (Or.inr rfl) dX12_needSign_24 (fun _ hh => hh)
theorem dX12_opens_0 : decode cX12_opens 0 = .ok (.aload_n 0, 1) := by decide +kernel
theorem dX12_opens_1 : decode cX12_opens 1 = .ok (.getfield 164, 3) := by decide +kernel
theorem dX12_opens_4 : decode cX12_opens 4 = .ok (.bipush 30, 2) := by decide +kernel
theorem dX12_opens_6 : decode cX12_opens 6 = .ok (.if_icmp .ne 13, 3) := by decide +kernel
theorem dX12_opens_9 : decode cX12_opens 9 = .ok (.aload_n 0, 1) := by decide +kernel
theorem dX12_opens_10 : decode cX12_opens 10 = .ok (.iconst 1, 1) := by decide +kernel
theorem dX12_opens_11 : decode cX12_opens 11 = .ok (.aload_n 0, 1) := by decide +kernel
theorem dX12_opens_12 : decode cX12_opens 12 = .ok (.getfield 91, 3) := by decide +kernel
theorem dX12_opens_15 : decode cX12_opens 15 = .ok (.invokevirtual 140, 3) := by decide +kernel
theorem dX12_opens_18 : decode cX12_opens 18 = .ok (.pop, 1) := by decide +kernel
theorem dX12_opens_19 : decode cX12_opens 19 = .ok (.aload_n 0, 1) := by decide +kernel
theorem dX12_opens_20 : decode cX12_opens 20 = .ok (.dup, 1) := by decide +kernel
theorem dX12_opens_21 : decode cX12_opens 21 = .ok (.getfield 164, 3) := by decide +kernel
theorem dX12_opens_24 : decode cX12_opens 24 = .ok (.iconst 1, 1) := by decide +kernel
theorem dX12_opens_25 : decode cX12_opens 25 = .ok (.iadd, 1) := by decide +kernel
theorem dX12_opens_26 : decode cX12_opens 26 = .ok (.putfield 164, 3) := by decide +kernel
theorem dX12_opens_29 : decode cX12_opens 29 = .ok (.aload_n 0, 1) := by decide +kernel
theorem dX12_opens_30 : decode cX12_opens 30 = .ok (.invokevirtual 147, 3) := by decide +kernel
theorem dX12_opens_33 : decode cX12_opens 33 = .ok (.ireturn, 1) := by decide +kernel
theorem mw_X12_opens : MW yX12_opens (Cond.code yX12_opens cX12_opens 1 (Option.some Jvm.ClassFile.FieldType.boolean)) cX12_opens 1 (Option.some Jvm.ClassFile.FieldType.boolean) 0 := ⟨rfl, ⟨(lw_all_tbl q941), rfl, (lw_all_tbl q180)⟩, rfl, ⟨by decide, by decide⟩, by decide +kernel⟩
noncomputable def c_X12_opens_19  (l0 : Int) : Mo CH Int :=
  bnd (gf [112] 11 l0) fun v1 =>
  bnd (pf [112] 11 l0 (w32 (v1 + 1))) fun _ =>
  bnd (isk 112 l0) fun _ =>
  bnd (c_X12_isGood l0) fun v2 =>
  pr v2
theorem sc_X12_opens_19 {Γ : Gm} {ts : TS} {d : Nat} (o : Ok Γ "LazyForge$Reader" cX12_opens 1 (Option.some Jvm.ClassFile.FieldType.boolean) (d + 1))   (l0 : Int) : Sx Γ (fun h => (h, ts)) (fun a s => mt Γ = (0, a, ((s, ts) : Wd))) 19 [(0, vA (mg Γ) l0)] [] (c_X12_opens_19 l0) := by
  unfold c_X12_opens_19
  refine s_aload_n o dX12_opens_19 rfl 0 rfl ?_
  refine s_dup o dX12_opens_20 (vA_cat (mg Γ) l0) ?_
  refine r_getf vI rfl o cf_X12_open (Or.inl (lw_all_tbl q666)) dX12_opens_21 (fun v1 hv1 => ?_)
  refine s_iconst o dX12_opens_24 ?_
  refine s_iadd o dX12_opens_25 ?_
  refine r_putf vI rfl o cf_X12_open (Or.inl (lw_all_tbl q666)) dX12_opens_26 (Or.inl rfl) (w32_R _) ty_int ?_
  refine s_aload_n o dX12_opens_29 rfl 0 rfl ?_
  refine s_cvC (d := d + 0) (As := []) (st := []) (c := 12) o (sc_X12_isGood (mg Γ) d ts l0) mw_X12_isGood rfl (Or.inl (lw_all_tbl q833)) rfl (lw_all_tbl qs6) (lw_all_tbl q835) wt_0 rfl dX12_opens_30 rfl (rs := fun r => [vI r]) (fun _ => rfl) (fun v2 hv2 => ?_)
  exact s_iret o rfl i_boolean (hv2 _ rfl) dX12_opens_33 (fun _ hh => hh)
noncomputable def c_X12_opens (l0 : Int) : Mo CH Int :=
  bnd (gf [112] 11 l0) fun v1 =>
  if ¬ v1 = 30 then
    c_X12_opens_19 l0
  else
    bnd (gf [112] 5 l0) fun v2 =>
    bnd (isk 112 l0) fun _ =>
    bnd (c_X12_fail l0 1 v2) fun v3 =>
    c_X12_opens_19 l0
theorem sc_X12_opens (g : gC) (d : Nat) (ts : TS) (l0 : Int) : SF g yX12_opens (Cond.code yX12_opens cX12_opens 1 (Option.some Jvm.ClassFile.FieldType.boolean)) (Option.some Jvm.ClassFile.FieldType.boolean) (d + 1) [vA g l0] (fun h => (h, ts)) (c_X12_opens l0) := by
  refine SF.of (lv := [(0, vA g l0)]) (by decide) (wt_A wt_0) rfl (by simp only [la_A, la_I, la_J, la_0]) (fun Γ hg hnm o => ?_)
  subst hg
  have o : Ok Γ "LazyForge$Reader" cX12_opens 1 (Option.some Jvm.ClassFile.FieldType.boolean) (d + 1) := o
  unfold c_X12_opens
  refine s_aload_n o dX12_opens_0 rfl 0 rfl ?_
  refine r_getf vI rfl o cf_X12_open (Or.inl (lw_all_tbl q666)) dX12_opens_1 (fun v1 hv1 => ?_)
  refine s_bipush o dX12_opens_4 rfl ?_
  refine s_icmp_ne (tgt := 19) o dX12_opens_6 (by decide) hv1 (r32 rfl) ?_ ?_
  · exact sc_X12_opens_19 o l0
  · refine s_aload_n o dX12_opens_9 rfl 0 rfl ?_
    refine s_iconst o dX12_opens_10 ?_
    refine s_aload_n o dX12_opens_11 rfl 0 rfl ?_
    refine r_getf vI rfl o cf_X12_place (Or.inl (lw_all_tbl q658)) dX12_opens_12 (fun v2 hv2 => ?_)
    refine s_cvC (d := d + 0) (As := [vI 1, vI v2]) (st := []) (c := 12) o (sc_X12_fail (mg Γ) d ts l0 1 v2 (r32 rfl) hv2) mw_X12_fail rfl (Or.inl (lw_all_tbl q846)) rfl (lw_all_tbl qs9) (lw_all_tbl q848) wt_0 rfl dX12_opens_15 rfl (rs := fun r => [vA (mg Γ) r]) (fun _ => rfl) (fun v3 hv3 => ?_)
    refine s_pop o dX12_opens_18 (vA_cat (mg Γ) v3) ?_
    exact sc_X12_opens_19 o l0
theorem dX12_part_0 : decode cX12_part 0 = .ok (.aload_n 0, 1) := by decide +kernel
theorem dX12_part_1 : decode cX12_part 1 = .ok (.invokevirtual 147, 3) := by decide +kernel
theorem dX12_part_4 : decode cX12_part 4 = .ok (.ifCond .eq 20, 3) := by decide +kernel
theorem dX12_part_7 : decode cX12_part 7 = .ok (.aload_n 0, 1) := by decide +kernel
theorem dX12_part_8 : decode cX12_part 8 = .ok (.getfield 167, 3) := by decide +kernel
theorem dX12_part_11 : decode cX12_part 11 = .ok (.sipush 600, 3) := by decide +kernel
theorem dX12_part_14 : decode cX12_part 14 = .ok (.if_icmp .ne 10, 3) := by decide +kernel
theorem dX12_part_17 : decode cX12_part 17 = .ok (.aload_n 0, 1) := by decide +kernel
theorem dX12_part_18 : decode cX12_part 18 = .ok (.iconst 4, 1) := by decide +kernel
theorem dX12_part_19 : decode cX12_part 19 = .ok (.iload_n 1, 1) := by decide +kernel
theorem dX12_part_20 : decode cX12_part 20 = .ok (.invokevirtual 140, 3) := by decide +kernel
theorem dX12_part_23 : decode cX12_part 23 = .ok (.pop, 1) := by decide +kernel
theorem dX12_part_24 : decode cX12_part 24 = .ok (.aload_n 0, 1) := by decide +kernel
theorem dX12_part_25 : decode cX12_part 25 = .ok (.dup, 1) := by decide +kernel
theorem dX12_part_26 : decode cX12_part 26 = .ok (.getfield 167, 3) := by decide +kernel
theorem dX12_part_29 : decode cX12_part 29 = .ok (.aload_n 0, 1) := by decide +kernel
theorem dX12_part_30 : decode cX12_part 30 = .ok (.invokevirtual 147, 3) := by decide +kernel
theorem dX12_part_33 : decode cX12_part 33 = .ok (.ifCond .eq 7, 3) := by decide +kernel
theorem dX12_part_36 : decode cX12_part 36 = .ok (.iconst 1, 1) := by decide +kernel
theorem dX12_part_37 : decode cX12_part 37 = .ok (.goto 4, 3) := by decide +kernel
theorem dX12_part_40 : decode cX12_part 40 = .ok (.iconst 0, 1) := by decide +kernel
theorem dX12_part_41 : decode cX12_part 41 = .ok (.iadd, 1) := by decide +kernel
theorem dX12_part_42 : decode cX12_part 42 = .ok (.putfield 167, 3) := by decide +kernel
theorem dX12_part_45 : decode cX12_part 45 = .ok (.aload_n 0, 1) := by decide +kernel
theorem dX12_part_46 : decode cX12_part 46 = .ok (.getfield 43, 3) := by decide +kernel
theorem dX12_part_49 : decode cX12_part 49 = .ok (.dup, 1) := by decide +kernel
theorem dX12_part_50 : decode cX12_part 50 = .ok (.getfield 170, 3) := by decide +kernel
theorem dX12_part_53 : decode cX12_part 53 = .ok (.aload_n 0, 1) := by decide +kernel
theorem dX12_part_54 : decode cX12_part 54 = .ok (.invokevirtual 147, 3) := by decide +kernel
theorem dX12_part_57 : decode cX12_part 57 = .ok (.ifCond .eq 7, 3) := by decide +kernel
theorem dX12_part_60 : decode cX12_part 60 = .ok (.iconst 1, 1) := by decide +kernel
theorem dX12_part_61 : decode cX12_part 61 = .ok (.goto 4, 3) := by decide +kernel
theorem dX12_part_64 : decode cX12_part 64 = .ok (.iconst 0, 1) := by decide +kernel
theorem dX12_part_65 : decode cX12_part 65 = .ok (.iadd, 1) := by decide +kernel
theorem dX12_part_66 : decode cX12_part 66 = .ok (.putfield 170, 3) := by decide +kernel
theorem dX12_part_69 : decode cX12_part 69 = .ok (.aload_n 0, 1) := by decide +kernel
theorem dX12_part_70 : decode cX12_part 70 = .ok (.invokevirtual 147, 3) := by decide +kernel
theorem dX12_part_73 : decode cX12_part 73 = .ok (.ireturn, 1) := by decide +kernel
theorem mw_X12_part : MW yX12_part (Cond.code yX12_part cX12_part 2 (Option.some Jvm.ClassFile.FieldType.boolean)) cX12_part 2 (Option.some Jvm.ClassFile.FieldType.boolean) 1 := ⟨rfl, ⟨(lw_all_tbl q879), rfl, (lw_all_tbl q180)⟩, rfl, ⟨by decide, by decide⟩, by decide +kernel⟩
noncomputable def c_X12_part_65  (l0 : Int) (k0 : Int) (k1 : Int) (k2 : Int) : Mo CH Int :=
  bnd (pf [101] 5 k2 (w32 (k1 + k0))) fun _ =>
  bnd (isk 112 l0) fun _ =>
  bnd (c_X12_isGood l0) fun v1 =>
  pr v1
theorem sc_X12_part_65 {Γ : Gm} {ts : TS} {d : Nat} (o : Ok Γ "LazyForge$Reader" cX12_part 2 (Option.some Jvm.ClassFile.FieldType.boolean) (d + 1))   (l0 : Int) (k0 : Int) (k1 : Int) (k2 : Int) (hk0 : rg .boolean k0) (hk1 : R32 k1) : Sx Γ (fun h => (h, ts)) (fun a s => mt Γ = (0, a, ((s, ts) : Wd))) 65 [(0, vA (mg Γ) l0)] [vI k0, vI k1, vA (mg Γ) k2] (c_X12_part_65 l0 k0 k1 k2) := by
  unfold c_X12_part_65
  refine s_iadd o dX12_part_65 ?_
  refine r_putf vI rfl o cf_X1_allParts (Or.inr (Or.inl ⟨_, q446⟩)) dX12_part_66 (Or.inl rfl) (w32_R _) ty_int ?_
  refine s_aload_n o dX12_part_69 rfl 0 rfl ?_
  refine s_cvC (d := d + 0) (As := []) (st := []) (c := 12) o (sc_X12_isGood (mg Γ) d ts l0) mw_X12_isGood rfl (Or.inl (lw_all_tbl q833)) rfl (lw_all_tbl qs6) (lw_all_tbl q835) wt_0 rfl dX12_part_70 rfl (rs := fun r => [vI r]) (fun _ => rfl) (fun v1 hv1 => ?_)
  exact s_iret o rfl i_boolean (hv1 _ rfl) dX12_part_73 (fun _ hh => hh)
noncomputable def c_X12_part_41  (l0 : Int) (k0 : Int) (k1 : Int) (k2 : Int) : Mo CH Int :=
  bnd (pf [112] 12 k2 (w32 (k1 + k0))) fun _ =>
  bnd (gf [112] 0 l0) fun v1 =>
  bnd (gf [101] 5 v1) fun v2 =>
  bnd (isk 112 l0) fun _ =>
  bnd (c_X12_isGood l0) fun v3 =>
  if v3 = 0 then
    c_X12_part_65 l0 0 v2 v1
  else
    c_X12_part_65 l0 1 v2 v1
theorem sc_X12_part_41 {Γ : Gm} {ts : TS} {d : Nat} (o : Ok Γ "LazyForge$Reader" cX12_part 2 (Option.some Jvm.ClassFile.FieldType.boolean) (d + 1))   (l0 : Int) (k0 : Int) (k1 : Int) (k2 : Int) (hk0 : rg .boolean k0) (hk1 : R32 k1) : Sx Γ (fun h => (h, ts)) (fun a s => mt Γ = (0, a, ((s, ts) : Wd))) 41 [(0, vA (mg Γ) l0)] [vI k0, vI k1, vA (mg Γ) k2] (c_X12_part_41 l0 k0 k1 k2) := by
  unfold c_X12_part_41
  refine s_iadd o dX12_part_41 ?_
  refine r_putf vI rfl o cf_X12_parts (Or.inl (lw_all_tbl q668)) dX12_part_42 (Or.inl rfl) (w32_R _) ty_int ?_
  refine s_aload_n o dX12_part_45 rfl 0 rfl ?_
  refine r_getf (vA (mg Γ)) rfl o cf_X12_house (Or.inl (lw_all_tbl q653)) dX12_part_46 (fun v1 hv1 => ?_)
  refine s_dup o dX12_part_49 (vA_cat (mg Γ) v1) ?_
  refine r_getf vI rfl o cf_X1_allParts (Or.inr (Or.inl ⟨_, q446⟩)) dX12_part_50 (fun v2 hv2 => ?_)
  refine s_aload_n o dX12_part_53 rfl 0 rfl ?_
  refine s_cvC (d := d + 0) (As := []) (st := [vI v2, vA (mg Γ) v1]) (c := 12) o (sc_X12_isGood (mg Γ) d ts l0) mw_X12_isGood rfl (Or.inl (lw_all_tbl q833)) rfl (lw_all_tbl qs6) (lw_all_tbl q835) (wt_I (wt_A wt_0)) rfl dX12_part_54 rfl (rs := fun r => [vI r, vI v2, vA (mg Γ) v1]) (fun _ => rfl) (fun v3 hv3 => ?_)
  refine s_if_eq (tgt := 64) o dX12_part_57 (by decide) (rZ (hv3 _ rfl)) ?_ ?_
  · refine s_iconst o dX12_part_64 ?_
    exact sc_X12_part_65 o l0 0 v2 v1 (Or.inl rfl) hv2
  · refine s_iconst o dX12_part_60 ?_
    refine s_goto (tgt := 65) o dX12_part_61 (by decide) ?_
    exact sc_X12_part_65 o l0 1 v2 v1 (Or.inr rfl) hv2
noncomputable def c_X12_part_24  (l0 : Int) : Mo CH Int :=
  bnd (gf [112] 12 l0) fun v1 =>
  bnd (isk 112 l0) fun _ =>
  bnd (c_X12_isGood l0) fun v2 =>
  if v2 = 0 then
    c_X12_part_41 l0 0 v1 l0
  else
    c_X12_part_41 l0 1 v1 l0
theorem sc_X12_part_24 {Γ : Gm} {ts : TS} {d : Nat} (o : Ok Γ "LazyForge$Reader" cX12_part 2 (Option.some Jvm.ClassFile.FieldType.boolean) (d + 1))   (l0 : Int) : Sx Γ (fun h => (h, ts)) (fun a s => mt Γ = (0, a, ((s, ts) : Wd))) 24 [(0, vA (mg Γ) l0)] [] (c_X12_part_24 l0) := by
  unfold c_X12_part_24
  refine s_aload_n o dX12_part_24 rfl 0 rfl ?_
  refine s_dup o dX12_part_25 (vA_cat (mg Γ) l0) ?_
  refine r_getf vI rfl o cf_X12_parts (Or.inl (lw_all_tbl q668)) dX12_part_26 (fun v1 hv1 => ?_)
  refine s_aload_n o dX12_part_29 rfl 0 rfl ?_
  refine s_cvC (d := d + 0) (As := []) (st := [vI v1, vA (mg Γ) l0]) (c := 12) o (sc_X12_isGood (mg Γ) d ts l0) mw_X12_isGood rfl (Or.inl (lw_all_tbl q833)) rfl (lw_all_tbl qs6) (lw_all_tbl q835) (wt_I (wt_A wt_0)) rfl dX12_part_30 rfl (rs := fun r => [vI r, vI v1, vA (mg Γ) l0]) (fun _ => rfl) (fun v2 hv2 => ?_)
  refine s_if_eq (tgt := 40) o dX12_part_33 (by decide) (rZ (hv2 _ rfl)) ?_ ?_
  · refine s_iconst o dX12_part_40 ?_
    exact sc_X12_part_41 o l0 0 v1 l0 (Or.inl rfl) hv1
  · refine s_iconst o dX12_part_36 ?_
    refine s_goto (tgt := 41) o dX12_part_37 (by decide) ?_
    exact sc_X12_part_41 o l0 1 v1 l0 (Or.inr rfl) hv1
noncomputable def c_X12_part (l0 : Int) (l1 : Int) : Mo CH Int :=
  bnd (isk 112 l0) fun _ =>
  bnd (c_X12_isGood l0) fun v1 =>
  if v1 = 0 then
    c_X12_part_24 l0
  else
    bnd (gf [112] 12 l0) fun v2 =>
    if ¬ v2 = 600 then
      c_X12_part_24 l0
    else
      bnd (isk 112 l0) fun _ =>
      bnd (c_X12_fail l0 4 l1) fun v3 =>
      c_X12_part_24 l0
theorem sc_X12_part (g : gC) (d : Nat) (ts : TS) (l0 : Int) (l1 : Int) (hl1 : R32 l1) : SF g yX12_part (Cond.code yX12_part cX12_part 2 (Option.some Jvm.ClassFile.FieldType.boolean)) (Option.some Jvm.ClassFile.FieldType.boolean) (d + 1) [vA g l0, vI l1] (fun h => (h, ts)) (c_X12_part l0 l1) := by
  refine SF.of (lv := [(0, vA g l0), (1, vI l1)]) (by decide) (wt_A (wt_I wt_0)) rfl (by simp only [la_A, la_I, la_J, la_0]) (fun Γ hg hnm o => ?_)
  subst hg
  have o : Ok Γ "LazyForge$Reader" cX12_part 2 (Option.some Jvm.ClassFile.FieldType.boolean) (d + 1) := o
  unfold c_X12_part
  refine s_aload_n o dX12_part_0 rfl 0 rfl ?_
  refine s_cvC (d := d + 0) (As := []) (st := []) (c := 12) o (sc_X12_isGood (mg Γ) d ts l0) mw_X12_isGood rfl (Or.inl (lw_all_tbl q833)) rfl (lw_all_tbl qs6) (lw_all_tbl q835) wt_0 rfl dX12_part_1 rfl (rs := fun r => [vI r]) (fun _ => rfl) (fun v1 hv1 => ?_)
  refine s_if_eq (tgt := 24) o dX12_part_4 (by decide) (rZ (hv1 _ rfl)) ?_ ?_
  · refine r_to [(0, vA (mg Γ) l0)] [0] rfl ?_
    exact sc_X12_part_24 o l0
  · refine s_aload_n o dX12_part_7 rfl 0 rfl ?_
    refine r_getf vI rfl o cf_X12_parts (Or.inl (lw_all_tbl q668)) dX12_part_8 (fun v2 hv2 => ?_)
    refine s_sipush o dX12_part_11 rfl ?_
    refine s_icmp_ne (tgt := 24) o dX12_part_14 (by decide) hv2 (r32 rfl) ?_ ?_
    · refine r_to [(0, vA (mg Γ) l0)] [0] rfl ?_
      exact sc_X12_part_24 o l0
    · refine s_aload_n o dX12_part_17 rfl 0 rfl ?_
      refine s_iconst o dX12_part_18 ?_
      refine s_iload_n o dX12_part_19 rfl 1 rfl ?_
      refine s_cvC (d := d + 0) (As := [vI 4, vI l1]) (st := []) (c := 12) o (sc_X12_fail (mg Γ) d ts l0 4 l1 (r32 rfl) hl1) mw_X12_fail rfl (Or.inl (lw_all_tbl q846)) rfl (lw_all_tbl qs9) (lw_all_tbl q848) wt_0 rfl dX12_part_20 rfl (rs := fun r => [vA (mg Γ) r]) (fun _ => rfl) (fun v3 hv3 => ?_)
      refine s_pop o dX12_part_23 (vA_cat (mg Γ) v3) ?_
      refine r_to [(0, vA (mg Γ) l0)] [0] rfl ?_
      exact sc_X12_part_24 o l0
theorem dX12_pattern_0 : decode cX12_pattern 0 = .ok (.aload_n 1, 1) := by decide +kernel
theorem dX12_pattern_1 : decode cX12_pattern 1 = .ok (.getfield 263, 3) := by decide +kernel
theorem dX12_pattern_4 : decode cX12_pattern 4 = .ok (.iload_n 2, 1) := by decide +kernel
theorem dX12_pattern_5 : decode cX12_pattern 5 = .ok (.iconst 0, 1) := by decide +kernel
theorem dX12_pattern_6 : decode cX12_pattern 6 = .ok (.newarray .long, 2) := by decide +kernel
theorem dX12_pattern_8 : decode cX12_pattern 8 = .ok (.aastore, 1) := by decide +kernel
theorem dX12_pattern_9 : decode cX12_pattern 9 = .ok (.aload_n 0, 1) := by decide +kernel
theorem dX12_pattern_10 : decode cX12_pattern 10 = .ok (.getfield 97, 3) := by decide +kernel
theorem dX12_pattern_13 : decode cX12_pattern 13 = .ok (.iconst 4, 1) := by decide +kernel
theorem dX12_pattern_14 : decode cX12_pattern 14 = .ok (.if_icmp .ne 27, 3) := by decide +kernel
theorem dX12_pattern_17 : decode cX12_pattern 17 = .ok (.aload_n 1, 1) := by decide +kernel
theorem dX12_pattern_18 : decode cX12_pattern 18 = .ok (.getfield 257, 3) := by decide +kernel
theorem dX12_pattern_21 : decode cX12_pattern 21 = .ok (.iload_n 2, 1) := by decide +kernel
theorem dX12_pattern_22 : decode cX12_pattern 22 = .ok (.bipush (-2), 2) := by decide +kernel
theorem dX12_pattern_24 : decode cX12_pattern 24 = .ok (.iastore, 1) := by decide +kernel
theorem dX12_pattern_25 : decode cX12_pattern 25 = .ok (.aload_n 1, 1) := by decide +kernel
theorem dX12_pattern_26 : decode cX12_pattern 26 = .ok (.getfield 260, 3) := by decide +kernel
theorem dX12_pattern_29 : decode cX12_pattern 29 = .ok (.iload_n 2, 1) := by decide +kernel
theorem dX12_pattern_30 : decode cX12_pattern 30 = .ok (.aload_n 0, 1) := by decide +kernel
theorem dX12_pattern_31 : decode cX12_pattern 31 = .ok (.getfield 131, 3) := by decide +kernel
theorem dX12_pattern_34 : decode cX12_pattern 34 = .ok (.iastore, 1) := by decide +kernel
theorem dX12_pattern_35 : decode cX12_pattern 35 = .ok (.aload_n 0, 1) := by decide +kernel
theorem dX12_pattern_36 : decode cX12_pattern 36 = .ok (.invokevirtual 150, 3) := by decide +kernel
theorem dX12_pattern_39 : decode cX12_pattern 39 = .ok (.iconst 1, 1) := by decide +kernel
theorem dX12_pattern_40 : decode cX12_pattern 40 = .ok (.ireturn, 1) := by decide +kernel
theorem dX12_pattern_41 : decode cX12_pattern 41 = .ok (.aload_n 0, 1) := by decide +kernel
theorem dX12_pattern_42 : decode cX12_pattern 42 = .ok (.ldc_w 266, 3) := by decide +kernel
theorem dX12_pattern_45 : decode cX12_pattern 45 = .ok (.invokevirtual 153, 3) := by decide +kernel
theorem dX12_pattern_48 : decode cX12_pattern 48 = .ok (.ifCond .eq 16, 3) := by decide +kernel
theorem dX12_pattern_51 : decode cX12_pattern 51 = .ok (.aload_n 1, 1) := by decide +kernel
theorem dX12_pattern_52 : decode cX12_pattern 52 = .ok (.getfield 257, 3) := by decide +kernel
theorem dX12_pattern_55 : decode cX12_pattern 55 = .ok (.iload_n 2, 1) := by decide +kernel
theorem dX12_pattern_56 : decode cX12_pattern 56 = .ok (.iconst (-1), 1) := by decide +kernel
theorem dX12_pattern_57 : decode cX12_pattern 57 = .ok (.iastore, 1) := by decide +kernel
theorem dX12_pattern_58 : decode cX12_pattern 58 = .ok (.aload_n 0, 1) := by decide +kernel
theorem dX12_pattern_59 : decode cX12_pattern 59 = .ok (.invokevirtual 150, 3) := by decide +kernel
theorem dX12_pattern_62 : decode cX12_pattern 62 = .ok (.iconst 1, 1) := by decide +kernel
theorem dX12_pattern_63 : decode cX12_pattern 63 = .ok (.ireturn, 1) := by decide +kernel
theorem dX12_pattern_64 : decode cX12_pattern 64 = .ok (.aload_n 0, 1) := by decide +kernel
theorem dX12_pattern_65 : decode cX12_pattern 65 = .ok (.getfield 97, 3) := by decide +kernel
theorem dX12_pattern_68 : decode cX12_pattern 68 = .ok (.iconst 2, 1) := by decide +kernel
theorem dX12_pattern_69 : decode cX12_pattern 69 = .ok (.if_icmp .eq 15, 3) := by decide +kernel
theorem dX12_pattern_72 : decode cX12_pattern 72 = .ok (.aload_n 0, 1) := by decide +kernel
theorem dX12_pattern_73 : decode cX12_pattern 73 = .ok (.iconst 1, 1) := by decide +kernel
theorem dX12_pattern_74 : decode cX12_pattern 74 = .ok (.aload_n 0, 1) := by decide +kernel
theorem dX12_pattern_75 : decode cX12_pattern 75 = .ok (.getfield 91, 3) := by decide +kernel
theorem dX12_pattern_78 : decode cX12_pattern 78 = .ok (.invokevirtual 140, 3) := by decide +kernel
theorem dX12_pattern_81 : decode cX12_pattern 81 = .ok (.pop, 1) := by decide +kernel
theorem dX12_pattern_82 : decode cX12_pattern 82 = .ok (.iconst 0, 1) := by decide +kernel
theorem dX12_pattern_83 : decode cX12_pattern 83 = .ok (.ireturn, 1) := by decide +kernel
theorem dX12_pattern_84 : decode cX12_pattern 84 = .ok (.aload_n 0, 1) := by decide +kernel
theorem dX12_pattern_85 : decode cX12_pattern 85 = .ok (.aload_n 0, 1) := by decide +kernel
theorem dX12_pattern_86 : decode cX12_pattern 86 = .ok (.getfield 84, 3) := by decide +kernel
theorem dX12_pattern_89 : decode cX12_pattern 89 = .ok (.invokevirtual 180, 3) := by decide +kernel
theorem dX12_pattern_92 : decode cX12_pattern 92 = .ok (.istore_n 3, 1) := by decide +kernel
theorem dX12_pattern_93 : decode cX12_pattern 93 = .ok (.iload_n 3, 1) := by decide +kernel
theorem dX12_pattern_94 : decode cX12_pattern 94 = .ok (.iconst (-1), 1) := by decide +kernel
theorem dX12_pattern_95 : decode cX12_pattern 95 = .ok (.if_icmp .ne 15, 3) := by decide +kernel
theorem dX12_pattern_98 : decode cX12_pattern 98 = .ok (.aload_n 0, 1) := by decide +kernel
theorem dX12_pattern_99 : decode cX12_pattern 99 = .ok (.iconst 3, 1) := by decide +kernel
theorem dX12_pattern_100 : decode cX12_pattern 100 = .ok (.aload_n 0, 1) := by decide +kernel
theorem dX12_pattern_101 : decode cX12_pattern 101 = .ok (.getfield 91, 3) := by decide +kernel
theorem dX12_pattern_104 : decode cX12_pattern 104 = .ok (.invokevirtual 140, 3) := by decide +kernel
theorem dX12_pattern_107 : decode cX12_pattern 107 = .ok (.pop, 1) := by decide +kernel
theorem dX12_pattern_108 : decode cX12_pattern 108 = .ok (.iconst 0, 1) := by decide +kernel
theorem dX12_pattern_109 : decode cX12_pattern 109 = .ok (.ireturn, 1) := by decide +kernel
theorem dX12_pattern_110 : decode cX12_pattern 110 = .ok (.aload_n 1, 1) := by decide +kernel
theorem dX12_pattern_111 : decode cX12_pattern 111 = .ok (.getfield 257, 3) := by decide +kernel
theorem dX12_pattern_114 : decode cX12_pattern 114 = .ok (.iload_n 2, 1) := by decide +kernel
theorem dX12_pattern_115 : decode cX12_pattern 115 = .ok (.iload_n 3, 1) := by decide +kernel
theorem dX12_pattern_116 : decode cX12_pattern 116 = .ok (.iastore, 1) := by decide +kernel
theorem dX12_pattern_117 : decode cX12_pattern 117 = .ok (.aload_n 0, 1) := by decide +kernel
theorem dX12_pattern_118 : decode cX12_pattern 118 = .ok (.invokevirtual 150, 3) := by decide +kernel
theorem dX12_pattern_121 : decode cX12_pattern 121 = .ok (.aload_n 0, 1) := by decide +kernel
theorem dX12_pattern_122 : decode cX12_pattern 122 = .ok (.getfield 19, 3) := by decide +kernel
theorem dX12_pattern_125 : decode cX12_pattern 125 = .ok (.iload_n 3, 1) := by decide +kernel
theorem dX12_pattern_126 : decode cX12_pattern 126 = .ok (.iaload, 1) := by decide +kernel
theorem dX12_pattern_127 : decode cX12_pattern 127 = .ok (.newarray .long, 2) := by decide +kernel
theorem dX12_pattern_129 : decode cX12_pattern 129 = .ok (.astore 4, 2) := by decide +kernel
theorem dX12_pattern_131 : decode cX12_pattern 131 = .ok (.iconst 0, 1) := by decide +kernel
theorem dX12_pattern_132 : decode cX12_pattern 132 = .ok (.istore 5, 2) := by decide +kernel
theorem dX12_pattern_134 : decode cX12_pattern 134 = .ok (.iload 5, 2) := by decide +kernel
theorem dX12_pattern_136 : decode cX12_pattern 136 = .ok (.aload 4, 2) := by decide +kernel
theorem dX12_pattern_138 : decode cX12_pattern 138 = .ok (.arraylength, 1) := by decide +kernel
theorem dX12_pattern_139 : decode cX12_pattern 139 = .ok (.if_icmp .ge 90, 3) := by decide +kernel
theorem dX12_pattern_142 : decode cX12_pattern 142 = .ok (.aload_n 0, 1) := by decide +kernel
theorem dX12_pattern_143 : decode cX12_pattern 143 = .ok (.getfield 97, 3) := by decide +kernel
theorem dX12_pattern_146 : decode cX12_pattern 146 = .ok (.iconst 1, 1) := by decide +kernel
theorem dX12_pattern_147 : decode cX12_pattern 147 = .ok (.if_icmp .eq 15, 3) := by decide +kernel
theorem dX12_pattern_150 : decode cX12_pattern 150 = .ok (.aload_n 0, 1) := by decide +kernel
theorem dX12_pattern_151 : decode cX12_pattern 151 = .ok (.iconst 1, 1) := by decide +kernel
theorem dX12_pattern_152 : decode cX12_pattern 152 = .ok (.aload_n 0, 1) := by decide +kernel
theorem dX12_pattern_153 : decode cX12_pattern 153 = .ok (.getfield 91, 3) := by decide +kernel
theorem dX12_pattern_156 : decode cX12_pattern 156 = .ok (.invokevirtual 140, 3) := by decide +kernel
theorem dX12_pattern_159 : decode cX12_pattern 159 = .ok (.pop, 1) := by decide +kernel
theorem dX12_pattern_160 : decode cX12_pattern 160 = .ok (.iconst 0, 1) := by decide +kernel
theorem dX12_pattern_161 : decode cX12_pattern 161 = .ok (.ireturn, 1) := by decide +kernel
theorem dX12_pattern_162 : decode cX12_pattern 162 = .ok (.iconst 0, 1) := by decide +kernel
theorem dX12_pattern_163 : decode cX12_pattern 163 = .ok (.istore 6, 2) := by decide +kernel
theorem dX12_pattern_165 : decode cX12_pattern 165 = .ok (.iload 6, 2) := by decide +kernel
theorem dX12_pattern_167 : decode cX12_pattern 167 = .ok (.iload 5, 2) := by decide +kernel
theorem dX12_pattern_169 : decode cX12_pattern 169 = .ok (.if_icmp .ge 32, 3) := by decide +kernel
theorem dX12_pattern_172 : decode cX12_pattern 172 = .ok (.aload 4, 2) := by decide +kernel
theorem dX12_pattern_174 : decode cX12_pattern 174 = .ok (.iload 6, 2) := by decide +kernel
theorem dX12_pattern_176 : decode cX12_pattern 176 = .ok (.laload, 1) := by decide +kernel
theorem dX12_pattern_177 : decode cX12_pattern 177 = .ok (.aload_n 0, 1) := by decide +kernel
theorem dX12_pattern_178 : decode cX12_pattern 178 = .ok (.getfield 84, 3) := by decide +kernel
theorem dX12_pattern_181 : decode cX12_pattern 181 = .ok (.lcmp, 1) := by decide +kernel
theorem dX12_pattern_182 : decode cX12_pattern 182 = .ok (.ifCond .ne 13, 3) := by decide +kernel
theorem dX12_pattern_185 : decode cX12_pattern 185 = .ok (.aload_n 0, 1) := by decide +kernel
theorem dX12_pattern_186 : decode cX12_pattern 186 = .ok (.iconst 2, 1) := by decide +kernel
theorem dX12_pattern_187 : decode cX12_pattern 187 = .ok (.aload_n 0, 1) := by decide +kernel
theorem dX12_pattern_188 : decode cX12_pattern 188 = .ok (.getfield 91, 3) := by decide +kernel
theorem dX12_pattern_191 : decode cX12_pattern 191 = .ok (.invokevirtual 140, 3) := by decide +kernel
theorem dX12_pattern_194 : decode cX12_pattern 194 = .ok (.pop, 1) := by decide +kernel
theorem dX12_pattern_195 : decode cX12_pattern 195 = .ok (.iinc 6 1, 3) := by decide +kernel
theorem dX12_pattern_198 : decode cX12_pattern 198 = .ok (.goto (-33), 3) := by decide +kernel
theorem dX12_pattern_201 : decode cX12_pattern 201 = .ok (.aload_n 0, 1) := by decide +kernel
theorem dX12_pattern_202 : decode cX12_pattern 202 = .ok (.invokevirtual 147, 3) := by decide +kernel
theorem dX12_pattern_205 : decode cX12_pattern 205 = .ok (.ifCond .ne 5, 3) := by decide +kernel
theorem dX12_pattern_208 : decode cX12_pattern 208 = .ok (.iconst 0, 1) := by decide +kernel
theorem dX12_pattern_209 : decode cX12_pattern 209 = .ok (.ireturn, 1) := by decide +kernel
theorem dX12_pattern_210 : decode cX12_pattern 210 = .ok (.aload 4, 2) := by decide +kernel
theorem dX12_pattern_212 : decode cX12_pattern 212 = .ok (.iload 5, 2) := by decide +kernel
theorem dX12_pattern_214 : decode cX12_pattern 214 = .ok (.aload_n 0, 1) := by decide +kernel
theorem dX12_pattern_215 : decode cX12_pattern 215 = .ok (.getfield 84, 3) := by decide +kernel
theorem dX12_pattern_218 : decode cX12_pattern 218 = .ok (.lastore, 1) := by decide +kernel
theorem dX12_pattern_219 : decode cX12_pattern 219 = .ok (.aload_n 0, 1) := by decide +kernel
theorem dX12_pattern_220 : decode cX12_pattern 220 = .ok (.invokevirtual 150, 3) := by decide +kernel
theorem dX12_pattern_223 : decode cX12_pattern 223 = .ok (.iinc 5 1, 3) := by decide +kernel
theorem dX12_pattern_226 : decode cX12_pattern 226 = .ok (.goto (-92), 3) := by decide +kernel
theorem dX12_pattern_229 : decode cX12_pattern 229 = .ok (.aload_n 1, 1) := by decide +kernel
theorem dX12_pattern_230 : decode cX12_pattern 230 = .ok (.getfield 263, 3) := by decide +kernel
theorem dX12_pattern_233 : decode cX12_pattern 233 = .ok (.iload_n 2, 1) := by decide +kernel
theorem dX12_pattern_234 : decode cX12_pattern 234 = .ok (.aload 4, 2) := by decide +kernel
theorem dX12_pattern_236 : decode cX12_pattern 236 = .ok (.aastore, 1) := by decide +kernel
theorem dX12_pattern_237 : decode cX12_pattern 237 = .ok (.iconst 1, 1) := by decide +kernel
theorem dX12_pattern_238 : decode cX12_pattern 238 = .ok (.ireturn, 1) := by decide +kernel
theorem mw_X12_pattern : MW yX12_pattern (Cond.code yX12_pattern cX12_pattern 7 (Option.some Jvm.ClassFile.FieldType.boolean)) cX12_pattern 7 (Option.some Jvm.ClassFile.FieldType.boolean) 2 := ⟨rfl, ⟨(lw_all_tbl q962), rfl, (lw_all_tbl q180)⟩, rfl, ⟨by decide, by decide⟩, by decide +kernel⟩
abbrev okc_X12_pattern_165 (x : Int × Int × Int × Int × Int × Int) : Prop := R32 x.2.2.1 ∧ 0 < x.2.2.2.1 ∧ R32 x.2.2.2.2.1 ∧ R32 x.2.2.2.2.2
abbrev lvc_X12_pattern_165 (Γ : Gm) (x : Int × Int × Int × Int × Int × Int) : List (Nat × Value) := [(0, vA (mg Γ) x.1), (1, vA (mg Γ) x.2.1), (2, vI x.2.2.1), (4, vA (mg Γ) x.2.2.2.1), (5, vI x.2.2.2.2.1), (6, vI x.2.2.2.2.2)]
noncomputable def c_X12_pattern_195 {A : Type} (k_201 : Int → Int → Int → Int → Int → Mo CH A) (l0 : Int) (l1 : Int) (l2 : Int) (l4 : Int) (l5 : Int) (l6 : Int) : Mo CH ((Int × Int × Int × Int × Int × Int) ⊕ A) :=
  pr (.inl (l0, l1, l2, l4, l5, (w32 (l6 + 1))))
theorem sc_X12_pattern_195 {Γ : Gm} {ts : TS} {d : Nat} (o : Ok Γ "LazyForge$Reader" cX12_pattern 7 (Option.some Jvm.ClassFile.FieldType.boolean) (d + 6)) {A : Type} {K : A → CH → Prop}  (k_201 : Int → Int → Int → Int → Int → Mo CH A) (hk_201 : ∀ (l0 : Int) (l1 : Int) (l2 : Int) (l4 : Int) (l5 : Int), R32 l2 → 0 < l4 → R32 l5 → Sx Γ (fun h => (h, ts)) K 201 [(0, vA (mg Γ) l0), (1, vA (mg Γ) l1), (2, vI l2), (4, vA (mg Γ) l4), (5, vI l5)] [] (k_201 l0 l1 l2 l4 l5)) (l0 : Int) (l1 : Int) (l2 : Int) (l4 : Int) (l5 : Int) (l6 : Int) (hl2 : R32 l2) (hl4 : 0 < l4) (hl5 : R32 l5) (hl6 : R32 l6) : Sx Γ (fun h => (h, ts)) (KL Γ (fun h => (h, ts)) okc_X12_pattern_165 K 165 (lvc_X12_pattern_165 Γ) []) 195 [(0, vA (mg Γ) l0), (1, vA (mg Γ) l1), (2, vI l2), (4, vA (mg Γ) l4), (5, vI l5), (6, vI l6)] [] (c_X12_pattern_195 k_201 l0 l1 l2 l4 l5 l6) := by
  unfold c_X12_pattern_195
  refine r_iinc (j := 5) o dX12_pattern_195 rfl rfl [(0, vA (mg Γ) l0), (1, vA (mg Γ) l1), (2, vI l2), (4, vA (mg Γ) l4), (5, vI l5)] [0, 1, 2, 3, 4] rfl ⟨(Nat.ne_of_beq_eq_false rfl), (fun _ => (vA_cat (mg Γ) l0)), ⟨(Nat.ne_of_beq_eq_false rfl), (fun _ => (vA_cat (mg Γ) l1)), ⟨(Nat.ne_of_beq_eq_false rfl), (fun _ => rfl), ⟨(Nat.ne_of_beq_eq_false rfl), (fun _ => (vA_cat (mg Γ) l4)), ⟨(Nat.ne_of_beq_eq_false rfl), (fun _ => rfl), trivial⟩⟩⟩⟩⟩ ?_
  refine s_goto (tgt := 165) o dX12_pattern_198 (by decide) ?_
  refine r_to [(0, vA (mg Γ) l0), (1, vA (mg Γ) l1), (2, vI l2), (4, vA (mg Γ) l4), (5, vI l5), (6, vI (w32 (l6 + 1)))] [1, 2, 3, 4, 5, 0] rfl ?_
  exact s_back (⟨hl2, hl4, hl5, (w32_R _)⟩) rfl
noncomputable def c_X12_pattern_165b {A : Type} (k_201 : Int → Int → Int → Int → Int → Mo CH A) (l0 : Int) (l1 : Int) (l2 : Int) (l4 : Int) (l5 : Int) (l6 : Int) : Mo CH ((Int × Int × Int × Int × Int × Int) ⊕ A) :=
  if l5 ≤ l6 then
    lo (k_201 l0 l1 l2 l4 l5)
  else
    bnd (ald 1 l4 l6) fun v1 =>
    bnd (gf [112] 8 l0) fun v2 =>
    if ¬ v1 = v2 then
      c_X12_pattern_195 k_201 l0 l1 l2 l4 l5 l6
    else
      bnd (gf [112] 5 l0) fun v3 =>
      bnd (isk 112 l0) fun _ =>
      bnd (c_X12_fail l0 2 v3) fun v4 =>
      c_X12_pattern_195 k_201 l0 l1 l2 l4 l5 l6
theorem sc_X12_pattern_165b {Γ : Gm} {ts : TS} {d : Nat} (o : Ok Γ "LazyForge$Reader" cX12_pattern 7 (Option.some Jvm.ClassFile.FieldType.boolean) (d + 6)) {A : Type} {K : A → CH → Prop} (k_201 : Int → Int → Int → Int → Int → Mo CH A) (hk_201 : ∀ (l0 : Int) (l1 : Int) (l2 : Int) (l4 : Int) (l5 : Int), R32 l2 → 0 < l4 → R32 l5 → Sx Γ (fun h => (h, ts)) K 201 [(0, vA (mg Γ) l0), (1, vA (mg Γ) l1), (2, vI l2), (4, vA (mg Γ) l4), (5, vI l5)] [] (k_201 l0 l1 l2 l4 l5)) (l0 : Int) (l1 : Int) (l2 : Int) (l4 : Int) (l5 : Int) (l6 : Int) (hl2 : R32 l2) (hl4 : 0 < l4) (hl5 : R32 l5) (hl6 : R32 l6) : Sx Γ (fun h => (h, ts)) (KL Γ (fun h => (h, ts)) okc_X12_pattern_165 K 165 (lvc_X12_pattern_165 Γ) []) 165 [(0, vA (mg Γ) l0), (1, vA (mg Γ) l1), (2, vI l2), (4, vA (mg Γ) l4), (5, vI l5), (6, vI l6)] [] (c_X12_pattern_165b k_201 l0 l1 l2 l4 l5 l6) := by
  unfold c_X12_pattern_165b
  refine s_iload o dX12_pattern_165 5 rfl ?_
  refine s_iload o dX12_pattern_167 4 rfl ?_
  refine s_icmp_ge (tgt := 201) o dX12_pattern_169 (by decide) hl6 hl5 ?_ ?_
  · refine r_to [(0, vA (mg Γ) l0), (1, vA (mg Γ) l1), (2, vI l2), (4, vA (mg Γ) l4), (5, vI l5)] [0, 1, 2, 3, 4] rfl ?_
    exact s_lo (hk_201 l0 l1 l2 l4 l5 hl2 hl4 hl5)
  · refine s_aload o dX12_pattern_172 3 rfl ?_
    refine s_iload o dX12_pattern_174 5 rfl ?_
    refine r_lald o hl6 dX12_pattern_176 (fun v1 hv1 => ?_)
    refine s_aload_n o dX12_pattern_177 rfl 0 rfl ?_
    refine r_getf vJ rfl o cf_X12_word (Or.inl (lw_all_tbl q661)) dX12_pattern_178 (fun v2 hv2 => ?_)
    refine s_lcmp_ne (tgt := 195) o dX12_pattern_181 dX12_pattern_182 (by decide) hv1 hv2 ?_ ?_
    · exact sc_X12_pattern_195 o k_201 hk_201 l0 l1 l2 l4 l5 l6 hl2 hl4 hl5 hl6
    · refine s_aload_n o dX12_pattern_185 rfl 0 rfl ?_
      refine s_iconst o dX12_pattern_186 ?_
      refine s_aload_n o dX12_pattern_187 rfl 0 rfl ?_
      refine r_getf vI rfl o cf_X12_place (Or.inl (lw_all_tbl q658)) dX12_pattern_188 (fun v3 hv3 => ?_)
      refine s_cvC (d := d + 5) (As := [vI 2, vI v3]) (st := []) (c := 12) o (sc_X12_fail (mg Γ) (d + 5) ts l0 2 v3 (r32 rfl) hv3) mw_X12_fail rfl (Or.inl (lw_all_tbl q846)) rfl (lw_all_tbl qs9) (lw_all_tbl q848) wt_0 rfl dX12_pattern_191 rfl (rs := fun r => [vA (mg Γ) r]) (fun _ => rfl) (fun v4 hv4 => ?_)
      refine s_pop o dX12_pattern_194 (vA_cat (mg Γ) v4) ?_
      exact sc_X12_pattern_195 o k_201 hk_201 l0 l1 l2 l4 l5 l6 hl2 hl4 hl5 hl6
noncomputable def c_X12_pattern_165 {A : Type} (k_201 : Int → Int → Int → Int → Int → Mo CH A) (l0 : Int) (l1 : Int) (l2 : Int) (l4 : Int) (l5 : Int) (l6 : Int) : Mo CH A := Loop (fun x => c_X12_pattern_165b k_201 x.1 x.2.1 x.2.2.1 x.2.2.2.1 x.2.2.2.2.1 x.2.2.2.2.2) (l0, l1, l2, l4, l5, l6)
theorem sc_X12_pattern_165 {Γ : Gm} {ts : TS} {d : Nat} (o : Ok Γ "LazyForge$Reader" cX12_pattern 7 (Option.some Jvm.ClassFile.FieldType.boolean) (d + 6)) {A : Type} {K : A → CH → Prop} (k_201 : Int → Int → Int → Int → Int → Mo CH A) (hk_201 : ∀ (l0 : Int) (l1 : Int) (l2 : Int) (l4 : Int) (l5 : Int), R32 l2 → 0 < l4 → R32 l5 → Sx Γ (fun h => (h, ts)) K 201 [(0, vA (mg Γ) l0), (1, vA (mg Γ) l1), (2, vI l2), (4, vA (mg Γ) l4), (5, vI l5)] [] (k_201 l0 l1 l2 l4 l5)) (l0 : Int) (l1 : Int) (l2 : Int) (l4 : Int) (l5 : Int) (l6 : Int) (hl2 : R32 l2) (hl4 : 0 < l4) (hl5 : R32 l5) (hl6 : R32 l6) : Sx Γ (fun h => (h, ts)) K 165 [(0, vA (mg Γ) l0), (1, vA (mg Γ) l1), (2, vI l2), (4, vA (mg Γ) l4), (5, vI l5), (6, vI l6)] [] (c_X12_pattern_165 k_201 l0 l1 l2 l4 l5 l6) :=
  s_loop okc_X12_pattern_165 (lvc_X12_pattern_165 Γ) (fun x hx => sc_X12_pattern_165b o k_201 hk_201 x.1 x.2.1 x.2.2.1 x.2.2.2.1 x.2.2.2.2.1 x.2.2.2.2.2 hx.1 hx.2.1 hx.2.2.1 hx.2.2.2) (x := (l0, l1, l2, l4, l5, l6)) ⟨hl2, hl4, hl5, hl6⟩
abbrev okc_X12_pattern_134 (x : Int × Int × Int × Int × Int) : Prop := R32 x.2.2.1 ∧ 0 < x.2.2.2.1 ∧ R32 x.2.2.2.2
abbrev lvc_X12_pattern_134 (Γ : Gm) (x : Int × Int × Int × Int × Int) : List (Nat × Value) := [(0, vA (mg Γ) x.1), (1, vA (mg Γ) x.2.1), (2, vI x.2.2.1), (4, vA (mg Γ) x.2.2.2.1), (5, vI x.2.2.2.2)]
noncomputable def c_X12_pattern_134b {A : Type} (k_150 : Int → Mo CH A) (k_208 : Mo CH A) (k_229 : Int → Int → Int → Mo CH A) (l0 : Int) (l1 : Int) (l2 : Int) (l4 : Int) (l5 : Int) : Mo CH ((Int × Int × Int × Int × Int) ⊕ A) :=
  bnd (aln l4) fun v1 =>
  if v1 ≤ l5 then
    lo (k_229 l1 l2 l4)
  else
    bnd (gf [112] 4 l0) fun v2 =>
    if v2 = 1 then
      c_X12_pattern_165
        (fun v3 v4 v5 v6 v7 => bnd (isk 112 v3) fun _ =>
      bnd (c_X12_isGood v3) fun v8 =>
      if ¬ v8 = 0 then
        bnd (gf [112] 8 v3) fun v9 =>
        bnd (ast 1 v6 v7 v9) fun _ =>
        bnd (isk 112 v3) fun _ =>
        bnd (c_X12_next v3) fun _ =>
        pr (.inl (v3, v4, v5, v6, (w32 (v7 + 1))))
      else
        lo k_208) l0 l1 l2 l4 l5 0
    else
      lo (k_150 l0)
theorem sc_X12_pattern_134b {Γ : Gm} {ts : TS} {d : Nat} (o : Ok Γ "LazyForge$Reader" cX12_pattern 7 (Option.some Jvm.ClassFile.FieldType.boolean) (d + 6)) {A : Type} {K : A → CH → Prop} (k_150 : Int → Mo CH A) (k_208 : Mo CH A) (k_229 : Int → Int → Int → Mo CH A) (hk_150 : ∀ (l0 : Int), Sx Γ (fun h => (h, ts)) K 150 [(0, vA (mg Γ) l0)] [] (k_150 l0)) (hk_208 : Sx Γ (fun h => (h, ts)) K 208 [] [] (k_208)) (hk_229 : ∀ (l1 : Int) (l2 : Int) (l4 : Int), R32 l2 → 0 < l4 → Sx Γ (fun h => (h, ts)) K 229 [(1, vA (mg Γ) l1), (2, vI l2), (4, vA (mg Γ) l4)] [] (k_229 l1 l2 l4)) (l0 : Int) (l1 : Int) (l2 : Int) (l4 : Int) (l5 : Int) (hl2 : R32 l2) (hl4 : 0 < l4) (hl5 : R32 l5) : Sx Γ (fun h => (h, ts)) (KL Γ (fun h => (h, ts)) okc_X12_pattern_134 K 134 (lvc_X12_pattern_134 Γ) []) 134 [(0, vA (mg Γ) l0), (1, vA (mg Γ) l1), (2, vI l2), (4, vA (mg Γ) l4), (5, vI l5)] [] (c_X12_pattern_134b k_150 k_208 k_229 l0 l1 l2 l4 l5) := by
  unfold c_X12_pattern_134b
  refine s_iload o dX12_pattern_134 4 rfl ?_
  refine s_aload o dX12_pattern_136 3 rfl ?_
  refine s_alen o dX12_pattern_138 (fun v1 hv1 => ?_)
  refine s_icmp_ge (tgt := 229) o dX12_pattern_139 (by decide) hl5 (rN hv1) ?_ ?_
  · refine r_to [(1, vA (mg Γ) l1), (2, vI l2), (4, vA (mg Γ) l4)] [1, 2, 3] rfl ?_
    exact s_lo (hk_229 l1 l2 l4 hl2 hl4)
  · refine s_aload_n o dX12_pattern_142 rfl 0 rfl ?_
    refine r_getf vI rfl o cf_X12_sort (Or.inl (lw_all_tbl q657)) dX12_pattern_143 (fun v2 hv2 => ?_)
    refine s_iconst o dX12_pattern_146 ?_
    refine s_icmp_eq (tgt := 162) o dX12_pattern_147 (by decide) hv2 (r32 rfl) ?_ ?_
    · refine s_iconst o dX12_pattern_162 ?_
      refine r_istore o dX12_pattern_163 rfl ⟨(Nat.ne_of_beq_eq_false rfl), (fun _ => (vA_cat (mg Γ) l0)), ⟨(Nat.ne_of_beq_eq_false rfl), (fun _ => (vA_cat (mg Γ) l1)), ⟨(Nat.ne_of_beq_eq_false rfl), (fun _ => rfl), ⟨(Nat.ne_of_beq_eq_false rfl), (fun _ => (vA_cat (mg Γ) l4)), ⟨(Nat.ne_of_beq_eq_false rfl), (fun _ => rfl), trivial⟩⟩⟩⟩⟩ ?_
      refine r_to [(0, vA (mg Γ) l0), (1, vA (mg Γ) l1), (2, vI l2), (4, vA (mg Γ) l4), (5, vI l5), (6, vI 0)] [1, 2, 3, 4, 5, 0] rfl ?_
      refine sc_X12_pattern_165 o _ ?_ l0 l1 l2 l4 l5 0 hl2 hl4 hl5 (r32 rfl)
      · intro v3 v4 v5 v6 v7 hv5 hv6 hv7
        refine s_aload_n o dX12_pattern_201 rfl 0 rfl ?_
        refine s_cvC (d := d + 5) (As := []) (st := []) (c := 12) o (sc_X12_isGood (mg Γ) (d + 5) ts v3) mw_X12_isGood rfl (Or.inl (lw_all_tbl q833)) rfl (lw_all_tbl qs6) (lw_all_tbl q835) wt_0 rfl dX12_pattern_202 rfl (rs := fun r => [vI r]) (fun _ => rfl) (fun v8 hv8 => ?_)
        refine s_if_ne (tgt := 210) o dX12_pattern_205 (by decide) (rZ (hv8 _ rfl)) ?_ ?_
        · refine s_aload o dX12_pattern_210 3 rfl ?_
          refine s_iload o dX12_pattern_212 4 rfl ?_
          refine s_aload_n o dX12_pattern_214 rfl 0 rfl ?_
          refine r_getf vJ rfl o cf_X12_word (Or.inl (lw_all_tbl q661)) dX12_pattern_215 (fun v9 hv9 => ?_)
          refine r_last o hv7 hv9 dX12_pattern_218 ?_
          refine s_aload_n o dX12_pattern_219 rfl 0 rfl ?_
          refine s_cvC (d := d + 5) (As := []) (st := []) (c := 12) o (sc_X12_next (mg Γ) d ts v3) mw_X12_next rfl (Or.inl (lw_all_tbl q743)) rfl (lw_all_tbl qs2) (lw_all_tbl q745) wt_0 rfl dX12_pattern_220 rfl (rs := fun _ => []) (fun _ => rfl) (fun _ _ => ?_)
          refine r_iinc (j := 4) o dX12_pattern_223 rfl rfl [(0, vA (mg Γ) v3), (1, vA (mg Γ) v4), (2, vI v5), (4, vA (mg Γ) v6)] [0, 1, 2, 3] rfl ⟨(Nat.ne_of_beq_eq_false rfl), (fun _ => (vA_cat (mg Γ) v3)), ⟨(Nat.ne_of_beq_eq_false rfl), (fun _ => (vA_cat (mg Γ) v4)), ⟨(Nat.ne_of_beq_eq_false rfl), (fun _ => rfl), ⟨(Nat.ne_of_beq_eq_false rfl), (fun _ => (vA_cat (mg Γ) v6)), trivial⟩⟩⟩⟩ ?_
          refine s_goto (tgt := 134) o dX12_pattern_226 (by decide) ?_
          refine r_to [(0, vA (mg Γ) v3), (1, vA (mg Γ) v4), (2, vI v5), (4, vA (mg Γ) v6), (5, vI (w32 (v7 + 1)))] [1, 2, 3, 4, 0] rfl ?_
          exact s_back (⟨hv5, hv6, (w32_R _)⟩) rfl
        · refine r_to [] [] rfl ?_
          exact s_lo hk_208
    · refine r_to [(0, vA (mg Γ) l0)] [0] rfl ?_
      exact s_lo (hk_150 l0)
noncomputable def c_X12_pattern_134 {A : Type} (k_150 : Int → Mo CH A) (k_208 : Mo CH A) (k_229 : Int → Int → Int → Mo CH A) (l0 : Int) (l1 : Int) (l2 : Int) (l4 : Int) (l5 : Int) : Mo CH A := Loop (fun x => c_X12_pattern_134b k_150 k_208 k_229 x.1 x.2.1 x.2.2.1 x.2.2.2.1 x.2.2.2.2) (l0, l1, l2, l4, l5)
theorem sc_X12_pattern_134 {Γ : Gm} {ts : TS} {d : Nat} (o : Ok Γ "LazyForge$Reader" cX12_pattern 7 (Option.some Jvm.ClassFile.FieldType.boolean) (d + 6)) {A : Type} {K : A → CH → Prop} (k_150 : Int → Mo CH A) (k_208 : Mo CH A) (k_229 : Int → Int → Int → Mo CH A) (hk_150 : ∀ (l0 : Int), Sx Γ (fun h => (h, ts)) K 150 [(0, vA (mg Γ) l0)] [] (k_150 l0)) (hk_208 : Sx Γ (fun h => (h, ts)) K 208 [] [] (k_208)) (hk_229 : ∀ (l1 : Int) (l2 : Int) (l4 : Int), R32 l2 → 0 < l4 → Sx Γ (fun h => (h, ts)) K 229 [(1, vA (mg Γ) l1), (2, vI l2), (4, vA (mg Γ) l4)] [] (k_229 l1 l2 l4)) (l0 : Int) (l1 : Int) (l2 : Int) (l4 : Int) (l5 : Int) (hl2 : R32 l2) (hl4 : 0 < l4) (hl5 : R32 l5) : Sx Γ (fun h => (h, ts)) K 134 [(0, vA (mg Γ) l0), (1, vA (mg Γ) l1), (2, vI l2), (4, vA (mg Γ) l4), (5, vI l5)] [] (c_X12_pattern_134 k_150 k_208 k_229 l0 l1 l2 l4 l5) :=
  s_loop okc_X12_pattern_134 (lvc_X12_pattern_134 Γ) (fun x hx => sc_X12_pattern_134b o k_150 k_208 k_229 hk_150 hk_208 hk_229 x.1 x.2.1 x.2.2.1 x.2.2.2.1 x.2.2.2.2 hx.1 hx.2.1 hx.2.2) (x := (l0, l1, l2, l4, l5)) ⟨hl2, hl4, hl5⟩
noncomputable def c_X12_pattern (l0 : Int) (l1 : Int) (l2 : Int) : Mo CH Int :=
  bnd (gf [113] 9 l1) fun v1 =>
  bnd (newa 1 0) fun v2 =>
  bnd (asq 8 v1 l2 v2) fun _ =>
  bnd (gf [112] 4 l0) fun v3 =>
  if ¬ v3 = 4 then
    bnd (isk 112 l0) fun _ =>
    bnd (c_X12_isSign l0 (-15)) fun v4 =>
    if v4 = 0 then
      bnd (gf [112] 4 l0) fun v5 =>
      if v5 = 2 then
        bnd (gf [112] 8 l0) fun v6 =>
        bnd (isk 112 l0) fun _ =>
        bnd (c_X12_constructor l0 v6) fun v7 =>
        if ¬ v7 = (-1) then
          bnd (gf [113] 7 l1) fun v8 =>
          bnd (ast 0 v8 l2 v7) fun _ =>
          bnd (isk 112 l0) fun _ =>
          bnd (c_X12_next l0) fun _ =>
          bnd (gf [112] 14 l0) fun v9 =>
          bnd (ald 0 v9 v7) fun v10 =>
          bnd (newa 1 v10) fun v11 =>
          c_X12_pattern_134
            (fun v12 => bnd (gf [112] 5 v12) fun v13 =>
          bnd (isk 112 v12) fun _ =>
          bnd (c_X12_fail v12 1 v13) fun v14 =>
          pr 0)
            (pr 0)
            (fun v15 v16 v17 => bnd (gf [113] 9 v15) fun v18 =>
          bnd (asq 8 v18 v16 v17) fun _ =>
          pr 1) l0 l1 l2 v11 0
        else
          bnd (gf [112] 5 l0) fun v19 =>
          bnd (isk 112 l0) fun _ =>
          bnd (c_X12_fail l0 3 v19) fun v20 =>
          pr 0
      else
        bnd (gf [112] 5 l0) fun v21 =>
        bnd (isk 112 l0) fun _ =>
        bnd (c_X12_fail l0 1 v21) fun v22 =>
        pr 0
    else
      bnd (gf [113] 7 l1) fun v23 =>
      bnd (ast 0 v23 l2 (-1)) fun _ =>
      bnd (isk 112 l0) fun _ =>
      bnd (c_X12_next l0) fun _ =>
      pr 1
  else
    bnd (gf [113] 7 l1) fun v24 =>
    bnd (ast 0 v24 l2 (-2)) fun _ =>
    bnd (gf [113] 8 l1) fun v25 =>
    bnd (gf [112] 6 l0) fun v26 =>
    bnd (ast 0 v25 l2 v26) fun _ =>
    bnd (isk 112 l0) fun _ =>
    bnd (c_X12_next l0) fun _ =>
    pr 1
theorem sc_X12_pattern (g : gC) (d : Nat) (ts : TS) (l0 : Int) (l1 : Int) (l2 : Int) (hl2 : R32 l2) : SF g yX12_pattern (Cond.code yX12_pattern cX12_pattern 7 (Option.some Jvm.ClassFile.FieldType.boolean)) (Option.some Jvm.ClassFile.FieldType.boolean) (d + 6) [vA g l0, vA g l1, vI l2] (fun h => (h, ts)) (c_X12_pattern l0 l1 l2) := by
  refine SF.of (lv := [(0, vA g l0), (1, vA g l1), (2, vI l2)]) (by decide) (wt_A (wt_A (wt_I wt_0))) rfl (by simp only [la_A, la_I, la_J, la_0]) (fun Γ hg hnm o => ?_)
  subst hg
  have o : Ok Γ "LazyForge$Reader" cX12_pattern 7 (Option.some Jvm.ClassFile.FieldType.boolean) (d + 6) := o
  unfold c_X12_pattern
  refine s_aload_n o dX12_pattern_0 rfl 1 rfl ?_
  refine r_getf (vA (mg Γ)) rfl o cf_X13_bound (Or.inr (Or.inl ⟨_, q916⟩)) dX12_pattern_1 (fun v1 hv1 => ?_)
  refine s_iload_n o dX12_pattern_4 rfl 2 rfl ?_
  refine s_iconst o dX12_pattern_5 ?_
  refine s_newa (kd := 1) o (by decide) rfl (by decide) (o.ra (by decide)) (lw_all_tbl q438) (r32 rfl) dX12_pattern_6 (fun v2 hv2 => ?_)
  refine s_aast (kd := 8) o (by decide) (as_8 o) (Or.inr rfl) hl2 dX12_pattern_8 ?_
  refine s_aload_n o dX12_pattern_9 rfl 0 rfl ?_
  refine r_getf vI rfl o cf_X12_sort (Or.inl (lw_all_tbl q657)) dX12_pattern_10 (fun v3 hv3 => ?_)
  refine s_iconst o dX12_pattern_13 ?_
  refine s_icmp_ne (tgt := 41) o dX12_pattern_14 (by decide) hv3 (r32 rfl) ?_ ?_
  · refine s_aload_n o dX12_pattern_41 rfl 0 rfl ?_
    refine s_ldcwS (tx := "_") (k := 15) o (by decide +kernel) rfl (by decide) dX12_pattern_42 ?_
    refine s_cvC (d := d + 5) (As := [vA (mg Γ) (-15)]) (st := []) (c := 12) o (sc_X12_isSign (mg Γ) d ts l0 (-15)) mw_X12_isSign rfl (Or.inl (lw_all_tbl q859)) rfl (lw_all_tbl qs12) (lw_all_tbl q861) wt_0 rfl dX12_pattern_45 rfl (rs := fun r => [vI r]) (fun _ => rfl) (fun v4 hv4 => ?_)
    refine s_if_eq (tgt := 64) o dX12_pattern_48 (by decide) (rZ (hv4 _ rfl)) ?_ ?_
    · refine s_aload_n o dX12_pattern_64 rfl 0 rfl ?_
      refine r_getf vI rfl o cf_X12_sort (Or.inl (lw_all_tbl q657)) dX12_pattern_65 (fun v5 hv5 => ?_)
      refine s_iconst o dX12_pattern_68 ?_
      refine s_icmp_eq (tgt := 84) o dX12_pattern_69 (by decide) hv5 (r32 rfl) ?_ ?_
      · refine s_aload_n o dX12_pattern_84 rfl 0 rfl ?_
        refine s_aload_n o dX12_pattern_85 rfl 0 rfl ?_
        refine r_getf vJ rfl o cf_X12_word (Or.inl (lw_all_tbl q661)) dX12_pattern_86 (fun v6 hv6 => ?_)
        refine s_cvC (d := d + 5) (As := [vJ v6]) (st := []) (c := 12) o (sc_X12_constructor (mg Γ) (d + 5) ts l0 v6 hv6) mw_X12_constructor rfl (Or.inl (lw_all_tbl q850)) rfl (lw_all_tbl qs10) (lw_all_tbl q852) wt_0 rfl dX12_pattern_89 rfl (rs := fun r => [vI r]) (fun _ => rfl) (fun v7 hv7 => ?_)
        refine r_istore_n o dX12_pattern_92 rfl rfl ⟨(Nat.ne_of_beq_eq_false rfl), (fun _ => (vA_cat (mg Γ) l0)), ⟨(Nat.ne_of_beq_eq_false rfl), (fun _ => (vA_cat (mg Γ) l1)), ⟨(Nat.ne_of_beq_eq_false rfl), (fun _ => rfl), trivial⟩⟩⟩ ?_
        refine s_iload_n o dX12_pattern_93 rfl 0 rfl ?_
        refine s_iconst o dX12_pattern_94 ?_
        refine s_icmp_ne (tgt := 110) o dX12_pattern_95 (by decide) (hv7 _ rfl) (r32 rfl) ?_ ?_
        · refine s_aload_n o dX12_pattern_110 rfl 2 rfl ?_
          refine r_getf (vA (mg Γ)) rfl o cf_X13_patterns (Or.inr (Or.inl ⟨_, q912⟩)) dX12_pattern_111 (fun v8 hv8 => ?_)
          refine s_iload_n o dX12_pattern_114 rfl 3 rfl ?_
          refine s_iload_n o dX12_pattern_115 rfl 0 rfl ?_
          refine r_iast o hl2 (hv7 _ rfl) dX12_pattern_116 ?_
          refine s_aload_n o dX12_pattern_117 rfl 1 rfl ?_
          refine s_cvC (d := d + 5) (As := []) (st := []) (c := 12) o (sc_X12_next (mg Γ) d ts l0) mw_X12_next rfl (Or.inl (lw_all_tbl q743)) rfl (lw_all_tbl qs2) (lw_all_tbl q745) wt_0 rfl dX12_pattern_118 rfl (rs := fun _ => []) (fun _ => rfl) (fun _ _ => ?_)
          refine s_aload_n o dX12_pattern_121 rfl 1 rfl ?_
          refine r_getf (vA (mg Γ)) rfl o cf_X12_fields (Or.inl (lw_all_tbl q671)) dX12_pattern_122 (fun v9 hv9 => ?_)
          refine s_iload_n o dX12_pattern_125 rfl 0 rfl ?_
          refine r_iald o (hv7 _ rfl) dX12_pattern_126 (fun v10 hv10 => ?_)
          refine s_newa (kd := 1) o (by decide) rfl (by decide) (o.ra (by decide)) (lw_all_tbl q438) hv10 dX12_pattern_127 (fun v11 hv11 => ?_)
          refine r_astore o dX12_pattern_129 rfl ⟨(Nat.ne_of_beq_eq_false rfl), (fun _ => rfl), ⟨(Nat.ne_of_beq_eq_false rfl), (fun _ => (vA_cat (mg Γ) l0)), ⟨(Nat.ne_of_beq_eq_false rfl), (fun _ => (vA_cat (mg Γ) l1)), ⟨(Nat.ne_of_beq_eq_false rfl), (fun _ => rfl), trivial⟩⟩⟩⟩ ?_
          refine s_iconst o dX12_pattern_131 ?_
          refine r_istore o dX12_pattern_132 rfl ⟨(Nat.ne_of_beq_eq_false rfl), (fun _ => (vA_cat (mg Γ) v11)), ⟨(Nat.ne_of_beq_eq_false rfl), (fun _ => rfl), ⟨(Nat.ne_of_beq_eq_false rfl), (fun _ => (vA_cat (mg Γ) l0)), ⟨(Nat.ne_of_beq_eq_false rfl), (fun _ => (vA_cat (mg Γ) l1)), ⟨(Nat.ne_of_beq_eq_false rfl), (fun _ => rfl), trivial⟩⟩⟩⟩⟩ ?_
          refine r_to [(0, vA (mg Γ) l0), (1, vA (mg Γ) l1), (2, vI l2), (4, vA (mg Γ) v11), (5, vI 0)] [3, 4, 5, 1, 0] rfl ?_
          refine sc_X12_pattern_134 o _ _ _ ?_ ?_ ?_ l0 l1 l2 v11 0 hl2 hv11 (r32 rfl)
          · intro v12
            refine s_aload_n o dX12_pattern_150 rfl 0 rfl ?_
            refine s_iconst o dX12_pattern_151 ?_
            refine s_aload_n o dX12_pattern_152 rfl 0 rfl ?_
            refine r_getf vI rfl o cf_X12_place (Or.inl (lw_all_tbl q658)) dX12_pattern_153 (fun v13 hv13 => ?_)
            refine s_cvC (d := d + 5) (As := [vI 1, vI v13]) (st := []) (c := 12) o (sc_X12_fail (mg Γ) (d + 5) ts v12 1 v13 (r32 rfl) hv13) mw_X12_fail rfl (Or.inl (lw_all_tbl q846)) rfl (lw_all_tbl qs9) (lw_all_tbl q848) wt_0 rfl dX12_pattern_156 rfl (rs := fun r => [vA (mg Γ) r]) (fun _ => rfl) (fun v14 hv14 => ?_)
            refine s_pop o dX12_pattern_159 (vA_cat (mg Γ) v14) ?_
            refine s_iconst o dX12_pattern_160 ?_
            exact s_iret o rfl i_boolean (Or.inl rfl) dX12_pattern_161 (fun _ hh => hh)
          · refine s_iconst o dX12_pattern_208 ?_
            exact s_iret o rfl i_boolean (Or.inl rfl) dX12_pattern_209 (fun _ hh => hh)
          · intro v15 v16 v17 hv16 hv17
            refine s_aload_n o dX12_pattern_229 rfl 0 rfl ?_
            refine r_getf (vA (mg Γ)) rfl o cf_X13_bound (Or.inr (Or.inl ⟨_, q916⟩)) dX12_pattern_230 (fun v18 hv18 => ?_)
            refine s_iload_n o dX12_pattern_233 rfl 1 rfl ?_
            refine s_aload o dX12_pattern_234 2 rfl ?_
            refine s_aast (kd := 8) o (by decide) (as_8 o) (Or.inr rfl) hv16 dX12_pattern_236 ?_
            refine s_iconst o dX12_pattern_237 ?_
            exact s_iret o rfl i_boolean (Or.inr rfl) dX12_pattern_238 (fun _ hh => hh)
        · refine s_aload_n o dX12_pattern_98 rfl 1 rfl ?_
          refine s_iconst o dX12_pattern_99 ?_
          refine s_aload_n o dX12_pattern_100 rfl 1 rfl ?_
          refine r_getf vI rfl o cf_X12_place (Or.inl (lw_all_tbl q658)) dX12_pattern_101 (fun v19 hv19 => ?_)
          refine s_cvC (d := d + 5) (As := [vI 3, vI v19]) (st := []) (c := 12) o (sc_X12_fail (mg Γ) (d + 5) ts l0 3 v19 (r32 rfl) hv19) mw_X12_fail rfl (Or.inl (lw_all_tbl q846)) rfl (lw_all_tbl qs9) (lw_all_tbl q848) wt_0 rfl dX12_pattern_104 rfl (rs := fun r => [vA (mg Γ) r]) (fun _ => rfl) (fun v20 hv20 => ?_)
          refine s_pop o dX12_pattern_107 (vA_cat (mg Γ) v20) ?_
          refine s_iconst o dX12_pattern_108 ?_
          exact s_iret o rfl i_boolean (Or.inl rfl) dX12_pattern_109 (fun _ hh => hh)
      · refine s_aload_n o dX12_pattern_72 rfl 0 rfl ?_
        refine s_iconst o dX12_pattern_73 ?_
        refine s_aload_n o dX12_pattern_74 rfl 0 rfl ?_
        refine r_getf vI rfl o cf_X12_place (Or.inl (lw_all_tbl q658)) dX12_pattern_75 (fun v21 hv21 => ?_)
        refine s_cvC (d := d + 5) (As := [vI 1, vI v21]) (st := []) (c := 12) o (sc_X12_fail (mg Γ) (d + 5) ts l0 1 v21 (r32 rfl) hv21) mw_X12_fail rfl (Or.inl (lw_all_tbl q846)) rfl (lw_all_tbl qs9) (lw_all_tbl q848) wt_0 rfl dX12_pattern_78 rfl (rs := fun r => [vA (mg Γ) r]) (fun _ => rfl) (fun v22 hv22 => ?_)
        refine s_pop o dX12_pattern_81 (vA_cat (mg Γ) v22) ?_
        refine s_iconst o dX12_pattern_82 ?_
        exact s_iret o rfl i_boolean (Or.inl rfl) dX12_pattern_83 (fun _ hh => hh)
    · refine s_aload_n o dX12_pattern_51 rfl 1 rfl ?_
      refine r_getf (vA (mg Γ)) rfl o cf_X13_patterns (Or.inr (Or.inl ⟨_, q912⟩)) dX12_pattern_52 (fun v23 hv23 => ?_)
      refine s_iload_n o dX12_pattern_55 rfl 2 rfl ?_
      refine s_iconst o dX12_pattern_56 ?_
      refine r_iast o hl2 (r32 rfl) dX12_pattern_57 ?_
      refine s_aload_n o dX12_pattern_58 rfl 0 rfl ?_
      refine s_cvC (d := d + 5) (As := []) (st := []) (c := 12) o (sc_X12_next (mg Γ) d ts l0) mw_X12_next rfl (Or.inl (lw_all_tbl q743)) rfl (lw_all_tbl qs2) (lw_all_tbl q745) wt_0 rfl dX12_pattern_59 rfl (rs := fun _ => []) (fun _ => rfl) (fun _ _ => ?_)
      refine s_iconst o dX12_pattern_62 ?_
      exact s_iret o rfl i_boolean (Or.inr rfl) dX12_pattern_63 (fun _ hh => hh)
  · refine s_aload_n o dX12_pattern_17 rfl 1 rfl ?_
    refine r_getf (vA (mg Γ)) rfl o cf_X13_patterns (Or.inr (Or.inl ⟨_, q912⟩)) dX12_pattern_18 (fun v24 hv24 => ?_)
    refine s_iload_n o dX12_pattern_21 rfl 2 rfl ?_
    refine s_bipush o dX12_pattern_22 rfl ?_
    refine r_iast o hl2 (r32 rfl) dX12_pattern_24 ?_
    refine s_aload_n o dX12_pattern_25 rfl 1 rfl ?_
    refine r_getf (vA (mg Γ)) rfl o cf_X13_numbers (Or.inr (Or.inl ⟨_, q914⟩)) dX12_pattern_26 (fun v25 hv25 => ?_)
    refine s_iload_n o dX12_pattern_29 rfl 2 rfl ?_
    refine s_aload_n o dX12_pattern_30 rfl 0 rfl ?_
    refine r_getf vI rfl o cf_X12_number (Or.inl (lw_all_tbl q659)) dX12_pattern_31 (fun v26 hv26 => ?_)
    refine r_iast o hl2 hv26 dX12_pattern_34 ?_
    refine s_aload_n o dX12_pattern_35 rfl 0 rfl ?_
    refine s_cvC (d := d + 5) (As := []) (st := []) (c := 12) o (sc_X12_next (mg Γ) d ts l0) mw_X12_next rfl (Or.inl (lw_all_tbl q743)) rfl (lw_all_tbl qs2) (lw_all_tbl q745) wt_0 rfl dX12_pattern_36 rfl (rs := fun _ => []) (fun _ => rfl) (fun _ _ => ?_)
    refine s_iconst o dX12_pattern_39 ?_
    exact s_iret o rfl i_boolean (Or.inr rfl) dX12_pattern_40 (fun _ hh => hh)
theorem dX12_isAtom_0 : decode cX12_isAtom 0 = .ok (.aload_n 0, 1) := by decide +kernel
theorem dX12_isAtom_1 : decode cX12_isAtom 1 = .ok (.getfield 97, 3) := by decide +kernel
theorem dX12_isAtom_4 : decode cX12_isAtom 4 = .ok (.iconst 1, 1) := by decide +kernel
theorem dX12_isAtom_5 : decode cX12_isAtom 5 = .ok (.if_icmp .eq 39, 3) := by decide +kernel
theorem dX12_isAtom_8 : decode cX12_isAtom 8 = .ok (.aload_n 0, 1) := by decide +kernel
theorem dX12_isAtom_9 : decode cX12_isAtom 9 = .ok (.getfield 97, 3) := by decide +kernel
theorem dX12_isAtom_12 : decode cX12_isAtom 12 = .ok (.iconst 2, 1) := by decide +kernel
theorem dX12_isAtom_13 : decode cX12_isAtom 13 = .ok (.if_icmp .eq 31, 3) := by decide +kernel
theorem dX12_isAtom_16 : decode cX12_isAtom 16 = .ok (.aload_n 0, 1) := by decide +kernel
theorem dX12_isAtom_17 : decode cX12_isAtom 17 = .ok (.getfield 97, 3) := by decide +kernel
theorem dX12_isAtom_20 : decode cX12_isAtom 20 = .ok (.iconst 4, 1) := by decide +kernel
theorem dX12_isAtom_21 : decode cX12_isAtom 21 = .ok (.if_icmp .eq 23, 3) := by decide +kernel
theorem dX12_isAtom_24 : decode cX12_isAtom 24 = .ok (.aload_n 0, 1) := by decide +kernel
theorem dX12_isAtom_25 : decode cX12_isAtom 25 = .ok (.ldc_w 309, 3) := by decide +kernel
theorem dX12_isAtom_28 : decode cX12_isAtom 28 = .ok (.invokevirtual 153, 3) := by decide +kernel
theorem dX12_isAtom_31 : decode cX12_isAtom 31 = .ok (.ifCond .ne 13, 3) := by decide +kernel
theorem dX12_isAtom_34 : decode cX12_isAtom 34 = .ok (.aload_n 0, 1) := by decide +kernel
theorem dX12_isAtom_35 : decode cX12_isAtom 35 = .ok (.ldc_w 311, 3) := by decide +kernel
theorem dX12_isAtom_38 : decode cX12_isAtom 38 = .ok (.invokevirtual 161, 3) := by decide +kernel
theorem dX12_isAtom_41 : decode cX12_isAtom 41 = .ok (.ifCond .eq 7, 3) := by decide +kernel
theorem dX12_isAtom_44 : decode cX12_isAtom 44 = .ok (.iconst 1, 1) := by decide +kernel
theorem dX12_isAtom_45 : decode cX12_isAtom 45 = .ok (.goto 4, 3) := by decide +kernel
theorem dX12_isAtom_48 : decode cX12_isAtom 48 = .ok (.iconst 0, 1) := by decide +kernel
theorem dX12_isAtom_49 : decode cX12_isAtom 49 = .ok (.ireturn, 1) := by decide +kernel
theorem mw_X12_isAtom : MW yX12_isAtom (Cond.code yX12_isAtom cX12_isAtom 1 (Option.some Jvm.ClassFile.FieldType.boolean)) cX12_isAtom 1 (Option.some Jvm.ClassFile.FieldType.boolean) 0 := ⟨rfl, ⟨(lw_all_tbl q994), rfl, (lw_all_tbl q180)⟩, rfl, ⟨by decide, by decide⟩, by decide +kernel⟩
noncomputable def c_X12_isAtom_44  : Mo CH Int :=
  pr 1
theorem sc_X12_isAtom_44 {Γ : Gm} {ts : TS} {d : Nat} (o : Ok Γ "LazyForge$Reader" cX12_isAtom 1 (Option.some Jvm.ClassFile.FieldType.boolean) (d + 6))   : Sx Γ (fun h => (h, ts)) (fun a s => mt Γ = (0, a, ((s, ts) : Wd))) 44 [] [] (c_X12_isAtom_44) := by
  unfold c_X12_isAtom_44
  refine s_iconst o dX12_isAtom_44 ?_
  refine s_goto (tgt := 49) o dX12_isAtom_45 (by decide) ?_
  exact s_iret o rfl i_boolean (Or.inr rfl) dX12_isAtom_49 (fun _ hh => hh)
noncomputable def c_X12_isAtom (l0 : Int) : Mo CH Int :=
  bnd (gf [112] 4 l0) fun v1 =>
  if v1 = 1 then
    c_X12_isAtom_44
  else
    bnd (gf [112] 4 l0) fun v2 =>
    if v2 = 2 then
      c_X12_isAtom_44
    else
      bnd (gf [112] 4 l0) fun v3 =>
      if v3 = 4 then
        c_X12_isAtom_44
      else
        bnd (isk 112 l0) fun _ =>
        bnd (c_X12_isSign l0 (-20)) fun v4 =>
        if ¬ v4 = 0 then
          c_X12_isAtom_44
        else
          bnd (isk 112 l0) fun _ =>
          bnd (c_X12_isKeyword l0 (-21)) fun v5 =>
          if v5 = 0 then
            pr 0
          else
            c_X12_isAtom_44
theorem sc_X12_isAtom (g : gC) (d : Nat) (ts : TS) (l0 : Int) : SF g yX12_isAtom (Cond.code yX12_isAtom cX12_isAtom 1 (Option.some Jvm.ClassFile.FieldType.boolean)) (Option.some Jvm.ClassFile.FieldType.boolean) (d + 6) [vA g l0] (fun h => (h, ts)) (c_X12_isAtom l0) := by
  refine SF.of (lv := [(0, vA g l0)]) (by decide) (wt_A wt_0) rfl (by simp only [la_A, la_I, la_J, la_0]) (fun Γ hg hnm o => ?_)
  subst hg
  have o : Ok Γ "LazyForge$Reader" cX12_isAtom 1 (Option.some Jvm.ClassFile.FieldType.boolean) (d + 6) := o
  unfold c_X12_isAtom
  refine s_aload_n o dX12_isAtom_0 rfl 0 rfl ?_
  refine r_getf vI rfl o cf_X12_sort (Or.inl (lw_all_tbl q657)) dX12_isAtom_1 (fun v1 hv1 => ?_)
  refine s_iconst o dX12_isAtom_4 ?_
  refine s_icmp_eq (tgt := 44) o dX12_isAtom_5 (by decide) hv1 (r32 rfl) ?_ ?_
  · refine r_to [] [] rfl ?_
    exact sc_X12_isAtom_44 o
  · refine s_aload_n o dX12_isAtom_8 rfl 0 rfl ?_
    refine r_getf vI rfl o cf_X12_sort (Or.inl (lw_all_tbl q657)) dX12_isAtom_9 (fun v2 hv2 => ?_)
    refine s_iconst o dX12_isAtom_12 ?_
    refine s_icmp_eq (tgt := 44) o dX12_isAtom_13 (by decide) hv2 (r32 rfl) ?_ ?_
    · refine r_to [] [] rfl ?_
      exact sc_X12_isAtom_44 o
    · refine s_aload_n o dX12_isAtom_16 rfl 0 rfl ?_
      refine r_getf vI rfl o cf_X12_sort (Or.inl (lw_all_tbl q657)) dX12_isAtom_17 (fun v3 hv3 => ?_)
      refine s_iconst o dX12_isAtom_20 ?_
      refine s_icmp_eq (tgt := 44) o dX12_isAtom_21 (by decide) hv3 (r32 rfl) ?_ ?_
      · refine r_to [] [] rfl ?_
        exact sc_X12_isAtom_44 o
      · refine s_aload_n o dX12_isAtom_24 rfl 0 rfl ?_
        refine s_ldcwS (tx := "(") (k := 20) o (by decide +kernel) rfl (by decide) dX12_isAtom_25 ?_
        refine s_cvC (d := d + 5) (As := [vA (mg Γ) (-20)]) (st := []) (c := 12) o (sc_X12_isSign (mg Γ) d ts l0 (-20)) mw_X12_isSign rfl (Or.inl (lw_all_tbl q859)) rfl (lw_all_tbl qs12) (lw_all_tbl q861) wt_0 rfl dX12_isAtom_28 rfl (rs := fun r => [vI r]) (fun _ => rfl) (fun v4 hv4 => ?_)
        refine s_if_ne (tgt := 44) o dX12_isAtom_31 (by decide) (rZ (hv4 _ rfl)) ?_ ?_
        · refine r_to [] [] rfl ?_
          exact sc_X12_isAtom_44 o
        · refine s_aload_n o dX12_isAtom_34 rfl 0 rfl ?_
          refine s_ldcwS (tx := "fail") (k := 21) o (by decide +kernel) rfl (by decide) dX12_isAtom_35 ?_
          refine s_cvC (d := d + 5) (As := [vA (mg Γ) (-21)]) (st := []) (c := 12) o (sc_X12_isKeyword (mg Γ) d ts l0 (-21)) mw_X12_isKeyword rfl (Or.inl (lw_all_tbl q838)) rfl (lw_all_tbl qs7) (lw_all_tbl q840) wt_0 rfl dX12_isAtom_38 rfl (rs := fun r => [vI r]) (fun _ => rfl) (fun v5 hv5 => ?_)
          refine s_if_eq (tgt := 48) o dX12_isAtom_41 (by decide) (rZ (hv5 _ rfl)) ?_ ?_
          · refine s_iconst o dX12_isAtom_48 ?_
            exact s_iret o rfl i_boolean (Or.inl rfl) dX12_isAtom_49 (fun _ hh => hh)
          · refine r_to [] [] rfl ?_
            exact sc_X12_isAtom_44 o
theorem dX12_mayBegin_0 : decode cX12_mayBegin 0 = .ok (.aload_n 0, 1) := by decide +kernel
theorem dX12_mayBegin_1 : decode cX12_mayBegin 1 = .ok (.getfield 97, 3) := by decide +kernel
theorem dX12_mayBegin_4 : decode cX12_mayBegin 4 = .ok (.iconst 2, 1) := by decide +kernel
theorem dX12_mayBegin_5 : decode cX12_mayBegin 5 = .ok (.if_icmp .ne 14, 3) := by decide +kernel
theorem dX12_mayBegin_8 : decode cX12_mayBegin 8 = .ok (.aload_n 0, 1) := by decide +kernel
theorem dX12_mayBegin_9 : decode cX12_mayBegin 9 = .ok (.aload_n 0, 1) := by decide +kernel
theorem dX12_mayBegin_10 : decode cX12_mayBegin 10 = .ok (.getfield 84, 3) := by decide +kernel
theorem dX12_mayBegin_13 : decode cX12_mayBegin 13 = .ok (.invokevirtual 180, 3) := by decide +kernel
theorem dX12_mayBegin_16 : decode cX12_mayBegin 16 = .ok (.goto 4, 3) := by decide +kernel
theorem dX12_mayBegin_19 : decode cX12_mayBegin 19 = .ok (.iconst 0, 1) := by decide +kernel
theorem dX12_mayBegin_20 : decode cX12_mayBegin 20 = .ok (.istore_n 1, 1) := by decide +kernel
theorem dX12_mayBegin_21 : decode cX12_mayBegin 21 = .ok (.iload_n 1, 1) := by decide +kernel
theorem dX12_mayBegin_22 : decode cX12_mayBegin 22 = .ok (.iconst (-1), 1) := by decide +kernel
theorem dX12_mayBegin_23 : decode cX12_mayBegin 23 = .ok (.if_icmp .ne 16, 3) := by decide +kernel
theorem dX12_mayBegin_26 : decode cX12_mayBegin 26 = .ok (.aload_n 0, 1) := by decide +kernel
theorem dX12_mayBegin_27 : decode cX12_mayBegin 27 = .ok (.iconst 3, 1) := by decide +kernel
theorem dX12_mayBegin_28 : decode cX12_mayBegin 28 = .ok (.aload_n 0, 1) := by decide +kernel
theorem dX12_mayBegin_29 : decode cX12_mayBegin 29 = .ok (.getfield 91, 3) := by decide +kernel
theorem dX12_mayBegin_32 : decode cX12_mayBegin 32 = .ok (.invokevirtual 140, 3) := by decide +kernel
theorem dX12_mayBegin_35 : decode cX12_mayBegin 35 = .ok (.pop, 1) := by decide +kernel
theorem dX12_mayBegin_36 : decode cX12_mayBegin 36 = .ok (.goto 49, 3) := by decide +kernel
theorem dX12_mayBegin_39 : decode cX12_mayBegin 39 = .ok (.aload_n 0, 1) := by decide +kernel
theorem dX12_mayBegin_40 : decode cX12_mayBegin 40 = .ok (.getfield 97, 3) := by decide +kernel
theorem dX12_mayBegin_43 : decode cX12_mayBegin 43 = .ok (.iconst 2, 1) := by decide +kernel
theorem dX12_mayBegin_44 : decode cX12_mayBegin 44 = .ok (.if_icmp .ne 12, 3) := by decide +kernel
theorem dX12_mayBegin_47 : decode cX12_mayBegin 47 = .ok (.aload_n 0, 1) := by decide +kernel
theorem dX12_mayBegin_48 : decode cX12_mayBegin 48 = .ok (.getfield 19, 3) := by decide +kernel
theorem dX12_mayBegin_51 : decode cX12_mayBegin 51 = .ok (.iload_n 1, 1) := by decide +kernel
theorem dX12_mayBegin_52 : decode cX12_mayBegin 52 = .ok (.iaload, 1) := by decide +kernel
theorem dX12_mayBegin_53 : decode cX12_mayBegin 53 = .ok (.ifCond .gt 22, 3) := by decide +kernel
theorem dX12_mayBegin_56 : decode cX12_mayBegin 56 = .ok (.aload_n 0, 1) := by decide +kernel
theorem dX12_mayBegin_57 : decode cX12_mayBegin 57 = .ok (.ldc_w 309, 3) := by decide +kernel
theorem dX12_mayBegin_60 : decode cX12_mayBegin 60 = .ok (.invokevirtual 153, 3) := by decide +kernel
theorem dX12_mayBegin_63 : decode cX12_mayBegin 63 = .ok (.ifCond .eq 22, 3) := by decide +kernel
theorem dX12_mayBegin_66 : decode cX12_mayBegin 66 = .ok (.aload_n 0, 1) := by decide +kernel
theorem dX12_mayBegin_67 : decode cX12_mayBegin 67 = .ok (.getfield 164, 3) := by decide +kernel
theorem dX12_mayBegin_70 : decode cX12_mayBegin 70 = .ok (.bipush 30, 2) := by decide +kernel
theorem dX12_mayBegin_72 : decode cX12_mayBegin 72 = .ok (.if_icmp .ne 13, 3) := by decide +kernel
theorem dX12_mayBegin_75 : decode cX12_mayBegin 75 = .ok (.aload_n 0, 1) := by decide +kernel
theorem dX12_mayBegin_76 : decode cX12_mayBegin 76 = .ok (.iconst 1, 1) := by decide +kernel
theorem dX12_mayBegin_77 : decode cX12_mayBegin 77 = .ok (.aload_n 0, 1) := by decide +kernel
theorem dX12_mayBegin_78 : decode cX12_mayBegin 78 = .ok (.getfield 91, 3) := by decide +kernel
theorem dX12_mayBegin_81 : decode cX12_mayBegin 81 = .ok (.invokevirtual 140, 3) := by decide +kernel
theorem dX12_mayBegin_84 : decode cX12_mayBegin 84 = .ok (.pop, 1) := by decide +kernel
theorem dX12_mayBegin_85 : decode cX12_mayBegin 85 = .ok (.aload_n 0, 1) := by decide +kernel
theorem dX12_mayBegin_86 : decode cX12_mayBegin 86 = .ok (.invokevirtual 147, 3) := by decide +kernel
theorem dX12_mayBegin_89 : decode cX12_mayBegin 89 = .ok (.ireturn, 1) := by decide +kernel
theorem mw_X12_mayBegin : MW yX12_mayBegin (Cond.code yX12_mayBegin cX12_mayBegin 2 (Option.some Jvm.ClassFile.FieldType.boolean)) cX12_mayBegin 2 (Option.some Jvm.ClassFile.FieldType.boolean) 0 := ⟨rfl, ⟨(lw_all_tbl q1000), rfl, (lw_all_tbl q180)⟩, rfl, ⟨by decide, by decide⟩, by decide +kernel⟩
noncomputable def c_X12_mayBegin_85  (l0 : Int) : Mo CH Int :=
  bnd (isk 112 l0) fun _ =>
  bnd (c_X12_isGood l0) fun v1 =>
  pr v1
theorem sc_X12_mayBegin_85 {Γ : Gm} {ts : TS} {d : Nat} (o : Ok Γ "LazyForge$Reader" cX12_mayBegin 2 (Option.some Jvm.ClassFile.FieldType.boolean) (d + 6))   (l0 : Int) : Sx Γ (fun h => (h, ts)) (fun a s => mt Γ = (0, a, ((s, ts) : Wd))) 85 [(0, vA (mg Γ) l0)] [] (c_X12_mayBegin_85 l0) := by
  unfold c_X12_mayBegin_85
  refine s_aload_n o dX12_mayBegin_85 rfl 0 rfl ?_
  refine s_cvC (d := d + 5) (As := []) (st := []) (c := 12) o (sc_X12_isGood (mg Γ) (d + 5) ts l0) mw_X12_isGood rfl (Or.inl (lw_all_tbl q833)) rfl (lw_all_tbl qs6) (lw_all_tbl q835) wt_0 rfl dX12_mayBegin_86 rfl (rs := fun r => [vI r]) (fun _ => rfl) (fun v1 hv1 => ?_)
  exact s_iret o rfl i_boolean (hv1 _ rfl) dX12_mayBegin_89 (fun _ hh => hh)
noncomputable def c_X12_mayBegin_75  (l0 : Int) : Mo CH Int :=
  bnd (gf [112] 5 l0) fun v1 =>
  bnd (isk 112 l0) fun _ =>
  bnd (c_X12_fail l0 1 v1) fun v2 =>
  c_X12_mayBegin_85 l0
theorem sc_X12_mayBegin_75 {Γ : Gm} {ts : TS} {d : Nat} (o : Ok Γ "LazyForge$Reader" cX12_mayBegin 2 (Option.some Jvm.ClassFile.FieldType.boolean) (d + 6))   (l0 : Int) : Sx Γ (fun h => (h, ts)) (fun a s => mt Γ = (0, a, ((s, ts) : Wd))) 75 [(0, vA (mg Γ) l0)] [] (c_X12_mayBegin_75 l0) := by
  unfold c_X12_mayBegin_75
  refine s_aload_n o dX12_mayBegin_75 rfl 0 rfl ?_
  refine s_iconst o dX12_mayBegin_76 ?_
  refine s_aload_n o dX12_mayBegin_77 rfl 0 rfl ?_
  refine r_getf vI rfl o cf_X12_place (Or.inl (lw_all_tbl q658)) dX12_mayBegin_78 (fun v1 hv1 => ?_)
  refine s_cvC (d := d + 5) (As := [vI 1, vI v1]) (st := []) (c := 12) o (sc_X12_fail (mg Γ) (d + 5) ts l0 1 v1 (r32 rfl) hv1) mw_X12_fail rfl (Or.inl (lw_all_tbl q846)) rfl (lw_all_tbl qs9) (lw_all_tbl q848) wt_0 rfl dX12_mayBegin_81 rfl (rs := fun r => [vA (mg Γ) r]) (fun _ => rfl) (fun v2 hv2 => ?_)
  refine s_pop o dX12_mayBegin_84 (vA_cat (mg Γ) v2) ?_
  exact sc_X12_mayBegin_85 o l0
noncomputable def c_X12_mayBegin_56  (l0 : Int) : Mo CH Int :=
  bnd (isk 112 l0) fun _ =>
  bnd (c_X12_isSign l0 (-20)) fun v1 =>
  if v1 = 0 then
    c_X12_mayBegin_85 l0
  else
    bnd (gf [112] 11 l0) fun v2 =>
    if ¬ v2 = 30 then
      c_X12_mayBegin_85 l0
    else
      c_X12_mayBegin_75 l0
theorem sc_X12_mayBegin_56 {Γ : Gm} {ts : TS} {d : Nat} (o : Ok Γ "LazyForge$Reader" cX12_mayBegin 2 (Option.some Jvm.ClassFile.FieldType.boolean) (d + 6))   (l0 : Int) : Sx Γ (fun h => (h, ts)) (fun a s => mt Γ = (0, a, ((s, ts) : Wd))) 56 [(0, vA (mg Γ) l0)] [] (c_X12_mayBegin_56 l0) := by
  unfold c_X12_mayBegin_56
  refine s_aload_n o dX12_mayBegin_56 rfl 0 rfl ?_
  refine s_ldcwS (tx := "(") (k := 20) o (by decide +kernel) rfl (by decide) dX12_mayBegin_57 ?_
  refine s_cvC (d := d + 5) (As := [vA (mg Γ) (-20)]) (st := []) (c := 12) o (sc_X12_isSign (mg Γ) d ts l0 (-20)) mw_X12_isSign rfl (Or.inl (lw_all_tbl q859)) rfl (lw_all_tbl qs12) (lw_all_tbl q861) wt_0 rfl dX12_mayBegin_60 rfl (rs := fun r => [vI r]) (fun _ => rfl) (fun v1 hv1 => ?_)
  refine s_if_eq (tgt := 85) o dX12_mayBegin_63 (by decide) (rZ (hv1 _ rfl)) ?_ ?_
  · exact sc_X12_mayBegin_85 o l0
  · refine s_aload_n o dX12_mayBegin_66 rfl 0 rfl ?_
    refine r_getf vI rfl o cf_X12_open (Or.inl (lw_all_tbl q666)) dX12_mayBegin_67 (fun v2 hv2 => ?_)
    refine s_bipush o dX12_mayBegin_70 rfl ?_
    refine s_icmp_ne (tgt := 85) o dX12_mayBegin_72 (by decide) hv2 (r32 rfl) ?_ ?_
    · exact sc_X12_mayBegin_85 o l0
    · exact sc_X12_mayBegin_75 o l0
noncomputable def c_X12_mayBegin_20  (l0 : Int) (k0 : Int) : Mo CH Int :=
  if ¬ k0 = (-1) then
    bnd (gf [112] 4 l0) fun v1 =>
    if ¬ v1 = 2 then
      c_X12_mayBegin_56 l0
    else
      bnd (gf [112] 14 l0) fun v2 =>
      bnd (ald 0 v2 k0) fun v3 =>
      if 0 < v3 then
        c_X12_mayBegin_75 l0
      else
        c_X12_mayBegin_56 l0
  else
    bnd (gf [112] 5 l0) fun v4 =>
    bnd (isk 112 l0) fun _ =>
    bnd (c_X12_fail l0 3 v4) fun v5 =>
    c_X12_mayBegin_85 l0
theorem sc_X12_mayBegin_20 {Γ : Gm} {ts : TS} {d : Nat} (o : Ok Γ "LazyForge$Reader" cX12_mayBegin 2 (Option.some Jvm.ClassFile.FieldType.boolean) (d + 6))   (l0 : Int) (k0 : Int) (hk0 : R32 k0) : Sx Γ (fun h => (h, ts)) (fun a s => mt Γ = (0, a, ((s, ts) : Wd))) 20 [(0, vA (mg Γ) l0)] [vI k0] (c_X12_mayBegin_20 l0 k0) := by
  unfold c_X12_mayBegin_20
  refine r_istore_n o dX12_mayBegin_20 rfl rfl ⟨(Nat.ne_of_beq_eq_false rfl), (fun _ => (vA_cat (mg Γ) l0)), trivial⟩ ?_
  refine s_iload_n o dX12_mayBegin_21 rfl 0 rfl ?_
  refine s_iconst o dX12_mayBegin_22 ?_
  refine s_icmp_ne (tgt := 39) o dX12_mayBegin_23 (by decide) hk0 (r32 rfl) ?_ ?_
  · refine s_aload_n o dX12_mayBegin_39 rfl 1 rfl ?_
    refine r_getf vI rfl o cf_X12_sort (Or.inl (lw_all_tbl q657)) dX12_mayBegin_40 (fun v1 hv1 => ?_)
    refine s_iconst o dX12_mayBegin_43 ?_
    refine s_icmp_ne (tgt := 56) o dX12_mayBegin_44 (by decide) hv1 (r32 rfl) ?_ ?_
    · refine r_to [(0, vA (mg Γ) l0)] [1] rfl ?_
      exact sc_X12_mayBegin_56 o l0
    · refine s_aload_n o dX12_mayBegin_47 rfl 1 rfl ?_
      refine r_getf (vA (mg Γ)) rfl o cf_X12_fields (Or.inl (lw_all_tbl q671)) dX12_mayBegin_48 (fun v2 hv2 => ?_)
      refine s_iload_n o dX12_mayBegin_51 rfl 0 rfl ?_
      refine r_iald o hk0 dX12_mayBegin_52 (fun v3 hv3 => ?_)
      refine s_if_gt (tgt := 75) o dX12_mayBegin_53 (by decide) hv3 ?_ ?_
      · refine r_to [(0, vA (mg Γ) l0)] [1] rfl ?_
        exact sc_X12_mayBegin_75 o l0
      · refine r_to [(0, vA (mg Γ) l0)] [1] rfl ?_
        exact sc_X12_mayBegin_56 o l0
  · refine s_aload_n o dX12_mayBegin_26 rfl 1 rfl ?_
    refine s_iconst o dX12_mayBegin_27 ?_
    refine s_aload_n o dX12_mayBegin_28 rfl 1 rfl ?_
    refine r_getf vI rfl o cf_X12_place (Or.inl (lw_all_tbl q658)) dX12_mayBegin_29 (fun v4 hv4 => ?_)
    refine s_cvC (d := d + 5) (As := [vI 3, vI v4]) (st := []) (c := 12) o (sc_X12_fail (mg Γ) (d + 5) ts l0 3 v4 (r32 rfl) hv4) mw_X12_fail rfl (Or.inl (lw_all_tbl q846)) rfl (lw_all_tbl qs9) (lw_all_tbl q848) wt_0 rfl dX12_mayBegin_32 rfl (rs := fun r => [vA (mg Γ) r]) (fun _ => rfl) (fun v5 hv5 => ?_)
    refine s_pop o dX12_mayBegin_35 (vA_cat (mg Γ) v5) ?_
    refine s_goto (tgt := 85) o dX12_mayBegin_36 (by decide) ?_
    refine r_to [(0, vA (mg Γ) l0)] [1] rfl ?_
    exact sc_X12_mayBegin_85 o l0
noncomputable def c_X12_mayBegin (l0 : Int) : Mo CH Int :=
  bnd (gf [112] 4 l0) fun v1 =>
  if ¬ v1 = 2 then
    c_X12_mayBegin_20 l0 0
  else
    bnd (gf [112] 8 l0) fun v2 =>
    bnd (isk 112 l0) fun _ =>
    bnd (c_X12_constructor l0 v2) fun v3 =>
    c_X12_mayBegin_20 l0 v3
theorem sc_X12_mayBegin (g : gC) (d : Nat) (ts : TS) (l0 : Int) : SF g yX12_mayBegin (Cond.code yX12_mayBegin cX12_mayBegin 2 (Option.some Jvm.ClassFile.FieldType.boolean)) (Option.some Jvm.ClassFile.FieldType.boolean) (d + 6) [vA g l0] (fun h => (h, ts)) (c_X12_mayBegin l0) := by
  refine SF.of (lv := [(0, vA g l0)]) (by decide) (wt_A wt_0) rfl (by simp only [la_A, la_I, la_J, la_0]) (fun Γ hg hnm o => ?_)
  subst hg
  have o : Ok Γ "LazyForge$Reader" cX12_mayBegin 2 (Option.some Jvm.ClassFile.FieldType.boolean) (d + 6) := o
  unfold c_X12_mayBegin
  refine s_aload_n o dX12_mayBegin_0 rfl 0 rfl ?_
  refine r_getf vI rfl o cf_X12_sort (Or.inl (lw_all_tbl q657)) dX12_mayBegin_1 (fun v1 hv1 => ?_)
  refine s_iconst o dX12_mayBegin_4 ?_
  refine s_icmp_ne (tgt := 19) o dX12_mayBegin_5 (by decide) hv1 (r32 rfl) ?_ ?_
  · refine s_iconst o dX12_mayBegin_19 ?_
    exact sc_X12_mayBegin_20 o l0 0 (r32 rfl)
  · refine s_aload_n o dX12_mayBegin_8 rfl 0 rfl ?_
    refine s_aload_n o dX12_mayBegin_9 rfl 0 rfl ?_
    refine r_getf vJ rfl o cf_X12_word (Or.inl (lw_all_tbl q661)) dX12_mayBegin_10 (fun v2 hv2 => ?_)
    refine s_cvC (d := d + 5) (As := [vJ v2]) (st := []) (c := 12) o (sc_X12_constructor (mg Γ) (d + 5) ts l0 v2 hv2) mw_X12_constructor rfl (Or.inl (lw_all_tbl q850)) rfl (lw_all_tbl qs10) (lw_all_tbl q852) wt_0 rfl dX12_mayBegin_13 rfl (rs := fun r => [vI r]) (fun _ => rfl) (fun v3 hv3 => ?_)
    refine s_goto (tgt := 20) o dX12_mayBegin_16 (by decide) ?_
    exact sc_X12_mayBegin_20 o l0 v3 (hv3 _ rfl)
theorem dX12_row_0 : decode cX12_row 0 = .ok (.iconst 0, 1) := by decide +kernel
theorem dX12_row_1 : decode cX12_row 1 = .ok (.istore_n 3, 1) := by decide +kernel
theorem dX12_row_2 : decode cX12_row 2 = .ok (.aload_n 0, 1) := by decide +kernel
theorem dX12_row_3 : decode cX12_row 3 = .ok (.invokevirtual 147, 3) := by decide +kernel
theorem dX12_row_6 : decode cX12_row 6 = .ok (.ifCond .eq 119, 3) := by decide +kernel
theorem dX12_row_9 : decode cX12_row 9 = .ok (.aload_n 0, 1) := by decide +kernel
theorem dX12_row_10 : decode cX12_row 10 = .ok (.getfield 97, 3) := by decide +kernel
theorem dX12_row_13 : decode cX12_row 13 = .ok (.iconst 1, 1) := by decide +kernel
theorem dX12_row_14 : decode cX12_row 14 = .ok (.if_icmp .ne 111, 3) := by decide +kernel
theorem dX12_row_17 : decode cX12_row 17 = .ok (.iconst 0, 1) := by decide +kernel
theorem dX12_row_18 : decode cX12_row 18 = .ok (.istore 4, 2) := by decide +kernel
theorem dX12_row_20 : decode cX12_row 20 = .ok (.iload 4, 2) := by decide +kernel
theorem dX12_row_22 : decode cX12_row 22 = .ok (.iload_n 3, 1) := by decide +kernel
theorem dX12_row_23 : decode cX12_row 23 = .ok (.if_icmp .ge 34, 3) := by decide +kernel
theorem dX12_row_26 : decode cX12_row 26 = .ok (.aload_n 0, 1) := by decide +kernel
theorem dX12_row_27 : decode cX12_row 27 = .ok (.getfield 40, 3) := by decide +kernel
theorem dX12_row_30 : decode cX12_row 30 = .ok (.iload 4, 2) := by decide +kernel
theorem dX12_row_32 : decode cX12_row 32 = .ok (.laload, 1) := by decide +kernel
theorem dX12_row_33 : decode cX12_row 33 = .ok (.aload_n 0, 1) := by decide +kernel
theorem dX12_row_34 : decode cX12_row 34 = .ok (.getfield 84, 3) := by decide +kernel
theorem dX12_row_37 : decode cX12_row 37 = .ok (.lcmp, 1) := by decide +kernel
theorem dX12_row_38 : decode cX12_row 38 = .ok (.ifCond .ne 13, 3) := by decide +kernel
theorem dX12_row_41 : decode cX12_row 41 = .ok (.aload_n 0, 1) := by decide +kernel
theorem dX12_row_42 : decode cX12_row 42 = .ok (.iconst 2, 1) := by decide +kernel
theorem dX12_row_43 : decode cX12_row 43 = .ok (.aload_n 0, 1) := by decide +kernel
theorem dX12_row_44 : decode cX12_row 44 = .ok (.getfield 91, 3) := by decide +kernel
theorem dX12_row_47 : decode cX12_row 47 = .ok (.invokevirtual 140, 3) := by decide +kernel
theorem dX12_row_50 : decode cX12_row 50 = .ok (.pop, 1) := by decide +kernel
theorem dX12_row_51 : decode cX12_row 51 = .ok (.iinc 4 1, 3) := by decide +kernel
theorem dX12_row_54 : decode cX12_row 54 = .ok (.goto (-34), 3) := by decide +kernel
theorem dX12_row_57 : decode cX12_row 57 = .ok (.iload_n 3, 1) := by decide +kernel
theorem dX12_row_58 : decode cX12_row 58 = .ok (.iconst 5, 1) := by decide +kernel
theorem dX12_row_59 : decode cX12_row 59 = .ok (.if_icmp .ne 13, 3) := by decide +kernel
theorem dX12_row_62 : decode cX12_row 62 = .ok (.aload_n 0, 1) := by decide +kernel
theorem dX12_row_63 : decode cX12_row 63 = .ok (.iconst 4, 1) := by decide +kernel
theorem dX12_row_64 : decode cX12_row 64 = .ok (.aload_n 0, 1) := by decide +kernel
theorem dX12_row_65 : decode cX12_row 65 = .ok (.getfield 91, 3) := by decide +kernel
theorem dX12_row_68 : decode cX12_row 68 = .ok (.invokevirtual 140, 3) := by decide +kernel
theorem dX12_row_71 : decode cX12_row 71 = .ok (.pop, 1) := by decide +kernel
theorem dX12_row_72 : decode cX12_row 72 = .ok (.aload_n 0, 1) := by decide +kernel
theorem dX12_row_73 : decode cX12_row 73 = .ok (.invokevirtual 147, 3) := by decide +kernel
theorem dX12_row_76 : decode cX12_row 76 = .ok (.ifCond .eq 20, 3) := by decide +kernel
theorem dX12_row_79 : decode cX12_row 79 = .ok (.iload_n 2, 1) := by decide +kernel
theorem dX12_row_80 : decode cX12_row 80 = .ok (.ifCond .eq 16, 3) := by decide +kernel
theorem dX12_row_83 : decode cX12_row 83 = .ok (.iload_n 3, 1) := by decide +kernel
theorem dX12_row_84 : decode cX12_row 84 = .ok (.ifCond .ne 12, 3) := by decide +kernel
theorem dX12_row_87 : decode cX12_row 87 = .ok (.aload_n 0, 1) := by decide +kernel
theorem dX12_row_88 : decode cX12_row 88 = .ok (.aload_n 0, 1) := by decide +kernel
theorem dX12_row_89 : decode cX12_row 89 = .ok (.getfield 91, 3) := by decide +kernel
theorem dX12_row_92 : decode cX12_row 92 = .ok (.invokevirtual 204, 3) := by decide +kernel
theorem dX12_row_95 : decode cX12_row 95 = .ok (.pop, 1) := by decide +kernel
theorem dX12_row_96 : decode cX12_row 96 = .ok (.aload_n 0, 1) := by decide +kernel
theorem dX12_row_97 : decode cX12_row 97 = .ok (.invokevirtual 147, 3) := by decide +kernel
theorem dX12_row_100 : decode cX12_row 100 = .ok (.ifCond .ne 5, 3) := by decide +kernel
theorem dX12_row_103 : decode cX12_row 103 = .ok (.aconst_null, 1) := by decide +kernel
theorem dX12_row_104 : decode cX12_row 104 = .ok (.areturn, 1) := by decide +kernel
theorem dX12_row_105 : decode cX12_row 105 = .ok (.aload_n 0, 1) := by decide +kernel
theorem dX12_row_106 : decode cX12_row 106 = .ok (.getfield 40, 3) := by decide +kernel
theorem dX12_row_109 : decode cX12_row 109 = .ok (.iload_n 3, 1) := by decide +kernel
theorem dX12_row_110 : decode cX12_row 110 = .ok (.aload_n 0, 1) := by decide +kernel
theorem dX12_row_111 : decode cX12_row 111 = .ok (.getfield 84, 3) := by decide +kernel
theorem dX12_row_114 : decode cX12_row 114 = .ok (.lastore, 1) := by decide +kernel
theorem dX12_row_115 : decode cX12_row 115 = .ok (.iinc 3 1, 3) := by decide +kernel
theorem dX12_row_118 : decode cX12_row 118 = .ok (.aload_n 0, 1) := by decide +kernel
theorem dX12_row_119 : decode cX12_row 119 = .ok (.invokevirtual 150, 3) := by decide +kernel
theorem dX12_row_122 : decode cX12_row 122 = .ok (.goto (-120), 3) := by decide +kernel
theorem dX12_row_125 : decode cX12_row 125 = .ok (.iload_n 3, 1) := by decide +kernel
theorem dX12_row_126 : decode cX12_row 126 = .ok (.iload_n 1, 1) := by decide +kernel
theorem dX12_row_127 : decode cX12_row 127 = .ok (.if_icmp .ge 13, 3) := by decide +kernel
theorem dX12_row_130 : decode cX12_row 130 = .ok (.aload_n 0, 1) := by decide +kernel
theorem dX12_row_131 : decode cX12_row 131 = .ok (.iconst 1, 1) := by decide +kernel
theorem dX12_row_132 : decode cX12_row 132 = .ok (.aload_n 0, 1) := by decide +kernel
theorem dX12_row_133 : decode cX12_row 133 = .ok (.getfield 91, 3) := by decide +kernel
theorem dX12_row_136 : decode cX12_row 136 = .ok (.invokevirtual 140, 3) := by decide +kernel
theorem dX12_row_139 : decode cX12_row 139 = .ok (.pop, 1) := by decide +kernel
theorem dX12_row_140 : decode cX12_row 140 = .ok (.aload_n 0, 1) := by decide +kernel
theorem dX12_row_141 : decode cX12_row 141 = .ok (.invokevirtual 147, 3) := by decide +kernel
theorem dX12_row_144 : decode cX12_row 144 = .ok (.ifCond .ne 5, 3) := by decide +kernel
theorem dX12_row_147 : decode cX12_row 147 = .ok (.aconst_null, 1) := by decide +kernel
theorem dX12_row_148 : decode cX12_row 148 = .ok (.areturn, 1) := by decide +kernel
theorem dX12_row_149 : decode cX12_row 149 = .ok (.iload_n 3, 1) := by decide +kernel
theorem dX12_row_150 : decode cX12_row 150 = .ok (.newarray .long, 2) := by decide +kernel
theorem dX12_row_152 : decode cX12_row 152 = .ok (.astore 4, 2) := by decide +kernel
theorem dX12_row_154 : decode cX12_row 154 = .ok (.aload_n 0, 1) := by decide +kernel
theorem dX12_row_155 : decode cX12_row 155 = .ok (.getfield 40, 3) := by decide +kernel
theorem dX12_row_158 : decode cX12_row 158 = .ok (.iconst 0, 1) := by decide +kernel
theorem dX12_row_159 : decode cX12_row 159 = .ok (.aload 4, 2) := by decide +kernel
theorem dX12_row_161 : decode cX12_row 161 = .ok (.iconst 0, 1) := by decide +kernel
theorem dX12_row_162 : decode cX12_row 162 = .ok (.iload_n 3, 1) := by decide +kernel
theorem dX12_row_163 : decode cX12_row 163 = .ok (.invokestatic 208, 3) := by decide +kernel
theorem dX12_row_166 : decode cX12_row 166 = .ok (.aload 4, 2) := by decide +kernel
theorem dX12_row_168 : decode cX12_row 168 = .ok (.areturn, 1) := by decide +kernel
theorem mw_X12_row : MW yX12_row (Cond.code yX12_row cX12_row 5 (Option.some (Jvm.ClassFile.FieldType.array Jvm.ClassFile.FieldType.long))) cX12_row 5 (Option.some (Jvm.ClassFile.FieldType.array Jvm.ClassFile.FieldType.long)) 2 := ⟨rfl, ⟨(lw_all_tbl q875), rfl, (lw_all_tbl q180)⟩, rfl, ⟨by decide, by decide⟩, by decide +kernel⟩
abbrev okc_X12_row_20 (x : Int × Int × Int × Int × Int) : Prop := R32 x.2.1 ∧ rg .boolean x.2.2.1 ∧ R32 x.2.2.2.1 ∧ R32 x.2.2.2.2
abbrev lvc_X12_row_20 (Γ : Gm) (x : Int × Int × Int × Int × Int) : List (Nat × Value) := [(0, vA (mg Γ) x.1), (1, vI x.2.1), (2, vI x.2.2.1), (3, vI x.2.2.2.1), (4, vI x.2.2.2.2)]
noncomputable def c_X12_row_51 {A : Type} (k_57 : Int → Int → Int → Int → Mo CH A) (l0 : Int) (l1 : Int) (l2 : Int) (l3 : Int) (l4 : Int) : Mo CH ((Int × Int × Int × Int × Int) ⊕ A) :=
  pr (.inl (l0, l1, l2, l3, (w32 (l4 + 1))))
theorem sc_X12_row_51 {Γ : Gm} {ts : TS} {d : Nat} (o : Ok Γ "LazyForge$Reader" cX12_row 5 (Option.some (Jvm.ClassFile.FieldType.array Jvm.ClassFile.FieldType.long)) (d + 6)) {A : Type} {K : A → CH → Prop}  (k_57 : Int → Int → Int → Int → Mo CH A) (hk_57 : ∀ (l0 : Int) (l1 : Int) (l2 : Int) (l3 : Int), R32 l1 → rg .boolean l2 → R32 l3 → Sx Γ (fun h => (h, ts)) K 57 [(0, vA (mg Γ) l0), (1, vI l1), (2, vI l2), (3, vI l3)] [] (k_57 l0 l1 l2 l3)) (l0 : Int) (l1 : Int) (l2 : Int) (l3 : Int) (l4 : Int) (hl1 : R32 l1) (hl2 : rg .boolean l2) (hl3 : R32 l3) (hl4 : R32 l4) : Sx Γ (fun h => (h, ts)) (KL Γ (fun h => (h, ts)) okc_X12_row_20 K 20 (lvc_X12_row_20 Γ) []) 51 [(0, vA (mg Γ) l0), (1, vI l1), (2, vI l2), (3, vI l3), (4, vI l4)] [] (c_X12_row_51 k_57 l0 l1 l2 l3 l4) := by
  unfold c_X12_row_51
  refine r_iinc (j := 4) o dX12_row_51 rfl rfl [(0, vA (mg Γ) l0), (1, vI l1), (2, vI l2), (3, vI l3)] [0, 1, 2, 3] rfl ⟨(Nat.ne_of_beq_eq_false rfl), (fun _ => (vA_cat (mg Γ) l0)), ⟨(Nat.ne_of_beq_eq_false rfl), (fun _ => rfl), ⟨(Nat.ne_of_beq_eq_false rfl), (fun _ => rfl), ⟨(Nat.ne_of_beq_eq_false rfl), (fun _ => rfl), trivial⟩⟩⟩⟩ ?_
  refine s_goto (tgt := 20) o dX12_row_54 (by decide) ?_
  refine r_to [(0, vA (mg Γ) l0), (1, vI l1), (2, vI l2), (3, vI l3), (4, vI (w32 (l4 + 1)))] [1, 2, 3, 4, 0] rfl ?_
  exact s_back (⟨hl1, hl2, hl3, (w32_R _)⟩) rfl
noncomputable def c_X12_row_20b {A : Type} (k_57 : Int → Int → Int → Int → Mo CH A) (l0 : Int) (l1 : Int) (l2 : Int) (l3 : Int) (l4 : Int) : Mo CH ((Int × Int × Int × Int × Int) ⊕ A) :=
  if l3 ≤ l4 then
    lo (k_57 l0 l1 l2 l3)
  else
    bnd (gf [112] 22 l0) fun v1 =>
    bnd (ald 1 v1 l4) fun v2 =>
    bnd (gf [112] 8 l0) fun v3 =>
    if ¬ v2 = v3 then
      c_X12_row_51 k_57 l0 l1 l2 l3 l4
    else
      bnd (gf [112] 5 l0) fun v4 =>
      bnd (isk 112 l0) fun _ =>
      bnd (c_X12_fail l0 2 v4) fun v5 =>
      c_X12_row_51 k_57 l0 l1 l2 l3 l4
theorem sc_X12_row_20b {Γ : Gm} {ts : TS} {d : Nat} (o : Ok Γ "LazyForge$Reader" cX12_row 5 (Option.some (Jvm.ClassFile.FieldType.array Jvm.ClassFile.FieldType.long)) (d + 6)) {A : Type} {K : A → CH → Prop} (k_57 : Int → Int → Int → Int → Mo CH A) (hk_57 : ∀ (l0 : Int) (l1 : Int) (l2 : Int) (l3 : Int), R32 l1 → rg .boolean l2 → R32 l3 → Sx Γ (fun h => (h, ts)) K 57 [(0, vA (mg Γ) l0), (1, vI l1), (2, vI l2), (3, vI l3)] [] (k_57 l0 l1 l2 l3)) (l0 : Int) (l1 : Int) (l2 : Int) (l3 : Int) (l4 : Int) (hl1 : R32 l1) (hl2 : rg .boolean l2) (hl3 : R32 l3) (hl4 : R32 l4) : Sx Γ (fun h => (h, ts)) (KL Γ (fun h => (h, ts)) okc_X12_row_20 K 20 (lvc_X12_row_20 Γ) []) 20 [(0, vA (mg Γ) l0), (1, vI l1), (2, vI l2), (3, vI l3), (4, vI l4)] [] (c_X12_row_20b k_57 l0 l1 l2 l3 l4) := by
  unfold c_X12_row_20b
  refine s_iload o dX12_row_20 4 rfl ?_
  refine s_iload_n o dX12_row_22 rfl 3 rfl ?_
  refine s_icmp_ge (tgt := 57) o dX12_row_23 (by decide) hl4 hl3 ?_ ?_
  · refine r_to [(0, vA (mg Γ) l0), (1, vI l1), (2, vI l2), (3, vI l3)] [0, 1, 2, 3] rfl ?_
    exact s_lo (hk_57 l0 l1 l2 l3 hl1 hl2 hl3)
  · refine s_aload_n o dX12_row_26 rfl 0 rfl ?_
    refine r_getf (vA (mg Γ)) rfl o cf_X12_gathered (Or.inl (lw_all_tbl q686)) dX12_row_27 (fun v1 hv1 => ?_)
    refine s_iload o dX12_row_30 4 rfl ?_
    refine r_lald o hl4 dX12_row_32 (fun v2 hv2 => ?_)
    refine s_aload_n o dX12_row_33 rfl 0 rfl ?_
    refine r_getf vJ rfl o cf_X12_word (Or.inl (lw_all_tbl q661)) dX12_row_34 (fun v3 hv3 => ?_)
    refine s_lcmp_ne (tgt := 51) o dX12_row_37 dX12_row_38 (by decide) hv2 hv3 ?_ ?_
    · exact sc_X12_row_51 o k_57 hk_57 l0 l1 l2 l3 l4 hl1 hl2 hl3 hl4
    · refine s_aload_n o dX12_row_41 rfl 0 rfl ?_
      refine s_iconst o dX12_row_42 ?_
      refine s_aload_n o dX12_row_43 rfl 0 rfl ?_
      refine r_getf vI rfl o cf_X12_place (Or.inl (lw_all_tbl q658)) dX12_row_44 (fun v4 hv4 => ?_)
      refine s_cvC (d := d + 5) (As := [vI 2, vI v4]) (st := []) (c := 12) o (sc_X12_fail (mg Γ) (d + 5) ts l0 2 v4 (r32 rfl) hv4) mw_X12_fail rfl (Or.inl (lw_all_tbl q846)) rfl (lw_all_tbl qs9) (lw_all_tbl q848) wt_0 rfl dX12_row_47 rfl (rs := fun r => [vA (mg Γ) r]) (fun _ => rfl) (fun v5 hv5 => ?_)
      refine s_pop o dX12_row_50 (vA_cat (mg Γ) v5) ?_
      exact sc_X12_row_51 o k_57 hk_57 l0 l1 l2 l3 l4 hl1 hl2 hl3 hl4
noncomputable def c_X12_row_20 {A : Type} (k_57 : Int → Int → Int → Int → Mo CH A) (l0 : Int) (l1 : Int) (l2 : Int) (l3 : Int) (l4 : Int) : Mo CH A := Loop (fun x => c_X12_row_20b k_57 x.1 x.2.1 x.2.2.1 x.2.2.2.1 x.2.2.2.2) (l0, l1, l2, l3, l4)
theorem sc_X12_row_20 {Γ : Gm} {ts : TS} {d : Nat} (o : Ok Γ "LazyForge$Reader" cX12_row 5 (Option.some (Jvm.ClassFile.FieldType.array Jvm.ClassFile.FieldType.long)) (d + 6)) {A : Type} {K : A → CH → Prop} (k_57 : Int → Int → Int → Int → Mo CH A) (hk_57 : ∀ (l0 : Int) (l1 : Int) (l2 : Int) (l3 : Int), R32 l1 → rg .boolean l2 → R32 l3 → Sx Γ (fun h => (h, ts)) K 57 [(0, vA (mg Γ) l0), (1, vI l1), (2, vI l2), (3, vI l3)] [] (k_57 l0 l1 l2 l3)) (l0 : Int) (l1 : Int) (l2 : Int) (l3 : Int) (l4 : Int) (hl1 : R32 l1) (hl2 : rg .boolean l2) (hl3 : R32 l3) (hl4 : R32 l4) : Sx Γ (fun h => (h, ts)) K 20 [(0, vA (mg Γ) l0), (1, vI l1), (2, vI l2), (3, vI l3), (4, vI l4)] [] (c_X12_row_20 k_57 l0 l1 l2 l3 l4) :=
  s_loop okc_X12_row_20 (lvc_X12_row_20 Γ) (fun x hx => sc_X12_row_20b o k_57 hk_57 x.1 x.2.1 x.2.2.1 x.2.2.2.1 x.2.2.2.2 hx.1 hx.2.1 hx.2.2.1 hx.2.2.2) (x := (l0, l1, l2, l3, l4)) ⟨hl1, hl2, hl3, hl4⟩
abbrev okc_X12_row_2 (x : Int × Int × Int × Int) : Prop := R32 x.2.1 ∧ rg .boolean x.2.2.1 ∧ R32 x.2.2.2
abbrev lvc_X12_row_2 (Γ : Gm) (x : Int × Int × Int × Int) : List (Nat × Value) := [(0, vA (mg Γ) x.1), (1, vI x.2.1), (2, vI x.2.2.1), (3, vI x.2.2.2)]
noncomputable def c_X12_row_96 {A : Type} (k_103 : Mo CH A) (k_125 : Int → Int → Int → Mo CH A) (l0 : Int) (l1 : Int) (l2 : Int) (l3 : Int) : Mo CH ((Int × Int × Int × Int) ⊕ A) :=
  bnd (isk 112 l0) fun _ =>
  bnd (c_X12_isGood l0) fun v1 =>
  if ¬ v1 = 0 then
    bnd (gf [112] 22 l0) fun v2 =>
    bnd (gf [112] 8 l0) fun v3 =>
    bnd (ast 1 v2 l3 v3) fun _ =>
    bnd (isk 112 l0) fun _ =>
    bnd (c_X12_next l0) fun _ =>
    pr (.inl (l0, l1, l2, (w32 (l3 + 1))))
  else
    lo k_103
theorem sc_X12_row_96 {Γ : Gm} {ts : TS} {d : Nat} (o : Ok Γ "LazyForge$Reader" cX12_row 5 (Option.some (Jvm.ClassFile.FieldType.array Jvm.ClassFile.FieldType.long)) (d + 6)) {A : Type} {K : A → CH → Prop}  (k_103 : Mo CH A) (k_125 : Int → Int → Int → Mo CH A) (hk_103 : Sx Γ (fun h => (h, ts)) K 103 [] [] (k_103)) (hk_125 : ∀ (l0 : Int) (l1 : Int) (l3 : Int), R32 l1 → R32 l3 → Sx Γ (fun h => (h, ts)) K 125 [(0, vA (mg Γ) l0), (1, vI l1), (3, vI l3)] [] (k_125 l0 l1 l3)) (l0 : Int) (l1 : Int) (l2 : Int) (l3 : Int) (hl1 : R32 l1) (hl2 : rg .boolean l2) (hl3 : R32 l3) : Sx Γ (fun h => (h, ts)) (KL Γ (fun h => (h, ts)) okc_X12_row_2 K 2 (lvc_X12_row_2 Γ) []) 96 [(0, vA (mg Γ) l0), (1, vI l1), (2, vI l2), (3, vI l3)] [] (c_X12_row_96 k_103 k_125 l0 l1 l2 l3) := by
  unfold c_X12_row_96
  refine s_aload_n o dX12_row_96 rfl 0 rfl ?_
  refine s_cvC (d := d + 5) (As := []) (st := []) (c := 12) o (sc_X12_isGood (mg Γ) (d + 5) ts l0) mw_X12_isGood rfl (Or.inl (lw_all_tbl q833)) rfl (lw_all_tbl qs6) (lw_all_tbl q835) wt_0 rfl dX12_row_97 rfl (rs := fun r => [vI r]) (fun _ => rfl) (fun v1 hv1 => ?_)
  refine s_if_ne (tgt := 105) o dX12_row_100 (by decide) (rZ (hv1 _ rfl)) ?_ ?_
  · refine s_aload_n o dX12_row_105 rfl 0 rfl ?_
    refine r_getf (vA (mg Γ)) rfl o cf_X12_gathered (Or.inl (lw_all_tbl q686)) dX12_row_106 (fun v2 hv2 => ?_)
    refine s_iload_n o dX12_row_109 rfl 3 rfl ?_
    refine s_aload_n o dX12_row_110 rfl 0 rfl ?_
    refine r_getf vJ rfl o cf_X12_word (Or.inl (lw_all_tbl q661)) dX12_row_111 (fun v3 hv3 => ?_)
    refine r_last o hl3 hv3 dX12_row_114 ?_
    refine r_iinc (j := 3) o dX12_row_115 rfl rfl [(0, vA (mg Γ) l0), (1, vI l1), (2, vI l2)] [0, 1, 2] rfl ⟨(Nat.ne_of_beq_eq_false rfl), (fun _ => (vA_cat (mg Γ) l0)), ⟨(Nat.ne_of_beq_eq_false rfl), (fun _ => rfl), ⟨(Nat.ne_of_beq_eq_false rfl), (fun _ => rfl), trivial⟩⟩⟩ ?_
    refine s_aload_n o dX12_row_118 rfl 1 rfl ?_
    refine s_cvC (d := d + 5) (As := []) (st := []) (c := 12) o (sc_X12_next (mg Γ) d ts l0) mw_X12_next rfl (Or.inl (lw_all_tbl q743)) rfl (lw_all_tbl qs2) (lw_all_tbl q745) wt_0 rfl dX12_row_119 rfl (rs := fun _ => []) (fun _ => rfl) (fun _ _ => ?_)
    refine s_goto (tgt := 2) o dX12_row_122 (by decide) ?_
    refine r_to [(0, vA (mg Γ) l0), (1, vI l1), (2, vI l2), (3, vI (w32 (l3 + 1)))] [1, 2, 3, 0] rfl ?_
    exact s_back (⟨hl1, hl2, (w32_R _)⟩) rfl
  · refine r_to [] [] rfl ?_
    exact s_lo hk_103
noncomputable def c_X12_row_72 {A : Type} (k_103 : Mo CH A) (k_125 : Int → Int → Int → Mo CH A) (l0 : Int) (l1 : Int) (l2 : Int) (l3 : Int) : Mo CH ((Int × Int × Int × Int) ⊕ A) :=
  bnd (isk 112 l0) fun _ =>
  bnd (c_X12_isGood l0) fun v1 =>
  if v1 = 0 then
    c_X12_row_96 k_103 k_125 l0 l1 l2 l3
  else
    if l2 = 0 then
      c_X12_row_96 k_103 k_125 l0 l1 l2 l3
    else
      if ¬ l3 = 0 then
        c_X12_row_96 k_103 k_125 l0 l1 l2 l3
      else
        bnd (gf [112] 5 l0) fun v2 =>
        bnd (isk 112 l0) fun _ =>
        bnd (c_X12_part l0 v2) fun v3 =>
        c_X12_row_96 k_103 k_125 l0 l1 l2 l3
theorem sc_X12_row_72 {Γ : Gm} {ts : TS} {d : Nat} (o : Ok Γ "LazyForge$Reader" cX12_row 5 (Option.some (Jvm.ClassFile.FieldType.array Jvm.ClassFile.FieldType.long)) (d + 6)) {A : Type} {K : A → CH → Prop}  (k_103 : Mo CH A) (k_125 : Int → Int → Int → Mo CH A) (hk_103 : Sx Γ (fun h => (h, ts)) K 103 [] [] (k_103)) (hk_125 : ∀ (l0 : Int) (l1 : Int) (l3 : Int), R32 l1 → R32 l3 → Sx Γ (fun h => (h, ts)) K 125 [(0, vA (mg Γ) l0), (1, vI l1), (3, vI l3)] [] (k_125 l0 l1 l3)) (l0 : Int) (l1 : Int) (l2 : Int) (l3 : Int) (hl1 : R32 l1) (hl2 : rg .boolean l2) (hl3 : R32 l3) : Sx Γ (fun h => (h, ts)) (KL Γ (fun h => (h, ts)) okc_X12_row_2 K 2 (lvc_X12_row_2 Γ) []) 72 [(0, vA (mg Γ) l0), (1, vI l1), (2, vI l2), (3, vI l3)] [] (c_X12_row_72 k_103 k_125 l0 l1 l2 l3) := by
  unfold c_X12_row_72
  refine s_aload_n o dX12_row_72 rfl 0 rfl ?_
  refine s_cvC (d := d + 5) (As := []) (st := []) (c := 12) o (sc_X12_isGood (mg Γ) (d + 5) ts l0) mw_X12_isGood rfl (Or.inl (lw_all_tbl q833)) rfl (lw_all_tbl qs6) (lw_all_tbl q835) wt_0 rfl dX12_row_73 rfl (rs := fun r => [vI r]) (fun _ => rfl) (fun v1 hv1 => ?_)
  refine s_if_eq (tgt := 96) o dX12_row_76 (by decide) (rZ (hv1 _ rfl)) ?_ ?_
  · exact sc_X12_row_96 o k_103 k_125 hk_103 hk_125 l0 l1 l2 l3 hl1 hl2 hl3
  · refine s_iload_n o dX12_row_79 rfl 2 rfl ?_
    refine s_if_eq (tgt := 96) o dX12_row_80 (by decide) (rZ hl2) ?_ ?_
    · exact sc_X12_row_96 o k_103 k_125 hk_103 hk_125 l0 l1 l2 l3 hl1 hl2 hl3
    · refine s_iload_n o dX12_row_83 rfl 3 rfl ?_
      refine s_if_ne (tgt := 96) o dX12_row_84 (by decide) hl3 ?_ ?_
      · exact sc_X12_row_96 o k_103 k_125 hk_103 hk_125 l0 l1 l2 l3 hl1 hl2 hl3
      · refine s_aload_n o dX12_row_87 rfl 0 rfl ?_
        refine s_aload_n o dX12_row_88 rfl 0 rfl ?_
        refine r_getf vI rfl o cf_X12_place (Or.inl (lw_all_tbl q658)) dX12_row_89 (fun v2 hv2 => ?_)
        refine s_cvC (d := d + 5) (As := [vI v2]) (st := []) (c := 12) o (sc_X12_part (mg Γ) (d + 4) ts l0 v2 hv2) mw_X12_part rfl (Or.inl (lw_all_tbl q876)) rfl (lw_all_tbl qs16) (lw_all_tbl q878) wt_0 rfl dX12_row_92 rfl (rs := fun r => [vI r]) (fun _ => rfl) (fun v3 hv3 => ?_)
        refine s_pop o dX12_row_95 rfl ?_
        exact sc_X12_row_96 o k_103 k_125 hk_103 hk_125 l0 l1 l2 l3 hl1 hl2 hl3
noncomputable def c_X12_row_2b {A : Type} (k_103 : Mo CH A) (k_125 : Int → Int → Int → Mo CH A) (l0 : Int) (l1 : Int) (l2 : Int) (l3 : Int) : Mo CH ((Int × Int × Int × Int) ⊕ A) :=
  bnd (isk 112 l0) fun _ =>
  bnd (c_X12_isGood l0) fun v1 =>
  if v1 = 0 then
    lo (k_125 l0 l1 l3)
  else
    bnd (gf [112] 4 l0) fun v2 =>
    if ¬ v2 = 1 then
      lo (k_125 l0 l1 l3)
    else
      c_X12_row_20
        (fun v3 v4 v5 v6 => if ¬ v6 = 5 then
        c_X12_row_72 k_103 k_125 v3 v4 v5 v6
      else
        bnd (gf [112] 5 v3) fun v7 =>
        bnd (isk 112 v3) fun _ =>
        bnd (c_X12_fail v3 4 v7) fun v8 =>
        c_X12_row_72 k_103 k_125 v3 v4 v5 v6) l0 l1 l2 l3 0
theorem sc_X12_row_2b {Γ : Gm} {ts : TS} {d : Nat} (o : Ok Γ "LazyForge$Reader" cX12_row 5 (Option.some (Jvm.ClassFile.FieldType.array Jvm.ClassFile.FieldType.long)) (d + 6)) {A : Type} {K : A → CH → Prop} (k_103 : Mo CH A) (k_125 : Int → Int → Int → Mo CH A) (hk_103 : Sx Γ (fun h => (h, ts)) K 103 [] [] (k_103)) (hk_125 : ∀ (l0 : Int) (l1 : Int) (l3 : Int), R32 l1 → R32 l3 → Sx Γ (fun h => (h, ts)) K 125 [(0, vA (mg Γ) l0), (1, vI l1), (3, vI l3)] [] (k_125 l0 l1 l3)) (l0 : Int) (l1 : Int) (l2 : Int) (l3 : Int) (hl1 : R32 l1) (hl2 : rg .boolean l2) (hl3 : R32 l3) : Sx Γ (fun h => (h, ts)) (KL Γ (fun h => (h, ts)) okc_X12_row_2 K 2 (lvc_X12_row_2 Γ) []) 2 [(0, vA (mg Γ) l0), (1, vI l1), (2, vI l2), (3, vI l3)] [] (c_X12_row_2b k_103 k_125 l0 l1 l2 l3) := by
  unfold c_X12_row_2b
  refine s_aload_n o dX12_row_2 rfl 0 rfl ?_
  refine s_cvC (d := d + 5) (As := []) (st := []) (c := 12) o (sc_X12_isGood (mg Γ) (d + 5) ts l0) mw_X12_isGood rfl (Or.inl (lw_all_tbl q833)) rfl (lw_all_tbl qs6) (lw_all_tbl q835) wt_0 rfl dX12_row_3 rfl (rs := fun r => [vI r]) (fun _ => rfl) (fun v1 hv1 => ?_)
  refine s_if_eq (tgt := 125) o dX12_row_6 (by decide) (rZ (hv1 _ rfl)) ?_ ?_
  · refine r_to [(0, vA (mg Γ) l0), (1, vI l1), (3, vI l3)] [0, 1, 3] rfl ?_
    exact s_lo (hk_125 l0 l1 l3 hl1 hl3)
  · refine s_aload_n o dX12_row_9 rfl 0 rfl ?_
    refine r_getf vI rfl o cf_X12_sort (Or.inl (lw_all_tbl q657)) dX12_row_10 (fun v2 hv2 => ?_)
    refine s_iconst o dX12_row_13 ?_
    refine s_icmp_ne (tgt := 125) o dX12_row_14 (by decide) hv2 (r32 rfl) ?_ ?_
    · refine r_to [(0, vA (mg Γ) l0), (1, vI l1), (3, vI l3)] [0, 1, 3] rfl ?_
      exact s_lo (hk_125 l0 l1 l3 hl1 hl3)
    · refine s_iconst o dX12_row_17 ?_
      refine r_istore o dX12_row_18 rfl ⟨(Nat.ne_of_beq_eq_false rfl), (fun _ => (vA_cat (mg Γ) l0)), ⟨(Nat.ne_of_beq_eq_false rfl), (fun _ => rfl), ⟨(Nat.ne_of_beq_eq_false rfl), (fun _ => rfl), ⟨(Nat.ne_of_beq_eq_false rfl), (fun _ => rfl), trivial⟩⟩⟩⟩ ?_
      refine r_to [(0, vA (mg Γ) l0), (1, vI l1), (2, vI l2), (3, vI l3), (4, vI 0)] [1, 2, 3, 4, 0] rfl ?_
      refine sc_X12_row_20 o _ ?_ l0 l1 l2 l3 0 hl1 hl2 hl3 (r32 rfl)
      · intro v3 v4 v5 v6 hv4 hv5 hv6
        refine s_iload_n o dX12_row_57 rfl 3 rfl ?_
        refine s_iconst o dX12_row_58 ?_
        refine s_icmp_ne (tgt := 72) o dX12_row_59 (by decide) hv6 (r32 rfl) ?_ ?_
        · exact sc_X12_row_72 o k_103 k_125 hk_103 hk_125 v3 v4 v5 v6 hv4 hv5 hv6
        · refine s_aload_n o dX12_row_62 rfl 0 rfl ?_
          refine s_iconst o dX12_row_63 ?_
          refine s_aload_n o dX12_row_64 rfl 0 rfl ?_
          refine r_getf vI rfl o cf_X12_place (Or.inl (lw_all_tbl q658)) dX12_row_65 (fun v7 hv7 => ?_)
          refine s_cvC (d := d + 5) (As := [vI 4, vI v7]) (st := []) (c := 12) o (sc_X12_fail (mg Γ) (d + 5) ts v3 4 v7 (r32 rfl) hv7) mw_X12_fail rfl (Or.inl (lw_all_tbl q846)) rfl (lw_all_tbl qs9) (lw_all_tbl q848) wt_0 rfl dX12_row_68 rfl (rs := fun r => [vA (mg Γ) r]) (fun _ => rfl) (fun v8 hv8 => ?_)
          refine s_pop o dX12_row_71 (vA_cat (mg Γ) v8) ?_
          exact sc_X12_row_72 o k_103 k_125 hk_103 hk_125 v3 v4 v5 v6 hv4 hv5 hv6
noncomputable def c_X12_row_2 {A : Type} (k_103 : Mo CH A) (k_125 : Int → Int → Int → Mo CH A) (l0 : Int) (l1 : Int) (l2 : Int) (l3 : Int) : Mo CH A := Loop (fun x => c_X12_row_2b k_103 k_125 x.1 x.2.1 x.2.2.1 x.2.2.2) (l0, l1, l2, l3)
theorem sc_X12_row_2 {Γ : Gm} {ts : TS} {d : Nat} (o : Ok Γ "LazyForge$Reader" cX12_row 5 (Option.some (Jvm.ClassFile.FieldType.array Jvm.ClassFile.FieldType.long)) (d + 6)) {A : Type} {K : A → CH → Prop} (k_103 : Mo CH A) (k_125 : Int → Int → Int → Mo CH A) (hk_103 : Sx Γ (fun h => (h, ts)) K 103 [] [] (k_103)) (hk_125 : ∀ (l0 : Int) (l1 : Int) (l3 : Int), R32 l1 → R32 l3 → Sx Γ (fun h => (h, ts)) K 125 [(0, vA (mg Γ) l0), (1, vI l1), (3, vI l3)] [] (k_125 l0 l1 l3)) (l0 : Int) (l1 : Int) (l2 : Int) (l3 : Int) (hl1 : R32 l1) (hl2 : rg .boolean l2) (hl3 : R32 l3) : Sx Γ (fun h => (h, ts)) K 2 [(0, vA (mg Γ) l0), (1, vI l1), (2, vI l2), (3, vI l3)] [] (c_X12_row_2 k_103 k_125 l0 l1 l2 l3) :=
  s_loop okc_X12_row_2 (lvc_X12_row_2 Γ) (fun x hx => sc_X12_row_2b o k_103 k_125 hk_103 hk_125 x.1 x.2.1 x.2.2.1 x.2.2.2 hx.1 hx.2.1 hx.2.2) (x := (l0, l1, l2, l3)) ⟨hl1, hl2, hl3⟩
noncomputable def c_X12_row_140  (l0 : Int) (l3 : Int) : Mo CH Int :=
  bnd (isk 112 l0) fun _ =>
  bnd (c_X12_isGood l0) fun v1 =>
  if ¬ v1 = 0 then
    bnd (newa 1 l3) fun v2 =>
    bnd (gf [112] 22 l0) fun v3 =>
    bnd (acp 1 v3 0 v2 0 l3) fun _ =>
    pr v2
  else
    pr 0
theorem sc_X12_row_140 {Γ : Gm} {ts : TS} {d : Nat} (o : Ok Γ "LazyForge$Reader" cX12_row 5 (Option.some (Jvm.ClassFile.FieldType.array Jvm.ClassFile.FieldType.long)) (d + 6))   (l0 : Int) (l3 : Int) (hl3 : R32 l3) : Sx Γ (fun h => (h, ts)) (fun a s => mt Γ = (0, a, ((s, ts) : Wd))) 140 [(0, vA (mg Γ) l0), (3, vI l3)] [] (c_X12_row_140 l0 l3) := by
  unfold c_X12_row_140
  refine s_aload_n o dX12_row_140 rfl 0 rfl ?_
  refine s_cvC (d := d + 5) (As := []) (st := []) (c := 12) o (sc_X12_isGood (mg Γ) (d + 5) ts l0) mw_X12_isGood rfl (Or.inl (lw_all_tbl q833)) rfl (lw_all_tbl qs6) (lw_all_tbl q835) wt_0 rfl dX12_row_141 rfl (rs := fun r => [vI r]) (fun _ => rfl) (fun v1 hv1 => ?_)
  refine s_if_ne (tgt := 149) o dX12_row_144 (by decide) (rZ (hv1 _ rfl)) ?_ ?_
  · refine s_iload_n o dX12_row_149 rfl 1 rfl ?_
    refine s_newa (kd := 1) o (by decide) rfl (by decide) (o.ra (by decide)) (lw_all_tbl q438) hl3 dX12_row_150 (fun v2 hv2 => ?_)
    refine r_astore o dX12_row_152 rfl ⟨(Nat.ne_of_beq_eq_false rfl), (fun _ => (vA_cat (mg Γ) l0)), ⟨(Nat.ne_of_beq_eq_false rfl), (fun _ => rfl), trivial⟩⟩ ?_
    refine s_aload_n o dX12_row_154 rfl 1 rfl ?_
    refine r_getf (vA (mg Γ)) rfl o cf_X12_gathered (Or.inl (lw_all_tbl q686)) dX12_row_155 (fun v3 hv3 => ?_)
    refine s_iconst o dX12_row_158 ?_
    refine s_aload o dX12_row_159 0 rfl ?_
    refine s_iconst o dX12_row_161 ?_
    refine s_iload_n o dX12_row_162 rfl 2 rfl ?_
    refine s_acp (kd := 1) (d := d + 5) o (by decide) (fun q => absurd q (by decide)) (lw_all_tbl q880) (r32 rfl) (r32 rfl) hl3 wt_0 rfl dX12_row_163 (lw_all_tbl q481) (lw_all_tbl q480) (lw_all_tbl q179) ?_
    refine s_aload o dX12_row_166 0 rfl ?_
    exact s_aret o rfl (Or.inr ⟨_, rfl⟩) dX12_row_168 (fun _ hh => hh)
  · refine s_null o dX12_row_147 ?_
    exact s_aret o rfl (Or.inr ⟨_, rfl⟩) dX12_row_148 (fun _ hh => hh)
noncomputable def c_X12_row (l0 : Int) (l1 : Int) (l2 : Int) : Mo CH Int :=
  c_X12_row_2
    (pr 0)
    (fun v1 v2 v3 => if v2 ≤ v3 then
    c_X12_row_140 v1 v3
  else
    bnd (gf [112] 5 v1) fun v4 =>
    bnd (isk 112 v1) fun _ =>
    bnd (c_X12_fail v1 1 v4) fun v5 =>
    c_X12_row_140 v1 v3) l0 l1 l2 0
theorem sc_X12_row (g : gC) (d : Nat) (ts : TS) (l0 : Int) (l1 : Int) (l2 : Int) (hl1 : R32 l1) (hl2 : rg .boolean l2) : SF g yX12_row (Cond.code yX12_row cX12_row 5 (Option.some (Jvm.ClassFile.FieldType.array Jvm.ClassFile.FieldType.long))) (Option.some (Jvm.ClassFile.FieldType.array Jvm.ClassFile.FieldType.long)) (d + 6) [vA g l0, vI l1, vI l2] (fun h => (h, ts)) (c_X12_row l0 l1 l2) := by
  refine SF.of (lv := [(0, vA g l0), (1, vI l1), (2, vI l2)]) (by decide) (wt_A (wt_I (wt_I wt_0))) rfl (by simp only [la_A, la_I, la_J, la_0]) (fun Γ hg hnm o => ?_)
  subst hg
  have o : Ok Γ "LazyForge$Reader" cX12_row 5 (Option.some (Jvm.ClassFile.FieldType.array Jvm.ClassFile.FieldType.long)) (d + 6) := o
  unfold c_X12_row
  refine s_iconst o dX12_row_0 ?_
  refine r_istore_n o dX12_row_1 rfl rfl ⟨(Nat.ne_of_beq_eq_false rfl), (fun _ => (vA_cat (mg Γ) l0)), ⟨(Nat.ne_of_beq_eq_false rfl), (fun _ => rfl), ⟨(Nat.ne_of_beq_eq_false rfl), (fun _ => rfl), trivial⟩⟩⟩ ?_
  refine r_to [(0, vA (mg Γ) l0), (1, vI l1), (2, vI l2), (3, vI 0)] [1, 2, 3, 0] rfl ?_
  refine sc_X12_row_2 o _ _ ?_ ?_ l0 l1 l2 0 hl1 hl2 (r32 rfl)
  · refine s_null o dX12_row_103 ?_
    exact s_aret o rfl (Or.inr ⟨_, rfl⟩) dX12_row_104 (fun _ hh => hh)
  · intro v1 v2 v3 hv2 hv3
    refine s_iload_n o dX12_row_125 rfl 2 rfl ?_
    refine s_iload_n o dX12_row_126 rfl 1 rfl ?_
    refine s_icmp_ge (tgt := 140) o dX12_row_127 (by decide) hv3 hv2 ?_ ?_
    · refine r_to [(0, vA (mg Γ) v1), (3, vI v3)] [0, 2] rfl ?_
      exact sc_X12_row_140 o v1 v3 hv3
    · refine s_aload_n o dX12_row_130 rfl 0 rfl ?_
      refine s_iconst o dX12_row_131 ?_
      refine s_aload_n o dX12_row_132 rfl 0 rfl ?_
      refine r_getf vI rfl o cf_X12_place (Or.inl (lw_all_tbl q658)) dX12_row_133 (fun v4 hv4 => ?_)
      refine s_cvC (d := d + 5) (As := [vI 1, vI v4]) (st := []) (c := 12) o (sc_X12_fail (mg Γ) (d + 5) ts v1 1 v4 (r32 rfl) hv4) mw_X12_fail rfl (Or.inl (lw_all_tbl q846)) rfl (lw_all_tbl qs9) (lw_all_tbl q848) wt_0 rfl dX12_row_136 rfl (rs := fun r => [vA (mg Γ) r]) (fun _ => rfl) (fun v5 hv5 => ?_)
      refine s_pop o dX12_row_139 (vA_cat (mg Γ) v5) ?_
      refine r_to [(0, vA (mg Γ) v1), (3, vI v3)] [0, 2] rfl ?_
      exact sc_X12_row_140 o v1 v3 hv3
theorem dX12_function_2_0 : decode cX12_function_2 0 = .ok (.new 34, 3) := by decide +kernel
theorem dX12_function_2_3 : decode cX12_function_2 3 = .ok (.dup, 1) := by decide +kernel
theorem dX12_function_2_4 : decode cX12_function_2 4 = .ok (.iconst 1, 1) := by decide +kernel
theorem dX12_function_2_5 : decode cX12_function_2 5 = .ok (.iload_n 2, 1) := by decide +kernel
theorem dX12_function_2_6 : decode cX12_function_2 6 = .ok (.invokespecial 231, 3) := by decide +kernel
theorem dX12_function_2_9 : decode cX12_function_2 9 = .ok (.astore_n 3, 1) := by decide +kernel
theorem dX12_function_2_10 : decode cX12_function_2 10 = .ok (.aload_n 3, 1) := by decide +kernel
theorem dX12_function_2_11 : decode cX12_function_2 11 = .ok (.aload_n 0, 1) := by decide +kernel
theorem dX12_function_2_12 : decode cX12_function_2 12 = .ok (.putfield 237, 3) := by decide +kernel
theorem dX12_function_2_15 : decode cX12_function_2 15 = .ok (.aload_n 3, 1) := by decide +kernel
theorem dX12_function_2_16 : decode cX12_function_2 16 = .ok (.iconst 1, 1) := by decide +kernel
theorem dX12_function_2_17 : decode cX12_function_2 17 = .ok (.anewarray 34, 3) := by decide +kernel
theorem dX12_function_2_20 : decode cX12_function_2 20 = .ok (.dup, 1) := by decide +kernel
theorem dX12_function_2_21 : decode cX12_function_2 21 = .ok (.iconst 0, 1) := by decide +kernel
theorem dX12_function_2_22 : decode cX12_function_2 22 = .ok (.aload_n 1, 1) := by decide +kernel
theorem dX12_function_2_23 : decode cX12_function_2 23 = .ok (.aastore, 1) := by decide +kernel
theorem dX12_function_2_24 : decode cX12_function_2 24 = .ok (.putfield 240, 3) := by decide +kernel
theorem dX12_function_2_27 : decode cX12_function_2 27 = .ok (.aload_n 3, 1) := by decide +kernel
theorem dX12_function_2_28 : decode cX12_function_2 28 = .ok (.areturn, 1) := by decide +kernel
theorem mw_X12_function_2 : MW yX12_function_2 (Cond.code yX12_function_2 cX12_function_2 4 (Option.some (Jvm.ClassFile.FieldType.object "LazyForge$Raw"))) cX12_function_2 4 (Option.some (Jvm.ClassFile.FieldType.object "LazyForge$Raw")) 3 := ⟨rfl, ⟨(lw_all_tbl q944), rfl, (lw_all_tbl q180)⟩, rfl, ⟨by decide, by decide⟩, by decide +kernel⟩
noncomputable def c_X12_function_2 (l0 : Int) (l1 : Int) (l2 : Int) : Mo CH Int :=
  bnd (newo 13) fun v1 =>
  bnd (c_X13_init v1 1 l2) fun _ =>
  bnd (pf [113] 5 v1 l0) fun _ =>
  bnd (newa 6 1) fun v2 =>
  bnd (asq 6 v2 0 l1) fun _ =>
  bnd (pf [113] 6 v1 v2) fun _ =>
  pr v1
theorem sc_X12_function_2 (g : gC) (d : Nat) (ts : TS) (l0 : Int) (l1 : Int) (l2 : Int) (hl2 : R32 l2) : SF g yX12_function_2 (Cond.code yX12_function_2 cX12_function_2 4 (Option.some (Jvm.ClassFile.FieldType.object "LazyForge$Raw"))) (Option.some (Jvm.ClassFile.FieldType.object "LazyForge$Raw")) (d + 2) [vA g l0, vA g l1, vI l2] (fun h => (h, ts)) (c_X12_function_2 l0 l1 l2) := by
  refine SF.of (lv := [(0, vA g l0), (1, vA g l1), (2, vI l2)]) (by decide) (wt_A (wt_A (wt_I wt_0))) rfl (by simp only [la_A, la_I, la_J, la_0]) (fun Γ hg hnm o => ?_)
  subst hg
  have o : Ok Γ "LazyForge$Reader" cX12_function_2 4 (Option.some (Jvm.ClassFile.FieldType.object "LazyForge$Raw")) (d + 2) := o
  unfold c_X12_function_2
  refine s_new o mk_13 (lw_all_tbl q594) dX12_function_2_0 (fun v1 hv1 => ?_)
  refine s_dup o dX12_function_2_3 (vA_cat (mg Γ) v1) ?_
  refine s_iconst o dX12_function_2_4 ?_
  refine s_iload_n o dX12_function_2_5 rfl 2 rfl ?_
  refine s_ci (d := d + 1) (As := [vI 1, vI l2]) (st := [vA (mg Γ) v1]) o (sc_X13_init (mg Γ) d ts v1 1 l2 hv1 (r32 rfl) hl2) mw_X13_init rfl (Or.inl (lw_all_tbl q892)) (lw_all_tbl q893) rfl hv1 (wt_A wt_0) rfl dX12_function_2_6 rfl (fun _ => ?_)
  refine r_astore_n o dX12_function_2_9 rfl rfl ⟨(Nat.ne_of_beq_eq_false rfl), (fun _ => (vA_cat (mg Γ) l0)), ⟨(Nat.ne_of_beq_eq_false rfl), (fun _ => (vA_cat (mg Γ) l1)), ⟨(Nat.ne_of_beq_eq_false rfl), (fun _ => rfl), trivial⟩⟩⟩ ?_
  refine s_aload_n o dX12_function_2_10 rfl 0 rfl ?_
  refine s_aload_n o dX12_function_2_11 rfl 1 rfl ?_
  refine r_putf (vA (mg Γ)) rfl o cf_X13_names (Or.inr (Or.inl ⟨_, q908⟩)) dX12_function_2_12 (Or.inl rfl) trivial (ty_array _) ?_
  refine s_aload_n o dX12_function_2_15 rfl 0 rfl ?_
  refine s_iconst o dX12_function_2_16 ?_
  refine s_anew (kd := 6) o (by decide) (Or.inl rfl) (lw_all_tbl q594) ao_6 (r32 rfl) dX12_function_2_17 (fun v2 hv2 => ?_)
  refine s_dup o dX12_function_2_20 (vA_cat (mg Γ) v2) ?_
  refine s_iconst o dX12_function_2_21 ?_
  refine s_aload_n o dX12_function_2_22 rfl 2 rfl ?_
  refine s_aast (kd := 6) o (by decide) (as_6 o) (Or.inl ⟨_, rfl⟩) (r32 rfl) dX12_function_2_23 ?_
  refine r_putf (vA (mg Γ)) rfl o cf_X13_kids (Or.inr (Or.inl ⟨_, q910⟩)) dX12_function_2_24 (Or.inl rfl) trivial (ty_array _) ?_
  refine s_aload_n o dX12_function_2_27 rfl 0 rfl ?_
  exact s_aret o rfl (Or.inl ⟨_, rfl⟩) dX12_function_2_28 (fun _ hh => hh)

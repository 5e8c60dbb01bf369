set_option maxRecDepth 100000
theorem q2186 : (Jvm.Cond.methodLink "LassoFinderModel" (260 : Nat) ({ cls := "LassoFinderModel", name := "node", desc := "(I)I" } : Jvm.MethodName)) ∈ lw_all := lw_g (lw_at lw_m9 166 rfl) rfl
theorem q2188 : (Jvm.Cond.instanceMethod ({ cls := "LassoFinderModel", name := "node", desc := "(I)I" } : Jvm.MethodName)) ∈ lw_all := lw_g (lw_at lw_m9 168 rfl) rfl
theorem q2201 : (Jvm.Cond.code ({ cls := "LassoFinderModel", name := "basic", desc := "(IZ)Z" } : Jvm.MethodName) prog_22_method_20_code (8 : Nat) (Option.some Jvm.ClassFile.FieldType.boolean)) ∈ lw_all := lw_g (lw_at lw_m9 181 rfl) rfl
theorem q2202 : (Jvm.Cond.methodLink "LassoFinderModel" (274 : Nat) ({ cls := "LassoFinderModel", name := "expression", desc := "(I)Z" } : Jvm.MethodName)) ∈ lw_all := lw_g (lw_at lw_m9 182 rfl) rfl
theorem q2204 : (Jvm.Cond.instanceMethod ({ cls := "LassoFinderModel", name := "expression", desc := "(I)Z" } : Jvm.MethodName)) ∈ lw_all := lw_g (lw_at lw_m9 184 rfl) rfl
abbrev cX9_basic : ByteArray := prog_22_method_20_code
def yX9_basic : MethodName := ⟨RX9, "basic", "(IZ)Z"⟩
theorem dX9_basic_0 : decode cX9_basic 0 = .ok (.aload_n 0, 1) := by decide +kernel
theorem dX9_basic_1 : decode cX9_basic 1 = .ok (.bipush 97, 2) := by decide +kernel
theorem dX9_basic_3 : decode cX9_basic 3 = .ok (.bipush 8, 2) := by decide +kernel
theorem dX9_basic_5 : decode cX9_basic 5 = .ok (.invokevirtual 231, 3) := by decide +kernel
theorem dX9_basic_8 : decode cX9_basic 8 = .ok (.istore_n 3, 1) := by decide +kernel
theorem dX9_basic_9 : decode cX9_basic 9 = .ok (.iload_n 3, 1) := by decide +kernel
theorem dX9_basic_10 : decode cX9_basic 10 = .ok (.ifCond .lt 25, 3) := by decide +kernel
theorem dX9_basic_13 : decode cX9_basic 13 = .ok (.aload_n 0, 1) := by decide +kernel
theorem dX9_basic_14 : decode cX9_basic 14 = .ok (.getfield 17, 3) := by decide +kernel
theorem dX9_basic_17 : decode cX9_basic 17 = .ok (.iload_n 3, 1) := by decide +kernel
theorem dX9_basic_18 : decode cX9_basic 18 = .ok (.iaload, 1) := by decide +kernel
theorem dX9_basic_19 : decode cX9_basic 19 = .ok (.ifCond .ge 12, 3) := by decide +kernel
theorem dX9_basic_22 : decode cX9_basic 22 = .ok (.aload_n 0, 1) := by decide +kernel
theorem dX9_basic_23 : decode cX9_basic 23 = .ok (.getfield 20, 3) := by decide +kernel
theorem dX9_basic_26 : decode cX9_basic 26 = .ok (.iload_n 3, 1) := by decide +kernel
theorem dX9_basic_27 : decode cX9_basic 27 = .ok (.iaload, 1) := by decide +kernel
theorem dX9_basic_28 : decode cX9_basic 28 = .ok (.ifCond .lt 7, 3) := by decide +kernel
theorem dX9_basic_31 : decode cX9_basic 31 = .ok (.iconst 1, 1) := by decide +kernel
theorem dX9_basic_32 : decode cX9_basic 32 = .ok (.goto 4, 3) := by decide +kernel
theorem dX9_basic_35 : decode cX9_basic 35 = .ok (.iconst 0, 1) := by decide +kernel
theorem dX9_basic_36 : decode cX9_basic 36 = .ok (.istore 4, 2) := by decide +kernel
theorem dX9_basic_38 : decode cX9_basic 38 = .ok (.iload 4, 2) := by decide +kernel
theorem dX9_basic_40 : decode cX9_basic 40 = .ok (.ifCond .ne 38, 3) := by decide +kernel
theorem dX9_basic_43 : decode cX9_basic 43 = .ok (.iload_n 1, 1) := by decide +kernel
theorem dX9_basic_44 : decode cX9_basic 44 = .ok (.bipush 40, 2) := by decide +kernel
theorem dX9_basic_46 : decode cX9_basic 46 = .ok (.if_icmp .eq 32, 3) := by decide +kernel
theorem dX9_basic_49 : decode cX9_basic 49 = .ok (.iload_n 1, 1) := by decide +kernel
theorem dX9_basic_50 : decode cX9_basic 50 = .ok (.bipush 45, 2) := by decide +kernel
theorem dX9_basic_52 : decode cX9_basic 52 = .ok (.if_icmp .eq 26, 3) := by decide +kernel
theorem dX9_basic_55 : decode cX9_basic 55 = .ok (.iload_n 1, 1) := by decide +kernel
theorem dX9_basic_56 : decode cX9_basic 56 = .ok (.bipush 126, 2) := by decide +kernel
theorem dX9_basic_58 : decode cX9_basic 58 = .ok (.if_icmp .ne 24, 3) := by decide +kernel
theorem dX9_basic_61 : decode cX9_basic 61 = .ok (.iload_n 2, 1) := by decide +kernel
theorem dX9_basic_62 : decode cX9_basic 62 = .ok (.ifCond .eq 20, 3) := by decide +kernel
theorem dX9_basic_65 : decode cX9_basic 65 = .ok (.aload_n 0, 1) := by decide +kernel
theorem dX9_basic_66 : decode cX9_basic 66 = .ok (.getfield 94, 3) := by decide +kernel
theorem dX9_basic_69 : decode cX9_basic 69 = .ok (.aload_n 0, 1) := by decide +kernel
theorem dX9_basic_70 : decode cX9_basic 70 = .ok (.getfield 248, 3) := by decide +kernel
theorem dX9_basic_73 : decode cX9_basic 73 = .ok (.iaload, 1) := by decide +kernel
theorem dX9_basic_74 : decode cX9_basic 74 = .ok (.iconst 3, 1) := by decide +kernel
theorem dX9_basic_75 : decode cX9_basic 75 = .ok (.if_icmp .ge 7, 3) := by decide +kernel
theorem dX9_basic_78 : decode cX9_basic 78 = .ok (.iconst 1, 1) := by decide +kernel
theorem dX9_basic_79 : decode cX9_basic 79 = .ok (.goto 4, 3) := by decide +kernel
theorem dX9_basic_82 : decode cX9_basic 82 = .ok (.iconst 0, 1) := by decide +kernel
theorem dX9_basic_83 : decode cX9_basic 83 = .ok (.istore 5, 2) := by decide +kernel
theorem dX9_basic_85 : decode cX9_basic 85 = .ok (.iload 5, 2) := by decide +kernel
theorem dX9_basic_87 : decode cX9_basic 87 = .ok (.ifCond .eq 26, 3) := by decide +kernel
theorem dX9_basic_90 : decode cX9_basic 90 = .ok (.aload_n 0, 1) := by decide +kernel
theorem dX9_basic_91 : decode cX9_basic 91 = .ok (.getfield 257, 3) := by decide +kernel
theorem dX9_basic_94 : decode cX9_basic 94 = .ok (.bipush 48, 2) := by decide +kernel
theorem dX9_basic_96 : decode cX9_basic 96 = .ok (.if_icmp .eq 17, 3) := by decide +kernel
theorem dX9_basic_99 : decode cX9_basic 99 = .ok (.aload_n 0, 1) := by decide +kernel
theorem dX9_basic_100 : decode cX9_basic 100 = .ok (.getfield 75, 3) := by decide +kernel
theorem dX9_basic_103 : decode cX9_basic 103 = .ok (.aload_n 0, 1) := by decide +kernel
theorem dX9_basic_104 : decode cX9_basic 104 = .ok (.getfield 254, 3) := by decide +kernel
theorem dX9_basic_107 : decode cX9_basic 107 = .ok (.iaload, 1) := by decide +kernel
theorem dX9_basic_108 : decode cX9_basic 108 = .ok (.bipush 30, 2) := by decide +kernel
theorem dX9_basic_110 : decode cX9_basic 110 = .ok (.if_icmp .ne 8, 3) := by decide +kernel
theorem dX9_basic_113 : decode cX9_basic 113 = .ok (.aload_n 0, 1) := by decide +kernel
theorem dX9_basic_114 : decode cX9_basic 114 = .ok (.invokevirtual 213, 3) := by decide +kernel
theorem dX9_basic_117 : decode cX9_basic 117 = .ok (.ireturn, 1) := by decide +kernel
theorem dX9_basic_118 : decode cX9_basic 118 = .ok (.aload_n 0, 1) := by decide +kernel
theorem dX9_basic_119 : decode cX9_basic 119 = .ok (.iload_n 1, 1) := by decide +kernel
theorem dX9_basic_120 : decode cX9_basic 120 = .ok (.bipush 40, 2) := by decide +kernel
theorem dX9_basic_122 : decode cX9_basic 122 = .ok (.if_icmp .ne 7, 3) := by decide +kernel
theorem dX9_basic_125 : decode cX9_basic 125 = .ok (.iconst 1, 1) := by decide +kernel
theorem dX9_basic_126 : decode cX9_basic 126 = .ok (.goto 24, 3) := by decide +kernel
theorem dX9_basic_129 : decode cX9_basic 129 = .ok (.iload_n 1, 1) := by decide +kernel
theorem dX9_basic_130 : decode cX9_basic 130 = .ok (.bipush 45, 2) := by decide +kernel
theorem dX9_basic_132 : decode cX9_basic 132 = .ok (.if_icmp .ne 7, 3) := by decide +kernel
theorem dX9_basic_135 : decode cX9_basic 135 = .ok (.iconst 4, 1) := by decide +kernel
theorem dX9_basic_136 : decode cX9_basic 136 = .ok (.goto 14, 3) := by decide +kernel
theorem dX9_basic_139 : decode cX9_basic 139 = .ok (.iload_n 1, 1) := by decide +kernel
theorem dX9_basic_140 : decode cX9_basic 140 = .ok (.bipush 126, 2) := by decide +kernel
theorem dX9_basic_142 : decode cX9_basic 142 = .ok (.if_icmp .ne 7, 3) := by decide +kernel
theorem dX9_basic_145 : decode cX9_basic 145 = .ok (.iconst 5, 1) := by decide +kernel
theorem dX9_basic_146 : decode cX9_basic 146 = .ok (.goto 4, 3) := by decide +kernel
theorem dX9_basic_149 : decode cX9_basic 149 = .ok (.iconst 0, 1) := by decide +kernel
theorem dX9_basic_150 : decode cX9_basic 150 = .ok (.invokevirtual 260, 3) := by decide +kernel
theorem dX9_basic_153 : decode cX9_basic 153 = .ok (.istore 6, 2) := by decide +kernel
theorem dX9_basic_155 : decode cX9_basic 155 = .ok (.aload_n 0, 1) := by decide +kernel
theorem dX9_basic_156 : decode cX9_basic 156 = .ok (.dup, 1) := by decide +kernel
theorem dX9_basic_157 : decode cX9_basic 157 = .ok (.getfield 203, 3) := by decide +kernel
theorem dX9_basic_160 : decode cX9_basic 160 = .ok (.iconst 1, 1) := by decide +kernel
theorem dX9_basic_161 : decode cX9_basic 161 = .ok (.iadd, 1) := by decide +kernel
theorem dX9_basic_162 : decode cX9_basic 162 = .ok (.putfield 203, 3) := by decide +kernel
theorem dX9_basic_165 : decode cX9_basic 165 = .ok (.aload_n 0, 1) := by decide +kernel
theorem dX9_basic_166 : decode cX9_basic 166 = .ok (.getfield 57, 3) := by decide +kernel
theorem dX9_basic_169 : decode cX9_basic 169 = .ok (.iload 6, 2) := by decide +kernel
theorem dX9_basic_171 : decode cX9_basic 171 = .ok (.aload_n 0, 1) := by decide +kernel
theorem dX9_basic_172 : decode cX9_basic 172 = .ok (.getfield 217, 3) := by decide +kernel
theorem dX9_basic_175 : decode cX9_basic 175 = .ok (.iastore, 1) := by decide +kernel
theorem dX9_basic_176 : decode cX9_basic 176 = .ok (.aload_n 0, 1) := by decide +kernel
theorem dX9_basic_177 : decode cX9_basic 177 = .ok (.getfield 60, 3) := by decide +kernel
theorem dX9_basic_180 : decode cX9_basic 180 = .ok (.iload 6, 2) := by decide +kernel
theorem dX9_basic_182 : decode cX9_basic 182 = .ok (.aload_n 0, 1) := by decide +kernel
theorem dX9_basic_183 : decode cX9_basic 183 = .ok (.getfield 217, 3) := by decide +kernel
theorem dX9_basic_186 : decode cX9_basic 186 = .ok (.iastore, 1) := by decide +kernel
theorem dX9_basic_187 : decode cX9_basic 187 = .ok (.iload_n 1, 1) := by decide +kernel
theorem dX9_basic_188 : decode cX9_basic 188 = .ok (.bipush 40, 2) := by decide +kernel
theorem dX9_basic_190 : decode cX9_basic 190 = .ok (.if_icmp .ne 31, 3) := by decide +kernel
theorem dX9_basic_193 : decode cX9_basic 193 = .ok (.aload_n 0, 1) := by decide +kernel
theorem dX9_basic_194 : decode cX9_basic 194 = .ok (.iconst 1, 1) := by decide +kernel
theorem dX9_basic_195 : decode cX9_basic 195 = .ok (.invokevirtual 274, 3) := by decide +kernel
theorem dX9_basic_198 : decode cX9_basic 198 = .ok (.ifCond .ne 5, 3) := by decide +kernel
theorem dX9_basic_201 : decode cX9_basic 201 = .ok (.iconst 0, 1) := by decide +kernel
theorem dX9_basic_202 : decode cX9_basic 202 = .ok (.ireturn, 1) := by decide +kernel
theorem dX9_basic_203 : decode cX9_basic 203 = .ok (.aload_n 0, 1) := by decide +kernel
theorem dX9_basic_204 : decode cX9_basic 204 = .ok (.getfield 60, 3) := by decide +kernel
theorem dX9_basic_207 : decode cX9_basic 207 = .ok (.iload 6, 2) := by decide +kernel
theorem dX9_basic_209 : decode cX9_basic 209 = .ok (.aload_n 0, 1) := by decide +kernel
theorem dX9_basic_210 : decode cX9_basic 210 = .ok (.getfield 217, 3) := by decide +kernel
theorem dX9_basic_213 : decode cX9_basic 213 = .ok (.iastore, 1) := by decide +kernel
theorem dX9_basic_214 : decode cX9_basic 214 = .ok (.aload_n 0, 1) := by decide +kernel
theorem dX9_basic_215 : decode cX9_basic 215 = .ok (.bipush 41, 2) := by decide +kernel
theorem dX9_basic_217 : decode cX9_basic 217 = .ok (.invokevirtual 244, 3) := by decide +kernel
theorem dX9_basic_220 : decode cX9_basic 220 = .ok (.ireturn, 1) := by decide +kernel
theorem dX9_basic_221 : decode cX9_basic 221 = .ok (.iload 4, 2) := by decide +kernel
theorem dX9_basic_223 : decode cX9_basic 223 = .ok (.ifCond .ne 5, 3) := by decide +kernel
theorem dX9_basic_226 : decode cX9_basic 226 = .ok (.iconst 1, 1) := by decide +kernel
theorem dX9_basic_227 : decode cX9_basic 227 = .ok (.ireturn, 1) := by decide +kernel
theorem dX9_basic_228 : decode cX9_basic 228 = .ok (.aload_n 0, 1) := by decide +kernel
theorem dX9_basic_229 : decode cX9_basic 229 = .ok (.getfield 17, 3) := by decide +kernel
theorem dX9_basic_232 : decode cX9_basic 232 = .ok (.iload_n 3, 1) := by decide +kernel
theorem dX9_basic_233 : decode cX9_basic 233 = .ok (.iaload, 1) := by decide +kernel
theorem dX9_basic_234 : decode cX9_basic 234 = .ok (.ifCond .lt 27, 3) := by decide +kernel
theorem dX9_basic_237 : decode cX9_basic 237 = .ok (.aload_n 0, 1) := by decide +kernel
theorem dX9_basic_238 : decode cX9_basic 238 = .ok (.getfield 51, 3) := by decide +kernel
theorem dX9_basic_241 : decode cX9_basic 241 = .ok (.iload 6, 2) := by decide +kernel
theorem dX9_basic_243 : decode cX9_basic 243 = .ok (.aload_n 0, 1) := by decide +kernel
theorem dX9_basic_244 : decode cX9_basic 244 = .ok (.getfield 17, 3) := by decide +kernel
theorem dX9_basic_247 : decode cX9_basic 247 = .ok (.iload_n 3, 1) := by decide +kernel
theorem dX9_basic_248 : decode cX9_basic 248 = .ok (.iaload, 1) := by decide +kernel
theorem dX9_basic_249 : decode cX9_basic 249 = .ok (.iastore, 1) := by decide +kernel
theorem dX9_basic_250 : decode cX9_basic 250 = .ok (.aload_n 0, 1) := by decide +kernel
theorem dX9_basic_251 : decode cX9_basic 251 = .ok (.bipush 61, 2) := by decide +kernel
theorem dX9_basic_253 : decode cX9_basic 253 = .ok (.invokevirtual 244, 3) := by decide +kernel
theorem dX9_basic_256 : decode cX9_basic 256 = .ok (.ifCond .ne 120, 3) := by decide +kernel
theorem dX9_basic_259 : decode cX9_basic 259 = .ok (.iconst 0, 1) := by decide +kernel
theorem dX9_basic_260 : decode cX9_basic 260 = .ok (.ireturn, 1) := by decide +kernel
theorem dX9_basic_261 : decode cX9_basic 261 = .ok (.aload_n 0, 1) := by decide +kernel
theorem dX9_basic_262 : decode cX9_basic 262 = .ok (.getfield 51, 3) := by decide +kernel
theorem dX9_basic_265 : decode cX9_basic 265 = .ok (.iload 6, 2) := by decide +kernel
theorem dX9_basic_267 : decode cX9_basic 267 = .ok (.aload_n 0, 1) := by decide +kernel
theorem dX9_basic_268 : decode cX9_basic 268 = .ok (.getfield 20, 3) := by decide +kernel
theorem dX9_basic_271 : decode cX9_basic 271 = .ok (.iload_n 3, 1) := by decide +kernel
theorem dX9_basic_272 : decode cX9_basic 272 = .ok (.iaload, 1) := by decide +kernel
theorem dX9_basic_273 : decode cX9_basic 273 = .ok (.iastore, 1) := by decide +kernel
theorem dX9_basic_274 : decode cX9_basic 274 = .ok (.aload_n 0, 1) := by decide +kernel
theorem dX9_basic_275 : decode cX9_basic 275 = .ok (.invokevirtual 209, 3) := by decide +kernel
theorem dX9_basic_278 : decode cX9_basic 278 = .ok (.bipush 63, 2) := by decide +kernel
theorem dX9_basic_280 : decode cX9_basic 280 = .ok (.if_icmp .ne 77, 3) := by decide +kernel
theorem dX9_basic_283 : decode cX9_basic 283 = .ok (.aload_n 0, 1) := by decide +kernel
theorem dX9_basic_284 : decode cX9_basic 284 = .ok (.getfield 29, 3) := by decide +kernel
theorem dX9_basic_287 : decode cX9_basic 287 = .ok (.iload 6, 2) := by decide +kernel
theorem dX9_basic_289 : decode cX9_basic 289 = .ok (.iconst 3, 1) := by decide +kernel
theorem dX9_basic_290 : decode cX9_basic 290 = .ok (.iastore, 1) := by decide +kernel
theorem dX9_basic_291 : decode cX9_basic 291 = .ok (.aload_n 0, 1) := by decide +kernel
theorem dX9_basic_292 : decode cX9_basic 292 = .ok (.dup, 1) := by decide +kernel
theorem dX9_basic_293 : decode cX9_basic 293 = .ok (.getfield 203, 3) := by decide +kernel
theorem dX9_basic_296 : decode cX9_basic 296 = .ok (.iconst 1, 1) := by decide +kernel
theorem dX9_basic_297 : decode cX9_basic 297 = .ok (.iadd, 1) := by decide +kernel
theorem dX9_basic_298 : decode cX9_basic 298 = .ok (.putfield 203, 3) := by decide +kernel
theorem dX9_basic_301 : decode cX9_basic 301 = .ok (.aload_n 0, 1) := by decide +kernel
theorem dX9_basic_302 : decode cX9_basic 302 = .ok (.bipush 97, 2) := by decide +kernel
theorem dX9_basic_304 : decode cX9_basic 304 = .ok (.bipush 8, 2) := by decide +kernel
theorem dX9_basic_306 : decode cX9_basic 306 = .ok (.invokevirtual 231, 3) := by decide +kernel
theorem dX9_basic_309 : decode cX9_basic 309 = .ok (.istore 7, 2) := by decide +kernel
theorem dX9_basic_311 : decode cX9_basic 311 = .ok (.iload 7, 2) := by decide +kernel
theorem dX9_basic_313 : decode cX9_basic 313 = .ok (.ifCond .lt 13, 3) := by decide +kernel
theorem dX9_basic_316 : decode cX9_basic 316 = .ok (.aload_n 0, 1) := by decide +kernel
theorem dX9_basic_317 : decode cX9_basic 317 = .ok (.getfield 17, 3) := by decide +kernel
theorem dX9_basic_320 : decode cX9_basic 320 = .ok (.iload 7, 2) := by decide +kernel
theorem dX9_basic_322 : decode cX9_basic 322 = .ok (.iaload, 1) := by decide +kernel
theorem dX9_basic_323 : decode cX9_basic 323 = .ok (.ifCond .ge 8, 3) := by decide +kernel
theorem dX9_basic_326 : decode cX9_basic 326 = .ok (.aload_n 0, 1) := by decide +kernel
theorem dX9_basic_327 : decode cX9_basic 327 = .ok (.invokevirtual 213, 3) := by decide +kernel
theorem dX9_basic_330 : decode cX9_basic 330 = .ok (.ireturn, 1) := by decide +kernel
theorem dX9_basic_331 : decode cX9_basic 331 = .ok (.aload_n 0, 1) := by decide +kernel
theorem dX9_basic_332 : decode cX9_basic 332 = .ok (.getfield 54, 3) := by decide +kernel
theorem dX9_basic_335 : decode cX9_basic 335 = .ok (.iload 6, 2) := by decide +kernel
theorem dX9_basic_337 : decode cX9_basic 337 = .ok (.aload_n 0, 1) := by decide +kernel
theorem dX9_basic_338 : decode cX9_basic 338 = .ok (.getfield 17, 3) := by decide +kernel
theorem dX9_basic_341 : decode cX9_basic 341 = .ok (.iload 7, 2) := by decide +kernel
theorem dX9_basic_343 : decode cX9_basic 343 = .ok (.iaload, 1) := by decide +kernel
theorem dX9_basic_344 : decode cX9_basic 344 = .ok (.iastore, 1) := by decide +kernel
theorem dX9_basic_345 : decode cX9_basic 345 = .ok (.aload_n 0, 1) := by decide +kernel
theorem dX9_basic_346 : decode cX9_basic 346 = .ok (.dup, 1) := by decide +kernel
theorem dX9_basic_347 : decode cX9_basic 347 = .ok (.getfield 203, 3) := by decide +kernel
theorem dX9_basic_350 : decode cX9_basic 350 = .ok (.iconst 1, 1) := by decide +kernel
theorem dX9_basic_351 : decode cX9_basic 351 = .ok (.iadd, 1) := by decide +kernel
theorem dX9_basic_352 : decode cX9_basic 352 = .ok (.putfield 203, 3) := by decide +kernel
theorem dX9_basic_355 : decode cX9_basic 355 = .ok (.iconst 1, 1) := by decide +kernel
theorem dX9_basic_356 : decode cX9_basic 356 = .ok (.ireturn, 1) := by decide +kernel
theorem dX9_basic_357 : decode cX9_basic 357 = .ok (.aload_n 0, 1) := by decide +kernel
theorem dX9_basic_358 : decode cX9_basic 358 = .ok (.getfield 29, 3) := by decide +kernel
theorem dX9_basic_361 : decode cX9_basic 361 = .ok (.iload 6, 2) := by decide +kernel
theorem dX9_basic_363 : decode cX9_basic 363 = .ok (.iconst 2, 1) := by decide +kernel
theorem dX9_basic_364 : decode cX9_basic 364 = .ok (.iastore, 1) := by decide +kernel
theorem dX9_basic_365 : decode cX9_basic 365 = .ok (.aload_n 0, 1) := by decide +kernel
theorem dX9_basic_366 : decode cX9_basic 366 = .ok (.bipush 33, 2) := by decide +kernel
theorem dX9_basic_368 : decode cX9_basic 368 = .ok (.invokevirtual 244, 3) := by decide +kernel
theorem dX9_basic_371 : decode cX9_basic 371 = .ok (.ifCond .ne 5, 3) := by decide +kernel
theorem dX9_basic_374 : decode cX9_basic 374 = .ok (.iconst 0, 1) := by decide +kernel
theorem dX9_basic_375 : decode cX9_basic 375 = .ok (.ireturn, 1) := by decide +kernel
theorem dX9_basic_376 : decode cX9_basic 376 = .ok (.aload_n 0, 1) := by decide +kernel
theorem dX9_basic_377 : decode cX9_basic 377 = .ok (.iconst 0, 1) := by decide +kernel
theorem dX9_basic_378 : decode cX9_basic 378 = .ok (.invokevirtual 274, 3) := by decide +kernel
theorem dX9_basic_381 : decode cX9_basic 381 = .ok (.ifCond .ne 5, 3) := by decide +kernel
theorem dX9_basic_384 : decode cX9_basic 384 = .ok (.iconst 0, 1) := by decide +kernel
theorem dX9_basic_385 : decode cX9_basic 385 = .ok (.ireturn, 1) := by decide +kernel
theorem dX9_basic_386 : decode cX9_basic 386 = .ok (.aload_n 0, 1) := by decide +kernel
theorem dX9_basic_387 : decode cX9_basic 387 = .ok (.getfield 60, 3) := by decide +kernel
theorem dX9_basic_390 : decode cX9_basic 390 = .ok (.iload 6, 2) := by decide +kernel
theorem dX9_basic_392 : decode cX9_basic 392 = .ok (.aload_n 0, 1) := by decide +kernel
theorem dX9_basic_393 : decode cX9_basic 393 = .ok (.getfield 217, 3) := by decide +kernel
theorem dX9_basic_396 : decode cX9_basic 396 = .ok (.iastore, 1) := by decide +kernel
theorem dX9_basic_397 : decode cX9_basic 397 = .ok (.iconst 1, 1) := by decide +kernel
theorem dX9_basic_398 : decode cX9_basic 398 = .ok (.ireturn, 1) := by decide +kernel
abbrev MX9_basic : zT := (yX9_basic, cX9_basic, 8, (Option.some Jvm.ClassFile.FieldType.boolean), [])
theorem plX9_basic : zplain MX9_basic 2 ∧ (zcodeW MX9_basic ∈ lw_all ∧ Cond.initialized MX9_basic.1.cls ∈ lw_all) := ⟨⟨by decide +kernel, by decide +kernel⟩, q2201, q127⟩
noncomputable def f_X9_basic_113 (x0 : Int) (σ : zM) : Option zO :=
  zgd (zis σ 10 x0) <|
  zci (f_X9_fail x0 σ) fun v1 σ2 =>
  zgd (z01 v1) <|
  some (0, zi v1, σ2)
theorem w_X9_basic_113 {g : zG} {lv : Nat} {out : zO} (x0 : Int) (σ : zM) {r : zO} (h : f_X9_basic_113 x0 σ = some r) (hk : (fun o : zO => o = out) r) : Gj g MX9_basic (lv + 3) 113 [(0, zr x0)] [] σ out := by
  revert h
  unfold f_X9_basic_113
  refine zst_ (gj_aload_n 0 (pc := 113) dX9_basic_113 rfl) ?_
  refine gb_gd (fun hb => ?_)
  refine gb_callI (pc := 114) (as := [zr x0]) (rest := []) (zCl.of (zLk_V (M := MX9_basic) (ci := 9) (r := (RX9, TX9, 84)) plX9_fail.1 rfl rfl (zisE hb).1 (zisE hb).2 dX9_basic_114 q2166 q2168 qs49 q2169) plX9_fail (Nat.le_of_ble_eq_true rfl) (fun h => c_X9_fail h)) (fun v1 σ2 => ?_)
  refine gb_gd (fun hb => ?_)
  intro h
  cases h
  have hk : (0, zi v1, σ2) = out := hk
  subst hk
  exact gj_ret (pc := 117) (t := .boolean) dX9_basic_117 rfl ⟨rfl, rfl⟩ (fun _ => z01E hb)
noncomputable def f_X9_basic_376 (x0 x6 : Int) (σ : zM) : Option zO :=
  zgd (zis σ 10 x0) <|
  zci (f_X9_expression x0 0 σ) fun v1 σ2 =>
  if v1 ≠ 0 then
    (zgf σ2 924 x0).bind fun v3 =>
    (zgf σ2 936 x0).bind fun v4 =>
    (zpa σ2 101 v3 x6 v4).bind fun σ5 =>
    zgd (z01 1) <|
    some (0, zi 1, σ5)
  else
    zgd (z01 0) <|
    some (0, zi 0, σ2)
theorem w_X9_basic_376 {g : zG} {lv : Nat} {out : zO} (x0 x6 : Int) (σ : zM) {r : zO} (h : f_X9_basic_376 x0 x6 σ = some r) (hk : (fun o : zO => o = out) r) : Gj g MX9_basic (lv + 3) 376 [(0, zr x0), (6, zi x6)] [] σ out := by
  revert h
  unfold f_X9_basic_376
  refine zst_ (gj_aload_n 0 (pc := 376) dX9_basic_376 rfl) ?_
  refine zst_ (gj_iconst (pc := 377) dX9_basic_377 (by decide)) ?_
  refine gb_gd (fun hb => ?_)
  refine gb_callI (pc := 378) (as := [zr x0, zi 0]) (rest := []) (zCl.of (zLk_V (M := MX9_basic) (ci := 9) (r := (RX9, TX9, 84)) plX9_expression.1 rfl rfl (zisE hb).1 (zisE hb).2 dX9_basic_378 q2202 q2204 qs58 q2205) plX9_expression (Nat.le_of_ble_eq_true rfl) (fun h => c_X9_expression h)) (fun v1 σ2 => ?_)
  refine gb_if (gj_if_ne 386 (pc := 381) dX9_basic_381 (by decide)) ?_ ?_
  · refine zst_ (gj_aload_n 0 (pc := 386) dX9_basic_386 rfl) ?_
    refine gb_get (pc := 387) fl924 dX9_basic_387 q1906 (Or.inl rfl) (fun v3 => ?_)
    refine zst_ (gj_iload 1 (pc := 390) dX9_basic_390 rfl) ?_
    refine zst_ (gj_aload_n 0 (pc := 392) dX9_basic_392 rfl) ?_
    refine gb_get (pc := 393) fl936 dX9_basic_393 q1918 (Or.inl rfl) (fun v4 => ?_)
    refine gb_iast (pc := 396) dX9_basic_396 (fun σ5 => ?_)
    refine zst_ (gj_iconst (pc := 397) dX9_basic_397 (by decide)) ?_
    refine gb_gd (fun hb => ?_)
    intro h
    cases h
    have hk : (0, zi 1, σ5) = out := hk
    subst hk
    exact gj_ret (pc := 398) (t := .boolean) dX9_basic_398 rfl ⟨rfl, rfl⟩ (fun _ => z01E hb)
  · refine zst_ (gj_iconst (pc := 384) dX9_basic_384 (by decide)) ?_
    refine gb_gd (fun hb => ?_)
    intro h
    cases h
    have hk : (0, zi 0, σ2) = out := hk
    subst hk
    exact gj_ret (pc := 385) (t := .boolean) dX9_basic_385 rfl ⟨rfl, rfl⟩ (fun _ => z01E hb)
noncomputable def f_X9_basic_326 (x0 : Int) (σ : zM) : Option zO :=
  zgd (zis σ 10 x0) <|
  zci (f_X9_fail x0 σ) fun v1 σ2 =>
  zgd (z01 v1) <|
  some (0, zi v1, σ2)
theorem w_X9_basic_326 {g : zG} {lv : Nat} {out : zO} (x0 : Int) (σ : zM) {r : zO} (h : f_X9_basic_326 x0 σ = some r) (hk : (fun o : zO => o = out) r) : Gj g MX9_basic (lv + 3) 326 [(0, zr x0)] [] σ out := by
  revert h
  unfold f_X9_basic_326
  refine zst_ (gj_aload_n 0 (pc := 326) dX9_basic_326 rfl) ?_
  refine gb_gd (fun hb => ?_)
  refine gb_callI (pc := 327) (as := [zr x0]) (rest := []) (zCl.of (zLk_V (M := MX9_basic) (ci := 9) (r := (RX9, TX9, 84)) plX9_fail.1 rfl rfl (zisE hb).1 (zisE hb).2 dX9_basic_327 q2166 q2168 qs49 q2169) plX9_fail (Nat.le_of_ble_eq_true rfl) (fun h => c_X9_fail h)) (fun v1 σ2 => ?_)
  refine gb_gd (fun hb => ?_)
  intro h
  cases h
  have hk : (0, zi v1, σ2) = out := hk
  subst hk
  exact gj_ret (pc := 330) (t := .boolean) dX9_basic_330 rfl ⟨rfl, rfl⟩ (fun _ => z01E hb)
noncomputable def f_X9_basic_150 (x0 x1 x3 x4 t0 t1 : Int) (σ : zM) : Option zO :=
  zgd (zis σ 10 t1) <|
  zci (f_X9_node t1 t0 σ) fun v1 σ2 =>
  (zgf σ2 903 x0).bind fun v3 =>
  (zpf σ2 903 x0 (zadd v3 1)).bind fun σ4 =>
  (zgf σ4 923 x0).bind fun v5 =>
  (zgf σ4 936 x0).bind fun v6 =>
  (zpa σ4 101 v5 v1 v6).bind fun σ7 =>
  (zgf σ7 924 x0).bind fun v8 =>
  (zgf σ7 936 x0).bind fun v9 =>
  (zpa σ7 101 v8 v1 v9).bind fun σ10 =>
  if x1 ≠ 40 then
    if x4 ≠ 0 then
      (zgf σ10 909 x0).bind fun v11 =>
      (zga σ10 101 v11 x3).bind fun v12 =>
      if v12 < 0 then
        (zgf σ10 921 x0).bind fun v13 =>
        (zgf σ10 910 x0).bind fun v14 =>
        (zga σ10 101 v14 x3).bind fun v15 =>
        (zpa σ10 101 v13 v1 v15).bind fun σ16 =>
        zgd (zis σ16 10 x0) <|
        zci (f_X9_here x0 σ16) fun v17 σ18 =>
        if v17 ≠ 63 then
          (zgf σ18 914 x0).bind fun v19 =>
          (zpa σ18 101 v19 v1 2).bind fun σ20 =>
          zgd (zis σ20 10 x0) <|
          zci (f_X9_takes x0 33 σ20) fun v21 σ22 =>
          if v21 ≠ 0 then
            f_X9_basic_376 x0 v1 σ22
          else
            zgd (z01 0) <|
            some (0, zi 0, σ22)
        else
          (zgf σ18 914 x0).bind fun v23 =>
          (zpa σ18 101 v23 v1 3).bind fun σ24 =>
          (zgf σ24 903 x0).bind fun v25 =>
          (zpf σ24 903 x0 (zadd v25 1)).bind fun σ26 =>
          zgd (zis σ26 10 x0) <|
          zci (f_X9_from x0 97 8 σ26) fun v27 σ28 =>
          if v27 < 0 then
            f_X9_basic_326 x0 σ28
          else
            (zgf σ28 909 x0).bind fun v29 =>
            (zga σ28 101 v29 v27).bind fun v30 =>
            if 0 ≤ v30 then
              (zgf σ28 922 x0).bind fun v31 =>
              (zgf σ28 909 x0).bind fun v32 =>
              (zga σ28 101 v32 v27).bind fun v33 =>
              (zpa σ28 101 v31 v1 v33).bind fun σ34 =>
              (zgf σ34 903 x0).bind fun v35 =>
              (zpf σ34 903 x0 (zadd v35 1)).bind fun σ36 =>
              zgd (z01 1) <|
              some (0, zi 1, σ36)
            else
              f_X9_basic_326 x0 σ28
      else
        (zgf σ10 921 x0).bind fun v37 =>
        (zgf σ10 909 x0).bind fun v38 =>
        (zga σ10 101 v38 x3).bind fun v39 =>
        (zpa σ10 101 v37 v1 v39).bind fun σ40 =>
        zgd (zis σ40 10 x0) <|
        zci (f_X9_takes x0 61 σ40) fun v41 σ42 =>
        if v41 ≠ 0 then
          f_X9_basic_376 x0 v1 σ42
        else
          zgd (z01 0) <|
          some (0, zi 0, σ42)
    else
      zgd (z01 1) <|
      some (0, zi 1, σ10)
  else
    zgd (zis σ10 10 x0) <|
    zci (f_X9_expression x0 1 σ10) fun v43 σ44 =>
    if v43 ≠ 0 then
      (zgf σ44 924 x0).bind fun v45 =>
      (zgf σ44 936 x0).bind fun v46 =>
      (zpa σ44 101 v45 v1 v46).bind fun σ47 =>
      zgd (zis σ47 10 x0) <|
      zci (f_X9_takes x0 41 σ47) fun v48 σ49 =>
      zgd (z01 v48) <|
      some (0, zi v48, σ49)
    else
      zgd (z01 0) <|
      some (0, zi 0, σ44)
theorem w_X9_basic_150 {g : zG} {lv : Nat} {out : zO} (x0 x1 x3 x4 t0 t1 : Int) (σ : zM) {r : zO} (h : f_X9_basic_150 x0 x1 x3 x4 t0 t1 σ = some r) (hk : (fun o : zO => o = out) r) : Gj g MX9_basic (lv + 3) 150 [(0, zr x0), (1, zi x1), (3, zi x3), (4, zi x4)] [zi t0, zr t1] σ out := by
  revert h
  unfold f_X9_basic_150
  refine gb_gd (fun hb => ?_)
  refine gb_callI (pc := 150) (as := [zr t1, zi t0]) (rest := []) (zCl.of (zLk_V (M := MX9_basic) (ci := 9) (r := (RX9, TX9, 84)) plX9_node.1 rfl rfl (zisE hb).1 (zisE hb).2 dX9_basic_150 q2186 q2188 qs54 q2189) plX9_node (Nat.le_of_ble_eq_true rfl) (fun h => c_X9_node h)) (fun v1 σ2 => ?_)
  refine zst_ (gj_istore (pc := 153) (ls' := [(6, zi v1), (0, zr x0), (1, zi x1), (3, zi x3), (4, zi x4)]) dX9_basic_153 (by decide) rfl) ?_
  refine zst_ (gj_aload_n 1 (pc := 155) dX9_basic_155 rfl) ?_
  refine zst_ (gj_dup (pc := 156) dX9_basic_156 rfl) ?_
  refine gb_get (pc := 157) fl903 dX9_basic_157 q1885 (Or.inl rfl) (fun v3 => ?_)
  refine zst_ (gj_iconst (pc := 160) dX9_basic_160 (by decide)) ?_
  refine zst_ (gj_iadd (pc := 161) dX9_basic_161) ?_
  refine gb_put (pc := 162) fl903 fr903 dX9_basic_162 q1885 (Or.inl rfl) (fun σ4 => ?_)
  refine zst_ (gj_aload_n 1 (pc := 165) dX9_basic_165 rfl) ?_
  refine gb_get (pc := 166) fl923 dX9_basic_166 q1905 (Or.inl rfl) (fun v5 => ?_)
  refine zst_ (gj_iload 0 (pc := 169) dX9_basic_169 rfl) ?_
  refine zst_ (gj_aload_n 1 (pc := 171) dX9_basic_171 rfl) ?_
  refine gb_get (pc := 172) fl936 dX9_basic_172 q1918 (Or.inl rfl) (fun v6 => ?_)
  refine gb_iast (pc := 175) dX9_basic_175 (fun σ7 => ?_)
  refine zst_ (gj_aload_n 1 (pc := 176) dX9_basic_176 rfl) ?_
  refine gb_get (pc := 177) fl924 dX9_basic_177 q1906 (Or.inl rfl) (fun v8 => ?_)
  refine zst_ (gj_iload 0 (pc := 180) dX9_basic_180 rfl) ?_
  refine zst_ (gj_aload_n 1 (pc := 182) dX9_basic_182 rfl) ?_
  refine gb_get (pc := 183) fl936 dX9_basic_183 q1918 (Or.inl rfl) (fun v9 => ?_)
  refine gb_iast (pc := 186) dX9_basic_186 (fun σ10 => ?_)
  refine zst_ (gj_iload_n 2 (pc := 187) dX9_basic_187 rfl) ?_
  refine zst_ (gj_bipush (pc := 188) dX9_basic_188 ⟨rfl, by decide⟩) ?_
  refine gb_if (gj_icmp_ne 221 (pc := 190) dX9_basic_190 (by decide)) ?_ ?_
  · refine zst_ (gj_iload 4 (pc := 221) dX9_basic_221 rfl) ?_
    refine gb_if (gj_if_ne 228 (pc := 223) dX9_basic_223 (by decide)) ?_ ?_
    · refine zst_ (gj_aload_n 1 (pc := 228) dX9_basic_228 rfl) ?_
      refine gb_get (pc := 229) fl909 dX9_basic_229 q1891 (Or.inl rfl) (fun v11 => ?_)
      refine zst_ (gj_iload_n 3 (pc := 232) dX9_basic_232 rfl) ?_
      refine gb_iald (pc := 233) dX9_basic_233 (fun v12 => ?_)
      refine gb_if (gj_if_lt 261 (pc := 234) dX9_basic_234 (by decide)) ?_ ?_
      · refine zst_ (gj_aload_n 1 (pc := 261) dX9_basic_261 rfl) ?_
        refine gb_get (pc := 262) fl921 dX9_basic_262 q1903 (Or.inl rfl) (fun v13 => ?_)
        refine zst_ (gj_iload 0 (pc := 265) dX9_basic_265 rfl) ?_
        refine zst_ (gj_aload_n 1 (pc := 267) dX9_basic_267 rfl) ?_
        refine gb_get (pc := 268) fl910 dX9_basic_268 q1892 (Or.inl rfl) (fun v14 => ?_)
        refine zst_ (gj_iload_n 3 (pc := 271) dX9_basic_271 rfl) ?_
        refine gb_iald (pc := 272) dX9_basic_272 (fun v15 => ?_)
        refine gb_iast (pc := 273) dX9_basic_273 (fun σ16 => ?_)
        refine zst_ (gj_aload_n 1 (pc := 274) dX9_basic_274 rfl) ?_
        refine gb_gd (fun hb => ?_)
        refine gb_callI (pc := 275) (as := [zr x0]) (rest := []) (zCl.of (zLk_V (M := MX9_basic) (ci := 9) (r := (RX9, TX9, 84)) plX9_here.1 rfl rfl (zisE hb).1 (zisE hb).2 dX9_basic_275 q2154 q2156 qs46 q2157) plX9_here (Nat.le_of_ble_eq_true rfl) (fun h => c_X9_here h)) (fun v17 σ18 => ?_)
        refine zst_ (gj_bipush (pc := 278) dX9_basic_278 ⟨rfl, by decide⟩) ?_
        refine gb_if (gj_icmp_ne 357 (pc := 280) dX9_basic_280 (by decide)) ?_ ?_
        · refine zst_ (gj_aload_n 1 (pc := 357) dX9_basic_357 rfl) ?_
          refine gb_get (pc := 358) fl914 dX9_basic_358 q1896 (Or.inl rfl) (fun v19 => ?_)
          refine zst_ (gj_iload 0 (pc := 361) dX9_basic_361 rfl) ?_
          refine zst_ (gj_iconst (pc := 363) dX9_basic_363 (by decide)) ?_
          refine gb_iast (pc := 364) dX9_basic_364 (fun σ20 => ?_)
          refine zst_ (gj_aload_n 1 (pc := 365) dX9_basic_365 rfl) ?_
          refine zst_ (gj_bipush (pc := 366) dX9_basic_366 ⟨rfl, by decide⟩) ?_
          refine gb_gd (fun hb => ?_)
          refine gb_callI (pc := 368) (as := [zr x0, zi 33]) (rest := []) (zCl.of (zLk_V (M := MX9_basic) (ci := 9) (r := (RX9, TX9, 84)) plX9_takes.1 rfl rfl (zisE hb).1 (zisE hb).2 dX9_basic_368 q2170 q2172 qs50 q2173) plX9_takes (Nat.le_of_ble_eq_true rfl) (fun h => c_X9_takes h)) (fun v21 σ22 => ?_)
          refine gb_if (gj_if_ne 376 (pc := 371) dX9_basic_371 (by decide)) ?_ ?_
          · refine zst_ (gj_sub [1, 0] rfl) ?_
            exact fun h => w_X9_basic_376 x0 v1 σ22 h hk
          · refine zst_ (gj_iconst (pc := 374) dX9_basic_374 (by decide)) ?_
            refine gb_gd (fun hb => ?_)
            intro h
            cases h
            have hk : (0, zi 0, σ22) = out := hk
            subst hk
            exact gj_ret (pc := 375) (t := .boolean) dX9_basic_375 rfl ⟨rfl, rfl⟩ (fun _ => z01E hb)
        · refine zst_ (gj_aload_n 1 (pc := 283) dX9_basic_283 rfl) ?_
          refine gb_get (pc := 284) fl914 dX9_basic_284 q1896 (Or.inl rfl) (fun v23 => ?_)
          refine zst_ (gj_iload 0 (pc := 287) dX9_basic_287 rfl) ?_
          refine zst_ (gj_iconst (pc := 289) dX9_basic_289 (by decide)) ?_
          refine gb_iast (pc := 290) dX9_basic_290 (fun σ24 => ?_)
          refine zst_ (gj_aload_n 1 (pc := 291) dX9_basic_291 rfl) ?_
          refine zst_ (gj_dup (pc := 292) dX9_basic_292 rfl) ?_
          refine gb_get (pc := 293) fl903 dX9_basic_293 q1885 (Or.inl rfl) (fun v25 => ?_)
          refine zst_ (gj_iconst (pc := 296) dX9_basic_296 (by decide)) ?_
          refine zst_ (gj_iadd (pc := 297) dX9_basic_297) ?_
          refine gb_put (pc := 298) fl903 fr903 dX9_basic_298 q1885 (Or.inl rfl) (fun σ26 => ?_)
          refine zst_ (gj_aload_n 1 (pc := 301) dX9_basic_301 rfl) ?_
          refine zst_ (gj_bipush (pc := 302) dX9_basic_302 ⟨rfl, by decide⟩) ?_
          refine zst_ (gj_bipush (pc := 304) dX9_basic_304 ⟨rfl, by decide⟩) ?_
          refine gb_gd (fun hb => ?_)
          refine gb_callI (pc := 306) (as := [zr x0, zi 97, zi 8]) (rest := []) (zCl.of (zLk_V (M := MX9_basic) (ci := 9) (r := (RX9, TX9, 84)) plX9_from.1 rfl rfl (zisE hb).1 (zisE hb).2 dX9_basic_306 q2162 q2164 qs48 q2165) plX9_from (Nat.le_of_ble_eq_true rfl) (fun h => c_X9_from h)) (fun v27 σ28 => ?_)
          refine zst_ (gj_istore (pc := 309) (ls' := [(7, zi v27), (6, zi v1), (0, zr x0), (1, zi x1), (3, zi x3), (4, zi x4)]) dX9_basic_309 (by decide) rfl) ?_
          refine zst_ (gj_iload 0 (pc := 311) dX9_basic_311 rfl) ?_
          refine gb_if (gj_if_lt 326 (pc := 313) dX9_basic_313 (by decide)) ?_ ?_
          · refine zst_ (gj_sub [2] rfl) ?_
            exact fun h => w_X9_basic_326 x0 σ28 h hk
          · refine zst_ (gj_aload_n 2 (pc := 316) dX9_basic_316 rfl) ?_
            refine gb_get (pc := 317) fl909 dX9_basic_317 q1891 (Or.inl rfl) (fun v29 => ?_)
            refine zst_ (gj_iload 0 (pc := 320) dX9_basic_320 rfl) ?_
            refine gb_iald (pc := 322) dX9_basic_322 (fun v30 => ?_)
            refine gb_if (gj_if_ge 331 (pc := 323) dX9_basic_323 (by decide)) ?_ ?_
            · refine zst_ (gj_aload_n 2 (pc := 331) dX9_basic_331 rfl) ?_
              refine gb_get (pc := 332) fl922 dX9_basic_332 q1904 (Or.inl rfl) (fun v31 => ?_)
              refine zst_ (gj_iload 1 (pc := 335) dX9_basic_335 rfl) ?_
              refine zst_ (gj_aload_n 2 (pc := 337) dX9_basic_337 rfl) ?_
              refine gb_get (pc := 338) fl909 dX9_basic_338 q1891 (Or.inl rfl) (fun v32 => ?_)
              refine zst_ (gj_iload 0 (pc := 341) dX9_basic_341 rfl) ?_
              refine gb_iald (pc := 343) dX9_basic_343 (fun v33 => ?_)
              refine gb_iast (pc := 344) dX9_basic_344 (fun σ34 => ?_)
              refine zst_ (gj_aload_n 2 (pc := 345) dX9_basic_345 rfl) ?_
              refine zst_ (gj_dup (pc := 346) dX9_basic_346 rfl) ?_
              refine gb_get (pc := 347) fl903 dX9_basic_347 q1885 (Or.inl rfl) (fun v35 => ?_)
              refine zst_ (gj_iconst (pc := 350) dX9_basic_350 (by decide)) ?_
              refine zst_ (gj_iadd (pc := 351) dX9_basic_351) ?_
              refine gb_put (pc := 352) fl903 fr903 dX9_basic_352 q1885 (Or.inl rfl) (fun σ36 => ?_)
              refine zst_ (gj_iconst (pc := 355) dX9_basic_355 (by decide)) ?_
              refine gb_gd (fun hb => ?_)
              intro h
              cases h
              have hk : (0, zi 1, σ36) = out := hk
              subst hk
              exact gj_ret (pc := 356) (t := .boolean) dX9_basic_356 rfl ⟨rfl, rfl⟩ (fun _ => z01E hb)
            · refine zst_ (gj_sub [2] rfl) ?_
              exact fun h => w_X9_basic_326 x0 σ28 h hk
      · refine zst_ (gj_aload_n 1 (pc := 237) dX9_basic_237 rfl) ?_
        refine gb_get (pc := 238) fl921 dX9_basic_238 q1903 (Or.inl rfl) (fun v37 => ?_)
        refine zst_ (gj_iload 0 (pc := 241) dX9_basic_241 rfl) ?_
        refine zst_ (gj_aload_n 1 (pc := 243) dX9_basic_243 rfl) ?_
        refine gb_get (pc := 244) fl909 dX9_basic_244 q1891 (Or.inl rfl) (fun v38 => ?_)
        refine zst_ (gj_iload_n 3 (pc := 247) dX9_basic_247 rfl) ?_
        refine gb_iald (pc := 248) dX9_basic_248 (fun v39 => ?_)
        refine gb_iast (pc := 249) dX9_basic_249 (fun σ40 => ?_)
        refine zst_ (gj_aload_n 1 (pc := 250) dX9_basic_250 rfl) ?_
        refine zst_ (gj_bipush (pc := 251) dX9_basic_251 ⟨rfl, by decide⟩) ?_
        refine gb_gd (fun hb => ?_)
        refine gb_callI (pc := 253) (as := [zr x0, zi 61]) (rest := []) (zCl.of (zLk_V (M := MX9_basic) (ci := 9) (r := (RX9, TX9, 84)) plX9_takes.1 rfl rfl (zisE hb).1 (zisE hb).2 dX9_basic_253 q2170 q2172 qs50 q2173) plX9_takes (Nat.le_of_ble_eq_true rfl) (fun h => c_X9_takes h)) (fun v41 σ42 => ?_)
        refine gb_if (gj_if_ne 376 (pc := 256) dX9_basic_256 (by decide)) ?_ ?_
        · refine zst_ (gj_sub [1, 0] rfl) ?_
          exact fun h => w_X9_basic_376 x0 v1 σ42 h hk
        · refine zst_ (gj_iconst (pc := 259) dX9_basic_259 (by decide)) ?_
          refine gb_gd (fun hb => ?_)
          intro h
          cases h
          have hk : (0, zi 0, σ42) = out := hk
          subst hk
          exact gj_ret (pc := 260) (t := .boolean) dX9_basic_260 rfl ⟨rfl, rfl⟩ (fun _ => z01E hb)
    · refine zst_ (gj_iconst (pc := 226) dX9_basic_226 (by decide)) ?_
      refine gb_gd (fun hb => ?_)
      intro h
      cases h
      have hk : (0, zi 1, σ10) = out := hk
      subst hk
      exact gj_ret (pc := 227) (t := .boolean) dX9_basic_227 rfl ⟨rfl, rfl⟩ (fun _ => z01E hb)
  · refine zst_ (gj_aload_n 1 (pc := 193) dX9_basic_193 rfl) ?_
    refine zst_ (gj_iconst (pc := 194) dX9_basic_194 (by decide)) ?_
    refine gb_gd (fun hb => ?_)
    refine gb_callI (pc := 195) (as := [zr x0, zi 1]) (rest := []) (zCl.of (zLk_V (M := MX9_basic) (ci := 9) (r := (RX9, TX9, 84)) plX9_expression.1 rfl rfl (zisE hb).1 (zisE hb).2 dX9_basic_195 q2202 q2204 qs58 q2205) plX9_expression (Nat.le_of_ble_eq_true rfl) (fun h => c_X9_expression h)) (fun v43 σ44 => ?_)
    refine gb_if (gj_if_ne 203 (pc := 198) dX9_basic_198 (by decide)) ?_ ?_
    · refine zst_ (gj_aload_n 1 (pc := 203) dX9_basic_203 rfl) ?_
      refine gb_get (pc := 204) fl924 dX9_basic_204 q1906 (Or.inl rfl) (fun v45 => ?_)
      refine zst_ (gj_iload 0 (pc := 207) dX9_basic_207 rfl) ?_
      refine zst_ (gj_aload_n 1 (pc := 209) dX9_basic_209 rfl) ?_
      refine gb_get (pc := 210) fl936 dX9_basic_210 q1918 (Or.inl rfl) (fun v46 => ?_)
      refine gb_iast (pc := 213) dX9_basic_213 (fun σ47 => ?_)
      refine zst_ (gj_aload_n 1 (pc := 214) dX9_basic_214 rfl) ?_
      refine zst_ (gj_bipush (pc := 215) dX9_basic_215 ⟨rfl, by decide⟩) ?_
      refine gb_gd (fun hb => ?_)
      refine gb_callI (pc := 217) (as := [zr x0, zi 41]) (rest := []) (zCl.of (zLk_V (M := MX9_basic) (ci := 9) (r := (RX9, TX9, 84)) plX9_takes.1 rfl rfl (zisE hb).1 (zisE hb).2 dX9_basic_217 q2170 q2172 qs50 q2173) plX9_takes (Nat.le_of_ble_eq_true rfl) (fun h => c_X9_takes h)) (fun v48 σ49 => ?_)
      refine gb_gd (fun hb => ?_)
      intro h
      cases h
      have hk : (0, zi v48, σ49) = out := hk
      subst hk
      exact gj_ret (pc := 220) (t := .boolean) dX9_basic_220 rfl ⟨rfl, rfl⟩ (fun _ => z01E hb)
    · refine zst_ (gj_iconst (pc := 201) dX9_basic_201 (by decide)) ?_
      refine gb_gd (fun hb => ?_)
      intro h
      cases h
      have hk : (0, zi 0, σ44) = out := hk
      subst hk
      exact gj_ret (pc := 202) (t := .boolean) dX9_basic_202 rfl ⟨rfl, rfl⟩ (fun _ => z01E hb)
noncomputable def f_X9_basic_83 (x0 x1 x3 x4 t0 : Int) (σ : zM) : Option zO :=
  if t0 = 0 then
    f_X9_basic_113 x0 σ
  else
    (zgf σ 927 x0).bind fun v1 =>
    if v1 = 48 then
      f_X9_basic_113 x0 σ
    else
      (zgf σ 931 x0).bind fun v2 =>
      (zgf σ 930 x0).bind fun v3 =>
      (zga σ 101 v2 v3).bind fun v4 =>
      if v4 ≠ 30 then
        if x1 ≠ 40 then
          if x1 ≠ 45 then
            if x1 ≠ 126 then
              f_X9_basic_150 x0 x1 x3 x4 0 x0 σ
            else
              f_X9_basic_150 x0 x1 x3 x4 5 x0 σ
          else
            f_X9_basic_150 x0 x1 x3 x4 4 x0 σ
        else
          f_X9_basic_150 x0 x1 x3 x4 1 x0 σ
      else
        f_X9_basic_113 x0 σ
theorem w_X9_basic_83 {g : zG} {lv : Nat} {out : zO} (x0 x1 x3 x4 t0 : Int) (σ : zM) {r : zO} (h : f_X9_basic_83 x0 x1 x3 x4 t0 σ = some r) (hk : (fun o : zO => o = out) r) : Gj g MX9_basic (lv + 3) 83 [(0, zr x0), (1, zi x1), (3, zi x3), (4, zi x4)] [zi t0] σ out := by
  revert h
  unfold f_X9_basic_83
  refine zst_ (gj_istore (pc := 83) (ls' := [(5, zi t0), (0, zr x0), (1, zi x1), (3, zi x3), (4, zi x4)]) dX9_basic_83 (by decide) rfl) ?_
  refine zst_ (gj_iload 0 (pc := 85) dX9_basic_85 rfl) ?_
  refine gb_if (gj_if_eq 113 (pc := 87) dX9_basic_87 (by decide)) ?_ ?_
  · refine zst_ (gj_sub [1] rfl) ?_
    exact fun h => w_X9_basic_113 x0 σ h hk
  · refine zst_ (gj_aload_n 1 (pc := 90) dX9_basic_90 rfl) ?_
    refine gb_get (pc := 91) fl927 dX9_basic_91 q1909 (Or.inl rfl) (fun v1 => ?_)
    refine zst_ (gj_bipush (pc := 94) dX9_basic_94 ⟨rfl, by decide⟩) ?_
    refine gb_if (gj_icmp_eq 113 (pc := 96) dX9_basic_96 (by decide)) ?_ ?_
    · refine zst_ (gj_sub [1] rfl) ?_
      exact fun h => w_X9_basic_113 x0 σ h hk
    · refine zst_ (gj_aload_n 1 (pc := 99) dX9_basic_99 rfl) ?_
      refine gb_get (pc := 100) fl931 dX9_basic_100 q1913 (Or.inl rfl) (fun v2 => ?_)
      refine zst_ (gj_aload_n 1 (pc := 103) dX9_basic_103 rfl) ?_
      refine gb_get (pc := 104) fl930 dX9_basic_104 q1912 (Or.inl rfl) (fun v3 => ?_)
      refine gb_iald (pc := 107) dX9_basic_107 (fun v4 => ?_)
      refine zst_ (gj_bipush (pc := 108) dX9_basic_108 ⟨rfl, by decide⟩) ?_
      refine gb_if (gj_icmp_ne 118 (pc := 110) dX9_basic_110 (by decide)) ?_ ?_
      · refine zst_ (gj_aload_n 1 (pc := 118) dX9_basic_118 rfl) ?_
        refine zst_ (gj_iload_n 2 (pc := 119) dX9_basic_119 rfl) ?_
        refine zst_ (gj_bipush (pc := 120) dX9_basic_120 ⟨rfl, by decide⟩) ?_
        refine gb_if (gj_icmp_ne 129 (pc := 122) dX9_basic_122 (by decide)) ?_ ?_
        · refine zst_ (gj_iload_n 2 (pc := 129) dX9_basic_129 rfl) ?_
          refine zst_ (gj_bipush (pc := 130) dX9_basic_130 ⟨rfl, by decide⟩) ?_
          refine gb_if (gj_icmp_ne 139 (pc := 132) dX9_basic_132 (by decide)) ?_ ?_
          · refine zst_ (gj_iload_n 2 (pc := 139) dX9_basic_139 rfl) ?_
            refine zst_ (gj_bipush (pc := 140) dX9_basic_140 ⟨rfl, by decide⟩) ?_
            refine gb_if (gj_icmp_ne 149 (pc := 142) dX9_basic_142 (by decide)) ?_ ?_
            · refine zst_ (gj_iconst (pc := 149) dX9_basic_149 (by decide)) ?_
              refine zst_ (gj_sub [1, 2, 3, 4] rfl) ?_
              exact fun h => w_X9_basic_150 x0 x1 x3 x4 0 x0 σ h hk
            · refine zst_ (gj_iconst (pc := 145) dX9_basic_145 (by decide)) ?_
              refine zst_ (gj_goto 150 (pc := 146) dX9_basic_146 (by decide)) ?_
              refine zst_ (gj_sub [1, 2, 3, 4] rfl) ?_
              exact fun h => w_X9_basic_150 x0 x1 x3 x4 5 x0 σ h hk
          · refine zst_ (gj_iconst (pc := 135) dX9_basic_135 (by decide)) ?_
            refine zst_ (gj_goto 150 (pc := 136) dX9_basic_136 (by decide)) ?_
            refine zst_ (gj_sub [1, 2, 3, 4] rfl) ?_
            exact fun h => w_X9_basic_150 x0 x1 x3 x4 4 x0 σ h hk
        · refine zst_ (gj_iconst (pc := 125) dX9_basic_125 (by decide)) ?_
          refine zst_ (gj_goto 150 (pc := 126) dX9_basic_126 (by decide)) ?_
          refine zst_ (gj_sub [1, 2, 3, 4] rfl) ?_
          exact fun h => w_X9_basic_150 x0 x1 x3 x4 1 x0 σ h hk
      · refine zst_ (gj_sub [1] rfl) ?_
        exact fun h => w_X9_basic_113 x0 σ h hk
noncomputable def f_X9_basic_78 (x0 x1 x3 x4 : Int) (σ : zM) : Option zO :=
  f_X9_basic_83 x0 x1 x3 x4 1 σ
theorem w_X9_basic_78 {g : zG} {lv : Nat} {out : zO} (x0 x1 x3 x4 : Int) (σ : zM) {r : zO} (h : f_X9_basic_78 x0 x1 x3 x4 σ = some r) (hk : (fun o : zO => o = out) r) : Gj g MX9_basic (lv + 3) 78 [(0, zr x0), (1, zi x1), (3, zi x3), (4, zi x4)] [] σ out := by
  revert h
  unfold f_X9_basic_78
  refine zst_ (gj_iconst (pc := 78) dX9_basic_78 (by decide)) ?_
  refine zst_ (gj_goto 83 (pc := 79) dX9_basic_79 (by decide)) ?_
  exact fun h => w_X9_basic_83 x0 x1 x3 x4 1 σ h hk
noncomputable def f_X9_basic_82 (x0 x1 x3 x4 : Int) (σ : zM) : Option zO :=
  f_X9_basic_83 x0 x1 x3 x4 0 σ
theorem w_X9_basic_82 {g : zG} {lv : Nat} {out : zO} (x0 x1 x3 x4 : Int) (σ : zM) {r : zO} (h : f_X9_basic_82 x0 x1 x3 x4 σ = some r) (hk : (fun o : zO => o = out) r) : Gj g MX9_basic (lv + 3) 82 [(0, zr x0), (1, zi x1), (3, zi x3), (4, zi x4)] [] σ out := by
  revert h
  unfold f_X9_basic_82
  refine zst_ (gj_iconst (pc := 82) dX9_basic_82 (by decide)) ?_
  exact fun h => w_X9_basic_83 x0 x1 x3 x4 0 σ h hk
noncomputable def f_X9_basic_36 (x0 x1 x2 x3 t0 : Int) (σ : zM) : Option zO :=
  if t0 ≠ 0 then
    f_X9_basic_78 x0 x1 x3 t0 σ
  else
    if x1 = 40 then
      f_X9_basic_78 x0 x1 x3 t0 σ
    else
      if x1 = 45 then
        f_X9_basic_78 x0 x1 x3 t0 σ
      else
        if x1 ≠ 126 then
          f_X9_basic_82 x0 x1 x3 t0 σ
        else
          if x2 = 0 then
            f_X9_basic_82 x0 x1 x3 t0 σ
          else
            (zgf σ 939 x0).bind fun v1 =>
            (zgf σ 938 x0).bind fun v2 =>
            (zga σ 101 v1 v2).bind fun v3 =>
            if 3 ≤ v3 then
              f_X9_basic_82 x0 x1 x3 t0 σ
            else
              f_X9_basic_78 x0 x1 x3 t0 σ
theorem w_X9_basic_36 {g : zG} {lv : Nat} {out : zO} (x0 x1 x2 x3 t0 : Int) (σ : zM) {r : zO} (h : f_X9_basic_36 x0 x1 x2 x3 t0 σ = some r) (hk : (fun o : zO => o = out) r) : Gj g MX9_basic (lv + 3) 36 [(0, zr x0), (1, zi x1), (2, zi x2), (3, zi x3)] [zi t0] σ out := by
  revert h
  unfold f_X9_basic_36
  refine zst_ (gj_istore (pc := 36) (ls' := [(4, zi t0), (0, zr x0), (1, zi x1), (2, zi x2), (3, zi x3)]) dX9_basic_36 (by decide) rfl) ?_
  refine zst_ (gj_iload 0 (pc := 38) dX9_basic_38 rfl) ?_
  refine gb_if (gj_if_ne 78 (pc := 40) dX9_basic_40 (by decide)) ?_ ?_
  · refine zst_ (gj_sub [1, 2, 4, 0] rfl) ?_
    exact fun h => w_X9_basic_78 x0 x1 x3 t0 σ h hk
  · refine zst_ (gj_iload_n 2 (pc := 43) dX9_basic_43 rfl) ?_
    refine zst_ (gj_bipush (pc := 44) dX9_basic_44 ⟨rfl, by decide⟩) ?_
    refine gb_if (gj_icmp_eq 78 (pc := 46) dX9_basic_46 (by decide)) ?_ ?_
    · refine zst_ (gj_sub [1, 2, 4, 0] rfl) ?_
      exact fun h => w_X9_basic_78 x0 x1 x3 t0 σ h hk
    · refine zst_ (gj_iload_n 2 (pc := 49) dX9_basic_49 rfl) ?_
      refine zst_ (gj_bipush (pc := 50) dX9_basic_50 ⟨rfl, by decide⟩) ?_
      refine gb_if (gj_icmp_eq 78 (pc := 52) dX9_basic_52 (by decide)) ?_ ?_
      · refine zst_ (gj_sub [1, 2, 4, 0] rfl) ?_
        exact fun h => w_X9_basic_78 x0 x1 x3 t0 σ h hk
      · refine zst_ (gj_iload_n 2 (pc := 55) dX9_basic_55 rfl) ?_
        refine zst_ (gj_bipush (pc := 56) dX9_basic_56 ⟨rfl, by decide⟩) ?_
        refine gb_if (gj_icmp_ne 82 (pc := 58) dX9_basic_58 (by decide)) ?_ ?_
        · refine zst_ (gj_sub [1, 2, 4, 0] rfl) ?_
          exact fun h => w_X9_basic_82 x0 x1 x3 t0 σ h hk
        · refine zst_ (gj_iload_n 3 (pc := 61) dX9_basic_61 rfl) ?_
          refine gb_if (gj_if_eq 82 (pc := 62) dX9_basic_62 (by decide)) ?_ ?_
          · refine zst_ (gj_sub [1, 2, 4, 0] rfl) ?_
            exact fun h => w_X9_basic_82 x0 x1 x3 t0 σ h hk
          · refine zst_ (gj_aload_n 1 (pc := 65) dX9_basic_65 rfl) ?_
            refine gb_get (pc := 66) fl939 dX9_basic_66 q1921 (Or.inl rfl) (fun v1 => ?_)
            refine zst_ (gj_aload_n 1 (pc := 69) dX9_basic_69 rfl) ?_
            refine gb_get (pc := 70) fl938 dX9_basic_70 q1920 (Or.inl rfl) (fun v2 => ?_)
            refine gb_iald (pc := 73) dX9_basic_73 (fun v3 => ?_)
            refine zst_ (gj_iconst (pc := 74) dX9_basic_74 (by decide)) ?_
            refine gb_if (gj_icmp_ge 82 (pc := 75) dX9_basic_75 (by decide)) ?_ ?_
            · refine zst_ (gj_sub [1, 2, 4, 0] rfl) ?_
              exact fun h => w_X9_basic_82 x0 x1 x3 t0 σ h hk
            · refine zst_ (gj_sub [1, 2, 4, 0] rfl) ?_
              exact fun h => w_X9_basic_78 x0 x1 x3 t0 σ h hk
noncomputable def f_X9_basic_35 (x0 x1 x2 x3 : Int) (σ : zM) : Option zO :=
  f_X9_basic_36 x0 x1 x2 x3 0 σ
theorem w_X9_basic_35 {g : zG} {lv : Nat} {out : zO} (x0 x1 x2 x3 : Int) (σ : zM) {r : zO} (h : f_X9_basic_35 x0 x1 x2 x3 σ = some r) (hk : (fun o : zO => o = out) r) : Gj g MX9_basic (lv + 3) 35 [(0, zr x0), (1, zi x1), (2, zi x2), (3, zi x3)] [] σ out := by
  revert h
  unfold f_X9_basic_35
  refine zst_ (gj_iconst (pc := 35) dX9_basic_35 (by decide)) ?_
  exact fun h => w_X9_basic_36 x0 x1 x2 x3 0 σ h hk
noncomputable def f_X9_basic_31 (x0 x1 x2 x3 : Int) (σ : zM) : Option zO :=
  f_X9_basic_36 x0 x1 x2 x3 1 σ
theorem w_X9_basic_31 {g : zG} {lv : Nat} {out : zO} (x0 x1 x2 x3 : Int) (σ : zM) {r : zO} (h : f_X9_basic_31 x0 x1 x2 x3 σ = some r) (hk : (fun o : zO => o = out) r) : Gj g MX9_basic (lv + 3) 31 [(0, zr x0), (1, zi x1), (2, zi x2), (3, zi x3)] [] σ out := by
  revert h
  unfold f_X9_basic_31
  refine zst_ (gj_iconst (pc := 31) dX9_basic_31 (by decide)) ?_
  refine zst_ (gj_goto 36 (pc := 32) dX9_basic_32 (by decide)) ?_
  exact fun h => w_X9_basic_36 x0 x1 x2 x3 1 σ h hk
noncomputable def f_X9_basic (x0 x1 x2 : Int) (σ : zM) : Option zO :=
  zgd (zis σ 10 x0) <|
  zci (f_X9_from x0 97 8 σ) fun v1 σ2 =>
  if v1 < 0 then
    f_X9_basic_35 x0 x1 x2 v1 σ2
  else
    (zgf σ2 909 x0).bind fun v3 =>
    (zga σ2 101 v3 v1).bind fun v4 =>
    if 0 ≤ v4 then
      f_X9_basic_31 x0 x1 x2 v1 σ2
    else
      (zgf σ2 910 x0).bind fun v5 =>
      (zga σ2 101 v5 v1).bind fun v6 =>
      if v6 < 0 then
        f_X9_basic_35 x0 x1 x2 v1 σ2
      else
        f_X9_basic_31 x0 x1 x2 v1 σ2
theorem c_X9_basic {g : zG} {lv : Nat} {x0 x1 x2 : Int} {σ : zM} {out : zO} (h : f_X9_basic x0 x1 x2 σ = some out) : Cj g (lv + 3) MX9_basic [zr x0, zi x1, zi x2] σ out := by
  refine cj_go (ls := [(0, zr x0), (1, zi x1), (2, zi x2)]) (by decide) (Nat.le_of_ble_eq_true rfl) rfl (zgen h (fun r hk => ?_))
  unfold f_X9_basic
  refine zst_ (gj_aload_n 0 (pc := 0) dX9_basic_0 rfl) ?_
  refine zst_ (gj_bipush (pc := 1) dX9_basic_1 ⟨rfl, by decide⟩) ?_
  refine zst_ (gj_bipush (pc := 3) dX9_basic_3 ⟨rfl, by decide⟩) ?_
  refine gb_gd (fun hb => ?_)
  refine gb_callI (pc := 5) (as := [zr x0, zi 97, zi 8]) (rest := []) (zCl.of (zLk_V (M := MX9_basic) (ci := 9) (r := (RX9, TX9, 84)) plX9_from.1 rfl rfl (zisE hb).1 (zisE hb).2 dX9_basic_5 q2162 q2164 qs48 q2165) plX9_from (Nat.le_of_ble_eq_true rfl) (fun h => c_X9_from h)) (fun v1 σ2 => ?_)
  refine zst_ (gj_istore_n (pc := 8) (ls' := [(3, zi v1), (0, zr x0), (1, zi x1), (2, zi x2)]) dX9_basic_8 (by decide) rfl) ?_
  refine zst_ (gj_iload_n 0 (pc := 9) dX9_basic_9 rfl) ?_
  refine gb_if (gj_if_lt 35 (pc := 10) dX9_basic_10 (by decide)) ?_ ?_
  · refine zst_ (gj_sub [1, 2, 3, 0] rfl) ?_
    exact fun h => w_X9_basic_35 x0 x1 x2 v1 σ2 h hk
  · refine zst_ (gj_aload_n 1 (pc := 13) dX9_basic_13 rfl) ?_
    refine gb_get (pc := 14) fl909 dX9_basic_14 q1891 (Or.inl rfl) (fun v3 => ?_)
    refine zst_ (gj_iload_n 0 (pc := 17) dX9_basic_17 rfl) ?_
    refine gb_iald (pc := 18) dX9_basic_18 (fun v4 => ?_)
    refine gb_if (gj_if_ge 31 (pc := 19) dX9_basic_19 (by decide)) ?_ ?_
    · refine zst_ (gj_sub [1, 2, 3, 0] rfl) ?_
      exact fun h => w_X9_basic_31 x0 x1 x2 v1 σ2 h hk
    · refine zst_ (gj_aload_n 1 (pc := 22) dX9_basic_22 rfl) ?_
      refine gb_get (pc := 23) fl910 dX9_basic_23 q1892 (Or.inl rfl) (fun v5 => ?_)
      refine zst_ (gj_iload_n 0 (pc := 26) dX9_basic_26 rfl) ?_
      refine gb_iald (pc := 27) dX9_basic_27 (fun v6 => ?_)
      refine gb_if (gj_if_lt 35 (pc := 28) dX9_basic_28 (by decide)) ?_ ?_
      · refine zst_ (gj_sub [1, 2, 3, 0] rfl) ?_
        exact fun h => w_X9_basic_35 x0 x1 x2 v1 σ2 h hk
      · refine zst_ (gj_sub [1, 2, 3, 0] rfl) ?_
        exact fun h => w_X9_basic_31 x0 x1 x2 v1 σ2 h hk
theorem q2185 : (Jvm.Cond.code ({ cls := "LassoFinderModel", name := "statement", desc := "()Z" } : Jvm.MethodName) prog_22_method_19_code (4 : Nat) (Option.some Jvm.ClassFile.FieldType.boolean)) ∈ lw_all := lw_g (lw_at lw_m9 165 rfl) rfl
theorem q2190 : (Jvm.Cond.methodLink "LassoFinderModel" (263 : Nat) ({ cls := "LassoFinderModel", name := "enter", desc := "(II)V" } : Jvm.MethodName)) ∈ lw_all := lw_g (lw_at lw_m9 170 rfl) rfl
theorem q2192 : (Jvm.Cond.instanceMethod ({ cls := "LassoFinderModel", name := "enter", desc := "(II)V" } : Jvm.MethodName)) ∈ lw_all := lw_g (lw_at lw_m9 172 rfl) rfl
theorem q2194 : (Jvm.Cond.methodLink "LassoFinderModel" (267 : Nat) ({ cls := "LassoFinderModel", name := "around", desc := "(I)Z" } : Jvm.MethodName)) ∈ lw_all := lw_g (lw_at lw_m9 174 rfl) rfl
theorem q2196 : (Jvm.Cond.instanceMethod ({ cls := "LassoFinderModel", name := "around", desc := "(I)Z" } : Jvm.MethodName)) ∈ lw_all := lw_g (lw_at lw_m9 176 rfl) rfl
theorem q2198 : (Jvm.Cond.methodLink "LassoFinderModel" (270 : Nat) ({ cls := "LassoFinderModel", name := "basic", desc := "(IZ)Z" } : Jvm.MethodName)) ∈ lw_all := lw_g (lw_at lw_m9 178 rfl) rfl
theorem q2200 : (Jvm.Cond.instanceMethod ({ cls := "LassoFinderModel", name := "basic", desc := "(IZ)Z" } : Jvm.MethodName)) ∈ lw_all := lw_g (lw_at lw_m9 180 rfl) rfl
abbrev cX9_statement : ByteArray := prog_22_method_19_code
def yX9_statement : MethodName := ⟨RX9, "statement", "()Z"⟩
theorem dX9_statement_0 : decode cX9_statement 0 = .ok (.aload_n 0, 1) := by decide +kernel
theorem dX9_statement_1 : decode cX9_statement 1 = .ok (.invokevirtual 209, 3) := by decide +kernel
theorem dX9_statement_4 : decode cX9_statement 4 = .ok (.istore_n 1, 1) := by decide +kernel
theorem dX9_statement_5 : decode cX9_statement 5 = .ok (.aload_n 0, 1) := by decide +kernel
theorem dX9_statement_6 : decode cX9_statement 6 = .ok (.getfield 94, 3) := by decide +kernel
theorem dX9_statement_9 : decode cX9_statement 9 = .ok (.aload_n 0, 1) := by decide +kernel
theorem dX9_statement_10 : decode cX9_statement 10 = .ok (.getfield 248, 3) := by decide +kernel
theorem dX9_statement_13 : decode cX9_statement 13 = .ok (.iaload, 1) := by decide +kernel
theorem dX9_statement_14 : decode cX9_statement 14 = .ok (.ifCond .le 19, 3) := by decide +kernel
theorem dX9_statement_17 : decode cX9_statement 17 = .ok (.aload_n 0, 1) := by decide +kernel
theorem dX9_statement_18 : decode cX9_statement 18 = .ok (.getfield 100, 3) := by decide +kernel
theorem dX9_statement_21 : decode cX9_statement 21 = .ok (.aload_n 0, 1) := by decide +kernel
theorem dX9_statement_22 : decode cX9_statement 22 = .ok (.getfield 248, 3) := by decide +kernel
theorem dX9_statement_25 : decode cX9_statement 25 = .ok (.iaload, 1) := by decide +kernel
theorem dX9_statement_26 : decode cX9_statement 26 = .ok (.ifCond .ge 7, 3) := by decide +kernel
theorem dX9_statement_29 : decode cX9_statement 29 = .ok (.iconst 1, 1) := by decide +kernel
theorem dX9_statement_30 : decode cX9_statement 30 = .ok (.goto 4, 3) := by decide +kernel
theorem dX9_statement_33 : decode cX9_statement 33 = .ok (.iconst 0, 1) := by decide +kernel
theorem dX9_statement_34 : decode cX9_statement 34 = .ok (.istore_n 2, 1) := by decide +kernel
theorem dX9_statement_35 : decode cX9_statement 35 = .ok (.iload_n 1, 1) := by decide +kernel
theorem dX9_statement_36 : decode cX9_statement 36 = .ok (.bipush 91, 2) := by decide +kernel
theorem dX9_statement_38 : decode cX9_statement 38 = .ok (.if_icmp .eq 9, 3) := by decide +kernel
theorem dX9_statement_41 : decode cX9_statement 41 = .ok (.iload_n 1, 1) := by decide +kernel
theorem dX9_statement_42 : decode cX9_statement 42 = .ok (.bipush 42, 2) := by decide +kernel
theorem dX9_statement_44 : decode cX9_statement 44 = .ok (.if_icmp .ne 101, 3) := by decide +kernel
theorem dX9_statement_47 : decode cX9_statement 47 = .ok (.aload_n 0, 1) := by decide +kernel
theorem dX9_statement_48 : decode cX9_statement 48 = .ok (.getfield 75, 3) := by decide +kernel
theorem dX9_statement_51 : decode cX9_statement 51 = .ok (.aload_n 0, 1) := by decide +kernel
theorem dX9_statement_52 : decode cX9_statement 52 = .ok (.getfield 254, 3) := by decide +kernel
theorem dX9_statement_55 : decode cX9_statement 55 = .ok (.iaload, 1) := by decide +kernel
theorem dX9_statement_56 : decode cX9_statement 56 = .ok (.bipush 30, 2) := by decide +kernel
theorem dX9_statement_58 : decode cX9_statement 58 = .ok (.if_icmp .ne 8, 3) := by decide +kernel
theorem dX9_statement_61 : decode cX9_statement 61 = .ok (.aload_n 0, 1) := by decide +kernel
theorem dX9_statement_62 : decode cX9_statement 62 = .ok (.invokevirtual 213, 3) := by decide +kernel
theorem dX9_statement_65 : decode cX9_statement 65 = .ok (.ireturn, 1) := by decide +kernel
theorem dX9_statement_66 : decode cX9_statement 66 = .ok (.aload_n 0, 1) := by decide +kernel
theorem dX9_statement_67 : decode cX9_statement 67 = .ok (.dup, 1) := by decide +kernel
theorem dX9_statement_68 : decode cX9_statement 68 = .ok (.getfield 203, 3) := by decide +kernel
theorem dX9_statement_71 : decode cX9_statement 71 = .ok (.iload_n 1, 1) := by decide +kernel
theorem dX9_statement_72 : decode cX9_statement 72 = .ok (.bipush 42, 2) := by decide +kernel
theorem dX9_statement_74 : decode cX9_statement 74 = .ok (.if_icmp .ne 7, 3) := by decide +kernel
theorem dX9_statement_77 : decode cX9_statement 77 = .ok (.iconst 1, 1) := by decide +kernel
theorem dX9_statement_78 : decode cX9_statement 78 = .ok (.goto 4, 3) := by decide +kernel
theorem dX9_statement_81 : decode cX9_statement 81 = .ok (.iconst 0, 1) := by decide +kernel
theorem dX9_statement_82 : decode cX9_statement 82 = .ok (.iadd, 1) := by decide +kernel
theorem dX9_statement_83 : decode cX9_statement 83 = .ok (.putfield 203, 3) := by decide +kernel
theorem dX9_statement_86 : decode cX9_statement 86 = .ok (.aload_n 0, 1) := by decide +kernel
theorem dX9_statement_87 : decode cX9_statement 87 = .ok (.invokevirtual 209, 3) := by decide +kernel
theorem dX9_statement_90 : decode cX9_statement 90 = .ok (.bipush 91, 2) := by decide +kernel
theorem dX9_statement_92 : decode cX9_statement 92 = .ok (.if_icmp .ne 12, 3) := by decide +kernel
theorem dX9_statement_95 : decode cX9_statement 95 = .ok (.aload_n 0, 1) := by decide +kernel
theorem dX9_statement_96 : decode cX9_statement 96 = .ok (.getfield 248, 3) := by decide +kernel
theorem dX9_statement_99 : decode cX9_statement 99 = .ok (.bipush 6, 2) := by decide +kernel
theorem dX9_statement_101 : decode cX9_statement 101 = .ok (.if_icmp .ne 8, 3) := by decide +kernel
theorem dX9_statement_104 : decode cX9_statement 104 = .ok (.aload_n 0, 1) := by decide +kernel
theorem dX9_statement_105 : decode cX9_statement 105 = .ok (.invokevirtual 213, 3) := by decide +kernel
theorem dX9_statement_108 : decode cX9_statement 108 = .ok (.ireturn, 1) := by decide +kernel
theorem dX9_statement_109 : decode cX9_statement 109 = .ok (.aload_n 0, 1) := by decide +kernel
theorem dX9_statement_110 : decode cX9_statement 110 = .ok (.iload_n 1, 1) := by decide +kernel
theorem dX9_statement_111 : decode cX9_statement 111 = .ok (.bipush 42, 2) := by decide +kernel
theorem dX9_statement_113 : decode cX9_statement 113 = .ok (.if_icmp .ne 8, 3) := by decide +kernel
theorem dX9_statement_116 : decode cX9_statement 116 = .ok (.bipush 7, 2) := by decide +kernel
theorem dX9_statement_118 : decode cX9_statement 118 = .ok (.goto 5, 3) := by decide +kernel
theorem dX9_statement_121 : decode cX9_statement 121 = .ok (.bipush 6, 2) := by decide +kernel
theorem dX9_statement_123 : decode cX9_statement 123 = .ok (.invokevirtual 260, 3) := by decide +kernel
theorem dX9_statement_126 : decode cX9_statement 126 = .ok (.istore_n 3, 1) := by decide +kernel
theorem dX9_statement_127 : decode cX9_statement 127 = .ok (.aload_n 0, 1) := by decide +kernel
theorem dX9_statement_128 : decode cX9_statement 128 = .ok (.iload_n 1, 1) := by decide +kernel
theorem dX9_statement_129 : decode cX9_statement 129 = .ok (.bipush 42, 2) := by decide +kernel
theorem dX9_statement_131 : decode cX9_statement 131 = .ok (.if_icmp .ne 7, 3) := by decide +kernel
theorem dX9_statement_134 : decode cX9_statement 134 = .ok (.iconst 2, 1) := by decide +kernel
theorem dX9_statement_135 : decode cX9_statement 135 = .ok (.goto 4, 3) := by decide +kernel
theorem dX9_statement_138 : decode cX9_statement 138 = .ok (.iconst 1, 1) := by decide +kernel
theorem dX9_statement_139 : decode cX9_statement 139 = .ok (.iload_n 3, 1) := by decide +kernel
theorem dX9_statement_140 : decode cX9_statement 140 = .ok (.invokevirtual 263, 3) := by decide +kernel
theorem dX9_statement_143 : decode cX9_statement 143 = .ok (.iconst 1, 1) := by decide +kernel
theorem dX9_statement_144 : decode cX9_statement 144 = .ok (.ireturn, 1) := by decide +kernel
theorem dX9_statement_145 : decode cX9_statement 145 = .ok (.iload_n 1, 1) := by decide +kernel
theorem dX9_statement_146 : decode cX9_statement 146 = .ok (.bipush 60, 2) := by decide +kernel
theorem dX9_statement_148 : decode cX9_statement 148 = .ok (.if_icmp .ne 40, 3) := by decide +kernel
theorem dX9_statement_151 : decode cX9_statement 151 = .ok (.aload_n 0, 1) := by decide +kernel
theorem dX9_statement_152 : decode cX9_statement 152 = .ok (.iconst 3, 1) := by decide +kernel
theorem dX9_statement_153 : decode cX9_statement 153 = .ok (.invokevirtual 267, 3) := by decide +kernel
theorem dX9_statement_156 : decode cX9_statement 156 = .ok (.ifCond .ne 12, 3) := by decide +kernel
theorem dX9_statement_159 : decode cX9_statement 159 = .ok (.aload_n 0, 1) := by decide +kernel
theorem dX9_statement_160 : decode cX9_statement 160 = .ok (.getfield 248, 3) := by decide +kernel
theorem dX9_statement_163 : decode cX9_statement 163 = .ok (.bipush 6, 2) := by decide +kernel
theorem dX9_statement_165 : decode cX9_statement 165 = .ok (.if_icmp .ne 8, 3) := by decide +kernel
theorem dX9_statement_168 : decode cX9_statement 168 = .ok (.aload_n 0, 1) := by decide +kernel
theorem dX9_statement_169 : decode cX9_statement 169 = .ok (.invokevirtual 213, 3) := by decide +kernel
theorem dX9_statement_172 : decode cX9_statement 172 = .ok (.ireturn, 1) := by decide +kernel
theorem dX9_statement_173 : decode cX9_statement 173 = .ok (.aload_n 0, 1) := by decide +kernel
theorem dX9_statement_174 : decode cX9_statement 174 = .ok (.bipush 8, 2) := by decide +kernel
theorem dX9_statement_176 : decode cX9_statement 176 = .ok (.invokevirtual 260, 3) := by decide +kernel
theorem dX9_statement_179 : decode cX9_statement 179 = .ok (.istore_n 3, 1) := by decide +kernel
theorem dX9_statement_180 : decode cX9_statement 180 = .ok (.aload_n 0, 1) := by decide +kernel
theorem dX9_statement_181 : decode cX9_statement 181 = .ok (.iconst 3, 1) := by decide +kernel
theorem dX9_statement_182 : decode cX9_statement 182 = .ok (.iload_n 3, 1) := by decide +kernel
theorem dX9_statement_183 : decode cX9_statement 183 = .ok (.invokevirtual 263, 3) := by decide +kernel
theorem dX9_statement_186 : decode cX9_statement 186 = .ok (.iconst 1, 1) := by decide +kernel
theorem dX9_statement_187 : decode cX9_statement 187 = .ok (.ireturn, 1) := by decide +kernel
theorem dX9_statement_188 : decode cX9_statement 188 = .ok (.iload_n 1, 1) := by decide +kernel
theorem dX9_statement_189 : decode cX9_statement 189 = .ok (.bipush 46, 2) := by decide +kernel
theorem dX9_statement_191 : decode cX9_statement 191 = .ok (.if_icmp .ne 39, 3) := by decide +kernel
theorem dX9_statement_194 : decode cX9_statement 194 = .ok (.aload_n 0, 1) := by decide +kernel
theorem dX9_statement_195 : decode cX9_statement 195 = .ok (.iconst 2, 1) := by decide +kernel
theorem dX9_statement_196 : decode cX9_statement 196 = .ok (.invokevirtual 267, 3) := by decide +kernel
theorem dX9_statement_199 : decode cX9_statement 199 = .ok (.ifCond .eq 7, 3) := by decide +kernel
theorem dX9_statement_202 : decode cX9_statement 202 = .ok (.iload_n 2, 1) := by decide +kernel
theorem dX9_statement_203 : decode cX9_statement 203 = .ok (.ifCond .eq 8, 3) := by decide +kernel
theorem dX9_statement_206 : decode cX9_statement 206 = .ok (.aload_n 0, 1) := by decide +kernel
theorem dX9_statement_207 : decode cX9_statement 207 = .ok (.invokevirtual 213, 3) := by decide +kernel
theorem dX9_statement_210 : decode cX9_statement 210 = .ok (.ireturn, 1) := by decide +kernel
theorem dX9_statement_211 : decode cX9_statement 211 = .ok (.aload_n 0, 1) := by decide +kernel
theorem dX9_statement_212 : decode cX9_statement 212 = .ok (.bipush 9, 2) := by decide +kernel
theorem dX9_statement_214 : decode cX9_statement 214 = .ok (.invokevirtual 260, 3) := by decide +kernel
theorem dX9_statement_217 : decode cX9_statement 217 = .ok (.istore_n 3, 1) := by decide +kernel
theorem dX9_statement_218 : decode cX9_statement 218 = .ok (.aload_n 0, 1) := by decide +kernel
theorem dX9_statement_219 : decode cX9_statement 219 = .ok (.dup, 1) := by decide +kernel
theorem dX9_statement_220 : decode cX9_statement 220 = .ok (.getfield 203, 3) := by decide +kernel
theorem dX9_statement_223 : decode cX9_statement 223 = .ok (.iconst 1, 1) := by decide +kernel
theorem dX9_statement_224 : decode cX9_statement 224 = .ok (.iadd, 1) := by decide +kernel
theorem dX9_statement_225 : decode cX9_statement 225 = .ok (.putfield 203, 3) := by decide +kernel
theorem dX9_statement_228 : decode cX9_statement 228 = .ok (.iconst 1, 1) := by decide +kernel
theorem dX9_statement_229 : decode cX9_statement 229 = .ok (.ireturn, 1) := by decide +kernel
theorem dX9_statement_230 : decode cX9_statement 230 = .ok (.iload_n 1, 1) := by decide +kernel
theorem dX9_statement_231 : decode cX9_statement 231 = .ok (.bipush 94, 2) := by decide +kernel
theorem dX9_statement_233 : decode cX9_statement 233 = .ok (.if_icmp .ne 81, 3) := by decide +kernel
theorem dX9_statement_236 : decode cX9_statement 236 = .ok (.iload_n 2, 1) := by decide +kernel
theorem dX9_statement_237 : decode cX9_statement 237 = .ok (.ifCond .eq 8, 3) := by decide +kernel
theorem dX9_statement_240 : decode cX9_statement 240 = .ok (.aload_n 0, 1) := by decide +kernel
theorem dX9_statement_241 : decode cX9_statement 241 = .ok (.invokevirtual 213, 3) := by decide +kernel
theorem dX9_statement_244 : decode cX9_statement 244 = .ok (.ireturn, 1) := by decide +kernel
theorem dX9_statement_245 : decode cX9_statement 245 = .ok (.aload_n 0, 1) := by decide +kernel
theorem dX9_statement_246 : decode cX9_statement 246 = .ok (.dup, 1) := by decide +kernel
theorem dX9_statement_247 : decode cX9_statement 247 = .ok (.getfield 203, 3) := by decide +kernel
theorem dX9_statement_250 : decode cX9_statement 250 = .ok (.iconst 1, 1) := by decide +kernel
theorem dX9_statement_251 : decode cX9_statement 251 = .ok (.iadd, 1) := by decide +kernel
theorem dX9_statement_252 : decode cX9_statement 252 = .ok (.putfield 203, 3) := by decide +kernel
theorem dX9_statement_255 : decode cX9_statement 255 = .ok (.aload_n 0, 1) := by decide +kernel
theorem dX9_statement_256 : decode cX9_statement 256 = .ok (.bipush 65, 2) := by decide +kernel
theorem dX9_statement_258 : decode cX9_statement 258 = .ok (.bipush 8, 2) := by decide +kernel
theorem dX9_statement_260 : decode cX9_statement 260 = .ok (.invokevirtual 231, 3) := by decide +kernel
theorem dX9_statement_263 : decode cX9_statement 263 = .ok (.ifCond .ge 8, 3) := by decide +kernel
theorem dX9_statement_266 : decode cX9_statement 266 = .ok (.aload_n 0, 1) := by decide +kernel
theorem dX9_statement_267 : decode cX9_statement 267 = .ok (.invokevirtual 213, 3) := by decide +kernel
theorem dX9_statement_270 : decode cX9_statement 270 = .ok (.ireturn, 1) := by decide +kernel
theorem dX9_statement_271 : decode cX9_statement 271 = .ok (.aload_n 0, 1) := by decide +kernel
theorem dX9_statement_272 : decode cX9_statement 272 = .ok (.bipush 10, 2) := by decide +kernel
theorem dX9_statement_274 : decode cX9_statement 274 = .ok (.invokevirtual 260, 3) := by decide +kernel
theorem dX9_statement_277 : decode cX9_statement 277 = .ok (.istore_n 3, 1) := by decide +kernel
theorem dX9_statement_278 : decode cX9_statement 278 = .ok (.aload_n 0, 1) := by decide +kernel
theorem dX9_statement_279 : decode cX9_statement 279 = .ok (.getfield 51, 3) := by decide +kernel
theorem dX9_statement_282 : decode cX9_statement 282 = .ok (.iload_n 3, 1) := by decide +kernel
theorem dX9_statement_283 : decode cX9_statement 283 = .ok (.aload_n 0, 1) := by decide +kernel
theorem dX9_statement_284 : decode cX9_statement 284 = .ok (.bipush 65, 2) := by decide +kernel
theorem dX9_statement_286 : decode cX9_statement 286 = .ok (.bipush 8, 2) := by decide +kernel
theorem dX9_statement_288 : decode cX9_statement 288 = .ok (.invokevirtual 231, 3) := by decide +kernel
theorem dX9_statement_291 : decode cX9_statement 291 = .ok (.iastore, 1) := by decide +kernel
theorem dX9_statement_292 : decode cX9_statement 292 = .ok (.aload_n 0, 1) := by decide +kernel
theorem dX9_statement_293 : decode cX9_statement 293 = .ok (.getfield 63, 3) := by decide +kernel
theorem dX9_statement_296 : decode cX9_statement 296 = .ok (.iload_n 3, 1) := by decide +kernel
theorem dX9_statement_297 : decode cX9_statement 297 = .ok (.aload_n 0, 1) := by decide +kernel
theorem dX9_statement_298 : decode cX9_statement 298 = .ok (.getfield 203, 3) := by decide +kernel
theorem dX9_statement_301 : decode cX9_statement 301 = .ok (.iastore, 1) := by decide +kernel
theorem dX9_statement_302 : decode cX9_statement 302 = .ok (.aload_n 0, 1) := by decide +kernel
theorem dX9_statement_303 : decode cX9_statement 303 = .ok (.dup, 1) := by decide +kernel
theorem dX9_statement_304 : decode cX9_statement 304 = .ok (.getfield 203, 3) := by decide +kernel
theorem dX9_statement_307 : decode cX9_statement 307 = .ok (.iconst 1, 1) := by decide +kernel
theorem dX9_statement_308 : decode cX9_statement 308 = .ok (.iadd, 1) := by decide +kernel
theorem dX9_statement_309 : decode cX9_statement 309 = .ok (.putfield 203, 3) := by decide +kernel
theorem dX9_statement_312 : decode cX9_statement 312 = .ok (.iconst 1, 1) := by decide +kernel
theorem dX9_statement_313 : decode cX9_statement 313 = .ok (.ireturn, 1) := by decide +kernel
theorem dX9_statement_314 : decode cX9_statement 314 = .ok (.aload_n 0, 1) := by decide +kernel
theorem dX9_statement_315 : decode cX9_statement 315 = .ok (.iload_n 1, 1) := by decide +kernel
theorem dX9_statement_316 : decode cX9_statement 316 = .ok (.iload_n 2, 1) := by decide +kernel
theorem dX9_statement_317 : decode cX9_statement 317 = .ok (.invokevirtual 270, 3) := by decide +kernel
theorem dX9_statement_320 : decode cX9_statement 320 = .ok (.ireturn, 1) := by decide +kernel
abbrev MX9_statement : zT := (yX9_statement, cX9_statement, 4, (Option.some Jvm.ClassFile.FieldType.boolean), [])
theorem plX9_statement : zplain MX9_statement 0 ∧ (zcodeW MX9_statement ∈ lw_all ∧ Cond.initialized MX9_statement.1.cls ∈ lw_all) := ⟨⟨by decide +kernel, by decide +kernel⟩, q2185, q127⟩
noncomputable def f_X9_statement_104 (x0 : Int) (σ : zM) : Option zO :=
  zgd (zis σ 10 x0) <|
  zci (f_X9_fail x0 σ) fun v1 σ2 =>
  zgd (z01 v1) <|
  some (0, zi v1, σ2)
theorem w_X9_statement_104 {g : zG} {lv : Nat} {out : zO} (x0 : Int) (σ : zM) {r : zO} (h : f_X9_statement_104 x0 σ = some r) (hk : (fun o : zO => o = out) r) : Gj g MX9_statement (lv + 4) 104 [(0, zr x0)] [] σ out := by
  revert h
  unfold f_X9_statement_104
  refine zst_ (gj_aload_n 0 (pc := 104) dX9_statement_104 rfl) ?_
  refine gb_gd (fun hb => ?_)
  refine gb_callI (pc := 105) (as := [zr x0]) (rest := []) (zCl.of (zLk_V (M := MX9_statement) (ci := 9) (r := (RX9, TX9, 84)) plX9_fail.1 rfl rfl (zisE hb).1 (zisE hb).2 dX9_statement_105 q2166 q2168 qs49 q2169) plX9_fail (Nat.le_of_ble_eq_true rfl) (fun h => c_X9_fail h)) (fun v1 σ2 => ?_)
  refine gb_gd (fun hb => ?_)
  intro h
  cases h
  have hk : (0, zi v1, σ2) = out := hk
  subst hk
  exact gj_ret (pc := 108) (t := .boolean) dX9_statement_108 rfl ⟨rfl, rfl⟩ (fun _ => z01E hb)
noncomputable def f_X9_statement_139 (x3 t0 t1 : Int) (σ : zM) : Option zO :=
  zgd (zis σ 10 t1) <|
  zcv (f_X9_enter t1 t0 x3 σ) fun σ1 =>
  zgd (z01 1) <|
  some (0, zi 1, σ1)
theorem w_X9_statement_139 {g : zG} {lv : Nat} {out : zO} (x3 t0 t1 : Int) (σ : zM) {r : zO} (h : f_X9_statement_139 x3 t0 t1 σ = some r) (hk : (fun o : zO => o = out) r) : Gj g MX9_statement (lv + 4) 139 [(3, zi x3)] [zi t0, zr t1] σ out := by
  revert h
  unfold f_X9_statement_139
  refine zst_ (gj_iload_n 0 (pc := 139) dX9_statement_139 rfl) ?_
  refine gb_gd (fun hb => ?_)
  refine gb_callV (pc := 140) (as := [zr t1, zi t0, zi x3]) (rest := []) (zCl.of (zLk_V (M := MX9_statement) (ci := 9) (r := (RX9, TX9, 84)) plX9_enter.1 rfl rfl (zisE hb).1 (zisE hb).2 dX9_statement_140 q2190 q2192 qs55 q2193) plX9_enter (Nat.le_of_ble_eq_true rfl) (fun h => c_X9_enter h)) (fun σ1 => ?_)
  refine zst_ (gj_iconst (pc := 143) dX9_statement_143 (by decide)) ?_
  refine gb_gd (fun hb => ?_)
  intro h
  cases h
  have hk : (0, zi 1, σ1) = out := hk
  subst hk
  exact gj_ret (pc := 144) (t := .boolean) dX9_statement_144 rfl ⟨rfl, rfl⟩ (fun _ => z01E hb)
noncomputable def f_X9_statement_123 (x0 x1 t0 t1 : Int) (σ : zM) : Option zO :=
  zgd (zis σ 10 t1) <|
  zci (f_X9_node t1 t0 σ) fun v1 σ2 =>
  if x1 ≠ 42 then
    f_X9_statement_139 v1 1 x0 σ2
  else
    f_X9_statement_139 v1 2 x0 σ2
theorem w_X9_statement_123 {g : zG} {lv : Nat} {out : zO} (x0 x1 t0 t1 : Int) (σ : zM) {r : zO} (h : f_X9_statement_123 x0 x1 t0 t1 σ = some r) (hk : (fun o : zO => o = out) r) : Gj g MX9_statement (lv + 4) 123 [(0, zr x0), (1, zi x1)] [zi t0, zr t1] σ out := by
  revert h
  unfold f_X9_statement_123
  refine gb_gd (fun hb => ?_)
  refine gb_callI (pc := 123) (as := [zr t1, zi t0]) (rest := []) (zCl.of (zLk_V (M := MX9_statement) (ci := 9) (r := (RX9, TX9, 84)) plX9_node.1 rfl rfl (zisE hb).1 (zisE hb).2 dX9_statement_123 q2186 q2188 qs54 q2189) plX9_node (Nat.le_of_ble_eq_true rfl) (fun h => c_X9_node h)) (fun v1 σ2 => ?_)
  refine zst_ (gj_istore_n (pc := 126) (ls' := [(3, zi v1), (0, zr x0), (1, zi x1)]) dX9_statement_126 (by decide) rfl) ?_
  refine zst_ (gj_aload_n 1 (pc := 127) dX9_statement_127 rfl) ?_
  refine zst_ (gj_iload_n 2 (pc := 128) dX9_statement_128 rfl) ?_
  refine zst_ (gj_bipush (pc := 129) dX9_statement_129 ⟨rfl, by decide⟩) ?_
  refine gb_if (gj_icmp_ne 138 (pc := 131) dX9_statement_131 (by decide)) ?_ ?_
  · refine zst_ (gj_iconst (pc := 138) dX9_statement_138 (by decide)) ?_
    refine zst_ (gj_sub [0] rfl) ?_
    exact fun h => w_X9_statement_139 v1 1 x0 σ2 h hk
  · refine zst_ (gj_iconst (pc := 134) dX9_statement_134 (by decide)) ?_
    refine zst_ (gj_goto 139 (pc := 135) dX9_statement_135 (by decide)) ?_
    refine zst_ (gj_sub [0] rfl) ?_
    exact fun h => w_X9_statement_139 v1 2 x0 σ2 h hk
noncomputable def f_X9_statement_82 (x0 x1 t0 t1 t2 : Int) (σ : zM) : Option zO :=
  (zpf σ 903 t2 (zadd t1 t0)).bind fun σ1 =>
  zgd (zis σ1 10 x0) <|
  zci (f_X9_here x0 σ1) fun v2 σ3 =>
  if v2 ≠ 91 then
    f_X9_statement_104 x0 σ3
  else
    (zgf σ3 938 x0).bind fun v4 =>
    if v4 ≠ 6 then
      if x1 ≠ 42 then
        f_X9_statement_123 x0 x1 6 x0 σ3
      else
        f_X9_statement_123 x0 x1 7 x0 σ3
    else
      f_X9_statement_104 x0 σ3
theorem w_X9_statement_82 {g : zG} {lv : Nat} {out : zO} (x0 x1 t0 t1 t2 : Int) (σ : zM) {r : zO} (h : f_X9_statement_82 x0 x1 t0 t1 t2 σ = some r) (hk : (fun o : zO => o = out) r) : Gj g MX9_statement (lv + 4) 82 [(0, zr x0), (1, zi x1)] [zi t0, zi t1, zr t2] σ out := by
  revert h
  unfold f_X9_statement_82
  refine zst_ (gj_iadd (pc := 82) dX9_statement_82) ?_
  refine gb_put (pc := 83) fl903 fr903 dX9_statement_83 q1885 (Or.inl rfl) (fun σ1 => ?_)
  refine zst_ (gj_aload_n 0 (pc := 86) dX9_statement_86 rfl) ?_
  refine gb_gd (fun hb => ?_)
  refine gb_callI (pc := 87) (as := [zr x0]) (rest := []) (zCl.of (zLk_V (M := MX9_statement) (ci := 9) (r := (RX9, TX9, 84)) plX9_here.1 rfl rfl (zisE hb).1 (zisE hb).2 dX9_statement_87 q2154 q2156 qs46 q2157) plX9_here (Nat.le_of_ble_eq_true rfl) (fun h => c_X9_here h)) (fun v2 σ3 => ?_)
  refine zst_ (gj_bipush (pc := 90) dX9_statement_90 ⟨rfl, by decide⟩) ?_
  refine gb_if (gj_icmp_ne 104 (pc := 92) dX9_statement_92 (by decide)) ?_ ?_
  · refine zst_ (gj_sub [0] rfl) ?_
    exact fun h => w_X9_statement_104 x0 σ3 h hk
  · refine zst_ (gj_aload_n 0 (pc := 95) dX9_statement_95 rfl) ?_
    refine gb_get (pc := 96) fl938 dX9_statement_96 q1920 (Or.inl rfl) (fun v4 => ?_)
    refine zst_ (gj_bipush (pc := 99) dX9_statement_99 ⟨rfl, by decide⟩) ?_
    refine gb_if (gj_icmp_ne 109 (pc := 101) dX9_statement_101 (by decide)) ?_ ?_
    · refine zst_ (gj_aload_n 0 (pc := 109) dX9_statement_109 rfl) ?_
      refine zst_ (gj_iload_n 1 (pc := 110) dX9_statement_110 rfl) ?_
      refine zst_ (gj_bipush (pc := 111) dX9_statement_111 ⟨rfl, by decide⟩) ?_
      refine gb_if (gj_icmp_ne 121 (pc := 113) dX9_statement_113 (by decide)) ?_ ?_
      · refine zst_ (gj_bipush (pc := 121) dX9_statement_121 ⟨rfl, by decide⟩) ?_
        exact fun h => w_X9_statement_123 x0 x1 6 x0 σ3 h hk
      · refine zst_ (gj_bipush (pc := 116) dX9_statement_116 ⟨rfl, by decide⟩) ?_
        refine zst_ (gj_goto 123 (pc := 118) dX9_statement_118 (by decide)) ?_
        exact fun h => w_X9_statement_123 x0 x1 7 x0 σ3 h hk
    · refine zst_ (gj_sub [0] rfl) ?_
      exact fun h => w_X9_statement_104 x0 σ3 h hk
noncomputable def f_X9_statement_47 (x0 x1 : Int) (σ : zM) : Option zO :=
  (zgf σ 931 x0).bind fun v1 =>
  (zgf σ 930 x0).bind fun v2 =>
  (zga σ 101 v1 v2).bind fun v3 =>
  if v3 ≠ 30 then
    (zgf σ 903 x0).bind fun v4 =>
    if x1 ≠ 42 then
      f_X9_statement_82 x0 x1 0 v4 x0 σ
    else
      f_X9_statement_82 x0 x1 1 v4 x0 σ
  else
    zgd (zis σ 10 x0) <|
    zci (f_X9_fail x0 σ) fun v5 σ6 =>
    zgd (z01 v5) <|
    some (0, zi v5, σ6)
theorem w_X9_statement_47 {g : zG} {lv : Nat} {out : zO} (x0 x1 : Int) (σ : zM) {r : zO} (h : f_X9_statement_47 x0 x1 σ = some r) (hk : (fun o : zO => o = out) r) : Gj g MX9_statement (lv + 4) 47 [(0, zr x0), (1, zi x1)] [] σ out := by
  revert h
  unfold f_X9_statement_47
  refine zst_ (gj_aload_n 0 (pc := 47) dX9_statement_47 rfl) ?_
  refine gb_get (pc := 48) fl931 dX9_statement_48 q1913 (Or.inl rfl) (fun v1 => ?_)
  refine zst_ (gj_aload_n 0 (pc := 51) dX9_statement_51 rfl) ?_
  refine gb_get (pc := 52) fl930 dX9_statement_52 q1912 (Or.inl rfl) (fun v2 => ?_)
  refine gb_iald (pc := 55) dX9_statement_55 (fun v3 => ?_)
  refine zst_ (gj_bipush (pc := 56) dX9_statement_56 ⟨rfl, by decide⟩) ?_
  refine gb_if (gj_icmp_ne 66 (pc := 58) dX9_statement_58 (by decide)) ?_ ?_
  · refine zst_ (gj_aload_n 0 (pc := 66) dX9_statement_66 rfl) ?_
    refine zst_ (gj_dup (pc := 67) dX9_statement_67 rfl) ?_
    refine gb_get (pc := 68) fl903 dX9_statement_68 q1885 (Or.inl rfl) (fun v4 => ?_)
    refine zst_ (gj_iload_n 1 (pc := 71) dX9_statement_71 rfl) ?_
    refine zst_ (gj_bipush (pc := 72) dX9_statement_72 ⟨rfl, by decide⟩) ?_
    refine gb_if (gj_icmp_ne 81 (pc := 74) dX9_statement_74 (by decide)) ?_ ?_
    · refine zst_ (gj_iconst (pc := 81) dX9_statement_81 (by decide)) ?_
      exact fun h => w_X9_statement_82 x0 x1 0 v4 x0 σ h hk
    · refine zst_ (gj_iconst (pc := 77) dX9_statement_77 (by decide)) ?_
      refine zst_ (gj_goto 82 (pc := 78) dX9_statement_78 (by decide)) ?_
      exact fun h => w_X9_statement_82 x0 x1 1 v4 x0 σ h hk
  · refine zst_ (gj_aload_n 0 (pc := 61) dX9_statement_61 rfl) ?_
    refine gb_gd (fun hb => ?_)
    refine gb_callI (pc := 62) (as := [zr x0]) (rest := []) (zCl.of (zLk_V (M := MX9_statement) (ci := 9) (r := (RX9, TX9, 84)) plX9_fail.1 rfl rfl (zisE hb).1 (zisE hb).2 dX9_statement_62 q2166 q2168 qs49 q2169) plX9_fail (Nat.le_of_ble_eq_true rfl) (fun h => c_X9_fail h)) (fun v5 σ6 => ?_)
    refine gb_gd (fun hb => ?_)
    intro h
    cases h
    have hk : (0, zi v5, σ6) = out := hk
    subst hk
    exact gj_ret (pc := 65) (t := .boolean) dX9_statement_65 rfl ⟨rfl, rfl⟩ (fun _ => z01E hb)
noncomputable def f_X9_statement_206 (x0 : Int) (σ : zM) : Option zO :=
  zgd (zis σ 10 x0) <|
  zci (f_X9_fail x0 σ) fun v1 σ2 =>
  zgd (z01 v1) <|
  some (0, zi v1, σ2)
theorem w_X9_statement_206 {g : zG} {lv : Nat} {out : zO} (x0 : Int) (σ : zM) {r : zO} (h : f_X9_statement_206 x0 σ = some r) (hk : (fun o : zO => o = out) r) : Gj g MX9_statement (lv + 4) 206 [(0, zr x0)] [] σ out := by
  revert h
  unfold f_X9_statement_206
  refine zst_ (gj_aload_n 0 (pc := 206) dX9_statement_206 rfl) ?_
  refine gb_gd (fun hb => ?_)
  refine gb_callI (pc := 207) (as := [zr x0]) (rest := []) (zCl.of (zLk_V (M := MX9_statement) (ci := 9) (r := (RX9, TX9, 84)) plX9_fail.1 rfl rfl (zisE hb).1 (zisE hb).2 dX9_statement_207 q2166 q2168 qs49 q2169) plX9_fail (Nat.le_of_ble_eq_true rfl) (fun h => c_X9_fail h)) (fun v1 σ2 => ?_)
  refine gb_gd (fun hb => ?_)
  intro h
  cases h
  have hk : (0, zi v1, σ2) = out := hk
  subst hk
  exact gj_ret (pc := 210) (t := .boolean) dX9_statement_210 rfl ⟨rfl, rfl⟩ (fun _ => z01E hb)
noncomputable def f_X9_statement_168 (x0 : Int) (σ : zM) : Option zO :=
  zgd (zis σ 10 x0) <|
  zci (f_X9_fail x0 σ) fun v1 σ2 =>
  zgd (z01 v1) <|
  some (0, zi v1, σ2)
theorem w_X9_statement_168 {g : zG} {lv : Nat} {out : zO} (x0 : Int) (σ : zM) {r : zO} (h : f_X9_statement_168 x0 σ = some r) (hk : (fun o : zO => o = out) r) : Gj g MX9_statement (lv + 4) 168 [(0, zr x0)] [] σ out := by
  revert h
  unfold f_X9_statement_168
  refine zst_ (gj_aload_n 0 (pc := 168) dX9_statement_168 rfl) ?_
  refine gb_gd (fun hb => ?_)
  refine gb_callI (pc := 169) (as := [zr x0]) (rest := []) (zCl.of (zLk_V (M := MX9_statement) (ci := 9) (r := (RX9, TX9, 84)) plX9_fail.1 rfl rfl (zisE hb).1 (zisE hb).2 dX9_statement_169 q2166 q2168 qs49 q2169) plX9_fail (Nat.le_of_ble_eq_true rfl) (fun h => c_X9_fail h)) (fun v1 σ2 => ?_)
  refine gb_gd (fun hb => ?_)
  intro h
  cases h
  have hk : (0, zi v1, σ2) = out := hk
  subst hk
  exact gj_ret (pc := 172) (t := .boolean) dX9_statement_172 rfl ⟨rfl, rfl⟩ (fun _ => z01E hb)
noncomputable def f_X9_statement_34 (x0 x1 t0 : Int) (σ : zM) : Option zO :=
  if x1 = 91 then
    f_X9_statement_47 x0 x1 σ
  else
    if x1 ≠ 42 then
      if x1 ≠ 60 then
        if x1 ≠ 46 then
          if x1 ≠ 94 then
            zgd (zis σ 10 x0) <|
            zci (f_X9_basic x0 x1 t0 σ) fun v1 σ2 =>
            zgd (z01 v1) <|
            some (0, zi v1, σ2)
          else
            if t0 = 0 then
              (zgf σ 903 x0).bind fun v3 =>
              (zpf σ 903 x0 (zadd v3 1)).bind fun σ4 =>
              zgd (zis σ4 10 x0) <|
              zci (f_X9_from x0 65 8 σ4) fun v5 σ6 =>
              if 0 ≤ v5 then
                zgd (zis σ6 10 x0) <|
                zci (f_X9_node x0 10 σ6) fun v7 σ8 =>
                (zgf σ8 921 x0).bind fun v9 =>
                zgd (zis σ8 10 x0) <|
                zci (f_X9_from x0 65 8 σ8) fun v10 σ11 =>
                (zpa σ11 101 v9 v7 v10).bind fun σ12 =>
                (zgf σ12 925 x0).bind fun v13 =>
                (zgf σ12 903 x0).bind fun v14 =>
                (zpa σ12 101 v13 v7 v14).bind fun σ15 =>
                (zgf σ15 903 x0).bind fun v16 =>
                (zpf σ15 903 x0 (zadd v16 1)).bind fun σ17 =>
                zgd (z01 1) <|
                some (0, zi 1, σ17)
              else
                zgd (zis σ6 10 x0) <|
                zci (f_X9_fail x0 σ6) fun v18 σ19 =>
                zgd (z01 v18) <|
                some (0, zi v18, σ19)
            else
              zgd (zis σ 10 x0) <|
              zci (f_X9_fail x0 σ) fun v20 σ21 =>
              zgd (z01 v20) <|
              some (0, zi v20, σ21)
        else
          zgd (zis σ 10 x0) <|
          zci (f_X9_around x0 2 σ) fun v22 σ23 =>
          if v22 = 0 then
            f_X9_statement_206 x0 σ23
          else
            if t0 = 0 then
              zgd (zis σ23 10 x0) <|
              zci (f_X9_node x0 9 σ23) fun v24 σ25 =>
              (zgf σ25 903 x0).bind fun v26 =>
              (zpf σ25 903 x0 (zadd v26 1)).bind fun σ27 =>
              zgd (z01 1) <|
              some (0, zi 1, σ27)
            else
              f_X9_statement_206 x0 σ23
      else
        zgd (zis σ 10 x0) <|
        zci (f_X9_around x0 3 σ) fun v28 σ29 =>
        if v28 ≠ 0 then
          f_X9_statement_168 x0 σ29
        else
          (zgf σ29 938 x0).bind fun v30 =>
          if v30 ≠ 6 then
            zgd (zis σ29 10 x0) <|
            zci (f_X9_node x0 8 σ29) fun v31 σ32 =>
            zgd (zis σ32 10 x0) <|
            zcv (f_X9_enter x0 3 v31 σ32) fun σ33 =>
            zgd (z01 1) <|
            some (0, zi 1, σ33)
          else
            f_X9_statement_168 x0 σ29
    else
      f_X9_statement_47 x0 x1 σ
theorem w_X9_statement_34 {g : zG} {lv : Nat} {out : zO} (x0 x1 t0 : Int) (σ : zM) {r : zO} (h : f_X9_statement_34 x0 x1 t0 σ = some r) (hk : (fun o : zO => o = out) r) : Gj g MX9_statement (lv + 4) 34 [(0, zr x0), (1, zi x1)] [zi t0] σ out := by
  revert h
  unfold f_X9_statement_34
  refine zst_ (gj_istore_n (pc := 34) (ls' := [(2, zi t0), (0, zr x0), (1, zi x1)]) dX9_statement_34 (by decide) rfl) ?_
  refine zst_ (gj_iload_n 2 (pc := 35) dX9_statement_35 rfl) ?_
  refine zst_ (gj_bipush (pc := 36) dX9_statement_36 ⟨rfl, by decide⟩) ?_
  refine gb_if (gj_icmp_eq 47 (pc := 38) dX9_statement_38 (by decide)) ?_ ?_
  · refine zst_ (gj_sub [1, 2] rfl) ?_
    exact fun h => w_X9_statement_47 x0 x1 σ h hk
  · refine zst_ (gj_iload_n 2 (pc := 41) dX9_statement_41 rfl) ?_
    refine zst_ (gj_bipush (pc := 42) dX9_statement_42 ⟨rfl, by decide⟩) ?_
    refine gb_if (gj_icmp_ne 145 (pc := 44) dX9_statement_44 (by decide)) ?_ ?_
    · refine zst_ (gj_iload_n 2 (pc := 145) dX9_statement_145 rfl) ?_
      refine zst_ (gj_bipush (pc := 146) dX9_statement_146 ⟨rfl, by decide⟩) ?_
      refine gb_if (gj_icmp_ne 188 (pc := 148) dX9_statement_148 (by decide)) ?_ ?_
      · refine zst_ (gj_iload_n 2 (pc := 188) dX9_statement_188 rfl) ?_
        refine zst_ (gj_bipush (pc := 189) dX9_statement_189 ⟨rfl, by decide⟩) ?_
        refine gb_if (gj_icmp_ne 230 (pc := 191) dX9_statement_191 (by decide)) ?_ ?_
        · refine zst_ (gj_iload_n 2 (pc := 230) dX9_statement_230 rfl) ?_
          refine zst_ (gj_bipush (pc := 231) dX9_statement_231 ⟨rfl, by decide⟩) ?_
          refine gb_if (gj_icmp_ne 314 (pc := 233) dX9_statement_233 (by decide)) ?_ ?_
          · refine zst_ (gj_aload_n 1 (pc := 314) dX9_statement_314 rfl) ?_
            refine zst_ (gj_iload_n 2 (pc := 315) dX9_statement_315 rfl) ?_
            refine zst_ (gj_iload_n 0 (pc := 316) dX9_statement_316 rfl) ?_
            refine gb_gd (fun hb => ?_)
            refine gb_callI (pc := 317) (as := [zr x0, zi x1, zi t0]) (rest := []) (zCl.of (zLk_V (M := MX9_statement) (ci := 9) (r := (RX9, TX9, 84)) plX9_basic.1 rfl rfl (zisE hb).1 (zisE hb).2 dX9_statement_317 q2198 q2200 qs57 q2201) plX9_basic (Nat.le_of_ble_eq_true rfl) (fun h => c_X9_basic h)) (fun v1 σ2 => ?_)
            refine gb_gd (fun hb => ?_)
            intro h
            cases h
            have hk : (0, zi v1, σ2) = out := hk
            subst hk
            exact gj_ret (pc := 320) (t := .boolean) dX9_statement_320 rfl ⟨rfl, rfl⟩ (fun _ => z01E hb)
          · refine zst_ (gj_iload_n 0 (pc := 236) dX9_statement_236 rfl) ?_
            refine gb_if (gj_if_eq 245 (pc := 237) dX9_statement_237 (by decide)) ?_ ?_
            · refine zst_ (gj_aload_n 1 (pc := 245) dX9_statement_245 rfl) ?_
              refine zst_ (gj_dup (pc := 246) dX9_statement_246 rfl) ?_
              refine gb_get (pc := 247) fl903 dX9_statement_247 q1885 (Or.inl rfl) (fun v3 => ?_)
              refine zst_ (gj_iconst (pc := 250) dX9_statement_250 (by decide)) ?_
              refine zst_ (gj_iadd (pc := 251) dX9_statement_251) ?_
              refine gb_put (pc := 252) fl903 fr903 dX9_statement_252 q1885 (Or.inl rfl) (fun σ4 => ?_)
              refine zst_ (gj_aload_n 1 (pc := 255) dX9_statement_255 rfl) ?_
              refine zst_ (gj_bipush (pc := 256) dX9_statement_256 ⟨rfl, by decide⟩) ?_
              refine zst_ (gj_bipush (pc := 258) dX9_statement_258 ⟨rfl, by decide⟩) ?_
              refine gb_gd (fun hb => ?_)
              refine gb_callI (pc := 260) (as := [zr x0, zi 65, zi 8]) (rest := []) (zCl.of (zLk_V (M := MX9_statement) (ci := 9) (r := (RX9, TX9, 84)) plX9_from.1 rfl rfl (zisE hb).1 (zisE hb).2 dX9_statement_260 q2162 q2164 qs48 q2165) plX9_from (Nat.le_of_ble_eq_true rfl) (fun h => c_X9_from h)) (fun v5 σ6 => ?_)
              refine gb_if (gj_if_ge 271 (pc := 263) dX9_statement_263 (by decide)) ?_ ?_
              · refine zst_ (gj_aload_n 1 (pc := 271) dX9_statement_271 rfl) ?_
                refine zst_ (gj_bipush (pc := 272) dX9_statement_272 ⟨rfl, by decide⟩) ?_
                refine gb_gd (fun hb => ?_)
                refine gb_callI (pc := 274) (as := [zr x0, zi 10]) (rest := []) (zCl.of (zLk_V (M := MX9_statement) (ci := 9) (r := (RX9, TX9, 84)) plX9_node.1 rfl rfl (zisE hb).1 (zisE hb).2 dX9_statement_274 q2186 q2188 qs54 q2189) plX9_node (Nat.le_of_ble_eq_true rfl) (fun h => c_X9_node h)) (fun v7 σ8 => ?_)
                refine zst_ (gj_istore_n (pc := 277) (ls' := [(3, zi v7), (2, zi t0), (0, zr x0), (1, zi x1)]) dX9_statement_277 (by decide) rfl) ?_
                refine zst_ (gj_aload_n 2 (pc := 278) dX9_statement_278 rfl) ?_
                refine gb_get (pc := 279) fl921 dX9_statement_279 q1903 (Or.inl rfl) (fun v9 => ?_)
                refine zst_ (gj_iload_n 0 (pc := 282) dX9_statement_282 rfl) ?_
                refine zst_ (gj_aload_n 2 (pc := 283) dX9_statement_283 rfl) ?_
                refine zst_ (gj_bipush (pc := 284) dX9_statement_284 ⟨rfl, by decide⟩) ?_
                refine zst_ (gj_bipush (pc := 286) dX9_statement_286 ⟨rfl, by decide⟩) ?_
                refine gb_gd (fun hb => ?_)
                refine gb_callI (pc := 288) (as := [zr x0, zi 65, zi 8]) (rest := [zi v7, zr v9]) (zCl.of (zLk_V (M := MX9_statement) (ci := 9) (r := (RX9, TX9, 84)) plX9_from.1 rfl rfl (zisE hb).1 (zisE hb).2 dX9_statement_288 q2162 q2164 qs48 q2165) plX9_from (Nat.le_of_ble_eq_true rfl) (fun h => c_X9_from h)) (fun v10 σ11 => ?_)
                refine gb_iast (pc := 291) dX9_statement_291 (fun σ12 => ?_)
                refine zst_ (gj_aload_n 2 (pc := 292) dX9_statement_292 rfl) ?_
                refine gb_get (pc := 293) fl925 dX9_statement_293 q1907 (Or.inl rfl) (fun v13 => ?_)
                refine zst_ (gj_iload_n 0 (pc := 296) dX9_statement_296 rfl) ?_
                refine zst_ (gj_aload_n 2 (pc := 297) dX9_statement_297 rfl) ?_
                refine gb_get (pc := 298) fl903 dX9_statement_298 q1885 (Or.inl rfl) (fun v14 => ?_)
                refine gb_iast (pc := 301) dX9_statement_301 (fun σ15 => ?_)
                refine zst_ (gj_aload_n 2 (pc := 302) dX9_statement_302 rfl) ?_
                refine zst_ (gj_dup (pc := 303) dX9_statement_303 rfl) ?_
                refine gb_get (pc := 304) fl903 dX9_statement_304 q1885 (Or.inl rfl) (fun v16 => ?_)
                refine zst_ (gj_iconst (pc := 307) dX9_statement_307 (by decide)) ?_
                refine zst_ (gj_iadd (pc := 308) dX9_statement_308) ?_
                refine gb_put (pc := 309) fl903 fr903 dX9_statement_309 q1885 (Or.inl rfl) (fun σ17 => ?_)
                refine zst_ (gj_iconst (pc := 312) dX9_statement_312 (by decide)) ?_
                refine gb_gd (fun hb => ?_)
                intro h
                cases h
                have hk : (0, zi 1, σ17) = out := hk
                subst hk
                exact gj_ret (pc := 313) (t := .boolean) dX9_statement_313 rfl ⟨rfl, rfl⟩ (fun _ => z01E hb)
              · refine zst_ (gj_aload_n 1 (pc := 266) dX9_statement_266 rfl) ?_
                refine gb_gd (fun hb => ?_)
                refine gb_callI (pc := 267) (as := [zr x0]) (rest := []) (zCl.of (zLk_V (M := MX9_statement) (ci := 9) (r := (RX9, TX9, 84)) plX9_fail.1 rfl rfl (zisE hb).1 (zisE hb).2 dX9_statement_267 q2166 q2168 qs49 q2169) plX9_fail (Nat.le_of_ble_eq_true rfl) (fun h => c_X9_fail h)) (fun v18 σ19 => ?_)
                refine gb_gd (fun hb => ?_)
                intro h
                cases h
                have hk : (0, zi v18, σ19) = out := hk
                subst hk
                exact gj_ret (pc := 270) (t := .boolean) dX9_statement_270 rfl ⟨rfl, rfl⟩ (fun _ => z01E hb)
            · refine zst_ (gj_aload_n 1 (pc := 240) dX9_statement_240 rfl) ?_
              refine gb_gd (fun hb => ?_)
              refine gb_callI (pc := 241) (as := [zr x0]) (rest := []) (zCl.of (zLk_V (M := MX9_statement) (ci := 9) (r := (RX9, TX9, 84)) plX9_fail.1 rfl rfl (zisE hb).1 (zisE hb).2 dX9_statement_241 q2166 q2168 qs49 q2169) plX9_fail (Nat.le_of_ble_eq_true rfl) (fun h => c_X9_fail h)) (fun v20 σ21 => ?_)
              refine gb_gd (fun hb => ?_)
              intro h
              cases h
              have hk : (0, zi v20, σ21) = out := hk
              subst hk
              exact gj_ret (pc := 244) (t := .boolean) dX9_statement_244 rfl ⟨rfl, rfl⟩ (fun _ => z01E hb)
        · refine zst_ (gj_aload_n 1 (pc := 194) dX9_statement_194 rfl) ?_
          refine zst_ (gj_iconst (pc := 195) dX9_statement_195 (by decide)) ?_
          refine gb_gd (fun hb => ?_)
          refine gb_callI (pc := 196) (as := [zr x0, zi 2]) (rest := []) (zCl.of (zLk_V (M := MX9_statement) (ci := 9) (r := (RX9, TX9, 84)) plX9_around.1 rfl rfl (zisE hb).1 (zisE hb).2 dX9_statement_196 q2194 q2196 qs56 q2197) plX9_around (Nat.le_of_ble_eq_true rfl) (fun h => c_X9_around h)) (fun v22 σ23 => ?_)
          refine gb_if (gj_if_eq 206 (pc := 199) dX9_statement_199 (by decide)) ?_ ?_
          · refine zst_ (gj_sub [1] rfl) ?_
            exact fun h => w_X9_statement_206 x0 σ23 h hk
          · refine zst_ (gj_iload_n 0 (pc := 202) dX9_statement_202 rfl) ?_
            refine gb_if (gj_if_eq 211 (pc := 203) dX9_statement_203 (by decide)) ?_ ?_
            · refine zst_ (gj_aload_n 1 (pc := 211) dX9_statement_211 rfl) ?_
              refine zst_ (gj_bipush (pc := 212) dX9_statement_212 ⟨rfl, by decide⟩) ?_
              refine gb_gd (fun hb => ?_)
              refine gb_callI (pc := 214) (as := [zr x0, zi 9]) (rest := []) (zCl.of (zLk_V (M := MX9_statement) (ci := 9) (r := (RX9, TX9, 84)) plX9_node.1 rfl rfl (zisE hb).1 (zisE hb).2 dX9_statement_214 q2186 q2188 qs54 q2189) plX9_node (Nat.le_of_ble_eq_true rfl) (fun h => c_X9_node h)) (fun v24 σ25 => ?_)
              refine zst_ (gj_istore_n (pc := 217) (ls' := [(3, zi v24), (2, zi t0), (0, zr x0), (1, zi x1)]) dX9_statement_217 (by decide) rfl) ?_
              refine zst_ (gj_aload_n 2 (pc := 218) dX9_statement_218 rfl) ?_
              refine zst_ (gj_dup (pc := 219) dX9_statement_219 rfl) ?_
              refine gb_get (pc := 220) fl903 dX9_statement_220 q1885 (Or.inl rfl) (fun v26 => ?_)
              refine zst_ (gj_iconst (pc := 223) dX9_statement_223 (by decide)) ?_
              refine zst_ (gj_iadd (pc := 224) dX9_statement_224) ?_
              refine gb_put (pc := 225) fl903 fr903 dX9_statement_225 q1885 (Or.inl rfl) (fun σ27 => ?_)
              refine zst_ (gj_iconst (pc := 228) dX9_statement_228 (by decide)) ?_
              refine gb_gd (fun hb => ?_)
              intro h
              cases h
              have hk : (0, zi 1, σ27) = out := hk
              subst hk
              exact gj_ret (pc := 229) (t := .boolean) dX9_statement_229 rfl ⟨rfl, rfl⟩ (fun _ => z01E hb)
            · refine zst_ (gj_sub [1] rfl) ?_
              exact fun h => w_X9_statement_206 x0 σ23 h hk
      · refine zst_ (gj_aload_n 1 (pc := 151) dX9_statement_151 rfl) ?_
        refine zst_ (gj_iconst (pc := 152) dX9_statement_152 (by decide)) ?_
        refine gb_gd (fun hb => ?_)
        refine gb_callI (pc := 153) (as := [zr x0, zi 3]) (rest := []) (zCl.of (zLk_V (M := MX9_statement) (ci := 9) (r := (RX9, TX9, 84)) plX9_around.1 rfl rfl (zisE hb).1 (zisE hb).2 dX9_statement_153 q2194 q2196 qs56 q2197) plX9_around (Nat.le_of_ble_eq_true rfl) (fun h => c_X9_around h)) (fun v28 σ29 => ?_)
        refine gb_if (gj_if_ne 168 (pc := 156) dX9_statement_156 (by decide)) ?_ ?_
        · refine zst_ (gj_sub [1] rfl) ?_
          exact fun h => w_X9_statement_168 x0 σ29 h hk
        · refine zst_ (gj_aload_n 1 (pc := 159) dX9_statement_159 rfl) ?_
          refine gb_get (pc := 160) fl938 dX9_statement_160 q1920 (Or.inl rfl) (fun v30 => ?_)
          refine zst_ (gj_bipush (pc := 163) dX9_statement_163 ⟨rfl, by decide⟩) ?_
          refine gb_if (gj_icmp_ne 173 (pc := 165) dX9_statement_165 (by decide)) ?_ ?_
          · refine zst_ (gj_aload_n 1 (pc := 173) dX9_statement_173 rfl) ?_
            refine zst_ (gj_bipush (pc := 174) dX9_statement_174 ⟨rfl, by decide⟩) ?_
            refine gb_gd (fun hb => ?_)
            refine gb_callI (pc := 176) (as := [zr x0, zi 8]) (rest := []) (zCl.of (zLk_V (M := MX9_statement) (ci := 9) (r := (RX9, TX9, 84)) plX9_node.1 rfl rfl (zisE hb).1 (zisE hb).2 dX9_statement_176 q2186 q2188 qs54 q2189) plX9_node (Nat.le_of_ble_eq_true rfl) (fun h => c_X9_node h)) (fun v31 σ32 => ?_)
            refine zst_ (gj_istore_n (pc := 179) (ls' := [(3, zi v31), (2, zi t0), (0, zr x0), (1, zi x1)]) dX9_statement_179 (by decide) rfl) ?_
            refine zst_ (gj_aload_n 2 (pc := 180) dX9_statement_180 rfl) ?_
            refine zst_ (gj_iconst (pc := 181) dX9_statement_181 (by decide)) ?_
            refine zst_ (gj_iload_n 0 (pc := 182) dX9_statement_182 rfl) ?_
            refine gb_gd (fun hb => ?_)
            refine gb_callV (pc := 183) (as := [zr x0, zi 3, zi v31]) (rest := []) (zCl.of (zLk_V (M := MX9_statement) (ci := 9) (r := (RX9, TX9, 84)) plX9_enter.1 rfl rfl (zisE hb).1 (zisE hb).2 dX9_statement_183 q2190 q2192 qs55 q2193) plX9_enter (Nat.le_of_ble_eq_true rfl) (fun h => c_X9_enter h)) (fun σ33 => ?_)
            refine zst_ (gj_iconst (pc := 186) dX9_statement_186 (by decide)) ?_
            refine gb_gd (fun hb => ?_)
            intro h
            cases h
            have hk : (0, zi 1, σ33) = out := hk
            subst hk
            exact gj_ret (pc := 187) (t := .boolean) dX9_statement_187 rfl ⟨rfl, rfl⟩ (fun _ => z01E hb)
          · refine zst_ (gj_sub [1] rfl) ?_
            exact fun h => w_X9_statement_168 x0 σ29 h hk
    · refine zst_ (gj_sub [1, 2] rfl) ?_
      exact fun h => w_X9_statement_47 x0 x1 σ h hk
noncomputable def f_X9_statement_33 (x0 x1 : Int) (σ : zM) : Option zO :=
  f_X9_statement_34 x0 x1 0 σ
theorem w_X9_statement_33 {g : zG} {lv : Nat} {out : zO} (x0 x1 : Int) (σ : zM) {r : zO} (h : f_X9_statement_33 x0 x1 σ = some r) (hk : (fun o : zO => o = out) r) : Gj g MX9_statement (lv + 4) 33 [(0, zr x0), (1, zi x1)] [] σ out := by
  revert h
  unfold f_X9_statement_33
  refine zst_ (gj_iconst (pc := 33) dX9_statement_33 (by decide)) ?_
  exact fun h => w_X9_statement_34 x0 x1 0 σ h hk
noncomputable def f_X9_statement (x0 : Int) (σ : zM) : Option zO :=
  zgd (zis σ 10 x0) <|
  zci (f_X9_here x0 σ) fun v1 σ2 =>
  (zgf σ2 939 x0).bind fun v3 =>
  (zgf σ2 938 x0).bind fun v4 =>
  (zga σ2 101 v3 v4).bind fun v5 =>
  if v5 ≤ 0 then
    f_X9_statement_33 x0 v1 σ2
  else
    (zgf σ2 941 x0).bind fun v6 =>
    (zgf σ2 938 x0).bind fun v7 =>
    (zga σ2 101 v6 v7).bind fun v8 =>
    if 0 ≤ v8 then
      f_X9_statement_33 x0 v1 σ2
    else
      f_X9_statement_34 x0 v1 1 σ2
theorem c_X9_statement {g : zG} {lv : Nat} {x0 : Int} {σ : zM} {out : zO} (h : f_X9_statement x0 σ = some out) : Cj g (lv + 4) MX9_statement [zr x0] σ out := by
  refine cj_go (ls := [(0, zr x0)]) (by decide) (Nat.le_of_ble_eq_true rfl) rfl (zgen h (fun r hk => ?_))
  unfold f_X9_statement
  refine zst_ (gj_aload_n 0 (pc := 0) dX9_statement_0 rfl) ?_
  refine gb_gd (fun hb => ?_)
  refine gb_callI (pc := 1) (as := [zr x0]) (rest := []) (zCl.of (zLk_V (M := MX9_statement) (ci := 9) (r := (RX9, TX9, 84)) plX9_here.1 rfl rfl (zisE hb).1 (zisE hb).2 dX9_statement_1 q2154 q2156 qs46 q2157) plX9_here (Nat.le_of_ble_eq_true rfl) (fun h => c_X9_here h)) (fun v1 σ2 => ?_)
  refine zst_ (gj_istore_n (pc := 4) (ls' := [(1, zi v1), (0, zr x0)]) dX9_statement_4 (by decide) rfl) ?_
  refine zst_ (gj_aload_n 1 (pc := 5) dX9_statement_5 rfl) ?_
  refine gb_get (pc := 6) fl939 dX9_statement_6 q1921 (Or.inl rfl) (fun v3 => ?_)
  refine zst_ (gj_aload_n 1 (pc := 9) dX9_statement_9 rfl) ?_
  refine gb_get (pc := 10) fl938 dX9_statement_10 q1920 (Or.inl rfl) (fun v4 => ?_)
  refine gb_iald (pc := 13) dX9_statement_13 (fun v5 => ?_)
  refine gb_if (gj_if_le 33 (pc := 14) dX9_statement_14 (by decide)) ?_ ?_
  · refine zst_ (gj_sub [1, 0] rfl) ?_
    exact fun h => w_X9_statement_33 x0 v1 σ2 h hk
  · refine zst_ (gj_aload_n 1 (pc := 17) dX9_statement_17 rfl) ?_
    refine gb_get (pc := 18) fl941 dX9_statement_18 q1923 (Or.inl rfl) (fun v6 => ?_)
    refine zst_ (gj_aload_n 1 (pc := 21) dX9_statement_21 rfl) ?_
    refine gb_get (pc := 22) fl938 dX9_statement_22 q1920 (Or.inl rfl) (fun v7 => ?_)
    refine gb_iald (pc := 25) dX9_statement_25 (fun v8 => ?_)
    refine gb_if (gj_if_ge 33 (pc := 26) dX9_statement_26 (by decide)) ?_ ?_
    · refine zst_ (gj_sub [1, 0] rfl) ?_
      exact fun h => w_X9_statement_33 x0 v1 σ2 h hk
    · refine zst_ (gj_iconst (pc := 29) dX9_statement_29 (by decide)) ?_
      refine zst_ (gj_goto 34 (pc := 30) dX9_statement_30 (by decide)) ?_
      refine zst_ (gj_sub [1, 0] rfl) ?_
      exact fun h => w_X9_statement_34 x0 v1 1 σ2 h hk
theorem q2228 : (Jvm.Cond.code ({ cls := "LassoFinderModel", name := "next", desc := "(I)I" } : Jvm.MethodName) prog_22_method_21_code (4 : Nat) (Option.some Jvm.ClassFile.FieldType.int)) ∈ lw_all := lw_g (lw_at lw_m9 208 rfl) rfl
abbrev cX9_next : ByteArray := prog_22_method_21_code
def yX9_next : MethodName := ⟨RX9, "next", "(I)I"⟩
theorem dX9_next_0 : decode cX9_next 0 = .ok (.iload_n 1, 1) := by decide +kernel
theorem dX9_next_1 : decode cX9_next 1 = .ok (.istore_n 2, 1) := by decide +kernel
theorem dX9_next_2 : decode cX9_next 2 = .ok (.iconst 0, 1) := by decide +kernel
theorem dX9_next_3 : decode cX9_next 3 = .ok (.istore_n 3, 1) := by decide +kernel
theorem dX9_next_4 : decode cX9_next 4 = .ok (.iload_n 3, 1) := by decide +kernel
theorem dX9_next_5 : decode cX9_next 5 = .ok (.bipush 8, 2) := by decide +kernel
theorem dX9_next_7 : decode cX9_next 7 = .ok (.if_icmp .ge 53, 3) := by decide +kernel
theorem dX9_next_10 : decode cX9_next 10 = .ok (.iload_n 2, 1) := by decide +kernel
theorem dX9_next_11 : decode cX9_next 11 = .ok (.ifCond .lt 49, 3) := by decide +kernel
theorem dX9_next_14 : decode cX9_next 14 = .ok (.aload_n 0, 1) := by decide +kernel
theorem dX9_next_15 : decode cX9_next 15 = .ok (.getfield 38, 3) := by decide +kernel
theorem dX9_next_18 : decode cX9_next 18 = .ok (.iload_n 2, 1) := by decide +kernel
theorem dX9_next_19 : decode cX9_next 19 = .ok (.iaload, 1) := by decide +kernel
theorem dX9_next_20 : decode cX9_next 20 = .ok (.ifCond .lt 10, 3) := by decide +kernel
theorem dX9_next_23 : decode cX9_next 23 = .ok (.aload_n 0, 1) := by decide +kernel
theorem dX9_next_24 : decode cX9_next 24 = .ok (.getfield 38, 3) := by decide +kernel
theorem dX9_next_27 : decode cX9_next 27 = .ok (.iload_n 2, 1) := by decide +kernel
theorem dX9_next_28 : decode cX9_next 28 = .ok (.iaload, 1) := by decide +kernel
theorem dX9_next_29 : decode cX9_next 29 = .ok (.ireturn, 1) := by decide +kernel
theorem dX9_next_30 : decode cX9_next 30 = .ok (.aload_n 0, 1) := by decide +kernel
theorem dX9_next_31 : decode cX9_next 31 = .ok (.getfield 35, 3) := by decide +kernel
theorem dX9_next_34 : decode cX9_next 34 = .ok (.iload_n 2, 1) := by decide +kernel
theorem dX9_next_35 : decode cX9_next 35 = .ok (.iaload, 1) := by decide +kernel
theorem dX9_next_36 : decode cX9_next 36 = .ok (.istore_n 2, 1) := by decide +kernel
theorem dX9_next_37 : decode cX9_next 37 = .ok (.iload_n 2, 1) := by decide +kernel
theorem dX9_next_38 : decode cX9_next 38 = .ok (.ifCond .lt 16, 3) := by decide +kernel
theorem dX9_next_41 : decode cX9_next 41 = .ok (.aload_n 0, 1) := by decide +kernel
theorem dX9_next_42 : decode cX9_next 42 = .ok (.getfield 29, 3) := by decide +kernel
theorem dX9_next_45 : decode cX9_next 45 = .ok (.iload_n 2, 1) := by decide +kernel
theorem dX9_next_46 : decode cX9_next 46 = .ok (.iaload, 1) := by decide +kernel
theorem dX9_next_47 : decode cX9_next 47 = .ok (.bipush 7, 2) := by decide +kernel
theorem dX9_next_49 : decode cX9_next 49 = .ok (.if_icmp .ne 5, 3) := by decide +kernel
theorem dX9_next_52 : decode cX9_next 52 = .ok (.iload_n 2, 1) := by decide +kernel
theorem dX9_next_53 : decode cX9_next 53 = .ok (.ireturn, 1) := by decide +kernel
theorem dX9_next_54 : decode cX9_next 54 = .ok (.iinc 3 1, 3) := by decide +kernel
theorem dX9_next_57 : decode cX9_next 57 = .ok (.goto (-53), 3) := by decide +kernel
theorem dX9_next_60 : decode cX9_next 60 = .ok (.iconst (-1), 1) := by decide +kernel
theorem dX9_next_61 : decode cX9_next 61 = .ok (.ireturn, 1) := by decide +kernel
abbrev MX9_next : zT := (yX9_next, cX9_next, 4, (Option.some Jvm.ClassFile.FieldType.int), [])
theorem plX9_next : zplain MX9_next 1 ∧ (zcodeW MX9_next ∈ lw_all ∧ Cond.initialized MX9_next.1.cls ∈ lw_all) := ⟨⟨by decide +kernel, by decide +kernel⟩, q2228, q127⟩
noncomputable def f_X9_next_60 (σ : zM) : Option zO :=
  some (0, zi (-1), σ)
theorem w_X9_next_60 {g : zG} {lv : Nat} {out : zO} (σ : zM) {r : zO} (h : f_X9_next_60  σ = some r) (hk : (fun o : zO => o = out) r) : Gj g MX9_next (lv) 60 [] [] σ out := by
  revert h
  unfold f_X9_next_60
  refine zst_ (gj_iconst (pc := 60) dX9_next_60 (by decide)) ?_
  intro h
  cases h
  have hk : (0, zi (-1), σ) = out := hk
  subst hk
  exact gj_ret (pc := 61) (t := .int) dX9_next_61 rfl ⟨rfl, rfl⟩ (fun h => h)
noncomputable def f_X9_next_54 (x0 x2 x3 : Int) (σ : zM) : Option ((Int × Int) ⊕ zO) :=
  zlet (zadd x3 1) fun y1 =>
  some (.inl (x2, y1))
theorem w_X9_next_54 {g : zG} {lv : Nat} {out : zO} (x0 x2 x3 : Int) (σ : zM) {r : ((Int × Int) ⊕ zO)} (h : f_X9_next_54 x0 x2 x3 σ = some r) (hk : (zKL (fun s : Int × Int => Gj g MX9_next (lv) 4 [(0, zr x0), (2, zi s.1), (3, zi s.2)] [] σ out) (fun o : zO => o = out)) r) : Gj g MX9_next (lv) 54 [(0, zr x0), (2, zi x2), (3, zi x3)] [] σ out := by
  revert h
  unfold f_X9_next_54
  refine gb_iinc (pc := 54) 2 (fun y1 => [(3, zi y1), (0, zr x0), (2, zi x2)]) dX9_next_54 rfl (by decide) (fun _ => rfl) (fun y1 => ?_)
  refine zst_ (gj_goto 4 (pc := 57) dX9_next_57 (by decide)) ?_
  refine zst_ (gj_sub [1, 2, 0] rfl) ?_
  intro h
  cases h
  exact hk
noncomputable def f_X9_next_52 (x2 : Int) (σ : zM) : Option zO :=
  some (0, zi x2, σ)
theorem w_X9_next_52 {g : zG} {lv : Nat} {out : zO} (x2 : Int) (σ : zM) {r : zO} (h : f_X9_next_52 x2 σ = some r) (hk : (fun o : zO => o = out) r) : Gj g MX9_next (lv) 52 [(2, zi x2)] [] σ out := by
  revert h
  unfold f_X9_next_52
  refine zst_ (gj_iload_n 0 (pc := 52) dX9_next_52 rfl) ?_
  intro h
  cases h
  have hk : (0, zi x2, σ) = out := hk
  subst hk
  exact gj_ret (pc := 53) (t := .int) dX9_next_53 rfl ⟨rfl, rfl⟩ (fun h => h)
noncomputable def f_X9_next_23 (x0 x2 : Int) (σ : zM) : Option zO :=
  (zgf σ 917 x0).bind fun v1 =>
  (zga σ 101 v1 x2).bind fun v2 =>
  some (0, zi v2, σ)
theorem w_X9_next_23 {g : zG} {lv : Nat} {out : zO} (x0 x2 : Int) (σ : zM) {r : zO} (h : f_X9_next_23 x0 x2 σ = some r) (hk : (fun o : zO => o = out) r) : Gj g MX9_next (lv) 23 [(0, zr x0), (2, zi x2)] [] σ out := by
  revert h
  unfold f_X9_next_23
  refine zst_ (gj_aload_n 0 (pc := 23) dX9_next_23 rfl) ?_
  refine gb_get (pc := 24) fl917 dX9_next_24 q1899 (Or.inl rfl) (fun v1 => ?_)
  refine zst_ (gj_iload_n 1 (pc := 27) dX9_next_27 rfl) ?_
  refine gb_iald (pc := 28) dX9_next_28 (fun v2 => ?_)
  intro h
  cases h
  have hk : (0, zi v2, σ) = out := hk
  subst hk
  exact gj_ret (pc := 29) (t := .int) dX9_next_29 rfl ⟨rfl, rfl⟩ (fun h => h)
noncomputable def f_X9_next_4_b (x0 x2 x3 : Int) (σ : zM) : Option ((Int × Int) ⊕ zO) :=
  if 8 ≤ x3 then
    (f_X9_next_60 σ).map (fun r => (.inr r))
  else
    if x2 < 0 then
      (f_X9_next_60 σ).map (fun r => (.inr r))
    else
      (zgf σ 917 x0).bind fun v1 =>
      (zga σ 101 v1 x2).bind fun v2 =>
      if v2 < 0 then
        (zgf σ 916 x0).bind fun v3 =>
        (zga σ 101 v3 x2).bind fun v4 =>
        if v4 < 0 then
          f_X9_next_54 x0 v4 x3 σ
        else
          (zgf σ 914 x0).bind fun v5 =>
          (zga σ 101 v5 v4).bind fun v6 =>
          if v6 ≠ 7 then
            f_X9_next_54 x0 v4 x3 σ
          else
            (f_X9_next_52 v4 σ).map (fun r => (.inr r))
      else
        (f_X9_next_23 x0 x2 σ).map (fun r => (.inr r))
noncomputable def f_X9_next_4 (x0 x2 x3 : Int) (σ : zM) : Option zO :=
  zloop (fun s : Int × Int => f_X9_next_4_b x0 s.1 s.2 σ) (x2, x3)
theorem w_X9_next_4_b {g : zG} {lv : Nat} {out : zO} (x0 x2 x3 : Int) (σ : zM) {r : ((Int × Int) ⊕ zO)} (h : f_X9_next_4_b x0 x2 x3 σ = some r) (hk : (zKL (fun s : Int × Int => Gj g MX9_next (lv) 4 [(0, zr x0), (2, zi s.1), (3, zi s.2)] [] σ out) (fun o : zO => o = out)) r) : Gj g MX9_next (lv) 4 [(0, zr x0), (2, zi x2), (3, zi x3)] [] σ out := by
  revert h
  unfold f_X9_next_4_b
  refine zst_ (gj_iload_n 2 (pc := 4) dX9_next_4 rfl) ?_
  refine zst_ (gj_bipush (pc := 5) dX9_next_5 ⟨rfl, by decide⟩) ?_
  refine gb_if (gj_icmp_ge 60 (pc := 7) dX9_next_7 (by decide)) ?_ ?_
  · refine zst_ (gj_sub [] rfl) ?_
    intro h
    obtain ⟨r0, h0, rfl⟩ := zmE h
    exact w_X9_next_60 σ h0 hk
  · refine zst_ (gj_iload_n 1 (pc := 10) dX9_next_10 rfl) ?_
    refine gb_if (gj_if_lt 60 (pc := 11) dX9_next_11 (by decide)) ?_ ?_
    · refine zst_ (gj_sub [] rfl) ?_
      intro h
      obtain ⟨r0, h0, rfl⟩ := zmE h
      exact w_X9_next_60 σ h0 hk
    · refine zst_ (gj_aload_n 0 (pc := 14) dX9_next_14 rfl) ?_
      refine gb_get (pc := 15) fl917 dX9_next_15 q1899 (Or.inl rfl) (fun v1 => ?_)
      refine zst_ (gj_iload_n 1 (pc := 18) dX9_next_18 rfl) ?_
      refine gb_iald (pc := 19) dX9_next_19 (fun v2 => ?_)
      refine gb_if (gj_if_lt 30 (pc := 20) dX9_next_20 (by decide)) ?_ ?_
      · refine zst_ (gj_aload_n 0 (pc := 30) dX9_next_30 rfl) ?_
        refine gb_get (pc := 31) fl916 dX9_next_31 q1898 (Or.inl rfl) (fun v3 => ?_)
        refine zst_ (gj_iload_n 1 (pc := 34) dX9_next_34 rfl) ?_
        refine gb_iald (pc := 35) dX9_next_35 (fun v4 => ?_)
        refine zst_ (gj_istore_n (pc := 36) (ls' := [(2, zi v4), (0, zr x0), (3, zi x3)]) dX9_next_36 (by decide) rfl) ?_
        refine zst_ (gj_iload_n 0 (pc := 37) dX9_next_37 rfl) ?_
        refine gb_if (gj_if_lt 54 (pc := 38) dX9_next_38 (by decide)) ?_ ?_
        · refine zst_ (gj_sub [1, 0, 2] rfl) ?_
          exact fun h => w_X9_next_54 x0 v4 x3 σ h hk
        · refine zst_ (gj_aload_n 1 (pc := 41) dX9_next_41 rfl) ?_
          refine gb_get (pc := 42) fl914 dX9_next_42 q1896 (Or.inl rfl) (fun v5 => ?_)
          refine zst_ (gj_iload_n 0 (pc := 45) dX9_next_45 rfl) ?_
          refine gb_iald (pc := 46) dX9_next_46 (fun v6 => ?_)
          refine zst_ (gj_bipush (pc := 47) dX9_next_47 ⟨rfl, by decide⟩) ?_
          refine gb_if (gj_icmp_ne 54 (pc := 49) dX9_next_49 (by decide)) ?_ ?_
          · refine zst_ (gj_sub [1, 0, 2] rfl) ?_
            exact fun h => w_X9_next_54 x0 v4 x3 σ h hk
          · refine zst_ (gj_sub [0] rfl) ?_
            intro h
            obtain ⟨r0, h0, rfl⟩ := zmE h
            exact w_X9_next_52 v4 σ h0 hk
      · refine zst_ (gj_sub [0, 1] rfl) ?_
        intro h
        obtain ⟨r0, h0, rfl⟩ := zmE h
        exact w_X9_next_23 x0 x2 σ h0 hk
theorem w_X9_next_4 {g : zG} {lv : Nat} {out : zO} (x0 x2 x3 : Int) (σ : zM) {r : zO} (h : f_X9_next_4 x0 x2 x3 σ = some r) (hk : (fun o : zO => o = out) r) : Gj g MX9_next (lv) 4 [(0, zr x0), (2, zi x2), (3, zi x3)] [] σ out :=
  gj_loop (P := (fun s : Int × Int => Gj g MX9_next (lv) 4 [(0, zr x0), (2, zi s.1), (3, zi s.2)] [] σ out)) (fun s x hb hx => w_X9_next_4_b x0 s.1 s.2 σ hb hx) h hk
noncomputable def f_X9_next (x0 x1 : Int) (σ : zM) : Option zO :=
  f_X9_next_4 x0 x1 0 σ
theorem c_X9_next {g : zG} {lv : Nat} {x0 x1 : Int} {σ : zM} {out : zO} (h : f_X9_next x0 x1 σ = some out) : Cj g (lv) MX9_next [zr x0, zi x1] σ out := by
  refine cj_go (ls := [(0, zr x0), (1, zi x1)]) (by decide) (Nat.le_of_ble_eq_true rfl) rfl (zgen h (fun r hk => ?_))
  unfold f_X9_next
  refine zst_ (gj_iload_n 1 (pc := 0) dX9_next_0 rfl) ?_
  refine zst_ (gj_istore_n (pc := 1) (ls' := [(2, zi x1), (0, zr x0), (1, zi x1)]) dX9_next_1 (by decide) rfl) ?_
  refine zst_ (gj_iconst (pc := 2) dX9_next_2 (by decide)) ?_
  refine zst_ (gj_istore_n (pc := 3) (ls' := [(3, zi 0), (2, zi x1), (0, zr x0), (1, zi x1)]) dX9_next_3 (by decide) rfl) ?_
  refine zst_ (gj_sub [2, 1, 0] rfl) ?_
  exact fun h => w_X9_next_4 x0 x1 0 σ h hk
theorem q2224 : (Jvm.Cond.code ({ cls := "LassoFinderModel", name := "instead", desc := "(I)I" } : Jvm.MethodName) prog_22_method_22_code (5 : Nat) (Option.some Jvm.ClassFile.FieldType.int)) ∈ lw_all := lw_g (lw_at lw_m9 204 rfl) rfl
theorem q2225 : (Jvm.Cond.methodLink "LassoFinderModel" (277 : Nat) ({ cls := "LassoFinderModel", name := "next", desc := "(I)I" } : Jvm.MethodName)) ∈ lw_all := lw_g (lw_at lw_m9 205 rfl) rfl
theorem q2227 : (Jvm.Cond.instanceMethod ({ cls := "LassoFinderModel", name := "next", desc := "(I)I" } : Jvm.MethodName)) ∈ lw_all := lw_g (lw_at lw_m9 207 rfl) rfl
abbrev cX9_instead : ByteArray := prog_22_method_22_code
def yX9_instead : MethodName := ⟨RX9, "instead", "(I)I"⟩
theorem dX9_instead_0 : decode cX9_instead 0 = .ok (.iload_n 1, 1) := by decide +kernel
theorem dX9_instead_1 : decode cX9_instead 1 = .ok (.istore_n 2, 1) := by decide +kernel
theorem dX9_instead_2 : decode cX9_instead 2 = .ok (.iconst 0, 1) := by decide +kernel
theorem dX9_instead_3 : decode cX9_instead 3 = .ok (.istore_n 3, 1) := by decide +kernel
theorem dX9_instead_4 : decode cX9_instead 4 = .ok (.iload_n 3, 1) := by decide +kernel
theorem dX9_instead_5 : decode cX9_instead 5 = .ok (.iconst 2, 1) := by decide +kernel
theorem dX9_instead_6 : decode cX9_instead 6 = .ok (.aload_n 0, 1) := by decide +kernel
theorem dX9_instead_7 : decode cX9_instead 7 = .ok (.getfield 251, 3) := by decide +kernel
theorem dX9_instead_10 : decode cX9_instead 10 = .ok (.imul, 1) := by decide +kernel
theorem dX9_instead_11 : decode cX9_instead 11 = .ok (.if_icmp .gt 124, 3) := by decide +kernel
theorem dX9_instead_14 : decode cX9_instead 14 = .ok (.iload_n 2, 1) := by decide +kernel
theorem dX9_instead_15 : decode cX9_instead 15 = .ok (.ifCond .lt 14, 3) := by decide +kernel
theorem dX9_instead_18 : decode cX9_instead 18 = .ok (.aload_n 0, 1) := by decide +kernel
theorem dX9_instead_19 : decode cX9_instead 19 = .ok (.getfield 29, 3) := by decide +kernel
theorem dX9_instead_22 : decode cX9_instead 22 = .ok (.iload_n 2, 1) := by decide +kernel
theorem dX9_instead_23 : decode cX9_instead 23 = .ok (.iaload, 1) := by decide +kernel
theorem dX9_instead_24 : decode cX9_instead 24 = .ok (.bipush 8, 2) := by decide +kernel
theorem dX9_instead_26 : decode cX9_instead 26 = .ok (.if_icmp .ge 5, 3) := by decide +kernel
theorem dX9_instead_29 : decode cX9_instead 29 = .ok (.iload_n 2, 1) := by decide +kernel
theorem dX9_instead_30 : decode cX9_instead 30 = .ok (.ireturn, 1) := by decide +kernel
theorem dX9_instead_31 : decode cX9_instead 31 = .ok (.aload_n 0, 1) := by decide +kernel
theorem dX9_instead_32 : decode cX9_instead 32 = .ok (.getfield 29, 3) := by decide +kernel
theorem dX9_instead_35 : decode cX9_instead 35 = .ok (.iload_n 2, 1) := by decide +kernel
theorem dX9_instead_36 : decode cX9_instead 36 = .ok (.iaload, 1) := by decide +kernel
theorem dX9_instead_37 : decode cX9_instead 37 = .ok (.bipush 8, 2) := by decide +kernel
theorem dX9_instead_39 : decode cX9_instead 39 = .ok (.if_icmp .ne 10, 3) := by decide +kernel
theorem dX9_instead_42 : decode cX9_instead 42 = .ok (.iload_n 2, 1) := by decide +kernel
theorem dX9_instead_43 : decode cX9_instead 43 = .ok (.iconst 1, 1) := by decide +kernel
theorem dX9_instead_44 : decode cX9_instead 44 = .ok (.iadd, 1) := by decide +kernel
theorem dX9_instead_45 : decode cX9_instead 45 = .ok (.istore_n 2, 1) := by decide +kernel
theorem dX9_instead_46 : decode cX9_instead 46 = .ok (.goto 83, 3) := by decide +kernel
theorem dX9_instead_49 : decode cX9_instead 49 = .ok (.aload_n 0, 1) := by decide +kernel
theorem dX9_instead_50 : decode cX9_instead 50 = .ok (.getfield 29, 3) := by decide +kernel
theorem dX9_instead_53 : decode cX9_instead 53 = .ok (.iload_n 2, 1) := by decide +kernel
theorem dX9_instead_54 : decode cX9_instead 54 = .ok (.iaload, 1) := by decide +kernel
theorem dX9_instead_55 : decode cX9_instead 55 = .ok (.bipush 10, 2) := by decide +kernel
theorem dX9_instead_57 : decode cX9_instead 57 = .ok (.if_icmp .ne 32, 3) := by decide +kernel
theorem dX9_instead_60 : decode cX9_instead 60 = .ok (.aload_n 0, 1) := by decide +kernel
theorem dX9_instead_61 : decode cX9_instead 61 = .ok (.getfield 81, 3) := by decide +kernel
theorem dX9_instead_64 : decode cX9_instead 64 = .ok (.bipush 8, 2) := by decide +kernel
theorem dX9_instead_66 : decode cX9_instead 66 = .ok (.aload_n 0, 1) := by decide +kernel
theorem dX9_instead_67 : decode cX9_instead 67 = .ok (.getfield 32, 3) := by decide +kernel
theorem dX9_instead_70 : decode cX9_instead 70 = .ok (.iload_n 2, 1) := by decide +kernel
theorem dX9_instead_71 : decode cX9_instead 71 = .ok (.iaload, 1) := by decide +kernel
theorem dX9_instead_72 : decode cX9_instead 72 = .ok (.imul, 1) := by decide +kernel
theorem dX9_instead_73 : decode cX9_instead 73 = .ok (.aload_n 0, 1) := by decide +kernel
theorem dX9_instead_74 : decode cX9_instead 74 = .ok (.getfield 51, 3) := by decide +kernel
theorem dX9_instead_77 : decode cX9_instead 77 = .ok (.iload_n 2, 1) := by decide +kernel
theorem dX9_instead_78 : decode cX9_instead 78 = .ok (.iaload, 1) := by decide +kernel
theorem dX9_instead_79 : decode cX9_instead 79 = .ok (.iadd, 1) := by decide +kernel
theorem dX9_instead_80 : decode cX9_instead 80 = .ok (.iaload, 1) := by decide +kernel
theorem dX9_instead_81 : decode cX9_instead 81 = .ok (.istore_n 2, 1) := by decide +kernel
theorem dX9_instead_82 : decode cX9_instead 82 = .ok (.iload_n 2, 1) := by decide +kernel
theorem dX9_instead_83 : decode cX9_instead 83 = .ok (.ifCond .ge 46, 3) := by decide +kernel
theorem dX9_instead_86 : decode cX9_instead 86 = .ok (.bipush (-2), 2) := by decide +kernel
theorem dX9_instead_88 : decode cX9_instead 88 = .ok (.ireturn, 1) := by decide +kernel
theorem dX9_instead_89 : decode cX9_instead 89 = .ok (.iconst 0, 1) := by decide +kernel
theorem dX9_instead_90 : decode cX9_instead 90 = .ok (.istore 4, 2) := by decide +kernel
theorem dX9_instead_92 : decode cX9_instead 92 = .ok (.iload 4, 2) := by decide +kernel
theorem dX9_instead_94 : decode cX9_instead 94 = .ok (.bipush 8, 2) := by decide +kernel
theorem dX9_instead_96 : decode cX9_instead 96 = .ok (.if_icmp .ge 27, 3) := by decide +kernel
theorem dX9_instead_99 : decode cX9_instead 99 = .ok (.aload_n 0, 1) := by decide +kernel
theorem dX9_instead_100 : decode cX9_instead 100 = .ok (.getfield 29, 3) := by decide +kernel
theorem dX9_instead_103 : decode cX9_instead 103 = .ok (.iload_n 2, 1) := by decide +kernel
theorem dX9_instead_104 : decode cX9_instead 104 = .ok (.iaload, 1) := by decide +kernel
theorem dX9_instead_105 : decode cX9_instead 105 = .ok (.bipush 7, 2) := by decide +kernel
theorem dX9_instead_107 : decode cX9_instead 107 = .ok (.if_icmp .eq 16, 3) := by decide +kernel
theorem dX9_instead_110 : decode cX9_instead 110 = .ok (.aload_n 0, 1) := by decide +kernel
theorem dX9_instead_111 : decode cX9_instead 111 = .ok (.getfield 35, 3) := by decide +kernel
theorem dX9_instead_114 : decode cX9_instead 114 = .ok (.iload_n 2, 1) := by decide +kernel
theorem dX9_instead_115 : decode cX9_instead 115 = .ok (.iaload, 1) := by decide +kernel
theorem dX9_instead_116 : decode cX9_instead 116 = .ok (.istore_n 2, 1) := by decide +kernel
theorem dX9_instead_117 : decode cX9_instead 117 = .ok (.iinc 4 1, 3) := by decide +kernel
theorem dX9_instead_120 : decode cX9_instead 120 = .ok (.goto (-28), 3) := by decide +kernel
theorem dX9_instead_123 : decode cX9_instead 123 = .ok (.aload_n 0, 1) := by decide +kernel
theorem dX9_instead_124 : decode cX9_instead 124 = .ok (.iload_n 2, 1) := by decide +kernel
theorem dX9_instead_125 : decode cX9_instead 125 = .ok (.invokevirtual 277, 3) := by decide +kernel
theorem dX9_instead_128 : decode cX9_instead 128 = .ok (.istore_n 2, 1) := by decide +kernel
theorem dX9_instead_129 : decode cX9_instead 129 = .ok (.iinc 3 1, 3) := by decide +kernel
theorem dX9_instead_132 : decode cX9_instead 132 = .ok (.goto (-128), 3) := by decide +kernel
theorem dX9_instead_135 : decode cX9_instead 135 = .ok (.bipush (-3), 2) := by decide +kernel
theorem dX9_instead_137 : decode cX9_instead 137 = .ok (.ireturn, 1) := by decide +kernel
abbrev MX9_instead : zT := (yX9_instead, cX9_instead, 5, (Option.some Jvm.ClassFile.FieldType.int), [])
theorem plX9_instead : zplain MX9_instead 1 ∧ (zcodeW MX9_instead ∈ lw_all ∧ Cond.initialized MX9_instead.1.cls ∈ lw_all) := ⟨⟨by decide +kernel, by decide +kernel⟩, q2224, q127⟩
noncomputable def f_X9_instead_135 (σ : zM) : Option zO :=
  some (0, zi (-3), σ)
theorem w_X9_instead_135 {g : zG} {lv : Nat} {out : zO} (σ : zM) {r : zO} (h : f_X9_instead_135  σ = some r) (hk : (fun o : zO => o = out) r) : Gj g MX9_instead (lv + 1) 135 [] [] σ out := by
  revert h
  unfold f_X9_instead_135
  refine zst_ (gj_bipush (pc := 135) dX9_instead_135 ⟨rfl, by decide⟩) ?_
  intro h
  cases h
  have hk : (0, zi (-3), σ) = out := hk
  subst hk
  exact gj_ret (pc := 137) (t := .int) dX9_instead_137 rfl ⟨rfl, rfl⟩ (fun h => h)
noncomputable def f_X9_instead_29 (x2 : Int) (σ : zM) : Option zO :=
  some (0, zi x2, σ)
theorem w_X9_instead_29 {g : zG} {lv : Nat} {out : zO} (x2 : Int) (σ : zM) {r : zO} (h : f_X9_instead_29 x2 σ = some r) (hk : (fun o : zO => o = out) r) : Gj g MX9_instead (lv + 1) 29 [(2, zi x2)] [] σ out := by
  revert h
  unfold f_X9_instead_29
  refine zst_ (gj_iload_n 0 (pc := 29) dX9_instead_29 rfl) ?_
  intro h
  cases h
  have hk : (0, zi x2, σ) = out := hk
  subst hk
  exact gj_ret (pc := 30) (t := .int) dX9_instead_30 rfl ⟨rfl, rfl⟩ (fun h => h)
noncomputable def f_X9_instead_129 (x0 x2 x3 : Int) (σ : zM) : Option ((Int × Int × zM) ⊕ zO) :=
  zlet (zadd x3 1) fun y1 =>
  some (.inl (x2, y1, σ))
theorem w_X9_instead_129 {g : zG} {lv : Nat} {out : zO} (x0 x2 x3 : Int) (σ : zM) {r : ((Int × Int × zM) ⊕ zO)} (h : f_X9_instead_129 x0 x2 x3 σ = some r) (hk : (zKL (fun s : Int × Int × zM => Gj g MX9_instead (lv + 1) 4 [(0, zr x0), (2, zi s.1), (3, zi s.2.1)] [] s.2.2 out) (fun o : zO => o = out)) r) : Gj g MX9_instead (lv + 1) 129 [(0, zr x0), (2, zi x2), (3, zi x3)] [] σ out := by
  revert h
  unfold f_X9_instead_129
  refine gb_iinc (pc := 129) 2 (fun y1 => [(3, zi y1), (0, zr x0), (2, zi x2)]) dX9_instead_129 rfl (by decide) (fun _ => rfl) (fun y1 => ?_)
  refine zst_ (gj_goto 4 (pc := 132) dX9_instead_132 (by decide)) ?_
  refine zst_ (gj_sub [1, 2, 0] rfl) ?_
  intro h
  cases h
  exact hk
noncomputable def f_X9_instead_123 (x0 x2 x3 : Int) (σ : zM) : Option ((Int × Int × zM) ⊕ zO) :=
  zgd (zis σ 10 x0) <|
  zci (f_X9_next x0 x2 σ) fun v1 σ2 =>
  f_X9_instead_129 x0 v1 x3 σ2
theorem w_X9_instead_123 {g : zG} {lv : Nat} {out : zO} (x0 x2 x3 : Int) (σ : zM) {r : ((Int × Int × zM) ⊕ zO)} (h : f_X9_instead_123 x0 x2 x3 σ = some r) (hk : (zKL (fun s : Int × Int × zM => Gj g MX9_instead (lv + 1) 4 [(0, zr x0), (2, zi s.1), (3, zi s.2.1)] [] s.2.2 out) (fun o : zO => o = out)) r) : Gj g MX9_instead (lv + 1) 123 [(0, zr x0), (2, zi x2), (3, zi x3)] [] σ out := by
  revert h
  unfold f_X9_instead_123
  refine zst_ (gj_aload_n 0 (pc := 123) dX9_instead_123 rfl) ?_
  refine zst_ (gj_iload_n 1 (pc := 124) dX9_instead_124 rfl) ?_
  refine gb_gd (fun hb => ?_)
  refine gb_callI (pc := 125) (as := [zr x0, zi x2]) (rest := []) (zCl.of (zLk_V (M := MX9_instead) (ci := 9) (r := (RX9, TX9, 84)) plX9_next.1 rfl rfl (zisE hb).1 (zisE hb).2 dX9_instead_125 q2225 q2227 qs63 q2228) plX9_next (Nat.le_of_ble_eq_true rfl) (fun h => c_X9_next h)) (fun v1 σ2 => ?_)
  refine zst_ (gj_istore_n (pc := 128) (ls' := [(2, zi v1), (0, zr x0), (3, zi x3)]) dX9_instead_128 (by decide) rfl) ?_
  refine zst_ (gj_sub [1, 0, 2] rfl) ?_
  exact fun h => w_X9_instead_129 x0 v1 x3 σ2 h hk
noncomputable def f_X9_instead_92_b (x0 x2 x3 x4 : Int) (σ : zM) : Option ((Int × Int) ⊕ ((Int × Int × zM) ⊕ zO)) :=
  if 8 ≤ x4 then
    (f_X9_instead_123 x0 x2 x3 σ).map (fun r => (.inr r))
  else
    (zgf σ 914 x0).bind fun v1 =>
    (zga σ 101 v1 x2).bind fun v2 =>
    if v2 = 7 then
      (f_X9_instead_123 x0 x2 x3 σ).map (fun r => (.inr r))
    else
      (zgf σ 916 x0).bind fun v3 =>
      (zga σ 101 v3 x2).bind fun v4 =>
      zlet (zadd x4 1) fun y5 =>
      some (.inl (v4, y5))
noncomputable def f_X9_instead_92 (x0 x2 x3 x4 : Int) (σ : zM) : Option ((Int × Int × zM) ⊕ zO) :=
  zloop (fun s : Int × Int => f_X9_instead_92_b x0 s.1 x3 s.2 σ) (x2, x4)
theorem w_X9_instead_92_b {g : zG} {lv : Nat} {out : zO} (x0 x2 x3 x4 : Int) (σ : zM) {r : ((Int × Int) ⊕ ((Int × Int × zM) ⊕ zO))} (h : f_X9_instead_92_b x0 x2 x3 x4 σ = some r) (hk : (zKL (fun s : Int × Int => Gj g MX9_instead (lv + 1) 92 [(0, zr x0), (2, zi s.1), (3, zi x3), (4, zi s.2)] [] σ out) (zKL (fun s : Int × Int × zM => Gj g MX9_instead (lv + 1) 4 [(0, zr x0), (2, zi s.1), (3, zi s.2.1)] [] s.2.2 out) (fun o : zO => o = out))) r) : Gj g MX9_instead (lv + 1) 92 [(0, zr x0), (2, zi x2), (3, zi x3), (4, zi x4)] [] σ out := by
  revert h
  unfold f_X9_instead_92_b
  refine zst_ (gj_iload 3 (pc := 92) dX9_instead_92 rfl) ?_
  refine zst_ (gj_bipush (pc := 94) dX9_instead_94 ⟨rfl, by decide⟩) ?_
  refine gb_if (gj_icmp_ge 123 (pc := 96) dX9_instead_96 (by decide)) ?_ ?_
  · refine zst_ (gj_sub [0, 1, 2] rfl) ?_
    intro h
    obtain ⟨r0, h0, rfl⟩ := zmE h
    exact w_X9_instead_123 x0 x2 x3 σ h0 hk
  · refine zst_ (gj_aload_n 0 (pc := 99) dX9_instead_99 rfl) ?_
    refine gb_get (pc := 100) fl914 dX9_instead_100 q1896 (Or.inl rfl) (fun v1 => ?_)
    refine zst_ (gj_iload_n 1 (pc := 103) dX9_instead_103 rfl) ?_
    refine gb_iald (pc := 104) dX9_instead_104 (fun v2 => ?_)
    refine zst_ (gj_bipush (pc := 105) dX9_instead_105 ⟨rfl, by decide⟩) ?_
    refine gb_if (gj_icmp_eq 123 (pc := 107) dX9_instead_107 (by decide)) ?_ ?_
    · refine zst_ (gj_sub [0, 1, 2] rfl) ?_
      intro h
      obtain ⟨r0, h0, rfl⟩ := zmE h
      exact w_X9_instead_123 x0 x2 x3 σ h0 hk
    · refine zst_ (gj_aload_n 0 (pc := 110) dX9_instead_110 rfl) ?_
      refine gb_get (pc := 111) fl916 dX9_instead_111 q1898 (Or.inl rfl) (fun v3 => ?_)
      refine zst_ (gj_iload_n 1 (pc := 114) dX9_instead_114 rfl) ?_
      refine gb_iald (pc := 115) dX9_instead_115 (fun v4 => ?_)
      refine zst_ (gj_istore_n (pc := 116) (ls' := [(2, zi v4), (0, zr x0), (3, zi x3), (4, zi x4)]) dX9_instead_116 (by decide) rfl) ?_
      refine gb_iinc (pc := 117) 3 (fun y5 => [(4, zi y5), (2, zi v4), (0, zr x0), (3, zi x3)]) dX9_instead_117 rfl (by decide) (fun _ => rfl) (fun y5 => ?_)
      refine zst_ (gj_goto 92 (pc := 120) dX9_instead_120 (by decide)) ?_
      refine zst_ (gj_sub [2, 1, 3, 0] rfl) ?_
      intro h
      cases h
      exact hk
theorem w_X9_instead_92 {g : zG} {lv : Nat} {out : zO} (x0 x2 x3 x4 : Int) (σ : zM) {r : ((Int × Int × zM) ⊕ zO)} (h : f_X9_instead_92 x0 x2 x3 x4 σ = some r) (hk : (zKL (fun s : Int × Int × zM => Gj g MX9_instead (lv + 1) 4 [(0, zr x0), (2, zi s.1), (3, zi s.2.1)] [] s.2.2 out) (fun o : zO => o = out)) r) : Gj g MX9_instead (lv + 1) 92 [(0, zr x0), (2, zi x2), (3, zi x3), (4, zi x4)] [] σ out :=
  gj_loop (P := (fun s : Int × Int => Gj g MX9_instead (lv + 1) 92 [(0, zr x0), (2, zi s.1), (3, zi x3), (4, zi s.2)] [] σ out)) (fun s x hb hx => w_X9_instead_92_b x0 s.1 x3 s.2 σ hb hx) h hk
noncomputable def f_X9_instead_86 (σ : zM) : Option zO :=
  some (0, zi (-2), σ)
theorem w_X9_instead_86 {g : zG} {lv : Nat} {out : zO} (σ : zM) {r : zO} (h : f_X9_instead_86  σ = some r) (hk : (fun o : zO => o = out) r) : Gj g MX9_instead (lv + 1) 86 [] [] σ out := by
  revert h
  unfold f_X9_instead_86
  refine zst_ (gj_bipush (pc := 86) dX9_instead_86 ⟨rfl, by decide⟩) ?_
  intro h
  cases h
  have hk : (0, zi (-2), σ) = out := hk
  subst hk
  exact gj_ret (pc := 88) (t := .int) dX9_instead_88 rfl ⟨rfl, rfl⟩ (fun h => h)
noncomputable def f_X9_instead_4_b (x0 x2 x3 : Int) (σ : zM) : Option ((Int × Int × zM) ⊕ zO) :=
  (zgf σ 913 x0).bind fun v1 =>
  if (zmul 2 v1) < x3 then
    (f_X9_instead_135 σ).map (fun r => (.inr r))
  else
    if x2 < 0 then
      (f_X9_instead_29 x2 σ).map (fun r => (.inr r))
    else
      (zgf σ 914 x0).bind fun v2 =>
      (zga σ 101 v2 x2).bind fun v3 =>
      if 8 ≤ v3 then
        (zgf σ 914 x0).bind fun v4 =>
        (zga σ 101 v4 x2).bind fun v5 =>
        if v5 ≠ 8 then
          (zgf σ 914 x0).bind fun v6 =>
          (zga σ 101 v6 x2).bind fun v7 =>
          if v7 ≠ 10 then
            f_X9_instead_92 x0 x2 x3 0 σ
          else
            (zgf σ 933 x0).bind fun v8 =>
            (zgf σ 915 x0).bind fun v9 =>
            (zga σ 101 v9 x2).bind fun v10 =>
            (zgf σ 921 x0).bind fun v11 =>
            (zga σ 101 v11 x2).bind fun v12 =>
            (zga σ 101 v8 (zadd (zmul 8 v10) v12)).bind fun v13 =>
            if 0 ≤ v13 then
              f_X9_instead_129 x0 v13 x3 σ
            else
              (f_X9_instead_86 σ).map (fun r => (.inr r))
        else
          zlet ((zadd x2 1)) fun y14 =>
          f_X9_instead_129 x0 y14 x3 σ
      else
        (f_X9_instead_29 x2 σ).map (fun r => (.inr r))
noncomputable def f_X9_instead_4 (x0 x2 x3 : Int) (σ : zM) : Option zO :=
  zloop (fun s : Int × Int × zM => f_X9_instead_4_b x0 s.1 s.2.1 s.2.2) (x2, x3, σ)
theorem w_X9_instead_4_b {g : zG} {lv : Nat} {out : zO} (x0 x2 x3 : Int) (σ : zM) {r : ((Int × Int × zM) ⊕ zO)} (h : f_X9_instead_4_b x0 x2 x3 σ = some r) (hk : (zKL (fun s : Int × Int × zM => Gj g MX9_instead (lv + 1) 4 [(0, zr x0), (2, zi s.1), (3, zi s.2.1)] [] s.2.2 out) (fun o : zO => o = out)) r) : Gj g MX9_instead (lv + 1) 4 [(0, zr x0), (2, zi x2), (3, zi x3)] [] σ out := by
  revert h
  unfold f_X9_instead_4_b
  refine zst_ (gj_iload_n 2 (pc := 4) dX9_instead_4 rfl) ?_
  refine zst_ (gj_iconst (pc := 5) dX9_instead_5 (by decide)) ?_
  refine zst_ (gj_aload_n 0 (pc := 6) dX9_instead_6 rfl) ?_
  refine gb_get (pc := 7) fl913 dX9_instead_7 q1895 (Or.inl rfl) (fun v1 => ?_)
  refine zst_ (gj_imul (pc := 10) dX9_instead_10) ?_
  refine gb_if (gj_icmp_gt 135 (pc := 11) dX9_instead_11 (by decide)) ?_ ?_
  · refine zst_ (gj_sub [] rfl) ?_
    intro h
    obtain ⟨r0, h0, rfl⟩ := zmE h
    exact w_X9_instead_135 σ h0 hk
  · refine zst_ (gj_iload_n 1 (pc := 14) dX9_instead_14 rfl) ?_
    refine gb_if (gj_if_lt 29 (pc := 15) dX9_instead_15 (by decide)) ?_ ?_
    · refine zst_ (gj_sub [1] rfl) ?_
      intro h
      obtain ⟨r0, h0, rfl⟩ := zmE h
      exact w_X9_instead_29 x2 σ h0 hk
    · refine zst_ (gj_aload_n 0 (pc := 18) dX9_instead_18 rfl) ?_
      refine gb_get (pc := 19) fl914 dX9_instead_19 q1896 (Or.inl rfl) (fun v2 => ?_)
      refine zst_ (gj_iload_n 1 (pc := 22) dX9_instead_22 rfl) ?_
      refine gb_iald (pc := 23) dX9_instead_23 (fun v3 => ?_)
      refine zst_ (gj_bipush (pc := 24) dX9_instead_24 ⟨rfl, by decide⟩) ?_
      refine gb_if (gj_icmp_ge 31 (pc := 26) dX9_instead_26 (by decide)) ?_ ?_
      · refine zst_ (gj_aload_n 0 (pc := 31) dX9_instead_31 rfl) ?_
        refine gb_get (pc := 32) fl914 dX9_instead_32 q1896 (Or.inl rfl) (fun v4 => ?_)
        refine zst_ (gj_iload_n 1 (pc := 35) dX9_instead_35 rfl) ?_
        refine gb_iald (pc := 36) dX9_instead_36 (fun v5 => ?_)
        refine zst_ (gj_bipush (pc := 37) dX9_instead_37 ⟨rfl, by decide⟩) ?_
        refine gb_if (gj_icmp_ne 49 (pc := 39) dX9_instead_39 (by decide)) ?_ ?_
        · refine zst_ (gj_aload_n 0 (pc := 49) dX9_instead_49 rfl) ?_
          refine gb_get (pc := 50) fl914 dX9_instead_50 q1896 (Or.inl rfl) (fun v6 => ?_)
          refine zst_ (gj_iload_n 1 (pc := 53) dX9_instead_53 rfl) ?_
          refine gb_iald (pc := 54) dX9_instead_54 (fun v7 => ?_)
          refine zst_ (gj_bipush (pc := 55) dX9_instead_55 ⟨rfl, by decide⟩) ?_
          refine gb_if (gj_icmp_ne 89 (pc := 57) dX9_instead_57 (by decide)) ?_ ?_
          · refine zst_ (gj_iconst (pc := 89) dX9_instead_89 (by decide)) ?_
            refine zst_ (gj_istore (pc := 90) (ls' := [(4, zi 0), (0, zr x0), (2, zi x2), (3, zi x3)]) dX9_instead_90 (by decide) rfl) ?_
            refine zst_ (gj_sub [1, 2, 3, 0] rfl) ?_
            exact fun h => w_X9_instead_92 x0 x2 x3 0 σ h hk
          · refine zst_ (gj_aload_n 0 (pc := 60) dX9_instead_60 rfl) ?_
            refine gb_get (pc := 61) fl933 dX9_instead_61 q1915 (Or.inl rfl) (fun v8 => ?_)
            refine zst_ (gj_bipush (pc := 64) dX9_instead_64 ⟨rfl, by decide⟩) ?_
            refine zst_ (gj_aload_n 0 (pc := 66) dX9_instead_66 rfl) ?_
            refine gb_get (pc := 67) fl915 dX9_instead_67 q1897 (Or.inl rfl) (fun v9 => ?_)
            refine zst_ (gj_iload_n 1 (pc := 70) dX9_instead_70 rfl) ?_
            refine gb_iald (pc := 71) dX9_instead_71 (fun v10 => ?_)
            refine zst_ (gj_imul (pc := 72) dX9_instead_72) ?_
            refine zst_ (gj_aload_n 0 (pc := 73) dX9_instead_73 rfl) ?_
            refine gb_get (pc := 74) fl921 dX9_instead_74 q1903 (Or.inl rfl) (fun v11 => ?_)
            refine zst_ (gj_iload_n 1 (pc := 77) dX9_instead_77 rfl) ?_
            refine gb_iald (pc := 78) dX9_instead_78 (fun v12 => ?_)
            refine zst_ (gj_iadd (pc := 79) dX9_instead_79) ?_
            refine gb_iald (pc := 80) dX9_instead_80 (fun v13 => ?_)
            refine zst_ (gj_istore_n (pc := 81) (ls' := [(2, zi v13), (0, zr x0), (3, zi x3)]) dX9_instead_81 (by decide) rfl) ?_
            refine zst_ (gj_iload_n 0 (pc := 82) dX9_instead_82 rfl) ?_
            refine gb_if (gj_if_ge 129 (pc := 83) dX9_instead_83 (by decide)) ?_ ?_
            · refine zst_ (gj_sub [1, 0, 2] rfl) ?_
              exact fun h => w_X9_instead_129 x0 v13 x3 σ h hk
            · refine zst_ (gj_sub [] rfl) ?_
              intro h
              obtain ⟨r0, h0, rfl⟩ := zmE h
              exact w_X9_instead_86 σ h0 hk
        · refine zst_ (gj_iload_n 1 (pc := 42) dX9_instead_42 rfl) ?_
          refine zst_ (gj_iconst (pc := 43) dX9_instead_43 (by decide)) ?_
          refine zst_ (gj_iadd (pc := 44) dX9_instead_44) ?_
          refine gb_let (fun y14 => ?_)
          refine zst_ (gj_istore_n (pc := 45) (ls' := [(2, zi y14), (0, zr x0), (3, zi x3)]) dX9_instead_45 (by decide) rfl) ?_
          refine zst_ (gj_goto 129 (pc := 46) dX9_instead_46 (by decide)) ?_
          refine zst_ (gj_sub [1, 0, 2] rfl) ?_
          exact fun h => w_X9_instead_129 x0 y14 x3 σ h hk
      · refine zst_ (gj_sub [1] rfl) ?_
        intro h
        obtain ⟨r0, h0, rfl⟩ := zmE h
        exact w_X9_instead_29 x2 σ h0 hk
theorem w_X9_instead_4 {g : zG} {lv : Nat} {out : zO} (x0 x2 x3 : Int) (σ : zM) {r : zO} (h : f_X9_instead_4 x0 x2 x3 σ = some r) (hk : (fun o : zO => o = out) r) : Gj g MX9_instead (lv + 1) 4 [(0, zr x0), (2, zi x2), (3, zi x3)] [] σ out :=
  gj_loop (P := (fun s : Int × Int × zM => Gj g MX9_instead (lv + 1) 4 [(0, zr x0), (2, zi s.1), (3, zi s.2.1)] [] s.2.2 out)) (fun s x hb hx => w_X9_instead_4_b x0 s.1 s.2.1 s.2.2 hb hx) h hk
noncomputable def f_X9_instead (x0 x1 : Int) (σ : zM) : Option zO :=
  f_X9_instead_4 x0 x1 0 σ
theorem c_X9_instead {g : zG} {lv : Nat} {x0 x1 : Int} {σ : zM} {out : zO} (h : f_X9_instead x0 x1 σ = some out) : Cj g (lv + 1) MX9_instead [zr x0, zi x1] σ out := by
  refine cj_go (ls := [(0, zr x0), (1, zi x1)]) (by decide) (Nat.le_of_ble_eq_true rfl) rfl (zgen h (fun r hk => ?_))
  unfold f_X9_instead
  refine zst_ (gj_iload_n 1 (pc := 0) dX9_instead_0 rfl) ?_
  refine zst_ (gj_istore_n (pc := 1) (ls' := [(2, zi x1), (0, zr x0), (1, zi x1)]) dX9_instead_1 (by decide) rfl) ?_
  refine zst_ (gj_iconst (pc := 2) dX9_instead_2 (by decide)) ?_
  refine zst_ (gj_istore_n (pc := 3) (ls' := [(3, zi 0), (2, zi x1), (0, zr x0), (1, zi x1)]) dX9_instead_3 (by decide) rfl) ?_
  refine zst_ (gj_sub [2, 1, 0] rfl) ?_
  exact fun h => w_X9_instead_4 x0 x1 0 σ h hk
theorem q2220 : (Jvm.Cond.code ({ cls := "LassoFinderModel", name := "jumps", desc := "(I)Z" } : Jvm.MethodName) prog_22_method_23_code (4 : Nat) (Option.some Jvm.ClassFile.FieldType.boolean)) ∈ lw_all := lw_g (lw_at lw_m9 200 rfl) rfl
theorem q2221 : (Jvm.Cond.methodLink "LassoFinderModel" (280 : Nat) ({ cls := "LassoFinderModel", name := "instead", desc := "(I)I" } : Jvm.MethodName)) ∈ lw_all := lw_g (lw_at lw_m9 201 rfl) rfl
theorem q2223 : (Jvm.Cond.instanceMethod ({ cls := "LassoFinderModel", name := "instead", desc := "(I)I" } : Jvm.MethodName)) ∈ lw_all := lw_g (lw_at lw_m9 203 rfl) rfl
abbrev cX9_jumps : ByteArray := prog_22_method_23_code
def yX9_jumps : MethodName := ⟨RX9, "jumps", "(I)Z"⟩
theorem dX9_jumps_0 : decode cX9_jumps 0 = .ok (.iload_n 1, 1) := by decide +kernel
theorem dX9_jumps_1 : decode cX9_jumps 1 = .ok (.istore_n 2, 1) := by decide +kernel
theorem dX9_jumps_2 : decode cX9_jumps 2 = .ok (.iload_n 2, 1) := by decide +kernel
theorem dX9_jumps_3 : decode cX9_jumps 3 = .ok (.aload_n 0, 1) := by decide +kernel
theorem dX9_jumps_4 : decode cX9_jumps 4 = .ok (.getfield 251, 3) := by decide +kernel
theorem dX9_jumps_7 : decode cX9_jumps 7 = .ok (.if_icmp .ge 69, 3) := by decide +kernel
theorem dX9_jumps_10 : decode cX9_jumps 10 = .ok (.aload_n 0, 1) := by decide +kernel
theorem dX9_jumps_11 : decode cX9_jumps 11 = .ok (.getfield 29, 3) := by decide +kernel
theorem dX9_jumps_14 : decode cX9_jumps 14 = .ok (.iload_n 2, 1) := by decide +kernel
theorem dX9_jumps_15 : decode cX9_jumps 15 = .ok (.iaload, 1) := by decide +kernel
theorem dX9_jumps_16 : decode cX9_jumps 16 = .ok (.bipush 10, 2) := by decide +kernel
theorem dX9_jumps_18 : decode cX9_jumps 18 = .ok (.if_icmp .eq 6, 3) := by decide +kernel
theorem dX9_jumps_21 : decode cX9_jumps 21 = .ok (.goto 49, 3) := by decide +kernel
theorem dX9_jumps_24 : decode cX9_jumps 24 = .ok (.aload_n 0, 1) := by decide +kernel
theorem dX9_jumps_25 : decode cX9_jumps 25 = .ok (.getfield 81, 3) := by decide +kernel
theorem dX9_jumps_28 : decode cX9_jumps 28 = .ok (.bipush 8, 2) := by decide +kernel
theorem dX9_jumps_30 : decode cX9_jumps 30 = .ok (.aload_n 0, 1) := by decide +kernel
theorem dX9_jumps_31 : decode cX9_jumps 31 = .ok (.getfield 254, 3) := by decide +kernel
theorem dX9_jumps_34 : decode cX9_jumps 34 = .ok (.imul, 1) := by decide +kernel
theorem dX9_jumps_35 : decode cX9_jumps 35 = .ok (.aload_n 0, 1) := by decide +kernel
theorem dX9_jumps_36 : decode cX9_jumps 36 = .ok (.getfield 51, 3) := by decide +kernel
theorem dX9_jumps_39 : decode cX9_jumps 39 = .ok (.iload_n 2, 1) := by decide +kernel
theorem dX9_jumps_40 : decode cX9_jumps 40 = .ok (.iaload, 1) := by decide +kernel
theorem dX9_jumps_41 : decode cX9_jumps 41 = .ok (.iadd, 1) := by decide +kernel
theorem dX9_jumps_42 : decode cX9_jumps 42 = .ok (.iaload, 1) := by decide +kernel
theorem dX9_jumps_43 : decode cX9_jumps 43 = .ok (.istore_n 3, 1) := by decide +kernel
theorem dX9_jumps_44 : decode cX9_jumps 44 = .ok (.iload_n 3, 1) := by decide +kernel
theorem dX9_jumps_45 : decode cX9_jumps 45 = .ok (.ifCond .lt 13, 3) := by decide +kernel
theorem dX9_jumps_48 : decode cX9_jumps 48 = .ok (.aload_n 0, 1) := by decide +kernel
theorem dX9_jumps_49 : decode cX9_jumps 49 = .ok (.iload_n 3, 1) := by decide +kernel
theorem dX9_jumps_50 : decode cX9_jumps 50 = .ok (.invokevirtual 280, 3) := by decide +kernel
theorem dX9_jumps_53 : decode cX9_jumps 53 = .ok (.bipush (-3), 2) := by decide +kernel
theorem dX9_jumps_55 : decode cX9_jumps 55 = .ok (.if_icmp .ne 15, 3) := by decide +kernel
theorem dX9_jumps_58 : decode cX9_jumps 58 = .ok (.aload_n 0, 1) := by decide +kernel
theorem dX9_jumps_59 : decode cX9_jumps 59 = .ok (.aload_n 0, 1) := by decide +kernel
theorem dX9_jumps_60 : decode cX9_jumps 60 = .ok (.getfield 63, 3) := by decide +kernel
theorem dX9_jumps_63 : decode cX9_jumps 63 = .ok (.iload_n 2, 1) := by decide +kernel
theorem dX9_jumps_64 : decode cX9_jumps 64 = .ok (.iaload, 1) := by decide +kernel
theorem dX9_jumps_65 : decode cX9_jumps 65 = .ok (.putfield 206, 3) := by decide +kernel
theorem dX9_jumps_68 : decode cX9_jumps 68 = .ok (.iconst 0, 1) := by decide +kernel
theorem dX9_jumps_69 : decode cX9_jumps 69 = .ok (.ireturn, 1) := by decide +kernel
theorem dX9_jumps_70 : decode cX9_jumps 70 = .ok (.iinc 2 1, 3) := by decide +kernel
theorem dX9_jumps_73 : decode cX9_jumps 73 = .ok (.goto (-71), 3) := by decide +kernel
theorem dX9_jumps_76 : decode cX9_jumps 76 = .ok (.iconst 1, 1) := by decide +kernel
theorem dX9_jumps_77 : decode cX9_jumps 77 = .ok (.ireturn, 1) := by decide +kernel
abbrev MX9_jumps : zT := (yX9_jumps, cX9_jumps, 4, (Option.some Jvm.ClassFile.FieldType.boolean), [])
theorem plX9_jumps : zplain MX9_jumps 1 ∧ (zcodeW MX9_jumps ∈ lw_all ∧ Cond.initialized MX9_jumps.1.cls ∈ lw_all) := ⟨⟨by decide +kernel, by decide +kernel⟩, q2220, q127⟩
noncomputable def f_X9_jumps_76 (σ : zM) : Option zO :=
  zgd (z01 1) <|
  some (0, zi 1, σ)
theorem w_X9_jumps_76 {g : zG} {lv : Nat} {out : zO} (σ : zM) {r : zO} (h : f_X9_jumps_76  σ = some r) (hk : (fun o : zO => o = out) r) : Gj g MX9_jumps (lv + 2) 76 [] [] σ out := by
  revert h
  unfold f_X9_jumps_76
  refine zst_ (gj_iconst (pc := 76) dX9_jumps_76 (by decide)) ?_
  refine gb_gd (fun hb => ?_)
  intro h
  cases h
  have hk : (0, zi 1, σ) = out := hk
  subst hk
  exact gj_ret (pc := 77) (t := .boolean) dX9_jumps_77 rfl ⟨rfl, rfl⟩ (fun _ => z01E hb)
noncomputable def f_X9_jumps_58 (x0 x2 : Int) (σ : zM) : Option zO :=
  (zgf σ 925 x0).bind fun v1 =>
  (zga σ 101 v1 x2).bind fun v2 =>
  (zpf σ 904 x0 v2).bind fun σ3 =>
  zgd (z01 0) <|
  some (0, zi 0, σ3)
theorem w_X9_jumps_58 {g : zG} {lv : Nat} {out : zO} (x0 x2 : Int) (σ : zM) {r : zO} (h : f_X9_jumps_58 x0 x2 σ = some r) (hk : (fun o : zO => o = out) r) : Gj g MX9_jumps (lv + 2) 58 [(0, zr x0), (2, zi x2)] [] σ out := by
  revert h
  unfold f_X9_jumps_58
  refine zst_ (gj_aload_n 0 (pc := 58) dX9_jumps_58 rfl) ?_
  refine zst_ (gj_aload_n 0 (pc := 59) dX9_jumps_59 rfl) ?_
  refine gb_get (pc := 60) fl925 dX9_jumps_60 q1907 (Or.inl rfl) (fun v1 => ?_)
  refine zst_ (gj_iload_n 1 (pc := 63) dX9_jumps_63 rfl) ?_
  refine gb_iald (pc := 64) dX9_jumps_64 (fun v2 => ?_)
  refine gb_put (pc := 65) fl904 fr904 dX9_jumps_65 q1886 (Or.inl rfl) (fun σ3 => ?_)
  refine zst_ (gj_iconst (pc := 68) dX9_jumps_68 (by decide)) ?_
  refine gb_gd (fun hb => ?_)
  intro h
  cases h
  have hk : (0, zi 0, σ3) = out := hk
  subst hk
  exact gj_ret (pc := 69) (t := .boolean) dX9_jumps_69 rfl ⟨rfl, rfl⟩ (fun _ => z01E hb)
noncomputable def f_X9_jumps_70 (x0 x2 : Int) (σ : zM) : Option ((Int × zM) ⊕ zO) :=
  zlet (zadd x2 1) fun y1 =>
  some (.inl (y1, σ))
theorem w_X9_jumps_70 {g : zG} {lv : Nat} {out : zO} (x0 x2 : Int) (σ : zM) {r : ((Int × zM) ⊕ zO)} (h : f_X9_jumps_70 x0 x2 σ = some r) (hk : (zKL (fun s : Int × zM => Gj g MX9_jumps (lv + 2) 2 [(0, zr x0), (2, zi s.1)] [] s.2 out) (fun o : zO => o = out)) r) : Gj g MX9_jumps (lv + 2) 70 [(0, zr x0), (2, zi x2)] [] σ out := by
  revert h
  unfold f_X9_jumps_70
  refine gb_iinc (pc := 70) 1 (fun y1 => [(2, zi y1), (0, zr x0)]) dX9_jumps_70 rfl (by decide) (fun _ => rfl) (fun y1 => ?_)
  refine zst_ (gj_goto 2 (pc := 73) dX9_jumps_73 (by decide)) ?_
  refine zst_ (gj_sub [1, 0] rfl) ?_
  intro h
  cases h
  exact hk
noncomputable def f_X9_jumps_2_b (x0 x2 : Int) (σ : zM) : Option ((Int × zM) ⊕ zO) :=
  (zgf σ 913 x0).bind fun v1 =>
  if v1 ≤ x2 then
    (f_X9_jumps_76 σ).map (fun r => (.inr r))
  else
    (zgf σ 914 x0).bind fun v2 =>
    (zga σ 101 v2 x2).bind fun v3 =>
    if v3 = 10 then
      (zgf σ 933 x0).bind fun v4 =>
      (zgf σ 930 x0).bind fun v5 =>
      (zgf σ 921 x0).bind fun v6 =>
      (zga σ 101 v6 x2).bind fun v7 =>
      (zga σ 101 v4 (zadd (zmul 8 v5) v7)).bind fun v8 =>
      if v8 < 0 then
        (f_X9_jumps_58 x0 x2 σ).map (fun r => (.inr r))
      else
        zgd (zis σ 10 x0) <|
        zci (f_X9_instead x0 v8 σ) fun v9 σ10 =>
        if v9 ≠ (-3) then
          f_X9_jumps_70 x0 x2 σ10
        else
          (f_X9_jumps_58 x0 x2 σ10).map (fun r => (.inr r))
    else
      f_X9_jumps_70 x0 x2 σ
noncomputable def f_X9_jumps_2 (x0 x2 : Int) (σ : zM) : Option zO :=
  zloop (fun s : Int × zM => f_X9_jumps_2_b x0 s.1 s.2) (x2, σ)
theorem w_X9_jumps_2_b {g : zG} {lv : Nat} {out : zO} (x0 x2 : Int) (σ : zM) {r : ((Int × zM) ⊕ zO)} (h : f_X9_jumps_2_b x0 x2 σ = some r) (hk : (zKL (fun s : Int × zM => Gj g MX9_jumps (lv + 2) 2 [(0, zr x0), (2, zi s.1)] [] s.2 out) (fun o : zO => o = out)) r) : Gj g MX9_jumps (lv + 2) 2 [(0, zr x0), (2, zi x2)] [] σ out := by
  revert h
  unfold f_X9_jumps_2_b
  refine zst_ (gj_iload_n 1 (pc := 2) dX9_jumps_2 rfl) ?_
  refine zst_ (gj_aload_n 0 (pc := 3) dX9_jumps_3 rfl) ?_
  refine gb_get (pc := 4) fl913 dX9_jumps_4 q1895 (Or.inl rfl) (fun v1 => ?_)
  refine gb_if (gj_icmp_ge 76 (pc := 7) dX9_jumps_7 (by decide)) ?_ ?_
  · refine zst_ (gj_sub [] rfl) ?_
    intro h
    obtain ⟨r0, h0, rfl⟩ := zmE h
    exact w_X9_jumps_76 σ h0 hk
  · refine zst_ (gj_aload_n 0 (pc := 10) dX9_jumps_10 rfl) ?_
    refine gb_get (pc := 11) fl914 dX9_jumps_11 q1896 (Or.inl rfl) (fun v2 => ?_)
    refine zst_ (gj_iload_n 1 (pc := 14) dX9_jumps_14 rfl) ?_
    refine gb_iald (pc := 15) dX9_jumps_15 (fun v3 => ?_)
    refine zst_ (gj_bipush (pc := 16) dX9_jumps_16 ⟨rfl, by decide⟩) ?_
    refine gb_if (gj_icmp_eq 24 (pc := 18) dX9_jumps_18 (by decide)) ?_ ?_
    · refine zst_ (gj_aload_n 0 (pc := 24) dX9_jumps_24 rfl) ?_
      refine gb_get (pc := 25) fl933 dX9_jumps_25 q1915 (Or.inl rfl) (fun v4 => ?_)
      refine zst_ (gj_bipush (pc := 28) dX9_jumps_28 ⟨rfl, by decide⟩) ?_
      refine zst_ (gj_aload_n 0 (pc := 30) dX9_jumps_30 rfl) ?_
      refine gb_get (pc := 31) fl930 dX9_jumps_31 q1912 (Or.inl rfl) (fun v5 => ?_)
      refine zst_ (gj_imul (pc := 34) dX9_jumps_34) ?_
      refine zst_ (gj_aload_n 0 (pc := 35) dX9_jumps_35 rfl) ?_
      refine gb_get (pc := 36) fl921 dX9_jumps_36 q1903 (Or.inl rfl) (fun v6 => ?_)
      refine zst_ (gj_iload_n 1 (pc := 39) dX9_jumps_39 rfl) ?_
      refine gb_iald (pc := 40) dX9_jumps_40 (fun v7 => ?_)
      refine zst_ (gj_iadd (pc := 41) dX9_jumps_41) ?_
      refine gb_iald (pc := 42) dX9_jumps_42 (fun v8 => ?_)
      refine zst_ (gj_istore_n (pc := 43) (ls' := [(3, zi v8), (0, zr x0), (2, zi x2)]) dX9_jumps_43 (by decide) rfl) ?_
      refine zst_ (gj_iload_n 0 (pc := 44) dX9_jumps_44 rfl) ?_
      refine gb_if (gj_if_lt 58 (pc := 45) dX9_jumps_45 (by decide)) ?_ ?_
      · refine zst_ (gj_sub [1, 2] rfl) ?_
        intro h
        obtain ⟨r0, h0, rfl⟩ := zmE h
        exact w_X9_jumps_58 x0 x2 σ h0 hk
      · refine zst_ (gj_aload_n 1 (pc := 48) dX9_jumps_48 rfl) ?_
        refine zst_ (gj_iload_n 0 (pc := 49) dX9_jumps_49 rfl) ?_
        refine gb_gd (fun hb => ?_)
        refine gb_callI (pc := 50) (as := [zr x0, zi v8]) (rest := []) (zCl.of (zLk_V (M := MX9_jumps) (ci := 9) (r := (RX9, TX9, 84)) plX9_instead.1 rfl rfl (zisE hb).1 (zisE hb).2 dX9_jumps_50 q2221 q2223 qs62 q2224) plX9_instead (Nat.le_of_ble_eq_true rfl) (fun h => c_X9_instead h)) (fun v9 σ10 => ?_)
        refine zst_ (gj_bipush (pc := 53) dX9_jumps_53 ⟨rfl, by decide⟩) ?_
        refine gb_if (gj_icmp_ne 70 (pc := 55) dX9_jumps_55 (by decide)) ?_ ?_
        · refine zst_ (gj_sub [1, 2] rfl) ?_
          exact fun h => w_X9_jumps_70 x0 x2 σ10 h hk
        · refine zst_ (gj_sub [1, 2] rfl) ?_
          intro h
          obtain ⟨r0, h0, rfl⟩ := zmE h
          exact w_X9_jumps_58 x0 x2 σ10 h0 hk
    · refine zst_ (gj_goto 70 (pc := 21) dX9_jumps_21 (by decide)) ?_
      exact fun h => w_X9_jumps_70 x0 x2 σ h hk
theorem w_X9_jumps_2 {g : zG} {lv : Nat} {out : zO} (x0 x2 : Int) (σ : zM) {r : zO} (h : f_X9_jumps_2 x0 x2 σ = some r) (hk : (fun o : zO => o = out) r) : Gj g MX9_jumps (lv + 2) 2 [(0, zr x0), (2, zi x2)] [] σ out :=
  gj_loop (P := (fun s : Int × zM => Gj g MX9_jumps (lv + 2) 2 [(0, zr x0), (2, zi s.1)] [] s.2 out)) (fun s x hb hx => w_X9_jumps_2_b x0 s.1 s.2 hb hx) h hk
noncomputable def f_X9_jumps (x0 x1 : Int) (σ : zM) : Option zO :=
  f_X9_jumps_2 x0 x1 σ
theorem c_X9_jumps {g : zG} {lv : Nat} {x0 x1 : Int} {σ : zM} {out : zO} (h : f_X9_jumps x0 x1 σ = some out) : Cj g (lv + 2) MX9_jumps [zr x0, zi x1] σ out := by
  refine cj_go (ls := [(0, zr x0), (1, zi x1)]) (by decide) (Nat.le_of_ble_eq_true rfl) rfl (zgen h (fun r hk => ?_))
  unfold f_X9_jumps
  refine zst_ (gj_iload_n 1 (pc := 0) dX9_jumps_0 rfl) ?_
  refine zst_ (gj_istore_n (pc := 1) (ls' := [(2, zi x1), (0, zr x0), (1, zi x1)]) dX9_jumps_1 (by decide) rfl) ?_
  refine zst_ (gj_sub [1, 0] rfl) ?_
  exact fun h => w_X9_jumps_2 x0 x1 σ h hk
theorem q2177 : (Jvm.Cond.code ({ cls := "LassoFinderModel", name := "body", desc := "()Z" } : Jvm.MethodName) prog_22_method_24_code (6 : Nat) (Option.some Jvm.ClassFile.FieldType.boolean)) ∈ lw_all := lw_g (lw_at lw_m9 157 rfl) rfl
theorem q2178 : (Jvm.Cond.methodLink "LassoFinderModel" (283 : Nat) ({ cls := "LassoFinderModel", name := "label", desc := "()Z" } : Jvm.MethodName)) ∈ lw_all := lw_g (lw_at lw_m9 158 rfl) rfl
theorem q2180 : (Jvm.Cond.instanceMethod ({ cls := "LassoFinderModel", name := "label", desc := "()Z" } : Jvm.MethodName)) ∈ lw_all := lw_g (lw_at lw_m9 160 rfl) rfl
theorem q2182 : (Jvm.Cond.methodLink "LassoFinderModel" (286 : Nat) ({ cls := "LassoFinderModel", name := "statement", desc := "()Z" } : Jvm.MethodName)) ∈ lw_all := lw_g (lw_at lw_m9 162 rfl) rfl
theorem q2184 : (Jvm.Cond.instanceMethod ({ cls := "LassoFinderModel", name := "statement", desc := "()Z" } : Jvm.MethodName)) ∈ lw_all := lw_g (lw_at lw_m9 164 rfl) rfl
theorem q2217 : (Jvm.Cond.methodLink "LassoFinderModel" (289 : Nat) ({ cls := "LassoFinderModel", name := "jumps", desc := "(I)Z" } : Jvm.MethodName)) ∈ lw_all := lw_g (lw_at lw_m9 197 rfl) rfl
theorem q2219 : (Jvm.Cond.instanceMethod ({ cls := "LassoFinderModel", name := "jumps", desc := "(I)Z" } : Jvm.MethodName)) ∈ lw_all := lw_g (lw_at lw_m9 199 rfl) rfl
abbrev cX9_body : ByteArray := prog_22_method_24_code
def yX9_body : MethodName := ⟨RX9, "body", "()Z"⟩
theorem dX9_body_0 : decode cX9_body 0 = .ok (.aload_n 0, 1) := by decide +kernel
theorem dX9_body_1 : decode cX9_body 1 = .ok (.getfield 251, 3) := by decide +kernel
theorem dX9_body_4 : decode cX9_body 4 = .ok (.istore_n 1, 1) := by decide +kernel
theorem dX9_body_5 : decode cX9_body 5 = .ok (.aload_n 0, 1) := by decide +kernel
theorem dX9_body_6 : decode cX9_body 6 = .ok (.iconst 0, 1) := by decide +kernel
theorem dX9_body_7 : decode cX9_body 7 = .ok (.putfield 248, 3) := by decide +kernel
theorem dX9_body_10 : decode cX9_body 10 = .ok (.aload_n 0, 1) := by decide +kernel
theorem dX9_body_11 : decode cX9_body 11 = .ok (.getfield 94, 3) := by decide +kernel
theorem dX9_body_14 : decode cX9_body 14 = .ok (.iconst 0, 1) := by decide +kernel
theorem dX9_body_15 : decode cX9_body 15 = .ok (.iconst 0, 1) := by decide +kernel
theorem dX9_body_16 : decode cX9_body 16 = .ok (.iastore, 1) := by decide +kernel
theorem dX9_body_17 : decode cX9_body 17 = .ok (.aload_n 0, 1) := by decide +kernel
theorem dX9_body_18 : decode cX9_body 18 = .ok (.getfield 97, 3) := by decide +kernel
theorem dX9_body_21 : decode cX9_body 21 = .ok (.iconst 0, 1) := by decide +kernel
theorem dX9_body_22 : decode cX9_body 22 = .ok (.iconst (-1), 1) := by decide +kernel
theorem dX9_body_23 : decode cX9_body 23 = .ok (.iastore, 1) := by decide +kernel
theorem dX9_body_24 : decode cX9_body 24 = .ok (.aload_n 0, 1) := by decide +kernel
theorem dX9_body_25 : decode cX9_body 25 = .ok (.getfield 100, 3) := by decide +kernel
theorem dX9_body_28 : decode cX9_body 28 = .ok (.iconst 0, 1) := by decide +kernel
theorem dX9_body_29 : decode cX9_body 29 = .ok (.iconst (-1), 1) := by decide +kernel
theorem dX9_body_30 : decode cX9_body 30 = .ok (.iastore, 1) := by decide +kernel
theorem dX9_body_31 : decode cX9_body 31 = .ok (.aload_n 0, 1) := by decide +kernel
theorem dX9_body_32 : decode cX9_body 32 = .ok (.getfield 75, 3) := by decide +kernel
theorem dX9_body_35 : decode cX9_body 35 = .ok (.aload_n 0, 1) := by decide +kernel
theorem dX9_body_36 : decode cX9_body 36 = .ok (.getfield 254, 3) := by decide +kernel
theorem dX9_body_39 : decode cX9_body 39 = .ok (.iconst 0, 1) := by decide +kernel
theorem dX9_body_40 : decode cX9_body 40 = .ok (.iastore, 1) := by decide +kernel
theorem dX9_body_41 : decode cX9_body 41 = .ok (.aload_n 0, 1) := by decide +kernel
theorem dX9_body_42 : decode cX9_body 42 = .ok (.getfield 78, 3) := by decide +kernel
theorem dX9_body_45 : decode cX9_body 45 = .ok (.aload_n 0, 1) := by decide +kernel
theorem dX9_body_46 : decode cX9_body 46 = .ok (.getfield 254, 3) := by decide +kernel
theorem dX9_body_49 : decode cX9_body 49 = .ok (.aload_n 0, 1) := by decide +kernel
theorem dX9_body_50 : decode cX9_body 50 = .ok (.getfield 251, 3) := by decide +kernel
theorem dX9_body_53 : decode cX9_body 53 = .ok (.iastore, 1) := by decide +kernel
theorem dX9_body_54 : decode cX9_body 54 = .ok (.iconst 0, 1) := by decide +kernel
theorem dX9_body_55 : decode cX9_body 55 = .ok (.istore_n 2, 1) := by decide +kernel
theorem dX9_body_56 : decode cX9_body 56 = .ok (.iload_n 2, 1) := by decide +kernel
theorem dX9_body_57 : decode cX9_body 57 = .ok (.aload_n 0, 1) := by decide +kernel
theorem dX9_body_58 : decode cX9_body 58 = .ok (.getfield 200, 3) := by decide +kernel
theorem dX9_body_61 : decode cX9_body 61 = .ok (.if_icmp .gt 265, 3) := by decide +kernel
theorem dX9_body_64 : decode cX9_body 64 = .ok (.aload_n 0, 1) := by decide +kernel
theorem dX9_body_65 : decode cX9_body 65 = .ok (.invokevirtual 209, 3) := by decide +kernel
theorem dX9_body_68 : decode cX9_body 68 = .ok (.bipush 58, 2) := by decide +kernel
theorem dX9_body_70 : decode cX9_body 70 = .ok (.if_icmp .ne 12, 3) := by decide +kernel
theorem dX9_body_73 : decode cX9_body 73 = .ok (.aload_n 0, 1) := by decide +kernel
theorem dX9_body_74 : decode cX9_body 74 = .ok (.invokevirtual 283, 3) := by decide +kernel
theorem dX9_body_77 : decode cX9_body 77 = .ok (.ifCond .ne (-13), 3) := by decide +kernel
theorem dX9_body_80 : decode cX9_body 80 = .ok (.iconst 0, 1) := by decide +kernel
theorem dX9_body_81 : decode cX9_body 81 = .ok (.ireturn, 1) := by decide +kernel
theorem dX9_body_82 : decode cX9_body 82 = .ok (.aload_n 0, 1) := by decide +kernel
theorem dX9_body_83 : decode cX9_body 83 = .ok (.getfield 248, 3) := by decide +kernel
theorem dX9_body_86 : decode cX9_body 86 = .ok (.istore_n 3, 1) := by decide +kernel
theorem dX9_body_87 : decode cX9_body 87 = .ok (.aload_n 0, 1) := by decide +kernel
theorem dX9_body_88 : decode cX9_body 88 = .ok (.invokevirtual 286, 3) := by decide +kernel
theorem dX9_body_91 : decode cX9_body 91 = .ok (.ifCond .ne 5, 3) := by decide +kernel
theorem dX9_body_94 : decode cX9_body 94 = .ok (.iconst 0, 1) := by decide +kernel
theorem dX9_body_95 : decode cX9_body 95 = .ok (.ireturn, 1) := by decide +kernel
theorem dX9_body_96 : decode cX9_body 96 = .ok (.aload_n 0, 1) := by decide +kernel
theorem dX9_body_97 : decode cX9_body 97 = .ok (.getfield 248, 3) := by decide +kernel
theorem dX9_body_100 : decode cX9_body 100 = .ok (.iload_n 3, 1) := by decide +kernel
theorem dX9_body_101 : decode cX9_body 101 = .ok (.if_icmp .le 6, 3) := by decide +kernel
theorem dX9_body_104 : decode cX9_body 104 = .ok (.goto 216, 3) := by decide +kernel
theorem dX9_body_107 : decode cX9_body 107 = .ok (.iconst 1, 1) := by decide +kernel
theorem dX9_body_108 : decode cX9_body 108 = .ok (.istore 4, 2) := by decide +kernel
theorem dX9_body_110 : decode cX9_body 110 = .ok (.iload 4, 2) := by decide +kernel
theorem dX9_body_112 : decode cX9_body 112 = .ok (.ifCond .eq 99, 3) := by decide +kernel
theorem dX9_body_115 : decode cX9_body 115 = .ok (.aload_n 0, 1) := by decide +kernel
theorem dX9_body_116 : decode cX9_body 116 = .ok (.invokevirtual 209, 3) := by decide +kernel
theorem dX9_body_119 : decode cX9_body 119 = .ok (.bipush 93, 2) := by decide +kernel
theorem dX9_body_121 : decode cX9_body 121 = .ok (.if_icmp .ne 20, 3) := by decide +kernel
theorem dX9_body_124 : decode cX9_body 124 = .ok (.aload_n 0, 1) := by decide +kernel
theorem dX9_body_125 : decode cX9_body 125 = .ok (.getfield 94, 3) := by decide +kernel
theorem dX9_body_128 : decode cX9_body 128 = .ok (.aload_n 0, 1) := by decide +kernel
theorem dX9_body_129 : decode cX9_body 129 = .ok (.getfield 248, 3) := by decide +kernel
theorem dX9_body_132 : decode cX9_body 132 = .ok (.iaload, 1) := by decide +kernel
theorem dX9_body_133 : decode cX9_body 133 = .ok (.iconst 1, 1) := by decide +kernel
theorem dX9_body_134 : decode cX9_body 134 = .ok (.iconst 2, 1) := by decide +kernel
theorem dX9_body_135 : decode cX9_body 135 = .ok (.invokestatic 196, 3) := by decide +kernel
theorem dX9_body_138 : decode cX9_body 138 = .ok (.ifCond .ne 25, 3) := by decide +kernel
theorem dX9_body_141 : decode cX9_body 141 = .ok (.aload_n 0, 1) := by decide +kernel
theorem dX9_body_142 : decode cX9_body 142 = .ok (.invokevirtual 209, 3) := by decide +kernel
theorem dX9_body_145 : decode cX9_body 145 = .ok (.bipush 62, 2) := by decide +kernel
theorem dX9_body_147 : decode cX9_body 147 = .ok (.if_icmp .ne 20, 3) := by decide +kernel
theorem dX9_body_150 : decode cX9_body 150 = .ok (.aload_n 0, 1) := by decide +kernel
theorem dX9_body_151 : decode cX9_body 151 = .ok (.getfield 94, 3) := by decide +kernel
theorem dX9_body_154 : decode cX9_body 154 = .ok (.aload_n 0, 1) := by decide +kernel
theorem dX9_body_155 : decode cX9_body 155 = .ok (.getfield 248, 3) := by decide +kernel
theorem dX9_body_158 : decode cX9_body 158 = .ok (.iaload, 1) := by decide +kernel
theorem dX9_body_159 : decode cX9_body 159 = .ok (.iconst 3, 1) := by decide +kernel
theorem dX9_body_160 : decode cX9_body 160 = .ok (.if_icmp .ne 7, 3) := by decide +kernel
theorem dX9_body_163 : decode cX9_body 163 = .ok (.iconst 1, 1) := by decide +kernel
theorem dX9_body_164 : decode cX9_body 164 = .ok (.goto 4, 3) := by decide +kernel
theorem dX9_body_167 : decode cX9_body 167 = .ok (.iconst 0, 1) := by decide +kernel
theorem dX9_body_168 : decode cX9_body 168 = .ok (.istore 4, 2) := by decide +kernel
theorem dX9_body_170 : decode cX9_body 170 = .ok (.aload_n 0, 1) := by decide +kernel
theorem dX9_body_171 : decode cX9_body 171 = .ok (.dup, 1) := by decide +kernel
theorem dX9_body_172 : decode cX9_body 172 = .ok (.getfield 248, 3) := by decide +kernel
theorem dX9_body_175 : decode cX9_body 175 = .ok (.iload 4, 2) := by decide +kernel
theorem dX9_body_177 : decode cX9_body 177 = .ok (.ifCond .eq 7, 3) := by decide +kernel
theorem dX9_body_180 : decode cX9_body 180 = .ok (.iconst 1, 1) := by decide +kernel
theorem dX9_body_181 : decode cX9_body 181 = .ok (.goto 4, 3) := by decide +kernel
theorem dX9_body_184 : decode cX9_body 184 = .ok (.iconst 0, 1) := by decide +kernel
theorem dX9_body_185 : decode cX9_body 185 = .ok (.isub, 1) := by decide +kernel
theorem dX9_body_186 : decode cX9_body 186 = .ok (.putfield 248, 3) := by decide +kernel
theorem dX9_body_189 : decode cX9_body 189 = .ok (.aload_n 0, 1) := by decide +kernel
theorem dX9_body_190 : decode cX9_body 190 = .ok (.dup, 1) := by decide +kernel
theorem dX9_body_191 : decode cX9_body 191 = .ok (.getfield 203, 3) := by decide +kernel
theorem dX9_body_194 : decode cX9_body 194 = .ok (.iload 4, 2) := by decide +kernel
theorem dX9_body_196 : decode cX9_body 196 = .ok (.ifCond .eq 7, 3) := by decide +kernel
theorem dX9_body_199 : decode cX9_body 199 = .ok (.iconst 1, 1) := by decide +kernel
theorem dX9_body_200 : decode cX9_body 200 = .ok (.goto 4, 3) := by decide +kernel
theorem dX9_body_203 : decode cX9_body 203 = .ok (.iconst 0, 1) := by decide +kernel
theorem dX9_body_204 : decode cX9_body 204 = .ok (.iadd, 1) := by decide +kernel
theorem dX9_body_205 : decode cX9_body 205 = .ok (.putfield 203, 3) := by decide +kernel
theorem dX9_body_208 : decode cX9_body 208 = .ok (.goto (-98), 3) := by decide +kernel
theorem dX9_body_211 : decode cX9_body 211 = .ok (.aload_n 0, 1) := by decide +kernel
theorem dX9_body_212 : decode cX9_body 212 = .ok (.invokevirtual 209, 3) := by decide +kernel
theorem dX9_body_215 : decode cX9_body 215 = .ok (.bipush 125, 2) := by decide +kernel
theorem dX9_body_217 : decode cX9_body 217 = .ok (.if_icmp .ne 26, 3) := by decide +kernel
theorem dX9_body_220 : decode cX9_body 220 = .ok (.aload_n 0, 1) := by decide +kernel
theorem dX9_body_221 : decode cX9_body 221 = .ok (.getfield 248, 3) := by decide +kernel
theorem dX9_body_224 : decode cX9_body 224 = .ok (.ifCond .ne 19, 3) := by decide +kernel
theorem dX9_body_227 : decode cX9_body 227 = .ok (.aload_n 0, 1) := by decide +kernel
theorem dX9_body_228 : decode cX9_body 228 = .ok (.dup, 1) := by decide +kernel
theorem dX9_body_229 : decode cX9_body 229 = .ok (.getfield 203, 3) := by decide +kernel
theorem dX9_body_232 : decode cX9_body 232 = .ok (.iconst 1, 1) := by decide +kernel
theorem dX9_body_233 : decode cX9_body 233 = .ok (.iadd, 1) := by decide +kernel
theorem dX9_body_234 : decode cX9_body 234 = .ok (.putfield 203, 3) := by decide +kernel
theorem dX9_body_237 : decode cX9_body 237 = .ok (.aload_n 0, 1) := by decide +kernel
theorem dX9_body_238 : decode cX9_body 238 = .ok (.iload_n 1, 1) := by decide +kernel
theorem dX9_body_239 : decode cX9_body 239 = .ok (.invokevirtual 289, 3) := by decide +kernel
theorem dX9_body_242 : decode cX9_body 242 = .ok (.ireturn, 1) := by decide +kernel
theorem dX9_body_243 : decode cX9_body 243 = .ok (.aload_n 0, 1) := by decide +kernel
theorem dX9_body_244 : decode cX9_body 244 = .ok (.invokevirtual 209, 3) := by decide +kernel
theorem dX9_body_247 : decode cX9_body 247 = .ok (.bipush 124, 2) := by decide +kernel
theorem dX9_body_249 : decode cX9_body 249 = .ok (.if_icmp .ne 24, 3) := by decide +kernel
theorem dX9_body_252 : decode cX9_body 252 = .ok (.aload_n 0, 1) := by decide +kernel
theorem dX9_body_253 : decode cX9_body 253 = .ok (.getfield 94, 3) := by decide +kernel
theorem dX9_body_256 : decode cX9_body 256 = .ok (.aload_n 0, 1) := by decide +kernel
theorem dX9_body_257 : decode cX9_body 257 = .ok (.getfield 248, 3) := by decide +kernel
theorem dX9_body_260 : decode cX9_body 260 = .ok (.iaload, 1) := by decide +kernel
theorem dX9_body_261 : decode cX9_body 261 = .ok (.iconst 1, 1) := by decide +kernel
theorem dX9_body_262 : decode cX9_body 262 = .ok (.iconst 2, 1) := by decide +kernel
theorem dX9_body_263 : decode cX9_body 263 = .ok (.invokestatic 196, 3) := by decide +kernel
theorem dX9_body_266 : decode cX9_body 266 = .ok (.ifCond .eq 7, 3) := by decide +kernel
theorem dX9_body_269 : decode cX9_body 269 = .ok (.iconst 1, 1) := by decide +kernel
theorem dX9_body_270 : decode cX9_body 270 = .ok (.goto 4, 3) := by decide +kernel
theorem dX9_body_273 : decode cX9_body 273 = .ok (.iconst 0, 1) := by decide +kernel
theorem dX9_body_274 : decode cX9_body 274 = .ok (.istore 5, 2) := by decide +kernel
theorem dX9_body_276 : decode cX9_body 276 = .ok (.iload 5, 2) := by decide +kernel
theorem dX9_body_278 : decode cX9_body 278 = .ok (.ifCond .eq 13, 3) := by decide +kernel
theorem dX9_body_281 : decode cX9_body 281 = .ok (.aload_n 0, 1) := by decide +kernel
theorem dX9_body_282 : decode cX9_body 282 = .ok (.getfield 100, 3) := by decide +kernel
theorem dX9_body_285 : decode cX9_body 285 = .ok (.aload_n 0, 1) := by decide +kernel
theorem dX9_body_286 : decode cX9_body 286 = .ok (.getfield 248, 3) := by decide +kernel
theorem dX9_body_289 : decode cX9_body 289 = .ok (.iconst (-1), 1) := by decide +kernel
theorem dX9_body_290 : decode cX9_body 290 = .ok (.iastore, 1) := by decide +kernel
theorem dX9_body_291 : decode cX9_body 291 = .ok (.iload 5, 2) := by decide +kernel
theorem dX9_body_293 : decode cX9_body 293 = .ok (.ifCond .ne 17, 3) := by decide +kernel
theorem dX9_body_296 : decode cX9_body 296 = .ok (.aload_n 0, 1) := by decide +kernel
theorem dX9_body_297 : decode cX9_body 297 = .ok (.invokevirtual 209, 3) := by decide +kernel
theorem dX9_body_300 : decode cX9_body 300 = .ok (.bipush 59, 2) := by decide +kernel
theorem dX9_body_302 : decode cX9_body 302 = .ok (.if_icmp .eq 8, 3) := by decide +kernel
theorem dX9_body_305 : decode cX9_body 305 = .ok (.aload_n 0, 1) := by decide +kernel
theorem dX9_body_306 : decode cX9_body 306 = .ok (.invokevirtual 213, 3) := by decide +kernel
theorem dX9_body_309 : decode cX9_body 309 = .ok (.ireturn, 1) := by decide +kernel
theorem dX9_body_310 : decode cX9_body 310 = .ok (.aload_n 0, 1) := by decide +kernel
theorem dX9_body_311 : decode cX9_body 311 = .ok (.dup, 1) := by decide +kernel
theorem dX9_body_312 : decode cX9_body 312 = .ok (.getfield 203, 3) := by decide +kernel
theorem dX9_body_315 : decode cX9_body 315 = .ok (.iconst 1, 1) := by decide +kernel
theorem dX9_body_316 : decode cX9_body 316 = .ok (.iadd, 1) := by decide +kernel
theorem dX9_body_317 : decode cX9_body 317 = .ok (.putfield 203, 3) := by decide +kernel
theorem dX9_body_320 : decode cX9_body 320 = .ok (.iinc 2 1, 3) := by decide +kernel
theorem dX9_body_323 : decode cX9_body 323 = .ok (.goto (-267), 3) := by decide +kernel
theorem dX9_body_326 : decode cX9_body 326 = .ok (.aload_n 0, 1) := by decide +kernel
theorem dX9_body_327 : decode cX9_body 327 = .ok (.invokevirtual 213, 3) := by decide +kernel
theorem dX9_body_330 : decode cX9_body 330 = .ok (.ireturn, 1) := by decide +kernel
abbrev MX9_body : zT := (yX9_body, cX9_body, 6, (Option.some Jvm.ClassFile.FieldType.boolean), [])
theorem plX9_body : zplain MX9_body 0 ∧ (zcodeW MX9_body ∈ lw_all ∧ Cond.initialized MX9_body.1.cls ∈ lw_all) := ⟨⟨by decide +kernel, by decide +kernel⟩, q2177, q127⟩
noncomputable def f_X9_body_326 (x0 : Int) (σ : zM) : Option zO :=
  zgd (zis σ 10 x0) <|
  zci (f_X9_fail x0 σ) fun v1 σ2 =>
  zgd (z01 v1) <|
  some (0, zi v1, σ2)
theorem w_X9_body_326 {g : zG} {lv : Nat} {out : zO} (x0 : Int) (σ : zM) {r : zO} (h : f_X9_body_326 x0 σ = some r) (hk : (fun o : zO => o = out) r) : Gj g MX9_body (lv + 5) 326 [(0, zr x0)] [] σ out := by
  revert h
  unfold f_X9_body_326
  refine zst_ (gj_aload_n 0 (pc := 326) dX9_body_326 rfl) ?_
  refine gb_gd (fun hb => ?_)
  refine gb_callI (pc := 327) (as := [zr x0]) (rest := []) (zCl.of (zLk_V (M := MX9_body) (ci := 9) (r := (RX9, TX9, 84)) plX9_fail.1 rfl rfl (zisE hb).1 (zisE hb).2 dX9_body_327 q2166 q2168 qs49 q2169) plX9_fail (Nat.le_of_ble_eq_true rfl) (fun h => c_X9_fail h)) (fun v1 σ2 => ?_)
  refine gb_gd (fun hb => ?_)
  intro h
  cases h
  have hk : (0, zi v1, σ2) = out := hk
  subst hk
  exact gj_ret (pc := 330) (t := .boolean) dX9_body_330 rfl ⟨rfl, rfl⟩ (fun _ => z01E hb)
noncomputable def f_X9_body_320 (x0 x1 x2 : Int) (σ : zM) : Option ((Int × zM) ⊕ zO) :=
  zlet (zadd x2 1) fun y1 =>
  some (.inl (y1, σ))
theorem w_X9_body_320 {g : zG} {lv : Nat} {out : zO} (x0 x1 x2 : Int) (σ : zM) {r : ((Int × zM) ⊕ zO)} (h : f_X9_body_320 x0 x1 x2 σ = some r) (hk : (zKL (fun s : Int × zM => Gj g MX9_body (lv + 5) 56 [(0, zr x0), (1, zi x1), (2, zi s.1)] [] s.2 out) (fun o : zO => o = out)) r) : Gj g MX9_body (lv + 5) 320 [(0, zr x0), (1, zi x1), (2, zi x2)] [] σ out := by
  revert h
  unfold f_X9_body_320
  refine gb_iinc (pc := 320) 2 (fun y1 => [(2, zi y1), (0, zr x0), (1, zi x1)]) dX9_body_320 rfl (by decide) (fun _ => rfl) (fun y1 => ?_)
  refine zst_ (gj_goto 56 (pc := 323) dX9_body_323 (by decide)) ?_
  refine zst_ (gj_sub [1, 2, 0] rfl) ?_
  intro h
  cases h
  exact hk
noncomputable def f_X9_body_310 (x0 x1 x2 : Int) (σ : zM) : Option ((Int × zM) ⊕ zO) :=
  (zgf σ 903 x0).bind fun v1 =>
  (zpf σ 903 x0 (zadd v1 1)).bind fun σ2 =>
  f_X9_body_320 x0 x1 x2 σ2
theorem w_X9_body_310 {g : zG} {lv : Nat} {out : zO} (x0 x1 x2 : Int) (σ : zM) {r : ((Int × zM) ⊕ zO)} (h : f_X9_body_310 x0 x1 x2 σ = some r) (hk : (zKL (fun s : Int × zM => Gj g MX9_body (lv + 5) 56 [(0, zr x0), (1, zi x1), (2, zi s.1)] [] s.2 out) (fun o : zO => o = out)) r) : Gj g MX9_body (lv + 5) 310 [(0, zr x0), (1, zi x1), (2, zi x2)] [] σ out := by
  revert h
  unfold f_X9_body_310
  refine zst_ (gj_aload_n 0 (pc := 310) dX9_body_310 rfl) ?_
  refine zst_ (gj_dup (pc := 311) dX9_body_311 rfl) ?_
  refine gb_get (pc := 312) fl903 dX9_body_312 q1885 (Or.inl rfl) (fun v1 => ?_)
  refine zst_ (gj_iconst (pc := 315) dX9_body_315 (by decide)) ?_
  refine zst_ (gj_iadd (pc := 316) dX9_body_316) ?_
  refine gb_put (pc := 317) fl903 fr903 dX9_body_317 q1885 (Or.inl rfl) (fun σ2 => ?_)
  exact fun h => w_X9_body_320 x0 x1 x2 σ2 h hk
noncomputable def f_X9_body_305 (x0 : Int) (σ : zM) : Option zO :=
  zgd (zis σ 10 x0) <|
  zci (f_X9_fail x0 σ) fun v1 σ2 =>
  zgd (z01 v1) <|
  some (0, zi v1, σ2)
theorem w_X9_body_305 {g : zG} {lv : Nat} {out : zO} (x0 : Int) (σ : zM) {r : zO} (h : f_X9_body_305 x0 σ = some r) (hk : (fun o : zO => o = out) r) : Gj g MX9_body (lv + 5) 305 [(0, zr x0)] [] σ out := by
  revert h
  unfold f_X9_body_305
  refine zst_ (gj_aload_n 0 (pc := 305) dX9_body_305 rfl) ?_
  refine gb_gd (fun hb => ?_)
  refine gb_callI (pc := 306) (as := [zr x0]) (rest := []) (zCl.of (zLk_V (M := MX9_body) (ci := 9) (r := (RX9, TX9, 84)) plX9_fail.1 rfl rfl (zisE hb).1 (zisE hb).2 dX9_body_306 q2166 q2168 qs49 q2169) plX9_fail (Nat.le_of_ble_eq_true rfl) (fun h => c_X9_fail h)) (fun v1 σ2 => ?_)
  refine gb_gd (fun hb => ?_)
  intro h
  cases h
  have hk : (0, zi v1, σ2) = out := hk
  subst hk
  exact gj_ret (pc := 309) (t := .boolean) dX9_body_309 rfl ⟨rfl, rfl⟩ (fun _ => z01E hb)
noncomputable def f_X9_body_291 (x0 x1 x2 x5 : Int) (σ : zM) : Option ((Int × zM) ⊕ zO) :=
  if x5 ≠ 0 then
    f_X9_body_310 x0 x1 x2 σ
  else
    zgd (zis σ 10 x0) <|
    zci (f_X9_here x0 σ) fun v1 σ2 =>
    if v1 = 59 then
      f_X9_body_310 x0 x1 x2 σ2
    else
      (f_X9_body_305 x0 σ2).map (fun r => (.inr r))
theorem w_X9_body_291 {g : zG} {lv : Nat} {out : zO} (x0 x1 x2 x5 : Int) (σ : zM) {r : ((Int × zM) ⊕ zO)} (h : f_X9_body_291 x0 x1 x2 x5 σ = some r) (hk : (zKL (fun s : Int × zM => Gj g MX9_body (lv + 5) 56 [(0, zr x0), (1, zi x1), (2, zi s.1)] [] s.2 out) (fun o : zO => o = out)) r) : Gj g MX9_body (lv + 5) 291 [(0, zr x0), (1, zi x1), (2, zi x2), (5, zi x5)] [] σ out := by
  revert h
  unfold f_X9_body_291
  refine zst_ (gj_iload 3 (pc := 291) dX9_body_291 rfl) ?_
  refine gb_if (gj_if_ne 310 (pc := 293) dX9_body_293 (by decide)) ?_ ?_
  · refine zst_ (gj_sub [0, 1, 2] rfl) ?_
    exact fun h => w_X9_body_310 x0 x1 x2 σ h hk
  · refine zst_ (gj_aload_n 0 (pc := 296) dX9_body_296 rfl) ?_
    refine gb_gd (fun hb => ?_)
    refine gb_callI (pc := 297) (as := [zr x0]) (rest := []) (zCl.of (zLk_V (M := MX9_body) (ci := 9) (r := (RX9, TX9, 84)) plX9_here.1 rfl rfl (zisE hb).1 (zisE hb).2 dX9_body_297 q2154 q2156 qs46 q2157) plX9_here (Nat.le_of_ble_eq_true rfl) (fun h => c_X9_here h)) (fun v1 σ2 => ?_)
    refine zst_ (gj_bipush (pc := 300) dX9_body_300 ⟨rfl, by decide⟩) ?_
    refine gb_if (gj_icmp_eq 310 (pc := 302) dX9_body_302 (by decide)) ?_ ?_
    · refine zst_ (gj_sub [0, 1, 2] rfl) ?_
      exact fun h => w_X9_body_310 x0 x1 x2 σ2 h hk
    · refine zst_ (gj_sub [0] rfl) ?_
      intro h
      obtain ⟨r0, h0, rfl⟩ := zmE h
      exact w_X9_body_305 x0 σ2 h0 hk
noncomputable def f_X9_body_274 (x0 x1 x2 t0 : Int) (σ : zM) : Option ((Int × zM) ⊕ zO) :=
  if t0 = 0 then
    f_X9_body_291 x0 x1 x2 t0 σ
  else
    (zgf σ 941 x0).bind fun v1 =>
    (zgf σ 938 x0).bind fun v2 =>
    (zpa σ 101 v1 v2 (-1)).bind fun σ3 =>
    f_X9_body_291 x0 x1 x2 t0 σ3
theorem w_X9_body_274 {g : zG} {lv : Nat} {out : zO} (x0 x1 x2 t0 : Int) (σ : zM) {r : ((Int × zM) ⊕ zO)} (h : f_X9_body_274 x0 x1 x2 t0 σ = some r) (hk : (zKL (fun s : Int × zM => Gj g MX9_body (lv + 5) 56 [(0, zr x0), (1, zi x1), (2, zi s.1)] [] s.2 out) (fun o : zO => o = out)) r) : Gj g MX9_body (lv + 5) 274 [(0, zr x0), (1, zi x1), (2, zi x2)] [zi t0] σ out := by
  revert h
  unfold f_X9_body_274
  refine zst_ (gj_istore (pc := 274) (ls' := [(5, zi t0), (0, zr x0), (1, zi x1), (2, zi x2)]) dX9_body_274 (by decide) rfl) ?_
  refine zst_ (gj_iload 0 (pc := 276) dX9_body_276 rfl) ?_
  refine gb_if (gj_if_eq 291 (pc := 278) dX9_body_278 (by decide)) ?_ ?_
  · refine zst_ (gj_sub [1, 2, 3, 0] rfl) ?_
    exact fun h => w_X9_body_291 x0 x1 x2 t0 σ h hk
  · refine zst_ (gj_aload_n 1 (pc := 281) dX9_body_281 rfl) ?_
    refine gb_get (pc := 282) fl941 dX9_body_282 q1923 (Or.inl rfl) (fun v1 => ?_)
    refine zst_ (gj_aload_n 1 (pc := 285) dX9_body_285 rfl) ?_
    refine gb_get (pc := 286) fl938 dX9_body_286 q1920 (Or.inl rfl) (fun v2 => ?_)
    refine zst_ (gj_iconst (pc := 289) dX9_body_289 (by decide)) ?_
    refine gb_iast (pc := 290) dX9_body_290 (fun σ3 => ?_)
    refine zst_ (gj_sub [1, 2, 3, 0] rfl) ?_
    exact fun h => w_X9_body_291 x0 x1 x2 t0 σ3 h hk
noncomputable def f_X9_body_273 (x0 x1 x2 : Int) (σ : zM) : Option ((Int × zM) ⊕ zO) :=
  f_X9_body_274 x0 x1 x2 0 σ
theorem w_X9_body_273 {g : zG} {lv : Nat} {out : zO} (x0 x1 x2 : Int) (σ : zM) {r : ((Int × zM) ⊕ zO)} (h : f_X9_body_273 x0 x1 x2 σ = some r) (hk : (zKL (fun s : Int × zM => Gj g MX9_body (lv + 5) 56 [(0, zr x0), (1, zi x1), (2, zi s.1)] [] s.2 out) (fun o : zO => o = out)) r) : Gj g MX9_body (lv + 5) 273 [(0, zr x0), (1, zi x1), (2, zi x2)] [] σ out := by
  revert h
  unfold f_X9_body_273
  refine zst_ (gj_iconst (pc := 273) dX9_body_273 (by decide)) ?_
  exact fun h => w_X9_body_274 x0 x1 x2 0 σ h hk
noncomputable def f_X9_body_243 (x0 x1 x2 : Int) (σ : zM) : Option ((Int × zM) ⊕ zO) :=
  zgd (zis σ 10 x0) <|
  zci (f_X9_here x0 σ) fun v1 σ2 =>
  if v1 ≠ 124 then
    f_X9_body_273 x0 x1 x2 σ2
  else
    (zgf σ2 939 x0).bind fun v3 =>
    (zgf σ2 938 x0).bind fun v4 =>
    (zga σ2 101 v3 v4).bind fun v5 =>
    zci (f_X9_in v5 1 2 σ2) fun v6 σ7 =>
    if v6 = 0 then
      f_X9_body_273 x0 x1 x2 σ7
    else
      f_X9_body_274 x0 x1 x2 1 σ7
theorem w_X9_body_243 {g : zG} {lv : Nat} {out : zO} (x0 x1 x2 : Int) (σ : zM) {r : ((Int × zM) ⊕ zO)} (h : f_X9_body_243 x0 x1 x2 σ = some r) (hk : (zKL (fun s : Int × zM => Gj g MX9_body (lv + 5) 56 [(0, zr x0), (1, zi x1), (2, zi s.1)] [] s.2 out) (fun o : zO => o = out)) r) : Gj g MX9_body (lv + 5) 243 [(0, zr x0), (1, zi x1), (2, zi x2)] [] σ out := by
  revert h
  unfold f_X9_body_243
  refine zst_ (gj_aload_n 0 (pc := 243) dX9_body_243 rfl) ?_
  refine gb_gd (fun hb => ?_)
  refine gb_callI (pc := 244) (as := [zr x0]) (rest := []) (zCl.of (zLk_V (M := MX9_body) (ci := 9) (r := (RX9, TX9, 84)) plX9_here.1 rfl rfl (zisE hb).1 (zisE hb).2 dX9_body_244 q2154 q2156 qs46 q2157) plX9_here (Nat.le_of_ble_eq_true rfl) (fun h => c_X9_here h)) (fun v1 σ2 => ?_)
  refine zst_ (gj_bipush (pc := 247) dX9_body_247 ⟨rfl, by decide⟩) ?_
  refine gb_if (gj_icmp_ne 273 (pc := 249) dX9_body_249 (by decide)) ?_ ?_
  · exact fun h => w_X9_body_273 x0 x1 x2 σ2 h hk
  · refine zst_ (gj_aload_n 0 (pc := 252) dX9_body_252 rfl) ?_
    refine gb_get (pc := 253) fl939 dX9_body_253 q1921 (Or.inl rfl) (fun v3 => ?_)
    refine zst_ (gj_aload_n 0 (pc := 256) dX9_body_256 rfl) ?_
    refine gb_get (pc := 257) fl938 dX9_body_257 q1920 (Or.inl rfl) (fun v4 => ?_)
    refine gb_iald (pc := 260) dX9_body_260 (fun v5 => ?_)
    refine zst_ (gj_iconst (pc := 261) dX9_body_261 (by decide)) ?_
    refine zst_ (gj_iconst (pc := 262) dX9_body_262 (by decide)) ?_
    refine gb_callI (pc := 263) (as := [zi v5, zi 1, zi 2]) (rest := []) (zCl.of (zLk_S (M := MX9_body) plX9_in.1 rfl dX9_body_263 q2143 q2144 q127 q2145) plX9_in (Nat.le_of_ble_eq_true rfl) (fun h => c_X9_in h)) (fun v6 σ7 => ?_)
    refine gb_if (gj_if_eq 273 (pc := 266) dX9_body_266 (by decide)) ?_ ?_
    · exact fun h => w_X9_body_273 x0 x1 x2 σ7 h hk
    · refine zst_ (gj_iconst (pc := 269) dX9_body_269 (by decide)) ?_
      refine zst_ (gj_goto 274 (pc := 270) dX9_body_270 (by decide)) ?_
      exact fun h => w_X9_body_274 x0 x1 x2 1 σ7 h hk
noncomputable def f_X9_body_227 (x0 x1 : Int) (σ : zM) : Option zO :=
  (zgf σ 903 x0).bind fun v1 =>
  (zpf σ 903 x0 (zadd v1 1)).bind fun σ2 =>
  zgd (zis σ2 10 x0) <|
  zci (f_X9_jumps x0 x1 σ2) fun v3 σ4 =>
  zgd (z01 v3) <|
  some (0, zi v3, σ4)
theorem w_X9_body_227 {g : zG} {lv : Nat} {out : zO} (x0 x1 : Int) (σ : zM) {r : zO} (h : f_X9_body_227 x0 x1 σ = some r) (hk : (fun o : zO => o = out) r) : Gj g MX9_body (lv + 5) 227 [(0, zr x0), (1, zi x1)] [] σ out := by
  revert h
  unfold f_X9_body_227
  refine zst_ (gj_aload_n 0 (pc := 227) dX9_body_227 rfl) ?_
  refine zst_ (gj_dup (pc := 228) dX9_body_228 rfl) ?_
  refine gb_get (pc := 229) fl903 dX9_body_229 q1885 (Or.inl rfl) (fun v1 => ?_)
  refine zst_ (gj_iconst (pc := 232) dX9_body_232 (by decide)) ?_
  refine zst_ (gj_iadd (pc := 233) dX9_body_233) ?_
  refine gb_put (pc := 234) fl903 fr903 dX9_body_234 q1885 (Or.inl rfl) (fun σ2 => ?_)
  refine zst_ (gj_aload_n 0 (pc := 237) dX9_body_237 rfl) ?_
  refine zst_ (gj_iload_n 1 (pc := 238) dX9_body_238 rfl) ?_
  refine gb_gd (fun hb => ?_)
  refine gb_callI (pc := 239) (as := [zr x0, zi x1]) (rest := []) (zCl.of (zLk_V (M := MX9_body) (ci := 9) (r := (RX9, TX9, 84)) plX9_jumps.1 rfl rfl (zisE hb).1 (zisE hb).2 dX9_body_239 q2217 q2219 qs61 q2220) plX9_jumps (Nat.le_of_ble_eq_true rfl) (fun h => c_X9_jumps h)) (fun v3 σ4 => ?_)
  refine gb_gd (fun hb => ?_)
  intro h
  cases h
  have hk : (0, zi v3, σ4) = out := hk
  subst hk
  exact gj_ret (pc := 242) (t := .boolean) dX9_body_242 rfl ⟨rfl, rfl⟩ (fun _ => z01E hb)
noncomputable def f_X9_body_211 (x0 x1 x2 : Int) (σ : zM) : Option ((Int × zM) ⊕ zO) :=
  zgd (zis σ 10 x0) <|
  zci (f_X9_here x0 σ) fun v1 σ2 =>
  if v1 ≠ 125 then
    f_X9_body_243 x0 x1 x2 σ2
  else
    (zgf σ2 938 x0).bind fun v3 =>
    if v3 ≠ 0 then
      f_X9_body_243 x0 x1 x2 σ2
    else
      (f_X9_body_227 x0 x1 σ2).map (fun r => (.inr r))
theorem w_X9_body_211 {g : zG} {lv : Nat} {out : zO} (x0 x1 x2 : Int) (σ : zM) {r : ((Int × zM) ⊕ zO)} (h : f_X9_body_211 x0 x1 x2 σ = some r) (hk : (zKL (fun s : Int × zM => Gj g MX9_body (lv + 5) 56 [(0, zr x0), (1, zi x1), (2, zi s.1)] [] s.2 out) (fun o : zO => o = out)) r) : Gj g MX9_body (lv + 5) 211 [(0, zr x0), (1, zi x1), (2, zi x2)] [] σ out := by
  revert h
  unfold f_X9_body_211
  refine zst_ (gj_aload_n 0 (pc := 211) dX9_body_211 rfl) ?_
  refine gb_gd (fun hb => ?_)
  refine gb_callI (pc := 212) (as := [zr x0]) (rest := []) (zCl.of (zLk_V (M := MX9_body) (ci := 9) (r := (RX9, TX9, 84)) plX9_here.1 rfl rfl (zisE hb).1 (zisE hb).2 dX9_body_212 q2154 q2156 qs46 q2157) plX9_here (Nat.le_of_ble_eq_true rfl) (fun h => c_X9_here h)) (fun v1 σ2 => ?_)
  refine zst_ (gj_bipush (pc := 215) dX9_body_215 ⟨rfl, by decide⟩) ?_
  refine gb_if (gj_icmp_ne 243 (pc := 217) dX9_body_217 (by decide)) ?_ ?_
  · exact fun h => w_X9_body_243 x0 x1 x2 σ2 h hk
  · refine zst_ (gj_aload_n 0 (pc := 220) dX9_body_220 rfl) ?_
    refine gb_get (pc := 221) fl938 dX9_body_221 q1920 (Or.inl rfl) (fun v3 => ?_)
    refine gb_if (gj_if_ne 243 (pc := 224) dX9_body_224 (by decide)) ?_ ?_
    · exact fun h => w_X9_body_243 x0 x1 x2 σ2 h hk
    · refine zst_ (gj_sub [0, 1] rfl) ?_
      intro h
      obtain ⟨r0, h0, rfl⟩ := zmE h
      exact w_X9_body_227 x0 x1 σ2 h0 hk
noncomputable def f_X9_body_204 (x0 x1 x2 x4 t0 t1 t2 : Int) (σ : zM) : Option ((Int × zM) ⊕ ((Int × zM) ⊕ zO)) :=
  (zpf σ 903 t2 (zadd t1 t0)).bind fun σ1 =>
  some (.inl (x4, σ1))
theorem w_X9_body_204 {g : zG} {lv : Nat} {out : zO} (x0 x1 x2 x4 t0 t1 t2 : Int) (σ : zM) {r : ((Int × zM) ⊕ ((Int × zM) ⊕ zO))} (h : f_X9_body_204 x0 x1 x2 x4 t0 t1 t2 σ = some r) (hk : (zKL (fun s : Int × zM => Gj g MX9_body (lv + 5) 110 [(0, zr x0), (1, zi x1), (2, zi x2), (4, zi s.1)] [] s.2 out) (zKL (fun s : Int × zM => Gj g MX9_body (lv + 5) 56 [(0, zr x0), (1, zi x1), (2, zi s.1)] [] s.2 out) (fun o : zO => o = out))) r) : Gj g MX9_body (lv + 5) 204 [(0, zr x0), (1, zi x1), (2, zi x2), (4, zi x4)] [zi t0, zi t1, zr t2] σ out := by
  revert h
  unfold f_X9_body_204
  refine zst_ (gj_iadd (pc := 204) dX9_body_204) ?_
  refine gb_put (pc := 205) fl903 fr903 dX9_body_205 q1885 (Or.inl rfl) (fun σ1 => ?_)
  refine zst_ (gj_goto 110 (pc := 208) dX9_body_208 (by decide)) ?_
  intro h
  cases h
  exact hk
noncomputable def f_X9_body_185 (x0 x1 x2 x4 t0 t1 t2 : Int) (σ : zM) : Option ((Int × zM) ⊕ ((Int × zM) ⊕ zO)) :=
  (zpf σ 938 t2 (zsub t1 t0)).bind fun σ1 =>
  (zgf σ1 903 x0).bind fun v2 =>
  if x4 = 0 then
    f_X9_body_204 x0 x1 x2 x4 0 v2 x0 σ1
  else
    f_X9_body_204 x0 x1 x2 x4 1 v2 x0 σ1
theorem w_X9_body_185 {g : zG} {lv : Nat} {out : zO} (x0 x1 x2 x4 t0 t1 t2 : Int) (σ : zM) {r : ((Int × zM) ⊕ ((Int × zM) ⊕ zO))} (h : f_X9_body_185 x0 x1 x2 x4 t0 t1 t2 σ = some r) (hk : (zKL (fun s : Int × zM => Gj g MX9_body (lv + 5) 110 [(0, zr x0), (1, zi x1), (2, zi x2), (4, zi s.1)] [] s.2 out) (zKL (fun s : Int × zM => Gj g MX9_body (lv + 5) 56 [(0, zr x0), (1, zi x1), (2, zi s.1)] [] s.2 out) (fun o : zO => o = out))) r) : Gj g MX9_body (lv + 5) 185 [(0, zr x0), (1, zi x1), (2, zi x2), (4, zi x4)] [zi t0, zi t1, zr t2] σ out := by
  revert h
  unfold f_X9_body_185
  refine zst_ (gj_isub (pc := 185) dX9_body_185) ?_
  refine gb_put (pc := 186) fl938 fr938 dX9_body_186 q1920 (Or.inl rfl) (fun σ1 => ?_)
  refine zst_ (gj_aload_n 0 (pc := 189) dX9_body_189 rfl) ?_
  refine zst_ (gj_dup (pc := 190) dX9_body_190 rfl) ?_
  refine gb_get (pc := 191) fl903 dX9_body_191 q1885 (Or.inl rfl) (fun v2 => ?_)
  refine zst_ (gj_iload 3 (pc := 194) dX9_body_194 rfl) ?_
  refine gb_if (gj_if_eq 203 (pc := 196) dX9_body_196 (by decide)) ?_ ?_
  · refine zst_ (gj_iconst (pc := 203) dX9_body_203 (by decide)) ?_
    exact fun h => w_X9_body_204 x0 x1 x2 x4 0 v2 x0 σ1 h hk
  · refine zst_ (gj_iconst (pc := 199) dX9_body_199 (by decide)) ?_
    refine zst_ (gj_goto 204 (pc := 200) dX9_body_200 (by decide)) ?_
    exact fun h => w_X9_body_204 x0 x1 x2 x4 1 v2 x0 σ1 h hk
noncomputable def f_X9_body_168 (x0 x1 x2 t0 : Int) (σ : zM) : Option ((Int × zM) ⊕ ((Int × zM) ⊕ zO)) :=
  (zgf σ 938 x0).bind fun v1 =>
  if t0 = 0 then
    f_X9_body_185 x0 x1 x2 t0 0 v1 x0 σ
  else
    f_X9_body_185 x0 x1 x2 t0 1 v1 x0 σ
theorem w_X9_body_168 {g : zG} {lv : Nat} {out : zO} (x0 x1 x2 t0 : Int) (σ : zM) {r : ((Int × zM) ⊕ ((Int × zM) ⊕ zO))} (h : f_X9_body_168 x0 x1 x2 t0 σ = some r) (hk : (zKL (fun s : Int × zM => Gj g MX9_body (lv + 5) 110 [(0, zr x0), (1, zi x1), (2, zi x2), (4, zi s.1)] [] s.2 out) (zKL (fun s : Int × zM => Gj g MX9_body (lv + 5) 56 [(0, zr x0), (1, zi x1), (2, zi s.1)] [] s.2 out) (fun o : zO => o = out))) r) : Gj g MX9_body (lv + 5) 168 [(0, zr x0), (1, zi x1), (2, zi x2)] [zi t0] σ out := by
  revert h
  unfold f_X9_body_168
  refine zst_ (gj_istore (pc := 168) (ls' := [(4, zi t0), (0, zr x0), (1, zi x1), (2, zi x2)]) dX9_body_168 (by decide) rfl) ?_
  refine zst_ (gj_aload_n 1 (pc := 170) dX9_body_170 rfl) ?_
  refine zst_ (gj_dup (pc := 171) dX9_body_171 rfl) ?_
  refine gb_get (pc := 172) fl938 dX9_body_172 q1920 (Or.inl rfl) (fun v1 => ?_)
  refine zst_ (gj_iload 0 (pc := 175) dX9_body_175 rfl) ?_
  refine gb_if (gj_if_eq 184 (pc := 177) dX9_body_177 (by decide)) ?_ ?_
  · refine zst_ (gj_iconst (pc := 184) dX9_body_184 (by decide)) ?_
    refine zst_ (gj_sub [1, 2, 3, 0] rfl) ?_
    exact fun h => w_X9_body_185 x0 x1 x2 t0 0 v1 x0 σ h hk
  · refine zst_ (gj_iconst (pc := 180) dX9_body_180 (by decide)) ?_
    refine zst_ (gj_goto 185 (pc := 181) dX9_body_181 (by decide)) ?_
    refine zst_ (gj_sub [1, 2, 3, 0] rfl) ?_
    exact fun h => w_X9_body_185 x0 x1 x2 t0 1 v1 x0 σ h hk
noncomputable def f_X9_body_167 (x0 x1 x2 : Int) (σ : zM) : Option ((Int × zM) ⊕ ((Int × zM) ⊕ zO)) :=
  f_X9_body_168 x0 x1 x2 0 σ
theorem w_X9_body_167 {g : zG} {lv : Nat} {out : zO} (x0 x1 x2 : Int) (σ : zM) {r : ((Int × zM) ⊕ ((Int × zM) ⊕ zO))} (h : f_X9_body_167 x0 x1 x2 σ = some r) (hk : (zKL (fun s : Int × zM => Gj g MX9_body (lv + 5) 110 [(0, zr x0), (1, zi x1), (2, zi x2), (4, zi s.1)] [] s.2 out) (zKL (fun s : Int × zM => Gj g MX9_body (lv + 5) 56 [(0, zr x0), (1, zi x1), (2, zi s.1)] [] s.2 out) (fun o : zO => o = out))) r) : Gj g MX9_body (lv + 5) 167 [(0, zr x0), (1, zi x1), (2, zi x2)] [] σ out := by
  revert h
  unfold f_X9_body_167
  refine zst_ (gj_iconst (pc := 167) dX9_body_167 (by decide)) ?_
  exact fun h => w_X9_body_168 x0 x1 x2 0 σ h hk
noncomputable def f_X9_body_163 (x0 x1 x2 : Int) (σ : zM) : Option ((Int × zM) ⊕ ((Int × zM) ⊕ zO)) :=
  f_X9_body_168 x0 x1 x2 1 σ
theorem w_X9_body_163 {g : zG} {lv : Nat} {out : zO} (x0 x1 x2 : Int) (σ : zM) {r : ((Int × zM) ⊕ ((Int × zM) ⊕ zO))} (h : f_X9_body_163 x0 x1 x2 σ = some r) (hk : (zKL (fun s : Int × zM => Gj g MX9_body (lv + 5) 110 [(0, zr x0), (1, zi x1), (2, zi x2), (4, zi s.1)] [] s.2 out) (zKL (fun s : Int × zM => Gj g MX9_body (lv + 5) 56 [(0, zr x0), (1, zi x1), (2, zi s.1)] [] s.2 out) (fun o : zO => o = out))) r) : Gj g MX9_body (lv + 5) 163 [(0, zr x0), (1, zi x1), (2, zi x2)] [] σ out := by
  revert h
  unfold f_X9_body_163
  refine zst_ (gj_iconst (pc := 163) dX9_body_163 (by decide)) ?_
  refine zst_ (gj_goto 168 (pc := 164) dX9_body_164 (by decide)) ?_
  exact fun h => w_X9_body_168 x0 x1 x2 1 σ h hk
noncomputable def f_X9_body_141 (x0 x1 x2 : Int) (σ : zM) : Option ((Int × zM) ⊕ ((Int × zM) ⊕ zO)) :=
  zgd (zis σ 10 x0) <|
  zci (f_X9_here x0 σ) fun v1 σ2 =>
  if v1 ≠ 62 then
    f_X9_body_167 x0 x1 x2 σ2
  else
    (zgf σ2 939 x0).bind fun v3 =>
    (zgf σ2 938 x0).bind fun v4 =>
    (zga σ2 101 v3 v4).bind fun v5 =>
    if v5 ≠ 3 then
      f_X9_body_167 x0 x1 x2 σ2
    else
      f_X9_body_163 x0 x1 x2 σ2
theorem w_X9_body_141 {g : zG} {lv : Nat} {out : zO} (x0 x1 x2 : Int) (σ : zM) {r : ((Int × zM) ⊕ ((Int × zM) ⊕ zO))} (h : f_X9_body_141 x0 x1 x2 σ = some r) (hk : (zKL (fun s : Int × zM => Gj g MX9_body (lv + 5) 110 [(0, zr x0), (1, zi x1), (2, zi x2), (4, zi s.1)] [] s.2 out) (zKL (fun s : Int × zM => Gj g MX9_body (lv + 5) 56 [(0, zr x0), (1, zi x1), (2, zi s.1)] [] s.2 out) (fun o : zO => o = out))) r) : Gj g MX9_body (lv + 5) 141 [(0, zr x0), (1, zi x1), (2, zi x2)] [] σ out := by
  revert h
  unfold f_X9_body_141
  refine zst_ (gj_aload_n 0 (pc := 141) dX9_body_141 rfl) ?_
  refine gb_gd (fun hb => ?_)
  refine gb_callI (pc := 142) (as := [zr x0]) (rest := []) (zCl.of (zLk_V (M := MX9_body) (ci := 9) (r := (RX9, TX9, 84)) plX9_here.1 rfl rfl (zisE hb).1 (zisE hb).2 dX9_body_142 q2154 q2156 qs46 q2157) plX9_here (Nat.le_of_ble_eq_true rfl) (fun h => c_X9_here h)) (fun v1 σ2 => ?_)
  refine zst_ (gj_bipush (pc := 145) dX9_body_145 ⟨rfl, by decide⟩) ?_
  refine gb_if (gj_icmp_ne 167 (pc := 147) dX9_body_147 (by decide)) ?_ ?_
  · exact fun h => w_X9_body_167 x0 x1 x2 σ2 h hk
  · refine zst_ (gj_aload_n 0 (pc := 150) dX9_body_150 rfl) ?_
    refine gb_get (pc := 151) fl939 dX9_body_151 q1921 (Or.inl rfl) (fun v3 => ?_)
    refine zst_ (gj_aload_n 0 (pc := 154) dX9_body_154 rfl) ?_
    refine gb_get (pc := 155) fl938 dX9_body_155 q1920 (Or.inl rfl) (fun v4 => ?_)
    refine gb_iald (pc := 158) dX9_body_158 (fun v5 => ?_)
    refine zst_ (gj_iconst (pc := 159) dX9_body_159 (by decide)) ?_
    refine gb_if (gj_icmp_ne 167 (pc := 160) dX9_body_160 (by decide)) ?_ ?_
    · exact fun h => w_X9_body_167 x0 x1 x2 σ2 h hk
    · exact fun h => w_X9_body_163 x0 x1 x2 σ2 h hk
noncomputable def f_X9_body_110_b (x0 x1 x2 x4 : Int) (σ : zM) : Option ((Int × zM) ⊕ ((Int × zM) ⊕ zO)) :=
  if x4 = 0 then
    (f_X9_body_211 x0 x1 x2 σ).map (fun r => (.inr r))
  else
    zgd (zis σ 10 x0) <|
    zci (f_X9_here x0 σ) fun v1 σ2 =>
    if v1 ≠ 93 then
      f_X9_body_141 x0 x1 x2 σ2
    else
      (zgf σ2 939 x0).bind fun v3 =>
      (zgf σ2 938 x0).bind fun v4 =>
      (zga σ2 101 v3 v4).bind fun v5 =>
      zci (f_X9_in v5 1 2 σ2) fun v6 σ7 =>
      if v6 ≠ 0 then
        f_X9_body_163 x0 x1 x2 σ7
      else
        f_X9_body_141 x0 x1 x2 σ7
noncomputable def f_X9_body_110 (x0 x1 x2 x4 : Int) (σ : zM) : Option ((Int × zM) ⊕ zO) :=
  zloop (fun s : Int × zM => f_X9_body_110_b x0 x1 x2 s.1 s.2) (x4, σ)
theorem w_X9_body_110_b {g : zG} {lv : Nat} {out : zO} (x0 x1 x2 x4 : Int) (σ : zM) {r : ((Int × zM) ⊕ ((Int × zM) ⊕ zO))} (h : f_X9_body_110_b x0 x1 x2 x4 σ = some r) (hk : (zKL (fun s : Int × zM => Gj g MX9_body (lv + 5) 110 [(0, zr x0), (1, zi x1), (2, zi x2), (4, zi s.1)] [] s.2 out) (zKL (fun s : Int × zM => Gj g MX9_body (lv + 5) 56 [(0, zr x0), (1, zi x1), (2, zi s.1)] [] s.2 out) (fun o : zO => o = out))) r) : Gj g MX9_body (lv + 5) 110 [(0, zr x0), (1, zi x1), (2, zi x2), (4, zi x4)] [] σ out := by
  revert h
  unfold f_X9_body_110_b
  refine zst_ (gj_iload 3 (pc := 110) dX9_body_110 rfl) ?_
  refine gb_if (gj_if_eq 211 (pc := 112) dX9_body_112 (by decide)) ?_ ?_
  · refine zst_ (gj_sub [0, 1, 2] rfl) ?_
    intro h
    obtain ⟨r0, h0, rfl⟩ := zmE h
    exact w_X9_body_211 x0 x1 x2 σ h0 hk
  · refine zst_ (gj_aload_n 0 (pc := 115) dX9_body_115 rfl) ?_
    refine gb_gd (fun hb => ?_)
    refine gb_callI (pc := 116) (as := [zr x0]) (rest := []) (zCl.of (zLk_V (M := MX9_body) (ci := 9) (r := (RX9, TX9, 84)) plX9_here.1 rfl rfl (zisE hb).1 (zisE hb).2 dX9_body_116 q2154 q2156 qs46 q2157) plX9_here (Nat.le_of_ble_eq_true rfl) (fun h => c_X9_here h)) (fun v1 σ2 => ?_)
    refine zst_ (gj_bipush (pc := 119) dX9_body_119 ⟨rfl, by decide⟩) ?_
    refine gb_if (gj_icmp_ne 141 (pc := 121) dX9_body_121 (by decide)) ?_ ?_
    · refine zst_ (gj_sub [0, 1, 2] rfl) ?_
      exact fun h => w_X9_body_141 x0 x1 x2 σ2 h hk
    · refine zst_ (gj_aload_n 0 (pc := 124) dX9_body_124 rfl) ?_
      refine gb_get (pc := 125) fl939 dX9_body_125 q1921 (Or.inl rfl) (fun v3 => ?_)
      refine zst_ (gj_aload_n 0 (pc := 128) dX9_body_128 rfl) ?_
      refine gb_get (pc := 129) fl938 dX9_body_129 q1920 (Or.inl rfl) (fun v4 => ?_)
      refine gb_iald (pc := 132) dX9_body_132 (fun v5 => ?_)
      refine zst_ (gj_iconst (pc := 133) dX9_body_133 (by decide)) ?_
      refine zst_ (gj_iconst (pc := 134) dX9_body_134 (by decide)) ?_
      refine gb_callI (pc := 135) (as := [zi v5, zi 1, zi 2]) (rest := []) (zCl.of (zLk_S (M := MX9_body) plX9_in.1 rfl dX9_body_135 q2143 q2144 q127 q2145) plX9_in (Nat.le_of_ble_eq_true rfl) (fun h => c_X9_in h)) (fun v6 σ7 => ?_)
      refine gb_if (gj_if_ne 163 (pc := 138) dX9_body_138 (by decide)) ?_ ?_
      · refine zst_ (gj_sub [0, 1, 2] rfl) ?_
        exact fun h => w_X9_body_163 x0 x1 x2 σ7 h hk
      · refine zst_ (gj_sub [0, 1, 2] rfl) ?_
        exact fun h => w_X9_body_141 x0 x1 x2 σ7 h hk
theorem w_X9_body_110 {g : zG} {lv : Nat} {out : zO} (x0 x1 x2 x4 : Int) (σ : zM) {r : ((Int × zM) ⊕ zO)} (h : f_X9_body_110 x0 x1 x2 x4 σ = some r) (hk : (zKL (fun s : Int × zM => Gj g MX9_body (lv + 5) 56 [(0, zr x0), (1, zi x1), (2, zi s.1)] [] s.2 out) (fun o : zO => o = out)) r) : Gj g MX9_body (lv + 5) 110 [(0, zr x0), (1, zi x1), (2, zi x2), (4, zi x4)] [] σ out :=
  gj_loop (P := (fun s : Int × zM => Gj g MX9_body (lv + 5) 110 [(0, zr x0), (1, zi x1), (2, zi x2), (4, zi s.1)] [] s.2 out)) (fun s x hb hx => w_X9_body_110_b x0 x1 x2 s.1 s.2 hb hx) h hk
noncomputable def f_X9_body_94 (σ : zM) : Option zO :=
  zgd (z01 0) <|
  some (0, zi 0, σ)
theorem w_X9_body_94 {g : zG} {lv : Nat} {out : zO} (σ : zM) {r : zO} (h : f_X9_body_94  σ = some r) (hk : (fun o : zO => o = out) r) : Gj g MX9_body (lv + 5) 94 [] [] σ out := by
  revert h
  unfold f_X9_body_94
  refine zst_ (gj_iconst (pc := 94) dX9_body_94 (by decide)) ?_
  refine gb_gd (fun hb => ?_)
  intro h
  cases h
  have hk : (0, zi 0, σ) = out := hk
  subst hk
  exact gj_ret (pc := 95) (t := .boolean) dX9_body_95 rfl ⟨rfl, rfl⟩ (fun _ => z01E hb)
noncomputable def f_X9_body_82 (x0 x1 x2 : Int) (σ : zM) : Option ((Int × zM) ⊕ zO) :=
  (zgf σ 938 x0).bind fun v1 =>
  zgd (zis σ 10 x0) <|
  zci (f_X9_statement x0 σ) fun v2 σ3 =>
  if v2 ≠ 0 then
    (zgf σ3 938 x0).bind fun v4 =>
    if v4 ≤ v1 then
      f_X9_body_110 x0 x1 x2 1 σ3
    else
      f_X9_body_320 x0 x1 x2 σ3
  else
    (f_X9_body_94 σ3).map (fun r => (.inr r))
theorem w_X9_body_82 {g : zG} {lv : Nat} {out : zO} (x0 x1 x2 : Int) (σ : zM) {r : ((Int × zM) ⊕ zO)} (h : f_X9_body_82 x0 x1 x2 σ = some r) (hk : (zKL (fun s : Int × zM => Gj g MX9_body (lv + 5) 56 [(0, zr x0), (1, zi x1), (2, zi s.1)] [] s.2 out) (fun o : zO => o = out)) r) : Gj g MX9_body (lv + 5) 82 [(0, zr x0), (1, zi x1), (2, zi x2)] [] σ out := by
  revert h
  unfold f_X9_body_82
  refine zst_ (gj_aload_n 0 (pc := 82) dX9_body_82 rfl) ?_
  refine gb_get (pc := 83) fl938 dX9_body_83 q1920 (Or.inl rfl) (fun v1 => ?_)
  refine zst_ (gj_istore_n (pc := 86) (ls' := [(3, zi v1), (0, zr x0), (1, zi x1), (2, zi x2)]) dX9_body_86 (by decide) rfl) ?_
  refine zst_ (gj_aload_n 1 (pc := 87) dX9_body_87 rfl) ?_
  refine gb_gd (fun hb => ?_)
  refine gb_callI (pc := 88) (as := [zr x0]) (rest := []) (zCl.of (zLk_V (M := MX9_body) (ci := 9) (r := (RX9, TX9, 84)) plX9_statement.1 rfl rfl (zisE hb).1 (zisE hb).2 dX9_body_88 q2182 q2184 qs53 q2185) plX9_statement (Nat.le_of_ble_eq_true rfl) (fun h => c_X9_statement h)) (fun v2 σ3 => ?_)
  refine gb_if (gj_if_ne 96 (pc := 91) dX9_body_91 (by decide)) ?_ ?_
  · refine zst_ (gj_aload_n 1 (pc := 96) dX9_body_96 rfl) ?_
    refine gb_get (pc := 97) fl938 dX9_body_97 q1920 (Or.inl rfl) (fun v4 => ?_)
    refine zst_ (gj_iload_n 0 (pc := 100) dX9_body_100 rfl) ?_
    refine gb_if (gj_icmp_le 107 (pc := 101) dX9_body_101 (by decide)) ?_ ?_
    · refine zst_ (gj_iconst (pc := 107) dX9_body_107 (by decide)) ?_
      refine zst_ (gj_istore (pc := 108) (ls' := [(4, zi 1), (3, zi v1), (0, zr x0), (1, zi x1), (2, zi x2)]) dX9_body_108 (by decide) rfl) ?_
      refine zst_ (gj_sub [2, 3, 4, 0] rfl) ?_
      exact fun h => w_X9_body_110 x0 x1 x2 1 σ3 h hk
    · refine zst_ (gj_goto 320 (pc := 104) dX9_body_104 (by decide)) ?_
      refine zst_ (gj_sub [1, 2, 3] rfl) ?_
      exact fun h => w_X9_body_320 x0 x1 x2 σ3 h hk
  · refine zst_ (gj_sub [] rfl) ?_
    intro h
    obtain ⟨r0, h0, rfl⟩ := zmE h
    exact w_X9_body_94 σ3 h0 hk
noncomputable def f_X9_body_80 (σ : zM) : Option zO :=
  zgd (z01 0) <|
  some (0, zi 0, σ)
theorem w_X9_body_80 {g : zG} {lv : Nat} {out : zO} (σ : zM) {r : zO} (h : f_X9_body_80  σ = some r) (hk : (fun o : zO => o = out) r) : Gj g MX9_body (lv + 5) 80 [] [] σ out := by
  revert h
  unfold f_X9_body_80
  refine zst_ (gj_iconst (pc := 80) dX9_body_80 (by decide)) ?_
  refine gb_gd (fun hb => ?_)
  intro h
  cases h
  have hk : (0, zi 0, σ) = out := hk
  subst hk
  exact gj_ret (pc := 81) (t := .boolean) dX9_body_81 rfl ⟨rfl, rfl⟩ (fun _ => z01E hb)
noncomputable def f_X9_body_64_b (x0 x1 x2 : Int) (σ : zM) : Option ((zM) ⊕ ((Int × zM) ⊕ zO)) :=
  zgd (zis σ 10 x0) <|
  zci (f_X9_here x0 σ) fun v1 σ2 =>
  if v1 ≠ 58 then
    (f_X9_body_82 x0 x1 x2 σ2).map (fun r => (.inr r))
  else
    zgd (zis σ2 10 x0) <|
    zci (f_X9_label x0 σ2) fun v3 σ4 =>
    if v3 ≠ 0 then
      some (.inl σ4)
    else
      (f_X9_body_80 σ4).map (fun r => (.inr (.inr r)))
noncomputable def f_X9_body_64 (x0 x1 x2 : Int) (σ : zM) : Option ((Int × zM) ⊕ zO) :=
  zloop (fun s : zM => f_X9_body_64_b x0 x1 x2 s) σ
theorem w_X9_body_64_b {g : zG} {lv : Nat} {out : zO} (x0 x1 x2 : Int) (σ : zM) {r : ((zM) ⊕ ((Int × zM) ⊕ zO))} (h : f_X9_body_64_b x0 x1 x2 σ = some r) (hk : (zKL (fun s : zM => Gj g MX9_body (lv + 5) 64 [(0, zr x0), (1, zi x1), (2, zi x2)] [] s out) (zKL (fun s : Int × zM => Gj g MX9_body (lv + 5) 56 [(0, zr x0), (1, zi x1), (2, zi s.1)] [] s.2 out) (fun o : zO => o = out))) r) : Gj g MX9_body (lv + 5) 64 [(0, zr x0), (1, zi x1), (2, zi x2)] [] σ out := by
  revert h
  unfold f_X9_body_64_b
  refine zst_ (gj_aload_n 0 (pc := 64) dX9_body_64 rfl) ?_
  refine gb_gd (fun hb => ?_)
  refine gb_callI (pc := 65) (as := [zr x0]) (rest := []) (zCl.of (zLk_V (M := MX9_body) (ci := 9) (r := (RX9, TX9, 84)) plX9_here.1 rfl rfl (zisE hb).1 (zisE hb).2 dX9_body_65 q2154 q2156 qs46 q2157) plX9_here (Nat.le_of_ble_eq_true rfl) (fun h => c_X9_here h)) (fun v1 σ2 => ?_)
  refine zst_ (gj_bipush (pc := 68) dX9_body_68 ⟨rfl, by decide⟩) ?_
  refine gb_if (gj_icmp_ne 82 (pc := 70) dX9_body_70 (by decide)) ?_ ?_
  · intro h
    obtain ⟨r0, h0, rfl⟩ := zmE h
    exact w_X9_body_82 x0 x1 x2 σ2 h0 hk
  · refine zst_ (gj_aload_n 0 (pc := 73) dX9_body_73 rfl) ?_
    refine gb_gd (fun hb => ?_)
    refine gb_callI (pc := 74) (as := [zr x0]) (rest := []) (zCl.of (zLk_V (M := MX9_body) (ci := 9) (r := (RX9, TX9, 84)) plX9_label.1 rfl rfl (zisE hb).1 (zisE hb).2 dX9_body_74 q2178 q2180 qs52 q2181) plX9_label (Nat.le_of_ble_eq_true rfl) (fun h => c_X9_label h)) (fun v3 σ4 => ?_)
    refine gb_if (gj_if_ne 64 (pc := 77) dX9_body_77 (by decide)) ?_ ?_
    · intro h
      cases h
      exact hk
    · refine zst_ (gj_sub [] rfl) ?_
      intro h
      obtain ⟨r0, h0, rfl⟩ := zmE h
      exact w_X9_body_80 σ4 h0 hk
theorem w_X9_body_64 {g : zG} {lv : Nat} {out : zO} (x0 x1 x2 : Int) (σ : zM) {r : ((Int × zM) ⊕ zO)} (h : f_X9_body_64 x0 x1 x2 σ = some r) (hk : (zKL (fun s : Int × zM => Gj g MX9_body (lv + 5) 56 [(0, zr x0), (1, zi x1), (2, zi s.1)] [] s.2 out) (fun o : zO => o = out)) r) : Gj g MX9_body (lv + 5) 64 [(0, zr x0), (1, zi x1), (2, zi x2)] [] σ out :=
  gj_loop (P := (fun s : zM => Gj g MX9_body (lv + 5) 64 [(0, zr x0), (1, zi x1), (2, zi x2)] [] s out)) (fun s x hb hx => w_X9_body_64_b x0 x1 x2 s hb hx) h hk
noncomputable def f_X9_body_56_b (x0 x1 x2 : Int) (σ : zM) : Option ((Int × zM) ⊕ zO) :=
  (zgf σ 901 x0).bind fun v1 =>
  if v1 < x2 then
    (f_X9_body_326 x0 σ).map (fun r => (.inr r))
  else
    f_X9_body_64 x0 x1 x2 σ
noncomputable def f_X9_body_56 (x0 x1 x2 : Int) (σ : zM) : Option zO :=
  zloop (fun s : Int × zM => f_X9_body_56_b x0 x1 s.1 s.2) (x2, σ)
theorem w_X9_body_56_b {g : zG} {lv : Nat} {out : zO} (x0 x1 x2 : Int) (σ : zM) {r : ((Int × zM) ⊕ zO)} (h : f_X9_body_56_b x0 x1 x2 σ = some r) (hk : (zKL (fun s : Int × zM => Gj g MX9_body (lv + 5) 56 [(0, zr x0), (1, zi x1), (2, zi s.1)] [] s.2 out) (fun o : zO => o = out)) r) : Gj g MX9_body (lv + 5) 56 [(0, zr x0), (1, zi x1), (2, zi x2)] [] σ out := by
  revert h
  unfold f_X9_body_56_b
  refine zst_ (gj_iload_n 2 (pc := 56) dX9_body_56 rfl) ?_
  refine zst_ (gj_aload_n 0 (pc := 57) dX9_body_57 rfl) ?_
  refine gb_get (pc := 58) fl901 dX9_body_58 q1883 (Or.inl rfl) (fun v1 => ?_)
  refine gb_if (gj_icmp_gt 326 (pc := 61) dX9_body_61 (by decide)) ?_ ?_
  · refine zst_ (gj_sub [0] rfl) ?_
    intro h
    obtain ⟨r0, h0, rfl⟩ := zmE h
    exact w_X9_body_326 x0 σ h0 hk
  · exact fun h => w_X9_body_64 x0 x1 x2 σ h hk
theorem w_X9_body_56 {g : zG} {lv : Nat} {out : zO} (x0 x1 x2 : Int) (σ : zM) {r : zO} (h : f_X9_body_56 x0 x1 x2 σ = some r) (hk : (fun o : zO => o = out) r) : Gj g MX9_body (lv + 5) 56 [(0, zr x0), (1, zi x1), (2, zi x2)] [] σ out :=
  gj_loop (P := (fun s : Int × zM => Gj g MX9_body (lv + 5) 56 [(0, zr x0), (1, zi x1), (2, zi s.1)] [] s.2 out)) (fun s x hb hx => w_X9_body_56_b x0 x1 s.1 s.2 hb hx) h hk
noncomputable def f_X9_body (x0 : Int) (σ : zM) : Option zO :=
  (zgf σ 913 x0).bind fun v1 =>
  (zpf σ 938 x0 0).bind fun σ2 =>
  (zgf σ2 939 x0).bind fun v3 =>
  (zpa σ2 101 v3 0 0).bind fun σ4 =>
  (zgf σ4 940 x0).bind fun v5 =>
  (zpa σ4 101 v5 0 (-1)).bind fun σ6 =>
  (zgf σ6 941 x0).bind fun v7 =>
  (zpa σ6 101 v7 0 (-1)).bind fun σ8 =>
  (zgf σ8 931 x0).bind fun v9 =>
  (zgf σ8 930 x0).bind fun v10 =>
  (zpa σ8 101 v9 v10 0).bind fun σ11 =>
  (zgf σ11 932 x0).bind fun v12 =>
  (zgf σ11 930 x0).bind fun v13 =>
  (zgf σ11 913 x0).bind fun v14 =>
  (zpa σ11 101 v12 v13 v14).bind fun σ15 =>
  f_X9_body_56 x0 v1 0 σ15
theorem c_X9_body {g : zG} {lv : Nat} {x0 : Int} {σ : zM} {out : zO} (h : f_X9_body x0 σ = some out) : Cj g (lv + 5) MX9_body [zr x0] σ out := by
  refine cj_go (ls := [(0, zr x0)]) (by decide) (Nat.le_of_ble_eq_true rfl) rfl (zgen h (fun r hk => ?_))
  unfold f_X9_body
  refine zst_ (gj_aload_n 0 (pc := 0) dX9_body_0 rfl) ?_
  refine gb_get (pc := 1) fl913 dX9_body_1 q1895 (Or.inl rfl) (fun v1 => ?_)
  refine zst_ (gj_istore_n (pc := 4) (ls' := [(1, zi v1), (0, zr x0)]) dX9_body_4 (by decide) rfl) ?_
  refine zst_ (gj_aload_n 1 (pc := 5) dX9_body_5 rfl) ?_
  refine zst_ (gj_iconst (pc := 6) dX9_body_6 (by decide)) ?_
  refine gb_put (pc := 7) fl938 fr938 dX9_body_7 q1920 (Or.inl rfl) (fun σ2 => ?_)
  refine zst_ (gj_aload_n 1 (pc := 10) dX9_body_10 rfl) ?_
  refine gb_get (pc := 11) fl939 dX9_body_11 q1921 (Or.inl rfl) (fun v3 => ?_)
  refine zst_ (gj_iconst (pc := 14) dX9_body_14 (by decide)) ?_
  refine zst_ (gj_iconst (pc := 15) dX9_body_15 (by decide)) ?_
  refine gb_iast (pc := 16) dX9_body_16 (fun σ4 => ?_)
  refine zst_ (gj_aload_n 1 (pc := 17) dX9_body_17 rfl) ?_
  refine gb_get (pc := 18) fl940 dX9_body_18 q1922 (Or.inl rfl) (fun v5 => ?_)
  refine zst_ (gj_iconst (pc := 21) dX9_body_21 (by decide)) ?_
  refine zst_ (gj_iconst (pc := 22) dX9_body_22 (by decide)) ?_
  refine gb_iast (pc := 23) dX9_body_23 (fun σ6 => ?_)
  refine zst_ (gj_aload_n 1 (pc := 24) dX9_body_24 rfl) ?_
  refine gb_get (pc := 25) fl941 dX9_body_25 q1923 (Or.inl rfl) (fun v7 => ?_)
  refine zst_ (gj_iconst (pc := 28) dX9_body_28 (by decide)) ?_
  refine zst_ (gj_iconst (pc := 29) dX9_body_29 (by decide)) ?_
  refine gb_iast (pc := 30) dX9_body_30 (fun σ8 => ?_)
  refine zst_ (gj_aload_n 1 (pc := 31) dX9_body_31 rfl) ?_
  refine gb_get (pc := 32) fl931 dX9_body_32 q1913 (Or.inl rfl) (fun v9 => ?_)
  refine zst_ (gj_aload_n 1 (pc := 35) dX9_body_35 rfl) ?_
  refine gb_get (pc := 36) fl930 dX9_body_36 q1912 (Or.inl rfl) (fun v10 => ?_)
  refine zst_ (gj_iconst (pc := 39) dX9_body_39 (by decide)) ?_
  refine gb_iast (pc := 40) dX9_body_40 (fun σ11 => ?_)
  refine zst_ (gj_aload_n 1 (pc := 41) dX9_body_41 rfl) ?_
  refine gb_get (pc := 42) fl932 dX9_body_42 q1914 (Or.inl rfl) (fun v12 => ?_)
  refine zst_ (gj_aload_n 1 (pc := 45) dX9_body_45 rfl) ?_
  refine gb_get (pc := 46) fl930 dX9_body_46 q1912 (Or.inl rfl) (fun v13 => ?_)
  refine zst_ (gj_aload_n 1 (pc := 49) dX9_body_49 rfl) ?_
  refine gb_get (pc := 50) fl913 dX9_body_50 q1895 (Or.inl rfl) (fun v14 => ?_)
  refine gb_iast (pc := 53) dX9_body_53 (fun σ15 => ?_)
  refine zst_ (gj_iconst (pc := 54) dX9_body_54 (by decide)) ?_
  refine zst_ (gj_istore_n (pc := 55) (ls' := [(2, zi 0), (1, zi v1), (0, zr x0)]) dX9_body_55 (by decide) rfl) ?_
  refine zst_ (gj_sub [2, 1, 0] rfl) ?_
  exact fun h => w_X9_body_56 x0 v1 0 σ15 h hk
theorem q2153 : (Jvm.Cond.code ({ cls := "LassoFinderModel", name := "wholeModel", desc := "()Z" } : Jvm.MethodName) prog_22_method_25_code (2 : Nat) (Option.some Jvm.ClassFile.FieldType.boolean)) ∈ lw_all := lw_g (lw_at lw_m9 133 rfl) rfl
theorem q2158 : (Jvm.Cond.methodLink "LassoFinderModel" (292 : Nat) ({ cls := "LassoFinderModel", name := "declaration", desc := "()Z" } : Jvm.MethodName)) ∈ lw_all := lw_g (lw_at lw_m9 138 rfl) rfl
theorem q2160 : (Jvm.Cond.instanceMethod ({ cls := "LassoFinderModel", name := "declaration", desc := "()Z" } : Jvm.MethodName)) ∈ lw_all := lw_g (lw_at lw_m9 140 rfl) rfl
theorem q2174 : (Jvm.Cond.methodLink "LassoFinderModel" (295 : Nat) ({ cls := "LassoFinderModel", name := "body", desc := "()Z" } : Jvm.MethodName)) ∈ lw_all := lw_g (lw_at lw_m9 154 rfl) rfl
theorem q2176 : (Jvm.Cond.instanceMethod ({ cls := "LassoFinderModel", name := "body", desc := "()Z" } : Jvm.MethodName)) ∈ lw_all := lw_g (lw_at lw_m9 156 rfl) rfl
abbrev cX9_wholeModel : ByteArray := prog_22_method_25_code
def yX9_wholeModel : MethodName := ⟨RX9, "wholeModel", "()Z"⟩
theorem dX9_wholeModel_0 : decode cX9_wholeModel 0 = .ok (.aload_n 0, 1) := by decide +kernel
theorem dX9_wholeModel_1 : decode cX9_wholeModel 1 = .ok (.iconst 0, 1) := by decide +kernel
theorem dX9_wholeModel_2 : decode cX9_wholeModel 2 = .ok (.putfield 203, 3) := by decide +kernel
theorem dX9_wholeModel_5 : decode cX9_wholeModel 5 = .ok (.aload_n 0, 1) := by decide +kernel
theorem dX9_wholeModel_6 : decode cX9_wholeModel 6 = .ok (.iconst (-1), 1) := by decide +kernel
theorem dX9_wholeModel_7 : decode cX9_wholeModel 7 = .ok (.putfield 206, 3) := by decide +kernel
theorem dX9_wholeModel_10 : decode cX9_wholeModel 10 = .ok (.aload_n 0, 1) := by decide +kernel
theorem dX9_wholeModel_11 : decode cX9_wholeModel 11 = .ok (.iconst 0, 1) := by decide +kernel
theorem dX9_wholeModel_12 : decode cX9_wholeModel 12 = .ok (.putfield 241, 3) := by decide +kernel
theorem dX9_wholeModel_15 : decode cX9_wholeModel 15 = .ok (.aload_n 0, 1) := by decide +kernel
theorem dX9_wholeModel_16 : decode cX9_wholeModel 16 = .ok (.iconst 0, 1) := by decide +kernel
theorem dX9_wholeModel_17 : decode cX9_wholeModel 17 = .ok (.putfield 238, 3) := by decide +kernel
theorem dX9_wholeModel_20 : decode cX9_wholeModel 20 = .ok (.aload_n 0, 1) := by decide +kernel
theorem dX9_wholeModel_21 : decode cX9_wholeModel 21 = .ok (.iconst 0, 1) := by decide +kernel
theorem dX9_wholeModel_22 : decode cX9_wholeModel 22 = .ok (.putfield 251, 3) := by decide +kernel
theorem dX9_wholeModel_25 : decode cX9_wholeModel 25 = .ok (.aload_n 0, 1) := by decide +kernel
theorem dX9_wholeModel_26 : decode cX9_wholeModel 26 = .ok (.iconst 0, 1) := by decide +kernel
theorem dX9_wholeModel_27 : decode cX9_wholeModel 27 = .ok (.putfield 257, 3) := by decide +kernel
theorem dX9_wholeModel_30 : decode cX9_wholeModel 30 = .ok (.aload_n 0, 1) := by decide +kernel
theorem dX9_wholeModel_31 : decode cX9_wholeModel 31 = .ok (.iconst 0, 1) := by decide +kernel
theorem dX9_wholeModel_32 : decode cX9_wholeModel 32 = .ok (.putfield 254, 3) := by decide +kernel
theorem dX9_wholeModel_35 : decode cX9_wholeModel 35 = .ok (.aload_n 0, 1) := by decide +kernel
theorem dX9_wholeModel_36 : decode cX9_wholeModel 36 = .ok (.iconst 0, 1) := by decide +kernel
theorem dX9_wholeModel_37 : decode cX9_wholeModel 37 = .ok (.putfield 217, 3) := by decide +kernel
theorem dX9_wholeModel_40 : decode cX9_wholeModel 40 = .ok (.iconst 0, 1) := by decide +kernel
theorem dX9_wholeModel_41 : decode cX9_wholeModel 41 = .ok (.istore_n 1, 1) := by decide +kernel
theorem dX9_wholeModel_42 : decode cX9_wholeModel 42 = .ok (.iload_n 1, 1) := by decide +kernel
theorem dX9_wholeModel_43 : decode cX9_wholeModel 43 = .ok (.bipush 8, 2) := by decide +kernel
theorem dX9_wholeModel_45 : decode cX9_wholeModel 45 = .ok (.if_icmp .ge 23, 3) := by decide +kernel
theorem dX9_wholeModel_48 : decode cX9_wholeModel 48 = .ok (.aload_n 0, 1) := by decide +kernel
theorem dX9_wholeModel_49 : decode cX9_wholeModel 49 = .ok (.getfield 17, 3) := by decide +kernel
theorem dX9_wholeModel_52 : decode cX9_wholeModel 52 = .ok (.iload_n 1, 1) := by decide +kernel
theorem dX9_wholeModel_53 : decode cX9_wholeModel 53 = .ok (.iconst (-1), 1) := by decide +kernel
theorem dX9_wholeModel_54 : decode cX9_wholeModel 54 = .ok (.iastore, 1) := by decide +kernel
theorem dX9_wholeModel_55 : decode cX9_wholeModel 55 = .ok (.aload_n 0, 1) := by decide +kernel
theorem dX9_wholeModel_56 : decode cX9_wholeModel 56 = .ok (.getfield 20, 3) := by decide +kernel
theorem dX9_wholeModel_59 : decode cX9_wholeModel 59 = .ok (.iload_n 1, 1) := by decide +kernel
theorem dX9_wholeModel_60 : decode cX9_wholeModel 60 = .ok (.iconst (-1), 1) := by decide +kernel
theorem dX9_wholeModel_61 : decode cX9_wholeModel 61 = .ok (.iastore, 1) := by decide +kernel
theorem dX9_wholeModel_62 : decode cX9_wholeModel 62 = .ok (.iinc 1 1, 3) := by decide +kernel
theorem dX9_wholeModel_65 : decode cX9_wholeModel 65 = .ok (.goto (-23), 3) := by decide +kernel
theorem dX9_wholeModel_68 : decode cX9_wholeModel 68 = .ok (.iconst 0, 1) := by decide +kernel
theorem dX9_wholeModel_69 : decode cX9_wholeModel 69 = .ok (.istore_n 1, 1) := by decide +kernel
theorem dX9_wholeModel_70 : decode cX9_wholeModel 70 = .ok (.iload_n 1, 1) := by decide +kernel
theorem dX9_wholeModel_71 : decode cX9_wholeModel 71 = .ok (.bipush 32, 2) := by decide +kernel
theorem dX9_wholeModel_73 : decode cX9_wholeModel 73 = .ok (.if_icmp .ge 16, 3) := by decide +kernel
theorem dX9_wholeModel_76 : decode cX9_wholeModel 76 = .ok (.aload_n 0, 1) := by decide +kernel
theorem dX9_wholeModel_77 : decode cX9_wholeModel 77 = .ok (.getfield 81, 3) := by decide +kernel
theorem dX9_wholeModel_80 : decode cX9_wholeModel 80 = .ok (.iload_n 1, 1) := by decide +kernel
theorem dX9_wholeModel_81 : decode cX9_wholeModel 81 = .ok (.iconst (-1), 1) := by decide +kernel
theorem dX9_wholeModel_82 : decode cX9_wholeModel 82 = .ok (.iastore, 1) := by decide +kernel
theorem dX9_wholeModel_83 : decode cX9_wholeModel 83 = .ok (.iinc 1 1, 3) := by decide +kernel
theorem dX9_wholeModel_86 : decode cX9_wholeModel 86 = .ok (.goto (-16), 3) := by decide +kernel
theorem dX9_wholeModel_89 : decode cX9_wholeModel 89 = .ok (.aload_n 0, 1) := by decide +kernel
theorem dX9_wholeModel_90 : decode cX9_wholeModel 90 = .ok (.invokevirtual 209, 3) := by decide +kernel
theorem dX9_wholeModel_93 : decode cX9_wholeModel 93 = .ok (.bipush 123, 2) := by decide +kernel
theorem dX9_wholeModel_95 : decode cX9_wholeModel 95 = .ok (.if_icmp .eq 12, 3) := by decide +kernel
theorem dX9_wholeModel_98 : decode cX9_wholeModel 98 = .ok (.aload_n 0, 1) := by decide +kernel
theorem dX9_wholeModel_99 : decode cX9_wholeModel 99 = .ok (.invokevirtual 292, 3) := by decide +kernel
theorem dX9_wholeModel_102 : decode cX9_wholeModel 102 = .ok (.ifCond .ne (-13), 3) := by decide +kernel
theorem dX9_wholeModel_105 : decode cX9_wholeModel 105 = .ok (.iconst 0, 1) := by decide +kernel
theorem dX9_wholeModel_106 : decode cX9_wholeModel 106 = .ok (.ireturn, 1) := by decide +kernel
theorem dX9_wholeModel_107 : decode cX9_wholeModel 107 = .ok (.aload_n 0, 1) := by decide +kernel
theorem dX9_wholeModel_108 : decode cX9_wholeModel 108 = .ok (.invokevirtual 209, 3) := by decide +kernel
theorem dX9_wholeModel_111 : decode cX9_wholeModel 111 = .ok (.bipush 123, 2) := by decide +kernel
theorem dX9_wholeModel_113 : decode cX9_wholeModel 113 = .ok (.if_icmp .ne 48, 3) := by decide +kernel
theorem dX9_wholeModel_116 : decode cX9_wholeModel 116 = .ok (.aload_n 0, 1) := by decide +kernel
theorem dX9_wholeModel_117 : decode cX9_wholeModel 117 = .ok (.getfield 254, 3) := by decide +kernel
theorem dX9_wholeModel_120 : decode cX9_wholeModel 120 = .ok (.iconst 4, 1) := by decide +kernel
theorem dX9_wholeModel_121 : decode cX9_wholeModel 121 = .ok (.if_icmp .ne 8, 3) := by decide +kernel
theorem dX9_wholeModel_124 : decode cX9_wholeModel 124 = .ok (.aload_n 0, 1) := by decide +kernel
theorem dX9_wholeModel_125 : decode cX9_wholeModel 125 = .ok (.invokevirtual 213, 3) := by decide +kernel
theorem dX9_wholeModel_128 : decode cX9_wholeModel 128 = .ok (.ireturn, 1) := by decide +kernel
theorem dX9_wholeModel_129 : decode cX9_wholeModel 129 = .ok (.aload_n 0, 1) := by decide +kernel
theorem dX9_wholeModel_130 : decode cX9_wholeModel 130 = .ok (.dup, 1) := by decide +kernel
theorem dX9_wholeModel_131 : decode cX9_wholeModel 131 = .ok (.getfield 203, 3) := by decide +kernel
theorem dX9_wholeModel_134 : decode cX9_wholeModel 134 = .ok (.iconst 1, 1) := by decide +kernel
theorem dX9_wholeModel_135 : decode cX9_wholeModel 135 = .ok (.iadd, 1) := by decide +kernel
theorem dX9_wholeModel_136 : decode cX9_wholeModel 136 = .ok (.putfield 203, 3) := by decide +kernel
theorem dX9_wholeModel_139 : decode cX9_wholeModel 139 = .ok (.aload_n 0, 1) := by decide +kernel
theorem dX9_wholeModel_140 : decode cX9_wholeModel 140 = .ok (.invokevirtual 295, 3) := by decide +kernel
theorem dX9_wholeModel_143 : decode cX9_wholeModel 143 = .ok (.ifCond .ne 5, 3) := by decide +kernel
theorem dX9_wholeModel_146 : decode cX9_wholeModel 146 = .ok (.iconst 0, 1) := by decide +kernel
theorem dX9_wholeModel_147 : decode cX9_wholeModel 147 = .ok (.ireturn, 1) := by decide +kernel
theorem dX9_wholeModel_148 : decode cX9_wholeModel 148 = .ok (.aload_n 0, 1) := by decide +kernel
theorem dX9_wholeModel_149 : decode cX9_wholeModel 149 = .ok (.dup, 1) := by decide +kernel
theorem dX9_wholeModel_150 : decode cX9_wholeModel 150 = .ok (.getfield 254, 3) := by decide +kernel
theorem dX9_wholeModel_153 : decode cX9_wholeModel 153 = .ok (.iconst 1, 1) := by decide +kernel
theorem dX9_wholeModel_154 : decode cX9_wholeModel 154 = .ok (.iadd, 1) := by decide +kernel
theorem dX9_wholeModel_155 : decode cX9_wholeModel 155 = .ok (.putfield 254, 3) := by decide +kernel
theorem dX9_wholeModel_158 : decode cX9_wholeModel 158 = .ok (.goto (-51), 3) := by decide +kernel
theorem dX9_wholeModel_161 : decode cX9_wholeModel 161 = .ok (.aload_n 0, 1) := by decide +kernel
theorem dX9_wholeModel_162 : decode cX9_wholeModel 162 = .ok (.getfield 203, 3) := by decide +kernel
theorem dX9_wholeModel_165 : decode cX9_wholeModel 165 = .ok (.aload_n 0, 1) := by decide +kernel
theorem dX9_wholeModel_166 : decode cX9_wholeModel 166 = .ok (.getfield 200, 3) := by decide +kernel
theorem dX9_wholeModel_169 : decode cX9_wholeModel 169 = .ok (.if_icmp .eq 10, 3) := by decide +kernel
theorem dX9_wholeModel_172 : decode cX9_wholeModel 172 = .ok (.aload_n 0, 1) := by decide +kernel
theorem dX9_wholeModel_173 : decode cX9_wholeModel 173 = .ok (.invokevirtual 213, 3) := by decide +kernel
theorem dX9_wholeModel_176 : decode cX9_wholeModel 176 = .ok (.ifCond .eq 7, 3) := by decide +kernel
theorem dX9_wholeModel_179 : decode cX9_wholeModel 179 = .ok (.iconst 1, 1) := by decide +kernel
theorem dX9_wholeModel_180 : decode cX9_wholeModel 180 = .ok (.goto 4, 3) := by decide +kernel
theorem dX9_wholeModel_183 : decode cX9_wholeModel 183 = .ok (.iconst 0, 1) := by decide +kernel
theorem dX9_wholeModel_184 : decode cX9_wholeModel 184 = .ok (.ireturn, 1) := by decide +kernel
abbrev MX9_wholeModel : zT := (yX9_wholeModel, cX9_wholeModel, 2, (Option.some Jvm.ClassFile.FieldType.boolean), [])
theorem plX9_wholeModel : zplain MX9_wholeModel 0 ∧ (zcodeW MX9_wholeModel ∈ lw_all ∧ Cond.initialized MX9_wholeModel.1.cls ∈ lw_all) := ⟨⟨by decide +kernel, by decide +kernel⟩, q2153, q127⟩
noncomputable def f_X9_wholeModel_184 (t0 : Int) (σ : zM) : Option zO :=
  zgd (z01 t0) <|
  some (0, zi t0, σ)
theorem w_X9_wholeModel_184 {g : zG} {lv : Nat} {out : zO} (t0 : Int) (σ : zM) {r : zO} (h : f_X9_wholeModel_184 t0 σ = some r) (hk : (fun o : zO => o = out) r) : Gj g MX9_wholeModel (lv + 6) 184 [] [zi t0] σ out := by
  revert h
  unfold f_X9_wholeModel_184
  refine gb_gd (fun hb => ?_)
  intro h
  cases h
  have hk : (0, zi t0, σ) = out := hk
  subst hk
  exact gj_ret (pc := 184) (t := .boolean) dX9_wholeModel_184 rfl ⟨rfl, rfl⟩ (fun _ => z01E hb)
noncomputable def f_X9_wholeModel_179 (σ : zM) : Option zO :=
  f_X9_wholeModel_184 1 σ
theorem w_X9_wholeModel_179 {g : zG} {lv : Nat} {out : zO} (σ : zM) {r : zO} (h : f_X9_wholeModel_179  σ = some r) (hk : (fun o : zO => o = out) r) : Gj g MX9_wholeModel (lv + 6) 179 [] [] σ out := by
  revert h
  unfold f_X9_wholeModel_179
  refine zst_ (gj_iconst (pc := 179) dX9_wholeModel_179 (by decide)) ?_
  refine zst_ (gj_goto 184 (pc := 180) dX9_wholeModel_180 (by decide)) ?_
  exact fun h => w_X9_wholeModel_184 1 σ h hk
noncomputable def f_X9_wholeModel_161 (x0 : Int) (σ : zM) : Option zO :=
  (zgf σ 903 x0).bind fun v1 =>
  (zgf σ 901 x0).bind fun v2 =>
  if v1 = v2 then
    f_X9_wholeModel_179 σ
  else
    zgd (zis σ 10 x0) <|
    zci (f_X9_fail x0 σ) fun v3 σ4 =>
    if v3 = 0 then
      f_X9_wholeModel_184 0 σ4
    else
      f_X9_wholeModel_179 σ4
theorem w_X9_wholeModel_161 {g : zG} {lv : Nat} {out : zO} (x0 : Int) (σ : zM) {r : zO} (h : f_X9_wholeModel_161 x0 σ = some r) (hk : (fun o : zO => o = out) r) : Gj g MX9_wholeModel (lv + 6) 161 [(0, zr x0)] [] σ out := by
  revert h
  unfold f_X9_wholeModel_161
  refine zst_ (gj_aload_n 0 (pc := 161) dX9_wholeModel_161 rfl) ?_
  refine gb_get (pc := 162) fl903 dX9_wholeModel_162 q1885 (Or.inl rfl) (fun v1 => ?_)
  refine zst_ (gj_aload_n 0 (pc := 165) dX9_wholeModel_165 rfl) ?_
  refine gb_get (pc := 166) fl901 dX9_wholeModel_166 q1883 (Or.inl rfl) (fun v2 => ?_)
  refine gb_if (gj_icmp_eq 179 (pc := 169) dX9_wholeModel_169 (by decide)) ?_ ?_
  · refine zst_ (gj_sub [] rfl) ?_
    exact fun h => w_X9_wholeModel_179 σ h hk
  · refine zst_ (gj_aload_n 0 (pc := 172) dX9_wholeModel_172 rfl) ?_
    refine gb_gd (fun hb => ?_)
    refine gb_callI (pc := 173) (as := [zr x0]) (rest := []) (zCl.of (zLk_V (M := MX9_wholeModel) (ci := 9) (r := (RX9, TX9, 84)) plX9_fail.1 rfl rfl (zisE hb).1 (zisE hb).2 dX9_wholeModel_173 q2166 q2168 qs49 q2169) plX9_fail (Nat.le_of_ble_eq_true rfl) (fun h => c_X9_fail h)) (fun v3 σ4 => ?_)
    refine gb_if (gj_if_eq 183 (pc := 176) dX9_wholeModel_176 (by decide)) ?_ ?_
    · refine zst_ (gj_iconst (pc := 183) dX9_wholeModel_183 (by decide)) ?_
      refine zst_ (gj_sub [] rfl) ?_
      exact fun h => w_X9_wholeModel_184 0 σ4 h hk
    · refine zst_ (gj_sub [] rfl) ?_
      exact fun h => w_X9_wholeModel_179 σ4 h hk
noncomputable def f_X9_wholeModel_146 (σ : zM) : Option zO :=
  zgd (z01 0) <|
  some (0, zi 0, σ)
theorem w_X9_wholeModel_146 {g : zG} {lv : Nat} {out : zO} (σ : zM) {r : zO} (h : f_X9_wholeModel_146  σ = some r) (hk : (fun o : zO => o = out) r) : Gj g MX9_wholeModel (lv + 6) 146 [] [] σ out := by
  revert h
  unfold f_X9_wholeModel_146
  refine zst_ (gj_iconst (pc := 146) dX9_wholeModel_146 (by decide)) ?_
  refine gb_gd (fun hb => ?_)
  intro h
  cases h
  have hk : (0, zi 0, σ) = out := hk
  subst hk
  exact gj_ret (pc := 147) (t := .boolean) dX9_wholeModel_147 rfl ⟨rfl, rfl⟩ (fun _ => z01E hb)
noncomputable def f_X9_wholeModel_124 (x0 : Int) (σ : zM) : Option zO :=
  zgd (zis σ 10 x0) <|
  zci (f_X9_fail x0 σ) fun v1 σ2 =>
  zgd (z01 v1) <|
  some (0, zi v1, σ2)
theorem w_X9_wholeModel_124 {g : zG} {lv : Nat} {out : zO} (x0 : Int) (σ : zM) {r : zO} (h : f_X9_wholeModel_124 x0 σ = some r) (hk : (fun o : zO => o = out) r) : Gj g MX9_wholeModel (lv + 6) 124 [(0, zr x0)] [] σ out := by
  revert h
  unfold f_X9_wholeModel_124
  refine zst_ (gj_aload_n 0 (pc := 124) dX9_wholeModel_124 rfl) ?_
  refine gb_gd (fun hb => ?_)
  refine gb_callI (pc := 125) (as := [zr x0]) (rest := []) (zCl.of (zLk_V (M := MX9_wholeModel) (ci := 9) (r := (RX9, TX9, 84)) plX9_fail.1 rfl rfl (zisE hb).1 (zisE hb).2 dX9_wholeModel_125 q2166 q2168 qs49 q2169) plX9_fail (Nat.le_of_ble_eq_true rfl) (fun h => c_X9_fail h)) (fun v1 σ2 => ?_)
  refine gb_gd (fun hb => ?_)
  intro h
  cases h
  have hk : (0, zi v1, σ2) = out := hk
  subst hk
  exact gj_ret (pc := 128) (t := .boolean) dX9_wholeModel_128 rfl ⟨rfl, rfl⟩ (fun _ => z01E hb)
noncomputable def f_X9_wholeModel_107_b (x0 : Int) (σ : zM) : Option ((zM) ⊕ zO) :=
  zgd (zis σ 10 x0) <|
  zci (f_X9_here x0 σ) fun v1 σ2 =>
  if v1 ≠ 123 then
    (f_X9_wholeModel_161 x0 σ2).map (fun r => (.inr r))
  else
    (zgf σ2 930 x0).bind fun v3 =>
    if v3 ≠ 4 then
      (zgf σ2 903 x0).bind fun v4 =>
      (zpf σ2 903 x0 (zadd v4 1)).bind fun σ5 =>
      zgd (zis σ5 10 x0) <|
      zci (f_X9_body x0 σ5) fun v6 σ7 =>
      if v6 ≠ 0 then
        (zgf σ7 930 x0).bind fun v8 =>
        (zpf σ7 930 x0 (zadd v8 1)).bind fun σ9 =>
        some (.inl σ9)
      else
        (f_X9_wholeModel_146 σ7).map (fun r => (.inr r))
    else
      (f_X9_wholeModel_124 x0 σ2).map (fun r => (.inr r))
noncomputable def f_X9_wholeModel_107 (x0 : Int) (σ : zM) : Option zO :=
  zloop (fun s : zM => f_X9_wholeModel_107_b x0 s) σ
theorem w_X9_wholeModel_107_b {g : zG} {lv : Nat} {out : zO} (x0 : Int) (σ : zM) {r : ((zM) ⊕ zO)} (h : f_X9_wholeModel_107_b x0 σ = some r) (hk : (zKL (fun s : zM => Gj g MX9_wholeModel (lv + 6) 107 [(0, zr x0)] [] s out) (fun o : zO => o = out)) r) : Gj g MX9_wholeModel (lv + 6) 107 [(0, zr x0)] [] σ out := by
  revert h
  unfold f_X9_wholeModel_107_b
  refine zst_ (gj_aload_n 0 (pc := 107) dX9_wholeModel_107 rfl) ?_
  refine gb_gd (fun hb => ?_)
  refine gb_callI (pc := 108) (as := [zr x0]) (rest := []) (zCl.of (zLk_V (M := MX9_wholeModel) (ci := 9) (r := (RX9, TX9, 84)) plX9_here.1 rfl rfl (zisE hb).1 (zisE hb).2 dX9_wholeModel_108 q2154 q2156 qs46 q2157) plX9_here (Nat.le_of_ble_eq_true rfl) (fun h => c_X9_here h)) (fun v1 σ2 => ?_)
  refine zst_ (gj_bipush (pc := 111) dX9_wholeModel_111 ⟨rfl, by decide⟩) ?_
  refine gb_if (gj_icmp_ne 161 (pc := 113) dX9_wholeModel_113 (by decide)) ?_ ?_
  · intro h
    obtain ⟨r0, h0, rfl⟩ := zmE h
    exact w_X9_wholeModel_161 x0 σ2 h0 hk
  · refine zst_ (gj_aload_n 0 (pc := 116) dX9_wholeModel_116 rfl) ?_
    refine gb_get (pc := 117) fl930 dX9_wholeModel_117 q1912 (Or.inl rfl) (fun v3 => ?_)
    refine zst_ (gj_iconst (pc := 120) dX9_wholeModel_120 (by decide)) ?_
    refine gb_if (gj_icmp_ne 129 (pc := 121) dX9_wholeModel_121 (by decide)) ?_ ?_
    · refine zst_ (gj_aload_n 0 (pc := 129) dX9_wholeModel_129 rfl) ?_
      refine zst_ (gj_dup (pc := 130) dX9_wholeModel_130 rfl) ?_
      refine gb_get (pc := 131) fl903 dX9_wholeModel_131 q1885 (Or.inl rfl) (fun v4 => ?_)
      refine zst_ (gj_iconst (pc := 134) dX9_wholeModel_134 (by decide)) ?_
      refine zst_ (gj_iadd (pc := 135) dX9_wholeModel_135) ?_
      refine gb_put (pc := 136) fl903 fr903 dX9_wholeModel_136 q1885 (Or.inl rfl) (fun σ5 => ?_)
      refine zst_ (gj_aload_n 0 (pc := 139) dX9_wholeModel_139 rfl) ?_
      refine gb_gd (fun hb => ?_)
      refine gb_callI (pc := 140) (as := [zr x0]) (rest := []) (zCl.of (zLk_V (M := MX9_wholeModel) (ci := 9) (r := (RX9, TX9, 84)) plX9_body.1 rfl rfl (zisE hb).1 (zisE hb).2 dX9_wholeModel_140 q2174 q2176 qs51 q2177) plX9_body (Nat.le_of_ble_eq_true rfl) (fun h => c_X9_body h)) (fun v6 σ7 => ?_)
      refine gb_if (gj_if_ne 148 (pc := 143) dX9_wholeModel_143 (by decide)) ?_ ?_
      · refine zst_ (gj_aload_n 0 (pc := 148) dX9_wholeModel_148 rfl) ?_
        refine zst_ (gj_dup (pc := 149) dX9_wholeModel_149 rfl) ?_
        refine gb_get (pc := 150) fl930 dX9_wholeModel_150 q1912 (Or.inl rfl) (fun v8 => ?_)
        refine zst_ (gj_iconst (pc := 153) dX9_wholeModel_153 (by decide)) ?_
        refine zst_ (gj_iadd (pc := 154) dX9_wholeModel_154) ?_
        refine gb_put (pc := 155) fl930 fr930 dX9_wholeModel_155 q1912 (Or.inl rfl) (fun σ9 => ?_)
        refine zst_ (gj_goto 107 (pc := 158) dX9_wholeModel_158 (by decide)) ?_
        intro h
        cases h
        exact hk
      · refine zst_ (gj_sub [] rfl) ?_
        intro h
        obtain ⟨r0, h0, rfl⟩ := zmE h
        exact w_X9_wholeModel_146 σ7 h0 hk
    · intro h
      obtain ⟨r0, h0, rfl⟩ := zmE h
      exact w_X9_wholeModel_124 x0 σ2 h0 hk
theorem w_X9_wholeModel_107 {g : zG} {lv : Nat} {out : zO} (x0 : Int) (σ : zM) {r : zO} (h : f_X9_wholeModel_107 x0 σ = some r) (hk : (fun o : zO => o = out) r) : Gj g MX9_wholeModel (lv + 6) 107 [(0, zr x0)] [] σ out :=
  gj_loop (P := (fun s : zM => Gj g MX9_wholeModel (lv + 6) 107 [(0, zr x0)] [] s out)) (fun s x hb hx => w_X9_wholeModel_107_b x0 s hb hx) h hk
noncomputable def f_X9_wholeModel_105 (σ : zM) : Option zO :=
  zgd (z01 0) <|
  some (0, zi 0, σ)
theorem w_X9_wholeModel_105 {g : zG} {lv : Nat} {out : zO} (σ : zM) {r : zO} (h : f_X9_wholeModel_105  σ = some r) (hk : (fun o : zO => o = out) r) : Gj g MX9_wholeModel (lv + 6) 105 [] [] σ out := by
  revert h
  unfold f_X9_wholeModel_105
  refine zst_ (gj_iconst (pc := 105) dX9_wholeModel_105 (by decide)) ?_
  refine gb_gd (fun hb => ?_)
  intro h
  cases h
  have hk : (0, zi 0, σ) = out := hk
  subst hk
  exact gj_ret (pc := 106) (t := .boolean) dX9_wholeModel_106 rfl ⟨rfl, rfl⟩ (fun _ => z01E hb)
noncomputable def f_X9_wholeModel_89_b (x0 : Int) (σ : zM) : Option ((zM) ⊕ zO) :=
  zgd (zis σ 10 x0) <|
  zci (f_X9_here x0 σ) fun v1 σ2 =>
  if v1 = 123 then
    (f_X9_wholeModel_107 x0 σ2).map (fun r => (.inr r))
  else
    zgd (zis σ2 10 x0) <|
    zci (f_X9_declaration x0 σ2) fun v3 σ4 =>
    if v3 ≠ 0 then
      some (.inl σ4)
    else
      (f_X9_wholeModel_105 σ4).map (fun r => (.inr r))
noncomputable def f_X9_wholeModel_89 (x0 : Int) (σ : zM) : Option zO :=
  zloop (fun s : zM => f_X9_wholeModel_89_b x0 s) σ
theorem w_X9_wholeModel_89_b {g : zG} {lv : Nat} {out : zO} (x0 : Int) (σ : zM) {r : ((zM) ⊕ zO)} (h : f_X9_wholeModel_89_b x0 σ = some r) (hk : (zKL (fun s : zM => Gj g MX9_wholeModel (lv + 6) 89 [(0, zr x0)] [] s out) (fun o : zO => o = out)) r) : Gj g MX9_wholeModel (lv + 6) 89 [(0, zr x0)] [] σ out := by
  revert h
  unfold f_X9_wholeModel_89_b
  refine zst_ (gj_aload_n 0 (pc := 89) dX9_wholeModel_89 rfl) ?_
  refine gb_gd (fun hb => ?_)
  refine gb_callI (pc := 90) (as := [zr x0]) (rest := []) (zCl.of (zLk_V (M := MX9_wholeModel) (ci := 9) (r := (RX9, TX9, 84)) plX9_here.1 rfl rfl (zisE hb).1 (zisE hb).2 dX9_wholeModel_90 q2154 q2156 qs46 q2157) plX9_here (Nat.le_of_ble_eq_true rfl) (fun h => c_X9_here h)) (fun v1 σ2 => ?_)
  refine zst_ (gj_bipush (pc := 93) dX9_wholeModel_93 ⟨rfl, by decide⟩) ?_
  refine gb_if (gj_icmp_eq 107 (pc := 95) dX9_wholeModel_95 (by decide)) ?_ ?_
  · intro h
    obtain ⟨r0, h0, rfl⟩ := zmE h
    exact w_X9_wholeModel_107 x0 σ2 h0 hk
  · refine zst_ (gj_aload_n 0 (pc := 98) dX9_wholeModel_98 rfl) ?_
    refine gb_gd (fun hb => ?_)
    refine gb_callI (pc := 99) (as := [zr x0]) (rest := []) (zCl.of (zLk_V (M := MX9_wholeModel) (ci := 9) (r := (RX9, TX9, 84)) plX9_declaration.1 rfl rfl (zisE hb).1 (zisE hb).2 dX9_wholeModel_99 q2158 q2160 qs47 q2161) plX9_declaration (Nat.le_of_ble_eq_true rfl) (fun h => c_X9_declaration h)) (fun v3 σ4 => ?_)
    refine gb_if (gj_if_ne 89 (pc := 102) dX9_wholeModel_102 (by decide)) ?_ ?_
    · intro h
      cases h
      exact hk
    · refine zst_ (gj_sub [] rfl) ?_
      intro h
      obtain ⟨r0, h0, rfl⟩ := zmE h
      exact w_X9_wholeModel_105 σ4 h0 hk
theorem w_X9_wholeModel_89 {g : zG} {lv : Nat} {out : zO} (x0 : Int) (σ : zM) {r : zO} (h : f_X9_wholeModel_89 x0 σ = some r) (hk : (fun o : zO => o = out) r) : Gj g MX9_wholeModel (lv + 6) 89 [(0, zr x0)] [] σ out :=
  gj_loop (P := (fun s : zM => Gj g MX9_wholeModel (lv + 6) 89 [(0, zr x0)] [] s out)) (fun s x hb hx => w_X9_wholeModel_89_b x0 s hb hx) h hk
noncomputable def f_X9_wholeModel_70_b (x0 x1 : Int) (σ : zM) : Option ((Int × zM) ⊕ zO) :=
  if 32 ≤ x1 then
    (f_X9_wholeModel_89 x0 σ).map (fun r => (.inr r))
  else
    (zgf σ 933 x0).bind fun v1 =>
    (zpa σ 101 v1 x1 (-1)).bind fun σ2 =>
    zlet (zadd x1 1) fun y3 =>
    some (.inl (y3, σ2))
noncomputable def f_X9_wholeModel_70 (x0 x1 : Int) (σ : zM) : Option zO :=
  zloop (fun s : Int × zM => f_X9_wholeModel_70_b x0 s.1 s.2) (x1, σ)
theorem w_X9_wholeModel_70_b {g : zG} {lv : Nat} {out : zO} (x0 x1 : Int) (σ : zM) {r : ((Int × zM) ⊕ zO)} (h : f_X9_wholeModel_70_b x0 x1 σ = some r) (hk : (zKL (fun s : Int × zM => Gj g MX9_wholeModel (lv + 6) 70 [(0, zr x0), (1, zi s.1)] [] s.2 out) (fun o : zO => o = out)) r) : Gj g MX9_wholeModel (lv + 6) 70 [(0, zr x0), (1, zi x1)] [] σ out := by
  revert h
  unfold f_X9_wholeModel_70_b
  refine zst_ (gj_iload_n 1 (pc := 70) dX9_wholeModel_70 rfl) ?_
  refine zst_ (gj_bipush (pc := 71) dX9_wholeModel_71 ⟨rfl, by decide⟩) ?_
  refine gb_if (gj_icmp_ge 89 (pc := 73) dX9_wholeModel_73 (by decide)) ?_ ?_
  · refine zst_ (gj_sub [0] rfl) ?_
    intro h
    obtain ⟨r0, h0, rfl⟩ := zmE h
    exact w_X9_wholeModel_89 x0 σ h0 hk
  · refine zst_ (gj_aload_n 0 (pc := 76) dX9_wholeModel_76 rfl) ?_
    refine gb_get (pc := 77) fl933 dX9_wholeModel_77 q1915 (Or.inl rfl) (fun v1 => ?_)
    refine zst_ (gj_iload_n 1 (pc := 80) dX9_wholeModel_80 rfl) ?_
    refine zst_ (gj_iconst (pc := 81) dX9_wholeModel_81 (by decide)) ?_
    refine gb_iast (pc := 82) dX9_wholeModel_82 (fun σ2 => ?_)
    refine gb_iinc (pc := 83) 1 (fun y3 => [(1, zi y3), (0, zr x0)]) dX9_wholeModel_83 rfl (by decide) (fun _ => rfl) (fun y3 => ?_)
    refine zst_ (gj_goto 70 (pc := 86) dX9_wholeModel_86 (by decide)) ?_
    refine zst_ (gj_sub [1, 0] rfl) ?_
    intro h
    cases h
    exact hk
theorem w_X9_wholeModel_70 {g : zG} {lv : Nat} {out : zO} (x0 x1 : Int) (σ : zM) {r : zO} (h : f_X9_wholeModel_70 x0 x1 σ = some r) (hk : (fun o : zO => o = out) r) : Gj g MX9_wholeModel (lv + 6) 70 [(0, zr x0), (1, zi x1)] [] σ out :=
  gj_loop (P := (fun s : Int × zM => Gj g MX9_wholeModel (lv + 6) 70 [(0, zr x0), (1, zi s.1)] [] s.2 out)) (fun s x hb hx => w_X9_wholeModel_70_b x0 s.1 s.2 hb hx) h hk
noncomputable def f_X9_wholeModel_68 (x0 : Int) (σ : zM) : Option zO :=
  f_X9_wholeModel_70 x0 0 σ
theorem w_X9_wholeModel_68 {g : zG} {lv : Nat} {out : zO} (x0 : Int) (σ : zM) {r : zO} (h : f_X9_wholeModel_68 x0 σ = some r) (hk : (fun o : zO => o = out) r) : Gj g MX9_wholeModel (lv + 6) 68 [(0, zr x0)] [] σ out := by
  revert h
  unfold f_X9_wholeModel_68
  refine zst_ (gj_iconst (pc := 68) dX9_wholeModel_68 (by decide)) ?_
  refine zst_ (gj_istore_n (pc := 69) (ls' := [(1, zi 0), (0, zr x0)]) dX9_wholeModel_69 (by decide) rfl) ?_
  refine zst_ (gj_sub [1, 0] rfl) ?_
  exact fun h => w_X9_wholeModel_70 x0 0 σ h hk
noncomputable def f_X9_wholeModel_42_b (x0 x1 : Int) (σ : zM) : Option ((Int × zM) ⊕ zO) :=
  if 8 ≤ x1 then
    (f_X9_wholeModel_68 x0 σ).map (fun r => (.inr r))
  else
    (zgf σ 909 x0).bind fun v1 =>
    (zpa σ 101 v1 x1 (-1)).bind fun σ2 =>
    (zgf σ2 910 x0).bind fun v3 =>
    (zpa σ2 101 v3 x1 (-1)).bind fun σ4 =>
    zlet (zadd x1 1) fun y5 =>
    some (.inl (y5, σ4))
noncomputable def f_X9_wholeModel_42 (x0 x1 : Int) (σ : zM) : Option zO :=
  zloop (fun s : Int × zM => f_X9_wholeModel_42_b x0 s.1 s.2) (x1, σ)
theorem w_X9_wholeModel_42_b {g : zG} {lv : Nat} {out : zO} (x0 x1 : Int) (σ : zM) {r : ((Int × zM) ⊕ zO)} (h : f_X9_wholeModel_42_b x0 x1 σ = some r) (hk : (zKL (fun s : Int × zM => Gj g MX9_wholeModel (lv + 6) 42 [(0, zr x0), (1, zi s.1)] [] s.2 out) (fun o : zO => o = out)) r) : Gj g MX9_wholeModel (lv + 6) 42 [(0, zr x0), (1, zi x1)] [] σ out := by
  revert h
  unfold f_X9_wholeModel_42_b
  refine zst_ (gj_iload_n 1 (pc := 42) dX9_wholeModel_42 rfl) ?_
  refine zst_ (gj_bipush (pc := 43) dX9_wholeModel_43 ⟨rfl, by decide⟩) ?_
  refine gb_if (gj_icmp_ge 68 (pc := 45) dX9_wholeModel_45 (by decide)) ?_ ?_
  · refine zst_ (gj_sub [0] rfl) ?_
    intro h
    obtain ⟨r0, h0, rfl⟩ := zmE h
    exact w_X9_wholeModel_68 x0 σ h0 hk
  · refine zst_ (gj_aload_n 0 (pc := 48) dX9_wholeModel_48 rfl) ?_
    refine gb_get (pc := 49) fl909 dX9_wholeModel_49 q1891 (Or.inl rfl) (fun v1 => ?_)
    refine zst_ (gj_iload_n 1 (pc := 52) dX9_wholeModel_52 rfl) ?_
    refine zst_ (gj_iconst (pc := 53) dX9_wholeModel_53 (by decide)) ?_
    refine gb_iast (pc := 54) dX9_wholeModel_54 (fun σ2 => ?_)
    refine zst_ (gj_aload_n 0 (pc := 55) dX9_wholeModel_55 rfl) ?_
    refine gb_get (pc := 56) fl910 dX9_wholeModel_56 q1892 (Or.inl rfl) (fun v3 => ?_)
    refine zst_ (gj_iload_n 1 (pc := 59) dX9_wholeModel_59 rfl) ?_
    refine zst_ (gj_iconst (pc := 60) dX9_wholeModel_60 (by decide)) ?_
    refine gb_iast (pc := 61) dX9_wholeModel_61 (fun σ4 => ?_)
    refine gb_iinc (pc := 62) 1 (fun y5 => [(1, zi y5), (0, zr x0)]) dX9_wholeModel_62 rfl (by decide) (fun _ => rfl) (fun y5 => ?_)
    refine zst_ (gj_goto 42 (pc := 65) dX9_wholeModel_65 (by decide)) ?_
    refine zst_ (gj_sub [1, 0] rfl) ?_
    intro h
    cases h
    exact hk
theorem w_X9_wholeModel_42 {g : zG} {lv : Nat} {out : zO} (x0 x1 : Int) (σ : zM) {r : zO} (h : f_X9_wholeModel_42 x0 x1 σ = some r) (hk : (fun o : zO => o = out) r) : Gj g MX9_wholeModel (lv + 6) 42 [(0, zr x0), (1, zi x1)] [] σ out :=
  gj_loop (P := (fun s : Int × zM => Gj g MX9_wholeModel (lv + 6) 42 [(0, zr x0), (1, zi s.1)] [] s.2 out)) (fun s x hb hx => w_X9_wholeModel_42_b x0 s.1 s.2 hb hx) h hk
noncomputable def f_X9_wholeModel (x0 : Int) (σ : zM) : Option zO :=
  (zpf σ 903 x0 0).bind fun σ1 =>
  (zpf σ1 904 x0 (-1)).bind fun σ2 =>
  (zpf σ2 907 x0 0).bind fun σ3 =>
  (zpf σ3 908 x0 0).bind fun σ4 =>
  (zpf σ4 913 x0 0).bind fun σ5 =>
  (zpf σ5 927 x0 0).bind fun σ6 =>
  (zpf σ6 930 x0 0).bind fun σ7 =>
  (zpf σ7 936 x0 0).bind fun σ8 =>
  f_X9_wholeModel_42 x0 0 σ8
theorem c_X9_wholeModel {g : zG} {lv : Nat} {x0 : Int} {σ : zM} {out : zO} (h : f_X9_wholeModel x0 σ = some out) : Cj g (lv + 6) MX9_wholeModel [zr x0] σ out := by
  refine cj_go (ls := [(0, zr x0)]) (by decide) (Nat.le_of_ble_eq_true rfl) rfl (zgen h (fun r hk => ?_))
  unfold f_X9_wholeModel
  refine zst_ (gj_aload_n 0 (pc := 0) dX9_wholeModel_0 rfl) ?_
  refine zst_ (gj_iconst (pc := 1) dX9_wholeModel_1 (by decide)) ?_
  refine gb_put (pc := 2) fl903 fr903 dX9_wholeModel_2 q1885 (Or.inl rfl) (fun σ1 => ?_)
  refine zst_ (gj_aload_n 0 (pc := 5) dX9_wholeModel_5 rfl) ?_
  refine zst_ (gj_iconst (pc := 6) dX9_wholeModel_6 (by decide)) ?_
  refine gb_put (pc := 7) fl904 fr904 dX9_wholeModel_7 q1886 (Or.inl rfl) (fun σ2 => ?_)
  refine zst_ (gj_aload_n 0 (pc := 10) dX9_wholeModel_10 rfl) ?_
  refine zst_ (gj_iconst (pc := 11) dX9_wholeModel_11 (by decide)) ?_
  refine gb_put (pc := 12) fl907 fr907 dX9_wholeModel_12 q1889 (Or.inl rfl) (fun σ3 => ?_)
  refine zst_ (gj_aload_n 0 (pc := 15) dX9_wholeModel_15 rfl) ?_
  refine zst_ (gj_iconst (pc := 16) dX9_wholeModel_16 (by decide)) ?_
  refine gb_put (pc := 17) fl908 fr908 dX9_wholeModel_17 q1890 (Or.inl rfl) (fun σ4 => ?_)
  refine zst_ (gj_aload_n 0 (pc := 20) dX9_wholeModel_20 rfl) ?_
  refine zst_ (gj_iconst (pc := 21) dX9_wholeModel_21 (by decide)) ?_
  refine gb_put (pc := 22) fl913 fr913 dX9_wholeModel_22 q1895 (Or.inl rfl) (fun σ5 => ?_)
  refine zst_ (gj_aload_n 0 (pc := 25) dX9_wholeModel_25 rfl) ?_
  refine zst_ (gj_iconst (pc := 26) dX9_wholeModel_26 (by decide)) ?_
  refine gb_put (pc := 27) fl927 fr927 dX9_wholeModel_27 q1909 (Or.inl rfl) (fun σ6 => ?_)
  refine zst_ (gj_aload_n 0 (pc := 30) dX9_wholeModel_30 rfl) ?_
  refine zst_ (gj_iconst (pc := 31) dX9_wholeModel_31 (by decide)) ?_
  refine gb_put (pc := 32) fl930 fr930 dX9_wholeModel_32 q1912 (Or.inl rfl) (fun σ7 => ?_)
  refine zst_ (gj_aload_n 0 (pc := 35) dX9_wholeModel_35 rfl) ?_
  refine zst_ (gj_iconst (pc := 36) dX9_wholeModel_36 (by decide)) ?_
  refine gb_put (pc := 37) fl936 fr936 dX9_wholeModel_37 q1918 (Or.inl rfl) (fun σ8 => ?_)
  refine zst_ (gj_iconst (pc := 40) dX9_wholeModel_40 (by decide)) ?_
  refine zst_ (gj_istore_n (pc := 41) (ls' := [(1, zi 0), (0, zr x0)]) dX9_wholeModel_41 (by decide) rfl) ?_
  refine zst_ (gj_sub [1, 0] rfl) ?_
  exact fun h => w_X9_wholeModel_42 x0 0 σ8 h hk
theorem q2236 : (Jvm.Cond.code ({ cls := "LassoFinderModel", name := "pointOf", desc := "(II)I" } : Jvm.MethodName) prog_22_method_26_code (3 : Nat) (Option.some Jvm.ClassFile.FieldType.int)) ∈ lw_all := lw_g (lw_at lw_m9 216 rfl) rfl
abbrev cX9_pointOf : ByteArray := prog_22_method_26_code
def yX9_pointOf : MethodName := ⟨RX9, "pointOf", "(II)I"⟩
theorem dX9_pointOf_0 : decode cX9_pointOf 0 = .ok (.iload_n 2, 1) := by decide +kernel
theorem dX9_pointOf_1 : decode cX9_pointOf 1 = .ok (.ifCond .ge 12, 3) := by decide +kernel
theorem dX9_pointOf_4 : decode cX9_pointOf 4 = .ok (.aload_n 0, 1) := by decide +kernel
theorem dX9_pointOf_5 : decode cX9_pointOf 5 = .ok (.getfield 75, 3) := by decide +kernel
theorem dX9_pointOf_8 : decode cX9_pointOf 8 = .ok (.iload_n 1, 1) := by decide +kernel
theorem dX9_pointOf_9 : decode cX9_pointOf 9 = .ok (.iaload, 1) := by decide +kernel
theorem dX9_pointOf_10 : decode cX9_pointOf 10 = .ok (.goto 9, 3) := by decide +kernel
theorem dX9_pointOf_13 : decode cX9_pointOf 13 = .ok (.aload_n 0, 1) := by decide +kernel
theorem dX9_pointOf_14 : decode cX9_pointOf 14 = .ok (.getfield 48, 3) := by decide +kernel
theorem dX9_pointOf_17 : decode cX9_pointOf 17 = .ok (.iload_n 2, 1) := by decide +kernel
theorem dX9_pointOf_18 : decode cX9_pointOf 18 = .ok (.iaload, 1) := by decide +kernel
theorem dX9_pointOf_19 : decode cX9_pointOf 19 = .ok (.ireturn, 1) := by decide +kernel
abbrev MX9_pointOf : zT := (yX9_pointOf, cX9_pointOf, 3, (Option.some Jvm.ClassFile.FieldType.int), [])
theorem plX9_pointOf : zplain MX9_pointOf 2 ∧ (zcodeW MX9_pointOf ∈ lw_all ∧ Cond.initialized MX9_pointOf.1.cls ∈ lw_all) := ⟨⟨by decide +kernel, by decide +kernel⟩, q2236, q127⟩
noncomputable def f_X9_pointOf_19 (t0 : Int) (σ : zM) : Option zO :=
  some (0, zi t0, σ)
theorem w_X9_pointOf_19 {g : zG} {lv : Nat} {out : zO} (t0 : Int) (σ : zM) {r : zO} (h : f_X9_pointOf_19 t0 σ = some r) (hk : (fun o : zO => o = out) r) : Gj g MX9_pointOf (lv) 19 [] [zi t0] σ out := by
  revert h
  unfold f_X9_pointOf_19
  intro h
  cases h
  have hk : (0, zi t0, σ) = out := hk
  subst hk
  exact gj_ret (pc := 19) (t := .int) dX9_pointOf_19 rfl ⟨rfl, rfl⟩ (fun h => h)
noncomputable def f_X9_pointOf (x0 x1 x2 : Int) (σ : zM) : Option zO :=
  if 0 ≤ x2 then
    (zgf σ 920 x0).bind fun v1 =>
    (zga σ 101 v1 x2).bind fun v2 =>
    f_X9_pointOf_19 v2 σ
  else
    (zgf σ 931 x0).bind fun v3 =>
    (zga σ 101 v3 x1).bind fun v4 =>
    f_X9_pointOf_19 v4 σ
theorem c_X9_pointOf {g : zG} {lv : Nat} {x0 x1 x2 : Int} {σ : zM} {out : zO} (h : f_X9_pointOf x0 x1 x2 σ = some out) : Cj g (lv) MX9_pointOf [zr x0, zi x1, zi x2] σ out := by
  refine cj_go (ls := [(0, zr x0), (1, zi x1), (2, zi x2)]) (by decide) (Nat.le_of_ble_eq_true rfl) rfl (zgen h (fun r hk => ?_))
  unfold f_X9_pointOf
  refine zst_ (gj_iload_n 2 (pc := 0) dX9_pointOf_0 rfl) ?_
  refine gb_if (gj_if_ge 13 (pc := 1) dX9_pointOf_1 (by decide)) ?_ ?_
  · refine zst_ (gj_aload_n 0 (pc := 13) dX9_pointOf_13 rfl) ?_
    refine gb_get (pc := 14) fl920 dX9_pointOf_14 q1902 (Or.inl rfl) (fun v1 => ?_)
    refine zst_ (gj_iload_n 2 (pc := 17) dX9_pointOf_17 rfl) ?_
    refine gb_iald (pc := 18) dX9_pointOf_18 (fun v2 => ?_)
    refine zst_ (gj_sub [] rfl) ?_
    exact fun h => w_X9_pointOf_19 v2 σ h hk
  · refine zst_ (gj_aload_n 0 (pc := 4) dX9_pointOf_4 rfl) ?_
    refine gb_get (pc := 5) fl931 dX9_pointOf_5 q1913 (Or.inl rfl) (fun v3 => ?_)
    refine zst_ (gj_iload_n 1 (pc := 8) dX9_pointOf_8 rfl) ?_
    refine gb_iald (pc := 9) dX9_pointOf_9 (fun v4 => ?_)
    refine zst_ (gj_goto 19 (pc := 10) dX9_pointOf_10 (by decide)) ?_
    refine zst_ (gj_sub [] rfl) ?_
    exact fun h => w_X9_pointOf_19 v4 σ h hk
theorem q2232 : (Jvm.Cond.code ({ cls := "LassoFinderModel", name := "link", desc := "()V" } : Jvm.MethodName) prog_22_method_27_code (4 : Nat) (Option.none : Option Jvm.ClassFile.FieldType)) ∈ lw_all := lw_g (lw_at lw_m9 212 rfl) rfl
theorem q2233 : (Jvm.Cond.methodLink "LassoFinderModel" (298 : Nat) ({ cls := "LassoFinderModel", name := "pointOf", desc := "(II)I" } : Jvm.MethodName)) ∈ lw_all := lw_g (lw_at lw_m9 213 rfl) rfl
theorem q2235 : (Jvm.Cond.instanceMethod ({ cls := "LassoFinderModel", name := "pointOf", desc := "(II)I" } : Jvm.MethodName)) ∈ lw_all := lw_g (lw_at lw_m9 215 rfl) rfl
abbrev cX9_link : ByteArray := prog_22_method_27_code
def yX9_link : MethodName := ⟨RX9, "link", "()V"⟩
theorem dX9_link_0 : decode cX9_link 0 = .ok (.iconst 0, 1) := by decide +kernel
theorem dX9_link_1 : decode cX9_link 1 = .ok (.istore_n 1, 1) := by decide +kernel
theorem dX9_link_2 : decode cX9_link 2 = .ok (.iload_n 1, 1) := by decide +kernel
theorem dX9_link_3 : decode cX9_link 3 = .ok (.bipush 124, 2) := by decide +kernel
theorem dX9_link_5 : decode cX9_link 5 = .ok (.if_icmp .ge 16, 3) := by decide +kernel
theorem dX9_link_8 : decode cX9_link 8 = .ok (.aload_n 0, 1) := by decide +kernel
theorem dX9_link_9 : decode cX9_link 9 = .ok (.getfield 87, 3) := by decide +kernel
theorem dX9_link_12 : decode cX9_link 12 = .ok (.iload_n 1, 1) := by decide +kernel
theorem dX9_link_13 : decode cX9_link 13 = .ok (.lconst 0, 1) := by decide +kernel
theorem dX9_link_14 : decode cX9_link 14 = .ok (.lastore, 1) := by decide +kernel
theorem dX9_link_15 : decode cX9_link 15 = .ok (.iinc 1 1, 3) := by decide +kernel
theorem dX9_link_18 : decode cX9_link 18 = .ok (.goto (-16), 3) := by decide +kernel
theorem dX9_link_21 : decode cX9_link 21 = .ok (.iconst 0, 1) := by decide +kernel
theorem dX9_link_22 : decode cX9_link 22 = .ok (.istore_n 1, 1) := by decide +kernel
theorem dX9_link_23 : decode cX9_link 23 = .ok (.iload_n 1, 1) := by decide +kernel
theorem dX9_link_24 : decode cX9_link 24 = .ok (.aload_n 0, 1) := by decide +kernel
theorem dX9_link_25 : decode cX9_link 25 = .ok (.getfield 257, 3) := by decide +kernel
theorem dX9_link_28 : decode cX9_link 28 = .ok (.if_icmp .ge 136, 3) := by decide +kernel
theorem dX9_link_31 : decode cX9_link 31 = .ok (.aload_n 0, 1) := by decide +kernel
theorem dX9_link_32 : decode cX9_link 32 = .ok (.getfield 69, 3) := by decide +kernel
theorem dX9_link_35 : decode cX9_link 35 = .ok (.iload_n 1, 1) := by decide +kernel
theorem dX9_link_36 : decode cX9_link 36 = .ok (.iaload, 1) := by decide +kernel
theorem dX9_link_37 : decode cX9_link 37 = .ok (.istore_n 2, 1) := by decide +kernel
theorem dX9_link_38 : decode cX9_link 38 = .ok (.aload_n 0, 1) := by decide +kernel
theorem dX9_link_39 : decode cX9_link 39 = .ok (.getfield 66, 3) := by decide +kernel
theorem dX9_link_42 : decode cX9_link 42 = .ok (.iload_n 2, 1) := by decide +kernel
theorem dX9_link_43 : decode cX9_link 43 = .ok (.aload_n 0, 1) := by decide +kernel
theorem dX9_link_44 : decode cX9_link 44 = .ok (.aload_n 0, 1) := by decide +kernel
theorem dX9_link_45 : decode cX9_link 45 = .ok (.getfield 32, 3) := by decide +kernel
theorem dX9_link_48 : decode cX9_link 48 = .ok (.iload_n 2, 1) := by decide +kernel
theorem dX9_link_49 : decode cX9_link 49 = .ok (.iaload, 1) := by decide +kernel
theorem dX9_link_50 : decode cX9_link 50 = .ok (.aload_n 0, 1) := by decide +kernel
theorem dX9_link_51 : decode cX9_link 51 = .ok (.aload_n 0, 1) := by decide +kernel
theorem dX9_link_52 : decode cX9_link 52 = .ok (.iload_n 2, 1) := by decide +kernel
theorem dX9_link_53 : decode cX9_link 53 = .ok (.invokevirtual 277, 3) := by decide +kernel
theorem dX9_link_56 : decode cX9_link 56 = .ok (.invokevirtual 280, 3) := by decide +kernel
theorem dX9_link_59 : decode cX9_link 59 = .ok (.invokevirtual 298, 3) := by decide +kernel
theorem dX9_link_62 : decode cX9_link 62 = .ok (.iastore, 1) := by decide +kernel
theorem dX9_link_63 : decode cX9_link 63 = .ok (.iload_n 2, 1) := by decide +kernel
theorem dX9_link_64 : decode cX9_link 64 = .ok (.istore_n 3, 1) := by decide +kernel
theorem dX9_link_65 : decode cX9_link 65 = .ok (.aload_n 0, 1) := by decide +kernel
theorem dX9_link_66 : decode cX9_link 66 = .ok (.getfield 87, 3) := by decide +kernel
theorem dX9_link_69 : decode cX9_link 69 = .ok (.bipush 31, 2) := by decide +kernel
theorem dX9_link_71 : decode cX9_link 71 = .ok (.aload_n 0, 1) := by decide +kernel
theorem dX9_link_72 : decode cX9_link 72 = .ok (.getfield 32, 3) := by decide +kernel
theorem dX9_link_75 : decode cX9_link 75 = .ok (.iload_n 2, 1) := by decide +kernel
theorem dX9_link_76 : decode cX9_link 76 = .ok (.iaload, 1) := by decide +kernel
theorem dX9_link_77 : decode cX9_link 77 = .ok (.imul, 1) := by decide +kernel
theorem dX9_link_78 : decode cX9_link 78 = .ok (.aload_n 0, 1) := by decide +kernel
theorem dX9_link_79 : decode cX9_link 79 = .ok (.getfield 48, 3) := by decide +kernel
theorem dX9_link_82 : decode cX9_link 82 = .ok (.iload_n 3, 1) := by decide +kernel
theorem dX9_link_83 : decode cX9_link 83 = .ok (.iaload, 1) := by decide +kernel
theorem dX9_link_84 : decode cX9_link 84 = .ok (.iadd, 1) := by decide +kernel
theorem dX9_link_85 : decode cX9_link 85 = .ok (.dup2, 1) := by decide +kernel
theorem dX9_link_86 : decode cX9_link 86 = .ok (.laload, 1) := by decide +kernel
theorem dX9_link_87 : decode cX9_link 87 = .ok (.lconst 1, 1) := by decide +kernel
theorem dX9_link_88 : decode cX9_link 88 = .ok (.iload_n 1, 1) := by decide +kernel
theorem dX9_link_89 : decode cX9_link 89 = .ok (.lshl, 1) := by decide +kernel
theorem dX9_link_90 : decode cX9_link 90 = .ok (.lor, 1) := by decide +kernel
theorem dX9_link_91 : decode cX9_link 91 = .ok (.lastore, 1) := by decide +kernel
theorem dX9_link_92 : decode cX9_link 92 = .ok (.aload_n 0, 1) := by decide +kernel
theorem dX9_link_93 : decode cX9_link 93 = .ok (.getfield 41, 3) := by decide +kernel
theorem dX9_link_96 : decode cX9_link 96 = .ok (.iload_n 3, 1) := by decide +kernel
theorem dX9_link_97 : decode cX9_link 97 = .ok (.baload, 1) := by decide +kernel
theorem dX9_link_98 : decode cX9_link 98 = .ok (.ifCond .eq 60, 3) := by decide +kernel
theorem dX9_link_101 : decode cX9_link 101 = .ok (.aload_n 0, 1) := by decide +kernel
theorem dX9_link_102 : decode cX9_link 102 = .ok (.getfield 35, 3) := by decide +kernel
theorem dX9_link_105 : decode cX9_link 105 = .ok (.iload_n 3, 1) := by decide +kernel
theorem dX9_link_106 : decode cX9_link 106 = .ok (.iaload, 1) := by decide +kernel
theorem dX9_link_107 : decode cX9_link 107 = .ok (.ifCond .lt 51, 3) := by decide +kernel
theorem dX9_link_110 : decode cX9_link 110 = .ok (.aload_n 0, 1) := by decide +kernel
theorem dX9_link_111 : decode cX9_link 111 = .ok (.getfield 35, 3) := by decide +kernel
theorem dX9_link_114 : decode cX9_link 114 = .ok (.iload_n 3, 1) := by decide +kernel
theorem dX9_link_115 : decode cX9_link 115 = .ok (.iaload, 1) := by decide +kernel
theorem dX9_link_116 : decode cX9_link 116 = .ok (.istore_n 3, 1) := by decide +kernel
theorem dX9_link_117 : decode cX9_link 117 = .ok (.aload_n 0, 1) := by decide +kernel
theorem dX9_link_118 : decode cX9_link 118 = .ok (.getfield 29, 3) := by decide +kernel
theorem dX9_link_121 : decode cX9_link 121 = .ok (.iload_n 3, 1) := by decide +kernel
theorem dX9_link_122 : decode cX9_link 122 = .ok (.iaload, 1) := by decide +kernel
theorem dX9_link_123 : decode cX9_link 123 = .ok (.bipush 8, 2) := by decide +kernel
theorem dX9_link_125 : decode cX9_link 125 = .ok (.if_icmp .eq (-33), 3) := by decide +kernel
theorem dX9_link_128 : decode cX9_link 128 = .ok (.aload_n 0, 1) := by decide +kernel
theorem dX9_link_129 : decode cX9_link 129 = .ok (.getfield 87, 3) := by decide +kernel
theorem dX9_link_132 : decode cX9_link 132 = .ok (.bipush 31, 2) := by decide +kernel
theorem dX9_link_134 : decode cX9_link 134 = .ok (.aload_n 0, 1) := by decide +kernel
theorem dX9_link_135 : decode cX9_link 135 = .ok (.getfield 32, 3) := by decide +kernel
theorem dX9_link_138 : decode cX9_link 138 = .ok (.iload_n 2, 1) := by decide +kernel
theorem dX9_link_139 : decode cX9_link 139 = .ok (.iaload, 1) := by decide +kernel
theorem dX9_link_140 : decode cX9_link 140 = .ok (.imul, 1) := by decide +kernel
theorem dX9_link_141 : decode cX9_link 141 = .ok (.aload_n 0, 1) := by decide +kernel
theorem dX9_link_142 : decode cX9_link 142 = .ok (.getfield 48, 3) := by decide +kernel
theorem dX9_link_145 : decode cX9_link 145 = .ok (.iload_n 3, 1) := by decide +kernel
theorem dX9_link_146 : decode cX9_link 146 = .ok (.iaload, 1) := by decide +kernel
theorem dX9_link_147 : decode cX9_link 147 = .ok (.iadd, 1) := by decide +kernel
theorem dX9_link_148 : decode cX9_link 148 = .ok (.dup2, 1) := by decide +kernel
theorem dX9_link_149 : decode cX9_link 149 = .ok (.laload, 1) := by decide +kernel
theorem dX9_link_150 : decode cX9_link 150 = .ok (.lconst 1, 1) := by decide +kernel
theorem dX9_link_151 : decode cX9_link 151 = .ok (.iload_n 1, 1) := by decide +kernel
theorem dX9_link_152 : decode cX9_link 152 = .ok (.lshl, 1) := by decide +kernel
theorem dX9_link_153 : decode cX9_link 153 = .ok (.lor, 1) := by decide +kernel
theorem dX9_link_154 : decode cX9_link 154 = .ok (.lastore, 1) := by decide +kernel
theorem dX9_link_155 : decode cX9_link 155 = .ok (.goto (-63), 3) := by decide +kernel
theorem dX9_link_158 : decode cX9_link 158 = .ok (.iinc 1 1, 3) := by decide +kernel
theorem dX9_link_161 : decode cX9_link 161 = .ok (.goto (-138), 3) := by decide +kernel
theorem dX9_link_164 : decode cX9_link 164 = .ok (.return_, 1) := by decide +kernel
abbrev MX9_link : zT := (yX9_link, cX9_link, 4, (Option.none : Option Jvm.ClassFile.FieldType), [])
theorem plX9_link : zplain MX9_link 0 ∧ (zcodeW MX9_link ∈ lw_all ∧ Cond.initialized MX9_link.1.cls ∈ lw_all) := ⟨⟨by decide +kernel, by decide +kernel⟩, q2232, q127⟩
noncomputable def f_X9_link_164 (σ : zM) : Option zO :=
  some (0, ((3, 0) : zV), σ)
theorem w_X9_link_164 {g : zG} {lv : Nat} {out : zO} (σ : zM) {r : zO} (h : f_X9_link_164  σ = some r) (hk : (fun o : zO => o = out) r) : Gj g MX9_link (lv + 2) 164 [] [] σ out := by
  revert h
  unfold f_X9_link_164
  intro h
  cases h
  have hk : (0, ((3, 0) : zV), σ) = out := hk
  subst hk
  exact gj_vret (pc := 164) dX9_link_164 rfl
noncomputable def f_X9_link_158 (x0 x1 : Int) (σ : zM) : Option ((Int × zM) ⊕ zO) :=
  zlet (zadd x1 1) fun y1 =>
  some (.inl (y1, σ))
theorem w_X9_link_158 {g : zG} {lv : Nat} {out : zO} (x0 x1 : Int) (σ : zM) {r : ((Int × zM) ⊕ zO)} (h : f_X9_link_158 x0 x1 σ = some r) (hk : (zKL (fun s : Int × zM => Gj g MX9_link (lv + 2) 23 [(0, zr x0), (1, zi s.1)] [] s.2 out) (fun o : zO => o = out)) r) : Gj g MX9_link (lv + 2) 158 [(0, zr x0), (1, zi x1)] [] σ out := by
  revert h
  unfold f_X9_link_158
  refine gb_iinc (pc := 158) 1 (fun y1 => [(1, zi y1), (0, zr x0)]) dX9_link_158 rfl (by decide) (fun _ => rfl) (fun y1 => ?_)
  refine zst_ (gj_goto 23 (pc := 161) dX9_link_161 (by decide)) ?_
  refine zst_ (gj_sub [1, 0] rfl) ?_
  intro h
  cases h
  exact hk
noncomputable def f_X9_link_92_b (x0 x1 x2 x3 : Int) (σ : zM) : Option ((Int × zM) ⊕ ((Int × zM) ⊕ zO)) :=
  (zgf σ 918 x0).bind fun v1 =>
  (zga σ 103 v1 x3).bind fun v2 =>
  if v2 = 0 then
    (f_X9_link_158 x0 x1 σ).map (fun r => (.inr r))
  else
    (zgf σ 916 x0).bind fun v3 =>
    (zga σ 101 v3 x3).bind fun v4 =>
    if v4 < 0 then
      (f_X9_link_158 x0 x1 σ).map (fun r => (.inr r))
    else
      (zgf σ 916 x0).bind fun v5 =>
      (zga σ 101 v5 x3).bind fun v6 =>
      (zgf σ 914 x0).bind fun v7 =>
      (zga σ 101 v7 v6).bind fun v8 =>
      if v8 = 8 then
        some (.inl (v6, σ))
      else
        (zgf σ 935 x0).bind fun v9 =>
        (zgf σ 915 x0).bind fun v10 =>
        (zga σ 101 v10 x2).bind fun v11 =>
        (zgf σ 920 x0).bind fun v12 =>
        (zga σ 101 v12 v6).bind fun v13 =>
        (zga σ 102 v9 (zadd (zmul 31 v11) v13)).bind fun v14 =>
        (zpa σ 102 v9 (zadd (zmul 31 v11) v13) (jor v14 (jshl 1 x1))).bind fun σ15 =>
        some (.inl (v6, σ15))
noncomputable def f_X9_link_92 (x0 x1 x2 x3 : Int) (σ : zM) : Option ((Int × zM) ⊕ zO) :=
  zloop (fun s : Int × zM => f_X9_link_92_b x0 x1 x2 s.1 s.2) (x3, σ)
theorem w_X9_link_92_b {g : zG} {lv : Nat} {out : zO} (x0 x1 x2 x3 : Int) (σ : zM) {r : ((Int × zM) ⊕ ((Int × zM) ⊕ zO))} (h : f_X9_link_92_b x0 x1 x2 x3 σ = some r) (hk : (zKL (fun s : Int × zM => Gj g MX9_link (lv + 2) 92 [(0, zr x0), (1, zi x1), (2, zi x2), (3, zi s.1)] [] s.2 out) (zKL (fun s : Int × zM => Gj g MX9_link (lv + 2) 23 [(0, zr x0), (1, zi s.1)] [] s.2 out) (fun o : zO => o = out))) r) : Gj g MX9_link (lv + 2) 92 [(0, zr x0), (1, zi x1), (2, zi x2), (3, zi x3)] [] σ out := by
  revert h
  unfold f_X9_link_92_b
  refine zst_ (gj_aload_n 0 (pc := 92) dX9_link_92 rfl) ?_
  refine gb_get (pc := 93) fl918 dX9_link_93 q1900 (Or.inl rfl) (fun v1 => ?_)
  refine zst_ (gj_iload_n 3 (pc := 96) dX9_link_96 rfl) ?_
  refine gb_zald (pc := 97) dX9_link_97 (fun v2 => ?_)
  refine gb_if (gj_if_eq 158 (pc := 98) dX9_link_98 (by decide)) ?_ ?_
  · refine zst_ (gj_sub [0, 1] rfl) ?_
    intro h
    obtain ⟨r0, h0, rfl⟩ := zmE h
    exact w_X9_link_158 x0 x1 σ h0 hk
  · refine zst_ (gj_aload_n 0 (pc := 101) dX9_link_101 rfl) ?_
    refine gb_get (pc := 102) fl916 dX9_link_102 q1898 (Or.inl rfl) (fun v3 => ?_)
    refine zst_ (gj_iload_n 3 (pc := 105) dX9_link_105 rfl) ?_
    refine gb_iald (pc := 106) dX9_link_106 (fun v4 => ?_)
    refine gb_if (gj_if_lt 158 (pc := 107) dX9_link_107 (by decide)) ?_ ?_
    · refine zst_ (gj_sub [0, 1] rfl) ?_
      intro h
      obtain ⟨r0, h0, rfl⟩ := zmE h
      exact w_X9_link_158 x0 x1 σ h0 hk
    · refine zst_ (gj_aload_n 0 (pc := 110) dX9_link_110 rfl) ?_
      refine gb_get (pc := 111) fl916 dX9_link_111 q1898 (Or.inl rfl) (fun v5 => ?_)
      refine zst_ (gj_iload_n 3 (pc := 114) dX9_link_114 rfl) ?_
      refine gb_iald (pc := 115) dX9_link_115 (fun v6 => ?_)
      refine zst_ (gj_istore_n (pc := 116) (ls' := [(3, zi v6), (0, zr x0), (1, zi x1), (2, zi x2)]) dX9_link_116 (by decide) rfl) ?_
      refine zst_ (gj_aload_n 1 (pc := 117) dX9_link_117 rfl) ?_
      refine gb_get (pc := 118) fl914 dX9_link_118 q1896 (Or.inl rfl) (fun v7 => ?_)
      refine zst_ (gj_iload_n 0 (pc := 121) dX9_link_121 rfl) ?_
      refine gb_iald (pc := 122) dX9_link_122 (fun v8 => ?_)
      refine zst_ (gj_bipush (pc := 123) dX9_link_123 ⟨rfl, by decide⟩) ?_
      refine gb_if (gj_icmp_eq 92 (pc := 125) dX9_link_125 (by decide)) ?_ ?_
      · refine zst_ (gj_sub [1, 2, 3, 0] rfl) ?_
        intro h
        cases h
        exact hk
      · refine zst_ (gj_aload_n 1 (pc := 128) dX9_link_128 rfl) ?_
        refine gb_get (pc := 129) fl935 dX9_link_129 q1917 (Or.inl rfl) (fun v9 => ?_)
        refine zst_ (gj_bipush (pc := 132) dX9_link_132 ⟨rfl, by decide⟩) ?_
        refine zst_ (gj_aload_n 1 (pc := 134) dX9_link_134 rfl) ?_
        refine gb_get (pc := 135) fl915 dX9_link_135 q1897 (Or.inl rfl) (fun v10 => ?_)
        refine zst_ (gj_iload_n 3 (pc := 138) dX9_link_138 rfl) ?_
        refine gb_iald (pc := 139) dX9_link_139 (fun v11 => ?_)
        refine zst_ (gj_imul (pc := 140) dX9_link_140) ?_
        refine zst_ (gj_aload_n 1 (pc := 141) dX9_link_141 rfl) ?_
        refine gb_get (pc := 142) fl920 dX9_link_142 q1902 (Or.inl rfl) (fun v12 => ?_)
        refine zst_ (gj_iload_n 0 (pc := 145) dX9_link_145 rfl) ?_
        refine gb_iald (pc := 146) dX9_link_146 (fun v13 => ?_)
        refine zst_ (gj_iadd (pc := 147) dX9_link_147) ?_
        refine zst_ (gj_dup2 (pc := 148) dX9_link_148 rfl rfl) ?_
        refine gb_lald (pc := 149) dX9_link_149 (fun v14 => ?_)
        refine zst_ (gj_lconst1 (pc := 150) dX9_link_150) ?_
        refine zst_ (gj_iload_n 2 (pc := 151) dX9_link_151 rfl) ?_
        refine zst_ (gj_lshl (pc := 152) dX9_link_152) ?_
        refine zst_ (gj_lor (pc := 153) dX9_link_153) ?_
        refine gb_last (pc := 154) dX9_link_154 (fun σ15 => ?_)
        refine zst_ (gj_goto 92 (pc := 155) dX9_link_155 (by decide)) ?_
        refine zst_ (gj_sub [1, 2, 3, 0] rfl) ?_
        intro h
        cases h
        exact hk
theorem w_X9_link_92 {g : zG} {lv : Nat} {out : zO} (x0 x1 x2 x3 : Int) (σ : zM) {r : ((Int × zM) ⊕ zO)} (h : f_X9_link_92 x0 x1 x2 x3 σ = some r) (hk : (zKL (fun s : Int × zM => Gj g MX9_link (lv + 2) 23 [(0, zr x0), (1, zi s.1)] [] s.2 out) (fun o : zO => o = out)) r) : Gj g MX9_link (lv + 2) 92 [(0, zr x0), (1, zi x1), (2, zi x2), (3, zi x3)] [] σ out :=
  gj_loop (P := (fun s : Int × zM => Gj g MX9_link (lv + 2) 92 [(0, zr x0), (1, zi x1), (2, zi x2), (3, zi s.1)] [] s.2 out)) (fun s x hb hx => w_X9_link_92_b x0 x1 x2 s.1 s.2 hb hx) h hk
noncomputable def f_X9_link_23_b (x0 x1 : Int) (σ : zM) : Option ((Int × zM) ⊕ zO) :=
  (zgf σ 927 x0).bind fun v1 =>
  if v1 ≤ x1 then
    (f_X9_link_164 σ).map (fun r => (.inr r))
  else
    (zgf σ 928 x0).bind fun v2 =>
    (zga σ 101 v2 x1).bind fun v3 =>
    (zgf σ 926 x0).bind fun v4 =>
    (zgf σ 915 x0).bind fun v5 =>
    (zga σ 101 v5 v3).bind fun v6 =>
    zgd (zis σ 10 x0) <|
    zci (f_X9_next x0 v3 σ) fun v7 σ8 =>
    zgd (zis σ8 10 x0) <|
    zci (f_X9_instead x0 v7 σ8) fun v9 σ10 =>
    zgd (zis σ10 10 x0) <|
    zci (f_X9_pointOf x0 v6 v9 σ10) fun v11 σ12 =>
    (zpa σ12 101 v4 v3 v11).bind fun σ13 =>
    (zgf σ13 935 x0).bind fun v14 =>
    (zgf σ13 915 x0).bind fun v15 =>
    (zga σ13 101 v15 v3).bind fun v16 =>
    (zgf σ13 920 x0).bind fun v17 =>
    (zga σ13 101 v17 v3).bind fun v18 =>
    (zga σ13 102 v14 (zadd (zmul 31 v16) v18)).bind fun v19 =>
    (zpa σ13 102 v14 (zadd (zmul 31 v16) v18) (jor v19 (jshl 1 x1))).bind fun σ20 =>
    f_X9_link_92 x0 x1 v3 v3 σ20
noncomputable def f_X9_link_23 (x0 x1 : Int) (σ : zM) : Option zO :=
  zloop (fun s : Int × zM => f_X9_link_23_b x0 s.1 s.2) (x1, σ)
theorem w_X9_link_23_b {g : zG} {lv : Nat} {out : zO} (x0 x1 : Int) (σ : zM) {r : ((Int × zM) ⊕ zO)} (h : f_X9_link_23_b x0 x1 σ = some r) (hk : (zKL (fun s : Int × zM => Gj g MX9_link (lv + 2) 23 [(0, zr x0), (1, zi s.1)] [] s.2 out) (fun o : zO => o = out)) r) : Gj g MX9_link (lv + 2) 23 [(0, zr x0), (1, zi x1)] [] σ out := by
  revert h
  unfold f_X9_link_23_b
  refine zst_ (gj_iload_n 1 (pc := 23) dX9_link_23 rfl) ?_
  refine zst_ (gj_aload_n 0 (pc := 24) dX9_link_24 rfl) ?_
  refine gb_get (pc := 25) fl927 dX9_link_25 q1909 (Or.inl rfl) (fun v1 => ?_)
  refine gb_if (gj_icmp_ge 164 (pc := 28) dX9_link_28 (by decide)) ?_ ?_
  · refine zst_ (gj_sub [] rfl) ?_
    intro h
    obtain ⟨r0, h0, rfl⟩ := zmE h
    exact w_X9_link_164 σ h0 hk
  · refine zst_ (gj_aload_n 0 (pc := 31) dX9_link_31 rfl) ?_
    refine gb_get (pc := 32) fl928 dX9_link_32 q1910 (Or.inl rfl) (fun v2 => ?_)
    refine zst_ (gj_iload_n 1 (pc := 35) dX9_link_35 rfl) ?_
    refine gb_iald (pc := 36) dX9_link_36 (fun v3 => ?_)
    refine zst_ (gj_istore_n (pc := 37) (ls' := [(2, zi v3), (0, zr x0), (1, zi x1)]) dX9_link_37 (by decide) rfl) ?_
    refine zst_ (gj_aload_n 1 (pc := 38) dX9_link_38 rfl) ?_
    refine gb_get (pc := 39) fl926 dX9_link_39 q1908 (Or.inl rfl) (fun v4 => ?_)
    refine zst_ (gj_iload_n 0 (pc := 42) dX9_link_42 rfl) ?_
    refine zst_ (gj_aload_n 1 (pc := 43) dX9_link_43 rfl) ?_
    refine zst_ (gj_aload_n 1 (pc := 44) dX9_link_44 rfl) ?_
    refine gb_get (pc := 45) fl915 dX9_link_45 q1897 (Or.inl rfl) (fun v5 => ?_)
    refine zst_ (gj_iload_n 0 (pc := 48) dX9_link_48 rfl) ?_
    refine gb_iald (pc := 49) dX9_link_49 (fun v6 => ?_)
    refine zst_ (gj_aload_n 1 (pc := 50) dX9_link_50 rfl) ?_
    refine zst_ (gj_aload_n 1 (pc := 51) dX9_link_51 rfl) ?_
    refine zst_ (gj_iload_n 0 (pc := 52) dX9_link_52 rfl) ?_
    refine gb_gd (fun hb => ?_)
    refine gb_callI (pc := 53) (as := [zr x0, zi v3]) (rest := [zr x0, zi v6, zr x0, zi v3, zr v4]) (zCl.of (zLk_V (M := MX9_link) (ci := 9) (r := (RX9, TX9, 84)) plX9_next.1 rfl rfl (zisE hb).1 (zisE hb).2 dX9_link_53 q2225 q2227 qs63 q2228) plX9_next (Nat.le_of_ble_eq_true rfl) (fun h => c_X9_next h)) (fun v7 σ8 => ?_)
    refine gb_gd (fun hb => ?_)
    refine gb_callI (pc := 56) (as := [zr x0, zi v7]) (rest := [zi v6, zr x0, zi v3, zr v4]) (zCl.of (zLk_V (M := MX9_link) (ci := 9) (r := (RX9, TX9, 84)) plX9_instead.1 rfl rfl (zisE hb).1 (zisE hb).2 dX9_link_56 q2221 q2223 qs62 q2224) plX9_instead (Nat.le_of_ble_eq_true rfl) (fun h => c_X9_instead h)) (fun v9 σ10 => ?_)
    refine gb_gd (fun hb => ?_)
    refine gb_callI (pc := 59) (as := [zr x0, zi v6, zi v9]) (rest := [zi v3, zr v4]) (zCl.of (zLk_V (M := MX9_link) (ci := 9) (r := (RX9, TX9, 84)) plX9_pointOf.1 rfl rfl (zisE hb).1 (zisE hb).2 dX9_link_59 q2233 q2235 qs65 q2236) plX9_pointOf (Nat.le_of_ble_eq_true rfl) (fun h => c_X9_pointOf h)) (fun v11 σ12 => ?_)
    refine gb_iast (pc := 62) dX9_link_62 (fun σ13 => ?_)
    refine zst_ (gj_iload_n 0 (pc := 63) dX9_link_63 rfl) ?_
    refine zst_ (gj_istore_n (pc := 64) (ls' := [(3, zi v3), (2, zi v3), (0, zr x0), (1, zi x1)]) dX9_link_64 (by decide) rfl) ?_
    refine zst_ (gj_aload_n 2 (pc := 65) dX9_link_65 rfl) ?_
    refine gb_get (pc := 66) fl935 dX9_link_66 q1917 (Or.inl rfl) (fun v14 => ?_)
    refine zst_ (gj_bipush (pc := 69) dX9_link_69 ⟨rfl, by decide⟩) ?_
    refine zst_ (gj_aload_n 2 (pc := 71) dX9_link_71 rfl) ?_
    refine gb_get (pc := 72) fl915 dX9_link_72 q1897 (Or.inl rfl) (fun v15 => ?_)
    refine zst_ (gj_iload_n 1 (pc := 75) dX9_link_75 rfl) ?_
    refine gb_iald (pc := 76) dX9_link_76 (fun v16 => ?_)
    refine zst_ (gj_imul (pc := 77) dX9_link_77) ?_
    refine zst_ (gj_aload_n 2 (pc := 78) dX9_link_78 rfl) ?_
    refine gb_get (pc := 79) fl920 dX9_link_79 q1902 (Or.inl rfl) (fun v17 => ?_)
    refine zst_ (gj_iload_n 0 (pc := 82) dX9_link_82 rfl) ?_
    refine gb_iald (pc := 83) dX9_link_83 (fun v18 => ?_)
    refine zst_ (gj_iadd (pc := 84) dX9_link_84) ?_
    refine zst_ (gj_dup2 (pc := 85) dX9_link_85 rfl rfl) ?_
    refine gb_lald (pc := 86) dX9_link_86 (fun v19 => ?_)
    refine zst_ (gj_lconst1 (pc := 87) dX9_link_87) ?_
    refine zst_ (gj_iload_n 3 (pc := 88) dX9_link_88 rfl) ?_
    refine zst_ (gj_lshl (pc := 89) dX9_link_89) ?_
    refine zst_ (gj_lor (pc := 90) dX9_link_90) ?_
    refine gb_last (pc := 91) dX9_link_91 (fun σ20 => ?_)
    refine zst_ (gj_sub [2, 3, 1, 0] rfl) ?_
    exact fun h => w_X9_link_92 x0 x1 v3 v3 σ20 h hk
theorem w_X9_link_23 {g : zG} {lv : Nat} {out : zO} (x0 x1 : Int) (σ : zM) {r : zO} (h : f_X9_link_23 x0 x1 σ = some r) (hk : (fun o : zO => o = out) r) : Gj g MX9_link (lv + 2) 23 [(0, zr x0), (1, zi x1)] [] σ out :=
  gj_loop (P := (fun s : Int × zM => Gj g MX9_link (lv + 2) 23 [(0, zr x0), (1, zi s.1)] [] s.2 out)) (fun s x hb hx => w_X9_link_23_b x0 s.1 s.2 hb hx) h hk
noncomputable def f_X9_link_21 (x0 : Int) (σ : zM) : Option zO :=
  f_X9_link_23 x0 0 σ
theorem w_X9_link_21 {g : zG} {lv : Nat} {out : zO} (x0 : Int) (σ : zM) {r : zO} (h : f_X9_link_21 x0 σ = some r) (hk : (fun o : zO => o = out) r) : Gj g MX9_link (lv + 2) 21 [(0, zr x0)] [] σ out := by
  revert h
  unfold f_X9_link_21
  refine zst_ (gj_iconst (pc := 21) dX9_link_21 (by decide)) ?_
  refine zst_ (gj_istore_n (pc := 22) (ls' := [(1, zi 0), (0, zr x0)]) dX9_link_22 (by decide) rfl) ?_
  refine zst_ (gj_sub [1, 0] rfl) ?_
  exact fun h => w_X9_link_23 x0 0 σ h hk
noncomputable def f_X9_link_2_b (x0 x1 : Int) (σ : zM) : Option ((Int × zM) ⊕ zO) :=
  if 124 ≤ x1 then
    (f_X9_link_21 x0 σ).map (fun r => (.inr r))
  else
    (zgf σ 935 x0).bind fun v1 =>
    (zpa σ 102 v1 x1 0).bind fun σ2 =>
    zlet (zadd x1 1) fun y3 =>
    some (.inl (y3, σ2))
noncomputable def f_X9_link_2 (x0 x1 : Int) (σ : zM) : Option zO :=
  zloop (fun s : Int × zM => f_X9_link_2_b x0 s.1 s.2) (x1, σ)
theorem w_X9_link_2_b {g : zG} {lv : Nat} {out : zO} (x0 x1 : Int) (σ : zM) {r : ((Int × zM) ⊕ zO)} (h : f_X9_link_2_b x0 x1 σ = some r) (hk : (zKL (fun s : Int × zM => Gj g MX9_link (lv + 2) 2 [(0, zr x0), (1, zi s.1)] [] s.2 out) (fun o : zO => o = out)) r) : Gj g MX9_link (lv + 2) 2 [(0, zr x0), (1, zi x1)] [] σ out := by
  revert h
  unfold f_X9_link_2_b
  refine zst_ (gj_iload_n 1 (pc := 2) dX9_link_2 rfl) ?_
  refine zst_ (gj_bipush (pc := 3) dX9_link_3 ⟨rfl, by decide⟩) ?_
  refine gb_if (gj_icmp_ge 21 (pc := 5) dX9_link_5 (by decide)) ?_ ?_
  · refine zst_ (gj_sub [0] rfl) ?_
    intro h
    obtain ⟨r0, h0, rfl⟩ := zmE h
    exact w_X9_link_21 x0 σ h0 hk
  · refine zst_ (gj_aload_n 0 (pc := 8) dX9_link_8 rfl) ?_
    refine gb_get (pc := 9) fl935 dX9_link_9 q1917 (Or.inl rfl) (fun v1 => ?_)
    refine zst_ (gj_iload_n 1 (pc := 12) dX9_link_12 rfl) ?_
    refine zst_ (gj_lconst0 (pc := 13) dX9_link_13) ?_
    refine gb_last (pc := 14) dX9_link_14 (fun σ2 => ?_)
    refine gb_iinc (pc := 15) 1 (fun y3 => [(1, zi y3), (0, zr x0)]) dX9_link_15 rfl (by decide) (fun _ => rfl) (fun y3 => ?_)
    refine zst_ (gj_goto 2 (pc := 18) dX9_link_18 (by decide)) ?_
    refine zst_ (gj_sub [1, 0] rfl) ?_
    intro h
    cases h
    exact hk
theorem w_X9_link_2 {g : zG} {lv : Nat} {out : zO} (x0 x1 : Int) (σ : zM) {r : zO} (h : f_X9_link_2 x0 x1 σ = some r) (hk : (fun o : zO => o = out) r) : Gj g MX9_link (lv + 2) 2 [(0, zr x0), (1, zi x1)] [] σ out :=
  gj_loop (P := (fun s : Int × zM => Gj g MX9_link (lv + 2) 2 [(0, zr x0), (1, zi s.1)] [] s.2 out)) (fun s x hb hx => w_X9_link_2_b x0 s.1 s.2 hb hx) h hk
noncomputable def f_X9_link (x0 : Int) (σ : zM) : Option zO :=
  f_X9_link_2 x0 0 σ
theorem c_X9_link {g : zG} {lv : Nat} {x0 : Int} {σ : zM} {out : zO} (h : f_X9_link x0 σ = some out) : Cj g (lv + 2) MX9_link [zr x0] σ out := by
  refine cj_go (ls := [(0, zr x0)]) (by decide) (Nat.le_of_ble_eq_true rfl) rfl (zgen h (fun r hk => ?_))
  unfold f_X9_link
  refine zst_ (gj_iconst (pc := 0) dX9_link_0 (by decide)) ?_
  refine zst_ (gj_istore_n (pc := 1) (ls' := [(1, zi 0), (0, zr x0)]) dX9_link_1 (by decide) rfl) ?_
  refine zst_ (gj_sub [1, 0] rfl) ?_
  exact fun h => w_X9_link_2 x0 0 σ h hk

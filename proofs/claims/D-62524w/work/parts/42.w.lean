set_option maxRecDepth 100000
theorem q237 : (Jvm.Cond.fieldLinkNest "LassoFinder$ModelReader" (124 : Nat) "LassoFinder$Routine" "first" "LLassoFinder$Statement;" "LassoFinder") ∈ lw_tbl := lw_at lw_m1 137 rfl
theorem q240 : (Jvm.Cond.fieldLinkNest "LassoFinder$ModelReader" (164 : Nat) "LassoFinder$Routine" "start" "I" "LassoFinder") ∈ lw_tbl := lw_at lw_m1 140 rfl
theorem q247 : (Jvm.Cond.fieldLinkNest "LassoFinder$ModelReader" (167 : Nat) "LassoFinder$Routine" "marks" "[I" "LassoFinder") ∈ lw_tbl := lw_at lw_m1 147 rfl
theorem q251 : (Jvm.Cond.fieldLinkNest "LassoFinder$ModelReader" (174 : Nat) "LassoFinder$Routine" "basics" "[J" "LassoFinder") ∈ lw_tbl := lw_at lw_m1 151 rfl
theorem q278 : (Jvm.Cond.fieldLinkNest "LassoFinder$ModelReader" (106 : Nat) "LassoFinder$Model" "processes" "I" "LassoFinder") ∈ lw_tbl := lw_at lw_m1 178 rfl
theorem q288 : (Jvm.Cond.fieldLinkNest "LassoFinder$ModelReader" (194 : Nat) "LassoFinder$Model" "statements" "[LLassoFinder$Statement;" "LassoFinder") ∈ lw_tbl := lw_at lw_m1 188 rfl
theorem q290 : (Jvm.Cond.fieldLinkNest "LassoFinder$ModelReader" (200 : Nat) "LassoFinder$Model" "owners" "[I" "LassoFinder") ∈ lw_tbl := lw_at lw_m1 190 rfl
theorem q292 : (Jvm.Cond.fieldLinkNest "LassoFinder$ModelReader" (203 : Nat) "LassoFinder$Model" "goals" "[I" "LassoFinder") ∈ lw_tbl := lw_at lw_m1 192 rfl
theorem q294 : (Jvm.Cond.fieldLinkNest "LassoFinder$ModelReader" (206 : Nat) "LassoFinder$Model" "holds" "[Z" "LassoFinder") ∈ lw_tbl := lw_at lw_m1 194 rfl
theorem q1398 : (Jvm.Cond.code ({ cls := "LassoFinder$ModelReader", name := "link", desc := "(I)V" } : Jvm.MethodName) prog_10_method_7_code (7 : Nat) (Option.none : Option Jvm.ClassFile.FieldType)) ∈ lw_all := lw_g (lw_at lw_m6 98 rfl) rfl
theorem q1399 : (Jvm.Cond.methodLink "LassoFinder$ModelReader" (160 : Nat) ({ cls := "LassoFinder$Routine", name := "pointOf", desc := "(LLassoFinder$Statement;)I" } : Jvm.MethodName)) ∈ lw_all := lw_g (lw_at lw_m6 99 rfl) rfl
theorem q1400 : (Jvm.Cond.instanceMethod ({ cls := "LassoFinder$Routine", name := "pointOf", desc := "(LLassoFinder$Statement;)I" } : Jvm.MethodName)) ∈ lw_all := lw_g (lw_at lw_m6 100 rfl) rfl
theorem q1401 : (Jvm.Cond.selects "LassoFinder$Routine" ({ cls := "LassoFinder$Routine", name := "pointOf", desc := "(LLassoFinder$Statement;)I" } : Jvm.MethodName) ({ cls := "LassoFinder$Routine", name := "pointOf", desc := "(LLassoFinder$Statement;)I" } : Jvm.MethodName)) ∈ lw_all := lw_g (lw_at lw_m6 101 rfl) rfl
theorem q1403 : (Jvm.Cond.methodLink "LassoFinder$ModelReader" (170 : Nat) ({ cls := "LassoFinder$Kind", name := "isPoint", desc := "()Z" } : Jvm.MethodName)) ∈ lw_all := lw_g (lw_at lw_m6 103 rfl) rfl
theorem q1404 : (Jvm.Cond.instanceMethod ({ cls := "LassoFinder$Kind", name := "isPoint", desc := "()Z" } : Jvm.MethodName)) ∈ lw_all := lw_g (lw_at lw_m6 104 rfl) rfl
theorem q1405 : (Jvm.Cond.selects "LassoFinder$Kind" ({ cls := "LassoFinder$Kind", name := "isPoint", desc := "()Z" } : Jvm.MethodName) ({ cls := "LassoFinder$Kind", name := "isPoint", desc := "()Z" } : Jvm.MethodName)) ∈ lw_all := lw_g (lw_at lw_m6 105 rfl) rfl
theorem fl207 : zfl 207 2 "LassoFinder$Model" "statements" "[LLassoFinder$Statement;" true := ⟨rfl, rfl, rfl⟩
theorem fr207 {g : zG} {v : Int} : zok g (2, v) → zokt g (zft 207) v := fun h => h
theorem fl208 : zfl 208 2 "LassoFinder$Model" "owners" "[I" true := ⟨rfl, rfl, rfl⟩
theorem fr208 {g : zG} {v : Int} : zok g (2, v) → zokt g (zft 208) v := fun h => h
theorem fl209 : zfl 209 2 "LassoFinder$Model" "goals" "[I" true := ⟨rfl, rfl, rfl⟩
theorem fr209 {g : zG} {v : Int} : zok g (2, v) → zokt g (zft 209) v := fun h => h
theorem fl210 : zfl 210 2 "LassoFinder$Model" "holds" "[Z" true := ⟨rfl, rfl, rfl⟩
theorem fr210 {g : zG} {v : Int} : zok g (2, v) → zokt g (zft 210) v := fun h => h
theorem fl402 : zfl 402 0 "LassoFinder$Routine" "start" "I" false := ⟨rfl, rfl, rfl⟩
theorem fr402 {g : zG} {v : Int} : zok g (0, v) → zokt g (zft 402) v := fun h => h
theorem fl405 : zfl 405 2 "LassoFinder$Routine" "marks" "[I" true := ⟨rfl, rfl, rfl⟩
theorem fr405 {g : zG} {v : Int} : zok g (2, v) → zokt g (zft 405) v := fun h => h
abbrev cX6_link : ByteArray := prog_10_method_7_code
def yX6_link : MethodName := ⟨RX6, "link", "(I)V"⟩
theorem dX6_link_0 : decode cX6_link 0 = .ok (.aload_n 0, 1) := by decide +kernel
theorem dX6_link_1 : decode cX6_link 1 = .ok (.getfield 48, 3) := by decide +kernel
theorem dX6_link_4 : decode cX6_link 4 = .ok (.getfield 106, 3) := by decide +kernel
theorem dX6_link_7 : decode cX6_link 7 = .ok (.istore_n 2, 1) := by decide +kernel
theorem dX6_link_8 : decode cX6_link 8 = .ok (.aload_n 0, 1) := by decide +kernel
theorem dX6_link_9 : decode cX6_link 9 = .ok (.getfield 113, 3) := by decide +kernel
theorem dX6_link_12 : decode cX6_link 12 = .ok (.aload_n 0, 1) := by decide +kernel
theorem dX6_link_13 : decode cX6_link 13 = .ok (.getfield 113, 3) := by decide +kernel
theorem dX6_link_16 : decode cX6_link 16 = .ok (.aload_n 0, 1) := by decide +kernel
theorem dX6_link_17 : decode cX6_link 17 = .ok (.getfield 113, 3) := by decide +kernel
theorem dX6_link_20 : decode cX6_link 20 = .ok (.getfield 124, 3) := by decide +kernel
theorem dX6_link_23 : decode cX6_link 23 = .ok (.iconst 0, 1) := by decide +kernel
theorem dX6_link_24 : decode cX6_link 24 = .ok (.invokevirtual 156, 3) := by decide +kernel
theorem dX6_link_27 : decode cX6_link 27 = .ok (.invokevirtual 160, 3) := by decide +kernel
theorem dX6_link_30 : decode cX6_link 30 = .ok (.putfield 164, 3) := by decide +kernel
theorem dX6_link_33 : decode cX6_link 33 = .ok (.iconst 0, 1) := by decide +kernel
theorem dX6_link_34 : decode cX6_link 34 = .ok (.istore_n 3, 1) := by decide +kernel
theorem dX6_link_35 : decode cX6_link 35 = .ok (.iload_n 3, 1) := by decide +kernel
theorem dX6_link_36 : decode cX6_link 36 = .ok (.bipush 8, 2) := by decide +kernel
theorem dX6_link_38 : decode cX6_link 38 = .ok (.if_icmp .ge 54, 3) := by decide +kernel
theorem dX6_link_41 : decode cX6_link 41 = .ok (.aload_n 0, 1) := by decide +kernel
theorem dX6_link_42 : decode cX6_link 42 = .ok (.getfield 113, 3) := by decide +kernel
theorem dX6_link_45 : decode cX6_link 45 = .ok (.getfield 167, 3) := by decide +kernel
theorem dX6_link_48 : decode cX6_link 48 = .ok (.iload_n 3, 1) := by decide +kernel
theorem dX6_link_49 : decode cX6_link 49 = .ok (.aload_n 0, 1) := by decide +kernel
theorem dX6_link_50 : decode cX6_link 50 = .ok (.getfield 113, 3) := by decide +kernel
theorem dX6_link_53 : decode cX6_link 53 = .ok (.getfield 143, 3) := by decide +kernel
theorem dX6_link_56 : decode cX6_link 56 = .ok (.iload_n 3, 1) := by decide +kernel
theorem dX6_link_57 : decode cX6_link 57 = .ok (.aaload, 1) := by decide +kernel
theorem dX6_link_58 : decode cX6_link 58 = .ok (.ifnonnull 7, 3) := by decide +kernel
theorem dX6_link_61 : decode cX6_link 61 = .ok (.iconst (-1), 1) := by decide +kernel
theorem dX6_link_62 : decode cX6_link 62 = .ok (.goto 23, 3) := by decide +kernel
theorem dX6_link_65 : decode cX6_link 65 = .ok (.aload_n 0, 1) := by decide +kernel
theorem dX6_link_66 : decode cX6_link 66 = .ok (.getfield 113, 3) := by decide +kernel
theorem dX6_link_69 : decode cX6_link 69 = .ok (.aload_n 0, 1) := by decide +kernel
theorem dX6_link_70 : decode cX6_link 70 = .ok (.getfield 113, 3) := by decide +kernel
theorem dX6_link_73 : decode cX6_link 73 = .ok (.getfield 143, 3) := by decide +kernel
theorem dX6_link_76 : decode cX6_link 76 = .ok (.iload_n 3, 1) := by decide +kernel
theorem dX6_link_77 : decode cX6_link 77 = .ok (.aaload, 1) := by decide +kernel
theorem dX6_link_78 : decode cX6_link 78 = .ok (.iconst 0, 1) := by decide +kernel
theorem dX6_link_79 : decode cX6_link 79 = .ok (.invokevirtual 156, 3) := by decide +kernel
theorem dX6_link_82 : decode cX6_link 82 = .ok (.invokevirtual 160, 3) := by decide +kernel
theorem dX6_link_85 : decode cX6_link 85 = .ok (.iastore, 1) := by decide +kernel
theorem dX6_link_86 : decode cX6_link 86 = .ok (.iinc 3 1, 3) := by decide +kernel
theorem dX6_link_89 : decode cX6_link 89 = .ok (.goto (-54), 3) := by decide +kernel
theorem dX6_link_92 : decode cX6_link 92 = .ok (.iload_n 1, 1) := by decide +kernel
theorem dX6_link_93 : decode cX6_link 93 = .ok (.istore_n 3, 1) := by decide +kernel
theorem dX6_link_94 : decode cX6_link 94 = .ok (.iload_n 3, 1) := by decide +kernel
theorem dX6_link_95 : decode cX6_link 95 = .ok (.aload_n 0, 1) := by decide +kernel
theorem dX6_link_96 : decode cX6_link 96 = .ok (.getfield 20, 3) := by decide +kernel
theorem dX6_link_99 : decode cX6_link 99 = .ok (.if_icmp .ge 175, 3) := by decide +kernel
theorem dX6_link_102 : decode cX6_link 102 = .ok (.aload_n 0, 1) := by decide +kernel
theorem dX6_link_103 : decode cX6_link 103 = .ok (.getfield 14, 3) := by decide +kernel
theorem dX6_link_106 : decode cX6_link 106 = .ok (.iload_n 3, 1) := by decide +kernel
theorem dX6_link_107 : decode cX6_link 107 = .ok (.invokevirtual 37, 3) := by decide +kernel
theorem dX6_link_110 : decode cX6_link 110 = .ok (.checkcast 28, 3) := by decide +kernel
theorem dX6_link_113 : decode cX6_link 113 = .ok (.astore 4, 2) := by decide +kernel
theorem dX6_link_115 : decode cX6_link 115 = .ok (.aload 4, 2) := by decide +kernel
theorem dX6_link_117 : decode cX6_link 117 = .ok (.getfield 134, 3) := by decide +kernel
theorem dX6_link_120 : decode cX6_link 120 = .ok (.invokevirtual 170, 3) := by decide +kernel
theorem dX6_link_123 : decode cX6_link 123 = .ok (.ifCond .eq 21, 3) := by decide +kernel
theorem dX6_link_126 : decode cX6_link 126 = .ok (.aload_n 0, 1) := by decide +kernel
theorem dX6_link_127 : decode cX6_link 127 = .ok (.getfield 113, 3) := by decide +kernel
theorem dX6_link_130 : decode cX6_link 130 = .ok (.getfield 174, 3) := by decide +kernel
theorem dX6_link_133 : decode cX6_link 133 = .ok (.aload 4, 2) := by decide +kernel
theorem dX6_link_135 : decode cX6_link 135 = .ok (.getfield 178, 3) := by decide +kernel
theorem dX6_link_138 : decode cX6_link 138 = .ok (.aload 4, 2) := by decide +kernel
theorem dX6_link_140 : decode cX6_link 140 = .ok (.invokestatic 181, 3) := by decide +kernel
theorem dX6_link_143 : decode cX6_link 143 = .ok (.lastore, 1) := by decide +kernel
theorem dX6_link_144 : decode cX6_link 144 = .ok (.aload 4, 2) := by decide +kernel
theorem dX6_link_146 : decode cX6_link 146 = .ok (.getfield 134, 3) := by decide +kernel
theorem dX6_link_149 : decode cX6_link 149 = .ok (.invokevirtual 184, 3) := by decide +kernel
theorem dX6_link_152 : decode cX6_link 152 = .ok (.ifCond .ne 6, 3) := by decide +kernel
theorem dX6_link_155 : decode cX6_link 155 = .ok (.goto 113, 3) := by decide +kernel
theorem dX6_link_158 : decode cX6_link 158 = .ok (.aload 4, 2) := by decide +kernel
theorem dX6_link_160 : decode cX6_link 160 = .ok (.iconst 1, 1) := by decide +kernel
theorem dX6_link_161 : decode cX6_link 161 = .ok (.invokevirtual 156, 3) := by decide +kernel
theorem dX6_link_164 : decode cX6_link 164 = .ok (.astore 5, 2) := by decide +kernel
theorem dX6_link_166 : decode cX6_link 166 = .ok (.aload 4, 2) := by decide +kernel
theorem dX6_link_168 : decode cX6_link 168 = .ok (.getstatic 187, 3) := by decide +kernel
theorem dX6_link_171 : decode cX6_link 171 = .ok (.invokevirtual 190, 3) := by decide +kernel
theorem dX6_link_174 : decode cX6_link 174 = .ok (.astore 6, 2) := by decide +kernel
theorem dX6_link_176 : decode cX6_link 176 = .ok (.aload_n 0, 1) := by decide +kernel
theorem dX6_link_177 : decode cX6_link 177 = .ok (.getfield 48, 3) := by decide +kernel
theorem dX6_link_180 : decode cX6_link 180 = .ok (.getfield 194, 3) := by decide +kernel
theorem dX6_link_183 : decode cX6_link 183 = .ok (.aload 4, 2) := by decide +kernel
theorem dX6_link_185 : decode cX6_link 185 = .ok (.getfield 197, 3) := by decide +kernel
theorem dX6_link_188 : decode cX6_link 188 = .ok (.aload 4, 2) := by decide +kernel
theorem dX6_link_190 : decode cX6_link 190 = .ok (.aastore, 1) := by decide +kernel
theorem dX6_link_191 : decode cX6_link 191 = .ok (.aload_n 0, 1) := by decide +kernel
theorem dX6_link_192 : decode cX6_link 192 = .ok (.getfield 48, 3) := by decide +kernel
theorem dX6_link_195 : decode cX6_link 195 = .ok (.getfield 200, 3) := by decide +kernel
theorem dX6_link_198 : decode cX6_link 198 = .ok (.aload 4, 2) := by decide +kernel
theorem dX6_link_200 : decode cX6_link 200 = .ok (.getfield 197, 3) := by decide +kernel
theorem dX6_link_203 : decode cX6_link 203 = .ok (.iload_n 2, 1) := by decide +kernel
theorem dX6_link_204 : decode cX6_link 204 = .ok (.iastore, 1) := by decide +kernel
theorem dX6_link_205 : decode cX6_link 205 = .ok (.aload_n 0, 1) := by decide +kernel
theorem dX6_link_206 : decode cX6_link 206 = .ok (.getfield 48, 3) := by decide +kernel
theorem dX6_link_209 : decode cX6_link 209 = .ok (.getfield 203, 3) := by decide +kernel
theorem dX6_link_212 : decode cX6_link 212 = .ok (.aload 4, 2) := by decide +kernel
theorem dX6_link_214 : decode cX6_link 214 = .ok (.getfield 197, 3) := by decide +kernel
theorem dX6_link_217 : decode cX6_link 217 = .ok (.aload_n 0, 1) := by decide +kernel
theorem dX6_link_218 : decode cX6_link 218 = .ok (.getfield 113, 3) := by decide +kernel
theorem dX6_link_221 : decode cX6_link 221 = .ok (.aload 5, 2) := by decide +kernel
theorem dX6_link_223 : decode cX6_link 223 = .ok (.invokevirtual 160, 3) := by decide +kernel
theorem dX6_link_226 : decode cX6_link 226 = .ok (.iastore, 1) := by decide +kernel
theorem dX6_link_227 : decode cX6_link 227 = .ok (.aload_n 0, 1) := by decide +kernel
theorem dX6_link_228 : decode cX6_link 228 = .ok (.getfield 48, 3) := by decide +kernel
theorem dX6_link_231 : decode cX6_link 231 = .ok (.getfield 206, 3) := by decide +kernel
theorem dX6_link_234 : decode cX6_link 234 = .ok (.aload 4, 2) := by decide +kernel
theorem dX6_link_236 : decode cX6_link 236 = .ok (.getfield 197, 3) := by decide +kernel
theorem dX6_link_239 : decode cX6_link 239 = .ok (.aload 6, 2) := by decide +kernel
theorem dX6_link_241 : decode cX6_link 241 = .ok (.ifnull 25, 3) := by decide +kernel
theorem dX6_link_244 : decode cX6_link 244 = .ok (.aload 5, 2) := by decide +kernel
theorem dX6_link_246 : decode cX6_link 246 = .ok (.ifnull 20, 3) := by decide +kernel
theorem dX6_link_249 : decode cX6_link 249 = .ok (.aload 5, 2) := by decide +kernel
theorem dX6_link_251 : decode cX6_link 251 = .ok (.getstatic 187, 3) := by decide +kernel
theorem dX6_link_254 : decode cX6_link 254 = .ok (.invokevirtual 190, 3) := by decide +kernel
theorem dX6_link_257 : decode cX6_link 257 = .ok (.aload 6, 2) := by decide +kernel
theorem dX6_link_259 : decode cX6_link 259 = .ok (.if_acmp .ne 7, 3) := by decide +kernel
theorem dX6_link_262 : decode cX6_link 262 = .ok (.iconst 1, 1) := by decide +kernel
theorem dX6_link_263 : decode cX6_link 263 = .ok (.goto 4, 3) := by decide +kernel
theorem dX6_link_266 : decode cX6_link 266 = .ok (.iconst 0, 1) := by decide +kernel
theorem dX6_link_267 : decode cX6_link 267 = .ok (.bastore, 1) := by decide +kernel
theorem dX6_link_268 : decode cX6_link 268 = .ok (.iinc 3 1, 3) := by decide +kernel
theorem dX6_link_271 : decode cX6_link 271 = .ok (.goto (-177), 3) := by decide +kernel
theorem dX6_link_274 : decode cX6_link 274 = .ok (.return_, 1) := by decide +kernel
abbrev MX6_link : zT := (yX6_link, cX6_link, 7, (Option.none : Option Jvm.ClassFile.FieldType), [])
theorem plX6_link : zplain MX6_link 1 ∧ (zcodeW MX6_link ∈ lw_all ∧ Cond.initialized MX6_link.1.cls ∈ lw_all) := ⟨⟨by decide +kernel, by decide +kernel⟩, q1398, q110⟩
noncomputable def f_X6_link_274 (σ : zM) : Option zO :=
  some (0, ((3, 0) : zV), σ)
theorem w_X6_link_274 {g : zG} {lv : Nat} {out : zO} (σ : zM) {r : zO} (h : f_X6_link_274  σ = some r) (hk : (fun o : zO => o = out) r) : Gj g MX6_link (lv + 47) 274 [] [] σ out := by
  revert h
  unfold f_X6_link_274
  intro h
  cases h
  have hk : (0, ((3, 0) : zV), σ) = out := hk
  subst hk
  exact gj_vret (pc := 274) dX6_link_274 rfl
noncomputable def f_X6_link_268 (x0 x2 x3 : Int) (σ : zM) : Option ((Int × zM) ⊕ zO) :=
  zlet (zadd x3 1) fun y1 =>
  some (.inl (y1, σ))
theorem w_X6_link_268 {g : zG} {lv : Nat} {out : zO} (x0 x2 x3 : Int) (σ : zM) {r : ((Int × zM) ⊕ zO)} (h : f_X6_link_268 x0 x2 x3 σ = some r) (hk : (zKL (fun s : Int × zM => Gj g MX6_link (lv + 47) 94 [(0, zr x0), (2, zi x2), (3, zi s.1)] [] s.2 out) (fun o : zO => o = out)) r) : Gj g MX6_link (lv + 47) 268 [(0, zr x0), (2, zi x2), (3, zi x3)] [] σ out := by
  revert h
  unfold f_X6_link_268
  refine gb_iinc (pc := 268) 2 (fun y1 => [(3, zi y1), (0, zr x0), (2, zi x2)]) dX6_link_268 rfl (by decide) (fun _ => rfl) (fun y1 => ?_)
  refine zst_ (gj_goto 94 (pc := 271) dX6_link_271 (by decide)) ?_
  refine zst_ (gj_sub [1, 2, 0] rfl) ?_
  intro h
  cases h
  exact hk
noncomputable def f_X6_link_267 (x0 x2 x3 t0 t1 t2 : Int) (σ : zM) : Option ((Int × zM) ⊕ zO) :=
  zgd (z01 t0) <|
  (zpa σ 103 t2 t1 t0).bind fun σ1 =>
  f_X6_link_268 x0 x2 x3 σ1
theorem w_X6_link_267 {g : zG} {lv : Nat} {out : zO} (x0 x2 x3 t0 t1 t2 : Int) (σ : zM) {r : ((Int × zM) ⊕ zO)} (h : f_X6_link_267 x0 x2 x3 t0 t1 t2 σ = some r) (hk : (zKL (fun s : Int × zM => Gj g MX6_link (lv + 47) 94 [(0, zr x0), (2, zi x2), (3, zi s.1)] [] s.2 out) (fun o : zO => o = out)) r) : Gj g MX6_link (lv + 47) 267 [(0, zr x0), (2, zi x2), (3, zi x3)] [zi t0, zi t1, zr t2] σ out := by
  revert h
  unfold f_X6_link_267
  refine gb_gd (fun hb => ?_)
  refine gb_zast (pc := 267) (z01E hb) dX6_link_267 (fun σ1 => ?_)
  exact fun h => w_X6_link_268 x0 x2 x3 σ1 h hk
noncomputable def f_X6_link_266 (x0 x2 x3 t0 t1 : Int) (σ : zM) : Option ((Int × zM) ⊕ zO) :=
  f_X6_link_267 x0 x2 x3 0 t0 t1 σ
theorem w_X6_link_266 {g : zG} {lv : Nat} {out : zO} (x0 x2 x3 t0 t1 : Int) (σ : zM) {r : ((Int × zM) ⊕ zO)} (h : f_X6_link_266 x0 x2 x3 t0 t1 σ = some r) (hk : (zKL (fun s : Int × zM => Gj g MX6_link (lv + 47) 94 [(0, zr x0), (2, zi x2), (3, zi s.1)] [] s.2 out) (fun o : zO => o = out)) r) : Gj g MX6_link (lv + 47) 266 [(0, zr x0), (2, zi x2), (3, zi x3)] [zi t0, zr t1] σ out := by
  revert h
  unfold f_X6_link_266
  refine zst_ (gj_iconst (pc := 266) dX6_link_266 (by decide)) ?_
  exact fun h => w_X6_link_267 x0 x2 x3 0 t0 t1 σ h hk
noncomputable def f_X6_link_144 (x0 x2 x3 x4 : Int) (σ : zM) : Option ((Int × zM) ⊕ zO) :=
  (zgf σ 1100 x4).bind fun v1 =>
  zgd (zen v1) <|
  zci (f_X10_isBasic v1 σ) fun v2 σ3 =>
  if v2 ≠ 0 then
    zgd (zis σ3 12 x4) <|
    zcrT (f_X11_lead x4 1 σ3) (fun n a σ5 => some (.inr (n + 1, zr a, σ5))) fun v4 σ5 =>
    zgd (zis σ5 12 x4) <|
    zcr (f_X11_around x4 (-10) σ5) fun v6 σ7 =>
    (zgf σ7 500 x0).bind fun v8 =>
    (zgf σ7 207 v8).bind fun v9 =>
    (zgf σ7 1109 x4).bind fun v10 =>
    (zpr σ7 106 v9 v10 x4).bind fun σ11 =>
    (zgf σ11 500 x0).bind fun v12 =>
    (zgf σ11 208 v12).bind fun v13 =>
    (zgf σ11 1109 x4).bind fun v14 =>
    (zpa σ11 101 v13 v14 x2).bind fun σ15 =>
    (zgf σ15 500 x0).bind fun v16 =>
    (zgf σ15 209 v16).bind fun v17 =>
    (zgf σ15 1109 x4).bind fun v18 =>
    (zgf σ15 607 x0).bind fun v19 =>
    zgd (zis σ15 5 v19) <|
    zci (f_X4_pointOf v19 v4 σ15) fun v20 σ21 =>
    (zpa σ21 101 v17 v18 v20).bind fun σ22 =>
    (zgf σ22 500 x0).bind fun v23 =>
    (zgf σ22 210 v23).bind fun v24 =>
    (zgf σ22 1109 x4).bind fun v25 =>
    if v6 = (-1) then
      f_X6_link_266 x0 x2 x3 v25 v24 σ22
    else
      if v4 = (-1) then
        f_X6_link_266 x0 x2 x3 v25 v24 σ22
      else
        zgd (zis σ22 12 v4) <|
        zcr (f_X11_around v4 (-10) σ22) fun v26 σ27 =>
        if v26 ≠ v6 then
          f_X6_link_266 x0 x2 x3 v25 v24 σ27
        else
          f_X6_link_267 x0 x2 x3 1 v25 v24 σ27
  else
    f_X6_link_268 x0 x2 x3 σ3
theorem w_X6_link_144 {g : zG} {lv : Nat} {out : zO} (x0 x2 x3 x4 : Int) (σ : zM) {r : ((Int × zM) ⊕ zO)} (h : f_X6_link_144 x0 x2 x3 x4 σ = some r) (hk : (zKL (fun s : Int × zM => Gj g MX6_link (lv + 47) 94 [(0, zr x0), (2, zi x2), (3, zi s.1)] [] s.2 out) (fun o : zO => o = out)) r) : Gj g MX6_link (lv + 47) 144 [(0, zr x0), (2, zi x2), (3, zi x3), (4, zr x4)] [] σ out := by
  revert h
  unfold f_X6_link_144
  refine zst_ (gj_aload 3 (pc := 144) dX6_link_144 rfl) ?_
  refine gb_getNe (pc := 146) fl1100 dX6_link_146 q1155 (Or.inl rfl) (fun v1 => ?_)
  refine gb_gd (fun hb => ?_)
  refine gb_callI (pc := 149) (as := [zr v1]) (rest := []) (zCl.of (zLk_R (M := MX6_link) plX10_isBasic.1 rfl (zRcv_enum hb) dX6_link_149 q1417 q1418 q1419 q1420) plX10_isBasic (Nat.le_of_ble_eq_true rfl) (fun h => c_X10_isBasic h)) (fun v2 σ3 => ?_)
  refine gb_if (gj_if_ne 158 (pc := 152) dX6_link_152 (by decide)) ?_ ?_
  · refine zst_ (gj_aload 3 (pc := 158) dX6_link_158 rfl) ?_
    refine zst_ (gj_iconst (pc := 160) dX6_link_160 (by decide)) ?_
    refine gb_gd (fun hb => ?_)
    refine gb_callAT (pc := 161) (as := [zr x4, zi 1]) (rest := []) (zCl.of (zLk_V (M := MX6_link) (ci := 11) (r := (RX11, TX11, 12)) plX11_lead.1 rfl rfl (zisE hb).1 (zisE hb).2 dX6_link_161 q1385 q1386 q1387 q1388) plX11_lead (Nat.le_of_ble_eq_true rfl) (fun h => c_X11_lead h)) (fun n a s0 h => by cases h; exact Or.inl ⟨rfl, hk⟩) (fun v4 σ5 => ?_)
    refine zst_ (gj_astore (pc := 164) (ls' := [(5, zr v4), (0, zr x0), (2, zi x2), (3, zi x3), (4, zr x4)]) dX6_link_164 (by decide) rfl) ?_
    refine zst_ (gj_aload 4 (pc := 166) dX6_link_166 rfl) ?_
    refine zst_ (gj_enumL (pc := 168) (i := 8) (by decide) rfl rfl dX6_link_168 q1282 rfl) ?_
    refine gb_gd (fun hb => ?_)
    refine gb_callA (pc := 171) (as := [zr x4, zr (-10)]) (rest := []) (zCl.of (zLk_V (M := MX6_link) (ci := 11) (r := (RX11, TX11, 12)) plX11_around.1 rfl rfl (zisE hb).1 (zisE hb).2 dX6_link_171 q1288 q1289 q1290 q1291) plX11_around (Nat.le_of_ble_eq_true rfl) (fun h => c_X11_around h)) (fun v6 σ7 => ?_)
    refine zst_ (gj_astore (pc := 174) (ls' := [(6, zr v6), (5, zr v4), (0, zr x0), (2, zi x2), (3, zi x3), (4, zr x4)]) dX6_link_174 (by decide) rfl) ?_
    refine zst_ (gj_aload_n 2 (pc := 176) dX6_link_176 rfl) ?_
    refine gb_get (pc := 177) fl500 dX6_link_177 q690 (Or.inr q691) (fun v8 => ?_)
    refine gb_getNe (pc := 180) fl207 dX6_link_180 q288 (Or.inl rfl) (fun v9 => ?_)
    refine zst_ (gj_aload 5 (pc := 183) dX6_link_183 rfl) ?_
    refine gb_getNe (pc := 185) fl1109 dX6_link_185 q1175 (Or.inl rfl) (fun v10 => ?_)
    refine zst_ (gj_aload 5 (pc := 188) dX6_link_188 rfl) ?_
    refine gb_aast (pc := 190) (k := 106) ⟨by decide, by decide⟩ dX6_link_190 (fun σ11 => ?_)
    refine zst_ (gj_aload_n 2 (pc := 191) dX6_link_191 rfl) ?_
    refine gb_get (pc := 192) fl500 dX6_link_192 q690 (Or.inr q691) (fun v12 => ?_)
    refine gb_getNe (pc := 195) fl208 dX6_link_195 q290 (Or.inl rfl) (fun v13 => ?_)
    refine zst_ (gj_aload 5 (pc := 198) dX6_link_198 rfl) ?_
    refine gb_getNe (pc := 200) fl1109 dX6_link_200 q1175 (Or.inl rfl) (fun v14 => ?_)
    refine zst_ (gj_iload_n 3 (pc := 203) dX6_link_203 rfl) ?_
    refine gb_iast (pc := 204) dX6_link_204 (fun σ15 => ?_)
    refine zst_ (gj_aload_n 2 (pc := 205) dX6_link_205 rfl) ?_
    refine gb_get (pc := 206) fl500 dX6_link_206 q690 (Or.inr q691) (fun v16 => ?_)
    refine gb_getNe (pc := 209) fl209 dX6_link_209 q292 (Or.inl rfl) (fun v17 => ?_)
    refine zst_ (gj_aload 5 (pc := 212) dX6_link_212 rfl) ?_
    refine gb_getNe (pc := 214) fl1109 dX6_link_214 q1175 (Or.inl rfl) (fun v18 => ?_)
    refine zst_ (gj_aload_n 2 (pc := 217) dX6_link_217 rfl) ?_
    refine gb_get (pc := 218) fl607 dX6_link_218 q688 (Or.inl rfl) (fun v19 => ?_)
    refine zst_ (gj_aload 1 (pc := 221) dX6_link_221 rfl) ?_
    refine gb_gd (fun hb => ?_)
    refine gb_callI (pc := 223) (as := [zr v19, zr v4]) (rest := [zi v18, zr v17]) (zCl.of (zLk_V (M := MX6_link) (ci := 4) (r := (RX4, TX4, 7)) plX4_pointOf.1 rfl rfl (zisE hb).1 (zisE hb).2 dX6_link_223 q1399 q1400 q1401 q1402) plX4_pointOf (Nat.le_of_ble_eq_true rfl) (fun h => c_X4_pointOf h)) (fun v20 σ21 => ?_)
    refine gb_iast (pc := 226) dX6_link_226 (fun σ22 => ?_)
    refine zst_ (gj_aload_n 2 (pc := 227) dX6_link_227 rfl) ?_
    refine gb_get (pc := 228) fl500 dX6_link_228 q690 (Or.inr q691) (fun v23 => ?_)
    refine gb_getNe (pc := 231) fl210 dX6_link_231 q294 (Or.inl rfl) (fun v24 => ?_)
    refine zst_ (gj_aload 5 (pc := 234) dX6_link_234 rfl) ?_
    refine gb_getNe (pc := 236) fl1109 dX6_link_236 q1175 (Or.inl rfl) (fun v25 => ?_)
    refine zst_ (gj_aload 0 (pc := 239) dX6_link_239 rfl) ?_
    refine gb_if (gj_ifnull 266 (pc := 241) dX6_link_241 (by decide)) ?_ ?_
    · refine zst_ (gj_sub [2, 3, 4] rfl) ?_
      exact fun h => w_X6_link_266 x0 x2 x3 v25 v24 σ22 h hk
    · refine zst_ (gj_aload 1 (pc := 244) dX6_link_244 rfl) ?_
      refine gb_if (gj_ifnull 266 (pc := 246) dX6_link_246 (by decide)) ?_ ?_
      · refine zst_ (gj_sub [2, 3, 4] rfl) ?_
        exact fun h => w_X6_link_266 x0 x2 x3 v25 v24 σ22 h hk
      · refine zst_ (gj_aload 1 (pc := 249) dX6_link_249 rfl) ?_
        refine zst_ (gj_enumL (pc := 251) (i := 8) (by decide) rfl rfl dX6_link_251 q1282 rfl) ?_
        refine gb_gd (fun hb => ?_)
        refine gb_callA (pc := 254) (as := [zr v4, zr (-10)]) (rest := [zi v25, zr v24]) (zCl.of (zLk_V (M := MX6_link) (ci := 11) (r := (RX11, TX11, 12)) plX11_around.1 rfl rfl (zisE hb).1 (zisE hb).2 dX6_link_254 q1288 q1289 q1290 q1291) plX11_around (Nat.le_of_ble_eq_true rfl) (fun h => c_X11_around h)) (fun v26 σ27 => ?_)
        refine zst_ (gj_aload 0 (pc := 257) dX6_link_257 rfl) ?_
        refine gb_if (gj_acmp_ne 266 (pc := 259) dX6_link_259 (by decide)) ?_ ?_
        · refine zst_ (gj_sub [2, 3, 4] rfl) ?_
          exact fun h => w_X6_link_266 x0 x2 x3 v25 v24 σ27 h hk
        · refine zst_ (gj_iconst (pc := 262) dX6_link_262 (by decide)) ?_
          refine zst_ (gj_goto 267 (pc := 263) dX6_link_263 (by decide)) ?_
          refine zst_ (gj_sub [2, 3, 4] rfl) ?_
          exact fun h => w_X6_link_267 x0 x2 x3 1 v25 v24 σ27 h hk
  · refine zst_ (gj_goto 268 (pc := 155) dX6_link_155 (by decide)) ?_
    refine zst_ (gj_sub [0, 1, 2] rfl) ?_
    exact fun h => w_X6_link_268 x0 x2 x3 σ3 h hk
noncomputable def f_X6_link_94_b (x0 x2 x3 : Int) (σ : zM) : Option ((Int × zM) ⊕ zO) :=
  (zgf σ 606 x0).bind fun v1 =>
  if v1 ≤ x3 then
    (f_X6_link_274 σ).map (fun r => (.inr r))
  else
    (zgf σ 605 x0).bind fun v2 =>
    zgd (zis σ 23 v2) <|
    zcr (f_J6_get v2 x3 σ) fun v3 σ4 =>
    zgd (zis σ4 12 v3) <|
    (zgf σ4 1100 v3).bind fun v5 =>
    zgd (zen v5) <|
    zci (f_X10_isPoint v5 σ4) fun v6 σ7 =>
    if v6 = 0 then
      f_X6_link_144 x0 x2 x3 v3 σ7
    else
      (zgf σ7 607 x0).bind fun v8 =>
      (zgf σ7 406 v8).bind fun v9 =>
      (zgf σ7 1110 v3).bind fun v10 =>
      zcjT (f_G_X6_at 40 0 [v3] σ7) (fun n a σ12 => some (.inr (n + 1, zr a, σ12))) fun v11 σ12 =>
      (zpa σ12 102 v9 v10 v11).bind fun σ13 =>
      f_X6_link_144 x0 x2 x3 v3 σ13
noncomputable def f_X6_link_94 (x0 x2 x3 : Int) (σ : zM) : Option zO :=
  zloop (fun s : Int × zM => f_X6_link_94_b x0 x2 s.1 s.2) (x3, σ)
theorem w_X6_link_94_b {g : zG} {lv : Nat} {out : zO} (x0 x2 x3 : Int) (σ : zM) {r : ((Int × zM) ⊕ zO)} (h : f_X6_link_94_b x0 x2 x3 σ = some r) (hk : (zKL (fun s : Int × zM => Gj g MX6_link (lv + 47) 94 [(0, zr x0), (2, zi x2), (3, zi s.1)] [] s.2 out) (fun o : zO => o = out)) r) : Gj g MX6_link (lv + 47) 94 [(0, zr x0), (2, zi x2), (3, zi x3)] [] σ out := by
  revert h
  unfold f_X6_link_94_b
  refine zst_ (gj_iload_n 2 (pc := 94) dX6_link_94 rfl) ?_
  refine zst_ (gj_aload_n 0 (pc := 95) dX6_link_95 rfl) ?_
  refine gb_get (pc := 96) fl606 dX6_link_96 q687 (Or.inl rfl) (fun v1 => ?_)
  refine gb_if (gj_icmp_ge 274 (pc := 99) dX6_link_99 (by decide)) ?_ ?_
  · refine zst_ (gj_sub [] rfl) ?_
    intro h
    obtain ⟨r0, h0, rfl⟩ := zmE h
    exact w_X6_link_274 σ h0 hk
  · refine zst_ (gj_aload_n 0 (pc := 102) dX6_link_102 rfl) ?_
    refine gb_get (pc := 103) fl605 dX6_link_103 q686 (Or.inl rfl) (fun v2 => ?_)
    refine zst_ (gj_iload_n 2 (pc := 106) dX6_link_106 rfl) ?_
    refine gb_gd (fun hb => ?_)
    refine gb_callA (pc := 107) (as := [zr v2, zi x3]) (rest := []) (zCl.of (zLk_V (M := MX6_link) (ci := 22) (r := (RJ6, TJ6, 3)) plJ6_get.1 rfl rfl (zisE hb).1 (zisE hb).2 dX6_link_107 q1266 q1267 q1268 q1269) plJ6_get (Nat.le_of_ble_eq_true rfl) (fun h => c_J6_get h)) (fun v3 σ4 => ?_)
    refine gb_gd (fun hb => ?_)
    refine zst_ (gj_cast (pc := 110) (ci := 11) (r := (RX11, TX11, 12)) rfl (zisE hb).1 (zisE hb).2 dX6_link_110 q1148) ?_
    refine zst_ (gj_astore (pc := 113) (ls' := [(4, zr v3), (0, zr x0), (2, zi x2), (3, zi x3)]) dX6_link_113 (by decide) rfl) ?_
    refine zst_ (gj_aload 0 (pc := 115) dX6_link_115 rfl) ?_
    refine gb_getNe (pc := 117) fl1100 dX6_link_117 q1155 (Or.inl rfl) (fun v5 => ?_)
    refine gb_gd (fun hb => ?_)
    refine gb_callI (pc := 120) (as := [zr v5]) (rest := []) (zCl.of (zLk_R (M := MX6_link) plX10_isPoint.1 rfl (zRcv_enum hb) dX6_link_120 q1403 q1404 q1405 q1406) plX10_isPoint (Nat.le_of_ble_eq_true rfl) (fun h => c_X10_isPoint h)) (fun v6 σ7 => ?_)
    refine gb_if (gj_if_eq 144 (pc := 123) dX6_link_123 (by decide)) ?_ ?_
    · refine zst_ (gj_sub [1, 2, 3, 0] rfl) ?_
      exact fun h => w_X6_link_144 x0 x2 x3 v3 σ7 h hk
    · refine zst_ (gj_aload_n 1 (pc := 126) dX6_link_126 rfl) ?_
      refine gb_get (pc := 127) fl607 dX6_link_127 q688 (Or.inl rfl) (fun v8 => ?_)
      refine gb_getNe (pc := 130) fl406 dX6_link_130 q251 (Or.inl rfl) (fun v9 => ?_)
      refine zst_ (gj_aload 0 (pc := 133) dX6_link_133 rfl) ?_
      refine gb_getNe (pc := 135) fl1110 dX6_link_135 q1178 (Or.inl rfl) (fun v10 => ?_)
      refine zst_ (gj_aload 0 (pc := 138) dX6_link_138 rfl) ?_
      refine gb_callJT (pc := 140) (as := [zr v3]) (rest := [zi v10, zr v9]) (zCl.of (zLk_S (M := MX6_link) plX6_at.1 rfl dX6_link_140 q1414 q1415 q110 q1416) plX6_at (Nat.le_of_ble_eq_true rfl) (fun h => c_G_X6_at_0 h)) (fun n a s0 h => by cases h; exact Or.inl ⟨rfl, hk⟩) (fun v11 σ12 => ?_)
      refine gb_last (pc := 143) dX6_link_143 (fun σ13 => ?_)
      refine zst_ (gj_sub [1, 2, 3, 0] rfl) ?_
      exact fun h => w_X6_link_144 x0 x2 x3 v3 σ13 h hk
theorem w_X6_link_94 {g : zG} {lv : Nat} {out : zO} (x0 x2 x3 : Int) (σ : zM) {r : zO} (h : f_X6_link_94 x0 x2 x3 σ = some r) (hk : (fun o : zO => o = out) r) : Gj g MX6_link (lv + 47) 94 [(0, zr x0), (2, zi x2), (3, zi x3)] [] σ out :=
  gj_loop (P := (fun s : Int × zM => Gj g MX6_link (lv + 47) 94 [(0, zr x0), (2, zi x2), (3, zi s.1)] [] s.2 out)) (fun s x hb hx => w_X6_link_94_b x0 x2 s.1 s.2 hb hx) h hk
noncomputable def f_X6_link_92 (x0 x1 x2 : Int) (σ : zM) : Option zO :=
  f_X6_link_94 x0 x2 x1 σ
theorem w_X6_link_92 {g : zG} {lv : Nat} {out : zO} (x0 x1 x2 : Int) (σ : zM) {r : zO} (h : f_X6_link_92 x0 x1 x2 σ = some r) (hk : (fun o : zO => o = out) r) : Gj g MX6_link (lv + 47) 92 [(0, zr x0), (1, zi x1), (2, zi x2)] [] σ out := by
  revert h
  unfold f_X6_link_92
  refine zst_ (gj_iload_n 1 (pc := 92) dX6_link_92 rfl) ?_
  refine zst_ (gj_istore_n (pc := 93) (ls' := [(3, zi x1), (0, zr x0), (1, zi x1), (2, zi x2)]) dX6_link_93 (by decide) rfl) ?_
  refine zst_ (gj_sub [1, 3, 0] rfl) ?_
  exact fun h => w_X6_link_94 x0 x2 x1 σ h hk
noncomputable def f_X6_link_85 (x0 x1 x2 x3 t0 t1 t2 : Int) (σ : zM) : Option ((Int × zM) ⊕ zO) :=
  (zpa σ 101 t2 t1 t0).bind fun σ1 =>
  zlet (zadd x3 1) fun y2 =>
  some (.inl (y2, σ1))
theorem w_X6_link_85 {g : zG} {lv : Nat} {out : zO} (x0 x1 x2 x3 t0 t1 t2 : Int) (σ : zM) {r : ((Int × zM) ⊕ zO)} (h : f_X6_link_85 x0 x1 x2 x3 t0 t1 t2 σ = some r) (hk : (zKL (fun s : Int × zM => Gj g MX6_link (lv + 47) 35 [(0, zr x0), (1, zi x1), (2, zi x2), (3, zi s.1)] [] s.2 out) (fun o : zO => o = out)) r) : Gj g MX6_link (lv + 47) 85 [(0, zr x0), (1, zi x1), (2, zi x2), (3, zi x3)] [zi t0, zi t1, zr t2] σ out := by
  revert h
  unfold f_X6_link_85
  refine gb_iast (pc := 85) dX6_link_85 (fun σ1 => ?_)
  refine gb_iinc (pc := 86) 3 (fun y2 => [(3, zi y2), (0, zr x0), (1, zi x1), (2, zi x2)]) dX6_link_86 rfl (by decide) (fun _ => rfl) (fun y2 => ?_)
  refine zst_ (gj_goto 35 (pc := 89) dX6_link_89 (by decide)) ?_
  refine zst_ (gj_sub [1, 2, 3, 0] rfl) ?_
  intro h
  cases h
  exact hk
noncomputable def f_X6_link_35_b (x0 x1 x2 x3 : Int) (σ : zM) : Option ((Int × zM) ⊕ zO) :=
  if 8 ≤ x3 then
    (f_X6_link_92 x0 x1 x2 σ).map (fun r => (.inr r))
  else
    (zgf σ 607 x0).bind fun v1 =>
    (zgf σ 405 v1).bind fun v2 =>
    (zgf σ 607 x0).bind fun v3 =>
    (zgf σ 404 v3).bind fun v4 =>
    (zga σ 106 v4 x3).bind fun v5 =>
    if v5 ≠ (-1) then
      (zgf σ 607 x0).bind fun v6 =>
      (zgf σ 607 x0).bind fun v7 =>
      (zgf σ 404 v7).bind fun v8 =>
      (zga σ 106 v8 x3).bind fun v9 =>
      zgd (zis σ 12 v9) <|
      zcrT (f_X11_lead v9 0 σ) (fun n a σ11 => some (.inr (n + 1, zr a, σ11))) fun v10 σ11 =>
      zgd (zis σ11 5 v6) <|
      zci (f_X4_pointOf v6 v10 σ11) fun v12 σ13 =>
      f_X6_link_85 x0 x1 x2 x3 v12 x3 v2 σ13
    else
      f_X6_link_85 x0 x1 x2 x3 (-1) x3 v2 σ
noncomputable def f_X6_link_35 (x0 x1 x2 x3 : Int) (σ : zM) : Option zO :=
  zloop (fun s : Int × zM => f_X6_link_35_b x0 x1 x2 s.1 s.2) (x3, σ)
theorem w_X6_link_35_b {g : zG} {lv : Nat} {out : zO} (x0 x1 x2 x3 : Int) (σ : zM) {r : ((Int × zM) ⊕ zO)} (h : f_X6_link_35_b x0 x1 x2 x3 σ = some r) (hk : (zKL (fun s : Int × zM => Gj g MX6_link (lv + 47) 35 [(0, zr x0), (1, zi x1), (2, zi x2), (3, zi s.1)] [] s.2 out) (fun o : zO => o = out)) r) : Gj g MX6_link (lv + 47) 35 [(0, zr x0), (1, zi x1), (2, zi x2), (3, zi x3)] [] σ out := by
  revert h
  unfold f_X6_link_35_b
  refine zst_ (gj_iload_n 3 (pc := 35) dX6_link_35 rfl) ?_
  refine zst_ (gj_bipush (pc := 36) dX6_link_36 ⟨rfl, by decide⟩) ?_
  refine gb_if (gj_icmp_ge 92 (pc := 38) dX6_link_38 (by decide)) ?_ ?_
  · refine zst_ (gj_sub [0, 1, 2] rfl) ?_
    intro h
    obtain ⟨r0, h0, rfl⟩ := zmE h
    exact w_X6_link_92 x0 x1 x2 σ h0 hk
  · refine zst_ (gj_aload_n 0 (pc := 41) dX6_link_41 rfl) ?_
    refine gb_get (pc := 42) fl607 dX6_link_42 q688 (Or.inl rfl) (fun v1 => ?_)
    refine gb_getNe (pc := 45) fl405 dX6_link_45 q247 (Or.inl rfl) (fun v2 => ?_)
    refine zst_ (gj_iload_n 3 (pc := 48) dX6_link_48 rfl) ?_
    refine zst_ (gj_aload_n 0 (pc := 49) dX6_link_49 rfl) ?_
    refine gb_get (pc := 50) fl607 dX6_link_50 q688 (Or.inl rfl) (fun v3 => ?_)
    refine gb_getNe (pc := 53) fl404 dX6_link_53 q245 (Or.inl rfl) (fun v4 => ?_)
    refine zst_ (gj_iload_n 3 (pc := 56) dX6_link_56 rfl) ?_
    refine gb_aald (pc := 57) (k := 106) ⟨by decide, by decide⟩ dX6_link_57 (fun v5 => ?_)
    refine gb_if (gj_ifnonnull 65 (pc := 58) dX6_link_58 (by decide)) ?_ ?_
    · refine zst_ (gj_aload_n 0 (pc := 65) dX6_link_65 rfl) ?_
      refine gb_get (pc := 66) fl607 dX6_link_66 q688 (Or.inl rfl) (fun v6 => ?_)
      refine zst_ (gj_aload_n 0 (pc := 69) dX6_link_69 rfl) ?_
      refine gb_get (pc := 70) fl607 dX6_link_70 q688 (Or.inl rfl) (fun v7 => ?_)
      refine gb_getNe (pc := 73) fl404 dX6_link_73 q245 (Or.inl rfl) (fun v8 => ?_)
      refine zst_ (gj_iload_n 3 (pc := 76) dX6_link_76 rfl) ?_
      refine gb_aald (pc := 77) (k := 106) ⟨by decide, by decide⟩ dX6_link_77 (fun v9 => ?_)
      refine zst_ (gj_iconst (pc := 78) dX6_link_78 (by decide)) ?_
      refine gb_gd (fun hb => ?_)
      refine gb_callAT (pc := 79) (as := [zr v9, zi 0]) (rest := [zr v6, zi x3, zr v2]) (zCl.of (zLk_V (M := MX6_link) (ci := 11) (r := (RX11, TX11, 12)) plX11_lead.1 rfl rfl (zisE hb).1 (zisE hb).2 dX6_link_79 q1385 q1386 q1387 q1388) plX11_lead (Nat.le_of_ble_eq_true rfl) (fun h => c_X11_lead h)) (fun n a s0 h => by cases h; exact Or.inl ⟨rfl, hk⟩) (fun v10 σ11 => ?_)
      refine gb_gd (fun hb => ?_)
      refine gb_callI (pc := 82) (as := [zr v6, zr v10]) (rest := [zi x3, zr v2]) (zCl.of (zLk_V (M := MX6_link) (ci := 4) (r := (RX4, TX4, 7)) plX4_pointOf.1 rfl rfl (zisE hb).1 (zisE hb).2 dX6_link_82 q1399 q1400 q1401 q1402) plX4_pointOf (Nat.le_of_ble_eq_true rfl) (fun h => c_X4_pointOf h)) (fun v12 σ13 => ?_)
      exact fun h => w_X6_link_85 x0 x1 x2 x3 v12 x3 v2 σ13 h hk
    · refine zst_ (gj_iconst (pc := 61) dX6_link_61 (by decide)) ?_
      refine zst_ (gj_goto 85 (pc := 62) dX6_link_62 (by decide)) ?_
      exact fun h => w_X6_link_85 x0 x1 x2 x3 (-1) x3 v2 σ h hk
theorem w_X6_link_35 {g : zG} {lv : Nat} {out : zO} (x0 x1 x2 x3 : Int) (σ : zM) {r : zO} (h : f_X6_link_35 x0 x1 x2 x3 σ = some r) (hk : (fun o : zO => o = out) r) : Gj g MX6_link (lv + 47) 35 [(0, zr x0), (1, zi x1), (2, zi x2), (3, zi x3)] [] σ out :=
  gj_loop (P := (fun s : Int × zM => Gj g MX6_link (lv + 47) 35 [(0, zr x0), (1, zi x1), (2, zi x2), (3, zi s.1)] [] s.2 out)) (fun s x hb hx => w_X6_link_35_b x0 x1 x2 s.1 s.2 hb hx) h hk
noncomputable def f_X6_link (x0 x1 : Int) (σ : zM) : Option zO :=
  (zgf σ 500 x0).bind fun v1 =>
  (zgf σ 204 v1).bind fun v2 =>
  (zgf σ 607 x0).bind fun v3 =>
  (zgf σ 607 x0).bind fun v4 =>
  (zgf σ 607 x0).bind fun v5 =>
  (zgf σ 400 v5).bind fun v6 =>
  zgd (zis σ 12 v6) <|
  zcrT (f_X11_lead v6 0 σ) (fun n a σ8 => some (n + 1, zr a, σ8)) fun v7 σ8 =>
  zgd (zis σ8 5 v4) <|
  zci (f_X4_pointOf v4 v7 σ8) fun v9 σ10 =>
  (zpf σ10 402 v3 v9).bind fun σ11 =>
  f_X6_link_35 x0 x1 v2 0 σ11
theorem c_X6_link {g : zG} {lv : Nat} {x0 x1 : Int} {σ : zM} {out : zO} (h : f_X6_link x0 x1 σ = some out) : Cj g (lv + 47) MX6_link [zr x0, zi x1] σ out := by
  refine cj_go (ls := [(0, zr x0), (1, zi x1)]) (by decide) (Nat.le_of_ble_eq_true rfl) rfl (zgen h (fun r hk => ?_))
  unfold f_X6_link
  refine zst_ (gj_aload_n 0 (pc := 0) dX6_link_0 rfl) ?_
  refine gb_get (pc := 1) fl500 dX6_link_1 q690 (Or.inr q691) (fun v1 => ?_)
  refine gb_getNe (pc := 4) fl204 dX6_link_4 q278 (Or.inl rfl) (fun v2 => ?_)
  refine zst_ (gj_istore_n (pc := 7) (ls' := [(2, zi v2), (0, zr x0), (1, zi x1)]) dX6_link_7 (by decide) rfl) ?_
  refine zst_ (gj_aload_n 1 (pc := 8) dX6_link_8 rfl) ?_
  refine gb_get (pc := 9) fl607 dX6_link_9 q688 (Or.inl rfl) (fun v3 => ?_)
  refine zst_ (gj_aload_n 1 (pc := 12) dX6_link_12 rfl) ?_
  refine gb_get (pc := 13) fl607 dX6_link_13 q688 (Or.inl rfl) (fun v4 => ?_)
  refine zst_ (gj_aload_n 1 (pc := 16) dX6_link_16 rfl) ?_
  refine gb_get (pc := 17) fl607 dX6_link_17 q688 (Or.inl rfl) (fun v5 => ?_)
  refine gb_getNe (pc := 20) fl400 dX6_link_20 q237 (Or.inl rfl) (fun v6 => ?_)
  refine zst_ (gj_iconst (pc := 23) dX6_link_23 (by decide)) ?_
  refine gb_gd (fun hb => ?_)
  refine gb_callAT (pc := 24) (as := [zr v6, zi 0]) (rest := [zr v4, zr v3]) (zCl.of (zLk_V (M := MX6_link) (ci := 11) (r := (RX11, TX11, 12)) plX11_lead.1 rfl rfl (zisE hb).1 (zisE hb).2 dX6_link_24 q1385 q1386 q1387 q1388) plX11_lead (Nat.le_of_ble_eq_true rfl) (fun h => c_X11_lead h)) (fun n a s0 h => by cases h; exact Or.inl ⟨rfl, hk⟩) (fun v7 σ8 => ?_)
  refine gb_gd (fun hb => ?_)
  refine gb_callI (pc := 27) (as := [zr v4, zr v7]) (rest := [zr v3]) (zCl.of (zLk_V (M := MX6_link) (ci := 4) (r := (RX4, TX4, 7)) plX4_pointOf.1 rfl rfl (zisE hb).1 (zisE hb).2 dX6_link_27 q1399 q1400 q1401 q1402) plX4_pointOf (Nat.le_of_ble_eq_true rfl) (fun h => c_X4_pointOf h)) (fun v9 σ10 => ?_)
  refine gb_putNe (pc := 30) fl402 fr402 dX6_link_30 q240 (Or.inl rfl) (fun σ11 => ?_)
  refine zst_ (gj_iconst (pc := 33) dX6_link_33 (by decide)) ?_
  refine zst_ (gj_istore_n (pc := 34) (ls' := [(3, zi 0), (2, zi v2), (0, zr x0), (1, zi x1)]) dX6_link_34 (by decide) rfl) ?_
  refine zst_ (gj_sub [2, 3, 1, 0] rfl) ?_
  exact fun h => w_X6_link_35 x0 x1 v2 0 σ11 h hk
theorem q285 : (Jvm.Cond.fieldLinkNest "LassoFinder$ModelReader" (109 : Nat) "LassoFinder$Model" "routines" "[LLassoFinder$Routine;" "LassoFinder") ∈ lw_tbl := lw_at lw_m1 185 rfl
theorem q1120 : (Jvm.Cond.code ({ cls := "LassoFinder$ModelReader", name := "process", desc := "()V" } : Jvm.MethodName) prog_10_method_5_code (3 : Nat) (Option.none : Option Jvm.ClassFile.FieldType)) ∈ lw_all := lw_g (lw_at lw_m5 60 rfl) rfl
theorem q1121 : (Jvm.Cond.methodLink "LassoFinder$ModelReader" (117 : Nat) ({ cls := "LassoFinder$Routine", name := "clear", desc := "()V" } : Jvm.MethodName)) ∈ lw_all := lw_g (lw_at lw_m5 61 rfl) rfl
theorem q1122 : (Jvm.Cond.instanceMethod ({ cls := "LassoFinder$Routine", name := "clear", desc := "()V" } : Jvm.MethodName)) ∈ lw_all := lw_g (lw_at lw_m5 62 rfl) rfl
theorem q1123 : (Jvm.Cond.selects "LassoFinder$Routine" ({ cls := "LassoFinder$Routine", name := "clear", desc := "()V" } : Jvm.MethodName) ({ cls := "LassoFinder$Routine", name := "clear", desc := "()V" } : Jvm.MethodName)) ∈ lw_all := lw_g (lw_at lw_m5 63 rfl) rfl
theorem q1381 : (Jvm.Cond.methodLink "LassoFinder$ModelReader" (128 : Nat) ({ cls := "LassoFinder$ModelReader", name := "jumps", desc := "(I)V" } : Jvm.MethodName)) ∈ lw_all := lw_g (lw_at lw_m6 81 rfl) rfl
theorem q1383 : (Jvm.Cond.instanceMethod ({ cls := "LassoFinder$ModelReader", name := "jumps", desc := "(I)V" } : Jvm.MethodName)) ∈ lw_all := lw_g (lw_at lw_m6 83 rfl) rfl
theorem q1395 : (Jvm.Cond.methodLink "LassoFinder$ModelReader" (131 : Nat) ({ cls := "LassoFinder$ModelReader", name := "link", desc := "(I)V" } : Jvm.MethodName)) ∈ lw_all := lw_g (lw_at lw_m6 95 rfl) rfl
theorem q1397 : (Jvm.Cond.instanceMethod ({ cls := "LassoFinder$ModelReader", name := "link", desc := "(I)V" } : Jvm.MethodName)) ∈ lw_all := lw_g (lw_at lw_m6 97 rfl) rfl
theorem fl206 : zfl 206 2 "LassoFinder$Model" "routines" "[LLassoFinder$Routine;" true := ⟨rfl, rfl, rfl⟩
theorem fr206 {g : zG} {v : Int} : zok g (2, v) → zokt g (zft 206) v := fun h => h
abbrev cX6_process : ByteArray := prog_10_method_5_code
def yX6_process : MethodName := ⟨RX6, "process", "()V"⟩
theorem dX6_process_0 : decode cX6_process 0 = .ok (.aload_n 0, 1) := by decide +kernel
theorem dX6_process_1 : decode cX6_process 1 = .ok (.invokevirtual 57, 3) := by decide +kernel
theorem dX6_process_4 : decode cX6_process 4 = .ok (.bipush 123, 2) := by decide +kernel
theorem dX6_process_6 : decode cX6_process 6 = .ok (.if_icmp .ne 18, 3) := by decide +kernel
theorem dX6_process_9 : decode cX6_process 9 = .ok (.aload_n 0, 1) := by decide +kernel
theorem dX6_process_10 : decode cX6_process 10 = .ok (.getfield 48, 3) := by decide +kernel
theorem dX6_process_13 : decode cX6_process 13 = .ok (.getfield 106, 3) := by decide +kernel
theorem dX6_process_16 : decode cX6_process 16 = .ok (.iconst 4, 1) := by decide +kernel
theorem dX6_process_17 : decode cX6_process 17 = .ok (.if_icmp .ge 7, 3) := by decide +kernel
theorem dX6_process_20 : decode cX6_process 20 = .ok (.iconst 1, 1) := by decide +kernel
theorem dX6_process_21 : decode cX6_process 21 = .ok (.goto 4, 3) := by decide +kernel
theorem dX6_process_24 : decode cX6_process 24 = .ok (.iconst 0, 1) := by decide +kernel
theorem dX6_process_25 : decode cX6_process 25 = .ok (.invokestatic 90, 3) := by decide +kernel
theorem dX6_process_28 : decode cX6_process 28 = .ok (.aload_n 0, 1) := by decide +kernel
theorem dX6_process_29 : decode cX6_process 29 = .ok (.dup, 1) := by decide +kernel
theorem dX6_process_30 : decode cX6_process 30 = .ok (.getfield 41, 3) := by decide +kernel
theorem dX6_process_33 : decode cX6_process 33 = .ok (.iconst 1, 1) := by decide +kernel
theorem dX6_process_34 : decode cX6_process 34 = .ok (.iadd, 1) := by decide +kernel
theorem dX6_process_35 : decode cX6_process 35 = .ok (.putfield 41, 3) := by decide +kernel
theorem dX6_process_38 : decode cX6_process 38 = .ok (.aload_n 0, 1) := by decide +kernel
theorem dX6_process_39 : decode cX6_process 39 = .ok (.aload_n 0, 1) := by decide +kernel
theorem dX6_process_40 : decode cX6_process 40 = .ok (.getfield 48, 3) := by decide +kernel
theorem dX6_process_43 : decode cX6_process 43 = .ok (.getfield 109, 3) := by decide +kernel
theorem dX6_process_46 : decode cX6_process 46 = .ok (.aload_n 0, 1) := by decide +kernel
theorem dX6_process_47 : decode cX6_process 47 = .ok (.getfield 48, 3) := by decide +kernel
theorem dX6_process_50 : decode cX6_process 50 = .ok (.getfield 106, 3) := by decide +kernel
theorem dX6_process_53 : decode cX6_process 53 = .ok (.aaload, 1) := by decide +kernel
theorem dX6_process_54 : decode cX6_process 54 = .ok (.putfield 113, 3) := by decide +kernel
theorem dX6_process_57 : decode cX6_process 57 = .ok (.aload_n 0, 1) := by decide +kernel
theorem dX6_process_58 : decode cX6_process 58 = .ok (.getfield 113, 3) := by decide +kernel
theorem dX6_process_61 : decode cX6_process 61 = .ok (.invokevirtual 117, 3) := by decide +kernel
theorem dX6_process_64 : decode cX6_process 64 = .ok (.aload_n 0, 1) := by decide +kernel
theorem dX6_process_65 : decode cX6_process 65 = .ok (.getfield 20, 3) := by decide +kernel
theorem dX6_process_68 : decode cX6_process 68 = .ok (.istore_n 1, 1) := by decide +kernel
theorem dX6_process_69 : decode cX6_process 69 = .ok (.aload_n 0, 1) := by decide +kernel
theorem dX6_process_70 : decode cX6_process 70 = .ok (.getfield 113, 3) := by decide +kernel
theorem dX6_process_73 : decode cX6_process 73 = .ok (.aload_n 0, 1) := by decide +kernel
theorem dX6_process_74 : decode cX6_process 74 = .ok (.aconst_null, 1) := by decide +kernel
theorem dX6_process_75 : decode cX6_process 75 = .ok (.iconst 0, 1) := by decide +kernel
theorem dX6_process_76 : decode cX6_process 76 = .ok (.invokestatic 120, 3) := by decide +kernel
theorem dX6_process_79 : decode cX6_process 79 = .ok (.putfield 124, 3) := by decide +kernel
theorem dX6_process_82 : decode cX6_process 82 = .ok (.aload_n 0, 1) := by decide +kernel
theorem dX6_process_83 : decode cX6_process 83 = .ok (.invokevirtual 57, 3) := by decide +kernel
theorem dX6_process_86 : decode cX6_process 86 = .ok (.bipush 125, 2) := by decide +kernel
theorem dX6_process_88 : decode cX6_process 88 = .ok (.if_icmp .ne 7, 3) := by decide +kernel
theorem dX6_process_91 : decode cX6_process 91 = .ok (.iconst 1, 1) := by decide +kernel
theorem dX6_process_92 : decode cX6_process 92 = .ok (.goto 4, 3) := by decide +kernel
theorem dX6_process_95 : decode cX6_process 95 = .ok (.iconst 0, 1) := by decide +kernel
theorem dX6_process_96 : decode cX6_process 96 = .ok (.invokestatic 90, 3) := by decide +kernel
theorem dX6_process_99 : decode cX6_process 99 = .ok (.aload_n 0, 1) := by decide +kernel
theorem dX6_process_100 : decode cX6_process 100 = .ok (.getfield 41, 3) := by decide +kernel
theorem dX6_process_103 : decode cX6_process 103 = .ok (.istore_n 2, 1) := by decide +kernel
theorem dX6_process_104 : decode cX6_process 104 = .ok (.aload_n 0, 1) := by decide +kernel
theorem dX6_process_105 : decode cX6_process 105 = .ok (.iload_n 1, 1) := by decide +kernel
theorem dX6_process_106 : decode cX6_process 106 = .ok (.invokevirtual 128, 3) := by decide +kernel
theorem dX6_process_109 : decode cX6_process 109 = .ok (.aload_n 0, 1) := by decide +kernel
theorem dX6_process_110 : decode cX6_process 110 = .ok (.iload_n 2, 1) := by decide +kernel
theorem dX6_process_111 : decode cX6_process 111 = .ok (.iconst 1, 1) := by decide +kernel
theorem dX6_process_112 : decode cX6_process 112 = .ok (.iadd, 1) := by decide +kernel
theorem dX6_process_113 : decode cX6_process 113 = .ok (.putfield 41, 3) := by decide +kernel
theorem dX6_process_116 : decode cX6_process 116 = .ok (.aload_n 0, 1) := by decide +kernel
theorem dX6_process_117 : decode cX6_process 117 = .ok (.iload_n 1, 1) := by decide +kernel
theorem dX6_process_118 : decode cX6_process 118 = .ok (.invokevirtual 131, 3) := by decide +kernel
theorem dX6_process_121 : decode cX6_process 121 = .ok (.aload_n 0, 1) := by decide +kernel
theorem dX6_process_122 : decode cX6_process 122 = .ok (.getfield 48, 3) := by decide +kernel
theorem dX6_process_125 : decode cX6_process 125 = .ok (.dup, 1) := by decide +kernel
theorem dX6_process_126 : decode cX6_process 126 = .ok (.getfield 106, 3) := by decide +kernel
theorem dX6_process_129 : decode cX6_process 129 = .ok (.iconst 1, 1) := by decide +kernel
theorem dX6_process_130 : decode cX6_process 130 = .ok (.iadd, 1) := by decide +kernel
theorem dX6_process_131 : decode cX6_process 131 = .ok (.putfield 106, 3) := by decide +kernel
theorem dX6_process_134 : decode cX6_process 134 = .ok (.return_, 1) := by decide +kernel
abbrev MX6_process : zT := (yX6_process, cX6_process, 3, (Option.none : Option Jvm.ClassFile.FieldType), [])
theorem plX6_process : zplain MX6_process 0 ∧ (zcodeW MX6_process ∈ lw_all ∧ Cond.initialized MX6_process.1.cls ∈ lw_all) := ⟨⟨by decide +kernel, by decide +kernel⟩, q1120, q110⟩
noncomputable def f_X6_process_96 (x0 x1 t0 : Int) (σ : zM) : Option zO :=
  zcvT (f_X5_need t0 σ) (fun n a σ1 => some (n + 1, zr a, σ1)) fun σ1 =>
  (zgf σ1 502 x0).bind fun v2 =>
  zgd (zis σ1 7 x0) <|
  zcvT (f_X6_jumps x0 x1 σ1) (fun n a σ3 => some (n + 1, zr a, σ3)) fun σ3 =>
  (zpf σ3 502 x0 (zadd v2 1)).bind fun σ4 =>
  zgd (zis σ4 7 x0) <|
  zcvT (f_X6_link x0 x1 σ4) (fun n a σ5 => some (n + 1, zr a, σ5)) fun σ5 =>
  (zgf σ5 500 x0).bind fun v6 =>
  (zgf σ5 204 v6).bind fun v7 =>
  (zpf σ5 204 v6 (zadd v7 1)).bind fun σ8 =>
  some (0, ((3, 0) : zV), σ8)
theorem w_X6_process_96 {g : zG} {lv : Nat} {out : zO} (x0 x1 t0 : Int) (σ : zM) {r : zO} (h : f_X6_process_96 x0 x1 t0 σ = some r) (hk : (fun o : zO => o = out) r) : Gj g MX6_process (lv + 91) 96 [(0, zr x0), (1, zi x1)] [zi t0] σ out := by
  revert h
  unfold f_X6_process_96
  refine gb_callVT (pc := 96) (as := [zi t0]) (rest := []) (zCl.of (zLk_SU (M := MX6_process) (x := ⟨"LassoFinder$ModelReader", "need", "(Z)V"⟩) plX5_need.1 ⟨rfl, rfl⟩ rfl dX6_process_96 q1083 q1084 q1085 q109 q1086) plX5_need (Nat.le_of_ble_eq_true rfl) (fun h => c_X5_need h)) (fun n a s0 h => by cases h; exact Or.inl ⟨rfl, hk⟩) (fun σ1 => ?_)
  refine zst_ (gj_aload_n 0 (pc := 99) dX6_process_99 rfl) ?_
  refine gb_get (pc := 100) fl502 dX6_process_100 q702 (Or.inr q703) (fun v2 => ?_)
  refine zst_ (gj_istore_n (pc := 103) (ls' := [(2, zi v2), (0, zr x0), (1, zi x1)]) dX6_process_103 (by decide) rfl) ?_
  refine zst_ (gj_aload_n 1 (pc := 104) dX6_process_104 rfl) ?_
  refine zst_ (gj_iload_n 2 (pc := 105) dX6_process_105 rfl) ?_
  refine gb_gd (fun hb => ?_)
  refine gb_callVT (pc := 106) (as := [zr x0, zi x1]) (rest := []) (zCl.of (zLk_V (M := MX6_process) (ci := 6) (r := (RX6, TX6, 8)) plX6_jumps.1 rfl rfl (zisE hb).1 (zisE hb).2 dX6_process_106 q1381 q1383 qs14 q1384) plX6_jumps (Nat.le_of_ble_eq_true rfl) (fun h => c_X6_jumps h)) (fun n a s0 h => by cases h; exact Or.inl ⟨rfl, hk⟩) (fun σ3 => ?_)
  refine zst_ (gj_aload_n 1 (pc := 109) dX6_process_109 rfl) ?_
  refine zst_ (gj_iload_n 0 (pc := 110) dX6_process_110 rfl) ?_
  refine zst_ (gj_iconst (pc := 111) dX6_process_111 (by decide)) ?_
  refine zst_ (gj_iadd (pc := 112) dX6_process_112) ?_
  refine gb_put (pc := 113) fl502 fr502 dX6_process_113 q702 (Or.inr q703) (fun σ4 => ?_)
  refine zst_ (gj_aload_n 1 (pc := 116) dX6_process_116 rfl) ?_
  refine zst_ (gj_iload_n 2 (pc := 117) dX6_process_117 rfl) ?_
  refine gb_gd (fun hb => ?_)
  refine gb_callVT (pc := 118) (as := [zr x0, zi x1]) (rest := []) (zCl.of (zLk_V (M := MX6_process) (ci := 6) (r := (RX6, TX6, 8)) plX6_link.1 rfl rfl (zisE hb).1 (zisE hb).2 dX6_process_118 q1395 q1397 qs15 q1398) plX6_link (Nat.le_of_ble_eq_true rfl) (fun h => c_X6_link h)) (fun n a s0 h => by cases h; exact Or.inl ⟨rfl, hk⟩) (fun σ5 => ?_)
  refine zst_ (gj_aload_n 1 (pc := 121) dX6_process_121 rfl) ?_
  refine gb_get (pc := 122) fl500 dX6_process_122 q690 (Or.inr q691) (fun v6 => ?_)
  refine zst_ (gj_dup (pc := 125) dX6_process_125 rfl) ?_
  refine gb_getNe (pc := 126) fl204 dX6_process_126 q278 (Or.inl rfl) (fun v7 => ?_)
  refine zst_ (gj_iconst (pc := 129) dX6_process_129 (by decide)) ?_
  refine zst_ (gj_iadd (pc := 130) dX6_process_130) ?_
  refine gb_putNe (pc := 131) fl204 fr204 dX6_process_131 q278 (Or.inl rfl) (fun σ8 => ?_)
  intro h
  cases h
  have hk : (0, ((3, 0) : zV), σ8) = out := hk
  subst hk
  exact gj_vret (pc := 134) dX6_process_134 rfl
noncomputable def f_X6_process_25 (x0 t0 : Int) (σ : zM) : Option zO :=
  zcvT (f_X5_need t0 σ) (fun n a σ1 => some (n + 1, zr a, σ1)) fun σ1 =>
  (zgf σ1 502 x0).bind fun v2 =>
  (zpf σ1 502 x0 (zadd v2 1)).bind fun σ3 =>
  (zgf σ3 500 x0).bind fun v4 =>
  (zgf σ3 206 v4).bind fun v5 =>
  (zgf σ3 500 x0).bind fun v6 =>
  (zgf σ3 204 v6).bind fun v7 =>
  (zga σ3 107 v5 v7).bind fun v8 =>
  (zpf σ3 607 x0 v8).bind fun σ9 =>
  (zgf σ9 607 x0).bind fun v10 =>
  zgd (zis σ9 5 v10) <|
  zcv (f_X4_clear v10 σ9) fun σ11 =>
  (zgf σ11 606 x0).bind fun v12 =>
  (zgf σ11 607 x0).bind fun v13 =>
  zcrT (f_G_X6_bodies 40 1 [x0, (-1), 0] σ11) (fun n a σ15 => some (n + 1, zr a, σ15)) fun v14 σ15 =>
  (zpf σ15 400 v13 v14).bind fun σ16 =>
  zgd (zis σ16 7 x0) <|
  zci (f_X5_now x0 σ16) fun v17 σ18 =>
  if v17 ≠ 125 then
    f_X6_process_96 x0 v12 0 σ18
  else
    f_X6_process_96 x0 v12 1 σ18
theorem w_X6_process_25 {g : zG} {lv : Nat} {out : zO} (x0 t0 : Int) (σ : zM) {r : zO} (h : f_X6_process_25 x0 t0 σ = some r) (hk : (fun o : zO => o = out) r) : Gj g MX6_process (lv + 91) 25 [(0, zr x0)] [zi t0] σ out := by
  revert h
  unfold f_X6_process_25
  refine gb_callVT (pc := 25) (as := [zi t0]) (rest := []) (zCl.of (zLk_SU (M := MX6_process) (x := ⟨"LassoFinder$ModelReader", "need", "(Z)V"⟩) plX5_need.1 ⟨rfl, rfl⟩ rfl dX6_process_25 q1083 q1084 q1085 q109 q1086) plX5_need (Nat.le_of_ble_eq_true rfl) (fun h => c_X5_need h)) (fun n a s0 h => by cases h; exact Or.inl ⟨rfl, hk⟩) (fun σ1 => ?_)
  refine zst_ (gj_aload_n 0 (pc := 28) dX6_process_28 rfl) ?_
  refine zst_ (gj_dup (pc := 29) dX6_process_29 rfl) ?_
  refine gb_get (pc := 30) fl502 dX6_process_30 q702 (Or.inr q703) (fun v2 => ?_)
  refine zst_ (gj_iconst (pc := 33) dX6_process_33 (by decide)) ?_
  refine zst_ (gj_iadd (pc := 34) dX6_process_34) ?_
  refine gb_put (pc := 35) fl502 fr502 dX6_process_35 q702 (Or.inr q703) (fun σ3 => ?_)
  refine zst_ (gj_aload_n 0 (pc := 38) dX6_process_38 rfl) ?_
  refine zst_ (gj_aload_n 0 (pc := 39) dX6_process_39 rfl) ?_
  refine gb_get (pc := 40) fl500 dX6_process_40 q690 (Or.inr q691) (fun v4 => ?_)
  refine gb_getNe (pc := 43) fl206 dX6_process_43 q285 (Or.inl rfl) (fun v5 => ?_)
  refine zst_ (gj_aload_n 0 (pc := 46) dX6_process_46 rfl) ?_
  refine gb_get (pc := 47) fl500 dX6_process_47 q690 (Or.inr q691) (fun v6 => ?_)
  refine gb_getNe (pc := 50) fl204 dX6_process_50 q278 (Or.inl rfl) (fun v7 => ?_)
  refine gb_aald (pc := 53) (k := 107) ⟨by decide, by decide⟩ dX6_process_53 (fun v8 => ?_)
  refine gb_put (pc := 54) fl607 fr607 dX6_process_54 q688 (Or.inl rfl) (fun σ9 => ?_)
  refine zst_ (gj_aload_n 0 (pc := 57) dX6_process_57 rfl) ?_
  refine gb_get (pc := 58) fl607 dX6_process_58 q688 (Or.inl rfl) (fun v10 => ?_)
  refine gb_gd (fun hb => ?_)
  refine gb_callV (pc := 61) (as := [zr v10]) (rest := []) (zCl.of (zLk_V (M := MX6_process) (ci := 4) (r := (RX4, TX4, 7)) plX4_clear.1 rfl rfl (zisE hb).1 (zisE hb).2 dX6_process_61 q1121 q1122 q1123 q1124) plX4_clear (Nat.le_of_ble_eq_true rfl) (fun h => c_X4_clear h)) (fun σ11 => ?_)
  refine zst_ (gj_aload_n 0 (pc := 64) dX6_process_64 rfl) ?_
  refine gb_get (pc := 65) fl606 dX6_process_65 q687 (Or.inl rfl) (fun v12 => ?_)
  refine zst_ (gj_istore_n (pc := 68) (ls' := [(1, zi v12), (0, zr x0)]) dX6_process_68 (by decide) rfl) ?_
  refine zst_ (gj_aload_n 1 (pc := 69) dX6_process_69 rfl) ?_
  refine gb_get (pc := 70) fl607 dX6_process_70 q688 (Or.inl rfl) (fun v13 => ?_)
  refine zst_ (gj_aload_n 1 (pc := 73) dX6_process_73 rfl) ?_
  refine zst_ (gj_null (pc := 74) dX6_process_74) ?_
  refine zst_ (gj_iconst (pc := 75) dX6_process_75 (by decide)) ?_
  refine gb_callAT (pc := 76) (as := [zr x0, zr (-1), zi 0]) (rest := [zr v13]) (zCl.of (zLk_S (M := MX6_process) plX6_body.1 rfl dX6_process_76 q1125 q1126 q110 q1127) plX6_body (Nat.le_of_ble_eq_true rfl) (fun h => c_G_X6_bodies_1 h)) (fun n a s0 h => by cases h; exact Or.inl ⟨rfl, hk⟩) (fun v14 σ15 => ?_)
  refine gb_putNe (pc := 79) fl400 fr400 dX6_process_79 q237 (Or.inl rfl) (fun σ16 => ?_)
  refine zst_ (gj_aload_n 1 (pc := 82) dX6_process_82 rfl) ?_
  refine gb_gd (fun hb => ?_)
  refine gb_callI (pc := 83) (as := [zr x0]) (rest := []) (zCl.of (zLk_VU (M := MX6_process) (ci := 6) (r := (RX6, TX6, 8)) (x := ⟨"LassoFinder$ModelReader", "now", "()C"⟩) plX5_now.1 ⟨rfl, rfl⟩ rfl rfl (zisE hb).1 (zisE hb).2 dX6_process_83 q1050 q1051 q1054 q1053 q1055) plX5_now (Nat.le_of_ble_eq_true rfl) (fun h => c_X5_now h)) (fun v17 σ18 => ?_)
  refine zst_ (gj_bipush (pc := 86) dX6_process_86 ⟨rfl, by decide⟩) ?_
  refine gb_if (gj_icmp_ne 95 (pc := 88) dX6_process_88 (by decide)) ?_ ?_
  · refine zst_ (gj_iconst (pc := 95) dX6_process_95 (by decide)) ?_
    refine zst_ (gj_sub [1, 0] rfl) ?_
    exact fun h => w_X6_process_96 x0 v12 0 σ18 h hk
  · refine zst_ (gj_iconst (pc := 91) dX6_process_91 (by decide)) ?_
    refine zst_ (gj_goto 96 (pc := 92) dX6_process_92 (by decide)) ?_
    refine zst_ (gj_sub [1, 0] rfl) ?_
    exact fun h => w_X6_process_96 x0 v12 1 σ18 h hk
noncomputable def f_X6_process_24 (x0 : Int) (σ : zM) : Option zO :=
  f_X6_process_25 x0 0 σ
theorem w_X6_process_24 {g : zG} {lv : Nat} {out : zO} (x0 : Int) (σ : zM) {r : zO} (h : f_X6_process_24 x0 σ = some r) (hk : (fun o : zO => o = out) r) : Gj g MX6_process (lv + 91) 24 [(0, zr x0)] [] σ out := by
  revert h
  unfold f_X6_process_24
  refine zst_ (gj_iconst (pc := 24) dX6_process_24 (by decide)) ?_
  exact fun h => w_X6_process_25 x0 0 σ h hk
noncomputable def f_X6_process (x0 : Int) (σ : zM) : Option zO :=
  zgd (zis σ 7 x0) <|
  zci (f_X5_now x0 σ) fun v1 σ2 =>
  if v1 ≠ 123 then
    f_X6_process_24 x0 σ2
  else
    (zgf σ2 500 x0).bind fun v3 =>
    (zgf σ2 204 v3).bind fun v4 =>
    if 4 ≤ v4 then
      f_X6_process_24 x0 σ2
    else
      f_X6_process_25 x0 1 σ2
theorem c_X6_process {g : zG} {lv : Nat} {x0 : Int} {σ : zM} {out : zO} (h : f_X6_process x0 σ = some out) : Cj g (lv + 91) MX6_process [zr x0] σ out := by
  refine cj_go (ls := [(0, zr x0)]) (by decide) (Nat.le_of_ble_eq_true rfl) rfl (zgen h (fun r hk => ?_))
  unfold f_X6_process
  refine zst_ (gj_aload_n 0 (pc := 0) dX6_process_0 rfl) ?_
  refine gb_gd (fun hb => ?_)
  refine gb_callI (pc := 1) (as := [zr x0]) (rest := []) (zCl.of (zLk_VU (M := MX6_process) (ci := 6) (r := (RX6, TX6, 8)) (x := ⟨"LassoFinder$ModelReader", "now", "()C"⟩) plX5_now.1 ⟨rfl, rfl⟩ rfl rfl (zisE hb).1 (zisE hb).2 dX6_process_1 q1050 q1051 q1054 q1053 q1055) plX5_now (Nat.le_of_ble_eq_true rfl) (fun h => c_X5_now h)) (fun v1 σ2 => ?_)
  refine zst_ (gj_bipush (pc := 4) dX6_process_4 ⟨rfl, by decide⟩) ?_
  refine gb_if (gj_icmp_ne 24 (pc := 6) dX6_process_6 (by decide)) ?_ ?_
  · exact fun h => w_X6_process_24 x0 σ2 h hk
  · refine zst_ (gj_aload_n 0 (pc := 9) dX6_process_9 rfl) ?_
    refine gb_get (pc := 10) fl500 dX6_process_10 q690 (Or.inr q691) (fun v3 => ?_)
    refine gb_getNe (pc := 13) fl204 dX6_process_13 q278 (Or.inl rfl) (fun v4 => ?_)
    refine zst_ (gj_iconst (pc := 16) dX6_process_16 (by decide)) ?_
    refine gb_if (gj_icmp_ge 24 (pc := 17) dX6_process_17 (by decide)) ?_ ?_
    · exact fun h => w_X6_process_24 x0 σ2 h hk
    · refine zst_ (gj_iconst (pc := 20) dX6_process_20 (by decide)) ?_
      refine zst_ (gj_goto 25 (pc := 21) dX6_process_21 (by decide)) ?_
      exact fun h => w_X6_process_25 x0 1 σ2 h hk
theorem q697 : (Jvm.Cond.fieldLink "LassoFinder$ModelReader" (64 : Nat) "LassoFinder$ModelReader" "text" "Ljava/lang/String;") ∈ lw_all := lw_g (lw_at lw_m3 117 rfl) rfl
theorem q698 : (Jvm.Cond.sameField "LassoFinder$ModelReader" "LassoFinder$Reader" "text" "Ljava/lang/String;") ∈ lw_all := lw_g (lw_at lw_m3 118 rfl) rfl
theorem q1045 : (Jvm.Cond.code ({ cls := "LassoFinder$ModelReader", name := "read", desc := "()V" } : Jvm.MethodName) prog_10_method_3_code (1 : Nat) (Option.none : Option Jvm.ClassFile.FieldType)) ∈ lw_all := lw_g (lw_at lw_m4 225 rfl) rfl
theorem q1046 : (Jvm.Cond.methodLink "LassoFinder$ModelReader" (52 : Nat) ({ cls := "LassoFinder$Model", name := "clear", desc := "()V" } : Jvm.MethodName)) ∈ lw_all := lw_g (lw_at lw_m4 226 rfl) rfl
theorem q1047 : (Jvm.Cond.instanceMethod ({ cls := "LassoFinder$Model", name := "clear", desc := "()V" } : Jvm.MethodName)) ∈ lw_all := lw_g (lw_at lw_m4 227 rfl) rfl
theorem q1048 : (Jvm.Cond.selects "LassoFinder$Model" ({ cls := "LassoFinder$Model", name := "clear", desc := "()V" } : Jvm.MethodName) ({ cls := "LassoFinder$Model", name := "clear", desc := "()V" } : Jvm.MethodName)) ∈ lw_all := lw_g (lw_at lw_m4 228 rfl) rfl
theorem q1072 : (Jvm.Cond.methodLink "LassoFinder$ModelReader" (61 : Nat) ({ cls := "LassoFinder$ModelReader", name := "declaration", desc := "()V" } : Jvm.MethodName)) ∈ lw_all := lw_g (lw_at lw_m5 12 rfl) rfl
theorem q1074 : (Jvm.Cond.instanceMethod ({ cls := "LassoFinder$ModelReader", name := "declaration", desc := "()V" } : Jvm.MethodName)) ∈ lw_all := lw_g (lw_at lw_m5 14 rfl) rfl
theorem q1116 : (Jvm.Cond.methodLink "LassoFinder$ModelReader" (68 : Nat) ({ cls := "java/lang/String", name := "length", desc := "()I" } : Jvm.MethodName)) ∈ lw_all := lw_g (lw_at lw_m5 56 rfl) rfl
theorem q1117 : (Jvm.Cond.methodLink "LassoFinder$ModelReader" (73 : Nat) ({ cls := "LassoFinder$ModelReader", name := "process", desc := "()V" } : Jvm.MethodName)) ∈ lw_all := lw_g (lw_at lw_m5 57 rfl) rfl
theorem q1119 : (Jvm.Cond.instanceMethod ({ cls := "LassoFinder$ModelReader", name := "process", desc := "()V" } : Jvm.MethodName)) ∈ lw_all := lw_g (lw_at lw_m5 59 rfl) rfl
abbrev cX6_read : ByteArray := prog_10_method_3_code
def yX6_read : MethodName := ⟨RX6, "read", "()V"⟩
theorem dX6_read_0 : decode cX6_read 0 = .ok (.aload_n 0, 1) := by decide +kernel
theorem dX6_read_1 : decode cX6_read 1 = .ok (.iconst 0, 1) := by decide +kernel
theorem dX6_read_2 : decode cX6_read 2 = .ok (.putfield 20, 3) := by decide +kernel
theorem dX6_read_5 : decode cX6_read 5 = .ok (.aload_n 0, 1) := by decide +kernel
theorem dX6_read_6 : decode cX6_read 6 = .ok (.getfield 48, 3) := by decide +kernel
theorem dX6_read_9 : decode cX6_read 9 = .ok (.invokevirtual 52, 3) := by decide +kernel
theorem dX6_read_12 : decode cX6_read 12 = .ok (.aload_n 0, 1) := by decide +kernel
theorem dX6_read_13 : decode cX6_read 13 = .ok (.invokevirtual 57, 3) := by decide +kernel
theorem dX6_read_16 : decode cX6_read 16 = .ok (.bipush 123, 2) := by decide +kernel
theorem dX6_read_18 : decode cX6_read 18 = .ok (.if_icmp .eq 10, 3) := by decide +kernel
theorem dX6_read_21 : decode cX6_read 21 = .ok (.aload_n 0, 1) := by decide +kernel
theorem dX6_read_22 : decode cX6_read 22 = .ok (.invokevirtual 61, 3) := by decide +kernel
theorem dX6_read_25 : decode cX6_read 25 = .ok (.goto (-13), 3) := by decide +kernel
theorem dX6_read_28 : decode cX6_read 28 = .ok (.aload_n 0, 1) := by decide +kernel
theorem dX6_read_29 : decode cX6_read 29 = .ok (.getfield 41, 3) := by decide +kernel
theorem dX6_read_32 : decode cX6_read 32 = .ok (.aload_n 0, 1) := by decide +kernel
theorem dX6_read_33 : decode cX6_read 33 = .ok (.getfield 64, 3) := by decide +kernel
theorem dX6_read_36 : decode cX6_read 36 = .ok (.invokevirtual 68, 3) := by decide +kernel
theorem dX6_read_39 : decode cX6_read 39 = .ok (.if_icmp .ge 10, 3) := by decide +kernel
theorem dX6_read_42 : decode cX6_read 42 = .ok (.aload_n 0, 1) := by decide +kernel
theorem dX6_read_43 : decode cX6_read 43 = .ok (.invokevirtual 73, 3) := by decide +kernel
theorem dX6_read_46 : decode cX6_read 46 = .ok (.goto (-18), 3) := by decide +kernel
theorem dX6_read_49 : decode cX6_read 49 = .ok (.return_, 1) := by decide +kernel
abbrev MX6_read : zT := (yX6_read, cX6_read, 1, (Option.none : Option Jvm.ClassFile.FieldType), [])
theorem plX6_read : zplain MX6_read 0 ∧ (zcodeW MX6_read ∈ lw_all ∧ Cond.initialized MX6_read.1.cls ∈ lw_all) := ⟨⟨by decide +kernel, by decide +kernel⟩, q1045, q110⟩
noncomputable def f_X6_read_49 (σ : zM) : Option zO :=
  some (0, ((3, 0) : zV), σ)
theorem w_X6_read_49 {g : zG} {lv : Nat} {out : zO} (σ : zM) {r : zO} (h : f_X6_read_49  σ = some r) (hk : (fun o : zO => o = out) r) : Gj g MX6_read (lv + 92) 49 [] [] σ out := by
  revert h
  unfold f_X6_read_49
  intro h
  cases h
  have hk : (0, ((3, 0) : zV), σ) = out := hk
  subst hk
  exact gj_vret (pc := 49) dX6_read_49 rfl
noncomputable def f_X6_read_28_b (x0 : Int) (σ : zM) : Option ((zM) ⊕ zO) :=
  (zgf σ 502 x0).bind fun v1 =>
  (zgf σ 501 x0).bind fun v2 =>
  zgd (zis σ 22 v2) <|
  zci (f_J2_length v2 σ) fun v3 σ4 =>
  if v3 ≤ v1 then
    (f_X6_read_49 σ4).map (fun r => (.inr r))
  else
    zgd (zis σ4 7 x0) <|
    zcvT (f_X6_process x0 σ4) (fun n a σ5 => some (.inr (n + 1, zr a, σ5))) fun σ5 =>
    some (.inl σ5)
noncomputable def f_X6_read_28 (x0 : Int) (σ : zM) : Option zO :=
  zloop (fun s : zM => f_X6_read_28_b x0 s) σ
theorem w_X6_read_28_b {g : zG} {lv : Nat} {out : zO} (x0 : Int) (σ : zM) {r : ((zM) ⊕ zO)} (h : f_X6_read_28_b x0 σ = some r) (hk : (zKL (fun s : zM => Gj g MX6_read (lv + 92) 28 [(0, zr x0)] [] s out) (fun o : zO => o = out)) r) : Gj g MX6_read (lv + 92) 28 [(0, zr x0)] [] σ out := by
  revert h
  unfold f_X6_read_28_b
  refine zst_ (gj_aload_n 0 (pc := 28) dX6_read_28 rfl) ?_
  refine gb_get (pc := 29) fl502 dX6_read_29 q702 (Or.inr q703) (fun v1 => ?_)
  refine zst_ (gj_aload_n 0 (pc := 32) dX6_read_32 rfl) ?_
  refine gb_get (pc := 33) fl501 dX6_read_33 q697 (Or.inr q698) (fun v2 => ?_)
  refine gb_gd (fun hb => ?_)
  refine gb_callI (pc := 36) (as := [zr v2]) (rest := [zi v1]) (zCl.of (zLk_V (M := MX6_read) (ci := 21) (r := (RJ2, TJ2, 4)) plJ2_length.1 rfl rfl (zisE hb).1 (zisE hb).2 dX6_read_36 q1116 q514 q515 q516) plJ2_length (Nat.le_of_ble_eq_true rfl) (fun h => c_J2_length h)) (fun v3 σ4 => ?_)
  refine gb_if (gj_icmp_ge 49 (pc := 39) dX6_read_39 (by decide)) ?_ ?_
  · refine zst_ (gj_sub [] rfl) ?_
    intro h
    obtain ⟨r0, h0, rfl⟩ := zmE h
    exact w_X6_read_49 σ4 h0 hk
  · refine zst_ (gj_aload_n 0 (pc := 42) dX6_read_42 rfl) ?_
    refine gb_gd (fun hb => ?_)
    refine gb_callVT (pc := 43) (as := [zr x0]) (rest := []) (zCl.of (zLk_V (M := MX6_read) (ci := 6) (r := (RX6, TX6, 8)) plX6_process.1 rfl rfl (zisE hb).1 (zisE hb).2 dX6_read_43 q1117 q1119 qs4 q1120) plX6_process (Nat.le_of_ble_eq_true rfl) (fun h => c_X6_process h)) (fun n a s0 h => by cases h; exact Or.inl ⟨rfl, hk⟩) (fun σ5 => ?_)
    refine zst_ (gj_goto 28 (pc := 46) dX6_read_46 (by decide)) ?_
    intro h
    cases h
    exact hk
theorem w_X6_read_28 {g : zG} {lv : Nat} {out : zO} (x0 : Int) (σ : zM) {r : zO} (h : f_X6_read_28 x0 σ = some r) (hk : (fun o : zO => o = out) r) : Gj g MX6_read (lv + 92) 28 [(0, zr x0)] [] σ out :=
  gj_loop (P := (fun s : zM => Gj g MX6_read (lv + 92) 28 [(0, zr x0)] [] s out)) (fun s x hb hx => w_X6_read_28_b x0 s hb hx) h hk
noncomputable def f_X6_read_12_b (x0 : Int) (σ : zM) : Option ((zM) ⊕ zO) :=
  zgd (zis σ 7 x0) <|
  zci (f_X5_now x0 σ) fun v1 σ2 =>
  if v1 = 123 then
    (f_X6_read_28 x0 σ2).map (fun r => (.inr r))
  else
    zgd (zis σ2 7 x0) <|
    zcvT (f_X6_declaration x0 σ2) (fun n a σ3 => some (.inr (n + 1, zr a, σ3))) fun σ3 =>
    some (.inl σ3)
noncomputable def f_X6_read_12 (x0 : Int) (σ : zM) : Option zO :=
  zloop (fun s : zM => f_X6_read_12_b x0 s) σ
theorem w_X6_read_12_b {g : zG} {lv : Nat} {out : zO} (x0 : Int) (σ : zM) {r : ((zM) ⊕ zO)} (h : f_X6_read_12_b x0 σ = some r) (hk : (zKL (fun s : zM => Gj g MX6_read (lv + 92) 12 [(0, zr x0)] [] s out) (fun o : zO => o = out)) r) : Gj g MX6_read (lv + 92) 12 [(0, zr x0)] [] σ out := by
  revert h
  unfold f_X6_read_12_b
  refine zst_ (gj_aload_n 0 (pc := 12) dX6_read_12 rfl) ?_
  refine gb_gd (fun hb => ?_)
  refine gb_callI (pc := 13) (as := [zr x0]) (rest := []) (zCl.of (zLk_VU (M := MX6_read) (ci := 6) (r := (RX6, TX6, 8)) (x := ⟨"LassoFinder$ModelReader", "now", "()C"⟩) plX5_now.1 ⟨rfl, rfl⟩ rfl rfl (zisE hb).1 (zisE hb).2 dX6_read_13 q1050 q1051 q1054 q1053 q1055) plX5_now (Nat.le_of_ble_eq_true rfl) (fun h => c_X5_now h)) (fun v1 σ2 => ?_)
  refine zst_ (gj_bipush (pc := 16) dX6_read_16 ⟨rfl, by decide⟩) ?_
  refine gb_if (gj_icmp_eq 28 (pc := 18) dX6_read_18 (by decide)) ?_ ?_
  · intro h
    obtain ⟨r0, h0, rfl⟩ := zmE h
    exact w_X6_read_28 x0 σ2 h0 hk
  · refine zst_ (gj_aload_n 0 (pc := 21) dX6_read_21 rfl) ?_
    refine gb_gd (fun hb => ?_)
    refine gb_callVT (pc := 22) (as := [zr x0]) (rest := []) (zCl.of (zLk_V (M := MX6_read) (ci := 6) (r := (RX6, TX6, 8)) plX6_declaration.1 rfl rfl (zisE hb).1 (zisE hb).2 dX6_read_22 q1072 q1074 qs3 q1075) plX6_declaration (Nat.le_of_ble_eq_true rfl) (fun h => c_X6_declaration h)) (fun n a s0 h => by cases h; exact Or.inl ⟨rfl, hk⟩) (fun σ3 => ?_)
    refine zst_ (gj_goto 12 (pc := 25) dX6_read_25 (by decide)) ?_
    intro h
    cases h
    exact hk
theorem w_X6_read_12 {g : zG} {lv : Nat} {out : zO} (x0 : Int) (σ : zM) {r : zO} (h : f_X6_read_12 x0 σ = some r) (hk : (fun o : zO => o = out) r) : Gj g MX6_read (lv + 92) 12 [(0, zr x0)] [] σ out :=
  gj_loop (P := (fun s : zM => Gj g MX6_read (lv + 92) 12 [(0, zr x0)] [] s out)) (fun s x hb hx => w_X6_read_12_b x0 s hb hx) h hk
noncomputable def f_X6_read (x0 : Int) (σ : zM) : Option zO :=
  (zpf σ 606 x0 0).bind fun σ1 =>
  (zgf σ1 500 x0).bind fun v2 =>
  zgd (zis σ1 3 v2) <|
  zcv (f_X2_clear v2 σ1) fun σ3 =>
  f_X6_read_12 x0 σ3
theorem c_X6_read {g : zG} {lv : Nat} {x0 : Int} {σ : zM} {out : zO} (h : f_X6_read x0 σ = some out) : Cj g (lv + 92) MX6_read [zr x0] σ out := by
  refine cj_go (ls := [(0, zr x0)]) (by decide) (Nat.le_of_ble_eq_true rfl) rfl (zgen h (fun r hk => ?_))
  unfold f_X6_read
  refine zst_ (gj_aload_n 0 (pc := 0) dX6_read_0 rfl) ?_
  refine zst_ (gj_iconst (pc := 1) dX6_read_1 (by decide)) ?_
  refine gb_put (pc := 2) fl606 fr606 dX6_read_2 q687 (Or.inl rfl) (fun σ1 => ?_)
  refine zst_ (gj_aload_n 0 (pc := 5) dX6_read_5 rfl) ?_
  refine gb_get (pc := 6) fl500 dX6_read_6 q690 (Or.inr q691) (fun v2 => ?_)
  refine gb_gd (fun hb => ?_)
  refine gb_callV (pc := 9) (as := [zr v2]) (rest := []) (zCl.of (zLk_V (M := MX6_read) (ci := 2) (r := (RX2, TX2, 22)) plX2_clear.1 rfl rfl (zisE hb).1 (zisE hb).2 dX6_read_9 q1046 q1047 q1048 q1049) plX2_clear (Nat.le_of_ble_eq_true rfl) (fun h => c_X2_clear h)) (fun σ3 => ?_)
  exact fun h => w_X6_read_12 x0 σ3 h hk
theorem q207 : (Jvm.Cond.fieldLinkNest "LassoFinder$Model" (98 : Nat) "LassoFinder$Moment" "numbers" "[I" "LassoFinder") ∈ lw_tbl := lw_at lw_m1 107 rfl
theorem q210 : (Jvm.Cond.fieldLinkNest "LassoFinder$Model" (101 : Nat) "LassoFinder$Moment" "queues" "[[I" "LassoFinder") ∈ lw_tbl := lw_at lw_m1 110 rfl
theorem q214 : (Jvm.Cond.fieldLinkNest "LassoFinder$Model" (95 : Nat) "LassoFinder$Moment" "points" "[I" "LassoFinder") ∈ lw_tbl := lw_at lw_m1 114 rfl
theorem q217 : (Jvm.Cond.fieldLinkNest "LassoFinder$Model" (92 : Nat) "LassoFinder$Moment" "held" "I" "LassoFinder") ∈ lw_tbl := lw_at lw_m1 117 rfl
theorem q1430 : (Jvm.Cond.code ({ cls := "LassoFinder$Model", name := "packed", desc := "(LLassoFinder$Moment;)J" } : Jvm.MethodName) prog_9_method_4_code (6 : Nat) (Option.some Jvm.ClassFile.FieldType.long)) ∈ lw_all := lw_g (lw_at lw_m6 130 rfl) rfl
theorem fl300 : zfl 300 2 "LassoFinder$Moment" "numbers" "[I" true := ⟨rfl, rfl, rfl⟩
theorem fr300 {g : zG} {v : Int} : zok g (2, v) → zokt g (zft 300) v := fun h => h
theorem fl301 : zfl 301 2 "LassoFinder$Moment" "queues" "[[I" true := ⟨rfl, rfl, rfl⟩
theorem fr301 {g : zG} {v : Int} : zok g (2, v) → zokt g (zft 301) v := fun h => h
theorem fl302 : zfl 302 2 "LassoFinder$Moment" "points" "[I" true := ⟨rfl, rfl, rfl⟩
theorem fr302 {g : zG} {v : Int} : zok g (2, v) → zokt g (zft 302) v := fun h => h
theorem fl303 : zfl 303 0 "LassoFinder$Moment" "held" "I" false := ⟨rfl, rfl, rfl⟩
theorem fr303 {g : zG} {v : Int} : zok g (0, v) → zokt g (zft 303) v := fun h => h
abbrev cX2_packed : ByteArray := prog_9_method_4_code
def yX2_packed : MethodName := ⟨RX2, "packed", "(LLassoFinder$Moment;)J"⟩
theorem dX2_packed_0 : decode cX2_packed 0 = .ok (.aload_n 1, 1) := by decide +kernel
theorem dX2_packed_1 : decode cX2_packed 1 = .ok (.getfield 92, 3) := by decide +kernel
theorem dX2_packed_4 : decode cX2_packed 4 = .ok (.i2l, 1) := by decide +kernel
theorem dX2_packed_5 : decode cX2_packed 5 = .ok (.lstore_n 2, 1) := by decide +kernel
theorem dX2_packed_6 : decode cX2_packed 6 = .ok (.iconst 0, 1) := by decide +kernel
theorem dX2_packed_7 : decode cX2_packed 7 = .ok (.istore 4, 2) := by decide +kernel
theorem dX2_packed_9 : decode cX2_packed 9 = .ok (.iload 4, 2) := by decide +kernel
theorem dX2_packed_11 : decode cX2_packed 11 = .ok (.aload_n 0, 1) := by decide +kernel
theorem dX2_packed_12 : decode cX2_packed 12 = .ok (.getfield 80, 3) := by decide +kernel
theorem dX2_packed_15 : decode cX2_packed 15 = .ok (.if_icmp .ge 22, 3) := by decide +kernel
theorem dX2_packed_18 : decode cX2_packed 18 = .ok (.lload_n 2, 1) := by decide +kernel
theorem dX2_packed_19 : decode cX2_packed 19 = .ok (.iconst 5, 1) := by decide +kernel
theorem dX2_packed_20 : decode cX2_packed 20 = .ok (.lshl, 1) := by decide +kernel
theorem dX2_packed_21 : decode cX2_packed 21 = .ok (.aload_n 1, 1) := by decide +kernel
theorem dX2_packed_22 : decode cX2_packed 22 = .ok (.getfield 95, 3) := by decide +kernel
theorem dX2_packed_25 : decode cX2_packed 25 = .ok (.iload 4, 2) := by decide +kernel
theorem dX2_packed_27 : decode cX2_packed 27 = .ok (.iaload, 1) := by decide +kernel
theorem dX2_packed_28 : decode cX2_packed 28 = .ok (.i2l, 1) := by decide +kernel
theorem dX2_packed_29 : decode cX2_packed 29 = .ok (.lor, 1) := by decide +kernel
theorem dX2_packed_30 : decode cX2_packed 30 = .ok (.lstore_n 2, 1) := by decide +kernel
theorem dX2_packed_31 : decode cX2_packed 31 = .ok (.iinc 4 1, 3) := by decide +kernel
theorem dX2_packed_34 : decode cX2_packed 34 = .ok (.goto (-25), 3) := by decide +kernel
theorem dX2_packed_37 : decode cX2_packed 37 = .ok (.iconst 0, 1) := by decide +kernel
theorem dX2_packed_38 : decode cX2_packed 38 = .ok (.istore 4, 2) := by decide +kernel
theorem dX2_packed_40 : decode cX2_packed 40 = .ok (.iload 4, 2) := by decide +kernel
theorem dX2_packed_42 : decode cX2_packed 42 = .ok (.bipush 8, 2) := by decide +kernel
theorem dX2_packed_44 : decode cX2_packed 44 = .ok (.if_icmp .ge 107, 3) := by decide +kernel
theorem dX2_packed_47 : decode cX2_packed 47 = .ok (.aload_n 0, 1) := by decide +kernel
theorem dX2_packed_48 : decode cX2_packed 48 = .ok (.getfield 9, 3) := by decide +kernel
theorem dX2_packed_51 : decode cX2_packed 51 = .ok (.iload 4, 2) := by decide +kernel
theorem dX2_packed_53 : decode cX2_packed 53 = .ok (.iaload, 1) := by decide +kernel
theorem dX2_packed_54 : decode cX2_packed 54 = .ok (.iconst 1, 1) := by decide +kernel
theorem dX2_packed_55 : decode cX2_packed 55 = .ok (.if_icmp .ne 16, 3) := by decide +kernel
theorem dX2_packed_58 : decode cX2_packed 58 = .ok (.lload_n 2, 1) := by decide +kernel
theorem dX2_packed_59 : decode cX2_packed 59 = .ok (.iconst 3, 1) := by decide +kernel
theorem dX2_packed_60 : decode cX2_packed 60 = .ok (.lshl, 1) := by decide +kernel
theorem dX2_packed_61 : decode cX2_packed 61 = .ok (.aload_n 1, 1) := by decide +kernel
theorem dX2_packed_62 : decode cX2_packed 62 = .ok (.getfield 98, 3) := by decide +kernel
theorem dX2_packed_65 : decode cX2_packed 65 = .ok (.iload 4, 2) := by decide +kernel
theorem dX2_packed_67 : decode cX2_packed 67 = .ok (.iaload, 1) := by decide +kernel
theorem dX2_packed_68 : decode cX2_packed 68 = .ok (.i2l, 1) := by decide +kernel
theorem dX2_packed_69 : decode cX2_packed 69 = .ok (.lor, 1) := by decide +kernel
theorem dX2_packed_70 : decode cX2_packed 70 = .ok (.lstore_n 2, 1) := by decide +kernel
theorem dX2_packed_71 : decode cX2_packed 71 = .ok (.aload_n 0, 1) := by decide +kernel
theorem dX2_packed_72 : decode cX2_packed 72 = .ok (.getfield 9, 3) := by decide +kernel
theorem dX2_packed_75 : decode cX2_packed 75 = .ok (.iload 4, 2) := by decide +kernel
theorem dX2_packed_77 : decode cX2_packed 77 = .ok (.iaload, 1) := by decide +kernel
theorem dX2_packed_78 : decode cX2_packed 78 = .ok (.iconst 2, 1) := by decide +kernel
theorem dX2_packed_79 : decode cX2_packed 79 = .ok (.if_icmp .eq 6, 3) := by decide +kernel
theorem dX2_packed_82 : decode cX2_packed 82 = .ok (.goto 63, 3) := by decide +kernel
theorem dX2_packed_85 : decode cX2_packed 85 = .ok (.iconst 0, 1) := by decide +kernel
theorem dX2_packed_86 : decode cX2_packed 86 = .ok (.istore 5, 2) := by decide +kernel
theorem dX2_packed_88 : decode cX2_packed 88 = .ok (.iload 5, 2) := by decide +kernel
theorem dX2_packed_90 : decode cX2_packed 90 = .ok (.iconst 3, 1) := by decide +kernel
theorem dX2_packed_91 : decode cX2_packed 91 = .ok (.if_icmp .ge 41, 3) := by decide +kernel
theorem dX2_packed_94 : decode cX2_packed 94 = .ok (.lload_n 2, 1) := by decide +kernel
theorem dX2_packed_95 : decode cX2_packed 95 = .ok (.iconst 3, 1) := by decide +kernel
theorem dX2_packed_96 : decode cX2_packed 96 = .ok (.lshl, 1) := by decide +kernel
theorem dX2_packed_97 : decode cX2_packed 97 = .ok (.iload 5, 2) := by decide +kernel
theorem dX2_packed_99 : decode cX2_packed 99 = .ok (.aload_n 1, 1) := by decide +kernel
theorem dX2_packed_100 : decode cX2_packed 100 = .ok (.getfield 98, 3) := by decide +kernel
theorem dX2_packed_103 : decode cX2_packed 103 = .ok (.iload 4, 2) := by decide +kernel
theorem dX2_packed_105 : decode cX2_packed 105 = .ok (.iaload, 1) := by decide +kernel
theorem dX2_packed_106 : decode cX2_packed 106 = .ok (.if_icmp .ge 16, 3) := by decide +kernel
theorem dX2_packed_109 : decode cX2_packed 109 = .ok (.aload_n 1, 1) := by decide +kernel
theorem dX2_packed_110 : decode cX2_packed 110 = .ok (.getfield 101, 3) := by decide +kernel
theorem dX2_packed_113 : decode cX2_packed 113 = .ok (.iload 4, 2) := by decide +kernel
theorem dX2_packed_115 : decode cX2_packed 115 = .ok (.aaload, 1) := by decide +kernel
theorem dX2_packed_116 : decode cX2_packed 116 = .ok (.iload 5, 2) := by decide +kernel
theorem dX2_packed_118 : decode cX2_packed 118 = .ok (.iaload, 1) := by decide +kernel
theorem dX2_packed_119 : decode cX2_packed 119 = .ok (.goto 4, 3) := by decide +kernel
theorem dX2_packed_122 : decode cX2_packed 122 = .ok (.iconst 0, 1) := by decide +kernel
theorem dX2_packed_123 : decode cX2_packed 123 = .ok (.i2l, 1) := by decide +kernel
theorem dX2_packed_124 : decode cX2_packed 124 = .ok (.lor, 1) := by decide +kernel
theorem dX2_packed_125 : decode cX2_packed 125 = .ok (.lstore_n 2, 1) := by decide +kernel
theorem dX2_packed_126 : decode cX2_packed 126 = .ok (.iinc 5 1, 3) := by decide +kernel
theorem dX2_packed_129 : decode cX2_packed 129 = .ok (.goto (-41), 3) := by decide +kernel
theorem dX2_packed_132 : decode cX2_packed 132 = .ok (.lload_n 2, 1) := by decide +kernel
theorem dX2_packed_133 : decode cX2_packed 133 = .ok (.iconst 2, 1) := by decide +kernel
theorem dX2_packed_134 : decode cX2_packed 134 = .ok (.lshl, 1) := by decide +kernel
theorem dX2_packed_135 : decode cX2_packed 135 = .ok (.aload_n 1, 1) := by decide +kernel
theorem dX2_packed_136 : decode cX2_packed 136 = .ok (.getfield 98, 3) := by decide +kernel
theorem dX2_packed_139 : decode cX2_packed 139 = .ok (.iload 4, 2) := by decide +kernel
theorem dX2_packed_141 : decode cX2_packed 141 = .ok (.iaload, 1) := by decide +kernel
theorem dX2_packed_142 : decode cX2_packed 142 = .ok (.i2l, 1) := by decide +kernel
theorem dX2_packed_143 : decode cX2_packed 143 = .ok (.lor, 1) := by decide +kernel
theorem dX2_packed_144 : decode cX2_packed 144 = .ok (.lstore_n 2, 1) := by decide +kernel
theorem dX2_packed_145 : decode cX2_packed 145 = .ok (.iinc 4 1, 3) := by decide +kernel
theorem dX2_packed_148 : decode cX2_packed 148 = .ok (.goto (-108), 3) := by decide +kernel
theorem dX2_packed_151 : decode cX2_packed 151 = .ok (.lload_n 2, 1) := by decide +kernel
theorem dX2_packed_152 : decode cX2_packed 152 = .ok (.lreturn, 1) := by decide +kernel
abbrev MX2_packed : zT := (yX2_packed, cX2_packed, 6, (Option.some Jvm.ClassFile.FieldType.long), [])
theorem plX2_packed : zplain MX2_packed 1 ∧ (zcodeW MX2_packed ∈ lw_all ∧ Cond.initialized MX2_packed.1.cls ∈ lw_all) := ⟨⟨by decide +kernel, by decide +kernel⟩, q1430, q106⟩
noncomputable def f_X2_packed_151 (x2 : Int) (σ : zM) : Option zO :=
  some (0, zj x2, σ)
theorem w_X2_packed_151 {g : zG} {lv : Nat} {out : zO} (x2 : Int) (σ : zM) {r : zO} (h : f_X2_packed_151 x2 σ = some r) (hk : (fun o : zO => o = out) r) : Gj g MX2_packed (lv) 151 [(2, zj x2)] [] σ out := by
  revert h
  unfold f_X2_packed_151
  refine zst_ (gj_lload_n 0 (pc := 151) dX2_packed_151 rfl) ?_
  intro h
  cases h
  have hk : (0, zj x2, σ) = out := hk
  subst hk
  exact gj_lret (pc := 152) dX2_packed_152 rfl
noncomputable def f_X2_packed_145 (x0 x1 x2 x4 : Int) (σ : zM) : Option ((Int × Int) ⊕ zO) :=
  zlet (zadd x4 1) fun y1 =>
  some (.inl (x2, y1))
theorem w_X2_packed_145 {g : zG} {lv : Nat} {out : zO} (x0 x1 x2 x4 : Int) (σ : zM) {r : ((Int × Int) ⊕ zO)} (h : f_X2_packed_145 x0 x1 x2 x4 σ = some r) (hk : (zKL (fun s : Int × Int => Gj g MX2_packed (lv) 40 [(0, zr x0), (1, zr x1), (2, zj s.1), (4, zi s.2)] [] σ out) (fun o : zO => o = out)) r) : Gj g MX2_packed (lv) 145 [(0, zr x0), (1, zr x1), (2, zj x2), (4, zi x4)] [] σ out := by
  revert h
  unfold f_X2_packed_145
  refine gb_iinc (pc := 145) 3 (fun y1 => [(4, zi y1), (0, zr x0), (1, zr x1), (2, zj x2)]) dX2_packed_145 rfl (by decide) (fun _ => rfl) (fun y1 => ?_)
  refine zst_ (gj_goto 40 (pc := 148) dX2_packed_148 (by decide)) ?_
  refine zst_ (gj_sub [1, 2, 3, 0] rfl) ?_
  intro h
  cases h
  exact hk
noncomputable def f_X2_packed_132 (x0 x1 x2 x4 : Int) (σ : zM) : Option ((Int × Int) ⊕ zO) :=
  (zgf σ 300 x1).bind fun v1 =>
  (zga σ 101 v1 x4).bind fun v2 =>
  zlet ((jor (jshl x2 2) v2)) fun y3 =>
  f_X2_packed_145 x0 x1 y3 x4 σ
theorem w_X2_packed_132 {g : zG} {lv : Nat} {out : zO} (x0 x1 x2 x4 : Int) (σ : zM) {r : ((Int × Int) ⊕ zO)} (h : f_X2_packed_132 x0 x1 x2 x4 σ = some r) (hk : (zKL (fun s : Int × Int => Gj g MX2_packed (lv) 40 [(0, zr x0), (1, zr x1), (2, zj s.1), (4, zi s.2)] [] σ out) (fun o : zO => o = out)) r) : Gj g MX2_packed (lv) 132 [(0, zr x0), (1, zr x1), (2, zj x2), (4, zi x4)] [] σ out := by
  revert h
  unfold f_X2_packed_132
  refine zst_ (gj_lload_n 2 (pc := 132) dX2_packed_132 rfl) ?_
  refine zst_ (gj_iconst (pc := 133) dX2_packed_133 (by decide)) ?_
  refine zst_ (gj_lshl (pc := 134) dX2_packed_134) ?_
  refine zst_ (gj_aload_n 1 (pc := 135) dX2_packed_135 rfl) ?_
  refine gb_getNe (pc := 136) fl300 dX2_packed_136 q207 (Or.inl rfl) (fun v1 => ?_)
  refine zst_ (gj_iload 3 (pc := 139) dX2_packed_139 rfl) ?_
  refine gb_iald (pc := 141) dX2_packed_141 (fun v2 => ?_)
  refine zst_ (gj_i2l (pc := 142) dX2_packed_142) ?_
  refine zst_ (gj_lor (pc := 143) dX2_packed_143) ?_
  refine gb_let (fun y3 => ?_)
  refine zst_ (gj_lstore_n (pc := 144) (ls' := [(2, zj y3), (0, zr x0), (1, zr x1), (4, zi x4)]) dX2_packed_144 (by decide) rfl) ?_
  refine zst_ (gj_sub [1, 2, 0, 3] rfl) ?_
  exact fun h => w_X2_packed_145 x0 x1 y3 x4 σ h hk
noncomputable def f_X2_packed_123 (x0 x1 x4 x5 t0 t1 : Int) (σ : zM) : Option ((Int × Int) ⊕ ((Int × Int) ⊕ zO)) :=
  zlet ((jor t1 t0)) fun y1 =>
  zlet (zadd x5 1) fun y2 =>
  some (.inl (y1, y2))
theorem w_X2_packed_123 {g : zG} {lv : Nat} {out : zO} (x0 x1 x4 x5 t0 t1 : Int) (σ : zM) {r : ((Int × Int) ⊕ ((Int × Int) ⊕ zO))} (h : f_X2_packed_123 x0 x1 x4 x5 t0 t1 σ = some r) (hk : (zKL (fun s : Int × Int => Gj g MX2_packed (lv) 88 [(0, zr x0), (1, zr x1), (2, zj s.1), (4, zi x4), (5, zi s.2)] [] σ out) (zKL (fun s : Int × Int => Gj g MX2_packed (lv) 40 [(0, zr x0), (1, zr x1), (2, zj s.1), (4, zi s.2)] [] σ out) (fun o : zO => o = out))) r) : Gj g MX2_packed (lv) 123 [(0, zr x0), (1, zr x1), (4, zi x4), (5, zi x5)] [zi t0, zj t1] σ out := by
  revert h
  unfold f_X2_packed_123
  refine zst_ (gj_i2l (pc := 123) dX2_packed_123) ?_
  refine zst_ (gj_lor (pc := 124) dX2_packed_124) ?_
  refine gb_let (fun y1 => ?_)
  refine zst_ (gj_lstore_n (pc := 125) (ls' := [(2, zj y1), (0, zr x0), (1, zr x1), (4, zi x4), (5, zi x5)]) dX2_packed_125 (by decide) rfl) ?_
  refine gb_iinc (pc := 126) 4 (fun y2 => [(5, zi y2), (2, zj y1), (0, zr x0), (1, zr x1), (4, zi x4)]) dX2_packed_126 rfl (by decide) (fun _ => rfl) (fun y2 => ?_)
  refine zst_ (gj_goto 88 (pc := 129) dX2_packed_129 (by decide)) ?_
  refine zst_ (gj_sub [2, 3, 1, 4, 0] rfl) ?_
  intro h
  cases h
  exact hk
noncomputable def f_X2_packed_88_b (x0 x1 x2 x4 x5 : Int) (σ : zM) : Option ((Int × Int) ⊕ ((Int × Int) ⊕ zO)) :=
  if 3 ≤ x5 then
    (f_X2_packed_132 x0 x1 x2 x4 σ).map (fun r => (.inr r))
  else
    (zgf σ 300 x1).bind fun v1 =>
    (zga σ 101 v1 x4).bind fun v2 =>
    if v2 ≤ x5 then
      f_X2_packed_123 x0 x1 x4 x5 0 (jshl x2 3) σ
    else
      (zgf σ 301 x1).bind fun v3 =>
      (zga σ 110 v3 x4).bind fun v4 =>
      (zga σ 101 v4 x5).bind fun v5 =>
      f_X2_packed_123 x0 x1 x4 x5 v5 (jshl x2 3) σ
noncomputable def f_X2_packed_88 (x0 x1 x2 x4 x5 : Int) (σ : zM) : Option ((Int × Int) ⊕ zO) :=
  zloop (fun s : Int × Int => f_X2_packed_88_b x0 x1 s.1 x4 s.2 σ) (x2, x5)
theorem w_X2_packed_88_b {g : zG} {lv : Nat} {out : zO} (x0 x1 x2 x4 x5 : Int) (σ : zM) {r : ((Int × Int) ⊕ ((Int × Int) ⊕ zO))} (h : f_X2_packed_88_b x0 x1 x2 x4 x5 σ = some r) (hk : (zKL (fun s : Int × Int => Gj g MX2_packed (lv) 88 [(0, zr x0), (1, zr x1), (2, zj s.1), (4, zi x4), (5, zi s.2)] [] σ out) (zKL (fun s : Int × Int => Gj g MX2_packed (lv) 40 [(0, zr x0), (1, zr x1), (2, zj s.1), (4, zi s.2)] [] σ out) (fun o : zO => o = out))) r) : Gj g MX2_packed (lv) 88 [(0, zr x0), (1, zr x1), (2, zj x2), (4, zi x4), (5, zi x5)] [] σ out := by
  revert h
  unfold f_X2_packed_88_b
  refine zst_ (gj_iload 4 (pc := 88) dX2_packed_88 rfl) ?_
  refine zst_ (gj_iconst (pc := 90) dX2_packed_90 (by decide)) ?_
  refine gb_if (gj_icmp_ge 132 (pc := 91) dX2_packed_91 (by decide)) ?_ ?_
  · refine zst_ (gj_sub [0, 1, 2, 3] rfl) ?_
    intro h
    obtain ⟨r0, h0, rfl⟩ := zmE h
    exact w_X2_packed_132 x0 x1 x2 x4 σ h0 hk
  · refine zst_ (gj_lload_n 2 (pc := 94) dX2_packed_94 rfl) ?_
    refine zst_ (gj_iconst (pc := 95) dX2_packed_95 (by decide)) ?_
    refine zst_ (gj_lshl (pc := 96) dX2_packed_96) ?_
    refine zst_ (gj_iload 4 (pc := 97) dX2_packed_97 rfl) ?_
    refine zst_ (gj_aload_n 1 (pc := 99) dX2_packed_99 rfl) ?_
    refine gb_getNe (pc := 100) fl300 dX2_packed_100 q207 (Or.inl rfl) (fun v1 => ?_)
    refine zst_ (gj_iload 3 (pc := 103) dX2_packed_103 rfl) ?_
    refine gb_iald (pc := 105) dX2_packed_105 (fun v2 => ?_)
    refine gb_if (gj_icmp_ge 122 (pc := 106) dX2_packed_106 (by decide)) ?_ ?_
    · refine zst_ (gj_iconst (pc := 122) dX2_packed_122 (by decide)) ?_
      refine zst_ (gj_sub [0, 1, 3, 4] rfl) ?_
      exact fun h => w_X2_packed_123 x0 x1 x4 x5 0 (jshl x2 3) σ h hk
    · refine zst_ (gj_aload_n 1 (pc := 109) dX2_packed_109 rfl) ?_
      refine gb_getNe (pc := 110) fl301 dX2_packed_110 q210 (Or.inl rfl) (fun v3 => ?_)
      refine zst_ (gj_iload 3 (pc := 113) dX2_packed_113 rfl) ?_
      refine gb_aald (pc := 115) (k := 110) ⟨by decide, by decide⟩ dX2_packed_115 (fun v4 => ?_)
      refine zst_ (gj_iload 4 (pc := 116) dX2_packed_116 rfl) ?_
      refine gb_iald (pc := 118) dX2_packed_118 (fun v5 => ?_)
      refine zst_ (gj_goto 123 (pc := 119) dX2_packed_119 (by decide)) ?_
      refine zst_ (gj_sub [0, 1, 3, 4] rfl) ?_
      exact fun h => w_X2_packed_123 x0 x1 x4 x5 v5 (jshl x2 3) σ h hk
theorem w_X2_packed_88 {g : zG} {lv : Nat} {out : zO} (x0 x1 x2 x4 x5 : Int) (σ : zM) {r : ((Int × Int) ⊕ zO)} (h : f_X2_packed_88 x0 x1 x2 x4 x5 σ = some r) (hk : (zKL (fun s : Int × Int => Gj g MX2_packed (lv) 40 [(0, zr x0), (1, zr x1), (2, zj s.1), (4, zi s.2)] [] σ out) (fun o : zO => o = out)) r) : Gj g MX2_packed (lv) 88 [(0, zr x0), (1, zr x1), (2, zj x2), (4, zi x4), (5, zi x5)] [] σ out :=
  gj_loop (P := (fun s : Int × Int => Gj g MX2_packed (lv) 88 [(0, zr x0), (1, zr x1), (2, zj s.1), (4, zi x4), (5, zi s.2)] [] σ out)) (fun s x hb hx => w_X2_packed_88_b x0 x1 s.1 x4 s.2 σ hb hx) h hk
noncomputable def f_X2_packed_71 (x0 x1 x2 x4 : Int) (σ : zM) : Option ((Int × Int) ⊕ zO) :=
  (zgf σ 200 x0).bind fun v1 =>
  (zga σ 101 v1 x4).bind fun v2 =>
  if v2 = 2 then
    f_X2_packed_88 x0 x1 x2 x4 0 σ
  else
    f_X2_packed_145 x0 x1 x2 x4 σ
theorem w_X2_packed_71 {g : zG} {lv : Nat} {out : zO} (x0 x1 x2 x4 : Int) (σ : zM) {r : ((Int × Int) ⊕ zO)} (h : f_X2_packed_71 x0 x1 x2 x4 σ = some r) (hk : (zKL (fun s : Int × Int => Gj g MX2_packed (lv) 40 [(0, zr x0), (1, zr x1), (2, zj s.1), (4, zi s.2)] [] σ out) (fun o : zO => o = out)) r) : Gj g MX2_packed (lv) 71 [(0, zr x0), (1, zr x1), (2, zj x2), (4, zi x4)] [] σ out := by
  revert h
  unfold f_X2_packed_71
  refine zst_ (gj_aload_n 0 (pc := 71) dX2_packed_71 rfl) ?_
  refine gb_get (pc := 72) fl200 dX2_packed_72 q268 (Or.inl rfl) (fun v1 => ?_)
  refine zst_ (gj_iload 3 (pc := 75) dX2_packed_75 rfl) ?_
  refine gb_iald (pc := 77) dX2_packed_77 (fun v2 => ?_)
  refine zst_ (gj_iconst (pc := 78) dX2_packed_78 (by decide)) ?_
  refine gb_if (gj_icmp_eq 85 (pc := 79) dX2_packed_79 (by decide)) ?_ ?_
  · refine zst_ (gj_iconst (pc := 85) dX2_packed_85 (by decide)) ?_
    refine zst_ (gj_istore (pc := 86) (ls' := [(5, zi 0), (0, zr x0), (1, zr x1), (2, zj x2), (4, zi x4)]) dX2_packed_86 (by decide) rfl) ?_
    refine zst_ (gj_sub [1, 2, 3, 4, 0] rfl) ?_
    exact fun h => w_X2_packed_88 x0 x1 x2 x4 0 σ h hk
  · refine zst_ (gj_goto 145 (pc := 82) dX2_packed_82 (by decide)) ?_
    exact fun h => w_X2_packed_145 x0 x1 x2 x4 σ h hk
noncomputable def f_X2_packed_40_b (x0 x1 x2 x4 : Int) (σ : zM) : Option ((Int × Int) ⊕ zO) :=
  if 8 ≤ x4 then
    (f_X2_packed_151 x2 σ).map (fun r => (.inr r))
  else
    (zgf σ 200 x0).bind fun v1 =>
    (zga σ 101 v1 x4).bind fun v2 =>
    if v2 ≠ 1 then
      f_X2_packed_71 x0 x1 x2 x4 σ
    else
      (zgf σ 300 x1).bind fun v3 =>
      (zga σ 101 v3 x4).bind fun v4 =>
      zlet ((jor (jshl x2 3) v4)) fun y5 =>
      f_X2_packed_71 x0 x1 y5 x4 σ
noncomputable def f_X2_packed_40 (x0 x1 x2 x4 : Int) (σ : zM) : Option zO :=
  zloop (fun s : Int × Int => f_X2_packed_40_b x0 x1 s.1 s.2 σ) (x2, x4)
theorem w_X2_packed_40_b {g : zG} {lv : Nat} {out : zO} (x0 x1 x2 x4 : Int) (σ : zM) {r : ((Int × Int) ⊕ zO)} (h : f_X2_packed_40_b x0 x1 x2 x4 σ = some r) (hk : (zKL (fun s : Int × Int => Gj g MX2_packed (lv) 40 [(0, zr x0), (1, zr x1), (2, zj s.1), (4, zi s.2)] [] σ out) (fun o : zO => o = out)) r) : Gj g MX2_packed (lv) 40 [(0, zr x0), (1, zr x1), (2, zj x2), (4, zi x4)] [] σ out := by
  revert h
  unfold f_X2_packed_40_b
  refine zst_ (gj_iload 3 (pc := 40) dX2_packed_40 rfl) ?_
  refine zst_ (gj_bipush (pc := 42) dX2_packed_42 ⟨rfl, by decide⟩) ?_
  refine gb_if (gj_icmp_ge 151 (pc := 44) dX2_packed_44 (by decide)) ?_ ?_
  · refine zst_ (gj_sub [2] rfl) ?_
    intro h
    obtain ⟨r0, h0, rfl⟩ := zmE h
    exact w_X2_packed_151 x2 σ h0 hk
  · refine zst_ (gj_aload_n 0 (pc := 47) dX2_packed_47 rfl) ?_
    refine gb_get (pc := 48) fl200 dX2_packed_48 q268 (Or.inl rfl) (fun v1 => ?_)
    refine zst_ (gj_iload 3 (pc := 51) dX2_packed_51 rfl) ?_
    refine gb_iald (pc := 53) dX2_packed_53 (fun v2 => ?_)
    refine zst_ (gj_iconst (pc := 54) dX2_packed_54 (by decide)) ?_
    refine gb_if (gj_icmp_ne 71 (pc := 55) dX2_packed_55 (by decide)) ?_ ?_
    · exact fun h => w_X2_packed_71 x0 x1 x2 x4 σ h hk
    · refine zst_ (gj_lload_n 2 (pc := 58) dX2_packed_58 rfl) ?_
      refine zst_ (gj_iconst (pc := 59) dX2_packed_59 (by decide)) ?_
      refine zst_ (gj_lshl (pc := 60) dX2_packed_60) ?_
      refine zst_ (gj_aload_n 1 (pc := 61) dX2_packed_61 rfl) ?_
      refine gb_getNe (pc := 62) fl300 dX2_packed_62 q207 (Or.inl rfl) (fun v3 => ?_)
      refine zst_ (gj_iload 3 (pc := 65) dX2_packed_65 rfl) ?_
      refine gb_iald (pc := 67) dX2_packed_67 (fun v4 => ?_)
      refine zst_ (gj_i2l (pc := 68) dX2_packed_68) ?_
      refine zst_ (gj_lor (pc := 69) dX2_packed_69) ?_
      refine gb_let (fun y5 => ?_)
      refine zst_ (gj_lstore_n (pc := 70) (ls' := [(2, zj y5), (0, zr x0), (1, zr x1), (4, zi x4)]) dX2_packed_70 (by decide) rfl) ?_
      refine zst_ (gj_sub [1, 2, 0, 3] rfl) ?_
      exact fun h => w_X2_packed_71 x0 x1 y5 x4 σ h hk
theorem w_X2_packed_40 {g : zG} {lv : Nat} {out : zO} (x0 x1 x2 x4 : Int) (σ : zM) {r : zO} (h : f_X2_packed_40 x0 x1 x2 x4 σ = some r) (hk : (fun o : zO => o = out) r) : Gj g MX2_packed (lv) 40 [(0, zr x0), (1, zr x1), (2, zj x2), (4, zi x4)] [] σ out :=
  gj_loop (P := (fun s : Int × Int => Gj g MX2_packed (lv) 40 [(0, zr x0), (1, zr x1), (2, zj s.1), (4, zi s.2)] [] σ out)) (fun s x hb hx => w_X2_packed_40_b x0 x1 s.1 s.2 σ hb hx) h hk
noncomputable def f_X2_packed_37 (x0 x1 x2 : Int) (σ : zM) : Option zO :=
  f_X2_packed_40 x0 x1 x2 0 σ
theorem w_X2_packed_37 {g : zG} {lv : Nat} {out : zO} (x0 x1 x2 : Int) (σ : zM) {r : zO} (h : f_X2_packed_37 x0 x1 x2 σ = some r) (hk : (fun o : zO => o = out) r) : Gj g MX2_packed (lv) 37 [(0, zr x0), (1, zr x1), (2, zj x2)] [] σ out := by
  revert h
  unfold f_X2_packed_37
  refine zst_ (gj_iconst (pc := 37) dX2_packed_37 (by decide)) ?_
  refine zst_ (gj_istore (pc := 38) (ls' := [(4, zi 0), (0, zr x0), (1, zr x1), (2, zj x2)]) dX2_packed_38 (by decide) rfl) ?_
  refine zst_ (gj_sub [1, 2, 3, 0] rfl) ?_
  exact fun h => w_X2_packed_40 x0 x1 x2 0 σ h hk
noncomputable def f_X2_packed_9_b (x0 x1 x2 x4 : Int) (σ : zM) : Option ((Int × Int) ⊕ zO) :=
  (zgf σ 204 x0).bind fun v1 =>
  if v1 ≤ x4 then
    (f_X2_packed_37 x0 x1 x2 σ).map (fun r => (.inr r))
  else
    (zgf σ 302 x1).bind fun v2 =>
    (zga σ 101 v2 x4).bind fun v3 =>
    zlet ((jor (jshl x2 5) v3)) fun y4 =>
    zlet (zadd x4 1) fun y5 =>
    some (.inl (y4, y5))
noncomputable def f_X2_packed_9 (x0 x1 x2 x4 : Int) (σ : zM) : Option zO :=
  zloop (fun s : Int × Int => f_X2_packed_9_b x0 x1 s.1 s.2 σ) (x2, x4)
theorem w_X2_packed_9_b {g : zG} {lv : Nat} {out : zO} (x0 x1 x2 x4 : Int) (σ : zM) {r : ((Int × Int) ⊕ zO)} (h : f_X2_packed_9_b x0 x1 x2 x4 σ = some r) (hk : (zKL (fun s : Int × Int => Gj g MX2_packed (lv) 9 [(0, zr x0), (1, zr x1), (2, zj s.1), (4, zi s.2)] [] σ out) (fun o : zO => o = out)) r) : Gj g MX2_packed (lv) 9 [(0, zr x0), (1, zr x1), (2, zj x2), (4, zi x4)] [] σ out := by
  revert h
  unfold f_X2_packed_9_b
  refine zst_ (gj_iload 3 (pc := 9) dX2_packed_9 rfl) ?_
  refine zst_ (gj_aload_n 0 (pc := 11) dX2_packed_11 rfl) ?_
  refine gb_get (pc := 12) fl204 dX2_packed_12 q277 (Or.inl rfl) (fun v1 => ?_)
  refine gb_if (gj_icmp_ge 37 (pc := 15) dX2_packed_15 (by decide)) ?_ ?_
  · refine zst_ (gj_sub [0, 1, 2] rfl) ?_
    intro h
    obtain ⟨r0, h0, rfl⟩ := zmE h
    exact w_X2_packed_37 x0 x1 x2 σ h0 hk
  · refine zst_ (gj_lload_n 2 (pc := 18) dX2_packed_18 rfl) ?_
    refine zst_ (gj_iconst (pc := 19) dX2_packed_19 (by decide)) ?_
    refine zst_ (gj_lshl (pc := 20) dX2_packed_20) ?_
    refine zst_ (gj_aload_n 1 (pc := 21) dX2_packed_21 rfl) ?_
    refine gb_getNe (pc := 22) fl302 dX2_packed_22 q214 (Or.inl rfl) (fun v2 => ?_)
    refine zst_ (gj_iload 3 (pc := 25) dX2_packed_25 rfl) ?_
    refine gb_iald (pc := 27) dX2_packed_27 (fun v3 => ?_)
    refine zst_ (gj_i2l (pc := 28) dX2_packed_28) ?_
    refine zst_ (gj_lor (pc := 29) dX2_packed_29) ?_
    refine gb_let (fun y4 => ?_)
    refine zst_ (gj_lstore_n (pc := 30) (ls' := [(2, zj y4), (0, zr x0), (1, zr x1), (4, zi x4)]) dX2_packed_30 (by decide) rfl) ?_
    refine gb_iinc (pc := 31) 3 (fun y5 => [(4, zi y5), (2, zj y4), (0, zr x0), (1, zr x1)]) dX2_packed_31 rfl (by decide) (fun _ => rfl) (fun y5 => ?_)
    refine zst_ (gj_goto 9 (pc := 34) dX2_packed_34 (by decide)) ?_
    refine zst_ (gj_sub [2, 3, 1, 0] rfl) ?_
    intro h
    cases h
    exact hk
theorem w_X2_packed_9 {g : zG} {lv : Nat} {out : zO} (x0 x1 x2 x4 : Int) (σ : zM) {r : zO} (h : f_X2_packed_9 x0 x1 x2 x4 σ = some r) (hk : (fun o : zO => o = out) r) : Gj g MX2_packed (lv) 9 [(0, zr x0), (1, zr x1), (2, zj x2), (4, zi x4)] [] σ out :=
  gj_loop (P := (fun s : Int × Int => Gj g MX2_packed (lv) 9 [(0, zr x0), (1, zr x1), (2, zj s.1), (4, zi s.2)] [] σ out)) (fun s x hb hx => w_X2_packed_9_b x0 x1 s.1 s.2 σ hb hx) h hk
noncomputable def f_X2_packed (x0 x1 : Int) (σ : zM) : Option zO :=
  (zgf σ 303 x1).bind fun v1 =>
  f_X2_packed_9 x0 x1 v1 0 σ
theorem c_X2_packed {g : zG} {lv : Nat} {x0 x1 : Int} {σ : zM} {out : zO} (h : f_X2_packed x0 x1 σ = some out) : Cj g (lv) MX2_packed [zr x0, zr x1] σ out := by
  refine cj_go (ls := [(0, zr x0), (1, zr x1)]) (by decide) (Nat.le_of_ble_eq_true rfl) rfl (zgen h (fun r hk => ?_))
  unfold f_X2_packed
  refine zst_ (gj_aload_n 1 (pc := 0) dX2_packed_0 rfl) ?_
  refine gb_getNe (pc := 1) fl303 dX2_packed_1 q217 (Or.inl rfl) (fun v1 => ?_)
  refine zst_ (gj_i2l (pc := 4) dX2_packed_4) ?_
  refine zst_ (gj_lstore_n (pc := 5) (ls' := [(2, zj v1), (0, zr x0), (1, zr x1)]) dX2_packed_5 (by decide) rfl) ?_
  refine zst_ (gj_iconst (pc := 6) dX2_packed_6 (by decide)) ?_
  refine zst_ (gj_istore (pc := 7) (ls' := [(4, zi 0), (2, zj v1), (0, zr x0), (1, zr x1)]) dX2_packed_7 (by decide) rfl) ?_
  refine zst_ (gj_sub [2, 3, 1, 0] rfl) ?_
  exact fun h => w_X2_packed_9 x0 x1 v1 0 σ h hk
theorem q298 : (Jvm.Cond.fieldLink "LassoFinder$Model" (50 : Nat) "LassoFinder$Model" "states" "[J") ∈ lw_all := lw_g (lw_at lw_m1 198 rfl) rfl
theorem q299 : (Jvm.Cond.fieldLink "LassoFinder$Model" (54 : Nat) "LassoFinder$Model" "table" "[I") ∈ lw_all := lw_g (lw_at lw_m1 199 rfl) rfl
theorem q1434 : (Jvm.Cond.code ({ cls := "LassoFinder$Model", name := "find", desc := "(J)I" } : Jvm.MethodName) prog_9_method_6_code (4 : Nat) (Option.some Jvm.ClassFile.FieldType.int)) ∈ lw_all := lw_g (lw_at lw_m6 134 rfl) rfl
theorem q1435 : (Jvm.Cond.constantLong "LassoFinder$Model" (105 : Nat) (-7046029254386353131 : Int64)) ∈ lw_all := lw_g (lw_at lw_m6 135 rfl) rfl
theorem q1436 : (Jvm.Cond.classLink "LassoFinder$Model" (107 : Nat) "java/lang/UnsupportedOperationException") ∈ lw_all := lw_g (lw_at lw_m6 136 rfl) rfl
theorem q1445 : (Jvm.Cond.methodLink "LassoFinder$Model" (109 : Nat) ({ cls := "java/lang/UnsupportedOperationException", name := "<init>", desc := "()V" } : Jvm.MethodName)) ∈ lw_all := lw_g (lw_at lw_m6 145 rfl) rfl
theorem fl213 : zfl 213 2 "LassoFinder$Model" "states" "[J" true := ⟨rfl, rfl, rfl⟩
theorem fr213 {g : zG} {v : Int} : zok g (2, v) → zokt g (zft 213) v := fun h => h
theorem fl214 : zfl 214 2 "LassoFinder$Model" "table" "[I" true := ⟨rfl, rfl, rfl⟩
theorem fr214 {g : zG} {v : Int} : zok g (2, v) → zokt g (zft 214) v := fun h => h
abbrev cX2_find : ByteArray := prog_9_method_6_code
def yX2_find : MethodName := ⟨RX2, "find", "(J)I"⟩
theorem dX2_find_0 : decode cX2_find 0 = .ok (.lload_n 1, 1) := by decide +kernel
theorem dX2_find_1 : decode cX2_find 1 = .ok (.lload_n 1, 1) := by decide +kernel
theorem dX2_find_2 : decode cX2_find 2 = .ok (.bipush 29, 2) := by decide +kernel
theorem dX2_find_4 : decode cX2_find 4 = .ok (.lushr, 1) := by decide +kernel
theorem dX2_find_5 : decode cX2_find 5 = .ok (.lxor, 1) := by decide +kernel
theorem dX2_find_6 : decode cX2_find 6 = .ok (.ldc2_w 105, 3) := by decide +kernel
theorem dX2_find_9 : decode cX2_find 9 = .ok (.lmul, 1) := by decide +kernel
theorem dX2_find_10 : decode cX2_find 10 = .ok (.bipush 40, 2) := by decide +kernel
theorem dX2_find_12 : decode cX2_find 12 = .ok (.lushr, 1) := by decide +kernel
theorem dX2_find_13 : decode cX2_find 13 = .ok (.l2i, 1) := by decide +kernel
theorem dX2_find_14 : decode cX2_find 14 = .ok (.aload_n 0, 1) := by decide +kernel
theorem dX2_find_15 : decode cX2_find 15 = .ok (.getfield 54, 3) := by decide +kernel
theorem dX2_find_18 : decode cX2_find 18 = .ok (.arraylength, 1) := by decide +kernel
theorem dX2_find_19 : decode cX2_find 19 = .ok (.irem, 1) := by decide +kernel
theorem dX2_find_20 : decode cX2_find 20 = .ok (.istore_n 3, 1) := by decide +kernel
theorem dX2_find_21 : decode cX2_find 21 = .ok (.aload_n 0, 1) := by decide +kernel
theorem dX2_find_22 : decode cX2_find 22 = .ok (.getfield 54, 3) := by decide +kernel
theorem dX2_find_25 : decode cX2_find 25 = .ok (.iload_n 3, 1) := by decide +kernel
theorem dX2_find_26 : decode cX2_find 26 = .ok (.iaload, 1) := by decide +kernel
theorem dX2_find_27 : decode cX2_find 27 = .ok (.ifCond .eq 34, 3) := by decide +kernel
theorem dX2_find_30 : decode cX2_find 30 = .ok (.aload_n 0, 1) := by decide +kernel
theorem dX2_find_31 : decode cX2_find 31 = .ok (.getfield 50, 3) := by decide +kernel
theorem dX2_find_34 : decode cX2_find 34 = .ok (.aload_n 0, 1) := by decide +kernel
theorem dX2_find_35 : decode cX2_find 35 = .ok (.getfield 54, 3) := by decide +kernel
theorem dX2_find_38 : decode cX2_find 38 = .ok (.iload_n 3, 1) := by decide +kernel
theorem dX2_find_39 : decode cX2_find 39 = .ok (.iaload, 1) := by decide +kernel
theorem dX2_find_40 : decode cX2_find 40 = .ok (.iconst 1, 1) := by decide +kernel
theorem dX2_find_41 : decode cX2_find 41 = .ok (.isub, 1) := by decide +kernel
theorem dX2_find_42 : decode cX2_find 42 = .ok (.laload, 1) := by decide +kernel
theorem dX2_find_43 : decode cX2_find 43 = .ok (.lload_n 1, 1) := by decide +kernel
theorem dX2_find_44 : decode cX2_find 44 = .ok (.lcmp, 1) := by decide +kernel
theorem dX2_find_45 : decode cX2_find 45 = .ok (.ifCond .eq 16, 3) := by decide +kernel
theorem dX2_find_48 : decode cX2_find 48 = .ok (.iload_n 3, 1) := by decide +kernel
theorem dX2_find_49 : decode cX2_find 49 = .ok (.iconst 1, 1) := by decide +kernel
theorem dX2_find_50 : decode cX2_find 50 = .ok (.iadd, 1) := by decide +kernel
theorem dX2_find_51 : decode cX2_find 51 = .ok (.aload_n 0, 1) := by decide +kernel
theorem dX2_find_52 : decode cX2_find 52 = .ok (.getfield 54, 3) := by decide +kernel
theorem dX2_find_55 : decode cX2_find 55 = .ok (.arraylength, 1) := by decide +kernel
theorem dX2_find_56 : decode cX2_find 56 = .ok (.irem, 1) := by decide +kernel
theorem dX2_find_57 : decode cX2_find 57 = .ok (.istore_n 3, 1) := by decide +kernel
theorem dX2_find_58 : decode cX2_find 58 = .ok (.goto (-37), 3) := by decide +kernel
theorem dX2_find_61 : decode cX2_find 61 = .ok (.aload_n 0, 1) := by decide +kernel
theorem dX2_find_62 : decode cX2_find 62 = .ok (.getfield 54, 3) := by decide +kernel
theorem dX2_find_65 : decode cX2_find 65 = .ok (.iload_n 3, 1) := by decide +kernel
theorem dX2_find_66 : decode cX2_find 66 = .ok (.iaload, 1) := by decide +kernel
theorem dX2_find_67 : decode cX2_find 67 = .ok (.ifCond .ne 50, 3) := by decide +kernel
theorem dX2_find_70 : decode cX2_find 70 = .ok (.aload_n 0, 1) := by decide +kernel
theorem dX2_find_71 : decode cX2_find 71 = .ok (.getfield 86, 3) := by decide +kernel
theorem dX2_find_74 : decode cX2_find 74 = .ok (.bipush 96, 2) := by decide +kernel
theorem dX2_find_76 : decode cX2_find 76 = .ok (.if_icmp .ne 11, 3) := by decide +kernel
theorem dX2_find_79 : decode cX2_find 79 = .ok (.new 107, 3) := by decide +kernel
theorem dX2_find_82 : decode cX2_find 82 = .ok (.dup, 1) := by decide +kernel
theorem dX2_find_83 : decode cX2_find 83 = .ok (.invokespecial 109, 3) := by decide +kernel
theorem dX2_find_86 : decode cX2_find 86 = .ok (.athrow, 1) := by decide +kernel
theorem dX2_find_87 : decode cX2_find 87 = .ok (.aload_n 0, 1) := by decide +kernel
theorem dX2_find_88 : decode cX2_find 88 = .ok (.getfield 50, 3) := by decide +kernel
theorem dX2_find_91 : decode cX2_find 91 = .ok (.aload_n 0, 1) := by decide +kernel
theorem dX2_find_92 : decode cX2_find 92 = .ok (.getfield 86, 3) := by decide +kernel
theorem dX2_find_95 : decode cX2_find 95 = .ok (.lload_n 1, 1) := by decide +kernel
theorem dX2_find_96 : decode cX2_find 96 = .ok (.lastore, 1) := by decide +kernel
theorem dX2_find_97 : decode cX2_find 97 = .ok (.aload_n 0, 1) := by decide +kernel
theorem dX2_find_98 : decode cX2_find 98 = .ok (.dup, 1) := by decide +kernel
theorem dX2_find_99 : decode cX2_find 99 = .ok (.getfield 86, 3) := by decide +kernel
theorem dX2_find_102 : decode cX2_find 102 = .ok (.iconst 1, 1) := by decide +kernel
theorem dX2_find_103 : decode cX2_find 103 = .ok (.iadd, 1) := by decide +kernel
theorem dX2_find_104 : decode cX2_find 104 = .ok (.putfield 86, 3) := by decide +kernel
theorem dX2_find_107 : decode cX2_find 107 = .ok (.aload_n 0, 1) := by decide +kernel
theorem dX2_find_108 : decode cX2_find 108 = .ok (.getfield 54, 3) := by decide +kernel
theorem dX2_find_111 : decode cX2_find 111 = .ok (.iload_n 3, 1) := by decide +kernel
theorem dX2_find_112 : decode cX2_find 112 = .ok (.aload_n 0, 1) := by decide +kernel
theorem dX2_find_113 : decode cX2_find 113 = .ok (.getfield 86, 3) := by decide +kernel
theorem dX2_find_116 : decode cX2_find 116 = .ok (.iastore, 1) := by decide +kernel
theorem dX2_find_117 : decode cX2_find 117 = .ok (.aload_n 0, 1) := by decide +kernel
theorem dX2_find_118 : decode cX2_find 118 = .ok (.getfield 54, 3) := by decide +kernel
theorem dX2_find_121 : decode cX2_find 121 = .ok (.iload_n 3, 1) := by decide +kernel
theorem dX2_find_122 : decode cX2_find 122 = .ok (.iaload, 1) := by decide +kernel
theorem dX2_find_123 : decode cX2_find 123 = .ok (.iconst 1, 1) := by decide +kernel
theorem dX2_find_124 : decode cX2_find 124 = .ok (.isub, 1) := by decide +kernel
theorem dX2_find_125 : decode cX2_find 125 = .ok (.ireturn, 1) := by decide +kernel
abbrev MX2_find : zT := (yX2_find, cX2_find, 4, (Option.some Jvm.ClassFile.FieldType.int), [])
theorem plX2_find : zplain MX2_find 1 ∧ (zcodeW MX2_find ∈ lw_all ∧ Cond.initialized MX2_find.1.cls ∈ lw_all) := ⟨⟨by decide +kernel, by decide +kernel⟩, q1434, q106⟩
noncomputable def f_X2_find_117 (x0 x3 : Int) (σ : zM) : Option zO :=
  (zgf σ 214 x0).bind fun v1 =>
  (zga σ 101 v1 x3).bind fun v2 =>
  some (0, zi (zsub v2 1), σ)
theorem w_X2_find_117 {g : zG} {lv : Nat} {out : zO} (x0 x3 : Int) (σ : zM) {r : zO} (h : f_X2_find_117 x0 x3 σ = some r) (hk : (fun o : zO => o = out) r) : Gj g MX2_find (lv + 6) 117 [(0, zr x0), (3, zi x3)] [] σ out := by
  revert h
  unfold f_X2_find_117
  refine zst_ (gj_aload_n 0 (pc := 117) dX2_find_117 rfl) ?_
  refine gb_get (pc := 118) fl214 dX2_find_118 q299 (Or.inl rfl) (fun v1 => ?_)
  refine zst_ (gj_iload_n 1 (pc := 121) dX2_find_121 rfl) ?_
  refine gb_iald (pc := 122) dX2_find_122 (fun v2 => ?_)
  refine zst_ (gj_iconst (pc := 123) dX2_find_123 (by decide)) ?_
  refine zst_ (gj_isub (pc := 124) dX2_find_124) ?_
  intro h
  cases h
  have hk : (0, zi (zsub v2 1), σ) = out := hk
  subst hk
  exact gj_ret (pc := 125) (t := .int) dX2_find_125 rfl ⟨rfl, rfl⟩ (fun h => h)
noncomputable def f_X2_find_61 (x0 x1 x3 : Int) (σ : zM) : Option zO :=
  (zgf σ 214 x0).bind fun v1 =>
  (zga σ 101 v1 x3).bind fun v2 =>
  if v2 ≠ 0 then
    f_X2_find_117 x0 x3 σ
  else
    (zgf σ 220 x0).bind fun v3 =>
    if v3 ≠ 96 then
      (zgf σ 213 x0).bind fun v4 =>
      (zgf σ 220 x0).bind fun v5 =>
      (zpa σ 102 v4 v5 x1).bind fun σ6 =>
      (zgf σ6 220 x0).bind fun v7 =>
      (zpf σ6 220 x0 (zadd v7 1)).bind fun σ8 =>
      (zgf σ8 214 x0).bind fun v9 =>
      (zgf σ8 220 x0).bind fun v10 =>
      (zpa σ8 101 v9 x3 v10).bind fun σ11 =>
      f_X2_find_117 x0 x3 σ11
    else
      (znX σ 53).bind fun σ12 =>
      zgd (zis σ12 53 (↑(zN σ) : Int)) <|
      some (3, zr (↑(zN σ) : Int), σ12)
theorem w_X2_find_61 {g : zG} {lv : Nat} {out : zO} (x0 x1 x3 : Int) (σ : zM) {r : zO} (h : f_X2_find_61 x0 x1 x3 σ = some r) (hk : (fun o : zO => o = out) r) : Gj g MX2_find (lv + 6) 61 [(0, zr x0), (1, zj x1), (3, zi x3)] [] σ out := by
  revert h
  unfold f_X2_find_61
  refine zst_ (gj_aload_n 0 (pc := 61) dX2_find_61 rfl) ?_
  refine gb_get (pc := 62) fl214 dX2_find_62 q299 (Or.inl rfl) (fun v1 => ?_)
  refine zst_ (gj_iload_n 2 (pc := 65) dX2_find_65 rfl) ?_
  refine gb_iald (pc := 66) dX2_find_66 (fun v2 => ?_)
  refine gb_if (gj_if_ne 117 (pc := 67) dX2_find_67 (by decide)) ?_ ?_
  · refine zst_ (gj_sub [0, 2] rfl) ?_
    exact fun h => w_X2_find_117 x0 x3 σ h hk
  · refine zst_ (gj_aload_n 0 (pc := 70) dX2_find_70 rfl) ?_
    refine gb_get (pc := 71) fl220 dX2_find_71 q312 (Or.inl rfl) (fun v3 => ?_)
    refine zst_ (gj_bipush (pc := 74) dX2_find_74 ⟨rfl, by decide⟩) ?_
    refine gb_if (gj_icmp_ne 87 (pc := 76) dX2_find_76 (by decide)) ?_ ?_
    · refine zst_ (gj_aload_n 0 (pc := 87) dX2_find_87 rfl) ?_
      refine gb_get (pc := 88) fl213 dX2_find_88 q298 (Or.inl rfl) (fun v4 => ?_)
      refine zst_ (gj_aload_n 0 (pc := 91) dX2_find_91 rfl) ?_
      refine gb_get (pc := 92) fl220 dX2_find_92 q312 (Or.inl rfl) (fun v5 => ?_)
      refine zst_ (gj_lload_n 1 (pc := 95) dX2_find_95 rfl) ?_
      refine gb_last (pc := 96) dX2_find_96 (fun σ6 => ?_)
      refine zst_ (gj_aload_n 0 (pc := 97) dX2_find_97 rfl) ?_
      refine zst_ (gj_dup (pc := 98) dX2_find_98 rfl) ?_
      refine gb_get (pc := 99) fl220 dX2_find_99 q312 (Or.inl rfl) (fun v7 => ?_)
      refine zst_ (gj_iconst (pc := 102) dX2_find_102 (by decide)) ?_
      refine zst_ (gj_iadd (pc := 103) dX2_find_103) ?_
      refine gb_put (pc := 104) fl220 fr220 dX2_find_104 q312 (Or.inl rfl) (fun σ8 => ?_)
      refine zst_ (gj_aload_n 0 (pc := 107) dX2_find_107 rfl) ?_
      refine gb_get (pc := 108) fl214 dX2_find_108 q299 (Or.inl rfl) (fun v9 => ?_)
      refine zst_ (gj_iload_n 2 (pc := 111) dX2_find_111 rfl) ?_
      refine zst_ (gj_aload_n 0 (pc := 112) dX2_find_112 rfl) ?_
      refine gb_get (pc := 113) fl220 dX2_find_113 q312 (Or.inl rfl) (fun v10 => ?_)
      refine gb_iast (pc := 116) dX2_find_116 (fun σ11 => ?_)
      refine zst_ (gj_sub [0, 2] rfl) ?_
      exact fun h => w_X2_find_117 x0 x3 σ11 h hk
    · refine gb_exc (pc := 79) (k := 53) ⟨by decide, by decide⟩ (by omega) (Nat.le_of_ble_eq_true rfl) dX2_find_79 dX2_find_82 dX2_find_83 q1436 q1445 (fun σ12 => ?_)
      refine gb_gd (fun hb => ?_)
      intro h
      cases h
      have hk : (3, zr (↑(zN σ) : Int), σ12) = out := hk
      subst hk
      exact gj_athrow (pc := 86) (zisE hb).1 (zisE hb).2 (by decide) dX2_find_86 rfl
noncomputable def f_X2_find_21_b (x0 x1 x3 : Int) (σ : zM) : Option ((Int) ⊕ zO) :=
  (zgf σ 214 x0).bind fun v1 =>
  (zga σ 101 v1 x3).bind fun v2 =>
  if v2 = 0 then
    (f_X2_find_61 x0 x1 x3 σ).map (fun r => (.inr r))
  else
    (zgf σ 213 x0).bind fun v3 =>
    (zgf σ 214 x0).bind fun v4 =>
    (zga σ 101 v4 x3).bind fun v5 =>
    (zga σ 102 v3 (zsub v5 1)).bind fun v6 =>
    if (zlcmp v6 x1) = 0 then
      (f_X2_find_61 x0 x1 x3 σ).map (fun r => (.inr r))
    else
      (zgf σ 214 x0).bind fun v7 =>
      (zla σ 101 v7).bind fun v8 =>
      zgd (znz v8) <|
      zlet ((zrem (zadd x3 1) v8)) fun y9 =>
      some (.inl y9)
noncomputable def f_X2_find_21 (x0 x1 x3 : Int) (σ : zM) : Option zO :=
  zloop (fun s : Int => f_X2_find_21_b x0 x1 s σ) x3
theorem w_X2_find_21_b {g : zG} {lv : Nat} {out : zO} (x0 x1 x3 : Int) (σ : zM) {r : ((Int) ⊕ zO)} (h : f_X2_find_21_b x0 x1 x3 σ = some r) (hk : (zKL (fun s : Int => Gj g MX2_find (lv + 6) 21 [(0, zr x0), (1, zj x1), (3, zi s)] [] σ out) (fun o : zO => o = out)) r) : Gj g MX2_find (lv + 6) 21 [(0, zr x0), (1, zj x1), (3, zi x3)] [] σ out := by
  revert h
  unfold f_X2_find_21_b
  refine zst_ (gj_aload_n 0 (pc := 21) dX2_find_21 rfl) ?_
  refine gb_get (pc := 22) fl214 dX2_find_22 q299 (Or.inl rfl) (fun v1 => ?_)
  refine zst_ (gj_iload_n 2 (pc := 25) dX2_find_25 rfl) ?_
  refine gb_iald (pc := 26) dX2_find_26 (fun v2 => ?_)
  refine gb_if (gj_if_eq 61 (pc := 27) dX2_find_27 (by decide)) ?_ ?_
  · intro h
    obtain ⟨r0, h0, rfl⟩ := zmE h
    exact w_X2_find_61 x0 x1 x3 σ h0 hk
  · refine zst_ (gj_aload_n 0 (pc := 30) dX2_find_30 rfl) ?_
    refine gb_get (pc := 31) fl213 dX2_find_31 q298 (Or.inl rfl) (fun v3 => ?_)
    refine zst_ (gj_aload_n 0 (pc := 34) dX2_find_34 rfl) ?_
    refine gb_get (pc := 35) fl214 dX2_find_35 q299 (Or.inl rfl) (fun v4 => ?_)
    refine zst_ (gj_iload_n 2 (pc := 38) dX2_find_38 rfl) ?_
    refine gb_iald (pc := 39) dX2_find_39 (fun v5 => ?_)
    refine zst_ (gj_iconst (pc := 40) dX2_find_40 (by decide)) ?_
    refine zst_ (gj_isub (pc := 41) dX2_find_41) ?_
    refine gb_lald (pc := 42) dX2_find_42 (fun v6 => ?_)
    refine zst_ (gj_lload_n 1 (pc := 43) dX2_find_43 rfl) ?_
    refine zst_ (gj_lcmp (pc := 44) dX2_find_44) ?_
    refine gb_if (gj_if_eq 61 (pc := 45) dX2_find_45 (by decide)) ?_ ?_
    · intro h
      obtain ⟨r0, h0, rfl⟩ := zmE h
      exact w_X2_find_61 x0 x1 x3 σ h0 hk
    · refine zst_ (gj_iload_n 2 (pc := 48) dX2_find_48 rfl) ?_
      refine zst_ (gj_iconst (pc := 49) dX2_find_49 (by decide)) ?_
      refine zst_ (gj_iadd (pc := 50) dX2_find_50) ?_
      refine zst_ (gj_aload_n 0 (pc := 51) dX2_find_51 rfl) ?_
      refine gb_get (pc := 52) fl214 dX2_find_52 q299 (Or.inl rfl) (fun v7 => ?_)
      refine gb_alen (pc := 55) (k := 101) (by decide) dX2_find_55 (fun v8 => ?_)
      refine gb_gd (fun hb => ?_)
      refine zst_ (gj_irem (pc := 56) dX2_find_56 (znzE hb)) ?_
      refine gb_let (fun y9 => ?_)
      refine zst_ (gj_istore_n (pc := 57) (ls' := [(3, zi y9), (0, zr x0), (1, zj x1)]) dX2_find_57 (by decide) rfl) ?_
      refine zst_ (gj_goto 21 (pc := 58) dX2_find_58 (by decide)) ?_
      refine zst_ (gj_sub [1, 2, 0] rfl) ?_
      intro h
      cases h
      exact hk
theorem w_X2_find_21 {g : zG} {lv : Nat} {out : zO} (x0 x1 x3 : Int) (σ : zM) {r : zO} (h : f_X2_find_21 x0 x1 x3 σ = some r) (hk : (fun o : zO => o = out) r) : Gj g MX2_find (lv + 6) 21 [(0, zr x0), (1, zj x1), (3, zi x3)] [] σ out :=
  gj_loop (P := (fun s : Int => Gj g MX2_find (lv + 6) 21 [(0, zr x0), (1, zj x1), (3, zi s)] [] σ out)) (fun s x hb hx => w_X2_find_21_b x0 x1 s σ hb hx) h hk
noncomputable def f_X2_find (x0 x1 : Int) (σ : zM) : Option zO :=
  (zgf σ 214 x0).bind fun v1 =>
  (zla σ 101 v1).bind fun v2 =>
  zgd (znz v2) <|
  zlet ((zrem (zl2i (jushr (jmul (jxor x1 (jushr x1 29)) (-7046029254386353131)) 40)) v2)) fun y3 =>
  f_X2_find_21 x0 x1 y3 σ
theorem c_X2_find {g : zG} {lv : Nat} {x0 x1 : Int} {σ : zM} {out : zO} (h : f_X2_find x0 x1 σ = some out) : Cj g (lv + 6) MX2_find [zr x0, zj x1] σ out := by
  refine cj_go (ls := [(0, zr x0), (1, zj x1)]) (by decide) (Nat.le_of_ble_eq_true rfl) rfl (zgen h (fun r hk => ?_))
  unfold f_X2_find
  refine zst_ (gj_lload_n 1 (pc := 0) dX2_find_0 rfl) ?_
  refine zst_ (gj_lload_n 1 (pc := 1) dX2_find_1 rfl) ?_
  refine zst_ (gj_bipush (pc := 2) dX2_find_2 ⟨rfl, by decide⟩) ?_
  refine zst_ (gj_lushr (pc := 4) dX2_find_4) ?_
  refine zst_ (gj_lxor (pc := 5) dX2_find_5) ?_
  refine zst_ (gj_ldc2 (pc := 6) (a := (-7046029254386353131)) dX2_find_6 q1435 (by decide +kernel)) ?_
  refine zst_ (gj_lmul (pc := 9) dX2_find_9) ?_
  refine zst_ (gj_bipush (pc := 10) dX2_find_10 ⟨rfl, by decide⟩) ?_
  refine zst_ (gj_lushr (pc := 12) dX2_find_12) ?_
  refine zst_ (gj_l2i (pc := 13) dX2_find_13) ?_
  refine zst_ (gj_aload_n 0 (pc := 14) dX2_find_14 rfl) ?_
  refine gb_get (pc := 15) fl214 dX2_find_15 q299 (Or.inl rfl) (fun v1 => ?_)
  refine gb_alen (pc := 18) (k := 101) (by decide) dX2_find_18 (fun v2 => ?_)
  refine gb_gd (fun hb => ?_)
  refine zst_ (gj_irem (pc := 19) dX2_find_19 (znzE hb)) ?_
  refine gb_let (fun y3 => ?_)
  refine zst_ (gj_istore_n (pc := 20) (ls' := [(3, zi y3), (0, zr x0), (1, zj x1)]) dX2_find_20 (by decide) rfl) ?_
  refine zst_ (gj_sub [1, 2, 0] rfl) ?_
  exact fun h => w_X2_find_21 x0 x1 y3 σ h hk
theorem q936 : (Jvm.Cond.code ({ cls := "LassoFinder$Model", name := "unpack", desc := "(ILLassoFinder$Moment;)V" } : Jvm.MethodName) prog_9_method_5_code (7 : Nat) (Option.none : Option Jvm.ClassFile.FieldType)) ∈ lw_all := lw_g (lw_at lw_m4 116 rfl) rfl
abbrev cX2_unpack : ByteArray := prog_9_method_5_code
def yX2_unpack : MethodName := ⟨RX2, "unpack", "(ILLassoFinder$Moment;)V"⟩
theorem dX2_unpack_0 : decode cX2_unpack 0 = .ok (.aload_n 0, 1) := by decide +kernel
theorem dX2_unpack_1 : decode cX2_unpack 1 = .ok (.getfield 50, 3) := by decide +kernel
theorem dX2_unpack_4 : decode cX2_unpack 4 = .ok (.iload_n 1, 1) := by decide +kernel
theorem dX2_unpack_5 : decode cX2_unpack 5 = .ok (.laload, 1) := by decide +kernel
theorem dX2_unpack_6 : decode cX2_unpack 6 = .ok (.lstore_n 3, 1) := by decide +kernel
theorem dX2_unpack_7 : decode cX2_unpack 7 = .ok (.bipush 7, 2) := by decide +kernel
theorem dX2_unpack_9 : decode cX2_unpack 9 = .ok (.istore 5, 2) := by decide +kernel
theorem dX2_unpack_11 : decode cX2_unpack 11 = .ok (.iload 5, 2) := by decide +kernel
theorem dX2_unpack_13 : decode cX2_unpack 13 = .ok (.ifCond .lt 106, 3) := by decide +kernel
theorem dX2_unpack_16 : decode cX2_unpack 16 = .ok (.aload_n 2, 1) := by decide +kernel
theorem dX2_unpack_17 : decode cX2_unpack 17 = .ok (.getfield 98, 3) := by decide +kernel
theorem dX2_unpack_20 : decode cX2_unpack 20 = .ok (.iload 5, 2) := by decide +kernel
theorem dX2_unpack_22 : decode cX2_unpack 22 = .ok (.iconst 0, 1) := by decide +kernel
theorem dX2_unpack_23 : decode cX2_unpack 23 = .ok (.iastore, 1) := by decide +kernel
theorem dX2_unpack_24 : decode cX2_unpack 24 = .ok (.aload_n 0, 1) := by decide +kernel
theorem dX2_unpack_25 : decode cX2_unpack 25 = .ok (.getfield 9, 3) := by decide +kernel
theorem dX2_unpack_28 : decode cX2_unpack 28 = .ok (.iload 5, 2) := by decide +kernel
theorem dX2_unpack_30 : decode cX2_unpack 30 = .ok (.iaload, 1) := by decide +kernel
theorem dX2_unpack_31 : decode cX2_unpack 31 = .ok (.iconst 1, 1) := by decide +kernel
theorem dX2_unpack_32 : decode cX2_unpack 32 = .ok (.if_icmp .ne 22, 3) := by decide +kernel
theorem dX2_unpack_35 : decode cX2_unpack 35 = .ok (.aload_n 2, 1) := by decide +kernel
theorem dX2_unpack_36 : decode cX2_unpack 36 = .ok (.getfield 98, 3) := by decide +kernel
theorem dX2_unpack_39 : decode cX2_unpack 39 = .ok (.iload 5, 2) := by decide +kernel
theorem dX2_unpack_41 : decode cX2_unpack 41 = .ok (.lload_n 3, 1) := by decide +kernel
theorem dX2_unpack_42 : decode cX2_unpack 42 = .ok (.l2i, 1) := by decide +kernel
theorem dX2_unpack_43 : decode cX2_unpack 43 = .ok (.bipush 7, 2) := by decide +kernel
theorem dX2_unpack_45 : decode cX2_unpack 45 = .ok (.iand, 1) := by decide +kernel
theorem dX2_unpack_46 : decode cX2_unpack 46 = .ok (.iastore, 1) := by decide +kernel
theorem dX2_unpack_47 : decode cX2_unpack 47 = .ok (.lload_n 3, 1) := by decide +kernel
theorem dX2_unpack_48 : decode cX2_unpack 48 = .ok (.iconst 3, 1) := by decide +kernel
theorem dX2_unpack_49 : decode cX2_unpack 49 = .ok (.lshr, 1) := by decide +kernel
theorem dX2_unpack_50 : decode cX2_unpack 50 = .ok (.lstore_n 3, 1) := by decide +kernel
theorem dX2_unpack_51 : decode cX2_unpack 51 = .ok (.goto 62, 3) := by decide +kernel
theorem dX2_unpack_54 : decode cX2_unpack 54 = .ok (.aload_n 0, 1) := by decide +kernel
theorem dX2_unpack_55 : decode cX2_unpack 55 = .ok (.getfield 9, 3) := by decide +kernel
theorem dX2_unpack_58 : decode cX2_unpack 58 = .ok (.iload 5, 2) := by decide +kernel
theorem dX2_unpack_60 : decode cX2_unpack 60 = .ok (.iaload, 1) := by decide +kernel
theorem dX2_unpack_61 : decode cX2_unpack 61 = .ok (.iconst 2, 1) := by decide +kernel
theorem dX2_unpack_62 : decode cX2_unpack 62 = .ok (.if_icmp .ne 51, 3) := by decide +kernel
theorem dX2_unpack_65 : decode cX2_unpack 65 = .ok (.aload_n 2, 1) := by decide +kernel
theorem dX2_unpack_66 : decode cX2_unpack 66 = .ok (.getfield 98, 3) := by decide +kernel
theorem dX2_unpack_69 : decode cX2_unpack 69 = .ok (.iload 5, 2) := by decide +kernel
theorem dX2_unpack_71 : decode cX2_unpack 71 = .ok (.lload_n 3, 1) := by decide +kernel
theorem dX2_unpack_72 : decode cX2_unpack 72 = .ok (.l2i, 1) := by decide +kernel
theorem dX2_unpack_73 : decode cX2_unpack 73 = .ok (.iconst 3, 1) := by decide +kernel
theorem dX2_unpack_74 : decode cX2_unpack 74 = .ok (.iand, 1) := by decide +kernel
theorem dX2_unpack_75 : decode cX2_unpack 75 = .ok (.iastore, 1) := by decide +kernel
theorem dX2_unpack_76 : decode cX2_unpack 76 = .ok (.lload_n 3, 1) := by decide +kernel
theorem dX2_unpack_77 : decode cX2_unpack 77 = .ok (.iconst 2, 1) := by decide +kernel
theorem dX2_unpack_78 : decode cX2_unpack 78 = .ok (.lshr, 1) := by decide +kernel
theorem dX2_unpack_79 : decode cX2_unpack 79 = .ok (.lstore_n 3, 1) := by decide +kernel
theorem dX2_unpack_80 : decode cX2_unpack 80 = .ok (.iconst 2, 1) := by decide +kernel
theorem dX2_unpack_81 : decode cX2_unpack 81 = .ok (.istore 6, 2) := by decide +kernel
theorem dX2_unpack_83 : decode cX2_unpack 83 = .ok (.iload 6, 2) := by decide +kernel
theorem dX2_unpack_85 : decode cX2_unpack 85 = .ok (.ifCond .lt 28, 3) := by decide +kernel
theorem dX2_unpack_88 : decode cX2_unpack 88 = .ok (.aload_n 2, 1) := by decide +kernel
theorem dX2_unpack_89 : decode cX2_unpack 89 = .ok (.getfield 101, 3) := by decide +kernel
theorem dX2_unpack_92 : decode cX2_unpack 92 = .ok (.iload 5, 2) := by decide +kernel
theorem dX2_unpack_94 : decode cX2_unpack 94 = .ok (.aaload, 1) := by decide +kernel
theorem dX2_unpack_95 : decode cX2_unpack 95 = .ok (.iload 6, 2) := by decide +kernel
theorem dX2_unpack_97 : decode cX2_unpack 97 = .ok (.lload_n 3, 1) := by decide +kernel
theorem dX2_unpack_98 : decode cX2_unpack 98 = .ok (.l2i, 1) := by decide +kernel
theorem dX2_unpack_99 : decode cX2_unpack 99 = .ok (.bipush 7, 2) := by decide +kernel
theorem dX2_unpack_101 : decode cX2_unpack 101 = .ok (.iand, 1) := by decide +kernel
theorem dX2_unpack_102 : decode cX2_unpack 102 = .ok (.iastore, 1) := by decide +kernel
theorem dX2_unpack_103 : decode cX2_unpack 103 = .ok (.lload_n 3, 1) := by decide +kernel
theorem dX2_unpack_104 : decode cX2_unpack 104 = .ok (.iconst 3, 1) := by decide +kernel
theorem dX2_unpack_105 : decode cX2_unpack 105 = .ok (.lshr, 1) := by decide +kernel
theorem dX2_unpack_106 : decode cX2_unpack 106 = .ok (.lstore_n 3, 1) := by decide +kernel
theorem dX2_unpack_107 : decode cX2_unpack 107 = .ok (.iinc 6 (-1), 3) := by decide +kernel
theorem dX2_unpack_110 : decode cX2_unpack 110 = .ok (.goto (-27), 3) := by decide +kernel
theorem dX2_unpack_113 : decode cX2_unpack 113 = .ok (.iinc 5 (-1), 3) := by decide +kernel
theorem dX2_unpack_116 : decode cX2_unpack 116 = .ok (.goto (-105), 3) := by decide +kernel
theorem dX2_unpack_119 : decode cX2_unpack 119 = .ok (.aload_n 0, 1) := by decide +kernel
theorem dX2_unpack_120 : decode cX2_unpack 120 = .ok (.getfield 80, 3) := by decide +kernel
theorem dX2_unpack_123 : decode cX2_unpack 123 = .ok (.iconst 1, 1) := by decide +kernel
theorem dX2_unpack_124 : decode cX2_unpack 124 = .ok (.isub, 1) := by decide +kernel
theorem dX2_unpack_125 : decode cX2_unpack 125 = .ok (.istore 5, 2) := by decide +kernel
theorem dX2_unpack_127 : decode cX2_unpack 127 = .ok (.iload 5, 2) := by decide +kernel
theorem dX2_unpack_129 : decode cX2_unpack 129 = .ok (.ifCond .lt 25, 3) := by decide +kernel
theorem dX2_unpack_132 : decode cX2_unpack 132 = .ok (.aload_n 2, 1) := by decide +kernel
theorem dX2_unpack_133 : decode cX2_unpack 133 = .ok (.getfield 95, 3) := by decide +kernel
theorem dX2_unpack_136 : decode cX2_unpack 136 = .ok (.iload 5, 2) := by decide +kernel
theorem dX2_unpack_138 : decode cX2_unpack 138 = .ok (.lload_n 3, 1) := by decide +kernel
theorem dX2_unpack_139 : decode cX2_unpack 139 = .ok (.l2i, 1) := by decide +kernel
theorem dX2_unpack_140 : decode cX2_unpack 140 = .ok (.bipush 31, 2) := by decide +kernel
theorem dX2_unpack_142 : decode cX2_unpack 142 = .ok (.iand, 1) := by decide +kernel
theorem dX2_unpack_143 : decode cX2_unpack 143 = .ok (.iastore, 1) := by decide +kernel
theorem dX2_unpack_144 : decode cX2_unpack 144 = .ok (.lload_n 3, 1) := by decide +kernel
theorem dX2_unpack_145 : decode cX2_unpack 145 = .ok (.iconst 5, 1) := by decide +kernel
theorem dX2_unpack_146 : decode cX2_unpack 146 = .ok (.lshr, 1) := by decide +kernel
theorem dX2_unpack_147 : decode cX2_unpack 147 = .ok (.lstore_n 3, 1) := by decide +kernel
theorem dX2_unpack_148 : decode cX2_unpack 148 = .ok (.iinc 5 (-1), 3) := by decide +kernel
theorem dX2_unpack_151 : decode cX2_unpack 151 = .ok (.goto (-24), 3) := by decide +kernel
theorem dX2_unpack_154 : decode cX2_unpack 154 = .ok (.aload_n 2, 1) := by decide +kernel
theorem dX2_unpack_155 : decode cX2_unpack 155 = .ok (.lload_n 3, 1) := by decide +kernel
theorem dX2_unpack_156 : decode cX2_unpack 156 = .ok (.l2i, 1) := by decide +kernel
theorem dX2_unpack_157 : decode cX2_unpack 157 = .ok (.putfield 92, 3) := by decide +kernel
theorem dX2_unpack_160 : decode cX2_unpack 160 = .ok (.return_, 1) := by decide +kernel
abbrev MX2_unpack : zT := (yX2_unpack, cX2_unpack, 7, (Option.none : Option Jvm.ClassFile.FieldType), [])
theorem plX2_unpack : zplain MX2_unpack 2 ∧ (zcodeW MX2_unpack ∈ lw_all ∧ Cond.initialized MX2_unpack.1.cls ∈ lw_all) := ⟨⟨by decide +kernel, by decide +kernel⟩, q936, q106⟩
noncomputable def f_X2_unpack_154 (x2 x3 : Int) (σ : zM) : Option zO :=
  (zpf σ 303 x2 (zl2i x3)).bind fun σ1 =>
  some (0, ((3, 0) : zV), σ1)
theorem w_X2_unpack_154 {g : zG} {lv : Nat} {out : zO} (x2 x3 : Int) (σ : zM) {r : zO} (h : f_X2_unpack_154 x2 x3 σ = some r) (hk : (fun o : zO => o = out) r) : Gj g MX2_unpack (lv) 154 [(2, zr x2), (3, zj x3)] [] σ out := by
  revert h
  unfold f_X2_unpack_154
  refine zst_ (gj_aload_n 0 (pc := 154) dX2_unpack_154 rfl) ?_
  refine zst_ (gj_lload_n 1 (pc := 155) dX2_unpack_155 rfl) ?_
  refine zst_ (gj_l2i (pc := 156) dX2_unpack_156) ?_
  refine gb_putNe (pc := 157) fl303 fr303 dX2_unpack_157 q217 (Or.inl rfl) (fun σ1 => ?_)
  intro h
  cases h
  have hk : (0, ((3, 0) : zV), σ1) = out := hk
  subst hk
  exact gj_vret (pc := 160) dX2_unpack_160 rfl
noncomputable def f_X2_unpack_127_b (x2 x3 x5 : Int) (σ : zM) : Option ((Int × Int × zM) ⊕ zO) :=
  if x5 < 0 then
    (f_X2_unpack_154 x2 x3 σ).map (fun r => (.inr r))
  else
    (zgf σ 302 x2).bind fun v1 =>
    (zpa σ 101 v1 x5 (zand (zl2i x3) 31)).bind fun σ2 =>
    zlet ((jshr x3 5)) fun y3 =>
    zlet (zadd x5 (-1)) fun y4 =>
    some (.inl (y3, y4, σ2))
noncomputable def f_X2_unpack_127 (x2 x3 x5 : Int) (σ : zM) : Option zO :=
  zloop (fun s : Int × Int × zM => f_X2_unpack_127_b x2 s.1 s.2.1 s.2.2) (x3, x5, σ)
theorem w_X2_unpack_127_b {g : zG} {lv : Nat} {out : zO} (x2 x3 x5 : Int) (σ : zM) {r : ((Int × Int × zM) ⊕ zO)} (h : f_X2_unpack_127_b x2 x3 x5 σ = some r) (hk : (zKL (fun s : Int × Int × zM => Gj g MX2_unpack (lv) 127 [(2, zr x2), (3, zj s.1), (5, zi s.2.1)] [] s.2.2 out) (fun o : zO => o = out)) r) : Gj g MX2_unpack (lv) 127 [(2, zr x2), (3, zj x3), (5, zi x5)] [] σ out := by
  revert h
  unfold f_X2_unpack_127_b
  refine zst_ (gj_iload 2 (pc := 127) dX2_unpack_127 rfl) ?_
  refine gb_if (gj_if_lt 154 (pc := 129) dX2_unpack_129 (by decide)) ?_ ?_
  · refine zst_ (gj_sub [0, 1] rfl) ?_
    intro h
    obtain ⟨r0, h0, rfl⟩ := zmE h
    exact w_X2_unpack_154 x2 x3 σ h0 hk
  · refine zst_ (gj_aload_n 0 (pc := 132) dX2_unpack_132 rfl) ?_
    refine gb_getNe (pc := 133) fl302 dX2_unpack_133 q214 (Or.inl rfl) (fun v1 => ?_)
    refine zst_ (gj_iload 2 (pc := 136) dX2_unpack_136 rfl) ?_
    refine zst_ (gj_lload_n 1 (pc := 138) dX2_unpack_138 rfl) ?_
    refine zst_ (gj_l2i (pc := 139) dX2_unpack_139) ?_
    refine zst_ (gj_bipush (pc := 140) dX2_unpack_140 ⟨rfl, by decide⟩) ?_
    refine zst_ (gj_iand (pc := 142) dX2_unpack_142) ?_
    refine gb_iast (pc := 143) dX2_unpack_143 (fun σ2 => ?_)
    refine zst_ (gj_lload_n 1 (pc := 144) dX2_unpack_144 rfl) ?_
    refine zst_ (gj_iconst (pc := 145) dX2_unpack_145 (by decide)) ?_
    refine zst_ (gj_lshr (pc := 146) dX2_unpack_146) ?_
    refine gb_let (fun y3 => ?_)
    refine zst_ (gj_lstore_n (pc := 147) (ls' := [(3, zj y3), (2, zr x2), (5, zi x5)]) dX2_unpack_147 (by decide) rfl) ?_
    refine gb_iinc (pc := 148) 2 (fun y4 => [(5, zi y4), (3, zj y3), (2, zr x2)]) dX2_unpack_148 rfl (by decide) (fun _ => rfl) (fun y4 => ?_)
    refine zst_ (gj_goto 127 (pc := 151) dX2_unpack_151 (by decide)) ?_
    refine zst_ (gj_sub [2, 1, 0] rfl) ?_
    intro h
    cases h
    exact hk
theorem w_X2_unpack_127 {g : zG} {lv : Nat} {out : zO} (x2 x3 x5 : Int) (σ : zM) {r : zO} (h : f_X2_unpack_127 x2 x3 x5 σ = some r) (hk : (fun o : zO => o = out) r) : Gj g MX2_unpack (lv) 127 [(2, zr x2), (3, zj x3), (5, zi x5)] [] σ out :=
  gj_loop (P := (fun s : Int × Int × zM => Gj g MX2_unpack (lv) 127 [(2, zr x2), (3, zj s.1), (5, zi s.2.1)] [] s.2.2 out)) (fun s x hb hx => w_X2_unpack_127_b x2 s.1 s.2.1 s.2.2 hb hx) h hk
noncomputable def f_X2_unpack_119 (x0 x2 x3 : Int) (σ : zM) : Option zO :=
  (zgf σ 204 x0).bind fun v1 =>
  zlet ((zsub v1 1)) fun y2 =>
  f_X2_unpack_127 x2 x3 y2 σ
theorem w_X2_unpack_119 {g : zG} {lv : Nat} {out : zO} (x0 x2 x3 : Int) (σ : zM) {r : zO} (h : f_X2_unpack_119 x0 x2 x3 σ = some r) (hk : (fun o : zO => o = out) r) : Gj g MX2_unpack (lv) 119 [(0, zr x0), (2, zr x2), (3, zj x3)] [] σ out := by
  revert h
  unfold f_X2_unpack_119
  refine zst_ (gj_aload_n 0 (pc := 119) dX2_unpack_119 rfl) ?_
  refine gb_get (pc := 120) fl204 dX2_unpack_120 q277 (Or.inl rfl) (fun v1 => ?_)
  refine zst_ (gj_iconst (pc := 123) dX2_unpack_123 (by decide)) ?_
  refine zst_ (gj_isub (pc := 124) dX2_unpack_124) ?_
  refine gb_let (fun y2 => ?_)
  refine zst_ (gj_istore (pc := 125) (ls' := [(5, zi y2), (0, zr x0), (2, zr x2), (3, zj x3)]) dX2_unpack_125 (by decide) rfl) ?_
  refine zst_ (gj_sub [2, 3, 0] rfl) ?_
  exact fun h => w_X2_unpack_127 x2 x3 y2 σ h hk
noncomputable def f_X2_unpack_113 (x0 x2 x3 x5 : Int) (σ : zM) : Option ((Int × Int × zM) ⊕ zO) :=
  zlet (zadd x5 (-1)) fun y1 =>
  some (.inl (x3, y1, σ))
theorem w_X2_unpack_113 {g : zG} {lv : Nat} {out : zO} (x0 x2 x3 x5 : Int) (σ : zM) {r : ((Int × Int × zM) ⊕ zO)} (h : f_X2_unpack_113 x0 x2 x3 x5 σ = some r) (hk : (zKL (fun s : Int × Int × zM => Gj g MX2_unpack (lv) 11 [(0, zr x0), (2, zr x2), (3, zj s.1), (5, zi s.2.1)] [] s.2.2 out) (fun o : zO => o = out)) r) : Gj g MX2_unpack (lv) 113 [(0, zr x0), (2, zr x2), (3, zj x3), (5, zi x5)] [] σ out := by
  revert h
  unfold f_X2_unpack_113
  refine gb_iinc (pc := 113) 3 (fun y1 => [(5, zi y1), (0, zr x0), (2, zr x2), (3, zj x3)]) dX2_unpack_113 rfl (by decide) (fun _ => rfl) (fun y1 => ?_)
  refine zst_ (gj_goto 11 (pc := 116) dX2_unpack_116 (by decide)) ?_
  refine zst_ (gj_sub [1, 2, 3, 0] rfl) ?_
  intro h
  cases h
  exact hk
noncomputable def f_X2_unpack_83_b (x0 x2 x3 x5 x6 : Int) (σ : zM) : Option ((Int × Int × zM) ⊕ ((Int × Int × zM) ⊕ zO)) :=
  if x6 < 0 then
    (f_X2_unpack_113 x0 x2 x3 x5 σ).map (fun r => (.inr r))
  else
    (zgf σ 301 x2).bind fun v1 =>
    (zga σ 110 v1 x5).bind fun v2 =>
    (zpa σ 101 v2 x6 (zand (zl2i x3) 7)).bind fun σ3 =>
    zlet ((jshr x3 3)) fun y4 =>
    zlet (zadd x6 (-1)) fun y5 =>
    some (.inl (y4, y5, σ3))
noncomputable def f_X2_unpack_83 (x0 x2 x3 x5 x6 : Int) (σ : zM) : Option ((Int × Int × zM) ⊕ zO) :=
  zloop (fun s : Int × Int × zM => f_X2_unpack_83_b x0 x2 s.1 x5 s.2.1 s.2.2) (x3, x6, σ)
theorem w_X2_unpack_83_b {g : zG} {lv : Nat} {out : zO} (x0 x2 x3 x5 x6 : Int) (σ : zM) {r : ((Int × Int × zM) ⊕ ((Int × Int × zM) ⊕ zO))} (h : f_X2_unpack_83_b x0 x2 x3 x5 x6 σ = some r) (hk : (zKL (fun s : Int × Int × zM => Gj g MX2_unpack (lv) 83 [(0, zr x0), (2, zr x2), (3, zj s.1), (5, zi x5), (6, zi s.2.1)] [] s.2.2 out) (zKL (fun s : Int × Int × zM => Gj g MX2_unpack (lv) 11 [(0, zr x0), (2, zr x2), (3, zj s.1), (5, zi s.2.1)] [] s.2.2 out) (fun o : zO => o = out))) r) : Gj g MX2_unpack (lv) 83 [(0, zr x0), (2, zr x2), (3, zj x3), (5, zi x5), (6, zi x6)] [] σ out := by
  revert h
  unfold f_X2_unpack_83_b
  refine zst_ (gj_iload 4 (pc := 83) dX2_unpack_83 rfl) ?_
  refine gb_if (gj_if_lt 113 (pc := 85) dX2_unpack_85 (by decide)) ?_ ?_
  · refine zst_ (gj_sub [0, 1, 2, 3] rfl) ?_
    intro h
    obtain ⟨r0, h0, rfl⟩ := zmE h
    exact w_X2_unpack_113 x0 x2 x3 x5 σ h0 hk
  · refine zst_ (gj_aload_n 1 (pc := 88) dX2_unpack_88 rfl) ?_
    refine gb_getNe (pc := 89) fl301 dX2_unpack_89 q210 (Or.inl rfl) (fun v1 => ?_)
    refine zst_ (gj_iload 3 (pc := 92) dX2_unpack_92 rfl) ?_
    refine gb_aald (pc := 94) (k := 110) ⟨by decide, by decide⟩ dX2_unpack_94 (fun v2 => ?_)
    refine zst_ (gj_iload 4 (pc := 95) dX2_unpack_95 rfl) ?_
    refine zst_ (gj_lload_n 2 (pc := 97) dX2_unpack_97 rfl) ?_
    refine zst_ (gj_l2i (pc := 98) dX2_unpack_98) ?_
    refine zst_ (gj_bipush (pc := 99) dX2_unpack_99 ⟨rfl, by decide⟩) ?_
    refine zst_ (gj_iand (pc := 101) dX2_unpack_101) ?_
    refine gb_iast (pc := 102) dX2_unpack_102 (fun σ3 => ?_)
    refine zst_ (gj_lload_n 2 (pc := 103) dX2_unpack_103 rfl) ?_
    refine zst_ (gj_iconst (pc := 104) dX2_unpack_104 (by decide)) ?_
    refine zst_ (gj_lshr (pc := 105) dX2_unpack_105) ?_
    refine gb_let (fun y4 => ?_)
    refine zst_ (gj_lstore_n (pc := 106) (ls' := [(3, zj y4), (0, zr x0), (2, zr x2), (5, zi x5), (6, zi x6)]) dX2_unpack_106 (by decide) rfl) ?_
    refine gb_iinc (pc := 107) 4 (fun y5 => [(6, zi y5), (3, zj y4), (0, zr x0), (2, zr x2), (5, zi x5)]) dX2_unpack_107 rfl (by decide) (fun _ => rfl) (fun y5 => ?_)
    refine zst_ (gj_goto 83 (pc := 110) dX2_unpack_110 (by decide)) ?_
    refine zst_ (gj_sub [2, 3, 1, 4, 0] rfl) ?_
    intro h
    cases h
    exact hk
theorem w_X2_unpack_83 {g : zG} {lv : Nat} {out : zO} (x0 x2 x3 x5 x6 : Int) (σ : zM) {r : ((Int × Int × zM) ⊕ zO)} (h : f_X2_unpack_83 x0 x2 x3 x5 x6 σ = some r) (hk : (zKL (fun s : Int × Int × zM => Gj g MX2_unpack (lv) 11 [(0, zr x0), (2, zr x2), (3, zj s.1), (5, zi s.2.1)] [] s.2.2 out) (fun o : zO => o = out)) r) : Gj g MX2_unpack (lv) 83 [(0, zr x0), (2, zr x2), (3, zj x3), (5, zi x5), (6, zi x6)] [] σ out :=
  gj_loop (P := (fun s : Int × Int × zM => Gj g MX2_unpack (lv) 83 [(0, zr x0), (2, zr x2), (3, zj s.1), (5, zi x5), (6, zi s.2.1)] [] s.2.2 out)) (fun s x hb hx => w_X2_unpack_83_b x0 x2 s.1 x5 s.2.1 s.2.2 hb hx) h hk
noncomputable def f_X2_unpack_11_b (x0 x2 x3 x5 : Int) (σ : zM) : Option ((Int × Int × zM) ⊕ zO) :=
  if x5 < 0 then
    (f_X2_unpack_119 x0 x2 x3 σ).map (fun r => (.inr r))
  else
    (zgf σ 300 x2).bind fun v1 =>
    (zpa σ 101 v1 x5 0).bind fun σ2 =>
    (zgf σ2 200 x0).bind fun v3 =>
    (zga σ2 101 v3 x5).bind fun v4 =>
    if v4 ≠ 1 then
      (zgf σ2 200 x0).bind fun v5 =>
      (zga σ2 101 v5 x5).bind fun v6 =>
      if v6 ≠ 2 then
        f_X2_unpack_113 x0 x2 x3 x5 σ2
      else
        (zgf σ2 300 x2).bind fun v7 =>
        (zpa σ2 101 v7 x5 (zand (zl2i x3) 3)).bind fun σ8 =>
        zlet ((jshr x3 2)) fun y9 =>
        f_X2_unpack_83 x0 x2 y9 x5 2 σ8
    else
      (zgf σ2 300 x2).bind fun v10 =>
      (zpa σ2 101 v10 x5 (zand (zl2i x3) 7)).bind fun σ11 =>
      zlet ((jshr x3 3)) fun y12 =>
      f_X2_unpack_113 x0 x2 y12 x5 σ11
noncomputable def f_X2_unpack_11 (x0 x2 x3 x5 : Int) (σ : zM) : Option zO :=
  zloop (fun s : Int × Int × zM => f_X2_unpack_11_b x0 x2 s.1 s.2.1 s.2.2) (x3, x5, σ)
theorem w_X2_unpack_11_b {g : zG} {lv : Nat} {out : zO} (x0 x2 x3 x5 : Int) (σ : zM) {r : ((Int × Int × zM) ⊕ zO)} (h : f_X2_unpack_11_b x0 x2 x3 x5 σ = some r) (hk : (zKL (fun s : Int × Int × zM => Gj g MX2_unpack (lv) 11 [(0, zr x0), (2, zr x2), (3, zj s.1), (5, zi s.2.1)] [] s.2.2 out) (fun o : zO => o = out)) r) : Gj g MX2_unpack (lv) 11 [(0, zr x0), (2, zr x2), (3, zj x3), (5, zi x5)] [] σ out := by
  revert h
  unfold f_X2_unpack_11_b
  refine zst_ (gj_iload 3 (pc := 11) dX2_unpack_11 rfl) ?_
  refine gb_if (gj_if_lt 119 (pc := 13) dX2_unpack_13 (by decide)) ?_ ?_
  · refine zst_ (gj_sub [0, 1, 2] rfl) ?_
    intro h
    obtain ⟨r0, h0, rfl⟩ := zmE h
    exact w_X2_unpack_119 x0 x2 x3 σ h0 hk
  · refine zst_ (gj_aload_n 1 (pc := 16) dX2_unpack_16 rfl) ?_
    refine gb_getNe (pc := 17) fl300 dX2_unpack_17 q207 (Or.inl rfl) (fun v1 => ?_)
    refine zst_ (gj_iload 3 (pc := 20) dX2_unpack_20 rfl) ?_
    refine zst_ (gj_iconst (pc := 22) dX2_unpack_22 (by decide)) ?_
    refine gb_iast (pc := 23) dX2_unpack_23 (fun σ2 => ?_)
    refine zst_ (gj_aload_n 0 (pc := 24) dX2_unpack_24 rfl) ?_
    refine gb_get (pc := 25) fl200 dX2_unpack_25 q268 (Or.inl rfl) (fun v3 => ?_)
    refine zst_ (gj_iload 3 (pc := 28) dX2_unpack_28 rfl) ?_
    refine gb_iald (pc := 30) dX2_unpack_30 (fun v4 => ?_)
    refine zst_ (gj_iconst (pc := 31) dX2_unpack_31 (by decide)) ?_
    refine gb_if (gj_icmp_ne 54 (pc := 32) dX2_unpack_32 (by decide)) ?_ ?_
    · refine zst_ (gj_aload_n 0 (pc := 54) dX2_unpack_54 rfl) ?_
      refine gb_get (pc := 55) fl200 dX2_unpack_55 q268 (Or.inl rfl) (fun v5 => ?_)
      refine zst_ (gj_iload 3 (pc := 58) dX2_unpack_58 rfl) ?_
      refine gb_iald (pc := 60) dX2_unpack_60 (fun v6 => ?_)
      refine zst_ (gj_iconst (pc := 61) dX2_unpack_61 (by decide)) ?_
      refine gb_if (gj_icmp_ne 113 (pc := 62) dX2_unpack_62 (by decide)) ?_ ?_
      · exact fun h => w_X2_unpack_113 x0 x2 x3 x5 σ2 h hk
      · refine zst_ (gj_aload_n 1 (pc := 65) dX2_unpack_65 rfl) ?_
        refine gb_getNe (pc := 66) fl300 dX2_unpack_66 q207 (Or.inl rfl) (fun v7 => ?_)
        refine zst_ (gj_iload 3 (pc := 69) dX2_unpack_69 rfl) ?_
        refine zst_ (gj_lload_n 2 (pc := 71) dX2_unpack_71 rfl) ?_
        refine zst_ (gj_l2i (pc := 72) dX2_unpack_72) ?_
        refine zst_ (gj_iconst (pc := 73) dX2_unpack_73 (by decide)) ?_
        refine zst_ (gj_iand (pc := 74) dX2_unpack_74) ?_
        refine gb_iast (pc := 75) dX2_unpack_75 (fun σ8 => ?_)
        refine zst_ (gj_lload_n 2 (pc := 76) dX2_unpack_76 rfl) ?_
        refine zst_ (gj_iconst (pc := 77) dX2_unpack_77 (by decide)) ?_
        refine zst_ (gj_lshr (pc := 78) dX2_unpack_78) ?_
        refine gb_let (fun y9 => ?_)
        refine zst_ (gj_lstore_n (pc := 79) (ls' := [(3, zj y9), (0, zr x0), (2, zr x2), (5, zi x5)]) dX2_unpack_79 (by decide) rfl) ?_
        refine zst_ (gj_iconst (pc := 80) dX2_unpack_80 (by decide)) ?_
        refine zst_ (gj_istore (pc := 81) (ls' := [(6, zi 2), (3, zj y9), (0, zr x0), (2, zr x2), (5, zi x5)]) dX2_unpack_81 (by decide) rfl) ?_
        refine zst_ (gj_sub [2, 3, 1, 4, 0] rfl) ?_
        exact fun h => w_X2_unpack_83 x0 x2 y9 x5 2 σ8 h hk
    · refine zst_ (gj_aload_n 1 (pc := 35) dX2_unpack_35 rfl) ?_
      refine gb_getNe (pc := 36) fl300 dX2_unpack_36 q207 (Or.inl rfl) (fun v10 => ?_)
      refine zst_ (gj_iload 3 (pc := 39) dX2_unpack_39 rfl) ?_
      refine zst_ (gj_lload_n 2 (pc := 41) dX2_unpack_41 rfl) ?_
      refine zst_ (gj_l2i (pc := 42) dX2_unpack_42) ?_
      refine zst_ (gj_bipush (pc := 43) dX2_unpack_43 ⟨rfl, by decide⟩) ?_
      refine zst_ (gj_iand (pc := 45) dX2_unpack_45) ?_
      refine gb_iast (pc := 46) dX2_unpack_46 (fun σ11 => ?_)
      refine zst_ (gj_lload_n 2 (pc := 47) dX2_unpack_47 rfl) ?_
      refine zst_ (gj_iconst (pc := 48) dX2_unpack_48 (by decide)) ?_
      refine zst_ (gj_lshr (pc := 49) dX2_unpack_49) ?_
      refine gb_let (fun y12 => ?_)
      refine zst_ (gj_lstore_n (pc := 50) (ls' := [(3, zj y12), (0, zr x0), (2, zr x2), (5, zi x5)]) dX2_unpack_50 (by decide) rfl) ?_
      refine zst_ (gj_goto 113 (pc := 51) dX2_unpack_51 (by decide)) ?_
      refine zst_ (gj_sub [1, 2, 0, 3] rfl) ?_
      exact fun h => w_X2_unpack_113 x0 x2 y12 x5 σ11 h hk
theorem w_X2_unpack_11 {g : zG} {lv : Nat} {out : zO} (x0 x2 x3 x5 : Int) (σ : zM) {r : zO} (h : f_X2_unpack_11 x0 x2 x3 x5 σ = some r) (hk : (fun o : zO => o = out) r) : Gj g MX2_unpack (lv) 11 [(0, zr x0), (2, zr x2), (3, zj x3), (5, zi x5)] [] σ out :=
  gj_loop (P := (fun s : Int × Int × zM => Gj g MX2_unpack (lv) 11 [(0, zr x0), (2, zr x2), (3, zj s.1), (5, zi s.2.1)] [] s.2.2 out)) (fun s x hb hx => w_X2_unpack_11_b x0 x2 s.1 s.2.1 s.2.2 hb hx) h hk
noncomputable def f_X2_unpack (x0 x1 x2 : Int) (σ : zM) : Option zO :=
  (zgf σ 213 x0).bind fun v1 =>
  (zga σ 102 v1 x1).bind fun v2 =>
  f_X2_unpack_11 x0 x2 v2 7 σ
theorem c_X2_unpack {g : zG} {lv : Nat} {x0 x1 x2 : Int} {σ : zM} {out : zO} (h : f_X2_unpack x0 x1 x2 σ = some out) : Cj g (lv) MX2_unpack [zr x0, zi x1, zr x2] σ out := by
  refine cj_go (ls := [(0, zr x0), (1, zi x1), (2, zr x2)]) (by decide) (Nat.le_of_ble_eq_true rfl) rfl (zgen h (fun r hk => ?_))
  unfold f_X2_unpack
  refine zst_ (gj_aload_n 0 (pc := 0) dX2_unpack_0 rfl) ?_
  refine gb_get (pc := 1) fl213 dX2_unpack_1 q298 (Or.inl rfl) (fun v1 => ?_)
  refine zst_ (gj_iload_n 1 (pc := 4) dX2_unpack_4 rfl) ?_
  refine gb_lald (pc := 5) dX2_unpack_5 (fun v2 => ?_)
  refine zst_ (gj_lstore_n (pc := 6) (ls' := [(3, zj v2), (0, zr x0), (1, zi x1), (2, zr x2)]) dX2_unpack_6 (by decide) rfl) ?_
  refine zst_ (gj_bipush (pc := 7) dX2_unpack_7 ⟨rfl, by decide⟩) ?_
  refine zst_ (gj_istore (pc := 9) (ls' := [(5, zi 7), (3, zj v2), (0, zr x0), (1, zi x1), (2, zr x2)]) dX2_unpack_9 (by decide) rfl) ?_
  refine zst_ (gj_sub [2, 4, 1, 0] rfl) ?_
  exact fun h => w_X2_unpack_11 x0 x2 v2 7 σ h hk
theorem q250 : (Jvm.Cond.fieldLinkNest "LassoFinder$Model" (110 : Nat) "LassoFinder$Routine" "basics" "[J" "LassoFinder") ∈ lw_tbl := lw_at lw_m1 150 rfl
theorem q284 : (Jvm.Cond.fieldLink "LassoFinder$Model" (20 : Nat) "LassoFinder$Model" "routines" "[LLassoFinder$Routine;") ∈ lw_all := lw_g (lw_at lw_m1 184 rfl) rfl
theorem q289 : (Jvm.Cond.fieldLink "LassoFinder$Model" (30 : Nat) "LassoFinder$Model" "owners" "[I") ∈ lw_all := lw_g (lw_at lw_m1 189 rfl) rfl
theorem q295 : (Jvm.Cond.fieldLink "LassoFinder$Model" (43 : Nat) "LassoFinder$Model" "here" "LLassoFinder$Moment;") ∈ lw_all := lw_g (lw_at lw_m1 195 rfl) rfl
theorem q1463 : (Jvm.Cond.code ({ cls := "LassoFinder$Model", name := "isAt", desc := "(I)Z" } : Jvm.MethodName) prog_9_method_7_code (2 : Nat) (Option.some Jvm.ClassFile.FieldType.boolean)) ∈ lw_all := lw_g (lw_at lw_m6 163 rfl) rfl
theorem fl211 : zfl 211 2 "LassoFinder$Model" "here" "LLassoFinder$Moment;" true := ⟨rfl, rfl, rfl⟩
theorem fr211 {g : zG} {v : Int} : zok g (2, v) → zokt g (zft 211) v := fun h => h
abbrev cX2_isAt : ByteArray := prog_9_method_7_code
def yX2_isAt : MethodName := ⟨RX2, "isAt", "(I)Z"⟩
theorem dX2_isAt_0 : decode cX2_isAt 0 = .ok (.aload_n 0, 1) := by decide +kernel
theorem dX2_isAt_1 : decode cX2_isAt 1 = .ok (.getfield 20, 3) := by decide +kernel
theorem dX2_isAt_4 : decode cX2_isAt 4 = .ok (.aload_n 0, 1) := by decide +kernel
theorem dX2_isAt_5 : decode cX2_isAt 5 = .ok (.getfield 30, 3) := by decide +kernel
theorem dX2_isAt_8 : decode cX2_isAt 8 = .ok (.iload_n 1, 1) := by decide +kernel
theorem dX2_isAt_9 : decode cX2_isAt 9 = .ok (.iaload, 1) := by decide +kernel
theorem dX2_isAt_10 : decode cX2_isAt 10 = .ok (.aaload, 1) := by decide +kernel
theorem dX2_isAt_11 : decode cX2_isAt 11 = .ok (.getfield 110, 3) := by decide +kernel
theorem dX2_isAt_14 : decode cX2_isAt 14 = .ok (.aload_n 0, 1) := by decide +kernel
theorem dX2_isAt_15 : decode cX2_isAt 15 = .ok (.getfield 43, 3) := by decide +kernel
theorem dX2_isAt_18 : decode cX2_isAt 18 = .ok (.getfield 95, 3) := by decide +kernel
theorem dX2_isAt_21 : decode cX2_isAt 21 = .ok (.aload_n 0, 1) := by decide +kernel
theorem dX2_isAt_22 : decode cX2_isAt 22 = .ok (.getfield 30, 3) := by decide +kernel
theorem dX2_isAt_25 : decode cX2_isAt 25 = .ok (.iload_n 1, 1) := by decide +kernel
theorem dX2_isAt_26 : decode cX2_isAt 26 = .ok (.iaload, 1) := by decide +kernel
theorem dX2_isAt_27 : decode cX2_isAt 27 = .ok (.iaload, 1) := by decide +kernel
theorem dX2_isAt_28 : decode cX2_isAt 28 = .ok (.laload, 1) := by decide +kernel
theorem dX2_isAt_29 : decode cX2_isAt 29 = .ok (.iload_n 1, 1) := by decide +kernel
theorem dX2_isAt_30 : decode cX2_isAt 30 = .ok (.lshr, 1) := by decide +kernel
theorem dX2_isAt_31 : decode cX2_isAt 31 = .ok (.lconst 1, 1) := by decide +kernel
theorem dX2_isAt_32 : decode cX2_isAt 32 = .ok (.land, 1) := by decide +kernel
theorem dX2_isAt_33 : decode cX2_isAt 33 = .ok (.lconst 1, 1) := by decide +kernel
theorem dX2_isAt_34 : decode cX2_isAt 34 = .ok (.lcmp, 1) := by decide +kernel
theorem dX2_isAt_35 : decode cX2_isAt 35 = .ok (.ifCond .ne 7, 3) := by decide +kernel
theorem dX2_isAt_38 : decode cX2_isAt 38 = .ok (.iconst 1, 1) := by decide +kernel
theorem dX2_isAt_39 : decode cX2_isAt 39 = .ok (.goto 4, 3) := by decide +kernel
theorem dX2_isAt_42 : decode cX2_isAt 42 = .ok (.iconst 0, 1) := by decide +kernel
theorem dX2_isAt_43 : decode cX2_isAt 43 = .ok (.ireturn, 1) := by decide +kernel
abbrev MX2_isAt : zT := (yX2_isAt, cX2_isAt, 2, (Option.some Jvm.ClassFile.FieldType.boolean), [])
theorem plX2_isAt : zplain MX2_isAt 1 ∧ (zcodeW MX2_isAt ∈ lw_all ∧ Cond.initialized MX2_isAt.1.cls ∈ lw_all) := ⟨⟨by decide +kernel, by decide +kernel⟩, q1463, q106⟩
noncomputable def f_X2_isAt_43 (t0 : Int) (σ : zM) : Option zO :=
  zgd (z01 t0) <|
  some (0, zi t0, σ)
theorem w_X2_isAt_43 {g : zG} {lv : Nat} {out : zO} (t0 : Int) (σ : zM) {r : zO} (h : f_X2_isAt_43 t0 σ = some r) (hk : (fun o : zO => o = out) r) : Gj g MX2_isAt (lv) 43 [] [zi t0] σ out := by
  revert h
  unfold f_X2_isAt_43
  refine gb_gd (fun hb => ?_)
  intro h
  cases h
  have hk : (0, zi t0, σ) = out := hk
  subst hk
  exact gj_ret (pc := 43) (t := .boolean) dX2_isAt_43 rfl ⟨rfl, rfl⟩ (fun _ => z01E hb)
noncomputable def f_X2_isAt (x0 x1 : Int) (σ : zM) : Option zO :=
  (zgf σ 206 x0).bind fun v1 =>
  (zgf σ 208 x0).bind fun v2 =>
  (zga σ 101 v2 x1).bind fun v3 =>
  (zga σ 107 v1 v3).bind fun v4 =>
  (zgf σ 406 v4).bind fun v5 =>
  (zgf σ 211 x0).bind fun v6 =>
  (zgf σ 302 v6).bind fun v7 =>
  (zgf σ 208 x0).bind fun v8 =>
  (zga σ 101 v8 x1).bind fun v9 =>
  (zga σ 101 v7 v9).bind fun v10 =>
  (zga σ 102 v5 v10).bind fun v11 =>
  if (zlcmp (jand (jshr v11 x1) 1) 1) ≠ 0 then
    f_X2_isAt_43 0 σ
  else
    f_X2_isAt_43 1 σ
theorem c_X2_isAt {g : zG} {lv : Nat} {x0 x1 : Int} {σ : zM} {out : zO} (h : f_X2_isAt x0 x1 σ = some out) : Cj g (lv) MX2_isAt [zr x0, zi x1] σ out := by
  refine cj_go (ls := [(0, zr x0), (1, zi x1)]) (by decide) (Nat.le_of_ble_eq_true rfl) rfl (zgen h (fun r hk => ?_))
  unfold f_X2_isAt
  refine zst_ (gj_aload_n 0 (pc := 0) dX2_isAt_0 rfl) ?_
  refine gb_get (pc := 1) fl206 dX2_isAt_1 q284 (Or.inl rfl) (fun v1 => ?_)
  refine zst_ (gj_aload_n 0 (pc := 4) dX2_isAt_4 rfl) ?_
  refine gb_get (pc := 5) fl208 dX2_isAt_5 q289 (Or.inl rfl) (fun v2 => ?_)
  refine zst_ (gj_iload_n 1 (pc := 8) dX2_isAt_8 rfl) ?_
  refine gb_iald (pc := 9) dX2_isAt_9 (fun v3 => ?_)
  refine gb_aald (pc := 10) (k := 107) ⟨by decide, by decide⟩ dX2_isAt_10 (fun v4 => ?_)
  refine gb_getNe (pc := 11) fl406 dX2_isAt_11 q250 (Or.inl rfl) (fun v5 => ?_)
  refine zst_ (gj_aload_n 0 (pc := 14) dX2_isAt_14 rfl) ?_
  refine gb_get (pc := 15) fl211 dX2_isAt_15 q295 (Or.inl rfl) (fun v6 => ?_)
  refine gb_getNe (pc := 18) fl302 dX2_isAt_18 q214 (Or.inl rfl) (fun v7 => ?_)
  refine zst_ (gj_aload_n 0 (pc := 21) dX2_isAt_21 rfl) ?_
  refine gb_get (pc := 22) fl208 dX2_isAt_22 q289 (Or.inl rfl) (fun v8 => ?_)
  refine zst_ (gj_iload_n 1 (pc := 25) dX2_isAt_25 rfl) ?_
  refine gb_iald (pc := 26) dX2_isAt_26 (fun v9 => ?_)
  refine gb_iald (pc := 27) dX2_isAt_27 (fun v10 => ?_)
  refine gb_lald (pc := 28) dX2_isAt_28 (fun v11 => ?_)
  refine zst_ (gj_iload_n 1 (pc := 29) dX2_isAt_29 rfl) ?_
  refine zst_ (gj_lshr (pc := 30) dX2_isAt_30) ?_
  refine zst_ (gj_lconst1 (pc := 31) dX2_isAt_31) ?_
  refine zst_ (gj_land (pc := 32) dX2_isAt_32) ?_
  refine zst_ (gj_lconst1 (pc := 33) dX2_isAt_33) ?_
  refine zst_ (gj_lcmp (pc := 34) dX2_isAt_34) ?_
  refine gb_if (gj_if_ne 42 (pc := 35) dX2_isAt_35 (by decide)) ?_ ?_
  · refine zst_ (gj_iconst (pc := 42) dX2_isAt_42 (by decide)) ?_
    refine zst_ (gj_sub [] rfl) ?_
    exact fun h => w_X2_isAt_43 0 σ h hk
  · refine zst_ (gj_iconst (pc := 38) dX2_isAt_38 (by decide)) ?_
    refine zst_ (gj_goto 43 (pc := 39) dX2_isAt_39 (by decide)) ?_
    refine zst_ (gj_sub [] rfl) ?_
    exact fun h => w_X2_isAt_43 1 σ h hk
theorem q1478 : (Jvm.Cond.code ({ cls := "LassoFinder$Digit", name := "of", desc := "([I)I" } : Jvm.MethodName) prog_4_method_2_code (2 : Nat) (Option.some Jvm.ClassFile.FieldType.int)) ∈ lw_all := lw_g (lw_at lw_m6 178 rfl) rfl
abbrev cX12_of : ByteArray := prog_4_method_2_code
def yX12_of : MethodName := ⟨RX12, "of", "([I)I"⟩
theorem dX12_of_0 : decode cX12_of 0 = .ok (.aload_n 0, 1) := by decide +kernel
theorem dX12_of_1 : decode cX12_of 1 = .ok (.getfield 7, 3) := by decide +kernel
theorem dX12_of_4 : decode cX12_of 4 = .ok (.ireturn, 1) := by decide +kernel
abbrev MX12_of : zT := (yX12_of, cX12_of, 2, (Option.some Jvm.ClassFile.FieldType.int), [])
theorem plX12_of : zplain MX12_of 1 ∧ (zcodeW MX12_of ∈ lw_all ∧ Cond.initialized MX12_of.1.cls ∈ lw_all) := ⟨⟨by decide +kernel, by decide +kernel⟩, q1478, q136⟩
noncomputable def f_X12_of (x0 x1 : Int) (σ : zM) : Option zO :=
  (zgf σ 1200 x0).bind fun v1 =>
  some (0, zi v1, σ)
theorem c_X12_of {g : zG} {lv : Nat} {x0 x1 : Int} {σ : zM} {out : zO} (h : f_X12_of x0 x1 σ = some out) : Cj g (lv) MX12_of [zr x0, zr x1] σ out := by
  refine cj_go (ls := [(0, zr x0), (1, zr x1)]) (by decide) (Nat.le_of_ble_eq_true rfl) rfl (zgen h (fun r hk => ?_))
  unfold f_X12_of
  refine zst_ (gj_aload_n 0 (pc := 0) dX12_of_0 rfl) ?_
  refine gb_get (pc := 1) fl1200 dX12_of_1 q1341 (Or.inl rfl) (fun v1 => ?_)
  intro h
  cases h
  have hk : (0, zi v1, σ) = out := hk
  subst hk
  exact gj_ret (pc := 4) (t := .int) dX12_of_4 rfl ⟨rfl, rfl⟩ (fun h => h)
theorem q1484 : (Jvm.Cond.code ({ cls := "LassoFinder$Name", name := "of", desc := "([I)I" } : Jvm.MethodName) prog_12_method_2_code (2 : Nat) (Option.some Jvm.ClassFile.FieldType.int)) ∈ lw_all := lw_g (lw_at lw_m6 184 rfl) rfl
abbrev cX13_of : ByteArray := prog_12_method_2_code
def yX13_of : MethodName := ⟨RX13, "of", "([I)I"⟩
theorem dX13_of_0 : decode cX13_of 0 = .ok (.aload_n 1, 1) := by decide +kernel
theorem dX13_of_1 : decode cX13_of 1 = .ok (.aload_n 0, 1) := by decide +kernel
theorem dX13_of_2 : decode cX13_of 2 = .ok (.getfield 7, 3) := by decide +kernel
theorem dX13_of_5 : decode cX13_of 5 = .ok (.iaload, 1) := by decide +kernel
theorem dX13_of_6 : decode cX13_of 6 = .ok (.ireturn, 1) := by decide +kernel
abbrev MX13_of : zT := (yX13_of, cX13_of, 2, (Option.some Jvm.ClassFile.FieldType.int), [])
theorem plX13_of : zplain MX13_of 1 ∧ (zcodeW MX13_of ∈ lw_all ∧ Cond.initialized MX13_of.1.cls ∈ lw_all) := ⟨⟨by decide +kernel, by decide +kernel⟩, q1484, q137⟩
noncomputable def f_X13_of (x0 x1 : Int) (σ : zM) : Option zO :=
  (zgf σ 1300 x0).bind fun v1 =>
  (zga σ 101 x1 v1).bind fun v2 =>
  some (0, zi v2, σ)
theorem c_X13_of {g : zG} {lv : Nat} {x0 x1 : Int} {σ : zM} {out : zO} (h : f_X13_of x0 x1 σ = some out) : Cj g (lv) MX13_of [zr x0, zr x1] σ out := by
  refine cj_go (ls := [(0, zr x0), (1, zr x1)]) (by decide) (Nat.le_of_ble_eq_true rfl) rfl (zgen h (fun r hk => ?_))
  unfold f_X13_of
  refine zst_ (gj_aload_n 1 (pc := 0) dX13_of_0 rfl) ?_
  refine zst_ (gj_aload_n 0 (pc := 1) dX13_of_1 rfl) ?_
  refine gb_get (pc := 2) fl1300 dX13_of_2 q1351 (Or.inl rfl) (fun v1 => ?_)
  refine gb_iald (pc := 5) dX13_of_5 (fun v2 => ?_)
  intro h
  cases h
  have hk : (0, zi v2, σ) = out := hk
  subst hk
  exact gj_ret (pc := 6) (t := .int) dX13_of_6 rfl ⟨rfl, rfl⟩ (fun h => h)
theorem q1471 : (Jvm.Cond.interfaceMethod "LassoFinder$Expression" "LassoFinder$Expression" "of" "([I)I") ∈ lw_tbl := lw_at lw_m6 171 rfl
theorem q1472 : (Jvm.Cond.declares ({ cls := "LassoFinder$Expression", name := "of", desc := "([I)I" } : Jvm.MethodName)) ∈ lw_tbl := lw_at lw_m6 172 rfl
theorem q1473 : (Jvm.Cond.castable "LassoFinder$Digit" "LassoFinder$Expression") ∈ lw_tbl := lw_at lw_m6 173 rfl
theorem q1474 : (Jvm.Cond.selects "LassoFinder$Digit" ({ cls := "LassoFinder$Expression", name := "of", desc := "([I)I" } : Jvm.MethodName) ({ cls := "LassoFinder$Digit", name := "of", desc := "([I)I" } : Jvm.MethodName)) ∈ lw_all := lw_g (lw_at lw_m6 174 rfl) rfl
theorem q1475 : (Jvm.Cond.unhidden "LassoFinder$Digit" "of" "([I)I") ∈ lw_tbl := lw_at lw_m6 175 rfl
theorem q1476 : (Jvm.Cond.instanceMethod ({ cls := "LassoFinder$Digit", name := "of", desc := "([I)I" } : Jvm.MethodName)) ∈ lw_all := lw_g (lw_at lw_m6 176 rfl) rfl
theorem q1477 : (Jvm.Cond.publicMethod ({ cls := "LassoFinder$Digit", name := "of", desc := "([I)I" } : Jvm.MethodName)) ∈ lw_tbl := lw_at lw_m6 177 rfl
theorem q1479 : (Jvm.Cond.castable "LassoFinder$Name" "LassoFinder$Expression") ∈ lw_tbl := lw_at lw_m6 179 rfl
theorem q1480 : (Jvm.Cond.selects "LassoFinder$Name" ({ cls := "LassoFinder$Expression", name := "of", desc := "([I)I" } : Jvm.MethodName) ({ cls := "LassoFinder$Name", name := "of", desc := "([I)I" } : Jvm.MethodName)) ∈ lw_all := lw_g (lw_at lw_m6 180 rfl) rfl
theorem q1481 : (Jvm.Cond.unhidden "LassoFinder$Name" "of" "([I)I") ∈ lw_tbl := lw_at lw_m6 181 rfl
theorem q1482 : (Jvm.Cond.instanceMethod ({ cls := "LassoFinder$Name", name := "of", desc := "([I)I" } : Jvm.MethodName)) ∈ lw_all := lw_g (lw_at lw_m6 182 rfl) rfl
theorem q1483 : (Jvm.Cond.publicMethod ({ cls := "LassoFinder$Name", name := "of", desc := "([I)I" } : Jvm.MethodName)) ∈ lw_tbl := lw_at lw_m6 183 rfl
theorem q1485 : (Jvm.Cond.castable "LassoFinder$Operation" "LassoFinder$Expression") ∈ lw_tbl := lw_at lw_m6 185 rfl
theorem q1486 : (Jvm.Cond.selects "LassoFinder$Operation" ({ cls := "LassoFinder$Expression", name := "of", desc := "([I)I" } : Jvm.MethodName) ({ cls := "LassoFinder$Operation", name := "of", desc := "([I)I" } : Jvm.MethodName)) ∈ lw_all := lw_g (lw_at lw_m6 186 rfl) rfl
theorem q1487 : (Jvm.Cond.unhidden "LassoFinder$Operation" "of" "([I)I") ∈ lw_tbl := lw_at lw_m6 187 rfl
theorem q1488 : (Jvm.Cond.instanceMethod ({ cls := "LassoFinder$Operation", name := "of", desc := "([I)I" } : Jvm.MethodName)) ∈ lw_all := lw_g (lw_at lw_m6 188 rfl) rfl
theorem q1489 : (Jvm.Cond.publicMethod ({ cls := "LassoFinder$Operation", name := "of", desc := "([I)I" } : Jvm.MethodName)) ∈ lw_tbl := lw_at lw_m6 189 rfl
theorem q1490 : (Jvm.Cond.code ({ cls := "LassoFinder$Operation", name := "of", desc := "([I)I" } : Jvm.MethodName) prog_14_method_2_code (4 : Nat) (Option.some Jvm.ClassFile.FieldType.int)) ∈ lw_all := lw_g (lw_at lw_m6 190 rfl) rfl
theorem q1492 : (Jvm.Cond.methodLink "LassoFinder$Operation" (20 : Nat) ({ cls := "LassoFinder$Expression", name := "of", desc := "([I)I" } : Jvm.MethodName)) ∈ lw_all := lw_g (lw_at lw_m6 192 rfl) rfl
abbrev cX14_of : ByteArray := prog_14_method_2_code
def yX14_of : MethodName := ⟨RX14, "of", "([I)I"⟩
theorem dX14_of_0 : decode cX14_of 0 = .ok (.aload_n 0, 1) := by decide +kernel
theorem dX14_of_1 : decode cX14_of 1 = .ok (.getfield 13, 3) := by decide +kernel
theorem dX14_of_4 : decode cX14_of 4 = .ok (.aload_n 1, 1) := by decide +kernel
theorem dX14_of_5 : decode cX14_of 5 = .ok (.invokeinterface 20 2, 5) := by decide +kernel
theorem dX14_of_10 : decode cX14_of 10 = .ok (.istore_n 2, 1) := by decide +kernel
theorem dX14_of_11 : decode cX14_of 11 = .ok (.aload_n 0, 1) := by decide +kernel
theorem dX14_of_12 : decode cX14_of 12 = .ok (.getfield 17, 3) := by decide +kernel
theorem dX14_of_15 : decode cX14_of 15 = .ok (.aload_n 1, 1) := by decide +kernel
theorem dX14_of_16 : decode cX14_of 16 = .ok (.invokeinterface 20 2, 5) := by decide +kernel
theorem dX14_of_21 : decode cX14_of 21 = .ok (.istore_n 3, 1) := by decide +kernel
theorem dX14_of_22 : decode cX14_of 22 = .ok (.aload_n 0, 1) := by decide +kernel
theorem dX14_of_23 : decode cX14_of 23 = .ok (.getfield 7, 3) := by decide +kernel
theorem dX14_of_26 : decode cX14_of 26 = .ok (.lookupswitch 74 #[(42, 56), (43, 42), (45, 49), (60, 63)], 42) := by decide +kernel
theorem dX14_of_68 : decode cX14_of 68 = .ok (.iload_n 2, 1) := by decide +kernel
theorem dX14_of_69 : decode cX14_of 69 = .ok (.iload_n 3, 1) := by decide +kernel
theorem dX14_of_70 : decode cX14_of 70 = .ok (.iadd, 1) := by decide +kernel
theorem dX14_of_71 : decode cX14_of 71 = .ok (.bipush 7, 2) := by decide +kernel
theorem dX14_of_73 : decode cX14_of 73 = .ok (.iand, 1) := by decide +kernel
theorem dX14_of_74 : decode cX14_of 74 = .ok (.ireturn, 1) := by decide +kernel
theorem dX14_of_75 : decode cX14_of 75 = .ok (.iload_n 2, 1) := by decide +kernel
theorem dX14_of_76 : decode cX14_of 76 = .ok (.iload_n 3, 1) := by decide +kernel
theorem dX14_of_77 : decode cX14_of 77 = .ok (.isub, 1) := by decide +kernel
theorem dX14_of_78 : decode cX14_of 78 = .ok (.bipush 7, 2) := by decide +kernel
theorem dX14_of_80 : decode cX14_of 80 = .ok (.iand, 1) := by decide +kernel
theorem dX14_of_81 : decode cX14_of 81 = .ok (.ireturn, 1) := by decide +kernel
theorem dX14_of_82 : decode cX14_of 82 = .ok (.iload_n 2, 1) := by decide +kernel
theorem dX14_of_83 : decode cX14_of 83 = .ok (.iload_n 3, 1) := by decide +kernel
theorem dX14_of_84 : decode cX14_of 84 = .ok (.imul, 1) := by decide +kernel
theorem dX14_of_85 : decode cX14_of 85 = .ok (.bipush 7, 2) := by decide +kernel
theorem dX14_of_87 : decode cX14_of 87 = .ok (.iand, 1) := by decide +kernel
theorem dX14_of_88 : decode cX14_of 88 = .ok (.ireturn, 1) := by decide +kernel
theorem dX14_of_89 : decode cX14_of 89 = .ok (.iload_n 2, 1) := by decide +kernel
theorem dX14_of_90 : decode cX14_of 90 = .ok (.iload_n 3, 1) := by decide +kernel
theorem dX14_of_91 : decode cX14_of 91 = .ok (.if_icmp .ge 7, 3) := by decide +kernel
theorem dX14_of_94 : decode cX14_of 94 = .ok (.iconst 1, 1) := by decide +kernel
theorem dX14_of_95 : decode cX14_of 95 = .ok (.goto 4, 3) := by decide +kernel
theorem dX14_of_98 : decode cX14_of 98 = .ok (.iconst 0, 1) := by decide +kernel
theorem dX14_of_99 : decode cX14_of 99 = .ok (.ireturn, 1) := by decide +kernel
theorem dX14_of_100 : decode cX14_of 100 = .ok (.iload_n 2, 1) := by decide +kernel
theorem dX14_of_101 : decode cX14_of 101 = .ok (.iload_n 3, 1) := by decide +kernel
theorem dX14_of_102 : decode cX14_of 102 = .ok (.if_icmp .ne 7, 3) := by decide +kernel
theorem dX14_of_105 : decode cX14_of 105 = .ok (.iconst 1, 1) := by decide +kernel
theorem dX14_of_106 : decode cX14_of 106 = .ok (.goto 4, 3) := by decide +kernel
theorem dX14_of_109 : decode cX14_of 109 = .ok (.iconst 0, 1) := by decide +kernel
theorem dX14_of_110 : decode cX14_of 110 = .ok (.ireturn, 1) := by decide +kernel
abbrev MX14_of : zT := (yX14_of, cX14_of, 4, (Option.some Jvm.ClassFile.FieldType.int), [])
theorem plX14_of : zplain MX14_of 1 ∧ (zcodeW MX14_of ∈ lw_all ∧ Cond.initialized MX14_of.1.cls ∈ lw_all) := ⟨⟨by decide +kernel, by decide +kernel⟩, q1490, q138⟩
def RC_G_X14_of (g : zG) (lv : Nat) (rc : Nat → List Int → zM → Option zO) : Prop :=
  (∀ {x0 x1 : Int} {σ : zM} {out : zO}, rc 0 [x0, x1] σ = some out → Cj g lv MX14_of [zr x0, zr x1] σ out) ∧ True
noncomputable def f_X14_of_99 (rc : Nat → List Int → zM → Option zO) (t0 : Int) (σ : zM) : Option zO :=
  some (0, zi t0, σ)
theorem w_X14_of_99 {g : zG} {lv : Nat} {out : zO} (rc : Nat → List Int → zM → Option zO) (hrc : RC_G_X14_of g (lv) rc) (t0 : Int) (σ : zM) {r : zO} (h : f_X14_of_99 rc t0 σ = some r) (hk : (fun o : zO => o = out) r) : Gj g MX14_of (lv + 1) 99 [] [zi t0] σ out := by
  revert h
  unfold f_X14_of_99
  intro h
  cases h
  have hk : (0, zi t0, σ) = out := hk
  subst hk
  exact gj_ret (pc := 99) (t := .int) dX14_of_99 rfl ⟨rfl, rfl⟩ (fun h => h)
noncomputable def f_X14_of_110 (rc : Nat → List Int → zM → Option zO) (t0 : Int) (σ : zM) : Option zO :=
  some (0, zi t0, σ)
theorem w_X14_of_110 {g : zG} {lv : Nat} {out : zO} (rc : Nat → List Int → zM → Option zO) (hrc : RC_G_X14_of g (lv) rc) (t0 : Int) (σ : zM) {r : zO} (h : f_X14_of_110 rc t0 σ = some r) (hk : (fun o : zO => o = out) r) : Gj g MX14_of (lv + 1) 110 [] [zi t0] σ out := by
  revert h
  unfold f_X14_of_110
  intro h
  cases h
  have hk : (0, zi t0, σ) = out := hk
  subst hk
  exact gj_ret (pc := 110) (t := .int) dX14_of_110 rfl ⟨rfl, rfl⟩ (fun h => h)
noncomputable def f_X14_of (rc : Nat → List Int → zM → Option zO) (x0 x1 : Int) (σ : zM) : Option zO :=
  (zgf σ 1401 x0).bind fun v1 =>
  zci ((if zis σ 13 v1 = true then f_X12_of v1 x1 σ else if zis σ 14 v1 = true then f_X13_of v1 x1 σ else if zis σ 15 v1 = true then rc 0 [v1, x1] σ else none)) fun v2 σ3 =>
  (zgf σ3 1402 x0).bind fun v4 =>
  zci ((if zis σ3 13 v4 = true then f_X12_of v4 x1 σ3 else if zis σ3 14 v4 = true then f_X13_of v4 x1 σ3 else if zis σ3 15 v4 = true then rc 0 [v4, x1] σ3 else none)) fun v5 σ6 =>
  (zgf σ6 1400 x0).bind fun v7 =>
  if v7 = 42 then
    some (0, zi (zand (zmul v2 v5) 7), σ6)
  else if v7 = 43 then
    some (0, zi (zand (zadd v2 v5) 7), σ6)
  else if v7 = 45 then
    some (0, zi (zand (zsub v2 v5) 7), σ6)
  else if v7 = 60 then
    if v5 ≤ v2 then
      f_X14_of_99 rc 0 σ6
    else
      f_X14_of_99 rc 1 σ6
  else 
    if v2 ≠ v5 then
      f_X14_of_110 rc 0 σ6
    else
      f_X14_of_110 rc 1 σ6
theorem c_X14_of {g : zG} {lv : Nat} {rc : Nat → List Int → zM → Option zO} (hrc : RC_G_X14_of g (lv) rc) {x0 x1 : Int} {σ : zM} {out : zO} (h : f_X14_of rc x0 x1 σ = some out) : Cj g (lv + 1) MX14_of [zr x0, zr x1] σ out := by
  refine cj_go (ls := [(0, zr x0), (1, zr x1)]) (by decide) (Nat.le_of_ble_eq_true rfl) rfl (zgen h (fun r hk => ?_))
  unfold f_X14_of
  refine zst_ (gj_aload_n 0 (pc := 0) dX14_of_0 rfl) ?_
  refine gb_get (pc := 1) fl1401 dX14_of_1 q1362 (Or.inl rfl) (fun v1 => ?_)
  refine zst_ (gj_aload_n 1 (pc := 4) dX14_of_4 rfl) ?_
  refine gb_callI (pc := 5) (as := [zr v1, zr x1]) (rest := []) (zCl.ite (fun hb => zCl.of (zLk_F (M := MX14_of) (ci := 12) (r := (RX12, TX12, 1)) (x := ⟨"LassoFinder$Expression", "of", "([I)I"⟩) plX12_of.1 ⟨rfl, rfl⟩ (by decide) rfl rfl (zisE hb).1 (zisE hb).2 dX14_of_5 q1492 q1476 q1474 q1478 q1472 q1471 q1477 q1475 q1473) plX12_of (Nat.le_of_ble_eq_true rfl) (fun h => c_X12_of h)) (zCl.ite (fun hb => zCl.of (zLk_F (M := MX14_of) (ci := 13) (r := (RX13, TX13, 1)) (x := ⟨"LassoFinder$Expression", "of", "([I)I"⟩) plX13_of.1 ⟨rfl, rfl⟩ (by decide) rfl rfl (zisE hb).1 (zisE hb).2 dX14_of_5 q1492 q1482 q1480 q1484 q1472 q1471 q1483 q1481 q1479) plX13_of (Nat.le_of_ble_eq_true rfl) (fun h => c_X13_of h)) (zCl.ite (fun hb => zCl.of (zLk_F (M := MX14_of) (ci := 14) (r := (RX14, TX14, 3)) (x := ⟨"LassoFinder$Expression", "of", "([I)I"⟩) plX14_of.1 ⟨rfl, rfl⟩ (by decide) rfl rfl (zisE hb).1 (zisE hb).2 dX14_of_5 q1492 q1488 q1486 q1490 q1472 q1471 q1489 q1487 q1485) plX14_of (Nat.le_of_ble_eq_true rfl) (fun h => hrc.1 h)) zCl.no))) (fun v2 σ3 => ?_)
  refine zst_ (gj_istore_n (pc := 10) (ls' := [(2, zi v2), (0, zr x0), (1, zr x1)]) dX14_of_10 (by decide) rfl) ?_
  refine zst_ (gj_aload_n 1 (pc := 11) dX14_of_11 rfl) ?_
  refine gb_get (pc := 12) fl1402 dX14_of_12 q1363 (Or.inl rfl) (fun v4 => ?_)
  refine zst_ (gj_aload_n 2 (pc := 15) dX14_of_15 rfl) ?_
  refine gb_callI (pc := 16) (as := [zr v4, zr x1]) (rest := []) (zCl.ite (fun hb => zCl.of (zLk_F (M := MX14_of) (ci := 12) (r := (RX12, TX12, 1)) (x := ⟨"LassoFinder$Expression", "of", "([I)I"⟩) plX12_of.1 ⟨rfl, rfl⟩ (by decide) rfl rfl (zisE hb).1 (zisE hb).2 dX14_of_16 q1492 q1476 q1474 q1478 q1472 q1471 q1477 q1475 q1473) plX12_of (Nat.le_of_ble_eq_true rfl) (fun h => c_X12_of h)) (zCl.ite (fun hb => zCl.of (zLk_F (M := MX14_of) (ci := 13) (r := (RX13, TX13, 1)) (x := ⟨"LassoFinder$Expression", "of", "([I)I"⟩) plX13_of.1 ⟨rfl, rfl⟩ (by decide) rfl rfl (zisE hb).1 (zisE hb).2 dX14_of_16 q1492 q1482 q1480 q1484 q1472 q1471 q1483 q1481 q1479) plX13_of (Nat.le_of_ble_eq_true rfl) (fun h => c_X13_of h)) (zCl.ite (fun hb => zCl.of (zLk_F (M := MX14_of) (ci := 14) (r := (RX14, TX14, 3)) (x := ⟨"LassoFinder$Expression", "of", "([I)I"⟩) plX14_of.1 ⟨rfl, rfl⟩ (by decide) rfl rfl (zisE hb).1 (zisE hb).2 dX14_of_16 q1492 q1488 q1486 q1490 q1472 q1471 q1489 q1487 q1485) plX14_of (Nat.le_of_ble_eq_true rfl) (fun h => hrc.1 h)) zCl.no))) (fun v5 σ6 => ?_)
  refine zst_ (gj_istore_n (pc := 21) (ls' := [(3, zi v5), (2, zi v2), (0, zr x0), (1, zr x1)]) dX14_of_21 (by decide) rfl) ?_
  refine zst_ (gj_aload_n 2 (pc := 22) dX14_of_22 rfl) ?_
  refine gb_get (pc := 23) fl1400 dX14_of_23 q1361 (Or.inl rfl) (fun v7 => ?_)
  refine gb_ite (fun hc0 => ?_) (fun hc0 => ?_)
  · refine zst_ (fun kk => gj_lookup (pc := 26) dX14_of_26 (by decide) ⟨82, by rw [hc0]; decide, kk⟩) ?_
    refine zst_ (gj_iload_n 1 (pc := 82) dX14_of_82 rfl) ?_
    refine zst_ (gj_iload_n 0 (pc := 83) dX14_of_83 rfl) ?_
    refine zst_ (gj_imul (pc := 84) dX14_of_84) ?_
    refine zst_ (gj_bipush (pc := 85) dX14_of_85 ⟨rfl, by decide⟩) ?_
    refine zst_ (gj_iand (pc := 87) dX14_of_87) ?_
    intro h
    cases h
    have hk : (0, zi (zand (zmul v2 v5) 7), σ6) = out := hk
    subst hk
    exact gj_ret (pc := 88) (t := .int) dX14_of_88 rfl ⟨rfl, rfl⟩ (fun h => h)
  · refine gb_ite (fun hc1 => ?_) (fun hc1 => ?_)
    · refine zst_ (fun kk => gj_lookup (pc := 26) dX14_of_26 (by decide) ⟨68, by rw [hc1]; decide, kk⟩) ?_
      refine zst_ (gj_iload_n 1 (pc := 68) dX14_of_68 rfl) ?_
      refine zst_ (gj_iload_n 0 (pc := 69) dX14_of_69 rfl) ?_
      refine zst_ (gj_iadd (pc := 70) dX14_of_70) ?_
      refine zst_ (gj_bipush (pc := 71) dX14_of_71 ⟨rfl, by decide⟩) ?_
      refine zst_ (gj_iand (pc := 73) dX14_of_73) ?_
      intro h
      cases h
      have hk : (0, zi (zand (zadd v2 v5) 7), σ6) = out := hk
      subst hk
      exact gj_ret (pc := 74) (t := .int) dX14_of_74 rfl ⟨rfl, rfl⟩ (fun h => h)
    · refine gb_ite (fun hc2 => ?_) (fun hc2 => ?_)
      · refine zst_ (fun kk => gj_lookup (pc := 26) dX14_of_26 (by decide) ⟨75, by rw [hc2]; decide, kk⟩) ?_
        refine zst_ (gj_iload_n 1 (pc := 75) dX14_of_75 rfl) ?_
        refine zst_ (gj_iload_n 0 (pc := 76) dX14_of_76 rfl) ?_
        refine zst_ (gj_isub (pc := 77) dX14_of_77) ?_
        refine zst_ (gj_bipush (pc := 78) dX14_of_78 ⟨rfl, by decide⟩) ?_
        refine zst_ (gj_iand (pc := 80) dX14_of_80) ?_
        intro h
        cases h
        have hk : (0, zi (zand (zsub v2 v5) 7), σ6) = out := hk
        subst hk
        exact gj_ret (pc := 81) (t := .int) dX14_of_81 rfl ⟨rfl, rfl⟩ (fun h => h)
      · refine gb_ite (fun hc3 => ?_) (fun hc3 => ?_)
        · refine zst_ (fun kk => gj_lookup (pc := 26) dX14_of_26 (by decide) ⟨89, by rw [hc3]; decide, kk⟩) ?_
          refine zst_ (gj_iload_n 1 (pc := 89) dX14_of_89 rfl) ?_
          refine zst_ (gj_iload_n 0 (pc := 90) dX14_of_90 rfl) ?_
          refine gb_if (gj_icmp_ge 98 (pc := 91) dX14_of_91 (by decide)) ?_ ?_
          · refine zst_ (gj_iconst (pc := 98) dX14_of_98 (by decide)) ?_
            refine zst_ (gj_sub [] rfl) ?_
            exact fun h => w_X14_of_99 rc hrc 0 σ6 h hk
          · refine zst_ (gj_iconst (pc := 94) dX14_of_94 (by decide)) ?_
            refine zst_ (gj_goto 99 (pc := 95) dX14_of_95 (by decide)) ?_
            refine zst_ (gj_sub [] rfl) ?_
            exact fun h => w_X14_of_99 rc hrc 1 σ6 h hk
        · refine zst_ (fun kk => gj_lookup (pc := 26) dX14_of_26 (by decide) ⟨100, by simp [Op.lookupswitch.offset, hc0, Ne.symm hc0, hc1, Ne.symm hc1, hc2, Ne.symm hc2, hc3, Ne.symm hc3], kk⟩) ?_
          refine zst_ (gj_iload_n 1 (pc := 100) dX14_of_100 rfl) ?_
          refine zst_ (gj_iload_n 0 (pc := 101) dX14_of_101 rfl) ?_
          refine gb_if (gj_icmp_ne 109 (pc := 102) dX14_of_102 (by decide)) ?_ ?_
          · refine zst_ (gj_iconst (pc := 109) dX14_of_109 (by decide)) ?_
            refine zst_ (gj_sub [] rfl) ?_
            exact fun h => w_X14_of_110 rc hrc 0 σ6 h hk
          · refine zst_ (gj_iconst (pc := 105) dX14_of_105 (by decide)) ?_
            refine zst_ (gj_goto 110 (pc := 106) dX14_of_106 (by decide)) ?_
            refine zst_ (gj_sub [] rfl) ?_
            exact fun h => w_X14_of_110 rc hrc 1 σ6 h hk
noncomputable def f_G_X14_of : Nat → Nat → List Int → zM → Option zO
  | 0, _, _, _ => none
  | d + 1, tg, as, σ => match tg, as with
    | 0, [x0, x1] => f_X14_of (f_G_X14_of d) x0 x1 σ
    | _, _ => none
theorem rc_G_X14_of (g : zG) : ∀ (d : Nat) {lv : Nat}, RC_G_X14_of g (lv + d) (f_G_X14_of d)
  | 0, lv => ⟨(fun h => by cases h), trivial⟩
  | d + 1, lv => by
    have ih := rc_G_X14_of g d (lv := lv)
    rw [show lv + d = lv + d + 0 by omega] at ih
    rw [show lv + (d + 1) = lv + d + 1 by omega]
    exact ⟨fun h => c_X14_of (lv := lv + d) ih h, trivial⟩
theorem c_G_X14_of_0 {g : zG} {lv : Nat} {x0 x1 : Int} {σ : zM} {out : zO} (h : f_G_X14_of 40 0 [x0, x1] σ = some out) : Cj g (lv + 40) MX14_of [zr x0, zr x1] σ out := (rc_G_X14_of g 40 (lv := lv)).1 h
theorem q287 : (Jvm.Cond.fieldLink "LassoFinder$Model" (26 : Nat) "LassoFinder$Model" "statements" "[LLassoFinder$Statement;") ∈ lw_all := lw_g (lw_at lw_m1 187 rfl) rfl
theorem q1156 : (Jvm.Cond.fieldLinkNest "LassoFinder$Model" (112 : Nat) "LassoFinder$Statement" "kind" "LLassoFinder$Kind;" "LassoFinder") ∈ lw_tbl := lw_at lw_m5 96 rfl
theorem q1170 : (Jvm.Cond.fieldLinkNest "LassoFinder$Model" (121 : Nat) "LassoFinder$Statement" "name" "I" "LassoFinder") ∈ lw_tbl := lw_at lw_m5 110 rfl
theorem q1460 : (Jvm.Cond.methodLink "LassoFinder$Model" (124 : Nat) ({ cls := "LassoFinder$Model", name := "isAt", desc := "(I)Z" } : Jvm.MethodName)) ∈ lw_all := lw_g (lw_at lw_m6 160 rfl) rfl
theorem q1462 : (Jvm.Cond.instanceMethod ({ cls := "LassoFinder$Model", name := "isAt", desc := "(I)Z" } : Jvm.MethodName)) ∈ lw_all := lw_g (lw_at lw_m6 162 rfl) rfl
theorem q1497 : (Jvm.Cond.code ({ cls := "LassoFinder$Model", name := "meets", desc := "(II)Z" } : Jvm.MethodName) prog_9_method_8_code (3 : Nat) (Option.some Jvm.ClassFile.FieldType.boolean)) ∈ lw_all := lw_g (lw_at lw_m6 197 rfl) rfl
theorem q1498 : (Jvm.Cond.fieldLink "LassoFinder$Model" (116 : Nat) "LassoFinder$Kind" "RECEIVE" "LLassoFinder$Kind;") ∈ lw_all := lw_g (lw_at lw_m6 198 rfl) rfl
abbrev cX2_meets : ByteArray := prog_9_method_8_code
def yX2_meets : MethodName := ⟨RX2, "meets", "(II)Z"⟩
theorem dX2_meets_0 : decode cX2_meets 0 = .ok (.aload_n 0, 1) := by decide +kernel
theorem dX2_meets_1 : decode cX2_meets 1 = .ok (.getfield 30, 3) := by decide +kernel
theorem dX2_meets_4 : decode cX2_meets 4 = .ok (.iload_n 2, 1) := by decide +kernel
theorem dX2_meets_5 : decode cX2_meets 5 = .ok (.iaload, 1) := by decide +kernel
theorem dX2_meets_6 : decode cX2_meets 6 = .ok (.aload_n 0, 1) := by decide +kernel
theorem dX2_meets_7 : decode cX2_meets 7 = .ok (.getfield 30, 3) := by decide +kernel
theorem dX2_meets_10 : decode cX2_meets 10 = .ok (.iload_n 1, 1) := by decide +kernel
theorem dX2_meets_11 : decode cX2_meets 11 = .ok (.iaload, 1) := by decide +kernel
theorem dX2_meets_12 : decode cX2_meets 12 = .ok (.if_icmp .eq 51, 3) := by decide +kernel
theorem dX2_meets_15 : decode cX2_meets 15 = .ok (.aload_n 0, 1) := by decide +kernel
theorem dX2_meets_16 : decode cX2_meets 16 = .ok (.getfield 26, 3) := by decide +kernel
theorem dX2_meets_19 : decode cX2_meets 19 = .ok (.iload_n 2, 1) := by decide +kernel
theorem dX2_meets_20 : decode cX2_meets 20 = .ok (.aaload, 1) := by decide +kernel
theorem dX2_meets_21 : decode cX2_meets 21 = .ok (.getfield 112, 3) := by decide +kernel
theorem dX2_meets_24 : decode cX2_meets 24 = .ok (.getstatic 116, 3) := by decide +kernel
theorem dX2_meets_27 : decode cX2_meets 27 = .ok (.if_acmp .ne 36, 3) := by decide +kernel
theorem dX2_meets_30 : decode cX2_meets 30 = .ok (.aload_n 0, 1) := by decide +kernel
theorem dX2_meets_31 : decode cX2_meets 31 = .ok (.getfield 26, 3) := by decide +kernel
theorem dX2_meets_34 : decode cX2_meets 34 = .ok (.iload_n 2, 1) := by decide +kernel
theorem dX2_meets_35 : decode cX2_meets 35 = .ok (.aaload, 1) := by decide +kernel
theorem dX2_meets_36 : decode cX2_meets 36 = .ok (.getfield 121, 3) := by decide +kernel
theorem dX2_meets_39 : decode cX2_meets 39 = .ok (.aload_n 0, 1) := by decide +kernel
theorem dX2_meets_40 : decode cX2_meets 40 = .ok (.getfield 26, 3) := by decide +kernel
theorem dX2_meets_43 : decode cX2_meets 43 = .ok (.iload_n 1, 1) := by decide +kernel
theorem dX2_meets_44 : decode cX2_meets 44 = .ok (.aaload, 1) := by decide +kernel
theorem dX2_meets_45 : decode cX2_meets 45 = .ok (.getfield 121, 3) := by decide +kernel
theorem dX2_meets_48 : decode cX2_meets 48 = .ok (.if_icmp .ne 15, 3) := by decide +kernel
theorem dX2_meets_51 : decode cX2_meets 51 = .ok (.aload_n 0, 1) := by decide +kernel
theorem dX2_meets_52 : decode cX2_meets 52 = .ok (.iload_n 2, 1) := by decide +kernel
theorem dX2_meets_53 : decode cX2_meets 53 = .ok (.invokevirtual 124, 3) := by decide +kernel
theorem dX2_meets_56 : decode cX2_meets 56 = .ok (.ifCond .eq 7, 3) := by decide +kernel
theorem dX2_meets_59 : decode cX2_meets 59 = .ok (.iconst 1, 1) := by decide +kernel
theorem dX2_meets_60 : decode cX2_meets 60 = .ok (.goto 4, 3) := by decide +kernel
theorem dX2_meets_63 : decode cX2_meets 63 = .ok (.iconst 0, 1) := by decide +kernel
theorem dX2_meets_64 : decode cX2_meets 64 = .ok (.ireturn, 1) := by decide +kernel
abbrev MX2_meets : zT := (yX2_meets, cX2_meets, 3, (Option.some Jvm.ClassFile.FieldType.boolean), [])
theorem plX2_meets : zplain MX2_meets 2 ∧ (zcodeW MX2_meets ∈ lw_all ∧ Cond.initialized MX2_meets.1.cls ∈ lw_all) := ⟨⟨by decide +kernel, by decide +kernel⟩, q1497, q106⟩
noncomputable def f_X2_meets_64 (t0 : Int) (σ : zM) : Option zO :=
  zgd (z01 t0) <|
  some (0, zi t0, σ)
theorem w_X2_meets_64 {g : zG} {lv : Nat} {out : zO} (t0 : Int) (σ : zM) {r : zO} (h : f_X2_meets_64 t0 σ = some r) (hk : (fun o : zO => o = out) r) : Gj g MX2_meets (lv + 1) 64 [] [zi t0] σ out := by
  revert h
  unfold f_X2_meets_64
  refine gb_gd (fun hb => ?_)
  intro h
  cases h
  have hk : (0, zi t0, σ) = out := hk
  subst hk
  exact gj_ret (pc := 64) (t := .boolean) dX2_meets_64 rfl ⟨rfl, rfl⟩ (fun _ => z01E hb)
noncomputable def f_X2_meets_63 (σ : zM) : Option zO :=
  f_X2_meets_64 0 σ
theorem w_X2_meets_63 {g : zG} {lv : Nat} {out : zO} (σ : zM) {r : zO} (h : f_X2_meets_63  σ = some r) (hk : (fun o : zO => o = out) r) : Gj g MX2_meets (lv + 1) 63 [] [] σ out := by
  revert h
  unfold f_X2_meets_63
  refine zst_ (gj_iconst (pc := 63) dX2_meets_63 (by decide)) ?_
  exact fun h => w_X2_meets_64 0 σ h hk
noncomputable def f_X2_meets (x0 x1 x2 : Int) (σ : zM) : Option zO :=
  (zgf σ 208 x0).bind fun v1 =>
  (zga σ 101 v1 x2).bind fun v2 =>
  (zgf σ 208 x0).bind fun v3 =>
  (zga σ 101 v3 x1).bind fun v4 =>
  if v2 = v4 then
    f_X2_meets_63 σ
  else
    (zgf σ 207 x0).bind fun v5 =>
    (zga σ 106 v5 x2).bind fun v6 =>
    (zgf σ 1100 v6).bind fun v7 =>
    if v7 ≠ (-5) then
      f_X2_meets_63 σ
    else
      (zgf σ 207 x0).bind fun v8 =>
      (zga σ 106 v8 x2).bind fun v9 =>
      (zgf σ 1107 v9).bind fun v10 =>
      (zgf σ 207 x0).bind fun v11 =>
      (zga σ 106 v11 x1).bind fun v12 =>
      (zgf σ 1107 v12).bind fun v13 =>
      if v10 ≠ v13 then
        f_X2_meets_63 σ
      else
        zgd (zis σ 3 x0) <|
        zci (f_X2_isAt x0 x2 σ) fun v14 σ15 =>
        if v14 = 0 then
          f_X2_meets_63 σ15
        else
          f_X2_meets_64 1 σ15
theorem c_X2_meets {g : zG} {lv : Nat} {x0 x1 x2 : Int} {σ : zM} {out : zO} (h : f_X2_meets x0 x1 x2 σ = some out) : Cj g (lv + 1) MX2_meets [zr x0, zi x1, zi x2] σ out := by
  refine cj_go (ls := [(0, zr x0), (1, zi x1), (2, zi x2)]) (by decide) (Nat.le_of_ble_eq_true rfl) rfl (zgen h (fun r hk => ?_))
  unfold f_X2_meets
  refine zst_ (gj_aload_n 0 (pc := 0) dX2_meets_0 rfl) ?_
  refine gb_get (pc := 1) fl208 dX2_meets_1 q289 (Or.inl rfl) (fun v1 => ?_)
  refine zst_ (gj_iload_n 2 (pc := 4) dX2_meets_4 rfl) ?_
  refine gb_iald (pc := 5) dX2_meets_5 (fun v2 => ?_)
  refine zst_ (gj_aload_n 0 (pc := 6) dX2_meets_6 rfl) ?_
  refine gb_get (pc := 7) fl208 dX2_meets_7 q289 (Or.inl rfl) (fun v3 => ?_)
  refine zst_ (gj_iload_n 1 (pc := 10) dX2_meets_10 rfl) ?_
  refine gb_iald (pc := 11) dX2_meets_11 (fun v4 => ?_)
  refine gb_if (gj_icmp_eq 63 (pc := 12) dX2_meets_12 (by decide)) ?_ ?_
  · refine zst_ (gj_sub [] rfl) ?_
    exact fun h => w_X2_meets_63 σ h hk
  · refine zst_ (gj_aload_n 0 (pc := 15) dX2_meets_15 rfl) ?_
    refine gb_get (pc := 16) fl207 dX2_meets_16 q287 (Or.inl rfl) (fun v5 => ?_)
    refine zst_ (gj_iload_n 2 (pc := 19) dX2_meets_19 rfl) ?_
    refine gb_aald (pc := 20) (k := 106) ⟨by decide, by decide⟩ dX2_meets_20 (fun v6 => ?_)
    refine gb_getNe (pc := 21) fl1100 dX2_meets_21 q1156 (Or.inl rfl) (fun v7 => ?_)
    refine zst_ (gj_enumL (pc := 24) (i := 3) (by decide) rfl rfl dX2_meets_24 q1498 rfl) ?_
    refine gb_if (gj_acmp_ne 63 (pc := 27) dX2_meets_27 (by decide)) ?_ ?_
    · refine zst_ (gj_sub [] rfl) ?_
      exact fun h => w_X2_meets_63 σ h hk
    · refine zst_ (gj_aload_n 0 (pc := 30) dX2_meets_30 rfl) ?_
      refine gb_get (pc := 31) fl207 dX2_meets_31 q287 (Or.inl rfl) (fun v8 => ?_)
      refine zst_ (gj_iload_n 2 (pc := 34) dX2_meets_34 rfl) ?_
      refine gb_aald (pc := 35) (k := 106) ⟨by decide, by decide⟩ dX2_meets_35 (fun v9 => ?_)
      refine gb_getNe (pc := 36) fl1107 dX2_meets_36 q1170 (Or.inl rfl) (fun v10 => ?_)
      refine zst_ (gj_aload_n 0 (pc := 39) dX2_meets_39 rfl) ?_
      refine gb_get (pc := 40) fl207 dX2_meets_40 q287 (Or.inl rfl) (fun v11 => ?_)
      refine zst_ (gj_iload_n 1 (pc := 43) dX2_meets_43 rfl) ?_
      refine gb_aald (pc := 44) (k := 106) ⟨by decide, by decide⟩ dX2_meets_44 (fun v12 => ?_)
      refine gb_getNe (pc := 45) fl1107 dX2_meets_45 q1170 (Or.inl rfl) (fun v13 => ?_)
      refine gb_if (gj_icmp_ne 63 (pc := 48) dX2_meets_48 (by decide)) ?_ ?_
      · refine zst_ (gj_sub [] rfl) ?_
        exact fun h => w_X2_meets_63 σ h hk
      · refine zst_ (gj_aload_n 0 (pc := 51) dX2_meets_51 rfl) ?_
        refine zst_ (gj_iload_n 2 (pc := 52) dX2_meets_52 rfl) ?_
        refine gb_gd (fun hb => ?_)
        refine gb_callI (pc := 53) (as := [zr x0, zi x2]) (rest := []) (zCl.of (zLk_V (M := MX2_meets) (ci := 2) (r := (RX2, TX2, 22)) plX2_isAt.1 rfl rfl (zisE hb).1 (zisE hb).2 dX2_meets_53 q1460 q1462 qs20 q1463) plX2_isAt (Nat.le_of_ble_eq_true rfl) (fun h => c_X2_isAt h)) (fun v14 σ15 => ?_)
        refine gb_if (gj_if_eq 63 (pc := 56) dX2_meets_56 (by decide)) ?_ ?_
        · refine zst_ (gj_sub [] rfl) ?_
          exact fun h => w_X2_meets_63 σ15 h hk
        · refine zst_ (gj_iconst (pc := 59) dX2_meets_59 (by decide)) ?_
          refine zst_ (gj_goto 64 (pc := 60) dX2_meets_60 (by decide)) ?_
          refine zst_ (gj_sub [] rfl) ?_
          exact fun h => w_X2_meets_64 1 σ15 h hk
theorem q1180 : (Jvm.Cond.fieldLinkNest "LassoFinder$Model" (132 : Nat) "LassoFinder$Statement" "what" "LLassoFinder$Expression;" "LassoFinder") ∈ lw_tbl := lw_at lw_m5 120 rfl
theorem q1467 : (Jvm.Cond.code ({ cls := "LassoFinder$Model", name := "can", desc := "(I)Z" } : Jvm.MethodName) prog_9_method_9_code (5 : Nat) (Option.some Jvm.ClassFile.FieldType.boolean)) ∈ lw_all := lw_g (lw_at lw_m6 167 rfl) rfl
theorem q1468 : (Jvm.Cond.methodLink "LassoFinder$Model" (128 : Nat) ({ cls := "LassoFinder$Kind", name := "ordinal", desc := "()I" } : Jvm.MethodName)) ∈ lw_all := lw_g (lw_at lw_m6 168 rfl) rfl
theorem q1470 : (Jvm.Cond.methodLink "LassoFinder$Model" (136 : Nat) ({ cls := "LassoFinder$Expression", name := "of", desc := "([I)I" } : Jvm.MethodName)) ∈ lw_all := lw_g (lw_at lw_m6 170 rfl) rfl
theorem q1493 : (Jvm.Cond.fieldLink "LassoFinder$Model" (142 : Nat) "LassoFinder$Kind" "ELSE" "LLassoFinder$Kind;") ∈ lw_all := lw_g (lw_at lw_m6 193 rfl) rfl
theorem q1494 : (Jvm.Cond.methodLink "LassoFinder$Model" (145 : Nat) ({ cls := "LassoFinder$Model", name := "meets", desc := "(II)Z" } : Jvm.MethodName)) ∈ lw_all := lw_g (lw_at lw_m6 194 rfl) rfl
theorem q1496 : (Jvm.Cond.instanceMethod ({ cls := "LassoFinder$Model", name := "meets", desc := "(II)Z" } : Jvm.MethodName)) ∈ lw_all := lw_g (lw_at lw_m6 196 rfl) rfl
abbrev cX2_can : ByteArray := prog_9_method_9_code
def yX2_can : MethodName := ⟨RX2, "can", "(I)Z"⟩
theorem dX2_can_0 : decode cX2_can 0 = .ok (.aload_n 0, 1) := by decide +kernel
theorem dX2_can_1 : decode cX2_can 1 = .ok (.getfield 26, 3) := by decide +kernel
theorem dX2_can_4 : decode cX2_can 4 = .ok (.iload_n 1, 1) := by decide +kernel
theorem dX2_can_5 : decode cX2_can 5 = .ok (.aaload, 1) := by decide +kernel
theorem dX2_can_6 : decode cX2_can 6 = .ok (.astore_n 2, 1) := by decide +kernel
theorem dX2_can_7 : decode cX2_can 7 = .ok (.aload_n 2, 1) := by decide +kernel
theorem dX2_can_8 : decode cX2_can 8 = .ok (.getfield 112, 3) := by decide +kernel
theorem dX2_can_11 : decode cX2_can 11 = .ok (.invokevirtual 128, 3) := by decide +kernel
theorem dX2_can_14 : decode cX2_can 14 = .ok (.tableswitch 75 1 3 #[26, 72, 51], 26) := by decide +kernel
theorem dX2_can_40 : decode cX2_can 40 = .ok (.aload_n 2, 1) := by decide +kernel
theorem dX2_can_41 : decode cX2_can 41 = .ok (.getfield 132, 3) := by decide +kernel
theorem dX2_can_44 : decode cX2_can 44 = .ok (.aload_n 0, 1) := by decide +kernel
theorem dX2_can_45 : decode cX2_can 45 = .ok (.getfield 43, 3) := by decide +kernel
theorem dX2_can_48 : decode cX2_can 48 = .ok (.getfield 98, 3) := by decide +kernel
theorem dX2_can_51 : decode cX2_can 51 = .ok (.invokeinterface 136 2, 5) := by decide +kernel
theorem dX2_can_56 : decode cX2_can 56 = .ok (.ifCond .eq 7, 3) := by decide +kernel
theorem dX2_can_59 : decode cX2_can 59 = .ok (.iconst 1, 1) := by decide +kernel
theorem dX2_can_60 : decode cX2_can 60 = .ok (.goto 4, 3) := by decide +kernel
theorem dX2_can_63 : decode cX2_can 63 = .ok (.iconst 0, 1) := by decide +kernel
theorem dX2_can_64 : decode cX2_can 64 = .ok (.ireturn, 1) := by decide +kernel
theorem dX2_can_65 : decode cX2_can 65 = .ok (.aload_n 0, 1) := by decide +kernel
theorem dX2_can_66 : decode cX2_can 66 = .ok (.getfield 43, 3) := by decide +kernel
theorem dX2_can_69 : decode cX2_can 69 = .ok (.getfield 98, 3) := by decide +kernel
theorem dX2_can_72 : decode cX2_can 72 = .ok (.aload_n 2, 1) := by decide +kernel
theorem dX2_can_73 : decode cX2_can 73 = .ok (.getfield 121, 3) := by decide +kernel
theorem dX2_can_76 : decode cX2_can 76 = .ok (.iaload, 1) := by decide +kernel
theorem dX2_can_77 : decode cX2_can 77 = .ok (.ifCond .le 7, 3) := by decide +kernel
theorem dX2_can_80 : decode cX2_can 80 = .ok (.iconst 1, 1) := by decide +kernel
theorem dX2_can_81 : decode cX2_can 81 = .ok (.goto 4, 3) := by decide +kernel
theorem dX2_can_84 : decode cX2_can 84 = .ok (.iconst 0, 1) := by decide +kernel
theorem dX2_can_85 : decode cX2_can 85 = .ok (.ireturn, 1) := by decide +kernel
theorem dX2_can_86 : decode cX2_can 86 = .ok (.goto 19, 3) := by decide +kernel
theorem dX2_can_89 : decode cX2_can 89 = .ok (.aload_n 2, 1) := by decide +kernel
theorem dX2_can_90 : decode cX2_can 90 = .ok (.getfield 112, 3) := by decide +kernel
theorem dX2_can_93 : decode cX2_can 93 = .ok (.getstatic 142, 3) := by decide +kernel
theorem dX2_can_96 : decode cX2_can 96 = .ok (.if_acmp .eq 7, 3) := by decide +kernel
theorem dX2_can_99 : decode cX2_can 99 = .ok (.iconst 1, 1) := by decide +kernel
theorem dX2_can_100 : decode cX2_can 100 = .ok (.goto 4, 3) := by decide +kernel
theorem dX2_can_103 : decode cX2_can 103 = .ok (.iconst 0, 1) := by decide +kernel
theorem dX2_can_104 : decode cX2_can 104 = .ok (.ireturn, 1) := by decide +kernel
theorem dX2_can_105 : decode cX2_can 105 = .ok (.aload_n 0, 1) := by decide +kernel
theorem dX2_can_106 : decode cX2_can 106 = .ok (.getfield 15, 3) := by decide +kernel
theorem dX2_can_109 : decode cX2_can 109 = .ok (.aload_n 2, 1) := by decide +kernel
theorem dX2_can_110 : decode cX2_can 110 = .ok (.getfield 121, 3) := by decide +kernel
theorem dX2_can_113 : decode cX2_can 113 = .ok (.iaload, 1) := by decide +kernel
theorem dX2_can_114 : decode cX2_can 114 = .ok (.ifCond .le 33, 3) := by decide +kernel
theorem dX2_can_117 : decode cX2_can 117 = .ok (.aload_n 0, 1) := by decide +kernel
theorem dX2_can_118 : decode cX2_can 118 = .ok (.getfield 43, 3) := by decide +kernel
theorem dX2_can_121 : decode cX2_can 121 = .ok (.getfield 98, 3) := by decide +kernel
theorem dX2_can_124 : decode cX2_can 124 = .ok (.aload_n 2, 1) := by decide +kernel
theorem dX2_can_125 : decode cX2_can 125 = .ok (.getfield 121, 3) := by decide +kernel
theorem dX2_can_128 : decode cX2_can 128 = .ok (.iaload, 1) := by decide +kernel
theorem dX2_can_129 : decode cX2_can 129 = .ok (.aload_n 0, 1) := by decide +kernel
theorem dX2_can_130 : decode cX2_can 130 = .ok (.getfield 15, 3) := by decide +kernel
theorem dX2_can_133 : decode cX2_can 133 = .ok (.aload_n 2, 1) := by decide +kernel
theorem dX2_can_134 : decode cX2_can 134 = .ok (.getfield 121, 3) := by decide +kernel
theorem dX2_can_137 : decode cX2_can 137 = .ok (.iaload, 1) := by decide +kernel
theorem dX2_can_138 : decode cX2_can 138 = .ok (.if_icmp .ge 7, 3) := by decide +kernel
theorem dX2_can_141 : decode cX2_can 141 = .ok (.iconst 1, 1) := by decide +kernel
theorem dX2_can_142 : decode cX2_can 142 = .ok (.goto 4, 3) := by decide +kernel
theorem dX2_can_145 : decode cX2_can 145 = .ok (.iconst 0, 1) := by decide +kernel
theorem dX2_can_146 : decode cX2_can 146 = .ok (.ireturn, 1) := by decide +kernel
theorem dX2_can_147 : decode cX2_can 147 = .ok (.iconst 0, 1) := by decide +kernel
theorem dX2_can_148 : decode cX2_can 148 = .ok (.istore_n 3, 1) := by decide +kernel
theorem dX2_can_149 : decode cX2_can 149 = .ok (.iconst 0, 1) := by decide +kernel
theorem dX2_can_150 : decode cX2_can 150 = .ok (.istore 4, 2) := by decide +kernel
theorem dX2_can_152 : decode cX2_can 152 = .ok (.iload 4, 2) := by decide +kernel
theorem dX2_can_154 : decode cX2_can 154 = .ok (.aload_n 0, 1) := by decide +kernel
theorem dX2_can_155 : decode cX2_can 155 = .ok (.getfield 83, 3) := by decide +kernel
theorem dX2_can_158 : decode cX2_can 158 = .ok (.if_icmp .ge 29, 3) := by decide +kernel
theorem dX2_can_161 : decode cX2_can 161 = .ok (.iload_n 3, 1) := by decide +kernel
theorem dX2_can_162 : decode cX2_can 162 = .ok (.ifCond .ne 13, 3) := by decide +kernel
theorem dX2_can_165 : decode cX2_can 165 = .ok (.aload_n 0, 1) := by decide +kernel
theorem dX2_can_166 : decode cX2_can 166 = .ok (.iload_n 1, 1) := by decide +kernel
theorem dX2_can_167 : decode cX2_can 167 = .ok (.iload 4, 2) := by decide +kernel
theorem dX2_can_169 : decode cX2_can 169 = .ok (.invokevirtual 145, 3) := by decide +kernel
theorem dX2_can_172 : decode cX2_can 172 = .ok (.ifCond .eq 7, 3) := by decide +kernel
theorem dX2_can_175 : decode cX2_can 175 = .ok (.iconst 1, 1) := by decide +kernel
theorem dX2_can_176 : decode cX2_can 176 = .ok (.goto 4, 3) := by decide +kernel
theorem dX2_can_179 : decode cX2_can 179 = .ok (.iconst 0, 1) := by decide +kernel
theorem dX2_can_180 : decode cX2_can 180 = .ok (.istore_n 3, 1) := by decide +kernel
theorem dX2_can_181 : decode cX2_can 181 = .ok (.iinc 4 1, 3) := by decide +kernel
theorem dX2_can_184 : decode cX2_can 184 = .ok (.goto (-32), 3) := by decide +kernel
theorem dX2_can_187 : decode cX2_can 187 = .ok (.iload_n 3, 1) := by decide +kernel
theorem dX2_can_188 : decode cX2_can 188 = .ok (.ireturn, 1) := by decide +kernel
abbrev MX2_can : zT := (yX2_can, cX2_can, 5, (Option.some Jvm.ClassFile.FieldType.boolean), [])
theorem plX2_can : zplain MX2_can 1 ∧ (zcodeW MX2_can ∈ lw_all ∧ Cond.initialized MX2_can.1.cls ∈ lw_all) := ⟨⟨by decide +kernel, by decide +kernel⟩, q1467, q106⟩
noncomputable def f_X2_can_64 (t0 : Int) (σ : zM) : Option zO :=
  zgd (z01 t0) <|
  some (0, zi t0, σ)
theorem w_X2_can_64 {g : zG} {lv : Nat} {out : zO} (t0 : Int) (σ : zM) {r : zO} (h : f_X2_can_64 t0 σ = some r) (hk : (fun o : zO => o = out) r) : Gj g MX2_can (lv + 41) 64 [] [zi t0] σ out := by
  revert h
  unfold f_X2_can_64
  refine gb_gd (fun hb => ?_)
  intro h
  cases h
  have hk : (0, zi t0, σ) = out := hk
  subst hk
  exact gj_ret (pc := 64) (t := .boolean) dX2_can_64 rfl ⟨rfl, rfl⟩ (fun _ => z01E hb)
noncomputable def f_X2_can_187 (x3 : Int) (σ : zM) : Option zO :=
  zgd (z01 x3) <|
  some (0, zi x3, σ)
theorem w_X2_can_187 {g : zG} {lv : Nat} {out : zO} (x3 : Int) (σ : zM) {r : zO} (h : f_X2_can_187 x3 σ = some r) (hk : (fun o : zO => o = out) r) : Gj g MX2_can (lv + 41) 187 [(3, zi x3)] [] σ out := by
  revert h
  unfold f_X2_can_187
  refine zst_ (gj_iload_n 0 (pc := 187) dX2_can_187 rfl) ?_
  refine gb_gd (fun hb => ?_)
  intro h
  cases h
  have hk : (0, zi x3, σ) = out := hk
  subst hk
  exact gj_ret (pc := 188) (t := .boolean) dX2_can_188 rfl ⟨rfl, rfl⟩ (fun _ => z01E hb)
noncomputable def f_X2_can_180 (x0 x1 x4 t0 : Int) (σ : zM) : Option ((Int × Int × zM) ⊕ zO) :=
  zlet (zadd x4 1) fun y1 =>
  some (.inl (t0, y1, σ))
theorem w_X2_can_180 {g : zG} {lv : Nat} {out : zO} (x0 x1 x4 t0 : Int) (σ : zM) {r : ((Int × Int × zM) ⊕ zO)} (h : f_X2_can_180 x0 x1 x4 t0 σ = some r) (hk : (zKL (fun s : Int × Int × zM => Gj g MX2_can (lv + 41) 152 [(0, zr x0), (1, zi x1), (3, zi s.1), (4, zi s.2.1)] [] s.2.2 out) (fun o : zO => o = out)) r) : Gj g MX2_can (lv + 41) 180 [(0, zr x0), (1, zi x1), (4, zi x4)] [zi t0] σ out := by
  revert h
  unfold f_X2_can_180
  refine zst_ (gj_istore_n (pc := 180) (ls' := [(3, zi t0), (0, zr x0), (1, zi x1), (4, zi x4)]) dX2_can_180 (by decide) rfl) ?_
  refine gb_iinc (pc := 181) 3 (fun y1 => [(4, zi y1), (3, zi t0), (0, zr x0), (1, zi x1)]) dX2_can_181 rfl (by decide) (fun _ => rfl) (fun y1 => ?_)
  refine zst_ (gj_goto 152 (pc := 184) dX2_can_184 (by decide)) ?_
  refine zst_ (gj_sub [2, 3, 1, 0] rfl) ?_
  intro h
  cases h
  exact hk
noncomputable def f_X2_can_175 (x0 x1 x4 : Int) (σ : zM) : Option ((Int × Int × zM) ⊕ zO) :=
  f_X2_can_180 x0 x1 x4 1 σ
theorem w_X2_can_175 {g : zG} {lv : Nat} {out : zO} (x0 x1 x4 : Int) (σ : zM) {r : ((Int × Int × zM) ⊕ zO)} (h : f_X2_can_175 x0 x1 x4 σ = some r) (hk : (zKL (fun s : Int × Int × zM => Gj g MX2_can (lv + 41) 152 [(0, zr x0), (1, zi x1), (3, zi s.1), (4, zi s.2.1)] [] s.2.2 out) (fun o : zO => o = out)) r) : Gj g MX2_can (lv + 41) 175 [(0, zr x0), (1, zi x1), (4, zi x4)] [] σ out := by
  revert h
  unfold f_X2_can_175
  refine zst_ (gj_iconst (pc := 175) dX2_can_175 (by decide)) ?_
  refine zst_ (gj_goto 180 (pc := 176) dX2_can_176 (by decide)) ?_
  exact fun h => w_X2_can_180 x0 x1 x4 1 σ h hk
noncomputable def f_X2_can_152_b (x0 x1 x3 x4 : Int) (σ : zM) : Option ((Int × Int × zM) ⊕ zO) :=
  (zgf σ 205 x0).bind fun v1 =>
  if v1 ≤ x4 then
    (f_X2_can_187 x3 σ).map (fun r => (.inr r))
  else
    if x3 ≠ 0 then
      f_X2_can_175 x0 x1 x4 σ
    else
      zgd (zis σ 3 x0) <|
      zci (f_X2_meets x0 x1 x4 σ) fun v2 σ3 =>
      if v2 = 0 then
        f_X2_can_180 x0 x1 x4 0 σ3
      else
        f_X2_can_175 x0 x1 x4 σ3
noncomputable def f_X2_can_152 (x0 x1 x3 x4 : Int) (σ : zM) : Option zO :=
  zloop (fun s : Int × Int × zM => f_X2_can_152_b x0 x1 s.1 s.2.1 s.2.2) (x3, x4, σ)
theorem w_X2_can_152_b {g : zG} {lv : Nat} {out : zO} (x0 x1 x3 x4 : Int) (σ : zM) {r : ((Int × Int × zM) ⊕ zO)} (h : f_X2_can_152_b x0 x1 x3 x4 σ = some r) (hk : (zKL (fun s : Int × Int × zM => Gj g MX2_can (lv + 41) 152 [(0, zr x0), (1, zi x1), (3, zi s.1), (4, zi s.2.1)] [] s.2.2 out) (fun o : zO => o = out)) r) : Gj g MX2_can (lv + 41) 152 [(0, zr x0), (1, zi x1), (3, zi x3), (4, zi x4)] [] σ out := by
  revert h
  unfold f_X2_can_152_b
  refine zst_ (gj_iload 3 (pc := 152) dX2_can_152 rfl) ?_
  refine zst_ (gj_aload_n 0 (pc := 154) dX2_can_154 rfl) ?_
  refine gb_get (pc := 155) fl205 dX2_can_155 q281 (Or.inl rfl) (fun v1 => ?_)
  refine gb_if (gj_icmp_ge 187 (pc := 158) dX2_can_158 (by decide)) ?_ ?_
  · refine zst_ (gj_sub [2] rfl) ?_
    intro h
    obtain ⟨r0, h0, rfl⟩ := zmE h
    exact w_X2_can_187 x3 σ h0 hk
  · refine zst_ (gj_iload_n 2 (pc := 161) dX2_can_161 rfl) ?_
    refine gb_if (gj_if_ne 175 (pc := 162) dX2_can_162 (by decide)) ?_ ?_
    · refine zst_ (gj_sub [0, 1, 3] rfl) ?_
      exact fun h => w_X2_can_175 x0 x1 x4 σ h hk
    · refine zst_ (gj_aload_n 0 (pc := 165) dX2_can_165 rfl) ?_
      refine zst_ (gj_iload_n 1 (pc := 166) dX2_can_166 rfl) ?_
      refine zst_ (gj_iload 3 (pc := 167) dX2_can_167 rfl) ?_
      refine gb_gd (fun hb => ?_)
      refine gb_callI (pc := 169) (as := [zr x0, zi x1, zi x4]) (rest := []) (zCl.of (zLk_V (M := MX2_can) (ci := 2) (r := (RX2, TX2, 22)) plX2_meets.1 rfl rfl (zisE hb).1 (zisE hb).2 dX2_can_169 q1494 q1496 qs22 q1497) plX2_meets (Nat.le_of_ble_eq_true rfl) (fun h => c_X2_meets h)) (fun v2 σ3 => ?_)
      refine gb_if (gj_if_eq 179 (pc := 172) dX2_can_172 (by decide)) ?_ ?_
      · refine zst_ (gj_iconst (pc := 179) dX2_can_179 (by decide)) ?_
        refine zst_ (gj_sub [0, 1, 3] rfl) ?_
        exact fun h => w_X2_can_180 x0 x1 x4 0 σ3 h hk
      · refine zst_ (gj_sub [0, 1, 3] rfl) ?_
        exact fun h => w_X2_can_175 x0 x1 x4 σ3 h hk
theorem w_X2_can_152 {g : zG} {lv : Nat} {out : zO} (x0 x1 x3 x4 : Int) (σ : zM) {r : zO} (h : f_X2_can_152 x0 x1 x3 x4 σ = some r) (hk : (fun o : zO => o = out) r) : Gj g MX2_can (lv + 41) 152 [(0, zr x0), (1, zi x1), (3, zi x3), (4, zi x4)] [] σ out :=
  gj_loop (P := (fun s : Int × Int × zM => Gj g MX2_can (lv + 41) 152 [(0, zr x0), (1, zi x1), (3, zi s.1), (4, zi s.2.1)] [] s.2.2 out)) (fun s x hb hx => w_X2_can_152_b x0 x1 s.1 s.2.1 s.2.2 hb hx) h hk
noncomputable def f_X2_can_146 (t0 : Int) (σ : zM) : Option zO :=
  zgd (z01 t0) <|
  some (0, zi t0, σ)
theorem w_X2_can_146 {g : zG} {lv : Nat} {out : zO} (t0 : Int) (σ : zM) {r : zO} (h : f_X2_can_146 t0 σ = some r) (hk : (fun o : zO => o = out) r) : Gj g MX2_can (lv + 41) 146 [] [zi t0] σ out := by
  revert h
  unfold f_X2_can_146
  refine gb_gd (fun hb => ?_)
  intro h
  cases h
  have hk : (0, zi t0, σ) = out := hk
  subst hk
  exact gj_ret (pc := 146) (t := .boolean) dX2_can_146 rfl ⟨rfl, rfl⟩ (fun _ => z01E hb)
noncomputable def f_X2_can_85 (t0 : Int) (σ : zM) : Option zO :=
  zgd (z01 t0) <|
  some (0, zi t0, σ)
theorem w_X2_can_85 {g : zG} {lv : Nat} {out : zO} (t0 : Int) (σ : zM) {r : zO} (h : f_X2_can_85 t0 σ = some r) (hk : (fun o : zO => o = out) r) : Gj g MX2_can (lv + 41) 85 [] [zi t0] σ out := by
  revert h
  unfold f_X2_can_85
  refine gb_gd (fun hb => ?_)
  intro h
  cases h
  have hk : (0, zi t0, σ) = out := hk
  subst hk
  exact gj_ret (pc := 85) (t := .boolean) dX2_can_85 rfl ⟨rfl, rfl⟩ (fun _ => z01E hb)
noncomputable def f_X2_can_104 (t0 : Int) (σ : zM) : Option zO :=
  zgd (z01 t0) <|
  some (0, zi t0, σ)
theorem w_X2_can_104 {g : zG} {lv : Nat} {out : zO} (t0 : Int) (σ : zM) {r : zO} (h : f_X2_can_104 t0 σ = some r) (hk : (fun o : zO => o = out) r) : Gj g MX2_can (lv + 41) 104 [] [zi t0] σ out := by
  revert h
  unfold f_X2_can_104
  refine gb_gd (fun hb => ?_)
  intro h
  cases h
  have hk : (0, zi t0, σ) = out := hk
  subst hk
  exact gj_ret (pc := 104) (t := .boolean) dX2_can_104 rfl ⟨rfl, rfl⟩ (fun _ => z01E hb)
noncomputable def f_X2_can (x0 x1 : Int) (σ : zM) : Option zO :=
  (zgf σ 207 x0).bind fun v1 =>
  (zga σ 106 v1 x1).bind fun v2 =>
  (zgf σ 1100 v2).bind fun v3 =>
  zgd (zen v3) <|
  zci (f_J20_ordinal v3 σ) fun v4 σ5 =>
  if v4 = 1 then
    (zgf σ5 1111 v2).bind fun v6 =>
    (zgf σ5 211 x0).bind fun v7 =>
    (zgf σ5 300 v7).bind fun v8 =>
    zci ((if zis σ5 13 v6 = true then f_X12_of v6 v8 σ5 else if zis σ5 14 v6 = true then f_X13_of v6 v8 σ5 else if zis σ5 15 v6 = true then f_G_X14_of 40 0 [v6, v8] σ5 else none)) fun v9 σ10 =>
    if v9 = 0 then
      f_X2_can_64 0 σ10
    else
      f_X2_can_64 1 σ10
  else if v4 = 2 then
    (zgf σ5 201 x0).bind fun v11 =>
    (zgf σ5 1107 v2).bind fun v12 =>
    (zga σ5 101 v11 v12).bind fun v13 =>
    if v13 ≤ 0 then
      f_X2_can_152 x0 x1 0 0 σ5
    else
      (zgf σ5 211 x0).bind fun v14 =>
      (zgf σ5 300 v14).bind fun v15 =>
      (zgf σ5 1107 v2).bind fun v16 =>
      (zga σ5 101 v15 v16).bind fun v17 =>
      (zgf σ5 201 x0).bind fun v18 =>
      (zgf σ5 1107 v2).bind fun v19 =>
      (zga σ5 101 v18 v19).bind fun v20 =>
      if v20 ≤ v17 then
        f_X2_can_146 0 σ5
      else
        f_X2_can_146 1 σ5
  else if v4 = 3 then
    (zgf σ5 211 x0).bind fun v21 =>
    (zgf σ5 300 v21).bind fun v22 =>
    (zgf σ5 1107 v2).bind fun v23 =>
    (zga σ5 101 v22 v23).bind fun v24 =>
    if v24 ≤ 0 then
      f_X2_can_85 0 σ5
    else
      f_X2_can_85 1 σ5
  else 
    (zgf σ5 1100 v2).bind fun v25 =>
    if v25 = (-7) then
      f_X2_can_104 0 σ5
    else
      f_X2_can_104 1 σ5
theorem c_X2_can {g : zG} {lv : Nat} {x0 x1 : Int} {σ : zM} {out : zO} (h : f_X2_can x0 x1 σ = some out) : Cj g (lv + 41) MX2_can [zr x0, zi x1] σ out := by
  refine cj_go (ls := [(0, zr x0), (1, zi x1)]) (by decide) (Nat.le_of_ble_eq_true rfl) rfl (zgen h (fun r hk => ?_))
  unfold f_X2_can
  refine zst_ (gj_aload_n 0 (pc := 0) dX2_can_0 rfl) ?_
  refine gb_get (pc := 1) fl207 dX2_can_1 q287 (Or.inl rfl) (fun v1 => ?_)
  refine zst_ (gj_iload_n 1 (pc := 4) dX2_can_4 rfl) ?_
  refine gb_aald (pc := 5) (k := 106) ⟨by decide, by decide⟩ dX2_can_5 (fun v2 => ?_)
  refine zst_ (gj_astore_n (pc := 6) (ls' := [(2, zr v2), (0, zr x0), (1, zi x1)]) dX2_can_6 (by decide) rfl) ?_
  refine zst_ (gj_aload_n 0 (pc := 7) dX2_can_7 rfl) ?_
  refine gb_getNe (pc := 8) fl1100 dX2_can_8 q1156 (Or.inl rfl) (fun v3 => ?_)
  refine gb_gd (fun hb => ?_)
  refine gb_callI (pc := 11) (as := [zr v3]) (rest := []) (zCl.of (zLk_RU (M := MX2_can) (x := ⟨"LassoFinder$Kind", "ordinal", "()I"⟩) plJ20_ordinal.1 ⟨rfl, rfl⟩ rfl (zRcv_enum hb) dX2_can_11 q1468 q1408 q1411 q1410 q1412) plJ20_ordinal (Nat.le_of_ble_eq_true rfl) (fun h => c_J20_ordinal h)) (fun v4 σ5 => ?_)
  refine gb_ite (fun hc0 => ?_) (fun hc0 => ?_)
  · refine zst_ (fun kk => gj_table (pc := 14) dX2_can_14 89 (by decide) (fun hx => absurd hx (by omega)) (fun _ _ => ⟨26, 40, by rw [hc0]; rfl, by decide, kk⟩)) ?_
    refine zst_ (gj_aload_n 0 (pc := 40) dX2_can_40 rfl) ?_
    refine gb_getNe (pc := 41) fl1111 dX2_can_41 q1180 (Or.inl rfl) (fun v6 => ?_)
    refine zst_ (gj_aload_n 1 (pc := 44) dX2_can_44 rfl) ?_
    refine gb_get (pc := 45) fl211 dX2_can_45 q295 (Or.inl rfl) (fun v7 => ?_)
    refine gb_getNe (pc := 48) fl300 dX2_can_48 q207 (Or.inl rfl) (fun v8 => ?_)
    refine gb_callI (pc := 51) (as := [zr v6, zr v8]) (rest := []) (zCl.ite (fun hb => zCl.of (zLk_F (M := MX2_can) (ci := 12) (r := (RX12, TX12, 1)) (x := ⟨"LassoFinder$Expression", "of", "([I)I"⟩) plX12_of.1 ⟨rfl, rfl⟩ (by decide) rfl rfl (zisE hb).1 (zisE hb).2 dX2_can_51 q1470 q1476 q1474 q1478 q1472 q1471 q1477 q1475 q1473) plX12_of (Nat.le_of_ble_eq_true rfl) (fun h => c_X12_of h)) (zCl.ite (fun hb => zCl.of (zLk_F (M := MX2_can) (ci := 13) (r := (RX13, TX13, 1)) (x := ⟨"LassoFinder$Expression", "of", "([I)I"⟩) plX13_of.1 ⟨rfl, rfl⟩ (by decide) rfl rfl (zisE hb).1 (zisE hb).2 dX2_can_51 q1470 q1482 q1480 q1484 q1472 q1471 q1483 q1481 q1479) plX13_of (Nat.le_of_ble_eq_true rfl) (fun h => c_X13_of h)) (zCl.ite (fun hb => zCl.of (zLk_F (M := MX2_can) (ci := 14) (r := (RX14, TX14, 3)) (x := ⟨"LassoFinder$Expression", "of", "([I)I"⟩) plX14_of.1 ⟨rfl, rfl⟩ (by decide) rfl rfl (zisE hb).1 (zisE hb).2 dX2_can_51 q1470 q1488 q1486 q1490 q1472 q1471 q1489 q1487 q1485) plX14_of (Nat.le_of_ble_eq_true rfl) (fun h => c_G_X14_of_0 h)) zCl.no))) (fun v9 σ10 => ?_)
    refine gb_if (gj_if_eq 63 (pc := 56) dX2_can_56 (by decide)) ?_ ?_
    · refine zst_ (gj_iconst (pc := 63) dX2_can_63 (by decide)) ?_
      refine zst_ (gj_sub [] rfl) ?_
      exact fun h => w_X2_can_64 0 σ10 h hk
    · refine zst_ (gj_iconst (pc := 59) dX2_can_59 (by decide)) ?_
      refine zst_ (gj_goto 64 (pc := 60) dX2_can_60 (by decide)) ?_
      refine zst_ (gj_sub [] rfl) ?_
      exact fun h => w_X2_can_64 1 σ10 h hk
  · refine gb_ite (fun hc1 => ?_) (fun hc1 => ?_)
    · refine zst_ (fun kk => gj_table (pc := 14) dX2_can_14 89 (by decide) (fun hx => absurd hx (by omega)) (fun _ _ => ⟨72, 86, by rw [hc1]; rfl, by decide, kk⟩)) ?_
      refine zst_ (gj_goto 105 (pc := 86) dX2_can_86 (by decide)) ?_
      refine zst_ (gj_aload_n 1 (pc := 105) dX2_can_105 rfl) ?_
      refine gb_get (pc := 106) fl201 dX2_can_106 q272 (Or.inl rfl) (fun v11 => ?_)
      refine zst_ (gj_aload_n 0 (pc := 109) dX2_can_109 rfl) ?_
      refine gb_getNe (pc := 110) fl1107 dX2_can_110 q1170 (Or.inl rfl) (fun v12 => ?_)
      refine gb_iald (pc := 113) dX2_can_113 (fun v13 => ?_)
      refine gb_if (gj_if_le 147 (pc := 114) dX2_can_114 (by decide)) ?_ ?_
      · refine zst_ (gj_iconst (pc := 147) dX2_can_147 (by decide)) ?_
        refine zst_ (gj_istore_n (pc := 148) (ls' := [(3, zi 0), (2, zr v2), (0, zr x0), (1, zi x1)]) dX2_can_148 (by decide) rfl) ?_
        refine zst_ (gj_iconst (pc := 149) dX2_can_149 (by decide)) ?_
        refine zst_ (gj_istore (pc := 150) (ls' := [(4, zi 0), (3, zi 0), (2, zr v2), (0, zr x0), (1, zi x1)]) dX2_can_150 (by decide) rfl) ?_
        refine zst_ (gj_sub [3, 4, 1, 0] rfl) ?_
        exact fun h => w_X2_can_152 x0 x1 0 0 σ5 h hk
      · refine zst_ (gj_aload_n 1 (pc := 117) dX2_can_117 rfl) ?_
        refine gb_get (pc := 118) fl211 dX2_can_118 q295 (Or.inl rfl) (fun v14 => ?_)
        refine gb_getNe (pc := 121) fl300 dX2_can_121 q207 (Or.inl rfl) (fun v15 => ?_)
        refine zst_ (gj_aload_n 0 (pc := 124) dX2_can_124 rfl) ?_
        refine gb_getNe (pc := 125) fl1107 dX2_can_125 q1170 (Or.inl rfl) (fun v16 => ?_)
        refine gb_iald (pc := 128) dX2_can_128 (fun v17 => ?_)
        refine zst_ (gj_aload_n 1 (pc := 129) dX2_can_129 rfl) ?_
        refine gb_get (pc := 130) fl201 dX2_can_130 q272 (Or.inl rfl) (fun v18 => ?_)
        refine zst_ (gj_aload_n 0 (pc := 133) dX2_can_133 rfl) ?_
        refine gb_getNe (pc := 134) fl1107 dX2_can_134 q1170 (Or.inl rfl) (fun v19 => ?_)
        refine gb_iald (pc := 137) dX2_can_137 (fun v20 => ?_)
        refine gb_if (gj_icmp_ge 145 (pc := 138) dX2_can_138 (by decide)) ?_ ?_
        · refine zst_ (gj_iconst (pc := 145) dX2_can_145 (by decide)) ?_
          refine zst_ (gj_sub [] rfl) ?_
          exact fun h => w_X2_can_146 0 σ5 h hk
        · refine zst_ (gj_iconst (pc := 141) dX2_can_141 (by decide)) ?_
          refine zst_ (gj_goto 146 (pc := 142) dX2_can_142 (by decide)) ?_
          refine zst_ (gj_sub [] rfl) ?_
          exact fun h => w_X2_can_146 1 σ5 h hk
    · refine gb_ite (fun hc2 => ?_) (fun hc2 => ?_)
      · refine zst_ (fun kk => gj_table (pc := 14) dX2_can_14 89 (by decide) (fun hx => absurd hx (by omega)) (fun _ _ => ⟨51, 65, by rw [hc2]; rfl, by decide, kk⟩)) ?_
        refine zst_ (gj_aload_n 1 (pc := 65) dX2_can_65 rfl) ?_
        refine gb_get (pc := 66) fl211 dX2_can_66 q295 (Or.inl rfl) (fun v21 => ?_)
        refine gb_getNe (pc := 69) fl300 dX2_can_69 q207 (Or.inl rfl) (fun v22 => ?_)
        refine zst_ (gj_aload_n 0 (pc := 72) dX2_can_72 rfl) ?_
        refine gb_getNe (pc := 73) fl1107 dX2_can_73 q1170 (Or.inl rfl) (fun v23 => ?_)
        refine gb_iald (pc := 76) dX2_can_76 (fun v24 => ?_)
        refine gb_if (gj_if_le 84 (pc := 77) dX2_can_77 (by decide)) ?_ ?_
        · refine zst_ (gj_iconst (pc := 84) dX2_can_84 (by decide)) ?_
          refine zst_ (gj_sub [] rfl) ?_
          exact fun h => w_X2_can_85 0 σ5 h hk
        · refine zst_ (gj_iconst (pc := 80) dX2_can_80 (by decide)) ?_
          refine zst_ (gj_goto 85 (pc := 81) dX2_can_81 (by decide)) ?_
          refine zst_ (gj_sub [] rfl) ?_
          exact fun h => w_X2_can_85 1 σ5 h hk
      · refine zst_ (fun kk => gj_table (pc := 14) dX2_can_14 89 (by decide) (fun _ => kk) (fun h1 h2 => absurd h1 (by omega))) ?_
        refine zst_ (gj_aload_n 0 (pc := 89) dX2_can_89 rfl) ?_
        refine gb_getNe (pc := 90) fl1100 dX2_can_90 q1156 (Or.inl rfl) (fun v25 => ?_)
        refine zst_ (gj_enumL (pc := 93) (i := 5) (by decide) rfl rfl dX2_can_93 q1493 rfl) ?_
        refine gb_if (gj_acmp_eq 103 (pc := 96) dX2_can_96 (by decide)) ?_ ?_
        · refine zst_ (gj_iconst (pc := 103) dX2_can_103 (by decide)) ?_
          refine zst_ (gj_sub [] rfl) ?_
          exact fun h => w_X2_can_104 0 σ5 h hk
        · refine zst_ (gj_iconst (pc := 99) dX2_can_99 (by decide)) ?_
          refine zst_ (gj_goto 104 (pc := 100) dX2_can_100 (by decide)) ?_
          refine zst_ (gj_sub [] rfl) ?_
          exact fun h => w_X2_can_104 1 σ5 h hk
theorem q1459 : (Jvm.Cond.code ({ cls := "LassoFinder$Model", name := "acts", desc := "(IZ)Z" } : Jvm.MethodName) prog_9_method_10_code (5 : Nat) (Option.some Jvm.ClassFile.FieldType.boolean)) ∈ lw_all := lw_g (lw_at lw_m6 159 rfl) rfl
theorem q1464 : (Jvm.Cond.methodLink "LassoFinder$Model" (149 : Nat) ({ cls := "LassoFinder$Model", name := "can", desc := "(I)Z" } : Jvm.MethodName)) ∈ lw_all := lw_g (lw_at lw_m6 164 rfl) rfl
theorem q1466 : (Jvm.Cond.instanceMethod ({ cls := "LassoFinder$Model", name := "can", desc := "(I)Z" } : Jvm.MethodName)) ∈ lw_all := lw_g (lw_at lw_m6 166 rfl) rfl
abbrev cX2_acts : ByteArray := prog_9_method_10_code
def yX2_acts : MethodName := ⟨RX2, "acts", "(IZ)Z"⟩
theorem dX2_acts_0 : decode cX2_acts 0 = .ok (.iconst 0, 1) := by decide +kernel
theorem dX2_acts_1 : decode cX2_acts 1 = .ok (.istore_n 3, 1) := by decide +kernel
theorem dX2_acts_2 : decode cX2_acts 2 = .ok (.iconst 0, 1) := by decide +kernel
theorem dX2_acts_3 : decode cX2_acts 3 = .ok (.istore 4, 2) := by decide +kernel
theorem dX2_acts_5 : decode cX2_acts 5 = .ok (.iload 4, 2) := by decide +kernel
theorem dX2_acts_7 : decode cX2_acts 7 = .ok (.aload_n 0, 1) := by decide +kernel
theorem dX2_acts_8 : decode cX2_acts 8 = .ok (.getfield 83, 3) := by decide +kernel
theorem dX2_acts_11 : decode cX2_acts 11 = .ok (.if_icmp .ge 68, 3) := by decide +kernel
theorem dX2_acts_14 : decode cX2_acts 14 = .ok (.iload_n 3, 1) := by decide +kernel
theorem dX2_acts_15 : decode cX2_acts 15 = .ok (.ifCond .ne 52, 3) := by decide +kernel
theorem dX2_acts_18 : decode cX2_acts 18 = .ok (.aload_n 0, 1) := by decide +kernel
theorem dX2_acts_19 : decode cX2_acts 19 = .ok (.getfield 30, 3) := by decide +kernel
theorem dX2_acts_22 : decode cX2_acts 22 = .ok (.iload 4, 2) := by decide +kernel
theorem dX2_acts_24 : decode cX2_acts 24 = .ok (.iaload, 1) := by decide +kernel
theorem dX2_acts_25 : decode cX2_acts 25 = .ok (.iload_n 1, 1) := by decide +kernel
theorem dX2_acts_26 : decode cX2_acts 26 = .ok (.if_icmp .ne 45, 3) := by decide +kernel
theorem dX2_acts_29 : decode cX2_acts 29 = .ok (.aload_n 0, 1) := by decide +kernel
theorem dX2_acts_30 : decode cX2_acts 30 = .ok (.iload 4, 2) := by decide +kernel
theorem dX2_acts_32 : decode cX2_acts 32 = .ok (.invokevirtual 124, 3) := by decide +kernel
theorem dX2_acts_35 : decode cX2_acts 35 = .ok (.ifCond .eq 36, 3) := by decide +kernel
theorem dX2_acts_38 : decode cX2_acts 38 = .ok (.aload_n 0, 1) := by decide +kernel
theorem dX2_acts_39 : decode cX2_acts 39 = .ok (.iload 4, 2) := by decide +kernel
theorem dX2_acts_41 : decode cX2_acts 41 = .ok (.invokevirtual 149, 3) := by decide +kernel
theorem dX2_acts_44 : decode cX2_acts 44 = .ok (.ifCond .ne 23, 3) := by decide +kernel
theorem dX2_acts_47 : decode cX2_acts 47 = .ok (.iload_n 2, 1) := by decide +kernel
theorem dX2_acts_48 : decode cX2_acts 48 = .ok (.ifCond .eq 23, 3) := by decide +kernel
theorem dX2_acts_51 : decode cX2_acts 51 = .ok (.aload_n 0, 1) := by decide +kernel
theorem dX2_acts_52 : decode cX2_acts 52 = .ok (.getfield 26, 3) := by decide +kernel
theorem dX2_acts_55 : decode cX2_acts 55 = .ok (.iload 4, 2) := by decide +kernel
theorem dX2_acts_57 : decode cX2_acts 57 = .ok (.aaload, 1) := by decide +kernel
theorem dX2_acts_58 : decode cX2_acts 58 = .ok (.getfield 112, 3) := by decide +kernel
theorem dX2_acts_61 : decode cX2_acts 61 = .ok (.getstatic 142, 3) := by decide +kernel
theorem dX2_acts_64 : decode cX2_acts 64 = .ok (.if_acmp .ne 7, 3) := by decide +kernel
theorem dX2_acts_67 : decode cX2_acts 67 = .ok (.iconst 1, 1) := by decide +kernel
theorem dX2_acts_68 : decode cX2_acts 68 = .ok (.goto 4, 3) := by decide +kernel
theorem dX2_acts_71 : decode cX2_acts 71 = .ok (.iconst 0, 1) := by decide +kernel
theorem dX2_acts_72 : decode cX2_acts 72 = .ok (.istore_n 3, 1) := by decide +kernel
theorem dX2_acts_73 : decode cX2_acts 73 = .ok (.iinc 4 1, 3) := by decide +kernel
theorem dX2_acts_76 : decode cX2_acts 76 = .ok (.goto (-71), 3) := by decide +kernel
theorem dX2_acts_79 : decode cX2_acts 79 = .ok (.iload_n 3, 1) := by decide +kernel
theorem dX2_acts_80 : decode cX2_acts 80 = .ok (.ireturn, 1) := by decide +kernel
abbrev MX2_acts : zT := (yX2_acts, cX2_acts, 5, (Option.some Jvm.ClassFile.FieldType.boolean), [])
theorem plX2_acts : zplain MX2_acts 2 ∧ (zcodeW MX2_acts ∈ lw_all ∧ Cond.initialized MX2_acts.1.cls ∈ lw_all) := ⟨⟨by decide +kernel, by decide +kernel⟩, q1459, q106⟩
noncomputable def f_X2_acts_79 (x3 : Int) (σ : zM) : Option zO :=
  zgd (z01 x3) <|
  some (0, zi x3, σ)
theorem w_X2_acts_79 {g : zG} {lv : Nat} {out : zO} (x3 : Int) (σ : zM) {r : zO} (h : f_X2_acts_79 x3 σ = some r) (hk : (fun o : zO => o = out) r) : Gj g MX2_acts (lv + 42) 79 [(3, zi x3)] [] σ out := by
  revert h
  unfold f_X2_acts_79
  refine zst_ (gj_iload_n 0 (pc := 79) dX2_acts_79 rfl) ?_
  refine gb_gd (fun hb => ?_)
  intro h
  cases h
  have hk : (0, zi x3, σ) = out := hk
  subst hk
  exact gj_ret (pc := 80) (t := .boolean) dX2_acts_80 rfl ⟨rfl, rfl⟩ (fun _ => z01E hb)
noncomputable def f_X2_acts_72 (x0 x1 x2 x4 t0 : Int) (σ : zM) : Option ((Int × Int × zM) ⊕ zO) :=
  zlet (zadd x4 1) fun y1 =>
  some (.inl (t0, y1, σ))
theorem w_X2_acts_72 {g : zG} {lv : Nat} {out : zO} (x0 x1 x2 x4 t0 : Int) (σ : zM) {r : ((Int × Int × zM) ⊕ zO)} (h : f_X2_acts_72 x0 x1 x2 x4 t0 σ = some r) (hk : (zKL (fun s : Int × Int × zM => Gj g MX2_acts (lv + 42) 5 [(0, zr x0), (1, zi x1), (2, zi x2), (3, zi s.1), (4, zi s.2.1)] [] s.2.2 out) (fun o : zO => o = out)) r) : Gj g MX2_acts (lv + 42) 72 [(0, zr x0), (1, zi x1), (2, zi x2), (4, zi x4)] [zi t0] σ out := by
  revert h
  unfold f_X2_acts_72
  refine zst_ (gj_istore_n (pc := 72) (ls' := [(3, zi t0), (0, zr x0), (1, zi x1), (2, zi x2), (4, zi x4)]) dX2_acts_72 (by decide) rfl) ?_
  refine gb_iinc (pc := 73) 4 (fun y1 => [(4, zi y1), (3, zi t0), (0, zr x0), (1, zi x1), (2, zi x2)]) dX2_acts_73 rfl (by decide) (fun _ => rfl) (fun y1 => ?_)
  refine zst_ (gj_goto 5 (pc := 76) dX2_acts_76 (by decide)) ?_
  refine zst_ (gj_sub [2, 3, 4, 1, 0] rfl) ?_
  intro h
  cases h
  exact hk
noncomputable def f_X2_acts_67 (x0 x1 x2 x4 : Int) (σ : zM) : Option ((Int × Int × zM) ⊕ zO) :=
  f_X2_acts_72 x0 x1 x2 x4 1 σ
theorem w_X2_acts_67 {g : zG} {lv : Nat} {out : zO} (x0 x1 x2 x4 : Int) (σ : zM) {r : ((Int × Int × zM) ⊕ zO)} (h : f_X2_acts_67 x0 x1 x2 x4 σ = some r) (hk : (zKL (fun s : Int × Int × zM => Gj g MX2_acts (lv + 42) 5 [(0, zr x0), (1, zi x1), (2, zi x2), (3, zi s.1), (4, zi s.2.1)] [] s.2.2 out) (fun o : zO => o = out)) r) : Gj g MX2_acts (lv + 42) 67 [(0, zr x0), (1, zi x1), (2, zi x2), (4, zi x4)] [] σ out := by
  revert h
  unfold f_X2_acts_67
  refine zst_ (gj_iconst (pc := 67) dX2_acts_67 (by decide)) ?_
  refine zst_ (gj_goto 72 (pc := 68) dX2_acts_68 (by decide)) ?_
  exact fun h => w_X2_acts_72 x0 x1 x2 x4 1 σ h hk
noncomputable def f_X2_acts_71 (x0 x1 x2 x4 : Int) (σ : zM) : Option ((Int × Int × zM) ⊕ zO) :=
  f_X2_acts_72 x0 x1 x2 x4 0 σ
theorem w_X2_acts_71 {g : zG} {lv : Nat} {out : zO} (x0 x1 x2 x4 : Int) (σ : zM) {r : ((Int × Int × zM) ⊕ zO)} (h : f_X2_acts_71 x0 x1 x2 x4 σ = some r) (hk : (zKL (fun s : Int × Int × zM => Gj g MX2_acts (lv + 42) 5 [(0, zr x0), (1, zi x1), (2, zi x2), (3, zi s.1), (4, zi s.2.1)] [] s.2.2 out) (fun o : zO => o = out)) r) : Gj g MX2_acts (lv + 42) 71 [(0, zr x0), (1, zi x1), (2, zi x2), (4, zi x4)] [] σ out := by
  revert h
  unfold f_X2_acts_71
  refine zst_ (gj_iconst (pc := 71) dX2_acts_71 (by decide)) ?_
  exact fun h => w_X2_acts_72 x0 x1 x2 x4 0 σ h hk
noncomputable def f_X2_acts_5_b (x0 x1 x2 x3 x4 : Int) (σ : zM) : Option ((Int × Int × zM) ⊕ zO) :=
  (zgf σ 205 x0).bind fun v1 =>
  if v1 ≤ x4 then
    (f_X2_acts_79 x3 σ).map (fun r => (.inr r))
  else
    if x3 ≠ 0 then
      f_X2_acts_67 x0 x1 x2 x4 σ
    else
      (zgf σ 208 x0).bind fun v2 =>
      (zga σ 101 v2 x4).bind fun v3 =>
      if v3 ≠ x1 then
        f_X2_acts_71 x0 x1 x2 x4 σ
      else
        zgd (zis σ 3 x0) <|
        zci (f_X2_isAt x0 x4 σ) fun v4 σ5 =>
        if v4 = 0 then
          f_X2_acts_71 x0 x1 x2 x4 σ5
        else
          zgd (zis σ5 3 x0) <|
          zci (f_X2_can x0 x4 σ5) fun v6 σ7 =>
          if v6 ≠ 0 then
            f_X2_acts_67 x0 x1 x2 x4 σ7
          else
            if x2 = 0 then
              f_X2_acts_71 x0 x1 x2 x4 σ7
            else
              (zgf σ7 207 x0).bind fun v8 =>
              (zga σ7 106 v8 x4).bind fun v9 =>
              (zgf σ7 1100 v9).bind fun v10 =>
              if v10 ≠ (-7) then
                f_X2_acts_71 x0 x1 x2 x4 σ7
              else
                f_X2_acts_67 x0 x1 x2 x4 σ7
noncomputable def f_X2_acts_5 (x0 x1 x2 x3 x4 : Int) (σ : zM) : Option zO :=
  zloop (fun s : Int × Int × zM => f_X2_acts_5_b x0 x1 x2 s.1 s.2.1 s.2.2) (x3, x4, σ)
theorem w_X2_acts_5_b {g : zG} {lv : Nat} {out : zO} (x0 x1 x2 x3 x4 : Int) (σ : zM) {r : ((Int × Int × zM) ⊕ zO)} (h : f_X2_acts_5_b x0 x1 x2 x3 x4 σ = some r) (hk : (zKL (fun s : Int × Int × zM => Gj g MX2_acts (lv + 42) 5 [(0, zr x0), (1, zi x1), (2, zi x2), (3, zi s.1), (4, zi s.2.1)] [] s.2.2 out) (fun o : zO => o = out)) r) : Gj g MX2_acts (lv + 42) 5 [(0, zr x0), (1, zi x1), (2, zi x2), (3, zi x3), (4, zi x4)] [] σ out := by
  revert h
  unfold f_X2_acts_5_b
  refine zst_ (gj_iload 4 (pc := 5) dX2_acts_5 rfl) ?_
  refine zst_ (gj_aload_n 0 (pc := 7) dX2_acts_7 rfl) ?_
  refine gb_get (pc := 8) fl205 dX2_acts_8 q281 (Or.inl rfl) (fun v1 => ?_)
  refine gb_if (gj_icmp_ge 79 (pc := 11) dX2_acts_11 (by decide)) ?_ ?_
  · refine zst_ (gj_sub [3] rfl) ?_
    intro h
    obtain ⟨r0, h0, rfl⟩ := zmE h
    exact w_X2_acts_79 x3 σ h0 hk
  · refine zst_ (gj_iload_n 3 (pc := 14) dX2_acts_14 rfl) ?_
    refine gb_if (gj_if_ne 67 (pc := 15) dX2_acts_15 (by decide)) ?_ ?_
    · refine zst_ (gj_sub [0, 1, 2, 4] rfl) ?_
      exact fun h => w_X2_acts_67 x0 x1 x2 x4 σ h hk
    · refine zst_ (gj_aload_n 0 (pc := 18) dX2_acts_18 rfl) ?_
      refine gb_get (pc := 19) fl208 dX2_acts_19 q289 (Or.inl rfl) (fun v2 => ?_)
      refine zst_ (gj_iload 4 (pc := 22) dX2_acts_22 rfl) ?_
      refine gb_iald (pc := 24) dX2_acts_24 (fun v3 => ?_)
      refine zst_ (gj_iload_n 1 (pc := 25) dX2_acts_25 rfl) ?_
      refine gb_if (gj_icmp_ne 71 (pc := 26) dX2_acts_26 (by decide)) ?_ ?_
      · refine zst_ (gj_sub [0, 1, 2, 4] rfl) ?_
        exact fun h => w_X2_acts_71 x0 x1 x2 x4 σ h hk
      · refine zst_ (gj_aload_n 0 (pc := 29) dX2_acts_29 rfl) ?_
        refine zst_ (gj_iload 4 (pc := 30) dX2_acts_30 rfl) ?_
        refine gb_gd (fun hb => ?_)
        refine gb_callI (pc := 32) (as := [zr x0, zi x4]) (rest := []) (zCl.of (zLk_V (M := MX2_acts) (ci := 2) (r := (RX2, TX2, 22)) plX2_isAt.1 rfl rfl (zisE hb).1 (zisE hb).2 dX2_acts_32 q1460 q1462 qs20 q1463) plX2_isAt (Nat.le_of_ble_eq_true rfl) (fun h => c_X2_isAt h)) (fun v4 σ5 => ?_)
        refine gb_if (gj_if_eq 71 (pc := 35) dX2_acts_35 (by decide)) ?_ ?_
        · refine zst_ (gj_sub [0, 1, 2, 4] rfl) ?_
          exact fun h => w_X2_acts_71 x0 x1 x2 x4 σ5 h hk
        · refine zst_ (gj_aload_n 0 (pc := 38) dX2_acts_38 rfl) ?_
          refine zst_ (gj_iload 4 (pc := 39) dX2_acts_39 rfl) ?_
          refine gb_gd (fun hb => ?_)
          refine gb_callI (pc := 41) (as := [zr x0, zi x4]) (rest := []) (zCl.of (zLk_V (M := MX2_acts) (ci := 2) (r := (RX2, TX2, 22)) plX2_can.1 rfl rfl (zisE hb).1 (zisE hb).2 dX2_acts_41 q1464 q1466 qs21 q1467) plX2_can (Nat.le_of_ble_eq_true rfl) (fun h => c_X2_can h)) (fun v6 σ7 => ?_)
          refine gb_if (gj_if_ne 67 (pc := 44) dX2_acts_44 (by decide)) ?_ ?_
          · refine zst_ (gj_sub [0, 1, 2, 4] rfl) ?_
            exact fun h => w_X2_acts_67 x0 x1 x2 x4 σ7 h hk
          · refine zst_ (gj_iload_n 2 (pc := 47) dX2_acts_47 rfl) ?_
            refine gb_if (gj_if_eq 71 (pc := 48) dX2_acts_48 (by decide)) ?_ ?_
            · refine zst_ (gj_sub [0, 1, 2, 4] rfl) ?_
              exact fun h => w_X2_acts_71 x0 x1 x2 x4 σ7 h hk
            · refine zst_ (gj_aload_n 0 (pc := 51) dX2_acts_51 rfl) ?_
              refine gb_get (pc := 52) fl207 dX2_acts_52 q287 (Or.inl rfl) (fun v8 => ?_)
              refine zst_ (gj_iload 4 (pc := 55) dX2_acts_55 rfl) ?_
              refine gb_aald (pc := 57) (k := 106) ⟨by decide, by decide⟩ dX2_acts_57 (fun v9 => ?_)
              refine gb_getNe (pc := 58) fl1100 dX2_acts_58 q1156 (Or.inl rfl) (fun v10 => ?_)
              refine zst_ (gj_enumL (pc := 61) (i := 5) (by decide) rfl rfl dX2_acts_61 q1493 rfl) ?_
              refine gb_if (gj_acmp_ne 71 (pc := 64) dX2_acts_64 (by decide)) ?_ ?_
              · refine zst_ (gj_sub [0, 1, 2, 4] rfl) ?_
                exact fun h => w_X2_acts_71 x0 x1 x2 x4 σ7 h hk
              · refine zst_ (gj_sub [0, 1, 2, 4] rfl) ?_
                exact fun h => w_X2_acts_67 x0 x1 x2 x4 σ7 h hk
theorem w_X2_acts_5 {g : zG} {lv : Nat} {out : zO} (x0 x1 x2 x3 x4 : Int) (σ : zM) {r : zO} (h : f_X2_acts_5 x0 x1 x2 x3 x4 σ = some r) (hk : (fun o : zO => o = out) r) : Gj g MX2_acts (lv + 42) 5 [(0, zr x0), (1, zi x1), (2, zi x2), (3, zi x3), (4, zi x4)] [] σ out :=
  gj_loop (P := (fun s : Int × Int × zM => Gj g MX2_acts (lv + 42) 5 [(0, zr x0), (1, zi x1), (2, zi x2), (3, zi s.1), (4, zi s.2.1)] [] s.2.2 out)) (fun s x hb hx => w_X2_acts_5_b x0 x1 x2 s.1 s.2.1 s.2.2 hb hx) h hk
noncomputable def f_X2_acts (x0 x1 x2 : Int) (σ : zM) : Option zO :=
  f_X2_acts_5 x0 x1 x2 0 0 σ
theorem c_X2_acts {g : zG} {lv : Nat} {x0 x1 x2 : Int} {σ : zM} {out : zO} (h : f_X2_acts x0 x1 x2 σ = some out) : Cj g (lv + 42) MX2_acts [zr x0, zi x1, zi x2] σ out := by
  refine cj_go (ls := [(0, zr x0), (1, zi x1), (2, zi x2)]) (by decide) (Nat.le_of_ble_eq_true rfl) rfl (zgen h (fun r hk => ?_))
  unfold f_X2_acts
  refine zst_ (gj_iconst (pc := 0) dX2_acts_0 (by decide)) ?_
  refine zst_ (gj_istore_n (pc := 1) (ls' := [(3, zi 0), (0, zr x0), (1, zi x1), (2, zi x2)]) dX2_acts_1 (by decide) rfl) ?_
  refine zst_ (gj_iconst (pc := 2) dX2_acts_2 (by decide)) ?_
  refine zst_ (gj_istore (pc := 3) (ls' := [(4, zi 0), (3, zi 0), (0, zr x0), (1, zi x1), (2, zi x2)]) dX2_acts_3 (by decide) rfl) ?_
  refine zst_ (gj_sub [2, 3, 4, 1, 0] rfl) ?_
  exact fun h => w_X2_acts_5 x0 x1 x2 0 0 σ h hk
theorem q107 : (Jvm.Cond.initialized "LassoFinder$Moment") ∈ lw_all := lw_g (lw_at lw_m1 7 rfl) rfl
theorem q205 : (Jvm.Cond.fieldLink "LassoFinder$Moment" (9 : Nat) "LassoFinder$Moment" "numbers" "[I") ∈ lw_all := lw_g (lw_at lw_m1 105 rfl) rfl
theorem q209 : (Jvm.Cond.fieldLink "LassoFinder$Moment" (17 : Nat) "LassoFinder$Moment" "queues" "[[I") ∈ lw_all := lw_g (lw_at lw_m1 109 rfl) rfl
theorem q212 : (Jvm.Cond.fieldLink "LassoFinder$Moment" (20 : Nat) "LassoFinder$Moment" "points" "[I") ∈ lw_all := lw_g (lw_at lw_m1 112 rfl) rfl
theorem q216 : (Jvm.Cond.fieldLink "LassoFinder$Moment" (23 : Nat) "LassoFinder$Moment" "held" "I") ∈ lw_all := lw_g (lw_at lw_m1 116 rfl) rfl
theorem q1507 : (Jvm.Cond.code ({ cls := "LassoFinder$Moment", name := "copy", desc := "(LLassoFinder$Moment;)V" } : Jvm.MethodName) prog_11_method_2_code (4 : Nat) (Option.none : Option Jvm.ClassFile.FieldType)) ∈ lw_all := lw_g (lw_at lw_m6 207 rfl) rfl
abbrev cX3_copy : ByteArray := prog_11_method_2_code
def yX3_copy : MethodName := ⟨RX3, "copy", "(LLassoFinder$Moment;)V"⟩
theorem dX3_copy_0 : decode cX3_copy 0 = .ok (.iconst 0, 1) := by decide +kernel
theorem dX3_copy_1 : decode cX3_copy 1 = .ok (.istore_n 2, 1) := by decide +kernel
theorem dX3_copy_2 : decode cX3_copy 2 = .ok (.iload_n 2, 1) := by decide +kernel
theorem dX3_copy_3 : decode cX3_copy 3 = .ok (.bipush 8, 2) := by decide +kernel
theorem dX3_copy_5 : decode cX3_copy 5 = .ok (.if_icmp .ge 50, 3) := by decide +kernel
theorem dX3_copy_8 : decode cX3_copy 8 = .ok (.aload_n 0, 1) := by decide +kernel
theorem dX3_copy_9 : decode cX3_copy 9 = .ok (.getfield 9, 3) := by decide +kernel
theorem dX3_copy_12 : decode cX3_copy 12 = .ok (.iload_n 2, 1) := by decide +kernel
theorem dX3_copy_13 : decode cX3_copy 13 = .ok (.aload_n 1, 1) := by decide +kernel
theorem dX3_copy_14 : decode cX3_copy 14 = .ok (.getfield 9, 3) := by decide +kernel
theorem dX3_copy_17 : decode cX3_copy 17 = .ok (.iload_n 2, 1) := by decide +kernel
theorem dX3_copy_18 : decode cX3_copy 18 = .ok (.iaload, 1) := by decide +kernel
theorem dX3_copy_19 : decode cX3_copy 19 = .ok (.iastore, 1) := by decide +kernel
theorem dX3_copy_20 : decode cX3_copy 20 = .ok (.iconst 0, 1) := by decide +kernel
theorem dX3_copy_21 : decode cX3_copy 21 = .ok (.istore_n 3, 1) := by decide +kernel
theorem dX3_copy_22 : decode cX3_copy 22 = .ok (.iload_n 3, 1) := by decide +kernel
theorem dX3_copy_23 : decode cX3_copy 23 = .ok (.iconst 3, 1) := by decide +kernel
theorem dX3_copy_24 : decode cX3_copy 24 = .ok (.if_icmp .ge 25, 3) := by decide +kernel
theorem dX3_copy_27 : decode cX3_copy 27 = .ok (.aload_n 0, 1) := by decide +kernel
theorem dX3_copy_28 : decode cX3_copy 28 = .ok (.getfield 17, 3) := by decide +kernel
theorem dX3_copy_31 : decode cX3_copy 31 = .ok (.iload_n 2, 1) := by decide +kernel
theorem dX3_copy_32 : decode cX3_copy 32 = .ok (.aaload, 1) := by decide +kernel
theorem dX3_copy_33 : decode cX3_copy 33 = .ok (.iload_n 3, 1) := by decide +kernel
theorem dX3_copy_34 : decode cX3_copy 34 = .ok (.aload_n 1, 1) := by decide +kernel
theorem dX3_copy_35 : decode cX3_copy 35 = .ok (.getfield 17, 3) := by decide +kernel
theorem dX3_copy_38 : decode cX3_copy 38 = .ok (.iload_n 2, 1) := by decide +kernel
theorem dX3_copy_39 : decode cX3_copy 39 = .ok (.aaload, 1) := by decide +kernel
theorem dX3_copy_40 : decode cX3_copy 40 = .ok (.iload_n 3, 1) := by decide +kernel
theorem dX3_copy_41 : decode cX3_copy 41 = .ok (.iaload, 1) := by decide +kernel
theorem dX3_copy_42 : decode cX3_copy 42 = .ok (.iastore, 1) := by decide +kernel
theorem dX3_copy_43 : decode cX3_copy 43 = .ok (.iinc 3 1, 3) := by decide +kernel
theorem dX3_copy_46 : decode cX3_copy 46 = .ok (.goto (-24), 3) := by decide +kernel
theorem dX3_copy_49 : decode cX3_copy 49 = .ok (.iinc 2 1, 3) := by decide +kernel
theorem dX3_copy_52 : decode cX3_copy 52 = .ok (.goto (-50), 3) := by decide +kernel
theorem dX3_copy_55 : decode cX3_copy 55 = .ok (.iconst 0, 1) := by decide +kernel
theorem dX3_copy_56 : decode cX3_copy 56 = .ok (.istore_n 2, 1) := by decide +kernel
theorem dX3_copy_57 : decode cX3_copy 57 = .ok (.iload_n 2, 1) := by decide +kernel
theorem dX3_copy_58 : decode cX3_copy 58 = .ok (.iconst 4, 1) := by decide +kernel
theorem dX3_copy_59 : decode cX3_copy 59 = .ok (.if_icmp .ge 21, 3) := by decide +kernel
theorem dX3_copy_62 : decode cX3_copy 62 = .ok (.aload_n 0, 1) := by decide +kernel
theorem dX3_copy_63 : decode cX3_copy 63 = .ok (.getfield 20, 3) := by decide +kernel
theorem dX3_copy_66 : decode cX3_copy 66 = .ok (.iload_n 2, 1) := by decide +kernel
theorem dX3_copy_67 : decode cX3_copy 67 = .ok (.aload_n 1, 1) := by decide +kernel
theorem dX3_copy_68 : decode cX3_copy 68 = .ok (.getfield 20, 3) := by decide +kernel
theorem dX3_copy_71 : decode cX3_copy 71 = .ok (.iload_n 2, 1) := by decide +kernel
theorem dX3_copy_72 : decode cX3_copy 72 = .ok (.iaload, 1) := by decide +kernel
theorem dX3_copy_73 : decode cX3_copy 73 = .ok (.iastore, 1) := by decide +kernel
theorem dX3_copy_74 : decode cX3_copy 74 = .ok (.iinc 2 1, 3) := by decide +kernel
theorem dX3_copy_77 : decode cX3_copy 77 = .ok (.goto (-20), 3) := by decide +kernel
theorem dX3_copy_80 : decode cX3_copy 80 = .ok (.aload_n 0, 1) := by decide +kernel
theorem dX3_copy_81 : decode cX3_copy 81 = .ok (.aload_n 1, 1) := by decide +kernel
theorem dX3_copy_82 : decode cX3_copy 82 = .ok (.getfield 23, 3) := by decide +kernel
theorem dX3_copy_85 : decode cX3_copy 85 = .ok (.putfield 23, 3) := by decide +kernel
theorem dX3_copy_88 : decode cX3_copy 88 = .ok (.return_, 1) := by decide +kernel
abbrev MX3_copy : zT := (yX3_copy, cX3_copy, 4, (Option.none : Option Jvm.ClassFile.FieldType), [])
theorem plX3_copy : zplain MX3_copy 1 ∧ (zcodeW MX3_copy ∈ lw_all ∧ Cond.initialized MX3_copy.1.cls ∈ lw_all) := ⟨⟨by decide +kernel, by decide +kernel⟩, q1507, q107⟩
noncomputable def f_X3_copy_80 (x0 x1 : Int) (σ : zM) : Option zO :=
  (zgf σ 303 x1).bind fun v1 =>
  (zpf σ 303 x0 v1).bind fun σ2 =>
  some (0, ((3, 0) : zV), σ2)
theorem w_X3_copy_80 {g : zG} {lv : Nat} {out : zO} (x0 x1 : Int) (σ : zM) {r : zO} (h : f_X3_copy_80 x0 x1 σ = some r) (hk : (fun o : zO => o = out) r) : Gj g MX3_copy (lv) 80 [(0, zr x0), (1, zr x1)] [] σ out := by
  revert h
  unfold f_X3_copy_80
  refine zst_ (gj_aload_n 0 (pc := 80) dX3_copy_80 rfl) ?_
  refine zst_ (gj_aload_n 1 (pc := 81) dX3_copy_81 rfl) ?_
  refine gb_get (pc := 82) fl303 dX3_copy_82 q216 (Or.inl rfl) (fun v1 => ?_)
  refine gb_put (pc := 85) fl303 fr303 dX3_copy_85 q216 (Or.inl rfl) (fun σ2 => ?_)
  intro h
  cases h
  have hk : (0, ((3, 0) : zV), σ2) = out := hk
  subst hk
  exact gj_vret (pc := 88) dX3_copy_88 rfl
noncomputable def f_X3_copy_57_b (x0 x1 x2 : Int) (σ : zM) : Option ((Int × zM) ⊕ zO) :=
  if 4 ≤ x2 then
    (f_X3_copy_80 x0 x1 σ).map (fun r => (.inr r))
  else
    (zgf σ 302 x0).bind fun v1 =>
    (zgf σ 302 x1).bind fun v2 =>
    (zga σ 101 v2 x2).bind fun v3 =>
    (zpa σ 101 v1 x2 v3).bind fun σ4 =>
    zlet (zadd x2 1) fun y5 =>
    some (.inl (y5, σ4))
noncomputable def f_X3_copy_57 (x0 x1 x2 : Int) (σ : zM) : Option zO :=
  zloop (fun s : Int × zM => f_X3_copy_57_b x0 x1 s.1 s.2) (x2, σ)
theorem w_X3_copy_57_b {g : zG} {lv : Nat} {out : zO} (x0 x1 x2 : Int) (σ : zM) {r : ((Int × zM) ⊕ zO)} (h : f_X3_copy_57_b x0 x1 x2 σ = some r) (hk : (zKL (fun s : Int × zM => Gj g MX3_copy (lv) 57 [(0, zr x0), (1, zr x1), (2, zi s.1)] [] s.2 out) (fun o : zO => o = out)) r) : Gj g MX3_copy (lv) 57 [(0, zr x0), (1, zr x1), (2, zi x2)] [] σ out := by
  revert h
  unfold f_X3_copy_57_b
  refine zst_ (gj_iload_n 2 (pc := 57) dX3_copy_57 rfl) ?_
  refine zst_ (gj_iconst (pc := 58) dX3_copy_58 (by decide)) ?_
  refine gb_if (gj_icmp_ge 80 (pc := 59) dX3_copy_59 (by decide)) ?_ ?_
  · refine zst_ (gj_sub [0, 1] rfl) ?_
    intro h
    obtain ⟨r0, h0, rfl⟩ := zmE h
    exact w_X3_copy_80 x0 x1 σ h0 hk
  · refine zst_ (gj_aload_n 0 (pc := 62) dX3_copy_62 rfl) ?_
    refine gb_get (pc := 63) fl302 dX3_copy_63 q212 (Or.inl rfl) (fun v1 => ?_)
    refine zst_ (gj_iload_n 2 (pc := 66) dX3_copy_66 rfl) ?_
    refine zst_ (gj_aload_n 1 (pc := 67) dX3_copy_67 rfl) ?_
    refine gb_get (pc := 68) fl302 dX3_copy_68 q212 (Or.inl rfl) (fun v2 => ?_)
    refine zst_ (gj_iload_n 2 (pc := 71) dX3_copy_71 rfl) ?_
    refine gb_iald (pc := 72) dX3_copy_72 (fun v3 => ?_)
    refine gb_iast (pc := 73) dX3_copy_73 (fun σ4 => ?_)
    refine gb_iinc (pc := 74) 2 (fun y5 => [(2, zi y5), (0, zr x0), (1, zr x1)]) dX3_copy_74 rfl (by decide) (fun _ => rfl) (fun y5 => ?_)
    refine zst_ (gj_goto 57 (pc := 77) dX3_copy_77 (by decide)) ?_
    refine zst_ (gj_sub [1, 2, 0] rfl) ?_
    intro h
    cases h
    exact hk
theorem w_X3_copy_57 {g : zG} {lv : Nat} {out : zO} (x0 x1 x2 : Int) (σ : zM) {r : zO} (h : f_X3_copy_57 x0 x1 x2 σ = some r) (hk : (fun o : zO => o = out) r) : Gj g MX3_copy (lv) 57 [(0, zr x0), (1, zr x1), (2, zi x2)] [] σ out :=
  gj_loop (P := (fun s : Int × zM => Gj g MX3_copy (lv) 57 [(0, zr x0), (1, zr x1), (2, zi s.1)] [] s.2 out)) (fun s x hb hx => w_X3_copy_57_b x0 x1 s.1 s.2 hb hx) h hk
noncomputable def f_X3_copy_55 (x0 x1 : Int) (σ : zM) : Option zO :=
  f_X3_copy_57 x0 x1 0 σ
theorem w_X3_copy_55 {g : zG} {lv : Nat} {out : zO} (x0 x1 : Int) (σ : zM) {r : zO} (h : f_X3_copy_55 x0 x1 σ = some r) (hk : (fun o : zO => o = out) r) : Gj g MX3_copy (lv) 55 [(0, zr x0), (1, zr x1)] [] σ out := by
  revert h
  unfold f_X3_copy_55
  refine zst_ (gj_iconst (pc := 55) dX3_copy_55 (by decide)) ?_
  refine zst_ (gj_istore_n (pc := 56) (ls' := [(2, zi 0), (0, zr x0), (1, zr x1)]) dX3_copy_56 (by decide) rfl) ?_
  refine zst_ (gj_sub [1, 2, 0] rfl) ?_
  exact fun h => w_X3_copy_57 x0 x1 0 σ h hk
noncomputable def f_X3_copy_49 (x0 x1 x2 : Int) (σ : zM) : Option ((Int × zM) ⊕ zO) :=
  zlet (zadd x2 1) fun y1 =>
  some (.inl (y1, σ))
theorem w_X3_copy_49 {g : zG} {lv : Nat} {out : zO} (x0 x1 x2 : Int) (σ : zM) {r : ((Int × zM) ⊕ zO)} (h : f_X3_copy_49 x0 x1 x2 σ = some r) (hk : (zKL (fun s : Int × zM => Gj g MX3_copy (lv) 2 [(0, zr x0), (1, zr x1), (2, zi s.1)] [] s.2 out) (fun o : zO => o = out)) r) : Gj g MX3_copy (lv) 49 [(0, zr x0), (1, zr x1), (2, zi x2)] [] σ out := by
  revert h
  unfold f_X3_copy_49
  refine gb_iinc (pc := 49) 2 (fun y1 => [(2, zi y1), (0, zr x0), (1, zr x1)]) dX3_copy_49 rfl (by decide) (fun _ => rfl) (fun y1 => ?_)
  refine zst_ (gj_goto 2 (pc := 52) dX3_copy_52 (by decide)) ?_
  refine zst_ (gj_sub [1, 2, 0] rfl) ?_
  intro h
  cases h
  exact hk
noncomputable def f_X3_copy_22_b (x0 x1 x2 x3 : Int) (σ : zM) : Option ((Int × zM) ⊕ ((Int × zM) ⊕ zO)) :=
  if 3 ≤ x3 then
    (f_X3_copy_49 x0 x1 x2 σ).map (fun r => (.inr r))
  else
    (zgf σ 301 x0).bind fun v1 =>
    (zga σ 110 v1 x2).bind fun v2 =>
    (zgf σ 301 x1).bind fun v3 =>
    (zga σ 110 v3 x2).bind fun v4 =>
    (zga σ 101 v4 x3).bind fun v5 =>
    (zpa σ 101 v2 x3 v5).bind fun σ6 =>
    zlet (zadd x3 1) fun y7 =>
    some (.inl (y7, σ6))
noncomputable def f_X3_copy_22 (x0 x1 x2 x3 : Int) (σ : zM) : Option ((Int × zM) ⊕ zO) :=
  zloop (fun s : Int × zM => f_X3_copy_22_b x0 x1 x2 s.1 s.2) (x3, σ)
theorem w_X3_copy_22_b {g : zG} {lv : Nat} {out : zO} (x0 x1 x2 x3 : Int) (σ : zM) {r : ((Int × zM) ⊕ ((Int × zM) ⊕ zO))} (h : f_X3_copy_22_b x0 x1 x2 x3 σ = some r) (hk : (zKL (fun s : Int × zM => Gj g MX3_copy (lv) 22 [(0, zr x0), (1, zr x1), (2, zi x2), (3, zi s.1)] [] s.2 out) (zKL (fun s : Int × zM => Gj g MX3_copy (lv) 2 [(0, zr x0), (1, zr x1), (2, zi s.1)] [] s.2 out) (fun o : zO => o = out))) r) : Gj g MX3_copy (lv) 22 [(0, zr x0), (1, zr x1), (2, zi x2), (3, zi x3)] [] σ out := by
  revert h
  unfold f_X3_copy_22_b
  refine zst_ (gj_iload_n 3 (pc := 22) dX3_copy_22 rfl) ?_
  refine zst_ (gj_iconst (pc := 23) dX3_copy_23 (by decide)) ?_
  refine gb_if (gj_icmp_ge 49 (pc := 24) dX3_copy_24 (by decide)) ?_ ?_
  · refine zst_ (gj_sub [0, 1, 2] rfl) ?_
    intro h
    obtain ⟨r0, h0, rfl⟩ := zmE h
    exact w_X3_copy_49 x0 x1 x2 σ h0 hk
  · refine zst_ (gj_aload_n 0 (pc := 27) dX3_copy_27 rfl) ?_
    refine gb_get (pc := 28) fl301 dX3_copy_28 q209 (Or.inl rfl) (fun v1 => ?_)
    refine zst_ (gj_iload_n 2 (pc := 31) dX3_copy_31 rfl) ?_
    refine gb_aald (pc := 32) (k := 110) ⟨by decide, by decide⟩ dX3_copy_32 (fun v2 => ?_)
    refine zst_ (gj_iload_n 3 (pc := 33) dX3_copy_33 rfl) ?_
    refine zst_ (gj_aload_n 1 (pc := 34) dX3_copy_34 rfl) ?_
    refine gb_get (pc := 35) fl301 dX3_copy_35 q209 (Or.inl rfl) (fun v3 => ?_)
    refine zst_ (gj_iload_n 2 (pc := 38) dX3_copy_38 rfl) ?_
    refine gb_aald (pc := 39) (k := 110) ⟨by decide, by decide⟩ dX3_copy_39 (fun v4 => ?_)
    refine zst_ (gj_iload_n 3 (pc := 40) dX3_copy_40 rfl) ?_
    refine gb_iald (pc := 41) dX3_copy_41 (fun v5 => ?_)
    refine gb_iast (pc := 42) dX3_copy_42 (fun σ6 => ?_)
    refine gb_iinc (pc := 43) 3 (fun y7 => [(3, zi y7), (0, zr x0), (1, zr x1), (2, zi x2)]) dX3_copy_43 rfl (by decide) (fun _ => rfl) (fun y7 => ?_)
    refine zst_ (gj_goto 22 (pc := 46) dX3_copy_46 (by decide)) ?_
    refine zst_ (gj_sub [1, 2, 3, 0] rfl) ?_
    intro h
    cases h
    exact hk
theorem w_X3_copy_22 {g : zG} {lv : Nat} {out : zO} (x0 x1 x2 x3 : Int) (σ : zM) {r : ((Int × zM) ⊕ zO)} (h : f_X3_copy_22 x0 x1 x2 x3 σ = some r) (hk : (zKL (fun s : Int × zM => Gj g MX3_copy (lv) 2 [(0, zr x0), (1, zr x1), (2, zi s.1)] [] s.2 out) (fun o : zO => o = out)) r) : Gj g MX3_copy (lv) 22 [(0, zr x0), (1, zr x1), (2, zi x2), (3, zi x3)] [] σ out :=
  gj_loop (P := (fun s : Int × zM => Gj g MX3_copy (lv) 22 [(0, zr x0), (1, zr x1), (2, zi x2), (3, zi s.1)] [] s.2 out)) (fun s x hb hx => w_X3_copy_22_b x0 x1 x2 s.1 s.2 hb hx) h hk
noncomputable def f_X3_copy_2_b (x0 x1 x2 : Int) (σ : zM) : Option ((Int × zM) ⊕ zO) :=
  if 8 ≤ x2 then
    (f_X3_copy_55 x0 x1 σ).map (fun r => (.inr r))
  else
    (zgf σ 300 x0).bind fun v1 =>
    (zgf σ 300 x1).bind fun v2 =>
    (zga σ 101 v2 x2).bind fun v3 =>
    (zpa σ 101 v1 x2 v3).bind fun σ4 =>
    f_X3_copy_22 x0 x1 x2 0 σ4
noncomputable def f_X3_copy_2 (x0 x1 x2 : Int) (σ : zM) : Option zO :=
  zloop (fun s : Int × zM => f_X3_copy_2_b x0 x1 s.1 s.2) (x2, σ)
theorem w_X3_copy_2_b {g : zG} {lv : Nat} {out : zO} (x0 x1 x2 : Int) (σ : zM) {r : ((Int × zM) ⊕ zO)} (h : f_X3_copy_2_b x0 x1 x2 σ = some r) (hk : (zKL (fun s : Int × zM => Gj g MX3_copy (lv) 2 [(0, zr x0), (1, zr x1), (2, zi s.1)] [] s.2 out) (fun o : zO => o = out)) r) : Gj g MX3_copy (lv) 2 [(0, zr x0), (1, zr x1), (2, zi x2)] [] σ out := by
  revert h
  unfold f_X3_copy_2_b
  refine zst_ (gj_iload_n 2 (pc := 2) dX3_copy_2 rfl) ?_
  refine zst_ (gj_bipush (pc := 3) dX3_copy_3 ⟨rfl, by decide⟩) ?_
  refine gb_if (gj_icmp_ge 55 (pc := 5) dX3_copy_5 (by decide)) ?_ ?_
  · refine zst_ (gj_sub [0, 1] rfl) ?_
    intro h
    obtain ⟨r0, h0, rfl⟩ := zmE h
    exact w_X3_copy_55 x0 x1 σ h0 hk
  · refine zst_ (gj_aload_n 0 (pc := 8) dX3_copy_8 rfl) ?_
    refine gb_get (pc := 9) fl300 dX3_copy_9 q205 (Or.inl rfl) (fun v1 => ?_)
    refine zst_ (gj_iload_n 2 (pc := 12) dX3_copy_12 rfl) ?_
    refine zst_ (gj_aload_n 1 (pc := 13) dX3_copy_13 rfl) ?_
    refine gb_get (pc := 14) fl300 dX3_copy_14 q205 (Or.inl rfl) (fun v2 => ?_)
    refine zst_ (gj_iload_n 2 (pc := 17) dX3_copy_17 rfl) ?_
    refine gb_iald (pc := 18) dX3_copy_18 (fun v3 => ?_)
    refine gb_iast (pc := 19) dX3_copy_19 (fun σ4 => ?_)
    refine zst_ (gj_iconst (pc := 20) dX3_copy_20 (by decide)) ?_
    refine zst_ (gj_istore_n (pc := 21) (ls' := [(3, zi 0), (0, zr x0), (1, zr x1), (2, zi x2)]) dX3_copy_21 (by decide) rfl) ?_
    refine zst_ (gj_sub [1, 2, 3, 0] rfl) ?_
    exact fun h => w_X3_copy_22 x0 x1 x2 0 σ4 h hk
theorem w_X3_copy_2 {g : zG} {lv : Nat} {out : zO} (x0 x1 x2 : Int) (σ : zM) {r : zO} (h : f_X3_copy_2 x0 x1 x2 σ = some r) (hk : (fun o : zO => o = out) r) : Gj g MX3_copy (lv) 2 [(0, zr x0), (1, zr x1), (2, zi x2)] [] σ out :=
  gj_loop (P := (fun s : Int × zM => Gj g MX3_copy (lv) 2 [(0, zr x0), (1, zr x1), (2, zi s.1)] [] s.2 out)) (fun s x hb hx => w_X3_copy_2_b x0 x1 s.1 s.2 hb hx) h hk
noncomputable def f_X3_copy (x0 x1 : Int) (σ : zM) : Option zO :=
  f_X3_copy_2 x0 x1 0 σ
theorem c_X3_copy {g : zG} {lv : Nat} {x0 x1 : Int} {σ : zM} {out : zO} (h : f_X3_copy x0 x1 σ = some out) : Cj g (lv) MX3_copy [zr x0, zr x1] σ out := by
  refine cj_go (ls := [(0, zr x0), (1, zr x1)]) (by decide) (Nat.le_of_ble_eq_true rfl) rfl (zgen h (fun r hk => ?_))
  unfold f_X3_copy
  refine zst_ (gj_iconst (pc := 0) dX3_copy_0 (by decide)) ?_
  refine zst_ (gj_istore_n (pc := 1) (ls' := [(2, zi 0), (0, zr x0), (1, zr x1)]) dX3_copy_1 (by decide) rfl) ?_
  refine zst_ (gj_sub [1, 2, 0] rfl) ?_
  exact fun h => w_X3_copy_2 x0 x1 0 σ h hk
theorem q1512 : (Jvm.Cond.code ({ cls := "LassoFinder$Moment", name := "get", desc := "(I)I" } : Jvm.MethodName) prog_11_method_4_code (4 : Nat) (Option.some Jvm.ClassFile.FieldType.int)) ∈ lw_all := lw_g (lw_at lw_m6 212 rfl) rfl
abbrev cX3_get : ByteArray := prog_11_method_4_code
def yX3_get : MethodName := ⟨RX3, "get", "(I)I"⟩
theorem dX3_get_0 : decode cX3_get 0 = .ok (.aload_n 0, 1) := by decide +kernel
theorem dX3_get_1 : decode cX3_get 1 = .ok (.getfield 17, 3) := by decide +kernel
theorem dX3_get_4 : decode cX3_get 4 = .ok (.iload_n 1, 1) := by decide +kernel
theorem dX3_get_5 : decode cX3_get 5 = .ok (.aaload, 1) := by decide +kernel
theorem dX3_get_6 : decode cX3_get 6 = .ok (.iconst 0, 1) := by decide +kernel
theorem dX3_get_7 : decode cX3_get 7 = .ok (.iaload, 1) := by decide +kernel
theorem dX3_get_8 : decode cX3_get 8 = .ok (.istore_n 2, 1) := by decide +kernel
theorem dX3_get_9 : decode cX3_get 9 = .ok (.aload_n 0, 1) := by decide +kernel
theorem dX3_get_10 : decode cX3_get 10 = .ok (.getfield 9, 3) := by decide +kernel
theorem dX3_get_13 : decode cX3_get 13 = .ok (.iload_n 1, 1) := by decide +kernel
theorem dX3_get_14 : decode cX3_get 14 = .ok (.dup2, 1) := by decide +kernel
theorem dX3_get_15 : decode cX3_get 15 = .ok (.iaload, 1) := by decide +kernel
theorem dX3_get_16 : decode cX3_get 16 = .ok (.iconst 1, 1) := by decide +kernel
theorem dX3_get_17 : decode cX3_get 17 = .ok (.isub, 1) := by decide +kernel
theorem dX3_get_18 : decode cX3_get 18 = .ok (.iastore, 1) := by decide +kernel
theorem dX3_get_19 : decode cX3_get 19 = .ok (.iconst 0, 1) := by decide +kernel
theorem dX3_get_20 : decode cX3_get 20 = .ok (.istore_n 3, 1) := by decide +kernel
theorem dX3_get_21 : decode cX3_get 21 = .ok (.iload_n 3, 1) := by decide +kernel
theorem dX3_get_22 : decode cX3_get 22 = .ok (.aload_n 0, 1) := by decide +kernel
theorem dX3_get_23 : decode cX3_get 23 = .ok (.getfield 9, 3) := by decide +kernel
theorem dX3_get_26 : decode cX3_get 26 = .ok (.iload_n 1, 1) := by decide +kernel
theorem dX3_get_27 : decode cX3_get 27 = .ok (.iaload, 1) := by decide +kernel
theorem dX3_get_28 : decode cX3_get 28 = .ok (.if_icmp .ge 27, 3) := by decide +kernel
theorem dX3_get_31 : decode cX3_get 31 = .ok (.aload_n 0, 1) := by decide +kernel
theorem dX3_get_32 : decode cX3_get 32 = .ok (.getfield 17, 3) := by decide +kernel
theorem dX3_get_35 : decode cX3_get 35 = .ok (.iload_n 1, 1) := by decide +kernel
theorem dX3_get_36 : decode cX3_get 36 = .ok (.aaload, 1) := by decide +kernel
theorem dX3_get_37 : decode cX3_get 37 = .ok (.iload_n 3, 1) := by decide +kernel
theorem dX3_get_38 : decode cX3_get 38 = .ok (.aload_n 0, 1) := by decide +kernel
theorem dX3_get_39 : decode cX3_get 39 = .ok (.getfield 17, 3) := by decide +kernel
theorem dX3_get_42 : decode cX3_get 42 = .ok (.iload_n 1, 1) := by decide +kernel
theorem dX3_get_43 : decode cX3_get 43 = .ok (.aaload, 1) := by decide +kernel
theorem dX3_get_44 : decode cX3_get 44 = .ok (.iload_n 3, 1) := by decide +kernel
theorem dX3_get_45 : decode cX3_get 45 = .ok (.iconst 1, 1) := by decide +kernel
theorem dX3_get_46 : decode cX3_get 46 = .ok (.iadd, 1) := by decide +kernel
theorem dX3_get_47 : decode cX3_get 47 = .ok (.iaload, 1) := by decide +kernel
theorem dX3_get_48 : decode cX3_get 48 = .ok (.iastore, 1) := by decide +kernel
theorem dX3_get_49 : decode cX3_get 49 = .ok (.iinc 3 1, 3) := by decide +kernel
theorem dX3_get_52 : decode cX3_get 52 = .ok (.goto (-31), 3) := by decide +kernel
theorem dX3_get_55 : decode cX3_get 55 = .ok (.iload_n 2, 1) := by decide +kernel
theorem dX3_get_56 : decode cX3_get 56 = .ok (.ireturn, 1) := by decide +kernel
abbrev MX3_get : zT := (yX3_get, cX3_get, 4, (Option.some Jvm.ClassFile.FieldType.int), [])
theorem plX3_get : zplain MX3_get 1 ∧ (zcodeW MX3_get ∈ lw_all ∧ Cond.initialized MX3_get.1.cls ∈ lw_all) := ⟨⟨by decide +kernel, by decide +kernel⟩, q1512, q107⟩
noncomputable def f_X3_get_55 (x2 : Int) (σ : zM) : Option zO :=
  some (0, zi x2, σ)
theorem w_X3_get_55 {g : zG} {lv : Nat} {out : zO} (x2 : Int) (σ : zM) {r : zO} (h : f_X3_get_55 x2 σ = some r) (hk : (fun o : zO => o = out) r) : Gj g MX3_get (lv) 55 [(2, zi x2)] [] σ out := by
  revert h
  unfold f_X3_get_55
  refine zst_ (gj_iload_n 0 (pc := 55) dX3_get_55 rfl) ?_
  intro h
  cases h
  have hk : (0, zi x2, σ) = out := hk
  subst hk
  exact gj_ret (pc := 56) (t := .int) dX3_get_56 rfl ⟨rfl, rfl⟩ (fun h => h)
noncomputable def f_X3_get_21_b (x0 x1 x2 x3 : Int) (σ : zM) : Option ((Int × zM) ⊕ zO) :=
  (zgf σ 300 x0).bind fun v1 =>
  (zga σ 101 v1 x1).bind fun v2 =>
  if v2 ≤ x3 then
    (f_X3_get_55 x2 σ).map (fun r => (.inr r))
  else
    (zgf σ 301 x0).bind fun v3 =>
    (zga σ 110 v3 x1).bind fun v4 =>
    (zgf σ 301 x0).bind fun v5 =>
    (zga σ 110 v5 x1).bind fun v6 =>
    (zga σ 101 v6 (zadd x3 1)).bind fun v7 =>
    (zpa σ 101 v4 x3 v7).bind fun σ8 =>
    zlet (zadd x3 1) fun y9 =>
    some (.inl (y9, σ8))
noncomputable def f_X3_get_21 (x0 x1 x2 x3 : Int) (σ : zM) : Option zO :=
  zloop (fun s : Int × zM => f_X3_get_21_b x0 x1 x2 s.1 s.2) (x3, σ)
theorem w_X3_get_21_b {g : zG} {lv : Nat} {out : zO} (x0 x1 x2 x3 : Int) (σ : zM) {r : ((Int × zM) ⊕ zO)} (h : f_X3_get_21_b x0 x1 x2 x3 σ = some r) (hk : (zKL (fun s : Int × zM => Gj g MX3_get (lv) 21 [(0, zr x0), (1, zi x1), (2, zi x2), (3, zi s.1)] [] s.2 out) (fun o : zO => o = out)) r) : Gj g MX3_get (lv) 21 [(0, zr x0), (1, zi x1), (2, zi x2), (3, zi x3)] [] σ out := by
  revert h
  unfold f_X3_get_21_b
  refine zst_ (gj_iload_n 3 (pc := 21) dX3_get_21 rfl) ?_
  refine zst_ (gj_aload_n 0 (pc := 22) dX3_get_22 rfl) ?_
  refine gb_get (pc := 23) fl300 dX3_get_23 q205 (Or.inl rfl) (fun v1 => ?_)
  refine zst_ (gj_iload_n 1 (pc := 26) dX3_get_26 rfl) ?_
  refine gb_iald (pc := 27) dX3_get_27 (fun v2 => ?_)
  refine gb_if (gj_icmp_ge 55 (pc := 28) dX3_get_28 (by decide)) ?_ ?_
  · refine zst_ (gj_sub [2] rfl) ?_
    intro h
    obtain ⟨r0, h0, rfl⟩ := zmE h
    exact w_X3_get_55 x2 σ h0 hk
  · refine zst_ (gj_aload_n 0 (pc := 31) dX3_get_31 rfl) ?_
    refine gb_get (pc := 32) fl301 dX3_get_32 q209 (Or.inl rfl) (fun v3 => ?_)
    refine zst_ (gj_iload_n 1 (pc := 35) dX3_get_35 rfl) ?_
    refine gb_aald (pc := 36) (k := 110) ⟨by decide, by decide⟩ dX3_get_36 (fun v4 => ?_)
    refine zst_ (gj_iload_n 3 (pc := 37) dX3_get_37 rfl) ?_
    refine zst_ (gj_aload_n 0 (pc := 38) dX3_get_38 rfl) ?_
    refine gb_get (pc := 39) fl301 dX3_get_39 q209 (Or.inl rfl) (fun v5 => ?_)
    refine zst_ (gj_iload_n 1 (pc := 42) dX3_get_42 rfl) ?_
    refine gb_aald (pc := 43) (k := 110) ⟨by decide, by decide⟩ dX3_get_43 (fun v6 => ?_)
    refine zst_ (gj_iload_n 3 (pc := 44) dX3_get_44 rfl) ?_
    refine zst_ (gj_iconst (pc := 45) dX3_get_45 (by decide)) ?_
    refine zst_ (gj_iadd (pc := 46) dX3_get_46) ?_
    refine gb_iald (pc := 47) dX3_get_47 (fun v7 => ?_)
    refine gb_iast (pc := 48) dX3_get_48 (fun σ8 => ?_)
    refine gb_iinc (pc := 49) 3 (fun y9 => [(3, zi y9), (0, zr x0), (1, zi x1), (2, zi x2)]) dX3_get_49 rfl (by decide) (fun _ => rfl) (fun y9 => ?_)
    refine zst_ (gj_goto 21 (pc := 52) dX3_get_52 (by decide)) ?_
    refine zst_ (gj_sub [1, 2, 3, 0] rfl) ?_
    intro h
    cases h
    exact hk
theorem w_X3_get_21 {g : zG} {lv : Nat} {out : zO} (x0 x1 x2 x3 : Int) (σ : zM) {r : zO} (h : f_X3_get_21 x0 x1 x2 x3 σ = some r) (hk : (fun o : zO => o = out) r) : Gj g MX3_get (lv) 21 [(0, zr x0), (1, zi x1), (2, zi x2), (3, zi x3)] [] σ out :=
  gj_loop (P := (fun s : Int × zM => Gj g MX3_get (lv) 21 [(0, zr x0), (1, zi x1), (2, zi x2), (3, zi s.1)] [] s.2 out)) (fun s x hb hx => w_X3_get_21_b x0 x1 x2 s.1 s.2 hb hx) h hk
noncomputable def f_X3_get (x0 x1 : Int) (σ : zM) : Option zO :=
  (zgf σ 301 x0).bind fun v1 =>
  (zga σ 110 v1 x1).bind fun v2 =>
  (zga σ 101 v2 0).bind fun v3 =>
  (zgf σ 300 x0).bind fun v4 =>
  (zga σ 101 v4 x1).bind fun v5 =>
  (zpa σ 101 v4 x1 (zsub v5 1)).bind fun σ6 =>
  f_X3_get_21 x0 x1 v3 0 σ6
theorem c_X3_get {g : zG} {lv : Nat} {x0 x1 : Int} {σ : zM} {out : zO} (h : f_X3_get x0 x1 σ = some out) : Cj g (lv) MX3_get [zr x0, zi x1] σ out := by
  refine cj_go (ls := [(0, zr x0), (1, zi x1)]) (by decide) (Nat.le_of_ble_eq_true rfl) rfl (zgen h (fun r hk => ?_))
  unfold f_X3_get
  refine zst_ (gj_aload_n 0 (pc := 0) dX3_get_0 rfl) ?_
  refine gb_get (pc := 1) fl301 dX3_get_1 q209 (Or.inl rfl) (fun v1 => ?_)
  refine zst_ (gj_iload_n 1 (pc := 4) dX3_get_4 rfl) ?_
  refine gb_aald (pc := 5) (k := 110) ⟨by decide, by decide⟩ dX3_get_5 (fun v2 => ?_)
  refine zst_ (gj_iconst (pc := 6) dX3_get_6 (by decide)) ?_
  refine gb_iald (pc := 7) dX3_get_7 (fun v3 => ?_)
  refine zst_ (gj_istore_n (pc := 8) (ls' := [(2, zi v3), (0, zr x0), (1, zi x1)]) dX3_get_8 (by decide) rfl) ?_
  refine zst_ (gj_aload_n 1 (pc := 9) dX3_get_9 rfl) ?_
  refine gb_get (pc := 10) fl300 dX3_get_10 q205 (Or.inl rfl) (fun v4 => ?_)
  refine zst_ (gj_iload_n 2 (pc := 13) dX3_get_13 rfl) ?_
  refine zst_ (gj_dup2 (pc := 14) dX3_get_14 rfl rfl) ?_
  refine gb_iald (pc := 15) dX3_get_15 (fun v5 => ?_)
  refine zst_ (gj_iconst (pc := 16) dX3_get_16 (by decide)) ?_
  refine zst_ (gj_isub (pc := 17) dX3_get_17) ?_
  refine gb_iast (pc := 18) dX3_get_18 (fun σ6 => ?_)
  refine zst_ (gj_iconst (pc := 19) dX3_get_19 (by decide)) ?_
  refine zst_ (gj_istore_n (pc := 20) (ls' := [(3, zi 0), (2, zi v3), (0, zr x0), (1, zi x1)]) dX3_get_20 (by decide) rfl) ?_
  refine zst_ (gj_sub [2, 3, 1, 0] rfl) ?_
  exact fun h => w_X3_get_21 x0 x1 v3 0 σ6 h hk
theorem q1516 : (Jvm.Cond.code ({ cls := "LassoFinder$Moment", name := "put", desc := "(II)V" } : Jvm.MethodName) prog_11_method_3_code (3 : Nat) (Option.none : Option Jvm.ClassFile.FieldType)) ∈ lw_all := lw_g (lw_at lw_m6 216 rfl) rfl
abbrev cX3_put : ByteArray := prog_11_method_3_code
def yX3_put : MethodName := ⟨RX3, "put", "(II)V"⟩
theorem dX3_put_0 : decode cX3_put 0 = .ok (.aload_n 0, 1) := by decide +kernel
theorem dX3_put_1 : decode cX3_put 1 = .ok (.getfield 17, 3) := by decide +kernel
theorem dX3_put_4 : decode cX3_put 4 = .ok (.iload_n 1, 1) := by decide +kernel
theorem dX3_put_5 : decode cX3_put 5 = .ok (.aaload, 1) := by decide +kernel
theorem dX3_put_6 : decode cX3_put 6 = .ok (.aload_n 0, 1) := by decide +kernel
theorem dX3_put_7 : decode cX3_put 7 = .ok (.getfield 9, 3) := by decide +kernel
theorem dX3_put_10 : decode cX3_put 10 = .ok (.iload_n 1, 1) := by decide +kernel
theorem dX3_put_11 : decode cX3_put 11 = .ok (.iaload, 1) := by decide +kernel
theorem dX3_put_12 : decode cX3_put 12 = .ok (.iload_n 2, 1) := by decide +kernel
theorem dX3_put_13 : decode cX3_put 13 = .ok (.iastore, 1) := by decide +kernel
theorem dX3_put_14 : decode cX3_put 14 = .ok (.aload_n 0, 1) := by decide +kernel
theorem dX3_put_15 : decode cX3_put 15 = .ok (.getfield 9, 3) := by decide +kernel
theorem dX3_put_18 : decode cX3_put 18 = .ok (.iload_n 1, 1) := by decide +kernel
theorem dX3_put_19 : decode cX3_put 19 = .ok (.dup2, 1) := by decide +kernel
theorem dX3_put_20 : decode cX3_put 20 = .ok (.iaload, 1) := by decide +kernel
theorem dX3_put_21 : decode cX3_put 21 = .ok (.iconst 1, 1) := by decide +kernel
theorem dX3_put_22 : decode cX3_put 22 = .ok (.iadd, 1) := by decide +kernel
theorem dX3_put_23 : decode cX3_put 23 = .ok (.iastore, 1) := by decide +kernel
theorem dX3_put_24 : decode cX3_put 24 = .ok (.return_, 1) := by decide +kernel
abbrev MX3_put : zT := (yX3_put, cX3_put, 3, (Option.none : Option Jvm.ClassFile.FieldType), [])
theorem plX3_put : zplain MX3_put 2 ∧ (zcodeW MX3_put ∈ lw_all ∧ Cond.initialized MX3_put.1.cls ∈ lw_all) := ⟨⟨by decide +kernel, by decide +kernel⟩, q1516, q107⟩
noncomputable def f_X3_put (x0 x1 x2 : Int) (σ : zM) : Option zO :=
  (zgf σ 301 x0).bind fun v1 =>
  (zga σ 110 v1 x1).bind fun v2 =>
  (zgf σ 300 x0).bind fun v3 =>
  (zga σ 101 v3 x1).bind fun v4 =>
  (zpa σ 101 v2 v4 x2).bind fun σ5 =>
  (zgf σ5 300 x0).bind fun v6 =>
  (zga σ5 101 v6 x1).bind fun v7 =>
  (zpa σ5 101 v6 x1 (zadd v7 1)).bind fun σ8 =>
  some (0, ((3, 0) : zV), σ8)
theorem c_X3_put {g : zG} {lv : Nat} {x0 x1 x2 : Int} {σ : zM} {out : zO} (h : f_X3_put x0 x1 x2 σ = some out) : Cj g (lv) MX3_put [zr x0, zi x1, zi x2] σ out := by
  refine cj_go (ls := [(0, zr x0), (1, zi x1), (2, zi x2)]) (by decide) (Nat.le_of_ble_eq_true rfl) rfl (zgen h (fun r hk => ?_))
  unfold f_X3_put
  refine zst_ (gj_aload_n 0 (pc := 0) dX3_put_0 rfl) ?_
  refine gb_get (pc := 1) fl301 dX3_put_1 q209 (Or.inl rfl) (fun v1 => ?_)
  refine zst_ (gj_iload_n 1 (pc := 4) dX3_put_4 rfl) ?_
  refine gb_aald (pc := 5) (k := 110) ⟨by decide, by decide⟩ dX3_put_5 (fun v2 => ?_)
  refine zst_ (gj_aload_n 0 (pc := 6) dX3_put_6 rfl) ?_
  refine gb_get (pc := 7) fl300 dX3_put_7 q205 (Or.inl rfl) (fun v3 => ?_)
  refine zst_ (gj_iload_n 1 (pc := 10) dX3_put_10 rfl) ?_
  refine gb_iald (pc := 11) dX3_put_11 (fun v4 => ?_)
  refine zst_ (gj_iload_n 2 (pc := 12) dX3_put_12 rfl) ?_
  refine gb_iast (pc := 13) dX3_put_13 (fun σ5 => ?_)
  refine zst_ (gj_aload_n 0 (pc := 14) dX3_put_14 rfl) ?_
  refine gb_get (pc := 15) fl300 dX3_put_15 q205 (Or.inl rfl) (fun v6 => ?_)
  refine zst_ (gj_iload_n 1 (pc := 18) dX3_put_18 rfl) ?_
  refine zst_ (gj_dup2 (pc := 19) dX3_put_19 rfl rfl) ?_
  refine gb_iald (pc := 20) dX3_put_20 (fun v7 => ?_)
  refine zst_ (gj_iconst (pc := 21) dX3_put_21 (by decide)) ?_
  refine zst_ (gj_iadd (pc := 22) dX3_put_22) ?_
  refine gb_iast (pc := 23) dX3_put_23 (fun σ8 => ?_)
  intro h
  cases h
  have hk : (0, ((3, 0) : zV), σ8) = out := hk
  subst hk
  exact gj_vret (pc := 24) dX3_put_24 rfl
theorem q291 : (Jvm.Cond.fieldLink "LassoFinder$Model" (33 : Nat) "LassoFinder$Model" "goals" "[I") ∈ lw_all := lw_g (lw_at lw_m1 191 rfl) rfl
theorem q293 : (Jvm.Cond.fieldLink "LassoFinder$Model" (36 : Nat) "LassoFinder$Model" "holds" "[Z") ∈ lw_all := lw_g (lw_at lw_m1 193 rfl) rfl
theorem q297 : (Jvm.Cond.fieldLink "LassoFinder$Model" (47 : Nat) "LassoFinder$Model" "next" "LLassoFinder$Moment;") ∈ lw_all := lw_g (lw_at lw_m1 197 rfl) rfl
theorem q1520 : (Jvm.Cond.code ({ cls := "LassoFinder$Model", name := "leave", desc := "(I)V" } : Jvm.MethodName) prog_9_method_14_code (2 : Nat) (Option.none : Option Jvm.ClassFile.FieldType)) ∈ lw_all := lw_g (lw_at lw_m6 220 rfl) rfl
theorem fl212 : zfl 212 2 "LassoFinder$Model" "next" "LLassoFinder$Moment;" true := ⟨rfl, rfl, rfl⟩
theorem fr212 {g : zG} {v : Int} : zok g (2, v) → zokt g (zft 212) v := fun h => h
abbrev cX2_leave : ByteArray := prog_9_method_14_code
def yX2_leave : MethodName := ⟨RX2, "leave", "(I)V"⟩
theorem dX2_leave_0 : decode cX2_leave 0 = .ok (.aload_n 0, 1) := by decide +kernel
theorem dX2_leave_1 : decode cX2_leave 1 = .ok (.getfield 47, 3) := by decide +kernel
theorem dX2_leave_4 : decode cX2_leave 4 = .ok (.getfield 95, 3) := by decide +kernel
theorem dX2_leave_7 : decode cX2_leave 7 = .ok (.aload_n 0, 1) := by decide +kernel
theorem dX2_leave_8 : decode cX2_leave 8 = .ok (.getfield 30, 3) := by decide +kernel
theorem dX2_leave_11 : decode cX2_leave 11 = .ok (.iload_n 1, 1) := by decide +kernel
theorem dX2_leave_12 : decode cX2_leave 12 = .ok (.iaload, 1) := by decide +kernel
theorem dX2_leave_13 : decode cX2_leave 13 = .ok (.aload_n 0, 1) := by decide +kernel
theorem dX2_leave_14 : decode cX2_leave 14 = .ok (.getfield 33, 3) := by decide +kernel
theorem dX2_leave_17 : decode cX2_leave 17 = .ok (.iload_n 1, 1) := by decide +kernel
theorem dX2_leave_18 : decode cX2_leave 18 = .ok (.iaload, 1) := by decide +kernel
theorem dX2_leave_19 : decode cX2_leave 19 = .ok (.iastore, 1) := by decide +kernel
theorem dX2_leave_20 : decode cX2_leave 20 = .ok (.aload_n 0, 1) := by decide +kernel
theorem dX2_leave_21 : decode cX2_leave 21 = .ok (.getfield 36, 3) := by decide +kernel
theorem dX2_leave_24 : decode cX2_leave 24 = .ok (.iload_n 1, 1) := by decide +kernel
theorem dX2_leave_25 : decode cX2_leave 25 = .ok (.baload, 1) := by decide +kernel
theorem dX2_leave_26 : decode cX2_leave 26 = .ok (.ifCond .eq 18, 3) := by decide +kernel
theorem dX2_leave_29 : decode cX2_leave 29 = .ok (.aload_n 0, 1) := by decide +kernel
theorem dX2_leave_30 : decode cX2_leave 30 = .ok (.getfield 47, 3) := by decide +kernel
theorem dX2_leave_33 : decode cX2_leave 33 = .ok (.iconst 1, 1) := by decide +kernel
theorem dX2_leave_34 : decode cX2_leave 34 = .ok (.aload_n 0, 1) := by decide +kernel
theorem dX2_leave_35 : decode cX2_leave 35 = .ok (.getfield 30, 3) := by decide +kernel
theorem dX2_leave_38 : decode cX2_leave 38 = .ok (.iload_n 1, 1) := by decide +kernel
theorem dX2_leave_39 : decode cX2_leave 39 = .ok (.iaload, 1) := by decide +kernel
theorem dX2_leave_40 : decode cX2_leave 40 = .ok (.iadd, 1) := by decide +kernel
theorem dX2_leave_41 : decode cX2_leave 41 = .ok (.putfield 92, 3) := by decide +kernel
theorem dX2_leave_44 : decode cX2_leave 44 = .ok (.return_, 1) := by decide +kernel
abbrev MX2_leave : zT := (yX2_leave, cX2_leave, 2, (Option.none : Option Jvm.ClassFile.FieldType), [])
theorem plX2_leave : zplain MX2_leave 1 ∧ (zcodeW MX2_leave ∈ lw_all ∧ Cond.initialized MX2_leave.1.cls ∈ lw_all) := ⟨⟨by decide +kernel, by decide +kernel⟩, q1520, q106⟩
noncomputable def f_X2_leave_44 (σ : zM) : Option zO :=
  some (0, ((3, 0) : zV), σ)
theorem w_X2_leave_44 {g : zG} {lv : Nat} {out : zO} (σ : zM) {r : zO} (h : f_X2_leave_44  σ = some r) (hk : (fun o : zO => o = out) r) : Gj g MX2_leave (lv) 44 [] [] σ out := by
  revert h
  unfold f_X2_leave_44
  intro h
  cases h
  have hk : (0, ((3, 0) : zV), σ) = out := hk
  subst hk
  exact gj_vret (pc := 44) dX2_leave_44 rfl
noncomputable def f_X2_leave (x0 x1 : Int) (σ : zM) : Option zO :=
  (zgf σ 212 x0).bind fun v1 =>
  (zgf σ 302 v1).bind fun v2 =>
  (zgf σ 208 x0).bind fun v3 =>
  (zga σ 101 v3 x1).bind fun v4 =>
  (zgf σ 209 x0).bind fun v5 =>
  (zga σ 101 v5 x1).bind fun v6 =>
  (zpa σ 101 v2 v4 v6).bind fun σ7 =>
  (zgf σ7 210 x0).bind fun v8 =>
  (zga σ7 103 v8 x1).bind fun v9 =>
  if v9 = 0 then
    f_X2_leave_44 σ7
  else
    (zgf σ7 212 x0).bind fun v10 =>
    (zgf σ7 208 x0).bind fun v11 =>
    (zga σ7 101 v11 x1).bind fun v12 =>
    (zpf σ7 303 v10 (zadd 1 v12)).bind fun σ13 =>
    f_X2_leave_44 σ13
theorem c_X2_leave {g : zG} {lv : Nat} {x0 x1 : Int} {σ : zM} {out : zO} (h : f_X2_leave x0 x1 σ = some out) : Cj g (lv) MX2_leave [zr x0, zi x1] σ out := by
  refine cj_go (ls := [(0, zr x0), (1, zi x1)]) (by decide) (Nat.le_of_ble_eq_true rfl) rfl (zgen h (fun r hk => ?_))
  unfold f_X2_leave
  refine zst_ (gj_aload_n 0 (pc := 0) dX2_leave_0 rfl) ?_
  refine gb_get (pc := 1) fl212 dX2_leave_1 q297 (Or.inl rfl) (fun v1 => ?_)
  refine gb_getNe (pc := 4) fl302 dX2_leave_4 q214 (Or.inl rfl) (fun v2 => ?_)
  refine zst_ (gj_aload_n 0 (pc := 7) dX2_leave_7 rfl) ?_
  refine gb_get (pc := 8) fl208 dX2_leave_8 q289 (Or.inl rfl) (fun v3 => ?_)
  refine zst_ (gj_iload_n 1 (pc := 11) dX2_leave_11 rfl) ?_
  refine gb_iald (pc := 12) dX2_leave_12 (fun v4 => ?_)
  refine zst_ (gj_aload_n 0 (pc := 13) dX2_leave_13 rfl) ?_
  refine gb_get (pc := 14) fl209 dX2_leave_14 q291 (Or.inl rfl) (fun v5 => ?_)
  refine zst_ (gj_iload_n 1 (pc := 17) dX2_leave_17 rfl) ?_
  refine gb_iald (pc := 18) dX2_leave_18 (fun v6 => ?_)
  refine gb_iast (pc := 19) dX2_leave_19 (fun σ7 => ?_)
  refine zst_ (gj_aload_n 0 (pc := 20) dX2_leave_20 rfl) ?_
  refine gb_get (pc := 21) fl210 dX2_leave_21 q293 (Or.inl rfl) (fun v8 => ?_)
  refine zst_ (gj_iload_n 1 (pc := 24) dX2_leave_24 rfl) ?_
  refine gb_zald (pc := 25) dX2_leave_25 (fun v9 => ?_)
  refine gb_if (gj_if_eq 44 (pc := 26) dX2_leave_26 (by decide)) ?_ ?_
  · refine zst_ (gj_sub [] rfl) ?_
    exact fun h => w_X2_leave_44 σ7 h hk
  · refine zst_ (gj_aload_n 0 (pc := 29) dX2_leave_29 rfl) ?_
    refine gb_get (pc := 30) fl212 dX2_leave_30 q297 (Or.inl rfl) (fun v10 => ?_)
    refine zst_ (gj_iconst (pc := 33) dX2_leave_33 (by decide)) ?_
    refine zst_ (gj_aload_n 0 (pc := 34) dX2_leave_34 rfl) ?_
    refine gb_get (pc := 35) fl208 dX2_leave_35 q289 (Or.inl rfl) (fun v11 => ?_)
    refine zst_ (gj_iload_n 1 (pc := 38) dX2_leave_38 rfl) ?_
    refine gb_iald (pc := 39) dX2_leave_39 (fun v12 => ?_)
    refine zst_ (gj_iadd (pc := 40) dX2_leave_40) ?_
    refine gb_putNe (pc := 41) fl303 fr303 dX2_leave_41 q217 (Or.inl rfl) (fun σ13 => ?_)
    refine zst_ (gj_sub [] rfl) ?_
    exact fun h => w_X2_leave_44 σ13 h hk
theorem q303 : (Jvm.Cond.fieldLink "LassoFinder$Model" (60 : Nat) "LassoFinder$Model" "from" "[I") ∈ lw_all := lw_g (lw_at lw_m1 203 rfl) rfl
theorem q305 : (Jvm.Cond.fieldLink "LassoFinder$Model" (63 : Nat) "LassoFinder$Model" "to" "[I") ∈ lw_all := lw_g (lw_at lw_m1 205 rfl) rfl
theorem q308 : (Jvm.Cond.fieldLink "LassoFinder$Model" (66 : Nat) "LassoFinder$Model" "by" "[I") ∈ lw_all := lw_g (lw_at lw_m1 208 rfl) rfl
theorem q310 : (Jvm.Cond.fieldLink "LassoFinder$Model" (69 : Nat) "LassoFinder$Model" "with" "[I") ∈ lw_all := lw_g (lw_at lw_m1 210 rfl) rfl
theorem q1524 : (Jvm.Cond.code ({ cls := "LassoFinder$Model", name := "add", desc := "(IIII)V" } : Jvm.MethodName) prog_9_method_12_code (5 : Nat) (Option.none : Option Jvm.ClassFile.FieldType)) ∈ lw_all := lw_g (lw_at lw_m6 224 rfl) rfl
theorem fl216 : zfl 216 2 "LassoFinder$Model" "from" "[I" true := ⟨rfl, rfl, rfl⟩
theorem fr216 {g : zG} {v : Int} : zok g (2, v) → zokt g (zft 216) v := fun h => h
theorem fl217 : zfl 217 2 "LassoFinder$Model" "to" "[I" true := ⟨rfl, rfl, rfl⟩
theorem fr217 {g : zG} {v : Int} : zok g (2, v) → zokt g (zft 217) v := fun h => h
theorem fl218 : zfl 218 2 "LassoFinder$Model" "by" "[I" true := ⟨rfl, rfl, rfl⟩
theorem fr218 {g : zG} {v : Int} : zok g (2, v) → zokt g (zft 218) v := fun h => h
theorem fl219 : zfl 219 2 "LassoFinder$Model" "with" "[I" true := ⟨rfl, rfl, rfl⟩
theorem fr219 {g : zG} {v : Int} : zok g (2, v) → zokt g (zft 219) v := fun h => h
abbrev cX2_add : ByteArray := prog_9_method_12_code
def yX2_add : MethodName := ⟨RX2, "add", "(IIII)V"⟩
theorem dX2_add_0 : decode cX2_add 0 = .ok (.aload_n 0, 1) := by decide +kernel
theorem dX2_add_1 : decode cX2_add 1 = .ok (.getfield 89, 3) := by decide +kernel
theorem dX2_add_4 : decode cX2_add 4 = .ok (.sipush 400, 3) := by decide +kernel
theorem dX2_add_7 : decode cX2_add 7 = .ok (.if_icmp .ne 11, 3) := by decide +kernel
theorem dX2_add_10 : decode cX2_add 10 = .ok (.new 107, 3) := by decide +kernel
theorem dX2_add_13 : decode cX2_add 13 = .ok (.dup, 1) := by decide +kernel
theorem dX2_add_14 : decode cX2_add 14 = .ok (.invokespecial 109, 3) := by decide +kernel
theorem dX2_add_17 : decode cX2_add 17 = .ok (.athrow, 1) := by decide +kernel
theorem dX2_add_18 : decode cX2_add 18 = .ok (.aload_n 0, 1) := by decide +kernel
theorem dX2_add_19 : decode cX2_add 19 = .ok (.getfield 60, 3) := by decide +kernel
theorem dX2_add_22 : decode cX2_add 22 = .ok (.aload_n 0, 1) := by decide +kernel
theorem dX2_add_23 : decode cX2_add 23 = .ok (.getfield 89, 3) := by decide +kernel
theorem dX2_add_26 : decode cX2_add 26 = .ok (.iload_n 1, 1) := by decide +kernel
theorem dX2_add_27 : decode cX2_add 27 = .ok (.iastore, 1) := by decide +kernel
theorem dX2_add_28 : decode cX2_add 28 = .ok (.aload_n 0, 1) := by decide +kernel
theorem dX2_add_29 : decode cX2_add 29 = .ok (.getfield 63, 3) := by decide +kernel
theorem dX2_add_32 : decode cX2_add 32 = .ok (.aload_n 0, 1) := by decide +kernel
theorem dX2_add_33 : decode cX2_add 33 = .ok (.getfield 89, 3) := by decide +kernel
theorem dX2_add_36 : decode cX2_add 36 = .ok (.iload_n 2, 1) := by decide +kernel
theorem dX2_add_37 : decode cX2_add 37 = .ok (.iastore, 1) := by decide +kernel
theorem dX2_add_38 : decode cX2_add 38 = .ok (.aload_n 0, 1) := by decide +kernel
theorem dX2_add_39 : decode cX2_add 39 = .ok (.getfield 66, 3) := by decide +kernel
theorem dX2_add_42 : decode cX2_add 42 = .ok (.aload_n 0, 1) := by decide +kernel
theorem dX2_add_43 : decode cX2_add 43 = .ok (.getfield 89, 3) := by decide +kernel
theorem dX2_add_46 : decode cX2_add 46 = .ok (.iload_n 3, 1) := by decide +kernel
theorem dX2_add_47 : decode cX2_add 47 = .ok (.iastore, 1) := by decide +kernel
theorem dX2_add_48 : decode cX2_add 48 = .ok (.aload_n 0, 1) := by decide +kernel
theorem dX2_add_49 : decode cX2_add 49 = .ok (.getfield 69, 3) := by decide +kernel
theorem dX2_add_52 : decode cX2_add 52 = .ok (.aload_n 0, 1) := by decide +kernel
theorem dX2_add_53 : decode cX2_add 53 = .ok (.getfield 89, 3) := by decide +kernel
theorem dX2_add_56 : decode cX2_add 56 = .ok (.iload 4, 2) := by decide +kernel
theorem dX2_add_58 : decode cX2_add 58 = .ok (.iastore, 1) := by decide +kernel
theorem dX2_add_59 : decode cX2_add 59 = .ok (.aload_n 0, 1) := by decide +kernel
theorem dX2_add_60 : decode cX2_add 60 = .ok (.dup, 1) := by decide +kernel
theorem dX2_add_61 : decode cX2_add 61 = .ok (.getfield 89, 3) := by decide +kernel
theorem dX2_add_64 : decode cX2_add 64 = .ok (.iconst 1, 1) := by decide +kernel
theorem dX2_add_65 : decode cX2_add 65 = .ok (.iadd, 1) := by decide +kernel
theorem dX2_add_66 : decode cX2_add 66 = .ok (.putfield 89, 3) := by decide +kernel
theorem dX2_add_69 : decode cX2_add 69 = .ok (.return_, 1) := by decide +kernel
abbrev MX2_add : zT := (yX2_add, cX2_add, 5, (Option.none : Option Jvm.ClassFile.FieldType), [])
theorem plX2_add : zplain MX2_add 4 ∧ (zcodeW MX2_add ∈ lw_all ∧ Cond.initialized MX2_add.1.cls ∈ lw_all) := ⟨⟨by decide +kernel, by decide +kernel⟩, q1524, q106⟩
noncomputable def f_X2_add (x0 x1 x2 x3 x4 : Int) (σ : zM) : Option zO :=
  (zgf σ 221 x0).bind fun v1 =>
  if v1 ≠ 400 then
    (zgf σ 216 x0).bind fun v2 =>
    (zgf σ 221 x0).bind fun v3 =>
    (zpa σ 101 v2 v3 x1).bind fun σ4 =>
    (zgf σ4 217 x0).bind fun v5 =>
    (zgf σ4 221 x0).bind fun v6 =>
    (zpa σ4 101 v5 v6 x2).bind fun σ7 =>
    (zgf σ7 218 x0).bind fun v8 =>
    (zgf σ7 221 x0).bind fun v9 =>
    (zpa σ7 101 v8 v9 x3).bind fun σ10 =>
    (zgf σ10 219 x0).bind fun v11 =>
    (zgf σ10 221 x0).bind fun v12 =>
    (zpa σ10 101 v11 v12 x4).bind fun σ13 =>
    (zgf σ13 221 x0).bind fun v14 =>
    (zpf σ13 221 x0 (zadd v14 1)).bind fun σ15 =>
    some (0, ((3, 0) : zV), σ15)
  else
    (znX σ 53).bind fun σ16 =>
    zgd (zis σ16 53 (↑(zN σ) : Int)) <|
    some (3, zr (↑(zN σ) : Int), σ16)
theorem c_X2_add {g : zG} {lv : Nat} {x0 x1 x2 x3 x4 : Int} {σ : zM} {out : zO} (h : f_X2_add x0 x1 x2 x3 x4 σ = some out) : Cj g (lv + 6) MX2_add [zr x0, zi x1, zi x2, zi x3, zi x4] σ out := by
  refine cj_go (ls := [(0, zr x0), (1, zi x1), (2, zi x2), (3, zi x3), (4, zi x4)]) (by decide) (Nat.le_of_ble_eq_true rfl) rfl (zgen h (fun r hk => ?_))
  unfold f_X2_add
  refine zst_ (gj_aload_n 0 (pc := 0) dX2_add_0 rfl) ?_
  refine gb_get (pc := 1) fl221 dX2_add_1 q315 (Or.inl rfl) (fun v1 => ?_)
  refine zst_ (gj_sipush (pc := 4) dX2_add_4 ⟨rfl, by decide⟩) ?_
  refine gb_if (gj_icmp_ne 18 (pc := 7) dX2_add_7 (by decide)) ?_ ?_
  · refine zst_ (gj_aload_n 0 (pc := 18) dX2_add_18 rfl) ?_
    refine gb_get (pc := 19) fl216 dX2_add_19 q303 (Or.inl rfl) (fun v2 => ?_)
    refine zst_ (gj_aload_n 0 (pc := 22) dX2_add_22 rfl) ?_
    refine gb_get (pc := 23) fl221 dX2_add_23 q315 (Or.inl rfl) (fun v3 => ?_)
    refine zst_ (gj_iload_n 1 (pc := 26) dX2_add_26 rfl) ?_
    refine gb_iast (pc := 27) dX2_add_27 (fun σ4 => ?_)
    refine zst_ (gj_aload_n 0 (pc := 28) dX2_add_28 rfl) ?_
    refine gb_get (pc := 29) fl217 dX2_add_29 q305 (Or.inl rfl) (fun v5 => ?_)
    refine zst_ (gj_aload_n 0 (pc := 32) dX2_add_32 rfl) ?_
    refine gb_get (pc := 33) fl221 dX2_add_33 q315 (Or.inl rfl) (fun v6 => ?_)
    refine zst_ (gj_iload_n 2 (pc := 36) dX2_add_36 rfl) ?_
    refine gb_iast (pc := 37) dX2_add_37 (fun σ7 => ?_)
    refine zst_ (gj_aload_n 0 (pc := 38) dX2_add_38 rfl) ?_
    refine gb_get (pc := 39) fl218 dX2_add_39 q308 (Or.inl rfl) (fun v8 => ?_)
    refine zst_ (gj_aload_n 0 (pc := 42) dX2_add_42 rfl) ?_
    refine gb_get (pc := 43) fl221 dX2_add_43 q315 (Or.inl rfl) (fun v9 => ?_)
    refine zst_ (gj_iload_n 3 (pc := 46) dX2_add_46 rfl) ?_
    refine gb_iast (pc := 47) dX2_add_47 (fun σ10 => ?_)
    refine zst_ (gj_aload_n 0 (pc := 48) dX2_add_48 rfl) ?_
    refine gb_get (pc := 49) fl219 dX2_add_49 q310 (Or.inl rfl) (fun v11 => ?_)
    refine zst_ (gj_aload_n 0 (pc := 52) dX2_add_52 rfl) ?_
    refine gb_get (pc := 53) fl221 dX2_add_53 q315 (Or.inl rfl) (fun v12 => ?_)
    refine zst_ (gj_iload 4 (pc := 56) dX2_add_56 rfl) ?_
    refine gb_iast (pc := 58) dX2_add_58 (fun σ13 => ?_)
    refine zst_ (gj_aload_n 0 (pc := 59) dX2_add_59 rfl) ?_
    refine zst_ (gj_dup (pc := 60) dX2_add_60 rfl) ?_
    refine gb_get (pc := 61) fl221 dX2_add_61 q315 (Or.inl rfl) (fun v14 => ?_)
    refine zst_ (gj_iconst (pc := 64) dX2_add_64 (by decide)) ?_
    refine zst_ (gj_iadd (pc := 65) dX2_add_65) ?_
    refine gb_put (pc := 66) fl221 fr221 dX2_add_66 q315 (Or.inl rfl) (fun σ15 => ?_)
    intro h
    cases h
    have hk : (0, ((3, 0) : zV), σ15) = out := hk
    subst hk
    exact gj_vret (pc := 69) dX2_add_69 rfl
  · refine gb_exc (pc := 10) (k := 53) ⟨by decide, by decide⟩ (by omega) (Nat.le_of_ble_eq_true rfl) dX2_add_10 dX2_add_13 dX2_add_14 q1436 q1445 (fun σ16 => ?_)
    refine gb_gd (fun hb => ?_)
    intro h
    cases h
    have hk : (3, zr (↑(zN σ) : Int), σ16) = out := hk
    subst hk
    exact gj_athrow (pc := 17) (zisE hb).1 (zisE hb).2 (by decide) dX2_add_17 rfl

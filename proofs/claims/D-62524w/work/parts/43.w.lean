set_option maxRecDepth 100000
theorem q1172 : (Jvm.Cond.fieldLinkNest "LassoFinder$Model" (178 : Nat) "LassoFinder$Statement" "other" "I" "LassoFinder") ∈ lw_tbl := lw_at lw_m5 112 rfl
theorem q1427 : (Jvm.Cond.methodLink "LassoFinder$Model" (193 : Nat) ({ cls := "LassoFinder$Model", name := "packed", desc := "(LLassoFinder$Moment;)J" } : Jvm.MethodName)) ∈ lw_all := lw_g (lw_at lw_m6 127 rfl) rfl
theorem q1429 : (Jvm.Cond.instanceMethod ({ cls := "LassoFinder$Model", name := "packed", desc := "(LLassoFinder$Moment;)J" } : Jvm.MethodName)) ∈ lw_all := lw_g (lw_at lw_m6 129 rfl) rfl
theorem q1431 : (Jvm.Cond.methodLink "LassoFinder$Model" (197 : Nat) ({ cls := "LassoFinder$Model", name := "find", desc := "(J)I" } : Jvm.MethodName)) ∈ lw_all := lw_g (lw_at lw_m6 131 rfl) rfl
theorem q1433 : (Jvm.Cond.instanceMethod ({ cls := "LassoFinder$Model", name := "find", desc := "(J)I" } : Jvm.MethodName)) ∈ lw_all := lw_g (lw_at lw_m6 133 rfl) rfl
theorem q1499 : (Jvm.Cond.fieldLink "LassoFinder$Model" (160 : Nat) "LassoFinder$Kind" "SEND" "LLassoFinder$Kind;") ∈ lw_all := lw_g (lw_at lw_m6 199 rfl) rfl
theorem q1503 : (Jvm.Cond.code ({ cls := "LassoFinder$Model", name := "act", desc := "(III)V" } : Jvm.MethodName) prog_9_method_13_code (6 : Nat) (Option.none : Option Jvm.ClassFile.FieldType)) ∈ lw_all := lw_g (lw_at lw_m6 203 rfl) rfl
theorem q1504 : (Jvm.Cond.methodLink "LassoFinder$Model" (171 : Nat) ({ cls := "LassoFinder$Moment", name := "copy", desc := "(LLassoFinder$Moment;)V" } : Jvm.MethodName)) ∈ lw_all := lw_g (lw_at lw_m6 204 rfl) rfl
theorem q1505 : (Jvm.Cond.instanceMethod ({ cls := "LassoFinder$Moment", name := "copy", desc := "(LLassoFinder$Moment;)V" } : Jvm.MethodName)) ∈ lw_all := lw_g (lw_at lw_m6 205 rfl) rfl
theorem q1506 : (Jvm.Cond.selects "LassoFinder$Moment" ({ cls := "LassoFinder$Moment", name := "copy", desc := "(LLassoFinder$Moment;)V" } : Jvm.MethodName) ({ cls := "LassoFinder$Moment", name := "copy", desc := "(LLassoFinder$Moment;)V" } : Jvm.MethodName)) ∈ lw_all := lw_g (lw_at lw_m6 206 rfl) rfl
theorem q1508 : (Jvm.Cond.fieldLink "LassoFinder$Model" (175 : Nat) "LassoFinder$Kind" "SET" "LLassoFinder$Kind;") ∈ lw_all := lw_g (lw_at lw_m6 208 rfl) rfl
theorem q1509 : (Jvm.Cond.methodLink "LassoFinder$Model" (181 : Nat) ({ cls := "LassoFinder$Moment", name := "get", desc := "(I)I" } : Jvm.MethodName)) ∈ lw_all := lw_g (lw_at lw_m6 209 rfl) rfl
theorem q1510 : (Jvm.Cond.instanceMethod ({ cls := "LassoFinder$Moment", name := "get", desc := "(I)I" } : Jvm.MethodName)) ∈ lw_all := lw_g (lw_at lw_m6 210 rfl) rfl
theorem q1511 : (Jvm.Cond.selects "LassoFinder$Moment" ({ cls := "LassoFinder$Moment", name := "get", desc := "(I)I" } : Jvm.MethodName) ({ cls := "LassoFinder$Moment", name := "get", desc := "(I)I" } : Jvm.MethodName)) ∈ lw_all := lw_g (lw_at lw_m6 211 rfl) rfl
theorem q1513 : (Jvm.Cond.methodLink "LassoFinder$Model" (185 : Nat) ({ cls := "LassoFinder$Moment", name := "put", desc := "(II)V" } : Jvm.MethodName)) ∈ lw_all := lw_g (lw_at lw_m6 213 rfl) rfl
theorem q1514 : (Jvm.Cond.instanceMethod ({ cls := "LassoFinder$Moment", name := "put", desc := "(II)V" } : Jvm.MethodName)) ∈ lw_all := lw_g (lw_at lw_m6 214 rfl) rfl
theorem q1515 : (Jvm.Cond.selects "LassoFinder$Moment" ({ cls := "LassoFinder$Moment", name := "put", desc := "(II)V" } : Jvm.MethodName) ({ cls := "LassoFinder$Moment", name := "put", desc := "(II)V" } : Jvm.MethodName)) ∈ lw_all := lw_g (lw_at lw_m6 215 rfl) rfl
theorem q1517 : (Jvm.Cond.methodLink "LassoFinder$Model" (189 : Nat) ({ cls := "LassoFinder$Model", name := "leave", desc := "(I)V" } : Jvm.MethodName)) ∈ lw_all := lw_g (lw_at lw_m6 217 rfl) rfl
theorem q1519 : (Jvm.Cond.instanceMethod ({ cls := "LassoFinder$Model", name := "leave", desc := "(I)V" } : Jvm.MethodName)) ∈ lw_all := lw_g (lw_at lw_m6 219 rfl) rfl
theorem q1521 : (Jvm.Cond.methodLink "LassoFinder$Model" (167 : Nat) ({ cls := "LassoFinder$Model", name := "add", desc := "(IIII)V" } : Jvm.MethodName)) ∈ lw_all := lw_g (lw_at lw_m6 221 rfl) rfl
theorem q1523 : (Jvm.Cond.instanceMethod ({ cls := "LassoFinder$Model", name := "add", desc := "(IIII)V" } : Jvm.MethodName)) ∈ lw_all := lw_g (lw_at lw_m6 223 rfl) rfl
abbrev cX2_act : ByteArray := prog_9_method_13_code
def yX2_act : MethodName := ⟨RX2, "act", "(III)V"⟩
theorem dX2_act_0 : decode cX2_act 0 = .ok (.aload_n 0, 1) := by decide +kernel
theorem dX2_act_1 : decode cX2_act 1 = .ok (.getfield 47, 3) := by decide +kernel
theorem dX2_act_4 : decode cX2_act 4 = .ok (.aload_n 0, 1) := by decide +kernel
theorem dX2_act_5 : decode cX2_act 5 = .ok (.getfield 43, 3) := by decide +kernel
theorem dX2_act_8 : decode cX2_act 8 = .ok (.invokevirtual 171, 3) := by decide +kernel
theorem dX2_act_11 : decode cX2_act 11 = .ok (.aload_n 0, 1) := by decide +kernel
theorem dX2_act_12 : decode cX2_act 12 = .ok (.getfield 26, 3) := by decide +kernel
theorem dX2_act_15 : decode cX2_act 15 = .ok (.iload_n 2, 1) := by decide +kernel
theorem dX2_act_16 : decode cX2_act 16 = .ok (.aaload, 1) := by decide +kernel
theorem dX2_act_17 : decode cX2_act 17 = .ok (.astore 4, 2) := by decide +kernel
theorem dX2_act_19 : decode cX2_act 19 = .ok (.aload 4, 2) := by decide +kernel
theorem dX2_act_21 : decode cX2_act 21 = .ok (.getfield 132, 3) := by decide +kernel
theorem dX2_act_24 : decode cX2_act 24 = .ok (.ifnonnull 7, 3) := by decide +kernel
theorem dX2_act_27 : decode cX2_act 27 = .ok (.iconst 0, 1) := by decide +kernel
theorem dX2_act_28 : decode cX2_act 28 = .ok (.goto 20, 3) := by decide +kernel
theorem dX2_act_31 : decode cX2_act 31 = .ok (.aload 4, 2) := by decide +kernel
theorem dX2_act_33 : decode cX2_act 33 = .ok (.getfield 132, 3) := by decide +kernel
theorem dX2_act_36 : decode cX2_act 36 = .ok (.aload_n 0, 1) := by decide +kernel
theorem dX2_act_37 : decode cX2_act 37 = .ok (.getfield 43, 3) := by decide +kernel
theorem dX2_act_40 : decode cX2_act 40 = .ok (.getfield 98, 3) := by decide +kernel
theorem dX2_act_43 : decode cX2_act 43 = .ok (.invokeinterface 136 2, 5) := by decide +kernel
theorem dX2_act_48 : decode cX2_act 48 = .ok (.istore 5, 2) := by decide +kernel
theorem dX2_act_50 : decode cX2_act 50 = .ok (.aload 4, 2) := by decide +kernel
theorem dX2_act_52 : decode cX2_act 52 = .ok (.getfield 112, 3) := by decide +kernel
theorem dX2_act_55 : decode cX2_act 55 = .ok (.getstatic 175, 3) := by decide +kernel
theorem dX2_act_58 : decode cX2_act 58 = .ok (.if_acmp .ne 21, 3) := by decide +kernel
theorem dX2_act_61 : decode cX2_act 61 = .ok (.aload_n 0, 1) := by decide +kernel
theorem dX2_act_62 : decode cX2_act 62 = .ok (.getfield 47, 3) := by decide +kernel
theorem dX2_act_65 : decode cX2_act 65 = .ok (.getfield 98, 3) := by decide +kernel
theorem dX2_act_68 : decode cX2_act 68 = .ok (.aload 4, 2) := by decide +kernel
theorem dX2_act_70 : decode cX2_act 70 = .ok (.getfield 121, 3) := by decide +kernel
theorem dX2_act_73 : decode cX2_act 73 = .ok (.iload 5, 2) := by decide +kernel
theorem dX2_act_75 : decode cX2_act 75 = .ok (.iastore, 1) := by decide +kernel
theorem dX2_act_76 : decode cX2_act 76 = .ok (.goto 94, 3) := by decide +kernel
theorem dX2_act_79 : decode cX2_act 79 = .ok (.aload 4, 2) := by decide +kernel
theorem dX2_act_81 : decode cX2_act 81 = .ok (.getfield 112, 3) := by decide +kernel
theorem dX2_act_84 : decode cX2_act 84 = .ok (.getstatic 116, 3) := by decide +kernel
theorem dX2_act_87 : decode cX2_act 87 = .ok (.if_acmp .ne 31, 3) := by decide +kernel
theorem dX2_act_90 : decode cX2_act 90 = .ok (.aload_n 0, 1) := by decide +kernel
theorem dX2_act_91 : decode cX2_act 91 = .ok (.getfield 47, 3) := by decide +kernel
theorem dX2_act_94 : decode cX2_act 94 = .ok (.getfield 98, 3) := by decide +kernel
theorem dX2_act_97 : decode cX2_act 97 = .ok (.aload 4, 2) := by decide +kernel
theorem dX2_act_99 : decode cX2_act 99 = .ok (.getfield 178, 3) := by decide +kernel
theorem dX2_act_102 : decode cX2_act 102 = .ok (.aload_n 0, 1) := by decide +kernel
theorem dX2_act_103 : decode cX2_act 103 = .ok (.getfield 47, 3) := by decide +kernel
theorem dX2_act_106 : decode cX2_act 106 = .ok (.aload 4, 2) := by decide +kernel
theorem dX2_act_108 : decode cX2_act 108 = .ok (.getfield 121, 3) := by decide +kernel
theorem dX2_act_111 : decode cX2_act 111 = .ok (.invokevirtual 181, 3) := by decide +kernel
theorem dX2_act_114 : decode cX2_act 114 = .ok (.iastore, 1) := by decide +kernel
theorem dX2_act_115 : decode cX2_act 115 = .ok (.goto 55, 3) := by decide +kernel
theorem dX2_act_118 : decode cX2_act 118 = .ok (.iload_n 3, 1) := by decide +kernel
theorem dX2_act_119 : decode cX2_act 119 = .ok (.iconst (-1), 1) := by decide +kernel
theorem dX2_act_120 : decode cX2_act 120 = .ok (.if_icmp .eq 25, 3) := by decide +kernel
theorem dX2_act_123 : decode cX2_act 123 = .ok (.aload_n 0, 1) := by decide +kernel
theorem dX2_act_124 : decode cX2_act 124 = .ok (.getfield 47, 3) := by decide +kernel
theorem dX2_act_127 : decode cX2_act 127 = .ok (.getfield 98, 3) := by decide +kernel
theorem dX2_act_130 : decode cX2_act 130 = .ok (.aload_n 0, 1) := by decide +kernel
theorem dX2_act_131 : decode cX2_act 131 = .ok (.getfield 26, 3) := by decide +kernel
theorem dX2_act_134 : decode cX2_act 134 = .ok (.iload_n 3, 1) := by decide +kernel
theorem dX2_act_135 : decode cX2_act 135 = .ok (.aaload, 1) := by decide +kernel
theorem dX2_act_136 : decode cX2_act 136 = .ok (.getfield 178, 3) := by decide +kernel
theorem dX2_act_139 : decode cX2_act 139 = .ok (.iload 5, 2) := by decide +kernel
theorem dX2_act_141 : decode cX2_act 141 = .ok (.iastore, 1) := by decide +kernel
theorem dX2_act_142 : decode cX2_act 142 = .ok (.goto 28, 3) := by decide +kernel
theorem dX2_act_145 : decode cX2_act 145 = .ok (.aload 4, 2) := by decide +kernel
theorem dX2_act_147 : decode cX2_act 147 = .ok (.getfield 112, 3) := by decide +kernel
theorem dX2_act_150 : decode cX2_act 150 = .ok (.getstatic 160, 3) := by decide +kernel
theorem dX2_act_153 : decode cX2_act 153 = .ok (.if_acmp .ne 17, 3) := by decide +kernel
theorem dX2_act_156 : decode cX2_act 156 = .ok (.aload_n 0, 1) := by decide +kernel
theorem dX2_act_157 : decode cX2_act 157 = .ok (.getfield 47, 3) := by decide +kernel
theorem dX2_act_160 : decode cX2_act 160 = .ok (.aload 4, 2) := by decide +kernel
theorem dX2_act_162 : decode cX2_act 162 = .ok (.getfield 121, 3) := by decide +kernel
theorem dX2_act_165 : decode cX2_act 165 = .ok (.iload 5, 2) := by decide +kernel
theorem dX2_act_167 : decode cX2_act 167 = .ok (.invokevirtual 185, 3) := by decide +kernel
theorem dX2_act_170 : decode cX2_act 170 = .ok (.aload_n 0, 1) := by decide +kernel
theorem dX2_act_171 : decode cX2_act 171 = .ok (.getfield 47, 3) := by decide +kernel
theorem dX2_act_174 : decode cX2_act 174 = .ok (.iconst 0, 1) := by decide +kernel
theorem dX2_act_175 : decode cX2_act 175 = .ok (.putfield 92, 3) := by decide +kernel
theorem dX2_act_178 : decode cX2_act 178 = .ok (.aload_n 0, 1) := by decide +kernel
theorem dX2_act_179 : decode cX2_act 179 = .ok (.iload_n 2, 1) := by decide +kernel
theorem dX2_act_180 : decode cX2_act 180 = .ok (.invokevirtual 189, 3) := by decide +kernel
theorem dX2_act_183 : decode cX2_act 183 = .ok (.iload_n 3, 1) := by decide +kernel
theorem dX2_act_184 : decode cX2_act 184 = .ok (.iconst (-1), 1) := by decide +kernel
theorem dX2_act_185 : decode cX2_act 185 = .ok (.if_icmp .eq 8, 3) := by decide +kernel
theorem dX2_act_188 : decode cX2_act 188 = .ok (.aload_n 0, 1) := by decide +kernel
theorem dX2_act_189 : decode cX2_act 189 = .ok (.iload_n 3, 1) := by decide +kernel
theorem dX2_act_190 : decode cX2_act 190 = .ok (.invokevirtual 189, 3) := by decide +kernel
theorem dX2_act_193 : decode cX2_act 193 = .ok (.aload_n 0, 1) := by decide +kernel
theorem dX2_act_194 : decode cX2_act 194 = .ok (.iload_n 1, 1) := by decide +kernel
theorem dX2_act_195 : decode cX2_act 195 = .ok (.aload_n 0, 1) := by decide +kernel
theorem dX2_act_196 : decode cX2_act 196 = .ok (.aload_n 0, 1) := by decide +kernel
theorem dX2_act_197 : decode cX2_act 197 = .ok (.aload_n 0, 1) := by decide +kernel
theorem dX2_act_198 : decode cX2_act 198 = .ok (.getfield 47, 3) := by decide +kernel
theorem dX2_act_201 : decode cX2_act 201 = .ok (.invokevirtual 193, 3) := by decide +kernel
theorem dX2_act_204 : decode cX2_act 204 = .ok (.invokevirtual 197, 3) := by decide +kernel
theorem dX2_act_207 : decode cX2_act 207 = .ok (.iload_n 2, 1) := by decide +kernel
theorem dX2_act_208 : decode cX2_act 208 = .ok (.iload_n 3, 1) := by decide +kernel
theorem dX2_act_209 : decode cX2_act 209 = .ok (.invokevirtual 167, 3) := by decide +kernel
theorem dX2_act_212 : decode cX2_act 212 = .ok (.return_, 1) := by decide +kernel
abbrev MX2_act : zT := (yX2_act, cX2_act, 6, (Option.none : Option Jvm.ClassFile.FieldType), [])
theorem plX2_act : zplain MX2_act 3 ∧ (zcodeW MX2_act ∈ lw_all ∧ Cond.initialized MX2_act.1.cls ∈ lw_all) := ⟨⟨by decide +kernel, by decide +kernel⟩, q1503, q106⟩
noncomputable def f_X2_act_193 (x0 x1 x2 x3 : Int) (σ : zM) : Option zO :=
  (zgf σ 212 x0).bind fun v1 =>
  zgd (zis σ 3 x0) <|
  zcj (f_X2_packed x0 v1 σ) fun v2 σ3 =>
  zgd (zis σ3 3 x0) <|
  zciT (f_X2_find x0 v2 σ3) (fun n a σ5 => some (n + 1, zr a, σ5)) fun v4 σ5 =>
  zgd (zis σ5 3 x0) <|
  zcvT (f_X2_add x0 x1 v4 x2 x3 σ5) (fun n a σ6 => some (n + 1, zr a, σ6)) fun σ6 =>
  some (0, ((3, 0) : zV), σ6)
theorem w_X2_act_193 {g : zG} {lv : Nat} {out : zO} (x0 x1 x2 x3 : Int) (σ : zM) {r : zO} (h : f_X2_act_193 x0 x1 x2 x3 σ = some r) (hk : (fun o : zO => o = out) r) : Gj g MX2_act (lv + 41) 193 [(0, zr x0), (1, zi x1), (2, zi x2), (3, zi x3)] [] σ out := by
  revert h
  unfold f_X2_act_193
  refine zst_ (gj_aload_n 0 (pc := 193) dX2_act_193 rfl) ?_
  refine zst_ (gj_iload_n 1 (pc := 194) dX2_act_194 rfl) ?_
  refine zst_ (gj_aload_n 0 (pc := 195) dX2_act_195 rfl) ?_
  refine zst_ (gj_aload_n 0 (pc := 196) dX2_act_196 rfl) ?_
  refine zst_ (gj_aload_n 0 (pc := 197) dX2_act_197 rfl) ?_
  refine gb_get (pc := 198) fl212 dX2_act_198 q297 (Or.inl rfl) (fun v1 => ?_)
  refine gb_gd (fun hb => ?_)
  refine gb_callJ (pc := 201) (as := [zr x0, zr v1]) (rest := [zr x0, zi x1, zr x0]) (zCl.of (zLk_V (M := MX2_act) (ci := 2) (r := (RX2, TX2, 22)) plX2_packed.1 rfl rfl (zisE hb).1 (zisE hb).2 dX2_act_201 q1427 q1429 qs16 q1430) plX2_packed (Nat.le_of_ble_eq_true rfl) (fun h => c_X2_packed h)) (fun v2 σ3 => ?_)
  refine gb_gd (fun hb => ?_)
  refine gb_callIT (pc := 204) (as := [zr x0, zj v2]) (rest := [zi x1, zr x0]) (zCl.of (zLk_V (M := MX2_act) (ci := 2) (r := (RX2, TX2, 22)) plX2_find.1 rfl rfl (zisE hb).1 (zisE hb).2 dX2_act_204 q1431 q1433 qs17 q1434) plX2_find (Nat.le_of_ble_eq_true rfl) (fun h => c_X2_find h)) (fun n a s0 h => by cases h; exact Or.inl ⟨rfl, hk⟩) (fun v4 σ5 => ?_)
  refine zst_ (gj_iload_n 2 (pc := 207) dX2_act_207 rfl) ?_
  refine zst_ (gj_iload_n 3 (pc := 208) dX2_act_208 rfl) ?_
  refine gb_gd (fun hb => ?_)
  refine gb_callVT (pc := 209) (as := [zr x0, zi x1, zi v4, zi x2, zi x3]) (rest := []) (zCl.of (zLk_V (M := MX2_act) (ci := 2) (r := (RX2, TX2, 22)) plX2_add.1 rfl rfl (zisE hb).1 (zisE hb).2 dX2_act_209 q1521 q1523 qs25 q1524) plX2_add (Nat.le_of_ble_eq_true rfl) (fun h => c_X2_add h)) (fun n a s0 h => by cases h; exact Or.inl ⟨rfl, hk⟩) (fun σ6 => ?_)
  intro h
  cases h
  have hk : (0, ((3, 0) : zV), σ6) = out := hk
  subst hk
  exact gj_vret (pc := 212) dX2_act_212 rfl
noncomputable def f_X2_act_170 (x0 x1 x2 x3 : Int) (σ : zM) : Option zO :=
  (zgf σ 212 x0).bind fun v1 =>
  (zpf σ 303 v1 0).bind fun σ2 =>
  zgd (zis σ2 3 x0) <|
  zcv (f_X2_leave x0 x2 σ2) fun σ3 =>
  if x3 = (-1) then
    f_X2_act_193 x0 x1 x2 x3 σ3
  else
    zgd (zis σ3 3 x0) <|
    zcv (f_X2_leave x0 x3 σ3) fun σ4 =>
    f_X2_act_193 x0 x1 x2 x3 σ4
theorem w_X2_act_170 {g : zG} {lv : Nat} {out : zO} (x0 x1 x2 x3 : Int) (σ : zM) {r : zO} (h : f_X2_act_170 x0 x1 x2 x3 σ = some r) (hk : (fun o : zO => o = out) r) : Gj g MX2_act (lv + 41) 170 [(0, zr x0), (1, zi x1), (2, zi x2), (3, zi x3)] [] σ out := by
  revert h
  unfold f_X2_act_170
  refine zst_ (gj_aload_n 0 (pc := 170) dX2_act_170 rfl) ?_
  refine gb_get (pc := 171) fl212 dX2_act_171 q297 (Or.inl rfl) (fun v1 => ?_)
  refine zst_ (gj_iconst (pc := 174) dX2_act_174 (by decide)) ?_
  refine gb_putNe (pc := 175) fl303 fr303 dX2_act_175 q217 (Or.inl rfl) (fun σ2 => ?_)
  refine zst_ (gj_aload_n 0 (pc := 178) dX2_act_178 rfl) ?_
  refine zst_ (gj_iload_n 2 (pc := 179) dX2_act_179 rfl) ?_
  refine gb_gd (fun hb => ?_)
  refine gb_callV (pc := 180) (as := [zr x0, zi x2]) (rest := []) (zCl.of (zLk_V (M := MX2_act) (ci := 2) (r := (RX2, TX2, 22)) plX2_leave.1 rfl rfl (zisE hb).1 (zisE hb).2 dX2_act_180 q1517 q1519 qs24 q1520) plX2_leave (Nat.le_of_ble_eq_true rfl) (fun h => c_X2_leave h)) (fun σ3 => ?_)
  refine zst_ (gj_iload_n 3 (pc := 183) dX2_act_183 rfl) ?_
  refine zst_ (gj_iconst (pc := 184) dX2_act_184 (by decide)) ?_
  refine gb_if (gj_icmp_eq 193 (pc := 185) dX2_act_185 (by decide)) ?_ ?_
  · exact fun h => w_X2_act_193 x0 x1 x2 x3 σ3 h hk
  · refine zst_ (gj_aload_n 0 (pc := 188) dX2_act_188 rfl) ?_
    refine zst_ (gj_iload_n 3 (pc := 189) dX2_act_189 rfl) ?_
    refine gb_gd (fun hb => ?_)
    refine gb_callV (pc := 190) (as := [zr x0, zi x3]) (rest := []) (zCl.of (zLk_V (M := MX2_act) (ci := 2) (r := (RX2, TX2, 22)) plX2_leave.1 rfl rfl (zisE hb).1 (zisE hb).2 dX2_act_190 q1517 q1519 qs24 q1520) plX2_leave (Nat.le_of_ble_eq_true rfl) (fun h => c_X2_leave h)) (fun σ4 => ?_)
    exact fun h => w_X2_act_193 x0 x1 x2 x3 σ4 h hk
noncomputable def f_X2_act_48 (x0 x1 x2 x3 x4 t0 : Int) (σ : zM) : Option zO :=
  (zgf σ 1100 x4).bind fun v1 =>
  if v1 ≠ (-2) then
    (zgf σ 1100 x4).bind fun v2 =>
    if v2 ≠ (-5) then
      if x3 = (-1) then
        (zgf σ 1100 x4).bind fun v3 =>
        if v3 ≠ (-4) then
          f_X2_act_170 x0 x1 x2 x3 σ
        else
          (zgf σ 212 x0).bind fun v4 =>
          (zgf σ 1107 x4).bind fun v5 =>
          zgd (zis σ 4 v4) <|
          zcv (f_X3_put v4 v5 t0 σ) fun σ6 =>
          f_X2_act_170 x0 x1 x2 x3 σ6
      else
        (zgf σ 212 x0).bind fun v7 =>
        (zgf σ 300 v7).bind fun v8 =>
        (zgf σ 207 x0).bind fun v9 =>
        (zga σ 106 v9 x3).bind fun v10 =>
        (zgf σ 1108 v10).bind fun v11 =>
        (zpa σ 101 v8 v11 t0).bind fun σ12 =>
        f_X2_act_170 x0 x1 x2 x3 σ12
    else
      (zgf σ 212 x0).bind fun v13 =>
      (zgf σ 300 v13).bind fun v14 =>
      (zgf σ 1108 x4).bind fun v15 =>
      (zgf σ 212 x0).bind fun v16 =>
      (zgf σ 1107 x4).bind fun v17 =>
      zgd (zis σ 4 v16) <|
      zci (f_X3_get v16 v17 σ) fun v18 σ19 =>
      (zpa σ19 101 v14 v15 v18).bind fun σ20 =>
      f_X2_act_170 x0 x1 x2 x3 σ20
  else
    (zgf σ 212 x0).bind fun v21 =>
    (zgf σ 300 v21).bind fun v22 =>
    (zgf σ 1107 x4).bind fun v23 =>
    (zpa σ 101 v22 v23 t0).bind fun σ24 =>
    f_X2_act_170 x0 x1 x2 x3 σ24
theorem w_X2_act_48 {g : zG} {lv : Nat} {out : zO} (x0 x1 x2 x3 x4 t0 : Int) (σ : zM) {r : zO} (h : f_X2_act_48 x0 x1 x2 x3 x4 t0 σ = some r) (hk : (fun o : zO => o = out) r) : Gj g MX2_act (lv + 41) 48 [(0, zr x0), (1, zi x1), (2, zi x2), (3, zi x3), (4, zr x4)] [zi t0] σ out := by
  revert h
  unfold f_X2_act_48
  refine zst_ (gj_istore (pc := 48) (ls' := [(5, zi t0), (0, zr x0), (1, zi x1), (2, zi x2), (3, zi x3), (4, zr x4)]) dX2_act_48 (by decide) rfl) ?_
  refine zst_ (gj_aload 5 (pc := 50) dX2_act_50 rfl) ?_
  refine gb_getNe (pc := 52) fl1100 dX2_act_52 q1156 (Or.inl rfl) (fun v1 => ?_)
  refine zst_ (gj_enumL (pc := 55) (i := 0) (by decide) rfl rfl dX2_act_55 q1508 rfl) ?_
  refine gb_if (gj_acmp_ne 79 (pc := 58) dX2_act_58 (by decide)) ?_ ?_
  · refine zst_ (gj_aload 5 (pc := 79) dX2_act_79 rfl) ?_
    refine gb_getNe (pc := 81) fl1100 dX2_act_81 q1156 (Or.inl rfl) (fun v2 => ?_)
    refine zst_ (gj_enumL (pc := 84) (i := 3) (by decide) rfl rfl dX2_act_84 q1498 rfl) ?_
    refine gb_if (gj_acmp_ne 118 (pc := 87) dX2_act_87 (by decide)) ?_ ?_
    · refine zst_ (gj_iload_n 4 (pc := 118) dX2_act_118 rfl) ?_
      refine zst_ (gj_iconst (pc := 119) dX2_act_119 (by decide)) ?_
      refine gb_if (gj_icmp_eq 145 (pc := 120) dX2_act_120 (by decide)) ?_ ?_
      · refine zst_ (gj_aload 5 (pc := 145) dX2_act_145 rfl) ?_
        refine gb_getNe (pc := 147) fl1100 dX2_act_147 q1156 (Or.inl rfl) (fun v3 => ?_)
        refine zst_ (gj_enumL (pc := 150) (i := 2) (by decide) rfl rfl dX2_act_150 q1499 rfl) ?_
        refine gb_if (gj_acmp_ne 170 (pc := 153) dX2_act_153 (by decide)) ?_ ?_
        · refine zst_ (gj_sub [1, 2, 3, 4] rfl) ?_
          exact fun h => w_X2_act_170 x0 x1 x2 x3 σ h hk
        · refine zst_ (gj_aload_n 1 (pc := 156) dX2_act_156 rfl) ?_
          refine gb_get (pc := 157) fl212 dX2_act_157 q297 (Or.inl rfl) (fun v4 => ?_)
          refine zst_ (gj_aload 5 (pc := 160) dX2_act_160 rfl) ?_
          refine gb_getNe (pc := 162) fl1107 dX2_act_162 q1170 (Or.inl rfl) (fun v5 => ?_)
          refine zst_ (gj_iload 0 (pc := 165) dX2_act_165 rfl) ?_
          refine gb_gd (fun hb => ?_)
          refine gb_callV (pc := 167) (as := [zr v4, zi v5, zi t0]) (rest := []) (zCl.of (zLk_V (M := MX2_act) (ci := 3) (r := (RX3, TX3, 4)) plX3_put.1 rfl rfl (zisE hb).1 (zisE hb).2 dX2_act_167 q1513 q1514 q1515 q1516) plX3_put (Nat.le_of_ble_eq_true rfl) (fun h => c_X3_put h)) (fun σ6 => ?_)
          refine zst_ (gj_sub [1, 2, 3, 4] rfl) ?_
          exact fun h => w_X2_act_170 x0 x1 x2 x3 σ6 h hk
      · refine zst_ (gj_aload_n 1 (pc := 123) dX2_act_123 rfl) ?_
        refine gb_get (pc := 124) fl212 dX2_act_124 q297 (Or.inl rfl) (fun v7 => ?_)
        refine gb_getNe (pc := 127) fl300 dX2_act_127 q207 (Or.inl rfl) (fun v8 => ?_)
        refine zst_ (gj_aload_n 1 (pc := 130) dX2_act_130 rfl) ?_
        refine gb_get (pc := 131) fl207 dX2_act_131 q287 (Or.inl rfl) (fun v9 => ?_)
        refine zst_ (gj_iload_n 4 (pc := 134) dX2_act_134 rfl) ?_
        refine gb_aald (pc := 135) (k := 106) ⟨by decide, by decide⟩ dX2_act_135 (fun v10 => ?_)
        refine gb_getNe (pc := 136) fl1108 dX2_act_136 q1172 (Or.inl rfl) (fun v11 => ?_)
        refine zst_ (gj_iload 0 (pc := 139) dX2_act_139 rfl) ?_
        refine gb_iast (pc := 141) dX2_act_141 (fun σ12 => ?_)
        refine zst_ (gj_goto 170 (pc := 142) dX2_act_142 (by decide)) ?_
        refine zst_ (gj_sub [1, 2, 3, 4] rfl) ?_
        exact fun h => w_X2_act_170 x0 x1 x2 x3 σ12 h hk
    · refine zst_ (gj_aload_n 1 (pc := 90) dX2_act_90 rfl) ?_
      refine gb_get (pc := 91) fl212 dX2_act_91 q297 (Or.inl rfl) (fun v13 => ?_)
      refine gb_getNe (pc := 94) fl300 dX2_act_94 q207 (Or.inl rfl) (fun v14 => ?_)
      refine zst_ (gj_aload 5 (pc := 97) dX2_act_97 rfl) ?_
      refine gb_getNe (pc := 99) fl1108 dX2_act_99 q1172 (Or.inl rfl) (fun v15 => ?_)
      refine zst_ (gj_aload_n 1 (pc := 102) dX2_act_102 rfl) ?_
      refine gb_get (pc := 103) fl212 dX2_act_103 q297 (Or.inl rfl) (fun v16 => ?_)
      refine zst_ (gj_aload 5 (pc := 106) dX2_act_106 rfl) ?_
      refine gb_getNe (pc := 108) fl1107 dX2_act_108 q1170 (Or.inl rfl) (fun v17 => ?_)
      refine gb_gd (fun hb => ?_)
      refine gb_callI (pc := 111) (as := [zr v16, zi v17]) (rest := [zi v15, zr v14]) (zCl.of (zLk_V (M := MX2_act) (ci := 3) (r := (RX3, TX3, 4)) plX3_get.1 rfl rfl (zisE hb).1 (zisE hb).2 dX2_act_111 q1509 q1510 q1511 q1512) plX3_get (Nat.le_of_ble_eq_true rfl) (fun h => c_X3_get h)) (fun v18 σ19 => ?_)
      refine gb_iast (pc := 114) dX2_act_114 (fun σ20 => ?_)
      refine zst_ (gj_goto 170 (pc := 115) dX2_act_115 (by decide)) ?_
      refine zst_ (gj_sub [1, 2, 3, 4] rfl) ?_
      exact fun h => w_X2_act_170 x0 x1 x2 x3 σ20 h hk
  · refine zst_ (gj_aload_n 1 (pc := 61) dX2_act_61 rfl) ?_
    refine gb_get (pc := 62) fl212 dX2_act_62 q297 (Or.inl rfl) (fun v21 => ?_)
    refine gb_getNe (pc := 65) fl300 dX2_act_65 q207 (Or.inl rfl) (fun v22 => ?_)
    refine zst_ (gj_aload 5 (pc := 68) dX2_act_68 rfl) ?_
    refine gb_getNe (pc := 70) fl1107 dX2_act_70 q1170 (Or.inl rfl) (fun v23 => ?_)
    refine zst_ (gj_iload 0 (pc := 73) dX2_act_73 rfl) ?_
    refine gb_iast (pc := 75) dX2_act_75 (fun σ24 => ?_)
    refine zst_ (gj_goto 170 (pc := 76) dX2_act_76 (by decide)) ?_
    refine zst_ (gj_sub [1, 2, 3, 4] rfl) ?_
    exact fun h => w_X2_act_170 x0 x1 x2 x3 σ24 h hk
noncomputable def f_X2_act (x0 x1 x2 x3 : Int) (σ : zM) : Option zO :=
  (zgf σ 212 x0).bind fun v1 =>
  (zgf σ 211 x0).bind fun v2 =>
  zgd (zis σ 4 v1) <|
  zcv (f_X3_copy v1 v2 σ) fun σ3 =>
  (zgf σ3 207 x0).bind fun v4 =>
  (zga σ3 106 v4 x2).bind fun v5 =>
  (zgf σ3 1111 v5).bind fun v6 =>
  if v6 ≠ (-1) then
    (zgf σ3 1111 v5).bind fun v7 =>
    (zgf σ3 211 x0).bind fun v8 =>
    (zgf σ3 300 v8).bind fun v9 =>
    zci ((if zis σ3 13 v7 = true then f_X12_of v7 v9 σ3 else if zis σ3 14 v7 = true then f_X13_of v7 v9 σ3 else if zis σ3 15 v7 = true then f_G_X14_of 40 0 [v7, v9] σ3 else none)) fun v10 σ11 =>
    f_X2_act_48 x0 x1 x2 x3 v5 v10 σ11
  else
    f_X2_act_48 x0 x1 x2 x3 v5 0 σ3
theorem c_X2_act {g : zG} {lv : Nat} {x0 x1 x2 x3 : Int} {σ : zM} {out : zO} (h : f_X2_act x0 x1 x2 x3 σ = some out) : Cj g (lv + 41) MX2_act [zr x0, zi x1, zi x2, zi x3] σ out := by
  refine cj_go (ls := [(0, zr x0), (1, zi x1), (2, zi x2), (3, zi x3)]) (by decide) (Nat.le_of_ble_eq_true rfl) rfl (zgen h (fun r hk => ?_))
  unfold f_X2_act
  refine zst_ (gj_aload_n 0 (pc := 0) dX2_act_0 rfl) ?_
  refine gb_get (pc := 1) fl212 dX2_act_1 q297 (Or.inl rfl) (fun v1 => ?_)
  refine zst_ (gj_aload_n 0 (pc := 4) dX2_act_4 rfl) ?_
  refine gb_get (pc := 5) fl211 dX2_act_5 q295 (Or.inl rfl) (fun v2 => ?_)
  refine gb_gd (fun hb => ?_)
  refine gb_callV (pc := 8) (as := [zr v1, zr v2]) (rest := []) (zCl.of (zLk_V (M := MX2_act) (ci := 3) (r := (RX3, TX3, 4)) plX3_copy.1 rfl rfl (zisE hb).1 (zisE hb).2 dX2_act_8 q1504 q1505 q1506 q1507) plX3_copy (Nat.le_of_ble_eq_true rfl) (fun h => c_X3_copy h)) (fun σ3 => ?_)
  refine zst_ (gj_aload_n 0 (pc := 11) dX2_act_11 rfl) ?_
  refine gb_get (pc := 12) fl207 dX2_act_12 q287 (Or.inl rfl) (fun v4 => ?_)
  refine zst_ (gj_iload_n 2 (pc := 15) dX2_act_15 rfl) ?_
  refine gb_aald (pc := 16) (k := 106) ⟨by decide, by decide⟩ dX2_act_16 (fun v5 => ?_)
  refine zst_ (gj_astore (pc := 17) (ls' := [(4, zr v5), (0, zr x0), (1, zi x1), (2, zi x2), (3, zi x3)]) dX2_act_17 (by decide) rfl) ?_
  refine zst_ (gj_aload 0 (pc := 19) dX2_act_19 rfl) ?_
  refine gb_getNe (pc := 21) fl1111 dX2_act_21 q1180 (Or.inl rfl) (fun v6 => ?_)
  refine gb_if (gj_ifnonnull 31 (pc := 24) dX2_act_24 (by decide)) ?_ ?_
  · refine zst_ (gj_aload 0 (pc := 31) dX2_act_31 rfl) ?_
    refine gb_getNe (pc := 33) fl1111 dX2_act_33 q1180 (Or.inl rfl) (fun v7 => ?_)
    refine zst_ (gj_aload_n 1 (pc := 36) dX2_act_36 rfl) ?_
    refine gb_get (pc := 37) fl211 dX2_act_37 q295 (Or.inl rfl) (fun v8 => ?_)
    refine gb_getNe (pc := 40) fl300 dX2_act_40 q207 (Or.inl rfl) (fun v9 => ?_)
    refine gb_callI (pc := 43) (as := [zr v7, zr v9]) (rest := []) (zCl.ite (fun hb => zCl.of (zLk_F (M := MX2_act) (ci := 12) (r := (RX12, TX12, 1)) (x := ⟨"LassoFinder$Expression", "of", "([I)I"⟩) plX12_of.1 ⟨rfl, rfl⟩ (by decide) rfl rfl (zisE hb).1 (zisE hb).2 dX2_act_43 q1470 q1476 q1474 q1478 q1472 q1471 q1477 q1475 q1473) plX12_of (Nat.le_of_ble_eq_true rfl) (fun h => c_X12_of h)) (zCl.ite (fun hb => zCl.of (zLk_F (M := MX2_act) (ci := 13) (r := (RX13, TX13, 1)) (x := ⟨"LassoFinder$Expression", "of", "([I)I"⟩) plX13_of.1 ⟨rfl, rfl⟩ (by decide) rfl rfl (zisE hb).1 (zisE hb).2 dX2_act_43 q1470 q1482 q1480 q1484 q1472 q1471 q1483 q1481 q1479) plX13_of (Nat.le_of_ble_eq_true rfl) (fun h => c_X13_of h)) (zCl.ite (fun hb => zCl.of (zLk_F (M := MX2_act) (ci := 14) (r := (RX14, TX14, 3)) (x := ⟨"LassoFinder$Expression", "of", "([I)I"⟩) plX14_of.1 ⟨rfl, rfl⟩ (by decide) rfl rfl (zisE hb).1 (zisE hb).2 dX2_act_43 q1470 q1488 q1486 q1490 q1472 q1471 q1489 q1487 q1485) plX14_of (Nat.le_of_ble_eq_true rfl) (fun h => c_G_X14_of_0 h)) zCl.no))) (fun v10 σ11 => ?_)
    refine zst_ (gj_sub [1, 2, 3, 4, 0] rfl) ?_
    exact fun h => w_X2_act_48 x0 x1 x2 x3 v5 v10 σ11 h hk
  · refine zst_ (gj_iconst (pc := 27) dX2_act_27 (by decide)) ?_
    refine zst_ (gj_goto 48 (pc := 28) dX2_act_28 (by decide)) ?_
    refine zst_ (gj_sub [1, 2, 3, 4, 0] rfl) ?_
    exact fun h => w_X2_act_48 x0 x1 x2 x3 v5 0 σ3 h hk
theorem q300 : (Jvm.Cond.fieldLink "LassoFinder$Model" (57 : Nat) "LassoFinder$Model" "heads" "[I") ∈ lw_all := lw_g (lw_at lw_m1 200 rfl) rfl
theorem q934 : (Jvm.Cond.instanceMethod ({ cls := "LassoFinder$Model", name := "unpack", desc := "(ILLassoFinder$Moment;)V" } : Jvm.MethodName)) ∈ lw_all := lw_g (lw_at lw_m4 114 rfl) rfl
theorem q935 : (Jvm.Cond.selects "LassoFinder$Model" ({ cls := "LassoFinder$Model", name := "unpack", desc := "(ILLassoFinder$Moment;)V" } : Jvm.MethodName) ({ cls := "LassoFinder$Model", name := "unpack", desc := "(ILLassoFinder$Moment;)V" } : Jvm.MethodName)) ∈ lw_all := lw_g (lw_at lw_m4 115 rfl) rfl
theorem q1454 : (Jvm.Cond.code ({ cls := "LassoFinder$Model", name := "expand", desc := "(I)V" } : Jvm.MethodName) prog_9_method_11_code (7 : Nat) (Option.none : Option Jvm.ClassFile.FieldType)) ∈ lw_all := lw_g (lw_at lw_m6 154 rfl) rfl
theorem q1455 : (Jvm.Cond.methodLink "LassoFinder$Model" (152 : Nat) ({ cls := "LassoFinder$Model", name := "unpack", desc := "(ILLassoFinder$Moment;)V" } : Jvm.MethodName)) ∈ lw_all := lw_g (lw_at lw_m6 155 rfl) rfl
theorem q1456 : (Jvm.Cond.methodLink "LassoFinder$Model" (156 : Nat) ({ cls := "LassoFinder$Model", name := "acts", desc := "(IZ)Z" } : Jvm.MethodName)) ∈ lw_all := lw_g (lw_at lw_m6 156 rfl) rfl
theorem q1458 : (Jvm.Cond.instanceMethod ({ cls := "LassoFinder$Model", name := "acts", desc := "(IZ)Z" } : Jvm.MethodName)) ∈ lw_all := lw_g (lw_at lw_m6 158 rfl) rfl
theorem q1500 : (Jvm.Cond.methodLink "LassoFinder$Model" (163 : Nat) ({ cls := "LassoFinder$Model", name := "act", desc := "(III)V" } : Jvm.MethodName)) ∈ lw_all := lw_g (lw_at lw_m6 200 rfl) rfl
theorem q1502 : (Jvm.Cond.instanceMethod ({ cls := "LassoFinder$Model", name := "act", desc := "(III)V" } : Jvm.MethodName)) ∈ lw_all := lw_g (lw_at lw_m6 202 rfl) rfl
theorem fl215 : zfl 215 2 "LassoFinder$Model" "heads" "[I" true := ⟨rfl, rfl, rfl⟩
theorem fr215 {g : zG} {v : Int} : zok g (2, v) → zokt g (zft 215) v := fun h => h
abbrev cX2_expand : ByteArray := prog_9_method_11_code
def yX2_expand : MethodName := ⟨RX2, "expand", "(I)V"⟩
theorem dX2_expand_0 : decode cX2_expand 0 = .ok (.aload_n 0, 1) := by decide +kernel
theorem dX2_expand_1 : decode cX2_expand 1 = .ok (.getfield 57, 3) := by decide +kernel
theorem dX2_expand_4 : decode cX2_expand 4 = .ok (.iload_n 1, 1) := by decide +kernel
theorem dX2_expand_5 : decode cX2_expand 5 = .ok (.aload_n 0, 1) := by decide +kernel
theorem dX2_expand_6 : decode cX2_expand 6 = .ok (.getfield 89, 3) := by decide +kernel
theorem dX2_expand_9 : decode cX2_expand 9 = .ok (.iastore, 1) := by decide +kernel
theorem dX2_expand_10 : decode cX2_expand 10 = .ok (.aload_n 0, 1) := by decide +kernel
theorem dX2_expand_11 : decode cX2_expand 11 = .ok (.iload_n 1, 1) := by decide +kernel
theorem dX2_expand_12 : decode cX2_expand 12 = .ok (.aload_n 0, 1) := by decide +kernel
theorem dX2_expand_13 : decode cX2_expand 13 = .ok (.getfield 43, 3) := by decide +kernel
theorem dX2_expand_16 : decode cX2_expand 16 = .ok (.invokevirtual 152, 3) := by decide +kernel
theorem dX2_expand_19 : decode cX2_expand 19 = .ok (.aload_n 0, 1) := by decide +kernel
theorem dX2_expand_20 : decode cX2_expand 20 = .ok (.getfield 43, 3) := by decide +kernel
theorem dX2_expand_23 : decode cX2_expand 23 = .ok (.getfield 92, 3) := by decide +kernel
theorem dX2_expand_26 : decode cX2_expand 26 = .ok (.ifCond .le 32, 3) := by decide +kernel
theorem dX2_expand_29 : decode cX2_expand 29 = .ok (.aload_n 0, 1) := by decide +kernel
theorem dX2_expand_30 : decode cX2_expand 30 = .ok (.aload_n 0, 1) := by decide +kernel
theorem dX2_expand_31 : decode cX2_expand 31 = .ok (.getfield 43, 3) := by decide +kernel
theorem dX2_expand_34 : decode cX2_expand 34 = .ok (.getfield 92, 3) := by decide +kernel
theorem dX2_expand_37 : decode cX2_expand 37 = .ok (.iconst 1, 1) := by decide +kernel
theorem dX2_expand_38 : decode cX2_expand 38 = .ok (.isub, 1) := by decide +kernel
theorem dX2_expand_39 : decode cX2_expand 39 = .ok (.iconst 1, 1) := by decide +kernel
theorem dX2_expand_40 : decode cX2_expand 40 = .ok (.invokevirtual 156, 3) := by decide +kernel
theorem dX2_expand_43 : decode cX2_expand 43 = .ok (.ifCond .eq 15, 3) := by decide +kernel
theorem dX2_expand_46 : decode cX2_expand 46 = .ok (.aload_n 0, 1) := by decide +kernel
theorem dX2_expand_47 : decode cX2_expand 47 = .ok (.getfield 43, 3) := by decide +kernel
theorem dX2_expand_50 : decode cX2_expand 50 = .ok (.getfield 92, 3) := by decide +kernel
theorem dX2_expand_53 : decode cX2_expand 53 = .ok (.iconst 1, 1) := by decide +kernel
theorem dX2_expand_54 : decode cX2_expand 54 = .ok (.isub, 1) := by decide +kernel
theorem dX2_expand_55 : decode cX2_expand 55 = .ok (.goto 4, 3) := by decide +kernel
theorem dX2_expand_58 : decode cX2_expand 58 = .ok (.iconst (-1), 1) := by decide +kernel
theorem dX2_expand_59 : decode cX2_expand 59 = .ok (.istore_n 2, 1) := by decide +kernel
theorem dX2_expand_60 : decode cX2_expand 60 = .ok (.iconst 0, 1) := by decide +kernel
theorem dX2_expand_61 : decode cX2_expand 61 = .ok (.istore_n 3, 1) := by decide +kernel
theorem dX2_expand_62 : decode cX2_expand 62 = .ok (.iload_n 3, 1) := by decide +kernel
theorem dX2_expand_63 : decode cX2_expand 63 = .ok (.aload_n 0, 1) := by decide +kernel
theorem dX2_expand_64 : decode cX2_expand 64 = .ok (.getfield 83, 3) := by decide +kernel
theorem dX2_expand_67 : decode cX2_expand 67 = .ok (.if_icmp .ge 149, 3) := by decide +kernel
theorem dX2_expand_70 : decode cX2_expand 70 = .ok (.aload_n 0, 1) := by decide +kernel
theorem dX2_expand_71 : decode cX2_expand 71 = .ok (.getfield 30, 3) := by decide +kernel
theorem dX2_expand_74 : decode cX2_expand 74 = .ok (.iload_n 3, 1) := by decide +kernel
theorem dX2_expand_75 : decode cX2_expand 75 = .ok (.iaload, 1) := by decide +kernel
theorem dX2_expand_76 : decode cX2_expand 76 = .ok (.istore 4, 2) := by decide +kernel
theorem dX2_expand_78 : decode cX2_expand 78 = .ok (.iload_n 2, 1) := by decide +kernel
theorem dX2_expand_79 : decode cX2_expand 79 = .ok (.iconst (-1), 1) := by decide +kernel
theorem dX2_expand_80 : decode cX2_expand 80 = .ok (.if_icmp .eq 9, 3) := by decide +kernel
theorem dX2_expand_83 : decode cX2_expand 83 = .ok (.iload_n 2, 1) := by decide +kernel
theorem dX2_expand_84 : decode cX2_expand 84 = .ok (.iload 4, 2) := by decide +kernel
theorem dX2_expand_86 : decode cX2_expand 86 = .ok (.if_icmp .ne 124, 3) := by decide +kernel
theorem dX2_expand_89 : decode cX2_expand 89 = .ok (.aload_n 0, 1) := by decide +kernel
theorem dX2_expand_90 : decode cX2_expand 90 = .ok (.iload_n 3, 1) := by decide +kernel
theorem dX2_expand_91 : decode cX2_expand 91 = .ok (.invokevirtual 124, 3) := by decide +kernel
theorem dX2_expand_94 : decode cX2_expand 94 = .ok (.ifCond .ne 6, 3) := by decide +kernel
theorem dX2_expand_97 : decode cX2_expand 97 = .ok (.goto 113, 3) := by decide +kernel
theorem dX2_expand_100 : decode cX2_expand 100 = .ok (.aload_n 0, 1) := by decide +kernel
theorem dX2_expand_101 : decode cX2_expand 101 = .ok (.getfield 26, 3) := by decide +kernel
theorem dX2_expand_104 : decode cX2_expand 104 = .ok (.iload_n 3, 1) := by decide +kernel
theorem dX2_expand_105 : decode cX2_expand 105 = .ok (.aaload, 1) := by decide +kernel
theorem dX2_expand_106 : decode cX2_expand 106 = .ok (.astore 5, 2) := by decide +kernel
theorem dX2_expand_108 : decode cX2_expand 108 = .ok (.aload 5, 2) := by decide +kernel
theorem dX2_expand_110 : decode cX2_expand 110 = .ok (.getfield 112, 3) := by decide +kernel
theorem dX2_expand_113 : decode cX2_expand 113 = .ok (.getstatic 160, 3) := by decide +kernel
theorem dX2_expand_116 : decode cX2_expand 116 = .ok (.if_acmp .ne 55, 3) := by decide +kernel
theorem dX2_expand_119 : decode cX2_expand 119 = .ok (.aload_n 0, 1) := by decide +kernel
theorem dX2_expand_120 : decode cX2_expand 120 = .ok (.getfield 15, 3) := by decide +kernel
theorem dX2_expand_123 : decode cX2_expand 123 = .ok (.aload 5, 2) := by decide +kernel
theorem dX2_expand_125 : decode cX2_expand 125 = .ok (.getfield 121, 3) := by decide +kernel
theorem dX2_expand_128 : decode cX2_expand 128 = .ok (.iaload, 1) := by decide +kernel
theorem dX2_expand_129 : decode cX2_expand 129 = .ok (.ifCond .ne 42, 3) := by decide +kernel
theorem dX2_expand_132 : decode cX2_expand 132 = .ok (.iconst 0, 1) := by decide +kernel
theorem dX2_expand_133 : decode cX2_expand 133 = .ok (.istore 6, 2) := by decide +kernel
theorem dX2_expand_135 : decode cX2_expand 135 = .ok (.iload 6, 2) := by decide +kernel
theorem dX2_expand_137 : decode cX2_expand 137 = .ok (.aload_n 0, 1) := by decide +kernel
theorem dX2_expand_138 : decode cX2_expand 138 = .ok (.getfield 83, 3) := by decide +kernel
theorem dX2_expand_141 : decode cX2_expand 141 = .ok (.if_icmp .ge 27, 3) := by decide +kernel
theorem dX2_expand_144 : decode cX2_expand 144 = .ok (.aload_n 0, 1) := by decide +kernel
theorem dX2_expand_145 : decode cX2_expand 145 = .ok (.iload_n 3, 1) := by decide +kernel
theorem dX2_expand_146 : decode cX2_expand 146 = .ok (.iload 6, 2) := by decide +kernel
theorem dX2_expand_148 : decode cX2_expand 148 = .ok (.invokevirtual 145, 3) := by decide +kernel
theorem dX2_expand_151 : decode cX2_expand 151 = .ok (.ifCond .eq 11, 3) := by decide +kernel
theorem dX2_expand_154 : decode cX2_expand 154 = .ok (.aload_n 0, 1) := by decide +kernel
theorem dX2_expand_155 : decode cX2_expand 155 = .ok (.iload_n 1, 1) := by decide +kernel
theorem dX2_expand_156 : decode cX2_expand 156 = .ok (.iload_n 3, 1) := by decide +kernel
theorem dX2_expand_157 : decode cX2_expand 157 = .ok (.iload 6, 2) := by decide +kernel
theorem dX2_expand_159 : decode cX2_expand 159 = .ok (.invokevirtual 163, 3) := by decide +kernel
theorem dX2_expand_162 : decode cX2_expand 162 = .ok (.iinc 6 1, 3) := by decide +kernel
theorem dX2_expand_165 : decode cX2_expand 165 = .ok (.goto (-30), 3) := by decide +kernel
theorem dX2_expand_168 : decode cX2_expand 168 = .ok (.goto 42, 3) := by decide +kernel
theorem dX2_expand_171 : decode cX2_expand 171 = .ok (.aload 5, 2) := by decide +kernel
theorem dX2_expand_173 : decode cX2_expand 173 = .ok (.getfield 112, 3) := by decide +kernel
theorem dX2_expand_176 : decode cX2_expand 176 = .ok (.getstatic 142, 3) := by decide +kernel
theorem dX2_expand_179 : decode cX2_expand 179 = .ok (.if_acmp .ne 16, 3) := by decide +kernel
theorem dX2_expand_182 : decode cX2_expand 182 = .ok (.aload_n 0, 1) := by decide +kernel
theorem dX2_expand_183 : decode cX2_expand 183 = .ok (.iload 4, 2) := by decide +kernel
theorem dX2_expand_185 : decode cX2_expand 185 = .ok (.iconst 0, 1) := by decide +kernel
theorem dX2_expand_186 : decode cX2_expand 186 = .ok (.invokevirtual 156, 3) := by decide +kernel
theorem dX2_expand_189 : decode cX2_expand 189 = .ok (.ifCond .ne 21, 3) := by decide +kernel
theorem dX2_expand_192 : decode cX2_expand 192 = .ok (.goto 11, 3) := by decide +kernel
theorem dX2_expand_195 : decode cX2_expand 195 = .ok (.aload_n 0, 1) := by decide +kernel
theorem dX2_expand_196 : decode cX2_expand 196 = .ok (.iload_n 3, 1) := by decide +kernel
theorem dX2_expand_197 : decode cX2_expand 197 = .ok (.invokevirtual 149, 3) := by decide +kernel
theorem dX2_expand_200 : decode cX2_expand 200 = .ok (.ifCond .eq 10, 3) := by decide +kernel
theorem dX2_expand_203 : decode cX2_expand 203 = .ok (.aload_n 0, 1) := by decide +kernel
theorem dX2_expand_204 : decode cX2_expand 204 = .ok (.iload_n 1, 1) := by decide +kernel
theorem dX2_expand_205 : decode cX2_expand 205 = .ok (.iload_n 3, 1) := by decide +kernel
theorem dX2_expand_206 : decode cX2_expand 206 = .ok (.iconst (-1), 1) := by decide +kernel
theorem dX2_expand_207 : decode cX2_expand 207 = .ok (.invokevirtual 163, 3) := by decide +kernel
theorem dX2_expand_210 : decode cX2_expand 210 = .ok (.iinc 3 1, 3) := by decide +kernel
theorem dX2_expand_213 : decode cX2_expand 213 = .ok (.goto (-151), 3) := by decide +kernel
theorem dX2_expand_216 : decode cX2_expand 216 = .ok (.aload_n 0, 1) := by decide +kernel
theorem dX2_expand_217 : decode cX2_expand 217 = .ok (.getfield 57, 3) := by decide +kernel
theorem dX2_expand_220 : decode cX2_expand 220 = .ok (.iload_n 1, 1) := by decide +kernel
theorem dX2_expand_221 : decode cX2_expand 221 = .ok (.iaload, 1) := by decide +kernel
theorem dX2_expand_222 : decode cX2_expand 222 = .ok (.aload_n 0, 1) := by decide +kernel
theorem dX2_expand_223 : decode cX2_expand 223 = .ok (.getfield 89, 3) := by decide +kernel
theorem dX2_expand_226 : decode cX2_expand 226 = .ok (.if_icmp .ne 11, 3) := by decide +kernel
theorem dX2_expand_229 : decode cX2_expand 229 = .ok (.aload_n 0, 1) := by decide +kernel
theorem dX2_expand_230 : decode cX2_expand 230 = .ok (.iload_n 1, 1) := by decide +kernel
theorem dX2_expand_231 : decode cX2_expand 231 = .ok (.iload_n 1, 1) := by decide +kernel
theorem dX2_expand_232 : decode cX2_expand 232 = .ok (.iconst (-1), 1) := by decide +kernel
theorem dX2_expand_233 : decode cX2_expand 233 = .ok (.iconst (-1), 1) := by decide +kernel
theorem dX2_expand_234 : decode cX2_expand 234 = .ok (.invokevirtual 167, 3) := by decide +kernel
theorem dX2_expand_237 : decode cX2_expand 237 = .ok (.aload_n 0, 1) := by decide +kernel
theorem dX2_expand_238 : decode cX2_expand 238 = .ok (.getfield 57, 3) := by decide +kernel
theorem dX2_expand_241 : decode cX2_expand 241 = .ok (.iload_n 1, 1) := by decide +kernel
theorem dX2_expand_242 : decode cX2_expand 242 = .ok (.iconst 1, 1) := by decide +kernel
theorem dX2_expand_243 : decode cX2_expand 243 = .ok (.iadd, 1) := by decide +kernel
theorem dX2_expand_244 : decode cX2_expand 244 = .ok (.aload_n 0, 1) := by decide +kernel
theorem dX2_expand_245 : decode cX2_expand 245 = .ok (.getfield 89, 3) := by decide +kernel
theorem dX2_expand_248 : decode cX2_expand 248 = .ok (.iastore, 1) := by decide +kernel
theorem dX2_expand_249 : decode cX2_expand 249 = .ok (.return_, 1) := by decide +kernel
abbrev MX2_expand : zT := (yX2_expand, cX2_expand, 7, (Option.none : Option Jvm.ClassFile.FieldType), [])
theorem plX2_expand : zplain MX2_expand 1 ∧ (zcodeW MX2_expand ∈ lw_all ∧ Cond.initialized MX2_expand.1.cls ∈ lw_all) := ⟨⟨by decide +kernel, by decide +kernel⟩, q1454, q106⟩
noncomputable def f_X2_expand_237 (x0 x1 : Int) (σ : zM) : Option zO :=
  (zgf σ 215 x0).bind fun v1 =>
  (zgf σ 221 x0).bind fun v2 =>
  (zpa σ 101 v1 (zadd x1 1) v2).bind fun σ3 =>
  some (0, ((3, 0) : zV), σ3)
theorem w_X2_expand_237 {g : zG} {lv : Nat} {out : zO} (x0 x1 : Int) (σ : zM) {r : zO} (h : f_X2_expand_237 x0 x1 σ = some r) (hk : (fun o : zO => o = out) r) : Gj g MX2_expand (lv + 43) 237 [(0, zr x0), (1, zi x1)] [] σ out := by
  revert h
  unfold f_X2_expand_237
  refine zst_ (gj_aload_n 0 (pc := 237) dX2_expand_237 rfl) ?_
  refine gb_get (pc := 238) fl215 dX2_expand_238 q300 (Or.inl rfl) (fun v1 => ?_)
  refine zst_ (gj_iload_n 1 (pc := 241) dX2_expand_241 rfl) ?_
  refine zst_ (gj_iconst (pc := 242) dX2_expand_242 (by decide)) ?_
  refine zst_ (gj_iadd (pc := 243) dX2_expand_243) ?_
  refine zst_ (gj_aload_n 0 (pc := 244) dX2_expand_244 rfl) ?_
  refine gb_get (pc := 245) fl221 dX2_expand_245 q315 (Or.inl rfl) (fun v2 => ?_)
  refine gb_iast (pc := 248) dX2_expand_248 (fun σ3 => ?_)
  intro h
  cases h
  have hk : (0, ((3, 0) : zV), σ3) = out := hk
  subst hk
  exact gj_vret (pc := 249) dX2_expand_249 rfl
noncomputable def f_X2_expand_216 (x0 x1 : Int) (σ : zM) : Option zO :=
  (zgf σ 215 x0).bind fun v1 =>
  (zga σ 101 v1 x1).bind fun v2 =>
  (zgf σ 221 x0).bind fun v3 =>
  if v2 ≠ v3 then
    f_X2_expand_237 x0 x1 σ
  else
    zgd (zis σ 3 x0) <|
    zcvT (f_X2_add x0 x1 x1 (-1) (-1) σ) (fun n a σ4 => some (n + 1, zr a, σ4)) fun σ4 =>
    f_X2_expand_237 x0 x1 σ4
theorem w_X2_expand_216 {g : zG} {lv : Nat} {out : zO} (x0 x1 : Int) (σ : zM) {r : zO} (h : f_X2_expand_216 x0 x1 σ = some r) (hk : (fun o : zO => o = out) r) : Gj g MX2_expand (lv + 43) 216 [(0, zr x0), (1, zi x1)] [] σ out := by
  revert h
  unfold f_X2_expand_216
  refine zst_ (gj_aload_n 0 (pc := 216) dX2_expand_216 rfl) ?_
  refine gb_get (pc := 217) fl215 dX2_expand_217 q300 (Or.inl rfl) (fun v1 => ?_)
  refine zst_ (gj_iload_n 1 (pc := 220) dX2_expand_220 rfl) ?_
  refine gb_iald (pc := 221) dX2_expand_221 (fun v2 => ?_)
  refine zst_ (gj_aload_n 0 (pc := 222) dX2_expand_222 rfl) ?_
  refine gb_get (pc := 223) fl221 dX2_expand_223 q315 (Or.inl rfl) (fun v3 => ?_)
  refine gb_if (gj_icmp_ne 237 (pc := 226) dX2_expand_226 (by decide)) ?_ ?_
  · exact fun h => w_X2_expand_237 x0 x1 σ h hk
  · refine zst_ (gj_aload_n 0 (pc := 229) dX2_expand_229 rfl) ?_
    refine zst_ (gj_iload_n 1 (pc := 230) dX2_expand_230 rfl) ?_
    refine zst_ (gj_iload_n 1 (pc := 231) dX2_expand_231 rfl) ?_
    refine zst_ (gj_iconst (pc := 232) dX2_expand_232 (by decide)) ?_
    refine zst_ (gj_iconst (pc := 233) dX2_expand_233 (by decide)) ?_
    refine gb_gd (fun hb => ?_)
    refine gb_callVT (pc := 234) (as := [zr x0, zi x1, zi x1, zi (-1), zi (-1)]) (rest := []) (zCl.of (zLk_V (M := MX2_expand) (ci := 2) (r := (RX2, TX2, 22)) plX2_add.1 rfl rfl (zisE hb).1 (zisE hb).2 dX2_expand_234 q1521 q1523 qs25 q1524) plX2_add (Nat.le_of_ble_eq_true rfl) (fun h => c_X2_add h)) (fun n a s0 h => by cases h; exact Or.inl ⟨rfl, hk⟩) (fun σ4 => ?_)
    exact fun h => w_X2_expand_237 x0 x1 σ4 h hk
noncomputable def f_X2_expand_210 (x0 x1 x2 x3 : Int) (σ : zM) : Option ((Int × zM) ⊕ zO) :=
  zlet (zadd x3 1) fun y1 =>
  some (.inl (y1, σ))
theorem w_X2_expand_210 {g : zG} {lv : Nat} {out : zO} (x0 x1 x2 x3 : Int) (σ : zM) {r : ((Int × zM) ⊕ zO)} (h : f_X2_expand_210 x0 x1 x2 x3 σ = some r) (hk : (zKL (fun s : Int × zM => Gj g MX2_expand (lv + 43) 62 [(0, zr x0), (1, zi x1), (2, zi x2), (3, zi s.1)] [] s.2 out) (fun o : zO => o = out)) r) : Gj g MX2_expand (lv + 43) 210 [(0, zr x0), (1, zi x1), (2, zi x2), (3, zi x3)] [] σ out := by
  revert h
  unfold f_X2_expand_210
  refine gb_iinc (pc := 210) 3 (fun y1 => [(3, zi y1), (0, zr x0), (1, zi x1), (2, zi x2)]) dX2_expand_210 rfl (by decide) (fun _ => rfl) (fun y1 => ?_)
  refine zst_ (gj_goto 62 (pc := 213) dX2_expand_213 (by decide)) ?_
  refine zst_ (gj_sub [1, 2, 3, 0] rfl) ?_
  intro h
  cases h
  exact hk
noncomputable def f_X2_expand_203 (x0 x1 x2 x3 : Int) (σ : zM) : Option ((Int × zM) ⊕ zO) :=
  zgd (zis σ 3 x0) <|
  zcvT (f_X2_act x0 x1 x3 (-1) σ) (fun n a σ1 => some (.inr (n + 1, zr a, σ1))) fun σ1 =>
  f_X2_expand_210 x0 x1 x2 x3 σ1
theorem w_X2_expand_203 {g : zG} {lv : Nat} {out : zO} (x0 x1 x2 x3 : Int) (σ : zM) {r : ((Int × zM) ⊕ zO)} (h : f_X2_expand_203 x0 x1 x2 x3 σ = some r) (hk : (zKL (fun s : Int × zM => Gj g MX2_expand (lv + 43) 62 [(0, zr x0), (1, zi x1), (2, zi x2), (3, zi s.1)] [] s.2 out) (fun o : zO => o = out)) r) : Gj g MX2_expand (lv + 43) 203 [(0, zr x0), (1, zi x1), (2, zi x2), (3, zi x3)] [] σ out := by
  revert h
  unfold f_X2_expand_203
  refine zst_ (gj_aload_n 0 (pc := 203) dX2_expand_203 rfl) ?_
  refine zst_ (gj_iload_n 1 (pc := 204) dX2_expand_204 rfl) ?_
  refine zst_ (gj_iload_n 3 (pc := 205) dX2_expand_205 rfl) ?_
  refine zst_ (gj_iconst (pc := 206) dX2_expand_206 (by decide)) ?_
  refine gb_gd (fun hb => ?_)
  refine gb_callVT (pc := 207) (as := [zr x0, zi x1, zi x3, zi (-1)]) (rest := []) (zCl.of (zLk_V (M := MX2_expand) (ci := 2) (r := (RX2, TX2, 22)) plX2_act.1 rfl rfl (zisE hb).1 (zisE hb).2 dX2_expand_207 q1500 q1502 qs23 q1503) plX2_act (Nat.le_of_ble_eq_true rfl) (fun h => c_X2_act h)) (fun n a s0 h => by cases h; exact Or.inl ⟨rfl, hk⟩) (fun σ1 => ?_)
  exact fun h => w_X2_expand_210 x0 x1 x2 x3 σ1 h hk
noncomputable def f_X2_expand_171 (x0 x1 x2 x3 x4 x5 : Int) (σ : zM) : Option ((Int × zM) ⊕ zO) :=
  (zgf σ 1100 x5).bind fun v1 =>
  if v1 ≠ (-7) then
    zgd (zis σ 3 x0) <|
    zci (f_X2_can x0 x3 σ) fun v2 σ3 =>
    if v2 = 0 then
      f_X2_expand_210 x0 x1 x2 x3 σ3
    else
      f_X2_expand_203 x0 x1 x2 x3 σ3
  else
    zgd (zis σ 3 x0) <|
    zci (f_X2_acts x0 x4 0 σ) fun v4 σ5 =>
    if v4 ≠ 0 then
      f_X2_expand_210 x0 x1 x2 x3 σ5
    else
      f_X2_expand_203 x0 x1 x2 x3 σ5
theorem w_X2_expand_171 {g : zG} {lv : Nat} {out : zO} (x0 x1 x2 x3 x4 x5 : Int) (σ : zM) {r : ((Int × zM) ⊕ zO)} (h : f_X2_expand_171 x0 x1 x2 x3 x4 x5 σ = some r) (hk : (zKL (fun s : Int × zM => Gj g MX2_expand (lv + 43) 62 [(0, zr x0), (1, zi x1), (2, zi x2), (3, zi s.1)] [] s.2 out) (fun o : zO => o = out)) r) : Gj g MX2_expand (lv + 43) 171 [(0, zr x0), (1, zi x1), (2, zi x2), (3, zi x3), (4, zi x4), (5, zr x5)] [] σ out := by
  revert h
  unfold f_X2_expand_171
  refine zst_ (gj_aload 5 (pc := 171) dX2_expand_171 rfl) ?_
  refine gb_getNe (pc := 173) fl1100 dX2_expand_173 q1156 (Or.inl rfl) (fun v1 => ?_)
  refine zst_ (gj_enumL (pc := 176) (i := 5) (by decide) rfl rfl dX2_expand_176 q1493 rfl) ?_
  refine gb_if (gj_acmp_ne 195 (pc := 179) dX2_expand_179 (by decide)) ?_ ?_
  · refine zst_ (gj_aload_n 0 (pc := 195) dX2_expand_195 rfl) ?_
    refine zst_ (gj_iload_n 3 (pc := 196) dX2_expand_196 rfl) ?_
    refine gb_gd (fun hb => ?_)
    refine gb_callI (pc := 197) (as := [zr x0, zi x3]) (rest := []) (zCl.of (zLk_V (M := MX2_expand) (ci := 2) (r := (RX2, TX2, 22)) plX2_can.1 rfl rfl (zisE hb).1 (zisE hb).2 dX2_expand_197 q1464 q1466 qs21 q1467) plX2_can (Nat.le_of_ble_eq_true rfl) (fun h => c_X2_can h)) (fun v2 σ3 => ?_)
    refine gb_if (gj_if_eq 210 (pc := 200) dX2_expand_200 (by decide)) ?_ ?_
    · refine zst_ (gj_sub [0, 1, 2, 3] rfl) ?_
      exact fun h => w_X2_expand_210 x0 x1 x2 x3 σ3 h hk
    · refine zst_ (gj_sub [0, 1, 2, 3] rfl) ?_
      exact fun h => w_X2_expand_203 x0 x1 x2 x3 σ3 h hk
  · refine zst_ (gj_aload_n 0 (pc := 182) dX2_expand_182 rfl) ?_
    refine zst_ (gj_iload 4 (pc := 183) dX2_expand_183 rfl) ?_
    refine zst_ (gj_iconst (pc := 185) dX2_expand_185 (by decide)) ?_
    refine gb_gd (fun hb => ?_)
    refine gb_callI (pc := 186) (as := [zr x0, zi x4, zi 0]) (rest := []) (zCl.of (zLk_V (M := MX2_expand) (ci := 2) (r := (RX2, TX2, 22)) plX2_acts.1 rfl rfl (zisE hb).1 (zisE hb).2 dX2_expand_186 q1456 q1458 qs19 q1459) plX2_acts (Nat.le_of_ble_eq_true rfl) (fun h => c_X2_acts h)) (fun v4 σ5 => ?_)
    refine gb_if (gj_if_ne 210 (pc := 189) dX2_expand_189 (by decide)) ?_ ?_
    · refine zst_ (gj_sub [0, 1, 2, 3] rfl) ?_
      exact fun h => w_X2_expand_210 x0 x1 x2 x3 σ5 h hk
    · refine zst_ (gj_goto 203 (pc := 192) dX2_expand_192 (by decide)) ?_
      refine zst_ (gj_sub [0, 1, 2, 3] rfl) ?_
      exact fun h => w_X2_expand_203 x0 x1 x2 x3 σ5 h hk
noncomputable def f_X2_expand_168 (x0 x1 x2 x3 : Int) (σ : zM) : Option ((Int × zM) ⊕ zO) :=
  f_X2_expand_210 x0 x1 x2 x3 σ
theorem w_X2_expand_168 {g : zG} {lv : Nat} {out : zO} (x0 x1 x2 x3 : Int) (σ : zM) {r : ((Int × zM) ⊕ zO)} (h : f_X2_expand_168 x0 x1 x2 x3 σ = some r) (hk : (zKL (fun s : Int × zM => Gj g MX2_expand (lv + 43) 62 [(0, zr x0), (1, zi x1), (2, zi x2), (3, zi s.1)] [] s.2 out) (fun o : zO => o = out)) r) : Gj g MX2_expand (lv + 43) 168 [(0, zr x0), (1, zi x1), (2, zi x2), (3, zi x3)] [] σ out := by
  revert h
  unfold f_X2_expand_168
  refine zst_ (gj_goto 210 (pc := 168) dX2_expand_168 (by decide)) ?_
  exact fun h => w_X2_expand_210 x0 x1 x2 x3 σ h hk
noncomputable def f_X2_expand_162 (x0 x1 x2 x3 x6 : Int) (σ : zM) : Option ((Int × zM) ⊕ ((Int × zM) ⊕ zO)) :=
  zlet (zadd x6 1) fun y1 =>
  some (.inl (y1, σ))
theorem w_X2_expand_162 {g : zG} {lv : Nat} {out : zO} (x0 x1 x2 x3 x6 : Int) (σ : zM) {r : ((Int × zM) ⊕ ((Int × zM) ⊕ zO))} (h : f_X2_expand_162 x0 x1 x2 x3 x6 σ = some r) (hk : (zKL (fun s : Int × zM => Gj g MX2_expand (lv + 43) 135 [(0, zr x0), (1, zi x1), (2, zi x2), (3, zi x3), (6, zi s.1)] [] s.2 out) (zKL (fun s : Int × zM => Gj g MX2_expand (lv + 43) 62 [(0, zr x0), (1, zi x1), (2, zi x2), (3, zi s.1)] [] s.2 out) (fun o : zO => o = out))) r) : Gj g MX2_expand (lv + 43) 162 [(0, zr x0), (1, zi x1), (2, zi x2), (3, zi x3), (6, zi x6)] [] σ out := by
  revert h
  unfold f_X2_expand_162
  refine gb_iinc (pc := 162) 4 (fun y1 => [(6, zi y1), (0, zr x0), (1, zi x1), (2, zi x2), (3, zi x3)]) dX2_expand_162 rfl (by decide) (fun _ => rfl) (fun y1 => ?_)
  refine zst_ (gj_goto 135 (pc := 165) dX2_expand_165 (by decide)) ?_
  refine zst_ (gj_sub [1, 2, 3, 4, 0] rfl) ?_
  intro h
  cases h
  exact hk
noncomputable def f_X2_expand_135_b (x0 x1 x2 x3 x6 : Int) (σ : zM) : Option ((Int × zM) ⊕ ((Int × zM) ⊕ zO)) :=
  (zgf σ 205 x0).bind fun v1 =>
  if v1 ≤ x6 then
    (f_X2_expand_168 x0 x1 x2 x3 σ).map (fun r => (.inr r))
  else
    zgd (zis σ 3 x0) <|
    zci (f_X2_meets x0 x3 x6 σ) fun v2 σ3 =>
    if v2 = 0 then
      f_X2_expand_162 x0 x1 x2 x3 x6 σ3
    else
      zgd (zis σ3 3 x0) <|
      zcvT (f_X2_act x0 x1 x3 x6 σ3) (fun n a σ4 => some (.inr (.inr (n + 1, zr a, σ4)))) fun σ4 =>
      f_X2_expand_162 x0 x1 x2 x3 x6 σ4
noncomputable def f_X2_expand_135 (x0 x1 x2 x3 x6 : Int) (σ : zM) : Option ((Int × zM) ⊕ zO) :=
  zloop (fun s : Int × zM => f_X2_expand_135_b x0 x1 x2 x3 s.1 s.2) (x6, σ)
theorem w_X2_expand_135_b {g : zG} {lv : Nat} {out : zO} (x0 x1 x2 x3 x6 : Int) (σ : zM) {r : ((Int × zM) ⊕ ((Int × zM) ⊕ zO))} (h : f_X2_expand_135_b x0 x1 x2 x3 x6 σ = some r) (hk : (zKL (fun s : Int × zM => Gj g MX2_expand (lv + 43) 135 [(0, zr x0), (1, zi x1), (2, zi x2), (3, zi x3), (6, zi s.1)] [] s.2 out) (zKL (fun s : Int × zM => Gj g MX2_expand (lv + 43) 62 [(0, zr x0), (1, zi x1), (2, zi x2), (3, zi s.1)] [] s.2 out) (fun o : zO => o = out))) r) : Gj g MX2_expand (lv + 43) 135 [(0, zr x0), (1, zi x1), (2, zi x2), (3, zi x3), (6, zi x6)] [] σ out := by
  revert h
  unfold f_X2_expand_135_b
  refine zst_ (gj_iload 4 (pc := 135) dX2_expand_135 rfl) ?_
  refine zst_ (gj_aload_n 0 (pc := 137) dX2_expand_137 rfl) ?_
  refine gb_get (pc := 138) fl205 dX2_expand_138 q281 (Or.inl rfl) (fun v1 => ?_)
  refine gb_if (gj_icmp_ge 168 (pc := 141) dX2_expand_141 (by decide)) ?_ ?_
  · refine zst_ (gj_sub [0, 1, 2, 3] rfl) ?_
    intro h
    obtain ⟨r0, h0, rfl⟩ := zmE h
    exact w_X2_expand_168 x0 x1 x2 x3 σ h0 hk
  · refine zst_ (gj_aload_n 0 (pc := 144) dX2_expand_144 rfl) ?_
    refine zst_ (gj_iload_n 3 (pc := 145) dX2_expand_145 rfl) ?_
    refine zst_ (gj_iload 4 (pc := 146) dX2_expand_146 rfl) ?_
    refine gb_gd (fun hb => ?_)
    refine gb_callI (pc := 148) (as := [zr x0, zi x3, zi x6]) (rest := []) (zCl.of (zLk_V (M := MX2_expand) (ci := 2) (r := (RX2, TX2, 22)) plX2_meets.1 rfl rfl (zisE hb).1 (zisE hb).2 dX2_expand_148 q1494 q1496 qs22 q1497) plX2_meets (Nat.le_of_ble_eq_true rfl) (fun h => c_X2_meets h)) (fun v2 σ3 => ?_)
    refine gb_if (gj_if_eq 162 (pc := 151) dX2_expand_151 (by decide)) ?_ ?_
    · exact fun h => w_X2_expand_162 x0 x1 x2 x3 x6 σ3 h hk
    · refine zst_ (gj_aload_n 0 (pc := 154) dX2_expand_154 rfl) ?_
      refine zst_ (gj_iload_n 1 (pc := 155) dX2_expand_155 rfl) ?_
      refine zst_ (gj_iload_n 3 (pc := 156) dX2_expand_156 rfl) ?_
      refine zst_ (gj_iload 4 (pc := 157) dX2_expand_157 rfl) ?_
      refine gb_gd (fun hb => ?_)
      refine gb_callVT (pc := 159) (as := [zr x0, zi x1, zi x3, zi x6]) (rest := []) (zCl.of (zLk_V (M := MX2_expand) (ci := 2) (r := (RX2, TX2, 22)) plX2_act.1 rfl rfl (zisE hb).1 (zisE hb).2 dX2_expand_159 q1500 q1502 qs23 q1503) plX2_act (Nat.le_of_ble_eq_true rfl) (fun h => c_X2_act h)) (fun n a s0 h => by cases h; exact Or.inl ⟨rfl, hk⟩) (fun σ4 => ?_)
      exact fun h => w_X2_expand_162 x0 x1 x2 x3 x6 σ4 h hk
theorem w_X2_expand_135 {g : zG} {lv : Nat} {out : zO} (x0 x1 x2 x3 x6 : Int) (σ : zM) {r : ((Int × zM) ⊕ zO)} (h : f_X2_expand_135 x0 x1 x2 x3 x6 σ = some r) (hk : (zKL (fun s : Int × zM => Gj g MX2_expand (lv + 43) 62 [(0, zr x0), (1, zi x1), (2, zi x2), (3, zi s.1)] [] s.2 out) (fun o : zO => o = out)) r) : Gj g MX2_expand (lv + 43) 135 [(0, zr x0), (1, zi x1), (2, zi x2), (3, zi x3), (6, zi x6)] [] σ out :=
  gj_loop (P := (fun s : Int × zM => Gj g MX2_expand (lv + 43) 135 [(0, zr x0), (1, zi x1), (2, zi x2), (3, zi x3), (6, zi s.1)] [] s.2 out)) (fun s x hb hx => w_X2_expand_135_b x0 x1 x2 x3 s.1 s.2 hb hx) h hk
noncomputable def f_X2_expand_89 (x0 x1 x2 x3 x4 : Int) (σ : zM) : Option ((Int × zM) ⊕ zO) :=
  zgd (zis σ 3 x0) <|
  zci (f_X2_isAt x0 x3 σ) fun v1 σ2 =>
  if v1 ≠ 0 then
    (zgf σ2 207 x0).bind fun v3 =>
    (zga σ2 106 v3 x3).bind fun v4 =>
    (zgf σ2 1100 v4).bind fun v5 =>
    if v5 ≠ (-4) then
      f_X2_expand_171 x0 x1 x2 x3 x4 v4 σ2
    else
      (zgf σ2 201 x0).bind fun v6 =>
      (zgf σ2 1107 v4).bind fun v7 =>
      (zga σ2 101 v6 v7).bind fun v8 =>
      if v8 ≠ 0 then
        f_X2_expand_171 x0 x1 x2 x3 x4 v4 σ2
      else
        f_X2_expand_135 x0 x1 x2 x3 0 σ2
  else
    f_X2_expand_210 x0 x1 x2 x3 σ2
theorem w_X2_expand_89 {g : zG} {lv : Nat} {out : zO} (x0 x1 x2 x3 x4 : Int) (σ : zM) {r : ((Int × zM) ⊕ zO)} (h : f_X2_expand_89 x0 x1 x2 x3 x4 σ = some r) (hk : (zKL (fun s : Int × zM => Gj g MX2_expand (lv + 43) 62 [(0, zr x0), (1, zi x1), (2, zi x2), (3, zi s.1)] [] s.2 out) (fun o : zO => o = out)) r) : Gj g MX2_expand (lv + 43) 89 [(0, zr x0), (1, zi x1), (2, zi x2), (3, zi x3), (4, zi x4)] [] σ out := by
  revert h
  unfold f_X2_expand_89
  refine zst_ (gj_aload_n 0 (pc := 89) dX2_expand_89 rfl) ?_
  refine zst_ (gj_iload_n 3 (pc := 90) dX2_expand_90 rfl) ?_
  refine gb_gd (fun hb => ?_)
  refine gb_callI (pc := 91) (as := [zr x0, zi x3]) (rest := []) (zCl.of (zLk_V (M := MX2_expand) (ci := 2) (r := (RX2, TX2, 22)) plX2_isAt.1 rfl rfl (zisE hb).1 (zisE hb).2 dX2_expand_91 q1460 q1462 qs20 q1463) plX2_isAt (Nat.le_of_ble_eq_true rfl) (fun h => c_X2_isAt h)) (fun v1 σ2 => ?_)
  refine gb_if (gj_if_ne 100 (pc := 94) dX2_expand_94 (by decide)) ?_ ?_
  · refine zst_ (gj_aload_n 0 (pc := 100) dX2_expand_100 rfl) ?_
    refine gb_get (pc := 101) fl207 dX2_expand_101 q287 (Or.inl rfl) (fun v3 => ?_)
    refine zst_ (gj_iload_n 3 (pc := 104) dX2_expand_104 rfl) ?_
    refine gb_aald (pc := 105) (k := 106) ⟨by decide, by decide⟩ dX2_expand_105 (fun v4 => ?_)
    refine zst_ (gj_astore (pc := 106) (ls' := [(5, zr v4), (0, zr x0), (1, zi x1), (2, zi x2), (3, zi x3), (4, zi x4)]) dX2_expand_106 (by decide) rfl) ?_
    refine zst_ (gj_aload 0 (pc := 108) dX2_expand_108 rfl) ?_
    refine gb_getNe (pc := 110) fl1100 dX2_expand_110 q1156 (Or.inl rfl) (fun v5 => ?_)
    refine zst_ (gj_enumL (pc := 113) (i := 2) (by decide) rfl rfl dX2_expand_113 q1499 rfl) ?_
    refine gb_if (gj_acmp_ne 171 (pc := 116) dX2_expand_116 (by decide)) ?_ ?_
    · refine zst_ (gj_sub [1, 2, 3, 4, 5, 0] rfl) ?_
      exact fun h => w_X2_expand_171 x0 x1 x2 x3 x4 v4 σ2 h hk
    · refine zst_ (gj_aload_n 1 (pc := 119) dX2_expand_119 rfl) ?_
      refine gb_get (pc := 120) fl201 dX2_expand_120 q272 (Or.inl rfl) (fun v6 => ?_)
      refine zst_ (gj_aload 0 (pc := 123) dX2_expand_123 rfl) ?_
      refine gb_getNe (pc := 125) fl1107 dX2_expand_125 q1170 (Or.inl rfl) (fun v7 => ?_)
      refine gb_iald (pc := 128) dX2_expand_128 (fun v8 => ?_)
      refine gb_if (gj_if_ne 171 (pc := 129) dX2_expand_129 (by decide)) ?_ ?_
      · refine zst_ (gj_sub [1, 2, 3, 4, 5, 0] rfl) ?_
        exact fun h => w_X2_expand_171 x0 x1 x2 x3 x4 v4 σ2 h hk
      · refine zst_ (gj_iconst (pc := 132) dX2_expand_132 (by decide)) ?_
        refine zst_ (gj_istore (pc := 133) (ls' := [(6, zi 0), (5, zr v4), (0, zr x0), (1, zi x1), (2, zi x2), (3, zi x3), (4, zi x4)]) dX2_expand_133 (by decide) rfl) ?_
        refine zst_ (gj_sub [2, 3, 4, 5, 0] rfl) ?_
        exact fun h => w_X2_expand_135 x0 x1 x2 x3 0 σ2 h hk
  · refine zst_ (gj_goto 210 (pc := 97) dX2_expand_97 (by decide)) ?_
    refine zst_ (gj_sub [0, 1, 2, 3] rfl) ?_
    exact fun h => w_X2_expand_210 x0 x1 x2 x3 σ2 h hk
noncomputable def f_X2_expand_62_b (x0 x1 x2 x3 : Int) (σ : zM) : Option ((Int × zM) ⊕ zO) :=
  (zgf σ 205 x0).bind fun v1 =>
  if v1 ≤ x3 then
    (f_X2_expand_216 x0 x1 σ).map (fun r => (.inr r))
  else
    (zgf σ 208 x0).bind fun v2 =>
    (zga σ 101 v2 x3).bind fun v3 =>
    if x2 = (-1) then
      f_X2_expand_89 x0 x1 x2 x3 v3 σ
    else
      if x2 ≠ v3 then
        f_X2_expand_210 x0 x1 x2 x3 σ
      else
        f_X2_expand_89 x0 x1 x2 x3 v3 σ
noncomputable def f_X2_expand_62 (x0 x1 x2 x3 : Int) (σ : zM) : Option zO :=
  zloop (fun s : Int × zM => f_X2_expand_62_b x0 x1 x2 s.1 s.2) (x3, σ)
theorem w_X2_expand_62_b {g : zG} {lv : Nat} {out : zO} (x0 x1 x2 x3 : Int) (σ : zM) {r : ((Int × zM) ⊕ zO)} (h : f_X2_expand_62_b x0 x1 x2 x3 σ = some r) (hk : (zKL (fun s : Int × zM => Gj g MX2_expand (lv + 43) 62 [(0, zr x0), (1, zi x1), (2, zi x2), (3, zi s.1)] [] s.2 out) (fun o : zO => o = out)) r) : Gj g MX2_expand (lv + 43) 62 [(0, zr x0), (1, zi x1), (2, zi x2), (3, zi x3)] [] σ out := by
  revert h
  unfold f_X2_expand_62_b
  refine zst_ (gj_iload_n 3 (pc := 62) dX2_expand_62 rfl) ?_
  refine zst_ (gj_aload_n 0 (pc := 63) dX2_expand_63 rfl) ?_
  refine gb_get (pc := 64) fl205 dX2_expand_64 q281 (Or.inl rfl) (fun v1 => ?_)
  refine gb_if (gj_icmp_ge 216 (pc := 67) dX2_expand_67 (by decide)) ?_ ?_
  · refine zst_ (gj_sub [0, 1] rfl) ?_
    intro h
    obtain ⟨r0, h0, rfl⟩ := zmE h
    exact w_X2_expand_216 x0 x1 σ h0 hk
  · refine zst_ (gj_aload_n 0 (pc := 70) dX2_expand_70 rfl) ?_
    refine gb_get (pc := 71) fl208 dX2_expand_71 q289 (Or.inl rfl) (fun v2 => ?_)
    refine zst_ (gj_iload_n 3 (pc := 74) dX2_expand_74 rfl) ?_
    refine gb_iald (pc := 75) dX2_expand_75 (fun v3 => ?_)
    refine zst_ (gj_istore (pc := 76) (ls' := [(4, zi v3), (0, zr x0), (1, zi x1), (2, zi x2), (3, zi x3)]) dX2_expand_76 (by decide) rfl) ?_
    refine zst_ (gj_iload_n 3 (pc := 78) dX2_expand_78 rfl) ?_
    refine zst_ (gj_iconst (pc := 79) dX2_expand_79 (by decide)) ?_
    refine gb_if (gj_icmp_eq 89 (pc := 80) dX2_expand_80 (by decide)) ?_ ?_
    · refine zst_ (gj_sub [1, 2, 3, 4, 0] rfl) ?_
      exact fun h => w_X2_expand_89 x0 x1 x2 x3 v3 σ h hk
    · refine zst_ (gj_iload_n 3 (pc := 83) dX2_expand_83 rfl) ?_
      refine zst_ (gj_iload 0 (pc := 84) dX2_expand_84 rfl) ?_
      refine gb_if (gj_icmp_ne 210 (pc := 86) dX2_expand_86 (by decide)) ?_ ?_
      · refine zst_ (gj_sub [1, 2, 3, 4] rfl) ?_
        exact fun h => w_X2_expand_210 x0 x1 x2 x3 σ h hk
      · refine zst_ (gj_sub [1, 2, 3, 4, 0] rfl) ?_
        exact fun h => w_X2_expand_89 x0 x1 x2 x3 v3 σ h hk
theorem w_X2_expand_62 {g : zG} {lv : Nat} {out : zO} (x0 x1 x2 x3 : Int) (σ : zM) {r : zO} (h : f_X2_expand_62 x0 x1 x2 x3 σ = some r) (hk : (fun o : zO => o = out) r) : Gj g MX2_expand (lv + 43) 62 [(0, zr x0), (1, zi x1), (2, zi x2), (3, zi x3)] [] σ out :=
  gj_loop (P := (fun s : Int × zM => Gj g MX2_expand (lv + 43) 62 [(0, zr x0), (1, zi x1), (2, zi x2), (3, zi s.1)] [] s.2 out)) (fun s x hb hx => w_X2_expand_62_b x0 x1 x2 s.1 s.2 hb hx) h hk
noncomputable def f_X2_expand_59 (x0 x1 t0 : Int) (σ : zM) : Option zO :=
  f_X2_expand_62 x0 x1 t0 0 σ
theorem w_X2_expand_59 {g : zG} {lv : Nat} {out : zO} (x0 x1 t0 : Int) (σ : zM) {r : zO} (h : f_X2_expand_59 x0 x1 t0 σ = some r) (hk : (fun o : zO => o = out) r) : Gj g MX2_expand (lv + 43) 59 [(0, zr x0), (1, zi x1)] [zi t0] σ out := by
  revert h
  unfold f_X2_expand_59
  refine zst_ (gj_istore_n (pc := 59) (ls' := [(2, zi t0), (0, zr x0), (1, zi x1)]) dX2_expand_59 (by decide) rfl) ?_
  refine zst_ (gj_iconst (pc := 60) dX2_expand_60 (by decide)) ?_
  refine zst_ (gj_istore_n (pc := 61) (ls' := [(3, zi 0), (2, zi t0), (0, zr x0), (1, zi x1)]) dX2_expand_61 (by decide) rfl) ?_
  refine zst_ (gj_sub [2, 3, 1, 0] rfl) ?_
  exact fun h => w_X2_expand_62 x0 x1 t0 0 σ h hk
noncomputable def f_X2_expand_58 (x0 x1 : Int) (σ : zM) : Option zO :=
  f_X2_expand_59 x0 x1 (-1) σ
theorem w_X2_expand_58 {g : zG} {lv : Nat} {out : zO} (x0 x1 : Int) (σ : zM) {r : zO} (h : f_X2_expand_58 x0 x1 σ = some r) (hk : (fun o : zO => o = out) r) : Gj g MX2_expand (lv + 43) 58 [(0, zr x0), (1, zi x1)] [] σ out := by
  revert h
  unfold f_X2_expand_58
  refine zst_ (gj_iconst (pc := 58) dX2_expand_58 (by decide)) ?_
  exact fun h => w_X2_expand_59 x0 x1 (-1) σ h hk
noncomputable def f_X2_expand (x0 x1 : Int) (σ : zM) : Option zO :=
  (zgf σ 215 x0).bind fun v1 =>
  (zgf σ 221 x0).bind fun v2 =>
  (zpa σ 101 v1 x1 v2).bind fun σ3 =>
  (zgf σ3 211 x0).bind fun v4 =>
  zgd (zis σ3 3 x0) <|
  zcv (f_X2_unpack x0 x1 v4 σ3) fun σ5 =>
  (zgf σ5 211 x0).bind fun v6 =>
  (zgf σ5 303 v6).bind fun v7 =>
  if v7 ≤ 0 then
    f_X2_expand_58 x0 x1 σ5
  else
    (zgf σ5 211 x0).bind fun v8 =>
    (zgf σ5 303 v8).bind fun v9 =>
    zgd (zis σ5 3 x0) <|
    zci (f_X2_acts x0 (zsub v9 1) 1 σ5) fun v10 σ11 =>
    if v10 = 0 then
      f_X2_expand_58 x0 x1 σ11
    else
      (zgf σ11 211 x0).bind fun v12 =>
      (zgf σ11 303 v12).bind fun v13 =>
      f_X2_expand_59 x0 x1 (zsub v13 1) σ11
theorem c_X2_expand {g : zG} {lv : Nat} {x0 x1 : Int} {σ : zM} {out : zO} (h : f_X2_expand x0 x1 σ = some out) : Cj g (lv + 43) MX2_expand [zr x0, zi x1] σ out := by
  refine cj_go (ls := [(0, zr x0), (1, zi x1)]) (by decide) (Nat.le_of_ble_eq_true rfl) rfl (zgen h (fun r hk => ?_))
  unfold f_X2_expand
  refine zst_ (gj_aload_n 0 (pc := 0) dX2_expand_0 rfl) ?_
  refine gb_get (pc := 1) fl215 dX2_expand_1 q300 (Or.inl rfl) (fun v1 => ?_)
  refine zst_ (gj_iload_n 1 (pc := 4) dX2_expand_4 rfl) ?_
  refine zst_ (gj_aload_n 0 (pc := 5) dX2_expand_5 rfl) ?_
  refine gb_get (pc := 6) fl221 dX2_expand_6 q315 (Or.inl rfl) (fun v2 => ?_)
  refine gb_iast (pc := 9) dX2_expand_9 (fun σ3 => ?_)
  refine zst_ (gj_aload_n 0 (pc := 10) dX2_expand_10 rfl) ?_
  refine zst_ (gj_iload_n 1 (pc := 11) dX2_expand_11 rfl) ?_
  refine zst_ (gj_aload_n 0 (pc := 12) dX2_expand_12 rfl) ?_
  refine gb_get (pc := 13) fl211 dX2_expand_13 q295 (Or.inl rfl) (fun v4 => ?_)
  refine gb_gd (fun hb => ?_)
  refine gb_callV (pc := 16) (as := [zr x0, zi x1, zr v4]) (rest := []) (zCl.of (zLk_V (M := MX2_expand) (ci := 2) (r := (RX2, TX2, 22)) plX2_unpack.1 rfl rfl (zisE hb).1 (zisE hb).2 dX2_expand_16 q1455 q934 q935 q936) plX2_unpack (Nat.le_of_ble_eq_true rfl) (fun h => c_X2_unpack h)) (fun σ5 => ?_)
  refine zst_ (gj_aload_n 0 (pc := 19) dX2_expand_19 rfl) ?_
  refine gb_get (pc := 20) fl211 dX2_expand_20 q295 (Or.inl rfl) (fun v6 => ?_)
  refine gb_getNe (pc := 23) fl303 dX2_expand_23 q217 (Or.inl rfl) (fun v7 => ?_)
  refine gb_if (gj_if_le 58 (pc := 26) dX2_expand_26 (by decide)) ?_ ?_
  · exact fun h => w_X2_expand_58 x0 x1 σ5 h hk
  · refine zst_ (gj_aload_n 0 (pc := 29) dX2_expand_29 rfl) ?_
    refine zst_ (gj_aload_n 0 (pc := 30) dX2_expand_30 rfl) ?_
    refine gb_get (pc := 31) fl211 dX2_expand_31 q295 (Or.inl rfl) (fun v8 => ?_)
    refine gb_getNe (pc := 34) fl303 dX2_expand_34 q217 (Or.inl rfl) (fun v9 => ?_)
    refine zst_ (gj_iconst (pc := 37) dX2_expand_37 (by decide)) ?_
    refine zst_ (gj_isub (pc := 38) dX2_expand_38) ?_
    refine zst_ (gj_iconst (pc := 39) dX2_expand_39 (by decide)) ?_
    refine gb_gd (fun hb => ?_)
    refine gb_callI (pc := 40) (as := [zr x0, zi (zsub v9 1), zi 1]) (rest := []) (zCl.of (zLk_V (M := MX2_expand) (ci := 2) (r := (RX2, TX2, 22)) plX2_acts.1 rfl rfl (zisE hb).1 (zisE hb).2 dX2_expand_40 q1456 q1458 qs19 q1459) plX2_acts (Nat.le_of_ble_eq_true rfl) (fun h => c_X2_acts h)) (fun v10 σ11 => ?_)
    refine gb_if (gj_if_eq 58 (pc := 43) dX2_expand_43 (by decide)) ?_ ?_
    · exact fun h => w_X2_expand_58 x0 x1 σ11 h hk
    · refine zst_ (gj_aload_n 0 (pc := 46) dX2_expand_46 rfl) ?_
      refine gb_get (pc := 47) fl211 dX2_expand_47 q295 (Or.inl rfl) (fun v12 => ?_)
      refine gb_getNe (pc := 50) fl303 dX2_expand_50 q217 (Or.inl rfl) (fun v13 => ?_)
      refine zst_ (gj_iconst (pc := 53) dX2_expand_53 (by decide)) ?_
      refine zst_ (gj_isub (pc := 54) dX2_expand_54) ?_
      refine zst_ (gj_goto 59 (pc := 55) dX2_expand_55 (by decide)) ?_
      exact fun h => w_X2_expand_59 x0 x1 (zsub v13 1) σ11 h hk
theorem q241 : (Jvm.Cond.fieldLinkNest "LassoFinder$Model" (201 : Nat) "LassoFinder$Routine" "start" "I" "LassoFinder") ∈ lw_tbl := lw_at lw_m1 141 rfl
theorem q1426 : (Jvm.Cond.code ({ cls := "LassoFinder$Model", name := "explore", desc := "()V" } : Jvm.MethodName) prog_9_method_15_code (2 : Nat) (Option.none : Option Jvm.ClassFile.FieldType)) ∈ lw_all := lw_g (lw_at lw_m6 126 rfl) rfl
theorem q1451 : (Jvm.Cond.methodLink "LassoFinder$Model" (204 : Nat) ({ cls := "LassoFinder$Model", name := "expand", desc := "(I)V" } : Jvm.MethodName)) ∈ lw_all := lw_g (lw_at lw_m6 151 rfl) rfl
theorem q1453 : (Jvm.Cond.instanceMethod ({ cls := "LassoFinder$Model", name := "expand", desc := "(I)V" } : Jvm.MethodName)) ∈ lw_all := lw_g (lw_at lw_m6 153 rfl) rfl
abbrev cX2_explore : ByteArray := prog_9_method_15_code
def yX2_explore : MethodName := ⟨RX2, "explore", "()V"⟩
theorem dX2_explore_0 : decode cX2_explore 0 = .ok (.iconst 0, 1) := by decide +kernel
theorem dX2_explore_1 : decode cX2_explore 1 = .ok (.istore_n 1, 1) := by decide +kernel
theorem dX2_explore_2 : decode cX2_explore 2 = .ok (.iload_n 1, 1) := by decide +kernel
theorem dX2_explore_3 : decode cX2_explore 3 = .ok (.aload_n 0, 1) := by decide +kernel
theorem dX2_explore_4 : decode cX2_explore 4 = .ok (.getfield 54, 3) := by decide +kernel
theorem dX2_explore_7 : decode cX2_explore 7 = .ok (.arraylength, 1) := by decide +kernel
theorem dX2_explore_8 : decode cX2_explore 8 = .ok (.if_icmp .ge 16, 3) := by decide +kernel
theorem dX2_explore_11 : decode cX2_explore 11 = .ok (.aload_n 0, 1) := by decide +kernel
theorem dX2_explore_12 : decode cX2_explore 12 = .ok (.getfield 54, 3) := by decide +kernel
theorem dX2_explore_15 : decode cX2_explore 15 = .ok (.iload_n 1, 1) := by decide +kernel
theorem dX2_explore_16 : decode cX2_explore 16 = .ok (.iconst 0, 1) := by decide +kernel
theorem dX2_explore_17 : decode cX2_explore 17 = .ok (.iastore, 1) := by decide +kernel
theorem dX2_explore_18 : decode cX2_explore 18 = .ok (.iinc 1 1, 3) := by decide +kernel
theorem dX2_explore_21 : decode cX2_explore 21 = .ok (.goto (-19), 3) := by decide +kernel
theorem dX2_explore_24 : decode cX2_explore 24 = .ok (.iconst 0, 1) := by decide +kernel
theorem dX2_explore_25 : decode cX2_explore 25 = .ok (.istore_n 1, 1) := by decide +kernel
theorem dX2_explore_26 : decode cX2_explore 26 = .ok (.iload_n 1, 1) := by decide +kernel
theorem dX2_explore_27 : decode cX2_explore 27 = .ok (.bipush 8, 2) := by decide +kernel
theorem dX2_explore_29 : decode cX2_explore 29 = .ok (.if_icmp .ge 38, 3) := by decide +kernel
theorem dX2_explore_32 : decode cX2_explore 32 = .ok (.aload_n 0, 1) := by decide +kernel
theorem dX2_explore_33 : decode cX2_explore 33 = .ok (.getfield 43, 3) := by decide +kernel
theorem dX2_explore_36 : decode cX2_explore 36 = .ok (.getfield 98, 3) := by decide +kernel
theorem dX2_explore_39 : decode cX2_explore 39 = .ok (.iload_n 1, 1) := by decide +kernel
theorem dX2_explore_40 : decode cX2_explore 40 = .ok (.aload_n 0, 1) := by decide +kernel
theorem dX2_explore_41 : decode cX2_explore 41 = .ok (.getfield 9, 3) := by decide +kernel
theorem dX2_explore_44 : decode cX2_explore 44 = .ok (.iload_n 1, 1) := by decide +kernel
theorem dX2_explore_45 : decode cX2_explore 45 = .ok (.iaload, 1) := by decide +kernel
theorem dX2_explore_46 : decode cX2_explore 46 = .ok (.iconst 1, 1) := by decide +kernel
theorem dX2_explore_47 : decode cX2_explore 47 = .ok (.if_icmp .ne 12, 3) := by decide +kernel
theorem dX2_explore_50 : decode cX2_explore 50 = .ok (.aload_n 0, 1) := by decide +kernel
theorem dX2_explore_51 : decode cX2_explore 51 = .ok (.getfield 15, 3) := by decide +kernel
theorem dX2_explore_54 : decode cX2_explore 54 = .ok (.iload_n 1, 1) := by decide +kernel
theorem dX2_explore_55 : decode cX2_explore 55 = .ok (.iaload, 1) := by decide +kernel
theorem dX2_explore_56 : decode cX2_explore 56 = .ok (.goto 4, 3) := by decide +kernel
theorem dX2_explore_59 : decode cX2_explore 59 = .ok (.iconst 0, 1) := by decide +kernel
theorem dX2_explore_60 : decode cX2_explore 60 = .ok (.iastore, 1) := by decide +kernel
theorem dX2_explore_61 : decode cX2_explore 61 = .ok (.iinc 1 1, 3) := by decide +kernel
theorem dX2_explore_64 : decode cX2_explore 64 = .ok (.goto (-38), 3) := by decide +kernel
theorem dX2_explore_67 : decode cX2_explore 67 = .ok (.iconst 0, 1) := by decide +kernel
theorem dX2_explore_68 : decode cX2_explore 68 = .ok (.istore_n 1, 1) := by decide +kernel
theorem dX2_explore_69 : decode cX2_explore 69 = .ok (.iload_n 1, 1) := by decide +kernel
theorem dX2_explore_70 : decode cX2_explore 70 = .ok (.aload_n 0, 1) := by decide +kernel
theorem dX2_explore_71 : decode cX2_explore 71 = .ok (.getfield 80, 3) := by decide +kernel
theorem dX2_explore_74 : decode cX2_explore 74 = .ok (.if_icmp .ge 27, 3) := by decide +kernel
theorem dX2_explore_77 : decode cX2_explore 77 = .ok (.aload_n 0, 1) := by decide +kernel
theorem dX2_explore_78 : decode cX2_explore 78 = .ok (.getfield 43, 3) := by decide +kernel
theorem dX2_explore_81 : decode cX2_explore 81 = .ok (.getfield 95, 3) := by decide +kernel
theorem dX2_explore_84 : decode cX2_explore 84 = .ok (.iload_n 1, 1) := by decide +kernel
theorem dX2_explore_85 : decode cX2_explore 85 = .ok (.aload_n 0, 1) := by decide +kernel
theorem dX2_explore_86 : decode cX2_explore 86 = .ok (.getfield 20, 3) := by decide +kernel
theorem dX2_explore_89 : decode cX2_explore 89 = .ok (.iload_n 1, 1) := by decide +kernel
theorem dX2_explore_90 : decode cX2_explore 90 = .ok (.aaload, 1) := by decide +kernel
theorem dX2_explore_91 : decode cX2_explore 91 = .ok (.getfield 201, 3) := by decide +kernel
theorem dX2_explore_94 : decode cX2_explore 94 = .ok (.iastore, 1) := by decide +kernel
theorem dX2_explore_95 : decode cX2_explore 95 = .ok (.iinc 1 1, 3) := by decide +kernel
theorem dX2_explore_98 : decode cX2_explore 98 = .ok (.goto (-29), 3) := by decide +kernel
theorem dX2_explore_101 : decode cX2_explore 101 = .ok (.aload_n 0, 1) := by decide +kernel
theorem dX2_explore_102 : decode cX2_explore 102 = .ok (.getfield 43, 3) := by decide +kernel
theorem dX2_explore_105 : decode cX2_explore 105 = .ok (.iconst 0, 1) := by decide +kernel
theorem dX2_explore_106 : decode cX2_explore 106 = .ok (.putfield 92, 3) := by decide +kernel
theorem dX2_explore_109 : decode cX2_explore 109 = .ok (.aload_n 0, 1) := by decide +kernel
theorem dX2_explore_110 : decode cX2_explore 110 = .ok (.aload_n 0, 1) := by decide +kernel
theorem dX2_explore_111 : decode cX2_explore 111 = .ok (.aload_n 0, 1) := by decide +kernel
theorem dX2_explore_112 : decode cX2_explore 112 = .ok (.getfield 43, 3) := by decide +kernel
theorem dX2_explore_115 : decode cX2_explore 115 = .ok (.invokevirtual 193, 3) := by decide +kernel
theorem dX2_explore_118 : decode cX2_explore 118 = .ok (.invokevirtual 197, 3) := by decide +kernel
theorem dX2_explore_121 : decode cX2_explore 121 = .ok (.pop, 1) := by decide +kernel
theorem dX2_explore_122 : decode cX2_explore 122 = .ok (.iconst 0, 1) := by decide +kernel
theorem dX2_explore_123 : decode cX2_explore 123 = .ok (.istore_n 1, 1) := by decide +kernel
theorem dX2_explore_124 : decode cX2_explore 124 = .ok (.iload_n 1, 1) := by decide +kernel
theorem dX2_explore_125 : decode cX2_explore 125 = .ok (.aload_n 0, 1) := by decide +kernel
theorem dX2_explore_126 : decode cX2_explore 126 = .ok (.getfield 86, 3) := by decide +kernel
theorem dX2_explore_129 : decode cX2_explore 129 = .ok (.if_icmp .ge 14, 3) := by decide +kernel
theorem dX2_explore_132 : decode cX2_explore 132 = .ok (.aload_n 0, 1) := by decide +kernel
theorem dX2_explore_133 : decode cX2_explore 133 = .ok (.iload_n 1, 1) := by decide +kernel
theorem dX2_explore_134 : decode cX2_explore 134 = .ok (.invokevirtual 204, 3) := by decide +kernel
theorem dX2_explore_137 : decode cX2_explore 137 = .ok (.iinc 1 1, 3) := by decide +kernel
theorem dX2_explore_140 : decode cX2_explore 140 = .ok (.goto (-16), 3) := by decide +kernel
theorem dX2_explore_143 : decode cX2_explore 143 = .ok (.return_, 1) := by decide +kernel
abbrev MX2_explore : zT := (yX2_explore, cX2_explore, 2, (Option.none : Option Jvm.ClassFile.FieldType), [])
theorem plX2_explore : zplain MX2_explore 0 ∧ (zcodeW MX2_explore ∈ lw_all ∧ Cond.initialized MX2_explore.1.cls ∈ lw_all) := ⟨⟨by decide +kernel, by decide +kernel⟩, q1426, q106⟩
noncomputable def f_X2_explore_143 (σ : zM) : Option zO :=
  some (0, ((3, 0) : zV), σ)
theorem w_X2_explore_143 {g : zG} {lv : Nat} {out : zO} (σ : zM) {r : zO} (h : f_X2_explore_143  σ = some r) (hk : (fun o : zO => o = out) r) : Gj g MX2_explore (lv + 44) 143 [] [] σ out := by
  revert h
  unfold f_X2_explore_143
  intro h
  cases h
  have hk : (0, ((3, 0) : zV), σ) = out := hk
  subst hk
  exact gj_vret (pc := 143) dX2_explore_143 rfl
noncomputable def f_X2_explore_124_b (x0 x1 : Int) (σ : zM) : Option ((Int × zM) ⊕ zO) :=
  (zgf σ 220 x0).bind fun v1 =>
  if v1 ≤ x1 then
    (f_X2_explore_143 σ).map (fun r => (.inr r))
  else
    zgd (zis σ 3 x0) <|
    zcvT (f_X2_expand x0 x1 σ) (fun n a σ2 => some (.inr (n + 1, zr a, σ2))) fun σ2 =>
    zlet (zadd x1 1) fun y3 =>
    some (.inl (y3, σ2))
noncomputable def f_X2_explore_124 (x0 x1 : Int) (σ : zM) : Option zO :=
  zloop (fun s : Int × zM => f_X2_explore_124_b x0 s.1 s.2) (x1, σ)
theorem w_X2_explore_124_b {g : zG} {lv : Nat} {out : zO} (x0 x1 : Int) (σ : zM) {r : ((Int × zM) ⊕ zO)} (h : f_X2_explore_124_b x0 x1 σ = some r) (hk : (zKL (fun s : Int × zM => Gj g MX2_explore (lv + 44) 124 [(0, zr x0), (1, zi s.1)] [] s.2 out) (fun o : zO => o = out)) r) : Gj g MX2_explore (lv + 44) 124 [(0, zr x0), (1, zi x1)] [] σ out := by
  revert h
  unfold f_X2_explore_124_b
  refine zst_ (gj_iload_n 1 (pc := 124) dX2_explore_124 rfl) ?_
  refine zst_ (gj_aload_n 0 (pc := 125) dX2_explore_125 rfl) ?_
  refine gb_get (pc := 126) fl220 dX2_explore_126 q312 (Or.inl rfl) (fun v1 => ?_)
  refine gb_if (gj_icmp_ge 143 (pc := 129) dX2_explore_129 (by decide)) ?_ ?_
  · refine zst_ (gj_sub [] rfl) ?_
    intro h
    obtain ⟨r0, h0, rfl⟩ := zmE h
    exact w_X2_explore_143 σ h0 hk
  · refine zst_ (gj_aload_n 0 (pc := 132) dX2_explore_132 rfl) ?_
    refine zst_ (gj_iload_n 1 (pc := 133) dX2_explore_133 rfl) ?_
    refine gb_gd (fun hb => ?_)
    refine gb_callVT (pc := 134) (as := [zr x0, zi x1]) (rest := []) (zCl.of (zLk_V (M := MX2_explore) (ci := 2) (r := (RX2, TX2, 22)) plX2_expand.1 rfl rfl (zisE hb).1 (zisE hb).2 dX2_explore_134 q1451 q1453 qs18 q1454) plX2_expand (Nat.le_of_ble_eq_true rfl) (fun h => c_X2_expand h)) (fun n a s0 h => by cases h; exact Or.inl ⟨rfl, hk⟩) (fun σ2 => ?_)
    refine gb_iinc (pc := 137) 1 (fun y3 => [(1, zi y3), (0, zr x0)]) dX2_explore_137 rfl (by decide) (fun _ => rfl) (fun y3 => ?_)
    refine zst_ (gj_goto 124 (pc := 140) dX2_explore_140 (by decide)) ?_
    refine zst_ (gj_sub [1, 0] rfl) ?_
    intro h
    cases h
    exact hk
theorem w_X2_explore_124 {g : zG} {lv : Nat} {out : zO} (x0 x1 : Int) (σ : zM) {r : zO} (h : f_X2_explore_124 x0 x1 σ = some r) (hk : (fun o : zO => o = out) r) : Gj g MX2_explore (lv + 44) 124 [(0, zr x0), (1, zi x1)] [] σ out :=
  gj_loop (P := (fun s : Int × zM => Gj g MX2_explore (lv + 44) 124 [(0, zr x0), (1, zi s.1)] [] s.2 out)) (fun s x hb hx => w_X2_explore_124_b x0 s.1 s.2 hb hx) h hk
noncomputable def f_X2_explore_101 (x0 : Int) (σ : zM) : Option zO :=
  (zgf σ 211 x0).bind fun v1 =>
  (zpf σ 303 v1 0).bind fun σ2 =>
  (zgf σ2 211 x0).bind fun v3 =>
  zgd (zis σ2 3 x0) <|
  zcj (f_X2_packed x0 v3 σ2) fun v4 σ5 =>
  zgd (zis σ5 3 x0) <|
  zciT (f_X2_find x0 v4 σ5) (fun n a σ7 => some (n + 1, zr a, σ7)) fun v6 σ7 =>
  f_X2_explore_124 x0 0 σ7
theorem w_X2_explore_101 {g : zG} {lv : Nat} {out : zO} (x0 : Int) (σ : zM) {r : zO} (h : f_X2_explore_101 x0 σ = some r) (hk : (fun o : zO => o = out) r) : Gj g MX2_explore (lv + 44) 101 [(0, zr x0)] [] σ out := by
  revert h
  unfold f_X2_explore_101
  refine zst_ (gj_aload_n 0 (pc := 101) dX2_explore_101 rfl) ?_
  refine gb_get (pc := 102) fl211 dX2_explore_102 q295 (Or.inl rfl) (fun v1 => ?_)
  refine zst_ (gj_iconst (pc := 105) dX2_explore_105 (by decide)) ?_
  refine gb_putNe (pc := 106) fl303 fr303 dX2_explore_106 q217 (Or.inl rfl) (fun σ2 => ?_)
  refine zst_ (gj_aload_n 0 (pc := 109) dX2_explore_109 rfl) ?_
  refine zst_ (gj_aload_n 0 (pc := 110) dX2_explore_110 rfl) ?_
  refine zst_ (gj_aload_n 0 (pc := 111) dX2_explore_111 rfl) ?_
  refine gb_get (pc := 112) fl211 dX2_explore_112 q295 (Or.inl rfl) (fun v3 => ?_)
  refine gb_gd (fun hb => ?_)
  refine gb_callJ (pc := 115) (as := [zr x0, zr v3]) (rest := [zr x0]) (zCl.of (zLk_V (M := MX2_explore) (ci := 2) (r := (RX2, TX2, 22)) plX2_packed.1 rfl rfl (zisE hb).1 (zisE hb).2 dX2_explore_115 q1427 q1429 qs16 q1430) plX2_packed (Nat.le_of_ble_eq_true rfl) (fun h => c_X2_packed h)) (fun v4 σ5 => ?_)
  refine gb_gd (fun hb => ?_)
  refine gb_callIT (pc := 118) (as := [zr x0, zj v4]) (rest := []) (zCl.of (zLk_V (M := MX2_explore) (ci := 2) (r := (RX2, TX2, 22)) plX2_find.1 rfl rfl (zisE hb).1 (zisE hb).2 dX2_explore_118 q1431 q1433 qs17 q1434) plX2_find (Nat.le_of_ble_eq_true rfl) (fun h => c_X2_find h)) (fun n a s0 h => by cases h; exact Or.inl ⟨rfl, hk⟩) (fun v6 σ7 => ?_)
  refine zst_ (gj_pop (pc := 121) dX2_explore_121 rfl) ?_
  refine zst_ (gj_iconst (pc := 122) dX2_explore_122 (by decide)) ?_
  refine zst_ (gj_istore_n (pc := 123) (ls' := [(1, zi 0), (0, zr x0)]) dX2_explore_123 (by decide) rfl) ?_
  refine zst_ (gj_sub [1, 0] rfl) ?_
  exact fun h => w_X2_explore_124 x0 0 σ7 h hk
noncomputable def f_X2_explore_69_b (x0 x1 : Int) (σ : zM) : Option ((Int × zM) ⊕ zO) :=
  (zgf σ 204 x0).bind fun v1 =>
  if v1 ≤ x1 then
    (f_X2_explore_101 x0 σ).map (fun r => (.inr r))
  else
    (zgf σ 211 x0).bind fun v2 =>
    (zgf σ 302 v2).bind fun v3 =>
    (zgf σ 206 x0).bind fun v4 =>
    (zga σ 107 v4 x1).bind fun v5 =>
    (zgf σ 402 v5).bind fun v6 =>
    (zpa σ 101 v3 x1 v6).bind fun σ7 =>
    zlet (zadd x1 1) fun y8 =>
    some (.inl (y8, σ7))
noncomputable def f_X2_explore_69 (x0 x1 : Int) (σ : zM) : Option zO :=
  zloop (fun s : Int × zM => f_X2_explore_69_b x0 s.1 s.2) (x1, σ)
theorem w_X2_explore_69_b {g : zG} {lv : Nat} {out : zO} (x0 x1 : Int) (σ : zM) {r : ((Int × zM) ⊕ zO)} (h : f_X2_explore_69_b x0 x1 σ = some r) (hk : (zKL (fun s : Int × zM => Gj g MX2_explore (lv + 44) 69 [(0, zr x0), (1, zi s.1)] [] s.2 out) (fun o : zO => o = out)) r) : Gj g MX2_explore (lv + 44) 69 [(0, zr x0), (1, zi x1)] [] σ out := by
  revert h
  unfold f_X2_explore_69_b
  refine zst_ (gj_iload_n 1 (pc := 69) dX2_explore_69 rfl) ?_
  refine zst_ (gj_aload_n 0 (pc := 70) dX2_explore_70 rfl) ?_
  refine gb_get (pc := 71) fl204 dX2_explore_71 q277 (Or.inl rfl) (fun v1 => ?_)
  refine gb_if (gj_icmp_ge 101 (pc := 74) dX2_explore_74 (by decide)) ?_ ?_
  · refine zst_ (gj_sub [0] rfl) ?_
    intro h
    obtain ⟨r0, h0, rfl⟩ := zmE h
    exact w_X2_explore_101 x0 σ h0 hk
  · refine zst_ (gj_aload_n 0 (pc := 77) dX2_explore_77 rfl) ?_
    refine gb_get (pc := 78) fl211 dX2_explore_78 q295 (Or.inl rfl) (fun v2 => ?_)
    refine gb_getNe (pc := 81) fl302 dX2_explore_81 q214 (Or.inl rfl) (fun v3 => ?_)
    refine zst_ (gj_iload_n 1 (pc := 84) dX2_explore_84 rfl) ?_
    refine zst_ (gj_aload_n 0 (pc := 85) dX2_explore_85 rfl) ?_
    refine gb_get (pc := 86) fl206 dX2_explore_86 q284 (Or.inl rfl) (fun v4 => ?_)
    refine zst_ (gj_iload_n 1 (pc := 89) dX2_explore_89 rfl) ?_
    refine gb_aald (pc := 90) (k := 107) ⟨by decide, by decide⟩ dX2_explore_90 (fun v5 => ?_)
    refine gb_getNe (pc := 91) fl402 dX2_explore_91 q241 (Or.inl rfl) (fun v6 => ?_)
    refine gb_iast (pc := 94) dX2_explore_94 (fun σ7 => ?_)
    refine gb_iinc (pc := 95) 1 (fun y8 => [(1, zi y8), (0, zr x0)]) dX2_explore_95 rfl (by decide) (fun _ => rfl) (fun y8 => ?_)
    refine zst_ (gj_goto 69 (pc := 98) dX2_explore_98 (by decide)) ?_
    refine zst_ (gj_sub [1, 0] rfl) ?_
    intro h
    cases h
    exact hk
theorem w_X2_explore_69 {g : zG} {lv : Nat} {out : zO} (x0 x1 : Int) (σ : zM) {r : zO} (h : f_X2_explore_69 x0 x1 σ = some r) (hk : (fun o : zO => o = out) r) : Gj g MX2_explore (lv + 44) 69 [(0, zr x0), (1, zi x1)] [] σ out :=
  gj_loop (P := (fun s : Int × zM => Gj g MX2_explore (lv + 44) 69 [(0, zr x0), (1, zi s.1)] [] s.2 out)) (fun s x hb hx => w_X2_explore_69_b x0 s.1 s.2 hb hx) h hk
noncomputable def f_X2_explore_67 (x0 : Int) (σ : zM) : Option zO :=
  f_X2_explore_69 x0 0 σ
theorem w_X2_explore_67 {g : zG} {lv : Nat} {out : zO} (x0 : Int) (σ : zM) {r : zO} (h : f_X2_explore_67 x0 σ = some r) (hk : (fun o : zO => o = out) r) : Gj g MX2_explore (lv + 44) 67 [(0, zr x0)] [] σ out := by
  revert h
  unfold f_X2_explore_67
  refine zst_ (gj_iconst (pc := 67) dX2_explore_67 (by decide)) ?_
  refine zst_ (gj_istore_n (pc := 68) (ls' := [(1, zi 0), (0, zr x0)]) dX2_explore_68 (by decide) rfl) ?_
  refine zst_ (gj_sub [1, 0] rfl) ?_
  exact fun h => w_X2_explore_69 x0 0 σ h hk
noncomputable def f_X2_explore_60 (x0 x1 t0 t1 t2 : Int) (σ : zM) : Option ((Int × zM) ⊕ zO) :=
  (zpa σ 101 t2 t1 t0).bind fun σ1 =>
  zlet (zadd x1 1) fun y2 =>
  some (.inl (y2, σ1))
theorem w_X2_explore_60 {g : zG} {lv : Nat} {out : zO} (x0 x1 t0 t1 t2 : Int) (σ : zM) {r : ((Int × zM) ⊕ zO)} (h : f_X2_explore_60 x0 x1 t0 t1 t2 σ = some r) (hk : (zKL (fun s : Int × zM => Gj g MX2_explore (lv + 44) 26 [(0, zr x0), (1, zi s.1)] [] s.2 out) (fun o : zO => o = out)) r) : Gj g MX2_explore (lv + 44) 60 [(0, zr x0), (1, zi x1)] [zi t0, zi t1, zr t2] σ out := by
  revert h
  unfold f_X2_explore_60
  refine gb_iast (pc := 60) dX2_explore_60 (fun σ1 => ?_)
  refine gb_iinc (pc := 61) 1 (fun y2 => [(1, zi y2), (0, zr x0)]) dX2_explore_61 rfl (by decide) (fun _ => rfl) (fun y2 => ?_)
  refine zst_ (gj_goto 26 (pc := 64) dX2_explore_64 (by decide)) ?_
  refine zst_ (gj_sub [1, 0] rfl) ?_
  intro h
  cases h
  exact hk
noncomputable def f_X2_explore_26_b (x0 x1 : Int) (σ : zM) : Option ((Int × zM) ⊕ zO) :=
  if 8 ≤ x1 then
    (f_X2_explore_67 x0 σ).map (fun r => (.inr r))
  else
    (zgf σ 211 x0).bind fun v1 =>
    (zgf σ 300 v1).bind fun v2 =>
    (zgf σ 200 x0).bind fun v3 =>
    (zga σ 101 v3 x1).bind fun v4 =>
    if v4 ≠ 1 then
      f_X2_explore_60 x0 x1 0 x1 v2 σ
    else
      (zgf σ 201 x0).bind fun v5 =>
      (zga σ 101 v5 x1).bind fun v6 =>
      f_X2_explore_60 x0 x1 v6 x1 v2 σ
noncomputable def f_X2_explore_26 (x0 x1 : Int) (σ : zM) : Option zO :=
  zloop (fun s : Int × zM => f_X2_explore_26_b x0 s.1 s.2) (x1, σ)
theorem w_X2_explore_26_b {g : zG} {lv : Nat} {out : zO} (x0 x1 : Int) (σ : zM) {r : ((Int × zM) ⊕ zO)} (h : f_X2_explore_26_b x0 x1 σ = some r) (hk : (zKL (fun s : Int × zM => Gj g MX2_explore (lv + 44) 26 [(0, zr x0), (1, zi s.1)] [] s.2 out) (fun o : zO => o = out)) r) : Gj g MX2_explore (lv + 44) 26 [(0, zr x0), (1, zi x1)] [] σ out := by
  revert h
  unfold f_X2_explore_26_b
  refine zst_ (gj_iload_n 1 (pc := 26) dX2_explore_26 rfl) ?_
  refine zst_ (gj_bipush (pc := 27) dX2_explore_27 ⟨rfl, by decide⟩) ?_
  refine gb_if (gj_icmp_ge 67 (pc := 29) dX2_explore_29 (by decide)) ?_ ?_
  · refine zst_ (gj_sub [0] rfl) ?_
    intro h
    obtain ⟨r0, h0, rfl⟩ := zmE h
    exact w_X2_explore_67 x0 σ h0 hk
  · refine zst_ (gj_aload_n 0 (pc := 32) dX2_explore_32 rfl) ?_
    refine gb_get (pc := 33) fl211 dX2_explore_33 q295 (Or.inl rfl) (fun v1 => ?_)
    refine gb_getNe (pc := 36) fl300 dX2_explore_36 q207 (Or.inl rfl) (fun v2 => ?_)
    refine zst_ (gj_iload_n 1 (pc := 39) dX2_explore_39 rfl) ?_
    refine zst_ (gj_aload_n 0 (pc := 40) dX2_explore_40 rfl) ?_
    refine gb_get (pc := 41) fl200 dX2_explore_41 q268 (Or.inl rfl) (fun v3 => ?_)
    refine zst_ (gj_iload_n 1 (pc := 44) dX2_explore_44 rfl) ?_
    refine gb_iald (pc := 45) dX2_explore_45 (fun v4 => ?_)
    refine zst_ (gj_iconst (pc := 46) dX2_explore_46 (by decide)) ?_
    refine gb_if (gj_icmp_ne 59 (pc := 47) dX2_explore_47 (by decide)) ?_ ?_
    · refine zst_ (gj_iconst (pc := 59) dX2_explore_59 (by decide)) ?_
      exact fun h => w_X2_explore_60 x0 x1 0 x1 v2 σ h hk
    · refine zst_ (gj_aload_n 0 (pc := 50) dX2_explore_50 rfl) ?_
      refine gb_get (pc := 51) fl201 dX2_explore_51 q272 (Or.inl rfl) (fun v5 => ?_)
      refine zst_ (gj_iload_n 1 (pc := 54) dX2_explore_54 rfl) ?_
      refine gb_iald (pc := 55) dX2_explore_55 (fun v6 => ?_)
      refine zst_ (gj_goto 60 (pc := 56) dX2_explore_56 (by decide)) ?_
      exact fun h => w_X2_explore_60 x0 x1 v6 x1 v2 σ h hk
theorem w_X2_explore_26 {g : zG} {lv : Nat} {out : zO} (x0 x1 : Int) (σ : zM) {r : zO} (h : f_X2_explore_26 x0 x1 σ = some r) (hk : (fun o : zO => o = out) r) : Gj g MX2_explore (lv + 44) 26 [(0, zr x0), (1, zi x1)] [] σ out :=
  gj_loop (P := (fun s : Int × zM => Gj g MX2_explore (lv + 44) 26 [(0, zr x0), (1, zi s.1)] [] s.2 out)) (fun s x hb hx => w_X2_explore_26_b x0 s.1 s.2 hb hx) h hk
noncomputable def f_X2_explore_24 (x0 : Int) (σ : zM) : Option zO :=
  f_X2_explore_26 x0 0 σ
theorem w_X2_explore_24 {g : zG} {lv : Nat} {out : zO} (x0 : Int) (σ : zM) {r : zO} (h : f_X2_explore_24 x0 σ = some r) (hk : (fun o : zO => o = out) r) : Gj g MX2_explore (lv + 44) 24 [(0, zr x0)] [] σ out := by
  revert h
  unfold f_X2_explore_24
  refine zst_ (gj_iconst (pc := 24) dX2_explore_24 (by decide)) ?_
  refine zst_ (gj_istore_n (pc := 25) (ls' := [(1, zi 0), (0, zr x0)]) dX2_explore_25 (by decide) rfl) ?_
  refine zst_ (gj_sub [1, 0] rfl) ?_
  exact fun h => w_X2_explore_26 x0 0 σ h hk
noncomputable def f_X2_explore_2_b (x0 x1 : Int) (σ : zM) : Option ((Int × zM) ⊕ zO) :=
  (zgf σ 214 x0).bind fun v1 =>
  (zla σ 101 v1).bind fun v2 =>
  if v2 ≤ x1 then
    (f_X2_explore_24 x0 σ).map (fun r => (.inr r))
  else
    (zgf σ 214 x0).bind fun v3 =>
    (zpa σ 101 v3 x1 0).bind fun σ4 =>
    zlet (zadd x1 1) fun y5 =>
    some (.inl (y5, σ4))
noncomputable def f_X2_explore_2 (x0 x1 : Int) (σ : zM) : Option zO :=
  zloop (fun s : Int × zM => f_X2_explore_2_b x0 s.1 s.2) (x1, σ)
theorem w_X2_explore_2_b {g : zG} {lv : Nat} {out : zO} (x0 x1 : Int) (σ : zM) {r : ((Int × zM) ⊕ zO)} (h : f_X2_explore_2_b x0 x1 σ = some r) (hk : (zKL (fun s : Int × zM => Gj g MX2_explore (lv + 44) 2 [(0, zr x0), (1, zi s.1)] [] s.2 out) (fun o : zO => o = out)) r) : Gj g MX2_explore (lv + 44) 2 [(0, zr x0), (1, zi x1)] [] σ out := by
  revert h
  unfold f_X2_explore_2_b
  refine zst_ (gj_iload_n 1 (pc := 2) dX2_explore_2 rfl) ?_
  refine zst_ (gj_aload_n 0 (pc := 3) dX2_explore_3 rfl) ?_
  refine gb_get (pc := 4) fl214 dX2_explore_4 q299 (Or.inl rfl) (fun v1 => ?_)
  refine gb_alen (pc := 7) (k := 101) (by decide) dX2_explore_7 (fun v2 => ?_)
  refine gb_if (gj_icmp_ge 24 (pc := 8) dX2_explore_8 (by decide)) ?_ ?_
  · refine zst_ (gj_sub [0] rfl) ?_
    intro h
    obtain ⟨r0, h0, rfl⟩ := zmE h
    exact w_X2_explore_24 x0 σ h0 hk
  · refine zst_ (gj_aload_n 0 (pc := 11) dX2_explore_11 rfl) ?_
    refine gb_get (pc := 12) fl214 dX2_explore_12 q299 (Or.inl rfl) (fun v3 => ?_)
    refine zst_ (gj_iload_n 1 (pc := 15) dX2_explore_15 rfl) ?_
    refine zst_ (gj_iconst (pc := 16) dX2_explore_16 (by decide)) ?_
    refine gb_iast (pc := 17) dX2_explore_17 (fun σ4 => ?_)
    refine gb_iinc (pc := 18) 1 (fun y5 => [(1, zi y5), (0, zr x0)]) dX2_explore_18 rfl (by decide) (fun _ => rfl) (fun y5 => ?_)
    refine zst_ (gj_goto 2 (pc := 21) dX2_explore_21 (by decide)) ?_
    refine zst_ (gj_sub [1, 0] rfl) ?_
    intro h
    cases h
    exact hk
theorem w_X2_explore_2 {g : zG} {lv : Nat} {out : zO} (x0 x1 : Int) (σ : zM) {r : zO} (h : f_X2_explore_2 x0 x1 σ = some r) (hk : (fun o : zO => o = out) r) : Gj g MX2_explore (lv + 44) 2 [(0, zr x0), (1, zi x1)] [] σ out :=
  gj_loop (P := (fun s : Int × zM => Gj g MX2_explore (lv + 44) 2 [(0, zr x0), (1, zi s.1)] [] s.2 out)) (fun s x hb hx => w_X2_explore_2_b x0 s.1 s.2 hb hx) h hk
noncomputable def f_X2_explore (x0 : Int) (σ : zM) : Option zO :=
  f_X2_explore_2 x0 0 σ
theorem c_X2_explore {g : zG} {lv : Nat} {x0 : Int} {σ : zM} {out : zO} (h : f_X2_explore x0 σ = some out) : Cj g (lv + 44) MX2_explore [zr x0] σ out := by
  refine cj_go (ls := [(0, zr x0)]) (by decide) (Nat.le_of_ble_eq_true rfl) rfl (zgen h (fun r hk => ?_))
  unfold f_X2_explore
  refine zst_ (gj_iconst (pc := 0) dX2_explore_0 (by decide)) ?_
  refine zst_ (gj_istore_n (pc := 1) (ls' := [(1, zi 0), (0, zr x0)]) dX2_explore_1 (by decide) rfl) ?_
  refine zst_ (gj_sub [1, 0] rfl) ?_
  exact fun h => w_X2_explore_2 x0 0 σ h hk
theorem q314 : (Jvm.Cond.fieldLinkNest "LassoFinder" (112 : Nat) "LassoFinder$Model" "many" "I" "LassoFinder") ∈ lw_tbl := lw_at lw_m1 214 rfl
theorem q704 : (Jvm.Cond.fieldLink "LassoFinder" (105 : Nat) "LassoFinder$ModelReader" "at" "I") ∈ lw_all := lw_g (lw_at lw_m3 124 rfl) rfl
theorem q842 : (Jvm.Cond.fieldLink "LassoFinder" (19 : Nat) "LassoFinder" "model" "LLassoFinder$Model;") ∈ lw_all := lw_g (lw_at lw_m4 22 rfl) rfl
theorem q843 : (Jvm.Cond.fieldLink "LassoFinder" (28 : Nat) "LassoFinder" "models" "LLassoFinder$ModelReader;") ∈ lw_all := lw_g (lw_at lw_m4 23 rfl) rfl
theorem q847 : (Jvm.Cond.fieldLink "LassoFinder" (97 : Nat) "LassoFinder" "modelled" "Z") ∈ lw_all := lw_g (lw_at lw_m4 27 rfl) rfl
theorem q851 : (Jvm.Cond.fieldLink "LassoFinder" (56 : Nat) "LassoFinder" "done" "I") ∈ lw_all := lw_g (lw_at lw_m4 31 rfl) rfl
theorem q961 : (Jvm.Cond.codeWith ({ cls := "LassoFinder", name := "model", desc := "()I" } : Jvm.MethodName) prog_1_method_4_code (2 : Nat) (Option.some Jvm.ClassFile.FieldType.int) [((21 : Nat), (28 : Nat), (31 : Nat), (103 : Nat))]) ∈ lw_all := lw_g (lw_at lw_m4 141 rfl) rfl
theorem q962 : (Jvm.Cond.classLink "LassoFinder" (103 : Nat) "java/lang/IllegalArgumentException") ∈ lw_all := lw_g (lw_at lw_m4 142 rfl) rfl
theorem q963 : (Jvm.Cond.methodLink "LassoFinder" (90 : Nat) ({ cls := "LassoFinder", name := "taken", desc := "()Ljava/lang/String;" } : Jvm.MethodName)) ∈ lw_all := lw_g (lw_at lw_m4 143 rfl) rfl
theorem q965 : (Jvm.Cond.instanceMethod ({ cls := "LassoFinder", name := "taken", desc := "()Ljava/lang/String;" } : Jvm.MethodName)) ∈ lw_all := lw_g (lw_at lw_m4 145 rfl) rfl
theorem q1036 : (Jvm.Cond.methodLink "LassoFinder" (93 : Nat) ({ cls := "LassoFinder$ModelReader", name := "begin", desc := "(Ljava/lang/String;)V" } : Jvm.MethodName)) ∈ lw_all := lw_g (lw_at lw_m4 216 rfl) rfl
theorem q1037 : (Jvm.Cond.sameMethod "LassoFinder$ModelReader" "LassoFinder$Reader" "begin" "(Ljava/lang/String;)V") ∈ lw_all := lw_g (lw_at lw_m4 217 rfl) rfl
theorem q1039 : (Jvm.Cond.selects "LassoFinder$ModelReader" ({ cls := "LassoFinder$ModelReader", name := "begin", desc := "(Ljava/lang/String;)V" } : Jvm.MethodName) ({ cls := "LassoFinder$Reader", name := "begin", desc := "(Ljava/lang/String;)V" } : Jvm.MethodName)) ∈ lw_all := lw_g (lw_at lw_m4 219 rfl) rfl
theorem q1040 : (Jvm.Cond.instanceMethod ({ cls := "LassoFinder$Reader", name := "begin", desc := "(Ljava/lang/String;)V" } : Jvm.MethodName)) ∈ lw_all := lw_g (lw_at lw_m4 220 rfl) rfl
theorem q1042 : (Jvm.Cond.methodLink "LassoFinder" (100 : Nat) ({ cls := "LassoFinder$ModelReader", name := "read", desc := "()V" } : Jvm.MethodName)) ∈ lw_all := lw_g (lw_at lw_m4 222 rfl) rfl
theorem q1043 : (Jvm.Cond.instanceMethod ({ cls := "LassoFinder$ModelReader", name := "read", desc := "()V" } : Jvm.MethodName)) ∈ lw_all := lw_g (lw_at lw_m4 223 rfl) rfl
theorem q1044 : (Jvm.Cond.selects "LassoFinder$ModelReader" ({ cls := "LassoFinder$ModelReader", name := "read", desc := "()V" } : Jvm.MethodName) ({ cls := "LassoFinder$ModelReader", name := "read", desc := "()V" } : Jvm.MethodName)) ∈ lw_all := lw_g (lw_at lw_m4 224 rfl) rfl
theorem q1422 : (Jvm.Cond.methodLink "LassoFinder" (108 : Nat) ({ cls := "java/lang/IllegalArgumentException", name := "<init>", desc := "()V" } : Jvm.MethodName)) ∈ lw_all := lw_g (lw_at lw_m6 122 rfl) rfl
theorem q1423 : (Jvm.Cond.methodLink "LassoFinder" (109 : Nat) ({ cls := "LassoFinder$Model", name := "explore", desc := "()V" } : Jvm.MethodName)) ∈ lw_all := lw_g (lw_at lw_m6 123 rfl) rfl
theorem q1424 : (Jvm.Cond.instanceMethod ({ cls := "LassoFinder$Model", name := "explore", desc := "()V" } : Jvm.MethodName)) ∈ lw_all := lw_g (lw_at lw_m6 124 rfl) rfl
theorem q1425 : (Jvm.Cond.selects "LassoFinder$Model" ({ cls := "LassoFinder$Model", name := "explore", desc := "()V" } : Jvm.MethodName) ({ cls := "LassoFinder$Model", name := "explore", desc := "()V" } : Jvm.MethodName)) ∈ lw_all := lw_g (lw_at lw_m6 125 rfl) rfl
theorem fl101 : zfl 101 2 "LassoFinder" "model" "LLassoFinder$Model;" true := ⟨rfl, rfl, rfl⟩
theorem fr101 {g : zG} {v : Int} : zok g (2, v) → zokt g (zft 101) v := fun h => h
theorem fl102 : zfl 102 2 "LassoFinder" "models" "LLassoFinder$ModelReader;" true := ⟨rfl, rfl, rfl⟩
theorem fr102 {g : zG} {v : Int} : zok g (2, v) → zokt g (zft 102) v := fun h => h
theorem fl106 : zfl 106 0 "LassoFinder" "modelled" "Z" false := ⟨rfl, rfl, rfl⟩
theorem fr106 {g : zG} {v : Int} (h : z01 v = true) : zok g (0, v) → zokt g (zft 106) v := fun _ => z01E h
theorem fl110 : zfl 110 0 "LassoFinder" "done" "I" false := ⟨rfl, rfl, rfl⟩
theorem fr110 {g : zG} {v : Int} : zok g (0, v) → zokt g (zft 110) v := fun h => h
abbrev cX1_model : ByteArray := prog_1_method_4_code
def yX1_model : MethodName := ⟨RX1, "model", "()I"⟩
theorem dX1_model_0 : decode cX1_model 0 = .ok (.aload_n 0, 1) := by decide +kernel
theorem dX1_model_1 : decode cX1_model 1 = .ok (.getfield 28, 3) := by decide +kernel
theorem dX1_model_4 : decode cX1_model 4 = .ok (.aload_n 0, 1) := by decide +kernel
theorem dX1_model_5 : decode cX1_model 5 = .ok (.invokevirtual 90, 3) := by decide +kernel
theorem dX1_model_8 : decode cX1_model 8 = .ok (.invokevirtual 93, 3) := by decide +kernel
theorem dX1_model_11 : decode cX1_model 11 = .ok (.aload_n 0, 1) := by decide +kernel
theorem dX1_model_12 : decode cX1_model 12 = .ok (.iconst 0, 1) := by decide +kernel
theorem dX1_model_13 : decode cX1_model 13 = .ok (.putfield 97, 3) := by decide +kernel
theorem dX1_model_16 : decode cX1_model 16 = .ok (.aload_n 0, 1) := by decide +kernel
theorem dX1_model_17 : decode cX1_model 17 = .ok (.iconst (-1), 1) := by decide +kernel
theorem dX1_model_18 : decode cX1_model 18 = .ok (.putfield 56, 3) := by decide +kernel
theorem dX1_model_21 : decode cX1_model 21 = .ok (.aload_n 0, 1) := by decide +kernel
theorem dX1_model_22 : decode cX1_model 22 = .ok (.getfield 28, 3) := by decide +kernel
theorem dX1_model_25 : decode cX1_model 25 = .ok (.invokevirtual 100, 3) := by decide +kernel
theorem dX1_model_28 : decode cX1_model 28 = .ok (.goto 23, 3) := by decide +kernel
theorem dX1_model_31 : decode cX1_model 31 = .ok (.astore_n 1, 1) := by decide +kernel
theorem dX1_model_32 : decode cX1_model 32 = .ok (.aload_n 0, 1) := by decide +kernel
theorem dX1_model_33 : decode cX1_model 33 = .ok (.aload_n 0, 1) := by decide +kernel
theorem dX1_model_34 : decode cX1_model 34 = .ok (.getfield 28, 3) := by decide +kernel
theorem dX1_model_37 : decode cX1_model 37 = .ok (.getfield 105, 3) := by decide +kernel
theorem dX1_model_40 : decode cX1_model 40 = .ok (.putfield 48, 3) := by decide +kernel
theorem dX1_model_43 : decode cX1_model 43 = .ok (.new 103, 3) := by decide +kernel
theorem dX1_model_46 : decode cX1_model 46 = .ok (.dup, 1) := by decide +kernel
theorem dX1_model_47 : decode cX1_model 47 = .ok (.invokespecial 108, 3) := by decide +kernel
theorem dX1_model_50 : decode cX1_model 50 = .ok (.athrow, 1) := by decide +kernel
theorem dX1_model_51 : decode cX1_model 51 = .ok (.aload_n 0, 1) := by decide +kernel
theorem dX1_model_52 : decode cX1_model 52 = .ok (.getfield 19, 3) := by decide +kernel
theorem dX1_model_55 : decode cX1_model 55 = .ok (.invokevirtual 109, 3) := by decide +kernel
theorem dX1_model_58 : decode cX1_model 58 = .ok (.aload_n 0, 1) := by decide +kernel
theorem dX1_model_59 : decode cX1_model 59 = .ok (.iconst 1, 1) := by decide +kernel
theorem dX1_model_60 : decode cX1_model 60 = .ok (.putfield 97, 3) := by decide +kernel
theorem dX1_model_63 : decode cX1_model 63 = .ok (.aload_n 0, 1) := by decide +kernel
theorem dX1_model_64 : decode cX1_model 64 = .ok (.getfield 19, 3) := by decide +kernel
theorem dX1_model_67 : decode cX1_model 67 = .ok (.getfield 112, 3) := by decide +kernel
theorem dX1_model_70 : decode cX1_model 70 = .ok (.ireturn, 1) := by decide +kernel
abbrev MX1_model : zT := (yX1_model, cX1_model, 2, (Option.some Jvm.ClassFile.FieldType.int), [(21, 28, 31, 103)])
theorem plX1_model : zplain MX1_model 0 ∧ (zcodeW MX1_model ∈ lw_all ∧ Cond.initialized MX1_model.1.cls ∈ lw_all) := ⟨⟨by decide +kernel, by decide +kernel⟩, q961, q101⟩
noncomputable def f_X1_model_31 (x0 t0 : Int) (σ : zM) : Option zO :=
  (zgf σ 102 x0).bind fun v1 =>
  (zgf σ 502 v1).bind fun v2 =>
  (zpf σ 108 x0 v2).bind fun σ3 =>
  (znX σ3 51).bind fun σ4 =>
  zgd (zis σ4 51 (↑(zN σ3) : Int)) <|
  some (1, zr (↑(zN σ3) : Int), σ4)
theorem w_X1_model_31 {g : zG} {lv : Nat} {out : zO} (x0 t0 : Int) (σ : zM) {r : zO} (h : f_X1_model_31 x0 t0 σ = some r) (hk : (fun o : zO => o = out) r) : Gj g MX1_model (lv + 93) 31 [(0, zr x0)] [zr t0] σ out := by
  revert h
  unfold f_X1_model_31
  refine zst_ (gj_astore_n (pc := 31) (ls' := [(1, zr t0), (0, zr x0)]) dX1_model_31 (by decide) rfl) ?_
  refine zst_ (gj_aload_n 1 (pc := 32) dX1_model_32 rfl) ?_
  refine zst_ (gj_aload_n 1 (pc := 33) dX1_model_33 rfl) ?_
  refine gb_get (pc := 34) fl102 dX1_model_34 q843 (Or.inl rfl) (fun v1 => ?_)
  refine gb_get (pc := 37) fl502 dX1_model_37 q704 (Or.inr q703) (fun v2 => ?_)
  refine gb_put (pc := 40) fl108 fr108 dX1_model_40 q849 (Or.inl rfl) (fun σ3 => ?_)
  refine gb_exc (pc := 43) (k := 51) ⟨by decide, by decide⟩ (by omega) (Nat.le_of_ble_eq_true rfl) dX1_model_43 dX1_model_46 dX1_model_47 q962 q1422 (fun σ4 => ?_)
  refine gb_gd (fun hb => ?_)
  intro h
  cases h
  have hk : (1, zr (↑(zN σ3) : Int), σ4) = out := hk
  subst hk
  exact gj_athrow (pc := 50) (zisE hb).1 (zisE hb).2 (by decide) dX1_model_50 rfl
noncomputable def f_X1_model (x0 : Int) (σ : zM) : Option zO :=
  (zgf σ 102 x0).bind fun v1 =>
  zgd (zis σ 2 x0) <|
  zcr (f_X1_taken x0 σ) fun v2 σ3 =>
  zgd (zis σ3 7 v1) <|
  zcv (f_X5_begin v1 v2 σ3) fun σ4 =>
  zgd (z01 0) <|
  (zpf σ4 106 x0 0).bind fun σ5 =>
  (zpf σ5 110 x0 (-1)).bind fun σ6 =>
  (zgf σ6 102 x0).bind fun v7 =>
  zgd (zis σ6 7 v7) <|
  zcvT (f_X6_read v7 σ6) (fun n a σ8 => if n = 0 then f_X1_model_31 x0 a σ8 else none) fun σ8 =>
  (zgf σ8 101 x0).bind fun v9 =>
  zgd (zis σ8 3 v9) <|
  zcvT (f_X2_explore v9 σ8) (fun n a σ10 => some (n + 1, zr a, σ10)) fun σ10 =>
  zgd (z01 1) <|
  (zpf σ10 106 x0 1).bind fun σ11 =>
  (zgf σ11 101 x0).bind fun v12 =>
  (zgf σ11 220 v12).bind fun v13 =>
  some (0, zi v13, σ11)
theorem c_X1_model {g : zG} {lv : Nat} {x0 : Int} {σ : zM} {out : zO} (h : f_X1_model x0 σ = some out) : Cj g (lv + 93) MX1_model [zr x0] σ out := by
  refine cj_go (ls := [(0, zr x0)]) (by decide) (Nat.le_of_ble_eq_true rfl) rfl (zgen h (fun r hk => ?_))
  unfold f_X1_model
  refine zst_ (gj_aload_n 0 (pc := 0) dX1_model_0 rfl) ?_
  refine gb_get (pc := 1) fl102 dX1_model_1 q843 (Or.inl rfl) (fun v1 => ?_)
  refine zst_ (gj_aload_n 0 (pc := 4) dX1_model_4 rfl) ?_
  refine gb_gd (fun hb => ?_)
  refine gb_callA (pc := 5) (as := [zr x0]) (rest := [zr v1]) (zCl.of (zLk_V (M := MX1_model) (ci := 1) (r := (RX1, TX1, 12)) plX1_taken.1 rfl rfl (zisE hb).1 (zisE hb).2 dX1_model_5 q963 q965 qs2 q966) plX1_taken (Nat.le_of_ble_eq_true rfl) (fun h => c_X1_taken h)) (fun v2 σ3 => ?_)
  refine gb_gd (fun hb => ?_)
  refine gb_callV (pc := 8) (as := [zr v1, zr v2]) (rest := []) (zCl.of (zLk_VU (M := MX1_model) (ci := 6) (r := (RX6, TX6, 8)) (x := ⟨"LassoFinder$ModelReader", "begin", "(Ljava/lang/String;)V"⟩) plX5_begin.1 ⟨rfl, rfl⟩ rfl rfl (zisE hb).1 (zisE hb).2 dX1_model_8 q1036 q1037 q1040 q1039 q1041) plX5_begin (Nat.le_of_ble_eq_true rfl) (fun h => c_X5_begin h)) (fun σ4 => ?_)
  refine zst_ (gj_aload_n 0 (pc := 11) dX1_model_11 rfl) ?_
  refine zst_ (gj_iconst (pc := 12) dX1_model_12 (by decide)) ?_
  refine gb_gd (fun hb => ?_)
  refine gb_put (pc := 13) fl106 (fr106 hb) dX1_model_13 q847 (Or.inl rfl) (fun σ5 => ?_)
  refine zst_ (gj_aload_n 0 (pc := 16) dX1_model_16 rfl) ?_
  refine zst_ (gj_iconst (pc := 17) dX1_model_17 (by decide)) ?_
  refine gb_put (pc := 18) fl110 fr110 dX1_model_18 q851 (Or.inl rfl) (fun σ6 => ?_)
  refine zst_ (gj_aload_n 0 (pc := 21) dX1_model_21 rfl) ?_
  refine gb_get (pc := 22) fl102 dX1_model_22 q843 (Or.inl rfl) (fun v7 => ?_)
  refine gb_gd (fun hb => ?_)
  refine gb_callVT (pc := 25) (as := [zr v7]) (rest := []) (zCl.of (zLk_V (M := MX1_model) (ci := 6) (r := (RX6, TX6, 8)) plX6_read.1 rfl rfl (zisE hb).1 (zisE hb).2 dX1_model_25 q1042 q1043 q1044 q1045) plX6_read (Nat.le_of_ble_eq_true rfl) (fun h => c_X6_read h)) (fun n a s0 => gb_hn (fun h => Or.inr ⟨[], (21, 28, 31, 103), [], rfl, (fun z hz => by cases hz), ⟨by decide, by decide⟩, by decide, q962, w_X1_model_31 x0 a s0 h hk⟩) ((fun h => by cases h))) (fun σ8 => ?_)
  refine zst_ (gj_goto 51 (pc := 28) dX1_model_28 (by decide)) ?_
  refine zst_ (gj_aload_n 0 (pc := 51) dX1_model_51 rfl) ?_
  refine gb_get (pc := 52) fl101 dX1_model_52 q842 (Or.inl rfl) (fun v9 => ?_)
  refine gb_gd (fun hb => ?_)
  refine gb_callVT (pc := 55) (as := [zr v9]) (rest := []) (zCl.of (zLk_V (M := MX1_model) (ci := 2) (r := (RX2, TX2, 22)) plX2_explore.1 rfl rfl (zisE hb).1 (zisE hb).2 dX1_model_55 q1423 q1424 q1425 q1426) plX2_explore (Nat.le_of_ble_eq_true rfl) (fun h => c_X2_explore h)) (fun n a s0 h => by cases h; exact Or.inl ⟨rfl, hk⟩) (fun σ10 => ?_)
  refine zst_ (gj_aload_n 0 (pc := 58) dX1_model_58 rfl) ?_
  refine zst_ (gj_iconst (pc := 59) dX1_model_59 (by decide)) ?_
  refine gb_gd (fun hb => ?_)
  refine gb_put (pc := 60) fl106 (fr106 hb) dX1_model_60 q847 (Or.inl rfl) (fun σ11 => ?_)
  refine zst_ (gj_aload_n 0 (pc := 63) dX1_model_63 rfl) ?_
  refine gb_get (pc := 64) fl101 dX1_model_64 q842 (Or.inl rfl) (fun v12 => ?_)
  refine gb_getNe (pc := 67) fl220 dX1_model_67 q314 (Or.inl rfl) (fun v13 => ?_)
  intro h
  cases h
  have hk : (0, zi v13, σ11) = out := hk
  subst hk
  exact gj_ret (pc := 70) (t := .int) dX1_model_70 rfl ⟨rfl, rfl⟩ (fun h => h)
theorem q100 : (Jvm.Cond.initialized "LassoFinderLaw") ∈ lw_all := lw_g (lw_at lw_m1 0 rfl) rfl
theorem q955 : (Jvm.Cond.codeWith ({ cls := "LassoFinderLaw", name := "model", desc := "(LLassoFinder;[J)I" } : Jvm.MethodName) method_3_code (3 : Nat) (Option.some Jvm.ClassFile.FieldType.int) [((0 : Nat), (8 : Nat), (11 : Nat), (13 : Nat)), ((0 : Nat), (8 : Nat), (14 : Nat), (15 : Nat))]) ∈ lw_all := lw_g (lw_at lw_m4 135 rfl) rfl
theorem q956 : (Jvm.Cond.classLink "LassoFinderLaw" (13 : Nat) "java/lang/IllegalArgumentException") ∈ lw_all := lw_g (lw_at lw_m4 136 rfl) rfl
theorem q957 : (Jvm.Cond.classLink "LassoFinderLaw" (15 : Nat) "java/lang/UnsupportedOperationException") ∈ lw_all := lw_g (lw_at lw_m4 137 rfl) rfl
theorem q958 : (Jvm.Cond.methodLink "LassoFinderLaw" (7 : Nat) ({ cls := "LassoFinder", name := "model", desc := "()I" } : Jvm.MethodName)) ∈ lw_all := lw_g (lw_at lw_m4 138 rfl) rfl
theorem q959 : (Jvm.Cond.instanceMethod ({ cls := "LassoFinder", name := "model", desc := "()I" } : Jvm.MethodName)) ∈ lw_all := lw_g (lw_at lw_m4 139 rfl) rfl
theorem q960 : (Jvm.Cond.selects "LassoFinder" ({ cls := "LassoFinder", name := "model", desc := "()I" } : Jvm.MethodName) ({ cls := "LassoFinder", name := "model", desc := "()I" } : Jvm.MethodName)) ∈ lw_all := lw_g (lw_at lw_m4 140 rfl) rfl
abbrev cX0_model : ByteArray := method_3_code
def yX0_model : MethodName := ⟨RX0, "model", "(LLassoFinder;[J)I"⟩
theorem dX0_model_0 : decode cX0_model 0 = .ok (.aload_n 1, 1) := by decide +kernel
theorem dX0_model_1 : decode cX0_model 1 = .ok (.iconst 0, 1) := by decide +kernel
theorem dX0_model_2 : decode cX0_model 2 = .ok (.aload_n 0, 1) := by decide +kernel
theorem dX0_model_3 : decode cX0_model 3 = .ok (.invokevirtual 7, 3) := by decide +kernel
theorem dX0_model_6 : decode cX0_model 6 = .ok (.i2l, 1) := by decide +kernel
theorem dX0_model_7 : decode cX0_model 7 = .ok (.lastore, 1) := by decide +kernel
theorem dX0_model_8 : decode cX0_model 8 = .ok (.goto 9, 3) := by decide +kernel
theorem dX0_model_11 : decode cX0_model 11 = .ok (.astore_n 2, 1) := by decide +kernel
theorem dX0_model_12 : decode cX0_model 12 = .ok (.iconst 1, 1) := by decide +kernel
theorem dX0_model_13 : decode cX0_model 13 = .ok (.ireturn, 1) := by decide +kernel
theorem dX0_model_14 : decode cX0_model 14 = .ok (.astore_n 2, 1) := by decide +kernel
theorem dX0_model_15 : decode cX0_model 15 = .ok (.iconst 2, 1) := by decide +kernel
theorem dX0_model_16 : decode cX0_model 16 = .ok (.ireturn, 1) := by decide +kernel
theorem dX0_model_17 : decode cX0_model 17 = .ok (.iconst 0, 1) := by decide +kernel
theorem dX0_model_18 : decode cX0_model 18 = .ok (.ireturn, 1) := by decide +kernel
abbrev MX0_model : zT := (yX0_model, cX0_model, 3, (Option.some Jvm.ClassFile.FieldType.int), [(0, 8, 11, 13), (0, 8, 14, 15)])
theorem plX0_model : zplain MX0_model 2 ∧ (zcodeW MX0_model ∈ lw_all ∧ Cond.initialized MX0_model.1.cls ∈ lw_all) := ⟨⟨by decide +kernel, by decide +kernel⟩, q955, q100⟩
noncomputable def f_X0_model_14 (t0 : Int) (σ : zM) : Option zO :=
  some (0, zi 2, σ)
theorem w_X0_model_14 {g : zG} {lv : Nat} {out : zO} (t0 : Int) (σ : zM) {r : zO} (h : f_X0_model_14 t0 σ = some r) (hk : (fun o : zO => o = out) r) : Gj g MX0_model (lv + 94) 14 [] [zr t0] σ out := by
  revert h
  unfold f_X0_model_14
  refine zst_ (gj_astore_n (pc := 14) (ls' := [(2, zr t0)]) dX0_model_14 (by decide) rfl) ?_
  refine zst_ (gj_iconst (pc := 15) dX0_model_15 (by decide)) ?_
  intro h
  cases h
  have hk : (0, zi 2, σ) = out := hk
  subst hk
  exact gj_ret (pc := 16) (t := .int) dX0_model_16 rfl ⟨rfl, rfl⟩ (fun h => h)
noncomputable def f_X0_model_11 (t0 : Int) (σ : zM) : Option zO :=
  some (0, zi 1, σ)
theorem w_X0_model_11 {g : zG} {lv : Nat} {out : zO} (t0 : Int) (σ : zM) {r : zO} (h : f_X0_model_11 t0 σ = some r) (hk : (fun o : zO => o = out) r) : Gj g MX0_model (lv + 94) 11 [] [zr t0] σ out := by
  revert h
  unfold f_X0_model_11
  refine zst_ (gj_astore_n (pc := 11) (ls' := [(2, zr t0)]) dX0_model_11 (by decide) rfl) ?_
  refine zst_ (gj_iconst (pc := 12) dX0_model_12 (by decide)) ?_
  intro h
  cases h
  have hk : (0, zi 1, σ) = out := hk
  subst hk
  exact gj_ret (pc := 13) (t := .int) dX0_model_13 rfl ⟨rfl, rfl⟩ (fun h => h)
noncomputable def f_X0_model (x0 x1 : Int) (σ : zM) : Option zO :=
  zgd (zis σ 2 x0) <|
  zciT (f_X1_model x0 σ) (fun n a σ2 => if n = 0 then f_X0_model_11 a σ2 else if n = 2 then f_X0_model_14 a σ2 else none) fun v1 σ2 =>
  (zpa σ2 102 x1 0 v1).bind fun σ3 =>
  some (0, zi 0, σ3)
theorem c_X0_model {g : zG} {lv : Nat} {x0 x1 : Int} {σ : zM} {out : zO} (h : f_X0_model x0 x1 σ = some out) : Cj g (lv + 94) MX0_model [zr x0, zr x1] σ out := by
  refine cj_go (ls := [(0, zr x0), (1, zr x1)]) (by decide) (Nat.le_of_ble_eq_true rfl) rfl (zgen h (fun r hk => ?_))
  unfold f_X0_model
  refine zst_ (gj_aload_n 1 (pc := 0) dX0_model_0 rfl) ?_
  refine zst_ (gj_iconst (pc := 1) dX0_model_1 (by decide)) ?_
  refine zst_ (gj_aload_n 0 (pc := 2) dX0_model_2 rfl) ?_
  refine gb_gd (fun hb => ?_)
  refine gb_callIT (pc := 3) (as := [zr x0]) (rest := [zi 0, zr x1]) (zCl.of (zLk_V (M := MX0_model) (ci := 1) (r := (RX1, TX1, 12)) plX1_model.1 rfl rfl (zisE hb).1 (zisE hb).2 dX0_model_3 q958 q959 q960 q961) plX1_model (Nat.le_of_ble_eq_true rfl) (fun h => c_X1_model h)) (fun n a s0 => gb_hn (fun h => Or.inr ⟨[], (0, 8, 11, 13), [(0, 8, 14, 15)], rfl, (fun z hz => by cases hz), ⟨by decide, by decide⟩, by decide, q956, gj_sub [] rfl (w_X0_model_11 a s0 h hk)⟩) (gb_hn (fun h => Or.inr ⟨[(0, 8, 11, 13)], (0, 8, 14, 15), [], rfl, (List.forall_mem_cons.mpr ⟨Or.inr ⟨by decide, 51, by decide, by decide, by decide, q956⟩, (fun z hz => by cases hz)⟩), ⟨by decide, by decide⟩, by decide, q957, gj_sub [] rfl (w_X0_model_14 a s0 h hk)⟩) ((fun h => by cases h)))) (fun v1 σ2 => ?_)
  refine zst_ (gj_i2l (pc := 6) dX0_model_6) ?_
  refine gb_last (pc := 7) dX0_model_7 (fun σ3 => ?_)
  refine zst_ (gj_goto 17 (pc := 8) dX0_model_8 (by decide)) ?_
  refine zst_ (gj_iconst (pc := 17) dX0_model_17 (by decide)) ?_
  intro h
  cases h
  have hk : (0, zi 0, σ3) = out := hk
  subst hk
  exact gj_ret (pc := 18) (t := .int) dX0_model_18 rfl ⟨rfl, rfl⟩ (fun h => h)
theorem q1538 : (Jvm.Cond.code ({ cls := "LassoFinder", name := "need", desc := "(Z)V" } : Jvm.MethodName) prog_1_method_5_code (1 : Nat) (Option.none : Option Jvm.ClassFile.FieldType)) ∈ lw_all := lw_g (lw_at lw_m6 238 rfl) rfl
theorem q1539 : (Jvm.Cond.classLink "LassoFinder" (115 : Nat) "java/lang/IllegalStateException") ∈ lw_all := lw_g (lw_at lw_m6 239 rfl) rfl
theorem q1548 : (Jvm.Cond.methodLink "LassoFinder" (117 : Nat) ({ cls := "java/lang/IllegalStateException", name := "<init>", desc := "()V" } : Jvm.MethodName)) ∈ lw_all := lw_g (lw_at lw_m7 8 rfl) rfl
abbrev cX1_need : ByteArray := prog_1_method_5_code
def yX1_need : MethodName := ⟨RX1, "need", "(Z)V"⟩
theorem dX1_need_0 : decode cX1_need 0 = .ok (.iload_n 0, 1) := by decide +kernel
theorem dX1_need_1 : decode cX1_need 1 = .ok (.ifCond .ne 11, 3) := by decide +kernel
theorem dX1_need_4 : decode cX1_need 4 = .ok (.new 115, 3) := by decide +kernel
theorem dX1_need_7 : decode cX1_need 7 = .ok (.dup, 1) := by decide +kernel
theorem dX1_need_8 : decode cX1_need 8 = .ok (.invokespecial 117, 3) := by decide +kernel
theorem dX1_need_11 : decode cX1_need 11 = .ok (.athrow, 1) := by decide +kernel
theorem dX1_need_12 : decode cX1_need 12 = .ok (.return_, 1) := by decide +kernel
abbrev MX1_need : zT := (yX1_need, cX1_need, 1, (Option.none : Option Jvm.ClassFile.FieldType), [])
theorem plX1_need : zplain MX1_need 1 ∧ (zcodeW MX1_need ∈ lw_all ∧ Cond.initialized MX1_need.1.cls ∈ lw_all) := ⟨⟨by decide +kernel, by decide +kernel⟩, q1538, q101⟩
noncomputable def f_X1_need (x0 : Int) (σ : zM) : Option zO :=
  if x0 ≠ 0 then
    some (0, ((3, 0) : zV), σ)
  else
    (znX σ 52).bind fun σ1 =>
    zgd (zis σ1 52 (↑(zN σ) : Int)) <|
    some (2, zr (↑(zN σ) : Int), σ1)
theorem c_X1_need {g : zG} {lv : Nat} {x0 : Int} {σ : zM} {out : zO} (h : f_X1_need x0 σ = some out) : Cj g (lv + 6) MX1_need [zi x0] σ out := by
  refine cj_go (ls := [(0, zi x0)]) (by decide) (Nat.le_of_ble_eq_true rfl) rfl (zgen h (fun r hk => ?_))
  unfold f_X1_need
  refine zst_ (gj_iload_n 0 (pc := 0) dX1_need_0 rfl) ?_
  refine gb_if (gj_if_ne 12 (pc := 1) dX1_need_1 (by decide)) ?_ ?_
  · intro h
    cases h
    have hk : (0, ((3, 0) : zV), σ) = out := hk
    subst hk
    exact gj_vret (pc := 12) dX1_need_12 rfl
  · refine gb_exc (pc := 4) (k := 52) ⟨by decide, by decide⟩ (by omega) (Nat.le_of_ble_eq_true rfl) dX1_need_4 dX1_need_7 dX1_need_8 q1539 q1548 (fun σ1 => ?_)
    refine gb_gd (fun hb => ?_)
    intro h
    cases h
    have hk : (2, zr (↑(zN σ) : Int), σ1) = out := hk
    subst hk
    exact gj_athrow (pc := 11) (zisE hb).1 (zisE hb).2 (by decide) dX1_need_11 rfl
theorem q141 : (Jvm.Cond.initialized "LassoFinder$Claim") ∈ lw_all := lw_g (lw_at lw_m1 41 rfl) rfl
theorem q1585 : (Jvm.Cond.code ({ cls := "LassoFinder$Claim", name := "<init>", desc := "(LLassoFinder$Expression;II)V" } : Jvm.MethodName) prog_3_method_1_code (4 : Nat) (Option.none : Option Jvm.ClassFile.FieldType)) ∈ lw_all := lw_g (lw_at lw_m7 45 rfl) rfl
theorem q1586 : (Jvm.Cond.methodLink "LassoFinder$Claim" (1 : Nat) ({ cls := "java/lang/Record", name := "<init>", desc := "()V" } : Jvm.MethodName)) ∈ lw_all := lw_g (lw_at lw_m7 46 rfl) rfl
theorem q1587 : (Jvm.Cond.fieldLink "LassoFinder$Claim" (7 : Nat) "LassoFinder$Claim" "what" "LLassoFinder$Expression;") ∈ lw_all := lw_g (lw_at lw_m7 47 rfl) rfl
theorem q1588 : (Jvm.Cond.fieldLink "LassoFinder$Claim" (13 : Nat) "LassoFinder$Claim" "process" "I") ∈ lw_all := lw_g (lw_at lw_m7 48 rfl) rfl
theorem q1589 : (Jvm.Cond.fieldLink "LassoFinder$Claim" (17 : Nat) "LassoFinder$Claim" "spot" "I") ∈ lw_all := lw_g (lw_at lw_m7 49 rfl) rfl
theorem fl1500 : zfl 1500 2 "LassoFinder$Claim" "what" "LLassoFinder$Expression;" true := ⟨rfl, rfl, rfl⟩
theorem fr1500 {g : zG} {v : Int} : zok g (2, v) → zokt g (zft 1500) v := fun h => h
theorem fl1501 : zfl 1501 0 "LassoFinder$Claim" "process" "I" true := ⟨rfl, rfl, rfl⟩
theorem fr1501 {g : zG} {v : Int} : zok g (0, v) → zokt g (zft 1501) v := fun h => h
theorem fl1502 : zfl 1502 0 "LassoFinder$Claim" "spot" "I" true := ⟨rfl, rfl, rfl⟩
theorem fr1502 {g : zG} {v : Int} : zok g (0, v) → zokt g (zft 1502) v := fun h => h
abbrev cX15_init : ByteArray := prog_3_method_1_code
def yX15_init : MethodName := ⟨RX15, "<init>", "(LLassoFinder$Expression;II)V"⟩
theorem dX15_init_0 : decode cX15_init 0 = .ok (.aload_n 0, 1) := by decide +kernel
theorem dX15_init_1 : decode cX15_init 1 = .ok (.invokespecial 1, 3) := by decide +kernel
theorem dX15_init_4 : decode cX15_init 4 = .ok (.aload_n 0, 1) := by decide +kernel
theorem dX15_init_5 : decode cX15_init 5 = .ok (.aload_n 1, 1) := by decide +kernel
theorem dX15_init_6 : decode cX15_init 6 = .ok (.putfield 7, 3) := by decide +kernel
theorem dX15_init_9 : decode cX15_init 9 = .ok (.aload_n 0, 1) := by decide +kernel
theorem dX15_init_10 : decode cX15_init 10 = .ok (.iload_n 2, 1) := by decide +kernel
theorem dX15_init_11 : decode cX15_init 11 = .ok (.putfield 13, 3) := by decide +kernel
theorem dX15_init_14 : decode cX15_init 14 = .ok (.aload_n 0, 1) := by decide +kernel
theorem dX15_init_15 : decode cX15_init 15 = .ok (.iload_n 3, 1) := by decide +kernel
theorem dX15_init_16 : decode cX15_init 16 = .ok (.putfield 17, 3) := by decide +kernel
theorem dX15_init_19 : decode cX15_init 19 = .ok (.return_, 1) := by decide +kernel
abbrev MX15_init : zT := (yX15_init, cX15_init, 4, (Option.none : Option Jvm.ClassFile.FieldType), [])
theorem plX15_init : zplain MX15_init 3 ∧ (zcodeW MX15_init ∈ lw_all ∧ Cond.initialized MX15_init.1.cls ∈ lw_all) := ⟨⟨by decide +kernel, by decide +kernel⟩, q1585, q141⟩
noncomputable def f_X15_init (x0 x1 x2 x3 : Int) (σ : zM) : Option zO :=
  zgd (decide (0 ≤ x0)) <|
  zcv (f_J22_init x0 σ) fun σ1 =>
  (zpf σ1 1500 x0 x1).bind fun σ2 =>
  (zpf σ2 1501 x0 x2).bind fun σ3 =>
  (zpf σ3 1502 x0 x3).bind fun σ4 =>
  some (0, ((3, 0) : zV), σ4)
theorem c_X15_init {g : zG} {lv : Nat} {x0 x1 x2 x3 : Int} {σ : zM} {out : zO} (h : f_X15_init x0 x1 x2 x3 σ = some out) : Cj g (lv + 2) MX15_init [zr x0, zr x1, zi x2, zi x3] σ out := by
  refine cj_go (ls := [(0, zr x0), (1, zr x1), (2, zi x2), (3, zi x3)]) (by decide) (Nat.le_of_ble_eq_true rfl) rfl (zgen h (fun r hk => ?_))
  unfold f_X15_init
  refine zst_ (gj_aload_n 0 (pc := 0) dX15_init_0 rfl) ?_
  refine gb_gd (fun hb => ?_)
  refine gb_callV (pc := 1) (as := [zr x0]) (rest := []) (zCl.of (zLk_I (M := MX15_init) plJ22_init.1 rfl (of_decide_eq_true hb) rfl rfl dX15_init_1 q1586 q1338 q1339) plJ22_init (Nat.le_of_ble_eq_true rfl) (fun h => c_J22_init h)) (fun σ1 => ?_)
  refine zst_ (gj_aload_n 0 (pc := 4) dX15_init_4 rfl) ?_
  refine zst_ (gj_aload_n 1 (pc := 5) dX15_init_5 rfl) ?_
  refine gb_putFi (pc := 6) fl1500 rfl rfl fr1500 dX15_init_6 q1587 (Or.inl rfl) (fun σ2 => ?_)
  refine zst_ (gj_aload_n 0 (pc := 9) dX15_init_9 rfl) ?_
  refine zst_ (gj_iload_n 2 (pc := 10) dX15_init_10 rfl) ?_
  refine gb_putFi (pc := 11) fl1501 rfl rfl fr1501 dX15_init_11 q1588 (Or.inl rfl) (fun σ3 => ?_)
  refine zst_ (gj_aload_n 0 (pc := 14) dX15_init_14 rfl) ?_
  refine zst_ (gj_iload_n 3 (pc := 15) dX15_init_15 rfl) ?_
  refine gb_putFi (pc := 16) fl1502 rfl rfl fr1502 dX15_init_16 q1589 (Or.inl rfl) (fun σ4 => ?_)
  intro h
  cases h
  have hk : (0, ((3, 0) : zV), σ4) = out := hk
  subst hk
  exact gj_vret (pc := 19) dX15_init_19 rfl
theorem q142 : (Jvm.Cond.initialized "LassoFinder$Proposition") ∈ lw_all := lw_g (lw_at lw_m1 42 rfl) rfl
theorem q1607 : (Jvm.Cond.code ({ cls := "LassoFinder$Proposition", name := "<init>", desc := "(I)V" } : Jvm.MethodName) prog_15_method_1_code (2 : Nat) (Option.none : Option Jvm.ClassFile.FieldType)) ∈ lw_all := lw_g (lw_at lw_m7 67 rfl) rfl
theorem q1608 : (Jvm.Cond.methodLink "LassoFinder$Proposition" (1 : Nat) ({ cls := "java/lang/Record", name := "<init>", desc := "()V" } : Jvm.MethodName)) ∈ lw_all := lw_g (lw_at lw_m7 68 rfl) rfl
theorem q1609 : (Jvm.Cond.fieldLink "LassoFinder$Proposition" (7 : Nat) "LassoFinder$Proposition" "number" "I") ∈ lw_all := lw_g (lw_at lw_m7 69 rfl) rfl
theorem fl1600 : zfl 1600 0 "LassoFinder$Proposition" "number" "I" true := ⟨rfl, rfl, rfl⟩
theorem fr1600 {g : zG} {v : Int} : zok g (0, v) → zokt g (zft 1600) v := fun h => h
abbrev cX16_init : ByteArray := prog_15_method_1_code
def yX16_init : MethodName := ⟨RX16, "<init>", "(I)V"⟩
theorem dX16_init_0 : decode cX16_init 0 = .ok (.aload_n 0, 1) := by decide +kernel
theorem dX16_init_1 : decode cX16_init 1 = .ok (.invokespecial 1, 3) := by decide +kernel
theorem dX16_init_4 : decode cX16_init 4 = .ok (.aload_n 0, 1) := by decide +kernel
theorem dX16_init_5 : decode cX16_init 5 = .ok (.iload_n 1, 1) := by decide +kernel
theorem dX16_init_6 : decode cX16_init 6 = .ok (.putfield 7, 3) := by decide +kernel
theorem dX16_init_9 : decode cX16_init 9 = .ok (.return_, 1) := by decide +kernel
abbrev MX16_init : zT := (yX16_init, cX16_init, 2, (Option.none : Option Jvm.ClassFile.FieldType), [])
theorem plX16_init : zplain MX16_init 1 ∧ (zcodeW MX16_init ∈ lw_all ∧ Cond.initialized MX16_init.1.cls ∈ lw_all) := ⟨⟨by decide +kernel, by decide +kernel⟩, q1607, q142⟩
noncomputable def f_X16_init (x0 x1 : Int) (σ : zM) : Option zO :=
  zgd (decide (0 ≤ x0)) <|
  zcv (f_J22_init x0 σ) fun σ1 =>
  (zpf σ1 1600 x0 x1).bind fun σ2 =>
  some (0, ((3, 0) : zV), σ2)
theorem c_X16_init {g : zG} {lv : Nat} {x0 x1 : Int} {σ : zM} {out : zO} (h : f_X16_init x0 x1 σ = some out) : Cj g (lv + 2) MX16_init [zr x0, zi x1] σ out := by
  refine cj_go (ls := [(0, zr x0), (1, zi x1)]) (by decide) (Nat.le_of_ble_eq_true rfl) rfl (zgen h (fun r hk => ?_))
  unfold f_X16_init
  refine zst_ (gj_aload_n 0 (pc := 0) dX16_init_0 rfl) ?_
  refine gb_gd (fun hb => ?_)
  refine gb_callV (pc := 1) (as := [zr x0]) (rest := []) (zCl.of (zLk_I (M := MX16_init) plJ22_init.1 rfl (of_decide_eq_true hb) rfl rfl dX16_init_1 q1608 q1338 q1339) plJ22_init (Nat.le_of_ble_eq_true rfl) (fun h => c_J22_init h)) (fun σ1 => ?_)
  refine zst_ (gj_aload_n 0 (pc := 4) dX16_init_4 rfl) ?_
  refine zst_ (gj_iload_n 1 (pc := 5) dX16_init_5 rfl) ?_
  refine gb_putFi (pc := 6) fl1600 rfl rfl fr1600 dX16_init_6 q1609 (Or.inl rfl) (fun σ2 => ?_)
  intro h
  cases h
  have hk : (0, ((3, 0) : zV), σ2) = out := hk
  subst hk
  exact gj_vret (pc := 9) dX16_init_9 rfl
theorem q125 : (Jvm.Cond.initialized "LassoFinder$FormulaReader") ∈ lw_all := lw_g (lw_at lw_m1 25 rfl) rfl
theorem q248 : (Jvm.Cond.fieldLinkNest "LassoFinder$FormulaReader" (128 : Nat) "LassoFinder$Routine" "marks" "[I" "LassoFinder") ∈ lw_tbl := lw_at lw_m1 148 rfl
theorem q279 : (Jvm.Cond.fieldLinkNest "LassoFinder$FormulaReader" (115 : Nat) "LassoFinder$Model" "processes" "I" "LassoFinder") ∈ lw_tbl := lw_at lw_m1 179 rfl
theorem q286 : (Jvm.Cond.fieldLinkNest "LassoFinder$FormulaReader" (124 : Nat) "LassoFinder$Model" "routines" "[LLassoFinder$Routine;" "LassoFinder") ∈ lw_tbl := lw_at lw_m1 186 rfl
theorem q692 : (Jvm.Cond.fieldLink "LassoFinder$FormulaReader" (111 : Nat) "LassoFinder$FormulaReader" "model" "LLassoFinder$Model;") ∈ lw_all := lw_g (lw_at lw_m3 112 rfl) rfl
theorem q693 : (Jvm.Cond.sameField "LassoFinder$FormulaReader" "LassoFinder$Reader" "model" "LLassoFinder$Model;") ∈ lw_all := lw_g (lw_at lw_m3 113 rfl) rfl
theorem q700 : (Jvm.Cond.fieldLink "LassoFinder$FormulaReader" (37 : Nat) "LassoFinder$FormulaReader" "at" "I") ∈ lw_all := lw_g (lw_at lw_m3 120 rfl) rfl
theorem q701 : (Jvm.Cond.sameField "LassoFinder$FormulaReader" "LassoFinder$Reader" "at" "I") ∈ lw_all := lw_g (lw_at lw_m3 121 rfl) rfl
theorem q733 : (Jvm.Cond.classLink "LassoFinder$FormulaReader" (17 : Nat) "LassoFinder$Claim") ∈ lw_all := lw_g (lw_at lw_m3 153 rfl) rfl
theorem q737 : (Jvm.Cond.fieldLink "LassoFinder$FormulaReader" (19 : Nat) "LassoFinder$FormulaReader" "claims" "[LLassoFinder$Claim;") ∈ lw_all := lw_g (lw_at lw_m3 157 rfl) rfl
theorem q741 : (Jvm.Cond.fieldLink "LassoFinder$FormulaReader" (27 : Nat) "LassoFinder$FormulaReader" "asked" "I") ∈ lw_all := lw_g (lw_at lw_m3 161 rfl) rfl
theorem q1570 : (Jvm.Cond.methodLink "LassoFinder$FormulaReader" (66 : Nat) ({ cls := "LassoFinder$FormulaReader", name := "now", desc := "()C" } : Jvm.MethodName)) ∈ lw_all := lw_g (lw_at lw_m7 30 rfl) rfl
theorem q1571 : (Jvm.Cond.sameMethod "LassoFinder$FormulaReader" "LassoFinder$Reader" "now" "()C") ∈ lw_all := lw_g (lw_at lw_m7 31 rfl) rfl
theorem q1572 : (Jvm.Cond.selects "LassoFinder$FormulaReader" ({ cls := "LassoFinder$FormulaReader", name := "now", desc := "()C" } : Jvm.MethodName) ({ cls := "LassoFinder$Reader", name := "now", desc := "()C" } : Jvm.MethodName)) ∈ lw_all := lw_g (lw_at lw_m7 32 rfl) rfl
theorem q1576 : (Jvm.Cond.code ({ cls := "LassoFinder$FormulaReader", name := "proposition", desc := "(C)LLassoFinder$Formula;" } : Jvm.MethodName) prog_7_method_10_code (4 : Nat) (Option.some (Jvm.ClassFile.FieldType.object "LassoFinder$Formula"))) ∈ lw_all := lw_g (lw_at lw_m7 36 rfl) rfl
theorem q1577 : (Jvm.Cond.methodLink "LassoFinder$FormulaReader" (50 : Nat) ({ cls := "LassoFinder$FormulaReader", name := "need", desc := "(Z)V" } : Jvm.MethodName)) ∈ lw_all := lw_g (lw_at lw_m7 37 rfl) rfl
theorem q1578 : (Jvm.Cond.sameMethod "LassoFinder$FormulaReader" "LassoFinder$Reader" "need" "(Z)V") ∈ lw_all := lw_g (lw_at lw_m7 38 rfl) rfl
theorem q1579 : (Jvm.Cond.instantiable "LassoFinder$Claim" (3 : Nat)) ∈ lw_all := lw_g (lw_at lw_m7 39 rfl) rfl
theorem q1580 : (Jvm.Cond.methodLink "LassoFinder$FormulaReader" (104 : Nat) ({ cls := "LassoFinder$FormulaReader", name := "whole", desc := "(I)LLassoFinder$Expression;" } : Jvm.MethodName)) ∈ lw_all := lw_g (lw_at lw_m7 40 rfl) rfl
theorem q1581 : (Jvm.Cond.sameMethod "LassoFinder$FormulaReader" "LassoFinder$Reader" "whole" "(I)LLassoFinder$Expression;") ∈ lw_all := lw_g (lw_at lw_m7 41 rfl) rfl
theorem q1582 : (Jvm.Cond.selects "LassoFinder$FormulaReader" ({ cls := "LassoFinder$FormulaReader", name := "whole", desc := "(I)LLassoFinder$Expression;" } : Jvm.MethodName) ({ cls := "LassoFinder$Reader", name := "whole", desc := "(I)LLassoFinder$Expression;" } : Jvm.MethodName)) ∈ lw_all := lw_g (lw_at lw_m7 42 rfl) rfl
theorem q1583 : (Jvm.Cond.methodLinkNest "LassoFinder$FormulaReader" (108 : Nat) ({ cls := "LassoFinder$Claim", name := "<init>", desc := "(LLassoFinder$Expression;II)V" } : Jvm.MethodName) "LassoFinder") ∈ lw_tbl := lw_at lw_m7 43 rfl
theorem q1584 : (Jvm.Cond.instanceMethod ({ cls := "LassoFinder$Claim", name := "<init>", desc := "(LLassoFinder$Expression;II)V" } : Jvm.MethodName)) ∈ lw_all := lw_g (lw_at lw_m7 44 rfl) rfl
theorem q1597 : (Jvm.Cond.methodLink "LassoFinder$FormulaReader" (92 : Nat) ({ cls := "LassoFinder$FormulaReader", name := "sign", desc := "(C)V" } : Jvm.MethodName)) ∈ lw_all := lw_g (lw_at lw_m7 57 rfl) rfl
theorem q1598 : (Jvm.Cond.sameMethod "LassoFinder$FormulaReader" "LassoFinder$Reader" "sign" "(C)V") ∈ lw_all := lw_g (lw_at lw_m7 58 rfl) rfl
theorem q1599 : (Jvm.Cond.selects "LassoFinder$FormulaReader" ({ cls := "LassoFinder$FormulaReader", name := "sign", desc := "(C)V" } : Jvm.MethodName) ({ cls := "LassoFinder$Reader", name := "sign", desc := "(C)V" } : Jvm.MethodName)) ∈ lw_all := lw_g (lw_at lw_m7 59 rfl) rfl
theorem q1600 : (Jvm.Cond.methodLink "LassoFinder$FormulaReader" (120 : Nat) ({ cls := "LassoFinder$FormulaReader", name := "letter", desc := "(CI)I" } : Jvm.MethodName)) ∈ lw_all := lw_g (lw_at lw_m7 60 rfl) rfl
theorem q1601 : (Jvm.Cond.sameMethod "LassoFinder$FormulaReader" "LassoFinder$Reader" "letter" "(CI)I") ∈ lw_all := lw_g (lw_at lw_m7 61 rfl) rfl
theorem q1602 : (Jvm.Cond.selects "LassoFinder$FormulaReader" ({ cls := "LassoFinder$FormulaReader", name := "letter", desc := "(CI)I" } : Jvm.MethodName) ({ cls := "LassoFinder$Reader", name := "letter", desc := "(CI)I" } : Jvm.MethodName)) ∈ lw_all := lw_g (lw_at lw_m7 62 rfl) rfl
theorem q1603 : (Jvm.Cond.classLink "LassoFinder$FormulaReader" (134 : Nat) "LassoFinder$Proposition") ∈ lw_all := lw_g (lw_at lw_m7 63 rfl) rfl
theorem q1604 : (Jvm.Cond.instantiable "LassoFinder$Proposition" (1 : Nat)) ∈ lw_all := lw_g (lw_at lw_m7 64 rfl) rfl
theorem q1605 : (Jvm.Cond.methodLinkNest "LassoFinder$FormulaReader" (136 : Nat) ({ cls := "LassoFinder$Proposition", name := "<init>", desc := "(I)V" } : Jvm.MethodName) "LassoFinder") ∈ lw_tbl := lw_at lw_m7 65 rfl
theorem q1606 : (Jvm.Cond.instanceMethod ({ cls := "LassoFinder$Proposition", name := "<init>", desc := "(I)V" } : Jvm.MethodName)) ∈ lw_all := lw_g (lw_at lw_m7 66 rfl) rfl
theorem fl706 : zfl 706 2 "LassoFinder$FormulaReader" "claims" "[LLassoFinder$Claim;" true := ⟨rfl, rfl, rfl⟩
theorem fr706 {g : zG} {v : Int} : zok g (2, v) → zokt g (zft 706) v := fun h => h
theorem fl708 : zfl 708 0 "LassoFinder$FormulaReader" "asked" "I" false := ⟨rfl, rfl, rfl⟩
theorem fr708 {g : zG} {v : Int} : zok g (0, v) → zokt g (zft 708) v := fun h => h
abbrev cX7_proposition : ByteArray := prog_7_method_10_code
def yX7_proposition : MethodName := ⟨RX7, "proposition", "(C)LLassoFinder$Formula;"⟩
theorem dX7_proposition_0 : decode cX7_proposition 0 = .ok (.aload_n 0, 1) := by decide +kernel
theorem dX7_proposition_1 : decode cX7_proposition 1 = .ok (.getfield 27, 3) := by decide +kernel
theorem dX7_proposition_4 : decode cX7_proposition 4 = .ok (.bipush 8, 2) := by decide +kernel
theorem dX7_proposition_6 : decode cX7_proposition 6 = .ok (.if_icmp .ge 7, 3) := by decide +kernel
theorem dX7_proposition_9 : decode cX7_proposition 9 = .ok (.iconst 1, 1) := by decide +kernel
theorem dX7_proposition_10 : decode cX7_proposition 10 = .ok (.goto 4, 3) := by decide +kernel
theorem dX7_proposition_13 : decode cX7_proposition 13 = .ok (.iconst 0, 1) := by decide +kernel
theorem dX7_proposition_14 : decode cX7_proposition 14 = .ok (.invokestatic 50, 3) := by decide +kernel
theorem dX7_proposition_17 : decode cX7_proposition 17 = .ok (.aload_n 0, 1) := by decide +kernel
theorem dX7_proposition_18 : decode cX7_proposition 18 = .ok (.dup, 1) := by decide +kernel
theorem dX7_proposition_19 : decode cX7_proposition 19 = .ok (.getfield 37, 3) := by decide +kernel
theorem dX7_proposition_22 : decode cX7_proposition 22 = .ok (.iconst 1, 1) := by decide +kernel
theorem dX7_proposition_23 : decode cX7_proposition 23 = .ok (.iadd, 1) := by decide +kernel
theorem dX7_proposition_24 : decode cX7_proposition 24 = .ok (.putfield 37, 3) := by decide +kernel
theorem dX7_proposition_27 : decode cX7_proposition 27 = .ok (.iload_n 1, 1) := by decide +kernel
theorem dX7_proposition_28 : decode cX7_proposition 28 = .ok (.bipush 123, 2) := by decide +kernel
theorem dX7_proposition_30 : decode cX7_proposition 30 = .ok (.if_icmp .ne 35, 3) := by decide +kernel
theorem dX7_proposition_33 : decode cX7_proposition 33 = .ok (.aload_n 0, 1) := by decide +kernel
theorem dX7_proposition_34 : decode cX7_proposition 34 = .ok (.getfield 19, 3) := by decide +kernel
theorem dX7_proposition_37 : decode cX7_proposition 37 = .ok (.aload_n 0, 1) := by decide +kernel
theorem dX7_proposition_38 : decode cX7_proposition 38 = .ok (.getfield 27, 3) := by decide +kernel
theorem dX7_proposition_41 : decode cX7_proposition 41 = .ok (.new 17, 3) := by decide +kernel
theorem dX7_proposition_44 : decode cX7_proposition 44 = .ok (.dup, 1) := by decide +kernel
theorem dX7_proposition_45 : decode cX7_proposition 45 = .ok (.aload_n 0, 1) := by decide +kernel
theorem dX7_proposition_46 : decode cX7_proposition 46 = .ok (.iconst 0, 1) := by decide +kernel
theorem dX7_proposition_47 : decode cX7_proposition 47 = .ok (.invokevirtual 104, 3) := by decide +kernel
theorem dX7_proposition_50 : decode cX7_proposition 50 = .ok (.iconst (-1), 1) := by decide +kernel
theorem dX7_proposition_51 : decode cX7_proposition 51 = .ok (.iconst (-1), 1) := by decide +kernel
theorem dX7_proposition_52 : decode cX7_proposition 52 = .ok (.invokespecial 108, 3) := by decide +kernel
theorem dX7_proposition_55 : decode cX7_proposition 55 = .ok (.aastore, 1) := by decide +kernel
theorem dX7_proposition_56 : decode cX7_proposition 56 = .ok (.aload_n 0, 1) := by decide +kernel
theorem dX7_proposition_57 : decode cX7_proposition 57 = .ok (.bipush 125, 2) := by decide +kernel
theorem dX7_proposition_59 : decode cX7_proposition 59 = .ok (.invokevirtual 92, 3) := by decide +kernel
theorem dX7_proposition_62 : decode cX7_proposition 62 = .ok (.goto 103, 3) := by decide +kernel
theorem dX7_proposition_65 : decode cX7_proposition 65 = .ok (.aload_n 0, 1) := by decide +kernel
theorem dX7_proposition_66 : decode cX7_proposition 66 = .ok (.bipush 48, 2) := by decide +kernel
theorem dX7_proposition_68 : decode cX7_proposition 68 = .ok (.aload_n 0, 1) := by decide +kernel
theorem dX7_proposition_69 : decode cX7_proposition 69 = .ok (.getfield 111, 3) := by decide +kernel
theorem dX7_proposition_72 : decode cX7_proposition 72 = .ok (.getfield 115, 3) := by decide +kernel
theorem dX7_proposition_75 : decode cX7_proposition 75 = .ok (.invokevirtual 120, 3) := by decide +kernel
theorem dX7_proposition_78 : decode cX7_proposition 78 = .ok (.istore_n 2, 1) := by decide +kernel
theorem dX7_proposition_79 : decode cX7_proposition 79 = .ok (.aload_n 0, 1) := by decide +kernel
theorem dX7_proposition_80 : decode cX7_proposition 80 = .ok (.invokevirtual 66, 3) := by decide +kernel
theorem dX7_proposition_83 : decode cX7_proposition 83 = .ok (.bipush 65, 2) := by decide +kernel
theorem dX7_proposition_85 : decode cX7_proposition 85 = .ok (.isub, 1) := by decide +kernel
theorem dX7_proposition_86 : decode cX7_proposition 86 = .ok (.istore_n 3, 1) := by decide +kernel
theorem dX7_proposition_87 : decode cX7_proposition 87 = .ok (.iload_n 3, 1) := by decide +kernel
theorem dX7_proposition_88 : decode cX7_proposition 88 = .ok (.ifCond .lt 31, 3) := by decide +kernel
theorem dX7_proposition_91 : decode cX7_proposition 91 = .ok (.iload_n 3, 1) := by decide +kernel
theorem dX7_proposition_92 : decode cX7_proposition 92 = .ok (.bipush 8, 2) := by decide +kernel
theorem dX7_proposition_94 : decode cX7_proposition 94 = .ok (.if_icmp .ge 25, 3) := by decide +kernel
theorem dX7_proposition_97 : decode cX7_proposition 97 = .ok (.aload_n 0, 1) := by decide +kernel
theorem dX7_proposition_98 : decode cX7_proposition 98 = .ok (.getfield 111, 3) := by decide +kernel
theorem dX7_proposition_101 : decode cX7_proposition 101 = .ok (.getfield 124, 3) := by decide +kernel
theorem dX7_proposition_104 : decode cX7_proposition 104 = .ok (.iload_n 2, 1) := by decide +kernel
theorem dX7_proposition_105 : decode cX7_proposition 105 = .ok (.aaload, 1) := by decide +kernel
theorem dX7_proposition_106 : decode cX7_proposition 106 = .ok (.getfield 128, 3) := by decide +kernel
theorem dX7_proposition_109 : decode cX7_proposition 109 = .ok (.iload_n 3, 1) := by decide +kernel
theorem dX7_proposition_110 : decode cX7_proposition 110 = .ok (.iaload, 1) := by decide +kernel
theorem dX7_proposition_111 : decode cX7_proposition 111 = .ok (.iconst (-1), 1) := by decide +kernel
theorem dX7_proposition_112 : decode cX7_proposition 112 = .ok (.if_icmp .eq 7, 3) := by decide +kernel
theorem dX7_proposition_115 : decode cX7_proposition 115 = .ok (.iconst 1, 1) := by decide +kernel
theorem dX7_proposition_116 : decode cX7_proposition 116 = .ok (.goto 4, 3) := by decide +kernel
theorem dX7_proposition_119 : decode cX7_proposition 119 = .ok (.iconst 0, 1) := by decide +kernel
theorem dX7_proposition_120 : decode cX7_proposition 120 = .ok (.invokestatic 50, 3) := by decide +kernel
theorem dX7_proposition_123 : decode cX7_proposition 123 = .ok (.aload_n 0, 1) := by decide +kernel
theorem dX7_proposition_124 : decode cX7_proposition 124 = .ok (.dup, 1) := by decide +kernel
theorem dX7_proposition_125 : decode cX7_proposition 125 = .ok (.getfield 37, 3) := by decide +kernel
theorem dX7_proposition_128 : decode cX7_proposition 128 = .ok (.iconst 1, 1) := by decide +kernel
theorem dX7_proposition_129 : decode cX7_proposition 129 = .ok (.iadd, 1) := by decide +kernel
theorem dX7_proposition_130 : decode cX7_proposition 130 = .ok (.putfield 37, 3) := by decide +kernel
theorem dX7_proposition_133 : decode cX7_proposition 133 = .ok (.aload_n 0, 1) := by decide +kernel
theorem dX7_proposition_134 : decode cX7_proposition 134 = .ok (.getfield 19, 3) := by decide +kernel
theorem dX7_proposition_137 : decode cX7_proposition 137 = .ok (.aload_n 0, 1) := by decide +kernel
theorem dX7_proposition_138 : decode cX7_proposition 138 = .ok (.getfield 27, 3) := by decide +kernel
theorem dX7_proposition_141 : decode cX7_proposition 141 = .ok (.new 17, 3) := by decide +kernel
theorem dX7_proposition_144 : decode cX7_proposition 144 = .ok (.dup, 1) := by decide +kernel
theorem dX7_proposition_145 : decode cX7_proposition 145 = .ok (.aconst_null, 1) := by decide +kernel
theorem dX7_proposition_146 : decode cX7_proposition 146 = .ok (.iload_n 2, 1) := by decide +kernel
theorem dX7_proposition_147 : decode cX7_proposition 147 = .ok (.aload_n 0, 1) := by decide +kernel
theorem dX7_proposition_148 : decode cX7_proposition 148 = .ok (.getfield 111, 3) := by decide +kernel
theorem dX7_proposition_151 : decode cX7_proposition 151 = .ok (.getfield 124, 3) := by decide +kernel
theorem dX7_proposition_154 : decode cX7_proposition 154 = .ok (.iload_n 2, 1) := by decide +kernel
theorem dX7_proposition_155 : decode cX7_proposition 155 = .ok (.aaload, 1) := by decide +kernel
theorem dX7_proposition_156 : decode cX7_proposition 156 = .ok (.getfield 128, 3) := by decide +kernel
theorem dX7_proposition_159 : decode cX7_proposition 159 = .ok (.iload_n 3, 1) := by decide +kernel
theorem dX7_proposition_160 : decode cX7_proposition 160 = .ok (.iaload, 1) := by decide +kernel
theorem dX7_proposition_161 : decode cX7_proposition 161 = .ok (.invokespecial 108, 3) := by decide +kernel
theorem dX7_proposition_164 : decode cX7_proposition 164 = .ok (.aastore, 1) := by decide +kernel
theorem dX7_proposition_165 : decode cX7_proposition 165 = .ok (.aload_n 0, 1) := by decide +kernel
theorem dX7_proposition_166 : decode cX7_proposition 166 = .ok (.dup, 1) := by decide +kernel
theorem dX7_proposition_167 : decode cX7_proposition 167 = .ok (.getfield 27, 3) := by decide +kernel
theorem dX7_proposition_170 : decode cX7_proposition 170 = .ok (.iconst 1, 1) := by decide +kernel
theorem dX7_proposition_171 : decode cX7_proposition 171 = .ok (.iadd, 1) := by decide +kernel
theorem dX7_proposition_172 : decode cX7_proposition 172 = .ok (.putfield 27, 3) := by decide +kernel
theorem dX7_proposition_175 : decode cX7_proposition 175 = .ok (.new 134, 3) := by decide +kernel
theorem dX7_proposition_178 : decode cX7_proposition 178 = .ok (.dup, 1) := by decide +kernel
theorem dX7_proposition_179 : decode cX7_proposition 179 = .ok (.aload_n 0, 1) := by decide +kernel
theorem dX7_proposition_180 : decode cX7_proposition 180 = .ok (.getfield 27, 3) := by decide +kernel
theorem dX7_proposition_183 : decode cX7_proposition 183 = .ok (.iconst 1, 1) := by decide +kernel
theorem dX7_proposition_184 : decode cX7_proposition 184 = .ok (.isub, 1) := by decide +kernel
theorem dX7_proposition_185 : decode cX7_proposition 185 = .ok (.invokespecial 136, 3) := by decide +kernel
theorem dX7_proposition_188 : decode cX7_proposition 188 = .ok (.areturn, 1) := by decide +kernel
abbrev MX7_proposition : zT := (yX7_proposition, cX7_proposition, 4, (Option.some (Jvm.ClassFile.FieldType.object "LassoFinder$Formula")), [])
theorem plX7_proposition : zplain MX7_proposition 1 ∧ (zcodeW MX7_proposition ∈ lw_all ∧ Cond.initialized MX7_proposition.1.cls ∈ lw_all) := ⟨⟨by decide +kernel, by decide +kernel⟩, q1576, q125⟩
noncomputable def f_X7_proposition_165 (x0 : Int) (σ : zM) : Option zO :=
  (zgf σ 708 x0).bind fun v1 =>
  (zpf σ 708 x0 (zadd v1 1)).bind fun σ2 =>
  (znO σ2 16 1).bind fun σ3 =>
  zlet ((↑(zN σ2) : Int)) fun y4 =>
  (zgf σ3 708 x0).bind fun v5 =>
  zgd (decide (0 ≤ y4)) <|
  zcv (f_X16_init y4 (zsub v5 1) σ3) fun σ6 =>
  some (0, zr y4, σ6)
theorem w_X7_proposition_165 {g : zG} {lv : Nat} {out : zO} (x0 : Int) (σ : zM) {r : zO} (h : f_X7_proposition_165 x0 σ = some r) (hk : (fun o : zO => o = out) r) : Gj g MX7_proposition (lv + 49) 165 [(0, zr x0)] [] σ out := by
  revert h
  unfold f_X7_proposition_165
  refine zst_ (gj_aload_n 0 (pc := 165) dX7_proposition_165 rfl) ?_
  refine zst_ (gj_dup (pc := 166) dX7_proposition_166 rfl) ?_
  refine gb_get (pc := 167) fl708 dX7_proposition_167 q741 (Or.inl rfl) (fun v1 => ?_)
  refine zst_ (gj_iconst (pc := 170) dX7_proposition_170 (by decide)) ?_
  refine zst_ (gj_iadd (pc := 171) dX7_proposition_171) ?_
  refine gb_put (pc := 172) fl708 fr708 dX7_proposition_172 q741 (Or.inl rfl) (fun σ2 => ?_)
  refine gb_new (pc := 175) (ci := 16) (c := (RX16, TX16, 1)) rfl (by decide) dX7_proposition_175 q1603 q1604 q142 (fun σ3 => ?_)
  refine gb_let (fun y4 => ?_)
  refine zst_ (gj_dup (pc := 178) dX7_proposition_178 rfl) ?_
  refine zst_ (gj_aload_n 0 (pc := 179) dX7_proposition_179 rfl) ?_
  refine gb_get (pc := 180) fl708 dX7_proposition_180 q741 (Or.inl rfl) (fun v5 => ?_)
  refine zst_ (gj_iconst (pc := 183) dX7_proposition_183 (by decide)) ?_
  refine zst_ (gj_isub (pc := 184) dX7_proposition_184) ?_
  refine gb_gd (fun hb => ?_)
  refine gb_callV (pc := 185) (as := [zr y4, zi (zsub v5 1)]) (rest := [zr y4]) (zCl.of (zLk_IN (M := MX7_proposition) plX16_init.1 rfl (of_decide_eq_true hb) rfl rfl dX7_proposition_185 q1605 q1606 q1607) plX16_init (Nat.le_of_ble_eq_true rfl) (fun h => c_X16_init h)) (fun σ6 => ?_)
  intro h
  cases h
  have hk : (0, zr y4, σ6) = out := hk
  subst hk
  exact gj_aret (pc := 188) dX7_proposition_188 rfl (Or.inl ⟨_, rfl⟩)
noncomputable def f_X7_proposition_120 (x0 x2 x3 t0 : Int) (σ : zM) : Option zO :=
  zcvT (f_X5_need t0 σ) (fun n a σ1 => some (n + 1, zr a, σ1)) fun σ1 =>
  (zgf σ1 502 x0).bind fun v2 =>
  (zpf σ1 502 x0 (zadd v2 1)).bind fun σ3 =>
  (zgf σ3 706 x0).bind fun v4 =>
  (zgf σ3 708 x0).bind fun v5 =>
  (znO σ3 15 3).bind fun σ6 =>
  zlet ((↑(zN σ3) : Int)) fun y7 =>
  (zgf σ6 500 x0).bind fun v8 =>
  (zgf σ6 206 v8).bind fun v9 =>
  (zga σ6 107 v9 x2).bind fun v10 =>
  (zgf σ6 405 v10).bind fun v11 =>
  (zga σ6 101 v11 x3).bind fun v12 =>
  zgd (decide (0 ≤ y7)) <|
  zcv (f_X15_init y7 (-1) x2 v12 σ6) fun σ13 =>
  (zpr σ13 109 v4 v5 y7).bind fun σ14 =>
  f_X7_proposition_165 x0 σ14
theorem w_X7_proposition_120 {g : zG} {lv : Nat} {out : zO} (x0 x2 x3 t0 : Int) (σ : zM) {r : zO} (h : f_X7_proposition_120 x0 x2 x3 t0 σ = some r) (hk : (fun o : zO => o = out) r) : Gj g MX7_proposition (lv + 49) 120 [(0, zr x0), (2, zi x2), (3, zi x3)] [zi t0] σ out := by
  revert h
  unfold f_X7_proposition_120
  refine gb_callVT (pc := 120) (as := [zi t0]) (rest := []) (zCl.of (zLk_SU (M := MX7_proposition) (x := ⟨"LassoFinder$FormulaReader", "need", "(Z)V"⟩) plX5_need.1 ⟨rfl, rfl⟩ rfl dX7_proposition_120 q1577 q1578 q1085 q109 q1086) plX5_need (Nat.le_of_ble_eq_true rfl) (fun h => c_X5_need h)) (fun n a s0 h => by cases h; exact Or.inl ⟨rfl, hk⟩) (fun σ1 => ?_)
  refine zst_ (gj_aload_n 0 (pc := 123) dX7_proposition_123 rfl) ?_
  refine zst_ (gj_dup (pc := 124) dX7_proposition_124 rfl) ?_
  refine gb_get (pc := 125) fl502 dX7_proposition_125 q700 (Or.inr q701) (fun v2 => ?_)
  refine zst_ (gj_iconst (pc := 128) dX7_proposition_128 (by decide)) ?_
  refine zst_ (gj_iadd (pc := 129) dX7_proposition_129) ?_
  refine gb_put (pc := 130) fl502 fr502 dX7_proposition_130 q700 (Or.inr q701) (fun σ3 => ?_)
  refine zst_ (gj_aload_n 0 (pc := 133) dX7_proposition_133 rfl) ?_
  refine gb_get (pc := 134) fl706 dX7_proposition_134 q737 (Or.inl rfl) (fun v4 => ?_)
  refine zst_ (gj_aload_n 0 (pc := 137) dX7_proposition_137 rfl) ?_
  refine gb_get (pc := 138) fl708 dX7_proposition_138 q741 (Or.inl rfl) (fun v5 => ?_)
  refine gb_new (pc := 141) (ci := 15) (c := (RX15, TX15, 3)) rfl (by decide) dX7_proposition_141 q733 q1579 q141 (fun σ6 => ?_)
  refine gb_let (fun y7 => ?_)
  refine zst_ (gj_dup (pc := 144) dX7_proposition_144 rfl) ?_
  refine zst_ (gj_null (pc := 145) dX7_proposition_145) ?_
  refine zst_ (gj_iload_n 1 (pc := 146) dX7_proposition_146 rfl) ?_
  refine zst_ (gj_aload_n 0 (pc := 147) dX7_proposition_147 rfl) ?_
  refine gb_get (pc := 148) fl500 dX7_proposition_148 q692 (Or.inr q693) (fun v8 => ?_)
  refine gb_getNe (pc := 151) fl206 dX7_proposition_151 q286 (Or.inl rfl) (fun v9 => ?_)
  refine zst_ (gj_iload_n 1 (pc := 154) dX7_proposition_154 rfl) ?_
  refine gb_aald (pc := 155) (k := 107) ⟨by decide, by decide⟩ dX7_proposition_155 (fun v10 => ?_)
  refine gb_getNe (pc := 156) fl405 dX7_proposition_156 q248 (Or.inl rfl) (fun v11 => ?_)
  refine zst_ (gj_iload_n 2 (pc := 159) dX7_proposition_159 rfl) ?_
  refine gb_iald (pc := 160) dX7_proposition_160 (fun v12 => ?_)
  refine gb_gd (fun hb => ?_)
  refine gb_callV (pc := 161) (as := [zr y7, zr (-1), zi x2, zi v12]) (rest := [zr y7, zi v5, zr v4]) (zCl.of (zLk_IN (M := MX7_proposition) plX15_init.1 rfl (of_decide_eq_true hb) rfl rfl dX7_proposition_161 q1583 q1584 q1585) plX15_init (Nat.le_of_ble_eq_true rfl) (fun h => c_X15_init h)) (fun σ13 => ?_)
  refine gb_aast (pc := 164) (k := 109) ⟨by decide, by decide⟩ dX7_proposition_164 (fun σ14 => ?_)
  refine zst_ (gj_sub [0] rfl) ?_
  exact fun h => w_X7_proposition_165 x0 σ14 h hk
noncomputable def f_X7_proposition_119 (x0 x2 x3 : Int) (σ : zM) : Option zO :=
  f_X7_proposition_120 x0 x2 x3 0 σ
theorem w_X7_proposition_119 {g : zG} {lv : Nat} {out : zO} (x0 x2 x3 : Int) (σ : zM) {r : zO} (h : f_X7_proposition_119 x0 x2 x3 σ = some r) (hk : (fun o : zO => o = out) r) : Gj g MX7_proposition (lv + 49) 119 [(0, zr x0), (2, zi x2), (3, zi x3)] [] σ out := by
  revert h
  unfold f_X7_proposition_119
  refine zst_ (gj_iconst (pc := 119) dX7_proposition_119 (by decide)) ?_
  exact fun h => w_X7_proposition_120 x0 x2 x3 0 σ h hk
noncomputable def f_X7_proposition_14 (x0 x1 t0 : Int) (σ : zM) : Option zO :=
  zcvT (f_X5_need t0 σ) (fun n a σ1 => some (n + 1, zr a, σ1)) fun σ1 =>
  (zgf σ1 502 x0).bind fun v2 =>
  (zpf σ1 502 x0 (zadd v2 1)).bind fun σ3 =>
  if x1 ≠ 123 then
    (zgf σ3 500 x0).bind fun v4 =>
    (zgf σ3 204 v4).bind fun v5 =>
    zgd (zis σ3 8 x0) <|
    zciT (f_X5_letter x0 48 v5 σ3) (fun n a σ7 => some (n + 1, zr a, σ7)) fun v6 σ7 =>
    zgd (zis σ7 8 x0) <|
    zci (f_X5_now x0 σ7) fun v8 σ9 =>
    zlet ((zsub v8 65)) fun y10 =>
    if y10 < 0 then
      f_X7_proposition_119 x0 v6 y10 σ9
    else
      if 8 ≤ y10 then
        f_X7_proposition_119 x0 v6 y10 σ9
      else
        (zgf σ9 500 x0).bind fun v11 =>
        (zgf σ9 206 v11).bind fun v12 =>
        (zga σ9 107 v12 v6).bind fun v13 =>
        (zgf σ9 405 v13).bind fun v14 =>
        (zga σ9 101 v14 y10).bind fun v15 =>
        if v15 = (-1) then
          f_X7_proposition_119 x0 v6 y10 σ9
        else
          f_X7_proposition_120 x0 v6 y10 1 σ9
  else
    (zgf σ3 706 x0).bind fun v16 =>
    (zgf σ3 708 x0).bind fun v17 =>
    (znO σ3 15 3).bind fun σ18 =>
    zlet ((↑(zN σ3) : Int)) fun y19 =>
    zgd (zis σ18 8 x0) <|
    zcrT (f_X5_whole x0 0 σ18) (fun n a σ21 => some (n + 1, zr a, σ21)) fun v20 σ21 =>
    zgd (decide (0 ≤ y19)) <|
    zcv (f_X15_init y19 v20 (-1) (-1) σ21) fun σ22 =>
    (zpr σ22 109 v16 v17 y19).bind fun σ23 =>
    zgd (zis σ23 8 x0) <|
    zcvT (f_X5_sign x0 125 σ23) (fun n a σ24 => some (n + 1, zr a, σ24)) fun σ24 =>
    f_X7_proposition_165 x0 σ24
theorem w_X7_proposition_14 {g : zG} {lv : Nat} {out : zO} (x0 x1 t0 : Int) (σ : zM) {r : zO} (h : f_X7_proposition_14 x0 x1 t0 σ = some r) (hk : (fun o : zO => o = out) r) : Gj g MX7_proposition (lv + 49) 14 [(0, zr x0), (1, zi x1)] [zi t0] σ out := by
  revert h
  unfold f_X7_proposition_14
  refine gb_callVT (pc := 14) (as := [zi t0]) (rest := []) (zCl.of (zLk_SU (M := MX7_proposition) (x := ⟨"LassoFinder$FormulaReader", "need", "(Z)V"⟩) plX5_need.1 ⟨rfl, rfl⟩ rfl dX7_proposition_14 q1577 q1578 q1085 q109 q1086) plX5_need (Nat.le_of_ble_eq_true rfl) (fun h => c_X5_need h)) (fun n a s0 h => by cases h; exact Or.inl ⟨rfl, hk⟩) (fun σ1 => ?_)
  refine zst_ (gj_aload_n 0 (pc := 17) dX7_proposition_17 rfl) ?_
  refine zst_ (gj_dup (pc := 18) dX7_proposition_18 rfl) ?_
  refine gb_get (pc := 19) fl502 dX7_proposition_19 q700 (Or.inr q701) (fun v2 => ?_)
  refine zst_ (gj_iconst (pc := 22) dX7_proposition_22 (by decide)) ?_
  refine zst_ (gj_iadd (pc := 23) dX7_proposition_23) ?_
  refine gb_put (pc := 24) fl502 fr502 dX7_proposition_24 q700 (Or.inr q701) (fun σ3 => ?_)
  refine zst_ (gj_iload_n 1 (pc := 27) dX7_proposition_27 rfl) ?_
  refine zst_ (gj_bipush (pc := 28) dX7_proposition_28 ⟨rfl, by decide⟩) ?_
  refine gb_if (gj_icmp_ne 65 (pc := 30) dX7_proposition_30 (by decide)) ?_ ?_
  · refine zst_ (gj_aload_n 0 (pc := 65) dX7_proposition_65 rfl) ?_
    refine zst_ (gj_bipush (pc := 66) dX7_proposition_66 ⟨rfl, by decide⟩) ?_
    refine zst_ (gj_aload_n 0 (pc := 68) dX7_proposition_68 rfl) ?_
    refine gb_get (pc := 69) fl500 dX7_proposition_69 q692 (Or.inr q693) (fun v4 => ?_)
    refine gb_getNe (pc := 72) fl204 dX7_proposition_72 q279 (Or.inl rfl) (fun v5 => ?_)
    refine gb_gd (fun hb => ?_)
    refine gb_callIT (pc := 75) (as := [zr x0, zi 48, zi v5]) (rest := []) (zCl.of (zLk_VU (M := MX7_proposition) (ci := 7) (r := (RX7, TX7, 10)) (x := ⟨"LassoFinder$FormulaReader", "letter", "(CI)I"⟩) plX5_letter.1 ⟨rfl, rfl⟩ rfl rfl (zisE hb).1 (zisE hb).2 dX7_proposition_75 q1600 q1601 q1102 q1602 q1103) plX5_letter (Nat.le_of_ble_eq_true rfl) (fun h => c_X5_letter h)) (fun n a s0 h => by cases h; exact Or.inl ⟨rfl, hk⟩) (fun v6 σ7 => ?_)
    refine zst_ (gj_istore_n (pc := 78) (ls' := [(2, zi v6), (0, zr x0), (1, zi x1)]) dX7_proposition_78 (by decide) rfl) ?_
    refine zst_ (gj_aload_n 1 (pc := 79) dX7_proposition_79 rfl) ?_
    refine gb_gd (fun hb => ?_)
    refine gb_callI (pc := 80) (as := [zr x0]) (rest := []) (zCl.of (zLk_VU (M := MX7_proposition) (ci := 7) (r := (RX7, TX7, 10)) (x := ⟨"LassoFinder$FormulaReader", "now", "()C"⟩) plX5_now.1 ⟨rfl, rfl⟩ rfl rfl (zisE hb).1 (zisE hb).2 dX7_proposition_80 q1570 q1571 q1054 q1572 q1055) plX5_now (Nat.le_of_ble_eq_true rfl) (fun h => c_X5_now h)) (fun v8 σ9 => ?_)
    refine zst_ (gj_bipush (pc := 83) dX7_proposition_83 ⟨rfl, by decide⟩) ?_
    refine zst_ (gj_isub (pc := 85) dX7_proposition_85) ?_
    refine gb_let (fun y10 => ?_)
    refine zst_ (gj_istore_n (pc := 86) (ls' := [(3, zi y10), (2, zi v6), (0, zr x0), (1, zi x1)]) dX7_proposition_86 (by decide) rfl) ?_
    refine zst_ (gj_iload_n 0 (pc := 87) dX7_proposition_87 rfl) ?_
    refine gb_if (gj_if_lt 119 (pc := 88) dX7_proposition_88 (by decide)) ?_ ?_
    · refine zst_ (gj_sub [2, 1, 0] rfl) ?_
      exact fun h => w_X7_proposition_119 x0 v6 y10 σ9 h hk
    · refine zst_ (gj_iload_n 0 (pc := 91) dX7_proposition_91 rfl) ?_
      refine zst_ (gj_bipush (pc := 92) dX7_proposition_92 ⟨rfl, by decide⟩) ?_
      refine gb_if (gj_icmp_ge 119 (pc := 94) dX7_proposition_94 (by decide)) ?_ ?_
      · refine zst_ (gj_sub [2, 1, 0] rfl) ?_
        exact fun h => w_X7_proposition_119 x0 v6 y10 σ9 h hk
      · refine zst_ (gj_aload_n 2 (pc := 97) dX7_proposition_97 rfl) ?_
        refine gb_get (pc := 98) fl500 dX7_proposition_98 q692 (Or.inr q693) (fun v11 => ?_)
        refine gb_getNe (pc := 101) fl206 dX7_proposition_101 q286 (Or.inl rfl) (fun v12 => ?_)
        refine zst_ (gj_iload_n 1 (pc := 104) dX7_proposition_104 rfl) ?_
        refine gb_aald (pc := 105) (k := 107) ⟨by decide, by decide⟩ dX7_proposition_105 (fun v13 => ?_)
        refine gb_getNe (pc := 106) fl405 dX7_proposition_106 q248 (Or.inl rfl) (fun v14 => ?_)
        refine zst_ (gj_iload_n 0 (pc := 109) dX7_proposition_109 rfl) ?_
        refine gb_iald (pc := 110) dX7_proposition_110 (fun v15 => ?_)
        refine zst_ (gj_iconst (pc := 111) dX7_proposition_111 (by decide)) ?_
        refine gb_if (gj_icmp_eq 119 (pc := 112) dX7_proposition_112 (by decide)) ?_ ?_
        · refine zst_ (gj_sub [2, 1, 0] rfl) ?_
          exact fun h => w_X7_proposition_119 x0 v6 y10 σ9 h hk
        · refine zst_ (gj_iconst (pc := 115) dX7_proposition_115 (by decide)) ?_
          refine zst_ (gj_goto 120 (pc := 116) dX7_proposition_116 (by decide)) ?_
          refine zst_ (gj_sub [2, 1, 0] rfl) ?_
          exact fun h => w_X7_proposition_120 x0 v6 y10 1 σ9 h hk
  · refine zst_ (gj_aload_n 0 (pc := 33) dX7_proposition_33 rfl) ?_
    refine gb_get (pc := 34) fl706 dX7_proposition_34 q737 (Or.inl rfl) (fun v16 => ?_)
    refine zst_ (gj_aload_n 0 (pc := 37) dX7_proposition_37 rfl) ?_
    refine gb_get (pc := 38) fl708 dX7_proposition_38 q741 (Or.inl rfl) (fun v17 => ?_)
    refine gb_new (pc := 41) (ci := 15) (c := (RX15, TX15, 3)) rfl (by decide) dX7_proposition_41 q733 q1579 q141 (fun σ18 => ?_)
    refine gb_let (fun y19 => ?_)
    refine zst_ (gj_dup (pc := 44) dX7_proposition_44 rfl) ?_
    refine zst_ (gj_aload_n 0 (pc := 45) dX7_proposition_45 rfl) ?_
    refine zst_ (gj_iconst (pc := 46) dX7_proposition_46 (by decide)) ?_
    refine gb_gd (fun hb => ?_)
    refine gb_callAT (pc := 47) (as := [zr x0, zi 0]) (rest := [zr y19, zr y19, zi v17, zr v16]) (zCl.of (zLk_VU (M := MX7_proposition) (ci := 7) (r := (RX7, TX7, 10)) (x := ⟨"LassoFinder$FormulaReader", "whole", "(I)LLassoFinder$Expression;"⟩) plX5_whole.1 ⟨rfl, rfl⟩ rfl rfl (zisE hb).1 (zisE hb).2 dX7_proposition_47 q1580 q1581 q1316 q1582 q1317) plX5_whole (Nat.le_of_ble_eq_true rfl) (fun h => c_X5_whole h)) (fun n a s0 h => by cases h; exact Or.inl ⟨rfl, hk⟩) (fun v20 σ21 => ?_)
    refine zst_ (gj_iconst (pc := 50) dX7_proposition_50 (by decide)) ?_
    refine zst_ (gj_iconst (pc := 51) dX7_proposition_51 (by decide)) ?_
    refine gb_gd (fun hb => ?_)
    refine gb_callV (pc := 52) (as := [zr y19, zr v20, zi (-1), zi (-1)]) (rest := [zr y19, zi v17, zr v16]) (zCl.of (zLk_IN (M := MX7_proposition) plX15_init.1 rfl (of_decide_eq_true hb) rfl rfl dX7_proposition_52 q1583 q1584 q1585) plX15_init (Nat.le_of_ble_eq_true rfl) (fun h => c_X15_init h)) (fun σ22 => ?_)
    refine gb_aast (pc := 55) (k := 109) ⟨by decide, by decide⟩ dX7_proposition_55 (fun σ23 => ?_)
    refine zst_ (gj_aload_n 0 (pc := 56) dX7_proposition_56 rfl) ?_
    refine zst_ (gj_bipush (pc := 57) dX7_proposition_57 ⟨rfl, by decide⟩) ?_
    refine gb_gd (fun hb => ?_)
    refine gb_callVT (pc := 59) (as := [zr x0, zi 125]) (rest := []) (zCl.of (zLk_VU (M := MX7_proposition) (ci := 7) (r := (RX7, TX7, 10)) (x := ⟨"LassoFinder$FormulaReader", "sign", "(C)V"⟩) plX5_sign.1 ⟨rfl, rfl⟩ rfl rfl (zisE hb).1 (zisE hb).2 dX7_proposition_59 q1597 q1598 q1113 q1599 q1114) plX5_sign (Nat.le_of_ble_eq_true rfl) (fun h => c_X5_sign h)) (fun n a s0 h => by cases h; exact Or.inl ⟨rfl, hk⟩) (fun σ24 => ?_)
    refine zst_ (gj_goto 165 (pc := 62) dX7_proposition_62 (by decide)) ?_
    refine zst_ (gj_sub [0] rfl) ?_
    exact fun h => w_X7_proposition_165 x0 σ24 h hk
noncomputable def f_X7_proposition (x0 x1 : Int) (σ : zM) : Option zO :=
  (zgf σ 708 x0).bind fun v1 =>
  if 8 ≤ v1 then
    f_X7_proposition_14 x0 x1 0 σ
  else
    f_X7_proposition_14 x0 x1 1 σ
theorem c_X7_proposition {g : zG} {lv : Nat} {x0 x1 : Int} {σ : zM} {out : zO} (h : f_X7_proposition x0 x1 σ = some out) : Cj g (lv + 49) MX7_proposition [zr x0, zi x1] σ out := by
  refine cj_go (ls := [(0, zr x0), (1, zi x1)]) (by decide) (Nat.le_of_ble_eq_true rfl) rfl (zgen h (fun r hk => ?_))
  unfold f_X7_proposition
  refine zst_ (gj_aload_n 0 (pc := 0) dX7_proposition_0 rfl) ?_
  refine gb_get (pc := 1) fl708 dX7_proposition_1 q741 (Or.inl rfl) (fun v1 => ?_)
  refine zst_ (gj_bipush (pc := 4) dX7_proposition_4 ⟨rfl, by decide⟩) ?_
  refine gb_if (gj_icmp_ge 13 (pc := 6) dX7_proposition_6 (by decide)) ?_ ?_
  · refine zst_ (gj_iconst (pc := 13) dX7_proposition_13 (by decide)) ?_
    exact fun h => w_X7_proposition_14 x0 x1 0 σ h hk
  · refine zst_ (gj_iconst (pc := 9) dX7_proposition_9 (by decide)) ?_
    refine zst_ (gj_goto 14 (pc := 10) dX7_proposition_10 (by decide)) ?_
    exact fun h => w_X7_proposition_14 x0 x1 1 σ h hk
theorem q742 : (Jvm.Cond.fieldLink "LassoFinder$FormulaReader" (30 : Nat) "LassoFinder$FormulaReader" "begun" "I") ∈ lw_all := lw_g (lw_at lw_m3 162 rfl) rfl
theorem q1616 : (Jvm.Cond.code ({ cls := "LassoFinder$FormulaReader", name := "open", desc := "()V" } : Jvm.MethodName) prog_7_method_8_code (1 : Nat) (Option.none : Option Jvm.ClassFile.FieldType)) ∈ lw_all := lw_g (lw_at lw_m7 76 rfl) rfl
theorem fl709 : zfl 709 0 "LassoFinder$FormulaReader" "begun" "I" false := ⟨rfl, rfl, rfl⟩
theorem fr709 {g : zG} {v : Int} : zok g (0, v) → zokt g (zft 709) v := fun h => h
abbrev cX7_open : ByteArray := prog_7_method_8_code
def yX7_open : MethodName := ⟨RX7, "open", "()V"⟩
theorem dX7_open_0 : decode cX7_open 0 = .ok (.aload_n 0, 1) := by decide +kernel
theorem dX7_open_1 : decode cX7_open 1 = .ok (.getfield 30, 3) := by decide +kernel
theorem dX7_open_4 : decode cX7_open 4 = .ok (.iconst 3, 1) := by decide +kernel
theorem dX7_open_5 : decode cX7_open 5 = .ok (.if_icmp .ge 7, 3) := by decide +kernel
theorem dX7_open_8 : decode cX7_open 8 = .ok (.iconst 1, 1) := by decide +kernel
theorem dX7_open_9 : decode cX7_open 9 = .ok (.goto 4, 3) := by decide +kernel
theorem dX7_open_12 : decode cX7_open 12 = .ok (.iconst 0, 1) := by decide +kernel
theorem dX7_open_13 : decode cX7_open 13 = .ok (.invokestatic 50, 3) := by decide +kernel
theorem dX7_open_16 : decode cX7_open 16 = .ok (.aload_n 0, 1) := by decide +kernel
theorem dX7_open_17 : decode cX7_open 17 = .ok (.dup, 1) := by decide +kernel
theorem dX7_open_18 : decode cX7_open 18 = .ok (.getfield 30, 3) := by decide +kernel
theorem dX7_open_21 : decode cX7_open 21 = .ok (.iconst 1, 1) := by decide +kernel
theorem dX7_open_22 : decode cX7_open 22 = .ok (.iadd, 1) := by decide +kernel
theorem dX7_open_23 : decode cX7_open 23 = .ok (.putfield 30, 3) := by decide +kernel
theorem dX7_open_26 : decode cX7_open 26 = .ok (.return_, 1) := by decide +kernel
abbrev MX7_open : zT := (yX7_open, cX7_open, 1, (Option.none : Option Jvm.ClassFile.FieldType), [])
theorem plX7_open : zplain MX7_open 0 ∧ (zcodeW MX7_open ∈ lw_all ∧ Cond.initialized MX7_open.1.cls ∈ lw_all) := ⟨⟨by decide +kernel, by decide +kernel⟩, q1616, q125⟩
noncomputable def f_X7_open_13 (x0 t0 : Int) (σ : zM) : Option zO :=
  zcvT (f_X5_need t0 σ) (fun n a σ1 => some (n + 1, zr a, σ1)) fun σ1 =>
  (zgf σ1 709 x0).bind fun v2 =>
  (zpf σ1 709 x0 (zadd v2 1)).bind fun σ3 =>
  some (0, ((3, 0) : zV), σ3)
theorem w_X7_open_13 {g : zG} {lv : Nat} {out : zO} (x0 t0 : Int) (σ : zM) {r : zO} (h : f_X7_open_13 x0 t0 σ = some r) (hk : (fun o : zO => o = out) r) : Gj g MX7_open (lv + 7) 13 [(0, zr x0)] [zi t0] σ out := by
  revert h
  unfold f_X7_open_13
  refine gb_callVT (pc := 13) (as := [zi t0]) (rest := []) (zCl.of (zLk_SU (M := MX7_open) (x := ⟨"LassoFinder$FormulaReader", "need", "(Z)V"⟩) plX5_need.1 ⟨rfl, rfl⟩ rfl dX7_open_13 q1577 q1578 q1085 q109 q1086) plX5_need (Nat.le_of_ble_eq_true rfl) (fun h => c_X5_need h)) (fun n a s0 h => by cases h; exact Or.inl ⟨rfl, hk⟩) (fun σ1 => ?_)
  refine zst_ (gj_aload_n 0 (pc := 16) dX7_open_16 rfl) ?_
  refine zst_ (gj_dup (pc := 17) dX7_open_17 rfl) ?_
  refine gb_get (pc := 18) fl709 dX7_open_18 q742 (Or.inl rfl) (fun v2 => ?_)
  refine zst_ (gj_iconst (pc := 21) dX7_open_21 (by decide)) ?_
  refine zst_ (gj_iadd (pc := 22) dX7_open_22) ?_
  refine gb_put (pc := 23) fl709 fr709 dX7_open_23 q742 (Or.inl rfl) (fun σ3 => ?_)
  intro h
  cases h
  have hk : (0, ((3, 0) : zV), σ3) = out := hk
  subst hk
  exact gj_vret (pc := 26) dX7_open_26 rfl
noncomputable def f_X7_open (x0 : Int) (σ : zM) : Option zO :=
  (zgf σ 709 x0).bind fun v1 =>
  if 3 ≤ v1 then
    f_X7_open_13 x0 0 σ
  else
    f_X7_open_13 x0 1 σ
theorem c_X7_open {g : zG} {lv : Nat} {x0 : Int} {σ : zM} {out : zO} (h : f_X7_open x0 σ = some out) : Cj g (lv + 7) MX7_open [zr x0] σ out := by
  refine cj_go (ls := [(0, zr x0)]) (by decide) (Nat.le_of_ble_eq_true rfl) rfl (zgen h (fun r hk => ?_))
  unfold f_X7_open
  refine zst_ (gj_aload_n 0 (pc := 0) dX7_open_0 rfl) ?_
  refine gb_get (pc := 1) fl709 dX7_open_1 q742 (Or.inl rfl) (fun v1 => ?_)
  refine zst_ (gj_iconst (pc := 4) dX7_open_4 (by decide)) ?_
  refine gb_if (gj_icmp_ge 12 (pc := 5) dX7_open_5 (by decide)) ?_ ?_
  · refine zst_ (gj_iconst (pc := 12) dX7_open_12 (by decide)) ?_
    exact fun h => w_X7_open_13 x0 0 σ h hk
  · refine zst_ (gj_iconst (pc := 8) dX7_open_8 (by decide)) ?_
    refine zst_ (gj_goto 13 (pc := 9) dX7_open_9 (by decide)) ?_
    exact fun h => w_X7_open_13 x0 1 σ h hk
theorem q1620 : (Jvm.Cond.code ({ cls := "LassoFinder$FormulaReader", name := "deeper", desc := "(I)I" } : Jvm.MethodName) prog_7_method_3_code (2 : Nat) (Option.some Jvm.ClassFile.FieldType.int)) ∈ lw_all := lw_g (lw_at lw_m7 80 rfl) rfl
abbrev cX7_deeper : ByteArray := prog_7_method_3_code
def yX7_deeper : MethodName := ⟨RX7, "deeper", "(I)I"⟩
theorem dX7_deeper_0 : decode cX7_deeper 0 = .ok (.iload_n 1, 1) := by decide +kernel
theorem dX7_deeper_1 : decode cX7_deeper 1 = .ok (.bipush 8, 2) := by decide +kernel
theorem dX7_deeper_3 : decode cX7_deeper 3 = .ok (.if_icmp .ge 7, 3) := by decide +kernel
theorem dX7_deeper_6 : decode cX7_deeper 6 = .ok (.iconst 1, 1) := by decide +kernel
theorem dX7_deeper_7 : decode cX7_deeper 7 = .ok (.goto 4, 3) := by decide +kernel
theorem dX7_deeper_10 : decode cX7_deeper 10 = .ok (.iconst 0, 1) := by decide +kernel
theorem dX7_deeper_11 : decode cX7_deeper 11 = .ok (.invokestatic 50, 3) := by decide +kernel
theorem dX7_deeper_14 : decode cX7_deeper 14 = .ok (.aload_n 0, 1) := by decide +kernel
theorem dX7_deeper_15 : decode cX7_deeper 15 = .ok (.dup, 1) := by decide +kernel
theorem dX7_deeper_16 : decode cX7_deeper 16 = .ok (.getfield 37, 3) := by decide +kernel
theorem dX7_deeper_19 : decode cX7_deeper 19 = .ok (.iconst 1, 1) := by decide +kernel
theorem dX7_deeper_20 : decode cX7_deeper 20 = .ok (.iadd, 1) := by decide +kernel
theorem dX7_deeper_21 : decode cX7_deeper 21 = .ok (.putfield 37, 3) := by decide +kernel
theorem dX7_deeper_24 : decode cX7_deeper 24 = .ok (.iload_n 1, 1) := by decide +kernel
theorem dX7_deeper_25 : decode cX7_deeper 25 = .ok (.iconst 1, 1) := by decide +kernel
theorem dX7_deeper_26 : decode cX7_deeper 26 = .ok (.iadd, 1) := by decide +kernel
theorem dX7_deeper_27 : decode cX7_deeper 27 = .ok (.ireturn, 1) := by decide +kernel
abbrev MX7_deeper : zT := (yX7_deeper, cX7_deeper, 2, (Option.some Jvm.ClassFile.FieldType.int), [])
theorem plX7_deeper : zplain MX7_deeper 1 ∧ (zcodeW MX7_deeper ∈ lw_all ∧ Cond.initialized MX7_deeper.1.cls ∈ lw_all) := ⟨⟨by decide +kernel, by decide +kernel⟩, q1620, q125⟩
noncomputable def f_X7_deeper_11 (x0 x1 t0 : Int) (σ : zM) : Option zO :=
  zcvT (f_X5_need t0 σ) (fun n a σ1 => some (n + 1, zr a, σ1)) fun σ1 =>
  (zgf σ1 502 x0).bind fun v2 =>
  (zpf σ1 502 x0 (zadd v2 1)).bind fun σ3 =>
  some (0, zi (zadd x1 1), σ3)
theorem w_X7_deeper_11 {g : zG} {lv : Nat} {out : zO} (x0 x1 t0 : Int) (σ : zM) {r : zO} (h : f_X7_deeper_11 x0 x1 t0 σ = some r) (hk : (fun o : zO => o = out) r) : Gj g MX7_deeper (lv + 7) 11 [(0, zr x0), (1, zi x1)] [zi t0] σ out := by
  revert h
  unfold f_X7_deeper_11
  refine gb_callVT (pc := 11) (as := [zi t0]) (rest := []) (zCl.of (zLk_SU (M := MX7_deeper) (x := ⟨"LassoFinder$FormulaReader", "need", "(Z)V"⟩) plX5_need.1 ⟨rfl, rfl⟩ rfl dX7_deeper_11 q1577 q1578 q1085 q109 q1086) plX5_need (Nat.le_of_ble_eq_true rfl) (fun h => c_X5_need h)) (fun n a s0 h => by cases h; exact Or.inl ⟨rfl, hk⟩) (fun σ1 => ?_)
  refine zst_ (gj_aload_n 0 (pc := 14) dX7_deeper_14 rfl) ?_
  refine zst_ (gj_dup (pc := 15) dX7_deeper_15 rfl) ?_
  refine gb_get (pc := 16) fl502 dX7_deeper_16 q700 (Or.inr q701) (fun v2 => ?_)
  refine zst_ (gj_iconst (pc := 19) dX7_deeper_19 (by decide)) ?_
  refine zst_ (gj_iadd (pc := 20) dX7_deeper_20) ?_
  refine gb_put (pc := 21) fl502 fr502 dX7_deeper_21 q700 (Or.inr q701) (fun σ3 => ?_)
  refine zst_ (gj_iload_n 1 (pc := 24) dX7_deeper_24 rfl) ?_
  refine zst_ (gj_iconst (pc := 25) dX7_deeper_25 (by decide)) ?_
  refine zst_ (gj_iadd (pc := 26) dX7_deeper_26) ?_
  intro h
  cases h
  have hk : (0, zi (zadd x1 1), σ3) = out := hk
  subst hk
  exact gj_ret (pc := 27) (t := .int) dX7_deeper_27 rfl ⟨rfl, rfl⟩ (fun h => h)
noncomputable def f_X7_deeper (x0 x1 : Int) (σ : zM) : Option zO :=
  if 8 ≤ x1 then
    f_X7_deeper_11 x0 x1 0 σ
  else
    f_X7_deeper_11 x0 x1 1 σ
theorem c_X7_deeper {g : zG} {lv : Nat} {x0 x1 : Int} {σ : zM} {out : zO} (h : f_X7_deeper x0 x1 σ = some out) : Cj g (lv + 7) MX7_deeper [zr x0, zi x1] σ out := by
  refine cj_go (ls := [(0, zr x0), (1, zi x1)]) (by decide) (Nat.le_of_ble_eq_true rfl) rfl (zgen h (fun r hk => ?_))
  unfold f_X7_deeper
  refine zst_ (gj_iload_n 1 (pc := 0) dX7_deeper_0 rfl) ?_
  refine zst_ (gj_bipush (pc := 1) dX7_deeper_1 ⟨rfl, by decide⟩) ?_
  refine gb_if (gj_icmp_ge 10 (pc := 3) dX7_deeper_3 (by decide)) ?_ ?_
  · refine zst_ (gj_iconst (pc := 10) dX7_deeper_10 (by decide)) ?_
    exact fun h => w_X7_deeper_11 x0 x1 0 σ h hk
  · refine zst_ (gj_iconst (pc := 6) dX7_deeper_6 (by decide)) ?_
    refine zst_ (gj_goto 11 (pc := 7) dX7_deeper_7 (by decide)) ?_
    exact fun h => w_X7_deeper_11 x0 x1 1 σ h hk
theorem q143 : (Jvm.Cond.initialized "LassoFinder$Not") ∈ lw_all := lw_g (lw_at lw_m1 43 rfl) rfl
theorem q1625 : (Jvm.Cond.code ({ cls := "LassoFinder$Not", name := "<init>", desc := "(LLassoFinder$Formula;)V" } : Jvm.MethodName) prog_13_method_1_code (2 : Nat) (Option.none : Option Jvm.ClassFile.FieldType)) ∈ lw_all := lw_g (lw_at lw_m7 85 rfl) rfl
theorem q1626 : (Jvm.Cond.methodLink "LassoFinder$Not" (1 : Nat) ({ cls := "java/lang/Record", name := "<init>", desc := "()V" } : Jvm.MethodName)) ∈ lw_all := lw_g (lw_at lw_m7 86 rfl) rfl
theorem q1627 : (Jvm.Cond.fieldLink "LassoFinder$Not" (7 : Nat) "LassoFinder$Not" "a" "LLassoFinder$Formula;") ∈ lw_all := lw_g (lw_at lw_m7 87 rfl) rfl
theorem fl1700 : zfl 1700 2 "LassoFinder$Not" "a" "LLassoFinder$Formula;" true := ⟨rfl, rfl, rfl⟩
theorem fr1700 {g : zG} {v : Int} : zok g (2, v) → zokt g (zft 1700) v := fun h => h
abbrev cX17_init : ByteArray := prog_13_method_1_code
def yX17_init : MethodName := ⟨RX17, "<init>", "(LLassoFinder$Formula;)V"⟩
theorem dX17_init_0 : decode cX17_init 0 = .ok (.aload_n 0, 1) := by decide +kernel
theorem dX17_init_1 : decode cX17_init 1 = .ok (.invokespecial 1, 3) := by decide +kernel
theorem dX17_init_4 : decode cX17_init 4 = .ok (.aload_n 0, 1) := by decide +kernel
theorem dX17_init_5 : decode cX17_init 5 = .ok (.aload_n 1, 1) := by decide +kernel
theorem dX17_init_6 : decode cX17_init 6 = .ok (.putfield 7, 3) := by decide +kernel
theorem dX17_init_9 : decode cX17_init 9 = .ok (.return_, 1) := by decide +kernel
abbrev MX17_init : zT := (yX17_init, cX17_init, 2, (Option.none : Option Jvm.ClassFile.FieldType), [])
theorem plX17_init : zplain MX17_init 1 ∧ (zcodeW MX17_init ∈ lw_all ∧ Cond.initialized MX17_init.1.cls ∈ lw_all) := ⟨⟨by decide +kernel, by decide +kernel⟩, q1625, q143⟩
noncomputable def f_X17_init (x0 x1 : Int) (σ : zM) : Option zO :=
  zgd (decide (0 ≤ x0)) <|
  zcv (f_J22_init x0 σ) fun σ1 =>
  (zpf σ1 1700 x0 x1).bind fun σ2 =>
  some (0, ((3, 0) : zV), σ2)
theorem c_X17_init {g : zG} {lv : Nat} {x0 x1 : Int} {σ : zM} {out : zO} (h : f_X17_init x0 x1 σ = some out) : Cj g (lv + 2) MX17_init [zr x0, zr x1] σ out := by
  refine cj_go (ls := [(0, zr x0), (1, zr x1)]) (by decide) (Nat.le_of_ble_eq_true rfl) rfl (zgen h (fun r hk => ?_))
  unfold f_X17_init
  refine zst_ (gj_aload_n 0 (pc := 0) dX17_init_0 rfl) ?_
  refine gb_gd (fun hb => ?_)
  refine gb_callV (pc := 1) (as := [zr x0]) (rest := []) (zCl.of (zLk_I (M := MX17_init) plJ22_init.1 rfl (of_decide_eq_true hb) rfl rfl dX17_init_1 q1626 q1338 q1339) plJ22_init (Nat.le_of_ble_eq_true rfl) (fun h => c_J22_init h)) (fun σ1 => ?_)
  refine zst_ (gj_aload_n 0 (pc := 4) dX17_init_4 rfl) ?_
  refine zst_ (gj_aload_n 1 (pc := 5) dX17_init_5 rfl) ?_
  refine gb_putFi (pc := 6) fl1700 rfl rfl fr1700 dX17_init_6 q1627 (Or.inl rfl) (fun σ2 => ?_)
  intro h
  cases h
  have hk : (0, ((3, 0) : zV), σ2) = out := hk
  subst hk
  exact gj_vret (pc := 9) dX17_init_9 rfl
theorem q144 : (Jvm.Cond.initialized "LassoFinder$Temporal") ∈ lw_all := lw_g (lw_at lw_m1 44 rfl) rfl
theorem q1638 : (Jvm.Cond.code ({ cls := "LassoFinder$Temporal", name := "<init>", desc := "(CILLassoFinder$Formula;LLassoFinder$Formula;)V" } : Jvm.MethodName) prog_20_method_1_code (5 : Nat) (Option.none : Option Jvm.ClassFile.FieldType)) ∈ lw_all := lw_g (lw_at lw_m7 98 rfl) rfl
theorem q1639 : (Jvm.Cond.methodLink "LassoFinder$Temporal" (1 : Nat) ({ cls := "java/lang/Record", name := "<init>", desc := "()V" } : Jvm.MethodName)) ∈ lw_all := lw_g (lw_at lw_m7 99 rfl) rfl
theorem q1640 : (Jvm.Cond.fieldLink "LassoFinder$Temporal" (7 : Nat) "LassoFinder$Temporal" "sign" "C") ∈ lw_all := lw_g (lw_at lw_m7 100 rfl) rfl
theorem q1641 : (Jvm.Cond.fieldLink "LassoFinder$Temporal" (13 : Nat) "LassoFinder$Temporal" "number" "I") ∈ lw_all := lw_g (lw_at lw_m7 101 rfl) rfl
theorem q1642 : (Jvm.Cond.fieldLink "LassoFinder$Temporal" (17 : Nat) "LassoFinder$Temporal" "a" "LLassoFinder$Formula;") ∈ lw_all := lw_g (lw_at lw_m7 102 rfl) rfl
theorem q1643 : (Jvm.Cond.fieldLink "LassoFinder$Temporal" (21 : Nat) "LassoFinder$Temporal" "b" "LLassoFinder$Formula;") ∈ lw_all := lw_g (lw_at lw_m7 103 rfl) rfl
theorem fl1800 : zfl 1800 0 "LassoFinder$Temporal" "sign" "C" true := ⟨rfl, rfl, rfl⟩
theorem fr1800 {g : zG} {v : Int} (h : zch v = true) : zok g (0, v) → zokt g (zft 1800) v := fun _ => zchE h
theorem fl1801 : zfl 1801 0 "LassoFinder$Temporal" "number" "I" true := ⟨rfl, rfl, rfl⟩
theorem fr1801 {g : zG} {v : Int} : zok g (0, v) → zokt g (zft 1801) v := fun h => h
theorem fl1802 : zfl 1802 2 "LassoFinder$Temporal" "a" "LLassoFinder$Formula;" true := ⟨rfl, rfl, rfl⟩
theorem fr1802 {g : zG} {v : Int} : zok g (2, v) → zokt g (zft 1802) v := fun h => h
theorem fl1803 : zfl 1803 2 "LassoFinder$Temporal" "b" "LLassoFinder$Formula;" true := ⟨rfl, rfl, rfl⟩
theorem fr1803 {g : zG} {v : Int} : zok g (2, v) → zokt g (zft 1803) v := fun h => h
abbrev cX18_init : ByteArray := prog_20_method_1_code
def yX18_init : MethodName := ⟨RX18, "<init>", "(CILLassoFinder$Formula;LLassoFinder$Formula;)V"⟩
theorem dX18_init_0 : decode cX18_init 0 = .ok (.aload_n 0, 1) := by decide +kernel
theorem dX18_init_1 : decode cX18_init 1 = .ok (.invokespecial 1, 3) := by decide +kernel
theorem dX18_init_4 : decode cX18_init 4 = .ok (.aload_n 0, 1) := by decide +kernel
theorem dX18_init_5 : decode cX18_init 5 = .ok (.iload_n 1, 1) := by decide +kernel
theorem dX18_init_6 : decode cX18_init 6 = .ok (.putfield 7, 3) := by decide +kernel
theorem dX18_init_9 : decode cX18_init 9 = .ok (.aload_n 0, 1) := by decide +kernel
theorem dX18_init_10 : decode cX18_init 10 = .ok (.iload_n 2, 1) := by decide +kernel
theorem dX18_init_11 : decode cX18_init 11 = .ok (.putfield 13, 3) := by decide +kernel
theorem dX18_init_14 : decode cX18_init 14 = .ok (.aload_n 0, 1) := by decide +kernel
theorem dX18_init_15 : decode cX18_init 15 = .ok (.aload_n 3, 1) := by decide +kernel
theorem dX18_init_16 : decode cX18_init 16 = .ok (.putfield 17, 3) := by decide +kernel
theorem dX18_init_19 : decode cX18_init 19 = .ok (.aload_n 0, 1) := by decide +kernel
theorem dX18_init_20 : decode cX18_init 20 = .ok (.aload 4, 2) := by decide +kernel
theorem dX18_init_22 : decode cX18_init 22 = .ok (.putfield 21, 3) := by decide +kernel
theorem dX18_init_25 : decode cX18_init 25 = .ok (.return_, 1) := by decide +kernel
abbrev MX18_init : zT := (yX18_init, cX18_init, 5, (Option.none : Option Jvm.ClassFile.FieldType), [])
theorem plX18_init : zplain MX18_init 4 ∧ (zcodeW MX18_init ∈ lw_all ∧ Cond.initialized MX18_init.1.cls ∈ lw_all) := ⟨⟨by decide +kernel, by decide +kernel⟩, q1638, q144⟩
noncomputable def f_X18_init (x0 x1 x2 x3 x4 : Int) (σ : zM) : Option zO :=
  zgd (decide (0 ≤ x0)) <|
  zcv (f_J22_init x0 σ) fun σ1 =>
  zgd (zch x1) <|
  (zpf σ1 1800 x0 x1).bind fun σ2 =>
  (zpf σ2 1801 x0 x2).bind fun σ3 =>
  (zpf σ3 1802 x0 x3).bind fun σ4 =>
  (zpf σ4 1803 x0 x4).bind fun σ5 =>
  some (0, ((3, 0) : zV), σ5)
theorem c_X18_init {g : zG} {lv : Nat} {x0 x1 x2 x3 x4 : Int} {σ : zM} {out : zO} (h : f_X18_init x0 x1 x2 x3 x4 σ = some out) : Cj g (lv + 2) MX18_init [zr x0, zi x1, zi x2, zr x3, zr x4] σ out := by
  refine cj_go (ls := [(0, zr x0), (1, zi x1), (2, zi x2), (3, zr x3), (4, zr x4)]) (by decide) (Nat.le_of_ble_eq_true rfl) rfl (zgen h (fun r hk => ?_))
  unfold f_X18_init
  refine zst_ (gj_aload_n 0 (pc := 0) dX18_init_0 rfl) ?_
  refine gb_gd (fun hb => ?_)
  refine gb_callV (pc := 1) (as := [zr x0]) (rest := []) (zCl.of (zLk_I (M := MX18_init) plJ22_init.1 rfl (of_decide_eq_true hb) rfl rfl dX18_init_1 q1639 q1338 q1339) plJ22_init (Nat.le_of_ble_eq_true rfl) (fun h => c_J22_init h)) (fun σ1 => ?_)
  refine zst_ (gj_aload_n 0 (pc := 4) dX18_init_4 rfl) ?_
  refine zst_ (gj_iload_n 1 (pc := 5) dX18_init_5 rfl) ?_
  refine gb_gd (fun hb => ?_)
  refine gb_putFi (pc := 6) fl1800 rfl rfl (fr1800 hb) dX18_init_6 q1640 (Or.inl rfl) (fun σ2 => ?_)
  refine zst_ (gj_aload_n 0 (pc := 9) dX18_init_9 rfl) ?_
  refine zst_ (gj_iload_n 2 (pc := 10) dX18_init_10 rfl) ?_
  refine gb_putFi (pc := 11) fl1801 rfl rfl fr1801 dX18_init_11 q1641 (Or.inl rfl) (fun σ3 => ?_)
  refine zst_ (gj_aload_n 0 (pc := 14) dX18_init_14 rfl) ?_
  refine zst_ (gj_aload_n 3 (pc := 15) dX18_init_15 rfl) ?_
  refine gb_putFi (pc := 16) fl1802 rfl rfl fr1802 dX18_init_16 q1642 (Or.inl rfl) (fun σ4 => ?_)
  refine zst_ (gj_aload_n 0 (pc := 19) dX18_init_19 rfl) ?_
  refine zst_ (gj_aload 4 (pc := 20) dX18_init_20 rfl) ?_
  refine gb_putFi (pc := 22) fl1803 rfl rfl fr1803 dX18_init_22 q1643 (Or.inl rfl) (fun σ5 => ?_)
  intro h
  cases h
  have hk : (0, ((3, 0) : zV), σ5) = out := hk
  subst hk
  exact gj_vret (pc := 25) dX18_init_25 rfl
theorem q731 : (Jvm.Cond.classLink "LassoFinder$FormulaReader" (9 : Nat) "LassoFinder$Temporal") ∈ lw_all := lw_g (lw_at lw_m3 151 rfl) rfl
theorem q735 : (Jvm.Cond.fieldLink "LassoFinder$FormulaReader" (11 : Nat) "LassoFinder$FormulaReader" "temporals" "[LLassoFinder$Temporal;") ∈ lw_all := lw_g (lw_at lw_m3 155 rfl) rfl
theorem q738 : (Jvm.Cond.fieldLink "LassoFinder$FormulaReader" (23 : Nat) "LassoFinder$FormulaReader" "said" "I") ∈ lw_all := lw_g (lw_at lw_m3 158 rfl) rfl
theorem q1634 : (Jvm.Cond.code ({ cls := "LassoFinder$FormulaReader", name := "close", desc := "(CLLassoFinder$Formula;LLassoFinder$Formula;)LLassoFinder$Formula;" } : Jvm.MethodName) prog_7_method_9_code (5 : Nat) (Option.some (Jvm.ClassFile.FieldType.object "LassoFinder$Formula"))) ∈ lw_all := lw_g (lw_at lw_m7 94 rfl) rfl
theorem q1635 : (Jvm.Cond.instantiable "LassoFinder$Temporal" (4 : Nat)) ∈ lw_all := lw_g (lw_at lw_m7 95 rfl) rfl
theorem q1636 : (Jvm.Cond.methodLinkNest "LassoFinder$FormulaReader" (101 : Nat) ({ cls := "LassoFinder$Temporal", name := "<init>", desc := "(CILLassoFinder$Formula;LLassoFinder$Formula;)V" } : Jvm.MethodName) "LassoFinder") ∈ lw_tbl := lw_at lw_m7 96 rfl
theorem q1637 : (Jvm.Cond.instanceMethod ({ cls := "LassoFinder$Temporal", name := "<init>", desc := "(CILLassoFinder$Formula;LLassoFinder$Formula;)V" } : Jvm.MethodName)) ∈ lw_all := lw_g (lw_at lw_m7 97 rfl) rfl
theorem fl705 : zfl 705 2 "LassoFinder$FormulaReader" "temporals" "[LLassoFinder$Temporal;" true := ⟨rfl, rfl, rfl⟩
theorem fr705 {g : zG} {v : Int} : zok g (2, v) → zokt g (zft 705) v := fun h => h
theorem fl707 : zfl 707 0 "LassoFinder$FormulaReader" "said" "I" false := ⟨rfl, rfl, rfl⟩
theorem fr707 {g : zG} {v : Int} : zok g (0, v) → zokt g (zft 707) v := fun h => h
abbrev cX7_close : ByteArray := prog_7_method_9_code
def yX7_close : MethodName := ⟨RX7, "close", "(CLLassoFinder$Formula;LLassoFinder$Formula;)LLassoFinder$Formula;"⟩
theorem dX7_close_0 : decode cX7_close 0 = .ok (.new 9, 3) := by decide +kernel
theorem dX7_close_3 : decode cX7_close 3 = .ok (.dup, 1) := by decide +kernel
theorem dX7_close_4 : decode cX7_close 4 = .ok (.iload_n 1, 1) := by decide +kernel
theorem dX7_close_5 : decode cX7_close 5 = .ok (.aload_n 0, 1) := by decide +kernel
theorem dX7_close_6 : decode cX7_close 6 = .ok (.getfield 23, 3) := by decide +kernel
theorem dX7_close_9 : decode cX7_close 9 = .ok (.aload_n 2, 1) := by decide +kernel
theorem dX7_close_10 : decode cX7_close 10 = .ok (.aload_n 3, 1) := by decide +kernel
theorem dX7_close_11 : decode cX7_close 11 = .ok (.invokespecial 101, 3) := by decide +kernel
theorem dX7_close_14 : decode cX7_close 14 = .ok (.astore 4, 2) := by decide +kernel
theorem dX7_close_16 : decode cX7_close 16 = .ok (.aload_n 0, 1) := by decide +kernel
theorem dX7_close_17 : decode cX7_close 17 = .ok (.getfield 11, 3) := by decide +kernel
theorem dX7_close_20 : decode cX7_close 20 = .ok (.aload_n 0, 1) := by decide +kernel
theorem dX7_close_21 : decode cX7_close 21 = .ok (.getfield 23, 3) := by decide +kernel
theorem dX7_close_24 : decode cX7_close 24 = .ok (.aload 4, 2) := by decide +kernel
theorem dX7_close_26 : decode cX7_close 26 = .ok (.aastore, 1) := by decide +kernel
theorem dX7_close_27 : decode cX7_close 27 = .ok (.aload_n 0, 1) := by decide +kernel
theorem dX7_close_28 : decode cX7_close 28 = .ok (.dup, 1) := by decide +kernel
theorem dX7_close_29 : decode cX7_close 29 = .ok (.getfield 23, 3) := by decide +kernel
theorem dX7_close_32 : decode cX7_close 32 = .ok (.iconst 1, 1) := by decide +kernel
theorem dX7_close_33 : decode cX7_close 33 = .ok (.iadd, 1) := by decide +kernel
theorem dX7_close_34 : decode cX7_close 34 = .ok (.putfield 23, 3) := by decide +kernel
theorem dX7_close_37 : decode cX7_close 37 = .ok (.aload 4, 2) := by decide +kernel
theorem dX7_close_39 : decode cX7_close 39 = .ok (.areturn, 1) := by decide +kernel
abbrev MX7_close : zT := (yX7_close, cX7_close, 5, (Option.some (Jvm.ClassFile.FieldType.object "LassoFinder$Formula")), [])
theorem plX7_close : zplain MX7_close 3 ∧ (zcodeW MX7_close ∈ lw_all ∧ Cond.initialized MX7_close.1.cls ∈ lw_all) := ⟨⟨by decide +kernel, by decide +kernel⟩, q1634, q125⟩
noncomputable def f_X7_close (x0 x1 x2 x3 : Int) (σ : zM) : Option zO :=
  (znO σ 18 4).bind fun σ1 =>
  zlet ((↑(zN σ) : Int)) fun y2 =>
  (zgf σ1 707 x0).bind fun v3 =>
  zgd (decide (0 ≤ y2)) <|
  zcv (f_X18_init y2 x1 v3 x2 x3 σ1) fun σ4 =>
  (zgf σ4 705 x0).bind fun v5 =>
  (zgf σ4 707 x0).bind fun v6 =>
  (zpr σ4 108 v5 v6 y2).bind fun σ7 =>
  (zgf σ7 707 x0).bind fun v8 =>
  (zpf σ7 707 x0 (zadd v8 1)).bind fun σ9 =>
  some (0, zr y2, σ9)
theorem c_X7_close {g : zG} {lv : Nat} {x0 x1 x2 x3 : Int} {σ : zM} {out : zO} (h : f_X7_close x0 x1 x2 x3 σ = some out) : Cj g (lv + 3) MX7_close [zr x0, zi x1, zr x2, zr x3] σ out := by
  refine cj_go (ls := [(0, zr x0), (1, zi x1), (2, zr x2), (3, zr x3)]) (by decide) (Nat.le_of_ble_eq_true rfl) rfl (zgen h (fun r hk => ?_))
  unfold f_X7_close
  refine gb_new (pc := 0) (ci := 18) (c := (RX18, TX18, 4)) rfl (by decide) dX7_close_0 q731 q1635 q144 (fun σ1 => ?_)
  refine gb_let (fun y2 => ?_)
  refine zst_ (gj_dup (pc := 3) dX7_close_3 rfl) ?_
  refine zst_ (gj_iload_n 1 (pc := 4) dX7_close_4 rfl) ?_
  refine zst_ (gj_aload_n 0 (pc := 5) dX7_close_5 rfl) ?_
  refine gb_get (pc := 6) fl707 dX7_close_6 q738 (Or.inl rfl) (fun v3 => ?_)
  refine zst_ (gj_aload_n 2 (pc := 9) dX7_close_9 rfl) ?_
  refine zst_ (gj_aload_n 3 (pc := 10) dX7_close_10 rfl) ?_
  refine gb_gd (fun hb => ?_)
  refine gb_callV (pc := 11) (as := [zr y2, zi x1, zi v3, zr x2, zr x3]) (rest := [zr y2]) (zCl.of (zLk_IN (M := MX7_close) plX18_init.1 rfl (of_decide_eq_true hb) rfl rfl dX7_close_11 q1636 q1637 q1638) plX18_init (Nat.le_of_ble_eq_true rfl) (fun h => c_X18_init h)) (fun σ4 => ?_)
  refine zst_ (gj_astore (pc := 14) (ls' := [(4, zr y2), (0, zr x0), (1, zi x1), (2, zr x2), (3, zr x3)]) dX7_close_14 (by decide) rfl) ?_
  refine zst_ (gj_aload_n 1 (pc := 16) dX7_close_16 rfl) ?_
  refine gb_get (pc := 17) fl705 dX7_close_17 q735 (Or.inl rfl) (fun v5 => ?_)
  refine zst_ (gj_aload_n 1 (pc := 20) dX7_close_20 rfl) ?_
  refine gb_get (pc := 21) fl707 dX7_close_21 q738 (Or.inl rfl) (fun v6 => ?_)
  refine zst_ (gj_aload 0 (pc := 24) dX7_close_24 rfl) ?_
  refine gb_aast (pc := 26) (k := 108) ⟨by decide, by decide⟩ dX7_close_26 (fun σ7 => ?_)
  refine zst_ (gj_aload_n 1 (pc := 27) dX7_close_27 rfl) ?_
  refine zst_ (gj_dup (pc := 28) dX7_close_28 rfl) ?_
  refine gb_get (pc := 29) fl707 dX7_close_29 q738 (Or.inl rfl) (fun v8 => ?_)
  refine zst_ (gj_iconst (pc := 32) dX7_close_32 (by decide)) ?_
  refine zst_ (gj_iadd (pc := 33) dX7_close_33) ?_
  refine gb_put (pc := 34) fl707 fr707 dX7_close_34 q738 (Or.inl rfl) (fun σ9 => ?_)
  refine zst_ (gj_aload 0 (pc := 37) dX7_close_37 rfl) ?_
  intro h
  cases h
  have hk : (0, zr y2, σ9) = out := hk
  subst hk
  exact gj_aret (pc := 39) dX7_close_39 rfl (Or.inl ⟨_, rfl⟩)
theorem q145 : (Jvm.Cond.initialized "LassoFinder$Both") ∈ lw_all := lw_g (lw_at lw_m1 45 rfl) rfl
theorem q1660 : (Jvm.Cond.code ({ cls := "LassoFinder$Both", name := "<init>", desc := "(CLLassoFinder$Formula;LLassoFinder$Formula;)V" } : Jvm.MethodName) prog_2_method_1_code (4 : Nat) (Option.none : Option Jvm.ClassFile.FieldType)) ∈ lw_all := lw_g (lw_at lw_m7 120 rfl) rfl
theorem q1661 : (Jvm.Cond.methodLink "LassoFinder$Both" (1 : Nat) ({ cls := "java/lang/Record", name := "<init>", desc := "()V" } : Jvm.MethodName)) ∈ lw_all := lw_g (lw_at lw_m7 121 rfl) rfl
theorem q1662 : (Jvm.Cond.fieldLink "LassoFinder$Both" (7 : Nat) "LassoFinder$Both" "sign" "C") ∈ lw_all := lw_g (lw_at lw_m7 122 rfl) rfl
theorem q1663 : (Jvm.Cond.fieldLink "LassoFinder$Both" (13 : Nat) "LassoFinder$Both" "a" "LLassoFinder$Formula;") ∈ lw_all := lw_g (lw_at lw_m7 123 rfl) rfl
theorem q1664 : (Jvm.Cond.fieldLink "LassoFinder$Both" (17 : Nat) "LassoFinder$Both" "b" "LLassoFinder$Formula;") ∈ lw_all := lw_g (lw_at lw_m7 124 rfl) rfl
theorem fl1900 : zfl 1900 0 "LassoFinder$Both" "sign" "C" true := ⟨rfl, rfl, rfl⟩
theorem fr1900 {g : zG} {v : Int} (h : zch v = true) : zok g (0, v) → zokt g (zft 1900) v := fun _ => zchE h
theorem fl1901 : zfl 1901 2 "LassoFinder$Both" "a" "LLassoFinder$Formula;" true := ⟨rfl, rfl, rfl⟩
theorem fr1901 {g : zG} {v : Int} : zok g (2, v) → zokt g (zft 1901) v := fun h => h
theorem fl1902 : zfl 1902 2 "LassoFinder$Both" "b" "LLassoFinder$Formula;" true := ⟨rfl, rfl, rfl⟩
theorem fr1902 {g : zG} {v : Int} : zok g (2, v) → zokt g (zft 1902) v := fun h => h
abbrev cX19_init : ByteArray := prog_2_method_1_code
def yX19_init : MethodName := ⟨RX19, "<init>", "(CLLassoFinder$Formula;LLassoFinder$Formula;)V"⟩
theorem dX19_init_0 : decode cX19_init 0 = .ok (.aload_n 0, 1) := by decide +kernel
theorem dX19_init_1 : decode cX19_init 1 = .ok (.invokespecial 1, 3) := by decide +kernel
theorem dX19_init_4 : decode cX19_init 4 = .ok (.aload_n 0, 1) := by decide +kernel
theorem dX19_init_5 : decode cX19_init 5 = .ok (.iload_n 1, 1) := by decide +kernel
theorem dX19_init_6 : decode cX19_init 6 = .ok (.putfield 7, 3) := by decide +kernel
theorem dX19_init_9 : decode cX19_init 9 = .ok (.aload_n 0, 1) := by decide +kernel
theorem dX19_init_10 : decode cX19_init 10 = .ok (.aload_n 2, 1) := by decide +kernel
theorem dX19_init_11 : decode cX19_init 11 = .ok (.putfield 13, 3) := by decide +kernel
theorem dX19_init_14 : decode cX19_init 14 = .ok (.aload_n 0, 1) := by decide +kernel
theorem dX19_init_15 : decode cX19_init 15 = .ok (.aload_n 3, 1) := by decide +kernel
theorem dX19_init_16 : decode cX19_init 16 = .ok (.putfield 17, 3) := by decide +kernel
theorem dX19_init_19 : decode cX19_init 19 = .ok (.return_, 1) := by decide +kernel
abbrev MX19_init : zT := (yX19_init, cX19_init, 4, (Option.none : Option Jvm.ClassFile.FieldType), [])
theorem plX19_init : zplain MX19_init 3 ∧ (zcodeW MX19_init ∈ lw_all ∧ Cond.initialized MX19_init.1.cls ∈ lw_all) := ⟨⟨by decide +kernel, by decide +kernel⟩, q1660, q145⟩
noncomputable def f_X19_init (x0 x1 x2 x3 : Int) (σ : zM) : Option zO :=
  zgd (decide (0 ≤ x0)) <|
  zcv (f_J22_init x0 σ) fun σ1 =>
  zgd (zch x1) <|
  (zpf σ1 1900 x0 x1).bind fun σ2 =>
  (zpf σ2 1901 x0 x2).bind fun σ3 =>
  (zpf σ3 1902 x0 x3).bind fun σ4 =>
  some (0, ((3, 0) : zV), σ4)
theorem c_X19_init {g : zG} {lv : Nat} {x0 x1 x2 x3 : Int} {σ : zM} {out : zO} (h : f_X19_init x0 x1 x2 x3 σ = some out) : Cj g (lv + 2) MX19_init [zr x0, zi x1, zr x2, zr x3] σ out := by
  refine cj_go (ls := [(0, zr x0), (1, zi x1), (2, zr x2), (3, zr x3)]) (by decide) (Nat.le_of_ble_eq_true rfl) rfl (zgen h (fun r hk => ?_))
  unfold f_X19_init
  refine zst_ (gj_aload_n 0 (pc := 0) dX19_init_0 rfl) ?_
  refine gb_gd (fun hb => ?_)
  refine gb_callV (pc := 1) (as := [zr x0]) (rest := []) (zCl.of (zLk_I (M := MX19_init) plJ22_init.1 rfl (of_decide_eq_true hb) rfl rfl dX19_init_1 q1661 q1338 q1339) plJ22_init (Nat.le_of_ble_eq_true rfl) (fun h => c_J22_init h)) (fun σ1 => ?_)
  refine zst_ (gj_aload_n 0 (pc := 4) dX19_init_4 rfl) ?_
  refine zst_ (gj_iload_n 1 (pc := 5) dX19_init_5 rfl) ?_
  refine gb_gd (fun hb => ?_)
  refine gb_putFi (pc := 6) fl1900 rfl rfl (fr1900 hb) dX19_init_6 q1662 (Or.inl rfl) (fun σ2 => ?_)
  refine zst_ (gj_aload_n 0 (pc := 9) dX19_init_9 rfl) ?_
  refine zst_ (gj_aload_n 2 (pc := 10) dX19_init_10 rfl) ?_
  refine gb_putFi (pc := 11) fl1901 rfl rfl fr1901 dX19_init_11 q1663 (Or.inl rfl) (fun σ3 => ?_)
  refine zst_ (gj_aload_n 0 (pc := 14) dX19_init_14 rfl) ?_
  refine zst_ (gj_aload_n 3 (pc := 15) dX19_init_15 rfl) ?_
  refine gb_putFi (pc := 16) fl1902 rfl rfl fr1902 dX19_init_16 q1664 (Or.inl rfl) (fun σ4 => ?_)
  intro h
  cases h
  have hk : (0, ((3, 0) : zV), σ4) = out := hk
  subst hk
  exact gj_vret (pc := 19) dX19_init_19 rfl
theorem q1558 : (Jvm.Cond.methodLink "LassoFinder$FormulaReader" (33 : Nat) ({ cls := "LassoFinder$FormulaReader", name := "implied", desc := "(LLassoFinder$FormulaReader;I)LLassoFinder$Formula;" } : Jvm.MethodName)) ∈ lw_all := lw_g (lw_at lw_m7 18 rfl) rfl
theorem q1559 : (Jvm.Cond.static ({ cls := "LassoFinder$FormulaReader", name := "implied", desc := "(LLassoFinder$FormulaReader;I)LLassoFinder$Formula;" } : Jvm.MethodName)) ∈ lw_all := lw_g (lw_at lw_m7 19 rfl) rfl
theorem q1560 : (Jvm.Cond.code ({ cls := "LassoFinder$FormulaReader", name := "implied", desc := "(LLassoFinder$FormulaReader;I)LLassoFinder$Formula;" } : Jvm.MethodName) prog_7_method_4_code (3 : Nat) (Option.some (Jvm.ClassFile.FieldType.object "LassoFinder$Formula"))) ∈ lw_all := lw_g (lw_at lw_m7 20 rfl) rfl
theorem q1561 : (Jvm.Cond.methodLink "LassoFinder$FormulaReader" (54 : Nat) ({ cls := "LassoFinder$FormulaReader", name := "and", desc := "(LLassoFinder$FormulaReader;I)LLassoFinder$Formula;" } : Jvm.MethodName)) ∈ lw_all := lw_g (lw_at lw_m7 21 rfl) rfl
theorem q1562 : (Jvm.Cond.static ({ cls := "LassoFinder$FormulaReader", name := "and", desc := "(LLassoFinder$FormulaReader;I)LLassoFinder$Formula;" } : Jvm.MethodName)) ∈ lw_all := lw_g (lw_at lw_m7 22 rfl) rfl
theorem q1563 : (Jvm.Cond.code ({ cls := "LassoFinder$FormulaReader", name := "and", desc := "(LLassoFinder$FormulaReader;I)LLassoFinder$Formula;" } : Jvm.MethodName) prog_7_method_5_code (3 : Nat) (Option.some (Jvm.ClassFile.FieldType.object "LassoFinder$Formula"))) ∈ lw_all := lw_g (lw_at lw_m7 23 rfl) rfl
theorem q1564 : (Jvm.Cond.methodLink "LassoFinder$FormulaReader" (74 : Nat) ({ cls := "LassoFinder$FormulaReader", name := "until", desc := "(LLassoFinder$FormulaReader;I)LLassoFinder$Formula;" } : Jvm.MethodName)) ∈ lw_all := lw_g (lw_at lw_m7 24 rfl) rfl
theorem q1565 : (Jvm.Cond.static ({ cls := "LassoFinder$FormulaReader", name := "until", desc := "(LLassoFinder$FormulaReader;I)LLassoFinder$Formula;" } : Jvm.MethodName)) ∈ lw_all := lw_g (lw_at lw_m7 25 rfl) rfl
theorem q1566 : (Jvm.Cond.code ({ cls := "LassoFinder$FormulaReader", name := "until", desc := "(LLassoFinder$FormulaReader;I)LLassoFinder$Formula;" } : Jvm.MethodName) prog_7_method_6_code (4 : Nat) (Option.some (Jvm.ClassFile.FieldType.object "LassoFinder$Formula"))) ∈ lw_all := lw_g (lw_at lw_m7 26 rfl) rfl
theorem q1567 : (Jvm.Cond.methodLink "LassoFinder$FormulaReader" (77 : Nat) ({ cls := "LassoFinder$FormulaReader", name := "unit", desc := "(LLassoFinder$FormulaReader;I)LLassoFinder$Formula;" } : Jvm.MethodName)) ∈ lw_all := lw_g (lw_at lw_m7 27 rfl) rfl
theorem q1568 : (Jvm.Cond.static ({ cls := "LassoFinder$FormulaReader", name := "unit", desc := "(LLassoFinder$FormulaReader;I)LLassoFinder$Formula;" } : Jvm.MethodName)) ∈ lw_all := lw_g (lw_at lw_m7 28 rfl) rfl
theorem q1569 : (Jvm.Cond.code ({ cls := "LassoFinder$FormulaReader", name := "unit", desc := "(LLassoFinder$FormulaReader;I)LLassoFinder$Formula;" } : Jvm.MethodName) prog_7_method_7_code (5 : Nat) (Option.some (Jvm.ClassFile.FieldType.object "LassoFinder$Formula"))) ∈ lw_all := lw_g (lw_at lw_m7 29 rfl) rfl
theorem q1573 : (Jvm.Cond.methodLink "LassoFinder$FormulaReader" (88 : Nat) ({ cls := "LassoFinder$FormulaReader", name := "proposition", desc := "(C)LLassoFinder$Formula;" } : Jvm.MethodName)) ∈ lw_all := lw_g (lw_at lw_m7 33 rfl) rfl
theorem q1575 : (Jvm.Cond.instanceMethod ({ cls := "LassoFinder$FormulaReader", name := "proposition", desc := "(C)LLassoFinder$Formula;" } : Jvm.MethodName)) ∈ lw_all := lw_g (lw_at lw_m7 35 rfl) rfl
theorem q1613 : (Jvm.Cond.methodLink "LassoFinder$FormulaReader" (80 : Nat) ({ cls := "LassoFinder$FormulaReader", name := "open", desc := "()V" } : Jvm.MethodName)) ∈ lw_all := lw_g (lw_at lw_m7 73 rfl) rfl
theorem q1615 : (Jvm.Cond.instanceMethod ({ cls := "LassoFinder$FormulaReader", name := "open", desc := "()V" } : Jvm.MethodName)) ∈ lw_all := lw_g (lw_at lw_m7 75 rfl) rfl
theorem q1617 : (Jvm.Cond.methodLink "LassoFinder$FormulaReader" (70 : Nat) ({ cls := "LassoFinder$FormulaReader", name := "deeper", desc := "(I)I" } : Jvm.MethodName)) ∈ lw_all := lw_g (lw_at lw_m7 77 rfl) rfl
theorem q1619 : (Jvm.Cond.instanceMethod ({ cls := "LassoFinder$FormulaReader", name := "deeper", desc := "(I)I" } : Jvm.MethodName)) ∈ lw_all := lw_g (lw_at lw_m7 79 rfl) rfl
theorem q1621 : (Jvm.Cond.classLink "LassoFinder$FormulaReader" (96 : Nat) "LassoFinder$Not") ∈ lw_all := lw_g (lw_at lw_m7 81 rfl) rfl
theorem q1622 : (Jvm.Cond.instantiable "LassoFinder$Not" (1 : Nat)) ∈ lw_all := lw_g (lw_at lw_m7 82 rfl) rfl
theorem q1623 : (Jvm.Cond.methodLinkNest "LassoFinder$FormulaReader" (98 : Nat) ({ cls := "LassoFinder$Not", name := "<init>", desc := "(LLassoFinder$Formula;)V" } : Jvm.MethodName) "LassoFinder") ∈ lw_tbl := lw_at lw_m7 83 rfl
theorem q1624 : (Jvm.Cond.instanceMethod ({ cls := "LassoFinder$Not", name := "<init>", desc := "(LLassoFinder$Formula;)V" } : Jvm.MethodName)) ∈ lw_all := lw_g (lw_at lw_m7 84 rfl) rfl
theorem q1631 : (Jvm.Cond.methodLink "LassoFinder$FormulaReader" (84 : Nat) ({ cls := "LassoFinder$FormulaReader", name := "close", desc := "(CLLassoFinder$Formula;LLassoFinder$Formula;)LLassoFinder$Formula;" } : Jvm.MethodName)) ∈ lw_all := lw_g (lw_at lw_m7 91 rfl) rfl
theorem q1633 : (Jvm.Cond.instanceMethod ({ cls := "LassoFinder$FormulaReader", name := "close", desc := "(CLLassoFinder$Formula;LLassoFinder$Formula;)LLassoFinder$Formula;" } : Jvm.MethodName)) ∈ lw_all := lw_g (lw_at lw_m7 93 rfl) rfl
theorem q1653 : (Jvm.Cond.methodLink "LassoFinder$FormulaReader" (57 : Nat) ({ cls := "LassoFinder$FormulaReader", name := "take", desc := "(C)Z" } : Jvm.MethodName)) ∈ lw_all := lw_g (lw_at lw_m7 113 rfl) rfl
theorem q1654 : (Jvm.Cond.sameMethod "LassoFinder$FormulaReader" "LassoFinder$Reader" "take" "(C)Z") ∈ lw_all := lw_g (lw_at lw_m7 114 rfl) rfl
theorem q1655 : (Jvm.Cond.selects "LassoFinder$FormulaReader" ({ cls := "LassoFinder$FormulaReader", name := "take", desc := "(C)Z" } : Jvm.MethodName) ({ cls := "LassoFinder$Reader", name := "take", desc := "(C)Z" } : Jvm.MethodName)) ∈ lw_all := lw_g (lw_at lw_m7 115 rfl) rfl
theorem q1656 : (Jvm.Cond.classLink "LassoFinder$FormulaReader" (61 : Nat) "LassoFinder$Both") ∈ lw_all := lw_g (lw_at lw_m7 116 rfl) rfl
theorem q1657 : (Jvm.Cond.instantiable "LassoFinder$Both" (3 : Nat)) ∈ lw_all := lw_g (lw_at lw_m7 117 rfl) rfl
theorem q1658 : (Jvm.Cond.methodLinkNest "LassoFinder$FormulaReader" (63 : Nat) ({ cls := "LassoFinder$Both", name := "<init>", desc := "(CLLassoFinder$Formula;LLassoFinder$Formula;)V" } : Jvm.MethodName) "LassoFinder") ∈ lw_tbl := lw_at lw_m7 118 rfl
theorem q1659 : (Jvm.Cond.instanceMethod ({ cls := "LassoFinder$Both", name := "<init>", desc := "(CLLassoFinder$Formula;LLassoFinder$Formula;)V" } : Jvm.MethodName)) ∈ lw_all := lw_g (lw_at lw_m7 119 rfl) rfl
abbrev cX7_and : ByteArray := prog_7_method_5_code
def yX7_and : MethodName := ⟨RX7, "and", "(LLassoFinder$FormulaReader;I)LLassoFinder$Formula;"⟩
theorem dX7_and_0 : decode cX7_and 0 = .ok (.aload_n 0, 1) := by decide +kernel
theorem dX7_and_1 : decode cX7_and 1 = .ok (.iload_n 1, 1) := by decide +kernel
theorem dX7_and_2 : decode cX7_and 2 = .ok (.invokestatic 74, 3) := by decide +kernel
theorem dX7_and_5 : decode cX7_and 5 = .ok (.astore_n 2, 1) := by decide +kernel
theorem dX7_and_6 : decode cX7_and 6 = .ok (.aload_n 0, 1) := by decide +kernel
theorem dX7_and_7 : decode cX7_and 7 = .ok (.bipush 38, 2) := by decide +kernel
theorem dX7_and_9 : decode cX7_and 9 = .ok (.invokevirtual 57, 3) := by decide +kernel
theorem dX7_and_12 : decode cX7_and 12 = .ok (.ifCond .eq 22, 3) := by decide +kernel
theorem dX7_and_15 : decode cX7_and 15 = .ok (.new 61, 3) := by decide +kernel
theorem dX7_and_18 : decode cX7_and 18 = .ok (.dup, 1) := by decide +kernel
theorem dX7_and_19 : decode cX7_and 19 = .ok (.bipush 38, 2) := by decide +kernel
theorem dX7_and_21 : decode cX7_and 21 = .ok (.aload_n 2, 1) := by decide +kernel
theorem dX7_and_22 : decode cX7_and 22 = .ok (.aload_n 0, 1) := by decide +kernel
theorem dX7_and_23 : decode cX7_and 23 = .ok (.iload_n 1, 1) := by decide +kernel
theorem dX7_and_24 : decode cX7_and 24 = .ok (.invokestatic 74, 3) := by decide +kernel
theorem dX7_and_27 : decode cX7_and 27 = .ok (.invokespecial 63, 3) := by decide +kernel
theorem dX7_and_30 : decode cX7_and 30 = .ok (.astore_n 2, 1) := by decide +kernel
theorem dX7_and_31 : decode cX7_and 31 = .ok (.goto (-25), 3) := by decide +kernel
theorem dX7_and_34 : decode cX7_and 34 = .ok (.aload_n 2, 1) := by decide +kernel
theorem dX7_and_35 : decode cX7_and 35 = .ok (.areturn, 1) := by decide +kernel
abbrev MX7_and : zT := (yX7_and, cX7_and, 3, (Option.some (Jvm.ClassFile.FieldType.object "LassoFinder$Formula")), [])
theorem plX7_and : zplain MX7_and 2 ∧ (zcodeW MX7_and ∈ lw_all ∧ Cond.initialized MX7_and.1.cls ∈ lw_all) := ⟨⟨by decide +kernel, by decide +kernel⟩, q1563, q125⟩
abbrev cX7_implied : ByteArray := prog_7_method_4_code
def yX7_implied : MethodName := ⟨RX7, "implied", "(LLassoFinder$FormulaReader;I)LLassoFinder$Formula;"⟩
theorem dX7_implied_0 : decode cX7_implied 0 = .ok (.aload_n 0, 1) := by decide +kernel
theorem dX7_implied_1 : decode cX7_implied 1 = .ok (.iload_n 1, 1) := by decide +kernel
theorem dX7_implied_2 : decode cX7_implied 2 = .ok (.invokestatic 54, 3) := by decide +kernel
theorem dX7_implied_5 : decode cX7_implied 5 = .ok (.astore_n 2, 1) := by decide +kernel
theorem dX7_implied_6 : decode cX7_implied 6 = .ok (.aload_n 0, 1) := by decide +kernel
theorem dX7_implied_7 : decode cX7_implied 7 = .ok (.bipush 124, 2) := by decide +kernel
theorem dX7_implied_9 : decode cX7_implied 9 = .ok (.invokevirtual 57, 3) := by decide +kernel
theorem dX7_implied_12 : decode cX7_implied 12 = .ok (.ifCond .eq 22, 3) := by decide +kernel
theorem dX7_implied_15 : decode cX7_implied 15 = .ok (.new 61, 3) := by decide +kernel
theorem dX7_implied_18 : decode cX7_implied 18 = .ok (.dup, 1) := by decide +kernel
theorem dX7_implied_19 : decode cX7_implied 19 = .ok (.bipush 124, 2) := by decide +kernel
theorem dX7_implied_21 : decode cX7_implied 21 = .ok (.aload_n 2, 1) := by decide +kernel
theorem dX7_implied_22 : decode cX7_implied 22 = .ok (.aload_n 0, 1) := by decide +kernel
theorem dX7_implied_23 : decode cX7_implied 23 = .ok (.iload_n 1, 1) := by decide +kernel
theorem dX7_implied_24 : decode cX7_implied 24 = .ok (.invokestatic 54, 3) := by decide +kernel
theorem dX7_implied_27 : decode cX7_implied 27 = .ok (.invokespecial 63, 3) := by decide +kernel
theorem dX7_implied_30 : decode cX7_implied 30 = .ok (.astore_n 2, 1) := by decide +kernel
theorem dX7_implied_31 : decode cX7_implied 31 = .ok (.goto (-25), 3) := by decide +kernel
theorem dX7_implied_34 : decode cX7_implied 34 = .ok (.aload_n 0, 1) := by decide +kernel
theorem dX7_implied_35 : decode cX7_implied 35 = .ok (.invokevirtual 66, 3) := by decide +kernel
theorem dX7_implied_38 : decode cX7_implied 38 = .ok (.bipush 62, 2) := by decide +kernel
theorem dX7_implied_40 : decode cX7_implied 40 = .ok (.if_icmp .ne 25, 3) := by decide +kernel
theorem dX7_implied_43 : decode cX7_implied 43 = .ok (.new 61, 3) := by decide +kernel
theorem dX7_implied_46 : decode cX7_implied 46 = .ok (.dup, 1) := by decide +kernel
theorem dX7_implied_47 : decode cX7_implied 47 = .ok (.bipush 62, 2) := by decide +kernel
theorem dX7_implied_49 : decode cX7_implied 49 = .ok (.aload_n 2, 1) := by decide +kernel
theorem dX7_implied_50 : decode cX7_implied 50 = .ok (.aload_n 0, 1) := by decide +kernel
theorem dX7_implied_51 : decode cX7_implied 51 = .ok (.aload_n 0, 1) := by decide +kernel
theorem dX7_implied_52 : decode cX7_implied 52 = .ok (.iload_n 1, 1) := by decide +kernel
theorem dX7_implied_53 : decode cX7_implied 53 = .ok (.invokevirtual 70, 3) := by decide +kernel
theorem dX7_implied_56 : decode cX7_implied 56 = .ok (.invokestatic 33, 3) := by decide +kernel
theorem dX7_implied_59 : decode cX7_implied 59 = .ok (.invokespecial 63, 3) := by decide +kernel
theorem dX7_implied_62 : decode cX7_implied 62 = .ok (.goto 4, 3) := by decide +kernel
theorem dX7_implied_65 : decode cX7_implied 65 = .ok (.aload_n 2, 1) := by decide +kernel
theorem dX7_implied_66 : decode cX7_implied 66 = .ok (.areturn, 1) := by decide +kernel
abbrev MX7_implied : zT := (yX7_implied, cX7_implied, 3, (Option.some (Jvm.ClassFile.FieldType.object "LassoFinder$Formula")), [])
theorem plX7_implied : zplain MX7_implied 2 ∧ (zcodeW MX7_implied ∈ lw_all ∧ Cond.initialized MX7_implied.1.cls ∈ lw_all) := ⟨⟨by decide +kernel, by decide +kernel⟩, q1560, q125⟩
abbrev cX7_unit : ByteArray := prog_7_method_7_code
def yX7_unit : MethodName := ⟨RX7, "unit", "(LLassoFinder$FormulaReader;I)LLassoFinder$Formula;"⟩
theorem dX7_unit_0 : decode cX7_unit 0 = .ok (.aload_n 0, 1) := by decide +kernel
theorem dX7_unit_1 : decode cX7_unit 1 = .ok (.invokevirtual 66, 3) := by decide +kernel
theorem dX7_unit_4 : decode cX7_unit 4 = .ok (.istore_n 2, 1) := by decide +kernel
theorem dX7_unit_5 : decode cX7_unit 5 = .ok (.iload_n 2, 1) := by decide +kernel
theorem dX7_unit_6 : decode cX7_unit 6 = .ok (.bipush 123, 2) := by decide +kernel
theorem dX7_unit_8 : decode cX7_unit 8 = .ok (.if_icmp .eq 9, 3) := by decide +kernel
theorem dX7_unit_11 : decode cX7_unit 11 = .ok (.iload_n 2, 1) := by decide +kernel
theorem dX7_unit_12 : decode cX7_unit 12 = .ok (.bipush 64, 2) := by decide +kernel
theorem dX7_unit_14 : decode cX7_unit 14 = .ok (.if_icmp .ne 9, 3) := by decide +kernel
theorem dX7_unit_17 : decode cX7_unit 17 = .ok (.aload_n 0, 1) := by decide +kernel
theorem dX7_unit_18 : decode cX7_unit 18 = .ok (.iload_n 2, 1) := by decide +kernel
theorem dX7_unit_19 : decode cX7_unit 19 = .ok (.invokevirtual 88, 3) := by decide +kernel
theorem dX7_unit_22 : decode cX7_unit 22 = .ok (.areturn, 1) := by decide +kernel
theorem dX7_unit_23 : decode cX7_unit 23 = .ok (.iload_n 2, 1) := by decide +kernel
theorem dX7_unit_24 : decode cX7_unit 24 = .ok (.bipush 33, 2) := by decide +kernel
theorem dX7_unit_26 : decode cX7_unit 26 = .ok (.if_icmp .eq 21, 3) := by decide +kernel
theorem dX7_unit_29 : decode cX7_unit 29 = .ok (.iload_n 2, 1) := by decide +kernel
theorem dX7_unit_30 : decode cX7_unit 30 = .ok (.bipush 71, 2) := by decide +kernel
theorem dX7_unit_32 : decode cX7_unit 32 = .ok (.if_icmp .eq 15, 3) := by decide +kernel
theorem dX7_unit_35 : decode cX7_unit 35 = .ok (.iload_n 2, 1) := by decide +kernel
theorem dX7_unit_36 : decode cX7_unit 36 = .ok (.bipush 70, 2) := by decide +kernel
theorem dX7_unit_38 : decode cX7_unit 38 = .ok (.if_icmp .eq 9, 3) := by decide +kernel
theorem dX7_unit_41 : decode cX7_unit 41 = .ok (.iload_n 2, 1) := by decide +kernel
theorem dX7_unit_42 : decode cX7_unit 42 = .ok (.bipush 40, 2) := by decide +kernel
theorem dX7_unit_44 : decode cX7_unit 44 = .ok (.if_icmp .ne 7, 3) := by decide +kernel
theorem dX7_unit_47 : decode cX7_unit 47 = .ok (.iconst 1, 1) := by decide +kernel
theorem dX7_unit_48 : decode cX7_unit 48 = .ok (.goto 4, 3) := by decide +kernel
theorem dX7_unit_51 : decode cX7_unit 51 = .ok (.iconst 0, 1) := by decide +kernel
theorem dX7_unit_52 : decode cX7_unit 52 = .ok (.invokestatic 50, 3) := by decide +kernel
theorem dX7_unit_55 : decode cX7_unit 55 = .ok (.iload_n 2, 1) := by decide +kernel
theorem dX7_unit_56 : decode cX7_unit 56 = .ok (.bipush 71, 2) := by decide +kernel
theorem dX7_unit_58 : decode cX7_unit 58 = .ok (.if_icmp .eq 9, 3) := by decide +kernel
theorem dX7_unit_61 : decode cX7_unit 61 = .ok (.iload_n 2, 1) := by decide +kernel
theorem dX7_unit_62 : decode cX7_unit 62 = .ok (.bipush 70, 2) := by decide +kernel
theorem dX7_unit_64 : decode cX7_unit 64 = .ok (.if_icmp .ne 7, 3) := by decide +kernel
theorem dX7_unit_67 : decode cX7_unit 67 = .ok (.aload_n 0, 1) := by decide +kernel
theorem dX7_unit_68 : decode cX7_unit 68 = .ok (.invokevirtual 80, 3) := by decide +kernel
theorem dX7_unit_71 : decode cX7_unit 71 = .ok (.aload_n 0, 1) := by decide +kernel
theorem dX7_unit_72 : decode cX7_unit 72 = .ok (.iload_n 1, 1) := by decide +kernel
theorem dX7_unit_73 : decode cX7_unit 73 = .ok (.invokevirtual 70, 3) := by decide +kernel
theorem dX7_unit_76 : decode cX7_unit 76 = .ok (.istore_n 3, 1) := by decide +kernel
theorem dX7_unit_77 : decode cX7_unit 77 = .ok (.iload_n 2, 1) := by decide +kernel
theorem dX7_unit_78 : decode cX7_unit 78 = .ok (.bipush 40, 2) := by decide +kernel
theorem dX7_unit_80 : decode cX7_unit 80 = .ok (.if_icmp .ne 19, 3) := by decide +kernel
theorem dX7_unit_83 : decode cX7_unit 83 = .ok (.aload_n 0, 1) := by decide +kernel
theorem dX7_unit_84 : decode cX7_unit 84 = .ok (.iload_n 3, 1) := by decide +kernel
theorem dX7_unit_85 : decode cX7_unit 85 = .ok (.invokestatic 33, 3) := by decide +kernel
theorem dX7_unit_88 : decode cX7_unit 88 = .ok (.astore 4, 2) := by decide +kernel
theorem dX7_unit_90 : decode cX7_unit 90 = .ok (.aload_n 0, 1) := by decide +kernel
theorem dX7_unit_91 : decode cX7_unit 91 = .ok (.bipush 41, 2) := by decide +kernel
theorem dX7_unit_93 : decode cX7_unit 93 = .ok (.invokevirtual 92, 3) := by decide +kernel
theorem dX7_unit_96 : decode cX7_unit 96 = .ok (.aload 4, 2) := by decide +kernel
theorem dX7_unit_98 : decode cX7_unit 98 = .ok (.areturn, 1) := by decide +kernel
theorem dX7_unit_99 : decode cX7_unit 99 = .ok (.aload_n 0, 1) := by decide +kernel
theorem dX7_unit_100 : decode cX7_unit 100 = .ok (.iload_n 3, 1) := by decide +kernel
theorem dX7_unit_101 : decode cX7_unit 101 = .ok (.invokestatic 77, 3) := by decide +kernel
theorem dX7_unit_104 : decode cX7_unit 104 = .ok (.astore 4, 2) := by decide +kernel
theorem dX7_unit_106 : decode cX7_unit 106 = .ok (.iload_n 2, 1) := by decide +kernel
theorem dX7_unit_107 : decode cX7_unit 107 = .ok (.bipush 33, 2) := by decide +kernel
theorem dX7_unit_109 : decode cX7_unit 109 = .ok (.if_icmp .ne 15, 3) := by decide +kernel
theorem dX7_unit_112 : decode cX7_unit 112 = .ok (.new 96, 3) := by decide +kernel
theorem dX7_unit_115 : decode cX7_unit 115 = .ok (.dup, 1) := by decide +kernel
theorem dX7_unit_116 : decode cX7_unit 116 = .ok (.aload 4, 2) := by decide +kernel
theorem dX7_unit_118 : decode cX7_unit 118 = .ok (.invokespecial 98, 3) := by decide +kernel
theorem dX7_unit_121 : decode cX7_unit 121 = .ok (.goto 12, 3) := by decide +kernel
theorem dX7_unit_124 : decode cX7_unit 124 = .ok (.aload_n 0, 1) := by decide +kernel
theorem dX7_unit_125 : decode cX7_unit 125 = .ok (.iload_n 2, 1) := by decide +kernel
theorem dX7_unit_126 : decode cX7_unit 126 = .ok (.aload 4, 2) := by decide +kernel
theorem dX7_unit_128 : decode cX7_unit 128 = .ok (.aload 4, 2) := by decide +kernel
theorem dX7_unit_130 : decode cX7_unit 130 = .ok (.invokevirtual 84, 3) := by decide +kernel
theorem dX7_unit_133 : decode cX7_unit 133 = .ok (.areturn, 1) := by decide +kernel
abbrev MX7_unit : zT := (yX7_unit, cX7_unit, 5, (Option.some (Jvm.ClassFile.FieldType.object "LassoFinder$Formula")), [])
theorem plX7_unit : zplain MX7_unit 2 ∧ (zcodeW MX7_unit ∈ lw_all ∧ Cond.initialized MX7_unit.1.cls ∈ lw_all) := ⟨⟨by decide +kernel, by decide +kernel⟩, q1569, q125⟩
abbrev cX7_until : ByteArray := prog_7_method_6_code
def yX7_until : MethodName := ⟨RX7, "until", "(LLassoFinder$FormulaReader;I)LLassoFinder$Formula;"⟩
theorem dX7_until_0 : decode cX7_until 0 = .ok (.aload_n 0, 1) := by decide +kernel
theorem dX7_until_1 : decode cX7_until 1 = .ok (.iload_n 1, 1) := by decide +kernel
theorem dX7_until_2 : decode cX7_until 2 = .ok (.invokestatic 77, 3) := by decide +kernel
theorem dX7_until_5 : decode cX7_until 5 = .ok (.astore_n 2, 1) := by decide +kernel
theorem dX7_until_6 : decode cX7_until 6 = .ok (.aload_n 0, 1) := by decide +kernel
theorem dX7_until_7 : decode cX7_until 7 = .ok (.invokevirtual 66, 3) := by decide +kernel
theorem dX7_until_10 : decode cX7_until 10 = .ok (.istore_n 3, 1) := by decide +kernel
theorem dX7_until_11 : decode cX7_until 11 = .ok (.iload_n 3, 1) := by decide +kernel
theorem dX7_until_12 : decode cX7_until 12 = .ok (.bipush 85, 2) := by decide +kernel
theorem dX7_until_14 : decode cX7_until 14 = .ok (.if_icmp .eq 11, 3) := by decide +kernel
theorem dX7_until_17 : decode cX7_until 17 = .ok (.iload_n 3, 1) := by decide +kernel
theorem dX7_until_18 : decode cX7_until 18 = .ok (.bipush 82, 2) := by decide +kernel
theorem dX7_until_20 : decode cX7_until 20 = .ok (.if_icmp .eq 5, 3) := by decide +kernel
theorem dX7_until_23 : decode cX7_until 23 = .ok (.aload_n 2, 1) := by decide +kernel
theorem dX7_until_24 : decode cX7_until 24 = .ok (.areturn, 1) := by decide +kernel
theorem dX7_until_25 : decode cX7_until 25 = .ok (.aload_n 0, 1) := by decide +kernel
theorem dX7_until_26 : decode cX7_until 26 = .ok (.invokevirtual 80, 3) := by decide +kernel
theorem dX7_until_29 : decode cX7_until 29 = .ok (.aload_n 0, 1) := by decide +kernel
theorem dX7_until_30 : decode cX7_until 30 = .ok (.iload_n 3, 1) := by decide +kernel
theorem dX7_until_31 : decode cX7_until 31 = .ok (.aload_n 2, 1) := by decide +kernel
theorem dX7_until_32 : decode cX7_until 32 = .ok (.aload_n 0, 1) := by decide +kernel
theorem dX7_until_33 : decode cX7_until 33 = .ok (.aload_n 0, 1) := by decide +kernel
theorem dX7_until_34 : decode cX7_until 34 = .ok (.iload_n 1, 1) := by decide +kernel
theorem dX7_until_35 : decode cX7_until 35 = .ok (.invokevirtual 70, 3) := by decide +kernel
theorem dX7_until_38 : decode cX7_until 38 = .ok (.invokestatic 74, 3) := by decide +kernel
theorem dX7_until_41 : decode cX7_until 41 = .ok (.invokevirtual 84, 3) := by decide +kernel
theorem dX7_until_44 : decode cX7_until 44 = .ok (.areturn, 1) := by decide +kernel
abbrev MX7_until : zT := (yX7_until, cX7_until, 4, (Option.some (Jvm.ClassFile.FieldType.object "LassoFinder$Formula")), [])
theorem plX7_until : zplain MX7_until 2 ∧ (zcodeW MX7_until ∈ lw_all ∧ Cond.initialized MX7_until.1.cls ∈ lw_all) := ⟨⟨by decide +kernel, by decide +kernel⟩, q1566, q125⟩
def RC_G_X7_and (g : zG) (lv : Nat) (rc : Nat → List Int → zM → Option zO) : Prop :=
  (∀ {x0 x1 : Int} {σ : zM} {out : zO}, rc 0 [x0, x1] σ = some out → Cj g lv MX7_and [zr x0, zi x1] σ out) ∧
  (∀ {x0 x1 : Int} {σ : zM} {out : zO}, rc 1 [x0, x1] σ = some out → Cj g lv MX7_implied [zr x0, zi x1] σ out) ∧
  (∀ {x0 x1 : Int} {σ : zM} {out : zO}, rc 2 [x0, x1] σ = some out → Cj g lv MX7_unit [zr x0, zi x1] σ out) ∧
  (∀ {x0 x1 : Int} {σ : zM} {out : zO}, rc 3 [x0, x1] σ = some out → Cj g lv MX7_until [zr x0, zi x1] σ out) ∧ True
noncomputable def f_X7_and_34 (rc : Nat → List Int → zM → Option zO) (x2 : Int) (σ : zM) : Option zO :=
  some (0, zr x2, σ)
theorem w_X7_and_34 {g : zG} {lv : Nat} {out : zO} (rc : Nat → List Int → zM → Option zO) (hrc : RC_G_X7_and g (lv + 49) rc) (x2 : Int) (σ : zM) {r : zO} (h : f_X7_and_34 rc x2 σ = some r) (hk : (fun o : zO => o = out) r) : Gj g MX7_and (lv + 50) 34 [(2, zr x2)] [] σ out := by
  revert h
  unfold f_X7_and_34
  refine zst_ (gj_aload_n 0 (pc := 34) dX7_and_34 rfl) ?_
  intro h
  cases h
  have hk : (0, zr x2, σ) = out := hk
  subst hk
  exact gj_aret (pc := 35) dX7_and_35 rfl (Or.inl ⟨_, rfl⟩)
noncomputable def f_X7_and_6_b (rc : Nat → List Int → zM → Option zO) (x0 x1 x2 : Int) (σ : zM) : Option ((Int × zM) ⊕ zO) :=
  zgd (zis σ 8 x0) <|
  zci (f_X5_take x0 38 σ) fun v1 σ2 =>
  if v1 = 0 then
    (f_X7_and_34 rc x2 σ2).map (fun r => (.inr r))
  else
    (znO σ2 19 3).bind fun σ3 =>
    zlet ((↑(zN σ2) : Int)) fun y4 =>
    zcrT (rc 3 [x0, x1] σ3) (fun n a σ6 => some (.inr (n + 1, zr a, σ6))) fun v5 σ6 =>
    zgd (decide (0 ≤ y4)) <|
    zcv (f_X19_init y4 38 x2 v5 σ6) fun σ7 =>
    some (.inl (y4, σ7))
noncomputable def f_X7_and_6 (rc : Nat → List Int → zM → Option zO) (x0 x1 x2 : Int) (σ : zM) : Option zO :=
  zloop (fun s : Int × zM => f_X7_and_6_b rc x0 x1 s.1 s.2) (x2, σ)
theorem w_X7_and_6_b {g : zG} {lv : Nat} {out : zO} (rc : Nat → List Int → zM → Option zO) (hrc : RC_G_X7_and g (lv + 49) rc) (x0 x1 x2 : Int) (σ : zM) {r : ((Int × zM) ⊕ zO)} (h : f_X7_and_6_b rc x0 x1 x2 σ = some r) (hk : (zKL (fun s : Int × zM => Gj g MX7_and (lv + 50) 6 [(0, zr x0), (1, zi x1), (2, zr s.1)] [] s.2 out) (fun o : zO => o = out)) r) : Gj g MX7_and (lv + 50) 6 [(0, zr x0), (1, zi x1), (2, zr x2)] [] σ out := by
  revert h
  unfold f_X7_and_6_b
  refine zst_ (gj_aload_n 0 (pc := 6) dX7_and_6 rfl) ?_
  refine zst_ (gj_bipush (pc := 7) dX7_and_7 ⟨rfl, by decide⟩) ?_
  refine gb_gd (fun hb => ?_)
  refine gb_callI (pc := 9) (as := [zr x0, zi 38]) (rest := []) (zCl.of (zLk_VU (M := MX7_and) (ci := 7) (r := (RX7, TX7, 10)) (x := ⟨"LassoFinder$FormulaReader", "take", "(C)Z"⟩) plX5_take.1 ⟨rfl, rfl⟩ rfl rfl (zisE hb).1 (zisE hb).2 dX7_and_9 q1653 q1654 q1080 q1655 q1081) plX5_take (Nat.le_of_ble_eq_true rfl) (fun h => c_X5_take h)) (fun v1 σ2 => ?_)
  refine gb_if (gj_if_eq 34 (pc := 12) dX7_and_12 (by decide)) ?_ ?_
  · refine zst_ (gj_sub [2] rfl) ?_
    intro h
    obtain ⟨r0, h0, rfl⟩ := zmE h
    exact w_X7_and_34 rc hrc x2 σ2 h0 hk
  · refine gb_new (pc := 15) (ci := 19) (c := (RX19, TX19, 3)) rfl (by decide) dX7_and_15 q1656 q1657 q145 (fun σ3 => ?_)
    refine gb_let (fun y4 => ?_)
    refine zst_ (gj_dup (pc := 18) dX7_and_18 rfl) ?_
    refine zst_ (gj_bipush (pc := 19) dX7_and_19 ⟨rfl, by decide⟩) ?_
    refine zst_ (gj_aload_n 2 (pc := 21) dX7_and_21 rfl) ?_
    refine zst_ (gj_aload_n 0 (pc := 22) dX7_and_22 rfl) ?_
    refine zst_ (gj_iload_n 1 (pc := 23) dX7_and_23 rfl) ?_
    refine gb_callAT (pc := 24) (as := [zr x0, zi x1]) (rest := [zr x2, zi 38, zr y4, zr y4]) (zCl.of (zLk_S (M := MX7_and) plX7_until.1 rfl dX7_and_24 q1564 q1565 q125 q1566) plX7_until (Nat.le_of_ble_eq_true rfl) (fun h => hrc.2.2.2.1 h)) (fun n a s0 h => by cases h; exact Or.inl ⟨rfl, hk⟩) (fun v5 σ6 => ?_)
    refine gb_gd (fun hb => ?_)
    refine gb_callV (pc := 27) (as := [zr y4, zi 38, zr x2, zr v5]) (rest := [zr y4]) (zCl.of (zLk_IN (M := MX7_and) plX19_init.1 rfl (of_decide_eq_true hb) rfl rfl dX7_and_27 q1658 q1659 q1660) plX19_init (Nat.le_of_ble_eq_true rfl) (fun h => c_X19_init h)) (fun σ7 => ?_)
    refine zst_ (gj_astore_n (pc := 30) (ls' := [(2, zr y4), (0, zr x0), (1, zi x1)]) dX7_and_30 (by decide) rfl) ?_
    refine zst_ (gj_goto 6 (pc := 31) dX7_and_31 (by decide)) ?_
    refine zst_ (gj_sub [1, 2, 0] rfl) ?_
    intro h
    cases h
    exact hk
theorem w_X7_and_6 {g : zG} {lv : Nat} {out : zO} (rc : Nat → List Int → zM → Option zO) (hrc : RC_G_X7_and g (lv + 49) rc) (x0 x1 x2 : Int) (σ : zM) {r : zO} (h : f_X7_and_6 rc x0 x1 x2 σ = some r) (hk : (fun o : zO => o = out) r) : Gj g MX7_and (lv + 50) 6 [(0, zr x0), (1, zi x1), (2, zr x2)] [] σ out :=
  gj_loop (P := (fun s : Int × zM => Gj g MX7_and (lv + 50) 6 [(0, zr x0), (1, zi x1), (2, zr s.1)] [] s.2 out)) (fun s x hb hx => w_X7_and_6_b rc hrc x0 x1 s.1 s.2 hb hx) h hk
noncomputable def f_X7_and (rc : Nat → List Int → zM → Option zO) (x0 x1 : Int) (σ : zM) : Option zO :=
  zcrT (rc 3 [x0, x1] σ) (fun n a σ2 => some (n + 1, zr a, σ2)) fun v1 σ2 =>
  f_X7_and_6 rc x0 x1 v1 σ2
theorem c_X7_and {g : zG} {lv : Nat} {rc : Nat → List Int → zM → Option zO} (hrc : RC_G_X7_and g (lv + 49) rc) {x0 x1 : Int} {σ : zM} {out : zO} (h : f_X7_and rc x0 x1 σ = some out) : Cj g (lv + 50) MX7_and [zr x0, zi x1] σ out := by
  refine cj_go (ls := [(0, zr x0), (1, zi x1)]) (by decide) (Nat.le_of_ble_eq_true rfl) rfl (zgen h (fun r hk => ?_))
  unfold f_X7_and
  refine zst_ (gj_aload_n 0 (pc := 0) dX7_and_0 rfl) ?_
  refine zst_ (gj_iload_n 1 (pc := 1) dX7_and_1 rfl) ?_
  refine gb_callAT (pc := 2) (as := [zr x0, zi x1]) (rest := []) (zCl.of (zLk_S (M := MX7_and) plX7_until.1 rfl dX7_and_2 q1564 q1565 q125 q1566) plX7_until (Nat.le_of_ble_eq_true rfl) (fun h => hrc.2.2.2.1 h)) (fun n a s0 h => by cases h; exact Or.inl ⟨rfl, hk⟩) (fun v1 σ2 => ?_)
  refine zst_ (gj_astore_n (pc := 5) (ls' := [(2, zr v1), (0, zr x0), (1, zi x1)]) dX7_and_5 (by decide) rfl) ?_
  refine zst_ (gj_sub [1, 2, 0] rfl) ?_
  exact fun h => w_X7_and_6 rc hrc x0 x1 v1 σ2 h hk
noncomputable def f_X7_implied_66 (rc : Nat → List Int → zM → Option zO) (t0 : Int) (σ : zM) : Option zO :=
  some (0, zr t0, σ)
theorem w_X7_implied_66 {g : zG} {lv : Nat} {out : zO} (rc : Nat → List Int → zM → Option zO) (hrc : RC_G_X7_and g (lv + 49) rc) (t0 : Int) (σ : zM) {r : zO} (h : f_X7_implied_66 rc t0 σ = some r) (hk : (fun o : zO => o = out) r) : Gj g MX7_implied (lv + 50) 66 [] [zr t0] σ out := by
  revert h
  unfold f_X7_implied_66
  intro h
  cases h
  have hk : (0, zr t0, σ) = out := hk
  subst hk
  exact gj_aret (pc := 66) dX7_implied_66 rfl (Or.inl ⟨_, rfl⟩)
noncomputable def f_X7_implied_34 (rc : Nat → List Int → zM → Option zO) (x0 x1 x2 : Int) (σ : zM) : Option zO :=
  zgd (zis σ 8 x0) <|
  zci (f_X5_now x0 σ) fun v1 σ2 =>
  if v1 ≠ 62 then
    f_X7_implied_66 rc x2 σ2
  else
    (znO σ2 19 3).bind fun σ3 =>
    zlet ((↑(zN σ2) : Int)) fun y4 =>
    zgd (zis σ3 8 x0) <|
    zciT (f_X7_deeper x0 x1 σ3) (fun n a σ6 => some (n + 1, zr a, σ6)) fun v5 σ6 =>
    zcrT (rc 1 [x0, v5] σ6) (fun n a σ8 => some (n + 1, zr a, σ8)) fun v7 σ8 =>
    zgd (decide (0 ≤ y4)) <|
    zcv (f_X19_init y4 62 x2 v7 σ8) fun σ9 =>
    f_X7_implied_66 rc y4 σ9
theorem w_X7_implied_34 {g : zG} {lv : Nat} {out : zO} (rc : Nat → List Int → zM → Option zO) (hrc : RC_G_X7_and g (lv + 49) rc) (x0 x1 x2 : Int) (σ : zM) {r : zO} (h : f_X7_implied_34 rc x0 x1 x2 σ = some r) (hk : (fun o : zO => o = out) r) : Gj g MX7_implied (lv + 50) 34 [(0, zr x0), (1, zi x1), (2, zr x2)] [] σ out := by
  revert h
  unfold f_X7_implied_34
  refine zst_ (gj_aload_n 0 (pc := 34) dX7_implied_34 rfl) ?_
  refine gb_gd (fun hb => ?_)
  refine gb_callI (pc := 35) (as := [zr x0]) (rest := []) (zCl.of (zLk_VU (M := MX7_implied) (ci := 7) (r := (RX7, TX7, 10)) (x := ⟨"LassoFinder$FormulaReader", "now", "()C"⟩) plX5_now.1 ⟨rfl, rfl⟩ rfl rfl (zisE hb).1 (zisE hb).2 dX7_implied_35 q1570 q1571 q1054 q1572 q1055) plX5_now (Nat.le_of_ble_eq_true rfl) (fun h => c_X5_now h)) (fun v1 σ2 => ?_)
  refine zst_ (gj_bipush (pc := 38) dX7_implied_38 ⟨rfl, by decide⟩) ?_
  refine gb_if (gj_icmp_ne 65 (pc := 40) dX7_implied_40 (by decide)) ?_ ?_
  · refine zst_ (gj_aload_n 2 (pc := 65) dX7_implied_65 rfl) ?_
    refine zst_ (gj_sub [] rfl) ?_
    exact fun h => w_X7_implied_66 rc hrc x2 σ2 h hk
  · refine gb_new (pc := 43) (ci := 19) (c := (RX19, TX19, 3)) rfl (by decide) dX7_implied_43 q1656 q1657 q145 (fun σ3 => ?_)
    refine gb_let (fun y4 => ?_)
    refine zst_ (gj_dup (pc := 46) dX7_implied_46 rfl) ?_
    refine zst_ (gj_bipush (pc := 47) dX7_implied_47 ⟨rfl, by decide⟩) ?_
    refine zst_ (gj_aload_n 2 (pc := 49) dX7_implied_49 rfl) ?_
    refine zst_ (gj_aload_n 0 (pc := 50) dX7_implied_50 rfl) ?_
    refine zst_ (gj_aload_n 0 (pc := 51) dX7_implied_51 rfl) ?_
    refine zst_ (gj_iload_n 1 (pc := 52) dX7_implied_52 rfl) ?_
    refine gb_gd (fun hb => ?_)
    refine gb_callIT (pc := 53) (as := [zr x0, zi x1]) (rest := [zr x0, zr x2, zi 62, zr y4, zr y4]) (zCl.of (zLk_V (M := MX7_implied) (ci := 7) (r := (RX7, TX7, 10)) plX7_deeper.1 rfl rfl (zisE hb).1 (zisE hb).2 dX7_implied_53 q1617 q1619 qs28 q1620) plX7_deeper (Nat.le_of_ble_eq_true rfl) (fun h => c_X7_deeper h)) (fun n a s0 h => by cases h; exact Or.inl ⟨rfl, hk⟩) (fun v5 σ6 => ?_)
    refine gb_callAT (pc := 56) (as := [zr x0, zi v5]) (rest := [zr x2, zi 62, zr y4, zr y4]) (zCl.of (zLk_S (M := MX7_implied) plX7_implied.1 rfl dX7_implied_56 q1558 q1559 q125 q1560) plX7_implied (Nat.le_of_ble_eq_true rfl) (fun h => hrc.2.1 h)) (fun n a s0 h => by cases h; exact Or.inl ⟨rfl, hk⟩) (fun v7 σ8 => ?_)
    refine gb_gd (fun hb => ?_)
    refine gb_callV (pc := 59) (as := [zr y4, zi 62, zr x2, zr v7]) (rest := [zr y4]) (zCl.of (zLk_IN (M := MX7_implied) plX19_init.1 rfl (of_decide_eq_true hb) rfl rfl dX7_implied_59 q1658 q1659 q1660) plX19_init (Nat.le_of_ble_eq_true rfl) (fun h => c_X19_init h)) (fun σ9 => ?_)
    refine zst_ (gj_goto 66 (pc := 62) dX7_implied_62 (by decide)) ?_
    refine zst_ (gj_sub [] rfl) ?_
    exact fun h => w_X7_implied_66 rc hrc y4 σ9 h hk
noncomputable def f_X7_implied_6_b (rc : Nat → List Int → zM → Option zO) (x0 x1 x2 : Int) (σ : zM) : Option ((Int × zM) ⊕ zO) :=
  zgd (zis σ 8 x0) <|
  zci (f_X5_take x0 124 σ) fun v1 σ2 =>
  if v1 = 0 then
    (f_X7_implied_34 rc x0 x1 x2 σ2).map (fun r => (.inr r))
  else
    (znO σ2 19 3).bind fun σ3 =>
    zlet ((↑(zN σ2) : Int)) fun y4 =>
    zcrT (rc 0 [x0, x1] σ3) (fun n a σ6 => some (.inr (n + 1, zr a, σ6))) fun v5 σ6 =>
    zgd (decide (0 ≤ y4)) <|
    zcv (f_X19_init y4 124 x2 v5 σ6) fun σ7 =>
    some (.inl (y4, σ7))
noncomputable def f_X7_implied_6 (rc : Nat → List Int → zM → Option zO) (x0 x1 x2 : Int) (σ : zM) : Option zO :=
  zloop (fun s : Int × zM => f_X7_implied_6_b rc x0 x1 s.1 s.2) (x2, σ)
theorem w_X7_implied_6_b {g : zG} {lv : Nat} {out : zO} (rc : Nat → List Int → zM → Option zO) (hrc : RC_G_X7_and g (lv + 49) rc) (x0 x1 x2 : Int) (σ : zM) {r : ((Int × zM) ⊕ zO)} (h : f_X7_implied_6_b rc x0 x1 x2 σ = some r) (hk : (zKL (fun s : Int × zM => Gj g MX7_implied (lv + 50) 6 [(0, zr x0), (1, zi x1), (2, zr s.1)] [] s.2 out) (fun o : zO => o = out)) r) : Gj g MX7_implied (lv + 50) 6 [(0, zr x0), (1, zi x1), (2, zr x2)] [] σ out := by
  revert h
  unfold f_X7_implied_6_b
  refine zst_ (gj_aload_n 0 (pc := 6) dX7_implied_6 rfl) ?_
  refine zst_ (gj_bipush (pc := 7) dX7_implied_7 ⟨rfl, by decide⟩) ?_
  refine gb_gd (fun hb => ?_)
  refine gb_callI (pc := 9) (as := [zr x0, zi 124]) (rest := []) (zCl.of (zLk_VU (M := MX7_implied) (ci := 7) (r := (RX7, TX7, 10)) (x := ⟨"LassoFinder$FormulaReader", "take", "(C)Z"⟩) plX5_take.1 ⟨rfl, rfl⟩ rfl rfl (zisE hb).1 (zisE hb).2 dX7_implied_9 q1653 q1654 q1080 q1655 q1081) plX5_take (Nat.le_of_ble_eq_true rfl) (fun h => c_X5_take h)) (fun v1 σ2 => ?_)
  refine gb_if (gj_if_eq 34 (pc := 12) dX7_implied_12 (by decide)) ?_ ?_
  · intro h
    obtain ⟨r0, h0, rfl⟩ := zmE h
    exact w_X7_implied_34 rc hrc x0 x1 x2 σ2 h0 hk
  · refine gb_new (pc := 15) (ci := 19) (c := (RX19, TX19, 3)) rfl (by decide) dX7_implied_15 q1656 q1657 q145 (fun σ3 => ?_)
    refine gb_let (fun y4 => ?_)
    refine zst_ (gj_dup (pc := 18) dX7_implied_18 rfl) ?_
    refine zst_ (gj_bipush (pc := 19) dX7_implied_19 ⟨rfl, by decide⟩) ?_
    refine zst_ (gj_aload_n 2 (pc := 21) dX7_implied_21 rfl) ?_
    refine zst_ (gj_aload_n 0 (pc := 22) dX7_implied_22 rfl) ?_
    refine zst_ (gj_iload_n 1 (pc := 23) dX7_implied_23 rfl) ?_
    refine gb_callAT (pc := 24) (as := [zr x0, zi x1]) (rest := [zr x2, zi 124, zr y4, zr y4]) (zCl.of (zLk_S (M := MX7_implied) plX7_and.1 rfl dX7_implied_24 q1561 q1562 q125 q1563) plX7_and (Nat.le_of_ble_eq_true rfl) (fun h => hrc.1 h)) (fun n a s0 h => by cases h; exact Or.inl ⟨rfl, hk⟩) (fun v5 σ6 => ?_)
    refine gb_gd (fun hb => ?_)
    refine gb_callV (pc := 27) (as := [zr y4, zi 124, zr x2, zr v5]) (rest := [zr y4]) (zCl.of (zLk_IN (M := MX7_implied) plX19_init.1 rfl (of_decide_eq_true hb) rfl rfl dX7_implied_27 q1658 q1659 q1660) plX19_init (Nat.le_of_ble_eq_true rfl) (fun h => c_X19_init h)) (fun σ7 => ?_)
    refine zst_ (gj_astore_n (pc := 30) (ls' := [(2, zr y4), (0, zr x0), (1, zi x1)]) dX7_implied_30 (by decide) rfl) ?_
    refine zst_ (gj_goto 6 (pc := 31) dX7_implied_31 (by decide)) ?_
    refine zst_ (gj_sub [1, 2, 0] rfl) ?_
    intro h
    cases h
    exact hk
theorem w_X7_implied_6 {g : zG} {lv : Nat} {out : zO} (rc : Nat → List Int → zM → Option zO) (hrc : RC_G_X7_and g (lv + 49) rc) (x0 x1 x2 : Int) (σ : zM) {r : zO} (h : f_X7_implied_6 rc x0 x1 x2 σ = some r) (hk : (fun o : zO => o = out) r) : Gj g MX7_implied (lv + 50) 6 [(0, zr x0), (1, zi x1), (2, zr x2)] [] σ out :=
  gj_loop (P := (fun s : Int × zM => Gj g MX7_implied (lv + 50) 6 [(0, zr x0), (1, zi x1), (2, zr s.1)] [] s.2 out)) (fun s x hb hx => w_X7_implied_6_b rc hrc x0 x1 s.1 s.2 hb hx) h hk
noncomputable def f_X7_implied (rc : Nat → List Int → zM → Option zO) (x0 x1 : Int) (σ : zM) : Option zO :=
  zcrT (rc 0 [x0, x1] σ) (fun n a σ2 => some (n + 1, zr a, σ2)) fun v1 σ2 =>
  f_X7_implied_6 rc x0 x1 v1 σ2
theorem c_X7_implied {g : zG} {lv : Nat} {rc : Nat → List Int → zM → Option zO} (hrc : RC_G_X7_and g (lv + 49) rc) {x0 x1 : Int} {σ : zM} {out : zO} (h : f_X7_implied rc x0 x1 σ = some out) : Cj g (lv + 50) MX7_implied [zr x0, zi x1] σ out := by
  refine cj_go (ls := [(0, zr x0), (1, zi x1)]) (by decide) (Nat.le_of_ble_eq_true rfl) rfl (zgen h (fun r hk => ?_))
  unfold f_X7_implied
  refine zst_ (gj_aload_n 0 (pc := 0) dX7_implied_0 rfl) ?_
  refine zst_ (gj_iload_n 1 (pc := 1) dX7_implied_1 rfl) ?_
  refine gb_callAT (pc := 2) (as := [zr x0, zi x1]) (rest := []) (zCl.of (zLk_S (M := MX7_implied) plX7_and.1 rfl dX7_implied_2 q1561 q1562 q125 q1563) plX7_and (Nat.le_of_ble_eq_true rfl) (fun h => hrc.1 h)) (fun n a s0 h => by cases h; exact Or.inl ⟨rfl, hk⟩) (fun v1 σ2 => ?_)
  refine zst_ (gj_astore_n (pc := 5) (ls' := [(2, zr v1), (0, zr x0), (1, zi x1)]) dX7_implied_5 (by decide) rfl) ?_
  refine zst_ (gj_sub [1, 2, 0] rfl) ?_
  exact fun h => w_X7_implied_6 rc hrc x0 x1 v1 σ2 h hk
noncomputable def f_X7_unit_17 (rc : Nat → List Int → zM → Option zO) (x0 x2 : Int) (σ : zM) : Option zO :=
  zgd (zis σ 8 x0) <|
  zcrT (f_X7_proposition x0 x2 σ) (fun n a σ2 => some (n + 1, zr a, σ2)) fun v1 σ2 =>
  some (0, zr v1, σ2)
theorem w_X7_unit_17 {g : zG} {lv : Nat} {out : zO} (rc : Nat → List Int → zM → Option zO) (hrc : RC_G_X7_and g (lv + 49) rc) (x0 x2 : Int) (σ : zM) {r : zO} (h : f_X7_unit_17 rc x0 x2 σ = some r) (hk : (fun o : zO => o = out) r) : Gj g MX7_unit (lv + 50) 17 [(0, zr x0), (2, zi x2)] [] σ out := by
  revert h
  unfold f_X7_unit_17
  refine zst_ (gj_aload_n 0 (pc := 17) dX7_unit_17 rfl) ?_
  refine zst_ (gj_iload_n 1 (pc := 18) dX7_unit_18 rfl) ?_
  refine gb_gd (fun hb => ?_)
  refine gb_callAT (pc := 19) (as := [zr x0, zi x2]) (rest := []) (zCl.of (zLk_V (M := MX7_unit) (ci := 7) (r := (RX7, TX7, 10)) plX7_proposition.1 rfl rfl (zisE hb).1 (zisE hb).2 dX7_unit_19 q1573 q1575 qs26 q1576) plX7_proposition (Nat.le_of_ble_eq_true rfl) (fun h => c_X7_proposition h)) (fun n a s0 h => by cases h; exact Or.inl ⟨rfl, hk⟩) (fun v1 σ2 => ?_)
  intro h
  cases h
  have hk : (0, zr v1, σ2) = out := hk
  subst hk
  exact gj_aret (pc := 22) dX7_unit_22 rfl (Or.inl ⟨_, rfl⟩)
noncomputable def f_X7_unit_133 (rc : Nat → List Int → zM → Option zO) (t0 : Int) (σ : zM) : Option zO :=
  some (0, zr t0, σ)
theorem w_X7_unit_133 {g : zG} {lv : Nat} {out : zO} (rc : Nat → List Int → zM → Option zO) (hrc : RC_G_X7_and g (lv + 49) rc) (t0 : Int) (σ : zM) {r : zO} (h : f_X7_unit_133 rc t0 σ = some r) (hk : (fun o : zO => o = out) r) : Gj g MX7_unit (lv + 50) 133 [] [zr t0] σ out := by
  revert h
  unfold f_X7_unit_133
  intro h
  cases h
  have hk : (0, zr t0, σ) = out := hk
  subst hk
  exact gj_aret (pc := 133) dX7_unit_133 rfl (Or.inl ⟨_, rfl⟩)
noncomputable def f_X7_unit_71 (rc : Nat → List Int → zM → Option zO) (x0 x1 x2 : Int) (σ : zM) : Option zO :=
  zgd (zis σ 8 x0) <|
  zciT (f_X7_deeper x0 x1 σ) (fun n a σ2 => some (n + 1, zr a, σ2)) fun v1 σ2 =>
  if x2 ≠ 40 then
    zcrT (rc 2 [x0, v1] σ2) (fun n a σ4 => some (n + 1, zr a, σ4)) fun v3 σ4 =>
    if x2 ≠ 33 then
      zgd (zis σ4 8 x0) <|
      zcr (f_X7_close x0 x2 v3 v3 σ4) fun v5 σ6 =>
      f_X7_unit_133 rc v5 σ6
    else
      (znO σ4 17 1).bind fun σ7 =>
      zlet ((↑(zN σ4) : Int)) fun y8 =>
      zgd (decide (0 ≤ y8)) <|
      zcv (f_X17_init y8 v3 σ7) fun σ9 =>
      f_X7_unit_133 rc y8 σ9
  else
    zcrT (rc 1 [x0, v1] σ2) (fun n a σ11 => some (n + 1, zr a, σ11)) fun v10 σ11 =>
    zgd (zis σ11 8 x0) <|
    zcvT (f_X5_sign x0 41 σ11) (fun n a σ12 => some (n + 1, zr a, σ12)) fun σ12 =>
    some (0, zr v10, σ12)
theorem w_X7_unit_71 {g : zG} {lv : Nat} {out : zO} (rc : Nat → List Int → zM → Option zO) (hrc : RC_G_X7_and g (lv + 49) rc) (x0 x1 x2 : Int) (σ : zM) {r : zO} (h : f_X7_unit_71 rc x0 x1 x2 σ = some r) (hk : (fun o : zO => o = out) r) : Gj g MX7_unit (lv + 50) 71 [(0, zr x0), (1, zi x1), (2, zi x2)] [] σ out := by
  revert h
  unfold f_X7_unit_71
  refine zst_ (gj_aload_n 0 (pc := 71) dX7_unit_71 rfl) ?_
  refine zst_ (gj_iload_n 1 (pc := 72) dX7_unit_72 rfl) ?_
  refine gb_gd (fun hb => ?_)
  refine gb_callIT (pc := 73) (as := [zr x0, zi x1]) (rest := []) (zCl.of (zLk_V (M := MX7_unit) (ci := 7) (r := (RX7, TX7, 10)) plX7_deeper.1 rfl rfl (zisE hb).1 (zisE hb).2 dX7_unit_73 q1617 q1619 qs28 q1620) plX7_deeper (Nat.le_of_ble_eq_true rfl) (fun h => c_X7_deeper h)) (fun n a s0 h => by cases h; exact Or.inl ⟨rfl, hk⟩) (fun v1 σ2 => ?_)
  refine zst_ (gj_istore_n (pc := 76) (ls' := [(3, zi v1), (0, zr x0), (1, zi x1), (2, zi x2)]) dX7_unit_76 (by decide) rfl) ?_
  refine zst_ (gj_iload_n 3 (pc := 77) dX7_unit_77 rfl) ?_
  refine zst_ (gj_bipush (pc := 78) dX7_unit_78 ⟨rfl, by decide⟩) ?_
  refine gb_if (gj_icmp_ne 99 (pc := 80) dX7_unit_80 (by decide)) ?_ ?_
  · refine zst_ (gj_aload_n 1 (pc := 99) dX7_unit_99 rfl) ?_
    refine zst_ (gj_iload_n 0 (pc := 100) dX7_unit_100 rfl) ?_
    refine gb_callAT (pc := 101) (as := [zr x0, zi v1]) (rest := []) (zCl.of (zLk_S (M := MX7_unit) plX7_unit.1 rfl dX7_unit_101 q1567 q1568 q125 q1569) plX7_unit (Nat.le_of_ble_eq_true rfl) (fun h => hrc.2.2.1 h)) (fun n a s0 h => by cases h; exact Or.inl ⟨rfl, hk⟩) (fun v3 σ4 => ?_)
    refine zst_ (gj_astore (pc := 104) (ls' := [(4, zr v3), (3, zi v1), (0, zr x0), (1, zi x1), (2, zi x2)]) dX7_unit_104 (by decide) rfl) ?_
    refine zst_ (gj_iload_n 4 (pc := 106) dX7_unit_106 rfl) ?_
    refine zst_ (gj_bipush (pc := 107) dX7_unit_107 ⟨rfl, by decide⟩) ?_
    refine gb_if (gj_icmp_ne 124 (pc := 109) dX7_unit_109 (by decide)) ?_ ?_
    · refine zst_ (gj_aload_n 2 (pc := 124) dX7_unit_124 rfl) ?_
      refine zst_ (gj_iload_n 4 (pc := 125) dX7_unit_125 rfl) ?_
      refine zst_ (gj_aload 0 (pc := 126) dX7_unit_126 rfl) ?_
      refine zst_ (gj_aload 0 (pc := 128) dX7_unit_128 rfl) ?_
      refine gb_gd (fun hb => ?_)
      refine gb_callA (pc := 130) (as := [zr x0, zi x2, zr v3, zr v3]) (rest := []) (zCl.of (zLk_V (M := MX7_unit) (ci := 7) (r := (RX7, TX7, 10)) plX7_close.1 rfl rfl (zisE hb).1 (zisE hb).2 dX7_unit_130 q1631 q1633 qs29 q1634) plX7_close (Nat.le_of_ble_eq_true rfl) (fun h => c_X7_close h)) (fun v5 σ6 => ?_)
      refine zst_ (gj_sub [] rfl) ?_
      exact fun h => w_X7_unit_133 rc hrc v5 σ6 h hk
    · refine gb_new (pc := 112) (ci := 17) (c := (RX17, TX17, 1)) rfl (by decide) dX7_unit_112 q1621 q1622 q143 (fun σ7 => ?_)
      refine gb_let (fun y8 => ?_)
      refine zst_ (gj_dup (pc := 115) dX7_unit_115 rfl) ?_
      refine zst_ (gj_aload 0 (pc := 116) dX7_unit_116 rfl) ?_
      refine gb_gd (fun hb => ?_)
      refine gb_callV (pc := 118) (as := [zr y8, zr v3]) (rest := [zr y8]) (zCl.of (zLk_IN (M := MX7_unit) plX17_init.1 rfl (of_decide_eq_true hb) rfl rfl dX7_unit_118 q1623 q1624 q1625) plX17_init (Nat.le_of_ble_eq_true rfl) (fun h => c_X17_init h)) (fun σ9 => ?_)
      refine zst_ (gj_goto 133 (pc := 121) dX7_unit_121 (by decide)) ?_
      refine zst_ (gj_sub [] rfl) ?_
      exact fun h => w_X7_unit_133 rc hrc y8 σ9 h hk
  · refine zst_ (gj_aload_n 1 (pc := 83) dX7_unit_83 rfl) ?_
    refine zst_ (gj_iload_n 0 (pc := 84) dX7_unit_84 rfl) ?_
    refine gb_callAT (pc := 85) (as := [zr x0, zi v1]) (rest := []) (zCl.of (zLk_S (M := MX7_unit) plX7_implied.1 rfl dX7_unit_85 q1558 q1559 q125 q1560) plX7_implied (Nat.le_of_ble_eq_true rfl) (fun h => hrc.2.1 h)) (fun n a s0 h => by cases h; exact Or.inl ⟨rfl, hk⟩) (fun v10 σ11 => ?_)
    refine zst_ (gj_astore (pc := 88) (ls' := [(4, zr v10), (3, zi v1), (0, zr x0), (1, zi x1), (2, zi x2)]) dX7_unit_88 (by decide) rfl) ?_
    refine zst_ (gj_aload_n 2 (pc := 90) dX7_unit_90 rfl) ?_
    refine zst_ (gj_bipush (pc := 91) dX7_unit_91 ⟨rfl, by decide⟩) ?_
    refine gb_gd (fun hb => ?_)
    refine gb_callVT (pc := 93) (as := [zr x0, zi 41]) (rest := []) (zCl.of (zLk_VU (M := MX7_unit) (ci := 7) (r := (RX7, TX7, 10)) (x := ⟨"LassoFinder$FormulaReader", "sign", "(C)V"⟩) plX5_sign.1 ⟨rfl, rfl⟩ rfl rfl (zisE hb).1 (zisE hb).2 dX7_unit_93 q1597 q1598 q1113 q1599 q1114) plX5_sign (Nat.le_of_ble_eq_true rfl) (fun h => c_X5_sign h)) (fun n a s0 h => by cases h; exact Or.inl ⟨rfl, hk⟩) (fun σ12 => ?_)
    refine zst_ (gj_aload 0 (pc := 96) dX7_unit_96 rfl) ?_
    intro h
    cases h
    have hk : (0, zr v10, σ12) = out := hk
    subst hk
    exact gj_aret (pc := 98) dX7_unit_98 rfl (Or.inl ⟨_, rfl⟩)
noncomputable def f_X7_unit_67 (rc : Nat → List Int → zM → Option zO) (x0 x1 x2 : Int) (σ : zM) : Option zO :=
  zgd (zis σ 8 x0) <|
  zcvT (f_X7_open x0 σ) (fun n a σ1 => some (n + 1, zr a, σ1)) fun σ1 =>
  f_X7_unit_71 rc x0 x1 x2 σ1
theorem w_X7_unit_67 {g : zG} {lv : Nat} {out : zO} (rc : Nat → List Int → zM → Option zO) (hrc : RC_G_X7_and g (lv + 49) rc) (x0 x1 x2 : Int) (σ : zM) {r : zO} (h : f_X7_unit_67 rc x0 x1 x2 σ = some r) (hk : (fun o : zO => o = out) r) : Gj g MX7_unit (lv + 50) 67 [(0, zr x0), (1, zi x1), (2, zi x2)] [] σ out := by
  revert h
  unfold f_X7_unit_67
  refine zst_ (gj_aload_n 0 (pc := 67) dX7_unit_67 rfl) ?_
  refine gb_gd (fun hb => ?_)
  refine gb_callVT (pc := 68) (as := [zr x0]) (rest := []) (zCl.of (zLk_V (M := MX7_unit) (ci := 7) (r := (RX7, TX7, 10)) plX7_open.1 rfl rfl (zisE hb).1 (zisE hb).2 dX7_unit_68 q1613 q1615 qs27 q1616) plX7_open (Nat.le_of_ble_eq_true rfl) (fun h => c_X7_open h)) (fun n a s0 h => by cases h; exact Or.inl ⟨rfl, hk⟩) (fun σ1 => ?_)
  exact fun h => w_X7_unit_71 rc hrc x0 x1 x2 σ1 h hk
noncomputable def f_X7_unit_52 (rc : Nat → List Int → zM → Option zO) (x0 x1 x2 t0 : Int) (σ : zM) : Option zO :=
  zcvT (f_X5_need t0 σ) (fun n a σ1 => some (n + 1, zr a, σ1)) fun σ1 =>
  if x2 = 71 then
    f_X7_unit_67 rc x0 x1 x2 σ1
  else
    if x2 ≠ 70 then
      f_X7_unit_71 rc x0 x1 x2 σ1
    else
      f_X7_unit_67 rc x0 x1 x2 σ1
theorem w_X7_unit_52 {g : zG} {lv : Nat} {out : zO} (rc : Nat → List Int → zM → Option zO) (hrc : RC_G_X7_and g (lv + 49) rc) (x0 x1 x2 t0 : Int) (σ : zM) {r : zO} (h : f_X7_unit_52 rc x0 x1 x2 t0 σ = some r) (hk : (fun o : zO => o = out) r) : Gj g MX7_unit (lv + 50) 52 [(0, zr x0), (1, zi x1), (2, zi x2)] [zi t0] σ out := by
  revert h
  unfold f_X7_unit_52
  refine gb_callVT (pc := 52) (as := [zi t0]) (rest := []) (zCl.of (zLk_SU (M := MX7_unit) (x := ⟨"LassoFinder$FormulaReader", "need", "(Z)V"⟩) plX5_need.1 ⟨rfl, rfl⟩ rfl dX7_unit_52 q1577 q1578 q1085 q109 q1086) plX5_need (Nat.le_of_ble_eq_true rfl) (fun h => c_X5_need h)) (fun n a s0 h => by cases h; exact Or.inl ⟨rfl, hk⟩) (fun σ1 => ?_)
  refine zst_ (gj_iload_n 2 (pc := 55) dX7_unit_55 rfl) ?_
  refine zst_ (gj_bipush (pc := 56) dX7_unit_56 ⟨rfl, by decide⟩) ?_
  refine gb_if (gj_icmp_eq 67 (pc := 58) dX7_unit_58 (by decide)) ?_ ?_
  · exact fun h => w_X7_unit_67 rc hrc x0 x1 x2 σ1 h hk
  · refine zst_ (gj_iload_n 2 (pc := 61) dX7_unit_61 rfl) ?_
    refine zst_ (gj_bipush (pc := 62) dX7_unit_62 ⟨rfl, by decide⟩) ?_
    refine gb_if (gj_icmp_ne 71 (pc := 64) dX7_unit_64 (by decide)) ?_ ?_
    · exact fun h => w_X7_unit_71 rc hrc x0 x1 x2 σ1 h hk
    · exact fun h => w_X7_unit_67 rc hrc x0 x1 x2 σ1 h hk
noncomputable def f_X7_unit_47 (rc : Nat → List Int → zM → Option zO) (x0 x1 x2 : Int) (σ : zM) : Option zO :=
  f_X7_unit_52 rc x0 x1 x2 1 σ
theorem w_X7_unit_47 {g : zG} {lv : Nat} {out : zO} (rc : Nat → List Int → zM → Option zO) (hrc : RC_G_X7_and g (lv + 49) rc) (x0 x1 x2 : Int) (σ : zM) {r : zO} (h : f_X7_unit_47 rc x0 x1 x2 σ = some r) (hk : (fun o : zO => o = out) r) : Gj g MX7_unit (lv + 50) 47 [(0, zr x0), (1, zi x1), (2, zi x2)] [] σ out := by
  revert h
  unfold f_X7_unit_47
  refine zst_ (gj_iconst (pc := 47) dX7_unit_47 (by decide)) ?_
  refine zst_ (gj_goto 52 (pc := 48) dX7_unit_48 (by decide)) ?_
  exact fun h => w_X7_unit_52 rc hrc x0 x1 x2 1 σ h hk
noncomputable def f_X7_unit (rc : Nat → List Int → zM → Option zO) (x0 x1 : Int) (σ : zM) : Option zO :=
  zgd (zis σ 8 x0) <|
  zci (f_X5_now x0 σ) fun v1 σ2 =>
  if v1 = 123 then
    f_X7_unit_17 rc x0 v1 σ2
  else
    if v1 ≠ 64 then
      if v1 = 33 then
        f_X7_unit_47 rc x0 x1 v1 σ2
      else
        if v1 = 71 then
          f_X7_unit_47 rc x0 x1 v1 σ2
        else
          if v1 = 70 then
            f_X7_unit_47 rc x0 x1 v1 σ2
          else
            if v1 ≠ 40 then
              f_X7_unit_52 rc x0 x1 v1 0 σ2
            else
              f_X7_unit_47 rc x0 x1 v1 σ2
    else
      f_X7_unit_17 rc x0 v1 σ2
theorem c_X7_unit {g : zG} {lv : Nat} {rc : Nat → List Int → zM → Option zO} (hrc : RC_G_X7_and g (lv + 49) rc) {x0 x1 : Int} {σ : zM} {out : zO} (h : f_X7_unit rc x0 x1 σ = some out) : Cj g (lv + 50) MX7_unit [zr x0, zi x1] σ out := by
  refine cj_go (ls := [(0, zr x0), (1, zi x1)]) (by decide) (Nat.le_of_ble_eq_true rfl) rfl (zgen h (fun r hk => ?_))
  unfold f_X7_unit
  refine zst_ (gj_aload_n 0 (pc := 0) dX7_unit_0 rfl) ?_
  refine gb_gd (fun hb => ?_)
  refine gb_callI (pc := 1) (as := [zr x0]) (rest := []) (zCl.of (zLk_VU (M := MX7_unit) (ci := 7) (r := (RX7, TX7, 10)) (x := ⟨"LassoFinder$FormulaReader", "now", "()C"⟩) plX5_now.1 ⟨rfl, rfl⟩ rfl rfl (zisE hb).1 (zisE hb).2 dX7_unit_1 q1570 q1571 q1054 q1572 q1055) plX5_now (Nat.le_of_ble_eq_true rfl) (fun h => c_X5_now h)) (fun v1 σ2 => ?_)
  refine zst_ (gj_istore_n (pc := 4) (ls' := [(2, zi v1), (0, zr x0), (1, zi x1)]) dX7_unit_4 (by decide) rfl) ?_
  refine zst_ (gj_iload_n 0 (pc := 5) dX7_unit_5 rfl) ?_
  refine zst_ (gj_bipush (pc := 6) dX7_unit_6 ⟨rfl, by decide⟩) ?_
  refine gb_if (gj_icmp_eq 17 (pc := 8) dX7_unit_8 (by decide)) ?_ ?_
  · refine zst_ (gj_sub [1, 0] rfl) ?_
    exact fun h => w_X7_unit_17 rc hrc x0 v1 σ2 h hk
  · refine zst_ (gj_iload_n 0 (pc := 11) dX7_unit_11 rfl) ?_
    refine zst_ (gj_bipush (pc := 12) dX7_unit_12 ⟨rfl, by decide⟩) ?_
    refine gb_if (gj_icmp_ne 23 (pc := 14) dX7_unit_14 (by decide)) ?_ ?_
    · refine zst_ (gj_iload_n 0 (pc := 23) dX7_unit_23 rfl) ?_
      refine zst_ (gj_bipush (pc := 24) dX7_unit_24 ⟨rfl, by decide⟩) ?_
      refine gb_if (gj_icmp_eq 47 (pc := 26) dX7_unit_26 (by decide)) ?_ ?_
      · refine zst_ (gj_sub [1, 2, 0] rfl) ?_
        exact fun h => w_X7_unit_47 rc hrc x0 x1 v1 σ2 h hk
      · refine zst_ (gj_iload_n 0 (pc := 29) dX7_unit_29 rfl) ?_
        refine zst_ (gj_bipush (pc := 30) dX7_unit_30 ⟨rfl, by decide⟩) ?_
        refine gb_if (gj_icmp_eq 47 (pc := 32) dX7_unit_32 (by decide)) ?_ ?_
        · refine zst_ (gj_sub [1, 2, 0] rfl) ?_
          exact fun h => w_X7_unit_47 rc hrc x0 x1 v1 σ2 h hk
        · refine zst_ (gj_iload_n 0 (pc := 35) dX7_unit_35 rfl) ?_
          refine zst_ (gj_bipush (pc := 36) dX7_unit_36 ⟨rfl, by decide⟩) ?_
          refine gb_if (gj_icmp_eq 47 (pc := 38) dX7_unit_38 (by decide)) ?_ ?_
          · refine zst_ (gj_sub [1, 2, 0] rfl) ?_
            exact fun h => w_X7_unit_47 rc hrc x0 x1 v1 σ2 h hk
          · refine zst_ (gj_iload_n 0 (pc := 41) dX7_unit_41 rfl) ?_
            refine zst_ (gj_bipush (pc := 42) dX7_unit_42 ⟨rfl, by decide⟩) ?_
            refine gb_if (gj_icmp_ne 51 (pc := 44) dX7_unit_44 (by decide)) ?_ ?_
            · refine zst_ (gj_iconst (pc := 51) dX7_unit_51 (by decide)) ?_
              refine zst_ (gj_sub [1, 2, 0] rfl) ?_
              exact fun h => w_X7_unit_52 rc hrc x0 x1 v1 0 σ2 h hk
            · refine zst_ (gj_sub [1, 2, 0] rfl) ?_
              exact fun h => w_X7_unit_47 rc hrc x0 x1 v1 σ2 h hk
    · refine zst_ (gj_sub [1, 0] rfl) ?_
      exact fun h => w_X7_unit_17 rc hrc x0 v1 σ2 h hk
noncomputable def f_X7_until_25 (rc : Nat → List Int → zM → Option zO) (x0 x1 x2 x3 : Int) (σ : zM) : Option zO :=
  zgd (zis σ 8 x0) <|
  zcvT (f_X7_open x0 σ) (fun n a σ1 => some (n + 1, zr a, σ1)) fun σ1 =>
  zgd (zis σ1 8 x0) <|
  zciT (f_X7_deeper x0 x1 σ1) (fun n a σ3 => some (n + 1, zr a, σ3)) fun v2 σ3 =>
  zcrT (rc 3 [x0, v2] σ3) (fun n a σ5 => some (n + 1, zr a, σ5)) fun v4 σ5 =>
  zgd (zis σ5 8 x0) <|
  zcr (f_X7_close x0 x3 x2 v4 σ5) fun v6 σ7 =>
  some (0, zr v6, σ7)
theorem w_X7_until_25 {g : zG} {lv : Nat} {out : zO} (rc : Nat → List Int → zM → Option zO) (hrc : RC_G_X7_and g (lv + 49) rc) (x0 x1 x2 x3 : Int) (σ : zM) {r : zO} (h : f_X7_until_25 rc x0 x1 x2 x3 σ = some r) (hk : (fun o : zO => o = out) r) : Gj g MX7_until (lv + 50) 25 [(0, zr x0), (1, zi x1), (2, zr x2), (3, zi x3)] [] σ out := by
  revert h
  unfold f_X7_until_25
  refine zst_ (gj_aload_n 0 (pc := 25) dX7_until_25 rfl) ?_
  refine gb_gd (fun hb => ?_)
  refine gb_callVT (pc := 26) (as := [zr x0]) (rest := []) (zCl.of (zLk_V (M := MX7_until) (ci := 7) (r := (RX7, TX7, 10)) plX7_open.1 rfl rfl (zisE hb).1 (zisE hb).2 dX7_until_26 q1613 q1615 qs27 q1616) plX7_open (Nat.le_of_ble_eq_true rfl) (fun h => c_X7_open h)) (fun n a s0 h => by cases h; exact Or.inl ⟨rfl, hk⟩) (fun σ1 => ?_)
  refine zst_ (gj_aload_n 0 (pc := 29) dX7_until_29 rfl) ?_
  refine zst_ (gj_iload_n 3 (pc := 30) dX7_until_30 rfl) ?_
  refine zst_ (gj_aload_n 2 (pc := 31) dX7_until_31 rfl) ?_
  refine zst_ (gj_aload_n 0 (pc := 32) dX7_until_32 rfl) ?_
  refine zst_ (gj_aload_n 0 (pc := 33) dX7_until_33 rfl) ?_
  refine zst_ (gj_iload_n 1 (pc := 34) dX7_until_34 rfl) ?_
  refine gb_gd (fun hb => ?_)
  refine gb_callIT (pc := 35) (as := [zr x0, zi x1]) (rest := [zr x0, zr x2, zi x3, zr x0]) (zCl.of (zLk_V (M := MX7_until) (ci := 7) (r := (RX7, TX7, 10)) plX7_deeper.1 rfl rfl (zisE hb).1 (zisE hb).2 dX7_until_35 q1617 q1619 qs28 q1620) plX7_deeper (Nat.le_of_ble_eq_true rfl) (fun h => c_X7_deeper h)) (fun n a s0 h => by cases h; exact Or.inl ⟨rfl, hk⟩) (fun v2 σ3 => ?_)
  refine gb_callAT (pc := 38) (as := [zr x0, zi v2]) (rest := [zr x2, zi x3, zr x0]) (zCl.of (zLk_S (M := MX7_until) plX7_until.1 rfl dX7_until_38 q1564 q1565 q125 q1566) plX7_until (Nat.le_of_ble_eq_true rfl) (fun h => hrc.2.2.2.1 h)) (fun n a s0 h => by cases h; exact Or.inl ⟨rfl, hk⟩) (fun v4 σ5 => ?_)
  refine gb_gd (fun hb => ?_)
  refine gb_callA (pc := 41) (as := [zr x0, zi x3, zr x2, zr v4]) (rest := []) (zCl.of (zLk_V (M := MX7_until) (ci := 7) (r := (RX7, TX7, 10)) plX7_close.1 rfl rfl (zisE hb).1 (zisE hb).2 dX7_until_41 q1631 q1633 qs29 q1634) plX7_close (Nat.le_of_ble_eq_true rfl) (fun h => c_X7_close h)) (fun v6 σ7 => ?_)
  intro h
  cases h
  have hk : (0, zr v6, σ7) = out := hk
  subst hk
  exact gj_aret (pc := 44) dX7_until_44 rfl (Or.inl ⟨_, rfl⟩)
noncomputable def f_X7_until (rc : Nat → List Int → zM → Option zO) (x0 x1 : Int) (σ : zM) : Option zO :=
  zcrT (rc 2 [x0, x1] σ) (fun n a σ2 => some (n + 1, zr a, σ2)) fun v1 σ2 =>
  zgd (zis σ2 8 x0) <|
  zci (f_X5_now x0 σ2) fun v3 σ4 =>
  if v3 = 85 then
    f_X7_until_25 rc x0 x1 v1 v3 σ4
  else
    if v3 = 82 then
      f_X7_until_25 rc x0 x1 v1 v3 σ4
    else
      some (0, zr v1, σ4)
theorem c_X7_until {g : zG} {lv : Nat} {rc : Nat → List Int → zM → Option zO} (hrc : RC_G_X7_and g (lv + 49) rc) {x0 x1 : Int} {σ : zM} {out : zO} (h : f_X7_until rc x0 x1 σ = some out) : Cj g (lv + 50) MX7_until [zr x0, zi x1] σ out := by
  refine cj_go (ls := [(0, zr x0), (1, zi x1)]) (by decide) (Nat.le_of_ble_eq_true rfl) rfl (zgen h (fun r hk => ?_))
  unfold f_X7_until
  refine zst_ (gj_aload_n 0 (pc := 0) dX7_until_0 rfl) ?_
  refine zst_ (gj_iload_n 1 (pc := 1) dX7_until_1 rfl) ?_
  refine gb_callAT (pc := 2) (as := [zr x0, zi x1]) (rest := []) (zCl.of (zLk_S (M := MX7_until) plX7_unit.1 rfl dX7_until_2 q1567 q1568 q125 q1569) plX7_unit (Nat.le_of_ble_eq_true rfl) (fun h => hrc.2.2.1 h)) (fun n a s0 h => by cases h; exact Or.inl ⟨rfl, hk⟩) (fun v1 σ2 => ?_)
  refine zst_ (gj_astore_n (pc := 5) (ls' := [(2, zr v1), (0, zr x0), (1, zi x1)]) dX7_until_5 (by decide) rfl) ?_
  refine zst_ (gj_aload_n 1 (pc := 6) dX7_until_6 rfl) ?_
  refine gb_gd (fun hb => ?_)
  refine gb_callI (pc := 7) (as := [zr x0]) (rest := []) (zCl.of (zLk_VU (M := MX7_until) (ci := 7) (r := (RX7, TX7, 10)) (x := ⟨"LassoFinder$FormulaReader", "now", "()C"⟩) plX5_now.1 ⟨rfl, rfl⟩ rfl rfl (zisE hb).1 (zisE hb).2 dX7_until_7 q1570 q1571 q1054 q1572 q1055) plX5_now (Nat.le_of_ble_eq_true rfl) (fun h => c_X5_now h)) (fun v3 σ4 => ?_)
  refine zst_ (gj_istore_n (pc := 10) (ls' := [(3, zi v3), (2, zr v1), (0, zr x0), (1, zi x1)]) dX7_until_10 (by decide) rfl) ?_
  refine zst_ (gj_iload_n 0 (pc := 11) dX7_until_11 rfl) ?_
  refine zst_ (gj_bipush (pc := 12) dX7_until_12 ⟨rfl, by decide⟩) ?_
  refine gb_if (gj_icmp_eq 25 (pc := 14) dX7_until_14 (by decide)) ?_ ?_
  · refine zst_ (gj_sub [2, 3, 1, 0] rfl) ?_
    exact fun h => w_X7_until_25 rc hrc x0 x1 v1 v3 σ4 h hk
  · refine zst_ (gj_iload_n 0 (pc := 17) dX7_until_17 rfl) ?_
    refine zst_ (gj_bipush (pc := 18) dX7_until_18 ⟨rfl, by decide⟩) ?_
    refine gb_if (gj_icmp_eq 25 (pc := 20) dX7_until_20 (by decide)) ?_ ?_
    · refine zst_ (gj_sub [2, 3, 1, 0] rfl) ?_
      exact fun h => w_X7_until_25 rc hrc x0 x1 v1 v3 σ4 h hk
    · refine zst_ (gj_aload_n 1 (pc := 23) dX7_until_23 rfl) ?_
      intro h
      cases h
      have hk : (0, zr v1, σ4) = out := hk
      subst hk
      exact gj_aret (pc := 24) dX7_until_24 rfl (Or.inl ⟨_, rfl⟩)
noncomputable def f_G_X7_and : Nat → Nat → List Int → zM → Option zO
  | 0, _, _, _ => none
  | d + 1, tg, as, σ => match tg, as with
    | 0, [x0, x1] => f_X7_and (f_G_X7_and d) x0 x1 σ
    | 1, [x0, x1] => f_X7_implied (f_G_X7_and d) x0 x1 σ
    | 2, [x0, x1] => f_X7_unit (f_G_X7_and d) x0 x1 σ
    | 3, [x0, x1] => f_X7_until (f_G_X7_and d) x0 x1 σ
    | _, _ => none
theorem rc_G_X7_and (g : zG) : ∀ (d : Nat) {lv : Nat}, RC_G_X7_and g (lv + 49 + d) (f_G_X7_and d)
  | 0, lv => ⟨(fun h => by cases h), (fun h => by cases h), (fun h => by cases h), (fun h => by cases h), trivial⟩
  | d + 1, lv => by
    have ih := rc_G_X7_and g d (lv := lv)
    rw [show lv + 49 + d = lv + d + 49 by omega] at ih
    rw [show lv + 49 + (d + 1) = lv + d + 50 by omega]
    exact ⟨fun h => c_X7_and (lv := lv + d) ih h, fun h => c_X7_implied (lv := lv + d) ih h, fun h => c_X7_unit (lv := lv + d) ih h, fun h => c_X7_until (lv := lv + d) ih h, trivial⟩
theorem c_G_X7_and_0 {g : zG} {lv : Nat} {x0 x1 : Int} {σ : zM} {out : zO} (h : f_G_X7_and 40 0 [x0, x1] σ = some out) : Cj g (lv + 89) MX7_and [zr x0, zi x1] σ out := (rc_G_X7_and g 40 (lv := lv)).1 h
theorem c_G_X7_and_1 {g : zG} {lv : Nat} {x0 x1 : Int} {σ : zM} {out : zO} (h : f_G_X7_and 40 1 [x0, x1] σ = some out) : Cj g (lv + 89) MX7_implied [zr x0, zi x1] σ out := (rc_G_X7_and g 40 (lv := lv)).2.1 h
theorem c_G_X7_and_2 {g : zG} {lv : Nat} {x0 x1 : Int} {σ : zM} {out : zO} (h : f_G_X7_and 40 2 [x0, x1] σ = some out) : Cj g (lv + 89) MX7_unit [zr x0, zi x1] σ out := (rc_G_X7_and g 40 (lv := lv)).2.2.1 h
theorem c_G_X7_and_3 {g : zG} {lv : Nat} {x0 x1 : Int} {σ : zM} {out : zO} (h : f_G_X7_and 40 3 [x0, x1] σ = some out) : Cj g (lv + 89) MX7_until [zr x0, zi x1] σ out := (rc_G_X7_and g 40 (lv := lv)).2.2.2.1 h
theorem q695 : (Jvm.Cond.fieldLink "LassoFinder$FormulaReader" (40 : Nat) "LassoFinder$FormulaReader" "text" "Ljava/lang/String;") ∈ lw_all := lw_g (lw_at lw_m3 115 rfl) rfl
theorem q696 : (Jvm.Cond.sameField "LassoFinder$FormulaReader" "LassoFinder$Reader" "text" "Ljava/lang/String;") ∈ lw_all := lw_g (lw_at lw_m3 116 rfl) rfl
theorem q1557 : (Jvm.Cond.code ({ cls := "LassoFinder$FormulaReader", name := "read", desc := "()LLassoFinder$Formula;" } : Jvm.MethodName) prog_7_method_2_code (2 : Nat) (Option.some (Jvm.ClassFile.FieldType.object "LassoFinder$Formula"))) ∈ lw_all := lw_g (lw_at lw_m7 17 rfl) rfl
theorem q1672 : (Jvm.Cond.methodLink "LassoFinder$FormulaReader" (44 : Nat) ({ cls := "java/lang/String", name := "length", desc := "()I" } : Jvm.MethodName)) ∈ lw_all := lw_g (lw_at lw_m7 132 rfl) rfl
abbrev cX7_read : ByteArray := prog_7_method_2_code
def yX7_read : MethodName := ⟨RX7, "read", "()LLassoFinder$Formula;"⟩
theorem dX7_read_0 : decode cX7_read 0 = .ok (.aload_n 0, 1) := by decide +kernel
theorem dX7_read_1 : decode cX7_read 1 = .ok (.iconst 0, 1) := by decide +kernel
theorem dX7_read_2 : decode cX7_read 2 = .ok (.putfield 23, 3) := by decide +kernel
theorem dX7_read_5 : decode cX7_read 5 = .ok (.aload_n 0, 1) := by decide +kernel
theorem dX7_read_6 : decode cX7_read 6 = .ok (.iconst 0, 1) := by decide +kernel
theorem dX7_read_7 : decode cX7_read 7 = .ok (.putfield 27, 3) := by decide +kernel
theorem dX7_read_10 : decode cX7_read 10 = .ok (.aload_n 0, 1) := by decide +kernel
theorem dX7_read_11 : decode cX7_read 11 = .ok (.iconst 0, 1) := by decide +kernel
theorem dX7_read_12 : decode cX7_read 12 = .ok (.putfield 30, 3) := by decide +kernel
theorem dX7_read_15 : decode cX7_read 15 = .ok (.aload_n 0, 1) := by decide +kernel
theorem dX7_read_16 : decode cX7_read 16 = .ok (.iconst 0, 1) := by decide +kernel
theorem dX7_read_17 : decode cX7_read 17 = .ok (.invokestatic 33, 3) := by decide +kernel
theorem dX7_read_20 : decode cX7_read 20 = .ok (.astore_n 1, 1) := by decide +kernel
theorem dX7_read_21 : decode cX7_read 21 = .ok (.aload_n 0, 1) := by decide +kernel
theorem dX7_read_22 : decode cX7_read 22 = .ok (.getfield 37, 3) := by decide +kernel
theorem dX7_read_25 : decode cX7_read 25 = .ok (.aload_n 0, 1) := by decide +kernel
theorem dX7_read_26 : decode cX7_read 26 = .ok (.getfield 40, 3) := by decide +kernel
theorem dX7_read_29 : decode cX7_read 29 = .ok (.invokevirtual 44, 3) := by decide +kernel
theorem dX7_read_32 : decode cX7_read 32 = .ok (.if_icmp .ne 7, 3) := by decide +kernel
theorem dX7_read_35 : decode cX7_read 35 = .ok (.iconst 1, 1) := by decide +kernel
theorem dX7_read_36 : decode cX7_read 36 = .ok (.goto 4, 3) := by decide +kernel
theorem dX7_read_39 : decode cX7_read 39 = .ok (.iconst 0, 1) := by decide +kernel
theorem dX7_read_40 : decode cX7_read 40 = .ok (.invokestatic 50, 3) := by decide +kernel
theorem dX7_read_43 : decode cX7_read 43 = .ok (.aload_n 1, 1) := by decide +kernel
theorem dX7_read_44 : decode cX7_read 44 = .ok (.areturn, 1) := by decide +kernel
abbrev MX7_read : zT := (yX7_read, cX7_read, 2, (Option.some (Jvm.ClassFile.FieldType.object "LassoFinder$Formula")), [])
theorem plX7_read : zplain MX7_read 0 ∧ (zcodeW MX7_read ∈ lw_all ∧ Cond.initialized MX7_read.1.cls ∈ lw_all) := ⟨⟨by decide +kernel, by decide +kernel⟩, q1557, q125⟩
noncomputable def f_X7_read_40 (x1 t0 : Int) (σ : zM) : Option zO :=
  zcvT (f_X5_need t0 σ) (fun n a σ1 => some (n + 1, zr a, σ1)) fun σ1 =>
  some (0, zr x1, σ1)
theorem w_X7_read_40 {g : zG} {lv : Nat} {out : zO} (x1 t0 : Int) (σ : zM) {r : zO} (h : f_X7_read_40 x1 t0 σ = some r) (hk : (fun o : zO => o = out) r) : Gj g MX7_read (lv + 90) 40 [(1, zr x1)] [zi t0] σ out := by
  revert h
  unfold f_X7_read_40
  refine gb_callVT (pc := 40) (as := [zi t0]) (rest := []) (zCl.of (zLk_SU (M := MX7_read) (x := ⟨"LassoFinder$FormulaReader", "need", "(Z)V"⟩) plX5_need.1 ⟨rfl, rfl⟩ rfl dX7_read_40 q1577 q1578 q1085 q109 q1086) plX5_need (Nat.le_of_ble_eq_true rfl) (fun h => c_X5_need h)) (fun n a s0 h => by cases h; exact Or.inl ⟨rfl, hk⟩) (fun σ1 => ?_)
  refine zst_ (gj_aload_n 0 (pc := 43) dX7_read_43 rfl) ?_
  intro h
  cases h
  have hk : (0, zr x1, σ1) = out := hk
  subst hk
  exact gj_aret (pc := 44) dX7_read_44 rfl (Or.inl ⟨_, rfl⟩)
noncomputable def f_X7_read (x0 : Int) (σ : zM) : Option zO :=
  (zpf σ 707 x0 0).bind fun σ1 =>
  (zpf σ1 708 x0 0).bind fun σ2 =>
  (zpf σ2 709 x0 0).bind fun σ3 =>
  zcrT (f_G_X7_and 40 1 [x0, 0] σ3) (fun n a σ5 => some (n + 1, zr a, σ5)) fun v4 σ5 =>
  (zgf σ5 502 x0).bind fun v6 =>
  (zgf σ5 501 x0).bind fun v7 =>
  zgd (zis σ5 22 v7) <|
  zci (f_J2_length v7 σ5) fun v8 σ9 =>
  if v6 ≠ v8 then
    f_X7_read_40 v4 0 σ9
  else
    f_X7_read_40 v4 1 σ9
theorem c_X7_read {g : zG} {lv : Nat} {x0 : Int} {σ : zM} {out : zO} (h : f_X7_read x0 σ = some out) : Cj g (lv + 90) MX7_read [zr x0] σ out := by
  refine cj_go (ls := [(0, zr x0)]) (by decide) (Nat.le_of_ble_eq_true rfl) rfl (zgen h (fun r hk => ?_))
  unfold f_X7_read
  refine zst_ (gj_aload_n 0 (pc := 0) dX7_read_0 rfl) ?_
  refine zst_ (gj_iconst (pc := 1) dX7_read_1 (by decide)) ?_
  refine gb_put (pc := 2) fl707 fr707 dX7_read_2 q738 (Or.inl rfl) (fun σ1 => ?_)
  refine zst_ (gj_aload_n 0 (pc := 5) dX7_read_5 rfl) ?_
  refine zst_ (gj_iconst (pc := 6) dX7_read_6 (by decide)) ?_
  refine gb_put (pc := 7) fl708 fr708 dX7_read_7 q741 (Or.inl rfl) (fun σ2 => ?_)
  refine zst_ (gj_aload_n 0 (pc := 10) dX7_read_10 rfl) ?_
  refine zst_ (gj_iconst (pc := 11) dX7_read_11 (by decide)) ?_
  refine gb_put (pc := 12) fl709 fr709 dX7_read_12 q742 (Or.inl rfl) (fun σ3 => ?_)
  refine zst_ (gj_aload_n 0 (pc := 15) dX7_read_15 rfl) ?_
  refine zst_ (gj_iconst (pc := 16) dX7_read_16 (by decide)) ?_
  refine gb_callAT (pc := 17) (as := [zr x0, zi 0]) (rest := []) (zCl.of (zLk_S (M := MX7_read) plX7_implied.1 rfl dX7_read_17 q1558 q1559 q125 q1560) plX7_implied (Nat.le_of_ble_eq_true rfl) (fun h => c_G_X7_and_1 h)) (fun n a s0 h => by cases h; exact Or.inl ⟨rfl, hk⟩) (fun v4 σ5 => ?_)
  refine zst_ (gj_astore_n (pc := 20) (ls' := [(1, zr v4), (0, zr x0)]) dX7_read_20 (by decide) rfl) ?_
  refine zst_ (gj_aload_n 1 (pc := 21) dX7_read_21 rfl) ?_
  refine gb_get (pc := 22) fl502 dX7_read_22 q700 (Or.inr q701) (fun v6 => ?_)
  refine zst_ (gj_aload_n 1 (pc := 25) dX7_read_25 rfl) ?_
  refine gb_get (pc := 26) fl501 dX7_read_26 q695 (Or.inr q696) (fun v7 => ?_)
  refine gb_gd (fun hb => ?_)
  refine gb_callI (pc := 29) (as := [zr v7]) (rest := [zi v6]) (zCl.of (zLk_V (M := MX7_read) (ci := 21) (r := (RJ2, TJ2, 4)) plJ2_length.1 rfl rfl (zisE hb).1 (zisE hb).2 dX7_read_29 q1672 q514 q515 q516) plJ2_length (Nat.le_of_ble_eq_true rfl) (fun h => c_J2_length h)) (fun v8 σ9 => ?_)
  refine gb_if (gj_icmp_ne 39 (pc := 32) dX7_read_32 (by decide)) ?_ ?_
  · refine zst_ (gj_iconst (pc := 39) dX7_read_39 (by decide)) ?_
    refine zst_ (gj_sub [0] rfl) ?_
    exact fun h => w_X7_read_40 v4 0 σ9 h hk
  · refine zst_ (gj_iconst (pc := 35) dX7_read_35 (by decide)) ?_
    refine zst_ (gj_goto 40 (pc := 36) dX7_read_36 (by decide)) ?_
    refine zst_ (gj_sub [0] rfl) ?_
    exact fun h => w_X7_read_40 v4 1 σ9 h hk
theorem q705 : (Jvm.Cond.fieldLink "LassoFinder" (129 : Nat) "LassoFinder$FormulaReader" "at" "I") ∈ lw_all := lw_g (lw_at lw_m3 125 rfl) rfl
theorem q740 : (Jvm.Cond.fieldLinkNest "LassoFinder" (130 : Nat) "LassoFinder$FormulaReader" "said" "I" "LassoFinder") ∈ lw_tbl := lw_at lw_m3 160 rfl
theorem q844 : (Jvm.Cond.fieldLink "LassoFinder" (35 : Nat) "LassoFinder" "formulas" "LLassoFinder$FormulaReader;") ∈ lw_all := lw_g (lw_at lw_m4 24 rfl) rfl
theorem q1532 : (Jvm.Cond.codeWith ({ cls := "LassoFinder", name := "formula", desc := "()I" } : Jvm.MethodName) prog_1_method_7_code (2 : Nat) (Option.some Jvm.ClassFile.FieldType.int) [((18 : Nat), (29 : Nat), (32 : Nat), (103 : Nat))]) ∈ lw_all := lw_g (lw_at lw_m6 232 rfl) rfl
theorem q1533 : (Jvm.Cond.methodLink "LassoFinder" (121 : Nat) ({ cls := "LassoFinder$FormulaReader", name := "begin", desc := "(Ljava/lang/String;)V" } : Jvm.MethodName)) ∈ lw_all := lw_g (lw_at lw_m6 233 rfl) rfl
theorem q1534 : (Jvm.Cond.sameMethod "LassoFinder$FormulaReader" "LassoFinder$Reader" "begin" "(Ljava/lang/String;)V") ∈ lw_all := lw_g (lw_at lw_m6 234 rfl) rfl
theorem q1535 : (Jvm.Cond.selects "LassoFinder$FormulaReader" ({ cls := "LassoFinder$FormulaReader", name := "begin", desc := "(Ljava/lang/String;)V" } : Jvm.MethodName) ({ cls := "LassoFinder$Reader", name := "begin", desc := "(Ljava/lang/String;)V" } : Jvm.MethodName)) ∈ lw_all := lw_g (lw_at lw_m6 235 rfl) rfl
theorem q1536 : (Jvm.Cond.methodLink "LassoFinder" (122 : Nat) ({ cls := "LassoFinder", name := "need", desc := "(Z)V" } : Jvm.MethodName)) ∈ lw_all := lw_g (lw_at lw_m6 236 rfl) rfl
theorem q1537 : (Jvm.Cond.static ({ cls := "LassoFinder", name := "need", desc := "(Z)V" } : Jvm.MethodName)) ∈ lw_all := lw_g (lw_at lw_m6 237 rfl) rfl
theorem q1554 : (Jvm.Cond.methodLink "LassoFinder" (126 : Nat) ({ cls := "LassoFinder$FormulaReader", name := "read", desc := "()LLassoFinder$Formula;" } : Jvm.MethodName)) ∈ lw_all := lw_g (lw_at lw_m7 14 rfl) rfl
theorem q1555 : (Jvm.Cond.instanceMethod ({ cls := "LassoFinder$FormulaReader", name := "read", desc := "()LLassoFinder$Formula;" } : Jvm.MethodName)) ∈ lw_all := lw_g (lw_at lw_m7 15 rfl) rfl
theorem q1556 : (Jvm.Cond.selects "LassoFinder$FormulaReader" ({ cls := "LassoFinder$FormulaReader", name := "read", desc := "()LLassoFinder$Formula;" } : Jvm.MethodName) ({ cls := "LassoFinder$FormulaReader", name := "read", desc := "()LLassoFinder$Formula;" } : Jvm.MethodName)) ∈ lw_all := lw_g (lw_at lw_m7 16 rfl) rfl
theorem fl103 : zfl 103 2 "LassoFinder" "formulas" "LLassoFinder$FormulaReader;" true := ⟨rfl, rfl, rfl⟩
theorem fr103 {g : zG} {v : Int} : zok g (2, v) → zokt g (zft 103) v := fun h => h
abbrev cX1_formula : ByteArray := prog_1_method_7_code
def yX1_formula : MethodName := ⟨RX1, "formula", "()I"⟩
theorem dX1_formula_0 : decode cX1_formula 0 = .ok (.aload_n 0, 1) := by decide +kernel
theorem dX1_formula_1 : decode cX1_formula 1 = .ok (.getfield 35, 3) := by decide +kernel
theorem dX1_formula_4 : decode cX1_formula 4 = .ok (.aload_n 0, 1) := by decide +kernel
theorem dX1_formula_5 : decode cX1_formula 5 = .ok (.invokevirtual 90, 3) := by decide +kernel
theorem dX1_formula_8 : decode cX1_formula 8 = .ok (.invokevirtual 121, 3) := by decide +kernel
theorem dX1_formula_11 : decode cX1_formula 11 = .ok (.aload_n 0, 1) := by decide +kernel
theorem dX1_formula_12 : decode cX1_formula 12 = .ok (.getfield 97, 3) := by decide +kernel
theorem dX1_formula_15 : decode cX1_formula 15 = .ok (.invokestatic 122, 3) := by decide +kernel
theorem dX1_formula_18 : decode cX1_formula 18 = .ok (.aload_n 0, 1) := by decide +kernel
theorem dX1_formula_19 : decode cX1_formula 19 = .ok (.aload_n 0, 1) := by decide +kernel
theorem dX1_formula_20 : decode cX1_formula 20 = .ok (.getfield 35, 3) := by decide +kernel
theorem dX1_formula_23 : decode cX1_formula 23 = .ok (.invokevirtual 126, 3) := by decide +kernel
theorem dX1_formula_26 : decode cX1_formula 26 = .ok (.putfield 86, 3) := by decide +kernel
theorem dX1_formula_29 : decode cX1_formula 29 = .ok (.goto 23, 3) := by decide +kernel
theorem dX1_formula_32 : decode cX1_formula 32 = .ok (.astore_n 1, 1) := by decide +kernel
theorem dX1_formula_33 : decode cX1_formula 33 = .ok (.aload_n 0, 1) := by decide +kernel
theorem dX1_formula_34 : decode cX1_formula 34 = .ok (.aload_n 0, 1) := by decide +kernel
theorem dX1_formula_35 : decode cX1_formula 35 = .ok (.getfield 35, 3) := by decide +kernel
theorem dX1_formula_38 : decode cX1_formula 38 = .ok (.getfield 129, 3) := by decide +kernel
theorem dX1_formula_41 : decode cX1_formula 41 = .ok (.putfield 48, 3) := by decide +kernel
theorem dX1_formula_44 : decode cX1_formula 44 = .ok (.new 103, 3) := by decide +kernel
theorem dX1_formula_47 : decode cX1_formula 47 = .ok (.dup, 1) := by decide +kernel
theorem dX1_formula_48 : decode cX1_formula 48 = .ok (.invokespecial 108, 3) := by decide +kernel
theorem dX1_formula_51 : decode cX1_formula 51 = .ok (.athrow, 1) := by decide +kernel
theorem dX1_formula_52 : decode cX1_formula 52 = .ok (.aload_n 0, 1) := by decide +kernel
theorem dX1_formula_53 : decode cX1_formula 53 = .ok (.getfield 35, 3) := by decide +kernel
theorem dX1_formula_56 : decode cX1_formula 56 = .ok (.getfield 130, 3) := by decide +kernel
theorem dX1_formula_59 : decode cX1_formula 59 = .ok (.ireturn, 1) := by decide +kernel
abbrev MX1_formula : zT := (yX1_formula, cX1_formula, 2, (Option.some Jvm.ClassFile.FieldType.int), [(18, 29, 32, 103)])
theorem plX1_formula : zplain MX1_formula 0 ∧ (zcodeW MX1_formula ∈ lw_all ∧ Cond.initialized MX1_formula.1.cls ∈ lw_all) := ⟨⟨by decide +kernel, by decide +kernel⟩, q1532, q101⟩
noncomputable def f_X1_formula_32 (x0 t0 : Int) (σ : zM) : Option zO :=
  (zgf σ 103 x0).bind fun v1 =>
  (zgf σ 502 v1).bind fun v2 =>
  (zpf σ 108 x0 v2).bind fun σ3 =>
  (znX σ3 51).bind fun σ4 =>
  zgd (zis σ4 51 (↑(zN σ3) : Int)) <|
  some (1, zr (↑(zN σ3) : Int), σ4)
theorem w_X1_formula_32 {g : zG} {lv : Nat} {out : zO} (x0 t0 : Int) (σ : zM) {r : zO} (h : f_X1_formula_32 x0 t0 σ = some r) (hk : (fun o : zO => o = out) r) : Gj g MX1_formula (lv + 91) 32 [(0, zr x0)] [zr t0] σ out := by
  revert h
  unfold f_X1_formula_32
  refine zst_ (gj_astore_n (pc := 32) (ls' := [(1, zr t0), (0, zr x0)]) dX1_formula_32 (by decide) rfl) ?_
  refine zst_ (gj_aload_n 1 (pc := 33) dX1_formula_33 rfl) ?_
  refine zst_ (gj_aload_n 1 (pc := 34) dX1_formula_34 rfl) ?_
  refine gb_get (pc := 35) fl103 dX1_formula_35 q844 (Or.inl rfl) (fun v1 => ?_)
  refine gb_get (pc := 38) fl502 dX1_formula_38 q705 (Or.inr q701) (fun v2 => ?_)
  refine gb_put (pc := 41) fl108 fr108 dX1_formula_41 q849 (Or.inl rfl) (fun σ3 => ?_)
  refine gb_exc (pc := 44) (k := 51) ⟨by decide, by decide⟩ (by omega) (Nat.le_of_ble_eq_true rfl) dX1_formula_44 dX1_formula_47 dX1_formula_48 q962 q1422 (fun σ4 => ?_)
  refine gb_gd (fun hb => ?_)
  intro h
  cases h
  have hk : (1, zr (↑(zN σ3) : Int), σ4) = out := hk
  subst hk
  exact gj_athrow (pc := 51) (zisE hb).1 (zisE hb).2 (by decide) dX1_formula_51 rfl
noncomputable def f_X1_formula (x0 : Int) (σ : zM) : Option zO :=
  (zgf σ 103 x0).bind fun v1 =>
  zgd (zis σ 2 x0) <|
  zcr (f_X1_taken x0 σ) fun v2 σ3 =>
  zgd (zis σ3 8 v1) <|
  zcv (f_X5_begin v1 v2 σ3) fun σ4 =>
  (zgf σ4 106 x0).bind fun v5 =>
  zcvT (f_X1_need v5 σ4) (fun n a σ6 => some (n + 1, zr a, σ6)) fun σ6 =>
  (zgf σ6 103 x0).bind fun v7 =>
  zgd (zis σ6 8 v7) <|
  zcrT (f_X7_read v7 σ6) (fun n a σ9 => if n = 0 then f_X1_formula_32 x0 a σ9 else none) fun v8 σ9 =>
  (zpf σ9 105 x0 v8).bind fun σ10 =>
  (zgf σ10 103 x0).bind fun v11 =>
  (zgf σ10 707 v11).bind fun v12 =>
  some (0, zi v12, σ10)
theorem c_X1_formula {g : zG} {lv : Nat} {x0 : Int} {σ : zM} {out : zO} (h : f_X1_formula x0 σ = some out) : Cj g (lv + 91) MX1_formula [zr x0] σ out := by
  refine cj_go (ls := [(0, zr x0)]) (by decide) (Nat.le_of_ble_eq_true rfl) rfl (zgen h (fun r hk => ?_))
  unfold f_X1_formula
  refine zst_ (gj_aload_n 0 (pc := 0) dX1_formula_0 rfl) ?_
  refine gb_get (pc := 1) fl103 dX1_formula_1 q844 (Or.inl rfl) (fun v1 => ?_)
  refine zst_ (gj_aload_n 0 (pc := 4) dX1_formula_4 rfl) ?_
  refine gb_gd (fun hb => ?_)
  refine gb_callA (pc := 5) (as := [zr x0]) (rest := [zr v1]) (zCl.of (zLk_V (M := MX1_formula) (ci := 1) (r := (RX1, TX1, 12)) plX1_taken.1 rfl rfl (zisE hb).1 (zisE hb).2 dX1_formula_5 q963 q965 qs2 q966) plX1_taken (Nat.le_of_ble_eq_true rfl) (fun h => c_X1_taken h)) (fun v2 σ3 => ?_)
  refine gb_gd (fun hb => ?_)
  refine gb_callV (pc := 8) (as := [zr v1, zr v2]) (rest := []) (zCl.of (zLk_VU (M := MX1_formula) (ci := 7) (r := (RX7, TX7, 10)) (x := ⟨"LassoFinder$FormulaReader", "begin", "(Ljava/lang/String;)V"⟩) plX5_begin.1 ⟨rfl, rfl⟩ rfl rfl (zisE hb).1 (zisE hb).2 dX1_formula_8 q1533 q1534 q1040 q1535 q1041) plX5_begin (Nat.le_of_ble_eq_true rfl) (fun h => c_X5_begin h)) (fun σ4 => ?_)
  refine zst_ (gj_aload_n 0 (pc := 11) dX1_formula_11 rfl) ?_
  refine gb_get (pc := 12) fl106 dX1_formula_12 q847 (Or.inl rfl) (fun v5 => ?_)
  refine gb_callVT (pc := 15) (as := [zi v5]) (rest := []) (zCl.of (zLk_S (M := MX1_formula) plX1_need.1 rfl dX1_formula_15 q1536 q1537 q101 q1538) plX1_need (Nat.le_of_ble_eq_true rfl) (fun h => c_X1_need h)) (fun n a s0 h => by cases h; exact Or.inl ⟨rfl, hk⟩) (fun σ6 => ?_)
  refine zst_ (gj_aload_n 0 (pc := 18) dX1_formula_18 rfl) ?_
  refine zst_ (gj_aload_n 0 (pc := 19) dX1_formula_19 rfl) ?_
  refine gb_get (pc := 20) fl103 dX1_formula_20 q844 (Or.inl rfl) (fun v7 => ?_)
  refine gb_gd (fun hb => ?_)
  refine gb_callAT (pc := 23) (as := [zr v7]) (rest := [zr x0]) (zCl.of (zLk_V (M := MX1_formula) (ci := 7) (r := (RX7, TX7, 10)) plX7_read.1 rfl rfl (zisE hb).1 (zisE hb).2 dX1_formula_23 q1554 q1555 q1556 q1557) plX7_read (Nat.le_of_ble_eq_true rfl) (fun h => c_X7_read h)) (fun n a s0 => gb_hn (fun h => Or.inr ⟨[], (18, 29, 32, 103), [], rfl, (fun z hz => by cases hz), ⟨by decide, by decide⟩, by decide, q962, w_X1_formula_32 x0 a s0 h hk⟩) ((fun h => by cases h))) (fun v8 σ9 => ?_)
  refine gb_put (pc := 26) fl105 fr105 dX1_formula_26 q846 (Or.inl rfl) (fun σ10 => ?_)
  refine zst_ (gj_goto 52 (pc := 29) dX1_formula_29 (by decide)) ?_
  refine zst_ (gj_aload_n 0 (pc := 52) dX1_formula_52 rfl) ?_
  refine gb_get (pc := 53) fl103 dX1_formula_53 q844 (Or.inl rfl) (fun v11 => ?_)
  refine gb_getNe (pc := 56) fl707 dX1_formula_56 q740 (Or.inl rfl) (fun v12 => ?_)
  intro h
  cases h
  have hk : (0, zi v12, σ10) = out := hk
  subst hk
  exact gj_ret (pc := 59) (t := .int) dX1_formula_59 rfl ⟨rfl, rfl⟩ (fun h => h)
theorem q1527 : (Jvm.Cond.codeWith ({ cls := "LassoFinderLaw", name := "formula", desc := "(LLassoFinder;[J)I" } : Jvm.MethodName) method_4_code (3 : Nat) (Option.some Jvm.ClassFile.FieldType.int) [((0 : Nat), (8 : Nat), (11 : Nat), (20 : Nat)), ((0 : Nat), (8 : Nat), (14 : Nat), (13 : Nat))]) ∈ lw_all := lw_g (lw_at lw_m6 227 rfl) rfl
theorem q1528 : (Jvm.Cond.classLink "LassoFinderLaw" (20 : Nat) "java/lang/IllegalStateException") ∈ lw_all := lw_g (lw_at lw_m6 228 rfl) rfl
theorem q1529 : (Jvm.Cond.methodLink "LassoFinderLaw" (17 : Nat) ({ cls := "LassoFinder", name := "formula", desc := "()I" } : Jvm.MethodName)) ∈ lw_all := lw_g (lw_at lw_m6 229 rfl) rfl
theorem q1530 : (Jvm.Cond.instanceMethod ({ cls := "LassoFinder", name := "formula", desc := "()I" } : Jvm.MethodName)) ∈ lw_all := lw_g (lw_at lw_m6 230 rfl) rfl
theorem q1531 : (Jvm.Cond.selects "LassoFinder" ({ cls := "LassoFinder", name := "formula", desc := "()I" } : Jvm.MethodName) ({ cls := "LassoFinder", name := "formula", desc := "()I" } : Jvm.MethodName)) ∈ lw_all := lw_g (lw_at lw_m6 231 rfl) rfl
abbrev cX0_formula : ByteArray := method_4_code
def yX0_formula : MethodName := ⟨RX0, "formula", "(LLassoFinder;[J)I"⟩
theorem dX0_formula_0 : decode cX0_formula 0 = .ok (.aload_n 1, 1) := by decide +kernel
theorem dX0_formula_1 : decode cX0_formula 1 = .ok (.iconst 0, 1) := by decide +kernel
theorem dX0_formula_2 : decode cX0_formula 2 = .ok (.aload_n 0, 1) := by decide +kernel
theorem dX0_formula_3 : decode cX0_formula 3 = .ok (.invokevirtual 17, 3) := by decide +kernel
theorem dX0_formula_6 : decode cX0_formula 6 = .ok (.i2l, 1) := by decide +kernel
theorem dX0_formula_7 : decode cX0_formula 7 = .ok (.lastore, 1) := by decide +kernel
theorem dX0_formula_8 : decode cX0_formula 8 = .ok (.goto 9, 3) := by decide +kernel
theorem dX0_formula_11 : decode cX0_formula 11 = .ok (.astore_n 2, 1) := by decide +kernel
theorem dX0_formula_12 : decode cX0_formula 12 = .ok (.iconst 1, 1) := by decide +kernel
theorem dX0_formula_13 : decode cX0_formula 13 = .ok (.ireturn, 1) := by decide +kernel
theorem dX0_formula_14 : decode cX0_formula 14 = .ok (.astore_n 2, 1) := by decide +kernel
theorem dX0_formula_15 : decode cX0_formula 15 = .ok (.iconst 2, 1) := by decide +kernel
theorem dX0_formula_16 : decode cX0_formula 16 = .ok (.ireturn, 1) := by decide +kernel
theorem dX0_formula_17 : decode cX0_formula 17 = .ok (.iconst 0, 1) := by decide +kernel
theorem dX0_formula_18 : decode cX0_formula 18 = .ok (.ireturn, 1) := by decide +kernel
abbrev MX0_formula : zT := (yX0_formula, cX0_formula, 3, (Option.some Jvm.ClassFile.FieldType.int), [(0, 8, 11, 20), (0, 8, 14, 13)])
theorem plX0_formula : zplain MX0_formula 2 ∧ (zcodeW MX0_formula ∈ lw_all ∧ Cond.initialized MX0_formula.1.cls ∈ lw_all) := ⟨⟨by decide +kernel, by decide +kernel⟩, q1527, q100⟩
noncomputable def f_X0_formula_14 (t0 : Int) (σ : zM) : Option zO :=
  some (0, zi 2, σ)
theorem w_X0_formula_14 {g : zG} {lv : Nat} {out : zO} (t0 : Int) (σ : zM) {r : zO} (h : f_X0_formula_14 t0 σ = some r) (hk : (fun o : zO => o = out) r) : Gj g MX0_formula (lv + 92) 14 [] [zr t0] σ out := by
  revert h
  unfold f_X0_formula_14
  refine zst_ (gj_astore_n (pc := 14) (ls' := [(2, zr t0)]) dX0_formula_14 (by decide) rfl) ?_
  refine zst_ (gj_iconst (pc := 15) dX0_formula_15 (by decide)) ?_
  intro h
  cases h
  have hk : (0, zi 2, σ) = out := hk
  subst hk
  exact gj_ret (pc := 16) (t := .int) dX0_formula_16 rfl ⟨rfl, rfl⟩ (fun h => h)
noncomputable def f_X0_formula_11 (t0 : Int) (σ : zM) : Option zO :=
  some (0, zi 1, σ)
theorem w_X0_formula_11 {g : zG} {lv : Nat} {out : zO} (t0 : Int) (σ : zM) {r : zO} (h : f_X0_formula_11 t0 σ = some r) (hk : (fun o : zO => o = out) r) : Gj g MX0_formula (lv + 92) 11 [] [zr t0] σ out := by
  revert h
  unfold f_X0_formula_11
  refine zst_ (gj_astore_n (pc := 11) (ls' := [(2, zr t0)]) dX0_formula_11 (by decide) rfl) ?_
  refine zst_ (gj_iconst (pc := 12) dX0_formula_12 (by decide)) ?_
  intro h
  cases h
  have hk : (0, zi 1, σ) = out := hk
  subst hk
  exact gj_ret (pc := 13) (t := .int) dX0_formula_13 rfl ⟨rfl, rfl⟩ (fun h => h)
noncomputable def f_X0_formula (x0 x1 : Int) (σ : zM) : Option zO :=
  zgd (zis σ 2 x0) <|
  zciT (f_X1_formula x0 σ) (fun n a σ2 => if n = 1 then f_X0_formula_11 a σ2 else if n = 0 then f_X0_formula_14 a σ2 else none) fun v1 σ2 =>
  (zpa σ2 102 x1 0 v1).bind fun σ3 =>
  some (0, zi 0, σ3)
theorem c_X0_formula {g : zG} {lv : Nat} {x0 x1 : Int} {σ : zM} {out : zO} (h : f_X0_formula x0 x1 σ = some out) : Cj g (lv + 92) MX0_formula [zr x0, zr x1] σ out := by
  refine cj_go (ls := [(0, zr x0), (1, zr x1)]) (by decide) (Nat.le_of_ble_eq_true rfl) rfl (zgen h (fun r hk => ?_))
  unfold f_X0_formula
  refine zst_ (gj_aload_n 1 (pc := 0) dX0_formula_0 rfl) ?_
  refine zst_ (gj_iconst (pc := 1) dX0_formula_1 (by decide)) ?_
  refine zst_ (gj_aload_n 0 (pc := 2) dX0_formula_2 rfl) ?_
  refine gb_gd (fun hb => ?_)
  refine gb_callIT (pc := 3) (as := [zr x0]) (rest := [zi 0, zr x1]) (zCl.of (zLk_V (M := MX0_formula) (ci := 1) (r := (RX1, TX1, 12)) plX1_formula.1 rfl rfl (zisE hb).1 (zisE hb).2 dX0_formula_3 q1529 q1530 q1531 q1532) plX1_formula (Nat.le_of_ble_eq_true rfl) (fun h => c_X1_formula h)) (fun n a s0 => gb_hn (fun h => Or.inr ⟨[], (0, 8, 11, 20), [(0, 8, 14, 13)], rfl, (fun z hz => by cases hz), ⟨by decide, by decide⟩, by decide, q1528, gj_sub [] rfl (w_X0_formula_11 a s0 h hk)⟩) (gb_hn (fun h => Or.inr ⟨[(0, 8, 11, 20)], (0, 8, 14, 13), [], rfl, (List.forall_mem_cons.mpr ⟨Or.inr ⟨by decide, 52, by decide, by decide, by decide, q1528⟩, (fun z hz => by cases hz)⟩), ⟨by decide, by decide⟩, by decide, q956, gj_sub [] rfl (w_X0_formula_14 a s0 h hk)⟩) ((fun h => by cases h)))) (fun v1 σ2 => ?_)
  refine zst_ (gj_i2l (pc := 6) dX0_formula_6) ?_
  refine gb_last (pc := 7) dX0_formula_7 (fun σ3 => ?_)
  refine zst_ (gj_goto 17 (pc := 8) dX0_formula_8 (by decide)) ?_
  refine zst_ (gj_iconst (pc := 17) dX0_formula_17 (by decide)) ?_
  intro h
  cases h
  have hk : (0, zi 0, σ3) = out := hk
  subst hk
  exact gj_ret (pc := 18) (t := .int) dX0_formula_18 rfl ⟨rfl, rfl⟩ (fun h => h)
theorem q206 : (Jvm.Cond.fieldLinkNest "LassoFinder$Claim" (20 : Nat) "LassoFinder$Moment" "numbers" "[I" "LassoFinder") ∈ lw_tbl := lw_at lw_m1 106 rfl
theorem q213 : (Jvm.Cond.fieldLinkNest "LassoFinder$Claim" (32 : Nat) "LassoFinder$Moment" "points" "[I" "LassoFinder") ∈ lw_tbl := lw_at lw_m1 113 rfl
theorem q1696 : (Jvm.Cond.code ({ cls := "LassoFinder$Claim", name := "isSo", desc := "(LLassoFinder$Moment;)Z" } : Jvm.MethodName) prog_3_method_2_code (2 : Nat) (Option.some Jvm.ClassFile.FieldType.boolean)) ∈ lw_all := lw_g (lw_at lw_m7 156 rfl) rfl
theorem q1698 : (Jvm.Cond.methodLink "LassoFinder$Claim" (26 : Nat) ({ cls := "LassoFinder$Expression", name := "of", desc := "([I)I" } : Jvm.MethodName)) ∈ lw_all := lw_g (lw_at lw_m7 158 rfl) rfl
abbrev cX15_isSo : ByteArray := prog_3_method_2_code
def yX15_isSo : MethodName := ⟨RX15, "isSo", "(LLassoFinder$Moment;)Z"⟩
theorem dX15_isSo_0 : decode cX15_isSo 0 = .ok (.aload_n 0, 1) := by decide +kernel
theorem dX15_isSo_1 : decode cX15_isSo 1 = .ok (.getfield 7, 3) := by decide +kernel
theorem dX15_isSo_4 : decode cX15_isSo 4 = .ok (.ifnull 27, 3) := by decide +kernel
theorem dX15_isSo_7 : decode cX15_isSo 7 = .ok (.aload_n 0, 1) := by decide +kernel
theorem dX15_isSo_8 : decode cX15_isSo 8 = .ok (.getfield 7, 3) := by decide +kernel
theorem dX15_isSo_11 : decode cX15_isSo 11 = .ok (.aload_n 1, 1) := by decide +kernel
theorem dX15_isSo_12 : decode cX15_isSo 12 = .ok (.getfield 20, 3) := by decide +kernel
theorem dX15_isSo_15 : decode cX15_isSo 15 = .ok (.invokeinterface 26 2, 5) := by decide +kernel
theorem dX15_isSo_20 : decode cX15_isSo 20 = .ok (.ifCond .eq 7, 3) := by decide +kernel
theorem dX15_isSo_23 : decode cX15_isSo 23 = .ok (.iconst 1, 1) := by decide +kernel
theorem dX15_isSo_24 : decode cX15_isSo 24 = .ok (.goto 28, 3) := by decide +kernel
theorem dX15_isSo_27 : decode cX15_isSo 27 = .ok (.iconst 0, 1) := by decide +kernel
theorem dX15_isSo_28 : decode cX15_isSo 28 = .ok (.goto 24, 3) := by decide +kernel
theorem dX15_isSo_31 : decode cX15_isSo 31 = .ok (.aload_n 1, 1) := by decide +kernel
theorem dX15_isSo_32 : decode cX15_isSo 32 = .ok (.getfield 32, 3) := by decide +kernel
theorem dX15_isSo_35 : decode cX15_isSo 35 = .ok (.aload_n 0, 1) := by decide +kernel
theorem dX15_isSo_36 : decode cX15_isSo 36 = .ok (.getfield 13, 3) := by decide +kernel
theorem dX15_isSo_39 : decode cX15_isSo 39 = .ok (.iaload, 1) := by decide +kernel
theorem dX15_isSo_40 : decode cX15_isSo 40 = .ok (.aload_n 0, 1) := by decide +kernel
theorem dX15_isSo_41 : decode cX15_isSo 41 = .ok (.getfield 17, 3) := by decide +kernel
theorem dX15_isSo_44 : decode cX15_isSo 44 = .ok (.if_icmp .ne 7, 3) := by decide +kernel
theorem dX15_isSo_47 : decode cX15_isSo 47 = .ok (.iconst 1, 1) := by decide +kernel
theorem dX15_isSo_48 : decode cX15_isSo 48 = .ok (.goto 4, 3) := by decide +kernel
theorem dX15_isSo_51 : decode cX15_isSo 51 = .ok (.iconst 0, 1) := by decide +kernel
theorem dX15_isSo_52 : decode cX15_isSo 52 = .ok (.ireturn, 1) := by decide +kernel
abbrev MX15_isSo : zT := (yX15_isSo, cX15_isSo, 2, (Option.some Jvm.ClassFile.FieldType.boolean), [])
theorem plX15_isSo : zplain MX15_isSo 1 ∧ (zcodeW MX15_isSo ∈ lw_all ∧ Cond.initialized MX15_isSo.1.cls ∈ lw_all) := ⟨⟨by decide +kernel, by decide +kernel⟩, q1696, q141⟩
noncomputable def f_X15_isSo_52 (t0 : Int) (σ : zM) : Option zO :=
  zgd (z01 t0) <|
  some (0, zi t0, σ)
theorem w_X15_isSo_52 {g : zG} {lv : Nat} {out : zO} (t0 : Int) (σ : zM) {r : zO} (h : f_X15_isSo_52 t0 σ = some r) (hk : (fun o : zO => o = out) r) : Gj g MX15_isSo (lv + 41) 52 [] [zi t0] σ out := by
  revert h
  unfold f_X15_isSo_52
  refine gb_gd (fun hb => ?_)
  intro h
  cases h
  have hk : (0, zi t0, σ) = out := hk
  subst hk
  exact gj_ret (pc := 52) (t := .boolean) dX15_isSo_52 rfl ⟨rfl, rfl⟩ (fun _ => z01E hb)
noncomputable def f_X15_isSo (x0 x1 : Int) (σ : zM) : Option zO :=
  (zgf σ 1500 x0).bind fun v1 =>
  if v1 = (-1) then
    (zgf σ 302 x1).bind fun v2 =>
    (zgf σ 1501 x0).bind fun v3 =>
    (zga σ 101 v2 v3).bind fun v4 =>
    (zgf σ 1502 x0).bind fun v5 =>
    if v4 ≠ v5 then
      f_X15_isSo_52 0 σ
    else
      f_X15_isSo_52 1 σ
  else
    (zgf σ 1500 x0).bind fun v6 =>
    (zgf σ 300 x1).bind fun v7 =>
    zci ((if zis σ 13 v6 = true then f_X12_of v6 v7 σ else if zis σ 14 v6 = true then f_X13_of v6 v7 σ else if zis σ 15 v6 = true then f_G_X14_of 40 0 [v6, v7] σ else none)) fun v8 σ9 =>
    if v8 = 0 then
      f_X15_isSo_52 0 σ9
    else
      f_X15_isSo_52 1 σ9
theorem c_X15_isSo {g : zG} {lv : Nat} {x0 x1 : Int} {σ : zM} {out : zO} (h : f_X15_isSo x0 x1 σ = some out) : Cj g (lv + 41) MX15_isSo [zr x0, zr x1] σ out := by
  refine cj_go (ls := [(0, zr x0), (1, zr x1)]) (by decide) (Nat.le_of_ble_eq_true rfl) rfl (zgen h (fun r hk => ?_))
  unfold f_X15_isSo
  refine zst_ (gj_aload_n 0 (pc := 0) dX15_isSo_0 rfl) ?_
  refine gb_get (pc := 1) fl1500 dX15_isSo_1 q1587 (Or.inl rfl) (fun v1 => ?_)
  refine gb_if (gj_ifnull 31 (pc := 4) dX15_isSo_4 (by decide)) ?_ ?_
  · refine zst_ (gj_aload_n 1 (pc := 31) dX15_isSo_31 rfl) ?_
    refine gb_getNe (pc := 32) fl302 dX15_isSo_32 q213 (Or.inl rfl) (fun v2 => ?_)
    refine zst_ (gj_aload_n 0 (pc := 35) dX15_isSo_35 rfl) ?_
    refine gb_get (pc := 36) fl1501 dX15_isSo_36 q1588 (Or.inl rfl) (fun v3 => ?_)
    refine gb_iald (pc := 39) dX15_isSo_39 (fun v4 => ?_)
    refine zst_ (gj_aload_n 0 (pc := 40) dX15_isSo_40 rfl) ?_
    refine gb_get (pc := 41) fl1502 dX15_isSo_41 q1589 (Or.inl rfl) (fun v5 => ?_)
    refine gb_if (gj_icmp_ne 51 (pc := 44) dX15_isSo_44 (by decide)) ?_ ?_
    · refine zst_ (gj_iconst (pc := 51) dX15_isSo_51 (by decide)) ?_
      refine zst_ (gj_sub [] rfl) ?_
      exact fun h => w_X15_isSo_52 0 σ h hk
    · refine zst_ (gj_iconst (pc := 47) dX15_isSo_47 (by decide)) ?_
      refine zst_ (gj_goto 52 (pc := 48) dX15_isSo_48 (by decide)) ?_
      refine zst_ (gj_sub [] rfl) ?_
      exact fun h => w_X15_isSo_52 1 σ h hk
  · refine zst_ (gj_aload_n 0 (pc := 7) dX15_isSo_7 rfl) ?_
    refine gb_get (pc := 8) fl1500 dX15_isSo_8 q1587 (Or.inl rfl) (fun v6 => ?_)
    refine zst_ (gj_aload_n 1 (pc := 11) dX15_isSo_11 rfl) ?_
    refine gb_getNe (pc := 12) fl300 dX15_isSo_12 q206 (Or.inl rfl) (fun v7 => ?_)
    refine gb_callI (pc := 15) (as := [zr v6, zr v7]) (rest := []) (zCl.ite (fun hb => zCl.of (zLk_F (M := MX15_isSo) (ci := 12) (r := (RX12, TX12, 1)) (x := ⟨"LassoFinder$Expression", "of", "([I)I"⟩) plX12_of.1 ⟨rfl, rfl⟩ (by decide) rfl rfl (zisE hb).1 (zisE hb).2 dX15_isSo_15 q1698 q1476 q1474 q1478 q1472 q1471 q1477 q1475 q1473) plX12_of (Nat.le_of_ble_eq_true rfl) (fun h => c_X12_of h)) (zCl.ite (fun hb => zCl.of (zLk_F (M := MX15_isSo) (ci := 13) (r := (RX13, TX13, 1)) (x := ⟨"LassoFinder$Expression", "of", "([I)I"⟩) plX13_of.1 ⟨rfl, rfl⟩ (by decide) rfl rfl (zisE hb).1 (zisE hb).2 dX15_isSo_15 q1698 q1482 q1480 q1484 q1472 q1471 q1483 q1481 q1479) plX13_of (Nat.le_of_ble_eq_true rfl) (fun h => c_X13_of h)) (zCl.ite (fun hb => zCl.of (zLk_F (M := MX15_isSo) (ci := 14) (r := (RX14, TX14, 3)) (x := ⟨"LassoFinder$Expression", "of", "([I)I"⟩) plX14_of.1 ⟨rfl, rfl⟩ (by decide) rfl rfl (zisE hb).1 (zisE hb).2 dX15_isSo_15 q1698 q1488 q1486 q1490 q1472 q1471 q1489 q1487 q1485) plX14_of (Nat.le_of_ble_eq_true rfl) (fun h => c_G_X14_of_0 h)) zCl.no))) (fun v8 σ9 => ?_)
    refine gb_if (gj_if_eq 27 (pc := 20) dX15_isSo_20 (by decide)) ?_ ?_
    · refine zst_ (gj_iconst (pc := 27) dX15_isSo_27 (by decide)) ?_
      refine zst_ (gj_goto 52 (pc := 28) dX15_isSo_28 (by decide)) ?_
      refine zst_ (gj_sub [] rfl) ?_
      exact fun h => w_X15_isSo_52 0 σ9 h hk
    · refine zst_ (gj_iconst (pc := 23) dX15_isSo_23 (by decide)) ?_
      refine zst_ (gj_goto 52 (pc := 24) dX15_isSo_24 (by decide)) ?_
      refine zst_ (gj_sub [] rfl) ?_
      exact fun h => w_X15_isSo_52 1 σ9 h hk
theorem q1692 : (Jvm.Cond.code ({ cls := "LassoFinder$FormulaReader", name := "props", desc := "(LLassoFinder$Moment;)I" } : Jvm.MethodName) prog_7_method_11_code (4 : Nat) (Option.some Jvm.ClassFile.FieldType.int)) ∈ lw_all := lw_g (lw_at lw_m7 152 rfl) rfl
theorem q1693 : (Jvm.Cond.methodLink "LassoFinder$FormulaReader" (139 : Nat) ({ cls := "LassoFinder$Claim", name := "isSo", desc := "(LLassoFinder$Moment;)Z" } : Jvm.MethodName)) ∈ lw_all := lw_g (lw_at lw_m7 153 rfl) rfl
theorem q1694 : (Jvm.Cond.instanceMethod ({ cls := "LassoFinder$Claim", name := "isSo", desc := "(LLassoFinder$Moment;)Z" } : Jvm.MethodName)) ∈ lw_all := lw_g (lw_at lw_m7 154 rfl) rfl
theorem q1695 : (Jvm.Cond.selects "LassoFinder$Claim" ({ cls := "LassoFinder$Claim", name := "isSo", desc := "(LLassoFinder$Moment;)Z" } : Jvm.MethodName) ({ cls := "LassoFinder$Claim", name := "isSo", desc := "(LLassoFinder$Moment;)Z" } : Jvm.MethodName)) ∈ lw_all := lw_g (lw_at lw_m7 155 rfl) rfl
abbrev cX7_props : ByteArray := prog_7_method_11_code
def yX7_props : MethodName := ⟨RX7, "props", "(LLassoFinder$Moment;)I"⟩
theorem dX7_props_0 : decode cX7_props 0 = .ok (.iconst 0, 1) := by decide +kernel
theorem dX7_props_1 : decode cX7_props 1 = .ok (.istore_n 2, 1) := by decide +kernel
theorem dX7_props_2 : decode cX7_props 2 = .ok (.iconst 0, 1) := by decide +kernel
theorem dX7_props_3 : decode cX7_props 3 = .ok (.istore_n 3, 1) := by decide +kernel
theorem dX7_props_4 : decode cX7_props 4 = .ok (.iload_n 3, 1) := by decide +kernel
theorem dX7_props_5 : decode cX7_props 5 = .ok (.aload_n 0, 1) := by decide +kernel
theorem dX7_props_6 : decode cX7_props 6 = .ok (.getfield 27, 3) := by decide +kernel
theorem dX7_props_9 : decode cX7_props 9 = .ok (.if_icmp .ge 28, 3) := by decide +kernel
theorem dX7_props_12 : decode cX7_props 12 = .ok (.aload_n 0, 1) := by decide +kernel
theorem dX7_props_13 : decode cX7_props 13 = .ok (.getfield 19, 3) := by decide +kernel
theorem dX7_props_16 : decode cX7_props 16 = .ok (.iload_n 3, 1) := by decide +kernel
theorem dX7_props_17 : decode cX7_props 17 = .ok (.aaload, 1) := by decide +kernel
theorem dX7_props_18 : decode cX7_props 18 = .ok (.aload_n 1, 1) := by decide +kernel
theorem dX7_props_19 : decode cX7_props 19 = .ok (.invokevirtual 139, 3) := by decide +kernel
theorem dX7_props_22 : decode cX7_props 22 = .ok (.ifCond .eq 9, 3) := by decide +kernel
theorem dX7_props_25 : decode cX7_props 25 = .ok (.iload_n 2, 1) := by decide +kernel
theorem dX7_props_26 : decode cX7_props 26 = .ok (.iconst 1, 1) := by decide +kernel
theorem dX7_props_27 : decode cX7_props 27 = .ok (.iload_n 3, 1) := by decide +kernel
theorem dX7_props_28 : decode cX7_props 28 = .ok (.ishl, 1) := by decide +kernel
theorem dX7_props_29 : decode cX7_props 29 = .ok (.ior, 1) := by decide +kernel
theorem dX7_props_30 : decode cX7_props 30 = .ok (.istore_n 2, 1) := by decide +kernel
theorem dX7_props_31 : decode cX7_props 31 = .ok (.iinc 3 1, 3) := by decide +kernel
theorem dX7_props_34 : decode cX7_props 34 = .ok (.goto (-30), 3) := by decide +kernel
theorem dX7_props_37 : decode cX7_props 37 = .ok (.iload_n 2, 1) := by decide +kernel
theorem dX7_props_38 : decode cX7_props 38 = .ok (.ireturn, 1) := by decide +kernel
abbrev MX7_props : zT := (yX7_props, cX7_props, 4, (Option.some Jvm.ClassFile.FieldType.int), [])
theorem plX7_props : zplain MX7_props 1 ∧ (zcodeW MX7_props ∈ lw_all ∧ Cond.initialized MX7_props.1.cls ∈ lw_all) := ⟨⟨by decide +kernel, by decide +kernel⟩, q1692, q125⟩
noncomputable def f_X7_props_37 (x2 : Int) (σ : zM) : Option zO :=
  some (0, zi x2, σ)
theorem w_X7_props_37 {g : zG} {lv : Nat} {out : zO} (x2 : Int) (σ : zM) {r : zO} (h : f_X7_props_37 x2 σ = some r) (hk : (fun o : zO => o = out) r) : Gj g MX7_props (lv + 42) 37 [(2, zi x2)] [] σ out := by
  revert h
  unfold f_X7_props_37
  refine zst_ (gj_iload_n 0 (pc := 37) dX7_props_37 rfl) ?_
  intro h
  cases h
  have hk : (0, zi x2, σ) = out := hk
  subst hk
  exact gj_ret (pc := 38) (t := .int) dX7_props_38 rfl ⟨rfl, rfl⟩ (fun h => h)
noncomputable def f_X7_props_31 (x0 x1 x2 x3 : Int) (σ : zM) : Option ((Int × Int × zM) ⊕ zO) :=
  zlet (zadd x3 1) fun y1 =>
  some (.inl (x2, y1, σ))
theorem w_X7_props_31 {g : zG} {lv : Nat} {out : zO} (x0 x1 x2 x3 : Int) (σ : zM) {r : ((Int × Int × zM) ⊕ zO)} (h : f_X7_props_31 x0 x1 x2 x3 σ = some r) (hk : (zKL (fun s : Int × Int × zM => Gj g MX7_props (lv + 42) 4 [(0, zr x0), (1, zr x1), (2, zi s.1), (3, zi s.2.1)] [] s.2.2 out) (fun o : zO => o = out)) r) : Gj g MX7_props (lv + 42) 31 [(0, zr x0), (1, zr x1), (2, zi x2), (3, zi x3)] [] σ out := by
  revert h
  unfold f_X7_props_31
  refine gb_iinc (pc := 31) 3 (fun y1 => [(3, zi y1), (0, zr x0), (1, zr x1), (2, zi x2)]) dX7_props_31 rfl (by decide) (fun _ => rfl) (fun y1 => ?_)
  refine zst_ (gj_goto 4 (pc := 34) dX7_props_34 (by decide)) ?_
  refine zst_ (gj_sub [1, 2, 3, 0] rfl) ?_
  intro h
  cases h
  exact hk
noncomputable def f_X7_props_4_b (x0 x1 x2 x3 : Int) (σ : zM) : Option ((Int × Int × zM) ⊕ zO) :=
  (zgf σ 708 x0).bind fun v1 =>
  if v1 ≤ x3 then
    (f_X7_props_37 x2 σ).map (fun r => (.inr r))
  else
    (zgf σ 706 x0).bind fun v2 =>
    (zga σ 109 v2 x3).bind fun v3 =>
    zgd (zis σ 16 v3) <|
    zci (f_X15_isSo v3 x1 σ) fun v4 σ5 =>
    if v4 = 0 then
      f_X7_props_31 x0 x1 x2 x3 σ5
    else
      zlet ((zor x2 (zshl 1 x3))) fun y6 =>
      f_X7_props_31 x0 x1 y6 x3 σ5
noncomputable def f_X7_props_4 (x0 x1 x2 x3 : Int) (σ : zM) : Option zO :=
  zloop (fun s : Int × Int × zM => f_X7_props_4_b x0 x1 s.1 s.2.1 s.2.2) (x2, x3, σ)
theorem w_X7_props_4_b {g : zG} {lv : Nat} {out : zO} (x0 x1 x2 x3 : Int) (σ : zM) {r : ((Int × Int × zM) ⊕ zO)} (h : f_X7_props_4_b x0 x1 x2 x3 σ = some r) (hk : (zKL (fun s : Int × Int × zM => Gj g MX7_props (lv + 42) 4 [(0, zr x0), (1, zr x1), (2, zi s.1), (3, zi s.2.1)] [] s.2.2 out) (fun o : zO => o = out)) r) : Gj g MX7_props (lv + 42) 4 [(0, zr x0), (1, zr x1), (2, zi x2), (3, zi x3)] [] σ out := by
  revert h
  unfold f_X7_props_4_b
  refine zst_ (gj_iload_n 3 (pc := 4) dX7_props_4 rfl) ?_
  refine zst_ (gj_aload_n 0 (pc := 5) dX7_props_5 rfl) ?_
  refine gb_get (pc := 6) fl708 dX7_props_6 q741 (Or.inl rfl) (fun v1 => ?_)
  refine gb_if (gj_icmp_ge 37 (pc := 9) dX7_props_9 (by decide)) ?_ ?_
  · refine zst_ (gj_sub [2] rfl) ?_
    intro h
    obtain ⟨r0, h0, rfl⟩ := zmE h
    exact w_X7_props_37 x2 σ h0 hk
  · refine zst_ (gj_aload_n 0 (pc := 12) dX7_props_12 rfl) ?_
    refine gb_get (pc := 13) fl706 dX7_props_13 q737 (Or.inl rfl) (fun v2 => ?_)
    refine zst_ (gj_iload_n 3 (pc := 16) dX7_props_16 rfl) ?_
    refine gb_aald (pc := 17) (k := 109) ⟨by decide, by decide⟩ dX7_props_17 (fun v3 => ?_)
    refine zst_ (gj_aload_n 1 (pc := 18) dX7_props_18 rfl) ?_
    refine gb_gd (fun hb => ?_)
    refine gb_callI (pc := 19) (as := [zr v3, zr x1]) (rest := []) (zCl.of (zLk_V (M := MX7_props) (ci := 15) (r := (RX15, TX15, 3)) plX15_isSo.1 rfl rfl (zisE hb).1 (zisE hb).2 dX7_props_19 q1693 q1694 q1695 q1696) plX15_isSo (Nat.le_of_ble_eq_true rfl) (fun h => c_X15_isSo h)) (fun v4 σ5 => ?_)
    refine gb_if (gj_if_eq 31 (pc := 22) dX7_props_22 (by decide)) ?_ ?_
    · exact fun h => w_X7_props_31 x0 x1 x2 x3 σ5 h hk
    · refine zst_ (gj_iload_n 2 (pc := 25) dX7_props_25 rfl) ?_
      refine zst_ (gj_iconst (pc := 26) dX7_props_26 (by decide)) ?_
      refine zst_ (gj_iload_n 3 (pc := 27) dX7_props_27 rfl) ?_
      refine zst_ (gj_ishl (pc := 28) dX7_props_28) ?_
      refine zst_ (gj_ior (pc := 29) dX7_props_29) ?_
      refine gb_let (fun y6 => ?_)
      refine zst_ (gj_istore_n (pc := 30) (ls' := [(2, zi y6), (0, zr x0), (1, zr x1), (3, zi x3)]) dX7_props_30 (by decide) rfl) ?_
      refine zst_ (gj_sub [1, 2, 0, 3] rfl) ?_
      exact fun h => w_X7_props_31 x0 x1 y6 x3 σ5 h hk
theorem w_X7_props_4 {g : zG} {lv : Nat} {out : zO} (x0 x1 x2 x3 : Int) (σ : zM) {r : zO} (h : f_X7_props_4 x0 x1 x2 x3 σ = some r) (hk : (fun o : zO => o = out) r) : Gj g MX7_props (lv + 42) 4 [(0, zr x0), (1, zr x1), (2, zi x2), (3, zi x3)] [] σ out :=
  gj_loop (P := (fun s : Int × Int × zM => Gj g MX7_props (lv + 42) 4 [(0, zr x0), (1, zr x1), (2, zi s.1), (3, zi s.2.1)] [] s.2.2 out)) (fun s x hb hx => w_X7_props_4_b x0 x1 s.1 s.2.1 s.2.2 hb hx) h hk
noncomputable def f_X7_props (x0 x1 : Int) (σ : zM) : Option zO :=
  f_X7_props_4 x0 x1 0 0 σ
theorem c_X7_props {g : zG} {lv : Nat} {x0 x1 : Int} {σ : zM} {out : zO} (h : f_X7_props x0 x1 σ = some out) : Cj g (lv + 42) MX7_props [zr x0, zr x1] σ out := by
  refine cj_go (ls := [(0, zr x0), (1, zr x1)]) (by decide) (Nat.le_of_ble_eq_true rfl) rfl (zgen h (fun r hk => ?_))
  unfold f_X7_props
  refine zst_ (gj_iconst (pc := 0) dX7_props_0 (by decide)) ?_
  refine zst_ (gj_istore_n (pc := 1) (ls' := [(2, zi 0), (0, zr x0), (1, zr x1)]) dX7_props_1 (by decide) rfl) ?_
  refine zst_ (gj_iconst (pc := 2) dX7_props_2 (by decide)) ?_
  refine zst_ (gj_istore_n (pc := 3) (ls' := [(3, zi 0), (2, zi 0), (0, zr x0), (1, zr x1)]) dX7_props_3 (by decide) rfl) ?_
  refine zst_ (gj_sub [2, 3, 1, 0] rfl) ?_
  exact fun h => w_X7_props_4 x0 x1 0 0 σ h hk
theorem q126 : (Jvm.Cond.initialized "LassoFinder$Search") ∈ lw_all := lw_g (lw_at lw_m1 26 rfl) rfl
theorem q739 : (Jvm.Cond.fieldLinkNest "LassoFinder$Search" (72 : Nat) "LassoFinder$FormulaReader" "said" "I" "LassoFinder") ∈ lw_tbl := lw_at lw_m3 159 rfl
theorem q766 : (Jvm.Cond.fieldLink "LassoFinder$Search" (68 : Nat) "LassoFinder$Search" "said" "LLassoFinder$FormulaReader;") ∈ lw_all := lw_g (lw_at lw_m3 186 rfl) rfl
theorem q1702 : (Jvm.Cond.code ({ cls := "LassoFinder$Search", name := "kinds", desc := "()I" } : Jvm.MethodName) prog_18_method_2_code (1 : Nat) (Option.some Jvm.ClassFile.FieldType.int)) ∈ lw_all := lw_g (lw_at lw_m7 162 rfl) rfl
theorem fl801 : zfl 801 2 "LassoFinder$Search" "said" "LLassoFinder$FormulaReader;" true := ⟨rfl, rfl, rfl⟩
theorem fr801 {g : zG} {v : Int} : zok g (2, v) → zokt g (zft 801) v := fun h => h
abbrev cX8_kinds : ByteArray := prog_18_method_2_code
def yX8_kinds : MethodName := ⟨RX8, "kinds", "()I"⟩
theorem dX8_kinds_0 : decode cX8_kinds 0 = .ok (.iconst 1, 1) := by decide +kernel
theorem dX8_kinds_1 : decode cX8_kinds 1 = .ok (.aload_n 0, 1) := by decide +kernel
theorem dX8_kinds_2 : decode cX8_kinds 2 = .ok (.getfield 68, 3) := by decide +kernel
theorem dX8_kinds_5 : decode cX8_kinds 5 = .ok (.getfield 72, 3) := by decide +kernel
theorem dX8_kinds_8 : decode cX8_kinds 8 = .ok (.ishl, 1) := by decide +kernel
theorem dX8_kinds_9 : decode cX8_kinds 9 = .ok (.ireturn, 1) := by decide +kernel
abbrev MX8_kinds : zT := (yX8_kinds, cX8_kinds, 1, (Option.some Jvm.ClassFile.FieldType.int), [])
theorem plX8_kinds : zplain MX8_kinds 0 ∧ (zcodeW MX8_kinds ∈ lw_all ∧ Cond.initialized MX8_kinds.1.cls ∈ lw_all) := ⟨⟨by decide +kernel, by decide +kernel⟩, q1702, q126⟩
noncomputable def f_X8_kinds (x0 : Int) (σ : zM) : Option zO :=
  (zgf σ 801 x0).bind fun v1 =>
  (zgf σ 707 v1).bind fun v2 =>
  some (0, zi (zshl 1 v2), σ)
theorem c_X8_kinds {g : zG} {lv : Nat} {x0 : Int} {σ : zM} {out : zO} (h : f_X8_kinds x0 σ = some out) : Cj g (lv) MX8_kinds [zr x0] σ out := by
  refine cj_go (ls := [(0, zr x0)]) (by decide) (Nat.le_of_ble_eq_true rfl) rfl (zgen h (fun r hk => ?_))
  unfold f_X8_kinds
  refine zst_ (gj_iconst (pc := 0) dX8_kinds_0 (by decide)) ?_
  refine zst_ (gj_aload_n 0 (pc := 1) dX8_kinds_1 rfl) ?_
  refine gb_get (pc := 2) fl801 dX8_kinds_2 q766 (Or.inl rfl) (fun v1 => ?_)
  refine gb_getNe (pc := 5) fl707 dX8_kinds_5 q739 (Or.inl rfl) (fun v2 => ?_)
  refine zst_ (gj_ishl (pc := 8) dX8_kinds_8) ?_
  intro h
  cases h
  have hk : (0, zi (zshl 1 v2), σ) = out := hk
  subst hk
  exact gj_ret (pc := 9) (t := .int) dX8_kinds_9 rfl ⟨rfl, rfl⟩ (fun h => h)
theorem q1736 : (Jvm.Cond.code ({ cls := "LassoFinder$Proposition", name := "is", desc := "(II)Z" } : Jvm.MethodName) prog_15_method_2_code (3 : Nat) (Option.some Jvm.ClassFile.FieldType.boolean)) ∈ lw_all := lw_g (lw_at lw_m7 196 rfl) rfl
abbrev cX16_is : ByteArray := prog_15_method_2_code
def yX16_is : MethodName := ⟨RX16, "is", "(II)Z"⟩
theorem dX16_is_0 : decode cX16_is 0 = .ok (.iload_n 1, 1) := by decide +kernel
theorem dX16_is_1 : decode cX16_is 1 = .ok (.aload_n 0, 1) := by decide +kernel
theorem dX16_is_2 : decode cX16_is 2 = .ok (.getfield 7, 3) := by decide +kernel
theorem dX16_is_5 : decode cX16_is 5 = .ok (.ishr, 1) := by decide +kernel
theorem dX16_is_6 : decode cX16_is 6 = .ok (.iconst 1, 1) := by decide +kernel
theorem dX16_is_7 : decode cX16_is 7 = .ok (.iand, 1) := by decide +kernel
theorem dX16_is_8 : decode cX16_is 8 = .ok (.iconst 1, 1) := by decide +kernel
theorem dX16_is_9 : decode cX16_is 9 = .ok (.if_icmp .ne 7, 3) := by decide +kernel
theorem dX16_is_12 : decode cX16_is 12 = .ok (.iconst 1, 1) := by decide +kernel
theorem dX16_is_13 : decode cX16_is 13 = .ok (.goto 4, 3) := by decide +kernel
theorem dX16_is_16 : decode cX16_is 16 = .ok (.iconst 0, 1) := by decide +kernel
theorem dX16_is_17 : decode cX16_is 17 = .ok (.ireturn, 1) := by decide +kernel
abbrev MX16_is : zT := (yX16_is, cX16_is, 3, (Option.some Jvm.ClassFile.FieldType.boolean), [])
theorem plX16_is : zplain MX16_is 2 ∧ (zcodeW MX16_is ∈ lw_all ∧ Cond.initialized MX16_is.1.cls ∈ lw_all) := ⟨⟨by decide +kernel, by decide +kernel⟩, q1736, q142⟩
noncomputable def f_X16_is_17 (t0 : Int) (σ : zM) : Option zO :=
  zgd (z01 t0) <|
  some (0, zi t0, σ)
theorem w_X16_is_17 {g : zG} {lv : Nat} {out : zO} (t0 : Int) (σ : zM) {r : zO} (h : f_X16_is_17 t0 σ = some r) (hk : (fun o : zO => o = out) r) : Gj g MX16_is (lv) 17 [] [zi t0] σ out := by
  revert h
  unfold f_X16_is_17
  refine gb_gd (fun hb => ?_)
  intro h
  cases h
  have hk : (0, zi t0, σ) = out := hk
  subst hk
  exact gj_ret (pc := 17) (t := .boolean) dX16_is_17 rfl ⟨rfl, rfl⟩ (fun _ => z01E hb)
noncomputable def f_X16_is (x0 x1 x2 : Int) (σ : zM) : Option zO :=
  (zgf σ 1600 x0).bind fun v1 =>
  if (zand (zshr x1 v1) 1) ≠ 1 then
    f_X16_is_17 0 σ
  else
    f_X16_is_17 1 σ
theorem c_X16_is {g : zG} {lv : Nat} {x0 x1 x2 : Int} {σ : zM} {out : zO} (h : f_X16_is x0 x1 x2 σ = some out) : Cj g (lv) MX16_is [zr x0, zi x1, zi x2] σ out := by
  refine cj_go (ls := [(0, zr x0), (1, zi x1), (2, zi x2)]) (by decide) (Nat.le_of_ble_eq_true rfl) rfl (zgen h (fun r hk => ?_))
  unfold f_X16_is
  refine zst_ (gj_iload_n 1 (pc := 0) dX16_is_0 rfl) ?_
  refine zst_ (gj_aload_n 0 (pc := 1) dX16_is_1 rfl) ?_
  refine gb_get (pc := 2) fl1600 dX16_is_2 q1609 (Or.inl rfl) (fun v1 => ?_)
  refine zst_ (gj_ishr (pc := 5) dX16_is_5) ?_
  refine zst_ (gj_iconst (pc := 6) dX16_is_6 (by decide)) ?_
  refine zst_ (gj_iand (pc := 7) dX16_is_7) ?_
  refine zst_ (gj_iconst (pc := 8) dX16_is_8 (by decide)) ?_
  refine gb_if (gj_icmp_ne 16 (pc := 9) dX16_is_9 (by decide)) ?_ ?_
  · refine zst_ (gj_iconst (pc := 16) dX16_is_16 (by decide)) ?_
    refine zst_ (gj_sub [] rfl) ?_
    exact fun h => w_X16_is_17 0 σ h hk
  · refine zst_ (gj_iconst (pc := 12) dX16_is_12 (by decide)) ?_
    refine zst_ (gj_goto 17 (pc := 13) dX16_is_13 (by decide)) ?_
    refine zst_ (gj_sub [] rfl) ?_
    exact fun h => w_X16_is_17 1 σ h hk
theorem q1742 : (Jvm.Cond.code ({ cls := "LassoFinder$Temporal", name := "is", desc := "(II)Z" } : Jvm.MethodName) prog_20_method_2_code (3 : Nat) (Option.some Jvm.ClassFile.FieldType.boolean)) ∈ lw_all := lw_g (lw_at lw_m7 202 rfl) rfl
abbrev cX18_is : ByteArray := prog_20_method_2_code
def yX18_is : MethodName := ⟨RX18, "is", "(II)Z"⟩
theorem dX18_is_0 : decode cX18_is 0 = .ok (.iload_n 2, 1) := by decide +kernel
theorem dX18_is_1 : decode cX18_is 1 = .ok (.aload_n 0, 1) := by decide +kernel
theorem dX18_is_2 : decode cX18_is 2 = .ok (.getfield 13, 3) := by decide +kernel
theorem dX18_is_5 : decode cX18_is 5 = .ok (.ishr, 1) := by decide +kernel
theorem dX18_is_6 : decode cX18_is 6 = .ok (.iconst 1, 1) := by decide +kernel
theorem dX18_is_7 : decode cX18_is 7 = .ok (.iand, 1) := by decide +kernel
theorem dX18_is_8 : decode cX18_is 8 = .ok (.iconst 1, 1) := by decide +kernel
theorem dX18_is_9 : decode cX18_is 9 = .ok (.if_icmp .ne 7, 3) := by decide +kernel
theorem dX18_is_12 : decode cX18_is 12 = .ok (.iconst 1, 1) := by decide +kernel
theorem dX18_is_13 : decode cX18_is 13 = .ok (.goto 4, 3) := by decide +kernel
theorem dX18_is_16 : decode cX18_is 16 = .ok (.iconst 0, 1) := by decide +kernel
theorem dX18_is_17 : decode cX18_is 17 = .ok (.ireturn, 1) := by decide +kernel
abbrev MX18_is : zT := (yX18_is, cX18_is, 3, (Option.some Jvm.ClassFile.FieldType.boolean), [])
theorem plX18_is : zplain MX18_is 2 ∧ (zcodeW MX18_is ∈ lw_all ∧ Cond.initialized MX18_is.1.cls ∈ lw_all) := ⟨⟨by decide +kernel, by decide +kernel⟩, q1742, q144⟩
noncomputable def f_X18_is_17 (t0 : Int) (σ : zM) : Option zO :=
  zgd (z01 t0) <|
  some (0, zi t0, σ)
theorem w_X18_is_17 {g : zG} {lv : Nat} {out : zO} (t0 : Int) (σ : zM) {r : zO} (h : f_X18_is_17 t0 σ = some r) (hk : (fun o : zO => o = out) r) : Gj g MX18_is (lv) 17 [] [zi t0] σ out := by
  revert h
  unfold f_X18_is_17
  refine gb_gd (fun hb => ?_)
  intro h
  cases h
  have hk : (0, zi t0, σ) = out := hk
  subst hk
  exact gj_ret (pc := 17) (t := .boolean) dX18_is_17 rfl ⟨rfl, rfl⟩ (fun _ => z01E hb)
noncomputable def f_X18_is (x0 x1 x2 : Int) (σ : zM) : Option zO :=
  (zgf σ 1801 x0).bind fun v1 =>
  if (zand (zshr x2 v1) 1) ≠ 1 then
    f_X18_is_17 0 σ
  else
    f_X18_is_17 1 σ
theorem c_X18_is {g : zG} {lv : Nat} {x0 x1 x2 : Int} {σ : zM} {out : zO} (h : f_X18_is x0 x1 x2 σ = some out) : Cj g (lv) MX18_is [zr x0, zi x1, zi x2] σ out := by
  refine cj_go (ls := [(0, zr x0), (1, zi x1), (2, zi x2)]) (by decide) (Nat.le_of_ble_eq_true rfl) rfl (zgen h (fun r hk => ?_))
  unfold f_X18_is
  refine zst_ (gj_iload_n 2 (pc := 0) dX18_is_0 rfl) ?_
  refine zst_ (gj_aload_n 0 (pc := 1) dX18_is_1 rfl) ?_
  refine gb_get (pc := 2) fl1801 dX18_is_2 q1641 (Or.inl rfl) (fun v1 => ?_)
  refine zst_ (gj_ishr (pc := 5) dX18_is_5) ?_
  refine zst_ (gj_iconst (pc := 6) dX18_is_6 (by decide)) ?_
  refine zst_ (gj_iand (pc := 7) dX18_is_7) ?_
  refine zst_ (gj_iconst (pc := 8) dX18_is_8 (by decide)) ?_
  refine gb_if (gj_icmp_ne 16 (pc := 9) dX18_is_9 (by decide)) ?_ ?_
  · refine zst_ (gj_iconst (pc := 16) dX18_is_16 (by decide)) ?_
    refine zst_ (gj_sub [] rfl) ?_
    exact fun h => w_X18_is_17 0 σ h hk
  · refine zst_ (gj_iconst (pc := 12) dX18_is_12 (by decide)) ?_
    refine zst_ (gj_goto 17 (pc := 13) dX18_is_13 (by decide)) ?_
    refine zst_ (gj_sub [] rfl) ?_
    exact fun h => w_X18_is_17 1 σ h hk
theorem q1713 : (Jvm.Cond.interfaceMethod "LassoFinder$Formula" "LassoFinder$Formula" "is" "(II)Z") ∈ lw_tbl := lw_at lw_m7 173 rfl
theorem q1714 : (Jvm.Cond.declares ({ cls := "LassoFinder$Formula", name := "is", desc := "(II)Z" } : Jvm.MethodName)) ∈ lw_tbl := lw_at lw_m7 174 rfl
theorem q1715 : (Jvm.Cond.castable "LassoFinder$Both" "LassoFinder$Formula") ∈ lw_tbl := lw_at lw_m7 175 rfl
theorem q1716 : (Jvm.Cond.selects "LassoFinder$Both" ({ cls := "LassoFinder$Formula", name := "is", desc := "(II)Z" } : Jvm.MethodName) ({ cls := "LassoFinder$Both", name := "is", desc := "(II)Z" } : Jvm.MethodName)) ∈ lw_all := lw_g (lw_at lw_m7 176 rfl) rfl
theorem q1717 : (Jvm.Cond.unhidden "LassoFinder$Both" "is" "(II)Z") ∈ lw_tbl := lw_at lw_m7 177 rfl
theorem q1718 : (Jvm.Cond.instanceMethod ({ cls := "LassoFinder$Both", name := "is", desc := "(II)Z" } : Jvm.MethodName)) ∈ lw_all := lw_g (lw_at lw_m7 178 rfl) rfl
theorem q1719 : (Jvm.Cond.publicMethod ({ cls := "LassoFinder$Both", name := "is", desc := "(II)Z" } : Jvm.MethodName)) ∈ lw_tbl := lw_at lw_m7 179 rfl
theorem q1720 : (Jvm.Cond.code ({ cls := "LassoFinder$Both", name := "is", desc := "(II)Z" } : Jvm.MethodName) prog_2_method_2_code (5 : Nat) (Option.some Jvm.ClassFile.FieldType.boolean)) ∈ lw_all := lw_g (lw_at lw_m7 180 rfl) rfl
theorem q1722 : (Jvm.Cond.methodLink "LassoFinder$Both" (20 : Nat) ({ cls := "LassoFinder$Formula", name := "is", desc := "(II)Z" } : Jvm.MethodName)) ∈ lw_all := lw_g (lw_at lw_m7 182 rfl) rfl
theorem q1723 : (Jvm.Cond.castable "LassoFinder$Not" "LassoFinder$Formula") ∈ lw_tbl := lw_at lw_m7 183 rfl
theorem q1724 : (Jvm.Cond.selects "LassoFinder$Not" ({ cls := "LassoFinder$Formula", name := "is", desc := "(II)Z" } : Jvm.MethodName) ({ cls := "LassoFinder$Not", name := "is", desc := "(II)Z" } : Jvm.MethodName)) ∈ lw_all := lw_g (lw_at lw_m7 184 rfl) rfl
theorem q1725 : (Jvm.Cond.unhidden "LassoFinder$Not" "is" "(II)Z") ∈ lw_tbl := lw_at lw_m7 185 rfl
theorem q1726 : (Jvm.Cond.instanceMethod ({ cls := "LassoFinder$Not", name := "is", desc := "(II)Z" } : Jvm.MethodName)) ∈ lw_all := lw_g (lw_at lw_m7 186 rfl) rfl
theorem q1727 : (Jvm.Cond.publicMethod ({ cls := "LassoFinder$Not", name := "is", desc := "(II)Z" } : Jvm.MethodName)) ∈ lw_tbl := lw_at lw_m7 187 rfl
theorem q1728 : (Jvm.Cond.code ({ cls := "LassoFinder$Not", name := "is", desc := "(II)Z" } : Jvm.MethodName) prog_13_method_2_code (3 : Nat) (Option.some Jvm.ClassFile.FieldType.boolean)) ∈ lw_all := lw_g (lw_at lw_m7 188 rfl) rfl
theorem q1730 : (Jvm.Cond.methodLink "LassoFinder$Not" (13 : Nat) ({ cls := "LassoFinder$Formula", name := "is", desc := "(II)Z" } : Jvm.MethodName)) ∈ lw_all := lw_g (lw_at lw_m7 190 rfl) rfl
theorem q1731 : (Jvm.Cond.castable "LassoFinder$Proposition" "LassoFinder$Formula") ∈ lw_tbl := lw_at lw_m7 191 rfl
theorem q1732 : (Jvm.Cond.selects "LassoFinder$Proposition" ({ cls := "LassoFinder$Formula", name := "is", desc := "(II)Z" } : Jvm.MethodName) ({ cls := "LassoFinder$Proposition", name := "is", desc := "(II)Z" } : Jvm.MethodName)) ∈ lw_all := lw_g (lw_at lw_m7 192 rfl) rfl
theorem q1733 : (Jvm.Cond.unhidden "LassoFinder$Proposition" "is" "(II)Z") ∈ lw_tbl := lw_at lw_m7 193 rfl
theorem q1734 : (Jvm.Cond.instanceMethod ({ cls := "LassoFinder$Proposition", name := "is", desc := "(II)Z" } : Jvm.MethodName)) ∈ lw_all := lw_g (lw_at lw_m7 194 rfl) rfl
theorem q1735 : (Jvm.Cond.publicMethod ({ cls := "LassoFinder$Proposition", name := "is", desc := "(II)Z" } : Jvm.MethodName)) ∈ lw_tbl := lw_at lw_m7 195 rfl
theorem q1737 : (Jvm.Cond.castable "LassoFinder$Temporal" "LassoFinder$Formula") ∈ lw_tbl := lw_at lw_m7 197 rfl
theorem q1738 : (Jvm.Cond.selects "LassoFinder$Temporal" ({ cls := "LassoFinder$Formula", name := "is", desc := "(II)Z" } : Jvm.MethodName) ({ cls := "LassoFinder$Temporal", name := "is", desc := "(II)Z" } : Jvm.MethodName)) ∈ lw_all := lw_g (lw_at lw_m7 198 rfl) rfl
theorem q1739 : (Jvm.Cond.unhidden "LassoFinder$Temporal" "is" "(II)Z") ∈ lw_tbl := lw_at lw_m7 199 rfl
theorem q1740 : (Jvm.Cond.instanceMethod ({ cls := "LassoFinder$Temporal", name := "is", desc := "(II)Z" } : Jvm.MethodName)) ∈ lw_all := lw_g (lw_at lw_m7 200 rfl) rfl
theorem q1741 : (Jvm.Cond.publicMethod ({ cls := "LassoFinder$Temporal", name := "is", desc := "(II)Z" } : Jvm.MethodName)) ∈ lw_tbl := lw_at lw_m7 201 rfl
abbrev cX17_is : ByteArray := prog_13_method_2_code
def yX17_is : MethodName := ⟨RX17, "is", "(II)Z"⟩
theorem dX17_is_0 : decode cX17_is 0 = .ok (.aload_n 0, 1) := by decide +kernel
theorem dX17_is_1 : decode cX17_is 1 = .ok (.getfield 7, 3) := by decide +kernel
theorem dX17_is_4 : decode cX17_is 4 = .ok (.iload_n 1, 1) := by decide +kernel
theorem dX17_is_5 : decode cX17_is 5 = .ok (.iload_n 2, 1) := by decide +kernel
theorem dX17_is_6 : decode cX17_is 6 = .ok (.invokeinterface 13 3, 5) := by decide +kernel
theorem dX17_is_11 : decode cX17_is 11 = .ok (.ifCond .ne 7, 3) := by decide +kernel
theorem dX17_is_14 : decode cX17_is 14 = .ok (.iconst 1, 1) := by decide +kernel
theorem dX17_is_15 : decode cX17_is 15 = .ok (.goto 4, 3) := by decide +kernel
theorem dX17_is_18 : decode cX17_is 18 = .ok (.iconst 0, 1) := by decide +kernel
theorem dX17_is_19 : decode cX17_is 19 = .ok (.ireturn, 1) := by decide +kernel
abbrev MX17_is : zT := (yX17_is, cX17_is, 3, (Option.some Jvm.ClassFile.FieldType.boolean), [])
theorem plX17_is : zplain MX17_is 2 ∧ (zcodeW MX17_is ∈ lw_all ∧ Cond.initialized MX17_is.1.cls ∈ lw_all) := ⟨⟨by decide +kernel, by decide +kernel⟩, q1728, q143⟩
abbrev cX19_is : ByteArray := prog_2_method_2_code
def yX19_is : MethodName := ⟨RX19, "is", "(II)Z"⟩
theorem dX19_is_0 : decode cX19_is 0 = .ok (.aload_n 0, 1) := by decide +kernel
theorem dX19_is_1 : decode cX19_is 1 = .ok (.getfield 13, 3) := by decide +kernel
theorem dX19_is_4 : decode cX19_is 4 = .ok (.iload_n 1, 1) := by decide +kernel
theorem dX19_is_5 : decode cX19_is 5 = .ok (.iload_n 2, 1) := by decide +kernel
theorem dX19_is_6 : decode cX19_is 6 = .ok (.invokeinterface 20 3, 5) := by decide +kernel
theorem dX19_is_11 : decode cX19_is 11 = .ok (.istore_n 3, 1) := by decide +kernel
theorem dX19_is_12 : decode cX19_is 12 = .ok (.aload_n 0, 1) := by decide +kernel
theorem dX19_is_13 : decode cX19_is 13 = .ok (.getfield 17, 3) := by decide +kernel
theorem dX19_is_16 : decode cX19_is 16 = .ok (.iload_n 1, 1) := by decide +kernel
theorem dX19_is_17 : decode cX19_is 17 = .ok (.iload_n 2, 1) := by decide +kernel
theorem dX19_is_18 : decode cX19_is 18 = .ok (.invokeinterface 20 3, 5) := by decide +kernel
theorem dX19_is_23 : decode cX19_is 23 = .ok (.istore 4, 2) := by decide +kernel
theorem dX19_is_25 : decode cX19_is 25 = .ok (.aload_n 0, 1) := by decide +kernel
theorem dX19_is_26 : decode cX19_is 26 = .ok (.getfield 7, 3) := by decide +kernel
theorem dX19_is_29 : decode cX19_is 29 = .ok (.bipush 38, 2) := by decide +kernel
theorem dX19_is_31 : decode cX19_is 31 = .ok (.if_icmp .ne 20, 3) := by decide +kernel
theorem dX19_is_34 : decode cX19_is 34 = .ok (.iload_n 3, 1) := by decide +kernel
theorem dX19_is_35 : decode cX19_is 35 = .ok (.ifCond .eq 12, 3) := by decide +kernel
theorem dX19_is_38 : decode cX19_is 38 = .ok (.iload 4, 2) := by decide +kernel
theorem dX19_is_40 : decode cX19_is 40 = .ok (.ifCond .eq 7, 3) := by decide +kernel
theorem dX19_is_43 : decode cX19_is 43 = .ok (.iconst 1, 1) := by decide +kernel
theorem dX19_is_44 : decode cX19_is 44 = .ok (.goto 47, 3) := by decide +kernel
theorem dX19_is_47 : decode cX19_is 47 = .ok (.iconst 0, 1) := by decide +kernel
theorem dX19_is_48 : decode cX19_is 48 = .ok (.goto 43, 3) := by decide +kernel
theorem dX19_is_51 : decode cX19_is 51 = .ok (.aload_n 0, 1) := by decide +kernel
theorem dX19_is_52 : decode cX19_is 52 = .ok (.getfield 7, 3) := by decide +kernel
theorem dX19_is_55 : decode cX19_is 55 = .ok (.bipush 124, 2) := by decide +kernel
theorem dX19_is_57 : decode cX19_is 57 = .ok (.if_icmp .ne 20, 3) := by decide +kernel
theorem dX19_is_60 : decode cX19_is 60 = .ok (.iload_n 3, 1) := by decide +kernel
theorem dX19_is_61 : decode cX19_is 61 = .ok (.ifCond .ne 8, 3) := by decide +kernel
theorem dX19_is_64 : decode cX19_is 64 = .ok (.iload 4, 2) := by decide +kernel
theorem dX19_is_66 : decode cX19_is 66 = .ok (.ifCond .eq 7, 3) := by decide +kernel
theorem dX19_is_69 : decode cX19_is 69 = .ok (.iconst 1, 1) := by decide +kernel
theorem dX19_is_70 : decode cX19_is 70 = .ok (.goto 21, 3) := by decide +kernel
theorem dX19_is_73 : decode cX19_is 73 = .ok (.iconst 0, 1) := by decide +kernel
theorem dX19_is_74 : decode cX19_is 74 = .ok (.goto 17, 3) := by decide +kernel
theorem dX19_is_77 : decode cX19_is 77 = .ok (.iload_n 3, 1) := by decide +kernel
theorem dX19_is_78 : decode cX19_is 78 = .ok (.ifCond .eq 8, 3) := by decide +kernel
theorem dX19_is_81 : decode cX19_is 81 = .ok (.iload 4, 2) := by decide +kernel
theorem dX19_is_83 : decode cX19_is 83 = .ok (.ifCond .eq 7, 3) := by decide +kernel
theorem dX19_is_86 : decode cX19_is 86 = .ok (.iconst 1, 1) := by decide +kernel
theorem dX19_is_87 : decode cX19_is 87 = .ok (.goto 4, 3) := by decide +kernel
theorem dX19_is_90 : decode cX19_is 90 = .ok (.iconst 0, 1) := by decide +kernel
theorem dX19_is_91 : decode cX19_is 91 = .ok (.ireturn, 1) := by decide +kernel
abbrev MX19_is : zT := (yX19_is, cX19_is, 5, (Option.some Jvm.ClassFile.FieldType.boolean), [])
theorem plX19_is : zplain MX19_is 2 ∧ (zcodeW MX19_is ∈ lw_all ∧ Cond.initialized MX19_is.1.cls ∈ lw_all) := ⟨⟨by decide +kernel, by decide +kernel⟩, q1720, q145⟩
def RC_G_X17_is (g : zG) (lv : Nat) (rc : Nat → List Int → zM → Option zO) : Prop :=
  (∀ {x0 x1 x2 : Int} {σ : zM} {out : zO}, rc 0 [x0, x1, x2] σ = some out → Cj g lv MX17_is [zr x0, zi x1, zi x2] σ out) ∧
  (∀ {x0 x1 x2 : Int} {σ : zM} {out : zO}, rc 1 [x0, x1, x2] σ = some out → Cj g lv MX19_is [zr x0, zi x1, zi x2] σ out) ∧ True
noncomputable def f_X17_is_19 (rc : Nat → List Int → zM → Option zO) (t0 : Int) (σ : zM) : Option zO :=
  zgd (z01 t0) <|
  some (0, zi t0, σ)
theorem w_X17_is_19 {g : zG} {lv : Nat} {out : zO} (rc : Nat → List Int → zM → Option zO) (hrc : RC_G_X17_is g (lv) rc) (t0 : Int) (σ : zM) {r : zO} (h : f_X17_is_19 rc t0 σ = some r) (hk : (fun o : zO => o = out) r) : Gj g MX17_is (lv + 1) 19 [] [zi t0] σ out := by
  revert h
  unfold f_X17_is_19
  refine gb_gd (fun hb => ?_)
  intro h
  cases h
  have hk : (0, zi t0, σ) = out := hk
  subst hk
  exact gj_ret (pc := 19) (t := .boolean) dX17_is_19 rfl ⟨rfl, rfl⟩ (fun _ => z01E hb)
noncomputable def f_X17_is (rc : Nat → List Int → zM → Option zO) (x0 x1 x2 : Int) (σ : zM) : Option zO :=
  (zgf σ 1700 x0).bind fun v1 =>
  zci ((if zis σ 17 v1 = true then f_X16_is v1 x1 x2 σ else if zis σ 18 v1 = true then rc 0 [v1, x1, x2] σ else if zis σ 20 v1 = true then rc 1 [v1, x1, x2] σ else if zis σ 19 v1 = true then f_X18_is v1 x1 x2 σ else none)) fun v2 σ3 =>
  if v2 ≠ 0 then
    f_X17_is_19 rc 0 σ3
  else
    f_X17_is_19 rc 1 σ3
theorem c_X17_is {g : zG} {lv : Nat} {rc : Nat → List Int → zM → Option zO} (hrc : RC_G_X17_is g (lv) rc) {x0 x1 x2 : Int} {σ : zM} {out : zO} (h : f_X17_is rc x0 x1 x2 σ = some out) : Cj g (lv + 1) MX17_is [zr x0, zi x1, zi x2] σ out := by
  refine cj_go (ls := [(0, zr x0), (1, zi x1), (2, zi x2)]) (by decide) (Nat.le_of_ble_eq_true rfl) rfl (zgen h (fun r hk => ?_))
  unfold f_X17_is
  refine zst_ (gj_aload_n 0 (pc := 0) dX17_is_0 rfl) ?_
  refine gb_get (pc := 1) fl1700 dX17_is_1 q1627 (Or.inl rfl) (fun v1 => ?_)
  refine zst_ (gj_iload_n 1 (pc := 4) dX17_is_4 rfl) ?_
  refine zst_ (gj_iload_n 2 (pc := 5) dX17_is_5 rfl) ?_
  refine gb_callI (pc := 6) (as := [zr v1, zi x1, zi x2]) (rest := []) (zCl.ite (fun hb => zCl.of (zLk_F (M := MX17_is) (ci := 16) (r := (RX16, TX16, 1)) (x := ⟨"LassoFinder$Formula", "is", "(II)Z"⟩) plX16_is.1 ⟨rfl, rfl⟩ (by decide) rfl rfl (zisE hb).1 (zisE hb).2 dX17_is_6 q1730 q1734 q1732 q1736 q1714 q1713 q1735 q1733 q1731) plX16_is (Nat.le_of_ble_eq_true rfl) (fun h => c_X16_is h)) (zCl.ite (fun hb => zCl.of (zLk_F (M := MX17_is) (ci := 17) (r := (RX17, TX17, 1)) (x := ⟨"LassoFinder$Formula", "is", "(II)Z"⟩) plX17_is.1 ⟨rfl, rfl⟩ (by decide) rfl rfl (zisE hb).1 (zisE hb).2 dX17_is_6 q1730 q1726 q1724 q1728 q1714 q1713 q1727 q1725 q1723) plX17_is (Nat.le_of_ble_eq_true rfl) (fun h => hrc.1 h)) (zCl.ite (fun hb => zCl.of (zLk_F (M := MX17_is) (ci := 19) (r := (RX19, TX19, 3)) (x := ⟨"LassoFinder$Formula", "is", "(II)Z"⟩) plX19_is.1 ⟨rfl, rfl⟩ (by decide) rfl rfl (zisE hb).1 (zisE hb).2 dX17_is_6 q1730 q1718 q1716 q1720 q1714 q1713 q1719 q1717 q1715) plX19_is (Nat.le_of_ble_eq_true rfl) (fun h => hrc.2.1 h)) (zCl.ite (fun hb => zCl.of (zLk_F (M := MX17_is) (ci := 18) (r := (RX18, TX18, 4)) (x := ⟨"LassoFinder$Formula", "is", "(II)Z"⟩) plX18_is.1 ⟨rfl, rfl⟩ (by decide) rfl rfl (zisE hb).1 (zisE hb).2 dX17_is_6 q1730 q1740 q1738 q1742 q1714 q1713 q1741 q1739 q1737) plX18_is (Nat.le_of_ble_eq_true rfl) (fun h => c_X18_is h)) zCl.no)))) (fun v2 σ3 => ?_)
  refine gb_if (gj_if_ne 18 (pc := 11) dX17_is_11 (by decide)) ?_ ?_
  · refine zst_ (gj_iconst (pc := 18) dX17_is_18 (by decide)) ?_
    refine zst_ (gj_sub [] rfl) ?_
    exact fun h => w_X17_is_19 rc hrc 0 σ3 h hk
  · refine zst_ (gj_iconst (pc := 14) dX17_is_14 (by decide)) ?_
    refine zst_ (gj_goto 19 (pc := 15) dX17_is_15 (by decide)) ?_
    refine zst_ (gj_sub [] rfl) ?_
    exact fun h => w_X17_is_19 rc hrc 1 σ3 h hk
noncomputable def f_X19_is_91 (rc : Nat → List Int → zM → Option zO) (t0 : Int) (σ : zM) : Option zO :=
  zgd (z01 t0) <|
  some (0, zi t0, σ)
theorem w_X19_is_91 {g : zG} {lv : Nat} {out : zO} (rc : Nat → List Int → zM → Option zO) (hrc : RC_G_X17_is g (lv) rc) (t0 : Int) (σ : zM) {r : zO} (h : f_X19_is_91 rc t0 σ = some r) (hk : (fun o : zO => o = out) r) : Gj g MX19_is (lv + 1) 91 [] [zi t0] σ out := by
  revert h
  unfold f_X19_is_91
  refine gb_gd (fun hb => ?_)
  intro h
  cases h
  have hk : (0, zi t0, σ) = out := hk
  subst hk
  exact gj_ret (pc := 91) (t := .boolean) dX19_is_91 rfl ⟨rfl, rfl⟩ (fun _ => z01E hb)
noncomputable def f_X19_is_86 (rc : Nat → List Int → zM → Option zO) (σ : zM) : Option zO :=
  f_X19_is_91 rc 1 σ
theorem w_X19_is_86 {g : zG} {lv : Nat} {out : zO} (rc : Nat → List Int → zM → Option zO) (hrc : RC_G_X17_is g (lv) rc) (σ : zM) {r : zO} (h : f_X19_is_86 rc  σ = some r) (hk : (fun o : zO => o = out) r) : Gj g MX19_is (lv + 1) 86 [] [] σ out := by
  revert h
  unfold f_X19_is_86
  refine zst_ (gj_iconst (pc := 86) dX19_is_86 (by decide)) ?_
  refine zst_ (gj_goto 91 (pc := 87) dX19_is_87 (by decide)) ?_
  exact fun h => w_X19_is_91 rc hrc 1 σ h hk
noncomputable def f_X19_is_69 (rc : Nat → List Int → zM → Option zO) (σ : zM) : Option zO :=
  f_X19_is_91 rc 1 σ
theorem w_X19_is_69 {g : zG} {lv : Nat} {out : zO} (rc : Nat → List Int → zM → Option zO) (hrc : RC_G_X17_is g (lv) rc) (σ : zM) {r : zO} (h : f_X19_is_69 rc  σ = some r) (hk : (fun o : zO => o = out) r) : Gj g MX19_is (lv + 1) 69 [] [] σ out := by
  revert h
  unfold f_X19_is_69
  refine zst_ (gj_iconst (pc := 69) dX19_is_69 (by decide)) ?_
  refine zst_ (gj_goto 91 (pc := 70) dX19_is_70 (by decide)) ?_
  exact fun h => w_X19_is_91 rc hrc 1 σ h hk
noncomputable def f_X19_is_47 (rc : Nat → List Int → zM → Option zO) (σ : zM) : Option zO :=
  f_X19_is_91 rc 0 σ
theorem w_X19_is_47 {g : zG} {lv : Nat} {out : zO} (rc : Nat → List Int → zM → Option zO) (hrc : RC_G_X17_is g (lv) rc) (σ : zM) {r : zO} (h : f_X19_is_47 rc  σ = some r) (hk : (fun o : zO => o = out) r) : Gj g MX19_is (lv + 1) 47 [] [] σ out := by
  revert h
  unfold f_X19_is_47
  refine zst_ (gj_iconst (pc := 47) dX19_is_47 (by decide)) ?_
  refine zst_ (gj_goto 91 (pc := 48) dX19_is_48 (by decide)) ?_
  exact fun h => w_X19_is_91 rc hrc 0 σ h hk
noncomputable def f_X19_is (rc : Nat → List Int → zM → Option zO) (x0 x1 x2 : Int) (σ : zM) : Option zO :=
  (zgf σ 1901 x0).bind fun v1 =>
  zci ((if zis σ 17 v1 = true then f_X16_is v1 x1 x2 σ else if zis σ 18 v1 = true then rc 0 [v1, x1, x2] σ else if zis σ 20 v1 = true then rc 1 [v1, x1, x2] σ else if zis σ 19 v1 = true then f_X18_is v1 x1 x2 σ else none)) fun v2 σ3 =>
  (zgf σ3 1902 x0).bind fun v4 =>
  zci ((if zis σ3 17 v4 = true then f_X16_is v4 x1 x2 σ3 else if zis σ3 18 v4 = true then rc 0 [v4, x1, x2] σ3 else if zis σ3 20 v4 = true then rc 1 [v4, x1, x2] σ3 else if zis σ3 19 v4 = true then f_X18_is v4 x1 x2 σ3 else none)) fun v5 σ6 =>
  (zgf σ6 1900 x0).bind fun v7 =>
  if v7 ≠ 38 then
    (zgf σ6 1900 x0).bind fun v8 =>
    if v8 ≠ 124 then
      if v2 = 0 then
        f_X19_is_86 rc σ6
      else
        if v5 = 0 then
          f_X19_is_91 rc 0 σ6
        else
          f_X19_is_86 rc σ6
    else
      if v2 ≠ 0 then
        f_X19_is_69 rc σ6
      else
        if v5 = 0 then
          f_X19_is_91 rc 0 σ6
        else
          f_X19_is_69 rc σ6
  else
    if v2 = 0 then
      f_X19_is_47 rc σ6
    else
      if v5 = 0 then
        f_X19_is_47 rc σ6
      else
        f_X19_is_91 rc 1 σ6
theorem c_X19_is {g : zG} {lv : Nat} {rc : Nat → List Int → zM → Option zO} (hrc : RC_G_X17_is g (lv) rc) {x0 x1 x2 : Int} {σ : zM} {out : zO} (h : f_X19_is rc x0 x1 x2 σ = some out) : Cj g (lv + 1) MX19_is [zr x0, zi x1, zi x2] σ out := by
  refine cj_go (ls := [(0, zr x0), (1, zi x1), (2, zi x2)]) (by decide) (Nat.le_of_ble_eq_true rfl) rfl (zgen h (fun r hk => ?_))
  unfold f_X19_is
  refine zst_ (gj_aload_n 0 (pc := 0) dX19_is_0 rfl) ?_
  refine gb_get (pc := 1) fl1901 dX19_is_1 q1663 (Or.inl rfl) (fun v1 => ?_)
  refine zst_ (gj_iload_n 1 (pc := 4) dX19_is_4 rfl) ?_
  refine zst_ (gj_iload_n 2 (pc := 5) dX19_is_5 rfl) ?_
  refine gb_callI (pc := 6) (as := [zr v1, zi x1, zi x2]) (rest := []) (zCl.ite (fun hb => zCl.of (zLk_F (M := MX19_is) (ci := 16) (r := (RX16, TX16, 1)) (x := ⟨"LassoFinder$Formula", "is", "(II)Z"⟩) plX16_is.1 ⟨rfl, rfl⟩ (by decide) rfl rfl (zisE hb).1 (zisE hb).2 dX19_is_6 q1722 q1734 q1732 q1736 q1714 q1713 q1735 q1733 q1731) plX16_is (Nat.le_of_ble_eq_true rfl) (fun h => c_X16_is h)) (zCl.ite (fun hb => zCl.of (zLk_F (M := MX19_is) (ci := 17) (r := (RX17, TX17, 1)) (x := ⟨"LassoFinder$Formula", "is", "(II)Z"⟩) plX17_is.1 ⟨rfl, rfl⟩ (by decide) rfl rfl (zisE hb).1 (zisE hb).2 dX19_is_6 q1722 q1726 q1724 q1728 q1714 q1713 q1727 q1725 q1723) plX17_is (Nat.le_of_ble_eq_true rfl) (fun h => hrc.1 h)) (zCl.ite (fun hb => zCl.of (zLk_F (M := MX19_is) (ci := 19) (r := (RX19, TX19, 3)) (x := ⟨"LassoFinder$Formula", "is", "(II)Z"⟩) plX19_is.1 ⟨rfl, rfl⟩ (by decide) rfl rfl (zisE hb).1 (zisE hb).2 dX19_is_6 q1722 q1718 q1716 q1720 q1714 q1713 q1719 q1717 q1715) plX19_is (Nat.le_of_ble_eq_true rfl) (fun h => hrc.2.1 h)) (zCl.ite (fun hb => zCl.of (zLk_F (M := MX19_is) (ci := 18) (r := (RX18, TX18, 4)) (x := ⟨"LassoFinder$Formula", "is", "(II)Z"⟩) plX18_is.1 ⟨rfl, rfl⟩ (by decide) rfl rfl (zisE hb).1 (zisE hb).2 dX19_is_6 q1722 q1740 q1738 q1742 q1714 q1713 q1741 q1739 q1737) plX18_is (Nat.le_of_ble_eq_true rfl) (fun h => c_X18_is h)) zCl.no)))) (fun v2 σ3 => ?_)
  refine zst_ (gj_istore_n (pc := 11) (ls' := [(3, zi v2), (0, zr x0), (1, zi x1), (2, zi x2)]) dX19_is_11 (by decide) rfl) ?_
  refine zst_ (gj_aload_n 1 (pc := 12) dX19_is_12 rfl) ?_
  refine gb_get (pc := 13) fl1902 dX19_is_13 q1664 (Or.inl rfl) (fun v4 => ?_)
  refine zst_ (gj_iload_n 2 (pc := 16) dX19_is_16 rfl) ?_
  refine zst_ (gj_iload_n 3 (pc := 17) dX19_is_17 rfl) ?_
  refine gb_callI (pc := 18) (as := [zr v4, zi x1, zi x2]) (rest := []) (zCl.ite (fun hb => zCl.of (zLk_F (M := MX19_is) (ci := 16) (r := (RX16, TX16, 1)) (x := ⟨"LassoFinder$Formula", "is", "(II)Z"⟩) plX16_is.1 ⟨rfl, rfl⟩ (by decide) rfl rfl (zisE hb).1 (zisE hb).2 dX19_is_18 q1722 q1734 q1732 q1736 q1714 q1713 q1735 q1733 q1731) plX16_is (Nat.le_of_ble_eq_true rfl) (fun h => c_X16_is h)) (zCl.ite (fun hb => zCl.of (zLk_F (M := MX19_is) (ci := 17) (r := (RX17, TX17, 1)) (x := ⟨"LassoFinder$Formula", "is", "(II)Z"⟩) plX17_is.1 ⟨rfl, rfl⟩ (by decide) rfl rfl (zisE hb).1 (zisE hb).2 dX19_is_18 q1722 q1726 q1724 q1728 q1714 q1713 q1727 q1725 q1723) plX17_is (Nat.le_of_ble_eq_true rfl) (fun h => hrc.1 h)) (zCl.ite (fun hb => zCl.of (zLk_F (M := MX19_is) (ci := 19) (r := (RX19, TX19, 3)) (x := ⟨"LassoFinder$Formula", "is", "(II)Z"⟩) plX19_is.1 ⟨rfl, rfl⟩ (by decide) rfl rfl (zisE hb).1 (zisE hb).2 dX19_is_18 q1722 q1718 q1716 q1720 q1714 q1713 q1719 q1717 q1715) plX19_is (Nat.le_of_ble_eq_true rfl) (fun h => hrc.2.1 h)) (zCl.ite (fun hb => zCl.of (zLk_F (M := MX19_is) (ci := 18) (r := (RX18, TX18, 4)) (x := ⟨"LassoFinder$Formula", "is", "(II)Z"⟩) plX18_is.1 ⟨rfl, rfl⟩ (by decide) rfl rfl (zisE hb).1 (zisE hb).2 dX19_is_18 q1722 q1740 q1738 q1742 q1714 q1713 q1741 q1739 q1737) plX18_is (Nat.le_of_ble_eq_true rfl) (fun h => c_X18_is h)) zCl.no)))) (fun v5 σ6 => ?_)
  refine zst_ (gj_istore (pc := 23) (ls' := [(4, zi v5), (3, zi v2), (0, zr x0), (1, zi x1), (2, zi x2)]) dX19_is_23 (by decide) rfl) ?_
  refine zst_ (gj_aload_n 2 (pc := 25) dX19_is_25 rfl) ?_
  refine gb_get (pc := 26) fl1900 dX19_is_26 q1662 (Or.inl rfl) (fun v7 => ?_)
  refine zst_ (gj_bipush (pc := 29) dX19_is_29 ⟨rfl, by decide⟩) ?_
  refine gb_if (gj_icmp_ne 51 (pc := 31) dX19_is_31 (by decide)) ?_ ?_
  · refine zst_ (gj_aload_n 2 (pc := 51) dX19_is_51 rfl) ?_
    refine gb_get (pc := 52) fl1900 dX19_is_52 q1662 (Or.inl rfl) (fun v8 => ?_)
    refine zst_ (gj_bipush (pc := 55) dX19_is_55 ⟨rfl, by decide⟩) ?_
    refine gb_if (gj_icmp_ne 77 (pc := 57) dX19_is_57 (by decide)) ?_ ?_
    · refine zst_ (gj_iload_n 1 (pc := 77) dX19_is_77 rfl) ?_
      refine gb_if (gj_if_eq 86 (pc := 78) dX19_is_78 (by decide)) ?_ ?_
      · refine zst_ (gj_sub [] rfl) ?_
        exact fun h => w_X19_is_86 rc hrc σ6 h hk
      · refine zst_ (gj_iload 0 (pc := 81) dX19_is_81 rfl) ?_
        refine gb_if (gj_if_eq 90 (pc := 83) dX19_is_83 (by decide)) ?_ ?_
        · refine zst_ (gj_iconst (pc := 90) dX19_is_90 (by decide)) ?_
          refine zst_ (gj_sub [] rfl) ?_
          exact fun h => w_X19_is_91 rc hrc 0 σ6 h hk
        · refine zst_ (gj_sub [] rfl) ?_
          exact fun h => w_X19_is_86 rc hrc σ6 h hk
    · refine zst_ (gj_iload_n 1 (pc := 60) dX19_is_60 rfl) ?_
      refine gb_if (gj_if_ne 69 (pc := 61) dX19_is_61 (by decide)) ?_ ?_
      · refine zst_ (gj_sub [] rfl) ?_
        exact fun h => w_X19_is_69 rc hrc σ6 h hk
      · refine zst_ (gj_iload 0 (pc := 64) dX19_is_64 rfl) ?_
        refine gb_if (gj_if_eq 73 (pc := 66) dX19_is_66 (by decide)) ?_ ?_
        · refine zst_ (gj_iconst (pc := 73) dX19_is_73 (by decide)) ?_
          refine zst_ (gj_goto 91 (pc := 74) dX19_is_74 (by decide)) ?_
          refine zst_ (gj_sub [] rfl) ?_
          exact fun h => w_X19_is_91 rc hrc 0 σ6 h hk
        · refine zst_ (gj_sub [] rfl) ?_
          exact fun h => w_X19_is_69 rc hrc σ6 h hk
  · refine zst_ (gj_iload_n 1 (pc := 34) dX19_is_34 rfl) ?_
    refine gb_if (gj_if_eq 47 (pc := 35) dX19_is_35 (by decide)) ?_ ?_
    · refine zst_ (gj_sub [] rfl) ?_
      exact fun h => w_X19_is_47 rc hrc σ6 h hk
    · refine zst_ (gj_iload 0 (pc := 38) dX19_is_38 rfl) ?_
      refine gb_if (gj_if_eq 47 (pc := 40) dX19_is_40 (by decide)) ?_ ?_
      · refine zst_ (gj_sub [] rfl) ?_
        exact fun h => w_X19_is_47 rc hrc σ6 h hk
      · refine zst_ (gj_iconst (pc := 43) dX19_is_43 (by decide)) ?_
        refine zst_ (gj_goto 91 (pc := 44) dX19_is_44 (by decide)) ?_
        refine zst_ (gj_sub [] rfl) ?_
        exact fun h => w_X19_is_91 rc hrc 1 σ6 h hk
noncomputable def f_G_X17_is : Nat → Nat → List Int → zM → Option zO
  | 0, _, _, _ => none
  | d + 1, tg, as, σ => match tg, as with
    | 0, [x0, x1, x2] => f_X17_is (f_G_X17_is d) x0 x1 x2 σ
    | 1, [x0, x1, x2] => f_X19_is (f_G_X17_is d) x0 x1 x2 σ
    | _, _ => none
theorem rc_G_X17_is (g : zG) : ∀ (d : Nat) {lv : Nat}, RC_G_X17_is g (lv + d) (f_G_X17_is d)
  | 0, lv => ⟨(fun h => by cases h), (fun h => by cases h), trivial⟩
  | d + 1, lv => by
    have ih := rc_G_X17_is g d (lv := lv)
    rw [show lv + d = lv + d + 0 by omega] at ih
    rw [show lv + (d + 1) = lv + d + 1 by omega]
    exact ⟨fun h => c_X17_is (lv := lv + d) ih h, fun h => c_X19_is (lv := lv + d) ih h, trivial⟩
theorem c_G_X17_is_0 {g : zG} {lv : Nat} {x0 x1 x2 : Int} {σ : zM} {out : zO} (h : f_G_X17_is 40 0 [x0, x1, x2] σ = some out) : Cj g (lv + 40) MX17_is [zr x0, zi x1, zi x2] σ out := (rc_G_X17_is g 40 (lv := lv)).1 h
theorem c_G_X17_is_1 {g : zG} {lv : Nat} {x0 x1 x2 : Int} {σ : zM} {out : zO} (h : f_G_X17_is 40 1 [x0, x1, x2] σ = some out) : Cj g (lv + 40) MX19_is [zr x0, zi x1, zi x2] σ out := (rc_G_X17_is g 40 (lv := lv)).2.1 h

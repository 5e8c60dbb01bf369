set_option maxRecDepth 100000
theorem q2374 : (Jvm.Cond.code ({ cls := "LassoFinderModel", name := "stemOf", desc := "()I" } : Jvm.MethodName) prog_22_method_62_code (9 : Nat) (Option.some Jvm.ClassFile.FieldType.int)) ∈ lw_all := lw_g (lw_at lw_m10 114 rfl) rfl
theorem q2375 : (Jvm.Cond.methodLink "LassoFinderModel" (440 : Nat) ({ cls := "LassoFinderModel", name := "keep", desc := "([III)V" } : Jvm.MethodName)) ∈ lw_all := lw_g (lw_at lw_m10 115 rfl) rfl
theorem q2376 : (Jvm.Cond.static ({ cls := "LassoFinderModel", name := "keep", desc := "([III)V" } : Jvm.MethodName)) ∈ lw_all := lw_g (lw_at lw_m10 116 rfl) rfl
abbrev cX9_stemOf : ByteArray := prog_22_method_62_code
def yX9_stemOf : MethodName := ⟨RX9, "stemOf", "()I"⟩
theorem dX9_stemOf_0 : decode cX9_stemOf 0 = .ok (.iconst 0, 1) := by decide +kernel
theorem dX9_stemOf_1 : decode cX9_stemOf 1 = .ok (.istore_n 1, 1) := by decide +kernel
theorem dX9_stemOf_2 : decode cX9_stemOf 2 = .ok (.iconst 0, 1) := by decide +kernel
theorem dX9_stemOf_3 : decode cX9_stemOf 3 = .ok (.istore_n 2, 1) := by decide +kernel
theorem dX9_stemOf_4 : decode cX9_stemOf 4 = .ok (.iconst 0, 1) := by decide +kernel
theorem dX9_stemOf_5 : decode cX9_stemOf 5 = .ok (.istore_n 3, 1) := by decide +kernel
theorem dX9_stemOf_6 : decode cX9_stemOf 6 = .ok (.iload_n 3, 1) := by decide +kernel
theorem dX9_stemOf_7 : decode cX9_stemOf 7 = .ok (.iconst 1, 1) := by decide +kernel
theorem dX9_stemOf_8 : decode cX9_stemOf 8 = .ok (.aload_n 0, 1) := by decide +kernel
theorem dX9_stemOf_9 : decode cX9_stemOf 9 = .ok (.getfield 376, 3) := by decide +kernel
theorem dX9_stemOf_12 : decode cX9_stemOf 12 = .ok (.ishl, 1) := by decide +kernel
theorem dX9_stemOf_13 : decode cX9_stemOf 13 = .ok (.if_icmp .ge 37, 3) := by decide +kernel
theorem dX9_stemOf_16 : decode cX9_stemOf 16 = .ok (.iload_n 2, 1) := by decide +kernel
theorem dX9_stemOf_17 : decode cX9_stemOf 17 = .ok (.aload_n 0, 1) := by decide +kernel
theorem dX9_stemOf_18 : decode cX9_stemOf 18 = .ok (.getfield 169, 3) := by decide +kernel
theorem dX9_stemOf_21 : decode cX9_stemOf 21 = .ok (.iload_n 3, 1) := by decide +kernel
theorem dX9_stemOf_22 : decode cX9_stemOf 22 = .ok (.iaload, 1) := by decide +kernel
theorem dX9_stemOf_23 : decode cX9_stemOf 23 = .ok (.ifCond .ne 18, 3) := by decide +kernel
theorem dX9_stemOf_26 : decode cX9_stemOf 26 = .ok (.aload_n 0, 1) := by decide +kernel
theorem dX9_stemOf_27 : decode cX9_stemOf 27 = .ok (.getfield 172, 3) := by decide +kernel
theorem dX9_stemOf_30 : decode cX9_stemOf 30 = .ok (.iload_n 3, 1) := by decide +kernel
theorem dX9_stemOf_31 : decode cX9_stemOf 31 = .ok (.baload, 1) := by decide +kernel
theorem dX9_stemOf_32 : decode cX9_stemOf 32 = .ok (.ifCond .eq 9, 3) := by decide +kernel
theorem dX9_stemOf_35 : decode cX9_stemOf 35 = .ok (.iconst 1, 1) := by decide +kernel
theorem dX9_stemOf_36 : decode cX9_stemOf 36 = .ok (.iload_n 3, 1) := by decide +kernel
theorem dX9_stemOf_37 : decode cX9_stemOf 37 = .ok (.ishl, 1) := by decide +kernel
theorem dX9_stemOf_38 : decode cX9_stemOf 38 = .ok (.goto 4, 3) := by decide +kernel
theorem dX9_stemOf_41 : decode cX9_stemOf 41 = .ok (.iconst 0, 1) := by decide +kernel
theorem dX9_stemOf_42 : decode cX9_stemOf 42 = .ok (.ior, 1) := by decide +kernel
theorem dX9_stemOf_43 : decode cX9_stemOf 43 = .ok (.istore_n 2, 1) := by decide +kernel
theorem dX9_stemOf_44 : decode cX9_stemOf 44 = .ok (.iinc 3 1, 3) := by decide +kernel
theorem dX9_stemOf_47 : decode cX9_stemOf 47 = .ok (.goto (-41), 3) := by decide +kernel
theorem dX9_stemOf_50 : decode cX9_stemOf 50 = .ok (.iconst 1, 1) := by decide +kernel
theorem dX9_stemOf_51 : decode cX9_stemOf 51 = .ok (.istore_n 3, 1) := by decide +kernel
theorem dX9_stemOf_52 : decode cX9_stemOf 52 = .ok (.iload_n 3, 1) := by decide +kernel
theorem dX9_stemOf_53 : decode cX9_stemOf 53 = .ok (.aload_n 0, 1) := by decide +kernel
theorem dX9_stemOf_54 : decode cX9_stemOf 54 = .ok (.getfield 178, 3) := by decide +kernel
theorem dX9_stemOf_57 : decode cX9_stemOf 57 = .ok (.if_icmp .gt 167, 3) := by decide +kernel
theorem dX9_stemOf_60 : decode cX9_stemOf 60 = .ok (.iconst (-1), 1) := by decide +kernel
theorem dX9_stemOf_61 : decode cX9_stemOf 61 = .ok (.istore 4, 2) := by decide +kernel
theorem dX9_stemOf_63 : decode cX9_stemOf 63 = .ok (.iconst 0, 1) := by decide +kernel
theorem dX9_stemOf_64 : decode cX9_stemOf 64 = .ok (.istore 5, 2) := by decide +kernel
theorem dX9_stemOf_66 : decode cX9_stemOf 66 = .ok (.aload_n 0, 1) := by decide +kernel
theorem dX9_stemOf_67 : decode cX9_stemOf 67 = .ok (.getfield 109, 3) := by decide +kernel
theorem dX9_stemOf_70 : decode cX9_stemOf 70 = .ok (.iload_n 1, 1) := by decide +kernel
theorem dX9_stemOf_71 : decode cX9_stemOf 71 = .ok (.iaload, 1) := by decide +kernel
theorem dX9_stemOf_72 : decode cX9_stemOf 72 = .ok (.istore 6, 2) := by decide +kernel
theorem dX9_stemOf_74 : decode cX9_stemOf 74 = .ok (.iload 6, 2) := by decide +kernel
theorem dX9_stemOf_76 : decode cX9_stemOf 76 = .ok (.aload_n 0, 1) := by decide +kernel
theorem dX9_stemOf_77 : decode cX9_stemOf 77 = .ok (.getfield 109, 3) := by decide +kernel
theorem dX9_stemOf_80 : decode cX9_stemOf 80 = .ok (.iload_n 1, 1) := by decide +kernel
theorem dX9_stemOf_81 : decode cX9_stemOf 81 = .ok (.iconst 1, 1) := by decide +kernel
theorem dX9_stemOf_82 : decode cX9_stemOf 82 = .ok (.iadd, 1) := by decide +kernel
theorem dX9_stemOf_83 : decode cX9_stemOf 83 = .ok (.iaload, 1) := by decide +kernel
theorem dX9_stemOf_84 : decode cX9_stemOf 84 = .ok (.if_icmp .ge 111, 3) := by decide +kernel
theorem dX9_stemOf_87 : decode cX9_stemOf 87 = .ok (.iload 4, 2) := by decide +kernel
theorem dX9_stemOf_89 : decode cX9_stemOf 89 = .ok (.ifCond .ge 106, 3) := by decide +kernel
theorem dX9_stemOf_92 : decode cX9_stemOf 92 = .ok (.iconst 0, 1) := by decide +kernel
theorem dX9_stemOf_93 : decode cX9_stemOf 93 = .ok (.istore 5, 2) := by decide +kernel
theorem dX9_stemOf_95 : decode cX9_stemOf 95 = .ok (.iconst 0, 1) := by decide +kernel
theorem dX9_stemOf_96 : decode cX9_stemOf 96 = .ok (.istore 7, 2) := by decide +kernel
theorem dX9_stemOf_98 : decode cX9_stemOf 98 = .ok (.iload 7, 2) := by decide +kernel
theorem dX9_stemOf_100 : decode cX9_stemOf 100 = .ok (.iconst 1, 1) := by decide +kernel
theorem dX9_stemOf_101 : decode cX9_stemOf 101 = .ok (.aload_n 0, 1) := by decide +kernel
theorem dX9_stemOf_102 : decode cX9_stemOf 102 = .ok (.getfield 376, 3) := by decide +kernel
theorem dX9_stemOf_105 : decode cX9_stemOf 105 = .ok (.ishl, 1) := by decide +kernel
theorem dX9_stemOf_106 : decode cX9_stemOf 106 = .ok (.if_icmp .ge 69, 3) := by decide +kernel
theorem dX9_stemOf_109 : decode cX9_stemOf 109 = .ok (.bipush 8, 2) := by decide +kernel
theorem dX9_stemOf_111 : decode cX9_stemOf 111 = .ok (.aload_n 0, 1) := by decide +kernel
theorem dX9_stemOf_112 : decode cX9_stemOf 112 = .ok (.getfield 112, 3) := by decide +kernel
theorem dX9_stemOf_115 : decode cX9_stemOf 115 = .ok (.iload 6, 2) := by decide +kernel
theorem dX9_stemOf_117 : decode cX9_stemOf 117 = .ok (.iaload, 1) := by decide +kernel
theorem dX9_stemOf_118 : decode cX9_stemOf 118 = .ok (.imul, 1) := by decide +kernel
theorem dX9_stemOf_119 : decode cX9_stemOf 119 = .ok (.iload 7, 2) := by decide +kernel
theorem dX9_stemOf_121 : decode cX9_stemOf 121 = .ok (.iadd, 1) := by decide +kernel
theorem dX9_stemOf_122 : decode cX9_stemOf 122 = .ok (.istore 8, 2) := by decide +kernel
theorem dX9_stemOf_124 : decode cX9_stemOf 124 = .ok (.aload_n 0, 1) := by decide +kernel
theorem dX9_stemOf_125 : decode cX9_stemOf 125 = .ok (.getfield 169, 3) := by decide +kernel
theorem dX9_stemOf_128 : decode cX9_stemOf 128 = .ok (.iload 8, 2) := by decide +kernel
theorem dX9_stemOf_130 : decode cX9_stemOf 130 = .ok (.iaload, 1) := by decide +kernel
theorem dX9_stemOf_131 : decode cX9_stemOf 131 = .ok (.iload_n 3, 1) := by decide +kernel
theorem dX9_stemOf_132 : decode cX9_stemOf 132 = .ok (.if_icmp .ne 37, 3) := by decide +kernel
theorem dX9_stemOf_135 : decode cX9_stemOf 135 = .ok (.aload_n 0, 1) := by decide +kernel
theorem dX9_stemOf_136 : decode cX9_stemOf 136 = .ok (.getfield 172, 3) := by decide +kernel
theorem dX9_stemOf_139 : decode cX9_stemOf 139 = .ok (.iload 8, 2) := by decide +kernel
theorem dX9_stemOf_141 : decode cX9_stemOf 141 = .ok (.baload, 1) := by decide +kernel
theorem dX9_stemOf_142 : decode cX9_stemOf 142 = .ok (.ifCond .eq 27, 3) := by decide +kernel
theorem dX9_stemOf_145 : decode cX9_stemOf 145 = .ok (.iload_n 2, 1) := by decide +kernel
theorem dX9_stemOf_146 : decode cX9_stemOf 146 = .ok (.aload_n 0, 1) := by decide +kernel
theorem dX9_stemOf_147 : decode cX9_stemOf 147 = .ok (.iload_n 1, 1) := by decide +kernel
theorem dX9_stemOf_148 : decode cX9_stemOf 148 = .ok (.iload 7, 2) := by decide +kernel
theorem dX9_stemOf_150 : decode cX9_stemOf 150 = .ok (.invokevirtual 422, 3) := by decide +kernel
theorem dX9_stemOf_153 : decode cX9_stemOf 153 = .ok (.ishr, 1) := by decide +kernel
theorem dX9_stemOf_154 : decode cX9_stemOf 154 = .ok (.iconst 1, 1) := by decide +kernel
theorem dX9_stemOf_155 : decode cX9_stemOf 155 = .ok (.iand, 1) := by decide +kernel
theorem dX9_stemOf_156 : decode cX9_stemOf 156 = .ok (.iconst 1, 1) := by decide +kernel
theorem dX9_stemOf_157 : decode cX9_stemOf 157 = .ok (.if_icmp .ne 12, 3) := by decide +kernel
theorem dX9_stemOf_160 : decode cX9_stemOf 160 = .ok (.iload 5, 2) := by decide +kernel
theorem dX9_stemOf_162 : decode cX9_stemOf 162 = .ok (.iconst 1, 1) := by decide +kernel
theorem dX9_stemOf_163 : decode cX9_stemOf 163 = .ok (.iload 7, 2) := by decide +kernel
theorem dX9_stemOf_165 : decode cX9_stemOf 165 = .ok (.ishl, 1) := by decide +kernel
theorem dX9_stemOf_166 : decode cX9_stemOf 166 = .ok (.ior, 1) := by decide +kernel
theorem dX9_stemOf_167 : decode cX9_stemOf 167 = .ok (.istore 5, 2) := by decide +kernel
theorem dX9_stemOf_169 : decode cX9_stemOf 169 = .ok (.iinc 7 1, 3) := by decide +kernel
theorem dX9_stemOf_172 : decode cX9_stemOf 172 = .ok (.goto (-74), 3) := by decide +kernel
theorem dX9_stemOf_175 : decode cX9_stemOf 175 = .ok (.iload 5, 2) := by decide +kernel
theorem dX9_stemOf_177 : decode cX9_stemOf 177 = .ok (.ifCond .eq 8, 3) := by decide +kernel
theorem dX9_stemOf_180 : decode cX9_stemOf 180 = .ok (.iload 6, 2) := by decide +kernel
theorem dX9_stemOf_182 : decode cX9_stemOf 182 = .ok (.goto 5, 3) := by decide +kernel
theorem dX9_stemOf_185 : decode cX9_stemOf 185 = .ok (.iload 4, 2) := by decide +kernel
theorem dX9_stemOf_187 : decode cX9_stemOf 187 = .ok (.istore 4, 2) := by decide +kernel
theorem dX9_stemOf_189 : decode cX9_stemOf 189 = .ok (.iinc 6 1, 3) := by decide +kernel
theorem dX9_stemOf_192 : decode cX9_stemOf 192 = .ok (.goto (-118), 3) := by decide +kernel
theorem dX9_stemOf_195 : decode cX9_stemOf 195 = .ok (.aload_n 0, 1) := by decide +kernel
theorem dX9_stemOf_196 : decode cX9_stemOf 196 = .ok (.getfield 181, 3) := by decide +kernel
theorem dX9_stemOf_199 : decode cX9_stemOf 199 = .ok (.iload_n 3, 1) := by decide +kernel
theorem dX9_stemOf_200 : decode cX9_stemOf 200 = .ok (.iconst 1, 1) := by decide +kernel
theorem dX9_stemOf_201 : decode cX9_stemOf 201 = .ok (.isub, 1) := by decide +kernel
theorem dX9_stemOf_202 : decode cX9_stemOf 202 = .ok (.iload 4, 2) := by decide +kernel
theorem dX9_stemOf_204 : decode cX9_stemOf 204 = .ok (.invokestatic 440, 3) := by decide +kernel
theorem dX9_stemOf_207 : decode cX9_stemOf 207 = .ok (.aload_n 0, 1) := by decide +kernel
theorem dX9_stemOf_208 : decode cX9_stemOf 208 = .ok (.getfield 112, 3) := by decide +kernel
theorem dX9_stemOf_211 : decode cX9_stemOf 211 = .ok (.iload 4, 2) := by decide +kernel
theorem dX9_stemOf_213 : decode cX9_stemOf 213 = .ok (.iaload, 1) := by decide +kernel
theorem dX9_stemOf_214 : decode cX9_stemOf 214 = .ok (.istore_n 1, 1) := by decide +kernel
theorem dX9_stemOf_215 : decode cX9_stemOf 215 = .ok (.iload 5, 2) := by decide +kernel
theorem dX9_stemOf_217 : decode cX9_stemOf 217 = .ok (.istore_n 2, 1) := by decide +kernel
theorem dX9_stemOf_218 : decode cX9_stemOf 218 = .ok (.iinc 3 1, 3) := by decide +kernel
theorem dX9_stemOf_221 : decode cX9_stemOf 221 = .ok (.goto (-169), 3) := by decide +kernel
theorem dX9_stemOf_224 : decode cX9_stemOf 224 = .ok (.iload_n 2, 1) := by decide +kernel
theorem dX9_stemOf_225 : decode cX9_stemOf 225 = .ok (.ireturn, 1) := by decide +kernel
abbrev MX9_stemOf : zT := (yX9_stemOf, cX9_stemOf, 9, (Option.some Jvm.ClassFile.FieldType.int), [])
theorem plX9_stemOf : zplain MX9_stemOf 0 ∧ (zcodeW MX9_stemOf ∈ lw_all ∧ Cond.initialized MX9_stemOf.1.cls ∈ lw_all) := ⟨⟨by decide +kernel, by decide +kernel⟩, q2374, q127⟩
noncomputable def f_X9_stemOf_224 (x2 : Int) (σ : zM) : Option zO :=
  some (0, zi x2, σ)
theorem w_X9_stemOf_224 {g : zG} {lv : Nat} {out : zO} (x2 : Int) (σ : zM) {r : zO} (h : f_X9_stemOf_224 x2 σ = some r) (hk : (fun o : zO => o = out) r) : Gj g MX9_stemOf (lv + 2) 224 [(2, zi x2)] [] σ out := by
  revert h
  unfold f_X9_stemOf_224
  refine zst_ (gj_iload_n 0 (pc := 224) dX9_stemOf_224 rfl) ?_
  intro h
  cases h
  have hk : (0, zi x2, σ) = out := hk
  subst hk
  exact gj_ret (pc := 225) (t := .int) dX9_stemOf_225 rfl ⟨rfl, rfl⟩ (fun h => h)
noncomputable def f_X9_stemOf_195 (x0 x3 x4 x5 : Int) (σ : zM) : Option ((Int × Int × Int × zM) ⊕ zO) :=
  (zgf σ 980 x0).bind fun v1 =>
  zcv (f_X9_keep v1 (zsub x3 1) x4 σ) fun σ2 =>
  (zgf σ2 949 x0).bind fun v3 =>
  (zga σ2 101 v3 x4).bind fun v4 =>
  zlet (zadd x3 1) fun y5 =>
  some (.inl (v4, x5, y5, σ2))
theorem w_X9_stemOf_195 {g : zG} {lv : Nat} {out : zO} (x0 x3 x4 x5 : Int) (σ : zM) {r : ((Int × Int × Int × zM) ⊕ zO)} (h : f_X9_stemOf_195 x0 x3 x4 x5 σ = some r) (hk : (zKL (fun s : Int × Int × Int × zM => Gj g MX9_stemOf (lv + 2) 52 [(0, zr x0), (1, zi s.1), (2, zi s.2.1), (3, zi s.2.2.1)] [] s.2.2.2 out) (fun o : zO => o = out)) r) : Gj g MX9_stemOf (lv + 2) 195 [(0, zr x0), (3, zi x3), (4, zi x4), (5, zi x5)] [] σ out := by
  revert h
  unfold f_X9_stemOf_195
  refine zst_ (gj_aload_n 0 (pc := 195) dX9_stemOf_195 rfl) ?_
  refine gb_get (pc := 196) fl980 dX9_stemOf_196 q1962 (Or.inl rfl) (fun v1 => ?_)
  refine zst_ (gj_iload_n 1 (pc := 199) dX9_stemOf_199 rfl) ?_
  refine zst_ (gj_iconst (pc := 200) dX9_stemOf_200 (by decide)) ?_
  refine zst_ (gj_isub (pc := 201) dX9_stemOf_201) ?_
  refine zst_ (gj_iload 2 (pc := 202) dX9_stemOf_202 rfl) ?_
  refine gb_callV (pc := 204) (as := [zr v1, zi (zsub x3 1), zi x4]) (rest := []) (zCl.of (zLk_S (M := MX9_stemOf) plX9_keep.1 rfl dX9_stemOf_204 q2375 q2376 q127 q2377) plX9_keep (Nat.le_of_ble_eq_true rfl) (fun h => c_X9_keep h)) (fun σ2 => ?_)
  refine zst_ (gj_aload_n 0 (pc := 207) dX9_stemOf_207 rfl) ?_
  refine gb_get (pc := 208) fl949 dX9_stemOf_208 q1931 (Or.inl rfl) (fun v3 => ?_)
  refine zst_ (gj_iload 2 (pc := 211) dX9_stemOf_211 rfl) ?_
  refine gb_iald (pc := 213) dX9_stemOf_213 (fun v4 => ?_)
  refine zst_ (gj_istore_n (pc := 214) (ls' := [(1, zi v4), (0, zr x0), (3, zi x3), (4, zi x4), (5, zi x5)]) dX9_stemOf_214 (by decide) rfl) ?_
  refine zst_ (gj_iload 4 (pc := 215) dX9_stemOf_215 rfl) ?_
  refine zst_ (gj_istore_n (pc := 217) (ls' := [(2, zi x5), (1, zi v4), (0, zr x0), (3, zi x3), (4, zi x4), (5, zi x5)]) dX9_stemOf_217 (by decide) rfl) ?_
  refine gb_iinc (pc := 218) 3 (fun y5 => [(3, zi y5), (2, zi x5), (1, zi v4), (0, zr x0), (4, zi x4), (5, zi x5)]) dX9_stemOf_218 rfl (by decide) (fun _ => rfl) (fun y5 => ?_)
  refine zst_ (gj_goto 52 (pc := 221) dX9_stemOf_221 (by decide)) ?_
  refine zst_ (gj_sub [3, 2, 1, 0] rfl) ?_
  intro h
  cases h
  exact hk
noncomputable def f_X9_stemOf_187 (x0 x1 x2 x3 x5 x6 t0 : Int) (σ : zM) : Option ((Int × Int × Int × zM) ⊕ ((Int × Int × Int × zM) ⊕ zO)) :=
  zlet (zadd x6 1) fun y1 =>
  some (.inl (t0, x5, y1, σ))
theorem w_X9_stemOf_187 {g : zG} {lv : Nat} {out : zO} (x0 x1 x2 x3 x5 x6 t0 : Int) (σ : zM) {r : ((Int × Int × Int × zM) ⊕ ((Int × Int × Int × zM) ⊕ zO))} (h : f_X9_stemOf_187 x0 x1 x2 x3 x5 x6 t0 σ = some r) (hk : (zKL (fun s : Int × Int × Int × zM => Gj g MX9_stemOf (lv + 2) 74 [(0, zr x0), (1, zi x1), (2, zi x2), (3, zi x3), (4, zi s.1), (5, zi s.2.1), (6, zi s.2.2.1)] [] s.2.2.2 out) (zKL (fun s : Int × Int × Int × zM => Gj g MX9_stemOf (lv + 2) 52 [(0, zr x0), (1, zi s.1), (2, zi s.2.1), (3, zi s.2.2.1)] [] s.2.2.2 out) (fun o : zO => o = out))) r) : Gj g MX9_stemOf (lv + 2) 187 [(0, zr x0), (1, zi x1), (2, zi x2), (3, zi x3), (5, zi x5), (6, zi x6)] [zi t0] σ out := by
  revert h
  unfold f_X9_stemOf_187
  refine zst_ (gj_istore (pc := 187) (ls' := [(4, zi t0), (0, zr x0), (1, zi x1), (2, zi x2), (3, zi x3), (5, zi x5), (6, zi x6)]) dX9_stemOf_187 (by decide) rfl) ?_
  refine gb_iinc (pc := 189) 6 (fun y1 => [(6, zi y1), (4, zi t0), (0, zr x0), (1, zi x1), (2, zi x2), (3, zi x3), (5, zi x5)]) dX9_stemOf_189 rfl (by decide) (fun _ => rfl) (fun y1 => ?_)
  refine zst_ (gj_goto 74 (pc := 192) dX9_stemOf_192 (by decide)) ?_
  refine zst_ (gj_sub [2, 3, 4, 5, 1, 6, 0] rfl) ?_
  intro h
  cases h
  exact hk
noncomputable def f_X9_stemOf_175 (x0 x1 x2 x3 x4 x5 x6 : Int) (σ : zM) : Option ((Int × Int × Int × zM) ⊕ ((Int × Int × Int × zM) ⊕ zO)) :=
  if x5 = 0 then
    f_X9_stemOf_187 x0 x1 x2 x3 x5 x6 x4 σ
  else
    f_X9_stemOf_187 x0 x1 x2 x3 x5 x6 x6 σ
theorem w_X9_stemOf_175 {g : zG} {lv : Nat} {out : zO} (x0 x1 x2 x3 x4 x5 x6 : Int) (σ : zM) {r : ((Int × Int × Int × zM) ⊕ ((Int × Int × Int × zM) ⊕ zO))} (h : f_X9_stemOf_175 x0 x1 x2 x3 x4 x5 x6 σ = some r) (hk : (zKL (fun s : Int × Int × Int × zM => Gj g MX9_stemOf (lv + 2) 74 [(0, zr x0), (1, zi x1), (2, zi x2), (3, zi x3), (4, zi s.1), (5, zi s.2.1), (6, zi s.2.2.1)] [] s.2.2.2 out) (zKL (fun s : Int × Int × Int × zM => Gj g MX9_stemOf (lv + 2) 52 [(0, zr x0), (1, zi s.1), (2, zi s.2.1), (3, zi s.2.2.1)] [] s.2.2.2 out) (fun o : zO => o = out))) r) : Gj g MX9_stemOf (lv + 2) 175 [(0, zr x0), (1, zi x1), (2, zi x2), (3, zi x3), (4, zi x4), (5, zi x5), (6, zi x6)] [] σ out := by
  revert h
  unfold f_X9_stemOf_175
  refine zst_ (gj_iload 5 (pc := 175) dX9_stemOf_175 rfl) ?_
  refine gb_if (gj_if_eq 185 (pc := 177) dX9_stemOf_177 (by decide)) ?_ ?_
  · refine zst_ (gj_iload 4 (pc := 185) dX9_stemOf_185 rfl) ?_
    refine zst_ (gj_sub [0, 1, 2, 3, 5, 6] rfl) ?_
    exact fun h => w_X9_stemOf_187 x0 x1 x2 x3 x5 x6 x4 σ h hk
  · refine zst_ (gj_iload 6 (pc := 180) dX9_stemOf_180 rfl) ?_
    refine zst_ (gj_goto 187 (pc := 182) dX9_stemOf_182 (by decide)) ?_
    refine zst_ (gj_sub [0, 1, 2, 3, 5, 6] rfl) ?_
    exact fun h => w_X9_stemOf_187 x0 x1 x2 x3 x5 x6 x6 σ h hk
noncomputable def f_X9_stemOf_169 (x0 x1 x2 x3 x4 x5 x6 x7 : Int) (σ : zM) : Option ((Int × Int × zM) ⊕ ((Int × Int × Int × zM) ⊕ ((Int × Int × Int × zM) ⊕ zO))) :=
  zlet (zadd x7 1) fun y1 =>
  some (.inl (x5, y1, σ))
theorem w_X9_stemOf_169 {g : zG} {lv : Nat} {out : zO} (x0 x1 x2 x3 x4 x5 x6 x7 : Int) (σ : zM) {r : ((Int × Int × zM) ⊕ ((Int × Int × Int × zM) ⊕ ((Int × Int × Int × zM) ⊕ zO)))} (h : f_X9_stemOf_169 x0 x1 x2 x3 x4 x5 x6 x7 σ = some r) (hk : (zKL (fun s : Int × Int × zM => Gj g MX9_stemOf (lv + 2) 98 [(0, zr x0), (1, zi x1), (2, zi x2), (3, zi x3), (4, zi x4), (5, zi s.1), (6, zi x6), (7, zi s.2.1)] [] s.2.2 out) (zKL (fun s : Int × Int × Int × zM => Gj g MX9_stemOf (lv + 2) 74 [(0, zr x0), (1, zi x1), (2, zi x2), (3, zi x3), (4, zi s.1), (5, zi s.2.1), (6, zi s.2.2.1)] [] s.2.2.2 out) (zKL (fun s : Int × Int × Int × zM => Gj g MX9_stemOf (lv + 2) 52 [(0, zr x0), (1, zi s.1), (2, zi s.2.1), (3, zi s.2.2.1)] [] s.2.2.2 out) (fun o : zO => o = out)))) r) : Gj g MX9_stemOf (lv + 2) 169 [(0, zr x0), (1, zi x1), (2, zi x2), (3, zi x3), (4, zi x4), (5, zi x5), (6, zi x6), (7, zi x7)] [] σ out := by
  revert h
  unfold f_X9_stemOf_169
  refine gb_iinc (pc := 169) 7 (fun y1 => [(7, zi y1), (0, zr x0), (1, zi x1), (2, zi x2), (3, zi x3), (4, zi x4), (5, zi x5), (6, zi x6)]) dX9_stemOf_169 rfl (by decide) (fun _ => rfl) (fun y1 => ?_)
  refine zst_ (gj_goto 98 (pc := 172) dX9_stemOf_172 (by decide)) ?_
  refine zst_ (gj_sub [1, 2, 3, 4, 5, 6, 7, 0] rfl) ?_
  intro h
  cases h
  exact hk
noncomputable def f_X9_stemOf_98_b (x0 x1 x2 x3 x4 x5 x6 x7 : Int) (σ : zM) : Option ((Int × Int × zM) ⊕ ((Int × Int × Int × zM) ⊕ ((Int × Int × Int × zM) ⊕ zO))) :=
  (zgf σ 964 x0).bind fun v1 =>
  if (zshl 1 v1) ≤ x7 then
    (f_X9_stemOf_175 x0 x1 x2 x3 x4 x5 x6 σ).map (fun r => (.inr r))
  else
    (zgf σ 949 x0).bind fun v2 =>
    (zga σ 101 v2 x6).bind fun v3 =>
    zlet ((zadd (zmul 8 v3) x7)) fun y4 =>
    (zgf σ 975 x0).bind fun v5 =>
    (zga σ 101 v5 y4).bind fun v6 =>
    if v6 ≠ x3 then
      f_X9_stemOf_169 x0 x1 x2 x3 x4 x5 x6 x7 σ
    else
      (zgf σ 976 x0).bind fun v7 =>
      (zga σ 103 v7 y4).bind fun v8 =>
      if v8 = 0 then
        f_X9_stemOf_169 x0 x1 x2 x3 x4 x5 x6 x7 σ
      else
        zgd (zis σ 10 x0) <|
        zci (f_X9_truthAt x0 x1 x7 σ) fun v9 σ10 =>
        if (zand (zshr x2 v9) 1) ≠ 1 then
          f_X9_stemOf_169 x0 x1 x2 x3 x4 x5 x6 x7 σ10
        else
          zlet ((zor x5 (zshl 1 x7))) fun y11 =>
          f_X9_stemOf_169 x0 x1 x2 x3 x4 y11 x6 x7 σ10
noncomputable def f_X9_stemOf_98 (x0 x1 x2 x3 x4 x5 x6 x7 : Int) (σ : zM) : Option ((Int × Int × Int × zM) ⊕ ((Int × Int × Int × zM) ⊕ zO)) :=
  zloop (fun s : Int × Int × zM => f_X9_stemOf_98_b x0 x1 x2 x3 x4 s.1 x6 s.2.1 s.2.2) (x5, x7, σ)
theorem w_X9_stemOf_98_b {g : zG} {lv : Nat} {out : zO} (x0 x1 x2 x3 x4 x5 x6 x7 : Int) (σ : zM) {r : ((Int × Int × zM) ⊕ ((Int × Int × Int × zM) ⊕ ((Int × Int × Int × zM) ⊕ zO)))} (h : f_X9_stemOf_98_b x0 x1 x2 x3 x4 x5 x6 x7 σ = some r) (hk : (zKL (fun s : Int × Int × zM => Gj g MX9_stemOf (lv + 2) 98 [(0, zr x0), (1, zi x1), (2, zi x2), (3, zi x3), (4, zi x4), (5, zi s.1), (6, zi x6), (7, zi s.2.1)] [] s.2.2 out) (zKL (fun s : Int × Int × Int × zM => Gj g MX9_stemOf (lv + 2) 74 [(0, zr x0), (1, zi x1), (2, zi x2), (3, zi x3), (4, zi s.1), (5, zi s.2.1), (6, zi s.2.2.1)] [] s.2.2.2 out) (zKL (fun s : Int × Int × Int × zM => Gj g MX9_stemOf (lv + 2) 52 [(0, zr x0), (1, zi s.1), (2, zi s.2.1), (3, zi s.2.2.1)] [] s.2.2.2 out) (fun o : zO => o = out)))) r) : Gj g MX9_stemOf (lv + 2) 98 [(0, zr x0), (1, zi x1), (2, zi x2), (3, zi x3), (4, zi x4), (5, zi x5), (6, zi x6), (7, zi x7)] [] σ out := by
  revert h
  unfold f_X9_stemOf_98_b
  refine zst_ (gj_iload 7 (pc := 98) dX9_stemOf_98 rfl) ?_
  refine zst_ (gj_iconst (pc := 100) dX9_stemOf_100 (by decide)) ?_
  refine zst_ (gj_aload_n 0 (pc := 101) dX9_stemOf_101 rfl) ?_
  refine gb_get (pc := 102) fl964 dX9_stemOf_102 q1946 (Or.inl rfl) (fun v1 => ?_)
  refine zst_ (gj_ishl (pc := 105) dX9_stemOf_105) ?_
  refine gb_if (gj_icmp_ge 175 (pc := 106) dX9_stemOf_106 (by decide)) ?_ ?_
  · refine zst_ (gj_sub [0, 1, 2, 3, 4, 5, 6] rfl) ?_
    intro h
    obtain ⟨r0, h0, rfl⟩ := zmE h
    exact w_X9_stemOf_175 x0 x1 x2 x3 x4 x5 x6 σ h0 hk
  · refine zst_ (gj_bipush (pc := 109) dX9_stemOf_109 ⟨rfl, by decide⟩) ?_
    refine zst_ (gj_aload_n 0 (pc := 111) dX9_stemOf_111 rfl) ?_
    refine gb_get (pc := 112) fl949 dX9_stemOf_112 q1931 (Or.inl rfl) (fun v2 => ?_)
    refine zst_ (gj_iload 6 (pc := 115) dX9_stemOf_115 rfl) ?_
    refine gb_iald (pc := 117) dX9_stemOf_117 (fun v3 => ?_)
    refine zst_ (gj_imul (pc := 118) dX9_stemOf_118) ?_
    refine zst_ (gj_iload 7 (pc := 119) dX9_stemOf_119 rfl) ?_
    refine zst_ (gj_iadd (pc := 121) dX9_stemOf_121) ?_
    refine gb_let (fun y4 => ?_)
    refine zst_ (gj_istore (pc := 122) (ls' := [(8, zi y4), (0, zr x0), (1, zi x1), (2, zi x2), (3, zi x3), (4, zi x4), (5, zi x5), (6, zi x6), (7, zi x7)]) dX9_stemOf_122 (by decide) rfl) ?_
    refine zst_ (gj_aload_n 1 (pc := 124) dX9_stemOf_124 rfl) ?_
    refine gb_get (pc := 125) fl975 dX9_stemOf_125 q1957 (Or.inl rfl) (fun v5 => ?_)
    refine zst_ (gj_iload 0 (pc := 128) dX9_stemOf_128 rfl) ?_
    refine gb_iald (pc := 130) dX9_stemOf_130 (fun v6 => ?_)
    refine zst_ (gj_iload_n 4 (pc := 131) dX9_stemOf_131 rfl) ?_
    refine gb_if (gj_icmp_ne 169 (pc := 132) dX9_stemOf_132 (by decide)) ?_ ?_
    · refine zst_ (gj_sub [1, 2, 3, 4, 5, 6, 7, 8] rfl) ?_
      exact fun h => w_X9_stemOf_169 x0 x1 x2 x3 x4 x5 x6 x7 σ h hk
    · refine zst_ (gj_aload_n 1 (pc := 135) dX9_stemOf_135 rfl) ?_
      refine gb_get (pc := 136) fl976 dX9_stemOf_136 q1958 (Or.inl rfl) (fun v7 => ?_)
      refine zst_ (gj_iload 0 (pc := 139) dX9_stemOf_139 rfl) ?_
      refine gb_zald (pc := 141) dX9_stemOf_141 (fun v8 => ?_)
      refine gb_if (gj_if_eq 169 (pc := 142) dX9_stemOf_142 (by decide)) ?_ ?_
      · refine zst_ (gj_sub [1, 2, 3, 4, 5, 6, 7, 8] rfl) ?_
        exact fun h => w_X9_stemOf_169 x0 x1 x2 x3 x4 x5 x6 x7 σ h hk
      · refine zst_ (gj_iload_n 3 (pc := 145) dX9_stemOf_145 rfl) ?_
        refine zst_ (gj_aload_n 1 (pc := 146) dX9_stemOf_146 rfl) ?_
        refine zst_ (gj_iload_n 2 (pc := 147) dX9_stemOf_147 rfl) ?_
        refine zst_ (gj_iload 8 (pc := 148) dX9_stemOf_148 rfl) ?_
        refine gb_gd (fun hb => ?_)
        refine gb_callI (pc := 150) (as := [zr x0, zi x1, zi x7]) (rest := [zi x2]) (zCl.of (zLk_V (M := MX9_stemOf) (ci := 9) (r := (RX9, TX9, 84)) plX9_truthAt.1 rfl rfl (zisE hb).1 (zisE hb).2 dX9_stemOf_150 q2355 q2357 qs91 q2358) plX9_truthAt (Nat.le_of_ble_eq_true rfl) (fun h => c_X9_truthAt h)) (fun v9 σ10 => ?_)
        refine zst_ (gj_ishr (pc := 153) dX9_stemOf_153) ?_
        refine zst_ (gj_iconst (pc := 154) dX9_stemOf_154 (by decide)) ?_
        refine zst_ (gj_iand (pc := 155) dX9_stemOf_155) ?_
        refine zst_ (gj_iconst (pc := 156) dX9_stemOf_156 (by decide)) ?_
        refine gb_if (gj_icmp_ne 169 (pc := 157) dX9_stemOf_157 (by decide)) ?_ ?_
        · refine zst_ (gj_sub [1, 2, 3, 4, 5, 6, 7, 8] rfl) ?_
          exact fun h => w_X9_stemOf_169 x0 x1 x2 x3 x4 x5 x6 x7 σ10 h hk
        · refine zst_ (gj_iload 6 (pc := 160) dX9_stemOf_160 rfl) ?_
          refine zst_ (gj_iconst (pc := 162) dX9_stemOf_162 (by decide)) ?_
          refine zst_ (gj_iload 8 (pc := 163) dX9_stemOf_163 rfl) ?_
          refine zst_ (gj_ishl (pc := 165) dX9_stemOf_165) ?_
          refine zst_ (gj_ior (pc := 166) dX9_stemOf_166) ?_
          refine gb_let (fun y11 => ?_)
          refine zst_ (gj_istore (pc := 167) (ls' := [(5, zi y11), (8, zi y4), (0, zr x0), (1, zi x1), (2, zi x2), (3, zi x3), (4, zi x4), (6, zi x6), (7, zi x7)]) dX9_stemOf_167 (by decide) rfl) ?_
          refine zst_ (gj_sub [2, 3, 4, 5, 6, 0, 7, 8] rfl) ?_
          exact fun h => w_X9_stemOf_169 x0 x1 x2 x3 x4 y11 x6 x7 σ10 h hk
theorem w_X9_stemOf_98 {g : zG} {lv : Nat} {out : zO} (x0 x1 x2 x3 x4 x5 x6 x7 : Int) (σ : zM) {r : ((Int × Int × Int × zM) ⊕ ((Int × Int × Int × zM) ⊕ zO))} (h : f_X9_stemOf_98 x0 x1 x2 x3 x4 x5 x6 x7 σ = some r) (hk : (zKL (fun s : Int × Int × Int × zM => Gj g MX9_stemOf (lv + 2) 74 [(0, zr x0), (1, zi x1), (2, zi x2), (3, zi x3), (4, zi s.1), (5, zi s.2.1), (6, zi s.2.2.1)] [] s.2.2.2 out) (zKL (fun s : Int × Int × Int × zM => Gj g MX9_stemOf (lv + 2) 52 [(0, zr x0), (1, zi s.1), (2, zi s.2.1), (3, zi s.2.2.1)] [] s.2.2.2 out) (fun o : zO => o = out))) r) : Gj g MX9_stemOf (lv + 2) 98 [(0, zr x0), (1, zi x1), (2, zi x2), (3, zi x3), (4, zi x4), (5, zi x5), (6, zi x6), (7, zi x7)] [] σ out :=
  gj_loop (P := (fun s : Int × Int × zM => Gj g MX9_stemOf (lv + 2) 98 [(0, zr x0), (1, zi x1), (2, zi x2), (3, zi x3), (4, zi x4), (5, zi s.1), (6, zi x6), (7, zi s.2.1)] [] s.2.2 out)) (fun s x hb hx => w_X9_stemOf_98_b x0 x1 x2 x3 x4 s.1 x6 s.2.1 s.2.2 hb hx) h hk
noncomputable def f_X9_stemOf_74_b (x0 x1 x2 x3 x4 x5 x6 : Int) (σ : zM) : Option ((Int × Int × Int × zM) ⊕ ((Int × Int × Int × zM) ⊕ zO)) :=
  (zgf σ 948 x0).bind fun v1 =>
  (zga σ 101 v1 (zadd x1 1)).bind fun v2 =>
  if v2 ≤ x6 then
    (f_X9_stemOf_195 x0 x3 x4 x5 σ).map (fun r => (.inr r))
  else
    if 0 ≤ x4 then
      (f_X9_stemOf_195 x0 x3 x4 x5 σ).map (fun r => (.inr r))
    else
      f_X9_stemOf_98 x0 x1 x2 x3 x4 0 x6 0 σ
noncomputable def f_X9_stemOf_74 (x0 x1 x2 x3 x4 x5 x6 : Int) (σ : zM) : Option ((Int × Int × Int × zM) ⊕ zO) :=
  zloop (fun s : Int × Int × Int × zM => f_X9_stemOf_74_b x0 x1 x2 x3 s.1 s.2.1 s.2.2.1 s.2.2.2) (x4, x5, x6, σ)
theorem w_X9_stemOf_74_b {g : zG} {lv : Nat} {out : zO} (x0 x1 x2 x3 x4 x5 x6 : Int) (σ : zM) {r : ((Int × Int × Int × zM) ⊕ ((Int × Int × Int × zM) ⊕ zO))} (h : f_X9_stemOf_74_b x0 x1 x2 x3 x4 x5 x6 σ = some r) (hk : (zKL (fun s : Int × Int × Int × zM => Gj g MX9_stemOf (lv + 2) 74 [(0, zr x0), (1, zi x1), (2, zi x2), (3, zi x3), (4, zi s.1), (5, zi s.2.1), (6, zi s.2.2.1)] [] s.2.2.2 out) (zKL (fun s : Int × Int × Int × zM => Gj g MX9_stemOf (lv + 2) 52 [(0, zr x0), (1, zi s.1), (2, zi s.2.1), (3, zi s.2.2.1)] [] s.2.2.2 out) (fun o : zO => o = out))) r) : Gj g MX9_stemOf (lv + 2) 74 [(0, zr x0), (1, zi x1), (2, zi x2), (3, zi x3), (4, zi x4), (5, zi x5), (6, zi x6)] [] σ out := by
  revert h
  unfold f_X9_stemOf_74_b
  refine zst_ (gj_iload 6 (pc := 74) dX9_stemOf_74 rfl) ?_
  refine zst_ (gj_aload_n 0 (pc := 76) dX9_stemOf_76 rfl) ?_
  refine gb_get (pc := 77) fl948 dX9_stemOf_77 q1930 (Or.inl rfl) (fun v1 => ?_)
  refine zst_ (gj_iload_n 1 (pc := 80) dX9_stemOf_80 rfl) ?_
  refine zst_ (gj_iconst (pc := 81) dX9_stemOf_81 (by decide)) ?_
  refine zst_ (gj_iadd (pc := 82) dX9_stemOf_82) ?_
  refine gb_iald (pc := 83) dX9_stemOf_83 (fun v2 => ?_)
  refine gb_if (gj_icmp_ge 195 (pc := 84) dX9_stemOf_84 (by decide)) ?_ ?_
  · refine zst_ (gj_sub [0, 3, 4, 5] rfl) ?_
    intro h
    obtain ⟨r0, h0, rfl⟩ := zmE h
    exact w_X9_stemOf_195 x0 x3 x4 x5 σ h0 hk
  · refine zst_ (gj_iload 4 (pc := 87) dX9_stemOf_87 rfl) ?_
    refine gb_if (gj_if_ge 195 (pc := 89) dX9_stemOf_89 (by decide)) ?_ ?_
    · refine zst_ (gj_sub [0, 3, 4, 5] rfl) ?_
      intro h
      obtain ⟨r0, h0, rfl⟩ := zmE h
      exact w_X9_stemOf_195 x0 x3 x4 x5 σ h0 hk
    · refine zst_ (gj_iconst (pc := 92) dX9_stemOf_92 (by decide)) ?_
      refine zst_ (gj_istore (pc := 93) (ls' := [(5, zi 0), (0, zr x0), (1, zi x1), (2, zi x2), (3, zi x3), (4, zi x4), (6, zi x6)]) dX9_stemOf_93 (by decide) rfl) ?_
      refine zst_ (gj_iconst (pc := 95) dX9_stemOf_95 (by decide)) ?_
      refine zst_ (gj_istore (pc := 96) (ls' := [(7, zi 0), (5, zi 0), (0, zr x0), (1, zi x1), (2, zi x2), (3, zi x3), (4, zi x4), (6, zi x6)]) dX9_stemOf_96 (by decide) rfl) ?_
      refine zst_ (gj_sub [2, 3, 4, 5, 6, 1, 7, 0] rfl) ?_
      exact fun h => w_X9_stemOf_98 x0 x1 x2 x3 x4 0 x6 0 σ h hk
theorem w_X9_stemOf_74 {g : zG} {lv : Nat} {out : zO} (x0 x1 x2 x3 x4 x5 x6 : Int) (σ : zM) {r : ((Int × Int × Int × zM) ⊕ zO)} (h : f_X9_stemOf_74 x0 x1 x2 x3 x4 x5 x6 σ = some r) (hk : (zKL (fun s : Int × Int × Int × zM => Gj g MX9_stemOf (lv + 2) 52 [(0, zr x0), (1, zi s.1), (2, zi s.2.1), (3, zi s.2.2.1)] [] s.2.2.2 out) (fun o : zO => o = out)) r) : Gj g MX9_stemOf (lv + 2) 74 [(0, zr x0), (1, zi x1), (2, zi x2), (3, zi x3), (4, zi x4), (5, zi x5), (6, zi x6)] [] σ out :=
  gj_loop (P := (fun s : Int × Int × Int × zM => Gj g MX9_stemOf (lv + 2) 74 [(0, zr x0), (1, zi x1), (2, zi x2), (3, zi x3), (4, zi s.1), (5, zi s.2.1), (6, zi s.2.2.1)] [] s.2.2.2 out)) (fun s x hb hx => w_X9_stemOf_74_b x0 x1 x2 x3 s.1 s.2.1 s.2.2.1 s.2.2.2 hb hx) h hk
noncomputable def f_X9_stemOf_52_b (x0 x1 x2 x3 : Int) (σ : zM) : Option ((Int × Int × Int × zM) ⊕ zO) :=
  (zgf σ 978 x0).bind fun v1 =>
  if v1 < x3 then
    (f_X9_stemOf_224 x2 σ).map (fun r => (.inr r))
  else
    (zgf σ 948 x0).bind fun v2 =>
    (zga σ 101 v2 x1).bind fun v3 =>
    f_X9_stemOf_74 x0 x1 x2 x3 (-1) 0 v3 σ
noncomputable def f_X9_stemOf_52 (x0 x1 x2 x3 : Int) (σ : zM) : Option zO :=
  zloop (fun s : Int × Int × Int × zM => f_X9_stemOf_52_b x0 s.1 s.2.1 s.2.2.1 s.2.2.2) (x1, x2, x3, σ)
theorem w_X9_stemOf_52_b {g : zG} {lv : Nat} {out : zO} (x0 x1 x2 x3 : Int) (σ : zM) {r : ((Int × Int × Int × zM) ⊕ zO)} (h : f_X9_stemOf_52_b x0 x1 x2 x3 σ = some r) (hk : (zKL (fun s : Int × Int × Int × zM => Gj g MX9_stemOf (lv + 2) 52 [(0, zr x0), (1, zi s.1), (2, zi s.2.1), (3, zi s.2.2.1)] [] s.2.2.2 out) (fun o : zO => o = out)) r) : Gj g MX9_stemOf (lv + 2) 52 [(0, zr x0), (1, zi x1), (2, zi x2), (3, zi x3)] [] σ out := by
  revert h
  unfold f_X9_stemOf_52_b
  refine zst_ (gj_iload_n 3 (pc := 52) dX9_stemOf_52 rfl) ?_
  refine zst_ (gj_aload_n 0 (pc := 53) dX9_stemOf_53 rfl) ?_
  refine gb_get (pc := 54) fl978 dX9_stemOf_54 q1960 (Or.inl rfl) (fun v1 => ?_)
  refine gb_if (gj_icmp_gt 224 (pc := 57) dX9_stemOf_57 (by decide)) ?_ ?_
  · refine zst_ (gj_sub [2] rfl) ?_
    intro h
    obtain ⟨r0, h0, rfl⟩ := zmE h
    exact w_X9_stemOf_224 x2 σ h0 hk
  · refine zst_ (gj_iconst (pc := 60) dX9_stemOf_60 (by decide)) ?_
    refine zst_ (gj_istore (pc := 61) (ls' := [(4, zi (-1)), (0, zr x0), (1, zi x1), (2, zi x2), (3, zi x3)]) dX9_stemOf_61 (by decide) rfl) ?_
    refine zst_ (gj_iconst (pc := 63) dX9_stemOf_63 (by decide)) ?_
    refine zst_ (gj_istore (pc := 64) (ls' := [(5, zi 0), (4, zi (-1)), (0, zr x0), (1, zi x1), (2, zi x2), (3, zi x3)]) dX9_stemOf_64 (by decide) rfl) ?_
    refine zst_ (gj_aload_n 2 (pc := 66) dX9_stemOf_66 rfl) ?_
    refine gb_get (pc := 67) fl948 dX9_stemOf_67 q1930 (Or.inl rfl) (fun v2 => ?_)
    refine zst_ (gj_iload_n 3 (pc := 70) dX9_stemOf_70 rfl) ?_
    refine gb_iald (pc := 71) dX9_stemOf_71 (fun v3 => ?_)
    refine zst_ (gj_istore (pc := 72) (ls' := [(6, zi v3), (5, zi 0), (4, zi (-1)), (0, zr x0), (1, zi x1), (2, zi x2), (3, zi x3)]) dX9_stemOf_72 (by decide) rfl) ?_
    refine zst_ (gj_sub [3, 4, 5, 6, 2, 1, 0] rfl) ?_
    exact fun h => w_X9_stemOf_74 x0 x1 x2 x3 (-1) 0 v3 σ h hk
theorem w_X9_stemOf_52 {g : zG} {lv : Nat} {out : zO} (x0 x1 x2 x3 : Int) (σ : zM) {r : zO} (h : f_X9_stemOf_52 x0 x1 x2 x3 σ = some r) (hk : (fun o : zO => o = out) r) : Gj g MX9_stemOf (lv + 2) 52 [(0, zr x0), (1, zi x1), (2, zi x2), (3, zi x3)] [] σ out :=
  gj_loop (P := (fun s : Int × Int × Int × zM => Gj g MX9_stemOf (lv + 2) 52 [(0, zr x0), (1, zi s.1), (2, zi s.2.1), (3, zi s.2.2.1)] [] s.2.2.2 out)) (fun s x hb hx => w_X9_stemOf_52_b x0 s.1 s.2.1 s.2.2.1 s.2.2.2 hb hx) h hk
noncomputable def f_X9_stemOf_50 (x0 x1 x2 : Int) (σ : zM) : Option zO :=
  f_X9_stemOf_52 x0 x1 x2 1 σ
theorem w_X9_stemOf_50 {g : zG} {lv : Nat} {out : zO} (x0 x1 x2 : Int) (σ : zM) {r : zO} (h : f_X9_stemOf_50 x0 x1 x2 σ = some r) (hk : (fun o : zO => o = out) r) : Gj g MX9_stemOf (lv + 2) 50 [(0, zr x0), (1, zi x1), (2, zi x2)] [] σ out := by
  revert h
  unfold f_X9_stemOf_50
  refine zst_ (gj_iconst (pc := 50) dX9_stemOf_50 (by decide)) ?_
  refine zst_ (gj_istore_n (pc := 51) (ls' := [(3, zi 1), (0, zr x0), (1, zi x1), (2, zi x2)]) dX9_stemOf_51 (by decide) rfl) ?_
  refine zst_ (gj_sub [1, 2, 3, 0] rfl) ?_
  exact fun h => w_X9_stemOf_52 x0 x1 x2 1 σ h hk
noncomputable def f_X9_stemOf_42 (x0 x1 x3 t0 t1 : Int) (σ : zM) : Option ((Int × Int) ⊕ zO) :=
  zlet ((zor t1 t0)) fun y1 =>
  zlet (zadd x3 1) fun y2 =>
  some (.inl (y1, y2))
theorem w_X9_stemOf_42 {g : zG} {lv : Nat} {out : zO} (x0 x1 x3 t0 t1 : Int) (σ : zM) {r : ((Int × Int) ⊕ zO)} (h : f_X9_stemOf_42 x0 x1 x3 t0 t1 σ = some r) (hk : (zKL (fun s : Int × Int => Gj g MX9_stemOf (lv + 2) 6 [(0, zr x0), (1, zi x1), (2, zi s.1), (3, zi s.2)] [] σ out) (fun o : zO => o = out)) r) : Gj g MX9_stemOf (lv + 2) 42 [(0, zr x0), (1, zi x1), (3, zi x3)] [zi t0, zi t1] σ out := by
  revert h
  unfold f_X9_stemOf_42
  refine zst_ (gj_ior (pc := 42) dX9_stemOf_42) ?_
  refine gb_let (fun y1 => ?_)
  refine zst_ (gj_istore_n (pc := 43) (ls' := [(2, zi y1), (0, zr x0), (1, zi x1), (3, zi x3)]) dX9_stemOf_43 (by decide) rfl) ?_
  refine gb_iinc (pc := 44) 3 (fun y2 => [(3, zi y2), (2, zi y1), (0, zr x0), (1, zi x1)]) dX9_stemOf_44 rfl (by decide) (fun _ => rfl) (fun y2 => ?_)
  refine zst_ (gj_goto 6 (pc := 47) dX9_stemOf_47 (by decide)) ?_
  refine zst_ (gj_sub [2, 3, 1, 0] rfl) ?_
  intro h
  cases h
  exact hk
noncomputable def f_X9_stemOf_41 (x0 x1 x3 t0 : Int) (σ : zM) : Option ((Int × Int) ⊕ zO) :=
  f_X9_stemOf_42 x0 x1 x3 0 t0 σ
theorem w_X9_stemOf_41 {g : zG} {lv : Nat} {out : zO} (x0 x1 x3 t0 : Int) (σ : zM) {r : ((Int × Int) ⊕ zO)} (h : f_X9_stemOf_41 x0 x1 x3 t0 σ = some r) (hk : (zKL (fun s : Int × Int => Gj g MX9_stemOf (lv + 2) 6 [(0, zr x0), (1, zi x1), (2, zi s.1), (3, zi s.2)] [] σ out) (fun o : zO => o = out)) r) : Gj g MX9_stemOf (lv + 2) 41 [(0, zr x0), (1, zi x1), (3, zi x3)] [zi t0] σ out := by
  revert h
  unfold f_X9_stemOf_41
  refine zst_ (gj_iconst (pc := 41) dX9_stemOf_41 (by decide)) ?_
  exact fun h => w_X9_stemOf_42 x0 x1 x3 0 t0 σ h hk
noncomputable def f_X9_stemOf_6_b (x0 x1 x2 x3 : Int) (σ : zM) : Option ((Int × Int) ⊕ zO) :=
  (zgf σ 964 x0).bind fun v1 =>
  if (zshl 1 v1) ≤ x3 then
    (f_X9_stemOf_50 x0 x1 x2 σ).map (fun r => (.inr r))
  else
    (zgf σ 975 x0).bind fun v2 =>
    (zga σ 101 v2 x3).bind fun v3 =>
    if v3 ≠ 0 then
      f_X9_stemOf_41 x0 x1 x3 x2 σ
    else
      (zgf σ 976 x0).bind fun v4 =>
      (zga σ 103 v4 x3).bind fun v5 =>
      if v5 = 0 then
        f_X9_stemOf_41 x0 x1 x3 x2 σ
      else
        f_X9_stemOf_42 x0 x1 x3 (zshl 1 x3) x2 σ
noncomputable def f_X9_stemOf_6 (x0 x1 x2 x3 : Int) (σ : zM) : Option zO :=
  zloop (fun s : Int × Int => f_X9_stemOf_6_b x0 x1 s.1 s.2 σ) (x2, x3)
theorem w_X9_stemOf_6_b {g : zG} {lv : Nat} {out : zO} (x0 x1 x2 x3 : Int) (σ : zM) {r : ((Int × Int) ⊕ zO)} (h : f_X9_stemOf_6_b x0 x1 x2 x3 σ = some r) (hk : (zKL (fun s : Int × Int => Gj g MX9_stemOf (lv + 2) 6 [(0, zr x0), (1, zi x1), (2, zi s.1), (3, zi s.2)] [] σ out) (fun o : zO => o = out)) r) : Gj g MX9_stemOf (lv + 2) 6 [(0, zr x0), (1, zi x1), (2, zi x2), (3, zi x3)] [] σ out := by
  revert h
  unfold f_X9_stemOf_6_b
  refine zst_ (gj_iload_n 3 (pc := 6) dX9_stemOf_6 rfl) ?_
  refine zst_ (gj_iconst (pc := 7) dX9_stemOf_7 (by decide)) ?_
  refine zst_ (gj_aload_n 0 (pc := 8) dX9_stemOf_8 rfl) ?_
  refine gb_get (pc := 9) fl964 dX9_stemOf_9 q1946 (Or.inl rfl) (fun v1 => ?_)
  refine zst_ (gj_ishl (pc := 12) dX9_stemOf_12) ?_
  refine gb_if (gj_icmp_ge 50 (pc := 13) dX9_stemOf_13 (by decide)) ?_ ?_
  · refine zst_ (gj_sub [0, 1, 2] rfl) ?_
    intro h
    obtain ⟨r0, h0, rfl⟩ := zmE h
    exact w_X9_stemOf_50 x0 x1 x2 σ h0 hk
  · refine zst_ (gj_iload_n 2 (pc := 16) dX9_stemOf_16 rfl) ?_
    refine zst_ (gj_aload_n 0 (pc := 17) dX9_stemOf_17 rfl) ?_
    refine gb_get (pc := 18) fl975 dX9_stemOf_18 q1957 (Or.inl rfl) (fun v2 => ?_)
    refine zst_ (gj_iload_n 3 (pc := 21) dX9_stemOf_21 rfl) ?_
    refine gb_iald (pc := 22) dX9_stemOf_22 (fun v3 => ?_)
    refine gb_if (gj_if_ne 41 (pc := 23) dX9_stemOf_23 (by decide)) ?_ ?_
    · refine zst_ (gj_sub [0, 1, 3] rfl) ?_
      exact fun h => w_X9_stemOf_41 x0 x1 x3 x2 σ h hk
    · refine zst_ (gj_aload_n 0 (pc := 26) dX9_stemOf_26 rfl) ?_
      refine gb_get (pc := 27) fl976 dX9_stemOf_27 q1958 (Or.inl rfl) (fun v4 => ?_)
      refine zst_ (gj_iload_n 3 (pc := 30) dX9_stemOf_30 rfl) ?_
      refine gb_zald (pc := 31) dX9_stemOf_31 (fun v5 => ?_)
      refine gb_if (gj_if_eq 41 (pc := 32) dX9_stemOf_32 (by decide)) ?_ ?_
      · refine zst_ (gj_sub [0, 1, 3] rfl) ?_
        exact fun h => w_X9_stemOf_41 x0 x1 x3 x2 σ h hk
      · refine zst_ (gj_iconst (pc := 35) dX9_stemOf_35 (by decide)) ?_
        refine zst_ (gj_iload_n 3 (pc := 36) dX9_stemOf_36 rfl) ?_
        refine zst_ (gj_ishl (pc := 37) dX9_stemOf_37) ?_
        refine zst_ (gj_goto 42 (pc := 38) dX9_stemOf_38 (by decide)) ?_
        refine zst_ (gj_sub [0, 1, 3] rfl) ?_
        exact fun h => w_X9_stemOf_42 x0 x1 x3 (zshl 1 x3) x2 σ h hk
theorem w_X9_stemOf_6 {g : zG} {lv : Nat} {out : zO} (x0 x1 x2 x3 : Int) (σ : zM) {r : zO} (h : f_X9_stemOf_6 x0 x1 x2 x3 σ = some r) (hk : (fun o : zO => o = out) r) : Gj g MX9_stemOf (lv + 2) 6 [(0, zr x0), (1, zi x1), (2, zi x2), (3, zi x3)] [] σ out :=
  gj_loop (P := (fun s : Int × Int => Gj g MX9_stemOf (lv + 2) 6 [(0, zr x0), (1, zi x1), (2, zi s.1), (3, zi s.2)] [] σ out)) (fun s x hb hx => w_X9_stemOf_6_b x0 x1 s.1 s.2 σ hb hx) h hk
noncomputable def f_X9_stemOf (x0 : Int) (σ : zM) : Option zO :=
  f_X9_stemOf_6 x0 0 0 0 σ
theorem c_X9_stemOf {g : zG} {lv : Nat} {x0 : Int} {σ : zM} {out : zO} (h : f_X9_stemOf x0 σ = some out) : Cj g (lv + 2) MX9_stemOf [zr x0] σ out := by
  refine cj_go (ls := [(0, zr x0)]) (by decide) (Nat.le_of_ble_eq_true rfl) rfl (zgen h (fun r hk => ?_))
  unfold f_X9_stemOf
  refine zst_ (gj_iconst (pc := 0) dX9_stemOf_0 (by decide)) ?_
  refine zst_ (gj_istore_n (pc := 1) (ls' := [(1, zi 0), (0, zr x0)]) dX9_stemOf_1 (by decide) rfl) ?_
  refine zst_ (gj_iconst (pc := 2) dX9_stemOf_2 (by decide)) ?_
  refine zst_ (gj_istore_n (pc := 3) (ls' := [(2, zi 0), (1, zi 0), (0, zr x0)]) dX9_stemOf_3 (by decide) rfl) ?_
  refine zst_ (gj_iconst (pc := 4) dX9_stemOf_4 (by decide)) ?_
  refine zst_ (gj_istore_n (pc := 5) (ls' := [(3, zi 0), (2, zi 0), (1, zi 0), (0, zr x0)]) dX9_stemOf_5 (by decide) rfl) ?_
  refine zst_ (gj_sub [3, 2, 1, 0] rfl) ?_
  exact fun h => w_X9_stemOf_6 x0 0 0 0 σ h hk
theorem q2380 : (Jvm.Cond.code ({ cls := "LassoFinderModel", name := "stepOf", desc := "([II)I" } : Jvm.MethodName) prog_22_method_58_code (2 : Nat) (Option.some Jvm.ClassFile.FieldType.int)) ∈ lw_all := lw_g (lw_at lw_m10 120 rfl) rfl
abbrev cX9_stepOf : ByteArray := prog_22_method_58_code
def yX9_stepOf : MethodName := ⟨RX9, "stepOf", "([II)I"⟩
theorem dX9_stepOf_0 : decode cX9_stepOf 0 = .ok (.aload_n 0, 1) := by decide +kernel
theorem dX9_stepOf_1 : decode cX9_stepOf 1 = .ok (.iload_n 1, 1) := by decide +kernel
theorem dX9_stepOf_2 : decode cX9_stepOf 2 = .ok (.iconst 3, 1) := by decide +kernel
theorem dX9_stepOf_3 : decode cX9_stepOf 3 = .ok (.idiv, 1) := by decide +kernel
theorem dX9_stepOf_4 : decode cX9_stepOf 4 = .ok (.iaload, 1) := by decide +kernel
theorem dX9_stepOf_5 : decode cX9_stepOf 5 = .ok (.bipush 9, 2) := by decide +kernel
theorem dX9_stepOf_7 : decode cX9_stepOf 7 = .ok (.iload_n 1, 1) := by decide +kernel
theorem dX9_stepOf_8 : decode cX9_stepOf 8 = .ok (.iconst 3, 1) := by decide +kernel
theorem dX9_stepOf_9 : decode cX9_stepOf 9 = .ok (.irem, 1) := by decide +kernel
theorem dX9_stepOf_10 : decode cX9_stepOf 10 = .ok (.imul, 1) := by decide +kernel
theorem dX9_stepOf_11 : decode cX9_stepOf 11 = .ok (.ishr, 1) := by decide +kernel
theorem dX9_stepOf_12 : decode cX9_stepOf 12 = .ok (.sipush 511, 3) := by decide +kernel
theorem dX9_stepOf_15 : decode cX9_stepOf 15 = .ok (.iand, 1) := by decide +kernel
theorem dX9_stepOf_16 : decode cX9_stepOf 16 = .ok (.ireturn, 1) := by decide +kernel
abbrev MX9_stepOf : zT := (yX9_stepOf, cX9_stepOf, 2, (Option.some Jvm.ClassFile.FieldType.int), [])
theorem plX9_stepOf : zplain MX9_stepOf 2 ∧ (zcodeW MX9_stepOf ∈ lw_all ∧ Cond.initialized MX9_stepOf.1.cls ∈ lw_all) := ⟨⟨by decide +kernel, by decide +kernel⟩, q2380, q127⟩
noncomputable def f_X9_stepOf (x0 x1 : Int) (σ : zM) : Option zO :=
  (zga σ 101 x0 (zdiv x1 3)).bind fun v1 =>
  some (0, zi (zand (zshr v1 (zmul 9 (zrem x1 3))) 511), σ)
theorem c_X9_stepOf {g : zG} {lv : Nat} {x0 x1 : Int} {σ : zM} {out : zO} (h : f_X9_stepOf x0 x1 σ = some out) : Cj g (lv) MX9_stepOf [zr x0, zi x1] σ out := by
  refine cj_go (ls := [(0, zr x0), (1, zi x1)]) (by decide) (Nat.le_of_ble_eq_true rfl) rfl (zgen h (fun r hk => ?_))
  unfold f_X9_stepOf
  refine zst_ (gj_aload_n 0 (pc := 0) dX9_stepOf_0 rfl) ?_
  refine zst_ (gj_iload_n 1 (pc := 1) dX9_stepOf_1 rfl) ?_
  refine zst_ (gj_iconst (pc := 2) dX9_stepOf_2 (by decide)) ?_
  refine zst_ (gj_idiv (pc := 3) dX9_stepOf_3 (by decide)) ?_
  refine gb_iald (pc := 4) dX9_stepOf_4 (fun v1 => ?_)
  refine zst_ (gj_bipush (pc := 5) dX9_stepOf_5 ⟨rfl, by decide⟩) ?_
  refine zst_ (gj_iload_n 1 (pc := 7) dX9_stepOf_7 rfl) ?_
  refine zst_ (gj_iconst (pc := 8) dX9_stepOf_8 (by decide)) ?_
  refine zst_ (gj_irem (pc := 9) dX9_stepOf_9 (by decide)) ?_
  refine zst_ (gj_imul (pc := 10) dX9_stepOf_10) ?_
  refine zst_ (gj_ishr (pc := 11) dX9_stepOf_11) ?_
  refine zst_ (gj_sipush (pc := 12) dX9_stepOf_12 ⟨rfl, by decide⟩) ?_
  refine zst_ (gj_iand (pc := 15) dX9_stepOf_15) ?_
  intro h
  cases h
  have hk : (0, zi (zand (zshr v1 (zmul 9 (zrem x1 3))) 511), σ) = out := hk
  subst hk
  exact gj_ret (pc := 16) (t := .int) dX9_stepOf_16 rfl ⟨rfl, rfl⟩ (fun h => h)
theorem q2388 : (Jvm.Cond.code ({ cls := "LassoFinderModel", name := "ahead", desc := "(IJI)J" } : Jvm.MethodName) prog_22_method_63_code (12 : Nat) (Option.some Jvm.ClassFile.FieldType.long)) ∈ lw_all := lw_g (lw_at lw_m10 128 rfl) rfl
abbrev cX9_ahead : ByteArray := prog_22_method_63_code
def yX9_ahead : MethodName := ⟨RX9, "ahead", "(IJI)J"⟩
theorem dX9_ahead_0 : decode cX9_ahead 0 = .ok (.lconst 0, 1) := by decide +kernel
theorem dX9_ahead_1 : decode cX9_ahead 1 = .ok (.lstore 5, 2) := by decide +kernel
theorem dX9_ahead_3 : decode cX9_ahead 3 = .ok (.iconst 0, 1) := by decide +kernel
theorem dX9_ahead_4 : decode cX9_ahead 4 = .ok (.istore 7, 2) := by decide +kernel
theorem dX9_ahead_6 : decode cX9_ahead 6 = .ok (.iload 7, 2) := by decide +kernel
theorem dX9_ahead_8 : decode cX9_ahead 8 = .ok (.iconst 1, 1) := by decide +kernel
theorem dX9_ahead_9 : decode cX9_ahead 9 = .ok (.aload_n 0, 1) := by decide +kernel
theorem dX9_ahead_10 : decode cX9_ahead 10 = .ok (.getfield 376, 3) := by decide +kernel
theorem dX9_ahead_13 : decode cX9_ahead 13 = .ok (.ishl, 1) := by decide +kernel
theorem dX9_ahead_14 : decode cX9_ahead 14 = .ok (.if_icmp .ge 123, 3) := by decide +kernel
theorem dX9_ahead_17 : decode cX9_ahead 17 = .ok (.aload_n 0, 1) := by decide +kernel
theorem dX9_ahead_18 : decode cX9_ahead 18 = .ok (.aload_n 0, 1) := by decide +kernel
theorem dX9_ahead_19 : decode cX9_ahead 19 = .ok (.getfield 115, 3) := by decide +kernel
theorem dX9_ahead_22 : decode cX9_ahead 22 = .ok (.iload_n 1, 1) := by decide +kernel
theorem dX9_ahead_23 : decode cX9_ahead 23 = .ok (.iaload, 1) := by decide +kernel
theorem dX9_ahead_24 : decode cX9_ahead 24 = .ok (.iload 7, 2) := by decide +kernel
theorem dX9_ahead_26 : decode cX9_ahead 26 = .ok (.invokevirtual 422, 3) := by decide +kernel
theorem dX9_ahead_29 : decode cX9_ahead 29 = .ok (.istore 8, 2) := by decide +kernel
theorem dX9_ahead_31 : decode cX9_ahead 31 = .ok (.aload_n 0, 1) := by decide +kernel
theorem dX9_ahead_32 : decode cX9_ahead 32 = .ok (.aload_n 0, 1) := by decide +kernel
theorem dX9_ahead_33 : decode cX9_ahead 33 = .ok (.getfield 112, 3) := by decide +kernel
theorem dX9_ahead_36 : decode cX9_ahead 36 = .ok (.iload_n 1, 1) := by decide +kernel
theorem dX9_ahead_37 : decode cX9_ahead 37 = .ok (.iaload, 1) := by decide +kernel
theorem dX9_ahead_38 : decode cX9_ahead 38 = .ok (.iload 7, 2) := by decide +kernel
theorem dX9_ahead_40 : decode cX9_ahead 40 = .ok (.invokevirtual 419, 3) := by decide +kernel
theorem dX9_ahead_43 : decode cX9_ahead 43 = .ok (.istore 9, 2) := by decide +kernel
theorem dX9_ahead_45 : decode cX9_ahead 45 = .ok (.iconst 0, 1) := by decide +kernel
theorem dX9_ahead_46 : decode cX9_ahead 46 = .ok (.istore 10, 2) := by decide +kernel
theorem dX9_ahead_48 : decode cX9_ahead 48 = .ok (.iload 10, 2) := by decide +kernel
theorem dX9_ahead_50 : decode cX9_ahead 50 = .ok (.iconst 1, 1) := by decide +kernel
theorem dX9_ahead_51 : decode cX9_ahead 51 = .ok (.aload_n 0, 1) := by decide +kernel
theorem dX9_ahead_52 : decode cX9_ahead 52 = .ok (.getfield 376, 3) := by decide +kernel
theorem dX9_ahead_55 : decode cX9_ahead 55 = .ok (.ishl, 1) := by decide +kernel
theorem dX9_ahead_56 : decode cX9_ahead 56 = .ok (.if_icmp .ge 75, 3) := by decide +kernel
theorem dX9_ahead_59 : decode cX9_ahead 59 = .ok (.iload 10, 2) := by decide +kernel
theorem dX9_ahead_61 : decode cX9_ahead 61 = .ok (.iload 9, 2) := by decide +kernel
theorem dX9_ahead_63 : decode cX9_ahead 63 = .ok (.ior, 1) := by decide +kernel
theorem dX9_ahead_64 : decode cX9_ahead 64 = .ok (.istore 11, 2) := by decide +kernel
theorem dX9_ahead_66 : decode cX9_ahead 66 = .ok (.lload_n 2, 1) := by decide +kernel
theorem dX9_ahead_67 : decode cX9_ahead 67 = .ok (.bipush 8, 2) := by decide +kernel
theorem dX9_ahead_69 : decode cX9_ahead 69 = .ok (.iload 8, 2) := by decide +kernel
theorem dX9_ahead_71 : decode cX9_ahead 71 = .ok (.imul, 1) := by decide +kernel
theorem dX9_ahead_72 : decode cX9_ahead 72 = .ok (.iload 10, 2) := by decide +kernel
theorem dX9_ahead_74 : decode cX9_ahead 74 = .ok (.iadd, 1) := by decide +kernel
theorem dX9_ahead_75 : decode cX9_ahead 75 = .ok (.lshr, 1) := by decide +kernel
theorem dX9_ahead_76 : decode cX9_ahead 76 = .ok (.lconst 1, 1) := by decide +kernel
theorem dX9_ahead_77 : decode cX9_ahead 77 = .ok (.land, 1) := by decide +kernel
theorem dX9_ahead_78 : decode cX9_ahead 78 = .ok (.lconst 1, 1) := by decide +kernel
theorem dX9_ahead_79 : decode cX9_ahead 79 = .ok (.lcmp, 1) := by decide +kernel
theorem dX9_ahead_80 : decode cX9_ahead 80 = .ok (.ifCond .ne 45, 3) := by decide +kernel
theorem dX9_ahead_83 : decode cX9_ahead 83 = .ok (.aload_n 0, 1) := by decide +kernel
theorem dX9_ahead_84 : decode cX9_ahead 84 = .ok (.bipush 64, 2) := by decide +kernel
theorem dX9_ahead_86 : decode cX9_ahead 86 = .ok (.aload_n 0, 1) := by decide +kernel
theorem dX9_ahead_87 : decode cX9_ahead 87 = .ok (.getfield 112, 3) := by decide +kernel
theorem dX9_ahead_90 : decode cX9_ahead 90 = .ok (.iload_n 1, 1) := by decide +kernel
theorem dX9_ahead_91 : decode cX9_ahead 91 = .ok (.iaload, 1) := by decide +kernel
theorem dX9_ahead_92 : decode cX9_ahead 92 = .ok (.imul, 1) := by decide +kernel
theorem dX9_ahead_93 : decode cX9_ahead 93 = .ok (.bipush 8, 2) := by decide +kernel
theorem dX9_ahead_95 : decode cX9_ahead 95 = .ok (.iload 7, 2) := by decide +kernel
theorem dX9_ahead_97 : decode cX9_ahead 97 = .ok (.imul, 1) := by decide +kernel
theorem dX9_ahead_98 : decode cX9_ahead 98 = .ok (.iadd, 1) := by decide +kernel
theorem dX9_ahead_99 : decode cX9_ahead 99 = .ok (.iload 11, 2) := by decide +kernel
theorem dX9_ahead_101 : decode cX9_ahead 101 = .ok (.iadd, 1) := by decide +kernel
theorem dX9_ahead_102 : decode cX9_ahead 102 = .ok (.invokevirtual 425, 3) := by decide +kernel
theorem dX9_ahead_105 : decode cX9_ahead 105 = .ok (.iload 4, 2) := by decide +kernel
theorem dX9_ahead_107 : decode cX9_ahead 107 = .ok (.if_icmp .ne 18, 3) := by decide +kernel
theorem dX9_ahead_110 : decode cX9_ahead 110 = .ok (.lload 5, 2) := by decide +kernel
theorem dX9_ahead_112 : decode cX9_ahead 112 = .ok (.lconst 1, 1) := by decide +kernel
theorem dX9_ahead_113 : decode cX9_ahead 113 = .ok (.bipush 8, 2) := by decide +kernel
theorem dX9_ahead_115 : decode cX9_ahead 115 = .ok (.iload 7, 2) := by decide +kernel
theorem dX9_ahead_117 : decode cX9_ahead 117 = .ok (.imul, 1) := by decide +kernel
theorem dX9_ahead_118 : decode cX9_ahead 118 = .ok (.iload 11, 2) := by decide +kernel
theorem dX9_ahead_120 : decode cX9_ahead 120 = .ok (.iadd, 1) := by decide +kernel
theorem dX9_ahead_121 : decode cX9_ahead 121 = .ok (.lshl, 1) := by decide +kernel
theorem dX9_ahead_122 : decode cX9_ahead 122 = .ok (.lor, 1) := by decide +kernel
theorem dX9_ahead_123 : decode cX9_ahead 123 = .ok (.lstore 5, 2) := by decide +kernel
theorem dX9_ahead_125 : decode cX9_ahead 125 = .ok (.iinc 10 1, 3) := by decide +kernel
theorem dX9_ahead_128 : decode cX9_ahead 128 = .ok (.goto (-80), 3) := by decide +kernel
theorem dX9_ahead_131 : decode cX9_ahead 131 = .ok (.iinc 7 1, 3) := by decide +kernel
theorem dX9_ahead_134 : decode cX9_ahead 134 = .ok (.goto (-128), 3) := by decide +kernel
theorem dX9_ahead_137 : decode cX9_ahead 137 = .ok (.lload 5, 2) := by decide +kernel
theorem dX9_ahead_139 : decode cX9_ahead 139 = .ok (.lreturn, 1) := by decide +kernel
abbrev MX9_ahead : zT := (yX9_ahead, cX9_ahead, 12, (Option.some Jvm.ClassFile.FieldType.long), [])
theorem plX9_ahead : zplain MX9_ahead 3 ∧ (zcodeW MX9_ahead ∈ lw_all ∧ Cond.initialized MX9_ahead.1.cls ∈ lw_all) := ⟨⟨by decide +kernel, by decide +kernel⟩, q2388, q127⟩
noncomputable def f_X9_ahead_137 (x5 : Int) (σ : zM) : Option zO :=
  some (0, zj x5, σ)
theorem w_X9_ahead_137 {g : zG} {lv : Nat} {out : zO} (x5 : Int) (σ : zM) {r : zO} (h : f_X9_ahead_137 x5 σ = some r) (hk : (fun o : zO => o = out) r) : Gj g MX9_ahead (lv + 2) 137 [(5, zj x5)] [] σ out := by
  revert h
  unfold f_X9_ahead_137
  refine zst_ (gj_lload 0 (pc := 137) dX9_ahead_137 rfl) ?_
  intro h
  cases h
  have hk : (0, zj x5, σ) = out := hk
  subst hk
  exact gj_lret (pc := 139) dX9_ahead_139 rfl
noncomputable def f_X9_ahead_131 (x0 x1 x2 x4 x5 x7 : Int) (σ : zM) : Option ((Int × Int × zM) ⊕ zO) :=
  zlet (zadd x7 1) fun y1 =>
  some (.inl (x5, y1, σ))
theorem w_X9_ahead_131 {g : zG} {lv : Nat} {out : zO} (x0 x1 x2 x4 x5 x7 : Int) (σ : zM) {r : ((Int × Int × zM) ⊕ zO)} (h : f_X9_ahead_131 x0 x1 x2 x4 x5 x7 σ = some r) (hk : (zKL (fun s : Int × Int × zM => Gj g MX9_ahead (lv + 2) 6 [(0, zr x0), (1, zi x1), (2, zj x2), (4, zi x4), (5, zj s.1), (7, zi s.2.1)] [] s.2.2 out) (fun o : zO => o = out)) r) : Gj g MX9_ahead (lv + 2) 131 [(0, zr x0), (1, zi x1), (2, zj x2), (4, zi x4), (5, zj x5), (7, zi x7)] [] σ out := by
  revert h
  unfold f_X9_ahead_131
  refine gb_iinc (pc := 131) 5 (fun y1 => [(7, zi y1), (0, zr x0), (1, zi x1), (2, zj x2), (4, zi x4), (5, zj x5)]) dX9_ahead_131 rfl (by decide) (fun _ => rfl) (fun y1 => ?_)
  refine zst_ (gj_goto 6 (pc := 134) dX9_ahead_134 (by decide)) ?_
  refine zst_ (gj_sub [1, 2, 3, 4, 5, 0] rfl) ?_
  intro h
  cases h
  exact hk
noncomputable def f_X9_ahead_125 (x0 x1 x2 x4 x5 x7 x8 x9 x10 : Int) (σ : zM) : Option ((Int × Int × zM) ⊕ ((Int × Int × zM) ⊕ zO)) :=
  zlet (zadd x10 1) fun y1 =>
  some (.inl (x5, y1, σ))
theorem w_X9_ahead_125 {g : zG} {lv : Nat} {out : zO} (x0 x1 x2 x4 x5 x7 x8 x9 x10 : Int) (σ : zM) {r : ((Int × Int × zM) ⊕ ((Int × Int × zM) ⊕ zO))} (h : f_X9_ahead_125 x0 x1 x2 x4 x5 x7 x8 x9 x10 σ = some r) (hk : (zKL (fun s : Int × Int × zM => Gj g MX9_ahead (lv + 2) 48 [(0, zr x0), (1, zi x1), (2, zj x2), (4, zi x4), (5, zj s.1), (7, zi x7), (8, zi x8), (9, zi x9), (10, zi s.2.1)] [] s.2.2 out) (zKL (fun s : Int × Int × zM => Gj g MX9_ahead (lv + 2) 6 [(0, zr x0), (1, zi x1), (2, zj x2), (4, zi x4), (5, zj s.1), (7, zi s.2.1)] [] s.2.2 out) (fun o : zO => o = out))) r) : Gj g MX9_ahead (lv + 2) 125 [(0, zr x0), (1, zi x1), (2, zj x2), (4, zi x4), (5, zj x5), (7, zi x7), (8, zi x8), (9, zi x9), (10, zi x10)] [] σ out := by
  revert h
  unfold f_X9_ahead_125
  refine gb_iinc (pc := 125) 8 (fun y1 => [(10, zi y1), (0, zr x0), (1, zi x1), (2, zj x2), (4, zi x4), (5, zj x5), (7, zi x7), (8, zi x8), (9, zi x9)]) dX9_ahead_125 rfl (by decide) (fun _ => rfl) (fun y1 => ?_)
  refine zst_ (gj_goto 48 (pc := 128) dX9_ahead_128 (by decide)) ?_
  refine zst_ (gj_sub [1, 2, 3, 4, 5, 6, 7, 8, 0] rfl) ?_
  intro h
  cases h
  exact hk
noncomputable def f_X9_ahead_48_b (x0 x1 x2 x4 x5 x7 x8 x9 x10 : Int) (σ : zM) : Option ((Int × Int × zM) ⊕ ((Int × Int × zM) ⊕ zO)) :=
  (zgf σ 964 x0).bind fun v1 =>
  if (zshl 1 v1) ≤ x10 then
    (f_X9_ahead_131 x0 x1 x2 x4 x5 x7 σ).map (fun r => (.inr r))
  else
    zlet ((zor x10 x9)) fun y2 =>
    if (zlcmp (jand (jshr x2 (zadd (zmul 8 x8) x10)) 1) 1) ≠ 0 then
      f_X9_ahead_125 x0 x1 x2 x4 x5 x7 x8 x9 x10 σ
    else
      (zgf σ 949 x0).bind fun v3 =>
      (zga σ 101 v3 x1).bind fun v4 =>
      zgd (zis σ 10 x0) <|
      zci (f_X9_away x0 (zadd (zadd (zmul 64 v4) (zmul 8 x7)) y2) σ) fun v5 σ6 =>
      if v5 ≠ x4 then
        f_X9_ahead_125 x0 x1 x2 x4 x5 x7 x8 x9 x10 σ6
      else
        zlet ((jor x5 (jshl 1 (zadd (zmul 8 x7) y2)))) fun y7 =>
        f_X9_ahead_125 x0 x1 x2 x4 y7 x7 x8 x9 x10 σ6
noncomputable def f_X9_ahead_48 (x0 x1 x2 x4 x5 x7 x8 x9 x10 : Int) (σ : zM) : Option ((Int × Int × zM) ⊕ zO) :=
  zloop (fun s : Int × Int × zM => f_X9_ahead_48_b x0 x1 x2 x4 s.1 x7 x8 x9 s.2.1 s.2.2) (x5, x10, σ)
theorem w_X9_ahead_48_b {g : zG} {lv : Nat} {out : zO} (x0 x1 x2 x4 x5 x7 x8 x9 x10 : Int) (σ : zM) {r : ((Int × Int × zM) ⊕ ((Int × Int × zM) ⊕ zO))} (h : f_X9_ahead_48_b x0 x1 x2 x4 x5 x7 x8 x9 x10 σ = some r) (hk : (zKL (fun s : Int × Int × zM => Gj g MX9_ahead (lv + 2) 48 [(0, zr x0), (1, zi x1), (2, zj x2), (4, zi x4), (5, zj s.1), (7, zi x7), (8, zi x8), (9, zi x9), (10, zi s.2.1)] [] s.2.2 out) (zKL (fun s : Int × Int × zM => Gj g MX9_ahead (lv + 2) 6 [(0, zr x0), (1, zi x1), (2, zj x2), (4, zi x4), (5, zj s.1), (7, zi s.2.1)] [] s.2.2 out) (fun o : zO => o = out))) r) : Gj g MX9_ahead (lv + 2) 48 [(0, zr x0), (1, zi x1), (2, zj x2), (4, zi x4), (5, zj x5), (7, zi x7), (8, zi x8), (9, zi x9), (10, zi x10)] [] σ out := by
  revert h
  unfold f_X9_ahead_48_b
  refine zst_ (gj_iload 8 (pc := 48) dX9_ahead_48 rfl) ?_
  refine zst_ (gj_iconst (pc := 50) dX9_ahead_50 (by decide)) ?_
  refine zst_ (gj_aload_n 0 (pc := 51) dX9_ahead_51 rfl) ?_
  refine gb_get (pc := 52) fl964 dX9_ahead_52 q1946 (Or.inl rfl) (fun v1 => ?_)
  refine zst_ (gj_ishl (pc := 55) dX9_ahead_55) ?_
  refine gb_if (gj_icmp_ge 131 (pc := 56) dX9_ahead_56 (by decide)) ?_ ?_
  · refine zst_ (gj_sub [0, 1, 2, 3, 4, 5] rfl) ?_
    intro h
    obtain ⟨r0, h0, rfl⟩ := zmE h
    exact w_X9_ahead_131 x0 x1 x2 x4 x5 x7 σ h0 hk
  · refine zst_ (gj_iload 8 (pc := 59) dX9_ahead_59 rfl) ?_
    refine zst_ (gj_iload 7 (pc := 61) dX9_ahead_61 rfl) ?_
    refine zst_ (gj_ior (pc := 63) dX9_ahead_63) ?_
    refine gb_let (fun y2 => ?_)
    refine zst_ (gj_istore (pc := 64) (ls' := [(11, zi y2), (0, zr x0), (1, zi x1), (2, zj x2), (4, zi x4), (5, zj x5), (7, zi x7), (8, zi x8), (9, zi x9), (10, zi x10)]) dX9_ahead_64 (by decide) rfl) ?_
    refine zst_ (gj_lload_n 3 (pc := 66) dX9_ahead_66 rfl) ?_
    refine zst_ (gj_bipush (pc := 67) dX9_ahead_67 ⟨rfl, by decide⟩) ?_
    refine zst_ (gj_iload 7 (pc := 69) dX9_ahead_69 rfl) ?_
    refine zst_ (gj_imul (pc := 71) dX9_ahead_71) ?_
    refine zst_ (gj_iload 9 (pc := 72) dX9_ahead_72 rfl) ?_
    refine zst_ (gj_iadd (pc := 74) dX9_ahead_74) ?_
    refine zst_ (gj_lshr (pc := 75) dX9_ahead_75) ?_
    refine zst_ (gj_lconst1 (pc := 76) dX9_ahead_76) ?_
    refine zst_ (gj_land (pc := 77) dX9_ahead_77) ?_
    refine zst_ (gj_lconst1 (pc := 78) dX9_ahead_78) ?_
    refine zst_ (gj_lcmp (pc := 79) dX9_ahead_79) ?_
    refine gb_if (gj_if_ne 125 (pc := 80) dX9_ahead_80 (by decide)) ?_ ?_
    · refine zst_ (gj_sub [1, 2, 3, 4, 5, 6, 7, 8, 9] rfl) ?_
      exact fun h => w_X9_ahead_125 x0 x1 x2 x4 x5 x7 x8 x9 x10 σ h hk
    · refine zst_ (gj_aload_n 1 (pc := 83) dX9_ahead_83 rfl) ?_
      refine zst_ (gj_bipush (pc := 84) dX9_ahead_84 ⟨rfl, by decide⟩) ?_
      refine zst_ (gj_aload_n 1 (pc := 86) dX9_ahead_86 rfl) ?_
      refine gb_get (pc := 87) fl949 dX9_ahead_87 q1931 (Or.inl rfl) (fun v3 => ?_)
      refine zst_ (gj_iload_n 2 (pc := 90) dX9_ahead_90 rfl) ?_
      refine gb_iald (pc := 91) dX9_ahead_91 (fun v4 => ?_)
      refine zst_ (gj_imul (pc := 92) dX9_ahead_92) ?_
      refine zst_ (gj_bipush (pc := 93) dX9_ahead_93 ⟨rfl, by decide⟩) ?_
      refine zst_ (gj_iload 6 (pc := 95) dX9_ahead_95 rfl) ?_
      refine zst_ (gj_imul (pc := 97) dX9_ahead_97) ?_
      refine zst_ (gj_iadd (pc := 98) dX9_ahead_98) ?_
      refine zst_ (gj_iload 0 (pc := 99) dX9_ahead_99 rfl) ?_
      refine zst_ (gj_iadd (pc := 101) dX9_ahead_101) ?_
      refine gb_gd (fun hb => ?_)
      refine gb_callI (pc := 102) (as := [zr x0, zi (zadd (zadd (zmul 64 v4) (zmul 8 x7)) y2)]) (rest := []) (zCl.of (zLk_V (M := MX9_ahead) (ci := 9) (r := (RX9, TX9, 84)) plX9_away.1 rfl rfl (zisE hb).1 (zisE hb).2 dX9_ahead_102 q2363 q2365 qs93 q2366) plX9_away (Nat.le_of_ble_eq_true rfl) (fun h => c_X9_away h)) (fun v5 σ6 => ?_)
      refine zst_ (gj_iload 4 (pc := 105) dX9_ahead_105 rfl) ?_
      refine gb_if (gj_icmp_ne 125 (pc := 107) dX9_ahead_107 (by decide)) ?_ ?_
      · refine zst_ (gj_sub [1, 2, 3, 4, 5, 6, 7, 8, 9] rfl) ?_
        exact fun h => w_X9_ahead_125 x0 x1 x2 x4 x5 x7 x8 x9 x10 σ6 h hk
      · refine zst_ (gj_lload 5 (pc := 110) dX9_ahead_110 rfl) ?_
        refine zst_ (gj_lconst1 (pc := 112) dX9_ahead_112) ?_
        refine zst_ (gj_bipush (pc := 113) dX9_ahead_113 ⟨rfl, by decide⟩) ?_
        refine zst_ (gj_iload 6 (pc := 115) dX9_ahead_115 rfl) ?_
        refine zst_ (gj_imul (pc := 117) dX9_ahead_117) ?_
        refine zst_ (gj_iload 0 (pc := 118) dX9_ahead_118 rfl) ?_
        refine zst_ (gj_iadd (pc := 120) dX9_ahead_120) ?_
        refine zst_ (gj_lshl (pc := 121) dX9_ahead_121) ?_
        refine zst_ (gj_lor (pc := 122) dX9_ahead_122) ?_
        refine gb_let (fun y7 => ?_)
        refine zst_ (gj_lstore (pc := 123) (ls' := [(5, zj y7), (11, zi y2), (0, zr x0), (1, zi x1), (2, zj x2), (4, zi x4), (7, zi x7), (8, zi x8), (9, zi x9), (10, zi x10)]) dX9_ahead_123 (by decide) rfl) ?_
        refine zst_ (gj_sub [2, 3, 4, 5, 0, 6, 7, 8, 9] rfl) ?_
        exact fun h => w_X9_ahead_125 x0 x1 x2 x4 y7 x7 x8 x9 x10 σ6 h hk
theorem w_X9_ahead_48 {g : zG} {lv : Nat} {out : zO} (x0 x1 x2 x4 x5 x7 x8 x9 x10 : Int) (σ : zM) {r : ((Int × Int × zM) ⊕ zO)} (h : f_X9_ahead_48 x0 x1 x2 x4 x5 x7 x8 x9 x10 σ = some r) (hk : (zKL (fun s : Int × Int × zM => Gj g MX9_ahead (lv + 2) 6 [(0, zr x0), (1, zi x1), (2, zj x2), (4, zi x4), (5, zj s.1), (7, zi s.2.1)] [] s.2.2 out) (fun o : zO => o = out)) r) : Gj g MX9_ahead (lv + 2) 48 [(0, zr x0), (1, zi x1), (2, zj x2), (4, zi x4), (5, zj x5), (7, zi x7), (8, zi x8), (9, zi x9), (10, zi x10)] [] σ out :=
  gj_loop (P := (fun s : Int × Int × zM => Gj g MX9_ahead (lv + 2) 48 [(0, zr x0), (1, zi x1), (2, zj x2), (4, zi x4), (5, zj s.1), (7, zi x7), (8, zi x8), (9, zi x9), (10, zi s.2.1)] [] s.2.2 out)) (fun s x hb hx => w_X9_ahead_48_b x0 x1 x2 x4 s.1 x7 x8 x9 s.2.1 s.2.2 hb hx) h hk
noncomputable def f_X9_ahead_6_b (x0 x1 x2 x4 x5 x7 : Int) (σ : zM) : Option ((Int × Int × zM) ⊕ zO) :=
  (zgf σ 964 x0).bind fun v1 =>
  if (zshl 1 v1) ≤ x7 then
    (f_X9_ahead_137 x5 σ).map (fun r => (.inr r))
  else
    (zgf σ 950 x0).bind fun v2 =>
    (zga σ 101 v2 x1).bind fun v3 =>
    zgd (zis σ 10 x0) <|
    zci (f_X9_truthAt x0 v3 x7 σ) fun v4 σ5 =>
    (zgf σ5 949 x0).bind fun v6 =>
    (zga σ5 101 v6 x1).bind fun v7 =>
    zgd (zis σ5 10 x0) <|
    zci (f_X9_settled x0 v7 x7 σ5) fun v8 σ9 =>
    f_X9_ahead_48 x0 x1 x2 x4 x5 x7 v4 v8 0 σ9
noncomputable def f_X9_ahead_6 (x0 x1 x2 x4 x5 x7 : Int) (σ : zM) : Option zO :=
  zloop (fun s : Int × Int × zM => f_X9_ahead_6_b x0 x1 x2 x4 s.1 s.2.1 s.2.2) (x5, x7, σ)
theorem w_X9_ahead_6_b {g : zG} {lv : Nat} {out : zO} (x0 x1 x2 x4 x5 x7 : Int) (σ : zM) {r : ((Int × Int × zM) ⊕ zO)} (h : f_X9_ahead_6_b x0 x1 x2 x4 x5 x7 σ = some r) (hk : (zKL (fun s : Int × Int × zM => Gj g MX9_ahead (lv + 2) 6 [(0, zr x0), (1, zi x1), (2, zj x2), (4, zi x4), (5, zj s.1), (7, zi s.2.1)] [] s.2.2 out) (fun o : zO => o = out)) r) : Gj g MX9_ahead (lv + 2) 6 [(0, zr x0), (1, zi x1), (2, zj x2), (4, zi x4), (5, zj x5), (7, zi x7)] [] σ out := by
  revert h
  unfold f_X9_ahead_6_b
  refine zst_ (gj_iload 5 (pc := 6) dX9_ahead_6 rfl) ?_
  refine zst_ (gj_iconst (pc := 8) dX9_ahead_8 (by decide)) ?_
  refine zst_ (gj_aload_n 0 (pc := 9) dX9_ahead_9 rfl) ?_
  refine gb_get (pc := 10) fl964 dX9_ahead_10 q1946 (Or.inl rfl) (fun v1 => ?_)
  refine zst_ (gj_ishl (pc := 13) dX9_ahead_13) ?_
  refine gb_if (gj_icmp_ge 137 (pc := 14) dX9_ahead_14 (by decide)) ?_ ?_
  · refine zst_ (gj_sub [4] rfl) ?_
    intro h
    obtain ⟨r0, h0, rfl⟩ := zmE h
    exact w_X9_ahead_137 x5 σ h0 hk
  · refine zst_ (gj_aload_n 0 (pc := 17) dX9_ahead_17 rfl) ?_
    refine zst_ (gj_aload_n 0 (pc := 18) dX9_ahead_18 rfl) ?_
    refine gb_get (pc := 19) fl950 dX9_ahead_19 q1932 (Or.inl rfl) (fun v2 => ?_)
    refine zst_ (gj_iload_n 1 (pc := 22) dX9_ahead_22 rfl) ?_
    refine gb_iald (pc := 23) dX9_ahead_23 (fun v3 => ?_)
    refine zst_ (gj_iload 5 (pc := 24) dX9_ahead_24 rfl) ?_
    refine gb_gd (fun hb => ?_)
    refine gb_callI (pc := 26) (as := [zr x0, zi v3, zi x7]) (rest := []) (zCl.of (zLk_V (M := MX9_ahead) (ci := 9) (r := (RX9, TX9, 84)) plX9_truthAt.1 rfl rfl (zisE hb).1 (zisE hb).2 dX9_ahead_26 q2355 q2357 qs91 q2358) plX9_truthAt (Nat.le_of_ble_eq_true rfl) (fun h => c_X9_truthAt h)) (fun v4 σ5 => ?_)
    refine zst_ (gj_istore (pc := 29) (ls' := [(8, zi v4), (0, zr x0), (1, zi x1), (2, zj x2), (4, zi x4), (5, zj x5), (7, zi x7)]) dX9_ahead_29 (by decide) rfl) ?_
    refine zst_ (gj_aload_n 1 (pc := 31) dX9_ahead_31 rfl) ?_
    refine zst_ (gj_aload_n 1 (pc := 32) dX9_ahead_32 rfl) ?_
    refine gb_get (pc := 33) fl949 dX9_ahead_33 q1931 (Or.inl rfl) (fun v6 => ?_)
    refine zst_ (gj_iload_n 2 (pc := 36) dX9_ahead_36 rfl) ?_
    refine gb_iald (pc := 37) dX9_ahead_37 (fun v7 => ?_)
    refine zst_ (gj_iload 6 (pc := 38) dX9_ahead_38 rfl) ?_
    refine gb_gd (fun hb => ?_)
    refine gb_callI (pc := 40) (as := [zr x0, zi v7, zi x7]) (rest := []) (zCl.of (zLk_V (M := MX9_ahead) (ci := 9) (r := (RX9, TX9, 84)) plX9_settled.1 rfl rfl (zisE hb).1 (zisE hb).2 dX9_ahead_40 q2351 q2353 qs90 q2354) plX9_settled (Nat.le_of_ble_eq_true rfl) (fun h => c_X9_settled h)) (fun v8 σ9 => ?_)
    refine zst_ (gj_istore (pc := 43) (ls' := [(9, zi v8), (8, zi v4), (0, zr x0), (1, zi x1), (2, zj x2), (4, zi x4), (5, zj x5), (7, zi x7)]) dX9_ahead_43 (by decide) rfl) ?_
    refine zst_ (gj_iconst (pc := 45) dX9_ahead_45 (by decide)) ?_
    refine zst_ (gj_istore (pc := 46) (ls' := [(10, zi 0), (9, zi v8), (8, zi v4), (0, zr x0), (1, zi x1), (2, zj x2), (4, zi x4), (5, zj x5), (7, zi x7)]) dX9_ahead_46 (by decide) rfl) ?_
    refine zst_ (gj_sub [3, 4, 5, 6, 7, 8, 2, 1, 0] rfl) ?_
    exact fun h => w_X9_ahead_48 x0 x1 x2 x4 x5 x7 v4 v8 0 σ9 h hk
theorem w_X9_ahead_6 {g : zG} {lv : Nat} {out : zO} (x0 x1 x2 x4 x5 x7 : Int) (σ : zM) {r : zO} (h : f_X9_ahead_6 x0 x1 x2 x4 x5 x7 σ = some r) (hk : (fun o : zO => o = out) r) : Gj g MX9_ahead (lv + 2) 6 [(0, zr x0), (1, zi x1), (2, zj x2), (4, zi x4), (5, zj x5), (7, zi x7)] [] σ out :=
  gj_loop (P := (fun s : Int × Int × zM => Gj g MX9_ahead (lv + 2) 6 [(0, zr x0), (1, zi x1), (2, zj x2), (4, zi x4), (5, zj s.1), (7, zi s.2.1)] [] s.2.2 out)) (fun s x hb hx => w_X9_ahead_6_b x0 x1 x2 x4 s.1 s.2.1 s.2.2 hb hx) h hk
noncomputable def f_X9_ahead (x0 x1 x2 x4 : Int) (σ : zM) : Option zO :=
  f_X9_ahead_6 x0 x1 x2 x4 0 0 σ
theorem c_X9_ahead {g : zG} {lv : Nat} {x0 x1 x2 x4 : Int} {σ : zM} {out : zO} (h : f_X9_ahead x0 x1 x2 x4 σ = some out) : Cj g (lv + 2) MX9_ahead [zr x0, zi x1, zj x2, zi x4] σ out := by
  refine cj_go (ls := [(0, zr x0), (1, zi x1), (2, zj x2), (4, zi x4)]) (by decide) (Nat.le_of_ble_eq_true rfl) rfl (zgen h (fun r hk => ?_))
  unfold f_X9_ahead
  refine zst_ (gj_lconst0 (pc := 0) dX9_ahead_0) ?_
  refine zst_ (gj_lstore (pc := 1) (ls' := [(5, zj 0), (0, zr x0), (1, zi x1), (2, zj x2), (4, zi x4)]) dX9_ahead_1 (by decide) rfl) ?_
  refine zst_ (gj_iconst (pc := 3) dX9_ahead_3 (by decide)) ?_
  refine zst_ (gj_istore (pc := 4) (ls' := [(7, zi 0), (5, zj 0), (0, zr x0), (1, zi x1), (2, zj x2), (4, zi x4)]) dX9_ahead_4 (by decide) rfl) ?_
  refine zst_ (gj_sub [2, 3, 4, 5, 1, 0] rfl) ?_
  exact fun h => w_X9_ahead_6 x0 x1 x2 x4 0 0 σ h hk
theorem q2384 : (Jvm.Cond.code ({ cls := "LassoFinderModel", name := "round", desc := "(II)I" } : Jvm.MethodName) prog_22_method_64_code (12 : Nat) (Option.some Jvm.ClassFile.FieldType.int)) ∈ lw_all := lw_g (lw_at lw_m10 124 rfl) rfl
theorem q2385 : (Jvm.Cond.methodLink "LassoFinderModel" (444 : Nat) ({ cls := "LassoFinderModel", name := "ahead", desc := "(IJI)J" } : Jvm.MethodName)) ∈ lw_all := lw_g (lw_at lw_m10 125 rfl) rfl
theorem q2387 : (Jvm.Cond.instanceMethod ({ cls := "LassoFinderModel", name := "ahead", desc := "(IJI)J" } : Jvm.MethodName)) ∈ lw_all := lw_g (lw_at lw_m10 127 rfl) rfl
abbrev cX9_round : ByteArray := prog_22_method_64_code
def yX9_round : MethodName := ⟨RX9, "round", "(II)I"⟩
theorem dX9_round_0 : decode cX9_round 0 = .ok (.aload_n 0, 1) := by decide +kernel
theorem dX9_round_1 : decode cX9_round 1 = .ok (.iload_n 1, 1) := by decide +kernel
theorem dX9_round_2 : decode cX9_round 2 = .ok (.iload_n 2, 1) := by decide +kernel
theorem dX9_round_3 : decode cX9_round 3 = .ok (.invokevirtual 434, 3) := by decide +kernel
theorem dX9_round_6 : decode cX9_round 6 = .ok (.istore_n 3, 1) := by decide +kernel
theorem dX9_round_7 : decode cX9_round 7 = .ok (.iload_n 1, 1) := by decide +kernel
theorem dX9_round_8 : decode cX9_round 8 = .ok (.istore 4, 2) := by decide +kernel
theorem dX9_round_10 : decode cX9_round 10 = .ok (.lconst 1, 1) := by decide +kernel
theorem dX9_round_11 : decode cX9_round 11 = .ok (.bipush 8, 2) := by decide +kernel
theorem dX9_round_13 : decode cX9_round 13 = .ok (.iload_n 2, 1) := by decide +kernel
theorem dX9_round_14 : decode cX9_round 14 = .ok (.imul, 1) := by decide +kernel
theorem dX9_round_15 : decode cX9_round 15 = .ok (.aload_n 0, 1) := by decide +kernel
theorem dX9_round_16 : decode cX9_round 16 = .ok (.iload_n 1, 1) := by decide +kernel
theorem dX9_round_17 : decode cX9_round 17 = .ok (.iload_n 2, 1) := by decide +kernel
theorem dX9_round_18 : decode cX9_round 18 = .ok (.invokevirtual 419, 3) := by decide +kernel
theorem dX9_round_21 : decode cX9_round 21 = .ok (.iadd, 1) := by decide +kernel
theorem dX9_round_22 : decode cX9_round 22 = .ok (.lshl, 1) := by decide +kernel
theorem dX9_round_23 : decode cX9_round 23 = .ok (.lstore 5, 2) := by decide +kernel
theorem dX9_round_25 : decode cX9_round 25 = .ok (.iload_n 3, 1) := by decide +kernel
theorem dX9_round_26 : decode cX9_round 26 = .ok (.iconst 1, 1) := by decide +kernel
theorem dX9_round_27 : decode cX9_round 27 = .ok (.isub, 1) := by decide +kernel
theorem dX9_round_28 : decode cX9_round 28 = .ok (.istore 7, 2) := by decide +kernel
theorem dX9_round_30 : decode cX9_round 30 = .ok (.iload 7, 2) := by decide +kernel
theorem dX9_round_32 : decode cX9_round 32 = .ok (.ifCond .lt 95, 3) := by decide +kernel
theorem dX9_round_35 : decode cX9_round 35 = .ok (.lconst 0, 1) := by decide +kernel
theorem dX9_round_36 : decode cX9_round 36 = .ok (.lstore 8, 2) := by decide +kernel
theorem dX9_round_38 : decode cX9_round 38 = .ok (.iconst (-1), 1) := by decide +kernel
theorem dX9_round_39 : decode cX9_round 39 = .ok (.istore 10, 2) := by decide +kernel
theorem dX9_round_41 : decode cX9_round 41 = .ok (.aload_n 0, 1) := by decide +kernel
theorem dX9_round_42 : decode cX9_round 42 = .ok (.getfield 109, 3) := by decide +kernel
theorem dX9_round_45 : decode cX9_round 45 = .ok (.iload 4, 2) := by decide +kernel
theorem dX9_round_47 : decode cX9_round 47 = .ok (.iaload, 1) := by decide +kernel
theorem dX9_round_48 : decode cX9_round 48 = .ok (.istore 11, 2) := by decide +kernel
theorem dX9_round_50 : decode cX9_round 50 = .ok (.iload 11, 2) := by decide +kernel
theorem dX9_round_52 : decode cX9_round 52 = .ok (.aload_n 0, 1) := by decide +kernel
theorem dX9_round_53 : decode cX9_round 53 = .ok (.getfield 109, 3) := by decide +kernel
theorem dX9_round_56 : decode cX9_round 56 = .ok (.iload 4, 2) := by decide +kernel
theorem dX9_round_58 : decode cX9_round 58 = .ok (.iconst 1, 1) := by decide +kernel
theorem dX9_round_59 : decode cX9_round 59 = .ok (.iadd, 1) := by decide +kernel
theorem dX9_round_60 : decode cX9_round 60 = .ok (.iaload, 1) := by decide +kernel
theorem dX9_round_61 : decode cX9_round 61 = .ok (.if_icmp .ge 32, 3) := by decide +kernel
theorem dX9_round_64 : decode cX9_round 64 = .ok (.lload 8, 2) := by decide +kernel
theorem dX9_round_66 : decode cX9_round 66 = .ok (.lconst 0, 1) := by decide +kernel
theorem dX9_round_67 : decode cX9_round 67 = .ok (.lcmp, 1) := by decide +kernel
theorem dX9_round_68 : decode cX9_round 68 = .ok (.ifCond .ne 25, 3) := by decide +kernel
theorem dX9_round_71 : decode cX9_round 71 = .ok (.aload_n 0, 1) := by decide +kernel
theorem dX9_round_72 : decode cX9_round 72 = .ok (.iload 11, 2) := by decide +kernel
theorem dX9_round_74 : decode cX9_round 74 = .ok (.lload 5, 2) := by decide +kernel
theorem dX9_round_76 : decode cX9_round 76 = .ok (.iload 7, 2) := by decide +kernel
theorem dX9_round_78 : decode cX9_round 78 = .ok (.invokevirtual 444, 3) := by decide +kernel
theorem dX9_round_81 : decode cX9_round 81 = .ok (.lstore 8, 2) := by decide +kernel
theorem dX9_round_83 : decode cX9_round 83 = .ok (.iload 11, 2) := by decide +kernel
theorem dX9_round_85 : decode cX9_round 85 = .ok (.istore 10, 2) := by decide +kernel
theorem dX9_round_87 : decode cX9_round 87 = .ok (.iinc 11 1, 3) := by decide +kernel
theorem dX9_round_90 : decode cX9_round 90 = .ok (.goto (-40), 3) := by decide +kernel
theorem dX9_round_93 : decode cX9_round 93 = .ok (.aload_n 0, 1) := by decide +kernel
theorem dX9_round_94 : decode cX9_round 94 = .ok (.getfield 184, 3) := by decide +kernel
theorem dX9_round_97 : decode cX9_round 97 = .ok (.iload_n 3, 1) := by decide +kernel
theorem dX9_round_98 : decode cX9_round 98 = .ok (.iconst 1, 1) := by decide +kernel
theorem dX9_round_99 : decode cX9_round 99 = .ok (.isub, 1) := by decide +kernel
theorem dX9_round_100 : decode cX9_round 100 = .ok (.iload 7, 2) := by decide +kernel
theorem dX9_round_102 : decode cX9_round 102 = .ok (.isub, 1) := by decide +kernel
theorem dX9_round_103 : decode cX9_round 103 = .ok (.iload 10, 2) := by decide +kernel
theorem dX9_round_105 : decode cX9_round 105 = .ok (.invokestatic 440, 3) := by decide +kernel
theorem dX9_round_108 : decode cX9_round 108 = .ok (.aload_n 0, 1) := by decide +kernel
theorem dX9_round_109 : decode cX9_round 109 = .ok (.getfield 112, 3) := by decide +kernel
theorem dX9_round_112 : decode cX9_round 112 = .ok (.iload 10, 2) := by decide +kernel
theorem dX9_round_114 : decode cX9_round 114 = .ok (.iaload, 1) := by decide +kernel
theorem dX9_round_115 : decode cX9_round 115 = .ok (.istore 4, 2) := by decide +kernel
theorem dX9_round_117 : decode cX9_round 117 = .ok (.lload 8, 2) := by decide +kernel
theorem dX9_round_119 : decode cX9_round 119 = .ok (.lstore 5, 2) := by decide +kernel
theorem dX9_round_121 : decode cX9_round 121 = .ok (.iinc 7 (-1), 3) := by decide +kernel
theorem dX9_round_124 : decode cX9_round 124 = .ok (.goto (-94), 3) := by decide +kernel
theorem dX9_round_127 : decode cX9_round 127 = .ok (.iload_n 3, 1) := by decide +kernel
theorem dX9_round_128 : decode cX9_round 128 = .ok (.ireturn, 1) := by decide +kernel
abbrev MX9_round : zT := (yX9_round, cX9_round, 12, (Option.some Jvm.ClassFile.FieldType.int), [])
theorem plX9_round : zplain MX9_round 2 ∧ (zcodeW MX9_round ∈ lw_all ∧ Cond.initialized MX9_round.1.cls ∈ lw_all) := ⟨⟨by decide +kernel, by decide +kernel⟩, q2384, q127⟩
noncomputable def f_X9_round_127 (x3 : Int) (σ : zM) : Option zO :=
  some (0, zi x3, σ)
theorem w_X9_round_127 {g : zG} {lv : Nat} {out : zO} (x3 : Int) (σ : zM) {r : zO} (h : f_X9_round_127 x3 σ = some r) (hk : (fun o : zO => o = out) r) : Gj g MX9_round (lv + 4) 127 [(3, zi x3)] [] σ out := by
  revert h
  unfold f_X9_round_127
  refine zst_ (gj_iload_n 0 (pc := 127) dX9_round_127 rfl) ?_
  intro h
  cases h
  have hk : (0, zi x3, σ) = out := hk
  subst hk
  exact gj_ret (pc := 128) (t := .int) dX9_round_128 rfl ⟨rfl, rfl⟩ (fun h => h)
noncomputable def f_X9_round_93 (x0 x3 x7 x8 x10 : Int) (σ : zM) : Option ((Int × Int × Int × zM) ⊕ zO) :=
  (zgf σ 981 x0).bind fun v1 =>
  zcv (f_X9_keep v1 (zsub (zsub x3 1) x7) x10 σ) fun σ2 =>
  (zgf σ2 949 x0).bind fun v3 =>
  (zga σ2 101 v3 x10).bind fun v4 =>
  zlet (zadd x7 (-1)) fun y5 =>
  some (.inl (v4, x8, y5, σ2))
theorem w_X9_round_93 {g : zG} {lv : Nat} {out : zO} (x0 x3 x7 x8 x10 : Int) (σ : zM) {r : ((Int × Int × Int × zM) ⊕ zO)} (h : f_X9_round_93 x0 x3 x7 x8 x10 σ = some r) (hk : (zKL (fun s : Int × Int × Int × zM => Gj g MX9_round (lv + 4) 30 [(0, zr x0), (3, zi x3), (4, zi s.1), (5, zj s.2.1), (7, zi s.2.2.1)] [] s.2.2.2 out) (fun o : zO => o = out)) r) : Gj g MX9_round (lv + 4) 93 [(0, zr x0), (3, zi x3), (7, zi x7), (8, zj x8), (10, zi x10)] [] σ out := by
  revert h
  unfold f_X9_round_93
  refine zst_ (gj_aload_n 0 (pc := 93) dX9_round_93 rfl) ?_
  refine gb_get (pc := 94) fl981 dX9_round_94 q1963 (Or.inl rfl) (fun v1 => ?_)
  refine zst_ (gj_iload_n 1 (pc := 97) dX9_round_97 rfl) ?_
  refine zst_ (gj_iconst (pc := 98) dX9_round_98 (by decide)) ?_
  refine zst_ (gj_isub (pc := 99) dX9_round_99) ?_
  refine zst_ (gj_iload 2 (pc := 100) dX9_round_100 rfl) ?_
  refine zst_ (gj_isub (pc := 102) dX9_round_102) ?_
  refine zst_ (gj_iload 4 (pc := 103) dX9_round_103 rfl) ?_
  refine gb_callV (pc := 105) (as := [zr v1, zi (zsub (zsub x3 1) x7), zi x10]) (rest := []) (zCl.of (zLk_S (M := MX9_round) plX9_keep.1 rfl dX9_round_105 q2375 q2376 q127 q2377) plX9_keep (Nat.le_of_ble_eq_true rfl) (fun h => c_X9_keep h)) (fun σ2 => ?_)
  refine zst_ (gj_aload_n 0 (pc := 108) dX9_round_108 rfl) ?_
  refine gb_get (pc := 109) fl949 dX9_round_109 q1931 (Or.inl rfl) (fun v3 => ?_)
  refine zst_ (gj_iload 4 (pc := 112) dX9_round_112 rfl) ?_
  refine gb_iald (pc := 114) dX9_round_114 (fun v4 => ?_)
  refine zst_ (gj_istore (pc := 115) (ls' := [(4, zi v4), (0, zr x0), (3, zi x3), (7, zi x7), (8, zj x8), (10, zi x10)]) dX9_round_115 (by decide) rfl) ?_
  refine zst_ (gj_lload 4 (pc := 117) dX9_round_117 rfl) ?_
  refine zst_ (gj_lstore (pc := 119) (ls' := [(5, zj x8), (4, zi v4), (0, zr x0), (3, zi x3), (7, zi x7), (8, zj x8), (10, zi x10)]) dX9_round_119 (by decide) rfl) ?_
  refine gb_iinc (pc := 121) 4 (fun y5 => [(7, zi y5), (5, zj x8), (4, zi v4), (0, zr x0), (3, zi x3), (8, zj x8), (10, zi x10)]) dX9_round_121 rfl (by decide) (fun _ => rfl) (fun y5 => ?_)
  refine zst_ (gj_goto 30 (pc := 124) dX9_round_124 (by decide)) ?_
  refine zst_ (gj_sub [3, 4, 2, 1, 0] rfl) ?_
  intro h
  cases h
  exact hk
noncomputable def f_X9_round_50_b (x0 x3 x4 x5 x7 x8 x10 x11 : Int) (σ : zM) : Option ((Int × Int × Int × zM) ⊕ ((Int × Int × Int × zM) ⊕ zO)) :=
  (zgf σ 948 x0).bind fun v1 =>
  (zga σ 101 v1 (zadd x4 1)).bind fun v2 =>
  if v2 ≤ x11 then
    (f_X9_round_93 x0 x3 x7 x8 x10 σ).map (fun r => (.inr r))
  else
    if (zlcmp x8 0) ≠ 0 then
      (f_X9_round_93 x0 x3 x7 x8 x10 σ).map (fun r => (.inr r))
    else
      zgd (zis σ 10 x0) <|
      zcj (f_X9_ahead x0 x11 x5 x7 σ) fun v3 σ4 =>
      zlet (zadd x11 1) fun y5 =>
      some (.inl (v3, x11, y5, σ4))
noncomputable def f_X9_round_50 (x0 x3 x4 x5 x7 x8 x10 x11 : Int) (σ : zM) : Option ((Int × Int × Int × zM) ⊕ zO) :=
  zloop (fun s : Int × Int × Int × zM => f_X9_round_50_b x0 x3 x4 x5 x7 s.1 s.2.1 s.2.2.1 s.2.2.2) (x8, x10, x11, σ)
theorem w_X9_round_50_b {g : zG} {lv : Nat} {out : zO} (x0 x3 x4 x5 x7 x8 x10 x11 : Int) (σ : zM) {r : ((Int × Int × Int × zM) ⊕ ((Int × Int × Int × zM) ⊕ zO))} (h : f_X9_round_50_b x0 x3 x4 x5 x7 x8 x10 x11 σ = some r) (hk : (zKL (fun s : Int × Int × Int × zM => Gj g MX9_round (lv + 4) 50 [(0, zr x0), (3, zi x3), (4, zi x4), (5, zj x5), (7, zi x7), (8, zj s.1), (10, zi s.2.1), (11, zi s.2.2.1)] [] s.2.2.2 out) (zKL (fun s : Int × Int × Int × zM => Gj g MX9_round (lv + 4) 30 [(0, zr x0), (3, zi x3), (4, zi s.1), (5, zj s.2.1), (7, zi s.2.2.1)] [] s.2.2.2 out) (fun o : zO => o = out))) r) : Gj g MX9_round (lv + 4) 50 [(0, zr x0), (3, zi x3), (4, zi x4), (5, zj x5), (7, zi x7), (8, zj x8), (10, zi x10), (11, zi x11)] [] σ out := by
  revert h
  unfold f_X9_round_50_b
  refine zst_ (gj_iload 7 (pc := 50) dX9_round_50 rfl) ?_
  refine zst_ (gj_aload_n 0 (pc := 52) dX9_round_52 rfl) ?_
  refine gb_get (pc := 53) fl948 dX9_round_53 q1930 (Or.inl rfl) (fun v1 => ?_)
  refine zst_ (gj_iload 2 (pc := 56) dX9_round_56 rfl) ?_
  refine zst_ (gj_iconst (pc := 58) dX9_round_58 (by decide)) ?_
  refine zst_ (gj_iadd (pc := 59) dX9_round_59) ?_
  refine gb_iald (pc := 60) dX9_round_60 (fun v2 => ?_)
  refine gb_if (gj_icmp_ge 93 (pc := 61) dX9_round_61 (by decide)) ?_ ?_
  · refine zst_ (gj_sub [0, 1, 4, 5, 6] rfl) ?_
    intro h
    obtain ⟨r0, h0, rfl⟩ := zmE h
    exact w_X9_round_93 x0 x3 x7 x8 x10 σ h0 hk
  · refine zst_ (gj_lload 5 (pc := 64) dX9_round_64 rfl) ?_
    refine zst_ (gj_lconst0 (pc := 66) dX9_round_66) ?_
    refine zst_ (gj_lcmp (pc := 67) dX9_round_67) ?_
    refine gb_if (gj_if_ne 93 (pc := 68) dX9_round_68 (by decide)) ?_ ?_
    · refine zst_ (gj_sub [0, 1, 4, 5, 6] rfl) ?_
      intro h
      obtain ⟨r0, h0, rfl⟩ := zmE h
      exact w_X9_round_93 x0 x3 x7 x8 x10 σ h0 hk
    · refine zst_ (gj_aload_n 0 (pc := 71) dX9_round_71 rfl) ?_
      refine zst_ (gj_iload 7 (pc := 72) dX9_round_72 rfl) ?_
      refine zst_ (gj_lload 3 (pc := 74) dX9_round_74 rfl) ?_
      refine zst_ (gj_iload 4 (pc := 76) dX9_round_76 rfl) ?_
      refine gb_gd (fun hb => ?_)
      refine gb_callJ (pc := 78) (as := [zr x0, zi x11, zj x5, zi x7]) (rest := []) (zCl.of (zLk_V (M := MX9_round) (ci := 9) (r := (RX9, TX9, 84)) plX9_ahead.1 rfl rfl (zisE hb).1 (zisE hb).2 dX9_round_78 q2385 q2387 qs97 q2388) plX9_ahead (Nat.le_of_ble_eq_true rfl) (fun h => c_X9_ahead h)) (fun v3 σ4 => ?_)
      refine zst_ (gj_lstore (pc := 81) (ls' := [(8, zj v3), (0, zr x0), (3, zi x3), (4, zi x4), (5, zj x5), (7, zi x7), (10, zi x10), (11, zi x11)]) dX9_round_81 (by decide) rfl) ?_
      refine zst_ (gj_iload 7 (pc := 83) dX9_round_83 rfl) ?_
      refine zst_ (gj_istore (pc := 85) (ls' := [(10, zi x11), (8, zj v3), (0, zr x0), (3, zi x3), (4, zi x4), (5, zj x5), (7, zi x7), (11, zi x11)]) dX9_round_85 (by decide) rfl) ?_
      refine gb_iinc (pc := 87) 7 (fun y5 => [(11, zi y5), (10, zi x11), (8, zj v3), (0, zr x0), (3, zi x3), (4, zi x4), (5, zj x5), (7, zi x7)]) dX9_round_87 rfl (by decide) (fun _ => rfl) (fun y5 => ?_)
      refine zst_ (gj_goto 50 (pc := 90) dX9_round_90 (by decide)) ?_
      refine zst_ (gj_sub [3, 4, 5, 6, 7, 2, 1, 0] rfl) ?_
      intro h
      cases h
      exact hk
theorem w_X9_round_50 {g : zG} {lv : Nat} {out : zO} (x0 x3 x4 x5 x7 x8 x10 x11 : Int) (σ : zM) {r : ((Int × Int × Int × zM) ⊕ zO)} (h : f_X9_round_50 x0 x3 x4 x5 x7 x8 x10 x11 σ = some r) (hk : (zKL (fun s : Int × Int × Int × zM => Gj g MX9_round (lv + 4) 30 [(0, zr x0), (3, zi x3), (4, zi s.1), (5, zj s.2.1), (7, zi s.2.2.1)] [] s.2.2.2 out) (fun o : zO => o = out)) r) : Gj g MX9_round (lv + 4) 50 [(0, zr x0), (3, zi x3), (4, zi x4), (5, zj x5), (7, zi x7), (8, zj x8), (10, zi x10), (11, zi x11)] [] σ out :=
  gj_loop (P := (fun s : Int × Int × Int × zM => Gj g MX9_round (lv + 4) 50 [(0, zr x0), (3, zi x3), (4, zi x4), (5, zj x5), (7, zi x7), (8, zj s.1), (10, zi s.2.1), (11, zi s.2.2.1)] [] s.2.2.2 out)) (fun s x hb hx => w_X9_round_50_b x0 x3 x4 x5 x7 s.1 s.2.1 s.2.2.1 s.2.2.2 hb hx) h hk
noncomputable def f_X9_round_30_b (x0 x3 x4 x5 x7 : Int) (σ : zM) : Option ((Int × Int × Int × zM) ⊕ zO) :=
  if x7 < 0 then
    (f_X9_round_127 x3 σ).map (fun r => (.inr r))
  else
    (zgf σ 948 x0).bind fun v1 =>
    (zga σ 101 v1 x4).bind fun v2 =>
    f_X9_round_50 x0 x3 x4 x5 x7 0 (-1) v2 σ
noncomputable def f_X9_round_30 (x0 x3 x4 x5 x7 : Int) (σ : zM) : Option zO :=
  zloop (fun s : Int × Int × Int × zM => f_X9_round_30_b x0 x3 s.1 s.2.1 s.2.2.1 s.2.2.2) (x4, x5, x7, σ)
theorem w_X9_round_30_b {g : zG} {lv : Nat} {out : zO} (x0 x3 x4 x5 x7 : Int) (σ : zM) {r : ((Int × Int × Int × zM) ⊕ zO)} (h : f_X9_round_30_b x0 x3 x4 x5 x7 σ = some r) (hk : (zKL (fun s : Int × Int × Int × zM => Gj g MX9_round (lv + 4) 30 [(0, zr x0), (3, zi x3), (4, zi s.1), (5, zj s.2.1), (7, zi s.2.2.1)] [] s.2.2.2 out) (fun o : zO => o = out)) r) : Gj g MX9_round (lv + 4) 30 [(0, zr x0), (3, zi x3), (4, zi x4), (5, zj x5), (7, zi x7)] [] σ out := by
  revert h
  unfold f_X9_round_30_b
  refine zst_ (gj_iload 4 (pc := 30) dX9_round_30 rfl) ?_
  refine gb_if (gj_if_lt 127 (pc := 32) dX9_round_32 (by decide)) ?_ ?_
  · refine zst_ (gj_sub [1] rfl) ?_
    intro h
    obtain ⟨r0, h0, rfl⟩ := zmE h
    exact w_X9_round_127 x3 σ h0 hk
  · refine zst_ (gj_lconst0 (pc := 35) dX9_round_35) ?_
    refine zst_ (gj_lstore (pc := 36) (ls' := [(8, zj 0), (0, zr x0), (3, zi x3), (4, zi x4), (5, zj x5), (7, zi x7)]) dX9_round_36 (by decide) rfl) ?_
    refine zst_ (gj_iconst (pc := 38) dX9_round_38 (by decide)) ?_
    refine zst_ (gj_istore (pc := 39) (ls' := [(10, zi (-1)), (8, zj 0), (0, zr x0), (3, zi x3), (4, zi x4), (5, zj x5), (7, zi x7)]) dX9_round_39 (by decide) rfl) ?_
    refine zst_ (gj_aload_n 2 (pc := 41) dX9_round_41 rfl) ?_
    refine gb_get (pc := 42) fl948 dX9_round_42 q1930 (Or.inl rfl) (fun v1 => ?_)
    refine zst_ (gj_iload 4 (pc := 45) dX9_round_45 rfl) ?_
    refine gb_iald (pc := 47) dX9_round_47 (fun v2 => ?_)
    refine zst_ (gj_istore (pc := 48) (ls' := [(11, zi v2), (10, zi (-1)), (8, zj 0), (0, zr x0), (3, zi x3), (4, zi x4), (5, zj x5), (7, zi x7)]) dX9_round_48 (by decide) rfl) ?_
    refine zst_ (gj_sub [3, 4, 5, 6, 7, 2, 1, 0] rfl) ?_
    exact fun h => w_X9_round_50 x0 x3 x4 x5 x7 0 (-1) v2 σ h hk
theorem w_X9_round_30 {g : zG} {lv : Nat} {out : zO} (x0 x3 x4 x5 x7 : Int) (σ : zM) {r : zO} (h : f_X9_round_30 x0 x3 x4 x5 x7 σ = some r) (hk : (fun o : zO => o = out) r) : Gj g MX9_round (lv + 4) 30 [(0, zr x0), (3, zi x3), (4, zi x4), (5, zj x5), (7, zi x7)] [] σ out :=
  gj_loop (P := (fun s : Int × Int × Int × zM => Gj g MX9_round (lv + 4) 30 [(0, zr x0), (3, zi x3), (4, zi s.1), (5, zj s.2.1), (7, zi s.2.2.1)] [] s.2.2.2 out)) (fun s x hb hx => w_X9_round_30_b x0 x3 s.1 s.2.1 s.2.2.1 s.2.2.2 hb hx) h hk
noncomputable def f_X9_round (x0 x1 x2 : Int) (σ : zM) : Option zO :=
  zgd (zis σ 10 x0) <|
  zci (f_X9_nearest x0 x1 x2 σ) fun v1 σ2 =>
  zgd (zis σ2 10 x0) <|
  zci (f_X9_settled x0 x1 x2 σ2) fun v3 σ4 =>
  zlet ((jshl 1 (zadd (zmul 8 x2) v3))) fun y5 =>
  zlet ((zsub v1 1)) fun y6 =>
  f_X9_round_30 x0 v1 x1 y5 y6 σ4
theorem c_X9_round {g : zG} {lv : Nat} {x0 x1 x2 : Int} {σ : zM} {out : zO} (h : f_X9_round x0 x1 x2 σ = some out) : Cj g (lv + 4) MX9_round [zr x0, zi x1, zi x2] σ out := by
  refine cj_go (ls := [(0, zr x0), (1, zi x1), (2, zi x2)]) (by decide) (Nat.le_of_ble_eq_true rfl) rfl (zgen h (fun r hk => ?_))
  unfold f_X9_round
  refine zst_ (gj_aload_n 0 (pc := 0) dX9_round_0 rfl) ?_
  refine zst_ (gj_iload_n 1 (pc := 1) dX9_round_1 rfl) ?_
  refine zst_ (gj_iload_n 2 (pc := 2) dX9_round_2 rfl) ?_
  refine gb_gd (fun hb => ?_)
  refine gb_callI (pc := 3) (as := [zr x0, zi x1, zi x2]) (rest := []) (zCl.of (zLk_V (M := MX9_round) (ci := 9) (r := (RX9, TX9, 84)) plX9_nearest.1 rfl rfl (zisE hb).1 (zisE hb).2 dX9_round_3 q2343 q2345 qs88 q2346) plX9_nearest (Nat.le_of_ble_eq_true rfl) (fun h => c_X9_nearest h)) (fun v1 σ2 => ?_)
  refine zst_ (gj_istore_n (pc := 6) (ls' := [(3, zi v1), (0, zr x0), (1, zi x1), (2, zi x2)]) dX9_round_6 (by decide) rfl) ?_
  refine zst_ (gj_iload_n 2 (pc := 7) dX9_round_7 rfl) ?_
  refine zst_ (gj_istore (pc := 8) (ls' := [(4, zi x1), (3, zi v1), (0, zr x0), (1, zi x1), (2, zi x2)]) dX9_round_8 (by decide) rfl) ?_
  refine zst_ (gj_lconst1 (pc := 10) dX9_round_10) ?_
  refine zst_ (gj_bipush (pc := 11) dX9_round_11 ⟨rfl, by decide⟩) ?_
  refine zst_ (gj_iload_n 4 (pc := 13) dX9_round_13 rfl) ?_
  refine zst_ (gj_imul (pc := 14) dX9_round_14) ?_
  refine zst_ (gj_aload_n 2 (pc := 15) dX9_round_15 rfl) ?_
  refine zst_ (gj_iload_n 3 (pc := 16) dX9_round_16 rfl) ?_
  refine zst_ (gj_iload_n 4 (pc := 17) dX9_round_17 rfl) ?_
  refine gb_gd (fun hb => ?_)
  refine gb_callI (pc := 18) (as := [zr x0, zi x1, zi x2]) (rest := [zi (zmul 8 x2), zj 1]) (zCl.of (zLk_V (M := MX9_round) (ci := 9) (r := (RX9, TX9, 84)) plX9_settled.1 rfl rfl (zisE hb).1 (zisE hb).2 dX9_round_18 q2351 q2353 qs90 q2354) plX9_settled (Nat.le_of_ble_eq_true rfl) (fun h => c_X9_settled h)) (fun v3 σ4 => ?_)
  refine zst_ (gj_iadd (pc := 21) dX9_round_21) ?_
  refine zst_ (gj_lshl (pc := 22) dX9_round_22) ?_
  refine gb_let (fun y5 => ?_)
  refine zst_ (gj_lstore (pc := 23) (ls' := [(5, zj y5), (4, zi x1), (3, zi v1), (0, zr x0), (1, zi x1), (2, zi x2)]) dX9_round_23 (by decide) rfl) ?_
  refine zst_ (gj_iload_n 2 (pc := 25) dX9_round_25 rfl) ?_
  refine zst_ (gj_iconst (pc := 26) dX9_round_26 (by decide)) ?_
  refine zst_ (gj_isub (pc := 27) dX9_round_27) ?_
  refine gb_let (fun y6 => ?_)
  refine zst_ (gj_istore (pc := 28) (ls' := [(7, zi y6), (5, zj y5), (4, zi x1), (3, zi v1), (0, zr x0), (1, zi x1), (2, zi x2)]) dX9_round_28 (by decide) rfl) ?_
  refine zst_ (gj_sub [4, 3, 2, 1, 0] rfl) ?_
  exact fun h => w_X9_round_30 x0 v1 x1 y5 y6 σ4 h hk
theorem q1961 : (Jvm.Cond.fieldLink "LassoFinderModel" (448 : Nat) "LassoFinderModel" "cycle" "I") ∈ lw_all := lw_g (lw_at lw_m8 181 rfl) rfl
theorem q2378 : (Jvm.Cond.methodLink "LassoFinderModel" (451 : Nat) ({ cls := "LassoFinderModel", name := "stepOf", desc := "([II)I" } : Jvm.MethodName)) ∈ lw_all := lw_g (lw_at lw_m10 118 rfl) rfl
theorem q2379 : (Jvm.Cond.static ({ cls := "LassoFinderModel", name := "stepOf", desc := "([II)I" } : Jvm.MethodName)) ∈ lw_all := lw_g (lw_at lw_m10 119 rfl) rfl
theorem q2392 : (Jvm.Cond.code ({ cls := "LassoFinderModel", name := "sooner", desc := "(I)Z" } : Jvm.MethodName) prog_22_method_65_code (3 : Nat) (Option.some Jvm.ClassFile.FieldType.boolean)) ∈ lw_all := lw_g (lw_at lw_m10 132 rfl) rfl
theorem fl979 : zfl 979 0 "LassoFinderModel" "cycle" "I" false := ⟨rfl, rfl, rfl⟩
theorem fr979 {g : zG} {v : Int} : zok g (0, v) → zokt g (zft 979) v := fun h => h
abbrev cX9_sooner : ByteArray := prog_22_method_65_code
def yX9_sooner : MethodName := ⟨RX9, "sooner", "(I)Z"⟩
theorem dX9_sooner_0 : decode cX9_sooner 0 = .ok (.aload_n 0, 1) := by decide +kernel
theorem dX9_sooner_1 : decode cX9_sooner 1 = .ok (.getfield 448, 3) := by decide +kernel
theorem dX9_sooner_4 : decode cX9_sooner 4 = .ok (.ifCond .eq 11, 3) := by decide +kernel
theorem dX9_sooner_7 : decode cX9_sooner 7 = .ok (.iload_n 1, 1) := by decide +kernel
theorem dX9_sooner_8 : decode cX9_sooner 8 = .ok (.aload_n 0, 1) := by decide +kernel
theorem dX9_sooner_9 : decode cX9_sooner 9 = .ok (.getfield 448, 3) := by decide +kernel
theorem dX9_sooner_12 : decode cX9_sooner 12 = .ok (.if_icmp .eq 24, 3) := by decide +kernel
theorem dX9_sooner_15 : decode cX9_sooner 15 = .ok (.aload_n 0, 1) := by decide +kernel
theorem dX9_sooner_16 : decode cX9_sooner 16 = .ok (.getfield 448, 3) := by decide +kernel
theorem dX9_sooner_19 : decode cX9_sooner 19 = .ok (.ifCond .eq 11, 3) := by decide +kernel
theorem dX9_sooner_22 : decode cX9_sooner 22 = .ok (.iload_n 1, 1) := by decide +kernel
theorem dX9_sooner_23 : decode cX9_sooner 23 = .ok (.aload_n 0, 1) := by decide +kernel
theorem dX9_sooner_24 : decode cX9_sooner 24 = .ok (.getfield 448, 3) := by decide +kernel
theorem dX9_sooner_27 : decode cX9_sooner 27 = .ok (.if_icmp .ge 7, 3) := by decide +kernel
theorem dX9_sooner_30 : decode cX9_sooner 30 = .ok (.iconst 1, 1) := by decide +kernel
theorem dX9_sooner_31 : decode cX9_sooner 31 = .ok (.goto 4, 3) := by decide +kernel
theorem dX9_sooner_34 : decode cX9_sooner 34 = .ok (.iconst 0, 1) := by decide +kernel
theorem dX9_sooner_35 : decode cX9_sooner 35 = .ok (.ireturn, 1) := by decide +kernel
theorem dX9_sooner_36 : decode cX9_sooner 36 = .ok (.iconst 0, 1) := by decide +kernel
theorem dX9_sooner_37 : decode cX9_sooner 37 = .ok (.istore_n 2, 1) := by decide +kernel
theorem dX9_sooner_38 : decode cX9_sooner 38 = .ok (.iload_n 2, 1) := by decide +kernel
theorem dX9_sooner_39 : decode cX9_sooner 39 = .ok (.iload_n 1, 1) := by decide +kernel
theorem dX9_sooner_40 : decode cX9_sooner 40 = .ok (.if_icmp .ge 33, 3) := by decide +kernel
theorem dX9_sooner_43 : decode cX9_sooner 43 = .ok (.aload_n 0, 1) := by decide +kernel
theorem dX9_sooner_44 : decode cX9_sooner 44 = .ok (.getfield 184, 3) := by decide +kernel
theorem dX9_sooner_47 : decode cX9_sooner 47 = .ok (.iload_n 2, 1) := by decide +kernel
theorem dX9_sooner_48 : decode cX9_sooner 48 = .ok (.invokestatic 451, 3) := by decide +kernel
theorem dX9_sooner_51 : decode cX9_sooner 51 = .ok (.aload_n 0, 1) := by decide +kernel
theorem dX9_sooner_52 : decode cX9_sooner 52 = .ok (.getfield 181, 3) := by decide +kernel
theorem dX9_sooner_55 : decode cX9_sooner 55 = .ok (.aload_n 0, 1) := by decide +kernel
theorem dX9_sooner_56 : decode cX9_sooner 56 = .ok (.getfield 178, 3) := by decide +kernel
theorem dX9_sooner_59 : decode cX9_sooner 59 = .ok (.iload_n 2, 1) := by decide +kernel
theorem dX9_sooner_60 : decode cX9_sooner 60 = .ok (.iadd, 1) := by decide +kernel
theorem dX9_sooner_61 : decode cX9_sooner 61 = .ok (.invokestatic 451, 3) := by decide +kernel
theorem dX9_sooner_64 : decode cX9_sooner 64 = .ok (.if_icmp .ne 9, 3) := by decide +kernel
theorem dX9_sooner_67 : decode cX9_sooner 67 = .ok (.iinc 2 1, 3) := by decide +kernel
theorem dX9_sooner_70 : decode cX9_sooner 70 = .ok (.goto (-32), 3) := by decide +kernel
theorem dX9_sooner_73 : decode cX9_sooner 73 = .ok (.iload_n 2, 1) := by decide +kernel
theorem dX9_sooner_74 : decode cX9_sooner 74 = .ok (.iload_n 1, 1) := by decide +kernel
theorem dX9_sooner_75 : decode cX9_sooner 75 = .ok (.if_icmp .ge 31, 3) := by decide +kernel
theorem dX9_sooner_78 : decode cX9_sooner 78 = .ok (.aload_n 0, 1) := by decide +kernel
theorem dX9_sooner_79 : decode cX9_sooner 79 = .ok (.getfield 184, 3) := by decide +kernel
theorem dX9_sooner_82 : decode cX9_sooner 82 = .ok (.iload_n 2, 1) := by decide +kernel
theorem dX9_sooner_83 : decode cX9_sooner 83 = .ok (.invokestatic 451, 3) := by decide +kernel
theorem dX9_sooner_86 : decode cX9_sooner 86 = .ok (.aload_n 0, 1) := by decide +kernel
theorem dX9_sooner_87 : decode cX9_sooner 87 = .ok (.getfield 181, 3) := by decide +kernel
theorem dX9_sooner_90 : decode cX9_sooner 90 = .ok (.aload_n 0, 1) := by decide +kernel
theorem dX9_sooner_91 : decode cX9_sooner 91 = .ok (.getfield 178, 3) := by decide +kernel
theorem dX9_sooner_94 : decode cX9_sooner 94 = .ok (.iload_n 2, 1) := by decide +kernel
theorem dX9_sooner_95 : decode cX9_sooner 95 = .ok (.iadd, 1) := by decide +kernel
theorem dX9_sooner_96 : decode cX9_sooner 96 = .ok (.invokestatic 451, 3) := by decide +kernel
theorem dX9_sooner_99 : decode cX9_sooner 99 = .ok (.if_icmp .ge 7, 3) := by decide +kernel
theorem dX9_sooner_102 : decode cX9_sooner 102 = .ok (.iconst 1, 1) := by decide +kernel
theorem dX9_sooner_103 : decode cX9_sooner 103 = .ok (.goto 4, 3) := by decide +kernel
theorem dX9_sooner_106 : decode cX9_sooner 106 = .ok (.iconst 0, 1) := by decide +kernel
theorem dX9_sooner_107 : decode cX9_sooner 107 = .ok (.ireturn, 1) := by decide +kernel
abbrev MX9_sooner : zT := (yX9_sooner, cX9_sooner, 3, (Option.some Jvm.ClassFile.FieldType.boolean), [])
theorem plX9_sooner : zplain MX9_sooner 1 ∧ (zcodeW MX9_sooner ∈ lw_all ∧ Cond.initialized MX9_sooner.1.cls ∈ lw_all) := ⟨⟨by decide +kernel, by decide +kernel⟩, q2392, q127⟩
noncomputable def f_X9_sooner_35 (t0 : Int) (σ : zM) : Option zO :=
  zgd (z01 t0) <|
  some (0, zi t0, σ)
theorem w_X9_sooner_35 {g : zG} {lv : Nat} {out : zO} (t0 : Int) (σ : zM) {r : zO} (h : f_X9_sooner_35 t0 σ = some r) (hk : (fun o : zO => o = out) r) : Gj g MX9_sooner (lv + 1) 35 [] [zi t0] σ out := by
  revert h
  unfold f_X9_sooner_35
  refine gb_gd (fun hb => ?_)
  intro h
  cases h
  have hk : (0, zi t0, σ) = out := hk
  subst hk
  exact gj_ret (pc := 35) (t := .boolean) dX9_sooner_35 rfl ⟨rfl, rfl⟩ (fun _ => z01E hb)
noncomputable def f_X9_sooner_30 (σ : zM) : Option zO :=
  f_X9_sooner_35 1 σ
theorem w_X9_sooner_30 {g : zG} {lv : Nat} {out : zO} (σ : zM) {r : zO} (h : f_X9_sooner_30  σ = some r) (hk : (fun o : zO => o = out) r) : Gj g MX9_sooner (lv + 1) 30 [] [] σ out := by
  revert h
  unfold f_X9_sooner_30
  refine zst_ (gj_iconst (pc := 30) dX9_sooner_30 (by decide)) ?_
  refine zst_ (gj_goto 35 (pc := 31) dX9_sooner_31 (by decide)) ?_
  exact fun h => w_X9_sooner_35 1 σ h hk
noncomputable def f_X9_sooner_15 (x0 x1 : Int) (σ : zM) : Option zO :=
  (zgf σ 979 x0).bind fun v1 =>
  if v1 = 0 then
    f_X9_sooner_30 σ
  else
    (zgf σ 979 x0).bind fun v2 =>
    if v2 ≤ x1 then
      f_X9_sooner_35 0 σ
    else
      f_X9_sooner_30 σ
theorem w_X9_sooner_15 {g : zG} {lv : Nat} {out : zO} (x0 x1 : Int) (σ : zM) {r : zO} (h : f_X9_sooner_15 x0 x1 σ = some r) (hk : (fun o : zO => o = out) r) : Gj g MX9_sooner (lv + 1) 15 [(0, zr x0), (1, zi x1)] [] σ out := by
  revert h
  unfold f_X9_sooner_15
  refine zst_ (gj_aload_n 0 (pc := 15) dX9_sooner_15 rfl) ?_
  refine gb_get (pc := 16) fl979 dX9_sooner_16 q1961 (Or.inl rfl) (fun v1 => ?_)
  refine gb_if (gj_if_eq 30 (pc := 19) dX9_sooner_19 (by decide)) ?_ ?_
  · refine zst_ (gj_sub [] rfl) ?_
    exact fun h => w_X9_sooner_30 σ h hk
  · refine zst_ (gj_iload_n 1 (pc := 22) dX9_sooner_22 rfl) ?_
    refine zst_ (gj_aload_n 0 (pc := 23) dX9_sooner_23 rfl) ?_
    refine gb_get (pc := 24) fl979 dX9_sooner_24 q1961 (Or.inl rfl) (fun v2 => ?_)
    refine gb_if (gj_icmp_ge 34 (pc := 27) dX9_sooner_27 (by decide)) ?_ ?_
    · refine zst_ (gj_iconst (pc := 34) dX9_sooner_34 (by decide)) ?_
      refine zst_ (gj_sub [] rfl) ?_
      exact fun h => w_X9_sooner_35 0 σ h hk
    · refine zst_ (gj_sub [] rfl) ?_
      exact fun h => w_X9_sooner_30 σ h hk
noncomputable def f_X9_sooner_107 (t0 : Int) (σ : zM) : Option zO :=
  zgd (z01 t0) <|
  some (0, zi t0, σ)
theorem w_X9_sooner_107 {g : zG} {lv : Nat} {out : zO} (t0 : Int) (σ : zM) {r : zO} (h : f_X9_sooner_107 t0 σ = some r) (hk : (fun o : zO => o = out) r) : Gj g MX9_sooner (lv + 1) 107 [] [zi t0] σ out := by
  revert h
  unfold f_X9_sooner_107
  refine gb_gd (fun hb => ?_)
  intro h
  cases h
  have hk : (0, zi t0, σ) = out := hk
  subst hk
  exact gj_ret (pc := 107) (t := .boolean) dX9_sooner_107 rfl ⟨rfl, rfl⟩ (fun _ => z01E hb)
noncomputable def f_X9_sooner_106 (σ : zM) : Option zO :=
  f_X9_sooner_107 0 σ
theorem w_X9_sooner_106 {g : zG} {lv : Nat} {out : zO} (σ : zM) {r : zO} (h : f_X9_sooner_106  σ = some r) (hk : (fun o : zO => o = out) r) : Gj g MX9_sooner (lv + 1) 106 [] [] σ out := by
  revert h
  unfold f_X9_sooner_106
  refine zst_ (gj_iconst (pc := 106) dX9_sooner_106 (by decide)) ?_
  exact fun h => w_X9_sooner_107 0 σ h hk
noncomputable def f_X9_sooner_73 (x0 x1 x2 : Int) (σ : zM) : Option zO :=
  if x1 ≤ x2 then
    f_X9_sooner_106 σ
  else
    (zgf σ 981 x0).bind fun v1 =>
    zci (f_X9_stepOf v1 x2 σ) fun v2 σ3 =>
    (zgf σ3 980 x0).bind fun v4 =>
    (zgf σ3 978 x0).bind fun v5 =>
    zci (f_X9_stepOf v4 (zadd v5 x2) σ3) fun v6 σ7 =>
    if v6 ≤ v2 then
      f_X9_sooner_106 σ7
    else
      f_X9_sooner_107 1 σ7
theorem w_X9_sooner_73 {g : zG} {lv : Nat} {out : zO} (x0 x1 x2 : Int) (σ : zM) {r : zO} (h : f_X9_sooner_73 x0 x1 x2 σ = some r) (hk : (fun o : zO => o = out) r) : Gj g MX9_sooner (lv + 1) 73 [(0, zr x0), (1, zi x1), (2, zi x2)] [] σ out := by
  revert h
  unfold f_X9_sooner_73
  refine zst_ (gj_iload_n 2 (pc := 73) dX9_sooner_73 rfl) ?_
  refine zst_ (gj_iload_n 1 (pc := 74) dX9_sooner_74 rfl) ?_
  refine gb_if (gj_icmp_ge 106 (pc := 75) dX9_sooner_75 (by decide)) ?_ ?_
  · refine zst_ (gj_sub [] rfl) ?_
    exact fun h => w_X9_sooner_106 σ h hk
  · refine zst_ (gj_aload_n 0 (pc := 78) dX9_sooner_78 rfl) ?_
    refine gb_get (pc := 79) fl981 dX9_sooner_79 q1963 (Or.inl rfl) (fun v1 => ?_)
    refine zst_ (gj_iload_n 2 (pc := 82) dX9_sooner_82 rfl) ?_
    refine gb_callI (pc := 83) (as := [zr v1, zi x2]) (rest := []) (zCl.of (zLk_S (M := MX9_sooner) plX9_stepOf.1 rfl dX9_sooner_83 q2378 q2379 q127 q2380) plX9_stepOf (Nat.le_of_ble_eq_true rfl) (fun h => c_X9_stepOf h)) (fun v2 σ3 => ?_)
    refine zst_ (gj_aload_n 0 (pc := 86) dX9_sooner_86 rfl) ?_
    refine gb_get (pc := 87) fl980 dX9_sooner_87 q1962 (Or.inl rfl) (fun v4 => ?_)
    refine zst_ (gj_aload_n 0 (pc := 90) dX9_sooner_90 rfl) ?_
    refine gb_get (pc := 91) fl978 dX9_sooner_91 q1960 (Or.inl rfl) (fun v5 => ?_)
    refine zst_ (gj_iload_n 2 (pc := 94) dX9_sooner_94 rfl) ?_
    refine zst_ (gj_iadd (pc := 95) dX9_sooner_95) ?_
    refine gb_callI (pc := 96) (as := [zr v4, zi (zadd v5 x2)]) (rest := [zi v2]) (zCl.of (zLk_S (M := MX9_sooner) plX9_stepOf.1 rfl dX9_sooner_96 q2378 q2379 q127 q2380) plX9_stepOf (Nat.le_of_ble_eq_true rfl) (fun h => c_X9_stepOf h)) (fun v6 σ7 => ?_)
    refine gb_if (gj_icmp_ge 106 (pc := 99) dX9_sooner_99 (by decide)) ?_ ?_
    · refine zst_ (gj_sub [] rfl) ?_
      exact fun h => w_X9_sooner_106 σ7 h hk
    · refine zst_ (gj_iconst (pc := 102) dX9_sooner_102 (by decide)) ?_
      refine zst_ (gj_goto 107 (pc := 103) dX9_sooner_103 (by decide)) ?_
      refine zst_ (gj_sub [] rfl) ?_
      exact fun h => w_X9_sooner_107 1 σ7 h hk
noncomputable def f_X9_sooner_38_b (x0 x1 x2 : Int) (σ : zM) : Option ((Int × zM) ⊕ zO) :=
  if x1 ≤ x2 then
    (f_X9_sooner_73 x0 x1 x2 σ).map (fun r => (.inr r))
  else
    (zgf σ 981 x0).bind fun v1 =>
    zci (f_X9_stepOf v1 x2 σ) fun v2 σ3 =>
    (zgf σ3 980 x0).bind fun v4 =>
    (zgf σ3 978 x0).bind fun v5 =>
    zci (f_X9_stepOf v4 (zadd v5 x2) σ3) fun v6 σ7 =>
    if v2 ≠ v6 then
      (f_X9_sooner_73 x0 x1 x2 σ7).map (fun r => (.inr r))
    else
      zlet (zadd x2 1) fun y8 =>
      some (.inl (y8, σ7))
noncomputable def f_X9_sooner_38 (x0 x1 x2 : Int) (σ : zM) : Option zO :=
  zloop (fun s : Int × zM => f_X9_sooner_38_b x0 x1 s.1 s.2) (x2, σ)
theorem w_X9_sooner_38_b {g : zG} {lv : Nat} {out : zO} (x0 x1 x2 : Int) (σ : zM) {r : ((Int × zM) ⊕ zO)} (h : f_X9_sooner_38_b x0 x1 x2 σ = some r) (hk : (zKL (fun s : Int × zM => Gj g MX9_sooner (lv + 1) 38 [(0, zr x0), (1, zi x1), (2, zi s.1)] [] s.2 out) (fun o : zO => o = out)) r) : Gj g MX9_sooner (lv + 1) 38 [(0, zr x0), (1, zi x1), (2, zi x2)] [] σ out := by
  revert h
  unfold f_X9_sooner_38_b
  refine zst_ (gj_iload_n 2 (pc := 38) dX9_sooner_38 rfl) ?_
  refine zst_ (gj_iload_n 1 (pc := 39) dX9_sooner_39 rfl) ?_
  refine gb_if (gj_icmp_ge 73 (pc := 40) dX9_sooner_40 (by decide)) ?_ ?_
  · intro h
    obtain ⟨r0, h0, rfl⟩ := zmE h
    exact w_X9_sooner_73 x0 x1 x2 σ h0 hk
  · refine zst_ (gj_aload_n 0 (pc := 43) dX9_sooner_43 rfl) ?_
    refine gb_get (pc := 44) fl981 dX9_sooner_44 q1963 (Or.inl rfl) (fun v1 => ?_)
    refine zst_ (gj_iload_n 2 (pc := 47) dX9_sooner_47 rfl) ?_
    refine gb_callI (pc := 48) (as := [zr v1, zi x2]) (rest := []) (zCl.of (zLk_S (M := MX9_sooner) plX9_stepOf.1 rfl dX9_sooner_48 q2378 q2379 q127 q2380) plX9_stepOf (Nat.le_of_ble_eq_true rfl) (fun h => c_X9_stepOf h)) (fun v2 σ3 => ?_)
    refine zst_ (gj_aload_n 0 (pc := 51) dX9_sooner_51 rfl) ?_
    refine gb_get (pc := 52) fl980 dX9_sooner_52 q1962 (Or.inl rfl) (fun v4 => ?_)
    refine zst_ (gj_aload_n 0 (pc := 55) dX9_sooner_55 rfl) ?_
    refine gb_get (pc := 56) fl978 dX9_sooner_56 q1960 (Or.inl rfl) (fun v5 => ?_)
    refine zst_ (gj_iload_n 2 (pc := 59) dX9_sooner_59 rfl) ?_
    refine zst_ (gj_iadd (pc := 60) dX9_sooner_60) ?_
    refine gb_callI (pc := 61) (as := [zr v4, zi (zadd v5 x2)]) (rest := [zi v2]) (zCl.of (zLk_S (M := MX9_sooner) plX9_stepOf.1 rfl dX9_sooner_61 q2378 q2379 q127 q2380) plX9_stepOf (Nat.le_of_ble_eq_true rfl) (fun h => c_X9_stepOf h)) (fun v6 σ7 => ?_)
    refine gb_if (gj_icmp_ne 73 (pc := 64) dX9_sooner_64 (by decide)) ?_ ?_
    · intro h
      obtain ⟨r0, h0, rfl⟩ := zmE h
      exact w_X9_sooner_73 x0 x1 x2 σ7 h0 hk
    · refine gb_iinc (pc := 67) 2 (fun y8 => [(2, zi y8), (0, zr x0), (1, zi x1)]) dX9_sooner_67 rfl (by decide) (fun _ => rfl) (fun y8 => ?_)
      refine zst_ (gj_goto 38 (pc := 70) dX9_sooner_70 (by decide)) ?_
      refine zst_ (gj_sub [1, 2, 0] rfl) ?_
      intro h
      cases h
      exact hk
theorem w_X9_sooner_38 {g : zG} {lv : Nat} {out : zO} (x0 x1 x2 : Int) (σ : zM) {r : zO} (h : f_X9_sooner_38 x0 x1 x2 σ = some r) (hk : (fun o : zO => o = out) r) : Gj g MX9_sooner (lv + 1) 38 [(0, zr x0), (1, zi x1), (2, zi x2)] [] σ out :=
  gj_loop (P := (fun s : Int × zM => Gj g MX9_sooner (lv + 1) 38 [(0, zr x0), (1, zi x1), (2, zi s.1)] [] s.2 out)) (fun s x hb hx => w_X9_sooner_38_b x0 x1 s.1 s.2 hb hx) h hk
noncomputable def f_X9_sooner (x0 x1 : Int) (σ : zM) : Option zO :=
  (zgf σ 979 x0).bind fun v1 =>
  if v1 = 0 then
    f_X9_sooner_15 x0 x1 σ
  else
    (zgf σ 979 x0).bind fun v2 =>
    if x1 = v2 then
      f_X9_sooner_38 x0 x1 0 σ
    else
      f_X9_sooner_15 x0 x1 σ
theorem c_X9_sooner {g : zG} {lv : Nat} {x0 x1 : Int} {σ : zM} {out : zO} (h : f_X9_sooner x0 x1 σ = some out) : Cj g (lv + 1) MX9_sooner [zr x0, zi x1] σ out := by
  refine cj_go (ls := [(0, zr x0), (1, zi x1)]) (by decide) (Nat.le_of_ble_eq_true rfl) rfl (zgen h (fun r hk => ?_))
  unfold f_X9_sooner
  refine zst_ (gj_aload_n 0 (pc := 0) dX9_sooner_0 rfl) ?_
  refine gb_get (pc := 1) fl979 dX9_sooner_1 q1961 (Or.inl rfl) (fun v1 => ?_)
  refine gb_if (gj_if_eq 15 (pc := 4) dX9_sooner_4 (by decide)) ?_ ?_
  · exact fun h => w_X9_sooner_15 x0 x1 σ h hk
  · refine zst_ (gj_iload_n 1 (pc := 7) dX9_sooner_7 rfl) ?_
    refine zst_ (gj_aload_n 0 (pc := 8) dX9_sooner_8 rfl) ?_
    refine gb_get (pc := 9) fl979 dX9_sooner_9 q1961 (Or.inl rfl) (fun v2 => ?_)
    refine gb_if (gj_icmp_eq 36 (pc := 12) dX9_sooner_12 (by decide)) ?_ ?_
    · refine zst_ (gj_iconst (pc := 36) dX9_sooner_36 (by decide)) ?_
      refine zst_ (gj_istore_n (pc := 37) (ls' := [(2, zi 0), (0, zr x0), (1, zi x1)]) dX9_sooner_37 (by decide) rfl) ?_
      refine zst_ (gj_sub [1, 2, 0] rfl) ?_
      exact fun h => w_X9_sooner_38 x0 x1 0 σ h hk
    · exact fun h => w_X9_sooner_15 x0 x1 σ h hk
theorem q2334 : (Jvm.Cond.code ({ cls := "LassoFinderModel", name := "verify", desc := "()Z" } : Jvm.MethodName) prog_22_method_66_code (6 : Nat) (Option.some Jvm.ClassFile.FieldType.boolean)) ∈ lw_all := lw_g (lw_at lw_m10 74 rfl) rfl
theorem q2335 : (Jvm.Cond.methodLink "LassoFinderModel" (455 : Nat) ({ cls := "LassoFinderModel", name := "shortest", desc := "()I" } : Jvm.MethodName)) ∈ lw_all := lw_g (lw_at lw_m10 75 rfl) rfl
theorem q2337 : (Jvm.Cond.instanceMethod ({ cls := "LassoFinderModel", name := "shortest", desc := "()I" } : Jvm.MethodName)) ∈ lw_all := lw_g (lw_at lw_m10 77 rfl) rfl
theorem q2371 : (Jvm.Cond.methodLink "LassoFinderModel" (458 : Nat) ({ cls := "LassoFinderModel", name := "stemOf", desc := "()I" } : Jvm.MethodName)) ∈ lw_all := lw_g (lw_at lw_m10 111 rfl) rfl
theorem q2373 : (Jvm.Cond.instanceMethod ({ cls := "LassoFinderModel", name := "stemOf", desc := "()I" } : Jvm.MethodName)) ∈ lw_all := lw_g (lw_at lw_m10 113 rfl) rfl
theorem q2381 : (Jvm.Cond.methodLink "LassoFinderModel" (461 : Nat) ({ cls := "LassoFinderModel", name := "round", desc := "(II)I" } : Jvm.MethodName)) ∈ lw_all := lw_g (lw_at lw_m10 121 rfl) rfl
theorem q2383 : (Jvm.Cond.instanceMethod ({ cls := "LassoFinderModel", name := "round", desc := "(II)I" } : Jvm.MethodName)) ∈ lw_all := lw_g (lw_at lw_m10 123 rfl) rfl
theorem q2389 : (Jvm.Cond.methodLink "LassoFinderModel" (464 : Nat) ({ cls := "LassoFinderModel", name := "sooner", desc := "(I)Z" } : Jvm.MethodName)) ∈ lw_all := lw_g (lw_at lw_m10 129 rfl) rfl
theorem q2391 : (Jvm.Cond.instanceMethod ({ cls := "LassoFinderModel", name := "sooner", desc := "(I)Z" } : Jvm.MethodName)) ∈ lw_all := lw_g (lw_at lw_m10 131 rfl) rfl
abbrev cX9_verify : ByteArray := prog_22_method_66_code
def yX9_verify : MethodName := ⟨RX9, "verify", "()Z"⟩
theorem dX9_verify_0 : decode cX9_verify 0 = .ok (.aload_n 0, 1) := by decide +kernel
theorem dX9_verify_1 : decode cX9_verify 1 = .ok (.aload_n 0, 1) := by decide +kernel
theorem dX9_verify_2 : decode cX9_verify 2 = .ok (.getfield 358, 3) := by decide +kernel
theorem dX9_verify_5 : decode cX9_verify 5 = .ok (.ifCond .eq 7, 3) := by decide +kernel
theorem dX9_verify_8 : decode cX9_verify 8 = .ok (.iconst 0, 1) := by decide +kernel
theorem dX9_verify_9 : decode cX9_verify 9 = .ok (.goto 4, 3) := by decide +kernel
theorem dX9_verify_12 : decode cX9_verify 12 = .ok (.iconst 1, 1) := by decide +kernel
theorem dX9_verify_13 : decode cX9_verify 13 = .ok (.putfield 193, 3) := by decide +kernel
theorem dX9_verify_16 : decode cX9_verify 16 = .ok (.aload_n 0, 1) := by decide +kernel
theorem dX9_verify_17 : decode cX9_verify 17 = .ok (.getfield 358, 3) := by decide +kernel
theorem dX9_verify_20 : decode cX9_verify 20 = .ok (.ifCond .ne 5, 3) := by decide +kernel
theorem dX9_verify_23 : decode cX9_verify 23 = .ok (.iconst 0, 1) := by decide +kernel
theorem dX9_verify_24 : decode cX9_verify 24 = .ok (.ireturn, 1) := by decide +kernel
theorem dX9_verify_25 : decode cX9_verify 25 = .ok (.aload_n 0, 1) := by decide +kernel
theorem dX9_verify_26 : decode cX9_verify 26 = .ok (.iconst 0, 1) := by decide +kernel
theorem dX9_verify_27 : decode cX9_verify 27 = .ok (.putfield 448, 3) := by decide +kernel
theorem dX9_verify_30 : decode cX9_verify 30 = .ok (.aload_n 0, 1) := by decide +kernel
theorem dX9_verify_31 : decode cX9_verify 31 = .ok (.aload_n 0, 1) := by decide +kernel
theorem dX9_verify_32 : decode cX9_verify 32 = .ok (.invokevirtual 455, 3) := by decide +kernel
theorem dX9_verify_35 : decode cX9_verify 35 = .ok (.putfield 178, 3) := by decide +kernel
theorem dX9_verify_38 : decode cX9_verify 38 = .ok (.aload_n 0, 1) := by decide +kernel
theorem dX9_verify_39 : decode cX9_verify 39 = .ok (.getfield 178, 3) := by decide +kernel
theorem dX9_verify_42 : decode cX9_verify 42 = .ok (.ifCond .ge 5, 3) := by decide +kernel
theorem dX9_verify_45 : decode cX9_verify 45 = .ok (.iconst 1, 1) := by decide +kernel
theorem dX9_verify_46 : decode cX9_verify 46 = .ok (.ireturn, 1) := by decide +kernel
theorem dX9_verify_47 : decode cX9_verify 47 = .ok (.aload_n 0, 1) := by decide +kernel
theorem dX9_verify_48 : decode cX9_verify 48 = .ok (.invokevirtual 458, 3) := by decide +kernel
theorem dX9_verify_51 : decode cX9_verify 51 = .ok (.istore_n 1, 1) := by decide +kernel
theorem dX9_verify_52 : decode cX9_verify 52 = .ok (.aload_n 0, 1) := by decide +kernel
theorem dX9_verify_53 : decode cX9_verify 53 = .ok (.getfield 178, 3) := by decide +kernel
theorem dX9_verify_56 : decode cX9_verify 56 = .ok (.ifCond .le 24, 3) := by decide +kernel
theorem dX9_verify_59 : decode cX9_verify 59 = .ok (.aload_n 0, 1) := by decide +kernel
theorem dX9_verify_60 : decode cX9_verify 60 = .ok (.getfield 112, 3) := by decide +kernel
theorem dX9_verify_63 : decode cX9_verify 63 = .ok (.aload_n 0, 1) := by decide +kernel
theorem dX9_verify_64 : decode cX9_verify 64 = .ok (.getfield 181, 3) := by decide +kernel
theorem dX9_verify_67 : decode cX9_verify 67 = .ok (.aload_n 0, 1) := by decide +kernel
theorem dX9_verify_68 : decode cX9_verify 68 = .ok (.getfield 178, 3) := by decide +kernel
theorem dX9_verify_71 : decode cX9_verify 71 = .ok (.iconst 1, 1) := by decide +kernel
theorem dX9_verify_72 : decode cX9_verify 72 = .ok (.isub, 1) := by decide +kernel
theorem dX9_verify_73 : decode cX9_verify 73 = .ok (.invokestatic 451, 3) := by decide +kernel
theorem dX9_verify_76 : decode cX9_verify 76 = .ok (.iaload, 1) := by decide +kernel
theorem dX9_verify_77 : decode cX9_verify 77 = .ok (.goto 4, 3) := by decide +kernel
theorem dX9_verify_80 : decode cX9_verify 80 = .ok (.iconst 0, 1) := by decide +kernel
theorem dX9_verify_81 : decode cX9_verify 81 = .ok (.istore_n 2, 1) := by decide +kernel
theorem dX9_verify_82 : decode cX9_verify 82 = .ok (.iconst 0, 1) := by decide +kernel
theorem dX9_verify_83 : decode cX9_verify 83 = .ok (.istore_n 3, 1) := by decide +kernel
theorem dX9_verify_84 : decode cX9_verify 84 = .ok (.iload_n 3, 1) := by decide +kernel
theorem dX9_verify_85 : decode cX9_verify 85 = .ok (.iconst 1, 1) := by decide +kernel
theorem dX9_verify_86 : decode cX9_verify 86 = .ok (.aload_n 0, 1) := by decide +kernel
theorem dX9_verify_87 : decode cX9_verify 87 = .ok (.getfield 376, 3) := by decide +kernel
theorem dX9_verify_90 : decode cX9_verify 90 = .ok (.ishl, 1) := by decide +kernel
theorem dX9_verify_91 : decode cX9_verify 91 = .ok (.if_icmp .ge 85, 3) := by decide +kernel
theorem dX9_verify_94 : decode cX9_verify 94 = .ok (.iload_n 1, 1) := by decide +kernel
theorem dX9_verify_95 : decode cX9_verify 95 = .ok (.iload_n 3, 1) := by decide +kernel
theorem dX9_verify_96 : decode cX9_verify 96 = .ok (.ishr, 1) := by decide +kernel
theorem dX9_verify_97 : decode cX9_verify 97 = .ok (.iconst 1, 1) := by decide +kernel
theorem dX9_verify_98 : decode cX9_verify 98 = .ok (.iand, 1) := by decide +kernel
theorem dX9_verify_99 : decode cX9_verify 99 = .ok (.ifCond .ne 6, 3) := by decide +kernel
theorem dX9_verify_102 : decode cX9_verify 102 = .ok (.goto 68, 3) := by decide +kernel
theorem dX9_verify_105 : decode cX9_verify 105 = .ok (.aload_n 0, 1) := by decide +kernel
theorem dX9_verify_106 : decode cX9_verify 106 = .ok (.iload_n 2, 1) := by decide +kernel
theorem dX9_verify_107 : decode cX9_verify 107 = .ok (.iload_n 3, 1) := by decide +kernel
theorem dX9_verify_108 : decode cX9_verify 108 = .ok (.invokevirtual 461, 3) := by decide +kernel
theorem dX9_verify_111 : decode cX9_verify 111 = .ok (.istore 4, 2) := by decide +kernel
theorem dX9_verify_113 : decode cX9_verify 113 = .ok (.aload_n 0, 1) := by decide +kernel
theorem dX9_verify_114 : decode cX9_verify 114 = .ok (.iload 4, 2) := by decide +kernel
theorem dX9_verify_116 : decode cX9_verify 116 = .ok (.invokevirtual 464, 3) := by decide +kernel
theorem dX9_verify_119 : decode cX9_verify 119 = .ok (.ifCond .ne 6, 3) := by decide +kernel
theorem dX9_verify_122 : decode cX9_verify 122 = .ok (.goto 48, 3) := by decide +kernel
theorem dX9_verify_125 : decode cX9_verify 125 = .ok (.iconst 0, 1) := by decide +kernel
theorem dX9_verify_126 : decode cX9_verify 126 = .ok (.istore 5, 2) := by decide +kernel
theorem dX9_verify_128 : decode cX9_verify 128 = .ok (.iload 5, 2) := by decide +kernel
theorem dX9_verify_130 : decode cX9_verify 130 = .ok (.iload 4, 2) := by decide +kernel
theorem dX9_verify_132 : decode cX9_verify 132 = .ok (.if_icmp .ge 32, 3) := by decide +kernel
theorem dX9_verify_135 : decode cX9_verify 135 = .ok (.aload_n 0, 1) := by decide +kernel
theorem dX9_verify_136 : decode cX9_verify 136 = .ok (.getfield 181, 3) := by decide +kernel
theorem dX9_verify_139 : decode cX9_verify 139 = .ok (.aload_n 0, 1) := by decide +kernel
theorem dX9_verify_140 : decode cX9_verify 140 = .ok (.getfield 178, 3) := by decide +kernel
theorem dX9_verify_143 : decode cX9_verify 143 = .ok (.iload 5, 2) := by decide +kernel
theorem dX9_verify_145 : decode cX9_verify 145 = .ok (.iadd, 1) := by decide +kernel
theorem dX9_verify_146 : decode cX9_verify 146 = .ok (.aload_n 0, 1) := by decide +kernel
theorem dX9_verify_147 : decode cX9_verify 147 = .ok (.getfield 184, 3) := by decide +kernel
theorem dX9_verify_150 : decode cX9_verify 150 = .ok (.iload 5, 2) := by decide +kernel
theorem dX9_verify_152 : decode cX9_verify 152 = .ok (.invokestatic 451, 3) := by decide +kernel
theorem dX9_verify_155 : decode cX9_verify 155 = .ok (.invokestatic 440, 3) := by decide +kernel
theorem dX9_verify_158 : decode cX9_verify 158 = .ok (.iinc 5 1, 3) := by decide +kernel
theorem dX9_verify_161 : decode cX9_verify 161 = .ok (.goto (-33), 3) := by decide +kernel
theorem dX9_verify_164 : decode cX9_verify 164 = .ok (.aload_n 0, 1) := by decide +kernel
theorem dX9_verify_165 : decode cX9_verify 165 = .ok (.iload 4, 2) := by decide +kernel
theorem dX9_verify_167 : decode cX9_verify 167 = .ok (.putfield 448, 3) := by decide +kernel
theorem dX9_verify_170 : decode cX9_verify 170 = .ok (.iinc 3 1, 3) := by decide +kernel
theorem dX9_verify_173 : decode cX9_verify 173 = .ok (.goto (-89), 3) := by decide +kernel
theorem dX9_verify_176 : decode cX9_verify 176 = .ok (.iconst 0, 1) := by decide +kernel
theorem dX9_verify_177 : decode cX9_verify 177 = .ok (.ireturn, 1) := by decide +kernel
abbrev MX9_verify : zT := (yX9_verify, cX9_verify, 6, (Option.some Jvm.ClassFile.FieldType.boolean), [])
theorem plX9_verify : zplain MX9_verify 0 ∧ (zcodeW MX9_verify ∈ lw_all ∧ Cond.initialized MX9_verify.1.cls ∈ lw_all) := ⟨⟨by decide +kernel, by decide +kernel⟩, q2334, q127⟩
noncomputable def f_X9_verify_176 (σ : zM) : Option zO :=
  zgd (z01 0) <|
  some (0, zi 0, σ)
theorem w_X9_verify_176 {g : zG} {lv : Nat} {out : zO} (σ : zM) {r : zO} (h : f_X9_verify_176  σ = some r) (hk : (fun o : zO => o = out) r) : Gj g MX9_verify (lv + 5) 176 [] [] σ out := by
  revert h
  unfold f_X9_verify_176
  refine zst_ (gj_iconst (pc := 176) dX9_verify_176 (by decide)) ?_
  refine gb_gd (fun hb => ?_)
  intro h
  cases h
  have hk : (0, zi 0, σ) = out := hk
  subst hk
  exact gj_ret (pc := 177) (t := .boolean) dX9_verify_177 rfl ⟨rfl, rfl⟩ (fun _ => z01E hb)
noncomputable def f_X9_verify_170 (x0 x1 x2 x3 : Int) (σ : zM) : Option ((Int × zM) ⊕ zO) :=
  zlet (zadd x3 1) fun y1 =>
  some (.inl (y1, σ))
theorem w_X9_verify_170 {g : zG} {lv : Nat} {out : zO} (x0 x1 x2 x3 : Int) (σ : zM) {r : ((Int × zM) ⊕ zO)} (h : f_X9_verify_170 x0 x1 x2 x3 σ = some r) (hk : (zKL (fun s : Int × zM => Gj g MX9_verify (lv + 5) 84 [(0, zr x0), (1, zi x1), (2, zi x2), (3, zi s.1)] [] s.2 out) (fun o : zO => o = out)) r) : Gj g MX9_verify (lv + 5) 170 [(0, zr x0), (1, zi x1), (2, zi x2), (3, zi x3)] [] σ out := by
  revert h
  unfold f_X9_verify_170
  refine gb_iinc (pc := 170) 3 (fun y1 => [(3, zi y1), (0, zr x0), (1, zi x1), (2, zi x2)]) dX9_verify_170 rfl (by decide) (fun _ => rfl) (fun y1 => ?_)
  refine zst_ (gj_goto 84 (pc := 173) dX9_verify_173 (by decide)) ?_
  refine zst_ (gj_sub [1, 2, 3, 0] rfl) ?_
  intro h
  cases h
  exact hk
noncomputable def f_X9_verify_164 (x0 x1 x2 x3 x4 : Int) (σ : zM) : Option ((Int × zM) ⊕ zO) :=
  (zpf σ 979 x0 x4).bind fun σ1 =>
  f_X9_verify_170 x0 x1 x2 x3 σ1
theorem w_X9_verify_164 {g : zG} {lv : Nat} {out : zO} (x0 x1 x2 x3 x4 : Int) (σ : zM) {r : ((Int × zM) ⊕ zO)} (h : f_X9_verify_164 x0 x1 x2 x3 x4 σ = some r) (hk : (zKL (fun s : Int × zM => Gj g MX9_verify (lv + 5) 84 [(0, zr x0), (1, zi x1), (2, zi x2), (3, zi s.1)] [] s.2 out) (fun o : zO => o = out)) r) : Gj g MX9_verify (lv + 5) 164 [(0, zr x0), (1, zi x1), (2, zi x2), (3, zi x3), (4, zi x4)] [] σ out := by
  revert h
  unfold f_X9_verify_164
  refine zst_ (gj_aload_n 0 (pc := 164) dX9_verify_164 rfl) ?_
  refine zst_ (gj_iload 4 (pc := 165) dX9_verify_165 rfl) ?_
  refine gb_put (pc := 167) fl979 fr979 dX9_verify_167 q1961 (Or.inl rfl) (fun σ1 => ?_)
  refine zst_ (gj_sub [0, 1, 2, 3] rfl) ?_
  exact fun h => w_X9_verify_170 x0 x1 x2 x3 σ1 h hk
noncomputable def f_X9_verify_128_b (x0 x1 x2 x3 x4 x5 : Int) (σ : zM) : Option ((Int × zM) ⊕ ((Int × zM) ⊕ zO)) :=
  if x4 ≤ x5 then
    (f_X9_verify_164 x0 x1 x2 x3 x4 σ).map (fun r => (.inr r))
  else
    (zgf σ 980 x0).bind fun v1 =>
    (zgf σ 978 x0).bind fun v2 =>
    (zgf σ 981 x0).bind fun v3 =>
    zci (f_X9_stepOf v3 x5 σ) fun v4 σ5 =>
    zcv (f_X9_keep v1 (zadd v2 x5) v4 σ5) fun σ6 =>
    zlet (zadd x5 1) fun y7 =>
    some (.inl (y7, σ6))
noncomputable def f_X9_verify_128 (x0 x1 x2 x3 x4 x5 : Int) (σ : zM) : Option ((Int × zM) ⊕ zO) :=
  zloop (fun s : Int × zM => f_X9_verify_128_b x0 x1 x2 x3 x4 s.1 s.2) (x5, σ)
theorem w_X9_verify_128_b {g : zG} {lv : Nat} {out : zO} (x0 x1 x2 x3 x4 x5 : Int) (σ : zM) {r : ((Int × zM) ⊕ ((Int × zM) ⊕ zO))} (h : f_X9_verify_128_b x0 x1 x2 x3 x4 x5 σ = some r) (hk : (zKL (fun s : Int × zM => Gj g MX9_verify (lv + 5) 128 [(0, zr x0), (1, zi x1), (2, zi x2), (3, zi x3), (4, zi x4), (5, zi s.1)] [] s.2 out) (zKL (fun s : Int × zM => Gj g MX9_verify (lv + 5) 84 [(0, zr x0), (1, zi x1), (2, zi x2), (3, zi s.1)] [] s.2 out) (fun o : zO => o = out))) r) : Gj g MX9_verify (lv + 5) 128 [(0, zr x0), (1, zi x1), (2, zi x2), (3, zi x3), (4, zi x4), (5, zi x5)] [] σ out := by
  revert h
  unfold f_X9_verify_128_b
  refine zst_ (gj_iload 5 (pc := 128) dX9_verify_128 rfl) ?_
  refine zst_ (gj_iload 4 (pc := 130) dX9_verify_130 rfl) ?_
  refine gb_if (gj_icmp_ge 164 (pc := 132) dX9_verify_132 (by decide)) ?_ ?_
  · refine zst_ (gj_sub [0, 1, 2, 3, 4] rfl) ?_
    intro h
    obtain ⟨r0, h0, rfl⟩ := zmE h
    exact w_X9_verify_164 x0 x1 x2 x3 x4 σ h0 hk
  · refine zst_ (gj_aload_n 0 (pc := 135) dX9_verify_135 rfl) ?_
    refine gb_get (pc := 136) fl980 dX9_verify_136 q1962 (Or.inl rfl) (fun v1 => ?_)
    refine zst_ (gj_aload_n 0 (pc := 139) dX9_verify_139 rfl) ?_
    refine gb_get (pc := 140) fl978 dX9_verify_140 q1960 (Or.inl rfl) (fun v2 => ?_)
    refine zst_ (gj_iload 5 (pc := 143) dX9_verify_143 rfl) ?_
    refine zst_ (gj_iadd (pc := 145) dX9_verify_145) ?_
    refine zst_ (gj_aload_n 0 (pc := 146) dX9_verify_146 rfl) ?_
    refine gb_get (pc := 147) fl981 dX9_verify_147 q1963 (Or.inl rfl) (fun v3 => ?_)
    refine zst_ (gj_iload 5 (pc := 150) dX9_verify_150 rfl) ?_
    refine gb_callI (pc := 152) (as := [zr v3, zi x5]) (rest := [zi (zadd v2 x5), zr v1]) (zCl.of (zLk_S (M := MX9_verify) plX9_stepOf.1 rfl dX9_verify_152 q2378 q2379 q127 q2380) plX9_stepOf (Nat.le_of_ble_eq_true rfl) (fun h => c_X9_stepOf h)) (fun v4 σ5 => ?_)
    refine gb_callV (pc := 155) (as := [zr v1, zi (zadd v2 x5), zi v4]) (rest := []) (zCl.of (zLk_S (M := MX9_verify) plX9_keep.1 rfl dX9_verify_155 q2375 q2376 q127 q2377) plX9_keep (Nat.le_of_ble_eq_true rfl) (fun h => c_X9_keep h)) (fun σ6 => ?_)
    refine gb_iinc (pc := 158) 5 (fun y7 => [(5, zi y7), (0, zr x0), (1, zi x1), (2, zi x2), (3, zi x3), (4, zi x4)]) dX9_verify_158 rfl (by decide) (fun _ => rfl) (fun y7 => ?_)
    refine zst_ (gj_goto 128 (pc := 161) dX9_verify_161 (by decide)) ?_
    refine zst_ (gj_sub [1, 2, 3, 4, 5, 0] rfl) ?_
    intro h
    cases h
    exact hk
theorem w_X9_verify_128 {g : zG} {lv : Nat} {out : zO} (x0 x1 x2 x3 x4 x5 : Int) (σ : zM) {r : ((Int × zM) ⊕ zO)} (h : f_X9_verify_128 x0 x1 x2 x3 x4 x5 σ = some r) (hk : (zKL (fun s : Int × zM => Gj g MX9_verify (lv + 5) 84 [(0, zr x0), (1, zi x1), (2, zi x2), (3, zi s.1)] [] s.2 out) (fun o : zO => o = out)) r) : Gj g MX9_verify (lv + 5) 128 [(0, zr x0), (1, zi x1), (2, zi x2), (3, zi x3), (4, zi x4), (5, zi x5)] [] σ out :=
  gj_loop (P := (fun s : Int × zM => Gj g MX9_verify (lv + 5) 128 [(0, zr x0), (1, zi x1), (2, zi x2), (3, zi x3), (4, zi x4), (5, zi s.1)] [] s.2 out)) (fun s x hb hx => w_X9_verify_128_b x0 x1 x2 x3 x4 s.1 s.2 hb hx) h hk
noncomputable def f_X9_verify_84_b (x0 x1 x2 x3 : Int) (σ : zM) : Option ((Int × zM) ⊕ zO) :=
  (zgf σ 964 x0).bind fun v1 =>
  if (zshl 1 v1) ≤ x3 then
    (f_X9_verify_176 σ).map (fun r => (.inr r))
  else
    if (zand (zshr x1 x3) 1) ≠ 0 then
      zgd (zis σ 10 x0) <|
      zci (f_X9_round x0 x2 x3 σ) fun v2 σ3 =>
      zgd (zis σ3 10 x0) <|
      zci (f_X9_sooner x0 v2 σ3) fun v4 σ5 =>
      if v4 ≠ 0 then
        f_X9_verify_128 x0 x1 x2 x3 v2 0 σ5
      else
        f_X9_verify_170 x0 x1 x2 x3 σ5
    else
      f_X9_verify_170 x0 x1 x2 x3 σ
noncomputable def f_X9_verify_84 (x0 x1 x2 x3 : Int) (σ : zM) : Option zO :=
  zloop (fun s : Int × zM => f_X9_verify_84_b x0 x1 x2 s.1 s.2) (x3, σ)
theorem w_X9_verify_84_b {g : zG} {lv : Nat} {out : zO} (x0 x1 x2 x3 : Int) (σ : zM) {r : ((Int × zM) ⊕ zO)} (h : f_X9_verify_84_b x0 x1 x2 x3 σ = some r) (hk : (zKL (fun s : Int × zM => Gj g MX9_verify (lv + 5) 84 [(0, zr x0), (1, zi x1), (2, zi x2), (3, zi s.1)] [] s.2 out) (fun o : zO => o = out)) r) : Gj g MX9_verify (lv + 5) 84 [(0, zr x0), (1, zi x1), (2, zi x2), (3, zi x3)] [] σ out := by
  revert h
  unfold f_X9_verify_84_b
  refine zst_ (gj_iload_n 3 (pc := 84) dX9_verify_84 rfl) ?_
  refine zst_ (gj_iconst (pc := 85) dX9_verify_85 (by decide)) ?_
  refine zst_ (gj_aload_n 0 (pc := 86) dX9_verify_86 rfl) ?_
  refine gb_get (pc := 87) fl964 dX9_verify_87 q1946 (Or.inl rfl) (fun v1 => ?_)
  refine zst_ (gj_ishl (pc := 90) dX9_verify_90) ?_
  refine gb_if (gj_icmp_ge 176 (pc := 91) dX9_verify_91 (by decide)) ?_ ?_
  · refine zst_ (gj_sub [] rfl) ?_
    intro h
    obtain ⟨r0, h0, rfl⟩ := zmE h
    exact w_X9_verify_176 σ h0 hk
  · refine zst_ (gj_iload_n 1 (pc := 94) dX9_verify_94 rfl) ?_
    refine zst_ (gj_iload_n 3 (pc := 95) dX9_verify_95 rfl) ?_
    refine zst_ (gj_ishr (pc := 96) dX9_verify_96) ?_
    refine zst_ (gj_iconst (pc := 97) dX9_verify_97 (by decide)) ?_
    refine zst_ (gj_iand (pc := 98) dX9_verify_98) ?_
    refine gb_if (gj_if_ne 105 (pc := 99) dX9_verify_99 (by decide)) ?_ ?_
    · refine zst_ (gj_aload_n 0 (pc := 105) dX9_verify_105 rfl) ?_
      refine zst_ (gj_iload_n 2 (pc := 106) dX9_verify_106 rfl) ?_
      refine zst_ (gj_iload_n 3 (pc := 107) dX9_verify_107 rfl) ?_
      refine gb_gd (fun hb => ?_)
      refine gb_callI (pc := 108) (as := [zr x0, zi x2, zi x3]) (rest := []) (zCl.of (zLk_V (M := MX9_verify) (ci := 9) (r := (RX9, TX9, 84)) plX9_round.1 rfl rfl (zisE hb).1 (zisE hb).2 dX9_verify_108 q2381 q2383 qs96 q2384) plX9_round (Nat.le_of_ble_eq_true rfl) (fun h => c_X9_round h)) (fun v2 σ3 => ?_)
      refine zst_ (gj_istore (pc := 111) (ls' := [(4, zi v2), (0, zr x0), (1, zi x1), (2, zi x2), (3, zi x3)]) dX9_verify_111 (by decide) rfl) ?_
      refine zst_ (gj_aload_n 1 (pc := 113) dX9_verify_113 rfl) ?_
      refine zst_ (gj_iload 0 (pc := 114) dX9_verify_114 rfl) ?_
      refine gb_gd (fun hb => ?_)
      refine gb_callI (pc := 116) (as := [zr x0, zi v2]) (rest := []) (zCl.of (zLk_V (M := MX9_verify) (ci := 9) (r := (RX9, TX9, 84)) plX9_sooner.1 rfl rfl (zisE hb).1 (zisE hb).2 dX9_verify_116 q2389 q2391 qs98 q2392) plX9_sooner (Nat.le_of_ble_eq_true rfl) (fun h => c_X9_sooner h)) (fun v4 σ5 => ?_)
      refine gb_if (gj_if_ne 125 (pc := 119) dX9_verify_119 (by decide)) ?_ ?_
      · refine zst_ (gj_iconst (pc := 125) dX9_verify_125 (by decide)) ?_
        refine zst_ (gj_istore (pc := 126) (ls' := [(5, zi 0), (4, zi v2), (0, zr x0), (1, zi x1), (2, zi x2), (3, zi x3)]) dX9_verify_126 (by decide) rfl) ?_
        refine zst_ (gj_sub [2, 3, 4, 5, 1, 0] rfl) ?_
        exact fun h => w_X9_verify_128 x0 x1 x2 x3 v2 0 σ5 h hk
      · refine zst_ (gj_goto 170 (pc := 122) dX9_verify_122 (by decide)) ?_
        refine zst_ (gj_sub [1, 2, 3, 4] rfl) ?_
        exact fun h => w_X9_verify_170 x0 x1 x2 x3 σ5 h hk
    · refine zst_ (gj_goto 170 (pc := 102) dX9_verify_102 (by decide)) ?_
      exact fun h => w_X9_verify_170 x0 x1 x2 x3 σ h hk
theorem w_X9_verify_84 {g : zG} {lv : Nat} {out : zO} (x0 x1 x2 x3 : Int) (σ : zM) {r : zO} (h : f_X9_verify_84 x0 x1 x2 x3 σ = some r) (hk : (fun o : zO => o = out) r) : Gj g MX9_verify (lv + 5) 84 [(0, zr x0), (1, zi x1), (2, zi x2), (3, zi x3)] [] σ out :=
  gj_loop (P := (fun s : Int × zM => Gj g MX9_verify (lv + 5) 84 [(0, zr x0), (1, zi x1), (2, zi x2), (3, zi s.1)] [] s.2 out)) (fun s x hb hx => w_X9_verify_84_b x0 x1 x2 s.1 s.2 hb hx) h hk
noncomputable def f_X9_verify_81 (x0 x1 t0 : Int) (σ : zM) : Option zO :=
  f_X9_verify_84 x0 x1 t0 0 σ
theorem w_X9_verify_81 {g : zG} {lv : Nat} {out : zO} (x0 x1 t0 : Int) (σ : zM) {r : zO} (h : f_X9_verify_81 x0 x1 t0 σ = some r) (hk : (fun o : zO => o = out) r) : Gj g MX9_verify (lv + 5) 81 [(0, zr x0), (1, zi x1)] [zi t0] σ out := by
  revert h
  unfold f_X9_verify_81
  refine zst_ (gj_istore_n (pc := 81) (ls' := [(2, zi t0), (0, zr x0), (1, zi x1)]) dX9_verify_81 (by decide) rfl) ?_
  refine zst_ (gj_iconst (pc := 82) dX9_verify_82 (by decide)) ?_
  refine zst_ (gj_istore_n (pc := 83) (ls' := [(3, zi 0), (2, zi t0), (0, zr x0), (1, zi x1)]) dX9_verify_83 (by decide) rfl) ?_
  refine zst_ (gj_sub [2, 3, 1, 0] rfl) ?_
  exact fun h => w_X9_verify_84 x0 x1 t0 0 σ h hk
noncomputable def f_X9_verify_13 (x0 t0 t1 : Int) (σ : zM) : Option zO :=
  (zpf σ 900 t1 t0).bind fun σ1 =>
  (zgf σ1 961 x0).bind fun v2 =>
  if v2 ≠ 0 then
    (zpf σ1 979 x0 0).bind fun σ3 =>
    zgd (zis σ3 10 x0) <|
    zci (f_X9_shortest x0 σ3) fun v4 σ5 =>
    (zpf σ5 978 x0 v4).bind fun σ6 =>
    (zgf σ6 978 x0).bind fun v7 =>
    if 0 ≤ v7 then
      zgd (zis σ6 10 x0) <|
      zci (f_X9_stemOf x0 σ6) fun v8 σ9 =>
      (zgf σ9 978 x0).bind fun v10 =>
      if v10 ≤ 0 then
        f_X9_verify_81 x0 v8 0 σ9
      else
        (zgf σ9 949 x0).bind fun v11 =>
        (zgf σ9 980 x0).bind fun v12 =>
        (zgf σ9 978 x0).bind fun v13 =>
        zci (f_X9_stepOf v12 (zsub v13 1) σ9) fun v14 σ15 =>
        (zga σ15 101 v11 v14).bind fun v16 =>
        f_X9_verify_81 x0 v8 v16 σ15
    else
      zgd (z01 1) <|
      some (0, zi 1, σ6)
  else
    zgd (z01 0) <|
    some (0, zi 0, σ1)
theorem w_X9_verify_13 {g : zG} {lv : Nat} {out : zO} (x0 t0 t1 : Int) (σ : zM) {r : zO} (h : f_X9_verify_13 x0 t0 t1 σ = some r) (hk : (fun o : zO => o = out) r) : Gj g MX9_verify (lv + 5) 13 [(0, zr x0)] [zi t0, zr t1] σ out := by
  revert h
  unfold f_X9_verify_13
  refine gb_put (pc := 13) fl900 fr900 dX9_verify_13 q1882 (Or.inl rfl) (fun σ1 => ?_)
  refine zst_ (gj_aload_n 0 (pc := 16) dX9_verify_16 rfl) ?_
  refine gb_get (pc := 17) fl961 dX9_verify_17 q1943 (Or.inl rfl) (fun v2 => ?_)
  refine gb_if (gj_if_ne 25 (pc := 20) dX9_verify_20 (by decide)) ?_ ?_
  · refine zst_ (gj_aload_n 0 (pc := 25) dX9_verify_25 rfl) ?_
    refine zst_ (gj_iconst (pc := 26) dX9_verify_26 (by decide)) ?_
    refine gb_put (pc := 27) fl979 fr979 dX9_verify_27 q1961 (Or.inl rfl) (fun σ3 => ?_)
    refine zst_ (gj_aload_n 0 (pc := 30) dX9_verify_30 rfl) ?_
    refine zst_ (gj_aload_n 0 (pc := 31) dX9_verify_31 rfl) ?_
    refine gb_gd (fun hb => ?_)
    refine gb_callI (pc := 32) (as := [zr x0]) (rest := [zr x0]) (zCl.of (zLk_V (M := MX9_verify) (ci := 9) (r := (RX9, TX9, 84)) plX9_shortest.1 rfl rfl (zisE hb).1 (zisE hb).2 dX9_verify_32 q2335 q2337 qs86 q2338) plX9_shortest (Nat.le_of_ble_eq_true rfl) (fun h => c_X9_shortest h)) (fun v4 σ5 => ?_)
    refine gb_put (pc := 35) fl978 fr978 dX9_verify_35 q1960 (Or.inl rfl) (fun σ6 => ?_)
    refine zst_ (gj_aload_n 0 (pc := 38) dX9_verify_38 rfl) ?_
    refine gb_get (pc := 39) fl978 dX9_verify_39 q1960 (Or.inl rfl) (fun v7 => ?_)
    refine gb_if (gj_if_ge 47 (pc := 42) dX9_verify_42 (by decide)) ?_ ?_
    · refine zst_ (gj_aload_n 0 (pc := 47) dX9_verify_47 rfl) ?_
      refine gb_gd (fun hb => ?_)
      refine gb_callI (pc := 48) (as := [zr x0]) (rest := []) (zCl.of (zLk_V (M := MX9_verify) (ci := 9) (r := (RX9, TX9, 84)) plX9_stemOf.1 rfl rfl (zisE hb).1 (zisE hb).2 dX9_verify_48 q2371 q2373 qs95 q2374) plX9_stemOf (Nat.le_of_ble_eq_true rfl) (fun h => c_X9_stemOf h)) (fun v8 σ9 => ?_)
      refine zst_ (gj_istore_n (pc := 51) (ls' := [(1, zi v8), (0, zr x0)]) dX9_verify_51 (by decide) rfl) ?_
      refine zst_ (gj_aload_n 1 (pc := 52) dX9_verify_52 rfl) ?_
      refine gb_get (pc := 53) fl978 dX9_verify_53 q1960 (Or.inl rfl) (fun v10 => ?_)
      refine gb_if (gj_if_le 80 (pc := 56) dX9_verify_56 (by decide)) ?_ ?_
      · refine zst_ (gj_iconst (pc := 80) dX9_verify_80 (by decide)) ?_
        refine zst_ (gj_sub [1, 0] rfl) ?_
        exact fun h => w_X9_verify_81 x0 v8 0 σ9 h hk
      · refine zst_ (gj_aload_n 1 (pc := 59) dX9_verify_59 rfl) ?_
        refine gb_get (pc := 60) fl949 dX9_verify_60 q1931 (Or.inl rfl) (fun v11 => ?_)
        refine zst_ (gj_aload_n 1 (pc := 63) dX9_verify_63 rfl) ?_
        refine gb_get (pc := 64) fl980 dX9_verify_64 q1962 (Or.inl rfl) (fun v12 => ?_)
        refine zst_ (gj_aload_n 1 (pc := 67) dX9_verify_67 rfl) ?_
        refine gb_get (pc := 68) fl978 dX9_verify_68 q1960 (Or.inl rfl) (fun v13 => ?_)
        refine zst_ (gj_iconst (pc := 71) dX9_verify_71 (by decide)) ?_
        refine zst_ (gj_isub (pc := 72) dX9_verify_72) ?_
        refine gb_callI (pc := 73) (as := [zr v12, zi (zsub v13 1)]) (rest := [zr v11]) (zCl.of (zLk_S (M := MX9_verify) plX9_stepOf.1 rfl dX9_verify_73 q2378 q2379 q127 q2380) plX9_stepOf (Nat.le_of_ble_eq_true rfl) (fun h => c_X9_stepOf h)) (fun v14 σ15 => ?_)
        refine gb_iald (pc := 76) dX9_verify_76 (fun v16 => ?_)
        refine zst_ (gj_goto 81 (pc := 77) dX9_verify_77 (by decide)) ?_
        refine zst_ (gj_sub [1, 0] rfl) ?_
        exact fun h => w_X9_verify_81 x0 v8 v16 σ15 h hk
    · refine zst_ (gj_iconst (pc := 45) dX9_verify_45 (by decide)) ?_
      refine gb_gd (fun hb => ?_)
      intro h
      cases h
      have hk : (0, zi 1, σ6) = out := hk
      subst hk
      exact gj_ret (pc := 46) (t := .boolean) dX9_verify_46 rfl ⟨rfl, rfl⟩ (fun _ => z01E hb)
  · refine zst_ (gj_iconst (pc := 23) dX9_verify_23 (by decide)) ?_
    refine gb_gd (fun hb => ?_)
    intro h
    cases h
    have hk : (0, zi 0, σ1) = out := hk
    subst hk
    exact gj_ret (pc := 24) (t := .boolean) dX9_verify_24 rfl ⟨rfl, rfl⟩ (fun _ => z01E hb)
noncomputable def f_X9_verify (x0 : Int) (σ : zM) : Option zO :=
  (zgf σ 961 x0).bind fun v1 =>
  if v1 = 0 then
    f_X9_verify_13 x0 1 x0 σ
  else
    f_X9_verify_13 x0 0 x0 σ
theorem c_X9_verify {g : zG} {lv : Nat} {x0 : Int} {σ : zM} {out : zO} (h : f_X9_verify x0 σ = some out) : Cj g (lv + 5) MX9_verify [zr x0] σ out := by
  refine cj_go (ls := [(0, zr x0)]) (by decide) (Nat.le_of_ble_eq_true rfl) rfl (zgen h (fun r hk => ?_))
  unfold f_X9_verify
  refine zst_ (gj_aload_n 0 (pc := 0) dX9_verify_0 rfl) ?_
  refine zst_ (gj_aload_n 0 (pc := 1) dX9_verify_1 rfl) ?_
  refine gb_get (pc := 2) fl961 dX9_verify_2 q1943 (Or.inl rfl) (fun v1 => ?_)
  refine gb_if (gj_if_eq 12 (pc := 5) dX9_verify_5 (by decide)) ?_ ?_
  · refine zst_ (gj_iconst (pc := 12) dX9_verify_12 (by decide)) ?_
    exact fun h => w_X9_verify_13 x0 1 x0 σ h hk
  · refine zst_ (gj_iconst (pc := 8) dX9_verify_8 (by decide)) ?_
    refine zst_ (gj_goto 13 (pc := 9) dX9_verify_9 (by decide)) ?_
    exact fun h => w_X9_verify_13 x0 0 x0 σ h hk
theorem q2396 : (Jvm.Cond.code ({ cls := "LassoFinderModel", name := "stem", desc := "()I" } : Jvm.MethodName) prog_22_method_67_code (1 : Nat) (Option.some Jvm.ClassFile.FieldType.int)) ∈ lw_all := lw_g (lw_at lw_m10 136 rfl) rfl
abbrev cX9_stem : ByteArray := prog_22_method_67_code
def yX9_stem : MethodName := ⟨RX9, "stem", "()I"⟩
theorem dX9_stem_0 : decode cX9_stem 0 = .ok (.aload_n 0, 1) := by decide +kernel
theorem dX9_stem_1 : decode cX9_stem 1 = .ok (.iconst 0, 1) := by decide +kernel
theorem dX9_stem_2 : decode cX9_stem 2 = .ok (.putfield 193, 3) := by decide +kernel
theorem dX9_stem_5 : decode cX9_stem 5 = .ok (.aload_n 0, 1) := by decide +kernel
theorem dX9_stem_6 : decode cX9_stem 6 = .ok (.getfield 178, 3) := by decide +kernel
theorem dX9_stem_9 : decode cX9_stem 9 = .ok (.ireturn, 1) := by decide +kernel
abbrev MX9_stem : zT := (yX9_stem, cX9_stem, 1, (Option.some Jvm.ClassFile.FieldType.int), [])
theorem plX9_stem : zplain MX9_stem 0 ∧ (zcodeW MX9_stem ∈ lw_all ∧ Cond.initialized MX9_stem.1.cls ∈ lw_all) := ⟨⟨by decide +kernel, by decide +kernel⟩, q2396, q127⟩
noncomputable def f_X9_stem (x0 : Int) (σ : zM) : Option zO :=
  (zpf σ 900 x0 0).bind fun σ1 =>
  (zgf σ1 978 x0).bind fun v2 =>
  some (0, zi v2, σ1)
theorem c_X9_stem {g : zG} {lv : Nat} {x0 : Int} {σ : zM} {out : zO} (h : f_X9_stem x0 σ = some out) : Cj g (lv) MX9_stem [zr x0] σ out := by
  refine cj_go (ls := [(0, zr x0)]) (by decide) (Nat.le_of_ble_eq_true rfl) rfl (zgen h (fun r hk => ?_))
  unfold f_X9_stem
  refine zst_ (gj_aload_n 0 (pc := 0) dX9_stem_0 rfl) ?_
  refine zst_ (gj_iconst (pc := 1) dX9_stem_1 (by decide)) ?_
  refine gb_put (pc := 2) fl900 fr900 dX9_stem_2 q1882 (Or.inl rfl) (fun σ1 => ?_)
  refine zst_ (gj_aload_n 0 (pc := 5) dX9_stem_5 rfl) ?_
  refine gb_get (pc := 6) fl978 dX9_stem_6 q1960 (Or.inl rfl) (fun v2 => ?_)
  intro h
  cases h
  have hk : (0, zi v2, σ1) = out := hk
  subst hk
  exact gj_ret (pc := 9) (t := .int) dX9_stem_9 rfl ⟨rfl, rfl⟩ (fun h => h)
theorem q2400 : (Jvm.Cond.code ({ cls := "LassoFinderModel", name := "cycle", desc := "()I" } : Jvm.MethodName) prog_22_method_68_code (1 : Nat) (Option.some Jvm.ClassFile.FieldType.int)) ∈ lw_all := lw_g (lw_at lw_m10 140 rfl) rfl
abbrev cX9_cycle : ByteArray := prog_22_method_68_code
def yX9_cycle : MethodName := ⟨RX9, "cycle", "()I"⟩
theorem dX9_cycle_0 : decode cX9_cycle 0 = .ok (.aload_n 0, 1) := by decide +kernel
theorem dX9_cycle_1 : decode cX9_cycle 1 = .ok (.iconst 0, 1) := by decide +kernel
theorem dX9_cycle_2 : decode cX9_cycle 2 = .ok (.putfield 193, 3) := by decide +kernel
theorem dX9_cycle_5 : decode cX9_cycle 5 = .ok (.aload_n 0, 1) := by decide +kernel
theorem dX9_cycle_6 : decode cX9_cycle 6 = .ok (.getfield 178, 3) := by decide +kernel
theorem dX9_cycle_9 : decode cX9_cycle 9 = .ok (.ifCond .ge 7, 3) := by decide +kernel
theorem dX9_cycle_12 : decode cX9_cycle 12 = .ok (.iconst 0, 1) := by decide +kernel
theorem dX9_cycle_13 : decode cX9_cycle 13 = .ok (.goto 7, 3) := by decide +kernel
theorem dX9_cycle_16 : decode cX9_cycle 16 = .ok (.aload_n 0, 1) := by decide +kernel
theorem dX9_cycle_17 : decode cX9_cycle 17 = .ok (.getfield 448, 3) := by decide +kernel
theorem dX9_cycle_20 : decode cX9_cycle 20 = .ok (.ireturn, 1) := by decide +kernel
abbrev MX9_cycle : zT := (yX9_cycle, cX9_cycle, 1, (Option.some Jvm.ClassFile.FieldType.int), [])
theorem plX9_cycle : zplain MX9_cycle 0 ∧ (zcodeW MX9_cycle ∈ lw_all ∧ Cond.initialized MX9_cycle.1.cls ∈ lw_all) := ⟨⟨by decide +kernel, by decide +kernel⟩, q2400, q127⟩
noncomputable def f_X9_cycle_20 (t0 : Int) (σ : zM) : Option zO :=
  some (0, zi t0, σ)
theorem w_X9_cycle_20 {g : zG} {lv : Nat} {out : zO} (t0 : Int) (σ : zM) {r : zO} (h : f_X9_cycle_20 t0 σ = some r) (hk : (fun o : zO => o = out) r) : Gj g MX9_cycle (lv) 20 [] [zi t0] σ out := by
  revert h
  unfold f_X9_cycle_20
  intro h
  cases h
  have hk : (0, zi t0, σ) = out := hk
  subst hk
  exact gj_ret (pc := 20) (t := .int) dX9_cycle_20 rfl ⟨rfl, rfl⟩ (fun h => h)
noncomputable def f_X9_cycle (x0 : Int) (σ : zM) : Option zO :=
  (zpf σ 900 x0 0).bind fun σ1 =>
  (zgf σ1 978 x0).bind fun v2 =>
  if 0 ≤ v2 then
    (zgf σ1 979 x0).bind fun v3 =>
    f_X9_cycle_20 v3 σ1
  else
    f_X9_cycle_20 0 σ1
theorem c_X9_cycle {g : zG} {lv : Nat} {x0 : Int} {σ : zM} {out : zO} (h : f_X9_cycle x0 σ = some out) : Cj g (lv) MX9_cycle [zr x0] σ out := by
  refine cj_go (ls := [(0, zr x0)]) (by decide) (Nat.le_of_ble_eq_true rfl) rfl (zgen h (fun r hk => ?_))
  unfold f_X9_cycle
  refine zst_ (gj_aload_n 0 (pc := 0) dX9_cycle_0 rfl) ?_
  refine zst_ (gj_iconst (pc := 1) dX9_cycle_1 (by decide)) ?_
  refine gb_put (pc := 2) fl900 fr900 dX9_cycle_2 q1882 (Or.inl rfl) (fun σ1 => ?_)
  refine zst_ (gj_aload_n 0 (pc := 5) dX9_cycle_5 rfl) ?_
  refine gb_get (pc := 6) fl978 dX9_cycle_6 q1960 (Or.inl rfl) (fun v2 => ?_)
  refine gb_if (gj_if_ge 16 (pc := 9) dX9_cycle_9 (by decide)) ?_ ?_
  · refine zst_ (gj_aload_n 0 (pc := 16) dX9_cycle_16 rfl) ?_
    refine gb_get (pc := 17) fl979 dX9_cycle_17 q1961 (Or.inl rfl) (fun v3 => ?_)
    refine zst_ (gj_sub [] rfl) ?_
    exact fun h => w_X9_cycle_20 v3 σ1 h hk
  · refine zst_ (gj_iconst (pc := 12) dX9_cycle_12 (by decide)) ?_
    refine zst_ (gj_goto 20 (pc := 13) dX9_cycle_13 (by decide)) ?_
    refine zst_ (gj_sub [] rfl) ?_
    exact fun h => w_X9_cycle_20 0 σ1 h hk
theorem q2404 : (Jvm.Cond.code ({ cls := "LassoFinderModel", name := "lasso", desc := "(II)I" } : Jvm.MethodName) prog_22_method_69_code (4 : Nat) (Option.some Jvm.ClassFile.FieldType.int)) ∈ lw_all := lw_g (lw_at lw_m10 144 rfl) rfl
abbrev cX9_lasso : ByteArray := prog_22_method_69_code
def yX9_lasso : MethodName := ⟨RX9, "lasso", "(II)I"⟩
theorem dX9_lasso_0 : decode cX9_lasso 0 = .ok (.aload_n 0, 1) := by decide +kernel
theorem dX9_lasso_1 : decode cX9_lasso 1 = .ok (.aload_n 0, 1) := by decide +kernel
theorem dX9_lasso_2 : decode cX9_lasso 2 = .ok (.getfield 178, 3) := by decide +kernel
theorem dX9_lasso_5 : decode cX9_lasso 5 = .ok (.ifCond .lt 31, 3) := by decide +kernel
theorem dX9_lasso_8 : decode cX9_lasso 8 = .ok (.iload_n 1, 1) := by decide +kernel
theorem dX9_lasso_9 : decode cX9_lasso 9 = .ok (.iconst 0, 1) := by decide +kernel
theorem dX9_lasso_10 : decode cX9_lasso 10 = .ok (.aload_n 0, 1) := by decide +kernel
theorem dX9_lasso_11 : decode cX9_lasso 11 = .ok (.getfield 178, 3) := by decide +kernel
theorem dX9_lasso_14 : decode cX9_lasso 14 = .ok (.aload_n 0, 1) := by decide +kernel
theorem dX9_lasso_15 : decode cX9_lasso 15 = .ok (.getfield 448, 3) := by decide +kernel
theorem dX9_lasso_18 : decode cX9_lasso 18 = .ok (.iadd, 1) := by decide +kernel
theorem dX9_lasso_19 : decode cX9_lasso 19 = .ok (.iconst 1, 1) := by decide +kernel
theorem dX9_lasso_20 : decode cX9_lasso 20 = .ok (.isub, 1) := by decide +kernel
theorem dX9_lasso_21 : decode cX9_lasso 21 = .ok (.invokestatic 196, 3) := by decide +kernel
theorem dX9_lasso_24 : decode cX9_lasso 24 = .ok (.ifCond .eq 12, 3) := by decide +kernel
theorem dX9_lasso_27 : decode cX9_lasso 27 = .ok (.iload_n 2, 1) := by decide +kernel
theorem dX9_lasso_28 : decode cX9_lasso 28 = .ok (.iconst 0, 1) := by decide +kernel
theorem dX9_lasso_29 : decode cX9_lasso 29 = .ok (.iconst 2, 1) := by decide +kernel
theorem dX9_lasso_30 : decode cX9_lasso 30 = .ok (.invokestatic 196, 3) := by decide +kernel
theorem dX9_lasso_33 : decode cX9_lasso 33 = .ok (.ifCond .ne 7, 3) := by decide +kernel
theorem dX9_lasso_36 : decode cX9_lasso 36 = .ok (.iconst 1, 1) := by decide +kernel
theorem dX9_lasso_37 : decode cX9_lasso 37 = .ok (.goto 4, 3) := by decide +kernel
theorem dX9_lasso_40 : decode cX9_lasso 40 = .ok (.iconst 0, 1) := by decide +kernel
theorem dX9_lasso_41 : decode cX9_lasso 41 = .ok (.putfield 193, 3) := by decide +kernel
theorem dX9_lasso_44 : decode cX9_lasso 44 = .ok (.aload_n 0, 1) := by decide +kernel
theorem dX9_lasso_45 : decode cX9_lasso 45 = .ok (.getfield 193, 3) := by decide +kernel
theorem dX9_lasso_48 : decode cX9_lasso 48 = .ok (.ifCond .le 5, 3) := by decide +kernel
theorem dX9_lasso_51 : decode cX9_lasso 51 = .ok (.iconst 0, 1) := by decide +kernel
theorem dX9_lasso_52 : decode cX9_lasso 52 = .ok (.ireturn, 1) := by decide +kernel
theorem dX9_lasso_53 : decode cX9_lasso 53 = .ok (.aload_n 0, 1) := by decide +kernel
theorem dX9_lasso_54 : decode cX9_lasso 54 = .ok (.getfield 181, 3) := by decide +kernel
theorem dX9_lasso_57 : decode cX9_lasso 57 = .ok (.iload_n 1, 1) := by decide +kernel
theorem dX9_lasso_58 : decode cX9_lasso 58 = .ok (.invokestatic 451, 3) := by decide +kernel
theorem dX9_lasso_61 : decode cX9_lasso 61 = .ok (.istore_n 3, 1) := by decide +kernel
theorem dX9_lasso_62 : decode cX9_lasso 62 = .ok (.iload_n 2, 1) := by decide +kernel
theorem dX9_lasso_63 : decode cX9_lasso 63 = .ok (.ifCond .ne 19, 3) := by decide +kernel
theorem dX9_lasso_66 : decode cX9_lasso 66 = .ok (.iload_n 3, 1) := by decide +kernel
theorem dX9_lasso_67 : decode cX9_lasso 67 = .ok (.aload_n 0, 1) := by decide +kernel
theorem dX9_lasso_68 : decode cX9_lasso 68 = .ok (.getfield 109, 3) := by decide +kernel
theorem dX9_lasso_71 : decode cX9_lasso 71 = .ok (.aload_n 0, 1) := by decide +kernel
theorem dX9_lasso_72 : decode cX9_lasso 72 = .ok (.getfield 115, 3) := by decide +kernel
theorem dX9_lasso_75 : decode cX9_lasso 75 = .ok (.iload_n 3, 1) := by decide +kernel
theorem dX9_lasso_76 : decode cX9_lasso 76 = .ok (.iaload, 1) := by decide +kernel
theorem dX9_lasso_77 : decode cX9_lasso 77 = .ok (.iaload, 1) := by decide +kernel
theorem dX9_lasso_78 : decode cX9_lasso 78 = .ok (.isub, 1) := by decide +kernel
theorem dX9_lasso_79 : decode cX9_lasso 79 = .ok (.goto 23, 3) := by decide +kernel
theorem dX9_lasso_82 : decode cX9_lasso 82 = .ok (.iload_n 2, 1) := by decide +kernel
theorem dX9_lasso_83 : decode cX9_lasso 83 = .ok (.iconst 1, 1) := by decide +kernel
theorem dX9_lasso_84 : decode cX9_lasso 84 = .ok (.if_icmp .ne 12, 3) := by decide +kernel
theorem dX9_lasso_87 : decode cX9_lasso 87 = .ok (.aload_n 0, 1) := by decide +kernel
theorem dX9_lasso_88 : decode cX9_lasso 88 = .ok (.getfield 118, 3) := by decide +kernel
theorem dX9_lasso_91 : decode cX9_lasso 91 = .ok (.iload_n 3, 1) := by decide +kernel
theorem dX9_lasso_92 : decode cX9_lasso 92 = .ok (.iaload, 1) := by decide +kernel
theorem dX9_lasso_93 : decode cX9_lasso 93 = .ok (.goto 9, 3) := by decide +kernel
theorem dX9_lasso_96 : decode cX9_lasso 96 = .ok (.aload_n 0, 1) := by decide +kernel
theorem dX9_lasso_97 : decode cX9_lasso 97 = .ok (.getfield 121, 3) := by decide +kernel
theorem dX9_lasso_100 : decode cX9_lasso 100 = .ok (.iload_n 3, 1) := by decide +kernel
theorem dX9_lasso_101 : decode cX9_lasso 101 = .ok (.iaload, 1) := by decide +kernel
theorem dX9_lasso_102 : decode cX9_lasso 102 = .ok (.ireturn, 1) := by decide +kernel
abbrev MX9_lasso : zT := (yX9_lasso, cX9_lasso, 4, (Option.some Jvm.ClassFile.FieldType.int), [])
theorem plX9_lasso : zplain MX9_lasso 2 ∧ (zcodeW MX9_lasso ∈ lw_all ∧ Cond.initialized MX9_lasso.1.cls ∈ lw_all) := ⟨⟨by decide +kernel, by decide +kernel⟩, q2404, q127⟩
noncomputable def f_X9_lasso_102 (t0 : Int) (σ : zM) : Option zO :=
  some (0, zi t0, σ)
theorem w_X9_lasso_102 {g : zG} {lv : Nat} {out : zO} (t0 : Int) (σ : zM) {r : zO} (h : f_X9_lasso_102 t0 σ = some r) (hk : (fun o : zO => o = out) r) : Gj g MX9_lasso (lv + 1) 102 [] [zi t0] σ out := by
  revert h
  unfold f_X9_lasso_102
  intro h
  cases h
  have hk : (0, zi t0, σ) = out := hk
  subst hk
  exact gj_ret (pc := 102) (t := .int) dX9_lasso_102 rfl ⟨rfl, rfl⟩ (fun h => h)
noncomputable def f_X9_lasso_41 (x0 x1 x2 t0 t1 : Int) (σ : zM) : Option zO :=
  (zpf σ 900 t1 t0).bind fun σ1 =>
  (zgf σ1 900 x0).bind fun v2 =>
  if v2 ≤ 0 then
    (zgf σ1 980 x0).bind fun v3 =>
    zci (f_X9_stepOf v3 x1 σ1) fun v4 σ5 =>
    if x2 ≠ 0 then
      if x2 ≠ 1 then
        (zgf σ5 952 x0).bind fun v6 =>
        (zga σ5 101 v6 v4).bind fun v7 =>
        f_X9_lasso_102 v7 σ5
      else
        (zgf σ5 951 x0).bind fun v8 =>
        (zga σ5 101 v8 v4).bind fun v9 =>
        f_X9_lasso_102 v9 σ5
    else
      (zgf σ5 948 x0).bind fun v10 =>
      (zgf σ5 950 x0).bind fun v11 =>
      (zga σ5 101 v11 v4).bind fun v12 =>
      (zga σ5 101 v10 v12).bind fun v13 =>
      f_X9_lasso_102 (zsub v4 v13) σ5
  else
    some (0, zi 0, σ1)
theorem w_X9_lasso_41 {g : zG} {lv : Nat} {out : zO} (x0 x1 x2 t0 t1 : Int) (σ : zM) {r : zO} (h : f_X9_lasso_41 x0 x1 x2 t0 t1 σ = some r) (hk : (fun o : zO => o = out) r) : Gj g MX9_lasso (lv + 1) 41 [(0, zr x0), (1, zi x1), (2, zi x2)] [zi t0, zr t1] σ out := by
  revert h
  unfold f_X9_lasso_41
  refine gb_put (pc := 41) fl900 fr900 dX9_lasso_41 q1882 (Or.inl rfl) (fun σ1 => ?_)
  refine zst_ (gj_aload_n 0 (pc := 44) dX9_lasso_44 rfl) ?_
  refine gb_get (pc := 45) fl900 dX9_lasso_45 q1882 (Or.inl rfl) (fun v2 => ?_)
  refine gb_if (gj_if_le 53 (pc := 48) dX9_lasso_48 (by decide)) ?_ ?_
  · refine zst_ (gj_aload_n 0 (pc := 53) dX9_lasso_53 rfl) ?_
    refine gb_get (pc := 54) fl980 dX9_lasso_54 q1962 (Or.inl rfl) (fun v3 => ?_)
    refine zst_ (gj_iload_n 1 (pc := 57) dX9_lasso_57 rfl) ?_
    refine gb_callI (pc := 58) (as := [zr v3, zi x1]) (rest := []) (zCl.of (zLk_S (M := MX9_lasso) plX9_stepOf.1 rfl dX9_lasso_58 q2378 q2379 q127 q2380) plX9_stepOf (Nat.le_of_ble_eq_true rfl) (fun h => c_X9_stepOf h)) (fun v4 σ5 => ?_)
    refine zst_ (gj_istore_n (pc := 61) (ls' := [(3, zi v4), (0, zr x0), (1, zi x1), (2, zi x2)]) dX9_lasso_61 (by decide) rfl) ?_
    refine zst_ (gj_iload_n 3 (pc := 62) dX9_lasso_62 rfl) ?_
    refine gb_if (gj_if_ne 82 (pc := 63) dX9_lasso_63 (by decide)) ?_ ?_
    · refine zst_ (gj_iload_n 3 (pc := 82) dX9_lasso_82 rfl) ?_
      refine zst_ (gj_iconst (pc := 83) dX9_lasso_83 (by decide)) ?_
      refine gb_if (gj_icmp_ne 96 (pc := 84) dX9_lasso_84 (by decide)) ?_ ?_
      · refine zst_ (gj_aload_n 1 (pc := 96) dX9_lasso_96 rfl) ?_
        refine gb_get (pc := 97) fl952 dX9_lasso_97 q1934 (Or.inl rfl) (fun v6 => ?_)
        refine zst_ (gj_iload_n 0 (pc := 100) dX9_lasso_100 rfl) ?_
        refine gb_iald (pc := 101) dX9_lasso_101 (fun v7 => ?_)
        refine zst_ (gj_sub [] rfl) ?_
        exact fun h => w_X9_lasso_102 v7 σ5 h hk
      · refine zst_ (gj_aload_n 1 (pc := 87) dX9_lasso_87 rfl) ?_
        refine gb_get (pc := 88) fl951 dX9_lasso_88 q1933 (Or.inl rfl) (fun v8 => ?_)
        refine zst_ (gj_iload_n 0 (pc := 91) dX9_lasso_91 rfl) ?_
        refine gb_iald (pc := 92) dX9_lasso_92 (fun v9 => ?_)
        refine zst_ (gj_goto 102 (pc := 93) dX9_lasso_93 (by decide)) ?_
        refine zst_ (gj_sub [] rfl) ?_
        exact fun h => w_X9_lasso_102 v9 σ5 h hk
    · refine zst_ (gj_iload_n 0 (pc := 66) dX9_lasso_66 rfl) ?_
      refine zst_ (gj_aload_n 1 (pc := 67) dX9_lasso_67 rfl) ?_
      refine gb_get (pc := 68) fl948 dX9_lasso_68 q1930 (Or.inl rfl) (fun v10 => ?_)
      refine zst_ (gj_aload_n 1 (pc := 71) dX9_lasso_71 rfl) ?_
      refine gb_get (pc := 72) fl950 dX9_lasso_72 q1932 (Or.inl rfl) (fun v11 => ?_)
      refine zst_ (gj_iload_n 0 (pc := 75) dX9_lasso_75 rfl) ?_
      refine gb_iald (pc := 76) dX9_lasso_76 (fun v12 => ?_)
      refine gb_iald (pc := 77) dX9_lasso_77 (fun v13 => ?_)
      refine zst_ (gj_isub (pc := 78) dX9_lasso_78) ?_
      refine zst_ (gj_goto 102 (pc := 79) dX9_lasso_79 (by decide)) ?_
      refine zst_ (gj_sub [] rfl) ?_
      exact fun h => w_X9_lasso_102 (zsub v4 v13) σ5 h hk
  · refine zst_ (gj_iconst (pc := 51) dX9_lasso_51 (by decide)) ?_
    intro h
    cases h
    have hk : (0, zi 0, σ1) = out := hk
    subst hk
    exact gj_ret (pc := 52) (t := .int) dX9_lasso_52 rfl ⟨rfl, rfl⟩ (fun h => h)
noncomputable def f_X9_lasso_36 (x0 x1 x2 t0 : Int) (σ : zM) : Option zO :=
  f_X9_lasso_41 x0 x1 x2 1 t0 σ
theorem w_X9_lasso_36 {g : zG} {lv : Nat} {out : zO} (x0 x1 x2 t0 : Int) (σ : zM) {r : zO} (h : f_X9_lasso_36 x0 x1 x2 t0 σ = some r) (hk : (fun o : zO => o = out) r) : Gj g MX9_lasso (lv + 1) 36 [(0, zr x0), (1, zi x1), (2, zi x2)] [zr t0] σ out := by
  revert h
  unfold f_X9_lasso_36
  refine zst_ (gj_iconst (pc := 36) dX9_lasso_36 (by decide)) ?_
  refine zst_ (gj_goto 41 (pc := 37) dX9_lasso_37 (by decide)) ?_
  exact fun h => w_X9_lasso_41 x0 x1 x2 1 t0 σ h hk
noncomputable def f_X9_lasso (x0 x1 x2 : Int) (σ : zM) : Option zO :=
  (zgf σ 978 x0).bind fun v1 =>
  if v1 < 0 then
    f_X9_lasso_36 x0 x1 x2 x0 σ
  else
    (zgf σ 978 x0).bind fun v2 =>
    (zgf σ 979 x0).bind fun v3 =>
    zci (f_X9_in x1 0 (zsub (zadd v2 v3) 1) σ) fun v4 σ5 =>
    if v4 = 0 then
      f_X9_lasso_36 x0 x1 x2 x0 σ5
    else
      zci (f_X9_in x2 0 2 σ5) fun v6 σ7 =>
      if v6 ≠ 0 then
        f_X9_lasso_41 x0 x1 x2 0 x0 σ7
      else
        f_X9_lasso_36 x0 x1 x2 x0 σ7
theorem c_X9_lasso {g : zG} {lv : Nat} {x0 x1 x2 : Int} {σ : zM} {out : zO} (h : f_X9_lasso x0 x1 x2 σ = some out) : Cj g (lv + 1) MX9_lasso [zr x0, zi x1, zi x2] σ out := by
  refine cj_go (ls := [(0, zr x0), (1, zi x1), (2, zi x2)]) (by decide) (Nat.le_of_ble_eq_true rfl) rfl (zgen h (fun r hk => ?_))
  unfold f_X9_lasso
  refine zst_ (gj_aload_n 0 (pc := 0) dX9_lasso_0 rfl) ?_
  refine zst_ (gj_aload_n 0 (pc := 1) dX9_lasso_1 rfl) ?_
  refine gb_get (pc := 2) fl978 dX9_lasso_2 q1960 (Or.inl rfl) (fun v1 => ?_)
  refine gb_if (gj_if_lt 36 (pc := 5) dX9_lasso_5 (by decide)) ?_ ?_
  · exact fun h => w_X9_lasso_36 x0 x1 x2 x0 σ h hk
  · refine zst_ (gj_iload_n 1 (pc := 8) dX9_lasso_8 rfl) ?_
    refine zst_ (gj_iconst (pc := 9) dX9_lasso_9 (by decide)) ?_
    refine zst_ (gj_aload_n 0 (pc := 10) dX9_lasso_10 rfl) ?_
    refine gb_get (pc := 11) fl978 dX9_lasso_11 q1960 (Or.inl rfl) (fun v2 => ?_)
    refine zst_ (gj_aload_n 0 (pc := 14) dX9_lasso_14 rfl) ?_
    refine gb_get (pc := 15) fl979 dX9_lasso_15 q1961 (Or.inl rfl) (fun v3 => ?_)
    refine zst_ (gj_iadd (pc := 18) dX9_lasso_18) ?_
    refine zst_ (gj_iconst (pc := 19) dX9_lasso_19 (by decide)) ?_
    refine zst_ (gj_isub (pc := 20) dX9_lasso_20) ?_
    refine gb_callI (pc := 21) (as := [zi x1, zi 0, zi (zsub (zadd v2 v3) 1)]) (rest := [zr x0]) (zCl.of (zLk_S (M := MX9_lasso) plX9_in.1 rfl dX9_lasso_21 q2143 q2144 q127 q2145) plX9_in (Nat.le_of_ble_eq_true rfl) (fun h => c_X9_in h)) (fun v4 σ5 => ?_)
    refine gb_if (gj_if_eq 36 (pc := 24) dX9_lasso_24 (by decide)) ?_ ?_
    · exact fun h => w_X9_lasso_36 x0 x1 x2 x0 σ5 h hk
    · refine zst_ (gj_iload_n 2 (pc := 27) dX9_lasso_27 rfl) ?_
      refine zst_ (gj_iconst (pc := 28) dX9_lasso_28 (by decide)) ?_
      refine zst_ (gj_iconst (pc := 29) dX9_lasso_29 (by decide)) ?_
      refine gb_callI (pc := 30) (as := [zi x2, zi 0, zi 2]) (rest := [zr x0]) (zCl.of (zLk_S (M := MX9_lasso) plX9_in.1 rfl dX9_lasso_30 q2143 q2144 q127 q2145) plX9_in (Nat.le_of_ble_eq_true rfl) (fun h => c_X9_in h)) (fun v6 σ7 => ?_)
      refine gb_if (gj_if_ne 40 (pc := 33) dX9_lasso_33 (by decide)) ?_ ?_
      · refine zst_ (gj_iconst (pc := 40) dX9_lasso_40 (by decide)) ?_
        exact fun h => w_X9_lasso_41 x0 x1 x2 0 x0 σ7 h hk
      · exact fun h => w_X9_lasso_36 x0 x1 x2 x0 σ7 h hk
theorem q2408 : (Jvm.Cond.code ({ cls := "LassoFinderModel", name := "walk", desc := "()V" } : Jvm.MethodName) prog_22_method_70_code (1 : Nat) (Option.none : Option Jvm.ClassFile.FieldType)) ∈ lw_all := lw_g (lw_at lw_m10 148 rfl) rfl
abbrev cX9_walk : ByteArray := prog_22_method_70_code
def yX9_walk : MethodName := ⟨RX9, "walk", "()V"⟩
theorem dX9_walk_0 : decode cX9_walk 0 = .ok (.aload_n 0, 1) := by decide +kernel
theorem dX9_walk_1 : decode cX9_walk 1 = .ok (.aload_n 0, 1) := by decide +kernel
theorem dX9_walk_2 : decode cX9_walk 2 = .ok (.getfield 361, 3) := by decide +kernel
theorem dX9_walk_5 : decode cX9_walk 5 = .ok (.ifCond .eq 7, 3) := by decide +kernel
theorem dX9_walk_8 : decode cX9_walk 8 = .ok (.iconst 0, 1) := by decide +kernel
theorem dX9_walk_9 : decode cX9_walk 9 = .ok (.goto 4, 3) := by decide +kernel
theorem dX9_walk_12 : decode cX9_walk 12 = .ok (.iconst 1, 1) := by decide +kernel
theorem dX9_walk_13 : decode cX9_walk 13 = .ok (.putfield 193, 3) := by decide +kernel
theorem dX9_walk_16 : decode cX9_walk 16 = .ok (.aload_n 0, 1) := by decide +kernel
theorem dX9_walk_17 : decode cX9_walk 17 = .ok (.getfield 361, 3) := by decide +kernel
theorem dX9_walk_20 : decode cX9_walk 20 = .ok (.ifCond .ne 4, 3) := by decide +kernel
theorem dX9_walk_23 : decode cX9_walk 23 = .ok (.return_, 1) := by decide +kernel
theorem dX9_walk_24 : decode cX9_walk 24 = .ok (.aload_n 0, 1) := by decide +kernel
theorem dX9_walk_25 : decode cX9_walk 25 = .ok (.iconst 0, 1) := by decide +kernel
theorem dX9_walk_26 : decode cX9_walk 26 = .ok (.putfield 187, 3) := by decide +kernel
theorem dX9_walk_29 : decode cX9_walk 29 = .ok (.aload_n 0, 1) := by decide +kernel
theorem dX9_walk_30 : decode cX9_walk 30 = .ok (.getfield 190, 3) := by decide +kernel
theorem dX9_walk_33 : decode cX9_walk 33 = .ok (.iconst 0, 1) := by decide +kernel
theorem dX9_walk_34 : decode cX9_walk 34 = .ok (.iconst 0, 1) := by decide +kernel
theorem dX9_walk_35 : decode cX9_walk 35 = .ok (.iastore, 1) := by decide +kernel
theorem dX9_walk_36 : decode cX9_walk 36 = .ok (.return_, 1) := by decide +kernel
abbrev MX9_walk : zT := (yX9_walk, cX9_walk, 1, (Option.none : Option Jvm.ClassFile.FieldType), [])
theorem plX9_walk : zplain MX9_walk 0 ∧ (zcodeW MX9_walk ∈ lw_all ∧ Cond.initialized MX9_walk.1.cls ∈ lw_all) := ⟨⟨by decide +kernel, by decide +kernel⟩, q2408, q127⟩
noncomputable def f_X9_walk_13 (x0 t0 t1 : Int) (σ : zM) : Option zO :=
  (zpf σ 900 t1 t0).bind fun σ1 =>
  (zgf σ1 906 x0).bind fun v2 =>
  if v2 ≠ 0 then
    (zpf σ1 982 x0 0).bind fun σ3 =>
    (zgf σ3 983 x0).bind fun v4 =>
    (zpa σ3 101 v4 0 0).bind fun σ5 =>
    some (0, ((3, 0) : zV), σ5)
  else
    some (0, ((3, 0) : zV), σ1)
theorem w_X9_walk_13 {g : zG} {lv : Nat} {out : zO} (x0 t0 t1 : Int) (σ : zM) {r : zO} (h : f_X9_walk_13 x0 t0 t1 σ = some r) (hk : (fun o : zO => o = out) r) : Gj g MX9_walk (lv) 13 [(0, zr x0)] [zi t0, zr t1] σ out := by
  revert h
  unfold f_X9_walk_13
  refine gb_put (pc := 13) fl900 fr900 dX9_walk_13 q1882 (Or.inl rfl) (fun σ1 => ?_)
  refine zst_ (gj_aload_n 0 (pc := 16) dX9_walk_16 rfl) ?_
  refine gb_get (pc := 17) fl906 dX9_walk_17 q1888 (Or.inl rfl) (fun v2 => ?_)
  refine gb_if (gj_if_ne 24 (pc := 20) dX9_walk_20 (by decide)) ?_ ?_
  · refine zst_ (gj_aload_n 0 (pc := 24) dX9_walk_24 rfl) ?_
    refine zst_ (gj_iconst (pc := 25) dX9_walk_25 (by decide)) ?_
    refine gb_put (pc := 26) fl982 fr982 dX9_walk_26 q1964 (Or.inl rfl) (fun σ3 => ?_)
    refine zst_ (gj_aload_n 0 (pc := 29) dX9_walk_29 rfl) ?_
    refine gb_get (pc := 30) fl983 dX9_walk_30 q1965 (Or.inl rfl) (fun v4 => ?_)
    refine zst_ (gj_iconst (pc := 33) dX9_walk_33 (by decide)) ?_
    refine zst_ (gj_iconst (pc := 34) dX9_walk_34 (by decide)) ?_
    refine gb_iast (pc := 35) dX9_walk_35 (fun σ5 => ?_)
    intro h
    cases h
    have hk : (0, ((3, 0) : zV), σ5) = out := hk
    subst hk
    exact gj_vret (pc := 36) dX9_walk_36 rfl
  · intro h
    cases h
    have hk : (0, ((3, 0) : zV), σ1) = out := hk
    subst hk
    exact gj_vret (pc := 23) dX9_walk_23 rfl
noncomputable def f_X9_walk (x0 : Int) (σ : zM) : Option zO :=
  (zgf σ 906 x0).bind fun v1 =>
  if v1 = 0 then
    f_X9_walk_13 x0 1 x0 σ
  else
    f_X9_walk_13 x0 0 x0 σ
theorem c_X9_walk {g : zG} {lv : Nat} {x0 : Int} {σ : zM} {out : zO} (h : f_X9_walk x0 σ = some out) : Cj g (lv) MX9_walk [zr x0] σ out := by
  refine cj_go (ls := [(0, zr x0)]) (by decide) (Nat.le_of_ble_eq_true rfl) rfl (zgen h (fun r hk => ?_))
  unfold f_X9_walk
  refine zst_ (gj_aload_n 0 (pc := 0) dX9_walk_0 rfl) ?_
  refine zst_ (gj_aload_n 0 (pc := 1) dX9_walk_1 rfl) ?_
  refine gb_get (pc := 2) fl906 dX9_walk_2 q1888 (Or.inl rfl) (fun v1 => ?_)
  refine gb_if (gj_if_eq 12 (pc := 5) dX9_walk_5 (by decide)) ?_ ?_
  · refine zst_ (gj_iconst (pc := 12) dX9_walk_12 (by decide)) ?_
    exact fun h => w_X9_walk_13 x0 1 x0 σ h hk
  · refine zst_ (gj_iconst (pc := 8) dX9_walk_8 (by decide)) ?_
    refine zst_ (gj_goto 13 (pc := 9) dX9_walk_9 (by decide)) ?_
    exact fun h => w_X9_walk_13 x0 0 x0 σ h hk
theorem q2412 : (Jvm.Cond.code ({ cls := "LassoFinderModel", name := "steps", desc := "()I" } : Jvm.MethodName) prog_22_method_71_code (1 : Nat) (Option.some Jvm.ClassFile.FieldType.int)) ∈ lw_all := lw_g (lw_at lw_m10 152 rfl) rfl
abbrev cX9_steps : ByteArray := prog_22_method_71_code
def yX9_steps : MethodName := ⟨RX9, "steps", "()I"⟩
theorem dX9_steps_0 : decode cX9_steps 0 = .ok (.aload_n 0, 1) := by decide +kernel
theorem dX9_steps_1 : decode cX9_steps 1 = .ok (.iconst 0, 1) := by decide +kernel
theorem dX9_steps_2 : decode cX9_steps 2 = .ok (.putfield 193, 3) := by decide +kernel
theorem dX9_steps_5 : decode cX9_steps 5 = .ok (.aload_n 0, 1) := by decide +kernel
theorem dX9_steps_6 : decode cX9_steps 6 = .ok (.getfield 187, 3) := by decide +kernel
theorem dX9_steps_9 : decode cX9_steps 9 = .ok (.ifCond .ge 7, 3) := by decide +kernel
theorem dX9_steps_12 : decode cX9_steps 12 = .ok (.iconst 0, 1) := by decide +kernel
theorem dX9_steps_13 : decode cX9_steps 13 = .ok (.goto 34, 3) := by decide +kernel
theorem dX9_steps_16 : decode cX9_steps 16 = .ok (.aload_n 0, 1) := by decide +kernel
theorem dX9_steps_17 : decode cX9_steps 17 = .ok (.getfield 109, 3) := by decide +kernel
theorem dX9_steps_20 : decode cX9_steps 20 = .ok (.aload_n 0, 1) := by decide +kernel
theorem dX9_steps_21 : decode cX9_steps 21 = .ok (.getfield 190, 3) := by decide +kernel
theorem dX9_steps_24 : decode cX9_steps 24 = .ok (.aload_n 0, 1) := by decide +kernel
theorem dX9_steps_25 : decode cX9_steps 25 = .ok (.getfield 187, 3) := by decide +kernel
theorem dX9_steps_28 : decode cX9_steps 28 = .ok (.iaload, 1) := by decide +kernel
theorem dX9_steps_29 : decode cX9_steps 29 = .ok (.iconst 1, 1) := by decide +kernel
theorem dX9_steps_30 : decode cX9_steps 30 = .ok (.iadd, 1) := by decide +kernel
theorem dX9_steps_31 : decode cX9_steps 31 = .ok (.iaload, 1) := by decide +kernel
theorem dX9_steps_32 : decode cX9_steps 32 = .ok (.aload_n 0, 1) := by decide +kernel
theorem dX9_steps_33 : decode cX9_steps 33 = .ok (.getfield 109, 3) := by decide +kernel
theorem dX9_steps_36 : decode cX9_steps 36 = .ok (.aload_n 0, 1) := by decide +kernel
theorem dX9_steps_37 : decode cX9_steps 37 = .ok (.getfield 190, 3) := by decide +kernel
theorem dX9_steps_40 : decode cX9_steps 40 = .ok (.aload_n 0, 1) := by decide +kernel
theorem dX9_steps_41 : decode cX9_steps 41 = .ok (.getfield 187, 3) := by decide +kernel
theorem dX9_steps_44 : decode cX9_steps 44 = .ok (.iaload, 1) := by decide +kernel
theorem dX9_steps_45 : decode cX9_steps 45 = .ok (.iaload, 1) := by decide +kernel
theorem dX9_steps_46 : decode cX9_steps 46 = .ok (.isub, 1) := by decide +kernel
theorem dX9_steps_47 : decode cX9_steps 47 = .ok (.ireturn, 1) := by decide +kernel
abbrev MX9_steps : zT := (yX9_steps, cX9_steps, 1, (Option.some Jvm.ClassFile.FieldType.int), [])
theorem plX9_steps : zplain MX9_steps 0 ∧ (zcodeW MX9_steps ∈ lw_all ∧ Cond.initialized MX9_steps.1.cls ∈ lw_all) := ⟨⟨by decide +kernel, by decide +kernel⟩, q2412, q127⟩
noncomputable def f_X9_steps_47 (t0 : Int) (σ : zM) : Option zO :=
  some (0, zi t0, σ)
theorem w_X9_steps_47 {g : zG} {lv : Nat} {out : zO} (t0 : Int) (σ : zM) {r : zO} (h : f_X9_steps_47 t0 σ = some r) (hk : (fun o : zO => o = out) r) : Gj g MX9_steps (lv) 47 [] [zi t0] σ out := by
  revert h
  unfold f_X9_steps_47
  intro h
  cases h
  have hk : (0, zi t0, σ) = out := hk
  subst hk
  exact gj_ret (pc := 47) (t := .int) dX9_steps_47 rfl ⟨rfl, rfl⟩ (fun h => h)
noncomputable def f_X9_steps (x0 : Int) (σ : zM) : Option zO :=
  (zpf σ 900 x0 0).bind fun σ1 =>
  (zgf σ1 982 x0).bind fun v2 =>
  if 0 ≤ v2 then
    (zgf σ1 948 x0).bind fun v3 =>
    (zgf σ1 983 x0).bind fun v4 =>
    (zgf σ1 982 x0).bind fun v5 =>
    (zga σ1 101 v4 v5).bind fun v6 =>
    (zga σ1 101 v3 (zadd v6 1)).bind fun v7 =>
    (zgf σ1 948 x0).bind fun v8 =>
    (zgf σ1 983 x0).bind fun v9 =>
    (zgf σ1 982 x0).bind fun v10 =>
    (zga σ1 101 v9 v10).bind fun v11 =>
    (zga σ1 101 v8 v11).bind fun v12 =>
    f_X9_steps_47 (zsub v7 v12) σ1
  else
    f_X9_steps_47 0 σ1
theorem c_X9_steps {g : zG} {lv : Nat} {x0 : Int} {σ : zM} {out : zO} (h : f_X9_steps x0 σ = some out) : Cj g (lv) MX9_steps [zr x0] σ out := by
  refine cj_go (ls := [(0, zr x0)]) (by decide) (Nat.le_of_ble_eq_true rfl) rfl (zgen h (fun r hk => ?_))
  unfold f_X9_steps
  refine zst_ (gj_aload_n 0 (pc := 0) dX9_steps_0 rfl) ?_
  refine zst_ (gj_iconst (pc := 1) dX9_steps_1 (by decide)) ?_
  refine gb_put (pc := 2) fl900 fr900 dX9_steps_2 q1882 (Or.inl rfl) (fun σ1 => ?_)
  refine zst_ (gj_aload_n 0 (pc := 5) dX9_steps_5 rfl) ?_
  refine gb_get (pc := 6) fl982 dX9_steps_6 q1964 (Or.inl rfl) (fun v2 => ?_)
  refine gb_if (gj_if_ge 16 (pc := 9) dX9_steps_9 (by decide)) ?_ ?_
  · refine zst_ (gj_aload_n 0 (pc := 16) dX9_steps_16 rfl) ?_
    refine gb_get (pc := 17) fl948 dX9_steps_17 q1930 (Or.inl rfl) (fun v3 => ?_)
    refine zst_ (gj_aload_n 0 (pc := 20) dX9_steps_20 rfl) ?_
    refine gb_get (pc := 21) fl983 dX9_steps_21 q1965 (Or.inl rfl) (fun v4 => ?_)
    refine zst_ (gj_aload_n 0 (pc := 24) dX9_steps_24 rfl) ?_
    refine gb_get (pc := 25) fl982 dX9_steps_25 q1964 (Or.inl rfl) (fun v5 => ?_)
    refine gb_iald (pc := 28) dX9_steps_28 (fun v6 => ?_)
    refine zst_ (gj_iconst (pc := 29) dX9_steps_29 (by decide)) ?_
    refine zst_ (gj_iadd (pc := 30) dX9_steps_30) ?_
    refine gb_iald (pc := 31) dX9_steps_31 (fun v7 => ?_)
    refine zst_ (gj_aload_n 0 (pc := 32) dX9_steps_32 rfl) ?_
    refine gb_get (pc := 33) fl948 dX9_steps_33 q1930 (Or.inl rfl) (fun v8 => ?_)
    refine zst_ (gj_aload_n 0 (pc := 36) dX9_steps_36 rfl) ?_
    refine gb_get (pc := 37) fl983 dX9_steps_37 q1965 (Or.inl rfl) (fun v9 => ?_)
    refine zst_ (gj_aload_n 0 (pc := 40) dX9_steps_40 rfl) ?_
    refine gb_get (pc := 41) fl982 dX9_steps_41 q1964 (Or.inl rfl) (fun v10 => ?_)
    refine gb_iald (pc := 44) dX9_steps_44 (fun v11 => ?_)
    refine gb_iald (pc := 45) dX9_steps_45 (fun v12 => ?_)
    refine zst_ (gj_isub (pc := 46) dX9_steps_46) ?_
    refine zst_ (gj_sub [] rfl) ?_
    exact fun h => w_X9_steps_47 (zsub v7 v12) σ1 h hk
  · refine zst_ (gj_iconst (pc := 12) dX9_steps_12 (by decide)) ?_
    refine zst_ (gj_goto 47 (pc := 13) dX9_steps_13 (by decide)) ?_
    refine zst_ (gj_sub [] rfl) ?_
    exact fun h => w_X9_steps_47 0 σ1 h hk
theorem q2416 : (Jvm.Cond.code ({ cls := "LassoFinderModel", name := "go", desc := "(I)I" } : Jvm.MethodName) prog_22_method_72_code (3 : Nat) (Option.some Jvm.ClassFile.FieldType.int)) ∈ lw_all := lw_g (lw_at lw_m10 156 rfl) rfl
abbrev cX9_go : ByteArray := prog_22_method_72_code
def yX9_go : MethodName := ⟨RX9, "go", "(I)I"⟩
theorem dX9_go_0 : decode cX9_go 0 = .ok (.aload_n 0, 1) := by decide +kernel
theorem dX9_go_1 : decode cX9_go 1 = .ok (.getfield 187, 3) := by decide +kernel
theorem dX9_go_4 : decode cX9_go 4 = .ok (.ifCond .ge 7, 3) := by decide +kernel
theorem dX9_go_7 : decode cX9_go 7 = .ok (.iconst 0, 1) := by decide +kernel
theorem dX9_go_8 : decode cX9_go 8 = .ok (.goto 12, 3) := by decide +kernel
theorem dX9_go_11 : decode cX9_go 11 = .ok (.aload_n 0, 1) := by decide +kernel
theorem dX9_go_12 : decode cX9_go 12 = .ok (.getfield 190, 3) := by decide +kernel
theorem dX9_go_15 : decode cX9_go 15 = .ok (.aload_n 0, 1) := by decide +kernel
theorem dX9_go_16 : decode cX9_go 16 = .ok (.getfield 187, 3) := by decide +kernel
theorem dX9_go_19 : decode cX9_go 19 = .ok (.iaload, 1) := by decide +kernel
theorem dX9_go_20 : decode cX9_go 20 = .ok (.istore_n 2, 1) := by decide +kernel
theorem dX9_go_21 : decode cX9_go 21 = .ok (.aload_n 0, 1) := by decide +kernel
theorem dX9_go_22 : decode cX9_go 22 = .ok (.aload_n 0, 1) := by decide +kernel
theorem dX9_go_23 : decode cX9_go 23 = .ok (.getfield 187, 3) := by decide +kernel
theorem dX9_go_26 : decode cX9_go 26 = .ok (.ifCond .ge 7, 3) := by decide +kernel
theorem dX9_go_29 : decode cX9_go 29 = .ok (.iconst 1, 1) := by decide +kernel
theorem dX9_go_30 : decode cX9_go 30 = .ok (.goto 46, 3) := by decide +kernel
theorem dX9_go_33 : decode cX9_go 33 = .ok (.iload_n 1, 1) := by decide +kernel
theorem dX9_go_34 : decode cX9_go 34 = .ok (.iconst 0, 1) := by decide +kernel
theorem dX9_go_35 : decode cX9_go 35 = .ok (.aload_n 0, 1) := by decide +kernel
theorem dX9_go_36 : decode cX9_go 36 = .ok (.getfield 109, 3) := by decide +kernel
theorem dX9_go_39 : decode cX9_go 39 = .ok (.iload_n 2, 1) := by decide +kernel
theorem dX9_go_40 : decode cX9_go 40 = .ok (.iconst 1, 1) := by decide +kernel
theorem dX9_go_41 : decode cX9_go 41 = .ok (.iadd, 1) := by decide +kernel
theorem dX9_go_42 : decode cX9_go 42 = .ok (.iaload, 1) := by decide +kernel
theorem dX9_go_43 : decode cX9_go 43 = .ok (.aload_n 0, 1) := by decide +kernel
theorem dX9_go_44 : decode cX9_go 44 = .ok (.getfield 109, 3) := by decide +kernel
theorem dX9_go_47 : decode cX9_go 47 = .ok (.iload_n 2, 1) := by decide +kernel
theorem dX9_go_48 : decode cX9_go 48 = .ok (.iaload, 1) := by decide +kernel
theorem dX9_go_49 : decode cX9_go 49 = .ok (.isub, 1) := by decide +kernel
theorem dX9_go_50 : decode cX9_go 50 = .ok (.iconst 1, 1) := by decide +kernel
theorem dX9_go_51 : decode cX9_go 51 = .ok (.isub, 1) := by decide +kernel
theorem dX9_go_52 : decode cX9_go 52 = .ok (.invokestatic 196, 3) := by decide +kernel
theorem dX9_go_55 : decode cX9_go 55 = .ok (.ifCond .ne 7, 3) := by decide +kernel
theorem dX9_go_58 : decode cX9_go 58 = .ok (.iconst 2, 1) := by decide +kernel
theorem dX9_go_59 : decode cX9_go 59 = .ok (.goto 17, 3) := by decide +kernel
theorem dX9_go_62 : decode cX9_go 62 = .ok (.aload_n 0, 1) := by decide +kernel
theorem dX9_go_63 : decode cX9_go 63 = .ok (.getfield 187, 3) := by decide +kernel
theorem dX9_go_66 : decode cX9_go 66 = .ok (.bipush 60, 2) := by decide +kernel
theorem dX9_go_68 : decode cX9_go 68 = .ok (.if_icmp .ne 7, 3) := by decide +kernel
theorem dX9_go_71 : decode cX9_go 71 = .ok (.iconst 3, 1) := by decide +kernel
theorem dX9_go_72 : decode cX9_go 72 = .ok (.goto 4, 3) := by decide +kernel
theorem dX9_go_75 : decode cX9_go 75 = .ok (.iconst 0, 1) := by decide +kernel
theorem dX9_go_76 : decode cX9_go 76 = .ok (.putfield 193, 3) := by decide +kernel
theorem dX9_go_79 : decode cX9_go 79 = .ok (.aload_n 0, 1) := by decide +kernel
theorem dX9_go_80 : decode cX9_go 80 = .ok (.getfield 193, 3) := by decide +kernel
theorem dX9_go_83 : decode cX9_go 83 = .ok (.ifCond .le 5, 3) := by decide +kernel
theorem dX9_go_86 : decode cX9_go 86 = .ok (.iconst 0, 1) := by decide +kernel
theorem dX9_go_87 : decode cX9_go 87 = .ok (.ireturn, 1) := by decide +kernel
theorem dX9_go_88 : decode cX9_go 88 = .ok (.aload_n 0, 1) := by decide +kernel
theorem dX9_go_89 : decode cX9_go 89 = .ok (.dup, 1) := by decide +kernel
theorem dX9_go_90 : decode cX9_go 90 = .ok (.getfield 187, 3) := by decide +kernel
theorem dX9_go_93 : decode cX9_go 93 = .ok (.iconst 1, 1) := by decide +kernel
theorem dX9_go_94 : decode cX9_go 94 = .ok (.iadd, 1) := by decide +kernel
theorem dX9_go_95 : decode cX9_go 95 = .ok (.putfield 187, 3) := by decide +kernel
theorem dX9_go_98 : decode cX9_go 98 = .ok (.aload_n 0, 1) := by decide +kernel
theorem dX9_go_99 : decode cX9_go 99 = .ok (.getfield 190, 3) := by decide +kernel
theorem dX9_go_102 : decode cX9_go 102 = .ok (.aload_n 0, 1) := by decide +kernel
theorem dX9_go_103 : decode cX9_go 103 = .ok (.getfield 187, 3) := by decide +kernel
theorem dX9_go_106 : decode cX9_go 106 = .ok (.aload_n 0, 1) := by decide +kernel
theorem dX9_go_107 : decode cX9_go 107 = .ok (.getfield 112, 3) := by decide +kernel
theorem dX9_go_110 : decode cX9_go 110 = .ok (.aload_n 0, 1) := by decide +kernel
theorem dX9_go_111 : decode cX9_go 111 = .ok (.getfield 109, 3) := by decide +kernel
theorem dX9_go_114 : decode cX9_go 114 = .ok (.iload_n 2, 1) := by decide +kernel
theorem dX9_go_115 : decode cX9_go 115 = .ok (.iaload, 1) := by decide +kernel
theorem dX9_go_116 : decode cX9_go 116 = .ok (.iload_n 1, 1) := by decide +kernel
theorem dX9_go_117 : decode cX9_go 117 = .ok (.iadd, 1) := by decide +kernel
theorem dX9_go_118 : decode cX9_go 118 = .ok (.iaload, 1) := by decide +kernel
theorem dX9_go_119 : decode cX9_go 119 = .ok (.iastore, 1) := by decide +kernel
theorem dX9_go_120 : decode cX9_go 120 = .ok (.aload_n 0, 1) := by decide +kernel
theorem dX9_go_121 : decode cX9_go 121 = .ok (.getfield 118, 3) := by decide +kernel
theorem dX9_go_124 : decode cX9_go 124 = .ok (.aload_n 0, 1) := by decide +kernel
theorem dX9_go_125 : decode cX9_go 125 = .ok (.getfield 109, 3) := by decide +kernel
theorem dX9_go_128 : decode cX9_go 128 = .ok (.iload_n 2, 1) := by decide +kernel
theorem dX9_go_129 : decode cX9_go 129 = .ok (.iaload, 1) := by decide +kernel
theorem dX9_go_130 : decode cX9_go 130 = .ok (.iload_n 1, 1) := by decide +kernel
theorem dX9_go_131 : decode cX9_go 131 = .ok (.iadd, 1) := by decide +kernel
theorem dX9_go_132 : decode cX9_go 132 = .ok (.iaload, 1) := by decide +kernel
theorem dX9_go_133 : decode cX9_go 133 = .ok (.ireturn, 1) := by decide +kernel
abbrev MX9_go : zT := (yX9_go, cX9_go, 3, (Option.some Jvm.ClassFile.FieldType.int), [])
theorem plX9_go : zplain MX9_go 1 ∧ (zcodeW MX9_go ∈ lw_all ∧ Cond.initialized MX9_go.1.cls ∈ lw_all) := ⟨⟨by decide +kernel, by decide +kernel⟩, q2416, q127⟩
noncomputable def f_X9_go_76 (x0 x1 x2 t0 t1 : Int) (σ : zM) : Option zO :=
  (zpf σ 900 t1 t0).bind fun σ1 =>
  (zgf σ1 900 x0).bind fun v2 =>
  if v2 ≤ 0 then
    (zgf σ1 982 x0).bind fun v3 =>
    (zpf σ1 982 x0 (zadd v3 1)).bind fun σ4 =>
    (zgf σ4 983 x0).bind fun v5 =>
    (zgf σ4 982 x0).bind fun v6 =>
    (zgf σ4 949 x0).bind fun v7 =>
    (zgf σ4 948 x0).bind fun v8 =>
    (zga σ4 101 v8 x2).bind fun v9 =>
    (zga σ4 101 v7 (zadd v9 x1)).bind fun v10 =>
    (zpa σ4 101 v5 v6 v10).bind fun σ11 =>
    (zgf σ11 951 x0).bind fun v12 =>
    (zgf σ11 948 x0).bind fun v13 =>
    (zga σ11 101 v13 x2).bind fun v14 =>
    (zga σ11 101 v12 (zadd v14 x1)).bind fun v15 =>
    some (0, zi v15, σ11)
  else
    some (0, zi 0, σ1)
theorem w_X9_go_76 {g : zG} {lv : Nat} {out : zO} (x0 x1 x2 t0 t1 : Int) (σ : zM) {r : zO} (h : f_X9_go_76 x0 x1 x2 t0 t1 σ = some r) (hk : (fun o : zO => o = out) r) : Gj g MX9_go (lv + 1) 76 [(0, zr x0), (1, zi x1), (2, zi x2)] [zi t0, zr t1] σ out := by
  revert h
  unfold f_X9_go_76
  refine gb_put (pc := 76) fl900 fr900 dX9_go_76 q1882 (Or.inl rfl) (fun σ1 => ?_)
  refine zst_ (gj_aload_n 0 (pc := 79) dX9_go_79 rfl) ?_
  refine gb_get (pc := 80) fl900 dX9_go_80 q1882 (Or.inl rfl) (fun v2 => ?_)
  refine gb_if (gj_if_le 88 (pc := 83) dX9_go_83 (by decide)) ?_ ?_
  · refine zst_ (gj_aload_n 0 (pc := 88) dX9_go_88 rfl) ?_
    refine zst_ (gj_dup (pc := 89) dX9_go_89 rfl) ?_
    refine gb_get (pc := 90) fl982 dX9_go_90 q1964 (Or.inl rfl) (fun v3 => ?_)
    refine zst_ (gj_iconst (pc := 93) dX9_go_93 (by decide)) ?_
    refine zst_ (gj_iadd (pc := 94) dX9_go_94) ?_
    refine gb_put (pc := 95) fl982 fr982 dX9_go_95 q1964 (Or.inl rfl) (fun σ4 => ?_)
    refine zst_ (gj_aload_n 0 (pc := 98) dX9_go_98 rfl) ?_
    refine gb_get (pc := 99) fl983 dX9_go_99 q1965 (Or.inl rfl) (fun v5 => ?_)
    refine zst_ (gj_aload_n 0 (pc := 102) dX9_go_102 rfl) ?_
    refine gb_get (pc := 103) fl982 dX9_go_103 q1964 (Or.inl rfl) (fun v6 => ?_)
    refine zst_ (gj_aload_n 0 (pc := 106) dX9_go_106 rfl) ?_
    refine gb_get (pc := 107) fl949 dX9_go_107 q1931 (Or.inl rfl) (fun v7 => ?_)
    refine zst_ (gj_aload_n 0 (pc := 110) dX9_go_110 rfl) ?_
    refine gb_get (pc := 111) fl948 dX9_go_111 q1930 (Or.inl rfl) (fun v8 => ?_)
    refine zst_ (gj_iload_n 2 (pc := 114) dX9_go_114 rfl) ?_
    refine gb_iald (pc := 115) dX9_go_115 (fun v9 => ?_)
    refine zst_ (gj_iload_n 1 (pc := 116) dX9_go_116 rfl) ?_
    refine zst_ (gj_iadd (pc := 117) dX9_go_117) ?_
    refine gb_iald (pc := 118) dX9_go_118 (fun v10 => ?_)
    refine gb_iast (pc := 119) dX9_go_119 (fun σ11 => ?_)
    refine zst_ (gj_aload_n 0 (pc := 120) dX9_go_120 rfl) ?_
    refine gb_get (pc := 121) fl951 dX9_go_121 q1933 (Or.inl rfl) (fun v12 => ?_)
    refine zst_ (gj_aload_n 0 (pc := 124) dX9_go_124 rfl) ?_
    refine gb_get (pc := 125) fl948 dX9_go_125 q1930 (Or.inl rfl) (fun v13 => ?_)
    refine zst_ (gj_iload_n 2 (pc := 128) dX9_go_128 rfl) ?_
    refine gb_iald (pc := 129) dX9_go_129 (fun v14 => ?_)
    refine zst_ (gj_iload_n 1 (pc := 130) dX9_go_130 rfl) ?_
    refine zst_ (gj_iadd (pc := 131) dX9_go_131) ?_
    refine gb_iald (pc := 132) dX9_go_132 (fun v15 => ?_)
    intro h
    cases h
    have hk : (0, zi v15, σ11) = out := hk
    subst hk
    exact gj_ret (pc := 133) (t := .int) dX9_go_133 rfl ⟨rfl, rfl⟩ (fun h => h)
  · refine zst_ (gj_iconst (pc := 86) dX9_go_86 (by decide)) ?_
    intro h
    cases h
    have hk : (0, zi 0, σ1) = out := hk
    subst hk
    exact gj_ret (pc := 87) (t := .int) dX9_go_87 rfl ⟨rfl, rfl⟩ (fun h => h)
noncomputable def f_X9_go_20 (x0 x1 t0 : Int) (σ : zM) : Option zO :=
  (zgf σ 982 x0).bind fun v1 =>
  if 0 ≤ v1 then
    (zgf σ 948 x0).bind fun v2 =>
    (zga σ 101 v2 (zadd t0 1)).bind fun v3 =>
    (zgf σ 948 x0).bind fun v4 =>
    (zga σ 101 v4 t0).bind fun v5 =>
    zci (f_X9_in x1 0 (zsub (zsub v3 v5) 1) σ) fun v6 σ7 =>
    if v6 ≠ 0 then
      (zgf σ7 982 x0).bind fun v8 =>
      if v8 ≠ 60 then
        f_X9_go_76 x0 x1 t0 0 x0 σ7
      else
        f_X9_go_76 x0 x1 t0 3 x0 σ7
    else
      f_X9_go_76 x0 x1 t0 2 x0 σ7
  else
    f_X9_go_76 x0 x1 t0 1 x0 σ
theorem w_X9_go_20 {g : zG} {lv : Nat} {out : zO} (x0 x1 t0 : Int) (σ : zM) {r : zO} (h : f_X9_go_20 x0 x1 t0 σ = some r) (hk : (fun o : zO => o = out) r) : Gj g MX9_go (lv + 1) 20 [(0, zr x0), (1, zi x1)] [zi t0] σ out := by
  revert h
  unfold f_X9_go_20
  refine zst_ (gj_istore_n (pc := 20) (ls' := [(2, zi t0), (0, zr x0), (1, zi x1)]) dX9_go_20 (by decide) rfl) ?_
  refine zst_ (gj_aload_n 1 (pc := 21) dX9_go_21 rfl) ?_
  refine zst_ (gj_aload_n 1 (pc := 22) dX9_go_22 rfl) ?_
  refine gb_get (pc := 23) fl982 dX9_go_23 q1964 (Or.inl rfl) (fun v1 => ?_)
  refine gb_if (gj_if_ge 33 (pc := 26) dX9_go_26 (by decide)) ?_ ?_
  · refine zst_ (gj_iload_n 2 (pc := 33) dX9_go_33 rfl) ?_
    refine zst_ (gj_iconst (pc := 34) dX9_go_34 (by decide)) ?_
    refine zst_ (gj_aload_n 1 (pc := 35) dX9_go_35 rfl) ?_
    refine gb_get (pc := 36) fl948 dX9_go_36 q1930 (Or.inl rfl) (fun v2 => ?_)
    refine zst_ (gj_iload_n 0 (pc := 39) dX9_go_39 rfl) ?_
    refine zst_ (gj_iconst (pc := 40) dX9_go_40 (by decide)) ?_
    refine zst_ (gj_iadd (pc := 41) dX9_go_41) ?_
    refine gb_iald (pc := 42) dX9_go_42 (fun v3 => ?_)
    refine zst_ (gj_aload_n 1 (pc := 43) dX9_go_43 rfl) ?_
    refine gb_get (pc := 44) fl948 dX9_go_44 q1930 (Or.inl rfl) (fun v4 => ?_)
    refine zst_ (gj_iload_n 0 (pc := 47) dX9_go_47 rfl) ?_
    refine gb_iald (pc := 48) dX9_go_48 (fun v5 => ?_)
    refine zst_ (gj_isub (pc := 49) dX9_go_49) ?_
    refine zst_ (gj_iconst (pc := 50) dX9_go_50 (by decide)) ?_
    refine zst_ (gj_isub (pc := 51) dX9_go_51) ?_
    refine gb_callI (pc := 52) (as := [zi x1, zi 0, zi (zsub (zsub v3 v5) 1)]) (rest := [zr x0]) (zCl.of (zLk_S (M := MX9_go) plX9_in.1 rfl dX9_go_52 q2143 q2144 q127 q2145) plX9_in (Nat.le_of_ble_eq_true rfl) (fun h => c_X9_in h)) (fun v6 σ7 => ?_)
    refine gb_if (gj_if_ne 62 (pc := 55) dX9_go_55 (by decide)) ?_ ?_
    · refine zst_ (gj_aload_n 1 (pc := 62) dX9_go_62 rfl) ?_
      refine gb_get (pc := 63) fl982 dX9_go_63 q1964 (Or.inl rfl) (fun v8 => ?_)
      refine zst_ (gj_bipush (pc := 66) dX9_go_66 ⟨rfl, by decide⟩) ?_
      refine gb_if (gj_icmp_ne 75 (pc := 68) dX9_go_68 (by decide)) ?_ ?_
      · refine zst_ (gj_iconst (pc := 75) dX9_go_75 (by decide)) ?_
        refine zst_ (gj_sub [1, 2, 0] rfl) ?_
        exact fun h => w_X9_go_76 x0 x1 t0 0 x0 σ7 h hk
      · refine zst_ (gj_iconst (pc := 71) dX9_go_71 (by decide)) ?_
        refine zst_ (gj_goto 76 (pc := 72) dX9_go_72 (by decide)) ?_
        refine zst_ (gj_sub [1, 2, 0] rfl) ?_
        exact fun h => w_X9_go_76 x0 x1 t0 3 x0 σ7 h hk
    · refine zst_ (gj_iconst (pc := 58) dX9_go_58 (by decide)) ?_
      refine zst_ (gj_goto 76 (pc := 59) dX9_go_59 (by decide)) ?_
      refine zst_ (gj_sub [1, 2, 0] rfl) ?_
      exact fun h => w_X9_go_76 x0 x1 t0 2 x0 σ7 h hk
  · refine zst_ (gj_iconst (pc := 29) dX9_go_29 (by decide)) ?_
    refine zst_ (gj_goto 76 (pc := 30) dX9_go_30 (by decide)) ?_
    refine zst_ (gj_sub [1, 2, 0] rfl) ?_
    exact fun h => w_X9_go_76 x0 x1 t0 1 x0 σ h hk
noncomputable def f_X9_go (x0 x1 : Int) (σ : zM) : Option zO :=
  (zgf σ 982 x0).bind fun v1 =>
  if 0 ≤ v1 then
    (zgf σ 983 x0).bind fun v2 =>
    (zgf σ 982 x0).bind fun v3 =>
    (zga σ 101 v2 v3).bind fun v4 =>
    f_X9_go_20 x0 x1 v4 σ
  else
    f_X9_go_20 x0 x1 0 σ
theorem c_X9_go {g : zG} {lv : Nat} {x0 x1 : Int} {σ : zM} {out : zO} (h : f_X9_go x0 x1 σ = some out) : Cj g (lv + 1) MX9_go [zr x0, zi x1] σ out := by
  refine cj_go (ls := [(0, zr x0), (1, zi x1)]) (by decide) (Nat.le_of_ble_eq_true rfl) rfl (zgen h (fun r hk => ?_))
  unfold f_X9_go
  refine zst_ (gj_aload_n 0 (pc := 0) dX9_go_0 rfl) ?_
  refine gb_get (pc := 1) fl982 dX9_go_1 q1964 (Or.inl rfl) (fun v1 => ?_)
  refine gb_if (gj_if_ge 11 (pc := 4) dX9_go_4 (by decide)) ?_ ?_
  · refine zst_ (gj_aload_n 0 (pc := 11) dX9_go_11 rfl) ?_
    refine gb_get (pc := 12) fl983 dX9_go_12 q1965 (Or.inl rfl) (fun v2 => ?_)
    refine zst_ (gj_aload_n 0 (pc := 15) dX9_go_15 rfl) ?_
    refine gb_get (pc := 16) fl982 dX9_go_16 q1964 (Or.inl rfl) (fun v3 => ?_)
    refine gb_iald (pc := 19) dX9_go_19 (fun v4 => ?_)
    exact fun h => w_X9_go_20 x0 x1 v4 σ h hk
  · refine zst_ (gj_iconst (pc := 7) dX9_go_7 (by decide)) ?_
    refine zst_ (gj_goto 20 (pc := 8) dX9_go_8 (by decide)) ?_
    exact fun h => w_X9_go_20 x0 x1 0 σ h hk
theorem q2424 : (Jvm.Cond.code ({ cls := "LassoFinderModel", name := "stood", desc := "()Z" } : Jvm.MethodName) prog_22_method_73_code (1 : Nat) (Option.some Jvm.ClassFile.FieldType.boolean)) ∈ lw_all := lw_g (lw_at lw_m10 164 rfl) rfl
abbrev cX9_stood : ByteArray := prog_22_method_73_code
def yX9_stood : MethodName := ⟨RX9, "stood", "()Z"⟩
theorem dX9_stood_0 : decode cX9_stood 0 = .ok (.aload_n 0, 1) := by decide +kernel
theorem dX9_stood_1 : decode cX9_stood 1 = .ok (.iconst 0, 1) := by decide +kernel
theorem dX9_stood_2 : decode cX9_stood 2 = .ok (.putfield 193, 3) := by decide +kernel
theorem dX9_stood_5 : decode cX9_stood 5 = .ok (.aload_n 0, 1) := by decide +kernel
theorem dX9_stood_6 : decode cX9_stood 6 = .ok (.getfield 187, 3) := by decide +kernel
theorem dX9_stood_9 : decode cX9_stood 9 = .ok (.ifCond .lt 21, 3) := by decide +kernel
theorem dX9_stood_12 : decode cX9_stood 12 = .ok (.aload_n 0, 1) := by decide +kernel
theorem dX9_stood_13 : decode cX9_stood 13 = .ok (.aload_n 0, 1) := by decide +kernel
theorem dX9_stood_14 : decode cX9_stood 14 = .ok (.getfield 106, 3) := by decide +kernel
theorem dX9_stood_17 : decode cX9_stood 17 = .ok (.aload_n 0, 1) := by decide +kernel
theorem dX9_stood_18 : decode cX9_stood 18 = .ok (.getfield 190, 3) := by decide +kernel
theorem dX9_stood_21 : decode cX9_stood 21 = .ok (.aload_n 0, 1) := by decide +kernel
theorem dX9_stood_22 : decode cX9_stood 22 = .ok (.getfield 187, 3) := by decide +kernel
theorem dX9_stood_25 : decode cX9_stood 25 = .ok (.iaload, 1) := by decide +kernel
theorem dX9_stood_26 : decode cX9_stood 26 = .ok (.laload, 1) := by decide +kernel
theorem dX9_stood_27 : decode cX9_stood 27 = .ok (.invokevirtual 334, 3) := by decide +kernel
theorem dX9_stood_30 : decode cX9_stood 30 = .ok (.aload_n 0, 1) := by decide +kernel
theorem dX9_stood_31 : decode cX9_stood 31 = .ok (.getfield 187, 3) := by decide +kernel
theorem dX9_stood_34 : decode cX9_stood 34 = .ok (.ifCond .lt 7, 3) := by decide +kernel
theorem dX9_stood_37 : decode cX9_stood 37 = .ok (.iconst 1, 1) := by decide +kernel
theorem dX9_stood_38 : decode cX9_stood 38 = .ok (.goto 4, 3) := by decide +kernel
theorem dX9_stood_41 : decode cX9_stood 41 = .ok (.iconst 0, 1) := by decide +kernel
theorem dX9_stood_42 : decode cX9_stood 42 = .ok (.ireturn, 1) := by decide +kernel
abbrev MX9_stood : zT := (yX9_stood, cX9_stood, 1, (Option.some Jvm.ClassFile.FieldType.boolean), [])
theorem plX9_stood : zplain MX9_stood 0 ∧ (zcodeW MX9_stood ∈ lw_all ∧ Cond.initialized MX9_stood.1.cls ∈ lw_all) := ⟨⟨by decide +kernel, by decide +kernel⟩, q2424, q127⟩
noncomputable def f_X9_stood_42 (t0 : Int) (σ : zM) : Option zO :=
  zgd (z01 t0) <|
  some (0, zi t0, σ)
theorem w_X9_stood_42 {g : zG} {lv : Nat} {out : zO} (t0 : Int) (σ : zM) {r : zO} (h : f_X9_stood_42 t0 σ = some r) (hk : (fun o : zO => o = out) r) : Gj g MX9_stood (lv + 1) 42 [] [zi t0] σ out := by
  revert h
  unfold f_X9_stood_42
  refine gb_gd (fun hb => ?_)
  intro h
  cases h
  have hk : (0, zi t0, σ) = out := hk
  subst hk
  exact gj_ret (pc := 42) (t := .boolean) dX9_stood_42 rfl ⟨rfl, rfl⟩ (fun _ => z01E hb)
noncomputable def f_X9_stood_30 (x0 : Int) (σ : zM) : Option zO :=
  (zgf σ 982 x0).bind fun v1 =>
  if v1 < 0 then
    f_X9_stood_42 0 σ
  else
    f_X9_stood_42 1 σ
theorem w_X9_stood_30 {g : zG} {lv : Nat} {out : zO} (x0 : Int) (σ : zM) {r : zO} (h : f_X9_stood_30 x0 σ = some r) (hk : (fun o : zO => o = out) r) : Gj g MX9_stood (lv + 1) 30 [(0, zr x0)] [] σ out := by
  revert h
  unfold f_X9_stood_30
  refine zst_ (gj_aload_n 0 (pc := 30) dX9_stood_30 rfl) ?_
  refine gb_get (pc := 31) fl982 dX9_stood_31 q1964 (Or.inl rfl) (fun v1 => ?_)
  refine gb_if (gj_if_lt 41 (pc := 34) dX9_stood_34 (by decide)) ?_ ?_
  · refine zst_ (gj_iconst (pc := 41) dX9_stood_41 (by decide)) ?_
    refine zst_ (gj_sub [] rfl) ?_
    exact fun h => w_X9_stood_42 0 σ h hk
  · refine zst_ (gj_iconst (pc := 37) dX9_stood_37 (by decide)) ?_
    refine zst_ (gj_goto 42 (pc := 38) dX9_stood_38 (by decide)) ?_
    refine zst_ (gj_sub [] rfl) ?_
    exact fun h => w_X9_stood_42 1 σ h hk
noncomputable def f_X9_stood (x0 : Int) (σ : zM) : Option zO :=
  (zpf σ 900 x0 0).bind fun σ1 =>
  (zgf σ1 982 x0).bind fun v2 =>
  if v2 < 0 then
    f_X9_stood_30 x0 σ1
  else
    (zgf σ1 947 x0).bind fun v3 =>
    (zgf σ1 983 x0).bind fun v4 =>
    (zgf σ1 982 x0).bind fun v5 =>
    (zga σ1 101 v4 v5).bind fun v6 =>
    (zga σ1 102 v3 v6).bind fun v7 =>
    zgd (zis σ1 10 x0) <|
    zcv (f_X9_unpack x0 v7 σ1) fun σ8 =>
    f_X9_stood_30 x0 σ8
theorem c_X9_stood {g : zG} {lv : Nat} {x0 : Int} {σ : zM} {out : zO} (h : f_X9_stood x0 σ = some out) : Cj g (lv + 1) MX9_stood [zr x0] σ out := by
  refine cj_go (ls := [(0, zr x0)]) (by decide) (Nat.le_of_ble_eq_true rfl) rfl (zgen h (fun r hk => ?_))
  unfold f_X9_stood
  refine zst_ (gj_aload_n 0 (pc := 0) dX9_stood_0 rfl) ?_
  refine zst_ (gj_iconst (pc := 1) dX9_stood_1 (by decide)) ?_
  refine gb_put (pc := 2) fl900 fr900 dX9_stood_2 q1882 (Or.inl rfl) (fun σ1 => ?_)
  refine zst_ (gj_aload_n 0 (pc := 5) dX9_stood_5 rfl) ?_
  refine gb_get (pc := 6) fl982 dX9_stood_6 q1964 (Or.inl rfl) (fun v2 => ?_)
  refine gb_if (gj_if_lt 30 (pc := 9) dX9_stood_9 (by decide)) ?_ ?_
  · exact fun h => w_X9_stood_30 x0 σ1 h hk
  · refine zst_ (gj_aload_n 0 (pc := 12) dX9_stood_12 rfl) ?_
    refine zst_ (gj_aload_n 0 (pc := 13) dX9_stood_13 rfl) ?_
    refine gb_get (pc := 14) fl947 dX9_stood_14 q1929 (Or.inl rfl) (fun v3 => ?_)
    refine zst_ (gj_aload_n 0 (pc := 17) dX9_stood_17 rfl) ?_
    refine gb_get (pc := 18) fl983 dX9_stood_18 q1965 (Or.inl rfl) (fun v4 => ?_)
    refine zst_ (gj_aload_n 0 (pc := 21) dX9_stood_21 rfl) ?_
    refine gb_get (pc := 22) fl982 dX9_stood_22 q1964 (Or.inl rfl) (fun v5 => ?_)
    refine gb_iald (pc := 25) dX9_stood_25 (fun v6 => ?_)
    refine gb_lald (pc := 26) dX9_stood_26 (fun v7 => ?_)
    refine gb_gd (fun hb => ?_)
    refine gb_callV (pc := 27) (as := [zr x0, zj v7]) (rest := []) (zCl.of (zLk_V (M := MX9_stood) (ci := 9) (r := (RX9, TX9, 84)) plX9_unpack.1 rfl rfl (zisE hb).1 (zisE hb).2 dX9_stood_27 q2249 q2251 qs69 q2252) plX9_unpack (Nat.le_of_ble_eq_true rfl) (fun h => c_X9_unpack h)) (fun σ8 => ?_)
    exact fun h => w_X9_stood_30 x0 σ8 h hk
theorem q2420 : (Jvm.Cond.code ({ cls := "LassoFinderModel", name := "value", desc := "(I)I" } : Jvm.MethodName) prog_22_method_74_code (2 : Nat) (Option.some Jvm.ClassFile.FieldType.int)) ∈ lw_all := lw_g (lw_at lw_m10 160 rfl) rfl
theorem q2421 : (Jvm.Cond.methodLink "LassoFinderModel" (467 : Nat) ({ cls := "LassoFinderModel", name := "stood", desc := "()Z" } : Jvm.MethodName)) ∈ lw_all := lw_g (lw_at lw_m10 161 rfl) rfl
theorem q2423 : (Jvm.Cond.instanceMethod ({ cls := "LassoFinderModel", name := "stood", desc := "()Z" } : Jvm.MethodName)) ∈ lw_all := lw_g (lw_at lw_m10 163 rfl) rfl
abbrev cX9_value : ByteArray := prog_22_method_74_code
def yX9_value : MethodName := ⟨RX9, "value", "(I)I"⟩
theorem dX9_value_0 : decode cX9_value 0 = .ok (.aload_n 0, 1) := by decide +kernel
theorem dX9_value_1 : decode cX9_value 1 = .ok (.invokevirtual 467, 3) := by decide +kernel
theorem dX9_value_4 : decode cX9_value 4 = .ok (.ifCond .eq 13, 3) := by decide +kernel
theorem dX9_value_7 : decode cX9_value 7 = .ok (.iload_n 1, 1) := by decide +kernel
theorem dX9_value_8 : decode cX9_value 8 = .ok (.iconst 0, 1) := by decide +kernel
theorem dX9_value_9 : decode cX9_value 9 = .ok (.bipush 7, 2) := by decide +kernel
theorem dX9_value_11 : decode cX9_value 11 = .ok (.invokestatic 196, 3) := by decide +kernel
theorem dX9_value_14 : decode cX9_value 14 = .ok (.ifCond .ne 5, 3) := by decide +kernel
theorem dX9_value_17 : decode cX9_value 17 = .ok (.iconst (-1), 1) := by decide +kernel
theorem dX9_value_18 : decode cX9_value 18 = .ok (.ireturn, 1) := by decide +kernel
theorem dX9_value_19 : decode cX9_value 19 = .ok (.aload_n 0, 1) := by decide +kernel
theorem dX9_value_20 : decode cX9_value 20 = .ok (.getfield 17, 3) := by decide +kernel
theorem dX9_value_23 : decode cX9_value 23 = .ok (.iload_n 1, 1) := by decide +kernel
theorem dX9_value_24 : decode cX9_value 24 = .ok (.iaload, 1) := by decide +kernel
theorem dX9_value_25 : decode cX9_value 25 = .ok (.ifCond .lt 17, 3) := by decide +kernel
theorem dX9_value_28 : decode cX9_value 28 = .ok (.aload_n 0, 1) := by decide +kernel
theorem dX9_value_29 : decode cX9_value 29 = .ok (.getfield 130, 3) := by decide +kernel
theorem dX9_value_32 : decode cX9_value 32 = .ok (.aload_n 0, 1) := by decide +kernel
theorem dX9_value_33 : decode cX9_value 33 = .ok (.getfield 17, 3) := by decide +kernel
theorem dX9_value_36 : decode cX9_value 36 = .ok (.iload_n 1, 1) := by decide +kernel
theorem dX9_value_37 : decode cX9_value 37 = .ok (.iaload, 1) := by decide +kernel
theorem dX9_value_38 : decode cX9_value 38 = .ok (.iaload, 1) := by decide +kernel
theorem dX9_value_39 : decode cX9_value 39 = .ok (.goto 27, 3) := by decide +kernel
theorem dX9_value_42 : decode cX9_value 42 = .ok (.aload_n 0, 1) := by decide +kernel
theorem dX9_value_43 : decode cX9_value 43 = .ok (.getfield 20, 3) := by decide +kernel
theorem dX9_value_46 : decode cX9_value 46 = .ok (.iload_n 1, 1) := by decide +kernel
theorem dX9_value_47 : decode cX9_value 47 = .ok (.iaload, 1) := by decide +kernel
theorem dX9_value_48 : decode cX9_value 48 = .ok (.ifCond .lt 17, 3) := by decide +kernel
theorem dX9_value_51 : decode cX9_value 51 = .ok (.aload_n 0, 1) := by decide +kernel
theorem dX9_value_52 : decode cX9_value 52 = .ok (.getfield 133, 3) := by decide +kernel
theorem dX9_value_55 : decode cX9_value 55 = .ok (.aload_n 0, 1) := by decide +kernel
theorem dX9_value_56 : decode cX9_value 56 = .ok (.getfield 20, 3) := by decide +kernel
theorem dX9_value_59 : decode cX9_value 59 = .ok (.iload_n 1, 1) := by decide +kernel
theorem dX9_value_60 : decode cX9_value 60 = .ok (.iaload, 1) := by decide +kernel
theorem dX9_value_61 : decode cX9_value 61 = .ok (.iaload, 1) := by decide +kernel
theorem dX9_value_62 : decode cX9_value 62 = .ok (.goto 4, 3) := by decide +kernel
theorem dX9_value_65 : decode cX9_value 65 = .ok (.iconst (-1), 1) := by decide +kernel
theorem dX9_value_66 : decode cX9_value 66 = .ok (.ireturn, 1) := by decide +kernel
abbrev MX9_value : zT := (yX9_value, cX9_value, 2, (Option.some Jvm.ClassFile.FieldType.int), [])
theorem plX9_value : zplain MX9_value 1 ∧ (zcodeW MX9_value ∈ lw_all ∧ Cond.initialized MX9_value.1.cls ∈ lw_all) := ⟨⟨by decide +kernel, by decide +kernel⟩, q2420, q127⟩
noncomputable def f_X9_value_17 (σ : zM) : Option zO :=
  some (0, zi (-1), σ)
theorem w_X9_value_17 {g : zG} {lv : Nat} {out : zO} (σ : zM) {r : zO} (h : f_X9_value_17  σ = some r) (hk : (fun o : zO => o = out) r) : Gj g MX9_value (lv + 2) 17 [] [] σ out := by
  revert h
  unfold f_X9_value_17
  refine zst_ (gj_iconst (pc := 17) dX9_value_17 (by decide)) ?_
  intro h
  cases h
  have hk : (0, zi (-1), σ) = out := hk
  subst hk
  exact gj_ret (pc := 18) (t := .int) dX9_value_18 rfl ⟨rfl, rfl⟩ (fun h => h)
noncomputable def f_X9_value_66 (t0 : Int) (σ : zM) : Option zO :=
  some (0, zi t0, σ)
theorem w_X9_value_66 {g : zG} {lv : Nat} {out : zO} (t0 : Int) (σ : zM) {r : zO} (h : f_X9_value_66 t0 σ = some r) (hk : (fun o : zO => o = out) r) : Gj g MX9_value (lv + 2) 66 [] [zi t0] σ out := by
  revert h
  unfold f_X9_value_66
  intro h
  cases h
  have hk : (0, zi t0, σ) = out := hk
  subst hk
  exact gj_ret (pc := 66) (t := .int) dX9_value_66 rfl ⟨rfl, rfl⟩ (fun h => h)
noncomputable def f_X9_value (x0 x1 : Int) (σ : zM) : Option zO :=
  zgd (zis σ 10 x0) <|
  zci (f_X9_stood x0 σ) fun v1 σ2 =>
  if v1 = 0 then
    f_X9_value_17 σ2
  else
    zci (f_X9_in x1 0 7 σ2) fun v3 σ4 =>
    if v3 ≠ 0 then
      (zgf σ4 909 x0).bind fun v5 =>
      (zga σ4 101 v5 x1).bind fun v6 =>
      if v6 < 0 then
        (zgf σ4 910 x0).bind fun v7 =>
        (zga σ4 101 v7 x1).bind fun v8 =>
        if v8 < 0 then
          f_X9_value_66 (-1) σ4
        else
          (zgf σ4 956 x0).bind fun v9 =>
          (zgf σ4 910 x0).bind fun v10 =>
          (zga σ4 101 v10 x1).bind fun v11 =>
          (zga σ4 101 v9 v11).bind fun v12 =>
          f_X9_value_66 v12 σ4
      else
        (zgf σ4 955 x0).bind fun v13 =>
        (zgf σ4 909 x0).bind fun v14 =>
        (zga σ4 101 v14 x1).bind fun v15 =>
        (zga σ4 101 v13 v15).bind fun v16 =>
        f_X9_value_66 v16 σ4
    else
      f_X9_value_17 σ4
theorem c_X9_value {g : zG} {lv : Nat} {x0 x1 : Int} {σ : zM} {out : zO} (h : f_X9_value x0 x1 σ = some out) : Cj g (lv + 2) MX9_value [zr x0, zi x1] σ out := by
  refine cj_go (ls := [(0, zr x0), (1, zi x1)]) (by decide) (Nat.le_of_ble_eq_true rfl) rfl (zgen h (fun r hk => ?_))
  unfold f_X9_value
  refine zst_ (gj_aload_n 0 (pc := 0) dX9_value_0 rfl) ?_
  refine gb_gd (fun hb => ?_)
  refine gb_callI (pc := 1) (as := [zr x0]) (rest := []) (zCl.of (zLk_V (M := MX9_value) (ci := 9) (r := (RX9, TX9, 84)) plX9_stood.1 rfl rfl (zisE hb).1 (zisE hb).2 dX9_value_1 q2421 q2423 qs99 q2424) plX9_stood (Nat.le_of_ble_eq_true rfl) (fun h => c_X9_stood h)) (fun v1 σ2 => ?_)
  refine gb_if (gj_if_eq 17 (pc := 4) dX9_value_4 (by decide)) ?_ ?_
  · refine zst_ (gj_sub [] rfl) ?_
    exact fun h => w_X9_value_17 σ2 h hk
  · refine zst_ (gj_iload_n 1 (pc := 7) dX9_value_7 rfl) ?_
    refine zst_ (gj_iconst (pc := 8) dX9_value_8 (by decide)) ?_
    refine zst_ (gj_bipush (pc := 9) dX9_value_9 ⟨rfl, by decide⟩) ?_
    refine gb_callI (pc := 11) (as := [zi x1, zi 0, zi 7]) (rest := []) (zCl.of (zLk_S (M := MX9_value) plX9_in.1 rfl dX9_value_11 q2143 q2144 q127 q2145) plX9_in (Nat.le_of_ble_eq_true rfl) (fun h => c_X9_in h)) (fun v3 σ4 => ?_)
    refine gb_if (gj_if_ne 19 (pc := 14) dX9_value_14 (by decide)) ?_ ?_
    · refine zst_ (gj_aload_n 0 (pc := 19) dX9_value_19 rfl) ?_
      refine gb_get (pc := 20) fl909 dX9_value_20 q1891 (Or.inl rfl) (fun v5 => ?_)
      refine zst_ (gj_iload_n 1 (pc := 23) dX9_value_23 rfl) ?_
      refine gb_iald (pc := 24) dX9_value_24 (fun v6 => ?_)
      refine gb_if (gj_if_lt 42 (pc := 25) dX9_value_25 (by decide)) ?_ ?_
      · refine zst_ (gj_aload_n 0 (pc := 42) dX9_value_42 rfl) ?_
        refine gb_get (pc := 43) fl910 dX9_value_43 q1892 (Or.inl rfl) (fun v7 => ?_)
        refine zst_ (gj_iload_n 1 (pc := 46) dX9_value_46 rfl) ?_
        refine gb_iald (pc := 47) dX9_value_47 (fun v8 => ?_)
        refine gb_if (gj_if_lt 65 (pc := 48) dX9_value_48 (by decide)) ?_ ?_
        · refine zst_ (gj_iconst (pc := 65) dX9_value_65 (by decide)) ?_
          refine zst_ (gj_sub [] rfl) ?_
          exact fun h => w_X9_value_66 (-1) σ4 h hk
        · refine zst_ (gj_aload_n 0 (pc := 51) dX9_value_51 rfl) ?_
          refine gb_get (pc := 52) fl956 dX9_value_52 q1938 (Or.inl rfl) (fun v9 => ?_)
          refine zst_ (gj_aload_n 0 (pc := 55) dX9_value_55 rfl) ?_
          refine gb_get (pc := 56) fl910 dX9_value_56 q1892 (Or.inl rfl) (fun v10 => ?_)
          refine zst_ (gj_iload_n 1 (pc := 59) dX9_value_59 rfl) ?_
          refine gb_iald (pc := 60) dX9_value_60 (fun v11 => ?_)
          refine gb_iald (pc := 61) dX9_value_61 (fun v12 => ?_)
          refine zst_ (gj_goto 66 (pc := 62) dX9_value_62 (by decide)) ?_
          refine zst_ (gj_sub [] rfl) ?_
          exact fun h => w_X9_value_66 v12 σ4 h hk
      · refine zst_ (gj_aload_n 0 (pc := 28) dX9_value_28 rfl) ?_
        refine gb_get (pc := 29) fl955 dX9_value_29 q1937 (Or.inl rfl) (fun v13 => ?_)
        refine zst_ (gj_aload_n 0 (pc := 32) dX9_value_32 rfl) ?_
        refine gb_get (pc := 33) fl909 dX9_value_33 q1891 (Or.inl rfl) (fun v14 => ?_)
        refine zst_ (gj_iload_n 1 (pc := 36) dX9_value_36 rfl) ?_
        refine gb_iald (pc := 37) dX9_value_37 (fun v15 => ?_)
        refine gb_iald (pc := 38) dX9_value_38 (fun v16 => ?_)
        refine zst_ (gj_goto 66 (pc := 39) dX9_value_39 (by decide)) ?_
        refine zst_ (gj_sub [] rfl) ?_
        exact fun h => w_X9_value_66 v16 σ4 h hk
    · refine zst_ (gj_sub [] rfl) ?_
      exact fun h => w_X9_value_17 σ4 h hk
theorem q2428 : (Jvm.Cond.code ({ cls := "LassoFinderModel", name := "message", desc := "(II)I" } : Jvm.MethodName) prog_22_method_75_code (3 : Nat) (Option.some Jvm.ClassFile.FieldType.int)) ∈ lw_all := lw_g (lw_at lw_m10 168 rfl) rfl
abbrev cX9_message : ByteArray := prog_22_method_75_code
def yX9_message : MethodName := ⟨RX9, "message", "(II)I"⟩
theorem dX9_message_0 : decode cX9_message 0 = .ok (.aload_n 0, 1) := by decide +kernel
theorem dX9_message_1 : decode cX9_message 1 = .ok (.invokevirtual 467, 3) := by decide +kernel
theorem dX9_message_4 : decode cX9_message 4 = .ok (.ifCond .eq 43, 3) := by decide +kernel
theorem dX9_message_7 : decode cX9_message 7 = .ok (.iload_n 1, 1) := by decide +kernel
theorem dX9_message_8 : decode cX9_message 8 = .ok (.iconst 0, 1) := by decide +kernel
theorem dX9_message_9 : decode cX9_message 9 = .ok (.bipush 7, 2) := by decide +kernel
theorem dX9_message_11 : decode cX9_message 11 = .ok (.invokestatic 196, 3) := by decide +kernel
theorem dX9_message_14 : decode cX9_message 14 = .ok (.ifCond .eq 33, 3) := by decide +kernel
theorem dX9_message_17 : decode cX9_message 17 = .ok (.aload_n 0, 1) := by decide +kernel
theorem dX9_message_18 : decode cX9_message 18 = .ok (.getfield 20, 3) := by decide +kernel
theorem dX9_message_21 : decode cX9_message 21 = .ok (.iload_n 1, 1) := by decide +kernel
theorem dX9_message_22 : decode cX9_message 22 = .ok (.iaload, 1) := by decide +kernel
theorem dX9_message_23 : decode cX9_message 23 = .ok (.ifCond .lt 24, 3) := by decide +kernel
theorem dX9_message_26 : decode cX9_message 26 = .ok (.iload_n 2, 1) := by decide +kernel
theorem dX9_message_27 : decode cX9_message 27 = .ok (.iconst 0, 1) := by decide +kernel
theorem dX9_message_28 : decode cX9_message 28 = .ok (.aload_n 0, 1) := by decide +kernel
theorem dX9_message_29 : decode cX9_message 29 = .ok (.getfield 133, 3) := by decide +kernel
theorem dX9_message_32 : decode cX9_message 32 = .ok (.aload_n 0, 1) := by decide +kernel
theorem dX9_message_33 : decode cX9_message 33 = .ok (.getfield 20, 3) := by decide +kernel
theorem dX9_message_36 : decode cX9_message 36 = .ok (.iload_n 1, 1) := by decide +kernel
theorem dX9_message_37 : decode cX9_message 37 = .ok (.iaload, 1) := by decide +kernel
theorem dX9_message_38 : decode cX9_message 38 = .ok (.iaload, 1) := by decide +kernel
theorem dX9_message_39 : decode cX9_message 39 = .ok (.iconst 1, 1) := by decide +kernel
theorem dX9_message_40 : decode cX9_message 40 = .ok (.isub, 1) := by decide +kernel
theorem dX9_message_41 : decode cX9_message 41 = .ok (.invokestatic 196, 3) := by decide +kernel
theorem dX9_message_44 : decode cX9_message 44 = .ok (.ifCond .ne 5, 3) := by decide +kernel
theorem dX9_message_47 : decode cX9_message 47 = .ok (.iconst (-1), 1) := by decide +kernel
theorem dX9_message_48 : decode cX9_message 48 = .ok (.ireturn, 1) := by decide +kernel
theorem dX9_message_49 : decode cX9_message 49 = .ok (.aload_n 0, 1) := by decide +kernel
theorem dX9_message_50 : decode cX9_message 50 = .ok (.getfield 136, 3) := by decide +kernel
theorem dX9_message_53 : decode cX9_message 53 = .ok (.iconst 3, 1) := by decide +kernel
theorem dX9_message_54 : decode cX9_message 54 = .ok (.aload_n 0, 1) := by decide +kernel
theorem dX9_message_55 : decode cX9_message 55 = .ok (.getfield 20, 3) := by decide +kernel
theorem dX9_message_58 : decode cX9_message 58 = .ok (.iload_n 1, 1) := by decide +kernel
theorem dX9_message_59 : decode cX9_message 59 = .ok (.iaload, 1) := by decide +kernel
theorem dX9_message_60 : decode cX9_message 60 = .ok (.imul, 1) := by decide +kernel
theorem dX9_message_61 : decode cX9_message 61 = .ok (.iload_n 2, 1) := by decide +kernel
theorem dX9_message_62 : decode cX9_message 62 = .ok (.iadd, 1) := by decide +kernel
theorem dX9_message_63 : decode cX9_message 63 = .ok (.iaload, 1) := by decide +kernel
theorem dX9_message_64 : decode cX9_message 64 = .ok (.ireturn, 1) := by decide +kernel
abbrev MX9_message : zT := (yX9_message, cX9_message, 3, (Option.some Jvm.ClassFile.FieldType.int), [])
theorem plX9_message : zplain MX9_message 2 ∧ (zcodeW MX9_message ∈ lw_all ∧ Cond.initialized MX9_message.1.cls ∈ lw_all) := ⟨⟨by decide +kernel, by decide +kernel⟩, q2428, q127⟩
noncomputable def f_X9_message_47 (σ : zM) : Option zO :=
  some (0, zi (-1), σ)
theorem w_X9_message_47 {g : zG} {lv : Nat} {out : zO} (σ : zM) {r : zO} (h : f_X9_message_47  σ = some r) (hk : (fun o : zO => o = out) r) : Gj g MX9_message (lv + 2) 47 [] [] σ out := by
  revert h
  unfold f_X9_message_47
  refine zst_ (gj_iconst (pc := 47) dX9_message_47 (by decide)) ?_
  intro h
  cases h
  have hk : (0, zi (-1), σ) = out := hk
  subst hk
  exact gj_ret (pc := 48) (t := .int) dX9_message_48 rfl ⟨rfl, rfl⟩ (fun h => h)
noncomputable def f_X9_message (x0 x1 x2 : Int) (σ : zM) : Option zO :=
  zgd (zis σ 10 x0) <|
  zci (f_X9_stood x0 σ) fun v1 σ2 =>
  if v1 = 0 then
    f_X9_message_47 σ2
  else
    zci (f_X9_in x1 0 7 σ2) fun v3 σ4 =>
    if v3 = 0 then
      f_X9_message_47 σ4
    else
      (zgf σ4 910 x0).bind fun v5 =>
      (zga σ4 101 v5 x1).bind fun v6 =>
      if v6 < 0 then
        f_X9_message_47 σ4
      else
        (zgf σ4 956 x0).bind fun v7 =>
        (zgf σ4 910 x0).bind fun v8 =>
        (zga σ4 101 v8 x1).bind fun v9 =>
        (zga σ4 101 v7 v9).bind fun v10 =>
        zci (f_X9_in x2 0 (zsub v10 1) σ4) fun v11 σ12 =>
        if v11 ≠ 0 then
          (zgf σ12 957 x0).bind fun v13 =>
          (zgf σ12 910 x0).bind fun v14 =>
          (zga σ12 101 v14 x1).bind fun v15 =>
          (zga σ12 101 v13 (zadd (zmul 3 v15) x2)).bind fun v16 =>
          some (0, zi v16, σ12)
        else
          f_X9_message_47 σ12
theorem c_X9_message {g : zG} {lv : Nat} {x0 x1 x2 : Int} {σ : zM} {out : zO} (h : f_X9_message x0 x1 x2 σ = some out) : Cj g (lv + 2) MX9_message [zr x0, zi x1, zi x2] σ out := by
  refine cj_go (ls := [(0, zr x0), (1, zi x1), (2, zi x2)]) (by decide) (Nat.le_of_ble_eq_true rfl) rfl (zgen h (fun r hk => ?_))
  unfold f_X9_message
  refine zst_ (gj_aload_n 0 (pc := 0) dX9_message_0 rfl) ?_
  refine gb_gd (fun hb => ?_)
  refine gb_callI (pc := 1) (as := [zr x0]) (rest := []) (zCl.of (zLk_V (M := MX9_message) (ci := 9) (r := (RX9, TX9, 84)) plX9_stood.1 rfl rfl (zisE hb).1 (zisE hb).2 dX9_message_1 q2421 q2423 qs99 q2424) plX9_stood (Nat.le_of_ble_eq_true rfl) (fun h => c_X9_stood h)) (fun v1 σ2 => ?_)
  refine gb_if (gj_if_eq 47 (pc := 4) dX9_message_4 (by decide)) ?_ ?_
  · refine zst_ (gj_sub [] rfl) ?_
    exact fun h => w_X9_message_47 σ2 h hk
  · refine zst_ (gj_iload_n 1 (pc := 7) dX9_message_7 rfl) ?_
    refine zst_ (gj_iconst (pc := 8) dX9_message_8 (by decide)) ?_
    refine zst_ (gj_bipush (pc := 9) dX9_message_9 ⟨rfl, by decide⟩) ?_
    refine gb_callI (pc := 11) (as := [zi x1, zi 0, zi 7]) (rest := []) (zCl.of (zLk_S (M := MX9_message) plX9_in.1 rfl dX9_message_11 q2143 q2144 q127 q2145) plX9_in (Nat.le_of_ble_eq_true rfl) (fun h => c_X9_in h)) (fun v3 σ4 => ?_)
    refine gb_if (gj_if_eq 47 (pc := 14) dX9_message_14 (by decide)) ?_ ?_
    · refine zst_ (gj_sub [] rfl) ?_
      exact fun h => w_X9_message_47 σ4 h hk
    · refine zst_ (gj_aload_n 0 (pc := 17) dX9_message_17 rfl) ?_
      refine gb_get (pc := 18) fl910 dX9_message_18 q1892 (Or.inl rfl) (fun v5 => ?_)
      refine zst_ (gj_iload_n 1 (pc := 21) dX9_message_21 rfl) ?_
      refine gb_iald (pc := 22) dX9_message_22 (fun v6 => ?_)
      refine gb_if (gj_if_lt 47 (pc := 23) dX9_message_23 (by decide)) ?_ ?_
      · refine zst_ (gj_sub [] rfl) ?_
        exact fun h => w_X9_message_47 σ4 h hk
      · refine zst_ (gj_iload_n 2 (pc := 26) dX9_message_26 rfl) ?_
        refine zst_ (gj_iconst (pc := 27) dX9_message_27 (by decide)) ?_
        refine zst_ (gj_aload_n 0 (pc := 28) dX9_message_28 rfl) ?_
        refine gb_get (pc := 29) fl956 dX9_message_29 q1938 (Or.inl rfl) (fun v7 => ?_)
        refine zst_ (gj_aload_n 0 (pc := 32) dX9_message_32 rfl) ?_
        refine gb_get (pc := 33) fl910 dX9_message_33 q1892 (Or.inl rfl) (fun v8 => ?_)
        refine zst_ (gj_iload_n 1 (pc := 36) dX9_message_36 rfl) ?_
        refine gb_iald (pc := 37) dX9_message_37 (fun v9 => ?_)
        refine gb_iald (pc := 38) dX9_message_38 (fun v10 => ?_)
        refine zst_ (gj_iconst (pc := 39) dX9_message_39 (by decide)) ?_
        refine zst_ (gj_isub (pc := 40) dX9_message_40) ?_
        refine gb_callI (pc := 41) (as := [zi x2, zi 0, zi (zsub v10 1)]) (rest := []) (zCl.of (zLk_S (M := MX9_message) plX9_in.1 rfl dX9_message_41 q2143 q2144 q127 q2145) plX9_in (Nat.le_of_ble_eq_true rfl) (fun h => c_X9_in h)) (fun v11 σ12 => ?_)
        refine gb_if (gj_if_ne 49 (pc := 44) dX9_message_44 (by decide)) ?_ ?_
        · refine zst_ (gj_aload_n 0 (pc := 49) dX9_message_49 rfl) ?_
          refine gb_get (pc := 50) fl957 dX9_message_50 q1939 (Or.inl rfl) (fun v13 => ?_)
          refine zst_ (gj_iconst (pc := 53) dX9_message_53 (by decide)) ?_
          refine zst_ (gj_aload_n 0 (pc := 54) dX9_message_54 rfl) ?_
          refine gb_get (pc := 55) fl910 dX9_message_55 q1892 (Or.inl rfl) (fun v14 => ?_)
          refine zst_ (gj_iload_n 1 (pc := 58) dX9_message_58 rfl) ?_
          refine gb_iald (pc := 59) dX9_message_59 (fun v15 => ?_)
          refine zst_ (gj_imul (pc := 60) dX9_message_60) ?_
          refine zst_ (gj_iload_n 2 (pc := 61) dX9_message_61 rfl) ?_
          refine zst_ (gj_iadd (pc := 62) dX9_message_62) ?_
          refine gb_iald (pc := 63) dX9_message_63 (fun v16 => ?_)
          intro h
          cases h
          have hk : (0, zi v16, σ12) = out := hk
          subst hk
          exact gj_ret (pc := 64) (t := .int) dX9_message_64 rfl ⟨rfl, rfl⟩ (fun h => h)
        · refine zst_ (gj_sub [] rfl) ?_
          exact fun h => w_X9_message_47 σ12 h hk
theorem q2432 : (Jvm.Cond.code ({ cls := "LassoFinderModel", name := "point", desc := "(I)I" } : Jvm.MethodName) prog_22_method_76_code (2 : Nat) (Option.some Jvm.ClassFile.FieldType.int)) ∈ lw_all := lw_g (lw_at lw_m10 172 rfl) rfl
abbrev cX9_point : ByteArray := prog_22_method_76_code
def yX9_point : MethodName := ⟨RX9, "point", "(I)I"⟩
theorem dX9_point_0 : decode cX9_point 0 = .ok (.aload_n 0, 1) := by decide +kernel
theorem dX9_point_1 : decode cX9_point 1 = .ok (.invokevirtual 467, 3) := by decide +kernel
theorem dX9_point_4 : decode cX9_point 4 = .ok (.ifCond .eq 26, 3) := by decide +kernel
theorem dX9_point_7 : decode cX9_point 7 = .ok (.iload_n 1, 1) := by decide +kernel
theorem dX9_point_8 : decode cX9_point 8 = .ok (.iconst 0, 1) := by decide +kernel
theorem dX9_point_9 : decode cX9_point 9 = .ok (.aload_n 0, 1) := by decide +kernel
theorem dX9_point_10 : decode cX9_point 10 = .ok (.getfield 254, 3) := by decide +kernel
theorem dX9_point_13 : decode cX9_point 13 = .ok (.iconst 1, 1) := by decide +kernel
theorem dX9_point_14 : decode cX9_point 14 = .ok (.isub, 1) := by decide +kernel
theorem dX9_point_15 : decode cX9_point 15 = .ok (.invokestatic 196, 3) := by decide +kernel
theorem dX9_point_18 : decode cX9_point 18 = .ok (.ifCond .eq 12, 3) := by decide +kernel
theorem dX9_point_21 : decode cX9_point 21 = .ok (.aload_n 0, 1) := by decide +kernel
theorem dX9_point_22 : decode cX9_point 22 = .ok (.getfield 139, 3) := by decide +kernel
theorem dX9_point_25 : decode cX9_point 25 = .ok (.iload_n 1, 1) := by decide +kernel
theorem dX9_point_26 : decode cX9_point 26 = .ok (.iaload, 1) := by decide +kernel
theorem dX9_point_27 : decode cX9_point 27 = .ok (.goto 4, 3) := by decide +kernel
theorem dX9_point_30 : decode cX9_point 30 = .ok (.iconst (-1), 1) := by decide +kernel
theorem dX9_point_31 : decode cX9_point 31 = .ok (.ireturn, 1) := by decide +kernel
abbrev MX9_point : zT := (yX9_point, cX9_point, 2, (Option.some Jvm.ClassFile.FieldType.int), [])
theorem plX9_point : zplain MX9_point 1 ∧ (zcodeW MX9_point ∈ lw_all ∧ Cond.initialized MX9_point.1.cls ∈ lw_all) := ⟨⟨by decide +kernel, by decide +kernel⟩, q2432, q127⟩
noncomputable def f_X9_point_31 (t0 : Int) (σ : zM) : Option zO :=
  some (0, zi t0, σ)
theorem w_X9_point_31 {g : zG} {lv : Nat} {out : zO} (t0 : Int) (σ : zM) {r : zO} (h : f_X9_point_31 t0 σ = some r) (hk : (fun o : zO => o = out) r) : Gj g MX9_point (lv + 2) 31 [] [zi t0] σ out := by
  revert h
  unfold f_X9_point_31
  intro h
  cases h
  have hk : (0, zi t0, σ) = out := hk
  subst hk
  exact gj_ret (pc := 31) (t := .int) dX9_point_31 rfl ⟨rfl, rfl⟩ (fun h => h)
noncomputable def f_X9_point_30 (σ : zM) : Option zO :=
  f_X9_point_31 (-1) σ
theorem w_X9_point_30 {g : zG} {lv : Nat} {out : zO} (σ : zM) {r : zO} (h : f_X9_point_30  σ = some r) (hk : (fun o : zO => o = out) r) : Gj g MX9_point (lv + 2) 30 [] [] σ out := by
  revert h
  unfold f_X9_point_30
  refine zst_ (gj_iconst (pc := 30) dX9_point_30 (by decide)) ?_
  exact fun h => w_X9_point_31 (-1) σ h hk
noncomputable def f_X9_point (x0 x1 : Int) (σ : zM) : Option zO :=
  zgd (zis σ 10 x0) <|
  zci (f_X9_stood x0 σ) fun v1 σ2 =>
  if v1 = 0 then
    f_X9_point_30 σ2
  else
    (zgf σ2 930 x0).bind fun v3 =>
    zci (f_X9_in x1 0 (zsub v3 1) σ2) fun v4 σ5 =>
    if v4 = 0 then
      f_X9_point_30 σ5
    else
      (zgf σ5 958 x0).bind fun v6 =>
      (zga σ5 101 v6 x1).bind fun v7 =>
      f_X9_point_31 v7 σ5
theorem c_X9_point {g : zG} {lv : Nat} {x0 x1 : Int} {σ : zM} {out : zO} (h : f_X9_point x0 x1 σ = some out) : Cj g (lv + 2) MX9_point [zr x0, zi x1] σ out := by
  refine cj_go (ls := [(0, zr x0), (1, zi x1)]) (by decide) (Nat.le_of_ble_eq_true rfl) rfl (zgen h (fun r hk => ?_))
  unfold f_X9_point
  refine zst_ (gj_aload_n 0 (pc := 0) dX9_point_0 rfl) ?_
  refine gb_gd (fun hb => ?_)
  refine gb_callI (pc := 1) (as := [zr x0]) (rest := []) (zCl.of (zLk_V (M := MX9_point) (ci := 9) (r := (RX9, TX9, 84)) plX9_stood.1 rfl rfl (zisE hb).1 (zisE hb).2 dX9_point_1 q2421 q2423 qs99 q2424) plX9_stood (Nat.le_of_ble_eq_true rfl) (fun h => c_X9_stood h)) (fun v1 σ2 => ?_)
  refine gb_if (gj_if_eq 30 (pc := 4) dX9_point_4 (by decide)) ?_ ?_
  · refine zst_ (gj_sub [] rfl) ?_
    exact fun h => w_X9_point_30 σ2 h hk
  · refine zst_ (gj_iload_n 1 (pc := 7) dX9_point_7 rfl) ?_
    refine zst_ (gj_iconst (pc := 8) dX9_point_8 (by decide)) ?_
    refine zst_ (gj_aload_n 0 (pc := 9) dX9_point_9 rfl) ?_
    refine gb_get (pc := 10) fl930 dX9_point_10 q1912 (Or.inl rfl) (fun v3 => ?_)
    refine zst_ (gj_iconst (pc := 13) dX9_point_13 (by decide)) ?_
    refine zst_ (gj_isub (pc := 14) dX9_point_14) ?_
    refine gb_callI (pc := 15) (as := [zi x1, zi 0, zi (zsub v3 1)]) (rest := []) (zCl.of (zLk_S (M := MX9_point) plX9_in.1 rfl dX9_point_15 q2143 q2144 q127 q2145) plX9_in (Nat.le_of_ble_eq_true rfl) (fun h => c_X9_in h)) (fun v4 σ5 => ?_)
    refine gb_if (gj_if_eq 30 (pc := 18) dX9_point_18 (by decide)) ?_ ?_
    · refine zst_ (gj_sub [] rfl) ?_
      exact fun h => w_X9_point_30 σ5 h hk
    · refine zst_ (gj_aload_n 0 (pc := 21) dX9_point_21 rfl) ?_
      refine gb_get (pc := 22) fl958 dX9_point_22 q1940 (Or.inl rfl) (fun v6 => ?_)
      refine zst_ (gj_iload_n 1 (pc := 25) dX9_point_25 rfl) ?_
      refine gb_iald (pc := 26) dX9_point_26 (fun v7 => ?_)
      refine zst_ (gj_goto 31 (pc := 27) dX9_point_27 (by decide)) ?_
      refine zst_ (gj_sub [] rfl) ?_
      exact fun h => w_X9_point_31 v7 σ5 h hk
theorem q2436 : (Jvm.Cond.code ({ cls := "LassoFinderModel", name := "holder", desc := "()I" } : Jvm.MethodName) prog_22_method_77_code (1 : Nat) (Option.some Jvm.ClassFile.FieldType.int)) ∈ lw_all := lw_g (lw_at lw_m10 176 rfl) rfl
abbrev cX9_holder : ByteArray := prog_22_method_77_code
def yX9_holder : MethodName := ⟨RX9, "holder", "()I"⟩
theorem dX9_holder_0 : decode cX9_holder 0 = .ok (.aload_n 0, 1) := by decide +kernel
theorem dX9_holder_1 : decode cX9_holder 1 = .ok (.invokevirtual 467, 3) := by decide +kernel
theorem dX9_holder_4 : decode cX9_holder 4 = .ok (.ifCond .eq 10, 3) := by decide +kernel
theorem dX9_holder_7 : decode cX9_holder 7 = .ok (.aload_n 0, 1) := by decide +kernel
theorem dX9_holder_8 : decode cX9_holder 8 = .ok (.getfield 301, 3) := by decide +kernel
theorem dX9_holder_11 : decode cX9_holder 11 = .ok (.goto 4, 3) := by decide +kernel
theorem dX9_holder_14 : decode cX9_holder 14 = .ok (.iconst (-1), 1) := by decide +kernel
theorem dX9_holder_15 : decode cX9_holder 15 = .ok (.ireturn, 1) := by decide +kernel
abbrev MX9_holder : zT := (yX9_holder, cX9_holder, 1, (Option.some Jvm.ClassFile.FieldType.int), [])
theorem plX9_holder : zplain MX9_holder 0 ∧ (zcodeW MX9_holder ∈ lw_all ∧ Cond.initialized MX9_holder.1.cls ∈ lw_all) := ⟨⟨by decide +kernel, by decide +kernel⟩, q2436, q127⟩
noncomputable def f_X9_holder_15 (t0 : Int) (σ : zM) : Option zO :=
  some (0, zi t0, σ)
theorem w_X9_holder_15 {g : zG} {lv : Nat} {out : zO} (t0 : Int) (σ : zM) {r : zO} (h : f_X9_holder_15 t0 σ = some r) (hk : (fun o : zO => o = out) r) : Gj g MX9_holder (lv + 2) 15 [] [zi t0] σ out := by
  revert h
  unfold f_X9_holder_15
  intro h
  cases h
  have hk : (0, zi t0, σ) = out := hk
  subst hk
  exact gj_ret (pc := 15) (t := .int) dX9_holder_15 rfl ⟨rfl, rfl⟩ (fun h => h)
noncomputable def f_X9_holder (x0 : Int) (σ : zM) : Option zO :=
  zgd (zis σ 10 x0) <|
  zci (f_X9_stood x0 σ) fun v1 σ2 =>
  if v1 = 0 then
    f_X9_holder_15 (-1) σ2
  else
    (zgf σ2 959 x0).bind fun v3 =>
    f_X9_holder_15 v3 σ2
theorem c_X9_holder {g : zG} {lv : Nat} {x0 : Int} {σ : zM} {out : zO} (h : f_X9_holder x0 σ = some out) : Cj g (lv + 2) MX9_holder [zr x0] σ out := by
  refine cj_go (ls := [(0, zr x0)]) (by decide) (Nat.le_of_ble_eq_true rfl) rfl (zgen h (fun r hk => ?_))
  unfold f_X9_holder
  refine zst_ (gj_aload_n 0 (pc := 0) dX9_holder_0 rfl) ?_
  refine gb_gd (fun hb => ?_)
  refine gb_callI (pc := 1) (as := [zr x0]) (rest := []) (zCl.of (zLk_V (M := MX9_holder) (ci := 9) (r := (RX9, TX9, 84)) plX9_stood.1 rfl rfl (zisE hb).1 (zisE hb).2 dX9_holder_1 q2421 q2423 qs99 q2424) plX9_stood (Nat.le_of_ble_eq_true rfl) (fun h => c_X9_stood h)) (fun v1 σ2 => ?_)
  refine gb_if (gj_if_eq 14 (pc := 4) dX9_holder_4 (by decide)) ?_ ?_
  · refine zst_ (gj_iconst (pc := 14) dX9_holder_14 (by decide)) ?_
    refine zst_ (gj_sub [] rfl) ?_
    exact fun h => w_X9_holder_15 (-1) σ2 h hk
  · refine zst_ (gj_aload_n 0 (pc := 7) dX9_holder_7 rfl) ?_
    refine gb_get (pc := 8) fl959 dX9_holder_8 q1941 (Or.inl rfl) (fun v3 => ?_)
    refine zst_ (gj_goto 15 (pc := 11) dX9_holder_11 (by decide)) ?_
    refine zst_ (gj_sub [] rfl) ?_
    exact fun h => w_X9_holder_15 v3 σ2 h hk
theorem q2440 : (Jvm.Cond.code ({ cls := "LassoFinderModel", name := "truth", desc := "(I)Z" } : Jvm.MethodName) prog_22_method_78_code (7 : Nat) (Option.some Jvm.ClassFile.FieldType.boolean)) ∈ lw_all := lw_g (lw_at lw_m10 180 rfl) rfl
abbrev cX9_truth : ByteArray := prog_22_method_78_code
def yX9_truth : MethodName := ⟨RX9, "truth", "(I)Z"⟩
theorem dX9_truth_0 : decode cX9_truth 0 = .ok (.aload_n 0, 1) := by decide +kernel
theorem dX9_truth_1 : decode cX9_truth 1 = .ok (.aload_n 0, 1) := by decide +kernel
theorem dX9_truth_2 : decode cX9_truth 2 = .ok (.getfield 187, 3) := by decide +kernel
theorem dX9_truth_5 : decode cX9_truth 5 = .ok (.ifCond .lt 10, 3) := by decide +kernel
theorem dX9_truth_8 : decode cX9_truth 8 = .ok (.aload_n 0, 1) := by decide +kernel
theorem dX9_truth_9 : decode cX9_truth 9 = .ok (.getfield 358, 3) := by decide +kernel
theorem dX9_truth_12 : decode cX9_truth 12 = .ok (.ifCond .ne 7, 3) := by decide +kernel
theorem dX9_truth_15 : decode cX9_truth 15 = .ok (.iconst 1, 1) := by decide +kernel
theorem dX9_truth_16 : decode cX9_truth 16 = .ok (.goto 40, 3) := by decide +kernel
theorem dX9_truth_19 : decode cX9_truth 19 = .ok (.iload_n 1, 1) := by decide +kernel
theorem dX9_truth_20 : decode cX9_truth 20 = .ok (.iconst 0, 1) := by decide +kernel
theorem dX9_truth_21 : decode cX9_truth 21 = .ok (.aload_n 0, 1) := by decide +kernel
theorem dX9_truth_22 : decode cX9_truth 22 = .ok (.getfield 187, 3) := by decide +kernel
theorem dX9_truth_25 : decode cX9_truth 25 = .ok (.iconst 1, 1) := by decide +kernel
theorem dX9_truth_26 : decode cX9_truth 26 = .ok (.isub, 1) := by decide +kernel
theorem dX9_truth_27 : decode cX9_truth 27 = .ok (.invokestatic 196, 3) := by decide +kernel
theorem dX9_truth_30 : decode cX9_truth 30 = .ok (.ifCond .eq 21, 3) := by decide +kernel
theorem dX9_truth_33 : decode cX9_truth 33 = .ok (.aload_n 0, 1) := by decide +kernel
theorem dX9_truth_34 : decode cX9_truth 34 = .ok (.getfield 190, 3) := by decide +kernel
theorem dX9_truth_37 : decode cX9_truth 37 = .ok (.iload_n 1, 1) := by decide +kernel
theorem dX9_truth_38 : decode cX9_truth 38 = .ok (.iaload, 1) := by decide +kernel
theorem dX9_truth_39 : decode cX9_truth 39 = .ok (.aload_n 0, 1) := by decide +kernel
theorem dX9_truth_40 : decode cX9_truth 40 = .ok (.getfield 190, 3) := by decide +kernel
theorem dX9_truth_43 : decode cX9_truth 43 = .ok (.aload_n 0, 1) := by decide +kernel
theorem dX9_truth_44 : decode cX9_truth 44 = .ok (.getfield 187, 3) := by decide +kernel
theorem dX9_truth_47 : decode cX9_truth 47 = .ok (.iaload, 1) := by decide +kernel
theorem dX9_truth_48 : decode cX9_truth 48 = .ok (.if_icmp .eq 7, 3) := by decide +kernel
theorem dX9_truth_51 : decode cX9_truth 51 = .ok (.iconst 2, 1) := by decide +kernel
theorem dX9_truth_52 : decode cX9_truth 52 = .ok (.goto 4, 3) := by decide +kernel
theorem dX9_truth_55 : decode cX9_truth 55 = .ok (.iconst 0, 1) := by decide +kernel
theorem dX9_truth_56 : decode cX9_truth 56 = .ok (.putfield 193, 3) := by decide +kernel
theorem dX9_truth_59 : decode cX9_truth 59 = .ok (.aload_n 0, 1) := by decide +kernel
theorem dX9_truth_60 : decode cX9_truth 60 = .ok (.getfield 193, 3) := by decide +kernel
theorem dX9_truth_63 : decode cX9_truth 63 = .ok (.ifCond .le 5, 3) := by decide +kernel
theorem dX9_truth_66 : decode cX9_truth 66 = .ok (.iconst 0, 1) := by decide +kernel
theorem dX9_truth_67 : decode cX9_truth 67 = .ok (.ireturn, 1) := by decide +kernel
theorem dX9_truth_68 : decode cX9_truth 68 = .ok (.iconst 0, 1) := by decide +kernel
theorem dX9_truth_69 : decode cX9_truth 69 = .ok (.istore_n 2, 1) := by decide +kernel
theorem dX9_truth_70 : decode cX9_truth 70 = .ok (.iconst 0, 1) := by decide +kernel
theorem dX9_truth_71 : decode cX9_truth 71 = .ok (.istore_n 3, 1) := by decide +kernel
theorem dX9_truth_72 : decode cX9_truth 72 = .ok (.iload_n 3, 1) := by decide +kernel
theorem dX9_truth_73 : decode cX9_truth 73 = .ok (.aload_n 0, 1) := by decide +kernel
theorem dX9_truth_74 : decode cX9_truth 74 = .ok (.getfield 376, 3) := by decide +kernel
theorem dX9_truth_77 : decode cX9_truth 77 = .ok (.if_icmp .ge 117, 3) := by decide +kernel
theorem dX9_truth_80 : decode cX9_truth 80 = .ok (.aload_n 0, 1) := by decide +kernel
theorem dX9_truth_81 : decode cX9_truth 81 = .ok (.getfield 145, 3) := by decide +kernel
theorem dX9_truth_84 : decode cX9_truth 84 = .ok (.aload_n 0, 1) := by decide +kernel
theorem dX9_truth_85 : decode cX9_truth 85 = .ok (.getfield 151, 3) := by decide +kernel
theorem dX9_truth_88 : decode cX9_truth 88 = .ok (.iload_n 3, 1) := by decide +kernel
theorem dX9_truth_89 : decode cX9_truth 89 = .ok (.iaload, 1) := by decide +kernel
theorem dX9_truth_90 : decode cX9_truth 90 = .ok (.iaload, 1) := by decide +kernel
theorem dX9_truth_91 : decode cX9_truth 91 = .ok (.bipush 12, 2) := by decide +kernel
theorem dX9_truth_93 : decode cX9_truth 93 = .ok (.if_icmp .eq 19, 3) := by decide +kernel
theorem dX9_truth_96 : decode cX9_truth 96 = .ok (.aload_n 0, 1) := by decide +kernel
theorem dX9_truth_97 : decode cX9_truth 97 = .ok (.getfield 145, 3) := by decide +kernel
theorem dX9_truth_100 : decode cX9_truth 100 = .ok (.aload_n 0, 1) := by decide +kernel
theorem dX9_truth_101 : decode cX9_truth 101 = .ok (.getfield 151, 3) := by decide +kernel
theorem dX9_truth_104 : decode cX9_truth 104 = .ok (.iload_n 3, 1) := by decide +kernel
theorem dX9_truth_105 : decode cX9_truth 105 = .ok (.iaload, 1) := by decide +kernel
theorem dX9_truth_106 : decode cX9_truth 106 = .ok (.iaload, 1) := by decide +kernel
theorem dX9_truth_107 : decode cX9_truth 107 = .ok (.bipush 15, 2) := by decide +kernel
theorem dX9_truth_109 : decode cX9_truth 109 = .ok (.if_icmp .ne 7, 3) := by decide +kernel
theorem dX9_truth_112 : decode cX9_truth 112 = .ok (.iconst 1, 1) := by decide +kernel
theorem dX9_truth_113 : decode cX9_truth 113 = .ok (.goto 4, 3) := by decide +kernel
theorem dX9_truth_116 : decode cX9_truth 116 = .ok (.iconst 0, 1) := by decide +kernel
theorem dX9_truth_117 : decode cX9_truth 117 = .ok (.istore 4, 2) := by decide +kernel
theorem dX9_truth_119 : decode cX9_truth 119 = .ok (.iload 4, 2) := by decide +kernel
theorem dX9_truth_121 : decode cX9_truth 121 = .ok (.ifCond .eq 13, 3) := by decide +kernel
theorem dX9_truth_124 : decode cX9_truth 124 = .ok (.iload_n 2, 1) := by decide +kernel
theorem dX9_truth_125 : decode cX9_truth 125 = .ok (.iconst 1, 1) := by decide +kernel
theorem dX9_truth_126 : decode cX9_truth 126 = .ok (.iload_n 3, 1) := by decide +kernel
theorem dX9_truth_127 : decode cX9_truth 127 = .ok (.ishl, 1) := by decide +kernel
theorem dX9_truth_128 : decode cX9_truth 128 = .ok (.iconst (-1), 1) := by decide +kernel
theorem dX9_truth_129 : decode cX9_truth 129 = .ok (.ixor, 1) := by decide +kernel
theorem dX9_truth_130 : decode cX9_truth 130 = .ok (.iand, 1) := by decide +kernel
theorem dX9_truth_131 : decode cX9_truth 131 = .ok (.goto 8, 3) := by decide +kernel
theorem dX9_truth_134 : decode cX9_truth 134 = .ok (.iload_n 2, 1) := by decide +kernel
theorem dX9_truth_135 : decode cX9_truth 135 = .ok (.iconst 1, 1) := by decide +kernel
theorem dX9_truth_136 : decode cX9_truth 136 = .ok (.iload_n 3, 1) := by decide +kernel
theorem dX9_truth_137 : decode cX9_truth 137 = .ok (.ishl, 1) := by decide +kernel
theorem dX9_truth_138 : decode cX9_truth 138 = .ok (.ior, 1) := by decide +kernel
theorem dX9_truth_139 : decode cX9_truth 139 = .ok (.istore_n 2, 1) := by decide +kernel
theorem dX9_truth_140 : decode cX9_truth 140 = .ok (.iconst 0, 1) := by decide +kernel
theorem dX9_truth_141 : decode cX9_truth 141 = .ok (.istore 5, 2) := by decide +kernel
theorem dX9_truth_143 : decode cX9_truth 143 = .ok (.iload 5, 2) := by decide +kernel
theorem dX9_truth_145 : decode cX9_truth 145 = .ok (.iconst 2, 1) := by decide +kernel
theorem dX9_truth_146 : decode cX9_truth 146 = .ok (.if_icmp .ge 42, 3) := by decide +kernel
theorem dX9_truth_149 : decode cX9_truth 149 = .ok (.aload_n 0, 1) := by decide +kernel
theorem dX9_truth_150 : decode cX9_truth 150 = .ok (.getfield 187, 3) := by decide +kernel
theorem dX9_truth_153 : decode cX9_truth 153 = .ok (.iconst 1, 1) := by decide +kernel
theorem dX9_truth_154 : decode cX9_truth 154 = .ok (.isub, 1) := by decide +kernel
theorem dX9_truth_155 : decode cX9_truth 155 = .ok (.istore 6, 2) := by decide +kernel
theorem dX9_truth_157 : decode cX9_truth 157 = .ok (.iload 6, 2) := by decide +kernel
theorem dX9_truth_159 : decode cX9_truth 159 = .ok (.iload_n 1, 1) := by decide +kernel
theorem dX9_truth_160 : decode cX9_truth 160 = .ok (.if_icmp .lt 22, 3) := by decide +kernel
theorem dX9_truth_163 : decode cX9_truth 163 = .ok (.aload_n 0, 1) := by decide +kernel
theorem dX9_truth_164 : decode cX9_truth 164 = .ok (.aload_n 0, 1) := by decide +kernel
theorem dX9_truth_165 : decode cX9_truth 165 = .ok (.getfield 190, 3) := by decide +kernel
theorem dX9_truth_168 : decode cX9_truth 168 = .ok (.iload 6, 2) := by decide +kernel
theorem dX9_truth_170 : decode cX9_truth 170 = .ok (.iaload, 1) := by decide +kernel
theorem dX9_truth_171 : decode cX9_truth 171 = .ok (.iload_n 2, 1) := by decide +kernel
theorem dX9_truth_172 : decode cX9_truth 172 = .ok (.invokevirtual 422, 3) := by decide +kernel
theorem dX9_truth_175 : decode cX9_truth 175 = .ok (.istore_n 2, 1) := by decide +kernel
theorem dX9_truth_176 : decode cX9_truth 176 = .ok (.iinc 6 (-1), 3) := by decide +kernel
theorem dX9_truth_179 : decode cX9_truth 179 = .ok (.goto (-22), 3) := by decide +kernel
theorem dX9_truth_182 : decode cX9_truth 182 = .ok (.iinc 5 1, 3) := by decide +kernel
theorem dX9_truth_185 : decode cX9_truth 185 = .ok (.goto (-42), 3) := by decide +kernel
theorem dX9_truth_188 : decode cX9_truth 188 = .ok (.iinc 3 1, 3) := by decide +kernel
theorem dX9_truth_191 : decode cX9_truth 191 = .ok (.goto (-119), 3) := by decide +kernel
theorem dX9_truth_194 : decode cX9_truth 194 = .ok (.iload_n 1, 1) := by decide +kernel
theorem dX9_truth_195 : decode cX9_truth 195 = .ok (.iconst 1, 1) := by decide +kernel
theorem dX9_truth_196 : decode cX9_truth 196 = .ok (.isub, 1) := by decide +kernel
theorem dX9_truth_197 : decode cX9_truth 197 = .ok (.istore_n 3, 1) := by decide +kernel
theorem dX9_truth_198 : decode cX9_truth 198 = .ok (.iload_n 3, 1) := by decide +kernel
theorem dX9_truth_199 : decode cX9_truth 199 = .ok (.ifCond .lt 21, 3) := by decide +kernel
theorem dX9_truth_202 : decode cX9_truth 202 = .ok (.aload_n 0, 1) := by decide +kernel
theorem dX9_truth_203 : decode cX9_truth 203 = .ok (.aload_n 0, 1) := by decide +kernel
theorem dX9_truth_204 : decode cX9_truth 204 = .ok (.getfield 190, 3) := by decide +kernel
theorem dX9_truth_207 : decode cX9_truth 207 = .ok (.iload_n 3, 1) := by decide +kernel
theorem dX9_truth_208 : decode cX9_truth 208 = .ok (.iaload, 1) := by decide +kernel
theorem dX9_truth_209 : decode cX9_truth 209 = .ok (.iload_n 2, 1) := by decide +kernel
theorem dX9_truth_210 : decode cX9_truth 210 = .ok (.invokevirtual 422, 3) := by decide +kernel
theorem dX9_truth_213 : decode cX9_truth 213 = .ok (.istore_n 2, 1) := by decide +kernel
theorem dX9_truth_214 : decode cX9_truth 214 = .ok (.iinc 3 (-1), 3) := by decide +kernel
theorem dX9_truth_217 : decode cX9_truth 217 = .ok (.goto (-19), 3) := by decide +kernel
theorem dX9_truth_220 : decode cX9_truth 220 = .ok (.aload_n 0, 1) := by decide +kernel
theorem dX9_truth_221 : decode cX9_truth 221 = .ok (.aload_n 0, 1) := by decide +kernel
theorem dX9_truth_222 : decode cX9_truth 222 = .ok (.getfield 190, 3) := by decide +kernel
theorem dX9_truth_225 : decode cX9_truth 225 = .ok (.iconst 0, 1) := by decide +kernel
theorem dX9_truth_226 : decode cX9_truth 226 = .ok (.iaload, 1) := by decide +kernel
theorem dX9_truth_227 : decode cX9_truth 227 = .ok (.iload_n 2, 1) := by decide +kernel
theorem dX9_truth_228 : decode cX9_truth 228 = .ok (.invokevirtual 431, 3) := by decide +kernel
theorem dX9_truth_231 : decode cX9_truth 231 = .ok (.ireturn, 1) := by decide +kernel
abbrev MX9_truth : zT := (yX9_truth, cX9_truth, 7, (Option.some Jvm.ClassFile.FieldType.boolean), [])
theorem plX9_truth : zplain MX9_truth 1 ∧ (zcodeW MX9_truth ∈ lw_all ∧ Cond.initialized MX9_truth.1.cls ∈ lw_all) := ⟨⟨by decide +kernel, by decide +kernel⟩, q2440, q127⟩
noncomputable def f_X9_truth_220 (x0 x2 : Int) (σ : zM) : Option zO :=
  (zgf σ 983 x0).bind fun v1 =>
  (zga σ 101 v1 0).bind fun v2 =>
  zgd (zis σ 10 x0) <|
  zci (f_X9_isTrue x0 v2 x2 σ) fun v3 σ4 =>
  zgd (z01 v3) <|
  some (0, zi v3, σ4)
theorem w_X9_truth_220 {g : zG} {lv : Nat} {out : zO} (x0 x2 : Int) (σ : zM) {r : zO} (h : f_X9_truth_220 x0 x2 σ = some r) (hk : (fun o : zO => o = out) r) : Gj g MX9_truth (lv + 2) 220 [(0, zr x0), (2, zi x2)] [] σ out := by
  revert h
  unfold f_X9_truth_220
  refine zst_ (gj_aload_n 0 (pc := 220) dX9_truth_220 rfl) ?_
  refine zst_ (gj_aload_n 0 (pc := 221) dX9_truth_221 rfl) ?_
  refine gb_get (pc := 222) fl983 dX9_truth_222 q1965 (Or.inl rfl) (fun v1 => ?_)
  refine zst_ (gj_iconst (pc := 225) dX9_truth_225 (by decide)) ?_
  refine gb_iald (pc := 226) dX9_truth_226 (fun v2 => ?_)
  refine zst_ (gj_iload_n 1 (pc := 227) dX9_truth_227 rfl) ?_
  refine gb_gd (fun hb => ?_)
  refine gb_callI (pc := 228) (as := [zr x0, zi v2, zi x2]) (rest := []) (zCl.of (zLk_V (M := MX9_truth) (ci := 9) (r := (RX9, TX9, 84)) plX9_isTrue.1 rfl rfl (zisE hb).1 (zisE hb).2 dX9_truth_228 q2339 q2341 qs87 q2342) plX9_isTrue (Nat.le_of_ble_eq_true rfl) (fun h => c_X9_isTrue h)) (fun v3 σ4 => ?_)
  refine gb_gd (fun hb => ?_)
  intro h
  cases h
  have hk : (0, zi v3, σ4) = out := hk
  subst hk
  exact gj_ret (pc := 231) (t := .boolean) dX9_truth_231 rfl ⟨rfl, rfl⟩ (fun _ => z01E hb)
noncomputable def f_X9_truth_198_b (x0 x2 x3 : Int) (σ : zM) : Option ((Int × Int × zM) ⊕ zO) :=
  if x3 < 0 then
    (f_X9_truth_220 x0 x2 σ).map (fun r => (.inr r))
  else
    (zgf σ 983 x0).bind fun v1 =>
    (zga σ 101 v1 x3).bind fun v2 =>
    zgd (zis σ 10 x0) <|
    zci (f_X9_truthAt x0 v2 x2 σ) fun v3 σ4 =>
    zlet (zadd x3 (-1)) fun y5 =>
    some (.inl (v3, y5, σ4))
noncomputable def f_X9_truth_198 (x0 x2 x3 : Int) (σ : zM) : Option zO :=
  zloop (fun s : Int × Int × zM => f_X9_truth_198_b x0 s.1 s.2.1 s.2.2) (x2, x3, σ)
theorem w_X9_truth_198_b {g : zG} {lv : Nat} {out : zO} (x0 x2 x3 : Int) (σ : zM) {r : ((Int × Int × zM) ⊕ zO)} (h : f_X9_truth_198_b x0 x2 x3 σ = some r) (hk : (zKL (fun s : Int × Int × zM => Gj g MX9_truth (lv + 2) 198 [(0, zr x0), (2, zi s.1), (3, zi s.2.1)] [] s.2.2 out) (fun o : zO => o = out)) r) : Gj g MX9_truth (lv + 2) 198 [(0, zr x0), (2, zi x2), (3, zi x3)] [] σ out := by
  revert h
  unfold f_X9_truth_198_b
  refine zst_ (gj_iload_n 2 (pc := 198) dX9_truth_198 rfl) ?_
  refine gb_if (gj_if_lt 220 (pc := 199) dX9_truth_199 (by decide)) ?_ ?_
  · refine zst_ (gj_sub [0, 1] rfl) ?_
    intro h
    obtain ⟨r0, h0, rfl⟩ := zmE h
    exact w_X9_truth_220 x0 x2 σ h0 hk
  · refine zst_ (gj_aload_n 0 (pc := 202) dX9_truth_202 rfl) ?_
    refine zst_ (gj_aload_n 0 (pc := 203) dX9_truth_203 rfl) ?_
    refine gb_get (pc := 204) fl983 dX9_truth_204 q1965 (Or.inl rfl) (fun v1 => ?_)
    refine zst_ (gj_iload_n 2 (pc := 207) dX9_truth_207 rfl) ?_
    refine gb_iald (pc := 208) dX9_truth_208 (fun v2 => ?_)
    refine zst_ (gj_iload_n 1 (pc := 209) dX9_truth_209 rfl) ?_
    refine gb_gd (fun hb => ?_)
    refine gb_callI (pc := 210) (as := [zr x0, zi v2, zi x2]) (rest := []) (zCl.of (zLk_V (M := MX9_truth) (ci := 9) (r := (RX9, TX9, 84)) plX9_truthAt.1 rfl rfl (zisE hb).1 (zisE hb).2 dX9_truth_210 q2355 q2357 qs91 q2358) plX9_truthAt (Nat.le_of_ble_eq_true rfl) (fun h => c_X9_truthAt h)) (fun v3 σ4 => ?_)
    refine zst_ (gj_istore_n (pc := 213) (ls' := [(2, zi v3), (0, zr x0), (3, zi x3)]) dX9_truth_213 (by decide) rfl) ?_
    refine gb_iinc (pc := 214) 2 (fun y5 => [(3, zi y5), (2, zi v3), (0, zr x0)]) dX9_truth_214 rfl (by decide) (fun _ => rfl) (fun y5 => ?_)
    refine zst_ (gj_goto 198 (pc := 217) dX9_truth_217 (by decide)) ?_
    refine zst_ (gj_sub [2, 1, 0] rfl) ?_
    intro h
    cases h
    exact hk
theorem w_X9_truth_198 {g : zG} {lv : Nat} {out : zO} (x0 x2 x3 : Int) (σ : zM) {r : zO} (h : f_X9_truth_198 x0 x2 x3 σ = some r) (hk : (fun o : zO => o = out) r) : Gj g MX9_truth (lv + 2) 198 [(0, zr x0), (2, zi x2), (3, zi x3)] [] σ out :=
  gj_loop (P := (fun s : Int × Int × zM => Gj g MX9_truth (lv + 2) 198 [(0, zr x0), (2, zi s.1), (3, zi s.2.1)] [] s.2.2 out)) (fun s x hb hx => w_X9_truth_198_b x0 s.1 s.2.1 s.2.2 hb hx) h hk
noncomputable def f_X9_truth_194 (x0 x1 x2 : Int) (σ : zM) : Option zO :=
  zlet ((zsub x1 1)) fun y1 =>
  f_X9_truth_198 x0 x2 y1 σ
theorem w_X9_truth_194 {g : zG} {lv : Nat} {out : zO} (x0 x1 x2 : Int) (σ : zM) {r : zO} (h : f_X9_truth_194 x0 x1 x2 σ = some r) (hk : (fun o : zO => o = out) r) : Gj g MX9_truth (lv + 2) 194 [(0, zr x0), (1, zi x1), (2, zi x2)] [] σ out := by
  revert h
  unfold f_X9_truth_194
  refine zst_ (gj_iload_n 1 (pc := 194) dX9_truth_194 rfl) ?_
  refine zst_ (gj_iconst (pc := 195) dX9_truth_195 (by decide)) ?_
  refine zst_ (gj_isub (pc := 196) dX9_truth_196) ?_
  refine gb_let (fun y1 => ?_)
  refine zst_ (gj_istore_n (pc := 197) (ls' := [(3, zi y1), (0, zr x0), (1, zi x1), (2, zi x2)]) dX9_truth_197 (by decide) rfl) ?_
  refine zst_ (gj_sub [1, 3, 0] rfl) ?_
  exact fun h => w_X9_truth_198 x0 x2 y1 σ h hk
noncomputable def f_X9_truth_188 (x0 x1 x2 x3 : Int) (σ : zM) : Option ((Int × Int × zM) ⊕ zO) :=
  zlet (zadd x3 1) fun y1 =>
  some (.inl (x2, y1, σ))
theorem w_X9_truth_188 {g : zG} {lv : Nat} {out : zO} (x0 x1 x2 x3 : Int) (σ : zM) {r : ((Int × Int × zM) ⊕ zO)} (h : f_X9_truth_188 x0 x1 x2 x3 σ = some r) (hk : (zKL (fun s : Int × Int × zM => Gj g MX9_truth (lv + 2) 72 [(0, zr x0), (1, zi x1), (2, zi s.1), (3, zi s.2.1)] [] s.2.2 out) (fun o : zO => o = out)) r) : Gj g MX9_truth (lv + 2) 188 [(0, zr x0), (1, zi x1), (2, zi x2), (3, zi x3)] [] σ out := by
  revert h
  unfold f_X9_truth_188
  refine gb_iinc (pc := 188) 3 (fun y1 => [(3, zi y1), (0, zr x0), (1, zi x1), (2, zi x2)]) dX9_truth_188 rfl (by decide) (fun _ => rfl) (fun y1 => ?_)
  refine zst_ (gj_goto 72 (pc := 191) dX9_truth_191 (by decide)) ?_
  refine zst_ (gj_sub [1, 2, 3, 0] rfl) ?_
  intro h
  cases h
  exact hk
noncomputable def f_X9_truth_182 (x0 x1 x2 x3 x5 : Int) (σ : zM) : Option ((Int × Int × zM) ⊕ ((Int × Int × zM) ⊕ zO)) :=
  zlet (zadd x5 1) fun y1 =>
  some (.inl (x2, y1, σ))
theorem w_X9_truth_182 {g : zG} {lv : Nat} {out : zO} (x0 x1 x2 x3 x5 : Int) (σ : zM) {r : ((Int × Int × zM) ⊕ ((Int × Int × zM) ⊕ zO))} (h : f_X9_truth_182 x0 x1 x2 x3 x5 σ = some r) (hk : (zKL (fun s : Int × Int × zM => Gj g MX9_truth (lv + 2) 143 [(0, zr x0), (1, zi x1), (2, zi s.1), (3, zi x3), (5, zi s.2.1)] [] s.2.2 out) (zKL (fun s : Int × Int × zM => Gj g MX9_truth (lv + 2) 72 [(0, zr x0), (1, zi x1), (2, zi s.1), (3, zi s.2.1)] [] s.2.2 out) (fun o : zO => o = out))) r) : Gj g MX9_truth (lv + 2) 182 [(0, zr x0), (1, zi x1), (2, zi x2), (3, zi x3), (5, zi x5)] [] σ out := by
  revert h
  unfold f_X9_truth_182
  refine gb_iinc (pc := 182) 4 (fun y1 => [(5, zi y1), (0, zr x0), (1, zi x1), (2, zi x2), (3, zi x3)]) dX9_truth_182 rfl (by decide) (fun _ => rfl) (fun y1 => ?_)
  refine zst_ (gj_goto 143 (pc := 185) dX9_truth_185 (by decide)) ?_
  refine zst_ (gj_sub [1, 2, 3, 4, 0] rfl) ?_
  intro h
  cases h
  exact hk
noncomputable def f_X9_truth_157_b (x0 x1 x2 x3 x5 x6 : Int) (σ : zM) : Option ((Int × Int × zM) ⊕ ((Int × Int × zM) ⊕ ((Int × Int × zM) ⊕ zO))) :=
  if x6 < x1 then
    (f_X9_truth_182 x0 x1 x2 x3 x5 σ).map (fun r => (.inr r))
  else
    (zgf σ 983 x0).bind fun v1 =>
    (zga σ 101 v1 x6).bind fun v2 =>
    zgd (zis σ 10 x0) <|
    zci (f_X9_truthAt x0 v2 x2 σ) fun v3 σ4 =>
    zlet (zadd x6 (-1)) fun y5 =>
    some (.inl (v3, y5, σ4))
noncomputable def f_X9_truth_157 (x0 x1 x2 x3 x5 x6 : Int) (σ : zM) : Option ((Int × Int × zM) ⊕ ((Int × Int × zM) ⊕ zO)) :=
  zloop (fun s : Int × Int × zM => f_X9_truth_157_b x0 x1 s.1 x3 x5 s.2.1 s.2.2) (x2, x6, σ)
theorem w_X9_truth_157_b {g : zG} {lv : Nat} {out : zO} (x0 x1 x2 x3 x5 x6 : Int) (σ : zM) {r : ((Int × Int × zM) ⊕ ((Int × Int × zM) ⊕ ((Int × Int × zM) ⊕ zO)))} (h : f_X9_truth_157_b x0 x1 x2 x3 x5 x6 σ = some r) (hk : (zKL (fun s : Int × Int × zM => Gj g MX9_truth (lv + 2) 157 [(0, zr x0), (1, zi x1), (2, zi s.1), (3, zi x3), (5, zi x5), (6, zi s.2.1)] [] s.2.2 out) (zKL (fun s : Int × Int × zM => Gj g MX9_truth (lv + 2) 143 [(0, zr x0), (1, zi x1), (2, zi s.1), (3, zi x3), (5, zi s.2.1)] [] s.2.2 out) (zKL (fun s : Int × Int × zM => Gj g MX9_truth (lv + 2) 72 [(0, zr x0), (1, zi x1), (2, zi s.1), (3, zi s.2.1)] [] s.2.2 out) (fun o : zO => o = out)))) r) : Gj g MX9_truth (lv + 2) 157 [(0, zr x0), (1, zi x1), (2, zi x2), (3, zi x3), (5, zi x5), (6, zi x6)] [] σ out := by
  revert h
  unfold f_X9_truth_157_b
  refine zst_ (gj_iload 5 (pc := 157) dX9_truth_157 rfl) ?_
  refine zst_ (gj_iload_n 1 (pc := 159) dX9_truth_159 rfl) ?_
  refine gb_if (gj_icmp_lt 182 (pc := 160) dX9_truth_160 (by decide)) ?_ ?_
  · refine zst_ (gj_sub [0, 1, 2, 3, 4] rfl) ?_
    intro h
    obtain ⟨r0, h0, rfl⟩ := zmE h
    exact w_X9_truth_182 x0 x1 x2 x3 x5 σ h0 hk
  · refine zst_ (gj_aload_n 0 (pc := 163) dX9_truth_163 rfl) ?_
    refine zst_ (gj_aload_n 0 (pc := 164) dX9_truth_164 rfl) ?_
    refine gb_get (pc := 165) fl983 dX9_truth_165 q1965 (Or.inl rfl) (fun v1 => ?_)
    refine zst_ (gj_iload 5 (pc := 168) dX9_truth_168 rfl) ?_
    refine gb_iald (pc := 170) dX9_truth_170 (fun v2 => ?_)
    refine zst_ (gj_iload_n 2 (pc := 171) dX9_truth_171 rfl) ?_
    refine gb_gd (fun hb => ?_)
    refine gb_callI (pc := 172) (as := [zr x0, zi v2, zi x2]) (rest := []) (zCl.of (zLk_V (M := MX9_truth) (ci := 9) (r := (RX9, TX9, 84)) plX9_truthAt.1 rfl rfl (zisE hb).1 (zisE hb).2 dX9_truth_172 q2355 q2357 qs91 q2358) plX9_truthAt (Nat.le_of_ble_eq_true rfl) (fun h => c_X9_truthAt h)) (fun v3 σ4 => ?_)
    refine zst_ (gj_istore_n (pc := 175) (ls' := [(2, zi v3), (0, zr x0), (1, zi x1), (3, zi x3), (5, zi x5), (6, zi x6)]) dX9_truth_175 (by decide) rfl) ?_
    refine gb_iinc (pc := 176) 5 (fun y5 => [(6, zi y5), (2, zi v3), (0, zr x0), (1, zi x1), (3, zi x3), (5, zi x5)]) dX9_truth_176 rfl (by decide) (fun _ => rfl) (fun y5 => ?_)
    refine zst_ (gj_goto 157 (pc := 179) dX9_truth_179 (by decide)) ?_
    refine zst_ (gj_sub [2, 3, 1, 4, 5, 0] rfl) ?_
    intro h
    cases h
    exact hk
theorem w_X9_truth_157 {g : zG} {lv : Nat} {out : zO} (x0 x1 x2 x3 x5 x6 : Int) (σ : zM) {r : ((Int × Int × zM) ⊕ ((Int × Int × zM) ⊕ zO))} (h : f_X9_truth_157 x0 x1 x2 x3 x5 x6 σ = some r) (hk : (zKL (fun s : Int × Int × zM => Gj g MX9_truth (lv + 2) 143 [(0, zr x0), (1, zi x1), (2, zi s.1), (3, zi x3), (5, zi s.2.1)] [] s.2.2 out) (zKL (fun s : Int × Int × zM => Gj g MX9_truth (lv + 2) 72 [(0, zr x0), (1, zi x1), (2, zi s.1), (3, zi s.2.1)] [] s.2.2 out) (fun o : zO => o = out))) r) : Gj g MX9_truth (lv + 2) 157 [(0, zr x0), (1, zi x1), (2, zi x2), (3, zi x3), (5, zi x5), (6, zi x6)] [] σ out :=
  gj_loop (P := (fun s : Int × Int × zM => Gj g MX9_truth (lv + 2) 157 [(0, zr x0), (1, zi x1), (2, zi s.1), (3, zi x3), (5, zi x5), (6, zi s.2.1)] [] s.2.2 out)) (fun s x hb hx => w_X9_truth_157_b x0 x1 s.1 x3 x5 s.2.1 s.2.2 hb hx) h hk
noncomputable def f_X9_truth_143_b (x0 x1 x2 x3 x5 : Int) (σ : zM) : Option ((Int × Int × zM) ⊕ ((Int × Int × zM) ⊕ zO)) :=
  if 2 ≤ x5 then
    (f_X9_truth_188 x0 x1 x2 x3 σ).map (fun r => (.inr r))
  else
    (zgf σ 982 x0).bind fun v1 =>
    zlet ((zsub v1 1)) fun y2 =>
    f_X9_truth_157 x0 x1 x2 x3 x5 y2 σ
noncomputable def f_X9_truth_143 (x0 x1 x2 x3 x5 : Int) (σ : zM) : Option ((Int × Int × zM) ⊕ zO) :=
  zloop (fun s : Int × Int × zM => f_X9_truth_143_b x0 x1 s.1 x3 s.2.1 s.2.2) (x2, x5, σ)
theorem w_X9_truth_143_b {g : zG} {lv : Nat} {out : zO} (x0 x1 x2 x3 x5 : Int) (σ : zM) {r : ((Int × Int × zM) ⊕ ((Int × Int × zM) ⊕ zO))} (h : f_X9_truth_143_b x0 x1 x2 x3 x5 σ = some r) (hk : (zKL (fun s : Int × Int × zM => Gj g MX9_truth (lv + 2) 143 [(0, zr x0), (1, zi x1), (2, zi s.1), (3, zi x3), (5, zi s.2.1)] [] s.2.2 out) (zKL (fun s : Int × Int × zM => Gj g MX9_truth (lv + 2) 72 [(0, zr x0), (1, zi x1), (2, zi s.1), (3, zi s.2.1)] [] s.2.2 out) (fun o : zO => o = out))) r) : Gj g MX9_truth (lv + 2) 143 [(0, zr x0), (1, zi x1), (2, zi x2), (3, zi x3), (5, zi x5)] [] σ out := by
  revert h
  unfold f_X9_truth_143_b
  refine zst_ (gj_iload 4 (pc := 143) dX9_truth_143 rfl) ?_
  refine zst_ (gj_iconst (pc := 145) dX9_truth_145 (by decide)) ?_
  refine gb_if (gj_icmp_ge 188 (pc := 146) dX9_truth_146 (by decide)) ?_ ?_
  · refine zst_ (gj_sub [0, 1, 2, 3] rfl) ?_
    intro h
    obtain ⟨r0, h0, rfl⟩ := zmE h
    exact w_X9_truth_188 x0 x1 x2 x3 σ h0 hk
  · refine zst_ (gj_aload_n 0 (pc := 149) dX9_truth_149 rfl) ?_
    refine gb_get (pc := 150) fl982 dX9_truth_150 q1964 (Or.inl rfl) (fun v1 => ?_)
    refine zst_ (gj_iconst (pc := 153) dX9_truth_153 (by decide)) ?_
    refine zst_ (gj_isub (pc := 154) dX9_truth_154) ?_
    refine gb_let (fun y2 => ?_)
    refine zst_ (gj_istore (pc := 155) (ls' := [(6, zi y2), (0, zr x0), (1, zi x1), (2, zi x2), (3, zi x3), (5, zi x5)]) dX9_truth_155 (by decide) rfl) ?_
    refine zst_ (gj_sub [1, 2, 3, 4, 5, 0] rfl) ?_
    exact fun h => w_X9_truth_157 x0 x1 x2 x3 x5 y2 σ h hk
theorem w_X9_truth_143 {g : zG} {lv : Nat} {out : zO} (x0 x1 x2 x3 x5 : Int) (σ : zM) {r : ((Int × Int × zM) ⊕ zO)} (h : f_X9_truth_143 x0 x1 x2 x3 x5 σ = some r) (hk : (zKL (fun s : Int × Int × zM => Gj g MX9_truth (lv + 2) 72 [(0, zr x0), (1, zi x1), (2, zi s.1), (3, zi s.2.1)] [] s.2.2 out) (fun o : zO => o = out)) r) : Gj g MX9_truth (lv + 2) 143 [(0, zr x0), (1, zi x1), (2, zi x2), (3, zi x3), (5, zi x5)] [] σ out :=
  gj_loop (P := (fun s : Int × Int × zM => Gj g MX9_truth (lv + 2) 143 [(0, zr x0), (1, zi x1), (2, zi s.1), (3, zi x3), (5, zi s.2.1)] [] s.2.2 out)) (fun s x hb hx => w_X9_truth_143_b x0 x1 s.1 x3 s.2.1 s.2.2 hb hx) h hk
noncomputable def f_X9_truth_139 (x0 x1 x3 t0 : Int) (σ : zM) : Option ((Int × Int × zM) ⊕ zO) :=
  f_X9_truth_143 x0 x1 t0 x3 0 σ
theorem w_X9_truth_139 {g : zG} {lv : Nat} {out : zO} (x0 x1 x3 t0 : Int) (σ : zM) {r : ((Int × Int × zM) ⊕ zO)} (h : f_X9_truth_139 x0 x1 x3 t0 σ = some r) (hk : (zKL (fun s : Int × Int × zM => Gj g MX9_truth (lv + 2) 72 [(0, zr x0), (1, zi x1), (2, zi s.1), (3, zi s.2.1)] [] s.2.2 out) (fun o : zO => o = out)) r) : Gj g MX9_truth (lv + 2) 139 [(0, zr x0), (1, zi x1), (3, zi x3)] [zi t0] σ out := by
  revert h
  unfold f_X9_truth_139
  refine zst_ (gj_istore_n (pc := 139) (ls' := [(2, zi t0), (0, zr x0), (1, zi x1), (3, zi x3)]) dX9_truth_139 (by decide) rfl) ?_
  refine zst_ (gj_iconst (pc := 140) dX9_truth_140 (by decide)) ?_
  refine zst_ (gj_istore (pc := 141) (ls' := [(5, zi 0), (2, zi t0), (0, zr x0), (1, zi x1), (3, zi x3)]) dX9_truth_141 (by decide) rfl) ?_
  refine zst_ (gj_sub [2, 3, 1, 4, 0] rfl) ?_
  exact fun h => w_X9_truth_143 x0 x1 t0 x3 0 σ h hk
noncomputable def f_X9_truth_117 (x0 x1 x2 x3 t0 : Int) (σ : zM) : Option ((Int × Int × zM) ⊕ zO) :=
  if t0 = 0 then
    f_X9_truth_139 x0 x1 x3 (zor x2 (zshl 1 x3)) σ
  else
    f_X9_truth_139 x0 x1 x3 (zand x2 (zxor (zshl 1 x3) (-1))) σ
theorem w_X9_truth_117 {g : zG} {lv : Nat} {out : zO} (x0 x1 x2 x3 t0 : Int) (σ : zM) {r : ((Int × Int × zM) ⊕ zO)} (h : f_X9_truth_117 x0 x1 x2 x3 t0 σ = some r) (hk : (zKL (fun s : Int × Int × zM => Gj g MX9_truth (lv + 2) 72 [(0, zr x0), (1, zi x1), (2, zi s.1), (3, zi s.2.1)] [] s.2.2 out) (fun o : zO => o = out)) r) : Gj g MX9_truth (lv + 2) 117 [(0, zr x0), (1, zi x1), (2, zi x2), (3, zi x3)] [zi t0] σ out := by
  revert h
  unfold f_X9_truth_117
  refine zst_ (gj_istore (pc := 117) (ls' := [(4, zi t0), (0, zr x0), (1, zi x1), (2, zi x2), (3, zi x3)]) dX9_truth_117 (by decide) rfl) ?_
  refine zst_ (gj_iload 0 (pc := 119) dX9_truth_119 rfl) ?_
  refine gb_if (gj_if_eq 134 (pc := 121) dX9_truth_121 (by decide)) ?_ ?_
  · refine zst_ (gj_iload_n 3 (pc := 134) dX9_truth_134 rfl) ?_
    refine zst_ (gj_iconst (pc := 135) dX9_truth_135 (by decide)) ?_
    refine zst_ (gj_iload_n 4 (pc := 136) dX9_truth_136 rfl) ?_
    refine zst_ (gj_ishl (pc := 137) dX9_truth_137) ?_
    refine zst_ (gj_ior (pc := 138) dX9_truth_138) ?_
    refine zst_ (gj_sub [1, 2, 4] rfl) ?_
    exact fun h => w_X9_truth_139 x0 x1 x3 (zor x2 (zshl 1 x3)) σ h hk
  · refine zst_ (gj_iload_n 3 (pc := 124) dX9_truth_124 rfl) ?_
    refine zst_ (gj_iconst (pc := 125) dX9_truth_125 (by decide)) ?_
    refine zst_ (gj_iload_n 4 (pc := 126) dX9_truth_126 rfl) ?_
    refine zst_ (gj_ishl (pc := 127) dX9_truth_127) ?_
    refine zst_ (gj_iconst (pc := 128) dX9_truth_128 (by decide)) ?_
    refine zst_ (gj_ixor (pc := 129) dX9_truth_129) ?_
    refine zst_ (gj_iand (pc := 130) dX9_truth_130) ?_
    refine zst_ (gj_goto 139 (pc := 131) dX9_truth_131 (by decide)) ?_
    refine zst_ (gj_sub [1, 2, 4] rfl) ?_
    exact fun h => w_X9_truth_139 x0 x1 x3 (zand x2 (zxor (zshl 1 x3) (-1))) σ h hk
noncomputable def f_X9_truth_112 (x0 x1 x2 x3 : Int) (σ : zM) : Option ((Int × Int × zM) ⊕ zO) :=
  f_X9_truth_117 x0 x1 x2 x3 1 σ
theorem w_X9_truth_112 {g : zG} {lv : Nat} {out : zO} (x0 x1 x2 x3 : Int) (σ : zM) {r : ((Int × Int × zM) ⊕ zO)} (h : f_X9_truth_112 x0 x1 x2 x3 σ = some r) (hk : (zKL (fun s : Int × Int × zM => Gj g MX9_truth (lv + 2) 72 [(0, zr x0), (1, zi x1), (2, zi s.1), (3, zi s.2.1)] [] s.2.2 out) (fun o : zO => o = out)) r) : Gj g MX9_truth (lv + 2) 112 [(0, zr x0), (1, zi x1), (2, zi x2), (3, zi x3)] [] σ out := by
  revert h
  unfold f_X9_truth_112
  refine zst_ (gj_iconst (pc := 112) dX9_truth_112 (by decide)) ?_
  refine zst_ (gj_goto 117 (pc := 113) dX9_truth_113 (by decide)) ?_
  exact fun h => w_X9_truth_117 x0 x1 x2 x3 1 σ h hk
noncomputable def f_X9_truth_72_b (x0 x1 x2 x3 : Int) (σ : zM) : Option ((Int × Int × zM) ⊕ zO) :=
  (zgf σ 964 x0).bind fun v1 =>
  if v1 ≤ x3 then
    (f_X9_truth_194 x0 x1 x2 σ).map (fun r => (.inr r))
  else
    (zgf σ 963 x0).bind fun v2 =>
    (zgf σ 968 x0).bind fun v3 =>
    (zga σ 101 v3 x3).bind fun v4 =>
    (zga σ 101 v2 v4).bind fun v5 =>
    if v5 = 12 then
      f_X9_truth_112 x0 x1 x2 x3 σ
    else
      (zgf σ 963 x0).bind fun v6 =>
      (zgf σ 968 x0).bind fun v7 =>
      (zga σ 101 v7 x3).bind fun v8 =>
      (zga σ 101 v6 v8).bind fun v9 =>
      if v9 ≠ 15 then
        f_X9_truth_117 x0 x1 x2 x3 0 σ
      else
        f_X9_truth_112 x0 x1 x2 x3 σ
noncomputable def f_X9_truth_72 (x0 x1 x2 x3 : Int) (σ : zM) : Option zO :=
  zloop (fun s : Int × Int × zM => f_X9_truth_72_b x0 x1 s.1 s.2.1 s.2.2) (x2, x3, σ)
theorem w_X9_truth_72_b {g : zG} {lv : Nat} {out : zO} (x0 x1 x2 x3 : Int) (σ : zM) {r : ((Int × Int × zM) ⊕ zO)} (h : f_X9_truth_72_b x0 x1 x2 x3 σ = some r) (hk : (zKL (fun s : Int × Int × zM => Gj g MX9_truth (lv + 2) 72 [(0, zr x0), (1, zi x1), (2, zi s.1), (3, zi s.2.1)] [] s.2.2 out) (fun o : zO => o = out)) r) : Gj g MX9_truth (lv + 2) 72 [(0, zr x0), (1, zi x1), (2, zi x2), (3, zi x3)] [] σ out := by
  revert h
  unfold f_X9_truth_72_b
  refine zst_ (gj_iload_n 3 (pc := 72) dX9_truth_72 rfl) ?_
  refine zst_ (gj_aload_n 0 (pc := 73) dX9_truth_73 rfl) ?_
  refine gb_get (pc := 74) fl964 dX9_truth_74 q1946 (Or.inl rfl) (fun v1 => ?_)
  refine gb_if (gj_icmp_ge 194 (pc := 77) dX9_truth_77 (by decide)) ?_ ?_
  · refine zst_ (gj_sub [0, 1, 2] rfl) ?_
    intro h
    obtain ⟨r0, h0, rfl⟩ := zmE h
    exact w_X9_truth_194 x0 x1 x2 σ h0 hk
  · refine zst_ (gj_aload_n 0 (pc := 80) dX9_truth_80 rfl) ?_
    refine gb_get (pc := 81) fl963 dX9_truth_81 q1945 (Or.inl rfl) (fun v2 => ?_)
    refine zst_ (gj_aload_n 0 (pc := 84) dX9_truth_84 rfl) ?_
    refine gb_get (pc := 85) fl968 dX9_truth_85 q1950 (Or.inl rfl) (fun v3 => ?_)
    refine zst_ (gj_iload_n 3 (pc := 88) dX9_truth_88 rfl) ?_
    refine gb_iald (pc := 89) dX9_truth_89 (fun v4 => ?_)
    refine gb_iald (pc := 90) dX9_truth_90 (fun v5 => ?_)
    refine zst_ (gj_bipush (pc := 91) dX9_truth_91 ⟨rfl, by decide⟩) ?_
    refine gb_if (gj_icmp_eq 112 (pc := 93) dX9_truth_93 (by decide)) ?_ ?_
    · exact fun h => w_X9_truth_112 x0 x1 x2 x3 σ h hk
    · refine zst_ (gj_aload_n 0 (pc := 96) dX9_truth_96 rfl) ?_
      refine gb_get (pc := 97) fl963 dX9_truth_97 q1945 (Or.inl rfl) (fun v6 => ?_)
      refine zst_ (gj_aload_n 0 (pc := 100) dX9_truth_100 rfl) ?_
      refine gb_get (pc := 101) fl968 dX9_truth_101 q1950 (Or.inl rfl) (fun v7 => ?_)
      refine zst_ (gj_iload_n 3 (pc := 104) dX9_truth_104 rfl) ?_
      refine gb_iald (pc := 105) dX9_truth_105 (fun v8 => ?_)
      refine gb_iald (pc := 106) dX9_truth_106 (fun v9 => ?_)
      refine zst_ (gj_bipush (pc := 107) dX9_truth_107 ⟨rfl, by decide⟩) ?_
      refine gb_if (gj_icmp_ne 116 (pc := 109) dX9_truth_109 (by decide)) ?_ ?_
      · refine zst_ (gj_iconst (pc := 116) dX9_truth_116 (by decide)) ?_
        exact fun h => w_X9_truth_117 x0 x1 x2 x3 0 σ h hk
      · exact fun h => w_X9_truth_112 x0 x1 x2 x3 σ h hk
theorem w_X9_truth_72 {g : zG} {lv : Nat} {out : zO} (x0 x1 x2 x3 : Int) (σ : zM) {r : zO} (h : f_X9_truth_72 x0 x1 x2 x3 σ = some r) (hk : (fun o : zO => o = out) r) : Gj g MX9_truth (lv + 2) 72 [(0, zr x0), (1, zi x1), (2, zi x2), (3, zi x3)] [] σ out :=
  gj_loop (P := (fun s : Int × Int × zM => Gj g MX9_truth (lv + 2) 72 [(0, zr x0), (1, zi x1), (2, zi s.1), (3, zi s.2.1)] [] s.2.2 out)) (fun s x hb hx => w_X9_truth_72_b x0 x1 s.1 s.2.1 s.2.2 hb hx) h hk
noncomputable def f_X9_truth_56 (x0 x1 t0 t1 : Int) (σ : zM) : Option zO :=
  (zpf σ 900 t1 t0).bind fun σ1 =>
  (zgf σ1 900 x0).bind fun v2 =>
  if v2 ≤ 0 then
    f_X9_truth_72 x0 x1 0 0 σ1
  else
    zgd (z01 0) <|
    some (0, zi 0, σ1)
theorem w_X9_truth_56 {g : zG} {lv : Nat} {out : zO} (x0 x1 t0 t1 : Int) (σ : zM) {r : zO} (h : f_X9_truth_56 x0 x1 t0 t1 σ = some r) (hk : (fun o : zO => o = out) r) : Gj g MX9_truth (lv + 2) 56 [(0, zr x0), (1, zi x1)] [zi t0, zr t1] σ out := by
  revert h
  unfold f_X9_truth_56
  refine gb_put (pc := 56) fl900 fr900 dX9_truth_56 q1882 (Or.inl rfl) (fun σ1 => ?_)
  refine zst_ (gj_aload_n 0 (pc := 59) dX9_truth_59 rfl) ?_
  refine gb_get (pc := 60) fl900 dX9_truth_60 q1882 (Or.inl rfl) (fun v2 => ?_)
  refine gb_if (gj_if_le 68 (pc := 63) dX9_truth_63 (by decide)) ?_ ?_
  · refine zst_ (gj_iconst (pc := 68) dX9_truth_68 (by decide)) ?_
    refine zst_ (gj_istore_n (pc := 69) (ls' := [(2, zi 0), (0, zr x0), (1, zi x1)]) dX9_truth_69 (by decide) rfl) ?_
    refine zst_ (gj_iconst (pc := 70) dX9_truth_70 (by decide)) ?_
    refine zst_ (gj_istore_n (pc := 71) (ls' := [(3, zi 0), (2, zi 0), (0, zr x0), (1, zi x1)]) dX9_truth_71 (by decide) rfl) ?_
    refine zst_ (gj_sub [2, 3, 1, 0] rfl) ?_
    exact fun h => w_X9_truth_72 x0 x1 0 0 σ1 h hk
  · refine zst_ (gj_iconst (pc := 66) dX9_truth_66 (by decide)) ?_
    refine gb_gd (fun hb => ?_)
    intro h
    cases h
    have hk : (0, zi 0, σ1) = out := hk
    subst hk
    exact gj_ret (pc := 67) (t := .boolean) dX9_truth_67 rfl ⟨rfl, rfl⟩ (fun _ => z01E hb)
noncomputable def f_X9_truth_15 (x0 x1 t0 : Int) (σ : zM) : Option zO :=
  f_X9_truth_56 x0 x1 1 t0 σ
theorem w_X9_truth_15 {g : zG} {lv : Nat} {out : zO} (x0 x1 t0 : Int) (σ : zM) {r : zO} (h : f_X9_truth_15 x0 x1 t0 σ = some r) (hk : (fun o : zO => o = out) r) : Gj g MX9_truth (lv + 2) 15 [(0, zr x0), (1, zi x1)] [zr t0] σ out := by
  revert h
  unfold f_X9_truth_15
  refine zst_ (gj_iconst (pc := 15) dX9_truth_15 (by decide)) ?_
  refine zst_ (gj_goto 56 (pc := 16) dX9_truth_16 (by decide)) ?_
  exact fun h => w_X9_truth_56 x0 x1 1 t0 σ h hk
noncomputable def f_X9_truth_51 (x0 x1 t0 : Int) (σ : zM) : Option zO :=
  f_X9_truth_56 x0 x1 2 t0 σ
theorem w_X9_truth_51 {g : zG} {lv : Nat} {out : zO} (x0 x1 t0 : Int) (σ : zM) {r : zO} (h : f_X9_truth_51 x0 x1 t0 σ = some r) (hk : (fun o : zO => o = out) r) : Gj g MX9_truth (lv + 2) 51 [(0, zr x0), (1, zi x1)] [zr t0] σ out := by
  revert h
  unfold f_X9_truth_51
  refine zst_ (gj_iconst (pc := 51) dX9_truth_51 (by decide)) ?_
  refine zst_ (gj_goto 56 (pc := 52) dX9_truth_52 (by decide)) ?_
  exact fun h => w_X9_truth_56 x0 x1 2 t0 σ h hk
noncomputable def f_X9_truth (x0 x1 : Int) (σ : zM) : Option zO :=
  (zgf σ 982 x0).bind fun v1 =>
  if v1 < 0 then
    f_X9_truth_15 x0 x1 x0 σ
  else
    (zgf σ 961 x0).bind fun v2 =>
    if v2 ≠ 0 then
      (zgf σ 982 x0).bind fun v3 =>
      zci (f_X9_in x1 0 (zsub v3 1) σ) fun v4 σ5 =>
      if v4 = 0 then
        f_X9_truth_51 x0 x1 x0 σ5
      else
        (zgf σ5 983 x0).bind fun v6 =>
        (zga σ5 101 v6 x1).bind fun v7 =>
        (zgf σ5 983 x0).bind fun v8 =>
        (zgf σ5 982 x0).bind fun v9 =>
        (zga σ5 101 v8 v9).bind fun v10 =>
        if v7 = v10 then
          f_X9_truth_56 x0 x1 0 x0 σ5
        else
          f_X9_truth_51 x0 x1 x0 σ5
    else
      f_X9_truth_15 x0 x1 x0 σ
theorem c_X9_truth {g : zG} {lv : Nat} {x0 x1 : Int} {σ : zM} {out : zO} (h : f_X9_truth x0 x1 σ = some out) : Cj g (lv + 2) MX9_truth [zr x0, zi x1] σ out := by
  refine cj_go (ls := [(0, zr x0), (1, zi x1)]) (by decide) (Nat.le_of_ble_eq_true rfl) rfl (zgen h (fun r hk => ?_))
  unfold f_X9_truth
  refine zst_ (gj_aload_n 0 (pc := 0) dX9_truth_0 rfl) ?_
  refine zst_ (gj_aload_n 0 (pc := 1) dX9_truth_1 rfl) ?_
  refine gb_get (pc := 2) fl982 dX9_truth_2 q1964 (Or.inl rfl) (fun v1 => ?_)
  refine gb_if (gj_if_lt 15 (pc := 5) dX9_truth_5 (by decide)) ?_ ?_
  · exact fun h => w_X9_truth_15 x0 x1 x0 σ h hk
  · refine zst_ (gj_aload_n 0 (pc := 8) dX9_truth_8 rfl) ?_
    refine gb_get (pc := 9) fl961 dX9_truth_9 q1943 (Or.inl rfl) (fun v2 => ?_)
    refine gb_if (gj_if_ne 19 (pc := 12) dX9_truth_12 (by decide)) ?_ ?_
    · refine zst_ (gj_iload_n 1 (pc := 19) dX9_truth_19 rfl) ?_
      refine zst_ (gj_iconst (pc := 20) dX9_truth_20 (by decide)) ?_
      refine zst_ (gj_aload_n 0 (pc := 21) dX9_truth_21 rfl) ?_
      refine gb_get (pc := 22) fl982 dX9_truth_22 q1964 (Or.inl rfl) (fun v3 => ?_)
      refine zst_ (gj_iconst (pc := 25) dX9_truth_25 (by decide)) ?_
      refine zst_ (gj_isub (pc := 26) dX9_truth_26) ?_
      refine gb_callI (pc := 27) (as := [zi x1, zi 0, zi (zsub v3 1)]) (rest := [zr x0]) (zCl.of (zLk_S (M := MX9_truth) plX9_in.1 rfl dX9_truth_27 q2143 q2144 q127 q2145) plX9_in (Nat.le_of_ble_eq_true rfl) (fun h => c_X9_in h)) (fun v4 σ5 => ?_)
      refine gb_if (gj_if_eq 51 (pc := 30) dX9_truth_30 (by decide)) ?_ ?_
      · exact fun h => w_X9_truth_51 x0 x1 x0 σ5 h hk
      · refine zst_ (gj_aload_n 0 (pc := 33) dX9_truth_33 rfl) ?_
        refine gb_get (pc := 34) fl983 dX9_truth_34 q1965 (Or.inl rfl) (fun v6 => ?_)
        refine zst_ (gj_iload_n 1 (pc := 37) dX9_truth_37 rfl) ?_
        refine gb_iald (pc := 38) dX9_truth_38 (fun v7 => ?_)
        refine zst_ (gj_aload_n 0 (pc := 39) dX9_truth_39 rfl) ?_
        refine gb_get (pc := 40) fl983 dX9_truth_40 q1965 (Or.inl rfl) (fun v8 => ?_)
        refine zst_ (gj_aload_n 0 (pc := 43) dX9_truth_43 rfl) ?_
        refine gb_get (pc := 44) fl982 dX9_truth_44 q1964 (Or.inl rfl) (fun v9 => ?_)
        refine gb_iald (pc := 47) dX9_truth_47 (fun v10 => ?_)
        refine gb_if (gj_icmp_eq 55 (pc := 48) dX9_truth_48 (by decide)) ?_ ?_
        · refine zst_ (gj_iconst (pc := 55) dX9_truth_55 (by decide)) ?_
          exact fun h => w_X9_truth_56 x0 x1 0 x0 σ5 h hk
        · exact fun h => w_X9_truth_51 x0 x1 x0 σ5 h hk
    · exact fun h => w_X9_truth_15 x0 x1 x0 σ h hk

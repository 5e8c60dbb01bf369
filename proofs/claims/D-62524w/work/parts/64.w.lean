set_option maxRecDepth 100000
theorem q2295 : (Jvm.Cond.code ({ cls := "LassoFinderModel", name := "formula", desc := "()I" } : Jvm.MethodName) prog_22_method_50_code (5 : Nat) (Option.some Jvm.ClassFile.FieldType.int)) ∈ lw_all := lw_g (lw_at lw_m10 35 rfl) rfl
theorem q2296 : (Jvm.Cond.methodLink "LassoFinderModel" (406 : Nat) ({ cls := "LassoFinderModel", name := "wholeFormula", desc := "()Z" } : Jvm.MethodName)) ∈ lw_all := lw_g (lw_at lw_m10 36 rfl) rfl
theorem q2298 : (Jvm.Cond.instanceMethod ({ cls := "LassoFinderModel", name := "wholeFormula", desc := "()Z" } : Jvm.MethodName)) ∈ lw_all := lw_g (lw_at lw_m10 38 rfl) rfl
theorem q2323 : (Jvm.Cond.methodLink "LassoFinderModel" (409 : Nat) ({ cls := "LassoFinderModel", name := "holdsAt", desc := "(I)Z" } : Jvm.MethodName)) ∈ lw_all := lw_g (lw_at lw_m10 63 rfl) rfl
theorem q2325 : (Jvm.Cond.instanceMethod ({ cls := "LassoFinderModel", name := "holdsAt", desc := "(I)Z" } : Jvm.MethodName)) ∈ lw_all := lw_g (lw_at lw_m10 65 rfl) rfl
theorem q2327 : (Jvm.Cond.methodLink "LassoFinderModel" (412 : Nat) ({ cls := "LassoFinderModel", name := "looked", desc := "(II)I" } : Jvm.MethodName)) ∈ lw_all := lw_g (lw_at lw_m10 67 rfl) rfl
theorem q2329 : (Jvm.Cond.instanceMethod ({ cls := "LassoFinderModel", name := "looked", desc := "(II)I" } : Jvm.MethodName)) ∈ lw_all := lw_g (lw_at lw_m10 69 rfl) rfl
abbrev cX9_formula : ByteArray := prog_22_method_50_code
def yX9_formula : MethodName := ⟨RX9, "formula", "()I"⟩
theorem dX9_formula_0 : decode cX9_formula 0 = .ok (.aload_n 0, 1) := by decide +kernel
theorem dX9_formula_1 : decode cX9_formula 1 = .ok (.iconst 0, 1) := by decide +kernel
theorem dX9_formula_2 : decode cX9_formula 2 = .ok (.putfield 358, 3) := by decide +kernel
theorem dX9_formula_5 : decode cX9_formula 5 = .ok (.aload_n 0, 1) := by decide +kernel
theorem dX9_formula_6 : decode cX9_formula 6 = .ok (.iconst (-1), 1) := by decide +kernel
theorem dX9_formula_7 : decode cX9_formula 7 = .ok (.putfield 178, 3) := by decide +kernel
theorem dX9_formula_10 : decode cX9_formula 10 = .ok (.aload_n 0, 1) := by decide +kernel
theorem dX9_formula_11 : decode cX9_formula 11 = .ok (.iconst (-1), 1) := by decide +kernel
theorem dX9_formula_12 : decode cX9_formula 12 = .ok (.putfield 13, 3) := by decide +kernel
theorem dX9_formula_15 : decode cX9_formula 15 = .ok (.aload_n 0, 1) := by decide +kernel
theorem dX9_formula_16 : decode cX9_formula 16 = .ok (.iconst 1, 1) := by decide +kernel
theorem dX9_formula_17 : decode cX9_formula 17 = .ok (.putfield 193, 3) := by decide +kernel
theorem dX9_formula_20 : decode cX9_formula 20 = .ok (.aload_n 0, 1) := by decide +kernel
theorem dX9_formula_21 : decode cX9_formula 21 = .ok (.getfield 361, 3) := by decide +kernel
theorem dX9_formula_24 : decode cX9_formula 24 = .ok (.ifCond .eq 14, 3) := by decide +kernel
theorem dX9_formula_27 : decode cX9_formula 27 = .ok (.aload_n 0, 1) := by decide +kernel
theorem dX9_formula_28 : decode cX9_formula 28 = .ok (.invokevirtual 406, 3) := by decide +kernel
theorem dX9_formula_31 : decode cX9_formula 31 = .ok (.ifCond .eq 7, 3) := by decide +kernel
theorem dX9_formula_34 : decode cX9_formula 34 = .ok (.iconst 1, 1) := by decide +kernel
theorem dX9_formula_35 : decode cX9_formula 35 = .ok (.goto 4, 3) := by decide +kernel
theorem dX9_formula_38 : decode cX9_formula 38 = .ok (.iconst 0, 1) := by decide +kernel
theorem dX9_formula_39 : decode cX9_formula 39 = .ok (.istore_n 1, 1) := by decide +kernel
theorem dX9_formula_40 : decode cX9_formula 40 = .ok (.aload_n 0, 1) := by decide +kernel
theorem dX9_formula_41 : decode cX9_formula 41 = .ok (.iconst 0, 1) := by decide +kernel
theorem dX9_formula_42 : decode cX9_formula 42 = .ok (.putfield 200, 3) := by decide +kernel
theorem dX9_formula_45 : decode cX9_formula 45 = .ok (.aload_n 0, 1) := by decide +kernel
theorem dX9_formula_46 : decode cX9_formula 46 = .ok (.getfield 361, 3) := by decide +kernel
theorem dX9_formula_49 : decode cX9_formula 49 = .ok (.ifCond .ne 5, 3) := by decide +kernel
theorem dX9_formula_52 : decode cX9_formula 52 = .ok (.iconst 0, 1) := by decide +kernel
theorem dX9_formula_53 : decode cX9_formula 53 = .ok (.ireturn, 1) := by decide +kernel
theorem dX9_formula_54 : decode cX9_formula 54 = .ok (.aload_n 0, 1) := by decide +kernel
theorem dX9_formula_55 : decode cX9_formula 55 = .ok (.iload_n 1, 1) := by decide +kernel
theorem dX9_formula_56 : decode cX9_formula 56 = .ok (.ifCond .eq 7, 3) := by decide +kernel
theorem dX9_formula_59 : decode cX9_formula 59 = .ok (.iconst (-1), 1) := by decide +kernel
theorem dX9_formula_60 : decode cX9_formula 60 = .ok (.goto 7, 3) := by decide +kernel
theorem dX9_formula_63 : decode cX9_formula 63 = .ok (.aload_n 0, 1) := by decide +kernel
theorem dX9_formula_64 : decode cX9_formula 64 = .ok (.getfield 206, 3) := by decide +kernel
theorem dX9_formula_67 : decode cX9_formula 67 = .ok (.putfield 13, 3) := by decide +kernel
theorem dX9_formula_70 : decode cX9_formula 70 = .ok (.aload_n 0, 1) := by decide +kernel
theorem dX9_formula_71 : decode cX9_formula 71 = .ok (.iload_n 1, 1) := by decide +kernel
theorem dX9_formula_72 : decode cX9_formula 72 = .ok (.ifCond .eq 7, 3) := by decide +kernel
theorem dX9_formula_75 : decode cX9_formula 75 = .ok (.iconst 0, 1) := by decide +kernel
theorem dX9_formula_76 : decode cX9_formula 76 = .ok (.goto 4, 3) := by decide +kernel
theorem dX9_formula_79 : decode cX9_formula 79 = .ok (.iconst 2, 1) := by decide +kernel
theorem dX9_formula_80 : decode cX9_formula 80 = .ok (.putfield 193, 3) := by decide +kernel
theorem dX9_formula_83 : decode cX9_formula 83 = .ok (.iload_n 1, 1) := by decide +kernel
theorem dX9_formula_84 : decode cX9_formula 84 = .ok (.ifCond .ne 5, 3) := by decide +kernel
theorem dX9_formula_87 : decode cX9_formula 87 = .ok (.iconst 0, 1) := by decide +kernel
theorem dX9_formula_88 : decode cX9_formula 88 = .ok (.ireturn, 1) := by decide +kernel
theorem dX9_formula_89 : decode cX9_formula 89 = .ok (.iconst 0, 1) := by decide +kernel
theorem dX9_formula_90 : decode cX9_formula 90 = .ok (.istore_n 2, 1) := by decide +kernel
theorem dX9_formula_91 : decode cX9_formula 91 = .ok (.iload_n 2, 1) := by decide +kernel
theorem dX9_formula_92 : decode cX9_formula 92 = .ok (.aload_n 0, 1) := by decide +kernel
theorem dX9_formula_93 : decode cX9_formula 93 = .ok (.getfield 345, 3) := by decide +kernel
theorem dX9_formula_96 : decode cX9_formula 96 = .ok (.if_icmp .ge 94, 3) := by decide +kernel
theorem dX9_formula_99 : decode cX9_formula 99 = .ok (.aload_n 0, 1) := by decide +kernel
theorem dX9_formula_100 : decode cX9_formula 100 = .ok (.aload_n 0, 1) := by decide +kernel
theorem dX9_formula_101 : decode cX9_formula 101 = .ok (.getfield 106, 3) := by decide +kernel
theorem dX9_formula_104 : decode cX9_formula 104 = .ok (.iload_n 2, 1) := by decide +kernel
theorem dX9_formula_105 : decode cX9_formula 105 = .ok (.laload, 1) := by decide +kernel
theorem dX9_formula_106 : decode cX9_formula 106 = .ok (.invokevirtual 334, 3) := by decide +kernel
theorem dX9_formula_109 : decode cX9_formula 109 = .ok (.iconst 0, 1) := by decide +kernel
theorem dX9_formula_110 : decode cX9_formula 110 = .ok (.istore_n 3, 1) := by decide +kernel
theorem dX9_formula_111 : decode cX9_formula 111 = .ok (.iconst 0, 1) := by decide +kernel
theorem dX9_formula_112 : decode cX9_formula 112 = .ok (.istore 4, 2) := by decide +kernel
theorem dX9_formula_114 : decode cX9_formula 114 = .ok (.iload 4, 2) := by decide +kernel
theorem dX9_formula_116 : decode cX9_formula 116 = .ok (.aload_n 0, 1) := by decide +kernel
theorem dX9_formula_117 : decode cX9_formula 117 = .ok (.getfield 388, 3) := by decide +kernel
theorem dX9_formula_120 : decode cX9_formula 120 = .ok (.if_icmp .ge 29, 3) := by decide +kernel
theorem dX9_formula_123 : decode cX9_formula 123 = .ok (.iload_n 3, 1) := by decide +kernel
theorem dX9_formula_124 : decode cX9_formula 124 = .ok (.aload_n 0, 1) := by decide +kernel
theorem dX9_formula_125 : decode cX9_formula 125 = .ok (.iload 4, 2) := by decide +kernel
theorem dX9_formula_127 : decode cX9_formula 127 = .ok (.invokevirtual 409, 3) := by decide +kernel
theorem dX9_formula_130 : decode cX9_formula 130 = .ok (.ifCond .eq 10, 3) := by decide +kernel
theorem dX9_formula_133 : decode cX9_formula 133 = .ok (.iconst 1, 1) := by decide +kernel
theorem dX9_formula_134 : decode cX9_formula 134 = .ok (.iload 4, 2) := by decide +kernel
theorem dX9_formula_136 : decode cX9_formula 136 = .ok (.ishl, 1) := by decide +kernel
theorem dX9_formula_137 : decode cX9_formula 137 = .ok (.goto 4, 3) := by decide +kernel
theorem dX9_formula_140 : decode cX9_formula 140 = .ok (.iconst 0, 1) := by decide +kernel
theorem dX9_formula_141 : decode cX9_formula 141 = .ok (.ior, 1) := by decide +kernel
theorem dX9_formula_142 : decode cX9_formula 142 = .ok (.istore_n 3, 1) := by decide +kernel
theorem dX9_formula_143 : decode cX9_formula 143 = .ok (.iinc 4 1, 3) := by decide +kernel
theorem dX9_formula_146 : decode cX9_formula 146 = .ok (.goto (-32), 3) := by decide +kernel
theorem dX9_formula_149 : decode cX9_formula 149 = .ok (.iconst 0, 1) := by decide +kernel
theorem dX9_formula_150 : decode cX9_formula 150 = .ok (.istore 4, 2) := by decide +kernel
theorem dX9_formula_152 : decode cX9_formula 152 = .ok (.iload 4, 2) := by decide +kernel
theorem dX9_formula_154 : decode cX9_formula 154 = .ok (.bipush 8, 2) := by decide +kernel
theorem dX9_formula_156 : decode cX9_formula 156 = .ok (.if_icmp .ge 28, 3) := by decide +kernel
theorem dX9_formula_159 : decode cX9_formula 159 = .ok (.aload_n 0, 1) := by decide +kernel
theorem dX9_formula_160 : decode cX9_formula 160 = .ok (.getfield 166, 3) := by decide +kernel
theorem dX9_formula_163 : decode cX9_formula 163 = .ok (.bipush 8, 2) := by decide +kernel
theorem dX9_formula_165 : decode cX9_formula 165 = .ok (.iload_n 2, 1) := by decide +kernel
theorem dX9_formula_166 : decode cX9_formula 166 = .ok (.imul, 1) := by decide +kernel
theorem dX9_formula_167 : decode cX9_formula 167 = .ok (.iload 4, 2) := by decide +kernel
theorem dX9_formula_169 : decode cX9_formula 169 = .ok (.iadd, 1) := by decide +kernel
theorem dX9_formula_170 : decode cX9_formula 170 = .ok (.aload_n 0, 1) := by decide +kernel
theorem dX9_formula_171 : decode cX9_formula 171 = .ok (.iload_n 3, 1) := by decide +kernel
theorem dX9_formula_172 : decode cX9_formula 172 = .ok (.iload 4, 2) := by decide +kernel
theorem dX9_formula_174 : decode cX9_formula 174 = .ok (.invokevirtual 412, 3) := by decide +kernel
theorem dX9_formula_177 : decode cX9_formula 177 = .ok (.iastore, 1) := by decide +kernel
theorem dX9_formula_178 : decode cX9_formula 178 = .ok (.iinc 4 1, 3) := by decide +kernel
theorem dX9_formula_181 : decode cX9_formula 181 = .ok (.goto (-29), 3) := by decide +kernel
theorem dX9_formula_184 : decode cX9_formula 184 = .ok (.iinc 2 1, 3) := by decide +kernel
theorem dX9_formula_187 : decode cX9_formula 187 = .ok (.goto (-96), 3) := by decide +kernel
theorem dX9_formula_190 : decode cX9_formula 190 = .ok (.aload_n 0, 1) := by decide +kernel
theorem dX9_formula_191 : decode cX9_formula 191 = .ok (.iconst 1, 1) := by decide +kernel
theorem dX9_formula_192 : decode cX9_formula 192 = .ok (.putfield 358, 3) := by decide +kernel
theorem dX9_formula_195 : decode cX9_formula 195 = .ok (.aload_n 0, 1) := by decide +kernel
theorem dX9_formula_196 : decode cX9_formula 196 = .ok (.getfield 376, 3) := by decide +kernel
theorem dX9_formula_199 : decode cX9_formula 199 = .ok (.ireturn, 1) := by decide +kernel
abbrev MX9_formula : zT := (yX9_formula, cX9_formula, 5, (Option.some Jvm.ClassFile.FieldType.int), [])
theorem plX9_formula : zplain MX9_formula 0 ∧ (zcodeW MX9_formula ∈ lw_all ∧ Cond.initialized MX9_formula.1.cls ∈ lw_all) := ⟨⟨by decide +kernel, by decide +kernel⟩, q2295, q127⟩
noncomputable def f_X9_formula_190 (x0 : Int) (σ : zM) : Option zO :=
  zgd (z01 1) <|
  (zpf σ 961 x0 1).bind fun σ1 =>
  (zgf σ1 964 x0).bind fun v2 =>
  some (0, zi v2, σ1)
theorem w_X9_formula_190 {g : zG} {lv : Nat} {out : zO} (x0 : Int) (σ : zM) {r : zO} (h : f_X9_formula_190 x0 σ = some r) (hk : (fun o : zO => o = out) r) : Gj g MX9_formula (lv + 5) 190 [(0, zr x0)] [] σ out := by
  revert h
  unfold f_X9_formula_190
  refine zst_ (gj_aload_n 0 (pc := 190) dX9_formula_190 rfl) ?_
  refine zst_ (gj_iconst (pc := 191) dX9_formula_191 (by decide)) ?_
  refine gb_gd (fun hb => ?_)
  refine gb_put (pc := 192) fl961 (fr961 hb) dX9_formula_192 q1943 (Or.inl rfl) (fun σ1 => ?_)
  refine zst_ (gj_aload_n 0 (pc := 195) dX9_formula_195 rfl) ?_
  refine gb_get (pc := 196) fl964 dX9_formula_196 q1946 (Or.inl rfl) (fun v2 => ?_)
  intro h
  cases h
  have hk : (0, zi v2, σ1) = out := hk
  subst hk
  exact gj_ret (pc := 199) (t := .int) dX9_formula_199 rfl ⟨rfl, rfl⟩ (fun h => h)
noncomputable def f_X9_formula_184 (x0 x2 : Int) (σ : zM) : Option ((Int × zM) ⊕ zO) :=
  zlet (zadd x2 1) fun y1 =>
  some (.inl (y1, σ))
theorem w_X9_formula_184 {g : zG} {lv : Nat} {out : zO} (x0 x2 : Int) (σ : zM) {r : ((Int × zM) ⊕ zO)} (h : f_X9_formula_184 x0 x2 σ = some r) (hk : (zKL (fun s : Int × zM => Gj g MX9_formula (lv + 5) 91 [(0, zr x0), (2, zi s.1)] [] s.2 out) (fun o : zO => o = out)) r) : Gj g MX9_formula (lv + 5) 184 [(0, zr x0), (2, zi x2)] [] σ out := by
  revert h
  unfold f_X9_formula_184
  refine gb_iinc (pc := 184) 1 (fun y1 => [(2, zi y1), (0, zr x0)]) dX9_formula_184 rfl (by decide) (fun _ => rfl) (fun y1 => ?_)
  refine zst_ (gj_goto 91 (pc := 187) dX9_formula_187 (by decide)) ?_
  refine zst_ (gj_sub [1, 0] rfl) ?_
  intro h
  cases h
  exact hk
noncomputable def f_X9_formula_152_b (x0 x2 x3 x4 : Int) (σ : zM) : Option ((Int × zM) ⊕ ((Int × zM) ⊕ zO)) :=
  if 8 ≤ x4 then
    (f_X9_formula_184 x0 x2 σ).map (fun r => (.inr r))
  else
    (zgf σ 974 x0).bind fun v1 =>
    zgd (zis σ 10 x0) <|
    zci (f_X9_looked x0 x3 x4 σ) fun v2 σ3 =>
    (zpa σ3 101 v1 (zadd (zmul 8 x2) x4) v2).bind fun σ4 =>
    zlet (zadd x4 1) fun y5 =>
    some (.inl (y5, σ4))
noncomputable def f_X9_formula_152 (x0 x2 x3 x4 : Int) (σ : zM) : Option ((Int × zM) ⊕ zO) :=
  zloop (fun s : Int × zM => f_X9_formula_152_b x0 x2 x3 s.1 s.2) (x4, σ)
theorem w_X9_formula_152_b {g : zG} {lv : Nat} {out : zO} (x0 x2 x3 x4 : Int) (σ : zM) {r : ((Int × zM) ⊕ ((Int × zM) ⊕ zO))} (h : f_X9_formula_152_b x0 x2 x3 x4 σ = some r) (hk : (zKL (fun s : Int × zM => Gj g MX9_formula (lv + 5) 152 [(0, zr x0), (2, zi x2), (3, zi x3), (4, zi s.1)] [] s.2 out) (zKL (fun s : Int × zM => Gj g MX9_formula (lv + 5) 91 [(0, zr x0), (2, zi s.1)] [] s.2 out) (fun o : zO => o = out))) r) : Gj g MX9_formula (lv + 5) 152 [(0, zr x0), (2, zi x2), (3, zi x3), (4, zi x4)] [] σ out := by
  revert h
  unfold f_X9_formula_152_b
  refine zst_ (gj_iload 3 (pc := 152) dX9_formula_152 rfl) ?_
  refine zst_ (gj_bipush (pc := 154) dX9_formula_154 ⟨rfl, by decide⟩) ?_
  refine gb_if (gj_icmp_ge 184 (pc := 156) dX9_formula_156 (by decide)) ?_ ?_
  · refine zst_ (gj_sub [0, 1] rfl) ?_
    intro h
    obtain ⟨r0, h0, rfl⟩ := zmE h
    exact w_X9_formula_184 x0 x2 σ h0 hk
  · refine zst_ (gj_aload_n 0 (pc := 159) dX9_formula_159 rfl) ?_
    refine gb_get (pc := 160) fl974 dX9_formula_160 q1956 (Or.inl rfl) (fun v1 => ?_)
    refine zst_ (gj_bipush (pc := 163) dX9_formula_163 ⟨rfl, by decide⟩) ?_
    refine zst_ (gj_iload_n 1 (pc := 165) dX9_formula_165 rfl) ?_
    refine zst_ (gj_imul (pc := 166) dX9_formula_166) ?_
    refine zst_ (gj_iload 3 (pc := 167) dX9_formula_167 rfl) ?_
    refine zst_ (gj_iadd (pc := 169) dX9_formula_169) ?_
    refine zst_ (gj_aload_n 0 (pc := 170) dX9_formula_170 rfl) ?_
    refine zst_ (gj_iload_n 2 (pc := 171) dX9_formula_171 rfl) ?_
    refine zst_ (gj_iload 3 (pc := 172) dX9_formula_172 rfl) ?_
    refine gb_gd (fun hb => ?_)
    refine gb_callI (pc := 174) (as := [zr x0, zi x3, zi x4]) (rest := [zi (zadd (zmul 8 x2) x4), zr v1]) (zCl.of (zLk_V (M := MX9_formula) (ci := 9) (r := (RX9, TX9, 84)) plX9_looked.1 rfl rfl (zisE hb).1 (zisE hb).2 dX9_formula_174 q2327 q2329 qs85 q2330) plX9_looked (Nat.le_of_ble_eq_true rfl) (fun h => c_X9_looked h)) (fun v2 σ3 => ?_)
    refine gb_iast (pc := 177) dX9_formula_177 (fun σ4 => ?_)
    refine gb_iinc (pc := 178) 3 (fun y5 => [(4, zi y5), (0, zr x0), (2, zi x2), (3, zi x3)]) dX9_formula_178 rfl (by decide) (fun _ => rfl) (fun y5 => ?_)
    refine zst_ (gj_goto 152 (pc := 181) dX9_formula_181 (by decide)) ?_
    refine zst_ (gj_sub [1, 2, 3, 0] rfl) ?_
    intro h
    cases h
    exact hk
theorem w_X9_formula_152 {g : zG} {lv : Nat} {out : zO} (x0 x2 x3 x4 : Int) (σ : zM) {r : ((Int × zM) ⊕ zO)} (h : f_X9_formula_152 x0 x2 x3 x4 σ = some r) (hk : (zKL (fun s : Int × zM => Gj g MX9_formula (lv + 5) 91 [(0, zr x0), (2, zi s.1)] [] s.2 out) (fun o : zO => o = out)) r) : Gj g MX9_formula (lv + 5) 152 [(0, zr x0), (2, zi x2), (3, zi x3), (4, zi x4)] [] σ out :=
  gj_loop (P := (fun s : Int × zM => Gj g MX9_formula (lv + 5) 152 [(0, zr x0), (2, zi x2), (3, zi x3), (4, zi s.1)] [] s.2 out)) (fun s x hb hx => w_X9_formula_152_b x0 x2 x3 s.1 s.2 hb hx) h hk
noncomputable def f_X9_formula_149 (x0 x2 x3 : Int) (σ : zM) : Option ((Int × zM) ⊕ zO) :=
  f_X9_formula_152 x0 x2 x3 0 σ
theorem w_X9_formula_149 {g : zG} {lv : Nat} {out : zO} (x0 x2 x3 : Int) (σ : zM) {r : ((Int × zM) ⊕ zO)} (h : f_X9_formula_149 x0 x2 x3 σ = some r) (hk : (zKL (fun s : Int × zM => Gj g MX9_formula (lv + 5) 91 [(0, zr x0), (2, zi s.1)] [] s.2 out) (fun o : zO => o = out)) r) : Gj g MX9_formula (lv + 5) 149 [(0, zr x0), (2, zi x2), (3, zi x3)] [] σ out := by
  revert h
  unfold f_X9_formula_149
  refine zst_ (gj_iconst (pc := 149) dX9_formula_149 (by decide)) ?_
  refine zst_ (gj_istore (pc := 150) (ls' := [(4, zi 0), (0, zr x0), (2, zi x2), (3, zi x3)]) dX9_formula_150 (by decide) rfl) ?_
  refine zst_ (gj_sub [1, 2, 3, 0] rfl) ?_
  exact fun h => w_X9_formula_152 x0 x2 x3 0 σ h hk
noncomputable def f_X9_formula_141 (x0 x2 x4 t0 t1 : Int) (σ : zM) : Option ((Int × Int × zM) ⊕ ((Int × zM) ⊕ zO)) :=
  zlet ((zor t1 t0)) fun y1 =>
  zlet (zadd x4 1) fun y2 =>
  some (.inl (y1, y2, σ))
theorem w_X9_formula_141 {g : zG} {lv : Nat} {out : zO} (x0 x2 x4 t0 t1 : Int) (σ : zM) {r : ((Int × Int × zM) ⊕ ((Int × zM) ⊕ zO))} (h : f_X9_formula_141 x0 x2 x4 t0 t1 σ = some r) (hk : (zKL (fun s : Int × Int × zM => Gj g MX9_formula (lv + 5) 114 [(0, zr x0), (2, zi x2), (3, zi s.1), (4, zi s.2.1)] [] s.2.2 out) (zKL (fun s : Int × zM => Gj g MX9_formula (lv + 5) 91 [(0, zr x0), (2, zi s.1)] [] s.2 out) (fun o : zO => o = out))) r) : Gj g MX9_formula (lv + 5) 141 [(0, zr x0), (2, zi x2), (4, zi x4)] [zi t0, zi t1] σ out := by
  revert h
  unfold f_X9_formula_141
  refine zst_ (gj_ior (pc := 141) dX9_formula_141) ?_
  refine gb_let (fun y1 => ?_)
  refine zst_ (gj_istore_n (pc := 142) (ls' := [(3, zi y1), (0, zr x0), (2, zi x2), (4, zi x4)]) dX9_formula_142 (by decide) rfl) ?_
  refine gb_iinc (pc := 143) 3 (fun y2 => [(4, zi y2), (3, zi y1), (0, zr x0), (2, zi x2)]) dX9_formula_143 rfl (by decide) (fun _ => rfl) (fun y2 => ?_)
  refine zst_ (gj_goto 114 (pc := 146) dX9_formula_146 (by decide)) ?_
  refine zst_ (gj_sub [2, 3, 1, 0] rfl) ?_
  intro h
  cases h
  exact hk
noncomputable def f_X9_formula_114_b (x0 x2 x3 x4 : Int) (σ : zM) : Option ((Int × Int × zM) ⊕ ((Int × zM) ⊕ zO)) :=
  (zgf σ 969 x0).bind fun v1 =>
  if v1 ≤ x4 then
    (f_X9_formula_149 x0 x2 x3 σ).map (fun r => (.inr r))
  else
    zgd (zis σ 10 x0) <|
    zci (f_X9_holdsAt x0 x4 σ) fun v2 σ3 =>
    if v2 = 0 then
      f_X9_formula_141 x0 x2 x4 0 x3 σ3
    else
      f_X9_formula_141 x0 x2 x4 (zshl 1 x4) x3 σ3
noncomputable def f_X9_formula_114 (x0 x2 x3 x4 : Int) (σ : zM) : Option ((Int × zM) ⊕ zO) :=
  zloop (fun s : Int × Int × zM => f_X9_formula_114_b x0 x2 s.1 s.2.1 s.2.2) (x3, x4, σ)
theorem w_X9_formula_114_b {g : zG} {lv : Nat} {out : zO} (x0 x2 x3 x4 : Int) (σ : zM) {r : ((Int × Int × zM) ⊕ ((Int × zM) ⊕ zO))} (h : f_X9_formula_114_b x0 x2 x3 x4 σ = some r) (hk : (zKL (fun s : Int × Int × zM => Gj g MX9_formula (lv + 5) 114 [(0, zr x0), (2, zi x2), (3, zi s.1), (4, zi s.2.1)] [] s.2.2 out) (zKL (fun s : Int × zM => Gj g MX9_formula (lv + 5) 91 [(0, zr x0), (2, zi s.1)] [] s.2 out) (fun o : zO => o = out))) r) : Gj g MX9_formula (lv + 5) 114 [(0, zr x0), (2, zi x2), (3, zi x3), (4, zi x4)] [] σ out := by
  revert h
  unfold f_X9_formula_114_b
  refine zst_ (gj_iload 3 (pc := 114) dX9_formula_114 rfl) ?_
  refine zst_ (gj_aload_n 0 (pc := 116) dX9_formula_116 rfl) ?_
  refine gb_get (pc := 117) fl969 dX9_formula_117 q1951 (Or.inl rfl) (fun v1 => ?_)
  refine gb_if (gj_icmp_ge 149 (pc := 120) dX9_formula_120 (by decide)) ?_ ?_
  · refine zst_ (gj_sub [0, 1, 2] rfl) ?_
    intro h
    obtain ⟨r0, h0, rfl⟩ := zmE h
    exact w_X9_formula_149 x0 x2 x3 σ h0 hk
  · refine zst_ (gj_iload_n 2 (pc := 123) dX9_formula_123 rfl) ?_
    refine zst_ (gj_aload_n 0 (pc := 124) dX9_formula_124 rfl) ?_
    refine zst_ (gj_iload 3 (pc := 125) dX9_formula_125 rfl) ?_
    refine gb_gd (fun hb => ?_)
    refine gb_callI (pc := 127) (as := [zr x0, zi x4]) (rest := [zi x3]) (zCl.of (zLk_V (M := MX9_formula) (ci := 9) (r := (RX9, TX9, 84)) plX9_holdsAt.1 rfl rfl (zisE hb).1 (zisE hb).2 dX9_formula_127 q2323 q2325 qs84 q2326) plX9_holdsAt (Nat.le_of_ble_eq_true rfl) (fun h => c_X9_holdsAt h)) (fun v2 σ3 => ?_)
    refine gb_if (gj_if_eq 140 (pc := 130) dX9_formula_130 (by decide)) ?_ ?_
    · refine zst_ (gj_iconst (pc := 140) dX9_formula_140 (by decide)) ?_
      refine zst_ (gj_sub [0, 1, 3] rfl) ?_
      exact fun h => w_X9_formula_141 x0 x2 x4 0 x3 σ3 h hk
    · refine zst_ (gj_iconst (pc := 133) dX9_formula_133 (by decide)) ?_
      refine zst_ (gj_iload 3 (pc := 134) dX9_formula_134 rfl) ?_
      refine zst_ (gj_ishl (pc := 136) dX9_formula_136) ?_
      refine zst_ (gj_goto 141 (pc := 137) dX9_formula_137 (by decide)) ?_
      refine zst_ (gj_sub [0, 1, 3] rfl) ?_
      exact fun h => w_X9_formula_141 x0 x2 x4 (zshl 1 x4) x3 σ3 h hk
theorem w_X9_formula_114 {g : zG} {lv : Nat} {out : zO} (x0 x2 x3 x4 : Int) (σ : zM) {r : ((Int × zM) ⊕ zO)} (h : f_X9_formula_114 x0 x2 x3 x4 σ = some r) (hk : (zKL (fun s : Int × zM => Gj g MX9_formula (lv + 5) 91 [(0, zr x0), (2, zi s.1)] [] s.2 out) (fun o : zO => o = out)) r) : Gj g MX9_formula (lv + 5) 114 [(0, zr x0), (2, zi x2), (3, zi x3), (4, zi x4)] [] σ out :=
  gj_loop (P := (fun s : Int × Int × zM => Gj g MX9_formula (lv + 5) 114 [(0, zr x0), (2, zi x2), (3, zi s.1), (4, zi s.2.1)] [] s.2.2 out)) (fun s x hb hx => w_X9_formula_114_b x0 x2 s.1 s.2.1 s.2.2 hb hx) h hk
noncomputable def f_X9_formula_91_b (x0 x2 : Int) (σ : zM) : Option ((Int × zM) ⊕ zO) :=
  (zgf σ 944 x0).bind fun v1 =>
  if v1 ≤ x2 then
    (f_X9_formula_190 x0 σ).map (fun r => (.inr r))
  else
    (zgf σ 947 x0).bind fun v2 =>
    (zga σ 102 v2 x2).bind fun v3 =>
    zgd (zis σ 10 x0) <|
    zcv (f_X9_unpack x0 v3 σ) fun σ4 =>
    f_X9_formula_114 x0 x2 0 0 σ4
noncomputable def f_X9_formula_91 (x0 x2 : Int) (σ : zM) : Option zO :=
  zloop (fun s : Int × zM => f_X9_formula_91_b x0 s.1 s.2) (x2, σ)
theorem w_X9_formula_91_b {g : zG} {lv : Nat} {out : zO} (x0 x2 : Int) (σ : zM) {r : ((Int × zM) ⊕ zO)} (h : f_X9_formula_91_b x0 x2 σ = some r) (hk : (zKL (fun s : Int × zM => Gj g MX9_formula (lv + 5) 91 [(0, zr x0), (2, zi s.1)] [] s.2 out) (fun o : zO => o = out)) r) : Gj g MX9_formula (lv + 5) 91 [(0, zr x0), (2, zi x2)] [] σ out := by
  revert h
  unfold f_X9_formula_91_b
  refine zst_ (gj_iload_n 1 (pc := 91) dX9_formula_91 rfl) ?_
  refine zst_ (gj_aload_n 0 (pc := 92) dX9_formula_92 rfl) ?_
  refine gb_get (pc := 93) fl944 dX9_formula_93 q1926 (Or.inl rfl) (fun v1 => ?_)
  refine gb_if (gj_icmp_ge 190 (pc := 96) dX9_formula_96 (by decide)) ?_ ?_
  · refine zst_ (gj_sub [0] rfl) ?_
    intro h
    obtain ⟨r0, h0, rfl⟩ := zmE h
    exact w_X9_formula_190 x0 σ h0 hk
  · refine zst_ (gj_aload_n 0 (pc := 99) dX9_formula_99 rfl) ?_
    refine zst_ (gj_aload_n 0 (pc := 100) dX9_formula_100 rfl) ?_
    refine gb_get (pc := 101) fl947 dX9_formula_101 q1929 (Or.inl rfl) (fun v2 => ?_)
    refine zst_ (gj_iload_n 1 (pc := 104) dX9_formula_104 rfl) ?_
    refine gb_lald (pc := 105) dX9_formula_105 (fun v3 => ?_)
    refine gb_gd (fun hb => ?_)
    refine gb_callV (pc := 106) (as := [zr x0, zj v3]) (rest := []) (zCl.of (zLk_V (M := MX9_formula) (ci := 9) (r := (RX9, TX9, 84)) plX9_unpack.1 rfl rfl (zisE hb).1 (zisE hb).2 dX9_formula_106 q2249 q2251 qs69 q2252) plX9_unpack (Nat.le_of_ble_eq_true rfl) (fun h => c_X9_unpack h)) (fun σ4 => ?_)
    refine zst_ (gj_iconst (pc := 109) dX9_formula_109 (by decide)) ?_
    refine zst_ (gj_istore_n (pc := 110) (ls' := [(3, zi 0), (0, zr x0), (2, zi x2)]) dX9_formula_110 (by decide) rfl) ?_
    refine zst_ (gj_iconst (pc := 111) dX9_formula_111 (by decide)) ?_
    refine zst_ (gj_istore (pc := 112) (ls' := [(4, zi 0), (3, zi 0), (0, zr x0), (2, zi x2)]) dX9_formula_112 (by decide) rfl) ?_
    refine zst_ (gj_sub [2, 3, 1, 0] rfl) ?_
    exact fun h => w_X9_formula_114 x0 x2 0 0 σ4 h hk
theorem w_X9_formula_91 {g : zG} {lv : Nat} {out : zO} (x0 x2 : Int) (σ : zM) {r : zO} (h : f_X9_formula_91 x0 x2 σ = some r) (hk : (fun o : zO => o = out) r) : Gj g MX9_formula (lv + 5) 91 [(0, zr x0), (2, zi x2)] [] σ out :=
  gj_loop (P := (fun s : Int × zM => Gj g MX9_formula (lv + 5) 91 [(0, zr x0), (2, zi s.1)] [] s.2 out)) (fun s x hb hx => w_X9_formula_91_b x0 s.1 s.2 hb hx) h hk
noncomputable def f_X9_formula_80 (x0 x1 t0 t1 : Int) (σ : zM) : Option zO :=
  (zpf σ 900 t1 t0).bind fun σ1 =>
  if x1 ≠ 0 then
    f_X9_formula_91 x0 0 σ1
  else
    some (0, zi 0, σ1)
theorem w_X9_formula_80 {g : zG} {lv : Nat} {out : zO} (x0 x1 t0 t1 : Int) (σ : zM) {r : zO} (h : f_X9_formula_80 x0 x1 t0 t1 σ = some r) (hk : (fun o : zO => o = out) r) : Gj g MX9_formula (lv + 5) 80 [(0, zr x0), (1, zi x1)] [zi t0, zr t1] σ out := by
  revert h
  unfold f_X9_formula_80
  refine gb_put (pc := 80) fl900 fr900 dX9_formula_80 q1882 (Or.inl rfl) (fun σ1 => ?_)
  refine zst_ (gj_iload_n 1 (pc := 83) dX9_formula_83 rfl) ?_
  refine gb_if (gj_if_ne 89 (pc := 84) dX9_formula_84 (by decide)) ?_ ?_
  · refine zst_ (gj_iconst (pc := 89) dX9_formula_89 (by decide)) ?_
    refine zst_ (gj_istore_n (pc := 90) (ls' := [(2, zi 0), (0, zr x0), (1, zi x1)]) dX9_formula_90 (by decide) rfl) ?_
    refine zst_ (gj_sub [1, 0] rfl) ?_
    exact fun h => w_X9_formula_91 x0 0 σ1 h hk
  · refine zst_ (gj_iconst (pc := 87) dX9_formula_87 (by decide)) ?_
    intro h
    cases h
    have hk : (0, zi 0, σ1) = out := hk
    subst hk
    exact gj_ret (pc := 88) (t := .int) dX9_formula_88 rfl ⟨rfl, rfl⟩ (fun h => h)
noncomputable def f_X9_formula_67 (x0 x1 t0 t1 : Int) (σ : zM) : Option zO :=
  (zpf σ 905 t1 t0).bind fun σ1 =>
  if x1 = 0 then
    f_X9_formula_80 x0 x1 2 x0 σ1
  else
    f_X9_formula_80 x0 x1 0 x0 σ1
theorem w_X9_formula_67 {g : zG} {lv : Nat} {out : zO} (x0 x1 t0 t1 : Int) (σ : zM) {r : zO} (h : f_X9_formula_67 x0 x1 t0 t1 σ = some r) (hk : (fun o : zO => o = out) r) : Gj g MX9_formula (lv + 5) 67 [(0, zr x0), (1, zi x1)] [zi t0, zr t1] σ out := by
  revert h
  unfold f_X9_formula_67
  refine gb_put (pc := 67) fl905 fr905 dX9_formula_67 q1887 (Or.inl rfl) (fun σ1 => ?_)
  refine zst_ (gj_aload_n 0 (pc := 70) dX9_formula_70 rfl) ?_
  refine zst_ (gj_iload_n 1 (pc := 71) dX9_formula_71 rfl) ?_
  refine gb_if (gj_if_eq 79 (pc := 72) dX9_formula_72 (by decide)) ?_ ?_
  · refine zst_ (gj_iconst (pc := 79) dX9_formula_79 (by decide)) ?_
    exact fun h => w_X9_formula_80 x0 x1 2 x0 σ1 h hk
  · refine zst_ (gj_iconst (pc := 75) dX9_formula_75 (by decide)) ?_
    refine zst_ (gj_goto 80 (pc := 76) dX9_formula_76 (by decide)) ?_
    exact fun h => w_X9_formula_80 x0 x1 0 x0 σ1 h hk
noncomputable def f_X9_formula_39 (x0 t0 : Int) (σ : zM) : Option zO :=
  (zpf σ 901 x0 0).bind fun σ1 =>
  (zgf σ1 906 x0).bind fun v2 =>
  if v2 ≠ 0 then
    if t0 = 0 then
      (zgf σ1 904 x0).bind fun v3 =>
      f_X9_formula_67 x0 t0 v3 x0 σ1
    else
      f_X9_formula_67 x0 t0 (-1) x0 σ1
  else
    some (0, zi 0, σ1)
theorem w_X9_formula_39 {g : zG} {lv : Nat} {out : zO} (x0 t0 : Int) (σ : zM) {r : zO} (h : f_X9_formula_39 x0 t0 σ = some r) (hk : (fun o : zO => o = out) r) : Gj g MX9_formula (lv + 5) 39 [(0, zr x0)] [zi t0] σ out := by
  revert h
  unfold f_X9_formula_39
  refine zst_ (gj_istore_n (pc := 39) (ls' := [(1, zi t0), (0, zr x0)]) dX9_formula_39 (by decide) rfl) ?_
  refine zst_ (gj_aload_n 1 (pc := 40) dX9_formula_40 rfl) ?_
  refine zst_ (gj_iconst (pc := 41) dX9_formula_41 (by decide)) ?_
  refine gb_put (pc := 42) fl901 fr901 dX9_formula_42 q1883 (Or.inl rfl) (fun σ1 => ?_)
  refine zst_ (gj_aload_n 1 (pc := 45) dX9_formula_45 rfl) ?_
  refine gb_get (pc := 46) fl906 dX9_formula_46 q1888 (Or.inl rfl) (fun v2 => ?_)
  refine gb_if (gj_if_ne 54 (pc := 49) dX9_formula_49 (by decide)) ?_ ?_
  · refine zst_ (gj_aload_n 1 (pc := 54) dX9_formula_54 rfl) ?_
    refine zst_ (gj_iload_n 0 (pc := 55) dX9_formula_55 rfl) ?_
    refine gb_if (gj_if_eq 63 (pc := 56) dX9_formula_56 (by decide)) ?_ ?_
    · refine zst_ (gj_aload_n 1 (pc := 63) dX9_formula_63 rfl) ?_
      refine gb_get (pc := 64) fl904 dX9_formula_64 q1886 (Or.inl rfl) (fun v3 => ?_)
      refine zst_ (gj_sub [1, 0] rfl) ?_
      exact fun h => w_X9_formula_67 x0 t0 v3 x0 σ1 h hk
    · refine zst_ (gj_iconst (pc := 59) dX9_formula_59 (by decide)) ?_
      refine zst_ (gj_goto 67 (pc := 60) dX9_formula_60 (by decide)) ?_
      refine zst_ (gj_sub [1, 0] rfl) ?_
      exact fun h => w_X9_formula_67 x0 t0 (-1) x0 σ1 h hk
  · refine zst_ (gj_iconst (pc := 52) dX9_formula_52 (by decide)) ?_
    intro h
    cases h
    have hk : (0, zi 0, σ1) = out := hk
    subst hk
    exact gj_ret (pc := 53) (t := .int) dX9_formula_53 rfl ⟨rfl, rfl⟩ (fun h => h)
noncomputable def f_X9_formula_38 (x0 : Int) (σ : zM) : Option zO :=
  f_X9_formula_39 x0 0 σ
theorem w_X9_formula_38 {g : zG} {lv : Nat} {out : zO} (x0 : Int) (σ : zM) {r : zO} (h : f_X9_formula_38 x0 σ = some r) (hk : (fun o : zO => o = out) r) : Gj g MX9_formula (lv + 5) 38 [(0, zr x0)] [] σ out := by
  revert h
  unfold f_X9_formula_38
  refine zst_ (gj_iconst (pc := 38) dX9_formula_38 (by decide)) ?_
  exact fun h => w_X9_formula_39 x0 0 σ h hk
noncomputable def f_X9_formula (x0 : Int) (σ : zM) : Option zO :=
  zgd (z01 0) <|
  (zpf σ 961 x0 0).bind fun σ1 =>
  (zpf σ1 978 x0 (-1)).bind fun σ2 =>
  (zpf σ2 905 x0 (-1)).bind fun σ3 =>
  (zpf σ3 900 x0 1).bind fun σ4 =>
  (zgf σ4 906 x0).bind fun v5 =>
  if v5 = 0 then
    f_X9_formula_38 x0 σ4
  else
    zgd (zis σ4 10 x0) <|
    zci (f_X9_wholeFormula x0 σ4) fun v6 σ7 =>
    if v6 = 0 then
      f_X9_formula_38 x0 σ7
    else
      f_X9_formula_39 x0 1 σ7
theorem c_X9_formula {g : zG} {lv : Nat} {x0 : Int} {σ : zM} {out : zO} (h : f_X9_formula x0 σ = some out) : Cj g (lv + 5) MX9_formula [zr x0] σ out := by
  refine cj_go (ls := [(0, zr x0)]) (by decide) (Nat.le_of_ble_eq_true rfl) rfl (zgen h (fun r hk => ?_))
  unfold f_X9_formula
  refine zst_ (gj_aload_n 0 (pc := 0) dX9_formula_0 rfl) ?_
  refine zst_ (gj_iconst (pc := 1) dX9_formula_1 (by decide)) ?_
  refine gb_gd (fun hb => ?_)
  refine gb_put (pc := 2) fl961 (fr961 hb) dX9_formula_2 q1943 (Or.inl rfl) (fun σ1 => ?_)
  refine zst_ (gj_aload_n 0 (pc := 5) dX9_formula_5 rfl) ?_
  refine zst_ (gj_iconst (pc := 6) dX9_formula_6 (by decide)) ?_
  refine gb_put (pc := 7) fl978 fr978 dX9_formula_7 q1960 (Or.inl rfl) (fun σ2 => ?_)
  refine zst_ (gj_aload_n 0 (pc := 10) dX9_formula_10 rfl) ?_
  refine zst_ (gj_iconst (pc := 11) dX9_formula_11 (by decide)) ?_
  refine gb_put (pc := 12) fl905 fr905 dX9_formula_12 q1887 (Or.inl rfl) (fun σ3 => ?_)
  refine zst_ (gj_aload_n 0 (pc := 15) dX9_formula_15 rfl) ?_
  refine zst_ (gj_iconst (pc := 16) dX9_formula_16 (by decide)) ?_
  refine gb_put (pc := 17) fl900 fr900 dX9_formula_17 q1882 (Or.inl rfl) (fun σ4 => ?_)
  refine zst_ (gj_aload_n 0 (pc := 20) dX9_formula_20 rfl) ?_
  refine gb_get (pc := 21) fl906 dX9_formula_21 q1888 (Or.inl rfl) (fun v5 => ?_)
  refine gb_if (gj_if_eq 38 (pc := 24) dX9_formula_24 (by decide)) ?_ ?_
  · exact fun h => w_X9_formula_38 x0 σ4 h hk
  · refine zst_ (gj_aload_n 0 (pc := 27) dX9_formula_27 rfl) ?_
    refine gb_gd (fun hb => ?_)
    refine gb_callI (pc := 28) (as := [zr x0]) (rest := []) (zCl.of (zLk_V (M := MX9_formula) (ci := 9) (r := (RX9, TX9, 84)) plX9_wholeFormula.1 rfl rfl (zisE hb).1 (zisE hb).2 dX9_formula_28 q2296 q2298 qs78 q2299) plX9_wholeFormula (Nat.le_of_ble_eq_true rfl) (fun h => c_X9_wholeFormula h)) (fun v6 σ7 => ?_)
    refine gb_if (gj_if_eq 38 (pc := 31) dX9_formula_31 (by decide)) ?_ ?_
    · exact fun h => w_X9_formula_38 x0 σ7 h hk
    · refine zst_ (gj_iconst (pc := 34) dX9_formula_34 (by decide)) ?_
      refine zst_ (gj_goto 39 (pc := 35) dX9_formula_35 (by decide)) ?_
      exact fun h => w_X9_formula_39 x0 1 σ7 h hk
theorem q2342 : (Jvm.Cond.code ({ cls := "LassoFinderModel", name := "isTrue", desc := "(II)Z" } : Jvm.MethodName) prog_22_method_54_code (3 : Nat) (Option.some Jvm.ClassFile.FieldType.boolean)) ∈ lw_all := lw_g (lw_at lw_m10 82 rfl) rfl
abbrev cX9_isTrue : ByteArray := prog_22_method_54_code
def yX9_isTrue : MethodName := ⟨RX9, "isTrue", "(II)Z"⟩
theorem dX9_isTrue_0 : decode cX9_isTrue 0 = .ok (.aload_n 0, 1) := by decide +kernel
theorem dX9_isTrue_1 : decode cX9_isTrue 1 = .ok (.getfield 166, 3) := by decide +kernel
theorem dX9_isTrue_4 : decode cX9_isTrue 4 = .ok (.bipush 8, 2) := by decide +kernel
theorem dX9_isTrue_6 : decode cX9_isTrue 6 = .ok (.iload_n 1, 1) := by decide +kernel
theorem dX9_isTrue_7 : decode cX9_isTrue 7 = .ok (.imul, 1) := by decide +kernel
theorem dX9_isTrue_8 : decode cX9_isTrue 8 = .ok (.iload_n 2, 1) := by decide +kernel
theorem dX9_isTrue_9 : decode cX9_isTrue 9 = .ok (.iadd, 1) := by decide +kernel
theorem dX9_isTrue_10 : decode cX9_isTrue 10 = .ok (.iaload, 1) := by decide +kernel
theorem dX9_isTrue_11 : decode cX9_isTrue 11 = .ok (.bipush 6, 2) := by decide +kernel
theorem dX9_isTrue_13 : decode cX9_isTrue 13 = .ok (.ishr, 1) := by decide +kernel
theorem dX9_isTrue_14 : decode cX9_isTrue 14 = .ok (.iconst 1, 1) := by decide +kernel
theorem dX9_isTrue_15 : decode cX9_isTrue 15 = .ok (.iand, 1) := by decide +kernel
theorem dX9_isTrue_16 : decode cX9_isTrue 16 = .ok (.iconst 1, 1) := by decide +kernel
theorem dX9_isTrue_17 : decode cX9_isTrue 17 = .ok (.if_icmp .ne 7, 3) := by decide +kernel
theorem dX9_isTrue_20 : decode cX9_isTrue 20 = .ok (.iconst 1, 1) := by decide +kernel
theorem dX9_isTrue_21 : decode cX9_isTrue 21 = .ok (.goto 4, 3) := by decide +kernel
theorem dX9_isTrue_24 : decode cX9_isTrue 24 = .ok (.iconst 0, 1) := by decide +kernel
theorem dX9_isTrue_25 : decode cX9_isTrue 25 = .ok (.ireturn, 1) := by decide +kernel
abbrev MX9_isTrue : zT := (yX9_isTrue, cX9_isTrue, 3, (Option.some Jvm.ClassFile.FieldType.boolean), [])
theorem plX9_isTrue : zplain MX9_isTrue 2 ∧ (zcodeW MX9_isTrue ∈ lw_all ∧ Cond.initialized MX9_isTrue.1.cls ∈ lw_all) := ⟨⟨by decide +kernel, by decide +kernel⟩, q2342, q127⟩
noncomputable def f_X9_isTrue_25 (t0 : Int) (σ : zM) : Option zO :=
  zgd (z01 t0) <|
  some (0, zi t0, σ)
theorem w_X9_isTrue_25 {g : zG} {lv : Nat} {out : zO} (t0 : Int) (σ : zM) {r : zO} (h : f_X9_isTrue_25 t0 σ = some r) (hk : (fun o : zO => o = out) r) : Gj g MX9_isTrue (lv) 25 [] [zi t0] σ out := by
  revert h
  unfold f_X9_isTrue_25
  refine gb_gd (fun hb => ?_)
  intro h
  cases h
  have hk : (0, zi t0, σ) = out := hk
  subst hk
  exact gj_ret (pc := 25) (t := .boolean) dX9_isTrue_25 rfl ⟨rfl, rfl⟩ (fun _ => z01E hb)
noncomputable def f_X9_isTrue (x0 x1 x2 : Int) (σ : zM) : Option zO :=
  (zgf σ 974 x0).bind fun v1 =>
  (zga σ 101 v1 (zadd (zmul 8 x1) x2)).bind fun v2 =>
  if (zand (zshr v2 6) 1) ≠ 1 then
    f_X9_isTrue_25 0 σ
  else
    f_X9_isTrue_25 1 σ
theorem c_X9_isTrue {g : zG} {lv : Nat} {x0 x1 x2 : Int} {σ : zM} {out : zO} (h : f_X9_isTrue x0 x1 x2 σ = some out) : Cj g (lv) MX9_isTrue [zr x0, zi x1, zi x2] σ out := by
  refine cj_go (ls := [(0, zr x0), (1, zi x1), (2, zi x2)]) (by decide) (Nat.le_of_ble_eq_true rfl) rfl (zgen h (fun r hk => ?_))
  unfold f_X9_isTrue
  refine zst_ (gj_aload_n 0 (pc := 0) dX9_isTrue_0 rfl) ?_
  refine gb_get (pc := 1) fl974 dX9_isTrue_1 q1956 (Or.inl rfl) (fun v1 => ?_)
  refine zst_ (gj_bipush (pc := 4) dX9_isTrue_4 ⟨rfl, by decide⟩) ?_
  refine zst_ (gj_iload_n 1 (pc := 6) dX9_isTrue_6 rfl) ?_
  refine zst_ (gj_imul (pc := 7) dX9_isTrue_7) ?_
  refine zst_ (gj_iload_n 2 (pc := 8) dX9_isTrue_8 rfl) ?_
  refine zst_ (gj_iadd (pc := 9) dX9_isTrue_9) ?_
  refine gb_iald (pc := 10) dX9_isTrue_10 (fun v2 => ?_)
  refine zst_ (gj_bipush (pc := 11) dX9_isTrue_11 ⟨rfl, by decide⟩) ?_
  refine zst_ (gj_ishr (pc := 13) dX9_isTrue_13) ?_
  refine zst_ (gj_iconst (pc := 14) dX9_isTrue_14 (by decide)) ?_
  refine zst_ (gj_iand (pc := 15) dX9_isTrue_15) ?_
  refine zst_ (gj_iconst (pc := 16) dX9_isTrue_16 (by decide)) ?_
  refine gb_if (gj_icmp_ne 24 (pc := 17) dX9_isTrue_17 (by decide)) ?_ ?_
  · refine zst_ (gj_iconst (pc := 24) dX9_isTrue_24 (by decide)) ?_
    refine zst_ (gj_sub [] rfl) ?_
    exact fun h => w_X9_isTrue_25 0 σ h hk
  · refine zst_ (gj_iconst (pc := 20) dX9_isTrue_20 (by decide)) ?_
    refine zst_ (gj_goto 25 (pc := 21) dX9_isTrue_21 (by decide)) ?_
    refine zst_ (gj_sub [] rfl) ?_
    exact fun h => w_X9_isTrue_25 1 σ h hk
theorem q2354 : (Jvm.Cond.code ({ cls := "LassoFinderModel", name := "settled", desc := "(II)I" } : Jvm.MethodName) prog_22_method_53_code (9 : Nat) (Option.some Jvm.ClassFile.FieldType.int)) ∈ lw_all := lw_g (lw_at lw_m10 94 rfl) rfl
abbrev cX9_settled : ByteArray := prog_22_method_53_code
def yX9_settled : MethodName := ⟨RX9, "settled", "(II)I"⟩
theorem dX9_settled_0 : decode cX9_settled 0 = .ok (.iconst 0, 1) := by decide +kernel
theorem dX9_settled_1 : decode cX9_settled 1 = .ok (.istore_n 3, 1) := by decide +kernel
theorem dX9_settled_2 : decode cX9_settled 2 = .ok (.iconst 0, 1) := by decide +kernel
theorem dX9_settled_3 : decode cX9_settled 3 = .ok (.istore 4, 2) := by decide +kernel
theorem dX9_settled_5 : decode cX9_settled 5 = .ok (.iload 4, 2) := by decide +kernel
theorem dX9_settled_7 : decode cX9_settled 7 = .ok (.aload_n 0, 1) := by decide +kernel
theorem dX9_settled_8 : decode cX9_settled 8 = .ok (.getfield 376, 3) := by decide +kernel
theorem dX9_settled_11 : decode cX9_settled 11 = .ok (.if_icmp .ge 167, 3) := by decide +kernel
theorem dX9_settled_14 : decode cX9_settled 14 = .ok (.aload_n 0, 1) := by decide +kernel
theorem dX9_settled_15 : decode cX9_settled 15 = .ok (.getfield 166, 3) := by decide +kernel
theorem dX9_settled_18 : decode cX9_settled 18 = .ok (.bipush 8, 2) := by decide +kernel
theorem dX9_settled_20 : decode cX9_settled 20 = .ok (.iload_n 1, 1) := by decide +kernel
theorem dX9_settled_21 : decode cX9_settled 21 = .ok (.imul, 1) := by decide +kernel
theorem dX9_settled_22 : decode cX9_settled 22 = .ok (.iload_n 2, 1) := by decide +kernel
theorem dX9_settled_23 : decode cX9_settled 23 = .ok (.iadd, 1) := by decide +kernel
theorem dX9_settled_24 : decode cX9_settled 24 = .ok (.iaload, 1) := by decide +kernel
theorem dX9_settled_25 : decode cX9_settled 25 = .ok (.istore 5, 2) := by decide +kernel
theorem dX9_settled_27 : decode cX9_settled 27 = .ok (.aload_n 0, 1) := by decide +kernel
theorem dX9_settled_28 : decode cX9_settled 28 = .ok (.getfield 145, 3) := by decide +kernel
theorem dX9_settled_31 : decode cX9_settled 31 = .ok (.aload_n 0, 1) := by decide +kernel
theorem dX9_settled_32 : decode cX9_settled 32 = .ok (.getfield 151, 3) := by decide +kernel
theorem dX9_settled_35 : decode cX9_settled 35 = .ok (.iload 4, 2) := by decide +kernel
theorem dX9_settled_37 : decode cX9_settled 37 = .ok (.iaload, 1) := by decide +kernel
theorem dX9_settled_38 : decode cX9_settled 38 = .ok (.iaload, 1) := by decide +kernel
theorem dX9_settled_39 : decode cX9_settled 39 = .ok (.bipush 12, 2) := by decide +kernel
theorem dX9_settled_41 : decode cX9_settled 41 = .ok (.if_icmp .eq 20, 3) := by decide +kernel
theorem dX9_settled_44 : decode cX9_settled 44 = .ok (.aload_n 0, 1) := by decide +kernel
theorem dX9_settled_45 : decode cX9_settled 45 = .ok (.getfield 145, 3) := by decide +kernel
theorem dX9_settled_48 : decode cX9_settled 48 = .ok (.aload_n 0, 1) := by decide +kernel
theorem dX9_settled_49 : decode cX9_settled 49 = .ok (.getfield 151, 3) := by decide +kernel
theorem dX9_settled_52 : decode cX9_settled 52 = .ok (.iload 4, 2) := by decide +kernel
theorem dX9_settled_54 : decode cX9_settled 54 = .ok (.iaload, 1) := by decide +kernel
theorem dX9_settled_55 : decode cX9_settled 55 = .ok (.iaload, 1) := by decide +kernel
theorem dX9_settled_56 : decode cX9_settled 56 = .ok (.bipush 13, 2) := by decide +kernel
theorem dX9_settled_58 : decode cX9_settled 58 = .ok (.if_icmp .ne 17, 3) := by decide +kernel
theorem dX9_settled_61 : decode cX9_settled 61 = .ok (.iload 5, 2) := by decide +kernel
theorem dX9_settled_63 : decode cX9_settled 63 = .ok (.iconst 2, 1) := by decide +kernel
theorem dX9_settled_64 : decode cX9_settled 64 = .ok (.iload 4, 2) := by decide +kernel
theorem dX9_settled_66 : decode cX9_settled 66 = .ok (.imul, 1) := by decide +kernel
theorem dX9_settled_67 : decode cX9_settled 67 = .ok (.iconst 1, 1) := by decide +kernel
theorem dX9_settled_68 : decode cX9_settled 68 = .ok (.iadd, 1) := by decide +kernel
theorem dX9_settled_69 : decode cX9_settled 69 = .ok (.ishr, 1) := by decide +kernel
theorem dX9_settled_70 : decode cX9_settled 70 = .ok (.iconst 1, 1) := by decide +kernel
theorem dX9_settled_71 : decode cX9_settled 71 = .ok (.iand, 1) := by decide +kernel
theorem dX9_settled_72 : decode cX9_settled 72 = .ok (.goto 12, 3) := by decide +kernel
theorem dX9_settled_75 : decode cX9_settled 75 = .ok (.iload 5, 2) := by decide +kernel
theorem dX9_settled_77 : decode cX9_settled 77 = .ok (.iconst 2, 1) := by decide +kernel
theorem dX9_settled_78 : decode cX9_settled 78 = .ok (.iload 4, 2) := by decide +kernel
theorem dX9_settled_80 : decode cX9_settled 80 = .ok (.imul, 1) := by decide +kernel
theorem dX9_settled_81 : decode cX9_settled 81 = .ok (.ishr, 1) := by decide +kernel
theorem dX9_settled_82 : decode cX9_settled 82 = .ok (.iconst 1, 1) := by decide +kernel
theorem dX9_settled_83 : decode cX9_settled 83 = .ok (.iand, 1) := by decide +kernel
theorem dX9_settled_84 : decode cX9_settled 84 = .ok (.istore 6, 2) := by decide +kernel
theorem dX9_settled_86 : decode cX9_settled 86 = .ok (.iload_n 2, 1) := by decide +kernel
theorem dX9_settled_87 : decode cX9_settled 87 = .ok (.iload 4, 2) := by decide +kernel
theorem dX9_settled_89 : decode cX9_settled 89 = .ok (.ishr, 1) := by decide +kernel
theorem dX9_settled_90 : decode cX9_settled 90 = .ok (.iconst 1, 1) := by decide +kernel
theorem dX9_settled_91 : decode cX9_settled 91 = .ok (.iand, 1) := by decide +kernel
theorem dX9_settled_92 : decode cX9_settled 92 = .ok (.istore 7, 2) := by decide +kernel
theorem dX9_settled_94 : decode cX9_settled 94 = .ok (.aload_n 0, 1) := by decide +kernel
theorem dX9_settled_95 : decode cX9_settled 95 = .ok (.getfield 145, 3) := by decide +kernel
theorem dX9_settled_98 : decode cX9_settled 98 = .ok (.aload_n 0, 1) := by decide +kernel
theorem dX9_settled_99 : decode cX9_settled 99 = .ok (.getfield 151, 3) := by decide +kernel
theorem dX9_settled_102 : decode cX9_settled 102 = .ok (.iload 4, 2) := by decide +kernel
theorem dX9_settled_104 : decode cX9_settled 104 = .ok (.iaload, 1) := by decide +kernel
theorem dX9_settled_105 : decode cX9_settled 105 = .ok (.iaload, 1) := by decide +kernel
theorem dX9_settled_106 : decode cX9_settled 106 = .ok (.bipush 12, 2) := by decide +kernel
theorem dX9_settled_108 : decode cX9_settled 108 = .ok (.if_icmp .eq 20, 3) := by decide +kernel
theorem dX9_settled_111 : decode cX9_settled 111 = .ok (.aload_n 0, 1) := by decide +kernel
theorem dX9_settled_112 : decode cX9_settled 112 = .ok (.getfield 145, 3) := by decide +kernel
theorem dX9_settled_115 : decode cX9_settled 115 = .ok (.aload_n 0, 1) := by decide +kernel
theorem dX9_settled_116 : decode cX9_settled 116 = .ok (.getfield 151, 3) := by decide +kernel
theorem dX9_settled_119 : decode cX9_settled 119 = .ok (.iload 4, 2) := by decide +kernel
theorem dX9_settled_121 : decode cX9_settled 121 = .ok (.iaload, 1) := by decide +kernel
theorem dX9_settled_122 : decode cX9_settled 122 = .ok (.iaload, 1) := by decide +kernel
theorem dX9_settled_123 : decode cX9_settled 123 = .ok (.bipush 15, 2) := by decide +kernel
theorem dX9_settled_125 : decode cX9_settled 125 = .ok (.if_icmp .ne 7, 3) := by decide +kernel
theorem dX9_settled_128 : decode cX9_settled 128 = .ok (.iconst 1, 1) := by decide +kernel
theorem dX9_settled_129 : decode cX9_settled 129 = .ok (.goto 4, 3) := by decide +kernel
theorem dX9_settled_132 : decode cX9_settled 132 = .ok (.iconst 0, 1) := by decide +kernel
theorem dX9_settled_133 : decode cX9_settled 133 = .ok (.istore 8, 2) := by decide +kernel
theorem dX9_settled_135 : decode cX9_settled 135 = .ok (.iload 8, 2) := by decide +kernel
theorem dX9_settled_137 : decode cX9_settled 137 = .ok (.ifCond .eq 17, 3) := by decide +kernel
theorem dX9_settled_140 : decode cX9_settled 140 = .ok (.iload 7, 2) := by decide +kernel
theorem dX9_settled_142 : decode cX9_settled 142 = .ok (.ifCond .eq 23, 3) := by decide +kernel
theorem dX9_settled_145 : decode cX9_settled 145 = .ok (.iload 6, 2) := by decide +kernel
theorem dX9_settled_147 : decode cX9_settled 147 = .ok (.iconst 1, 1) := by decide +kernel
theorem dX9_settled_148 : decode cX9_settled 148 = .ok (.if_icmp .ne 24, 3) := by decide +kernel
theorem dX9_settled_151 : decode cX9_settled 151 = .ok (.goto 14, 3) := by decide +kernel
theorem dX9_settled_154 : decode cX9_settled 154 = .ok (.iload 7, 2) := by decide +kernel
theorem dX9_settled_156 : decode cX9_settled 156 = .ok (.iconst 1, 1) := by decide +kernel
theorem dX9_settled_157 : decode cX9_settled 157 = .ok (.if_icmp .eq 8, 3) := by decide +kernel
theorem dX9_settled_160 : decode cX9_settled 160 = .ok (.iload 6, 2) := by decide +kernel
theorem dX9_settled_162 : decode cX9_settled 162 = .ok (.ifCond .ne 10, 3) := by decide +kernel
theorem dX9_settled_165 : decode cX9_settled 165 = .ok (.iload_n 3, 1) := by decide +kernel
theorem dX9_settled_166 : decode cX9_settled 166 = .ok (.iconst 1, 1) := by decide +kernel
theorem dX9_settled_167 : decode cX9_settled 167 = .ok (.iload 4, 2) := by decide +kernel
theorem dX9_settled_169 : decode cX9_settled 169 = .ok (.ishl, 1) := by decide +kernel
theorem dX9_settled_170 : decode cX9_settled 170 = .ok (.ior, 1) := by decide +kernel
theorem dX9_settled_171 : decode cX9_settled 171 = .ok (.istore_n 3, 1) := by decide +kernel
theorem dX9_settled_172 : decode cX9_settled 172 = .ok (.iinc 4 1, 3) := by decide +kernel
theorem dX9_settled_175 : decode cX9_settled 175 = .ok (.goto (-170), 3) := by decide +kernel
theorem dX9_settled_178 : decode cX9_settled 178 = .ok (.iload_n 3, 1) := by decide +kernel
theorem dX9_settled_179 : decode cX9_settled 179 = .ok (.ireturn, 1) := by decide +kernel
abbrev MX9_settled : zT := (yX9_settled, cX9_settled, 9, (Option.some Jvm.ClassFile.FieldType.int), [])
theorem plX9_settled : zplain MX9_settled 2 ∧ (zcodeW MX9_settled ∈ lw_all ∧ Cond.initialized MX9_settled.1.cls ∈ lw_all) := ⟨⟨by decide +kernel, by decide +kernel⟩, q2354, q127⟩
noncomputable def f_X9_settled_178 (x3 : Int) (σ : zM) : Option zO :=
  some (0, zi x3, σ)
theorem w_X9_settled_178 {g : zG} {lv : Nat} {out : zO} (x3 : Int) (σ : zM) {r : zO} (h : f_X9_settled_178 x3 σ = some r) (hk : (fun o : zO => o = out) r) : Gj g MX9_settled (lv) 178 [(3, zi x3)] [] σ out := by
  revert h
  unfold f_X9_settled_178
  refine zst_ (gj_iload_n 0 (pc := 178) dX9_settled_178 rfl) ?_
  intro h
  cases h
  have hk : (0, zi x3, σ) = out := hk
  subst hk
  exact gj_ret (pc := 179) (t := .int) dX9_settled_179 rfl ⟨rfl, rfl⟩ (fun h => h)
noncomputable def f_X9_settled_172 (x0 x1 x2 x3 x4 : Int) (σ : zM) : Option ((Int × Int) ⊕ zO) :=
  zlet (zadd x4 1) fun y1 =>
  some (.inl (x3, y1))
theorem w_X9_settled_172 {g : zG} {lv : Nat} {out : zO} (x0 x1 x2 x3 x4 : Int) (σ : zM) {r : ((Int × Int) ⊕ zO)} (h : f_X9_settled_172 x0 x1 x2 x3 x4 σ = some r) (hk : (zKL (fun s : Int × Int => Gj g MX9_settled (lv) 5 [(0, zr x0), (1, zi x1), (2, zi x2), (3, zi s.1), (4, zi s.2)] [] σ out) (fun o : zO => o = out)) r) : Gj g MX9_settled (lv) 172 [(0, zr x0), (1, zi x1), (2, zi x2), (3, zi x3), (4, zi x4)] [] σ out := by
  revert h
  unfold f_X9_settled_172
  refine gb_iinc (pc := 172) 4 (fun y1 => [(4, zi y1), (0, zr x0), (1, zi x1), (2, zi x2), (3, zi x3)]) dX9_settled_172 rfl (by decide) (fun _ => rfl) (fun y1 => ?_)
  refine zst_ (gj_goto 5 (pc := 175) dX9_settled_175 (by decide)) ?_
  refine zst_ (gj_sub [1, 2, 3, 4, 0] rfl) ?_
  intro h
  cases h
  exact hk
noncomputable def f_X9_settled_165 (x0 x1 x2 x3 x4 : Int) (σ : zM) : Option ((Int × Int) ⊕ zO) :=
  zlet ((zor x3 (zshl 1 x4))) fun y1 =>
  f_X9_settled_172 x0 x1 x2 y1 x4 σ
theorem w_X9_settled_165 {g : zG} {lv : Nat} {out : zO} (x0 x1 x2 x3 x4 : Int) (σ : zM) {r : ((Int × Int) ⊕ zO)} (h : f_X9_settled_165 x0 x1 x2 x3 x4 σ = some r) (hk : (zKL (fun s : Int × Int => Gj g MX9_settled (lv) 5 [(0, zr x0), (1, zi x1), (2, zi x2), (3, zi s.1), (4, zi s.2)] [] σ out) (fun o : zO => o = out)) r) : Gj g MX9_settled (lv) 165 [(0, zr x0), (1, zi x1), (2, zi x2), (3, zi x3), (4, zi x4)] [] σ out := by
  revert h
  unfold f_X9_settled_165
  refine zst_ (gj_iload_n 3 (pc := 165) dX9_settled_165 rfl) ?_
  refine zst_ (gj_iconst (pc := 166) dX9_settled_166 (by decide)) ?_
  refine zst_ (gj_iload 4 (pc := 167) dX9_settled_167 rfl) ?_
  refine zst_ (gj_ishl (pc := 169) dX9_settled_169) ?_
  refine zst_ (gj_ior (pc := 170) dX9_settled_170) ?_
  refine gb_let (fun y1 => ?_)
  refine zst_ (gj_istore_n (pc := 171) (ls' := [(3, zi y1), (0, zr x0), (1, zi x1), (2, zi x2), (4, zi x4)]) dX9_settled_171 (by decide) rfl) ?_
  refine zst_ (gj_sub [1, 2, 3, 0, 4] rfl) ?_
  exact fun h => w_X9_settled_172 x0 x1 x2 y1 x4 σ h hk
noncomputable def f_X9_settled_133 (x0 x1 x2 x3 x4 x6 x7 t0 : Int) (σ : zM) : Option ((Int × Int) ⊕ zO) :=
  if t0 = 0 then
    if x7 = 1 then
      f_X9_settled_165 x0 x1 x2 x3 x4 σ
    else
      if x6 ≠ 0 then
        f_X9_settled_172 x0 x1 x2 x3 x4 σ
      else
        f_X9_settled_165 x0 x1 x2 x3 x4 σ
  else
    if x7 = 0 then
      f_X9_settled_165 x0 x1 x2 x3 x4 σ
    else
      if x6 ≠ 1 then
        f_X9_settled_172 x0 x1 x2 x3 x4 σ
      else
        f_X9_settled_165 x0 x1 x2 x3 x4 σ
theorem w_X9_settled_133 {g : zG} {lv : Nat} {out : zO} (x0 x1 x2 x3 x4 x6 x7 t0 : Int) (σ : zM) {r : ((Int × Int) ⊕ zO)} (h : f_X9_settled_133 x0 x1 x2 x3 x4 x6 x7 t0 σ = some r) (hk : (zKL (fun s : Int × Int => Gj g MX9_settled (lv) 5 [(0, zr x0), (1, zi x1), (2, zi x2), (3, zi s.1), (4, zi s.2)] [] σ out) (fun o : zO => o = out)) r) : Gj g MX9_settled (lv) 133 [(0, zr x0), (1, zi x1), (2, zi x2), (3, zi x3), (4, zi x4), (6, zi x6), (7, zi x7)] [zi t0] σ out := by
  revert h
  unfold f_X9_settled_133
  refine zst_ (gj_istore (pc := 133) (ls' := [(8, zi t0), (0, zr x0), (1, zi x1), (2, zi x2), (3, zi x3), (4, zi x4), (6, zi x6), (7, zi x7)]) dX9_settled_133 (by decide) rfl) ?_
  refine zst_ (gj_iload 0 (pc := 135) dX9_settled_135 rfl) ?_
  refine gb_if (gj_if_eq 154 (pc := 137) dX9_settled_137 (by decide)) ?_ ?_
  · refine zst_ (gj_iload 7 (pc := 154) dX9_settled_154 rfl) ?_
    refine zst_ (gj_iconst (pc := 156) dX9_settled_156 (by decide)) ?_
    refine gb_if (gj_icmp_eq 165 (pc := 157) dX9_settled_157 (by decide)) ?_ ?_
    · refine zst_ (gj_sub [1, 2, 3, 4, 5] rfl) ?_
      exact fun h => w_X9_settled_165 x0 x1 x2 x3 x4 σ h hk
    · refine zst_ (gj_iload 6 (pc := 160) dX9_settled_160 rfl) ?_
      refine gb_if (gj_if_ne 172 (pc := 162) dX9_settled_162 (by decide)) ?_ ?_
      · refine zst_ (gj_sub [1, 2, 3, 4, 5] rfl) ?_
        exact fun h => w_X9_settled_172 x0 x1 x2 x3 x4 σ h hk
      · refine zst_ (gj_sub [1, 2, 3, 4, 5] rfl) ?_
        exact fun h => w_X9_settled_165 x0 x1 x2 x3 x4 σ h hk
  · refine zst_ (gj_iload 7 (pc := 140) dX9_settled_140 rfl) ?_
    refine gb_if (gj_if_eq 165 (pc := 142) dX9_settled_142 (by decide)) ?_ ?_
    · refine zst_ (gj_sub [1, 2, 3, 4, 5] rfl) ?_
      exact fun h => w_X9_settled_165 x0 x1 x2 x3 x4 σ h hk
    · refine zst_ (gj_iload 6 (pc := 145) dX9_settled_145 rfl) ?_
      refine zst_ (gj_iconst (pc := 147) dX9_settled_147 (by decide)) ?_
      refine gb_if (gj_icmp_ne 172 (pc := 148) dX9_settled_148 (by decide)) ?_ ?_
      · refine zst_ (gj_sub [1, 2, 3, 4, 5] rfl) ?_
        exact fun h => w_X9_settled_172 x0 x1 x2 x3 x4 σ h hk
      · refine zst_ (gj_goto 165 (pc := 151) dX9_settled_151 (by decide)) ?_
        refine zst_ (gj_sub [1, 2, 3, 4, 5] rfl) ?_
        exact fun h => w_X9_settled_165 x0 x1 x2 x3 x4 σ h hk
noncomputable def f_X9_settled_128 (x0 x1 x2 x3 x4 x6 x7 : Int) (σ : zM) : Option ((Int × Int) ⊕ zO) :=
  f_X9_settled_133 x0 x1 x2 x3 x4 x6 x7 1 σ
theorem w_X9_settled_128 {g : zG} {lv : Nat} {out : zO} (x0 x1 x2 x3 x4 x6 x7 : Int) (σ : zM) {r : ((Int × Int) ⊕ zO)} (h : f_X9_settled_128 x0 x1 x2 x3 x4 x6 x7 σ = some r) (hk : (zKL (fun s : Int × Int => Gj g MX9_settled (lv) 5 [(0, zr x0), (1, zi x1), (2, zi x2), (3, zi s.1), (4, zi s.2)] [] σ out) (fun o : zO => o = out)) r) : Gj g MX9_settled (lv) 128 [(0, zr x0), (1, zi x1), (2, zi x2), (3, zi x3), (4, zi x4), (6, zi x6), (7, zi x7)] [] σ out := by
  revert h
  unfold f_X9_settled_128
  refine zst_ (gj_iconst (pc := 128) dX9_settled_128 (by decide)) ?_
  refine zst_ (gj_goto 133 (pc := 129) dX9_settled_129 (by decide)) ?_
  exact fun h => w_X9_settled_133 x0 x1 x2 x3 x4 x6 x7 1 σ h hk
noncomputable def f_X9_settled_84 (x0 x1 x2 x3 x4 t0 : Int) (σ : zM) : Option ((Int × Int) ⊕ zO) :=
  zlet ((zand (zshr x2 x4) 1)) fun y1 =>
  (zgf σ 963 x0).bind fun v2 =>
  (zgf σ 968 x0).bind fun v3 =>
  (zga σ 101 v3 x4).bind fun v4 =>
  (zga σ 101 v2 v4).bind fun v5 =>
  if v5 = 12 then
    f_X9_settled_128 x0 x1 x2 x3 x4 t0 y1 σ
  else
    (zgf σ 963 x0).bind fun v6 =>
    (zgf σ 968 x0).bind fun v7 =>
    (zga σ 101 v7 x4).bind fun v8 =>
    (zga σ 101 v6 v8).bind fun v9 =>
    if v9 ≠ 15 then
      f_X9_settled_133 x0 x1 x2 x3 x4 t0 y1 0 σ
    else
      f_X9_settled_128 x0 x1 x2 x3 x4 t0 y1 σ
theorem w_X9_settled_84 {g : zG} {lv : Nat} {out : zO} (x0 x1 x2 x3 x4 t0 : Int) (σ : zM) {r : ((Int × Int) ⊕ zO)} (h : f_X9_settled_84 x0 x1 x2 x3 x4 t0 σ = some r) (hk : (zKL (fun s : Int × Int => Gj g MX9_settled (lv) 5 [(0, zr x0), (1, zi x1), (2, zi x2), (3, zi s.1), (4, zi s.2)] [] σ out) (fun o : zO => o = out)) r) : Gj g MX9_settled (lv) 84 [(0, zr x0), (1, zi x1), (2, zi x2), (3, zi x3), (4, zi x4)] [zi t0] σ out := by
  revert h
  unfold f_X9_settled_84
  refine zst_ (gj_istore (pc := 84) (ls' := [(6, zi t0), (0, zr x0), (1, zi x1), (2, zi x2), (3, zi x3), (4, zi x4)]) dX9_settled_84 (by decide) rfl) ?_
  refine zst_ (gj_iload_n 3 (pc := 86) dX9_settled_86 rfl) ?_
  refine zst_ (gj_iload 5 (pc := 87) dX9_settled_87 rfl) ?_
  refine zst_ (gj_ishr (pc := 89) dX9_settled_89) ?_
  refine zst_ (gj_iconst (pc := 90) dX9_settled_90 (by decide)) ?_
  refine zst_ (gj_iand (pc := 91) dX9_settled_91) ?_
  refine gb_let (fun y1 => ?_)
  refine zst_ (gj_istore (pc := 92) (ls' := [(7, zi y1), (6, zi t0), (0, zr x0), (1, zi x1), (2, zi x2), (3, zi x3), (4, zi x4)]) dX9_settled_92 (by decide) rfl) ?_
  refine zst_ (gj_aload_n 2 (pc := 94) dX9_settled_94 rfl) ?_
  refine gb_get (pc := 95) fl963 dX9_settled_95 q1945 (Or.inl rfl) (fun v2 => ?_)
  refine zst_ (gj_aload_n 2 (pc := 98) dX9_settled_98 rfl) ?_
  refine gb_get (pc := 99) fl968 dX9_settled_99 q1950 (Or.inl rfl) (fun v3 => ?_)
  refine zst_ (gj_iload 6 (pc := 102) dX9_settled_102 rfl) ?_
  refine gb_iald (pc := 104) dX9_settled_104 (fun v4 => ?_)
  refine gb_iald (pc := 105) dX9_settled_105 (fun v5 => ?_)
  refine zst_ (gj_bipush (pc := 106) dX9_settled_106 ⟨rfl, by decide⟩) ?_
  refine gb_if (gj_icmp_eq 128 (pc := 108) dX9_settled_108 (by decide)) ?_ ?_
  · refine zst_ (gj_sub [2, 3, 4, 5, 6, 1, 0] rfl) ?_
    exact fun h => w_X9_settled_128 x0 x1 x2 x3 x4 t0 y1 σ h hk
  · refine zst_ (gj_aload_n 2 (pc := 111) dX9_settled_111 rfl) ?_
    refine gb_get (pc := 112) fl963 dX9_settled_112 q1945 (Or.inl rfl) (fun v6 => ?_)
    refine zst_ (gj_aload_n 2 (pc := 115) dX9_settled_115 rfl) ?_
    refine gb_get (pc := 116) fl968 dX9_settled_116 q1950 (Or.inl rfl) (fun v7 => ?_)
    refine zst_ (gj_iload 6 (pc := 119) dX9_settled_119 rfl) ?_
    refine gb_iald (pc := 121) dX9_settled_121 (fun v8 => ?_)
    refine gb_iald (pc := 122) dX9_settled_122 (fun v9 => ?_)
    refine zst_ (gj_bipush (pc := 123) dX9_settled_123 ⟨rfl, by decide⟩) ?_
    refine gb_if (gj_icmp_ne 132 (pc := 125) dX9_settled_125 (by decide)) ?_ ?_
    · refine zst_ (gj_iconst (pc := 132) dX9_settled_132 (by decide)) ?_
      refine zst_ (gj_sub [2, 3, 4, 5, 6, 1, 0] rfl) ?_
      exact fun h => w_X9_settled_133 x0 x1 x2 x3 x4 t0 y1 0 σ h hk
    · refine zst_ (gj_sub [2, 3, 4, 5, 6, 1, 0] rfl) ?_
      exact fun h => w_X9_settled_128 x0 x1 x2 x3 x4 t0 y1 σ h hk
noncomputable def f_X9_settled_61 (x0 x1 x2 x3 x4 x5 : Int) (σ : zM) : Option ((Int × Int) ⊕ zO) :=
  f_X9_settled_84 x0 x1 x2 x3 x4 (zand (zshr x5 (zadd (zmul 2 x4) 1)) 1) σ
theorem w_X9_settled_61 {g : zG} {lv : Nat} {out : zO} (x0 x1 x2 x3 x4 x5 : Int) (σ : zM) {r : ((Int × Int) ⊕ zO)} (h : f_X9_settled_61 x0 x1 x2 x3 x4 x5 σ = some r) (hk : (zKL (fun s : Int × Int => Gj g MX9_settled (lv) 5 [(0, zr x0), (1, zi x1), (2, zi x2), (3, zi s.1), (4, zi s.2)] [] σ out) (fun o : zO => o = out)) r) : Gj g MX9_settled (lv) 61 [(0, zr x0), (1, zi x1), (2, zi x2), (3, zi x3), (4, zi x4), (5, zi x5)] [] σ out := by
  revert h
  unfold f_X9_settled_61
  refine zst_ (gj_iload 5 (pc := 61) dX9_settled_61 rfl) ?_
  refine zst_ (gj_iconst (pc := 63) dX9_settled_63 (by decide)) ?_
  refine zst_ (gj_iload 4 (pc := 64) dX9_settled_64 rfl) ?_
  refine zst_ (gj_imul (pc := 66) dX9_settled_66) ?_
  refine zst_ (gj_iconst (pc := 67) dX9_settled_67 (by decide)) ?_
  refine zst_ (gj_iadd (pc := 68) dX9_settled_68) ?_
  refine zst_ (gj_ishr (pc := 69) dX9_settled_69) ?_
  refine zst_ (gj_iconst (pc := 70) dX9_settled_70 (by decide)) ?_
  refine zst_ (gj_iand (pc := 71) dX9_settled_71) ?_
  refine zst_ (gj_goto 84 (pc := 72) dX9_settled_72 (by decide)) ?_
  refine zst_ (gj_sub [0, 1, 2, 3, 4] rfl) ?_
  exact fun h => w_X9_settled_84 x0 x1 x2 x3 x4 (zand (zshr x5 (zadd (zmul 2 x4) 1)) 1) σ h hk
noncomputable def f_X9_settled_5_b (x0 x1 x2 x3 x4 : Int) (σ : zM) : Option ((Int × Int) ⊕ zO) :=
  (zgf σ 964 x0).bind fun v1 =>
  if v1 ≤ x4 then
    (f_X9_settled_178 x3 σ).map (fun r => (.inr r))
  else
    (zgf σ 974 x0).bind fun v2 =>
    (zga σ 101 v2 (zadd (zmul 8 x1) x2)).bind fun v3 =>
    (zgf σ 963 x0).bind fun v4 =>
    (zgf σ 968 x0).bind fun v5 =>
    (zga σ 101 v5 x4).bind fun v6 =>
    (zga σ 101 v4 v6).bind fun v7 =>
    if v7 = 12 then
      f_X9_settled_61 x0 x1 x2 x3 x4 v3 σ
    else
      (zgf σ 963 x0).bind fun v8 =>
      (zgf σ 968 x0).bind fun v9 =>
      (zga σ 101 v9 x4).bind fun v10 =>
      (zga σ 101 v8 v10).bind fun v11 =>
      if v11 ≠ 13 then
        f_X9_settled_84 x0 x1 x2 x3 x4 (zand (zshr v3 (zmul 2 x4)) 1) σ
      else
        f_X9_settled_61 x0 x1 x2 x3 x4 v3 σ
noncomputable def f_X9_settled_5 (x0 x1 x2 x3 x4 : Int) (σ : zM) : Option zO :=
  zloop (fun s : Int × Int => f_X9_settled_5_b x0 x1 x2 s.1 s.2 σ) (x3, x4)
theorem w_X9_settled_5_b {g : zG} {lv : Nat} {out : zO} (x0 x1 x2 x3 x4 : Int) (σ : zM) {r : ((Int × Int) ⊕ zO)} (h : f_X9_settled_5_b x0 x1 x2 x3 x4 σ = some r) (hk : (zKL (fun s : Int × Int => Gj g MX9_settled (lv) 5 [(0, zr x0), (1, zi x1), (2, zi x2), (3, zi s.1), (4, zi s.2)] [] σ out) (fun o : zO => o = out)) r) : Gj g MX9_settled (lv) 5 [(0, zr x0), (1, zi x1), (2, zi x2), (3, zi x3), (4, zi x4)] [] σ out := by
  revert h
  unfold f_X9_settled_5_b
  refine zst_ (gj_iload 4 (pc := 5) dX9_settled_5 rfl) ?_
  refine zst_ (gj_aload_n 0 (pc := 7) dX9_settled_7 rfl) ?_
  refine gb_get (pc := 8) fl964 dX9_settled_8 q1946 (Or.inl rfl) (fun v1 => ?_)
  refine gb_if (gj_icmp_ge 178 (pc := 11) dX9_settled_11 (by decide)) ?_ ?_
  · refine zst_ (gj_sub [3] rfl) ?_
    intro h
    obtain ⟨r0, h0, rfl⟩ := zmE h
    exact w_X9_settled_178 x3 σ h0 hk
  · refine zst_ (gj_aload_n 0 (pc := 14) dX9_settled_14 rfl) ?_
    refine gb_get (pc := 15) fl974 dX9_settled_15 q1956 (Or.inl rfl) (fun v2 => ?_)
    refine zst_ (gj_bipush (pc := 18) dX9_settled_18 ⟨rfl, by decide⟩) ?_
    refine zst_ (gj_iload_n 1 (pc := 20) dX9_settled_20 rfl) ?_
    refine zst_ (gj_imul (pc := 21) dX9_settled_21) ?_
    refine zst_ (gj_iload_n 2 (pc := 22) dX9_settled_22 rfl) ?_
    refine zst_ (gj_iadd (pc := 23) dX9_settled_23) ?_
    refine gb_iald (pc := 24) dX9_settled_24 (fun v3 => ?_)
    refine zst_ (gj_istore (pc := 25) (ls' := [(5, zi v3), (0, zr x0), (1, zi x1), (2, zi x2), (3, zi x3), (4, zi x4)]) dX9_settled_25 (by decide) rfl) ?_
    refine zst_ (gj_aload_n 1 (pc := 27) dX9_settled_27 rfl) ?_
    refine gb_get (pc := 28) fl963 dX9_settled_28 q1945 (Or.inl rfl) (fun v4 => ?_)
    refine zst_ (gj_aload_n 1 (pc := 31) dX9_settled_31 rfl) ?_
    refine gb_get (pc := 32) fl968 dX9_settled_32 q1950 (Or.inl rfl) (fun v5 => ?_)
    refine zst_ (gj_iload 5 (pc := 35) dX9_settled_35 rfl) ?_
    refine gb_iald (pc := 37) dX9_settled_37 (fun v6 => ?_)
    refine gb_iald (pc := 38) dX9_settled_38 (fun v7 => ?_)
    refine zst_ (gj_bipush (pc := 39) dX9_settled_39 ⟨rfl, by decide⟩) ?_
    refine gb_if (gj_icmp_eq 61 (pc := 41) dX9_settled_41 (by decide)) ?_ ?_
    · refine zst_ (gj_sub [1, 2, 3, 4, 5, 0] rfl) ?_
      exact fun h => w_X9_settled_61 x0 x1 x2 x3 x4 v3 σ h hk
    · refine zst_ (gj_aload_n 1 (pc := 44) dX9_settled_44 rfl) ?_
      refine gb_get (pc := 45) fl963 dX9_settled_45 q1945 (Or.inl rfl) (fun v8 => ?_)
      refine zst_ (gj_aload_n 1 (pc := 48) dX9_settled_48 rfl) ?_
      refine gb_get (pc := 49) fl968 dX9_settled_49 q1950 (Or.inl rfl) (fun v9 => ?_)
      refine zst_ (gj_iload 5 (pc := 52) dX9_settled_52 rfl) ?_
      refine gb_iald (pc := 54) dX9_settled_54 (fun v10 => ?_)
      refine gb_iald (pc := 55) dX9_settled_55 (fun v11 => ?_)
      refine zst_ (gj_bipush (pc := 56) dX9_settled_56 ⟨rfl, by decide⟩) ?_
      refine gb_if (gj_icmp_ne 75 (pc := 58) dX9_settled_58 (by decide)) ?_ ?_
      · refine zst_ (gj_iload 0 (pc := 75) dX9_settled_75 rfl) ?_
        refine zst_ (gj_iconst (pc := 77) dX9_settled_77 (by decide)) ?_
        refine zst_ (gj_iload 5 (pc := 78) dX9_settled_78 rfl) ?_
        refine zst_ (gj_imul (pc := 80) dX9_settled_80) ?_
        refine zst_ (gj_ishr (pc := 81) dX9_settled_81) ?_
        refine zst_ (gj_iconst (pc := 82) dX9_settled_82 (by decide)) ?_
        refine zst_ (gj_iand (pc := 83) dX9_settled_83) ?_
        refine zst_ (gj_sub [1, 2, 3, 4, 5] rfl) ?_
        exact fun h => w_X9_settled_84 x0 x1 x2 x3 x4 (zand (zshr v3 (zmul 2 x4)) 1) σ h hk
      · refine zst_ (gj_sub [1, 2, 3, 4, 5, 0] rfl) ?_
        exact fun h => w_X9_settled_61 x0 x1 x2 x3 x4 v3 σ h hk
theorem w_X9_settled_5 {g : zG} {lv : Nat} {out : zO} (x0 x1 x2 x3 x4 : Int) (σ : zM) {r : zO} (h : f_X9_settled_5 x0 x1 x2 x3 x4 σ = some r) (hk : (fun o : zO => o = out) r) : Gj g MX9_settled (lv) 5 [(0, zr x0), (1, zi x1), (2, zi x2), (3, zi x3), (4, zi x4)] [] σ out :=
  gj_loop (P := (fun s : Int × Int => Gj g MX9_settled (lv) 5 [(0, zr x0), (1, zi x1), (2, zi x2), (3, zi s.1), (4, zi s.2)] [] σ out)) (fun s x hb hx => w_X9_settled_5_b x0 x1 x2 s.1 s.2 σ hb hx) h hk
noncomputable def f_X9_settled (x0 x1 x2 : Int) (σ : zM) : Option zO :=
  f_X9_settled_5 x0 x1 x2 0 0 σ
theorem c_X9_settled {g : zG} {lv : Nat} {x0 x1 x2 : Int} {σ : zM} {out : zO} (h : f_X9_settled x0 x1 x2 σ = some out) : Cj g (lv) MX9_settled [zr x0, zi x1, zi x2] σ out := by
  refine cj_go (ls := [(0, zr x0), (1, zi x1), (2, zi x2)]) (by decide) (Nat.le_of_ble_eq_true rfl) rfl (zgen h (fun r hk => ?_))
  unfold f_X9_settled
  refine zst_ (gj_iconst (pc := 0) dX9_settled_0 (by decide)) ?_
  refine zst_ (gj_istore_n (pc := 1) (ls' := [(3, zi 0), (0, zr x0), (1, zi x1), (2, zi x2)]) dX9_settled_1 (by decide) rfl) ?_
  refine zst_ (gj_iconst (pc := 2) dX9_settled_2 (by decide)) ?_
  refine zst_ (gj_istore (pc := 3) (ls' := [(4, zi 0), (3, zi 0), (0, zr x0), (1, zi x1), (2, zi x2)]) dX9_settled_3 (by decide) rfl) ?_
  refine zst_ (gj_sub [2, 3, 4, 1, 0] rfl) ?_
  exact fun h => w_X9_settled_5 x0 x1 x2 0 0 σ h hk
theorem q2362 : (Jvm.Cond.code ({ cls := "LassoFinderModel", name := "before", desc := "(IIII)I" } : Jvm.MethodName) prog_22_method_51_code (6 : Nat) (Option.some Jvm.ClassFile.FieldType.int)) ∈ lw_all := lw_g (lw_at lw_m10 102 rfl) rfl
abbrev cX9_before : ByteArray := prog_22_method_51_code
def yX9_before : MethodName := ⟨RX9, "before", "(IIII)I"⟩
theorem dX9_before_0 : decode cX9_before 0 = .ok (.aload_n 0, 1) := by decide +kernel
theorem dX9_before_1 : decode cX9_before 1 = .ok (.getfield 145, 3) := by decide +kernel
theorem dX9_before_4 : decode cX9_before 4 = .ok (.aload_n 0, 1) := by decide +kernel
theorem dX9_before_5 : decode cX9_before 5 = .ok (.getfield 151, 3) := by decide +kernel
theorem dX9_before_8 : decode cX9_before 8 = .ok (.iload_n 1, 1) := by decide +kernel
theorem dX9_before_9 : decode cX9_before 9 = .ok (.iaload, 1) := by decide +kernel
theorem dX9_before_10 : decode cX9_before 10 = .ok (.iaload, 1) := by decide +kernel
theorem dX9_before_11 : decode cX9_before 11 = .ok (.istore 5, 2) := by decide +kernel
theorem dX9_before_13 : decode cX9_before 13 = .ok (.iload 5, 2) := by decide +kernel
theorem dX9_before_15 : decode cX9_before 15 = .ok (.bipush 14, 2) := by decide +kernel
theorem dX9_before_17 : decode cX9_before 17 = .ok (.if_icmp .ne 10, 3) := by decide +kernel
theorem dX9_before_20 : decode cX9_before 20 = .ok (.iload_n 2, 1) := by decide +kernel
theorem dX9_before_21 : decode cX9_before 21 = .ok (.iload 4, 2) := by decide +kernel
theorem dX9_before_23 : decode cX9_before 23 = .ok (.iand, 1) := by decide +kernel
theorem dX9_before_24 : decode cX9_before 24 = .ok (.goto 39, 3) := by decide +kernel
theorem dX9_before_27 : decode cX9_before 27 = .ok (.iload 5, 2) := by decide +kernel
theorem dX9_before_29 : decode cX9_before 29 = .ok (.bipush 15, 2) := by decide +kernel
theorem dX9_before_31 : decode cX9_before 31 = .ok (.if_icmp .ne 10, 3) := by decide +kernel
theorem dX9_before_34 : decode cX9_before 34 = .ok (.iload_n 2, 1) := by decide +kernel
theorem dX9_before_35 : decode cX9_before 35 = .ok (.iload 4, 2) := by decide +kernel
theorem dX9_before_37 : decode cX9_before 37 = .ok (.ior, 1) := by decide +kernel
theorem dX9_before_38 : decode cX9_before 38 = .ok (.goto 25, 3) := by decide +kernel
theorem dX9_before_41 : decode cX9_before 41 = .ok (.iload 5, 2) := by decide +kernel
theorem dX9_before_43 : decode cX9_before 43 = .ok (.bipush 12, 2) := by decide +kernel
theorem dX9_before_45 : decode cX9_before 45 = .ok (.if_icmp .ne 12, 3) := by decide +kernel
theorem dX9_before_48 : decode cX9_before 48 = .ok (.iload_n 3, 1) := by decide +kernel
theorem dX9_before_49 : decode cX9_before 49 = .ok (.iload_n 2, 1) := by decide +kernel
theorem dX9_before_50 : decode cX9_before 50 = .ok (.iload 4, 2) := by decide +kernel
theorem dX9_before_52 : decode cX9_before 52 = .ok (.iand, 1) := by decide +kernel
theorem dX9_before_53 : decode cX9_before 53 = .ok (.ior, 1) := by decide +kernel
theorem dX9_before_54 : decode cX9_before 54 = .ok (.goto 9, 3) := by decide +kernel
theorem dX9_before_57 : decode cX9_before 57 = .ok (.iload_n 3, 1) := by decide +kernel
theorem dX9_before_58 : decode cX9_before 58 = .ok (.iload_n 2, 1) := by decide +kernel
theorem dX9_before_59 : decode cX9_before 59 = .ok (.iload 4, 2) := by decide +kernel
theorem dX9_before_61 : decode cX9_before 61 = .ok (.ior, 1) := by decide +kernel
theorem dX9_before_62 : decode cX9_before 62 = .ok (.iand, 1) := by decide +kernel
theorem dX9_before_63 : decode cX9_before 63 = .ok (.ireturn, 1) := by decide +kernel
abbrev MX9_before : zT := (yX9_before, cX9_before, 6, (Option.some Jvm.ClassFile.FieldType.int), [])
theorem plX9_before : zplain MX9_before 4 ∧ (zcodeW MX9_before ∈ lw_all ∧ Cond.initialized MX9_before.1.cls ∈ lw_all) := ⟨⟨by decide +kernel, by decide +kernel⟩, q2362, q127⟩
noncomputable def f_X9_before_63 (t0 : Int) (σ : zM) : Option zO :=
  some (0, zi t0, σ)
theorem w_X9_before_63 {g : zG} {lv : Nat} {out : zO} (t0 : Int) (σ : zM) {r : zO} (h : f_X9_before_63 t0 σ = some r) (hk : (fun o : zO => o = out) r) : Gj g MX9_before (lv) 63 [] [zi t0] σ out := by
  revert h
  unfold f_X9_before_63
  intro h
  cases h
  have hk : (0, zi t0, σ) = out := hk
  subst hk
  exact gj_ret (pc := 63) (t := .int) dX9_before_63 rfl ⟨rfl, rfl⟩ (fun h => h)
noncomputable def f_X9_before (x0 x1 x2 x3 x4 : Int) (σ : zM) : Option zO :=
  (zgf σ 963 x0).bind fun v1 =>
  (zgf σ 968 x0).bind fun v2 =>
  (zga σ 101 v2 x1).bind fun v3 =>
  (zga σ 101 v1 v3).bind fun v4 =>
  if v4 ≠ 14 then
    if v4 ≠ 15 then
      if v4 ≠ 12 then
        f_X9_before_63 (zand x3 (zor x2 x4)) σ
      else
        f_X9_before_63 (zor x3 (zand x2 x4)) σ
    else
      f_X9_before_63 (zor x2 x4) σ
  else
    f_X9_before_63 (zand x2 x4) σ
theorem c_X9_before {g : zG} {lv : Nat} {x0 x1 x2 x3 x4 : Int} {σ : zM} {out : zO} (h : f_X9_before x0 x1 x2 x3 x4 σ = some out) : Cj g (lv) MX9_before [zr x0, zi x1, zi x2, zi x3, zi x4] σ out := by
  refine cj_go (ls := [(0, zr x0), (1, zi x1), (2, zi x2), (3, zi x3), (4, zi x4)]) (by decide) (Nat.le_of_ble_eq_true rfl) rfl (zgen h (fun r hk => ?_))
  unfold f_X9_before
  refine zst_ (gj_aload_n 0 (pc := 0) dX9_before_0 rfl) ?_
  refine gb_get (pc := 1) fl963 dX9_before_1 q1945 (Or.inl rfl) (fun v1 => ?_)
  refine zst_ (gj_aload_n 0 (pc := 4) dX9_before_4 rfl) ?_
  refine gb_get (pc := 5) fl968 dX9_before_5 q1950 (Or.inl rfl) (fun v2 => ?_)
  refine zst_ (gj_iload_n 1 (pc := 8) dX9_before_8 rfl) ?_
  refine gb_iald (pc := 9) dX9_before_9 (fun v3 => ?_)
  refine gb_iald (pc := 10) dX9_before_10 (fun v4 => ?_)
  refine zst_ (gj_istore (pc := 11) (ls' := [(5, zi v4), (0, zr x0), (1, zi x1), (2, zi x2), (3, zi x3), (4, zi x4)]) dX9_before_11 (by decide) rfl) ?_
  refine zst_ (gj_iload 0 (pc := 13) dX9_before_13 rfl) ?_
  refine zst_ (gj_bipush (pc := 15) dX9_before_15 ⟨rfl, by decide⟩) ?_
  refine gb_if (gj_icmp_ne 27 (pc := 17) dX9_before_17 (by decide)) ?_ ?_
  · refine zst_ (gj_iload 0 (pc := 27) dX9_before_27 rfl) ?_
    refine zst_ (gj_bipush (pc := 29) dX9_before_29 ⟨rfl, by decide⟩) ?_
    refine gb_if (gj_icmp_ne 41 (pc := 31) dX9_before_31 (by decide)) ?_ ?_
    · refine zst_ (gj_iload 0 (pc := 41) dX9_before_41 rfl) ?_
      refine zst_ (gj_bipush (pc := 43) dX9_before_43 ⟨rfl, by decide⟩) ?_
      refine gb_if (gj_icmp_ne 57 (pc := 45) dX9_before_45 (by decide)) ?_ ?_
      · refine zst_ (gj_iload_n 4 (pc := 57) dX9_before_57 rfl) ?_
        refine zst_ (gj_iload_n 3 (pc := 58) dX9_before_58 rfl) ?_
        refine zst_ (gj_iload 5 (pc := 59) dX9_before_59 rfl) ?_
        refine zst_ (gj_ior (pc := 61) dX9_before_61) ?_
        refine zst_ (gj_iand (pc := 62) dX9_before_62) ?_
        refine zst_ (gj_sub [] rfl) ?_
        exact fun h => w_X9_before_63 (zand x3 (zor x2 x4)) σ h hk
      · refine zst_ (gj_iload_n 4 (pc := 48) dX9_before_48 rfl) ?_
        refine zst_ (gj_iload_n 3 (pc := 49) dX9_before_49 rfl) ?_
        refine zst_ (gj_iload 5 (pc := 50) dX9_before_50 rfl) ?_
        refine zst_ (gj_iand (pc := 52) dX9_before_52) ?_
        refine zst_ (gj_ior (pc := 53) dX9_before_53) ?_
        refine zst_ (gj_goto 63 (pc := 54) dX9_before_54 (by decide)) ?_
        refine zst_ (gj_sub [] rfl) ?_
        exact fun h => w_X9_before_63 (zor x3 (zand x2 x4)) σ h hk
    · refine zst_ (gj_iload_n 3 (pc := 34) dX9_before_34 rfl) ?_
      refine zst_ (gj_iload 5 (pc := 35) dX9_before_35 rfl) ?_
      refine zst_ (gj_ior (pc := 37) dX9_before_37) ?_
      refine zst_ (gj_goto 63 (pc := 38) dX9_before_38 (by decide)) ?_
      refine zst_ (gj_sub [] rfl) ?_
      exact fun h => w_X9_before_63 (zor x2 x4) σ h hk
  · refine zst_ (gj_iload_n 3 (pc := 20) dX9_before_20 rfl) ?_
    refine zst_ (gj_iload 5 (pc := 21) dX9_before_21 rfl) ?_
    refine zst_ (gj_iand (pc := 23) dX9_before_23) ?_
    refine zst_ (gj_goto 63 (pc := 24) dX9_before_24 (by decide)) ?_
    refine zst_ (gj_sub [] rfl) ?_
    exact fun h => w_X9_before_63 (zand x2 x4) σ h hk
theorem q2358 : (Jvm.Cond.code ({ cls := "LassoFinderModel", name := "truthAt", desc := "(II)I" } : Jvm.MethodName) prog_22_method_52_code (6 : Nat) (Option.some Jvm.ClassFile.FieldType.int)) ∈ lw_all := lw_g (lw_at lw_m10 98 rfl) rfl
theorem q2359 : (Jvm.Cond.methodLink "LassoFinderModel" (415 : Nat) ({ cls := "LassoFinderModel", name := "before", desc := "(IIII)I" } : Jvm.MethodName)) ∈ lw_all := lw_g (lw_at lw_m10 99 rfl) rfl
theorem q2361 : (Jvm.Cond.instanceMethod ({ cls := "LassoFinderModel", name := "before", desc := "(IIII)I" } : Jvm.MethodName)) ∈ lw_all := lw_g (lw_at lw_m10 101 rfl) rfl
abbrev cX9_truthAt : ByteArray := prog_22_method_52_code
def yX9_truthAt : MethodName := ⟨RX9, "truthAt", "(II)I"⟩
theorem dX9_truthAt_0 : decode cX9_truthAt 0 = .ok (.iconst 0, 1) := by decide +kernel
theorem dX9_truthAt_1 : decode cX9_truthAt 1 = .ok (.istore_n 3, 1) := by decide +kernel
theorem dX9_truthAt_2 : decode cX9_truthAt 2 = .ok (.iconst 0, 1) := by decide +kernel
theorem dX9_truthAt_3 : decode cX9_truthAt 3 = .ok (.istore 4, 2) := by decide +kernel
theorem dX9_truthAt_5 : decode cX9_truthAt 5 = .ok (.iload 4, 2) := by decide +kernel
theorem dX9_truthAt_7 : decode cX9_truthAt 7 = .ok (.aload_n 0, 1) := by decide +kernel
theorem dX9_truthAt_8 : decode cX9_truthAt 8 = .ok (.getfield 376, 3) := by decide +kernel
theorem dX9_truthAt_11 : decode cX9_truthAt 11 = .ok (.if_icmp .ge 60, 3) := by decide +kernel
theorem dX9_truthAt_14 : decode cX9_truthAt 14 = .ok (.aload_n 0, 1) := by decide +kernel
theorem dX9_truthAt_15 : decode cX9_truthAt 15 = .ok (.getfield 166, 3) := by decide +kernel
theorem dX9_truthAt_18 : decode cX9_truthAt 18 = .ok (.bipush 8, 2) := by decide +kernel
theorem dX9_truthAt_20 : decode cX9_truthAt 20 = .ok (.iload_n 1, 1) := by decide +kernel
theorem dX9_truthAt_21 : decode cX9_truthAt 21 = .ok (.imul, 1) := by decide +kernel
theorem dX9_truthAt_22 : decode cX9_truthAt 22 = .ok (.iload_n 3, 1) := by decide +kernel
theorem dX9_truthAt_23 : decode cX9_truthAt 23 = .ok (.iadd, 1) := by decide +kernel
theorem dX9_truthAt_24 : decode cX9_truthAt 24 = .ok (.iaload, 1) := by decide +kernel
theorem dX9_truthAt_25 : decode cX9_truthAt 25 = .ok (.istore 5, 2) := by decide +kernel
theorem dX9_truthAt_27 : decode cX9_truthAt 27 = .ok (.iload_n 3, 1) := by decide +kernel
theorem dX9_truthAt_28 : decode cX9_truthAt 28 = .ok (.aload_n 0, 1) := by decide +kernel
theorem dX9_truthAt_29 : decode cX9_truthAt 29 = .ok (.iload 4, 2) := by decide +kernel
theorem dX9_truthAt_31 : decode cX9_truthAt 31 = .ok (.iload 5, 2) := by decide +kernel
theorem dX9_truthAt_33 : decode cX9_truthAt 33 = .ok (.iconst 2, 1) := by decide +kernel
theorem dX9_truthAt_34 : decode cX9_truthAt 34 = .ok (.iload 4, 2) := by decide +kernel
theorem dX9_truthAt_36 : decode cX9_truthAt 36 = .ok (.imul, 1) := by decide +kernel
theorem dX9_truthAt_37 : decode cX9_truthAt 37 = .ok (.ishr, 1) := by decide +kernel
theorem dX9_truthAt_38 : decode cX9_truthAt 38 = .ok (.iconst 1, 1) := by decide +kernel
theorem dX9_truthAt_39 : decode cX9_truthAt 39 = .ok (.iand, 1) := by decide +kernel
theorem dX9_truthAt_40 : decode cX9_truthAt 40 = .ok (.iload 5, 2) := by decide +kernel
theorem dX9_truthAt_42 : decode cX9_truthAt 42 = .ok (.iconst 2, 1) := by decide +kernel
theorem dX9_truthAt_43 : decode cX9_truthAt 43 = .ok (.iload 4, 2) := by decide +kernel
theorem dX9_truthAt_45 : decode cX9_truthAt 45 = .ok (.imul, 1) := by decide +kernel
theorem dX9_truthAt_46 : decode cX9_truthAt 46 = .ok (.iconst 1, 1) := by decide +kernel
theorem dX9_truthAt_47 : decode cX9_truthAt 47 = .ok (.iadd, 1) := by decide +kernel
theorem dX9_truthAt_48 : decode cX9_truthAt 48 = .ok (.ishr, 1) := by decide +kernel
theorem dX9_truthAt_49 : decode cX9_truthAt 49 = .ok (.iconst 1, 1) := by decide +kernel
theorem dX9_truthAt_50 : decode cX9_truthAt 50 = .ok (.iand, 1) := by decide +kernel
theorem dX9_truthAt_51 : decode cX9_truthAt 51 = .ok (.iload_n 2, 1) := by decide +kernel
theorem dX9_truthAt_52 : decode cX9_truthAt 52 = .ok (.iload 4, 2) := by decide +kernel
theorem dX9_truthAt_54 : decode cX9_truthAt 54 = .ok (.ishr, 1) := by decide +kernel
theorem dX9_truthAt_55 : decode cX9_truthAt 55 = .ok (.iconst 1, 1) := by decide +kernel
theorem dX9_truthAt_56 : decode cX9_truthAt 56 = .ok (.iand, 1) := by decide +kernel
theorem dX9_truthAt_57 : decode cX9_truthAt 57 = .ok (.invokevirtual 415, 3) := by decide +kernel
theorem dX9_truthAt_60 : decode cX9_truthAt 60 = .ok (.iload 4, 2) := by decide +kernel
theorem dX9_truthAt_62 : decode cX9_truthAt 62 = .ok (.ishl, 1) := by decide +kernel
theorem dX9_truthAt_63 : decode cX9_truthAt 63 = .ok (.ior, 1) := by decide +kernel
theorem dX9_truthAt_64 : decode cX9_truthAt 64 = .ok (.istore_n 3, 1) := by decide +kernel
theorem dX9_truthAt_65 : decode cX9_truthAt 65 = .ok (.iinc 4 1, 3) := by decide +kernel
theorem dX9_truthAt_68 : decode cX9_truthAt 68 = .ok (.goto (-63), 3) := by decide +kernel
theorem dX9_truthAt_71 : decode cX9_truthAt 71 = .ok (.iload_n 3, 1) := by decide +kernel
theorem dX9_truthAt_72 : decode cX9_truthAt 72 = .ok (.ireturn, 1) := by decide +kernel
abbrev MX9_truthAt : zT := (yX9_truthAt, cX9_truthAt, 6, (Option.some Jvm.ClassFile.FieldType.int), [])
theorem plX9_truthAt : zplain MX9_truthAt 2 ∧ (zcodeW MX9_truthAt ∈ lw_all ∧ Cond.initialized MX9_truthAt.1.cls ∈ lw_all) := ⟨⟨by decide +kernel, by decide +kernel⟩, q2358, q127⟩
noncomputable def f_X9_truthAt_71 (x3 : Int) (σ : zM) : Option zO :=
  some (0, zi x3, σ)
theorem w_X9_truthAt_71 {g : zG} {lv : Nat} {out : zO} (x3 : Int) (σ : zM) {r : zO} (h : f_X9_truthAt_71 x3 σ = some r) (hk : (fun o : zO => o = out) r) : Gj g MX9_truthAt (lv + 1) 71 [(3, zi x3)] [] σ out := by
  revert h
  unfold f_X9_truthAt_71
  refine zst_ (gj_iload_n 0 (pc := 71) dX9_truthAt_71 rfl) ?_
  intro h
  cases h
  have hk : (0, zi x3, σ) = out := hk
  subst hk
  exact gj_ret (pc := 72) (t := .int) dX9_truthAt_72 rfl ⟨rfl, rfl⟩ (fun h => h)
noncomputable def f_X9_truthAt_5_b (x0 x1 x2 x3 x4 : Int) (σ : zM) : Option ((Int × Int × zM) ⊕ zO) :=
  (zgf σ 964 x0).bind fun v1 =>
  if v1 ≤ x4 then
    (f_X9_truthAt_71 x3 σ).map (fun r => (.inr r))
  else
    (zgf σ 974 x0).bind fun v2 =>
    (zga σ 101 v2 (zadd (zmul 8 x1) x3)).bind fun v3 =>
    zgd (zis σ 10 x0) <|
    zci (f_X9_before x0 x4 (zand (zshr v3 (zmul 2 x4)) 1) (zand (zshr v3 (zadd (zmul 2 x4) 1)) 1) (zand (zshr x2 x4) 1) σ) fun v4 σ5 =>
    zlet ((zor x3 (zshl v4 x4))) fun y6 =>
    zlet (zadd x4 1) fun y7 =>
    some (.inl (y6, y7, σ5))
noncomputable def f_X9_truthAt_5 (x0 x1 x2 x3 x4 : Int) (σ : zM) : Option zO :=
  zloop (fun s : Int × Int × zM => f_X9_truthAt_5_b x0 x1 x2 s.1 s.2.1 s.2.2) (x3, x4, σ)
theorem w_X9_truthAt_5_b {g : zG} {lv : Nat} {out : zO} (x0 x1 x2 x3 x4 : Int) (σ : zM) {r : ((Int × Int × zM) ⊕ zO)} (h : f_X9_truthAt_5_b x0 x1 x2 x3 x4 σ = some r) (hk : (zKL (fun s : Int × Int × zM => Gj g MX9_truthAt (lv + 1) 5 [(0, zr x0), (1, zi x1), (2, zi x2), (3, zi s.1), (4, zi s.2.1)] [] s.2.2 out) (fun o : zO => o = out)) r) : Gj g MX9_truthAt (lv + 1) 5 [(0, zr x0), (1, zi x1), (2, zi x2), (3, zi x3), (4, zi x4)] [] σ out := by
  revert h
  unfold f_X9_truthAt_5_b
  refine zst_ (gj_iload 4 (pc := 5) dX9_truthAt_5 rfl) ?_
  refine zst_ (gj_aload_n 0 (pc := 7) dX9_truthAt_7 rfl) ?_
  refine gb_get (pc := 8) fl964 dX9_truthAt_8 q1946 (Or.inl rfl) (fun v1 => ?_)
  refine gb_if (gj_icmp_ge 71 (pc := 11) dX9_truthAt_11 (by decide)) ?_ ?_
  · refine zst_ (gj_sub [3] rfl) ?_
    intro h
    obtain ⟨r0, h0, rfl⟩ := zmE h
    exact w_X9_truthAt_71 x3 σ h0 hk
  · refine zst_ (gj_aload_n 0 (pc := 14) dX9_truthAt_14 rfl) ?_
    refine gb_get (pc := 15) fl974 dX9_truthAt_15 q1956 (Or.inl rfl) (fun v2 => ?_)
    refine zst_ (gj_bipush (pc := 18) dX9_truthAt_18 ⟨rfl, by decide⟩) ?_
    refine zst_ (gj_iload_n 1 (pc := 20) dX9_truthAt_20 rfl) ?_
    refine zst_ (gj_imul (pc := 21) dX9_truthAt_21) ?_
    refine zst_ (gj_iload_n 3 (pc := 22) dX9_truthAt_22 rfl) ?_
    refine zst_ (gj_iadd (pc := 23) dX9_truthAt_23) ?_
    refine gb_iald (pc := 24) dX9_truthAt_24 (fun v3 => ?_)
    refine zst_ (gj_istore (pc := 25) (ls' := [(5, zi v3), (0, zr x0), (1, zi x1), (2, zi x2), (3, zi x3), (4, zi x4)]) dX9_truthAt_25 (by decide) rfl) ?_
    refine zst_ (gj_iload_n 4 (pc := 27) dX9_truthAt_27 rfl) ?_
    refine zst_ (gj_aload_n 1 (pc := 28) dX9_truthAt_28 rfl) ?_
    refine zst_ (gj_iload 5 (pc := 29) dX9_truthAt_29 rfl) ?_
    refine zst_ (gj_iload 0 (pc := 31) dX9_truthAt_31 rfl) ?_
    refine zst_ (gj_iconst (pc := 33) dX9_truthAt_33 (by decide)) ?_
    refine zst_ (gj_iload 5 (pc := 34) dX9_truthAt_34 rfl) ?_
    refine zst_ (gj_imul (pc := 36) dX9_truthAt_36) ?_
    refine zst_ (gj_ishr (pc := 37) dX9_truthAt_37) ?_
    refine zst_ (gj_iconst (pc := 38) dX9_truthAt_38 (by decide)) ?_
    refine zst_ (gj_iand (pc := 39) dX9_truthAt_39) ?_
    refine zst_ (gj_iload 0 (pc := 40) dX9_truthAt_40 rfl) ?_
    refine zst_ (gj_iconst (pc := 42) dX9_truthAt_42 (by decide)) ?_
    refine zst_ (gj_iload 5 (pc := 43) dX9_truthAt_43 rfl) ?_
    refine zst_ (gj_imul (pc := 45) dX9_truthAt_45) ?_
    refine zst_ (gj_iconst (pc := 46) dX9_truthAt_46 (by decide)) ?_
    refine zst_ (gj_iadd (pc := 47) dX9_truthAt_47) ?_
    refine zst_ (gj_ishr (pc := 48) dX9_truthAt_48) ?_
    refine zst_ (gj_iconst (pc := 49) dX9_truthAt_49 (by decide)) ?_
    refine zst_ (gj_iand (pc := 50) dX9_truthAt_50) ?_
    refine zst_ (gj_iload_n 3 (pc := 51) dX9_truthAt_51 rfl) ?_
    refine zst_ (gj_iload 5 (pc := 52) dX9_truthAt_52 rfl) ?_
    refine zst_ (gj_ishr (pc := 54) dX9_truthAt_54) ?_
    refine zst_ (gj_iconst (pc := 55) dX9_truthAt_55 (by decide)) ?_
    refine zst_ (gj_iand (pc := 56) dX9_truthAt_56) ?_
    refine gb_gd (fun hb => ?_)
    refine gb_callI (pc := 57) (as := [zr x0, zi x4, zi (zand (zshr v3 (zmul 2 x4)) 1), zi (zand (zshr v3 (zadd (zmul 2 x4) 1)) 1), zi (zand (zshr x2 x4) 1)]) (rest := [zi x3]) (zCl.of (zLk_V (M := MX9_truthAt) (ci := 9) (r := (RX9, TX9, 84)) plX9_before.1 rfl rfl (zisE hb).1 (zisE hb).2 dX9_truthAt_57 q2359 q2361 qs92 q2362) plX9_before (Nat.le_of_ble_eq_true rfl) (fun h => c_X9_before h)) (fun v4 σ5 => ?_)
    refine zst_ (gj_iload 5 (pc := 60) dX9_truthAt_60 rfl) ?_
    refine zst_ (gj_ishl (pc := 62) dX9_truthAt_62) ?_
    refine zst_ (gj_ior (pc := 63) dX9_truthAt_63) ?_
    refine gb_let (fun y6 => ?_)
    refine zst_ (gj_istore_n (pc := 64) (ls' := [(3, zi y6), (5, zi v3), (0, zr x0), (1, zi x1), (2, zi x2), (4, zi x4)]) dX9_truthAt_64 (by decide) rfl) ?_
    refine gb_iinc (pc := 65) 5 (fun y7 => [(4, zi y7), (3, zi y6), (5, zi v3), (0, zr x0), (1, zi x1), (2, zi x2)]) dX9_truthAt_65 rfl (by decide) (fun _ => rfl) (fun y7 => ?_)
    refine zst_ (gj_goto 5 (pc := 68) dX9_truthAt_68 (by decide)) ?_
    refine zst_ (gj_sub [3, 4, 5, 1, 0] rfl) ?_
    intro h
    cases h
    exact hk
theorem w_X9_truthAt_5 {g : zG} {lv : Nat} {out : zO} (x0 x1 x2 x3 x4 : Int) (σ : zM) {r : zO} (h : f_X9_truthAt_5 x0 x1 x2 x3 x4 σ = some r) (hk : (fun o : zO => o = out) r) : Gj g MX9_truthAt (lv + 1) 5 [(0, zr x0), (1, zi x1), (2, zi x2), (3, zi x3), (4, zi x4)] [] σ out :=
  gj_loop (P := (fun s : Int × Int × zM => Gj g MX9_truthAt (lv + 1) 5 [(0, zr x0), (1, zi x1), (2, zi x2), (3, zi s.1), (4, zi s.2.1)] [] s.2.2 out)) (fun s x hb hx => w_X9_truthAt_5_b x0 x1 x2 s.1 s.2.1 s.2.2 hb hx) h hk
noncomputable def f_X9_truthAt (x0 x1 x2 : Int) (σ : zM) : Option zO :=
  f_X9_truthAt_5 x0 x1 x2 0 0 σ
theorem c_X9_truthAt {g : zG} {lv : Nat} {x0 x1 x2 : Int} {σ : zM} {out : zO} (h : f_X9_truthAt x0 x1 x2 σ = some out) : Cj g (lv + 1) MX9_truthAt [zr x0, zi x1, zi x2] σ out := by
  refine cj_go (ls := [(0, zr x0), (1, zi x1), (2, zi x2)]) (by decide) (Nat.le_of_ble_eq_true rfl) rfl (zgen h (fun r hk => ?_))
  unfold f_X9_truthAt
  refine zst_ (gj_iconst (pc := 0) dX9_truthAt_0 (by decide)) ?_
  refine zst_ (gj_istore_n (pc := 1) (ls' := [(3, zi 0), (0, zr x0), (1, zi x1), (2, zi x2)]) dX9_truthAt_1 (by decide) rfl) ?_
  refine zst_ (gj_iconst (pc := 2) dX9_truthAt_2 (by decide)) ?_
  refine zst_ (gj_istore (pc := 3) (ls' := [(4, zi 0), (3, zi 0), (0, zr x0), (1, zi x1), (2, zi x2)]) dX9_truthAt_3 (by decide) rfl) ?_
  refine zst_ (gj_sub [2, 3, 4, 1, 0] rfl) ?_
  exact fun h => w_X9_truthAt_5 x0 x1 x2 0 0 σ h hk
theorem q2366 : (Jvm.Cond.code ({ cls := "LassoFinderModel", name := "away", desc := "(I)I" } : Jvm.MethodName) prog_22_method_55_code (2 : Nat) (Option.some Jvm.ClassFile.FieldType.int)) ∈ lw_all := lw_g (lw_at lw_m10 106 rfl) rfl
abbrev cX9_away : ByteArray := prog_22_method_55_code
def yX9_away : MethodName := ⟨RX9, "away", "(I)I"⟩
theorem dX9_away_0 : decode cX9_away 0 = .ok (.aload_n 0, 1) := by decide +kernel
theorem dX9_away_1 : decode cX9_away 1 = .ok (.getfield 175, 3) := by decide +kernel
theorem dX9_away_4 : decode cX9_away 4 = .ok (.iload_n 1, 1) := by decide +kernel
theorem dX9_away_5 : decode cX9_away 5 = .ok (.iaload, 1) := by decide +kernel
theorem dX9_away_6 : decode cX9_away 6 = .ok (.ifCond .ge 7, 3) := by decide +kernel
theorem dX9_away_9 : decode cX9_away 9 = .ok (.iconst (-1), 1) := by decide +kernel
theorem dX9_away_10 : decode cX9_away 10 = .ok (.goto 13, 3) := by decide +kernel
theorem dX9_away_13 : decode cX9_away 13 = .ok (.aload_n 0, 1) := by decide +kernel
theorem dX9_away_14 : decode cX9_away 14 = .ok (.getfield 175, 3) := by decide +kernel
theorem dX9_away_17 : decode cX9_away 17 = .ok (.iload_n 1, 1) := by decide +kernel
theorem dX9_away_18 : decode cX9_away 18 = .ok (.iaload, 1) := by decide +kernel
theorem dX9_away_19 : decode cX9_away 19 = .ok (.sipush 4095, 3) := by decide +kernel
theorem dX9_away_22 : decode cX9_away 22 = .ok (.iand, 1) := by decide +kernel
theorem dX9_away_23 : decode cX9_away 23 = .ok (.ireturn, 1) := by decide +kernel
abbrev MX9_away : zT := (yX9_away, cX9_away, 2, (Option.some Jvm.ClassFile.FieldType.int), [])
theorem plX9_away : zplain MX9_away 1 ∧ (zcodeW MX9_away ∈ lw_all ∧ Cond.initialized MX9_away.1.cls ∈ lw_all) := ⟨⟨by decide +kernel, by decide +kernel⟩, q2366, q127⟩
noncomputable def f_X9_away_23 (t0 : Int) (σ : zM) : Option zO :=
  some (0, zi t0, σ)
theorem w_X9_away_23 {g : zG} {lv : Nat} {out : zO} (t0 : Int) (σ : zM) {r : zO} (h : f_X9_away_23 t0 σ = some r) (hk : (fun o : zO => o = out) r) : Gj g MX9_away (lv) 23 [] [zi t0] σ out := by
  revert h
  unfold f_X9_away_23
  intro h
  cases h
  have hk : (0, zi t0, σ) = out := hk
  subst hk
  exact gj_ret (pc := 23) (t := .int) dX9_away_23 rfl ⟨rfl, rfl⟩ (fun h => h)
noncomputable def f_X9_away (x0 x1 : Int) (σ : zM) : Option zO :=
  (zgf σ 977 x0).bind fun v1 =>
  (zga σ 101 v1 x1).bind fun v2 =>
  if 0 ≤ v2 then
    (zgf σ 977 x0).bind fun v3 =>
    (zga σ 101 v3 x1).bind fun v4 =>
    f_X9_away_23 (zand v4 4095) σ
  else
    f_X9_away_23 (-1) σ
theorem c_X9_away {g : zG} {lv : Nat} {x0 x1 : Int} {σ : zM} {out : zO} (h : f_X9_away x0 x1 σ = some out) : Cj g (lv) MX9_away [zr x0, zi x1] σ out := by
  refine cj_go (ls := [(0, zr x0), (1, zi x1)]) (by decide) (Nat.le_of_ble_eq_true rfl) rfl (zgen h (fun r hk => ?_))
  unfold f_X9_away
  refine zst_ (gj_aload_n 0 (pc := 0) dX9_away_0 rfl) ?_
  refine gb_get (pc := 1) fl977 dX9_away_1 q1959 (Or.inl rfl) (fun v1 => ?_)
  refine zst_ (gj_iload_n 1 (pc := 4) dX9_away_4 rfl) ?_
  refine gb_iald (pc := 5) dX9_away_5 (fun v2 => ?_)
  refine gb_if (gj_if_ge 13 (pc := 6) dX9_away_6 (by decide)) ?_ ?_
  · refine zst_ (gj_aload_n 0 (pc := 13) dX9_away_13 rfl) ?_
    refine gb_get (pc := 14) fl977 dX9_away_14 q1959 (Or.inl rfl) (fun v3 => ?_)
    refine zst_ (gj_iload_n 1 (pc := 17) dX9_away_17 rfl) ?_
    refine gb_iald (pc := 18) dX9_away_18 (fun v4 => ?_)
    refine zst_ (gj_sipush (pc := 19) dX9_away_19 ⟨rfl, by decide⟩) ?_
    refine zst_ (gj_iand (pc := 22) dX9_away_22) ?_
    refine zst_ (gj_sub [] rfl) ?_
    exact fun h => w_X9_away_23 (zand v4 4095) σ h hk
  · refine zst_ (gj_iconst (pc := 9) dX9_away_9 (by decide)) ?_
    refine zst_ (gj_goto 23 (pc := 10) dX9_away_10 (by decide)) ?_
    refine zst_ (gj_sub [] rfl) ?_
    exact fun h => w_X9_away_23 (-1) σ h hk
theorem q2350 : (Jvm.Cond.code ({ cls := "LassoFinderModel", name := "measure", desc := "(II)V" } : Jvm.MethodName) prog_22_method_56_code (16 : Nat) (Option.none : Option Jvm.ClassFile.FieldType)) ∈ lw_all := lw_g (lw_at lw_m10 90 rfl) rfl
theorem q2351 : (Jvm.Cond.methodLink "LassoFinderModel" (419 : Nat) ({ cls := "LassoFinderModel", name := "settled", desc := "(II)I" } : Jvm.MethodName)) ∈ lw_all := lw_g (lw_at lw_m10 91 rfl) rfl
theorem q2353 : (Jvm.Cond.instanceMethod ({ cls := "LassoFinderModel", name := "settled", desc := "(II)I" } : Jvm.MethodName)) ∈ lw_all := lw_g (lw_at lw_m10 93 rfl) rfl
theorem q2355 : (Jvm.Cond.methodLink "LassoFinderModel" (422 : Nat) ({ cls := "LassoFinderModel", name := "truthAt", desc := "(II)I" } : Jvm.MethodName)) ∈ lw_all := lw_g (lw_at lw_m10 95 rfl) rfl
theorem q2357 : (Jvm.Cond.instanceMethod ({ cls := "LassoFinderModel", name := "truthAt", desc := "(II)I" } : Jvm.MethodName)) ∈ lw_all := lw_g (lw_at lw_m10 97 rfl) rfl
theorem q2363 : (Jvm.Cond.methodLink "LassoFinderModel" (425 : Nat) ({ cls := "LassoFinderModel", name := "away", desc := "(I)I" } : Jvm.MethodName)) ∈ lw_all := lw_g (lw_at lw_m10 103 rfl) rfl
theorem q2365 : (Jvm.Cond.instanceMethod ({ cls := "LassoFinderModel", name := "away", desc := "(I)I" } : Jvm.MethodName)) ∈ lw_all := lw_g (lw_at lw_m10 105 rfl) rfl
abbrev cX9_measure : ByteArray := prog_22_method_56_code
def yX9_measure : MethodName := ⟨RX9, "measure", "(II)V"⟩
theorem dX9_measure_0 : decode cX9_measure 0 = .ok (.iconst 1, 1) := by decide +kernel
theorem dX9_measure_1 : decode cX9_measure 1 = .ok (.aload_n 0, 1) := by decide +kernel
theorem dX9_measure_2 : decode cX9_measure 2 = .ok (.getfield 376, 3) := by decide +kernel
theorem dX9_measure_5 : decode cX9_measure 5 = .ok (.ishl, 1) := by decide +kernel
theorem dX9_measure_6 : decode cX9_measure 6 = .ok (.iconst 1, 1) := by decide +kernel
theorem dX9_measure_7 : decode cX9_measure 7 = .ok (.isub, 1) := by decide +kernel
theorem dX9_measure_8 : decode cX9_measure 8 = .ok (.istore_n 3, 1) := by decide +kernel
theorem dX9_measure_9 : decode cX9_measure 9 = .ok (.iconst 0, 1) := by decide +kernel
theorem dX9_measure_10 : decode cX9_measure 10 = .ok (.istore 4, 2) := by decide +kernel
theorem dX9_measure_12 : decode cX9_measure 12 = .ok (.iload 4, 2) := by decide +kernel
theorem dX9_measure_14 : decode cX9_measure 14 = .ok (.bipush 64, 2) := by decide +kernel
theorem dX9_measure_16 : decode cX9_measure 16 = .ok (.aload_n 0, 1) := by decide +kernel
theorem dX9_measure_17 : decode cX9_measure 17 = .ok (.getfield 345, 3) := by decide +kernel
theorem dX9_measure_20 : decode cX9_measure 20 = .ok (.imul, 1) := by decide +kernel
theorem dX9_measure_21 : decode cX9_measure 21 = .ok (.if_icmp .ge 17, 3) := by decide +kernel
theorem dX9_measure_24 : decode cX9_measure 24 = .ok (.aload_n 0, 1) := by decide +kernel
theorem dX9_measure_25 : decode cX9_measure 25 = .ok (.getfield 175, 3) := by decide +kernel
theorem dX9_measure_28 : decode cX9_measure 28 = .ok (.iload 4, 2) := by decide +kernel
theorem dX9_measure_30 : decode cX9_measure 30 = .ok (.iconst (-1), 1) := by decide +kernel
theorem dX9_measure_31 : decode cX9_measure 31 = .ok (.iastore, 1) := by decide +kernel
theorem dX9_measure_32 : decode cX9_measure 32 = .ok (.iinc 4 1, 3) := by decide +kernel
theorem dX9_measure_35 : decode cX9_measure 35 = .ok (.goto (-23), 3) := by decide +kernel
theorem dX9_measure_38 : decode cX9_measure 38 = .ok (.bipush 64, 2) := by decide +kernel
theorem dX9_measure_40 : decode cX9_measure 40 = .ok (.iload_n 1, 1) := by decide +kernel
theorem dX9_measure_41 : decode cX9_measure 41 = .ok (.imul, 1) := by decide +kernel
theorem dX9_measure_42 : decode cX9_measure 42 = .ok (.bipush 8, 2) := by decide +kernel
theorem dX9_measure_44 : decode cX9_measure 44 = .ok (.iload_n 2, 1) := by decide +kernel
theorem dX9_measure_45 : decode cX9_measure 45 = .ok (.imul, 1) := by decide +kernel
theorem dX9_measure_46 : decode cX9_measure 46 = .ok (.iadd, 1) := by decide +kernel
theorem dX9_measure_47 : decode cX9_measure 47 = .ok (.iload_n 3, 1) := by decide +kernel
theorem dX9_measure_48 : decode cX9_measure 48 = .ok (.iadd, 1) := by decide +kernel
theorem dX9_measure_49 : decode cX9_measure 49 = .ok (.istore 4, 2) := by decide +kernel
theorem dX9_measure_51 : decode cX9_measure 51 = .ok (.aload_n 0, 1) := by decide +kernel
theorem dX9_measure_52 : decode cX9_measure 52 = .ok (.getfield 175, 3) := by decide +kernel
theorem dX9_measure_55 : decode cX9_measure 55 = .ok (.iload 4, 2) := by decide +kernel
theorem dX9_measure_57 : decode cX9_measure 57 = .ok (.iconst 0, 1) := by decide +kernel
theorem dX9_measure_58 : decode cX9_measure 58 = .ok (.iastore, 1) := by decide +kernel
theorem dX9_measure_59 : decode cX9_measure 59 = .ok (.bipush 64, 2) := by decide +kernel
theorem dX9_measure_61 : decode cX9_measure 61 = .ok (.aload_n 0, 1) := by decide +kernel
theorem dX9_measure_62 : decode cX9_measure 62 = .ok (.getfield 345, 3) := by decide +kernel
theorem dX9_measure_65 : decode cX9_measure 65 = .ok (.imul, 1) := by decide +kernel
theorem dX9_measure_66 : decode cX9_measure 66 = .ok (.istore 5, 2) := by decide +kernel
theorem dX9_measure_68 : decode cX9_measure 68 = .ok (.iload 4, 2) := by decide +kernel
theorem dX9_measure_70 : decode cX9_measure 70 = .ok (.istore 6, 2) := by decide +kernel
theorem dX9_measure_72 : decode cX9_measure 72 = .ok (.iload 6, 2) := by decide +kernel
theorem dX9_measure_74 : decode cX9_measure 74 = .ok (.ifCond .lt 220, 3) := by decide +kernel
theorem dX9_measure_77 : decode cX9_measure 77 = .ok (.iload 5, 2) := by decide +kernel
theorem dX9_measure_79 : decode cX9_measure 79 = .ok (.ifCond .le 215, 3) := by decide +kernel
theorem dX9_measure_82 : decode cX9_measure 82 = .ok (.iinc 5 (-1), 3) := by decide +kernel
theorem dX9_measure_85 : decode cX9_measure 85 = .ok (.iload 6, 2) := by decide +kernel
theorem dX9_measure_87 : decode cX9_measure 87 = .ok (.bipush 6, 2) := by decide +kernel
theorem dX9_measure_89 : decode cX9_measure 89 = .ok (.ishr, 1) := by decide +kernel
theorem dX9_measure_90 : decode cX9_measure 90 = .ok (.istore 7, 2) := by decide +kernel
theorem dX9_measure_92 : decode cX9_measure 92 = .ok (.iload 6, 2) := by decide +kernel
theorem dX9_measure_94 : decode cX9_measure 94 = .ok (.iconst 3, 1) := by decide +kernel
theorem dX9_measure_95 : decode cX9_measure 95 = .ok (.ishr, 1) := by decide +kernel
theorem dX9_measure_96 : decode cX9_measure 96 = .ok (.bipush 7, 2) := by decide +kernel
theorem dX9_measure_98 : decode cX9_measure 98 = .ok (.iand, 1) := by decide +kernel
theorem dX9_measure_99 : decode cX9_measure 99 = .ok (.istore 8, 2) := by decide +kernel
theorem dX9_measure_101 : decode cX9_measure 101 = .ok (.aload_n 0, 1) := by decide +kernel
theorem dX9_measure_102 : decode cX9_measure 102 = .ok (.iload 7, 2) := by decide +kernel
theorem dX9_measure_104 : decode cX9_measure 104 = .ok (.iload 8, 2) := by decide +kernel
theorem dX9_measure_106 : decode cX9_measure 106 = .ok (.invokevirtual 419, 3) := by decide +kernel
theorem dX9_measure_109 : decode cX9_measure 109 = .ok (.istore 9, 2) := by decide +kernel
theorem dX9_measure_111 : decode cX9_measure 111 = .ok (.aload_n 0, 1) := by decide +kernel
theorem dX9_measure_112 : decode cX9_measure 112 = .ok (.getfield 124, 3) := by decide +kernel
theorem dX9_measure_115 : decode cX9_measure 115 = .ok (.iload 7, 2) := by decide +kernel
theorem dX9_measure_117 : decode cX9_measure 117 = .ok (.iaload, 1) := by decide +kernel
theorem dX9_measure_118 : decode cX9_measure 118 = .ok (.istore 10, 2) := by decide +kernel
theorem dX9_measure_120 : decode cX9_measure 120 = .ok (.iload 10, 2) := by decide +kernel
theorem dX9_measure_122 : decode cX9_measure 122 = .ok (.aload_n 0, 1) := by decide +kernel
theorem dX9_measure_123 : decode cX9_measure 123 = .ok (.getfield 124, 3) := by decide +kernel
theorem dX9_measure_126 : decode cX9_measure 126 = .ok (.iload 7, 2) := by decide +kernel
theorem dX9_measure_128 : decode cX9_measure 128 = .ok (.iconst 1, 1) := by decide +kernel
theorem dX9_measure_129 : decode cX9_measure 129 = .ok (.iadd, 1) := by decide +kernel
theorem dX9_measure_130 : decode cX9_measure 130 = .ok (.iaload, 1) := by decide +kernel
theorem dX9_measure_131 : decode cX9_measure 131 = .ok (.if_icmp .ge 146, 3) := by decide +kernel
theorem dX9_measure_134 : decode cX9_measure 134 = .ok (.aload_n 0, 1) := by decide +kernel
theorem dX9_measure_135 : decode cX9_measure 135 = .ok (.getfield 115, 3) := by decide +kernel
theorem dX9_measure_138 : decode cX9_measure 138 = .ok (.aload_n 0, 1) := by decide +kernel
theorem dX9_measure_139 : decode cX9_measure 139 = .ok (.getfield 127, 3) := by decide +kernel
theorem dX9_measure_142 : decode cX9_measure 142 = .ok (.iload 10, 2) := by decide +kernel
theorem dX9_measure_144 : decode cX9_measure 144 = .ok (.iaload, 1) := by decide +kernel
theorem dX9_measure_145 : decode cX9_measure 145 = .ok (.iaload, 1) := by decide +kernel
theorem dX9_measure_146 : decode cX9_measure 146 = .ok (.istore 11, 2) := by decide +kernel
theorem dX9_measure_148 : decode cX9_measure 148 = .ok (.aload_n 0, 1) := by decide +kernel
theorem dX9_measure_149 : decode cX9_measure 149 = .ok (.iload 11, 2) := by decide +kernel
theorem dX9_measure_151 : decode cX9_measure 151 = .ok (.iload 8, 2) := by decide +kernel
theorem dX9_measure_153 : decode cX9_measure 153 = .ok (.invokevirtual 422, 3) := by decide +kernel
theorem dX9_measure_156 : decode cX9_measure 156 = .ok (.istore 12, 2) := by decide +kernel
theorem dX9_measure_158 : decode cX9_measure 158 = .ok (.aload_n 0, 1) := by decide +kernel
theorem dX9_measure_159 : decode cX9_measure 159 = .ok (.iload 11, 2) := by decide +kernel
theorem dX9_measure_161 : decode cX9_measure 161 = .ok (.iload 12, 2) := by decide +kernel
theorem dX9_measure_163 : decode cX9_measure 163 = .ok (.invokevirtual 419, 3) := by decide +kernel
theorem dX9_measure_166 : decode cX9_measure 166 = .ok (.istore 13, 2) := by decide +kernel
theorem dX9_measure_168 : decode cX9_measure 168 = .ok (.iconst 0, 1) := by decide +kernel
theorem dX9_measure_169 : decode cX9_measure 169 = .ok (.istore 14, 2) := by decide +kernel
theorem dX9_measure_171 : decode cX9_measure 171 = .ok (.iload 14, 2) := by decide +kernel
theorem dX9_measure_173 : decode cX9_measure 173 = .ok (.iload_n 3, 1) := by decide +kernel
theorem dX9_measure_174 : decode cX9_measure 174 = .ok (.if_icmp .gt 97, 3) := by decide +kernel
theorem dX9_measure_177 : decode cX9_measure 177 = .ok (.bipush 64, 2) := by decide +kernel
theorem dX9_measure_179 : decode cX9_measure 179 = .ok (.iload 11, 2) := by decide +kernel
theorem dX9_measure_181 : decode cX9_measure 181 = .ok (.imul, 1) := by decide +kernel
theorem dX9_measure_182 : decode cX9_measure 182 = .ok (.bipush 8, 2) := by decide +kernel
theorem dX9_measure_184 : decode cX9_measure 184 = .ok (.iload 12, 2) := by decide +kernel
theorem dX9_measure_186 : decode cX9_measure 186 = .ok (.imul, 1) := by decide +kernel
theorem dX9_measure_187 : decode cX9_measure 187 = .ok (.iadd, 1) := by decide +kernel
theorem dX9_measure_188 : decode cX9_measure 188 = .ok (.iload 14, 2) := by decide +kernel
theorem dX9_measure_190 : decode cX9_measure 190 = .ok (.iadd, 1) := by decide +kernel
theorem dX9_measure_191 : decode cX9_measure 191 = .ok (.istore 15, 2) := by decide +kernel
theorem dX9_measure_193 : decode cX9_measure 193 = .ok (.iload 14, 2) := by decide +kernel
theorem dX9_measure_195 : decode cX9_measure 195 = .ok (.iload 9, 2) := by decide +kernel
theorem dX9_measure_197 : decode cX9_measure 197 = .ok (.ior, 1) := by decide +kernel
theorem dX9_measure_198 : decode cX9_measure 198 = .ok (.iload 6, 2) := by decide +kernel
theorem dX9_measure_200 : decode cX9_measure 200 = .ok (.bipush 7, 2) := by decide +kernel
theorem dX9_measure_202 : decode cX9_measure 202 = .ok (.iand, 1) := by decide +kernel
theorem dX9_measure_203 : decode cX9_measure 203 = .ok (.if_icmp .ne 62, 3) := by decide +kernel
theorem dX9_measure_206 : decode cX9_measure 206 = .ok (.iload 13, 2) := by decide +kernel
theorem dX9_measure_208 : decode cX9_measure 208 = .ok (.iload 14, 2) := by decide +kernel
theorem dX9_measure_210 : decode cX9_measure 210 = .ok (.iconst (-1), 1) := by decide +kernel
theorem dX9_measure_211 : decode cX9_measure 211 = .ok (.ixor, 1) := by decide +kernel
theorem dX9_measure_212 : decode cX9_measure 212 = .ok (.iand, 1) := by decide +kernel
theorem dX9_measure_213 : decode cX9_measure 213 = .ok (.ifCond .ne 52, 3) := by decide +kernel
theorem dX9_measure_216 : decode cX9_measure 216 = .ok (.aload_n 0, 1) := by decide +kernel
theorem dX9_measure_217 : decode cX9_measure 217 = .ok (.getfield 175, 3) := by decide +kernel
theorem dX9_measure_220 : decode cX9_measure 220 = .ok (.iload 15, 2) := by decide +kernel
theorem dX9_measure_222 : decode cX9_measure 222 = .ok (.iaload, 1) := by decide +kernel
theorem dX9_measure_223 : decode cX9_measure 223 = .ok (.ifCond .lt 6, 3) := by decide +kernel
theorem dX9_measure_226 : decode cX9_measure 226 = .ok (.goto 39, 3) := by decide +kernel
theorem dX9_measure_229 : decode cX9_measure 229 = .ok (.aload_n 0, 1) := by decide +kernel
theorem dX9_measure_230 : decode cX9_measure 230 = .ok (.getfield 175, 3) := by decide +kernel
theorem dX9_measure_233 : decode cX9_measure 233 = .ok (.iload 15, 2) := by decide +kernel
theorem dX9_measure_235 : decode cX9_measure 235 = .ok (.aload_n 0, 1) := by decide +kernel
theorem dX9_measure_236 : decode cX9_measure 236 = .ok (.iload 6, 2) := by decide +kernel
theorem dX9_measure_238 : decode cX9_measure 238 = .ok (.invokevirtual 425, 3) := by decide +kernel
theorem dX9_measure_241 : decode cX9_measure 241 = .ok (.iconst 1, 1) := by decide +kernel
theorem dX9_measure_242 : decode cX9_measure 242 = .ok (.iadd, 1) := by decide +kernel
theorem dX9_measure_243 : decode cX9_measure 243 = .ok (.iastore, 1) := by decide +kernel
theorem dX9_measure_244 : decode cX9_measure 244 = .ok (.aload_n 0, 1) := by decide +kernel
theorem dX9_measure_245 : decode cX9_measure 245 = .ok (.getfield 175, 3) := by decide +kernel
theorem dX9_measure_248 : decode cX9_measure 248 = .ok (.iload 4, 2) := by decide +kernel
theorem dX9_measure_250 : decode cX9_measure 250 = .ok (.dup2, 1) := by decide +kernel
theorem dX9_measure_251 : decode cX9_measure 251 = .ok (.iaload, 1) := by decide +kernel
theorem dX9_measure_252 : decode cX9_measure 252 = .ok (.iload 15, 2) := by decide +kernel
theorem dX9_measure_254 : decode cX9_measure 254 = .ok (.iconst 1, 1) := by decide +kernel
theorem dX9_measure_255 : decode cX9_measure 255 = .ok (.iadd, 1) := by decide +kernel
theorem dX9_measure_256 : decode cX9_measure 256 = .ok (.bipush 12, 2) := by decide +kernel
theorem dX9_measure_258 : decode cX9_measure 258 = .ok (.ishl, 1) := by decide +kernel
theorem dX9_measure_259 : decode cX9_measure 259 = .ok (.iadd, 1) := by decide +kernel
theorem dX9_measure_260 : decode cX9_measure 260 = .ok (.iastore, 1) := by decide +kernel
theorem dX9_measure_261 : decode cX9_measure 261 = .ok (.iload 15, 2) := by decide +kernel
theorem dX9_measure_263 : decode cX9_measure 263 = .ok (.istore 4, 2) := by decide +kernel
theorem dX9_measure_265 : decode cX9_measure 265 = .ok (.iinc 14 1, 3) := by decide +kernel
theorem dX9_measure_268 : decode cX9_measure 268 = .ok (.goto (-97), 3) := by decide +kernel
theorem dX9_measure_271 : decode cX9_measure 271 = .ok (.iinc 10 1, 3) := by decide +kernel
theorem dX9_measure_274 : decode cX9_measure 274 = .ok (.goto (-154), 3) := by decide +kernel
theorem dX9_measure_277 : decode cX9_measure 277 = .ok (.aload_n 0, 1) := by decide +kernel
theorem dX9_measure_278 : decode cX9_measure 278 = .ok (.getfield 175, 3) := by decide +kernel
theorem dX9_measure_281 : decode cX9_measure 281 = .ok (.iload 6, 2) := by decide +kernel
theorem dX9_measure_283 : decode cX9_measure 283 = .ok (.iaload, 1) := by decide +kernel
theorem dX9_measure_284 : decode cX9_measure 284 = .ok (.bipush 12, 2) := by decide +kernel
theorem dX9_measure_286 : decode cX9_measure 286 = .ok (.ishr, 1) := by decide +kernel
theorem dX9_measure_287 : decode cX9_measure 287 = .ok (.iconst 1, 1) := by decide +kernel
theorem dX9_measure_288 : decode cX9_measure 288 = .ok (.isub, 1) := by decide +kernel
theorem dX9_measure_289 : decode cX9_measure 289 = .ok (.istore 6, 2) := by decide +kernel
theorem dX9_measure_291 : decode cX9_measure 291 = .ok (.goto (-219), 3) := by decide +kernel
theorem dX9_measure_294 : decode cX9_measure 294 = .ok (.return_, 1) := by decide +kernel
abbrev MX9_measure : zT := (yX9_measure, cX9_measure, 16, (Option.none : Option Jvm.ClassFile.FieldType), [])
theorem plX9_measure : zplain MX9_measure 2 ∧ (zcodeW MX9_measure ∈ lw_all ∧ Cond.initialized MX9_measure.1.cls ∈ lw_all) := ⟨⟨by decide +kernel, by decide +kernel⟩, q2350, q127⟩
noncomputable def f_X9_measure_294 (σ : zM) : Option zO :=
  some (0, ((3, 0) : zV), σ)
theorem w_X9_measure_294 {g : zG} {lv : Nat} {out : zO} (σ : zM) {r : zO} (h : f_X9_measure_294  σ = some r) (hk : (fun o : zO => o = out) r) : Gj g MX9_measure (lv + 2) 294 [] [] σ out := by
  revert h
  unfold f_X9_measure_294
  intro h
  cases h
  have hk : (0, ((3, 0) : zV), σ) = out := hk
  subst hk
  exact gj_vret (pc := 294) dX9_measure_294 rfl
noncomputable def f_X9_measure_277 (x0 x3 x4 x5 x6 : Int) (σ : zM) : Option ((Int × Int × Int × zM) ⊕ zO) :=
  (zgf σ 977 x0).bind fun v1 =>
  (zga σ 101 v1 x6).bind fun v2 =>
  zlet ((zsub (zshr v2 12) 1)) fun y3 =>
  some (.inl (x4, x5, y3, σ))
theorem w_X9_measure_277 {g : zG} {lv : Nat} {out : zO} (x0 x3 x4 x5 x6 : Int) (σ : zM) {r : ((Int × Int × Int × zM) ⊕ zO)} (h : f_X9_measure_277 x0 x3 x4 x5 x6 σ = some r) (hk : (zKL (fun s : Int × Int × Int × zM => Gj g MX9_measure (lv + 2) 72 [(0, zr x0), (3, zi x3), (4, zi s.1), (5, zi s.2.1), (6, zi s.2.2.1)] [] s.2.2.2 out) (fun o : zO => o = out)) r) : Gj g MX9_measure (lv + 2) 277 [(0, zr x0), (3, zi x3), (4, zi x4), (5, zi x5), (6, zi x6)] [] σ out := by
  revert h
  unfold f_X9_measure_277
  refine zst_ (gj_aload_n 0 (pc := 277) dX9_measure_277 rfl) ?_
  refine gb_get (pc := 278) fl977 dX9_measure_278 q1959 (Or.inl rfl) (fun v1 => ?_)
  refine zst_ (gj_iload 4 (pc := 281) dX9_measure_281 rfl) ?_
  refine gb_iald (pc := 283) dX9_measure_283 (fun v2 => ?_)
  refine zst_ (gj_bipush (pc := 284) dX9_measure_284 ⟨rfl, by decide⟩) ?_
  refine zst_ (gj_ishr (pc := 286) dX9_measure_286) ?_
  refine zst_ (gj_iconst (pc := 287) dX9_measure_287 (by decide)) ?_
  refine zst_ (gj_isub (pc := 288) dX9_measure_288) ?_
  refine gb_let (fun y3 => ?_)
  refine zst_ (gj_istore (pc := 289) (ls' := [(6, zi y3), (0, zr x0), (3, zi x3), (4, zi x4), (5, zi x5)]) dX9_measure_289 (by decide) rfl) ?_
  refine zst_ (gj_goto 72 (pc := 291) dX9_measure_291 (by decide)) ?_
  refine zst_ (gj_sub [1, 2, 3, 4, 0] rfl) ?_
  intro h
  cases h
  exact hk
noncomputable def f_X9_measure_271 (x0 x3 x4 x5 x6 x7 x8 x9 x10 : Int) (σ : zM) : Option ((Int × Int × zM) ⊕ ((Int × Int × Int × zM) ⊕ zO)) :=
  zlet (zadd x10 1) fun y1 =>
  some (.inl (x4, y1, σ))
theorem w_X9_measure_271 {g : zG} {lv : Nat} {out : zO} (x0 x3 x4 x5 x6 x7 x8 x9 x10 : Int) (σ : zM) {r : ((Int × Int × zM) ⊕ ((Int × Int × Int × zM) ⊕ zO))} (h : f_X9_measure_271 x0 x3 x4 x5 x6 x7 x8 x9 x10 σ = some r) (hk : (zKL (fun s : Int × Int × zM => Gj g MX9_measure (lv + 2) 120 [(0, zr x0), (3, zi x3), (4, zi s.1), (5, zi x5), (6, zi x6), (7, zi x7), (8, zi x8), (9, zi x9), (10, zi s.2.1)] [] s.2.2 out) (zKL (fun s : Int × Int × Int × zM => Gj g MX9_measure (lv + 2) 72 [(0, zr x0), (3, zi x3), (4, zi s.1), (5, zi s.2.1), (6, zi s.2.2.1)] [] s.2.2.2 out) (fun o : zO => o = out))) r) : Gj g MX9_measure (lv + 2) 271 [(0, zr x0), (3, zi x3), (4, zi x4), (5, zi x5), (6, zi x6), (7, zi x7), (8, zi x8), (9, zi x9), (10, zi x10)] [] σ out := by
  revert h
  unfold f_X9_measure_271
  refine gb_iinc (pc := 271) 8 (fun y1 => [(10, zi y1), (0, zr x0), (3, zi x3), (4, zi x4), (5, zi x5), (6, zi x6), (7, zi x7), (8, zi x8), (9, zi x9)]) dX9_measure_271 rfl (by decide) (fun _ => rfl) (fun y1 => ?_)
  refine zst_ (gj_goto 120 (pc := 274) dX9_measure_274 (by decide)) ?_
  refine zst_ (gj_sub [1, 2, 3, 4, 5, 6, 7, 8, 0] rfl) ?_
  intro h
  cases h
  exact hk
noncomputable def f_X9_measure_265 (x0 x3 x4 x5 x6 x7 x8 x9 x10 x11 x12 x13 x14 : Int) (σ : zM) : Option ((Int × Int × zM) ⊕ ((Int × Int × zM) ⊕ ((Int × Int × Int × zM) ⊕ zO))) :=
  zlet (zadd x14 1) fun y1 =>
  some (.inl (x4, y1, σ))
theorem w_X9_measure_265 {g : zG} {lv : Nat} {out : zO} (x0 x3 x4 x5 x6 x7 x8 x9 x10 x11 x12 x13 x14 : Int) (σ : zM) {r : ((Int × Int × zM) ⊕ ((Int × Int × zM) ⊕ ((Int × Int × Int × zM) ⊕ zO)))} (h : f_X9_measure_265 x0 x3 x4 x5 x6 x7 x8 x9 x10 x11 x12 x13 x14 σ = some r) (hk : (zKL (fun s : Int × Int × zM => Gj g MX9_measure (lv + 2) 171 [(0, zr x0), (3, zi x3), (4, zi s.1), (5, zi x5), (6, zi x6), (7, zi x7), (8, zi x8), (9, zi x9), (10, zi x10), (11, zi x11), (12, zi x12), (13, zi x13), (14, zi s.2.1)] [] s.2.2 out) (zKL (fun s : Int × Int × zM => Gj g MX9_measure (lv + 2) 120 [(0, zr x0), (3, zi x3), (4, zi s.1), (5, zi x5), (6, zi x6), (7, zi x7), (8, zi x8), (9, zi x9), (10, zi s.2.1)] [] s.2.2 out) (zKL (fun s : Int × Int × Int × zM => Gj g MX9_measure (lv + 2) 72 [(0, zr x0), (3, zi x3), (4, zi s.1), (5, zi s.2.1), (6, zi s.2.2.1)] [] s.2.2.2 out) (fun o : zO => o = out)))) r) : Gj g MX9_measure (lv + 2) 265 [(0, zr x0), (3, zi x3), (4, zi x4), (5, zi x5), (6, zi x6), (7, zi x7), (8, zi x8), (9, zi x9), (10, zi x10), (11, zi x11), (12, zi x12), (13, zi x13), (14, zi x14)] [] σ out := by
  revert h
  unfold f_X9_measure_265
  refine gb_iinc (pc := 265) 12 (fun y1 => [(14, zi y1), (0, zr x0), (3, zi x3), (4, zi x4), (5, zi x5), (6, zi x6), (7, zi x7), (8, zi x8), (9, zi x9), (10, zi x10), (11, zi x11), (12, zi x12), (13, zi x13)]) dX9_measure_265 rfl (by decide) (fun _ => rfl) (fun y1 => ?_)
  refine zst_ (gj_goto 171 (pc := 268) dX9_measure_268 (by decide)) ?_
  refine zst_ (gj_sub [1, 2, 3, 4, 5, 6, 7, 8, 9, 10, 11, 12, 0] rfl) ?_
  intro h
  cases h
  exact hk
noncomputable def f_X9_measure_171_b (x0 x3 x4 x5 x6 x7 x8 x9 x10 x11 x12 x13 x14 : Int) (σ : zM) : Option ((Int × Int × zM) ⊕ ((Int × Int × zM) ⊕ ((Int × Int × Int × zM) ⊕ zO))) :=
  if x3 < x14 then
    (f_X9_measure_271 x0 x3 x4 x5 x6 x7 x8 x9 x10 σ).map (fun r => (.inr r))
  else
    zlet ((zadd (zadd (zmul 64 x11) (zmul 8 x12)) x14)) fun y1 =>
    if (zor x14 x9) ≠ (zand x6 7) then
      f_X9_measure_265 x0 x3 x4 x5 x6 x7 x8 x9 x10 x11 x12 x13 x14 σ
    else
      if (zand x13 (zxor x14 (-1))) ≠ 0 then
        f_X9_measure_265 x0 x3 x4 x5 x6 x7 x8 x9 x10 x11 x12 x13 x14 σ
      else
        (zgf σ 977 x0).bind fun v2 =>
        (zga σ 101 v2 y1).bind fun v3 =>
        if v3 < 0 then
          (zgf σ 977 x0).bind fun v4 =>
          zgd (zis σ 10 x0) <|
          zci (f_X9_away x0 x6 σ) fun v5 σ6 =>
          (zpa σ6 101 v4 y1 (zadd v5 1)).bind fun σ7 =>
          (zgf σ7 977 x0).bind fun v8 =>
          (zga σ7 101 v8 x4).bind fun v9 =>
          (zpa σ7 101 v8 x4 (zadd v9 (zshl (zadd y1 1) 12))).bind fun σ10 =>
          f_X9_measure_265 x0 x3 y1 x5 x6 x7 x8 x9 x10 x11 x12 x13 x14 σ10
        else
          f_X9_measure_265 x0 x3 x4 x5 x6 x7 x8 x9 x10 x11 x12 x13 x14 σ
noncomputable def f_X9_measure_171 (x0 x3 x4 x5 x6 x7 x8 x9 x10 x11 x12 x13 x14 : Int) (σ : zM) : Option ((Int × Int × zM) ⊕ ((Int × Int × Int × zM) ⊕ zO)) :=
  zloop (fun s : Int × Int × zM => f_X9_measure_171_b x0 x3 s.1 x5 x6 x7 x8 x9 x10 x11 x12 x13 s.2.1 s.2.2) (x4, x14, σ)
theorem w_X9_measure_171_b {g : zG} {lv : Nat} {out : zO} (x0 x3 x4 x5 x6 x7 x8 x9 x10 x11 x12 x13 x14 : Int) (σ : zM) {r : ((Int × Int × zM) ⊕ ((Int × Int × zM) ⊕ ((Int × Int × Int × zM) ⊕ zO)))} (h : f_X9_measure_171_b x0 x3 x4 x5 x6 x7 x8 x9 x10 x11 x12 x13 x14 σ = some r) (hk : (zKL (fun s : Int × Int × zM => Gj g MX9_measure (lv + 2) 171 [(0, zr x0), (3, zi x3), (4, zi s.1), (5, zi x5), (6, zi x6), (7, zi x7), (8, zi x8), (9, zi x9), (10, zi x10), (11, zi x11), (12, zi x12), (13, zi x13), (14, zi s.2.1)] [] s.2.2 out) (zKL (fun s : Int × Int × zM => Gj g MX9_measure (lv + 2) 120 [(0, zr x0), (3, zi x3), (4, zi s.1), (5, zi x5), (6, zi x6), (7, zi x7), (8, zi x8), (9, zi x9), (10, zi s.2.1)] [] s.2.2 out) (zKL (fun s : Int × Int × Int × zM => Gj g MX9_measure (lv + 2) 72 [(0, zr x0), (3, zi x3), (4, zi s.1), (5, zi s.2.1), (6, zi s.2.2.1)] [] s.2.2.2 out) (fun o : zO => o = out)))) r) : Gj g MX9_measure (lv + 2) 171 [(0, zr x0), (3, zi x3), (4, zi x4), (5, zi x5), (6, zi x6), (7, zi x7), (8, zi x8), (9, zi x9), (10, zi x10), (11, zi x11), (12, zi x12), (13, zi x13), (14, zi x14)] [] σ out := by
  revert h
  unfold f_X9_measure_171_b
  refine zst_ (gj_iload 12 (pc := 171) dX9_measure_171 rfl) ?_
  refine zst_ (gj_iload_n 1 (pc := 173) dX9_measure_173 rfl) ?_
  refine gb_if (gj_icmp_gt 271 (pc := 174) dX9_measure_174 (by decide)) ?_ ?_
  · refine zst_ (gj_sub [0, 1, 2, 3, 4, 5, 6, 7, 8] rfl) ?_
    intro h
    obtain ⟨r0, h0, rfl⟩ := zmE h
    exact w_X9_measure_271 x0 x3 x4 x5 x6 x7 x8 x9 x10 σ h0 hk
  · refine zst_ (gj_bipush (pc := 177) dX9_measure_177 ⟨rfl, by decide⟩) ?_
    refine zst_ (gj_iload 9 (pc := 179) dX9_measure_179 rfl) ?_
    refine zst_ (gj_imul (pc := 181) dX9_measure_181) ?_
    refine zst_ (gj_bipush (pc := 182) dX9_measure_182 ⟨rfl, by decide⟩) ?_
    refine zst_ (gj_iload 10 (pc := 184) dX9_measure_184 rfl) ?_
    refine zst_ (gj_imul (pc := 186) dX9_measure_186) ?_
    refine zst_ (gj_iadd (pc := 187) dX9_measure_187) ?_
    refine zst_ (gj_iload 12 (pc := 188) dX9_measure_188 rfl) ?_
    refine zst_ (gj_iadd (pc := 190) dX9_measure_190) ?_
    refine gb_let (fun y1 => ?_)
    refine zst_ (gj_istore (pc := 191) (ls' := [(15, zi y1), (0, zr x0), (3, zi x3), (4, zi x4), (5, zi x5), (6, zi x6), (7, zi x7), (8, zi x8), (9, zi x9), (10, zi x10), (11, zi x11), (12, zi x12), (13, zi x13), (14, zi x14)]) dX9_measure_191 (by decide) rfl) ?_
    refine zst_ (gj_iload 13 (pc := 193) dX9_measure_193 rfl) ?_
    refine zst_ (gj_iload 8 (pc := 195) dX9_measure_195 rfl) ?_
    refine zst_ (gj_ior (pc := 197) dX9_measure_197) ?_
    refine zst_ (gj_iload 5 (pc := 198) dX9_measure_198 rfl) ?_
    refine zst_ (gj_bipush (pc := 200) dX9_measure_200 ⟨rfl, by decide⟩) ?_
    refine zst_ (gj_iand (pc := 202) dX9_measure_202) ?_
    refine gb_if (gj_icmp_ne 265 (pc := 203) dX9_measure_203 (by decide)) ?_ ?_
    · refine zst_ (gj_sub [1, 2, 3, 4, 5, 6, 7, 8, 9, 10, 11, 12, 13] rfl) ?_
      exact fun h => w_X9_measure_265 x0 x3 x4 x5 x6 x7 x8 x9 x10 x11 x12 x13 x14 σ h hk
    · refine zst_ (gj_iload 12 (pc := 206) dX9_measure_206 rfl) ?_
      refine zst_ (gj_iload 13 (pc := 208) dX9_measure_208 rfl) ?_
      refine zst_ (gj_iconst (pc := 210) dX9_measure_210 (by decide)) ?_
      refine zst_ (gj_ixor (pc := 211) dX9_measure_211) ?_
      refine zst_ (gj_iand (pc := 212) dX9_measure_212) ?_
      refine gb_if (gj_if_ne 265 (pc := 213) dX9_measure_213 (by decide)) ?_ ?_
      · refine zst_ (gj_sub [1, 2, 3, 4, 5, 6, 7, 8, 9, 10, 11, 12, 13] rfl) ?_
        exact fun h => w_X9_measure_265 x0 x3 x4 x5 x6 x7 x8 x9 x10 x11 x12 x13 x14 σ h hk
      · refine zst_ (gj_aload_n 1 (pc := 216) dX9_measure_216 rfl) ?_
        refine gb_get (pc := 217) fl977 dX9_measure_217 q1959 (Or.inl rfl) (fun v2 => ?_)
        refine zst_ (gj_iload 0 (pc := 220) dX9_measure_220 rfl) ?_
        refine gb_iald (pc := 222) dX9_measure_222 (fun v3 => ?_)
        refine gb_if (gj_if_lt 229 (pc := 223) dX9_measure_223 (by decide)) ?_ ?_
        · refine zst_ (gj_aload_n 1 (pc := 229) dX9_measure_229 rfl) ?_
          refine gb_get (pc := 230) fl977 dX9_measure_230 q1959 (Or.inl rfl) (fun v4 => ?_)
          refine zst_ (gj_iload 0 (pc := 233) dX9_measure_233 rfl) ?_
          refine zst_ (gj_aload_n 1 (pc := 235) dX9_measure_235 rfl) ?_
          refine zst_ (gj_iload 5 (pc := 236) dX9_measure_236 rfl) ?_
          refine gb_gd (fun hb => ?_)
          refine gb_callI (pc := 238) (as := [zr x0, zi x6]) (rest := [zi y1, zr v4]) (zCl.of (zLk_V (M := MX9_measure) (ci := 9) (r := (RX9, TX9, 84)) plX9_away.1 rfl rfl (zisE hb).1 (zisE hb).2 dX9_measure_238 q2363 q2365 qs93 q2366) plX9_away (Nat.le_of_ble_eq_true rfl) (fun h => c_X9_away h)) (fun v5 σ6 => ?_)
          refine zst_ (gj_iconst (pc := 241) dX9_measure_241 (by decide)) ?_
          refine zst_ (gj_iadd (pc := 242) dX9_measure_242) ?_
          refine gb_iast (pc := 243) dX9_measure_243 (fun σ7 => ?_)
          refine zst_ (gj_aload_n 1 (pc := 244) dX9_measure_244 rfl) ?_
          refine gb_get (pc := 245) fl977 dX9_measure_245 q1959 (Or.inl rfl) (fun v8 => ?_)
          refine zst_ (gj_iload 3 (pc := 248) dX9_measure_248 rfl) ?_
          refine zst_ (gj_dup2 (pc := 250) dX9_measure_250 rfl rfl) ?_
          refine gb_iald (pc := 251) dX9_measure_251 (fun v9 => ?_)
          refine zst_ (gj_iload 0 (pc := 252) dX9_measure_252 rfl) ?_
          refine zst_ (gj_iconst (pc := 254) dX9_measure_254 (by decide)) ?_
          refine zst_ (gj_iadd (pc := 255) dX9_measure_255) ?_
          refine zst_ (gj_bipush (pc := 256) dX9_measure_256 ⟨rfl, by decide⟩) ?_
          refine zst_ (gj_ishl (pc := 258) dX9_measure_258) ?_
          refine zst_ (gj_iadd (pc := 259) dX9_measure_259) ?_
          refine gb_iast (pc := 260) dX9_measure_260 (fun σ10 => ?_)
          refine zst_ (gj_iload 0 (pc := 261) dX9_measure_261 rfl) ?_
          refine zst_ (gj_istore (pc := 263) (ls' := [(4, zi y1), (15, zi y1), (0, zr x0), (3, zi x3), (5, zi x5), (6, zi x6), (7, zi x7), (8, zi x8), (9, zi x9), (10, zi x10), (11, zi x11), (12, zi x12), (13, zi x13), (14, zi x14)]) dX9_measure_263 (by decide) rfl) ?_
          refine zst_ (gj_sub [2, 3, 0, 4, 5, 6, 7, 8, 9, 10, 11, 12, 13] rfl) ?_
          exact fun h => w_X9_measure_265 x0 x3 y1 x5 x6 x7 x8 x9 x10 x11 x12 x13 x14 σ10 h hk
        · refine zst_ (gj_goto 265 (pc := 226) dX9_measure_226 (by decide)) ?_
          refine zst_ (gj_sub [1, 2, 3, 4, 5, 6, 7, 8, 9, 10, 11, 12, 13] rfl) ?_
          exact fun h => w_X9_measure_265 x0 x3 x4 x5 x6 x7 x8 x9 x10 x11 x12 x13 x14 σ h hk
theorem w_X9_measure_171 {g : zG} {lv : Nat} {out : zO} (x0 x3 x4 x5 x6 x7 x8 x9 x10 x11 x12 x13 x14 : Int) (σ : zM) {r : ((Int × Int × zM) ⊕ ((Int × Int × Int × zM) ⊕ zO))} (h : f_X9_measure_171 x0 x3 x4 x5 x6 x7 x8 x9 x10 x11 x12 x13 x14 σ = some r) (hk : (zKL (fun s : Int × Int × zM => Gj g MX9_measure (lv + 2) 120 [(0, zr x0), (3, zi x3), (4, zi s.1), (5, zi x5), (6, zi x6), (7, zi x7), (8, zi x8), (9, zi x9), (10, zi s.2.1)] [] s.2.2 out) (zKL (fun s : Int × Int × Int × zM => Gj g MX9_measure (lv + 2) 72 [(0, zr x0), (3, zi x3), (4, zi s.1), (5, zi s.2.1), (6, zi s.2.2.1)] [] s.2.2.2 out) (fun o : zO => o = out))) r) : Gj g MX9_measure (lv + 2) 171 [(0, zr x0), (3, zi x3), (4, zi x4), (5, zi x5), (6, zi x6), (7, zi x7), (8, zi x8), (9, zi x9), (10, zi x10), (11, zi x11), (12, zi x12), (13, zi x13), (14, zi x14)] [] σ out :=
  gj_loop (P := (fun s : Int × Int × zM => Gj g MX9_measure (lv + 2) 171 [(0, zr x0), (3, zi x3), (4, zi s.1), (5, zi x5), (6, zi x6), (7, zi x7), (8, zi x8), (9, zi x9), (10, zi x10), (11, zi x11), (12, zi x12), (13, zi x13), (14, zi s.2.1)] [] s.2.2 out)) (fun s x hb hx => w_X9_measure_171_b x0 x3 s.1 x5 x6 x7 x8 x9 x10 x11 x12 x13 s.2.1 s.2.2 hb hx) h hk
noncomputable def f_X9_measure_120_b (x0 x3 x4 x5 x6 x7 x8 x9 x10 : Int) (σ : zM) : Option ((Int × Int × zM) ⊕ ((Int × Int × Int × zM) ⊕ zO)) :=
  (zgf σ 953 x0).bind fun v1 =>
  (zga σ 101 v1 (zadd x7 1)).bind fun v2 =>
  if v2 ≤ x10 then
    (f_X9_measure_277 x0 x3 x4 x5 x6 σ).map (fun r => (.inr r))
  else
    (zgf σ 950 x0).bind fun v3 =>
    (zgf σ 954 x0).bind fun v4 =>
    (zga σ 101 v4 x10).bind fun v5 =>
    (zga σ 101 v3 v5).bind fun v6 =>
    zgd (zis σ 10 x0) <|
    zci (f_X9_truthAt x0 v6 x8 σ) fun v7 σ8 =>
    zgd (zis σ8 10 x0) <|
    zci (f_X9_settled x0 v6 v7 σ8) fun v9 σ10 =>
    f_X9_measure_171 x0 x3 x4 x5 x6 x7 x8 x9 x10 v6 v7 v9 0 σ10
noncomputable def f_X9_measure_120 (x0 x3 x4 x5 x6 x7 x8 x9 x10 : Int) (σ : zM) : Option ((Int × Int × Int × zM) ⊕ zO) :=
  zloop (fun s : Int × Int × zM => f_X9_measure_120_b x0 x3 s.1 x5 x6 x7 x8 x9 s.2.1 s.2.2) (x4, x10, σ)
theorem w_X9_measure_120_b {g : zG} {lv : Nat} {out : zO} (x0 x3 x4 x5 x6 x7 x8 x9 x10 : Int) (σ : zM) {r : ((Int × Int × zM) ⊕ ((Int × Int × Int × zM) ⊕ zO))} (h : f_X9_measure_120_b x0 x3 x4 x5 x6 x7 x8 x9 x10 σ = some r) (hk : (zKL (fun s : Int × Int × zM => Gj g MX9_measure (lv + 2) 120 [(0, zr x0), (3, zi x3), (4, zi s.1), (5, zi x5), (6, zi x6), (7, zi x7), (8, zi x8), (9, zi x9), (10, zi s.2.1)] [] s.2.2 out) (zKL (fun s : Int × Int × Int × zM => Gj g MX9_measure (lv + 2) 72 [(0, zr x0), (3, zi x3), (4, zi s.1), (5, zi s.2.1), (6, zi s.2.2.1)] [] s.2.2.2 out) (fun o : zO => o = out))) r) : Gj g MX9_measure (lv + 2) 120 [(0, zr x0), (3, zi x3), (4, zi x4), (5, zi x5), (6, zi x6), (7, zi x7), (8, zi x8), (9, zi x9), (10, zi x10)] [] σ out := by
  revert h
  unfold f_X9_measure_120_b
  refine zst_ (gj_iload 8 (pc := 120) dX9_measure_120 rfl) ?_
  refine zst_ (gj_aload_n 0 (pc := 122) dX9_measure_122 rfl) ?_
  refine gb_get (pc := 123) fl953 dX9_measure_123 q1935 (Or.inl rfl) (fun v1 => ?_)
  refine zst_ (gj_iload 5 (pc := 126) dX9_measure_126 rfl) ?_
  refine zst_ (gj_iconst (pc := 128) dX9_measure_128 (by decide)) ?_
  refine zst_ (gj_iadd (pc := 129) dX9_measure_129) ?_
  refine gb_iald (pc := 130) dX9_measure_130 (fun v2 => ?_)
  refine gb_if (gj_icmp_ge 277 (pc := 131) dX9_measure_131 (by decide)) ?_ ?_
  · refine zst_ (gj_sub [0, 1, 2, 3, 4] rfl) ?_
    intro h
    obtain ⟨r0, h0, rfl⟩ := zmE h
    exact w_X9_measure_277 x0 x3 x4 x5 x6 σ h0 hk
  · refine zst_ (gj_aload_n 0 (pc := 134) dX9_measure_134 rfl) ?_
    refine gb_get (pc := 135) fl950 dX9_measure_135 q1932 (Or.inl rfl) (fun v3 => ?_)
    refine zst_ (gj_aload_n 0 (pc := 138) dX9_measure_138 rfl) ?_
    refine gb_get (pc := 139) fl954 dX9_measure_139 q1936 (Or.inl rfl) (fun v4 => ?_)
    refine zst_ (gj_iload 8 (pc := 142) dX9_measure_142 rfl) ?_
    refine gb_iald (pc := 144) dX9_measure_144 (fun v5 => ?_)
    refine gb_iald (pc := 145) dX9_measure_145 (fun v6 => ?_)
    refine zst_ (gj_istore (pc := 146) (ls' := [(11, zi v6), (0, zr x0), (3, zi x3), (4, zi x4), (5, zi x5), (6, zi x6), (7, zi x7), (8, zi x8), (9, zi x9), (10, zi x10)]) dX9_measure_146 (by decide) rfl) ?_
    refine zst_ (gj_aload_n 1 (pc := 148) dX9_measure_148 rfl) ?_
    refine zst_ (gj_iload 0 (pc := 149) dX9_measure_149 rfl) ?_
    refine zst_ (gj_iload 7 (pc := 151) dX9_measure_151 rfl) ?_
    refine gb_gd (fun hb => ?_)
    refine gb_callI (pc := 153) (as := [zr x0, zi v6, zi x8]) (rest := []) (zCl.of (zLk_V (M := MX9_measure) (ci := 9) (r := (RX9, TX9, 84)) plX9_truthAt.1 rfl rfl (zisE hb).1 (zisE hb).2 dX9_measure_153 q2355 q2357 qs91 q2358) plX9_truthAt (Nat.le_of_ble_eq_true rfl) (fun h => c_X9_truthAt h)) (fun v7 σ8 => ?_)
    refine zst_ (gj_istore (pc := 156) (ls' := [(12, zi v7), (11, zi v6), (0, zr x0), (3, zi x3), (4, zi x4), (5, zi x5), (6, zi x6), (7, zi x7), (8, zi x8), (9, zi x9), (10, zi x10)]) dX9_measure_156 (by decide) rfl) ?_
    refine zst_ (gj_aload_n 2 (pc := 158) dX9_measure_158 rfl) ?_
    refine zst_ (gj_iload 1 (pc := 159) dX9_measure_159 rfl) ?_
    refine zst_ (gj_iload 0 (pc := 161) dX9_measure_161 rfl) ?_
    refine gb_gd (fun hb => ?_)
    refine gb_callI (pc := 163) (as := [zr x0, zi v6, zi v7]) (rest := []) (zCl.of (zLk_V (M := MX9_measure) (ci := 9) (r := (RX9, TX9, 84)) plX9_settled.1 rfl rfl (zisE hb).1 (zisE hb).2 dX9_measure_163 q2351 q2353 qs90 q2354) plX9_settled (Nat.le_of_ble_eq_true rfl) (fun h => c_X9_settled h)) (fun v9 σ10 => ?_)
    refine zst_ (gj_istore (pc := 166) (ls' := [(13, zi v9), (12, zi v7), (11, zi v6), (0, zr x0), (3, zi x3), (4, zi x4), (5, zi x5), (6, zi x6), (7, zi x7), (8, zi x8), (9, zi x9), (10, zi x10)]) dX9_measure_166 (by decide) rfl) ?_
    refine zst_ (gj_iconst (pc := 168) dX9_measure_168 (by decide)) ?_
    refine zst_ (gj_istore (pc := 169) (ls' := [(14, zi 0), (13, zi v9), (12, zi v7), (11, zi v6), (0, zr x0), (3, zi x3), (4, zi x4), (5, zi x5), (6, zi x6), (7, zi x7), (8, zi x8), (9, zi x9), (10, zi x10)]) dX9_measure_169 (by decide) rfl) ?_
    refine zst_ (gj_sub [4, 5, 6, 7, 8, 9, 10, 11, 12, 3, 2, 1, 0] rfl) ?_
    exact fun h => w_X9_measure_171 x0 x3 x4 x5 x6 x7 x8 x9 x10 v6 v7 v9 0 σ10 h hk
theorem w_X9_measure_120 {g : zG} {lv : Nat} {out : zO} (x0 x3 x4 x5 x6 x7 x8 x9 x10 : Int) (σ : zM) {r : ((Int × Int × Int × zM) ⊕ zO)} (h : f_X9_measure_120 x0 x3 x4 x5 x6 x7 x8 x9 x10 σ = some r) (hk : (zKL (fun s : Int × Int × Int × zM => Gj g MX9_measure (lv + 2) 72 [(0, zr x0), (3, zi x3), (4, zi s.1), (5, zi s.2.1), (6, zi s.2.2.1)] [] s.2.2.2 out) (fun o : zO => o = out)) r) : Gj g MX9_measure (lv + 2) 120 [(0, zr x0), (3, zi x3), (4, zi x4), (5, zi x5), (6, zi x6), (7, zi x7), (8, zi x8), (9, zi x9), (10, zi x10)] [] σ out :=
  gj_loop (P := (fun s : Int × Int × zM => Gj g MX9_measure (lv + 2) 120 [(0, zr x0), (3, zi x3), (4, zi s.1), (5, zi x5), (6, zi x6), (7, zi x7), (8, zi x8), (9, zi x9), (10, zi s.2.1)] [] s.2.2 out)) (fun s x hb hx => w_X9_measure_120_b x0 x3 s.1 x5 x6 x7 x8 x9 s.2.1 s.2.2 hb hx) h hk
noncomputable def f_X9_measure_72_b (x0 x3 x4 x5 x6 : Int) (σ : zM) : Option ((Int × Int × Int × zM) ⊕ zO) :=
  if x6 < 0 then
    (f_X9_measure_294 σ).map (fun r => (.inr r))
  else
    if x5 ≤ 0 then
      (f_X9_measure_294 σ).map (fun r => (.inr r))
    else
      zlet (zadd x5 (-1)) fun y1 =>
      zlet ((zshr x6 6)) fun y2 =>
      zlet ((zand (zshr x6 3) 7)) fun y3 =>
      zgd (zis σ 10 x0) <|
      zci (f_X9_settled x0 y2 y3 σ) fun v4 σ5 =>
      (zgf σ5 953 x0).bind fun v6 =>
      (zga σ5 101 v6 y2).bind fun v7 =>
      f_X9_measure_120 x0 x3 x4 y1 x6 y2 y3 v4 v7 σ5
noncomputable def f_X9_measure_72 (x0 x3 x4 x5 x6 : Int) (σ : zM) : Option zO :=
  zloop (fun s : Int × Int × Int × zM => f_X9_measure_72_b x0 x3 s.1 s.2.1 s.2.2.1 s.2.2.2) (x4, x5, x6, σ)
theorem w_X9_measure_72_b {g : zG} {lv : Nat} {out : zO} (x0 x3 x4 x5 x6 : Int) (σ : zM) {r : ((Int × Int × Int × zM) ⊕ zO)} (h : f_X9_measure_72_b x0 x3 x4 x5 x6 σ = some r) (hk : (zKL (fun s : Int × Int × Int × zM => Gj g MX9_measure (lv + 2) 72 [(0, zr x0), (3, zi x3), (4, zi s.1), (5, zi s.2.1), (6, zi s.2.2.1)] [] s.2.2.2 out) (fun o : zO => o = out)) r) : Gj g MX9_measure (lv + 2) 72 [(0, zr x0), (3, zi x3), (4, zi x4), (5, zi x5), (6, zi x6)] [] σ out := by
  revert h
  unfold f_X9_measure_72_b
  refine zst_ (gj_iload 4 (pc := 72) dX9_measure_72 rfl) ?_
  refine gb_if (gj_if_lt 294 (pc := 74) dX9_measure_74 (by decide)) ?_ ?_
  · refine zst_ (gj_sub [] rfl) ?_
    intro h
    obtain ⟨r0, h0, rfl⟩ := zmE h
    exact w_X9_measure_294 σ h0 hk
  · refine zst_ (gj_iload 3 (pc := 77) dX9_measure_77 rfl) ?_
    refine gb_if (gj_if_le 294 (pc := 79) dX9_measure_79 (by decide)) ?_ ?_
    · refine zst_ (gj_sub [] rfl) ?_
      intro h
      obtain ⟨r0, h0, rfl⟩ := zmE h
      exact w_X9_measure_294 σ h0 hk
    · refine gb_iinc (pc := 82) 3 (fun y1 => [(5, zi y1), (0, zr x0), (3, zi x3), (4, zi x4), (6, zi x6)]) dX9_measure_82 rfl (by decide) (fun _ => rfl) (fun y1 => ?_)
      refine zst_ (gj_iload 4 (pc := 85) dX9_measure_85 rfl) ?_
      refine zst_ (gj_bipush (pc := 87) dX9_measure_87 ⟨rfl, by decide⟩) ?_
      refine zst_ (gj_ishr (pc := 89) dX9_measure_89) ?_
      refine gb_let (fun y2 => ?_)
      refine zst_ (gj_istore (pc := 90) (ls' := [(7, zi y2), (5, zi y1), (0, zr x0), (3, zi x3), (4, zi x4), (6, zi x6)]) dX9_measure_90 (by decide) rfl) ?_
      refine zst_ (gj_iload 5 (pc := 92) dX9_measure_92 rfl) ?_
      refine zst_ (gj_iconst (pc := 94) dX9_measure_94 (by decide)) ?_
      refine zst_ (gj_ishr (pc := 95) dX9_measure_95) ?_
      refine zst_ (gj_bipush (pc := 96) dX9_measure_96 ⟨rfl, by decide⟩) ?_
      refine zst_ (gj_iand (pc := 98) dX9_measure_98) ?_
      refine gb_let (fun y3 => ?_)
      refine zst_ (gj_istore (pc := 99) (ls' := [(8, zi y3), (7, zi y2), (5, zi y1), (0, zr x0), (3, zi x3), (4, zi x4), (6, zi x6)]) dX9_measure_99 (by decide) rfl) ?_
      refine zst_ (gj_aload_n 3 (pc := 101) dX9_measure_101 rfl) ?_
      refine zst_ (gj_iload 1 (pc := 102) dX9_measure_102 rfl) ?_
      refine zst_ (gj_iload 0 (pc := 104) dX9_measure_104 rfl) ?_
      refine gb_gd (fun hb => ?_)
      refine gb_callI (pc := 106) (as := [zr x0, zi y2, zi y3]) (rest := []) (zCl.of (zLk_V (M := MX9_measure) (ci := 9) (r := (RX9, TX9, 84)) plX9_settled.1 rfl rfl (zisE hb).1 (zisE hb).2 dX9_measure_106 q2351 q2353 qs90 q2354) plX9_settled (Nat.le_of_ble_eq_true rfl) (fun h => c_X9_settled h)) (fun v4 σ5 => ?_)
      refine zst_ (gj_istore (pc := 109) (ls' := [(9, zi v4), (8, zi y3), (7, zi y2), (5, zi y1), (0, zr x0), (3, zi x3), (4, zi x4), (6, zi x6)]) dX9_measure_109 (by decide) rfl) ?_
      refine zst_ (gj_aload_n 4 (pc := 111) dX9_measure_111 rfl) ?_
      refine gb_get (pc := 112) fl953 dX9_measure_112 q1935 (Or.inl rfl) (fun v6 => ?_)
      refine zst_ (gj_iload 2 (pc := 115) dX9_measure_115 rfl) ?_
      refine gb_iald (pc := 117) dX9_measure_117 (fun v7 => ?_)
      refine zst_ (gj_istore (pc := 118) (ls' := [(10, zi v7), (9, zi v4), (8, zi y3), (7, zi y2), (5, zi y1), (0, zr x0), (3, zi x3), (4, zi x4), (6, zi x6)]) dX9_measure_118 (by decide) rfl) ?_
      refine zst_ (gj_sub [5, 6, 7, 4, 8, 3, 2, 1, 0] rfl) ?_
      exact fun h => w_X9_measure_120 x0 x3 x4 y1 x6 y2 y3 v4 v7 σ5 h hk
theorem w_X9_measure_72 {g : zG} {lv : Nat} {out : zO} (x0 x3 x4 x5 x6 : Int) (σ : zM) {r : zO} (h : f_X9_measure_72 x0 x3 x4 x5 x6 σ = some r) (hk : (fun o : zO => o = out) r) : Gj g MX9_measure (lv + 2) 72 [(0, zr x0), (3, zi x3), (4, zi x4), (5, zi x5), (6, zi x6)] [] σ out :=
  gj_loop (P := (fun s : Int × Int × Int × zM => Gj g MX9_measure (lv + 2) 72 [(0, zr x0), (3, zi x3), (4, zi s.1), (5, zi s.2.1), (6, zi s.2.2.1)] [] s.2.2.2 out)) (fun s x hb hx => w_X9_measure_72_b x0 x3 s.1 s.2.1 s.2.2.1 s.2.2.2 hb hx) h hk
noncomputable def f_X9_measure_38 (x0 x1 x2 x3 : Int) (σ : zM) : Option zO :=
  zlet ((zadd (zadd (zmul 64 x1) (zmul 8 x2)) x3)) fun y1 =>
  (zgf σ 977 x0).bind fun v2 =>
  (zpa σ 101 v2 y1 0).bind fun σ3 =>
  (zgf σ3 944 x0).bind fun v4 =>
  zlet ((zmul 64 v4)) fun y5 =>
  f_X9_measure_72 x0 x3 y1 y5 y1 σ3
theorem w_X9_measure_38 {g : zG} {lv : Nat} {out : zO} (x0 x1 x2 x3 : Int) (σ : zM) {r : zO} (h : f_X9_measure_38 x0 x1 x2 x3 σ = some r) (hk : (fun o : zO => o = out) r) : Gj g MX9_measure (lv + 2) 38 [(0, zr x0), (1, zi x1), (2, zi x2), (3, zi x3)] [] σ out := by
  revert h
  unfold f_X9_measure_38
  refine zst_ (gj_bipush (pc := 38) dX9_measure_38 ⟨rfl, by decide⟩) ?_
  refine zst_ (gj_iload_n 1 (pc := 40) dX9_measure_40 rfl) ?_
  refine zst_ (gj_imul (pc := 41) dX9_measure_41) ?_
  refine zst_ (gj_bipush (pc := 42) dX9_measure_42 ⟨rfl, by decide⟩) ?_
  refine zst_ (gj_iload_n 2 (pc := 44) dX9_measure_44 rfl) ?_
  refine zst_ (gj_imul (pc := 45) dX9_measure_45) ?_
  refine zst_ (gj_iadd (pc := 46) dX9_measure_46) ?_
  refine zst_ (gj_iload_n 3 (pc := 47) dX9_measure_47 rfl) ?_
  refine zst_ (gj_iadd (pc := 48) dX9_measure_48) ?_
  refine gb_let (fun y1 => ?_)
  refine zst_ (gj_istore (pc := 49) (ls' := [(4, zi y1), (0, zr x0), (1, zi x1), (2, zi x2), (3, zi x3)]) dX9_measure_49 (by decide) rfl) ?_
  refine zst_ (gj_aload_n 1 (pc := 51) dX9_measure_51 rfl) ?_
  refine gb_get (pc := 52) fl977 dX9_measure_52 q1959 (Or.inl rfl) (fun v2 => ?_)
  refine zst_ (gj_iload 0 (pc := 55) dX9_measure_55 rfl) ?_
  refine zst_ (gj_iconst (pc := 57) dX9_measure_57 (by decide)) ?_
  refine gb_iast (pc := 58) dX9_measure_58 (fun σ3 => ?_)
  refine zst_ (gj_bipush (pc := 59) dX9_measure_59 ⟨rfl, by decide⟩) ?_
  refine zst_ (gj_aload_n 1 (pc := 61) dX9_measure_61 rfl) ?_
  refine gb_get (pc := 62) fl944 dX9_measure_62 q1926 (Or.inl rfl) (fun v4 => ?_)
  refine zst_ (gj_imul (pc := 65) dX9_measure_65) ?_
  refine gb_let (fun y5 => ?_)
  refine zst_ (gj_istore (pc := 66) (ls' := [(5, zi y5), (4, zi y1), (0, zr x0), (1, zi x1), (2, zi x2), (3, zi x3)]) dX9_measure_66 (by decide) rfl) ?_
  refine zst_ (gj_iload 1 (pc := 68) dX9_measure_68 rfl) ?_
  refine zst_ (gj_istore (pc := 70) (ls' := [(6, zi y1), (5, zi y5), (4, zi y1), (0, zr x0), (1, zi x1), (2, zi x2), (3, zi x3)]) dX9_measure_70 (by decide) rfl) ?_
  refine zst_ (gj_sub [3, 6, 2, 1, 0] rfl) ?_
  exact fun h => w_X9_measure_72 x0 x3 y1 y5 y1 σ3 h hk
noncomputable def f_X9_measure_12_b (x0 x1 x2 x3 x4 : Int) (σ : zM) : Option ((Int × zM) ⊕ zO) :=
  (zgf σ 944 x0).bind fun v1 =>
  if (zmul 64 v1) ≤ x4 then
    (f_X9_measure_38 x0 x1 x2 x3 σ).map (fun r => (.inr r))
  else
    (zgf σ 977 x0).bind fun v2 =>
    (zpa σ 101 v2 x4 (-1)).bind fun σ3 =>
    zlet (zadd x4 1) fun y4 =>
    some (.inl (y4, σ3))
noncomputable def f_X9_measure_12 (x0 x1 x2 x3 x4 : Int) (σ : zM) : Option zO :=
  zloop (fun s : Int × zM => f_X9_measure_12_b x0 x1 x2 x3 s.1 s.2) (x4, σ)
theorem w_X9_measure_12_b {g : zG} {lv : Nat} {out : zO} (x0 x1 x2 x3 x4 : Int) (σ : zM) {r : ((Int × zM) ⊕ zO)} (h : f_X9_measure_12_b x0 x1 x2 x3 x4 σ = some r) (hk : (zKL (fun s : Int × zM => Gj g MX9_measure (lv + 2) 12 [(0, zr x0), (1, zi x1), (2, zi x2), (3, zi x3), (4, zi s.1)] [] s.2 out) (fun o : zO => o = out)) r) : Gj g MX9_measure (lv + 2) 12 [(0, zr x0), (1, zi x1), (2, zi x2), (3, zi x3), (4, zi x4)] [] σ out := by
  revert h
  unfold f_X9_measure_12_b
  refine zst_ (gj_iload 4 (pc := 12) dX9_measure_12 rfl) ?_
  refine zst_ (gj_bipush (pc := 14) dX9_measure_14 ⟨rfl, by decide⟩) ?_
  refine zst_ (gj_aload_n 0 (pc := 16) dX9_measure_16 rfl) ?_
  refine gb_get (pc := 17) fl944 dX9_measure_17 q1926 (Or.inl rfl) (fun v1 => ?_)
  refine zst_ (gj_imul (pc := 20) dX9_measure_20) ?_
  refine gb_if (gj_icmp_ge 38 (pc := 21) dX9_measure_21 (by decide)) ?_ ?_
  · refine zst_ (gj_sub [0, 1, 2, 3] rfl) ?_
    intro h
    obtain ⟨r0, h0, rfl⟩ := zmE h
    exact w_X9_measure_38 x0 x1 x2 x3 σ h0 hk
  · refine zst_ (gj_aload_n 0 (pc := 24) dX9_measure_24 rfl) ?_
    refine gb_get (pc := 25) fl977 dX9_measure_25 q1959 (Or.inl rfl) (fun v2 => ?_)
    refine zst_ (gj_iload 4 (pc := 28) dX9_measure_28 rfl) ?_
    refine zst_ (gj_iconst (pc := 30) dX9_measure_30 (by decide)) ?_
    refine gb_iast (pc := 31) dX9_measure_31 (fun σ3 => ?_)
    refine gb_iinc (pc := 32) 4 (fun y4 => [(4, zi y4), (0, zr x0), (1, zi x1), (2, zi x2), (3, zi x3)]) dX9_measure_32 rfl (by decide) (fun _ => rfl) (fun y4 => ?_)
    refine zst_ (gj_goto 12 (pc := 35) dX9_measure_35 (by decide)) ?_
    refine zst_ (gj_sub [1, 2, 3, 4, 0] rfl) ?_
    intro h
    cases h
    exact hk
theorem w_X9_measure_12 {g : zG} {lv : Nat} {out : zO} (x0 x1 x2 x3 x4 : Int) (σ : zM) {r : zO} (h : f_X9_measure_12 x0 x1 x2 x3 x4 σ = some r) (hk : (fun o : zO => o = out) r) : Gj g MX9_measure (lv + 2) 12 [(0, zr x0), (1, zi x1), (2, zi x2), (3, zi x3), (4, zi x4)] [] σ out :=
  gj_loop (P := (fun s : Int × zM => Gj g MX9_measure (lv + 2) 12 [(0, zr x0), (1, zi x1), (2, zi x2), (3, zi x3), (4, zi s.1)] [] s.2 out)) (fun s x hb hx => w_X9_measure_12_b x0 x1 x2 x3 s.1 s.2 hb hx) h hk
noncomputable def f_X9_measure (x0 x1 x2 : Int) (σ : zM) : Option zO :=
  (zgf σ 964 x0).bind fun v1 =>
  zlet ((zsub (zshl 1 v1) 1)) fun y2 =>
  f_X9_measure_12 x0 x1 x2 y2 0 σ
theorem c_X9_measure {g : zG} {lv : Nat} {x0 x1 x2 : Int} {σ : zM} {out : zO} (h : f_X9_measure x0 x1 x2 σ = some out) : Cj g (lv + 2) MX9_measure [zr x0, zi x1, zi x2] σ out := by
  refine cj_go (ls := [(0, zr x0), (1, zi x1), (2, zi x2)]) (by decide) (Nat.le_of_ble_eq_true rfl) rfl (zgen h (fun r hk => ?_))
  unfold f_X9_measure
  refine zst_ (gj_iconst (pc := 0) dX9_measure_0 (by decide)) ?_
  refine zst_ (gj_aload_n 0 (pc := 1) dX9_measure_1 rfl) ?_
  refine gb_get (pc := 2) fl964 dX9_measure_2 q1946 (Or.inl rfl) (fun v1 => ?_)
  refine zst_ (gj_ishl (pc := 5) dX9_measure_5) ?_
  refine zst_ (gj_iconst (pc := 6) dX9_measure_6 (by decide)) ?_
  refine zst_ (gj_isub (pc := 7) dX9_measure_7) ?_
  refine gb_let (fun y2 => ?_)
  refine zst_ (gj_istore_n (pc := 8) (ls' := [(3, zi y2), (0, zr x0), (1, zi x1), (2, zi x2)]) dX9_measure_8 (by decide) rfl) ?_
  refine zst_ (gj_iconst (pc := 9) dX9_measure_9 (by decide)) ?_
  refine zst_ (gj_istore (pc := 10) (ls' := [(4, zi 0), (3, zi y2), (0, zr x0), (1, zi x1), (2, zi x2)]) dX9_measure_10 (by decide) rfl) ?_
  refine zst_ (gj_sub [2, 3, 4, 1, 0] rfl) ?_
  exact fun h => w_X9_measure_12 x0 x1 x2 y2 0 σ h hk
theorem q2346 : (Jvm.Cond.code ({ cls := "LassoFinderModel", name := "nearest", desc := "(II)I" } : Jvm.MethodName) prog_22_method_57_code (8 : Nat) (Option.some Jvm.ClassFile.FieldType.int)) ∈ lw_all := lw_g (lw_at lw_m10 86 rfl) rfl
theorem q2347 : (Jvm.Cond.methodLink "LassoFinderModel" (428 : Nat) ({ cls := "LassoFinderModel", name := "measure", desc := "(II)V" } : Jvm.MethodName)) ∈ lw_all := lw_g (lw_at lw_m10 87 rfl) rfl
theorem q2349 : (Jvm.Cond.instanceMethod ({ cls := "LassoFinderModel", name := "measure", desc := "(II)V" } : Jvm.MethodName)) ∈ lw_all := lw_g (lw_at lw_m10 89 rfl) rfl
abbrev cX9_nearest : ByteArray := prog_22_method_57_code
def yX9_nearest : MethodName := ⟨RX9, "nearest", "(II)I"⟩
theorem dX9_nearest_0 : decode cX9_nearest 0 = .ok (.aload_n 0, 1) := by decide +kernel
theorem dX9_nearest_1 : decode cX9_nearest 1 = .ok (.iload_n 1, 1) := by decide +kernel
theorem dX9_nearest_2 : decode cX9_nearest 2 = .ok (.iload_n 2, 1) := by decide +kernel
theorem dX9_nearest_3 : decode cX9_nearest 3 = .ok (.invokevirtual 428, 3) := by decide +kernel
theorem dX9_nearest_6 : decode cX9_nearest 6 = .ok (.aload_n 0, 1) := by decide +kernel
theorem dX9_nearest_7 : decode cX9_nearest 7 = .ok (.iload_n 1, 1) := by decide +kernel
theorem dX9_nearest_8 : decode cX9_nearest 8 = .ok (.iload_n 2, 1) := by decide +kernel
theorem dX9_nearest_9 : decode cX9_nearest 9 = .ok (.invokevirtual 419, 3) := by decide +kernel
theorem dX9_nearest_12 : decode cX9_nearest 12 = .ok (.istore_n 3, 1) := by decide +kernel
theorem dX9_nearest_13 : decode cX9_nearest 13 = .ok (.iconst 0, 1) := by decide +kernel
theorem dX9_nearest_14 : decode cX9_nearest 14 = .ok (.istore 4, 2) := by decide +kernel
theorem dX9_nearest_16 : decode cX9_nearest 16 = .ok (.aload_n 0, 1) := by decide +kernel
theorem dX9_nearest_17 : decode cX9_nearest 17 = .ok (.getfield 109, 3) := by decide +kernel
theorem dX9_nearest_20 : decode cX9_nearest 20 = .ok (.iload_n 1, 1) := by decide +kernel
theorem dX9_nearest_21 : decode cX9_nearest 21 = .ok (.iaload, 1) := by decide +kernel
theorem dX9_nearest_22 : decode cX9_nearest 22 = .ok (.istore 5, 2) := by decide +kernel
theorem dX9_nearest_24 : decode cX9_nearest 24 = .ok (.iload 5, 2) := by decide +kernel
theorem dX9_nearest_26 : decode cX9_nearest 26 = .ok (.aload_n 0, 1) := by decide +kernel
theorem dX9_nearest_27 : decode cX9_nearest 27 = .ok (.getfield 109, 3) := by decide +kernel
theorem dX9_nearest_30 : decode cX9_nearest 30 = .ok (.iload_n 1, 1) := by decide +kernel
theorem dX9_nearest_31 : decode cX9_nearest 31 = .ok (.iconst 1, 1) := by decide +kernel
theorem dX9_nearest_32 : decode cX9_nearest 32 = .ok (.iadd, 1) := by decide +kernel
theorem dX9_nearest_33 : decode cX9_nearest 33 = .ok (.iaload, 1) := by decide +kernel
theorem dX9_nearest_34 : decode cX9_nearest 34 = .ok (.if_icmp .ge 107, 3) := by decide +kernel
theorem dX9_nearest_37 : decode cX9_nearest 37 = .ok (.iconst 0, 1) := by decide +kernel
theorem dX9_nearest_38 : decode cX9_nearest 38 = .ok (.istore 6, 2) := by decide +kernel
theorem dX9_nearest_40 : decode cX9_nearest 40 = .ok (.iload 6, 2) := by decide +kernel
theorem dX9_nearest_42 : decode cX9_nearest 42 = .ok (.iconst 1, 1) := by decide +kernel
theorem dX9_nearest_43 : decode cX9_nearest 43 = .ok (.aload_n 0, 1) := by decide +kernel
theorem dX9_nearest_44 : decode cX9_nearest 44 = .ok (.getfield 376, 3) := by decide +kernel
theorem dX9_nearest_47 : decode cX9_nearest 47 = .ok (.ishl, 1) := by decide +kernel
theorem dX9_nearest_48 : decode cX9_nearest 48 = .ok (.if_icmp .ge 87, 3) := by decide +kernel
theorem dX9_nearest_51 : decode cX9_nearest 51 = .ok (.aload_n 0, 1) := by decide +kernel
theorem dX9_nearest_52 : decode cX9_nearest 52 = .ok (.iload_n 1, 1) := by decide +kernel
theorem dX9_nearest_53 : decode cX9_nearest 53 = .ok (.iload 6, 2) := by decide +kernel
theorem dX9_nearest_55 : decode cX9_nearest 55 = .ok (.invokevirtual 422, 3) := by decide +kernel
theorem dX9_nearest_58 : decode cX9_nearest 58 = .ok (.iload_n 2, 1) := by decide +kernel
theorem dX9_nearest_59 : decode cX9_nearest 59 = .ok (.if_icmp .eq 7, 3) := by decide +kernel
theorem dX9_nearest_62 : decode cX9_nearest 62 = .ok (.iconst (-1), 1) := by decide +kernel
theorem dX9_nearest_63 : decode cX9_nearest 63 = .ok (.goto 39, 3) := by decide +kernel
theorem dX9_nearest_66 : decode cX9_nearest 66 = .ok (.aload_n 0, 1) := by decide +kernel
theorem dX9_nearest_67 : decode cX9_nearest 67 = .ok (.bipush 64, 2) := by decide +kernel
theorem dX9_nearest_69 : decode cX9_nearest 69 = .ok (.aload_n 0, 1) := by decide +kernel
theorem dX9_nearest_70 : decode cX9_nearest 70 = .ok (.getfield 112, 3) := by decide +kernel
theorem dX9_nearest_73 : decode cX9_nearest 73 = .ok (.iload 5, 2) := by decide +kernel
theorem dX9_nearest_75 : decode cX9_nearest 75 = .ok (.iaload, 1) := by decide +kernel
theorem dX9_nearest_76 : decode cX9_nearest 76 = .ok (.imul, 1) := by decide +kernel
theorem dX9_nearest_77 : decode cX9_nearest 77 = .ok (.bipush 8, 2) := by decide +kernel
theorem dX9_nearest_79 : decode cX9_nearest 79 = .ok (.iload 6, 2) := by decide +kernel
theorem dX9_nearest_81 : decode cX9_nearest 81 = .ok (.imul, 1) := by decide +kernel
theorem dX9_nearest_82 : decode cX9_nearest 82 = .ok (.iadd, 1) := by decide +kernel
theorem dX9_nearest_83 : decode cX9_nearest 83 = .ok (.iload_n 3, 1) := by decide +kernel
theorem dX9_nearest_84 : decode cX9_nearest 84 = .ok (.aload_n 0, 1) := by decide +kernel
theorem dX9_nearest_85 : decode cX9_nearest 85 = .ok (.aload_n 0, 1) := by decide +kernel
theorem dX9_nearest_86 : decode cX9_nearest 86 = .ok (.getfield 112, 3) := by decide +kernel
theorem dX9_nearest_89 : decode cX9_nearest 89 = .ok (.iload 5, 2) := by decide +kernel
theorem dX9_nearest_91 : decode cX9_nearest 91 = .ok (.iaload, 1) := by decide +kernel
theorem dX9_nearest_92 : decode cX9_nearest 92 = .ok (.iload 6, 2) := by decide +kernel
theorem dX9_nearest_94 : decode cX9_nearest 94 = .ok (.invokevirtual 419, 3) := by decide +kernel
theorem dX9_nearest_97 : decode cX9_nearest 97 = .ok (.ior, 1) := by decide +kernel
theorem dX9_nearest_98 : decode cX9_nearest 98 = .ok (.iadd, 1) := by decide +kernel
theorem dX9_nearest_99 : decode cX9_nearest 99 = .ok (.invokevirtual 425, 3) := by decide +kernel
theorem dX9_nearest_102 : decode cX9_nearest 102 = .ok (.istore 7, 2) := by decide +kernel
theorem dX9_nearest_104 : decode cX9_nearest 104 = .ok (.iload 7, 2) := by decide +kernel
theorem dX9_nearest_106 : decode cX9_nearest 106 = .ok (.ifCond .lt 23, 3) := by decide +kernel
theorem dX9_nearest_109 : decode cX9_nearest 109 = .ok (.iload 4, 2) := by decide +kernel
theorem dX9_nearest_111 : decode cX9_nearest 111 = .ok (.ifCond .eq 12, 3) := by decide +kernel
theorem dX9_nearest_114 : decode cX9_nearest 114 = .ok (.iload 7, 2) := by decide +kernel
theorem dX9_nearest_116 : decode cX9_nearest 116 = .ok (.iconst 1, 1) := by decide +kernel
theorem dX9_nearest_117 : decode cX9_nearest 117 = .ok (.iadd, 1) := by decide +kernel
theorem dX9_nearest_118 : decode cX9_nearest 118 = .ok (.iload 4, 2) := by decide +kernel
theorem dX9_nearest_120 : decode cX9_nearest 120 = .ok (.if_icmp .ge 9, 3) := by decide +kernel
theorem dX9_nearest_123 : decode cX9_nearest 123 = .ok (.iload 7, 2) := by decide +kernel
theorem dX9_nearest_125 : decode cX9_nearest 125 = .ok (.iconst 1, 1) := by decide +kernel
theorem dX9_nearest_126 : decode cX9_nearest 126 = .ok (.iadd, 1) := by decide +kernel
theorem dX9_nearest_127 : decode cX9_nearest 127 = .ok (.istore 4, 2) := by decide +kernel
theorem dX9_nearest_129 : decode cX9_nearest 129 = .ok (.iinc 6 1, 3) := by decide +kernel
theorem dX9_nearest_132 : decode cX9_nearest 132 = .ok (.goto (-92), 3) := by decide +kernel
theorem dX9_nearest_135 : decode cX9_nearest 135 = .ok (.iinc 5 1, 3) := by decide +kernel
theorem dX9_nearest_138 : decode cX9_nearest 138 = .ok (.goto (-114), 3) := by decide +kernel
theorem dX9_nearest_141 : decode cX9_nearest 141 = .ok (.iload 4, 2) := by decide +kernel
theorem dX9_nearest_143 : decode cX9_nearest 143 = .ok (.ireturn, 1) := by decide +kernel
abbrev MX9_nearest : zT := (yX9_nearest, cX9_nearest, 8, (Option.some Jvm.ClassFile.FieldType.int), [])
theorem plX9_nearest : zplain MX9_nearest 2 ∧ (zcodeW MX9_nearest ∈ lw_all ∧ Cond.initialized MX9_nearest.1.cls ∈ lw_all) := ⟨⟨by decide +kernel, by decide +kernel⟩, q2346, q127⟩
noncomputable def f_X9_nearest_141 (x4 : Int) (σ : zM) : Option zO :=
  some (0, zi x4, σ)
theorem w_X9_nearest_141 {g : zG} {lv : Nat} {out : zO} (x4 : Int) (σ : zM) {r : zO} (h : f_X9_nearest_141 x4 σ = some r) (hk : (fun o : zO => o = out) r) : Gj g MX9_nearest (lv + 3) 141 [(4, zi x4)] [] σ out := by
  revert h
  unfold f_X9_nearest_141
  refine zst_ (gj_iload 0 (pc := 141) dX9_nearest_141 rfl) ?_
  intro h
  cases h
  have hk : (0, zi x4, σ) = out := hk
  subst hk
  exact gj_ret (pc := 143) (t := .int) dX9_nearest_143 rfl ⟨rfl, rfl⟩ (fun h => h)
noncomputable def f_X9_nearest_135 (x0 x1 x2 x3 x4 x5 : Int) (σ : zM) : Option ((Int × Int × zM) ⊕ zO) :=
  zlet (zadd x5 1) fun y1 =>
  some (.inl (x4, y1, σ))
theorem w_X9_nearest_135 {g : zG} {lv : Nat} {out : zO} (x0 x1 x2 x3 x4 x5 : Int) (σ : zM) {r : ((Int × Int × zM) ⊕ zO)} (h : f_X9_nearest_135 x0 x1 x2 x3 x4 x5 σ = some r) (hk : (zKL (fun s : Int × Int × zM => Gj g MX9_nearest (lv + 3) 24 [(0, zr x0), (1, zi x1), (2, zi x2), (3, zi x3), (4, zi s.1), (5, zi s.2.1)] [] s.2.2 out) (fun o : zO => o = out)) r) : Gj g MX9_nearest (lv + 3) 135 [(0, zr x0), (1, zi x1), (2, zi x2), (3, zi x3), (4, zi x4), (5, zi x5)] [] σ out := by
  revert h
  unfold f_X9_nearest_135
  refine gb_iinc (pc := 135) 5 (fun y1 => [(5, zi y1), (0, zr x0), (1, zi x1), (2, zi x2), (3, zi x3), (4, zi x4)]) dX9_nearest_135 rfl (by decide) (fun _ => rfl) (fun y1 => ?_)
  refine zst_ (gj_goto 24 (pc := 138) dX9_nearest_138 (by decide)) ?_
  refine zst_ (gj_sub [1, 2, 3, 4, 5, 0] rfl) ?_
  intro h
  cases h
  exact hk
noncomputable def f_X9_nearest_129 (x0 x1 x2 x3 x4 x5 x6 : Int) (σ : zM) : Option ((Int × Int × zM) ⊕ ((Int × Int × zM) ⊕ zO)) :=
  zlet (zadd x6 1) fun y1 =>
  some (.inl (x4, y1, σ))
theorem w_X9_nearest_129 {g : zG} {lv : Nat} {out : zO} (x0 x1 x2 x3 x4 x5 x6 : Int) (σ : zM) {r : ((Int × Int × zM) ⊕ ((Int × Int × zM) ⊕ zO))} (h : f_X9_nearest_129 x0 x1 x2 x3 x4 x5 x6 σ = some r) (hk : (zKL (fun s : Int × Int × zM => Gj g MX9_nearest (lv + 3) 40 [(0, zr x0), (1, zi x1), (2, zi x2), (3, zi x3), (4, zi s.1), (5, zi x5), (6, zi s.2.1)] [] s.2.2 out) (zKL (fun s : Int × Int × zM => Gj g MX9_nearest (lv + 3) 24 [(0, zr x0), (1, zi x1), (2, zi x2), (3, zi x3), (4, zi s.1), (5, zi s.2.1)] [] s.2.2 out) (fun o : zO => o = out))) r) : Gj g MX9_nearest (lv + 3) 129 [(0, zr x0), (1, zi x1), (2, zi x2), (3, zi x3), (4, zi x4), (5, zi x5), (6, zi x6)] [] σ out := by
  revert h
  unfold f_X9_nearest_129
  refine gb_iinc (pc := 129) 6 (fun y1 => [(6, zi y1), (0, zr x0), (1, zi x1), (2, zi x2), (3, zi x3), (4, zi x4), (5, zi x5)]) dX9_nearest_129 rfl (by decide) (fun _ => rfl) (fun y1 => ?_)
  refine zst_ (gj_goto 40 (pc := 132) dX9_nearest_132 (by decide)) ?_
  refine zst_ (gj_sub [1, 2, 3, 4, 5, 6, 0] rfl) ?_
  intro h
  cases h
  exact hk
noncomputable def f_X9_nearest_123 (x0 x1 x2 x3 x5 x6 x7 : Int) (σ : zM) : Option ((Int × Int × zM) ⊕ ((Int × Int × zM) ⊕ zO)) :=
  zlet ((zadd x7 1)) fun y1 =>
  f_X9_nearest_129 x0 x1 x2 x3 y1 x5 x6 σ
theorem w_X9_nearest_123 {g : zG} {lv : Nat} {out : zO} (x0 x1 x2 x3 x5 x6 x7 : Int) (σ : zM) {r : ((Int × Int × zM) ⊕ ((Int × Int × zM) ⊕ zO))} (h : f_X9_nearest_123 x0 x1 x2 x3 x5 x6 x7 σ = some r) (hk : (zKL (fun s : Int × Int × zM => Gj g MX9_nearest (lv + 3) 40 [(0, zr x0), (1, zi x1), (2, zi x2), (3, zi x3), (4, zi s.1), (5, zi x5), (6, zi s.2.1)] [] s.2.2 out) (zKL (fun s : Int × Int × zM => Gj g MX9_nearest (lv + 3) 24 [(0, zr x0), (1, zi x1), (2, zi x2), (3, zi x3), (4, zi s.1), (5, zi s.2.1)] [] s.2.2 out) (fun o : zO => o = out))) r) : Gj g MX9_nearest (lv + 3) 123 [(0, zr x0), (1, zi x1), (2, zi x2), (3, zi x3), (5, zi x5), (6, zi x6), (7, zi x7)] [] σ out := by
  revert h
  unfold f_X9_nearest_123
  refine zst_ (gj_iload 6 (pc := 123) dX9_nearest_123 rfl) ?_
  refine zst_ (gj_iconst (pc := 125) dX9_nearest_125 (by decide)) ?_
  refine zst_ (gj_iadd (pc := 126) dX9_nearest_126) ?_
  refine gb_let (fun y1 => ?_)
  refine zst_ (gj_istore (pc := 127) (ls' := [(4, zi y1), (0, zr x0), (1, zi x1), (2, zi x2), (3, zi x3), (5, zi x5), (6, zi x6), (7, zi x7)]) dX9_nearest_127 (by decide) rfl) ?_
  refine zst_ (gj_sub [1, 2, 3, 4, 0, 5, 6] rfl) ?_
  exact fun h => w_X9_nearest_129 x0 x1 x2 x3 y1 x5 x6 σ h hk
noncomputable def f_X9_nearest_102 (x0 x1 x2 x3 x4 x5 x6 t0 : Int) (σ : zM) : Option ((Int × Int × zM) ⊕ ((Int × Int × zM) ⊕ zO)) :=
  if t0 < 0 then
    f_X9_nearest_129 x0 x1 x2 x3 x4 x5 x6 σ
  else
    if x4 = 0 then
      f_X9_nearest_123 x0 x1 x2 x3 x5 x6 t0 σ
    else
      if x4 ≤ (zadd t0 1) then
        f_X9_nearest_129 x0 x1 x2 x3 x4 x5 x6 σ
      else
        f_X9_nearest_123 x0 x1 x2 x3 x5 x6 t0 σ
theorem w_X9_nearest_102 {g : zG} {lv : Nat} {out : zO} (x0 x1 x2 x3 x4 x5 x6 t0 : Int) (σ : zM) {r : ((Int × Int × zM) ⊕ ((Int × Int × zM) ⊕ zO))} (h : f_X9_nearest_102 x0 x1 x2 x3 x4 x5 x6 t0 σ = some r) (hk : (zKL (fun s : Int × Int × zM => Gj g MX9_nearest (lv + 3) 40 [(0, zr x0), (1, zi x1), (2, zi x2), (3, zi x3), (4, zi s.1), (5, zi x5), (6, zi s.2.1)] [] s.2.2 out) (zKL (fun s : Int × Int × zM => Gj g MX9_nearest (lv + 3) 24 [(0, zr x0), (1, zi x1), (2, zi x2), (3, zi x3), (4, zi s.1), (5, zi s.2.1)] [] s.2.2 out) (fun o : zO => o = out))) r) : Gj g MX9_nearest (lv + 3) 102 [(0, zr x0), (1, zi x1), (2, zi x2), (3, zi x3), (4, zi x4), (5, zi x5), (6, zi x6)] [zi t0] σ out := by
  revert h
  unfold f_X9_nearest_102
  refine zst_ (gj_istore (pc := 102) (ls' := [(7, zi t0), (0, zr x0), (1, zi x1), (2, zi x2), (3, zi x3), (4, zi x4), (5, zi x5), (6, zi x6)]) dX9_nearest_102 (by decide) rfl) ?_
  refine zst_ (gj_iload 0 (pc := 104) dX9_nearest_104 rfl) ?_
  refine gb_if (gj_if_lt 129 (pc := 106) dX9_nearest_106 (by decide)) ?_ ?_
  · refine zst_ (gj_sub [1, 2, 3, 4, 5, 6, 7] rfl) ?_
    exact fun h => w_X9_nearest_129 x0 x1 x2 x3 x4 x5 x6 σ h hk
  · refine zst_ (gj_iload 5 (pc := 109) dX9_nearest_109 rfl) ?_
    refine gb_if (gj_if_eq 123 (pc := 111) dX9_nearest_111 (by decide)) ?_ ?_
    · refine zst_ (gj_sub [1, 2, 3, 4, 6, 7, 0] rfl) ?_
      exact fun h => w_X9_nearest_123 x0 x1 x2 x3 x5 x6 t0 σ h hk
    · refine zst_ (gj_iload 0 (pc := 114) dX9_nearest_114 rfl) ?_
      refine zst_ (gj_iconst (pc := 116) dX9_nearest_116 (by decide)) ?_
      refine zst_ (gj_iadd (pc := 117) dX9_nearest_117) ?_
      refine zst_ (gj_iload 5 (pc := 118) dX9_nearest_118 rfl) ?_
      refine gb_if (gj_icmp_ge 129 (pc := 120) dX9_nearest_120 (by decide)) ?_ ?_
      · refine zst_ (gj_sub [1, 2, 3, 4, 5, 6, 7] rfl) ?_
        exact fun h => w_X9_nearest_129 x0 x1 x2 x3 x4 x5 x6 σ h hk
      · refine zst_ (gj_sub [1, 2, 3, 4, 6, 7, 0] rfl) ?_
        exact fun h => w_X9_nearest_123 x0 x1 x2 x3 x5 x6 t0 σ h hk
noncomputable def f_X9_nearest_40_b (x0 x1 x2 x3 x4 x5 x6 : Int) (σ : zM) : Option ((Int × Int × zM) ⊕ ((Int × Int × zM) ⊕ zO)) :=
  (zgf σ 964 x0).bind fun v1 =>
  if (zshl 1 v1) ≤ x6 then
    (f_X9_nearest_135 x0 x1 x2 x3 x4 x5 σ).map (fun r => (.inr r))
  else
    zgd (zis σ 10 x0) <|
    zci (f_X9_truthAt x0 x1 x6 σ) fun v2 σ3 =>
    if v2 = x2 then
      (zgf σ3 949 x0).bind fun v4 =>
      (zga σ3 101 v4 x5).bind fun v5 =>
      (zgf σ3 949 x0).bind fun v6 =>
      (zga σ3 101 v6 x5).bind fun v7 =>
      zgd (zis σ3 10 x0) <|
      zci (f_X9_settled x0 v7 x6 σ3) fun v8 σ9 =>
      zgd (zis σ9 10 x0) <|
      zci (f_X9_away x0 (zadd (zadd (zmul 64 v5) (zmul 8 x6)) (zor x3 v8)) σ9) fun v10 σ11 =>
      f_X9_nearest_102 x0 x1 x2 x3 x4 x5 x6 v10 σ11
    else
      f_X9_nearest_102 x0 x1 x2 x3 x4 x5 x6 (-1) σ3
noncomputable def f_X9_nearest_40 (x0 x1 x2 x3 x4 x5 x6 : Int) (σ : zM) : Option ((Int × Int × zM) ⊕ zO) :=
  zloop (fun s : Int × Int × zM => f_X9_nearest_40_b x0 x1 x2 x3 s.1 x5 s.2.1 s.2.2) (x4, x6, σ)
theorem w_X9_nearest_40_b {g : zG} {lv : Nat} {out : zO} (x0 x1 x2 x3 x4 x5 x6 : Int) (σ : zM) {r : ((Int × Int × zM) ⊕ ((Int × Int × zM) ⊕ zO))} (h : f_X9_nearest_40_b x0 x1 x2 x3 x4 x5 x6 σ = some r) (hk : (zKL (fun s : Int × Int × zM => Gj g MX9_nearest (lv + 3) 40 [(0, zr x0), (1, zi x1), (2, zi x2), (3, zi x3), (4, zi s.1), (5, zi x5), (6, zi s.2.1)] [] s.2.2 out) (zKL (fun s : Int × Int × zM => Gj g MX9_nearest (lv + 3) 24 [(0, zr x0), (1, zi x1), (2, zi x2), (3, zi x3), (4, zi s.1), (5, zi s.2.1)] [] s.2.2 out) (fun o : zO => o = out))) r) : Gj g MX9_nearest (lv + 3) 40 [(0, zr x0), (1, zi x1), (2, zi x2), (3, zi x3), (4, zi x4), (5, zi x5), (6, zi x6)] [] σ out := by
  revert h
  unfold f_X9_nearest_40_b
  refine zst_ (gj_iload 6 (pc := 40) dX9_nearest_40 rfl) ?_
  refine zst_ (gj_iconst (pc := 42) dX9_nearest_42 (by decide)) ?_
  refine zst_ (gj_aload_n 0 (pc := 43) dX9_nearest_43 rfl) ?_
  refine gb_get (pc := 44) fl964 dX9_nearest_44 q1946 (Or.inl rfl) (fun v1 => ?_)
  refine zst_ (gj_ishl (pc := 47) dX9_nearest_47) ?_
  refine gb_if (gj_icmp_ge 135 (pc := 48) dX9_nearest_48 (by decide)) ?_ ?_
  · refine zst_ (gj_sub [0, 1, 2, 3, 4, 5] rfl) ?_
    intro h
    obtain ⟨r0, h0, rfl⟩ := zmE h
    exact w_X9_nearest_135 x0 x1 x2 x3 x4 x5 σ h0 hk
  · refine zst_ (gj_aload_n 0 (pc := 51) dX9_nearest_51 rfl) ?_
    refine zst_ (gj_iload_n 1 (pc := 52) dX9_nearest_52 rfl) ?_
    refine zst_ (gj_iload 6 (pc := 53) dX9_nearest_53 rfl) ?_
    refine gb_gd (fun hb => ?_)
    refine gb_callI (pc := 55) (as := [zr x0, zi x1, zi x6]) (rest := []) (zCl.of (zLk_V (M := MX9_nearest) (ci := 9) (r := (RX9, TX9, 84)) plX9_truthAt.1 rfl rfl (zisE hb).1 (zisE hb).2 dX9_nearest_55 q2355 q2357 qs91 q2358) plX9_truthAt (Nat.le_of_ble_eq_true rfl) (fun h => c_X9_truthAt h)) (fun v2 σ3 => ?_)
    refine zst_ (gj_iload_n 2 (pc := 58) dX9_nearest_58 rfl) ?_
    refine gb_if (gj_icmp_eq 66 (pc := 59) dX9_nearest_59 (by decide)) ?_ ?_
    · refine zst_ (gj_aload_n 0 (pc := 66) dX9_nearest_66 rfl) ?_
      refine zst_ (gj_bipush (pc := 67) dX9_nearest_67 ⟨rfl, by decide⟩) ?_
      refine zst_ (gj_aload_n 0 (pc := 69) dX9_nearest_69 rfl) ?_
      refine gb_get (pc := 70) fl949 dX9_nearest_70 q1931 (Or.inl rfl) (fun v4 => ?_)
      refine zst_ (gj_iload 5 (pc := 73) dX9_nearest_73 rfl) ?_
      refine gb_iald (pc := 75) dX9_nearest_75 (fun v5 => ?_)
      refine zst_ (gj_imul (pc := 76) dX9_nearest_76) ?_
      refine zst_ (gj_bipush (pc := 77) dX9_nearest_77 ⟨rfl, by decide⟩) ?_
      refine zst_ (gj_iload 6 (pc := 79) dX9_nearest_79 rfl) ?_
      refine zst_ (gj_imul (pc := 81) dX9_nearest_81) ?_
      refine zst_ (gj_iadd (pc := 82) dX9_nearest_82) ?_
      refine zst_ (gj_iload_n 3 (pc := 83) dX9_nearest_83 rfl) ?_
      refine zst_ (gj_aload_n 0 (pc := 84) dX9_nearest_84 rfl) ?_
      refine zst_ (gj_aload_n 0 (pc := 85) dX9_nearest_85 rfl) ?_
      refine gb_get (pc := 86) fl949 dX9_nearest_86 q1931 (Or.inl rfl) (fun v6 => ?_)
      refine zst_ (gj_iload 5 (pc := 89) dX9_nearest_89 rfl) ?_
      refine gb_iald (pc := 91) dX9_nearest_91 (fun v7 => ?_)
      refine zst_ (gj_iload 6 (pc := 92) dX9_nearest_92 rfl) ?_
      refine gb_gd (fun hb => ?_)
      refine gb_callI (pc := 94) (as := [zr x0, zi v7, zi x6]) (rest := [zi x3, zi (zadd (zmul 64 v5) (zmul 8 x6)), zr x0]) (zCl.of (zLk_V (M := MX9_nearest) (ci := 9) (r := (RX9, TX9, 84)) plX9_settled.1 rfl rfl (zisE hb).1 (zisE hb).2 dX9_nearest_94 q2351 q2353 qs90 q2354) plX9_settled (Nat.le_of_ble_eq_true rfl) (fun h => c_X9_settled h)) (fun v8 σ9 => ?_)
      refine zst_ (gj_ior (pc := 97) dX9_nearest_97) ?_
      refine zst_ (gj_iadd (pc := 98) dX9_nearest_98) ?_
      refine gb_gd (fun hb => ?_)
      refine gb_callI (pc := 99) (as := [zr x0, zi (zadd (zadd (zmul 64 v5) (zmul 8 x6)) (zor x3 v8))]) (rest := []) (zCl.of (zLk_V (M := MX9_nearest) (ci := 9) (r := (RX9, TX9, 84)) plX9_away.1 rfl rfl (zisE hb).1 (zisE hb).2 dX9_nearest_99 q2363 q2365 qs93 q2366) plX9_away (Nat.le_of_ble_eq_true rfl) (fun h => c_X9_away h)) (fun v10 σ11 => ?_)
      exact fun h => w_X9_nearest_102 x0 x1 x2 x3 x4 x5 x6 v10 σ11 h hk
    · refine zst_ (gj_iconst (pc := 62) dX9_nearest_62 (by decide)) ?_
      refine zst_ (gj_goto 102 (pc := 63) dX9_nearest_63 (by decide)) ?_
      exact fun h => w_X9_nearest_102 x0 x1 x2 x3 x4 x5 x6 (-1) σ3 h hk
theorem w_X9_nearest_40 {g : zG} {lv : Nat} {out : zO} (x0 x1 x2 x3 x4 x5 x6 : Int) (σ : zM) {r : ((Int × Int × zM) ⊕ zO)} (h : f_X9_nearest_40 x0 x1 x2 x3 x4 x5 x6 σ = some r) (hk : (zKL (fun s : Int × Int × zM => Gj g MX9_nearest (lv + 3) 24 [(0, zr x0), (1, zi x1), (2, zi x2), (3, zi x3), (4, zi s.1), (5, zi s.2.1)] [] s.2.2 out) (fun o : zO => o = out)) r) : Gj g MX9_nearest (lv + 3) 40 [(0, zr x0), (1, zi x1), (2, zi x2), (3, zi x3), (4, zi x4), (5, zi x5), (6, zi x6)] [] σ out :=
  gj_loop (P := (fun s : Int × Int × zM => Gj g MX9_nearest (lv + 3) 40 [(0, zr x0), (1, zi x1), (2, zi x2), (3, zi x3), (4, zi s.1), (5, zi x5), (6, zi s.2.1)] [] s.2.2 out)) (fun s x hb hx => w_X9_nearest_40_b x0 x1 x2 x3 s.1 x5 s.2.1 s.2.2 hb hx) h hk
noncomputable def f_X9_nearest_24_b (x0 x1 x2 x3 x4 x5 : Int) (σ : zM) : Option ((Int × Int × zM) ⊕ zO) :=
  (zgf σ 948 x0).bind fun v1 =>
  (zga σ 101 v1 (zadd x1 1)).bind fun v2 =>
  if v2 ≤ x5 then
    (f_X9_nearest_141 x4 σ).map (fun r => (.inr r))
  else
    f_X9_nearest_40 x0 x1 x2 x3 x4 x5 0 σ
noncomputable def f_X9_nearest_24 (x0 x1 x2 x3 x4 x5 : Int) (σ : zM) : Option zO :=
  zloop (fun s : Int × Int × zM => f_X9_nearest_24_b x0 x1 x2 x3 s.1 s.2.1 s.2.2) (x4, x5, σ)
theorem w_X9_nearest_24_b {g : zG} {lv : Nat} {out : zO} (x0 x1 x2 x3 x4 x5 : Int) (σ : zM) {r : ((Int × Int × zM) ⊕ zO)} (h : f_X9_nearest_24_b x0 x1 x2 x3 x4 x5 σ = some r) (hk : (zKL (fun s : Int × Int × zM => Gj g MX9_nearest (lv + 3) 24 [(0, zr x0), (1, zi x1), (2, zi x2), (3, zi x3), (4, zi s.1), (5, zi s.2.1)] [] s.2.2 out) (fun o : zO => o = out)) r) : Gj g MX9_nearest (lv + 3) 24 [(0, zr x0), (1, zi x1), (2, zi x2), (3, zi x3), (4, zi x4), (5, zi x5)] [] σ out := by
  revert h
  unfold f_X9_nearest_24_b
  refine zst_ (gj_iload 5 (pc := 24) dX9_nearest_24 rfl) ?_
  refine zst_ (gj_aload_n 0 (pc := 26) dX9_nearest_26 rfl) ?_
  refine gb_get (pc := 27) fl948 dX9_nearest_27 q1930 (Or.inl rfl) (fun v1 => ?_)
  refine zst_ (gj_iload_n 1 (pc := 30) dX9_nearest_30 rfl) ?_
  refine zst_ (gj_iconst (pc := 31) dX9_nearest_31 (by decide)) ?_
  refine zst_ (gj_iadd (pc := 32) dX9_nearest_32) ?_
  refine gb_iald (pc := 33) dX9_nearest_33 (fun v2 => ?_)
  refine gb_if (gj_icmp_ge 141 (pc := 34) dX9_nearest_34 (by decide)) ?_ ?_
  · refine zst_ (gj_sub [4] rfl) ?_
    intro h
    obtain ⟨r0, h0, rfl⟩ := zmE h
    exact w_X9_nearest_141 x4 σ h0 hk
  · refine zst_ (gj_iconst (pc := 37) dX9_nearest_37 (by decide)) ?_
    refine zst_ (gj_istore (pc := 38) (ls' := [(6, zi 0), (0, zr x0), (1, zi x1), (2, zi x2), (3, zi x3), (4, zi x4), (5, zi x5)]) dX9_nearest_38 (by decide) rfl) ?_
    refine zst_ (gj_sub [1, 2, 3, 4, 5, 6, 0] rfl) ?_
    exact fun h => w_X9_nearest_40 x0 x1 x2 x3 x4 x5 0 σ h hk
theorem w_X9_nearest_24 {g : zG} {lv : Nat} {out : zO} (x0 x1 x2 x3 x4 x5 : Int) (σ : zM) {r : zO} (h : f_X9_nearest_24 x0 x1 x2 x3 x4 x5 σ = some r) (hk : (fun o : zO => o = out) r) : Gj g MX9_nearest (lv + 3) 24 [(0, zr x0), (1, zi x1), (2, zi x2), (3, zi x3), (4, zi x4), (5, zi x5)] [] σ out :=
  gj_loop (P := (fun s : Int × Int × zM => Gj g MX9_nearest (lv + 3) 24 [(0, zr x0), (1, zi x1), (2, zi x2), (3, zi x3), (4, zi s.1), (5, zi s.2.1)] [] s.2.2 out)) (fun s x hb hx => w_X9_nearest_24_b x0 x1 x2 x3 s.1 s.2.1 s.2.2 hb hx) h hk
noncomputable def f_X9_nearest (x0 x1 x2 : Int) (σ : zM) : Option zO :=
  zgd (zis σ 10 x0) <|
  zcv (f_X9_measure x0 x1 x2 σ) fun σ1 =>
  zgd (zis σ1 10 x0) <|
  zci (f_X9_settled x0 x1 x2 σ1) fun v2 σ3 =>
  (zgf σ3 948 x0).bind fun v4 =>
  (zga σ3 101 v4 x1).bind fun v5 =>
  f_X9_nearest_24 x0 x1 x2 v2 0 v5 σ3
theorem c_X9_nearest {g : zG} {lv : Nat} {x0 x1 x2 : Int} {σ : zM} {out : zO} (h : f_X9_nearest x0 x1 x2 σ = some out) : Cj g (lv + 3) MX9_nearest [zr x0, zi x1, zi x2] σ out := by
  refine cj_go (ls := [(0, zr x0), (1, zi x1), (2, zi x2)]) (by decide) (Nat.le_of_ble_eq_true rfl) rfl (zgen h (fun r hk => ?_))
  unfold f_X9_nearest
  refine zst_ (gj_aload_n 0 (pc := 0) dX9_nearest_0 rfl) ?_
  refine zst_ (gj_iload_n 1 (pc := 1) dX9_nearest_1 rfl) ?_
  refine zst_ (gj_iload_n 2 (pc := 2) dX9_nearest_2 rfl) ?_
  refine gb_gd (fun hb => ?_)
  refine gb_callV (pc := 3) (as := [zr x0, zi x1, zi x2]) (rest := []) (zCl.of (zLk_V (M := MX9_nearest) (ci := 9) (r := (RX9, TX9, 84)) plX9_measure.1 rfl rfl (zisE hb).1 (zisE hb).2 dX9_nearest_3 q2347 q2349 qs89 q2350) plX9_measure (Nat.le_of_ble_eq_true rfl) (fun h => c_X9_measure h)) (fun σ1 => ?_)
  refine zst_ (gj_aload_n 0 (pc := 6) dX9_nearest_6 rfl) ?_
  refine zst_ (gj_iload_n 1 (pc := 7) dX9_nearest_7 rfl) ?_
  refine zst_ (gj_iload_n 2 (pc := 8) dX9_nearest_8 rfl) ?_
  refine gb_gd (fun hb => ?_)
  refine gb_callI (pc := 9) (as := [zr x0, zi x1, zi x2]) (rest := []) (zCl.of (zLk_V (M := MX9_nearest) (ci := 9) (r := (RX9, TX9, 84)) plX9_settled.1 rfl rfl (zisE hb).1 (zisE hb).2 dX9_nearest_9 q2351 q2353 qs90 q2354) plX9_settled (Nat.le_of_ble_eq_true rfl) (fun h => c_X9_settled h)) (fun v2 σ3 => ?_)
  refine zst_ (gj_istore_n (pc := 12) (ls' := [(3, zi v2), (0, zr x0), (1, zi x1), (2, zi x2)]) dX9_nearest_12 (by decide) rfl) ?_
  refine zst_ (gj_iconst (pc := 13) dX9_nearest_13 (by decide)) ?_
  refine zst_ (gj_istore (pc := 14) (ls' := [(4, zi 0), (3, zi v2), (0, zr x0), (1, zi x1), (2, zi x2)]) dX9_nearest_14 (by decide) rfl) ?_
  refine zst_ (gj_aload_n 2 (pc := 16) dX9_nearest_16 rfl) ?_
  refine gb_get (pc := 17) fl948 dX9_nearest_17 q1930 (Or.inl rfl) (fun v4 => ?_)
  refine zst_ (gj_iload_n 3 (pc := 20) dX9_nearest_20 rfl) ?_
  refine gb_iald (pc := 21) dX9_nearest_21 (fun v5 => ?_)
  refine zst_ (gj_istore (pc := 22) (ls' := [(5, zi v5), (4, zi 0), (3, zi v2), (0, zr x0), (1, zi x1), (2, zi x2)]) dX9_nearest_22 (by decide) rfl) ?_
  refine zst_ (gj_sub [3, 4, 5, 2, 1, 0] rfl) ?_
  exact fun h => w_X9_nearest_24 x0 x1 x2 v2 0 v5 σ3 h hk
theorem q2370 : (Jvm.Cond.code ({ cls := "LassoFinderModel", name := "spread", desc := "(I)Z" } : Jvm.MethodName) prog_22_method_60_code (7 : Nat) (Option.some Jvm.ClassFile.FieldType.boolean)) ∈ lw_all := lw_g (lw_at lw_m10 110 rfl) rfl
abbrev cX9_spread : ByteArray := prog_22_method_60_code
def yX9_spread : MethodName := ⟨RX9, "spread", "(I)Z"⟩
theorem dX9_spread_0 : decode cX9_spread 0 = .ok (.iconst 0, 1) := by decide +kernel
theorem dX9_spread_1 : decode cX9_spread 1 = .ok (.istore_n 2, 1) := by decide +kernel
theorem dX9_spread_2 : decode cX9_spread 2 = .ok (.iconst 0, 1) := by decide +kernel
theorem dX9_spread_3 : decode cX9_spread 3 = .ok (.istore_n 3, 1) := by decide +kernel
theorem dX9_spread_4 : decode cX9_spread 4 = .ok (.iload_n 3, 1) := by decide +kernel
theorem dX9_spread_5 : decode cX9_spread 5 = .ok (.bipush 8, 2) := by decide +kernel
theorem dX9_spread_7 : decode cX9_spread 7 = .ok (.aload_n 0, 1) := by decide +kernel
theorem dX9_spread_8 : decode cX9_spread 8 = .ok (.getfield 345, 3) := by decide +kernel
theorem dX9_spread_11 : decode cX9_spread 11 = .ok (.imul, 1) := by decide +kernel
theorem dX9_spread_12 : decode cX9_spread 12 = .ok (.if_icmp .ge 129, 3) := by decide +kernel
theorem dX9_spread_15 : decode cX9_spread 15 = .ok (.aload_n 0, 1) := by decide +kernel
theorem dX9_spread_16 : decode cX9_spread 16 = .ok (.getfield 169, 3) := by decide +kernel
theorem dX9_spread_19 : decode cX9_spread 19 = .ok (.iload_n 3, 1) := by decide +kernel
theorem dX9_spread_20 : decode cX9_spread 20 = .ok (.iaload, 1) := by decide +kernel
theorem dX9_spread_21 : decode cX9_spread 21 = .ok (.iload_n 1, 1) := by decide +kernel
theorem dX9_spread_22 : decode cX9_spread 22 = .ok (.if_icmp .eq 6, 3) := by decide +kernel
theorem dX9_spread_25 : decode cX9_spread 25 = .ok (.goto 110, 3) := by decide +kernel
theorem dX9_spread_28 : decode cX9_spread 28 = .ok (.aload_n 0, 1) := by decide +kernel
theorem dX9_spread_29 : decode cX9_spread 29 = .ok (.getfield 109, 3) := by decide +kernel
theorem dX9_spread_32 : decode cX9_spread 32 = .ok (.iload_n 3, 1) := by decide +kernel
theorem dX9_spread_33 : decode cX9_spread 33 = .ok (.iconst 3, 1) := by decide +kernel
theorem dX9_spread_34 : decode cX9_spread 34 = .ok (.ishr, 1) := by decide +kernel
theorem dX9_spread_35 : decode cX9_spread 35 = .ok (.iaload, 1) := by decide +kernel
theorem dX9_spread_36 : decode cX9_spread 36 = .ok (.istore 4, 2) := by decide +kernel
theorem dX9_spread_38 : decode cX9_spread 38 = .ok (.iload 4, 2) := by decide +kernel
theorem dX9_spread_40 : decode cX9_spread 40 = .ok (.aload_n 0, 1) := by decide +kernel
theorem dX9_spread_41 : decode cX9_spread 41 = .ok (.getfield 109, 3) := by decide +kernel
theorem dX9_spread_44 : decode cX9_spread 44 = .ok (.iload_n 3, 1) := by decide +kernel
theorem dX9_spread_45 : decode cX9_spread 45 = .ok (.iconst 3, 1) := by decide +kernel
theorem dX9_spread_46 : decode cX9_spread 46 = .ok (.ishr, 1) := by decide +kernel
theorem dX9_spread_47 : decode cX9_spread 47 = .ok (.iconst 1, 1) := by decide +kernel
theorem dX9_spread_48 : decode cX9_spread 48 = .ok (.iadd, 1) := by decide +kernel
theorem dX9_spread_49 : decode cX9_spread 49 = .ok (.iaload, 1) := by decide +kernel
theorem dX9_spread_50 : decode cX9_spread 50 = .ok (.if_icmp .ge 85, 3) := by decide +kernel
theorem dX9_spread_53 : decode cX9_spread 53 = .ok (.iconst 0, 1) := by decide +kernel
theorem dX9_spread_54 : decode cX9_spread 54 = .ok (.istore 5, 2) := by decide +kernel
theorem dX9_spread_56 : decode cX9_spread 56 = .ok (.iload 5, 2) := by decide +kernel
theorem dX9_spread_58 : decode cX9_spread 58 = .ok (.iconst 1, 1) := by decide +kernel
theorem dX9_spread_59 : decode cX9_spread 59 = .ok (.aload_n 0, 1) := by decide +kernel
theorem dX9_spread_60 : decode cX9_spread 60 = .ok (.getfield 376, 3) := by decide +kernel
theorem dX9_spread_63 : decode cX9_spread 63 = .ok (.ishl, 1) := by decide +kernel
theorem dX9_spread_64 : decode cX9_spread 64 = .ok (.if_icmp .ge 65, 3) := by decide +kernel
theorem dX9_spread_67 : decode cX9_spread 67 = .ok (.bipush 8, 2) := by decide +kernel
theorem dX9_spread_69 : decode cX9_spread 69 = .ok (.aload_n 0, 1) := by decide +kernel
theorem dX9_spread_70 : decode cX9_spread 70 = .ok (.getfield 112, 3) := by decide +kernel
theorem dX9_spread_73 : decode cX9_spread 73 = .ok (.iload 4, 2) := by decide +kernel
theorem dX9_spread_75 : decode cX9_spread 75 = .ok (.iaload, 1) := by decide +kernel
theorem dX9_spread_76 : decode cX9_spread 76 = .ok (.imul, 1) := by decide +kernel
theorem dX9_spread_77 : decode cX9_spread 77 = .ok (.iload 5, 2) := by decide +kernel
theorem dX9_spread_79 : decode cX9_spread 79 = .ok (.iadd, 1) := by decide +kernel
theorem dX9_spread_80 : decode cX9_spread 80 = .ok (.istore 6, 2) := by decide +kernel
theorem dX9_spread_82 : decode cX9_spread 82 = .ok (.aload_n 0, 1) := by decide +kernel
theorem dX9_spread_83 : decode cX9_spread 83 = .ok (.getfield 169, 3) := by decide +kernel
theorem dX9_spread_86 : decode cX9_spread 86 = .ok (.iload 6, 2) := by decide +kernel
theorem dX9_spread_88 : decode cX9_spread 88 = .ok (.iaload, 1) := by decide +kernel
theorem dX9_spread_89 : decode cX9_spread 89 = .ok (.ifCond .ge 34, 3) := by decide +kernel
theorem dX9_spread_92 : decode cX9_spread 92 = .ok (.aload_n 0, 1) := by decide +kernel
theorem dX9_spread_93 : decode cX9_spread 93 = .ok (.iload_n 3, 1) := by decide +kernel
theorem dX9_spread_94 : decode cX9_spread 94 = .ok (.iconst 3, 1) := by decide +kernel
theorem dX9_spread_95 : decode cX9_spread 95 = .ok (.ishr, 1) := by decide +kernel
theorem dX9_spread_96 : decode cX9_spread 96 = .ok (.iload 5, 2) := by decide +kernel
theorem dX9_spread_98 : decode cX9_spread 98 = .ok (.invokevirtual 422, 3) := by decide +kernel
theorem dX9_spread_101 : decode cX9_spread 101 = .ok (.iload_n 3, 1) := by decide +kernel
theorem dX9_spread_102 : decode cX9_spread 102 = .ok (.bipush 7, 2) := by decide +kernel
theorem dX9_spread_104 : decode cX9_spread 104 = .ok (.iand, 1) := by decide +kernel
theorem dX9_spread_105 : decode cX9_spread 105 = .ok (.if_icmp .eq 6, 3) := by decide +kernel
theorem dX9_spread_108 : decode cX9_spread 108 = .ok (.goto 15, 3) := by decide +kernel
theorem dX9_spread_111 : decode cX9_spread 111 = .ok (.aload_n 0, 1) := by decide +kernel
theorem dX9_spread_112 : decode cX9_spread 112 = .ok (.getfield 169, 3) := by decide +kernel
theorem dX9_spread_115 : decode cX9_spread 115 = .ok (.iload 6, 2) := by decide +kernel
theorem dX9_spread_117 : decode cX9_spread 117 = .ok (.iload_n 1, 1) := by decide +kernel
theorem dX9_spread_118 : decode cX9_spread 118 = .ok (.iconst 1, 1) := by decide +kernel
theorem dX9_spread_119 : decode cX9_spread 119 = .ok (.iadd, 1) := by decide +kernel
theorem dX9_spread_120 : decode cX9_spread 120 = .ok (.iastore, 1) := by decide +kernel
theorem dX9_spread_121 : decode cX9_spread 121 = .ok (.iconst 1, 1) := by decide +kernel
theorem dX9_spread_122 : decode cX9_spread 122 = .ok (.istore_n 2, 1) := by decide +kernel
theorem dX9_spread_123 : decode cX9_spread 123 = .ok (.iinc 5 1, 3) := by decide +kernel
theorem dX9_spread_126 : decode cX9_spread 126 = .ok (.goto (-70), 3) := by decide +kernel
theorem dX9_spread_129 : decode cX9_spread 129 = .ok (.iinc 4 1, 3) := by decide +kernel
theorem dX9_spread_132 : decode cX9_spread 132 = .ok (.goto (-94), 3) := by decide +kernel
theorem dX9_spread_135 : decode cX9_spread 135 = .ok (.iinc 3 1, 3) := by decide +kernel
theorem dX9_spread_138 : decode cX9_spread 138 = .ok (.goto (-134), 3) := by decide +kernel
theorem dX9_spread_141 : decode cX9_spread 141 = .ok (.iload_n 2, 1) := by decide +kernel
theorem dX9_spread_142 : decode cX9_spread 142 = .ok (.ireturn, 1) := by decide +kernel
abbrev MX9_spread : zT := (yX9_spread, cX9_spread, 7, (Option.some Jvm.ClassFile.FieldType.boolean), [])
theorem plX9_spread : zplain MX9_spread 1 ∧ (zcodeW MX9_spread ∈ lw_all ∧ Cond.initialized MX9_spread.1.cls ∈ lw_all) := ⟨⟨by decide +kernel, by decide +kernel⟩, q2370, q127⟩
noncomputable def f_X9_spread_141 (x2 : Int) (σ : zM) : Option zO :=
  zgd (z01 x2) <|
  some (0, zi x2, σ)
theorem w_X9_spread_141 {g : zG} {lv : Nat} {out : zO} (x2 : Int) (σ : zM) {r : zO} (h : f_X9_spread_141 x2 σ = some r) (hk : (fun o : zO => o = out) r) : Gj g MX9_spread (lv + 2) 141 [(2, zi x2)] [] σ out := by
  revert h
  unfold f_X9_spread_141
  refine zst_ (gj_iload_n 0 (pc := 141) dX9_spread_141 rfl) ?_
  refine gb_gd (fun hb => ?_)
  intro h
  cases h
  have hk : (0, zi x2, σ) = out := hk
  subst hk
  exact gj_ret (pc := 142) (t := .boolean) dX9_spread_142 rfl ⟨rfl, rfl⟩ (fun _ => z01E hb)
noncomputable def f_X9_spread_135 (x0 x1 x2 x3 : Int) (σ : zM) : Option ((Int × Int × zM) ⊕ zO) :=
  zlet (zadd x3 1) fun y1 =>
  some (.inl (x2, y1, σ))
theorem w_X9_spread_135 {g : zG} {lv : Nat} {out : zO} (x0 x1 x2 x3 : Int) (σ : zM) {r : ((Int × Int × zM) ⊕ zO)} (h : f_X9_spread_135 x0 x1 x2 x3 σ = some r) (hk : (zKL (fun s : Int × Int × zM => Gj g MX9_spread (lv + 2) 4 [(0, zr x0), (1, zi x1), (2, zi s.1), (3, zi s.2.1)] [] s.2.2 out) (fun o : zO => o = out)) r) : Gj g MX9_spread (lv + 2) 135 [(0, zr x0), (1, zi x1), (2, zi x2), (3, zi x3)] [] σ out := by
  revert h
  unfold f_X9_spread_135
  refine gb_iinc (pc := 135) 3 (fun y1 => [(3, zi y1), (0, zr x0), (1, zi x1), (2, zi x2)]) dX9_spread_135 rfl (by decide) (fun _ => rfl) (fun y1 => ?_)
  refine zst_ (gj_goto 4 (pc := 138) dX9_spread_138 (by decide)) ?_
  refine zst_ (gj_sub [1, 2, 3, 0] rfl) ?_
  intro h
  cases h
  exact hk
noncomputable def f_X9_spread_129 (x0 x1 x2 x3 x4 : Int) (σ : zM) : Option ((Int × Int × zM) ⊕ ((Int × Int × zM) ⊕ zO)) :=
  zlet (zadd x4 1) fun y1 =>
  some (.inl (x2, y1, σ))
theorem w_X9_spread_129 {g : zG} {lv : Nat} {out : zO} (x0 x1 x2 x3 x4 : Int) (σ : zM) {r : ((Int × Int × zM) ⊕ ((Int × Int × zM) ⊕ zO))} (h : f_X9_spread_129 x0 x1 x2 x3 x4 σ = some r) (hk : (zKL (fun s : Int × Int × zM => Gj g MX9_spread (lv + 2) 38 [(0, zr x0), (1, zi x1), (2, zi s.1), (3, zi x3), (4, zi s.2.1)] [] s.2.2 out) (zKL (fun s : Int × Int × zM => Gj g MX9_spread (lv + 2) 4 [(0, zr x0), (1, zi x1), (2, zi s.1), (3, zi s.2.1)] [] s.2.2 out) (fun o : zO => o = out))) r) : Gj g MX9_spread (lv + 2) 129 [(0, zr x0), (1, zi x1), (2, zi x2), (3, zi x3), (4, zi x4)] [] σ out := by
  revert h
  unfold f_X9_spread_129
  refine gb_iinc (pc := 129) 4 (fun y1 => [(4, zi y1), (0, zr x0), (1, zi x1), (2, zi x2), (3, zi x3)]) dX9_spread_129 rfl (by decide) (fun _ => rfl) (fun y1 => ?_)
  refine zst_ (gj_goto 38 (pc := 132) dX9_spread_132 (by decide)) ?_
  refine zst_ (gj_sub [1, 2, 3, 4, 0] rfl) ?_
  intro h
  cases h
  exact hk
noncomputable def f_X9_spread_123 (x0 x1 x2 x3 x4 x5 : Int) (σ : zM) : Option ((Int × Int × zM) ⊕ ((Int × Int × zM) ⊕ ((Int × Int × zM) ⊕ zO))) :=
  zlet (zadd x5 1) fun y1 =>
  some (.inl (x2, y1, σ))
theorem w_X9_spread_123 {g : zG} {lv : Nat} {out : zO} (x0 x1 x2 x3 x4 x5 : Int) (σ : zM) {r : ((Int × Int × zM) ⊕ ((Int × Int × zM) ⊕ ((Int × Int × zM) ⊕ zO)))} (h : f_X9_spread_123 x0 x1 x2 x3 x4 x5 σ = some r) (hk : (zKL (fun s : Int × Int × zM => Gj g MX9_spread (lv + 2) 56 [(0, zr x0), (1, zi x1), (2, zi s.1), (3, zi x3), (4, zi x4), (5, zi s.2.1)] [] s.2.2 out) (zKL (fun s : Int × Int × zM => Gj g MX9_spread (lv + 2) 38 [(0, zr x0), (1, zi x1), (2, zi s.1), (3, zi x3), (4, zi s.2.1)] [] s.2.2 out) (zKL (fun s : Int × Int × zM => Gj g MX9_spread (lv + 2) 4 [(0, zr x0), (1, zi x1), (2, zi s.1), (3, zi s.2.1)] [] s.2.2 out) (fun o : zO => o = out)))) r) : Gj g MX9_spread (lv + 2) 123 [(0, zr x0), (1, zi x1), (2, zi x2), (3, zi x3), (4, zi x4), (5, zi x5)] [] σ out := by
  revert h
  unfold f_X9_spread_123
  refine gb_iinc (pc := 123) 5 (fun y1 => [(5, zi y1), (0, zr x0), (1, zi x1), (2, zi x2), (3, zi x3), (4, zi x4)]) dX9_spread_123 rfl (by decide) (fun _ => rfl) (fun y1 => ?_)
  refine zst_ (gj_goto 56 (pc := 126) dX9_spread_126 (by decide)) ?_
  refine zst_ (gj_sub [1, 2, 3, 4, 5, 0] rfl) ?_
  intro h
  cases h
  exact hk
noncomputable def f_X9_spread_56_b (x0 x1 x2 x3 x4 x5 : Int) (σ : zM) : Option ((Int × Int × zM) ⊕ ((Int × Int × zM) ⊕ ((Int × Int × zM) ⊕ zO))) :=
  (zgf σ 964 x0).bind fun v1 =>
  if (zshl 1 v1) ≤ x5 then
    (f_X9_spread_129 x0 x1 x2 x3 x4 σ).map (fun r => (.inr r))
  else
    (zgf σ 949 x0).bind fun v2 =>
    (zga σ 101 v2 x4).bind fun v3 =>
    zlet ((zadd (zmul 8 v3) x5)) fun y4 =>
    (zgf σ 975 x0).bind fun v5 =>
    (zga σ 101 v5 y4).bind fun v6 =>
    if 0 ≤ v6 then
      f_X9_spread_123 x0 x1 x2 x3 x4 x5 σ
    else
      zgd (zis σ 10 x0) <|
      zci (f_X9_truthAt x0 (zshr x3 3) x5 σ) fun v7 σ8 =>
      if v7 = (zand x3 7) then
        (zgf σ8 975 x0).bind fun v9 =>
        (zpa σ8 101 v9 y4 (zadd x1 1)).bind fun σ10 =>
        f_X9_spread_123 x0 x1 1 x3 x4 x5 σ10
      else
        f_X9_spread_123 x0 x1 x2 x3 x4 x5 σ8
noncomputable def f_X9_spread_56 (x0 x1 x2 x3 x4 x5 : Int) (σ : zM) : Option ((Int × Int × zM) ⊕ ((Int × Int × zM) ⊕ zO)) :=
  zloop (fun s : Int × Int × zM => f_X9_spread_56_b x0 x1 s.1 x3 x4 s.2.1 s.2.2) (x2, x5, σ)
theorem w_X9_spread_56_b {g : zG} {lv : Nat} {out : zO} (x0 x1 x2 x3 x4 x5 : Int) (σ : zM) {r : ((Int × Int × zM) ⊕ ((Int × Int × zM) ⊕ ((Int × Int × zM) ⊕ zO)))} (h : f_X9_spread_56_b x0 x1 x2 x3 x4 x5 σ = some r) (hk : (zKL (fun s : Int × Int × zM => Gj g MX9_spread (lv + 2) 56 [(0, zr x0), (1, zi x1), (2, zi s.1), (3, zi x3), (4, zi x4), (5, zi s.2.1)] [] s.2.2 out) (zKL (fun s : Int × Int × zM => Gj g MX9_spread (lv + 2) 38 [(0, zr x0), (1, zi x1), (2, zi s.1), (3, zi x3), (4, zi s.2.1)] [] s.2.2 out) (zKL (fun s : Int × Int × zM => Gj g MX9_spread (lv + 2) 4 [(0, zr x0), (1, zi x1), (2, zi s.1), (3, zi s.2.1)] [] s.2.2 out) (fun o : zO => o = out)))) r) : Gj g MX9_spread (lv + 2) 56 [(0, zr x0), (1, zi x1), (2, zi x2), (3, zi x3), (4, zi x4), (5, zi x5)] [] σ out := by
  revert h
  unfold f_X9_spread_56_b
  refine zst_ (gj_iload 5 (pc := 56) dX9_spread_56 rfl) ?_
  refine zst_ (gj_iconst (pc := 58) dX9_spread_58 (by decide)) ?_
  refine zst_ (gj_aload_n 0 (pc := 59) dX9_spread_59 rfl) ?_
  refine gb_get (pc := 60) fl964 dX9_spread_60 q1946 (Or.inl rfl) (fun v1 => ?_)
  refine zst_ (gj_ishl (pc := 63) dX9_spread_63) ?_
  refine gb_if (gj_icmp_ge 129 (pc := 64) dX9_spread_64 (by decide)) ?_ ?_
  · refine zst_ (gj_sub [0, 1, 2, 3, 4] rfl) ?_
    intro h
    obtain ⟨r0, h0, rfl⟩ := zmE h
    exact w_X9_spread_129 x0 x1 x2 x3 x4 σ h0 hk
  · refine zst_ (gj_bipush (pc := 67) dX9_spread_67 ⟨rfl, by decide⟩) ?_
    refine zst_ (gj_aload_n 0 (pc := 69) dX9_spread_69 rfl) ?_
    refine gb_get (pc := 70) fl949 dX9_spread_70 q1931 (Or.inl rfl) (fun v2 => ?_)
    refine zst_ (gj_iload 4 (pc := 73) dX9_spread_73 rfl) ?_
    refine gb_iald (pc := 75) dX9_spread_75 (fun v3 => ?_)
    refine zst_ (gj_imul (pc := 76) dX9_spread_76) ?_
    refine zst_ (gj_iload 5 (pc := 77) dX9_spread_77 rfl) ?_
    refine zst_ (gj_iadd (pc := 79) dX9_spread_79) ?_
    refine gb_let (fun y4 => ?_)
    refine zst_ (gj_istore (pc := 80) (ls' := [(6, zi y4), (0, zr x0), (1, zi x1), (2, zi x2), (3, zi x3), (4, zi x4), (5, zi x5)]) dX9_spread_80 (by decide) rfl) ?_
    refine zst_ (gj_aload_n 1 (pc := 82) dX9_spread_82 rfl) ?_
    refine gb_get (pc := 83) fl975 dX9_spread_83 q1957 (Or.inl rfl) (fun v5 => ?_)
    refine zst_ (gj_iload 0 (pc := 86) dX9_spread_86 rfl) ?_
    refine gb_iald (pc := 88) dX9_spread_88 (fun v6 => ?_)
    refine gb_if (gj_if_ge 123 (pc := 89) dX9_spread_89 (by decide)) ?_ ?_
    · refine zst_ (gj_sub [1, 2, 3, 4, 5, 6] rfl) ?_
      exact fun h => w_X9_spread_123 x0 x1 x2 x3 x4 x5 σ h hk
    · refine zst_ (gj_aload_n 1 (pc := 92) dX9_spread_92 rfl) ?_
      refine zst_ (gj_iload_n 4 (pc := 93) dX9_spread_93 rfl) ?_
      refine zst_ (gj_iconst (pc := 94) dX9_spread_94 (by decide)) ?_
      refine zst_ (gj_ishr (pc := 95) dX9_spread_95) ?_
      refine zst_ (gj_iload 6 (pc := 96) dX9_spread_96 rfl) ?_
      refine gb_gd (fun hb => ?_)
      refine gb_callI (pc := 98) (as := [zr x0, zi (zshr x3 3), zi x5]) (rest := []) (zCl.of (zLk_V (M := MX9_spread) (ci := 9) (r := (RX9, TX9, 84)) plX9_truthAt.1 rfl rfl (zisE hb).1 (zisE hb).2 dX9_spread_98 q2355 q2357 qs91 q2358) plX9_truthAt (Nat.le_of_ble_eq_true rfl) (fun h => c_X9_truthAt h)) (fun v7 σ8 => ?_)
      refine zst_ (gj_iload_n 4 (pc := 101) dX9_spread_101 rfl) ?_
      refine zst_ (gj_bipush (pc := 102) dX9_spread_102 ⟨rfl, by decide⟩) ?_
      refine zst_ (gj_iand (pc := 104) dX9_spread_104) ?_
      refine gb_if (gj_icmp_eq 111 (pc := 105) dX9_spread_105 (by decide)) ?_ ?_
      · refine zst_ (gj_aload_n 1 (pc := 111) dX9_spread_111 rfl) ?_
        refine gb_get (pc := 112) fl975 dX9_spread_112 q1957 (Or.inl rfl) (fun v9 => ?_)
        refine zst_ (gj_iload 0 (pc := 115) dX9_spread_115 rfl) ?_
        refine zst_ (gj_iload_n 2 (pc := 117) dX9_spread_117 rfl) ?_
        refine zst_ (gj_iconst (pc := 118) dX9_spread_118 (by decide)) ?_
        refine zst_ (gj_iadd (pc := 119) dX9_spread_119) ?_
        refine gb_iast (pc := 120) dX9_spread_120 (fun σ10 => ?_)
        refine zst_ (gj_iconst (pc := 121) dX9_spread_121 (by decide)) ?_
        refine zst_ (gj_istore_n (pc := 122) (ls' := [(2, zi 1), (6, zi y4), (0, zr x0), (1, zi x1), (3, zi x3), (4, zi x4), (5, zi x5)]) dX9_spread_122 (by decide) rfl) ?_
        refine zst_ (gj_sub [2, 3, 0, 4, 5, 6] rfl) ?_
        exact fun h => w_X9_spread_123 x0 x1 1 x3 x4 x5 σ10 h hk
      · refine zst_ (gj_goto 123 (pc := 108) dX9_spread_108 (by decide)) ?_
        refine zst_ (gj_sub [1, 2, 3, 4, 5, 6] rfl) ?_
        exact fun h => w_X9_spread_123 x0 x1 x2 x3 x4 x5 σ8 h hk
theorem w_X9_spread_56 {g : zG} {lv : Nat} {out : zO} (x0 x1 x2 x3 x4 x5 : Int) (σ : zM) {r : ((Int × Int × zM) ⊕ ((Int × Int × zM) ⊕ zO))} (h : f_X9_spread_56 x0 x1 x2 x3 x4 x5 σ = some r) (hk : (zKL (fun s : Int × Int × zM => Gj g MX9_spread (lv + 2) 38 [(0, zr x0), (1, zi x1), (2, zi s.1), (3, zi x3), (4, zi s.2.1)] [] s.2.2 out) (zKL (fun s : Int × Int × zM => Gj g MX9_spread (lv + 2) 4 [(0, zr x0), (1, zi x1), (2, zi s.1), (3, zi s.2.1)] [] s.2.2 out) (fun o : zO => o = out))) r) : Gj g MX9_spread (lv + 2) 56 [(0, zr x0), (1, zi x1), (2, zi x2), (3, zi x3), (4, zi x4), (5, zi x5)] [] σ out :=
  gj_loop (P := (fun s : Int × Int × zM => Gj g MX9_spread (lv + 2) 56 [(0, zr x0), (1, zi x1), (2, zi s.1), (3, zi x3), (4, zi x4), (5, zi s.2.1)] [] s.2.2 out)) (fun s x hb hx => w_X9_spread_56_b x0 x1 s.1 x3 x4 s.2.1 s.2.2 hb hx) h hk
noncomputable def f_X9_spread_38_b (x0 x1 x2 x3 x4 : Int) (σ : zM) : Option ((Int × Int × zM) ⊕ ((Int × Int × zM) ⊕ zO)) :=
  (zgf σ 948 x0).bind fun v1 =>
  (zga σ 101 v1 (zadd (zshr x3 3) 1)).bind fun v2 =>
  if v2 ≤ x4 then
    (f_X9_spread_135 x0 x1 x2 x3 σ).map (fun r => (.inr r))
  else
    f_X9_spread_56 x0 x1 x2 x3 x4 0 σ
noncomputable def f_X9_spread_38 (x0 x1 x2 x3 x4 : Int) (σ : zM) : Option ((Int × Int × zM) ⊕ zO) :=
  zloop (fun s : Int × Int × zM => f_X9_spread_38_b x0 x1 s.1 x3 s.2.1 s.2.2) (x2, x4, σ)
theorem w_X9_spread_38_b {g : zG} {lv : Nat} {out : zO} (x0 x1 x2 x3 x4 : Int) (σ : zM) {r : ((Int × Int × zM) ⊕ ((Int × Int × zM) ⊕ zO))} (h : f_X9_spread_38_b x0 x1 x2 x3 x4 σ = some r) (hk : (zKL (fun s : Int × Int × zM => Gj g MX9_spread (lv + 2) 38 [(0, zr x0), (1, zi x1), (2, zi s.1), (3, zi x3), (4, zi s.2.1)] [] s.2.2 out) (zKL (fun s : Int × Int × zM => Gj g MX9_spread (lv + 2) 4 [(0, zr x0), (1, zi x1), (2, zi s.1), (3, zi s.2.1)] [] s.2.2 out) (fun o : zO => o = out))) r) : Gj g MX9_spread (lv + 2) 38 [(0, zr x0), (1, zi x1), (2, zi x2), (3, zi x3), (4, zi x4)] [] σ out := by
  revert h
  unfold f_X9_spread_38_b
  refine zst_ (gj_iload 4 (pc := 38) dX9_spread_38 rfl) ?_
  refine zst_ (gj_aload_n 0 (pc := 40) dX9_spread_40 rfl) ?_
  refine gb_get (pc := 41) fl948 dX9_spread_41 q1930 (Or.inl rfl) (fun v1 => ?_)
  refine zst_ (gj_iload_n 3 (pc := 44) dX9_spread_44 rfl) ?_
  refine zst_ (gj_iconst (pc := 45) dX9_spread_45 (by decide)) ?_
  refine zst_ (gj_ishr (pc := 46) dX9_spread_46) ?_
  refine zst_ (gj_iconst (pc := 47) dX9_spread_47 (by decide)) ?_
  refine zst_ (gj_iadd (pc := 48) dX9_spread_48) ?_
  refine gb_iald (pc := 49) dX9_spread_49 (fun v2 => ?_)
  refine gb_if (gj_icmp_ge 135 (pc := 50) dX9_spread_50 (by decide)) ?_ ?_
  · refine zst_ (gj_sub [0, 1, 2, 3] rfl) ?_
    intro h
    obtain ⟨r0, h0, rfl⟩ := zmE h
    exact w_X9_spread_135 x0 x1 x2 x3 σ h0 hk
  · refine zst_ (gj_iconst (pc := 53) dX9_spread_53 (by decide)) ?_
    refine zst_ (gj_istore (pc := 54) (ls' := [(5, zi 0), (0, zr x0), (1, zi x1), (2, zi x2), (3, zi x3), (4, zi x4)]) dX9_spread_54 (by decide) rfl) ?_
    refine zst_ (gj_sub [1, 2, 3, 4, 5, 0] rfl) ?_
    exact fun h => w_X9_spread_56 x0 x1 x2 x3 x4 0 σ h hk
theorem w_X9_spread_38 {g : zG} {lv : Nat} {out : zO} (x0 x1 x2 x3 x4 : Int) (σ : zM) {r : ((Int × Int × zM) ⊕ zO)} (h : f_X9_spread_38 x0 x1 x2 x3 x4 σ = some r) (hk : (zKL (fun s : Int × Int × zM => Gj g MX9_spread (lv + 2) 4 [(0, zr x0), (1, zi x1), (2, zi s.1), (3, zi s.2.1)] [] s.2.2 out) (fun o : zO => o = out)) r) : Gj g MX9_spread (lv + 2) 38 [(0, zr x0), (1, zi x1), (2, zi x2), (3, zi x3), (4, zi x4)] [] σ out :=
  gj_loop (P := (fun s : Int × Int × zM => Gj g MX9_spread (lv + 2) 38 [(0, zr x0), (1, zi x1), (2, zi s.1), (3, zi x3), (4, zi s.2.1)] [] s.2.2 out)) (fun s x hb hx => w_X9_spread_38_b x0 x1 s.1 x3 s.2.1 s.2.2 hb hx) h hk
noncomputable def f_X9_spread_4_b (x0 x1 x2 x3 : Int) (σ : zM) : Option ((Int × Int × zM) ⊕ zO) :=
  (zgf σ 944 x0).bind fun v1 =>
  if (zmul 8 v1) ≤ x3 then
    (f_X9_spread_141 x2 σ).map (fun r => (.inr r))
  else
    (zgf σ 975 x0).bind fun v2 =>
    (zga σ 101 v2 x3).bind fun v3 =>
    if v3 = x1 then
      (zgf σ 948 x0).bind fun v4 =>
      (zga σ 101 v4 (zshr x3 3)).bind fun v5 =>
      f_X9_spread_38 x0 x1 x2 x3 v5 σ
    else
      f_X9_spread_135 x0 x1 x2 x3 σ
noncomputable def f_X9_spread_4 (x0 x1 x2 x3 : Int) (σ : zM) : Option zO :=
  zloop (fun s : Int × Int × zM => f_X9_spread_4_b x0 x1 s.1 s.2.1 s.2.2) (x2, x3, σ)
theorem w_X9_spread_4_b {g : zG} {lv : Nat} {out : zO} (x0 x1 x2 x3 : Int) (σ : zM) {r : ((Int × Int × zM) ⊕ zO)} (h : f_X9_spread_4_b x0 x1 x2 x3 σ = some r) (hk : (zKL (fun s : Int × Int × zM => Gj g MX9_spread (lv + 2) 4 [(0, zr x0), (1, zi x1), (2, zi s.1), (3, zi s.2.1)] [] s.2.2 out) (fun o : zO => o = out)) r) : Gj g MX9_spread (lv + 2) 4 [(0, zr x0), (1, zi x1), (2, zi x2), (3, zi x3)] [] σ out := by
  revert h
  unfold f_X9_spread_4_b
  refine zst_ (gj_iload_n 3 (pc := 4) dX9_spread_4 rfl) ?_
  refine zst_ (gj_bipush (pc := 5) dX9_spread_5 ⟨rfl, by decide⟩) ?_
  refine zst_ (gj_aload_n 0 (pc := 7) dX9_spread_7 rfl) ?_
  refine gb_get (pc := 8) fl944 dX9_spread_8 q1926 (Or.inl rfl) (fun v1 => ?_)
  refine zst_ (gj_imul (pc := 11) dX9_spread_11) ?_
  refine gb_if (gj_icmp_ge 141 (pc := 12) dX9_spread_12 (by decide)) ?_ ?_
  · refine zst_ (gj_sub [2] rfl) ?_
    intro h
    obtain ⟨r0, h0, rfl⟩ := zmE h
    exact w_X9_spread_141 x2 σ h0 hk
  · refine zst_ (gj_aload_n 0 (pc := 15) dX9_spread_15 rfl) ?_
    refine gb_get (pc := 16) fl975 dX9_spread_16 q1957 (Or.inl rfl) (fun v2 => ?_)
    refine zst_ (gj_iload_n 3 (pc := 19) dX9_spread_19 rfl) ?_
    refine gb_iald (pc := 20) dX9_spread_20 (fun v3 => ?_)
    refine zst_ (gj_iload_n 1 (pc := 21) dX9_spread_21 rfl) ?_
    refine gb_if (gj_icmp_eq 28 (pc := 22) dX9_spread_22 (by decide)) ?_ ?_
    · refine zst_ (gj_aload_n 0 (pc := 28) dX9_spread_28 rfl) ?_
      refine gb_get (pc := 29) fl948 dX9_spread_29 q1930 (Or.inl rfl) (fun v4 => ?_)
      refine zst_ (gj_iload_n 3 (pc := 32) dX9_spread_32 rfl) ?_
      refine zst_ (gj_iconst (pc := 33) dX9_spread_33 (by decide)) ?_
      refine zst_ (gj_ishr (pc := 34) dX9_spread_34) ?_
      refine gb_iald (pc := 35) dX9_spread_35 (fun v5 => ?_)
      refine zst_ (gj_istore (pc := 36) (ls' := [(4, zi v5), (0, zr x0), (1, zi x1), (2, zi x2), (3, zi x3)]) dX9_spread_36 (by decide) rfl) ?_
      refine zst_ (gj_sub [1, 2, 3, 4, 0] rfl) ?_
      exact fun h => w_X9_spread_38 x0 x1 x2 x3 v5 σ h hk
    · refine zst_ (gj_goto 135 (pc := 25) dX9_spread_25 (by decide)) ?_
      exact fun h => w_X9_spread_135 x0 x1 x2 x3 σ h hk
theorem w_X9_spread_4 {g : zG} {lv : Nat} {out : zO} (x0 x1 x2 x3 : Int) (σ : zM) {r : zO} (h : f_X9_spread_4 x0 x1 x2 x3 σ = some r) (hk : (fun o : zO => o = out) r) : Gj g MX9_spread (lv + 2) 4 [(0, zr x0), (1, zi x1), (2, zi x2), (3, zi x3)] [] σ out :=
  gj_loop (P := (fun s : Int × Int × zM => Gj g MX9_spread (lv + 2) 4 [(0, zr x0), (1, zi x1), (2, zi s.1), (3, zi s.2.1)] [] s.2.2 out)) (fun s x hb hx => w_X9_spread_4_b x0 x1 s.1 s.2.1 s.2.2 hb hx) h hk
noncomputable def f_X9_spread (x0 x1 : Int) (σ : zM) : Option zO :=
  f_X9_spread_4 x0 x1 0 0 σ
theorem c_X9_spread {g : zG} {lv : Nat} {x0 x1 : Int} {σ : zM} {out : zO} (h : f_X9_spread x0 x1 σ = some out) : Cj g (lv + 2) MX9_spread [zr x0, zi x1] σ out := by
  refine cj_go (ls := [(0, zr x0), (1, zi x1)]) (by decide) (Nat.le_of_ble_eq_true rfl) rfl (zgen h (fun r hk => ?_))
  unfold f_X9_spread
  refine zst_ (gj_iconst (pc := 0) dX9_spread_0 (by decide)) ?_
  refine zst_ (gj_istore_n (pc := 1) (ls' := [(2, zi 0), (0, zr x0), (1, zi x1)]) dX9_spread_1 (by decide) rfl) ?_
  refine zst_ (gj_iconst (pc := 2) dX9_spread_2 (by decide)) ?_
  refine zst_ (gj_istore_n (pc := 3) (ls' := [(3, zi 0), (2, zi 0), (0, zr x0), (1, zi x1)]) dX9_spread_3 (by decide) rfl) ?_
  refine zst_ (gj_sub [2, 3, 1, 0] rfl) ?_
  exact fun h => w_X9_spread_4 x0 x1 0 0 σ h hk
theorem q2338 : (Jvm.Cond.code ({ cls := "LassoFinderModel", name := "shortest", desc := "()I" } : Jvm.MethodName) prog_22_method_61_code (8 : Nat) (Option.some Jvm.ClassFile.FieldType.int)) ∈ lw_all := lw_g (lw_at lw_m10 78 rfl) rfl
theorem q2339 : (Jvm.Cond.methodLink "LassoFinderModel" (431 : Nat) ({ cls := "LassoFinderModel", name := "isTrue", desc := "(II)Z" } : Jvm.MethodName)) ∈ lw_all := lw_g (lw_at lw_m10 79 rfl) rfl
theorem q2341 : (Jvm.Cond.instanceMethod ({ cls := "LassoFinderModel", name := "isTrue", desc := "(II)Z" } : Jvm.MethodName)) ∈ lw_all := lw_g (lw_at lw_m10 81 rfl) rfl
theorem q2343 : (Jvm.Cond.methodLink "LassoFinderModel" (434 : Nat) ({ cls := "LassoFinderModel", name := "nearest", desc := "(II)I" } : Jvm.MethodName)) ∈ lw_all := lw_g (lw_at lw_m10 83 rfl) rfl
theorem q2345 : (Jvm.Cond.instanceMethod ({ cls := "LassoFinderModel", name := "nearest", desc := "(II)I" } : Jvm.MethodName)) ∈ lw_all := lw_g (lw_at lw_m10 85 rfl) rfl
theorem q2367 : (Jvm.Cond.methodLink "LassoFinderModel" (437 : Nat) ({ cls := "LassoFinderModel", name := "spread", desc := "(I)Z" } : Jvm.MethodName)) ∈ lw_all := lw_g (lw_at lw_m10 107 rfl) rfl
theorem q2369 : (Jvm.Cond.instanceMethod ({ cls := "LassoFinderModel", name := "spread", desc := "(I)Z" } : Jvm.MethodName)) ∈ lw_all := lw_g (lw_at lw_m10 109 rfl) rfl
abbrev cX9_shortest : ByteArray := prog_22_method_61_code
def yX9_shortest : MethodName := ⟨RX9, "shortest", "()I"⟩
theorem dX9_shortest_0 : decode cX9_shortest 0 = .ok (.iconst 0, 1) := by decide +kernel
theorem dX9_shortest_1 : decode cX9_shortest 1 = .ok (.istore_n 1, 1) := by decide +kernel
theorem dX9_shortest_2 : decode cX9_shortest 2 = .ok (.iload_n 1, 1) := by decide +kernel
theorem dX9_shortest_3 : decode cX9_shortest 3 = .ok (.bipush 8, 2) := by decide +kernel
theorem dX9_shortest_5 : decode cX9_shortest 5 = .ok (.aload_n 0, 1) := by decide +kernel
theorem dX9_shortest_6 : decode cX9_shortest 6 = .ok (.getfield 345, 3) := by decide +kernel
theorem dX9_shortest_9 : decode cX9_shortest 9 = .ok (.imul, 1) := by decide +kernel
theorem dX9_shortest_10 : decode cX9_shortest 10 = .ok (.if_icmp .ge 46, 3) := by decide +kernel
theorem dX9_shortest_13 : decode cX9_shortest 13 = .ok (.aload_n 0, 1) := by decide +kernel
theorem dX9_shortest_14 : decode cX9_shortest 14 = .ok (.getfield 169, 3) := by decide +kernel
theorem dX9_shortest_17 : decode cX9_shortest 17 = .ok (.iload_n 1, 1) := by decide +kernel
theorem dX9_shortest_18 : decode cX9_shortest 18 = .ok (.iload_n 1, 1) := by decide +kernel
theorem dX9_shortest_19 : decode cX9_shortest 19 = .ok (.iconst 1, 1) := by decide +kernel
theorem dX9_shortest_20 : decode cX9_shortest 20 = .ok (.aload_n 0, 1) := by decide +kernel
theorem dX9_shortest_21 : decode cX9_shortest 21 = .ok (.getfield 376, 3) := by decide +kernel
theorem dX9_shortest_24 : decode cX9_shortest 24 = .ok (.ishl, 1) := by decide +kernel
theorem dX9_shortest_25 : decode cX9_shortest 25 = .ok (.if_icmp .ge 16, 3) := by decide +kernel
theorem dX9_shortest_28 : decode cX9_shortest 28 = .ok (.aload_n 0, 1) := by decide +kernel
theorem dX9_shortest_29 : decode cX9_shortest 29 = .ok (.iconst 0, 1) := by decide +kernel
theorem dX9_shortest_30 : decode cX9_shortest 30 = .ok (.iload_n 1, 1) := by decide +kernel
theorem dX9_shortest_31 : decode cX9_shortest 31 = .ok (.invokevirtual 431, 3) := by decide +kernel
theorem dX9_shortest_34 : decode cX9_shortest 34 = .ok (.ifCond .ne 7, 3) := by decide +kernel
theorem dX9_shortest_37 : decode cX9_shortest 37 = .ok (.iconst 0, 1) := by decide +kernel
theorem dX9_shortest_38 : decode cX9_shortest 38 = .ok (.goto 4, 3) := by decide +kernel
theorem dX9_shortest_41 : decode cX9_shortest 41 = .ok (.iconst (-1), 1) := by decide +kernel
theorem dX9_shortest_42 : decode cX9_shortest 42 = .ok (.iastore, 1) := by decide +kernel
theorem dX9_shortest_43 : decode cX9_shortest 43 = .ok (.aload_n 0, 1) := by decide +kernel
theorem dX9_shortest_44 : decode cX9_shortest 44 = .ok (.getfield 172, 3) := by decide +kernel
theorem dX9_shortest_47 : decode cX9_shortest 47 = .ok (.iload_n 1, 1) := by decide +kernel
theorem dX9_shortest_48 : decode cX9_shortest 48 = .ok (.iconst 0, 1) := by decide +kernel
theorem dX9_shortest_49 : decode cX9_shortest 49 = .ok (.bastore, 1) := by decide +kernel
theorem dX9_shortest_50 : decode cX9_shortest 50 = .ok (.iinc 1 1, 3) := by decide +kernel
theorem dX9_shortest_53 : decode cX9_shortest 53 = .ok (.goto (-51), 3) := by decide +kernel
theorem dX9_shortest_56 : decode cX9_shortest 56 = .ok (.iconst 0, 1) := by decide +kernel
theorem dX9_shortest_57 : decode cX9_shortest 57 = .ok (.istore_n 1, 1) := by decide +kernel
theorem dX9_shortest_58 : decode cX9_shortest 58 = .ok (.iconst 0, 1) := by decide +kernel
theorem dX9_shortest_59 : decode cX9_shortest 59 = .ok (.istore_n 2, 1) := by decide +kernel
theorem dX9_shortest_60 : decode cX9_shortest 60 = .ok (.iconst 0, 1) := by decide +kernel
theorem dX9_shortest_61 : decode cX9_shortest 61 = .ok (.istore_n 3, 1) := by decide +kernel
theorem dX9_shortest_62 : decode cX9_shortest 62 = .ok (.iload_n 3, 1) := by decide +kernel
theorem dX9_shortest_63 : decode cX9_shortest 63 = .ok (.bipush 8, 2) := by decide +kernel
theorem dX9_shortest_65 : decode cX9_shortest 65 = .ok (.aload_n 0, 1) := by decide +kernel
theorem dX9_shortest_66 : decode cX9_shortest 66 = .ok (.getfield 345, 3) := by decide +kernel
theorem dX9_shortest_69 : decode cX9_shortest 69 = .ok (.imul, 1) := by decide +kernel
theorem dX9_shortest_70 : decode cX9_shortest 70 = .ok (.if_icmp .gt 119, 3) := by decide +kernel
theorem dX9_shortest_73 : decode cX9_shortest 73 = .ok (.iload_n 2, 1) := by decide +kernel
theorem dX9_shortest_74 : decode cX9_shortest 74 = .ok (.ifCond .ne 115, 3) := by decide +kernel
theorem dX9_shortest_77 : decode cX9_shortest 77 = .ok (.iconst 0, 1) := by decide +kernel
theorem dX9_shortest_78 : decode cX9_shortest 78 = .ok (.istore 4, 2) := by decide +kernel
theorem dX9_shortest_80 : decode cX9_shortest 80 = .ok (.iload 4, 2) := by decide +kernel
theorem dX9_shortest_82 : decode cX9_shortest 82 = .ok (.bipush 8, 2) := by decide +kernel
theorem dX9_shortest_84 : decode cX9_shortest 84 = .ok (.aload_n 0, 1) := by decide +kernel
theorem dX9_shortest_85 : decode cX9_shortest 85 = .ok (.getfield 345, 3) := by decide +kernel
theorem dX9_shortest_88 : decode cX9_shortest 88 = .ok (.imul, 1) := by decide +kernel
theorem dX9_shortest_89 : decode cX9_shortest 89 = .ok (.if_icmp .ge 68, 3) := by decide +kernel
theorem dX9_shortest_92 : decode cX9_shortest 92 = .ok (.aload_n 0, 1) := by decide +kernel
theorem dX9_shortest_93 : decode cX9_shortest 93 = .ok (.getfield 172, 3) := by decide +kernel
theorem dX9_shortest_96 : decode cX9_shortest 96 = .ok (.iload 4, 2) := by decide +kernel
theorem dX9_shortest_98 : decode cX9_shortest 98 = .ok (.aload_n 0, 1) := by decide +kernel
theorem dX9_shortest_99 : decode cX9_shortest 99 = .ok (.getfield 169, 3) := by decide +kernel
theorem dX9_shortest_102 : decode cX9_shortest 102 = .ok (.iload 4, 2) := by decide +kernel
theorem dX9_shortest_104 : decode cX9_shortest 104 = .ok (.iaload, 1) := by decide +kernel
theorem dX9_shortest_105 : decode cX9_shortest 105 = .ok (.iload_n 1, 1) := by decide +kernel
theorem dX9_shortest_106 : decode cX9_shortest 106 = .ok (.if_icmp .ne 23, 3) := by decide +kernel
theorem dX9_shortest_109 : decode cX9_shortest 109 = .ok (.aload_n 0, 1) := by decide +kernel
theorem dX9_shortest_110 : decode cX9_shortest 110 = .ok (.iload 4, 2) := by decide +kernel
theorem dX9_shortest_112 : decode cX9_shortest 112 = .ok (.iconst 3, 1) := by decide +kernel
theorem dX9_shortest_113 : decode cX9_shortest 113 = .ok (.ishr, 1) := by decide +kernel
theorem dX9_shortest_114 : decode cX9_shortest 114 = .ok (.iload 4, 2) := by decide +kernel
theorem dX9_shortest_116 : decode cX9_shortest 116 = .ok (.bipush 7, 2) := by decide +kernel
theorem dX9_shortest_118 : decode cX9_shortest 118 = .ok (.iand, 1) := by decide +kernel
theorem dX9_shortest_119 : decode cX9_shortest 119 = .ok (.invokevirtual 434, 3) := by decide +kernel
theorem dX9_shortest_122 : decode cX9_shortest 122 = .ok (.ifCond .le 7, 3) := by decide +kernel
theorem dX9_shortest_125 : decode cX9_shortest 125 = .ok (.iconst 1, 1) := by decide +kernel
theorem dX9_shortest_126 : decode cX9_shortest 126 = .ok (.goto 4, 3) := by decide +kernel
theorem dX9_shortest_129 : decode cX9_shortest 129 = .ok (.iconst 0, 1) := by decide +kernel
theorem dX9_shortest_130 : decode cX9_shortest 130 = .ok (.bastore, 1) := by decide +kernel
theorem dX9_shortest_131 : decode cX9_shortest 131 = .ok (.iload_n 2, 1) := by decide +kernel
theorem dX9_shortest_132 : decode cX9_shortest 132 = .ok (.ifCond .ne 13, 3) := by decide +kernel
theorem dX9_shortest_135 : decode cX9_shortest 135 = .ok (.aload_n 0, 1) := by decide +kernel
theorem dX9_shortest_136 : decode cX9_shortest 136 = .ok (.getfield 172, 3) := by decide +kernel
theorem dX9_shortest_139 : decode cX9_shortest 139 = .ok (.iload 4, 2) := by decide +kernel
theorem dX9_shortest_141 : decode cX9_shortest 141 = .ok (.baload, 1) := by decide +kernel
theorem dX9_shortest_142 : decode cX9_shortest 142 = .ok (.ifCond .eq 7, 3) := by decide +kernel
theorem dX9_shortest_145 : decode cX9_shortest 145 = .ok (.iconst 1, 1) := by decide +kernel
theorem dX9_shortest_146 : decode cX9_shortest 146 = .ok (.goto 4, 3) := by decide +kernel
theorem dX9_shortest_149 : decode cX9_shortest 149 = .ok (.iconst 0, 1) := by decide +kernel
theorem dX9_shortest_150 : decode cX9_shortest 150 = .ok (.istore_n 2, 1) := by decide +kernel
theorem dX9_shortest_151 : decode cX9_shortest 151 = .ok (.iinc 4 1, 3) := by decide +kernel
theorem dX9_shortest_154 : decode cX9_shortest 154 = .ok (.goto (-74), 3) := by decide +kernel
theorem dX9_shortest_157 : decode cX9_shortest 157 = .ok (.iload_n 2, 1) := by decide +kernel
theorem dX9_shortest_158 : decode cX9_shortest 158 = .ok (.ifCond .ne 13, 3) := by decide +kernel
theorem dX9_shortest_161 : decode cX9_shortest 161 = .ok (.aload_n 0, 1) := by decide +kernel
theorem dX9_shortest_162 : decode cX9_shortest 162 = .ok (.iload_n 1, 1) := by decide +kernel
theorem dX9_shortest_163 : decode cX9_shortest 163 = .ok (.invokevirtual 437, 3) := by decide +kernel
theorem dX9_shortest_166 : decode cX9_shortest 166 = .ok (.ifCond .ne 5, 3) := by decide +kernel
theorem dX9_shortest_169 : decode cX9_shortest 169 = .ok (.iconst (-1), 1) := by decide +kernel
theorem dX9_shortest_170 : decode cX9_shortest 170 = .ok (.ireturn, 1) := by decide +kernel
theorem dX9_shortest_171 : decode cX9_shortest 171 = .ok (.iload_n 1, 1) := by decide +kernel
theorem dX9_shortest_172 : decode cX9_shortest 172 = .ok (.iload_n 2, 1) := by decide +kernel
theorem dX9_shortest_173 : decode cX9_shortest 173 = .ok (.ifCond .eq 7, 3) := by decide +kernel
theorem dX9_shortest_176 : decode cX9_shortest 176 = .ok (.iconst 0, 1) := by decide +kernel
theorem dX9_shortest_177 : decode cX9_shortest 177 = .ok (.goto 4, 3) := by decide +kernel
theorem dX9_shortest_180 : decode cX9_shortest 180 = .ok (.iconst 1, 1) := by decide +kernel
theorem dX9_shortest_181 : decode cX9_shortest 181 = .ok (.iadd, 1) := by decide +kernel
theorem dX9_shortest_182 : decode cX9_shortest 182 = .ok (.istore_n 1, 1) := by decide +kernel
theorem dX9_shortest_183 : decode cX9_shortest 183 = .ok (.iinc 3 1, 3) := by decide +kernel
theorem dX9_shortest_186 : decode cX9_shortest 186 = .ok (.goto (-124), 3) := by decide +kernel
theorem dX9_shortest_189 : decode cX9_shortest 189 = .ok (.iload_n 1, 1) := by decide +kernel
theorem dX9_shortest_190 : decode cX9_shortest 190 = .ok (.iconst 1, 1) := by decide +kernel
theorem dX9_shortest_191 : decode cX9_shortest 191 = .ok (.isub, 1) := by decide +kernel
theorem dX9_shortest_192 : decode cX9_shortest 192 = .ok (.istore_n 3, 1) := by decide +kernel
theorem dX9_shortest_193 : decode cX9_shortest 193 = .ok (.iload_n 3, 1) := by decide +kernel
theorem dX9_shortest_194 : decode cX9_shortest 194 = .ok (.ifCond .lt 172, 3) := by decide +kernel
theorem dX9_shortest_197 : decode cX9_shortest 197 = .ok (.iconst 0, 1) := by decide +kernel
theorem dX9_shortest_198 : decode cX9_shortest 198 = .ok (.istore 4, 2) := by decide +kernel
theorem dX9_shortest_200 : decode cX9_shortest 200 = .ok (.iload 4, 2) := by decide +kernel
theorem dX9_shortest_202 : decode cX9_shortest 202 = .ok (.bipush 8, 2) := by decide +kernel
theorem dX9_shortest_204 : decode cX9_shortest 204 = .ok (.aload_n 0, 1) := by decide +kernel
theorem dX9_shortest_205 : decode cX9_shortest 205 = .ok (.getfield 345, 3) := by decide +kernel
theorem dX9_shortest_208 : decode cX9_shortest 208 = .ok (.imul, 1) := by decide +kernel
theorem dX9_shortest_209 : decode cX9_shortest 209 = .ok (.if_icmp .ge 151, 3) := by decide +kernel
theorem dX9_shortest_212 : decode cX9_shortest 212 = .ok (.aload_n 0, 1) := by decide +kernel
theorem dX9_shortest_213 : decode cX9_shortest 213 = .ok (.getfield 109, 3) := by decide +kernel
theorem dX9_shortest_216 : decode cX9_shortest 216 = .ok (.iload 4, 2) := by decide +kernel
theorem dX9_shortest_218 : decode cX9_shortest 218 = .ok (.iconst 3, 1) := by decide +kernel
theorem dX9_shortest_219 : decode cX9_shortest 219 = .ok (.ishr, 1) := by decide +kernel
theorem dX9_shortest_220 : decode cX9_shortest 220 = .ok (.iaload, 1) := by decide +kernel
theorem dX9_shortest_221 : decode cX9_shortest 221 = .ok (.istore 5, 2) := by decide +kernel
theorem dX9_shortest_223 : decode cX9_shortest 223 = .ok (.iload 5, 2) := by decide +kernel
theorem dX9_shortest_225 : decode cX9_shortest 225 = .ok (.aload_n 0, 1) := by decide +kernel
theorem dX9_shortest_226 : decode cX9_shortest 226 = .ok (.getfield 109, 3) := by decide +kernel
theorem dX9_shortest_229 : decode cX9_shortest 229 = .ok (.iload 4, 2) := by decide +kernel
theorem dX9_shortest_231 : decode cX9_shortest 231 = .ok (.iconst 3, 1) := by decide +kernel
theorem dX9_shortest_232 : decode cX9_shortest 232 = .ok (.ishr, 1) := by decide +kernel
theorem dX9_shortest_233 : decode cX9_shortest 233 = .ok (.iconst 1, 1) := by decide +kernel
theorem dX9_shortest_234 : decode cX9_shortest 234 = .ok (.iadd, 1) := by decide +kernel
theorem dX9_shortest_235 : decode cX9_shortest 235 = .ok (.iaload, 1) := by decide +kernel
theorem dX9_shortest_236 : decode cX9_shortest 236 = .ok (.if_icmp .ge 118, 3) := by decide +kernel
theorem dX9_shortest_239 : decode cX9_shortest 239 = .ok (.aload_n 0, 1) := by decide +kernel
theorem dX9_shortest_240 : decode cX9_shortest 240 = .ok (.getfield 169, 3) := by decide +kernel
theorem dX9_shortest_243 : decode cX9_shortest 243 = .ok (.iload 4, 2) := by decide +kernel
theorem dX9_shortest_245 : decode cX9_shortest 245 = .ok (.iaload, 1) := by decide +kernel
theorem dX9_shortest_246 : decode cX9_shortest 246 = .ok (.iload_n 3, 1) := by decide +kernel
theorem dX9_shortest_247 : decode cX9_shortest 247 = .ok (.if_icmp .ne 107, 3) := by decide +kernel
theorem dX9_shortest_250 : decode cX9_shortest 250 = .ok (.iconst 0, 1) := by decide +kernel
theorem dX9_shortest_251 : decode cX9_shortest 251 = .ok (.istore 6, 2) := by decide +kernel
theorem dX9_shortest_253 : decode cX9_shortest 253 = .ok (.iload 6, 2) := by decide +kernel
theorem dX9_shortest_255 : decode cX9_shortest 255 = .ok (.iconst 1, 1) := by decide +kernel
theorem dX9_shortest_256 : decode cX9_shortest 256 = .ok (.aload_n 0, 1) := by decide +kernel
theorem dX9_shortest_257 : decode cX9_shortest 257 = .ok (.getfield 376, 3) := by decide +kernel
theorem dX9_shortest_260 : decode cX9_shortest 260 = .ok (.ishl, 1) := by decide +kernel
theorem dX9_shortest_261 : decode cX9_shortest 261 = .ok (.if_icmp .ge 87, 3) := by decide +kernel
theorem dX9_shortest_264 : decode cX9_shortest 264 = .ok (.bipush 8, 2) := by decide +kernel
theorem dX9_shortest_266 : decode cX9_shortest 266 = .ok (.aload_n 0, 1) := by decide +kernel
theorem dX9_shortest_267 : decode cX9_shortest 267 = .ok (.getfield 112, 3) := by decide +kernel
theorem dX9_shortest_270 : decode cX9_shortest 270 = .ok (.iload 5, 2) := by decide +kernel
theorem dX9_shortest_272 : decode cX9_shortest 272 = .ok (.iaload, 1) := by decide +kernel
theorem dX9_shortest_273 : decode cX9_shortest 273 = .ok (.imul, 1) := by decide +kernel
theorem dX9_shortest_274 : decode cX9_shortest 274 = .ok (.iload 6, 2) := by decide +kernel
theorem dX9_shortest_276 : decode cX9_shortest 276 = .ok (.iadd, 1) := by decide +kernel
theorem dX9_shortest_277 : decode cX9_shortest 277 = .ok (.istore 7, 2) := by decide +kernel
theorem dX9_shortest_279 : decode cX9_shortest 279 = .ok (.aload_n 0, 1) := by decide +kernel
theorem dX9_shortest_280 : decode cX9_shortest 280 = .ok (.getfield 172, 3) := by decide +kernel
theorem dX9_shortest_283 : decode cX9_shortest 283 = .ok (.iload 4, 2) := by decide +kernel
theorem dX9_shortest_285 : decode cX9_shortest 285 = .ok (.aload_n 0, 1) := by decide +kernel
theorem dX9_shortest_286 : decode cX9_shortest 286 = .ok (.getfield 172, 3) := by decide +kernel
theorem dX9_shortest_289 : decode cX9_shortest 289 = .ok (.iload 4, 2) := by decide +kernel
theorem dX9_shortest_291 : decode cX9_shortest 291 = .ok (.baload, 1) := by decide +kernel
theorem dX9_shortest_292 : decode cX9_shortest 292 = .ok (.ifCond .ne 44, 3) := by decide +kernel
theorem dX9_shortest_295 : decode cX9_shortest 295 = .ok (.aload_n 0, 1) := by decide +kernel
theorem dX9_shortest_296 : decode cX9_shortest 296 = .ok (.getfield 169, 3) := by decide +kernel
theorem dX9_shortest_299 : decode cX9_shortest 299 = .ok (.iload 7, 2) := by decide +kernel
theorem dX9_shortest_301 : decode cX9_shortest 301 = .ok (.iaload, 1) := by decide +kernel
theorem dX9_shortest_302 : decode cX9_shortest 302 = .ok (.iload_n 3, 1) := by decide +kernel
theorem dX9_shortest_303 : decode cX9_shortest 303 = .ok (.iconst 1, 1) := by decide +kernel
theorem dX9_shortest_304 : decode cX9_shortest 304 = .ok (.iadd, 1) := by decide +kernel
theorem dX9_shortest_305 : decode cX9_shortest 305 = .ok (.if_icmp .ne 35, 3) := by decide +kernel
theorem dX9_shortest_308 : decode cX9_shortest 308 = .ok (.aload_n 0, 1) := by decide +kernel
theorem dX9_shortest_309 : decode cX9_shortest 309 = .ok (.getfield 172, 3) := by decide +kernel
theorem dX9_shortest_312 : decode cX9_shortest 312 = .ok (.iload 7, 2) := by decide +kernel
theorem dX9_shortest_314 : decode cX9_shortest 314 = .ok (.baload, 1) := by decide +kernel
theorem dX9_shortest_315 : decode cX9_shortest 315 = .ok (.ifCond .eq 25, 3) := by decide +kernel
theorem dX9_shortest_318 : decode cX9_shortest 318 = .ok (.aload_n 0, 1) := by decide +kernel
theorem dX9_shortest_319 : decode cX9_shortest 319 = .ok (.iload 4, 2) := by decide +kernel
theorem dX9_shortest_321 : decode cX9_shortest 321 = .ok (.iconst 3, 1) := by decide +kernel
theorem dX9_shortest_322 : decode cX9_shortest 322 = .ok (.ishr, 1) := by decide +kernel
theorem dX9_shortest_323 : decode cX9_shortest 323 = .ok (.iload 6, 2) := by decide +kernel
theorem dX9_shortest_325 : decode cX9_shortest 325 = .ok (.invokevirtual 422, 3) := by decide +kernel
theorem dX9_shortest_328 : decode cX9_shortest 328 = .ok (.iload 4, 2) := by decide +kernel
theorem dX9_shortest_330 : decode cX9_shortest 330 = .ok (.bipush 7, 2) := by decide +kernel
theorem dX9_shortest_332 : decode cX9_shortest 332 = .ok (.iand, 1) := by decide +kernel
theorem dX9_shortest_333 : decode cX9_shortest 333 = .ok (.if_icmp .ne 7, 3) := by decide +kernel
theorem dX9_shortest_336 : decode cX9_shortest 336 = .ok (.iconst 1, 1) := by decide +kernel
theorem dX9_shortest_337 : decode cX9_shortest 337 = .ok (.goto 4, 3) := by decide +kernel
theorem dX9_shortest_340 : decode cX9_shortest 340 = .ok (.iconst 0, 1) := by decide +kernel
theorem dX9_shortest_341 : decode cX9_shortest 341 = .ok (.bastore, 1) := by decide +kernel
theorem dX9_shortest_342 : decode cX9_shortest 342 = .ok (.iinc 6 1, 3) := by decide +kernel
theorem dX9_shortest_345 : decode cX9_shortest 345 = .ok (.goto (-92), 3) := by decide +kernel
theorem dX9_shortest_348 : decode cX9_shortest 348 = .ok (.iinc 5 1, 3) := by decide +kernel
theorem dX9_shortest_351 : decode cX9_shortest 351 = .ok (.goto (-128), 3) := by decide +kernel
theorem dX9_shortest_354 : decode cX9_shortest 354 = .ok (.iinc 4 1, 3) := by decide +kernel
theorem dX9_shortest_357 : decode cX9_shortest 357 = .ok (.goto (-157), 3) := by decide +kernel
theorem dX9_shortest_360 : decode cX9_shortest 360 = .ok (.iinc 3 (-1), 3) := by decide +kernel
theorem dX9_shortest_363 : decode cX9_shortest 363 = .ok (.goto (-170), 3) := by decide +kernel
theorem dX9_shortest_366 : decode cX9_shortest 366 = .ok (.iload_n 1, 1) := by decide +kernel
theorem dX9_shortest_367 : decode cX9_shortest 367 = .ok (.ireturn, 1) := by decide +kernel
abbrev MX9_shortest : zT := (yX9_shortest, cX9_shortest, 8, (Option.some Jvm.ClassFile.FieldType.int), [])
theorem plX9_shortest : zplain MX9_shortest 0 ∧ (zcodeW MX9_shortest ∈ lw_all ∧ Cond.initialized MX9_shortest.1.cls ∈ lw_all) := ⟨⟨by decide +kernel, by decide +kernel⟩, q2338, q127⟩
noncomputable def f_X9_shortest_366 (x1 : Int) (σ : zM) : Option zO :=
  some (0, zi x1, σ)
theorem w_X9_shortest_366 {g : zG} {lv : Nat} {out : zO} (x1 : Int) (σ : zM) {r : zO} (h : f_X9_shortest_366 x1 σ = some r) (hk : (fun o : zO => o = out) r) : Gj g MX9_shortest (lv + 4) 366 [(1, zi x1)] [] σ out := by
  revert h
  unfold f_X9_shortest_366
  refine zst_ (gj_iload_n 0 (pc := 366) dX9_shortest_366 rfl) ?_
  intro h
  cases h
  have hk : (0, zi x1, σ) = out := hk
  subst hk
  exact gj_ret (pc := 367) (t := .int) dX9_shortest_367 rfl ⟨rfl, rfl⟩ (fun h => h)
noncomputable def f_X9_shortest_360 (x0 x1 x3 : Int) (σ : zM) : Option ((Int × zM) ⊕ zO) :=
  zlet (zadd x3 (-1)) fun y1 =>
  some (.inl (y1, σ))
theorem w_X9_shortest_360 {g : zG} {lv : Nat} {out : zO} (x0 x1 x3 : Int) (σ : zM) {r : ((Int × zM) ⊕ zO)} (h : f_X9_shortest_360 x0 x1 x3 σ = some r) (hk : (zKL (fun s : Int × zM => Gj g MX9_shortest (lv + 4) 193 [(0, zr x0), (1, zi x1), (3, zi s.1)] [] s.2 out) (fun o : zO => o = out)) r) : Gj g MX9_shortest (lv + 4) 360 [(0, zr x0), (1, zi x1), (3, zi x3)] [] σ out := by
  revert h
  unfold f_X9_shortest_360
  refine gb_iinc (pc := 360) 2 (fun y1 => [(3, zi y1), (0, zr x0), (1, zi x1)]) dX9_shortest_360 rfl (by decide) (fun _ => rfl) (fun y1 => ?_)
  refine zst_ (gj_goto 193 (pc := 363) dX9_shortest_363 (by decide)) ?_
  refine zst_ (gj_sub [1, 2, 0] rfl) ?_
  intro h
  cases h
  exact hk
noncomputable def f_X9_shortest_354 (x0 x1 x3 x4 : Int) (σ : zM) : Option ((Int × zM) ⊕ ((Int × zM) ⊕ zO)) :=
  zlet (zadd x4 1) fun y1 =>
  some (.inl (y1, σ))
theorem w_X9_shortest_354 {g : zG} {lv : Nat} {out : zO} (x0 x1 x3 x4 : Int) (σ : zM) {r : ((Int × zM) ⊕ ((Int × zM) ⊕ zO))} (h : f_X9_shortest_354 x0 x1 x3 x4 σ = some r) (hk : (zKL (fun s : Int × zM => Gj g MX9_shortest (lv + 4) 200 [(0, zr x0), (1, zi x1), (3, zi x3), (4, zi s.1)] [] s.2 out) (zKL (fun s : Int × zM => Gj g MX9_shortest (lv + 4) 193 [(0, zr x0), (1, zi x1), (3, zi s.1)] [] s.2 out) (fun o : zO => o = out))) r) : Gj g MX9_shortest (lv + 4) 354 [(0, zr x0), (1, zi x1), (3, zi x3), (4, zi x4)] [] σ out := by
  revert h
  unfold f_X9_shortest_354
  refine gb_iinc (pc := 354) 3 (fun y1 => [(4, zi y1), (0, zr x0), (1, zi x1), (3, zi x3)]) dX9_shortest_354 rfl (by decide) (fun _ => rfl) (fun y1 => ?_)
  refine zst_ (gj_goto 200 (pc := 357) dX9_shortest_357 (by decide)) ?_
  refine zst_ (gj_sub [1, 2, 3, 0] rfl) ?_
  intro h
  cases h
  exact hk
noncomputable def f_X9_shortest_348 (x0 x1 x3 x4 x5 : Int) (σ : zM) : Option ((Int × zM) ⊕ ((Int × zM) ⊕ ((Int × zM) ⊕ zO))) :=
  zlet (zadd x5 1) fun y1 =>
  some (.inl (y1, σ))
theorem w_X9_shortest_348 {g : zG} {lv : Nat} {out : zO} (x0 x1 x3 x4 x5 : Int) (σ : zM) {r : ((Int × zM) ⊕ ((Int × zM) ⊕ ((Int × zM) ⊕ zO)))} (h : f_X9_shortest_348 x0 x1 x3 x4 x5 σ = some r) (hk : (zKL (fun s : Int × zM => Gj g MX9_shortest (lv + 4) 223 [(0, zr x0), (1, zi x1), (3, zi x3), (4, zi x4), (5, zi s.1)] [] s.2 out) (zKL (fun s : Int × zM => Gj g MX9_shortest (lv + 4) 200 [(0, zr x0), (1, zi x1), (3, zi x3), (4, zi s.1)] [] s.2 out) (zKL (fun s : Int × zM => Gj g MX9_shortest (lv + 4) 193 [(0, zr x0), (1, zi x1), (3, zi s.1)] [] s.2 out) (fun o : zO => o = out)))) r) : Gj g MX9_shortest (lv + 4) 348 [(0, zr x0), (1, zi x1), (3, zi x3), (4, zi x4), (5, zi x5)] [] σ out := by
  revert h
  unfold f_X9_shortest_348
  refine gb_iinc (pc := 348) 4 (fun y1 => [(5, zi y1), (0, zr x0), (1, zi x1), (3, zi x3), (4, zi x4)]) dX9_shortest_348 rfl (by decide) (fun _ => rfl) (fun y1 => ?_)
  refine zst_ (gj_goto 223 (pc := 351) dX9_shortest_351 (by decide)) ?_
  refine zst_ (gj_sub [1, 2, 3, 4, 0] rfl) ?_
  intro h
  cases h
  exact hk
noncomputable def f_X9_shortest_341 (x0 x1 x3 x4 x5 x6 t0 t1 t2 : Int) (σ : zM) : Option ((Int × zM) ⊕ ((Int × zM) ⊕ ((Int × zM) ⊕ ((Int × zM) ⊕ zO)))) :=
  zgd (z01 t0) <|
  (zpa σ 103 t2 t1 t0).bind fun σ1 =>
  zlet (zadd x6 1) fun y2 =>
  some (.inl (y2, σ1))
theorem w_X9_shortest_341 {g : zG} {lv : Nat} {out : zO} (x0 x1 x3 x4 x5 x6 t0 t1 t2 : Int) (σ : zM) {r : ((Int × zM) ⊕ ((Int × zM) ⊕ ((Int × zM) ⊕ ((Int × zM) ⊕ zO))))} (h : f_X9_shortest_341 x0 x1 x3 x4 x5 x6 t0 t1 t2 σ = some r) (hk : (zKL (fun s : Int × zM => Gj g MX9_shortest (lv + 4) 253 [(0, zr x0), (1, zi x1), (3, zi x3), (4, zi x4), (5, zi x5), (6, zi s.1)] [] s.2 out) (zKL (fun s : Int × zM => Gj g MX9_shortest (lv + 4) 223 [(0, zr x0), (1, zi x1), (3, zi x3), (4, zi x4), (5, zi s.1)] [] s.2 out) (zKL (fun s : Int × zM => Gj g MX9_shortest (lv + 4) 200 [(0, zr x0), (1, zi x1), (3, zi x3), (4, zi s.1)] [] s.2 out) (zKL (fun s : Int × zM => Gj g MX9_shortest (lv + 4) 193 [(0, zr x0), (1, zi x1), (3, zi s.1)] [] s.2 out) (fun o : zO => o = out))))) r) : Gj g MX9_shortest (lv + 4) 341 [(0, zr x0), (1, zi x1), (3, zi x3), (4, zi x4), (5, zi x5), (6, zi x6)] [zi t0, zi t1, zr t2] σ out := by
  revert h
  unfold f_X9_shortest_341
  refine gb_gd (fun hb => ?_)
  refine gb_zast (pc := 341) (z01E hb) dX9_shortest_341 (fun σ1 => ?_)
  refine gb_iinc (pc := 342) 5 (fun y2 => [(6, zi y2), (0, zr x0), (1, zi x1), (3, zi x3), (4, zi x4), (5, zi x5)]) dX9_shortest_342 rfl (by decide) (fun _ => rfl) (fun y2 => ?_)
  refine zst_ (gj_goto 253 (pc := 345) dX9_shortest_345 (by decide)) ?_
  refine zst_ (gj_sub [1, 2, 3, 4, 5, 0] rfl) ?_
  intro h
  cases h
  exact hk
noncomputable def f_X9_shortest_336 (x0 x1 x3 x4 x5 x6 t0 t1 : Int) (σ : zM) : Option ((Int × zM) ⊕ ((Int × zM) ⊕ ((Int × zM) ⊕ ((Int × zM) ⊕ zO)))) :=
  f_X9_shortest_341 x0 x1 x3 x4 x5 x6 1 t0 t1 σ
theorem w_X9_shortest_336 {g : zG} {lv : Nat} {out : zO} (x0 x1 x3 x4 x5 x6 t0 t1 : Int) (σ : zM) {r : ((Int × zM) ⊕ ((Int × zM) ⊕ ((Int × zM) ⊕ ((Int × zM) ⊕ zO))))} (h : f_X9_shortest_336 x0 x1 x3 x4 x5 x6 t0 t1 σ = some r) (hk : (zKL (fun s : Int × zM => Gj g MX9_shortest (lv + 4) 253 [(0, zr x0), (1, zi x1), (3, zi x3), (4, zi x4), (5, zi x5), (6, zi s.1)] [] s.2 out) (zKL (fun s : Int × zM => Gj g MX9_shortest (lv + 4) 223 [(0, zr x0), (1, zi x1), (3, zi x3), (4, zi x4), (5, zi s.1)] [] s.2 out) (zKL (fun s : Int × zM => Gj g MX9_shortest (lv + 4) 200 [(0, zr x0), (1, zi x1), (3, zi x3), (4, zi s.1)] [] s.2 out) (zKL (fun s : Int × zM => Gj g MX9_shortest (lv + 4) 193 [(0, zr x0), (1, zi x1), (3, zi s.1)] [] s.2 out) (fun o : zO => o = out))))) r) : Gj g MX9_shortest (lv + 4) 336 [(0, zr x0), (1, zi x1), (3, zi x3), (4, zi x4), (5, zi x5), (6, zi x6)] [zi t0, zr t1] σ out := by
  revert h
  unfold f_X9_shortest_336
  refine zst_ (gj_iconst (pc := 336) dX9_shortest_336 (by decide)) ?_
  refine zst_ (gj_goto 341 (pc := 337) dX9_shortest_337 (by decide)) ?_
  exact fun h => w_X9_shortest_341 x0 x1 x3 x4 x5 x6 1 t0 t1 σ h hk
noncomputable def f_X9_shortest_340 (x0 x1 x3 x4 x5 x6 t0 t1 : Int) (σ : zM) : Option ((Int × zM) ⊕ ((Int × zM) ⊕ ((Int × zM) ⊕ ((Int × zM) ⊕ zO)))) :=
  f_X9_shortest_341 x0 x1 x3 x4 x5 x6 0 t0 t1 σ
theorem w_X9_shortest_340 {g : zG} {lv : Nat} {out : zO} (x0 x1 x3 x4 x5 x6 t0 t1 : Int) (σ : zM) {r : ((Int × zM) ⊕ ((Int × zM) ⊕ ((Int × zM) ⊕ ((Int × zM) ⊕ zO))))} (h : f_X9_shortest_340 x0 x1 x3 x4 x5 x6 t0 t1 σ = some r) (hk : (zKL (fun s : Int × zM => Gj g MX9_shortest (lv + 4) 253 [(0, zr x0), (1, zi x1), (3, zi x3), (4, zi x4), (5, zi x5), (6, zi s.1)] [] s.2 out) (zKL (fun s : Int × zM => Gj g MX9_shortest (lv + 4) 223 [(0, zr x0), (1, zi x1), (3, zi x3), (4, zi x4), (5, zi s.1)] [] s.2 out) (zKL (fun s : Int × zM => Gj g MX9_shortest (lv + 4) 200 [(0, zr x0), (1, zi x1), (3, zi x3), (4, zi s.1)] [] s.2 out) (zKL (fun s : Int × zM => Gj g MX9_shortest (lv + 4) 193 [(0, zr x0), (1, zi x1), (3, zi s.1)] [] s.2 out) (fun o : zO => o = out))))) r) : Gj g MX9_shortest (lv + 4) 340 [(0, zr x0), (1, zi x1), (3, zi x3), (4, zi x4), (5, zi x5), (6, zi x6)] [zi t0, zr t1] σ out := by
  revert h
  unfold f_X9_shortest_340
  refine zst_ (gj_iconst (pc := 340) dX9_shortest_340 (by decide)) ?_
  exact fun h => w_X9_shortest_341 x0 x1 x3 x4 x5 x6 0 t0 t1 σ h hk
noncomputable def f_X9_shortest_253_b (x0 x1 x3 x4 x5 x6 : Int) (σ : zM) : Option ((Int × zM) ⊕ ((Int × zM) ⊕ ((Int × zM) ⊕ ((Int × zM) ⊕ zO)))) :=
  (zgf σ 964 x0).bind fun v1 =>
  if (zshl 1 v1) ≤ x6 then
    (f_X9_shortest_348 x0 x1 x3 x4 x5 σ).map (fun r => (.inr r))
  else
    (zgf σ 949 x0).bind fun v2 =>
    (zga σ 101 v2 x5).bind fun v3 =>
    zlet ((zadd (zmul 8 v3) x6)) fun y4 =>
    (zgf σ 976 x0).bind fun v5 =>
    (zgf σ 976 x0).bind fun v6 =>
    (zga σ 103 v6 x4).bind fun v7 =>
    if v7 ≠ 0 then
      f_X9_shortest_336 x0 x1 x3 x4 x5 x6 x4 v5 σ
    else
      (zgf σ 975 x0).bind fun v8 =>
      (zga σ 101 v8 y4).bind fun v9 =>
      if v9 ≠ (zadd x3 1) then
        f_X9_shortest_340 x0 x1 x3 x4 x5 x6 x4 v5 σ
      else
        (zgf σ 976 x0).bind fun v10 =>
        (zga σ 103 v10 y4).bind fun v11 =>
        if v11 = 0 then
          f_X9_shortest_340 x0 x1 x3 x4 x5 x6 x4 v5 σ
        else
          zgd (zis σ 10 x0) <|
          zci (f_X9_truthAt x0 (zshr x4 3) x6 σ) fun v12 σ13 =>
          if v12 ≠ (zand x4 7) then
            f_X9_shortest_340 x0 x1 x3 x4 x5 x6 x4 v5 σ13
          else
            f_X9_shortest_336 x0 x1 x3 x4 x5 x6 x4 v5 σ13
noncomputable def f_X9_shortest_253 (x0 x1 x3 x4 x5 x6 : Int) (σ : zM) : Option ((Int × zM) ⊕ ((Int × zM) ⊕ ((Int × zM) ⊕ zO))) :=
  zloop (fun s : Int × zM => f_X9_shortest_253_b x0 x1 x3 x4 x5 s.1 s.2) (x6, σ)
theorem w_X9_shortest_253_b {g : zG} {lv : Nat} {out : zO} (x0 x1 x3 x4 x5 x6 : Int) (σ : zM) {r : ((Int × zM) ⊕ ((Int × zM) ⊕ ((Int × zM) ⊕ ((Int × zM) ⊕ zO))))} (h : f_X9_shortest_253_b x0 x1 x3 x4 x5 x6 σ = some r) (hk : (zKL (fun s : Int × zM => Gj g MX9_shortest (lv + 4) 253 [(0, zr x0), (1, zi x1), (3, zi x3), (4, zi x4), (5, zi x5), (6, zi s.1)] [] s.2 out) (zKL (fun s : Int × zM => Gj g MX9_shortest (lv + 4) 223 [(0, zr x0), (1, zi x1), (3, zi x3), (4, zi x4), (5, zi s.1)] [] s.2 out) (zKL (fun s : Int × zM => Gj g MX9_shortest (lv + 4) 200 [(0, zr x0), (1, zi x1), (3, zi x3), (4, zi s.1)] [] s.2 out) (zKL (fun s : Int × zM => Gj g MX9_shortest (lv + 4) 193 [(0, zr x0), (1, zi x1), (3, zi s.1)] [] s.2 out) (fun o : zO => o = out))))) r) : Gj g MX9_shortest (lv + 4) 253 [(0, zr x0), (1, zi x1), (3, zi x3), (4, zi x4), (5, zi x5), (6, zi x6)] [] σ out := by
  revert h
  unfold f_X9_shortest_253_b
  refine zst_ (gj_iload 5 (pc := 253) dX9_shortest_253 rfl) ?_
  refine zst_ (gj_iconst (pc := 255) dX9_shortest_255 (by decide)) ?_
  refine zst_ (gj_aload_n 0 (pc := 256) dX9_shortest_256 rfl) ?_
  refine gb_get (pc := 257) fl964 dX9_shortest_257 q1946 (Or.inl rfl) (fun v1 => ?_)
  refine zst_ (gj_ishl (pc := 260) dX9_shortest_260) ?_
  refine gb_if (gj_icmp_ge 348 (pc := 261) dX9_shortest_261 (by decide)) ?_ ?_
  · refine zst_ (gj_sub [0, 1, 2, 3, 4] rfl) ?_
    intro h
    obtain ⟨r0, h0, rfl⟩ := zmE h
    exact w_X9_shortest_348 x0 x1 x3 x4 x5 σ h0 hk
  · refine zst_ (gj_bipush (pc := 264) dX9_shortest_264 ⟨rfl, by decide⟩) ?_
    refine zst_ (gj_aload_n 0 (pc := 266) dX9_shortest_266 rfl) ?_
    refine gb_get (pc := 267) fl949 dX9_shortest_267 q1931 (Or.inl rfl) (fun v2 => ?_)
    refine zst_ (gj_iload 4 (pc := 270) dX9_shortest_270 rfl) ?_
    refine gb_iald (pc := 272) dX9_shortest_272 (fun v3 => ?_)
    refine zst_ (gj_imul (pc := 273) dX9_shortest_273) ?_
    refine zst_ (gj_iload 5 (pc := 274) dX9_shortest_274 rfl) ?_
    refine zst_ (gj_iadd (pc := 276) dX9_shortest_276) ?_
    refine gb_let (fun y4 => ?_)
    refine zst_ (gj_istore (pc := 277) (ls' := [(7, zi y4), (0, zr x0), (1, zi x1), (3, zi x3), (4, zi x4), (5, zi x5), (6, zi x6)]) dX9_shortest_277 (by decide) rfl) ?_
    refine zst_ (gj_aload_n 1 (pc := 279) dX9_shortest_279 rfl) ?_
    refine gb_get (pc := 280) fl976 dX9_shortest_280 q1958 (Or.inl rfl) (fun v5 => ?_)
    refine zst_ (gj_iload 4 (pc := 283) dX9_shortest_283 rfl) ?_
    refine zst_ (gj_aload_n 1 (pc := 285) dX9_shortest_285 rfl) ?_
    refine gb_get (pc := 286) fl976 dX9_shortest_286 q1958 (Or.inl rfl) (fun v6 => ?_)
    refine zst_ (gj_iload 4 (pc := 289) dX9_shortest_289 rfl) ?_
    refine gb_zald (pc := 291) dX9_shortest_291 (fun v7 => ?_)
    refine gb_if (gj_if_ne 336 (pc := 292) dX9_shortest_292 (by decide)) ?_ ?_
    · refine zst_ (gj_sub [1, 2, 3, 4, 5, 6] rfl) ?_
      exact fun h => w_X9_shortest_336 x0 x1 x3 x4 x5 x6 x4 v5 σ h hk
    · refine zst_ (gj_aload_n 1 (pc := 295) dX9_shortest_295 rfl) ?_
      refine gb_get (pc := 296) fl975 dX9_shortest_296 q1957 (Or.inl rfl) (fun v8 => ?_)
      refine zst_ (gj_iload 0 (pc := 299) dX9_shortest_299 rfl) ?_
      refine gb_iald (pc := 301) dX9_shortest_301 (fun v9 => ?_)
      refine zst_ (gj_iload_n 3 (pc := 302) dX9_shortest_302 rfl) ?_
      refine zst_ (gj_iconst (pc := 303) dX9_shortest_303 (by decide)) ?_
      refine zst_ (gj_iadd (pc := 304) dX9_shortest_304) ?_
      refine gb_if (gj_icmp_ne 340 (pc := 305) dX9_shortest_305 (by decide)) ?_ ?_
      · refine zst_ (gj_sub [1, 2, 3, 4, 5, 6] rfl) ?_
        exact fun h => w_X9_shortest_340 x0 x1 x3 x4 x5 x6 x4 v5 σ h hk
      · refine zst_ (gj_aload_n 1 (pc := 308) dX9_shortest_308 rfl) ?_
        refine gb_get (pc := 309) fl976 dX9_shortest_309 q1958 (Or.inl rfl) (fun v10 => ?_)
        refine zst_ (gj_iload 0 (pc := 312) dX9_shortest_312 rfl) ?_
        refine gb_zald (pc := 314) dX9_shortest_314 (fun v11 => ?_)
        refine gb_if (gj_if_eq 340 (pc := 315) dX9_shortest_315 (by decide)) ?_ ?_
        · refine zst_ (gj_sub [1, 2, 3, 4, 5, 6] rfl) ?_
          exact fun h => w_X9_shortest_340 x0 x1 x3 x4 x5 x6 x4 v5 σ h hk
        · refine zst_ (gj_aload_n 1 (pc := 318) dX9_shortest_318 rfl) ?_
          refine zst_ (gj_iload 4 (pc := 319) dX9_shortest_319 rfl) ?_
          refine zst_ (gj_iconst (pc := 321) dX9_shortest_321 (by decide)) ?_
          refine zst_ (gj_ishr (pc := 322) dX9_shortest_322) ?_
          refine zst_ (gj_iload 6 (pc := 323) dX9_shortest_323 rfl) ?_
          refine gb_gd (fun hb => ?_)
          refine gb_callI (pc := 325) (as := [zr x0, zi (zshr x4 3), zi x6]) (rest := [zi x4, zr v5]) (zCl.of (zLk_V (M := MX9_shortest) (ci := 9) (r := (RX9, TX9, 84)) plX9_truthAt.1 rfl rfl (zisE hb).1 (zisE hb).2 dX9_shortest_325 q2355 q2357 qs91 q2358) plX9_truthAt (Nat.le_of_ble_eq_true rfl) (fun h => c_X9_truthAt h)) (fun v12 σ13 => ?_)
          refine zst_ (gj_iload 4 (pc := 328) dX9_shortest_328 rfl) ?_
          refine zst_ (gj_bipush (pc := 330) dX9_shortest_330 ⟨rfl, by decide⟩) ?_
          refine zst_ (gj_iand (pc := 332) dX9_shortest_332) ?_
          refine gb_if (gj_icmp_ne 340 (pc := 333) dX9_shortest_333 (by decide)) ?_ ?_
          · refine zst_ (gj_sub [1, 2, 3, 4, 5, 6] rfl) ?_
            exact fun h => w_X9_shortest_340 x0 x1 x3 x4 x5 x6 x4 v5 σ13 h hk
          · refine zst_ (gj_sub [1, 2, 3, 4, 5, 6] rfl) ?_
            exact fun h => w_X9_shortest_336 x0 x1 x3 x4 x5 x6 x4 v5 σ13 h hk
theorem w_X9_shortest_253 {g : zG} {lv : Nat} {out : zO} (x0 x1 x3 x4 x5 x6 : Int) (σ : zM) {r : ((Int × zM) ⊕ ((Int × zM) ⊕ ((Int × zM) ⊕ zO)))} (h : f_X9_shortest_253 x0 x1 x3 x4 x5 x6 σ = some r) (hk : (zKL (fun s : Int × zM => Gj g MX9_shortest (lv + 4) 223 [(0, zr x0), (1, zi x1), (3, zi x3), (4, zi x4), (5, zi s.1)] [] s.2 out) (zKL (fun s : Int × zM => Gj g MX9_shortest (lv + 4) 200 [(0, zr x0), (1, zi x1), (3, zi x3), (4, zi s.1)] [] s.2 out) (zKL (fun s : Int × zM => Gj g MX9_shortest (lv + 4) 193 [(0, zr x0), (1, zi x1), (3, zi s.1)] [] s.2 out) (fun o : zO => o = out)))) r) : Gj g MX9_shortest (lv + 4) 253 [(0, zr x0), (1, zi x1), (3, zi x3), (4, zi x4), (5, zi x5), (6, zi x6)] [] σ out :=
  gj_loop (P := (fun s : Int × zM => Gj g MX9_shortest (lv + 4) 253 [(0, zr x0), (1, zi x1), (3, zi x3), (4, zi x4), (5, zi x5), (6, zi s.1)] [] s.2 out)) (fun s x hb hx => w_X9_shortest_253_b x0 x1 x3 x4 x5 s.1 s.2 hb hx) h hk
noncomputable def f_X9_shortest_223_b (x0 x1 x3 x4 x5 : Int) (σ : zM) : Option ((Int × zM) ⊕ ((Int × zM) ⊕ ((Int × zM) ⊕ zO))) :=
  (zgf σ 948 x0).bind fun v1 =>
  (zga σ 101 v1 (zadd (zshr x4 3) 1)).bind fun v2 =>
  if v2 ≤ x5 then
    (f_X9_shortest_354 x0 x1 x3 x4 σ).map (fun r => (.inr r))
  else
    (zgf σ 975 x0).bind fun v3 =>
    (zga σ 101 v3 x4).bind fun v4 =>
    if v4 ≠ x3 then
      (f_X9_shortest_354 x0 x1 x3 x4 σ).map (fun r => (.inr r))
    else
      f_X9_shortest_253 x0 x1 x3 x4 x5 0 σ
noncomputable def f_X9_shortest_223 (x0 x1 x3 x4 x5 : Int) (σ : zM) : Option ((Int × zM) ⊕ ((Int × zM) ⊕ zO)) :=
  zloop (fun s : Int × zM => f_X9_shortest_223_b x0 x1 x3 x4 s.1 s.2) (x5, σ)
theorem w_X9_shortest_223_b {g : zG} {lv : Nat} {out : zO} (x0 x1 x3 x4 x5 : Int) (σ : zM) {r : ((Int × zM) ⊕ ((Int × zM) ⊕ ((Int × zM) ⊕ zO)))} (h : f_X9_shortest_223_b x0 x1 x3 x4 x5 σ = some r) (hk : (zKL (fun s : Int × zM => Gj g MX9_shortest (lv + 4) 223 [(0, zr x0), (1, zi x1), (3, zi x3), (4, zi x4), (5, zi s.1)] [] s.2 out) (zKL (fun s : Int × zM => Gj g MX9_shortest (lv + 4) 200 [(0, zr x0), (1, zi x1), (3, zi x3), (4, zi s.1)] [] s.2 out) (zKL (fun s : Int × zM => Gj g MX9_shortest (lv + 4) 193 [(0, zr x0), (1, zi x1), (3, zi s.1)] [] s.2 out) (fun o : zO => o = out)))) r) : Gj g MX9_shortest (lv + 4) 223 [(0, zr x0), (1, zi x1), (3, zi x3), (4, zi x4), (5, zi x5)] [] σ out := by
  revert h
  unfold f_X9_shortest_223_b
  refine zst_ (gj_iload 4 (pc := 223) dX9_shortest_223 rfl) ?_
  refine zst_ (gj_aload_n 0 (pc := 225) dX9_shortest_225 rfl) ?_
  refine gb_get (pc := 226) fl948 dX9_shortest_226 q1930 (Or.inl rfl) (fun v1 => ?_)
  refine zst_ (gj_iload 3 (pc := 229) dX9_shortest_229 rfl) ?_
  refine zst_ (gj_iconst (pc := 231) dX9_shortest_231 (by decide)) ?_
  refine zst_ (gj_ishr (pc := 232) dX9_shortest_232) ?_
  refine zst_ (gj_iconst (pc := 233) dX9_shortest_233 (by decide)) ?_
  refine zst_ (gj_iadd (pc := 234) dX9_shortest_234) ?_
  refine gb_iald (pc := 235) dX9_shortest_235 (fun v2 => ?_)
  refine gb_if (gj_icmp_ge 354 (pc := 236) dX9_shortest_236 (by decide)) ?_ ?_
  · refine zst_ (gj_sub [0, 1, 2, 3] rfl) ?_
    intro h
    obtain ⟨r0, h0, rfl⟩ := zmE h
    exact w_X9_shortest_354 x0 x1 x3 x4 σ h0 hk
  · refine zst_ (gj_aload_n 0 (pc := 239) dX9_shortest_239 rfl) ?_
    refine gb_get (pc := 240) fl975 dX9_shortest_240 q1957 (Or.inl rfl) (fun v3 => ?_)
    refine zst_ (gj_iload 3 (pc := 243) dX9_shortest_243 rfl) ?_
    refine gb_iald (pc := 245) dX9_shortest_245 (fun v4 => ?_)
    refine zst_ (gj_iload_n 2 (pc := 246) dX9_shortest_246 rfl) ?_
    refine gb_if (gj_icmp_ne 354 (pc := 247) dX9_shortest_247 (by decide)) ?_ ?_
    · refine zst_ (gj_sub [0, 1, 2, 3] rfl) ?_
      intro h
      obtain ⟨r0, h0, rfl⟩ := zmE h
      exact w_X9_shortest_354 x0 x1 x3 x4 σ h0 hk
    · refine zst_ (gj_iconst (pc := 250) dX9_shortest_250 (by decide)) ?_
      refine zst_ (gj_istore (pc := 251) (ls' := [(6, zi 0), (0, zr x0), (1, zi x1), (3, zi x3), (4, zi x4), (5, zi x5)]) dX9_shortest_251 (by decide) rfl) ?_
      refine zst_ (gj_sub [1, 2, 3, 4, 5, 0] rfl) ?_
      exact fun h => w_X9_shortest_253 x0 x1 x3 x4 x5 0 σ h hk
theorem w_X9_shortest_223 {g : zG} {lv : Nat} {out : zO} (x0 x1 x3 x4 x5 : Int) (σ : zM) {r : ((Int × zM) ⊕ ((Int × zM) ⊕ zO))} (h : f_X9_shortest_223 x0 x1 x3 x4 x5 σ = some r) (hk : (zKL (fun s : Int × zM => Gj g MX9_shortest (lv + 4) 200 [(0, zr x0), (1, zi x1), (3, zi x3), (4, zi s.1)] [] s.2 out) (zKL (fun s : Int × zM => Gj g MX9_shortest (lv + 4) 193 [(0, zr x0), (1, zi x1), (3, zi s.1)] [] s.2 out) (fun o : zO => o = out))) r) : Gj g MX9_shortest (lv + 4) 223 [(0, zr x0), (1, zi x1), (3, zi x3), (4, zi x4), (5, zi x5)] [] σ out :=
  gj_loop (P := (fun s : Int × zM => Gj g MX9_shortest (lv + 4) 223 [(0, zr x0), (1, zi x1), (3, zi x3), (4, zi x4), (5, zi s.1)] [] s.2 out)) (fun s x hb hx => w_X9_shortest_223_b x0 x1 x3 x4 s.1 s.2 hb hx) h hk
noncomputable def f_X9_shortest_200_b (x0 x1 x3 x4 : Int) (σ : zM) : Option ((Int × zM) ⊕ ((Int × zM) ⊕ zO)) :=
  (zgf σ 944 x0).bind fun v1 =>
  if (zmul 8 v1) ≤ x4 then
    (f_X9_shortest_360 x0 x1 x3 σ).map (fun r => (.inr r))
  else
    (zgf σ 948 x0).bind fun v2 =>
    (zga σ 101 v2 (zshr x4 3)).bind fun v3 =>
    f_X9_shortest_223 x0 x1 x3 x4 v3 σ
noncomputable def f_X9_shortest_200 (x0 x1 x3 x4 : Int) (σ : zM) : Option ((Int × zM) ⊕ zO) :=
  zloop (fun s : Int × zM => f_X9_shortest_200_b x0 x1 x3 s.1 s.2) (x4, σ)
theorem w_X9_shortest_200_b {g : zG} {lv : Nat} {out : zO} (x0 x1 x3 x4 : Int) (σ : zM) {r : ((Int × zM) ⊕ ((Int × zM) ⊕ zO))} (h : f_X9_shortest_200_b x0 x1 x3 x4 σ = some r) (hk : (zKL (fun s : Int × zM => Gj g MX9_shortest (lv + 4) 200 [(0, zr x0), (1, zi x1), (3, zi x3), (4, zi s.1)] [] s.2 out) (zKL (fun s : Int × zM => Gj g MX9_shortest (lv + 4) 193 [(0, zr x0), (1, zi x1), (3, zi s.1)] [] s.2 out) (fun o : zO => o = out))) r) : Gj g MX9_shortest (lv + 4) 200 [(0, zr x0), (1, zi x1), (3, zi x3), (4, zi x4)] [] σ out := by
  revert h
  unfold f_X9_shortest_200_b
  refine zst_ (gj_iload 3 (pc := 200) dX9_shortest_200 rfl) ?_
  refine zst_ (gj_bipush (pc := 202) dX9_shortest_202 ⟨rfl, by decide⟩) ?_
  refine zst_ (gj_aload_n 0 (pc := 204) dX9_shortest_204 rfl) ?_
  refine gb_get (pc := 205) fl944 dX9_shortest_205 q1926 (Or.inl rfl) (fun v1 => ?_)
  refine zst_ (gj_imul (pc := 208) dX9_shortest_208) ?_
  refine gb_if (gj_icmp_ge 360 (pc := 209) dX9_shortest_209 (by decide)) ?_ ?_
  · refine zst_ (gj_sub [0, 1, 2] rfl) ?_
    intro h
    obtain ⟨r0, h0, rfl⟩ := zmE h
    exact w_X9_shortest_360 x0 x1 x3 σ h0 hk
  · refine zst_ (gj_aload_n 0 (pc := 212) dX9_shortest_212 rfl) ?_
    refine gb_get (pc := 213) fl948 dX9_shortest_213 q1930 (Or.inl rfl) (fun v2 => ?_)
    refine zst_ (gj_iload 3 (pc := 216) dX9_shortest_216 rfl) ?_
    refine zst_ (gj_iconst (pc := 218) dX9_shortest_218 (by decide)) ?_
    refine zst_ (gj_ishr (pc := 219) dX9_shortest_219) ?_
    refine gb_iald (pc := 220) dX9_shortest_220 (fun v3 => ?_)
    refine zst_ (gj_istore (pc := 221) (ls' := [(5, zi v3), (0, zr x0), (1, zi x1), (3, zi x3), (4, zi x4)]) dX9_shortest_221 (by decide) rfl) ?_
    refine zst_ (gj_sub [1, 2, 3, 4, 0] rfl) ?_
    exact fun h => w_X9_shortest_223 x0 x1 x3 x4 v3 σ h hk
theorem w_X9_shortest_200 {g : zG} {lv : Nat} {out : zO} (x0 x1 x3 x4 : Int) (σ : zM) {r : ((Int × zM) ⊕ zO)} (h : f_X9_shortest_200 x0 x1 x3 x4 σ = some r) (hk : (zKL (fun s : Int × zM => Gj g MX9_shortest (lv + 4) 193 [(0, zr x0), (1, zi x1), (3, zi s.1)] [] s.2 out) (fun o : zO => o = out)) r) : Gj g MX9_shortest (lv + 4) 200 [(0, zr x0), (1, zi x1), (3, zi x3), (4, zi x4)] [] σ out :=
  gj_loop (P := (fun s : Int × zM => Gj g MX9_shortest (lv + 4) 200 [(0, zr x0), (1, zi x1), (3, zi x3), (4, zi s.1)] [] s.2 out)) (fun s x hb hx => w_X9_shortest_200_b x0 x1 x3 s.1 s.2 hb hx) h hk
noncomputable def f_X9_shortest_193_b (x0 x1 x3 : Int) (σ : zM) : Option ((Int × zM) ⊕ zO) :=
  if x3 < 0 then
    (f_X9_shortest_366 x1 σ).map (fun r => (.inr r))
  else
    f_X9_shortest_200 x0 x1 x3 0 σ
noncomputable def f_X9_shortest_193 (x0 x1 x3 : Int) (σ : zM) : Option zO :=
  zloop (fun s : Int × zM => f_X9_shortest_193_b x0 x1 s.1 s.2) (x3, σ)
theorem w_X9_shortest_193_b {g : zG} {lv : Nat} {out : zO} (x0 x1 x3 : Int) (σ : zM) {r : ((Int × zM) ⊕ zO)} (h : f_X9_shortest_193_b x0 x1 x3 σ = some r) (hk : (zKL (fun s : Int × zM => Gj g MX9_shortest (lv + 4) 193 [(0, zr x0), (1, zi x1), (3, zi s.1)] [] s.2 out) (fun o : zO => o = out)) r) : Gj g MX9_shortest (lv + 4) 193 [(0, zr x0), (1, zi x1), (3, zi x3)] [] σ out := by
  revert h
  unfold f_X9_shortest_193_b
  refine zst_ (gj_iload_n 2 (pc := 193) dX9_shortest_193 rfl) ?_
  refine gb_if (gj_if_lt 366 (pc := 194) dX9_shortest_194 (by decide)) ?_ ?_
  · refine zst_ (gj_sub [1] rfl) ?_
    intro h
    obtain ⟨r0, h0, rfl⟩ := zmE h
    exact w_X9_shortest_366 x1 σ h0 hk
  · refine zst_ (gj_iconst (pc := 197) dX9_shortest_197 (by decide)) ?_
    refine zst_ (gj_istore (pc := 198) (ls' := [(4, zi 0), (0, zr x0), (1, zi x1), (3, zi x3)]) dX9_shortest_198 (by decide) rfl) ?_
    refine zst_ (gj_sub [1, 2, 3, 0] rfl) ?_
    exact fun h => w_X9_shortest_200 x0 x1 x3 0 σ h hk
theorem w_X9_shortest_193 {g : zG} {lv : Nat} {out : zO} (x0 x1 x3 : Int) (σ : zM) {r : zO} (h : f_X9_shortest_193 x0 x1 x3 σ = some r) (hk : (fun o : zO => o = out) r) : Gj g MX9_shortest (lv + 4) 193 [(0, zr x0), (1, zi x1), (3, zi x3)] [] σ out :=
  gj_loop (P := (fun s : Int × zM => Gj g MX9_shortest (lv + 4) 193 [(0, zr x0), (1, zi x1), (3, zi s.1)] [] s.2 out)) (fun s x hb hx => w_X9_shortest_193_b x0 x1 s.1 s.2 hb hx) h hk
noncomputable def f_X9_shortest_189 (x0 x1 : Int) (σ : zM) : Option zO :=
  zlet ((zsub x1 1)) fun y1 =>
  f_X9_shortest_193 x0 x1 y1 σ
theorem w_X9_shortest_189 {g : zG} {lv : Nat} {out : zO} (x0 x1 : Int) (σ : zM) {r : zO} (h : f_X9_shortest_189 x0 x1 σ = some r) (hk : (fun o : zO => o = out) r) : Gj g MX9_shortest (lv + 4) 189 [(0, zr x0), (1, zi x1)] [] σ out := by
  revert h
  unfold f_X9_shortest_189
  refine zst_ (gj_iload_n 1 (pc := 189) dX9_shortest_189 rfl) ?_
  refine zst_ (gj_iconst (pc := 190) dX9_shortest_190 (by decide)) ?_
  refine zst_ (gj_isub (pc := 191) dX9_shortest_191) ?_
  refine gb_let (fun y1 => ?_)
  refine zst_ (gj_istore_n (pc := 192) (ls' := [(3, zi y1), (0, zr x0), (1, zi x1)]) dX9_shortest_192 (by decide) rfl) ?_
  refine zst_ (gj_sub [1, 2, 0] rfl) ?_
  exact fun h => w_X9_shortest_193 x0 x1 y1 σ h hk
noncomputable def f_X9_shortest_181 (x0 x2 x3 t0 t1 : Int) (σ : zM) : Option ((Int × Int × Int × zM) ⊕ zO) :=
  zlet ((zadd t1 t0)) fun y1 =>
  zlet (zadd x3 1) fun y2 =>
  some (.inl (y1, x2, y2, σ))
theorem w_X9_shortest_181 {g : zG} {lv : Nat} {out : zO} (x0 x2 x3 t0 t1 : Int) (σ : zM) {r : ((Int × Int × Int × zM) ⊕ zO)} (h : f_X9_shortest_181 x0 x2 x3 t0 t1 σ = some r) (hk : (zKL (fun s : Int × Int × Int × zM => Gj g MX9_shortest (lv + 4) 62 [(0, zr x0), (1, zi s.1), (2, zi s.2.1), (3, zi s.2.2.1)] [] s.2.2.2 out) (fun o : zO => o = out)) r) : Gj g MX9_shortest (lv + 4) 181 [(0, zr x0), (2, zi x2), (3, zi x3)] [zi t0, zi t1] σ out := by
  revert h
  unfold f_X9_shortest_181
  refine zst_ (gj_iadd (pc := 181) dX9_shortest_181) ?_
  refine gb_let (fun y1 => ?_)
  refine zst_ (gj_istore_n (pc := 182) (ls' := [(1, zi y1), (0, zr x0), (2, zi x2), (3, zi x3)]) dX9_shortest_182 (by decide) rfl) ?_
  refine gb_iinc (pc := 183) 3 (fun y2 => [(3, zi y2), (1, zi y1), (0, zr x0), (2, zi x2)]) dX9_shortest_183 rfl (by decide) (fun _ => rfl) (fun y2 => ?_)
  refine zst_ (gj_goto 62 (pc := 186) dX9_shortest_186 (by decide)) ?_
  refine zst_ (gj_sub [2, 1, 3, 0] rfl) ?_
  intro h
  cases h
  exact hk
noncomputable def f_X9_shortest_171 (x0 x1 x2 x3 : Int) (σ : zM) : Option ((Int × Int × Int × zM) ⊕ zO) :=
  if x2 = 0 then
    f_X9_shortest_181 x0 x2 x3 1 x1 σ
  else
    f_X9_shortest_181 x0 x2 x3 0 x1 σ
theorem w_X9_shortest_171 {g : zG} {lv : Nat} {out : zO} (x0 x1 x2 x3 : Int) (σ : zM) {r : ((Int × Int × Int × zM) ⊕ zO)} (h : f_X9_shortest_171 x0 x1 x2 x3 σ = some r) (hk : (zKL (fun s : Int × Int × Int × zM => Gj g MX9_shortest (lv + 4) 62 [(0, zr x0), (1, zi s.1), (2, zi s.2.1), (3, zi s.2.2.1)] [] s.2.2.2 out) (fun o : zO => o = out)) r) : Gj g MX9_shortest (lv + 4) 171 [(0, zr x0), (1, zi x1), (2, zi x2), (3, zi x3)] [] σ out := by
  revert h
  unfold f_X9_shortest_171
  refine zst_ (gj_iload_n 1 (pc := 171) dX9_shortest_171 rfl) ?_
  refine zst_ (gj_iload_n 2 (pc := 172) dX9_shortest_172 rfl) ?_
  refine gb_if (gj_if_eq 180 (pc := 173) dX9_shortest_173 (by decide)) ?_ ?_
  · refine zst_ (gj_iconst (pc := 180) dX9_shortest_180 (by decide)) ?_
    refine zst_ (gj_sub [0, 2, 3] rfl) ?_
    exact fun h => w_X9_shortest_181 x0 x2 x3 1 x1 σ h hk
  · refine zst_ (gj_iconst (pc := 176) dX9_shortest_176 (by decide)) ?_
    refine zst_ (gj_goto 181 (pc := 177) dX9_shortest_177 (by decide)) ?_
    refine zst_ (gj_sub [0, 2, 3] rfl) ?_
    exact fun h => w_X9_shortest_181 x0 x2 x3 0 x1 σ h hk
noncomputable def f_X9_shortest_169 (σ : zM) : Option zO :=
  some (0, zi (-1), σ)
theorem w_X9_shortest_169 {g : zG} {lv : Nat} {out : zO} (σ : zM) {r : zO} (h : f_X9_shortest_169  σ = some r) (hk : (fun o : zO => o = out) r) : Gj g MX9_shortest (lv + 4) 169 [] [] σ out := by
  revert h
  unfold f_X9_shortest_169
  refine zst_ (gj_iconst (pc := 169) dX9_shortest_169 (by decide)) ?_
  intro h
  cases h
  have hk : (0, zi (-1), σ) = out := hk
  subst hk
  exact gj_ret (pc := 170) (t := .int) dX9_shortest_170 rfl ⟨rfl, rfl⟩ (fun h => h)
noncomputable def f_X9_shortest_157 (x0 x1 x2 x3 : Int) (σ : zM) : Option ((Int × Int × Int × zM) ⊕ zO) :=
  if x2 ≠ 0 then
    f_X9_shortest_171 x0 x1 x2 x3 σ
  else
    zgd (zis σ 10 x0) <|
    zci (f_X9_spread x0 x1 σ) fun v1 σ2 =>
    if v1 ≠ 0 then
      f_X9_shortest_171 x0 x1 x2 x3 σ2
    else
      (f_X9_shortest_169 σ2).map (fun r => (.inr r))
theorem w_X9_shortest_157 {g : zG} {lv : Nat} {out : zO} (x0 x1 x2 x3 : Int) (σ : zM) {r : ((Int × Int × Int × zM) ⊕ zO)} (h : f_X9_shortest_157 x0 x1 x2 x3 σ = some r) (hk : (zKL (fun s : Int × Int × Int × zM => Gj g MX9_shortest (lv + 4) 62 [(0, zr x0), (1, zi s.1), (2, zi s.2.1), (3, zi s.2.2.1)] [] s.2.2.2 out) (fun o : zO => o = out)) r) : Gj g MX9_shortest (lv + 4) 157 [(0, zr x0), (1, zi x1), (2, zi x2), (3, zi x3)] [] σ out := by
  revert h
  unfold f_X9_shortest_157
  refine zst_ (gj_iload_n 2 (pc := 157) dX9_shortest_157 rfl) ?_
  refine gb_if (gj_if_ne 171 (pc := 158) dX9_shortest_158 (by decide)) ?_ ?_
  · exact fun h => w_X9_shortest_171 x0 x1 x2 x3 σ h hk
  · refine zst_ (gj_aload_n 0 (pc := 161) dX9_shortest_161 rfl) ?_
    refine zst_ (gj_iload_n 1 (pc := 162) dX9_shortest_162 rfl) ?_
    refine gb_gd (fun hb => ?_)
    refine gb_callI (pc := 163) (as := [zr x0, zi x1]) (rest := []) (zCl.of (zLk_V (M := MX9_shortest) (ci := 9) (r := (RX9, TX9, 84)) plX9_spread.1 rfl rfl (zisE hb).1 (zisE hb).2 dX9_shortest_163 q2367 q2369 qs94 q2370) plX9_spread (Nat.le_of_ble_eq_true rfl) (fun h => c_X9_spread h)) (fun v1 σ2 => ?_)
    refine gb_if (gj_if_ne 171 (pc := 166) dX9_shortest_166 (by decide)) ?_ ?_
    · exact fun h => w_X9_shortest_171 x0 x1 x2 x3 σ2 h hk
    · refine zst_ (gj_sub [] rfl) ?_
      intro h
      obtain ⟨r0, h0, rfl⟩ := zmE h
      exact w_X9_shortest_169 σ2 h0 hk
noncomputable def f_X9_shortest_150 (x0 x1 x3 x4 t0 : Int) (σ : zM) : Option ((Int × Int × zM) ⊕ ((Int × Int × Int × zM) ⊕ zO)) :=
  zlet (zadd x4 1) fun y1 =>
  some (.inl (t0, y1, σ))
theorem w_X9_shortest_150 {g : zG} {lv : Nat} {out : zO} (x0 x1 x3 x4 t0 : Int) (σ : zM) {r : ((Int × Int × zM) ⊕ ((Int × Int × Int × zM) ⊕ zO))} (h : f_X9_shortest_150 x0 x1 x3 x4 t0 σ = some r) (hk : (zKL (fun s : Int × Int × zM => Gj g MX9_shortest (lv + 4) 80 [(0, zr x0), (1, zi x1), (2, zi s.1), (3, zi x3), (4, zi s.2.1)] [] s.2.2 out) (zKL (fun s : Int × Int × Int × zM => Gj g MX9_shortest (lv + 4) 62 [(0, zr x0), (1, zi s.1), (2, zi s.2.1), (3, zi s.2.2.1)] [] s.2.2.2 out) (fun o : zO => o = out))) r) : Gj g MX9_shortest (lv + 4) 150 [(0, zr x0), (1, zi x1), (3, zi x3), (4, zi x4)] [zi t0] σ out := by
  revert h
  unfold f_X9_shortest_150
  refine zst_ (gj_istore_n (pc := 150) (ls' := [(2, zi t0), (0, zr x0), (1, zi x1), (3, zi x3), (4, zi x4)]) dX9_shortest_150 (by decide) rfl) ?_
  refine gb_iinc (pc := 151) 4 (fun y1 => [(4, zi y1), (2, zi t0), (0, zr x0), (1, zi x1), (3, zi x3)]) dX9_shortest_151 rfl (by decide) (fun _ => rfl) (fun y1 => ?_)
  refine zst_ (gj_goto 80 (pc := 154) dX9_shortest_154 (by decide)) ?_
  refine zst_ (gj_sub [2, 3, 1, 4, 0] rfl) ?_
  intro h
  cases h
  exact hk
noncomputable def f_X9_shortest_145 (x0 x1 x3 x4 : Int) (σ : zM) : Option ((Int × Int × zM) ⊕ ((Int × Int × Int × zM) ⊕ zO)) :=
  f_X9_shortest_150 x0 x1 x3 x4 1 σ
theorem w_X9_shortest_145 {g : zG} {lv : Nat} {out : zO} (x0 x1 x3 x4 : Int) (σ : zM) {r : ((Int × Int × zM) ⊕ ((Int × Int × Int × zM) ⊕ zO))} (h : f_X9_shortest_145 x0 x1 x3 x4 σ = some r) (hk : (zKL (fun s : Int × Int × zM => Gj g MX9_shortest (lv + 4) 80 [(0, zr x0), (1, zi x1), (2, zi s.1), (3, zi x3), (4, zi s.2.1)] [] s.2.2 out) (zKL (fun s : Int × Int × Int × zM => Gj g MX9_shortest (lv + 4) 62 [(0, zr x0), (1, zi s.1), (2, zi s.2.1), (3, zi s.2.2.1)] [] s.2.2.2 out) (fun o : zO => o = out))) r) : Gj g MX9_shortest (lv + 4) 145 [(0, zr x0), (1, zi x1), (3, zi x3), (4, zi x4)] [] σ out := by
  revert h
  unfold f_X9_shortest_145
  refine zst_ (gj_iconst (pc := 145) dX9_shortest_145 (by decide)) ?_
  refine zst_ (gj_goto 150 (pc := 146) dX9_shortest_146 (by decide)) ?_
  exact fun h => w_X9_shortest_150 x0 x1 x3 x4 1 σ h hk
noncomputable def f_X9_shortest_130 (x0 x1 x2 x3 x4 t0 t1 t2 : Int) (σ : zM) : Option ((Int × Int × zM) ⊕ ((Int × Int × Int × zM) ⊕ zO)) :=
  zgd (z01 t0) <|
  (zpa σ 103 t2 t1 t0).bind fun σ1 =>
  if x2 ≠ 0 then
    f_X9_shortest_145 x0 x1 x3 x4 σ1
  else
    (zgf σ1 976 x0).bind fun v2 =>
    (zga σ1 103 v2 x4).bind fun v3 =>
    if v3 = 0 then
      f_X9_shortest_150 x0 x1 x3 x4 0 σ1
    else
      f_X9_shortest_145 x0 x1 x3 x4 σ1
theorem w_X9_shortest_130 {g : zG} {lv : Nat} {out : zO} (x0 x1 x2 x3 x4 t0 t1 t2 : Int) (σ : zM) {r : ((Int × Int × zM) ⊕ ((Int × Int × Int × zM) ⊕ zO))} (h : f_X9_shortest_130 x0 x1 x2 x3 x4 t0 t1 t2 σ = some r) (hk : (zKL (fun s : Int × Int × zM => Gj g MX9_shortest (lv + 4) 80 [(0, zr x0), (1, zi x1), (2, zi s.1), (3, zi x3), (4, zi s.2.1)] [] s.2.2 out) (zKL (fun s : Int × Int × Int × zM => Gj g MX9_shortest (lv + 4) 62 [(0, zr x0), (1, zi s.1), (2, zi s.2.1), (3, zi s.2.2.1)] [] s.2.2.2 out) (fun o : zO => o = out))) r) : Gj g MX9_shortest (lv + 4) 130 [(0, zr x0), (1, zi x1), (2, zi x2), (3, zi x3), (4, zi x4)] [zi t0, zi t1, zr t2] σ out := by
  revert h
  unfold f_X9_shortest_130
  refine gb_gd (fun hb => ?_)
  refine gb_zast (pc := 130) (z01E hb) dX9_shortest_130 (fun σ1 => ?_)
  refine zst_ (gj_iload_n 2 (pc := 131) dX9_shortest_131 rfl) ?_
  refine gb_if (gj_if_ne 145 (pc := 132) dX9_shortest_132 (by decide)) ?_ ?_
  · refine zst_ (gj_sub [0, 1, 3, 4] rfl) ?_
    exact fun h => w_X9_shortest_145 x0 x1 x3 x4 σ1 h hk
  · refine zst_ (gj_aload_n 0 (pc := 135) dX9_shortest_135 rfl) ?_
    refine gb_get (pc := 136) fl976 dX9_shortest_136 q1958 (Or.inl rfl) (fun v2 => ?_)
    refine zst_ (gj_iload 4 (pc := 139) dX9_shortest_139 rfl) ?_
    refine gb_zald (pc := 141) dX9_shortest_141 (fun v3 => ?_)
    refine gb_if (gj_if_eq 149 (pc := 142) dX9_shortest_142 (by decide)) ?_ ?_
    · refine zst_ (gj_iconst (pc := 149) dX9_shortest_149 (by decide)) ?_
      refine zst_ (gj_sub [0, 1, 3, 4] rfl) ?_
      exact fun h => w_X9_shortest_150 x0 x1 x3 x4 0 σ1 h hk
    · refine zst_ (gj_sub [0, 1, 3, 4] rfl) ?_
      exact fun h => w_X9_shortest_145 x0 x1 x3 x4 σ1 h hk
noncomputable def f_X9_shortest_129 (x0 x1 x2 x3 x4 t0 t1 : Int) (σ : zM) : Option ((Int × Int × zM) ⊕ ((Int × Int × Int × zM) ⊕ zO)) :=
  f_X9_shortest_130 x0 x1 x2 x3 x4 0 t0 t1 σ
theorem w_X9_shortest_129 {g : zG} {lv : Nat} {out : zO} (x0 x1 x2 x3 x4 t0 t1 : Int) (σ : zM) {r : ((Int × Int × zM) ⊕ ((Int × Int × Int × zM) ⊕ zO))} (h : f_X9_shortest_129 x0 x1 x2 x3 x4 t0 t1 σ = some r) (hk : (zKL (fun s : Int × Int × zM => Gj g MX9_shortest (lv + 4) 80 [(0, zr x0), (1, zi x1), (2, zi s.1), (3, zi x3), (4, zi s.2.1)] [] s.2.2 out) (zKL (fun s : Int × Int × Int × zM => Gj g MX9_shortest (lv + 4) 62 [(0, zr x0), (1, zi s.1), (2, zi s.2.1), (3, zi s.2.2.1)] [] s.2.2.2 out) (fun o : zO => o = out))) r) : Gj g MX9_shortest (lv + 4) 129 [(0, zr x0), (1, zi x1), (2, zi x2), (3, zi x3), (4, zi x4)] [zi t0, zr t1] σ out := by
  revert h
  unfold f_X9_shortest_129
  refine zst_ (gj_iconst (pc := 129) dX9_shortest_129 (by decide)) ?_
  exact fun h => w_X9_shortest_130 x0 x1 x2 x3 x4 0 t0 t1 σ h hk
noncomputable def f_X9_shortest_80_b (x0 x1 x2 x3 x4 : Int) (σ : zM) : Option ((Int × Int × zM) ⊕ ((Int × Int × Int × zM) ⊕ zO)) :=
  (zgf σ 944 x0).bind fun v1 =>
  if (zmul 8 v1) ≤ x4 then
    (f_X9_shortest_157 x0 x1 x2 x3 σ).map (fun r => (.inr r))
  else
    (zgf σ 976 x0).bind fun v2 =>
    (zgf σ 975 x0).bind fun v3 =>
    (zga σ 101 v3 x4).bind fun v4 =>
    if v4 ≠ x1 then
      f_X9_shortest_129 x0 x1 x2 x3 x4 x4 v2 σ
    else
      zgd (zis σ 10 x0) <|
      zci (f_X9_nearest x0 (zshr x4 3) (zand x4 7) σ) fun v5 σ6 =>
      if v5 ≤ 0 then
        f_X9_shortest_129 x0 x1 x2 x3 x4 x4 v2 σ6
      else
        f_X9_shortest_130 x0 x1 x2 x3 x4 1 x4 v2 σ6
noncomputable def f_X9_shortest_80 (x0 x1 x2 x3 x4 : Int) (σ : zM) : Option ((Int × Int × Int × zM) ⊕ zO) :=
  zloop (fun s : Int × Int × zM => f_X9_shortest_80_b x0 x1 s.1 x3 s.2.1 s.2.2) (x2, x4, σ)
theorem w_X9_shortest_80_b {g : zG} {lv : Nat} {out : zO} (x0 x1 x2 x3 x4 : Int) (σ : zM) {r : ((Int × Int × zM) ⊕ ((Int × Int × Int × zM) ⊕ zO))} (h : f_X9_shortest_80_b x0 x1 x2 x3 x4 σ = some r) (hk : (zKL (fun s : Int × Int × zM => Gj g MX9_shortest (lv + 4) 80 [(0, zr x0), (1, zi x1), (2, zi s.1), (3, zi x3), (4, zi s.2.1)] [] s.2.2 out) (zKL (fun s : Int × Int × Int × zM => Gj g MX9_shortest (lv + 4) 62 [(0, zr x0), (1, zi s.1), (2, zi s.2.1), (3, zi s.2.2.1)] [] s.2.2.2 out) (fun o : zO => o = out))) r) : Gj g MX9_shortest (lv + 4) 80 [(0, zr x0), (1, zi x1), (2, zi x2), (3, zi x3), (4, zi x4)] [] σ out := by
  revert h
  unfold f_X9_shortest_80_b
  refine zst_ (gj_iload 4 (pc := 80) dX9_shortest_80 rfl) ?_
  refine zst_ (gj_bipush (pc := 82) dX9_shortest_82 ⟨rfl, by decide⟩) ?_
  refine zst_ (gj_aload_n 0 (pc := 84) dX9_shortest_84 rfl) ?_
  refine gb_get (pc := 85) fl944 dX9_shortest_85 q1926 (Or.inl rfl) (fun v1 => ?_)
  refine zst_ (gj_imul (pc := 88) dX9_shortest_88) ?_
  refine gb_if (gj_icmp_ge 157 (pc := 89) dX9_shortest_89 (by decide)) ?_ ?_
  · refine zst_ (gj_sub [0, 1, 2, 3] rfl) ?_
    intro h
    obtain ⟨r0, h0, rfl⟩ := zmE h
    exact w_X9_shortest_157 x0 x1 x2 x3 σ h0 hk
  · refine zst_ (gj_aload_n 0 (pc := 92) dX9_shortest_92 rfl) ?_
    refine gb_get (pc := 93) fl976 dX9_shortest_93 q1958 (Or.inl rfl) (fun v2 => ?_)
    refine zst_ (gj_iload 4 (pc := 96) dX9_shortest_96 rfl) ?_
    refine zst_ (gj_aload_n 0 (pc := 98) dX9_shortest_98 rfl) ?_
    refine gb_get (pc := 99) fl975 dX9_shortest_99 q1957 (Or.inl rfl) (fun v3 => ?_)
    refine zst_ (gj_iload 4 (pc := 102) dX9_shortest_102 rfl) ?_
    refine gb_iald (pc := 104) dX9_shortest_104 (fun v4 => ?_)
    refine zst_ (gj_iload_n 1 (pc := 105) dX9_shortest_105 rfl) ?_
    refine gb_if (gj_icmp_ne 129 (pc := 106) dX9_shortest_106 (by decide)) ?_ ?_
    · exact fun h => w_X9_shortest_129 x0 x1 x2 x3 x4 x4 v2 σ h hk
    · refine zst_ (gj_aload_n 0 (pc := 109) dX9_shortest_109 rfl) ?_
      refine zst_ (gj_iload 4 (pc := 110) dX9_shortest_110 rfl) ?_
      refine zst_ (gj_iconst (pc := 112) dX9_shortest_112 (by decide)) ?_
      refine zst_ (gj_ishr (pc := 113) dX9_shortest_113) ?_
      refine zst_ (gj_iload 4 (pc := 114) dX9_shortest_114 rfl) ?_
      refine zst_ (gj_bipush (pc := 116) dX9_shortest_116 ⟨rfl, by decide⟩) ?_
      refine zst_ (gj_iand (pc := 118) dX9_shortest_118) ?_
      refine gb_gd (fun hb => ?_)
      refine gb_callI (pc := 119) (as := [zr x0, zi (zshr x4 3), zi (zand x4 7)]) (rest := [zi x4, zr v2]) (zCl.of (zLk_V (M := MX9_shortest) (ci := 9) (r := (RX9, TX9, 84)) plX9_nearest.1 rfl rfl (zisE hb).1 (zisE hb).2 dX9_shortest_119 q2343 q2345 qs88 q2346) plX9_nearest (Nat.le_of_ble_eq_true rfl) (fun h => c_X9_nearest h)) (fun v5 σ6 => ?_)
      refine gb_if (gj_if_le 129 (pc := 122) dX9_shortest_122 (by decide)) ?_ ?_
      · exact fun h => w_X9_shortest_129 x0 x1 x2 x3 x4 x4 v2 σ6 h hk
      · refine zst_ (gj_iconst (pc := 125) dX9_shortest_125 (by decide)) ?_
        refine zst_ (gj_goto 130 (pc := 126) dX9_shortest_126 (by decide)) ?_
        exact fun h => w_X9_shortest_130 x0 x1 x2 x3 x4 1 x4 v2 σ6 h hk
theorem w_X9_shortest_80 {g : zG} {lv : Nat} {out : zO} (x0 x1 x2 x3 x4 : Int) (σ : zM) {r : ((Int × Int × Int × zM) ⊕ zO)} (h : f_X9_shortest_80 x0 x1 x2 x3 x4 σ = some r) (hk : (zKL (fun s : Int × Int × Int × zM => Gj g MX9_shortest (lv + 4) 62 [(0, zr x0), (1, zi s.1), (2, zi s.2.1), (3, zi s.2.2.1)] [] s.2.2.2 out) (fun o : zO => o = out)) r) : Gj g MX9_shortest (lv + 4) 80 [(0, zr x0), (1, zi x1), (2, zi x2), (3, zi x3), (4, zi x4)] [] σ out :=
  gj_loop (P := (fun s : Int × Int × zM => Gj g MX9_shortest (lv + 4) 80 [(0, zr x0), (1, zi x1), (2, zi s.1), (3, zi x3), (4, zi s.2.1)] [] s.2.2 out)) (fun s x hb hx => w_X9_shortest_80_b x0 x1 s.1 x3 s.2.1 s.2.2 hb hx) h hk
noncomputable def f_X9_shortest_62_b (x0 x1 x2 x3 : Int) (σ : zM) : Option ((Int × Int × Int × zM) ⊕ zO) :=
  (zgf σ 944 x0).bind fun v1 =>
  if (zmul 8 v1) < x3 then
    (f_X9_shortest_189 x0 x1 σ).map (fun r => (.inr r))
  else
    if x2 ≠ 0 then
      (f_X9_shortest_189 x0 x1 σ).map (fun r => (.inr r))
    else
      f_X9_shortest_80 x0 x1 x2 x3 0 σ
noncomputable def f_X9_shortest_62 (x0 x1 x2 x3 : Int) (σ : zM) : Option zO :=
  zloop (fun s : Int × Int × Int × zM => f_X9_shortest_62_b x0 s.1 s.2.1 s.2.2.1 s.2.2.2) (x1, x2, x3, σ)
theorem w_X9_shortest_62_b {g : zG} {lv : Nat} {out : zO} (x0 x1 x2 x3 : Int) (σ : zM) {r : ((Int × Int × Int × zM) ⊕ zO)} (h : f_X9_shortest_62_b x0 x1 x2 x3 σ = some r) (hk : (zKL (fun s : Int × Int × Int × zM => Gj g MX9_shortest (lv + 4) 62 [(0, zr x0), (1, zi s.1), (2, zi s.2.1), (3, zi s.2.2.1)] [] s.2.2.2 out) (fun o : zO => o = out)) r) : Gj g MX9_shortest (lv + 4) 62 [(0, zr x0), (1, zi x1), (2, zi x2), (3, zi x3)] [] σ out := by
  revert h
  unfold f_X9_shortest_62_b
  refine zst_ (gj_iload_n 3 (pc := 62) dX9_shortest_62 rfl) ?_
  refine zst_ (gj_bipush (pc := 63) dX9_shortest_63 ⟨rfl, by decide⟩) ?_
  refine zst_ (gj_aload_n 0 (pc := 65) dX9_shortest_65 rfl) ?_
  refine gb_get (pc := 66) fl944 dX9_shortest_66 q1926 (Or.inl rfl) (fun v1 => ?_)
  refine zst_ (gj_imul (pc := 69) dX9_shortest_69) ?_
  refine gb_if (gj_icmp_gt 189 (pc := 70) dX9_shortest_70 (by decide)) ?_ ?_
  · refine zst_ (gj_sub [0, 1] rfl) ?_
    intro h
    obtain ⟨r0, h0, rfl⟩ := zmE h
    exact w_X9_shortest_189 x0 x1 σ h0 hk
  · refine zst_ (gj_iload_n 2 (pc := 73) dX9_shortest_73 rfl) ?_
    refine gb_if (gj_if_ne 189 (pc := 74) dX9_shortest_74 (by decide)) ?_ ?_
    · refine zst_ (gj_sub [0, 1] rfl) ?_
      intro h
      obtain ⟨r0, h0, rfl⟩ := zmE h
      exact w_X9_shortest_189 x0 x1 σ h0 hk
    · refine zst_ (gj_iconst (pc := 77) dX9_shortest_77 (by decide)) ?_
      refine zst_ (gj_istore (pc := 78) (ls' := [(4, zi 0), (0, zr x0), (1, zi x1), (2, zi x2), (3, zi x3)]) dX9_shortest_78 (by decide) rfl) ?_
      refine zst_ (gj_sub [1, 2, 3, 4, 0] rfl) ?_
      exact fun h => w_X9_shortest_80 x0 x1 x2 x3 0 σ h hk
theorem w_X9_shortest_62 {g : zG} {lv : Nat} {out : zO} (x0 x1 x2 x3 : Int) (σ : zM) {r : zO} (h : f_X9_shortest_62 x0 x1 x2 x3 σ = some r) (hk : (fun o : zO => o = out) r) : Gj g MX9_shortest (lv + 4) 62 [(0, zr x0), (1, zi x1), (2, zi x2), (3, zi x3)] [] σ out :=
  gj_loop (P := (fun s : Int × Int × Int × zM => Gj g MX9_shortest (lv + 4) 62 [(0, zr x0), (1, zi s.1), (2, zi s.2.1), (3, zi s.2.2.1)] [] s.2.2.2 out)) (fun s x hb hx => w_X9_shortest_62_b x0 s.1 s.2.1 s.2.2.1 s.2.2.2 hb hx) h hk
noncomputable def f_X9_shortest_56 (x0 : Int) (σ : zM) : Option zO :=
  f_X9_shortest_62 x0 0 0 0 σ
theorem w_X9_shortest_56 {g : zG} {lv : Nat} {out : zO} (x0 : Int) (σ : zM) {r : zO} (h : f_X9_shortest_56 x0 σ = some r) (hk : (fun o : zO => o = out) r) : Gj g MX9_shortest (lv + 4) 56 [(0, zr x0)] [] σ out := by
  revert h
  unfold f_X9_shortest_56
  refine zst_ (gj_iconst (pc := 56) dX9_shortest_56 (by decide)) ?_
  refine zst_ (gj_istore_n (pc := 57) (ls' := [(1, zi 0), (0, zr x0)]) dX9_shortest_57 (by decide) rfl) ?_
  refine zst_ (gj_iconst (pc := 58) dX9_shortest_58 (by decide)) ?_
  refine zst_ (gj_istore_n (pc := 59) (ls' := [(2, zi 0), (1, zi 0), (0, zr x0)]) dX9_shortest_59 (by decide) rfl) ?_
  refine zst_ (gj_iconst (pc := 60) dX9_shortest_60 (by decide)) ?_
  refine zst_ (gj_istore_n (pc := 61) (ls' := [(3, zi 0), (2, zi 0), (1, zi 0), (0, zr x0)]) dX9_shortest_61 (by decide) rfl) ?_
  refine zst_ (gj_sub [3, 2, 1, 0] rfl) ?_
  exact fun h => w_X9_shortest_62 x0 0 0 0 σ h hk
noncomputable def f_X9_shortest_42 (x0 x1 t0 t1 t2 : Int) (σ : zM) : Option ((Int × zM) ⊕ zO) :=
  (zpa σ 101 t2 t1 t0).bind fun σ1 =>
  (zgf σ1 976 x0).bind fun v2 =>
  zgd (z01 0) <|
  (zpa σ1 103 v2 x1 0).bind fun σ3 =>
  zlet (zadd x1 1) fun y4 =>
  some (.inl (y4, σ3))
theorem w_X9_shortest_42 {g : zG} {lv : Nat} {out : zO} (x0 x1 t0 t1 t2 : Int) (σ : zM) {r : ((Int × zM) ⊕ zO)} (h : f_X9_shortest_42 x0 x1 t0 t1 t2 σ = some r) (hk : (zKL (fun s : Int × zM => Gj g MX9_shortest (lv + 4) 2 [(0, zr x0), (1, zi s.1)] [] s.2 out) (fun o : zO => o = out)) r) : Gj g MX9_shortest (lv + 4) 42 [(0, zr x0), (1, zi x1)] [zi t0, zi t1, zr t2] σ out := by
  revert h
  unfold f_X9_shortest_42
  refine gb_iast (pc := 42) dX9_shortest_42 (fun σ1 => ?_)
  refine zst_ (gj_aload_n 0 (pc := 43) dX9_shortest_43 rfl) ?_
  refine gb_get (pc := 44) fl976 dX9_shortest_44 q1958 (Or.inl rfl) (fun v2 => ?_)
  refine zst_ (gj_iload_n 1 (pc := 47) dX9_shortest_47 rfl) ?_
  refine zst_ (gj_iconst (pc := 48) dX9_shortest_48 (by decide)) ?_
  refine gb_gd (fun hb => ?_)
  refine gb_zast (pc := 49) (z01E hb) dX9_shortest_49 (fun σ3 => ?_)
  refine gb_iinc (pc := 50) 1 (fun y4 => [(1, zi y4), (0, zr x0)]) dX9_shortest_50 rfl (by decide) (fun _ => rfl) (fun y4 => ?_)
  refine zst_ (gj_goto 2 (pc := 53) dX9_shortest_53 (by decide)) ?_
  refine zst_ (gj_sub [1, 0] rfl) ?_
  intro h
  cases h
  exact hk
noncomputable def f_X9_shortest_41 (x0 x1 t0 t1 : Int) (σ : zM) : Option ((Int × zM) ⊕ zO) :=
  f_X9_shortest_42 x0 x1 (-1) t0 t1 σ
theorem w_X9_shortest_41 {g : zG} {lv : Nat} {out : zO} (x0 x1 t0 t1 : Int) (σ : zM) {r : ((Int × zM) ⊕ zO)} (h : f_X9_shortest_41 x0 x1 t0 t1 σ = some r) (hk : (zKL (fun s : Int × zM => Gj g MX9_shortest (lv + 4) 2 [(0, zr x0), (1, zi s.1)] [] s.2 out) (fun o : zO => o = out)) r) : Gj g MX9_shortest (lv + 4) 41 [(0, zr x0), (1, zi x1)] [zi t0, zr t1] σ out := by
  revert h
  unfold f_X9_shortest_41
  refine zst_ (gj_iconst (pc := 41) dX9_shortest_41 (by decide)) ?_
  exact fun h => w_X9_shortest_42 x0 x1 (-1) t0 t1 σ h hk
noncomputable def f_X9_shortest_2_b (x0 x1 : Int) (σ : zM) : Option ((Int × zM) ⊕ zO) :=
  (zgf σ 944 x0).bind fun v1 =>
  if (zmul 8 v1) ≤ x1 then
    (f_X9_shortest_56 x0 σ).map (fun r => (.inr r))
  else
    (zgf σ 975 x0).bind fun v2 =>
    (zgf σ 964 x0).bind fun v3 =>
    if (zshl 1 v3) ≤ x1 then
      f_X9_shortest_41 x0 x1 x1 v2 σ
    else
      zgd (zis σ 10 x0) <|
      zci (f_X9_isTrue x0 0 x1 σ) fun v4 σ5 =>
      if v4 ≠ 0 then
        f_X9_shortest_41 x0 x1 x1 v2 σ5
      else
        f_X9_shortest_42 x0 x1 0 x1 v2 σ5
noncomputable def f_X9_shortest_2 (x0 x1 : Int) (σ : zM) : Option zO :=
  zloop (fun s : Int × zM => f_X9_shortest_2_b x0 s.1 s.2) (x1, σ)
theorem w_X9_shortest_2_b {g : zG} {lv : Nat} {out : zO} (x0 x1 : Int) (σ : zM) {r : ((Int × zM) ⊕ zO)} (h : f_X9_shortest_2_b x0 x1 σ = some r) (hk : (zKL (fun s : Int × zM => Gj g MX9_shortest (lv + 4) 2 [(0, zr x0), (1, zi s.1)] [] s.2 out) (fun o : zO => o = out)) r) : Gj g MX9_shortest (lv + 4) 2 [(0, zr x0), (1, zi x1)] [] σ out := by
  revert h
  unfold f_X9_shortest_2_b
  refine zst_ (gj_iload_n 1 (pc := 2) dX9_shortest_2 rfl) ?_
  refine zst_ (gj_bipush (pc := 3) dX9_shortest_3 ⟨rfl, by decide⟩) ?_
  refine zst_ (gj_aload_n 0 (pc := 5) dX9_shortest_5 rfl) ?_
  refine gb_get (pc := 6) fl944 dX9_shortest_6 q1926 (Or.inl rfl) (fun v1 => ?_)
  refine zst_ (gj_imul (pc := 9) dX9_shortest_9) ?_
  refine gb_if (gj_icmp_ge 56 (pc := 10) dX9_shortest_10 (by decide)) ?_ ?_
  · refine zst_ (gj_sub [0] rfl) ?_
    intro h
    obtain ⟨r0, h0, rfl⟩ := zmE h
    exact w_X9_shortest_56 x0 σ h0 hk
  · refine zst_ (gj_aload_n 0 (pc := 13) dX9_shortest_13 rfl) ?_
    refine gb_get (pc := 14) fl975 dX9_shortest_14 q1957 (Or.inl rfl) (fun v2 => ?_)
    refine zst_ (gj_iload_n 1 (pc := 17) dX9_shortest_17 rfl) ?_
    refine zst_ (gj_iload_n 1 (pc := 18) dX9_shortest_18 rfl) ?_
    refine zst_ (gj_iconst (pc := 19) dX9_shortest_19 (by decide)) ?_
    refine zst_ (gj_aload_n 0 (pc := 20) dX9_shortest_20 rfl) ?_
    refine gb_get (pc := 21) fl964 dX9_shortest_21 q1946 (Or.inl rfl) (fun v3 => ?_)
    refine zst_ (gj_ishl (pc := 24) dX9_shortest_24) ?_
    refine gb_if (gj_icmp_ge 41 (pc := 25) dX9_shortest_25 (by decide)) ?_ ?_
    · exact fun h => w_X9_shortest_41 x0 x1 x1 v2 σ h hk
    · refine zst_ (gj_aload_n 0 (pc := 28) dX9_shortest_28 rfl) ?_
      refine zst_ (gj_iconst (pc := 29) dX9_shortest_29 (by decide)) ?_
      refine zst_ (gj_iload_n 1 (pc := 30) dX9_shortest_30 rfl) ?_
      refine gb_gd (fun hb => ?_)
      refine gb_callI (pc := 31) (as := [zr x0, zi 0, zi x1]) (rest := [zi x1, zr v2]) (zCl.of (zLk_V (M := MX9_shortest) (ci := 9) (r := (RX9, TX9, 84)) plX9_isTrue.1 rfl rfl (zisE hb).1 (zisE hb).2 dX9_shortest_31 q2339 q2341 qs87 q2342) plX9_isTrue (Nat.le_of_ble_eq_true rfl) (fun h => c_X9_isTrue h)) (fun v4 σ5 => ?_)
      refine gb_if (gj_if_ne 41 (pc := 34) dX9_shortest_34 (by decide)) ?_ ?_
      · exact fun h => w_X9_shortest_41 x0 x1 x1 v2 σ5 h hk
      · refine zst_ (gj_iconst (pc := 37) dX9_shortest_37 (by decide)) ?_
        refine zst_ (gj_goto 42 (pc := 38) dX9_shortest_38 (by decide)) ?_
        exact fun h => w_X9_shortest_42 x0 x1 0 x1 v2 σ5 h hk
theorem w_X9_shortest_2 {g : zG} {lv : Nat} {out : zO} (x0 x1 : Int) (σ : zM) {r : zO} (h : f_X9_shortest_2 x0 x1 σ = some r) (hk : (fun o : zO => o = out) r) : Gj g MX9_shortest (lv + 4) 2 [(0, zr x0), (1, zi x1)] [] σ out :=
  gj_loop (P := (fun s : Int × zM => Gj g MX9_shortest (lv + 4) 2 [(0, zr x0), (1, zi s.1)] [] s.2 out)) (fun s x hb hx => w_X9_shortest_2_b x0 s.1 s.2 hb hx) h hk
noncomputable def f_X9_shortest (x0 : Int) (σ : zM) : Option zO :=
  f_X9_shortest_2 x0 0 σ
theorem c_X9_shortest {g : zG} {lv : Nat} {x0 : Int} {σ : zM} {out : zO} (h : f_X9_shortest x0 σ = some out) : Cj g (lv + 4) MX9_shortest [zr x0] σ out := by
  refine cj_go (ls := [(0, zr x0)]) (by decide) (Nat.le_of_ble_eq_true rfl) rfl (zgen h (fun r hk => ?_))
  unfold f_X9_shortest
  refine zst_ (gj_iconst (pc := 0) dX9_shortest_0 (by decide)) ?_
  refine zst_ (gj_istore_n (pc := 1) (ls' := [(1, zi 0), (0, zr x0)]) dX9_shortest_1 (by decide) rfl) ?_
  refine zst_ (gj_sub [1, 0] rfl) ?_
  exact fun h => w_X9_shortest_2 x0 0 σ h hk
theorem q2377 : (Jvm.Cond.code ({ cls := "LassoFinderModel", name := "keep", desc := "([III)V" } : Jvm.MethodName) prog_22_method_59_code (4 : Nat) (Option.none : Option Jvm.ClassFile.FieldType)) ∈ lw_all := lw_g (lw_at lw_m10 117 rfl) rfl
abbrev cX9_keep : ByteArray := prog_22_method_59_code
def yX9_keep : MethodName := ⟨RX9, "keep", "([III)V"⟩
theorem dX9_keep_0 : decode cX9_keep 0 = .ok (.bipush 9, 2) := by decide +kernel
theorem dX9_keep_2 : decode cX9_keep 2 = .ok (.iload_n 1, 1) := by decide +kernel
theorem dX9_keep_3 : decode cX9_keep 3 = .ok (.iconst 3, 1) := by decide +kernel
theorem dX9_keep_4 : decode cX9_keep 4 = .ok (.irem, 1) := by decide +kernel
theorem dX9_keep_5 : decode cX9_keep 5 = .ok (.imul, 1) := by decide +kernel
theorem dX9_keep_6 : decode cX9_keep 6 = .ok (.istore_n 3, 1) := by decide +kernel
theorem dX9_keep_7 : decode cX9_keep 7 = .ok (.aload_n 0, 1) := by decide +kernel
theorem dX9_keep_8 : decode cX9_keep 8 = .ok (.iload_n 1, 1) := by decide +kernel
theorem dX9_keep_9 : decode cX9_keep 9 = .ok (.iconst 3, 1) := by decide +kernel
theorem dX9_keep_10 : decode cX9_keep 10 = .ok (.idiv, 1) := by decide +kernel
theorem dX9_keep_11 : decode cX9_keep 11 = .ok (.aload_n 0, 1) := by decide +kernel
theorem dX9_keep_12 : decode cX9_keep 12 = .ok (.iload_n 1, 1) := by decide +kernel
theorem dX9_keep_13 : decode cX9_keep 13 = .ok (.iconst 3, 1) := by decide +kernel
theorem dX9_keep_14 : decode cX9_keep 14 = .ok (.idiv, 1) := by decide +kernel
theorem dX9_keep_15 : decode cX9_keep 15 = .ok (.iaload, 1) := by decide +kernel
theorem dX9_keep_16 : decode cX9_keep 16 = .ok (.sipush 511, 3) := by decide +kernel
theorem dX9_keep_19 : decode cX9_keep 19 = .ok (.iload_n 3, 1) := by decide +kernel
theorem dX9_keep_20 : decode cX9_keep 20 = .ok (.ishl, 1) := by decide +kernel
theorem dX9_keep_21 : decode cX9_keep 21 = .ok (.iconst (-1), 1) := by decide +kernel
theorem dX9_keep_22 : decode cX9_keep 22 = .ok (.ixor, 1) := by decide +kernel
theorem dX9_keep_23 : decode cX9_keep 23 = .ok (.iand, 1) := by decide +kernel
theorem dX9_keep_24 : decode cX9_keep 24 = .ok (.iload_n 2, 1) := by decide +kernel
theorem dX9_keep_25 : decode cX9_keep 25 = .ok (.iload_n 3, 1) := by decide +kernel
theorem dX9_keep_26 : decode cX9_keep 26 = .ok (.ishl, 1) := by decide +kernel
theorem dX9_keep_27 : decode cX9_keep 27 = .ok (.ior, 1) := by decide +kernel
theorem dX9_keep_28 : decode cX9_keep 28 = .ok (.iastore, 1) := by decide +kernel
theorem dX9_keep_29 : decode cX9_keep 29 = .ok (.return_, 1) := by decide +kernel
abbrev MX9_keep : zT := (yX9_keep, cX9_keep, 4, (Option.none : Option Jvm.ClassFile.FieldType), [])
theorem plX9_keep : zplain MX9_keep 3 ∧ (zcodeW MX9_keep ∈ lw_all ∧ Cond.initialized MX9_keep.1.cls ∈ lw_all) := ⟨⟨by decide +kernel, by decide +kernel⟩, q2377, q127⟩
noncomputable def f_X9_keep (x0 x1 x2 : Int) (σ : zM) : Option zO :=
  zlet ((zmul 9 (zrem x1 3))) fun y1 =>
  (zga σ 101 x0 (zdiv x1 3)).bind fun v2 =>
  (zpa σ 101 x0 (zdiv x1 3) (zor (zand v2 (zxor (zshl 511 y1) (-1))) (zshl x2 y1))).bind fun σ3 =>
  some (0, ((3, 0) : zV), σ3)
theorem c_X9_keep {g : zG} {lv : Nat} {x0 x1 x2 : Int} {σ : zM} {out : zO} (h : f_X9_keep x0 x1 x2 σ = some out) : Cj g (lv) MX9_keep [zr x0, zi x1, zi x2] σ out := by
  refine cj_go (ls := [(0, zr x0), (1, zi x1), (2, zi x2)]) (by decide) (Nat.le_of_ble_eq_true rfl) rfl (zgen h (fun r hk => ?_))
  unfold f_X9_keep
  refine zst_ (gj_bipush (pc := 0) dX9_keep_0 ⟨rfl, by decide⟩) ?_
  refine zst_ (gj_iload_n 1 (pc := 2) dX9_keep_2 rfl) ?_
  refine zst_ (gj_iconst (pc := 3) dX9_keep_3 (by decide)) ?_
  refine zst_ (gj_irem (pc := 4) dX9_keep_4 (by decide)) ?_
  refine zst_ (gj_imul (pc := 5) dX9_keep_5) ?_
  refine gb_let (fun y1 => ?_)
  refine zst_ (gj_istore_n (pc := 6) (ls' := [(3, zi y1), (0, zr x0), (1, zi x1), (2, zi x2)]) dX9_keep_6 (by decide) rfl) ?_
  refine zst_ (gj_aload_n 1 (pc := 7) dX9_keep_7 rfl) ?_
  refine zst_ (gj_iload_n 2 (pc := 8) dX9_keep_8 rfl) ?_
  refine zst_ (gj_iconst (pc := 9) dX9_keep_9 (by decide)) ?_
  refine zst_ (gj_idiv (pc := 10) dX9_keep_10 (by decide)) ?_
  refine zst_ (gj_aload_n 1 (pc := 11) dX9_keep_11 rfl) ?_
  refine zst_ (gj_iload_n 2 (pc := 12) dX9_keep_12 rfl) ?_
  refine zst_ (gj_iconst (pc := 13) dX9_keep_13 (by decide)) ?_
  refine zst_ (gj_idiv (pc := 14) dX9_keep_14 (by decide)) ?_
  refine gb_iald (pc := 15) dX9_keep_15 (fun v2 => ?_)
  refine zst_ (gj_sipush (pc := 16) dX9_keep_16 ⟨rfl, by decide⟩) ?_
  refine zst_ (gj_iload_n 0 (pc := 19) dX9_keep_19 rfl) ?_
  refine zst_ (gj_ishl (pc := 20) dX9_keep_20) ?_
  refine zst_ (gj_iconst (pc := 21) dX9_keep_21 (by decide)) ?_
  refine zst_ (gj_ixor (pc := 22) dX9_keep_22) ?_
  refine zst_ (gj_iand (pc := 23) dX9_keep_23) ?_
  refine zst_ (gj_iload_n 3 (pc := 24) dX9_keep_24 rfl) ?_
  refine zst_ (gj_iload_n 0 (pc := 25) dX9_keep_25 rfl) ?_
  refine zst_ (gj_ishl (pc := 26) dX9_keep_26) ?_
  refine zst_ (gj_ior (pc := 27) dX9_keep_27) ?_
  refine gb_iast (pc := 28) dX9_keep_28 (fun σ3 => ?_)
  intro h
  cases h
  have hk : (0, ((3, 0) : zV), σ3) = out := hk
  subst hk
  exact gj_vret (pc := 29) dX9_keep_29 rfl
